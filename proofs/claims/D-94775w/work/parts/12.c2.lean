set_option maxRecDepth 100000
theorem bc_16 : (Int8.ofInt 16).toInt32 = (16 : Int32) := by decide
theorem bc_24 : (Int8.ofInt 24).toInt32 = (24 : Int32) := by decide
theorem bc_32 : (Int8.ofInt 32).toInt32 = (32 : Int32) := by decide
theorem bc_127 : (Int8.ofInt 127).toInt32 = (127 : Int32) := by decide
theorem ii_m8 (x : Int32) : x + Int32.ofInt (-8) = x + ((-8) : Int32) := by rw [show Int32.ofInt (-8) = ((-8) : Int32) by decide]
theorem gq173_X1 {p : Program} {l : Launch} {e : Env} {R : Room} {s : State} {m : MethodId} {args : Array Value} {below : List Frame} {meth : Method} {c : Code} {cells slots : Nat} {Q : State → Prop} {cc : ByteArray} {nL : Nat} {ret : Option FieldType} {D : va_G} {cA : Nat → ClassId} {sz0 : Nat} {H0 : Heap} {pc : Nat} {lv : List (Nat × Value)} {st : List Value} {M : WM} {r : Nat} (cx : Cx p s m args meth c cc nL RX0 ret D cA sz0 H0) (d : decode cc pc = .ok (.getfield 355, 3)) (hr : wk M r = 1) (kk : V p l e R s m args below meth c nL D cA sz0 H0 cells slots Q (pc + 3) lv (.int (wI M r 3) :: st) M) : V p l e R s m args below meth c nL D cA sz0 H0 cells slots Q pc lv (.ref (sz0 + r) :: st) M := v_getIN cx (k := 3) cl_X1 (by decide) in_X1 (by decide) (nst_in q173 rfl) rfl d hr kk
theorem gq191_X2 {p : Program} {l : Launch} {e : Env} {R : Room} {s : State} {m : MethodId} {args : Array Value} {below : List Frame} {meth : Method} {c : Code} {cells slots : Nat} {Q : State → Prop} {cc : ByteArray} {nL : Nat} {ret : Option FieldType} {D : va_G} {cA : Nat → ClassId} {sz0 : Nat} {H0 : Heap} {pc : Nat} {lv : List (Nat × Value)} {st : List Value} {M : WM} {r : Nat} (cx : Cx p s m args meth c cc nL RX2 ret D cA sz0 H0) (d : decode cc pc = .ok (.getfield 9, 3)) (hr : wk M r = 2) (kk : V p l e R s m args below meth c nL D cA sz0 H0 cells slots Q (pc + 3) lv (vr sz0 (wR M r 0) :: st) M) : V p l e R s m args below meth c nL D cA sz0 H0 cells slots Q pc lv (.ref (sz0 + r) :: st) M := v_getR cx (k := 0) cl_X2 (by decide) in_X2 (by decide) q191 rfl d hr kk
theorem gq192_X2 {p : Program} {l : Launch} {e : Env} {R : Room} {s : State} {m : MethodId} {args : Array Value} {below : List Frame} {meth : Method} {c : Code} {cells slots : Nat} {Q : State → Prop} {cc : ByteArray} {nL : Nat} {ret : Option FieldType} {D : va_G} {cA : Nat → ClassId} {sz0 : Nat} {H0 : Heap} {pc : Nat} {lv : List (Nat × Value)} {st : List Value} {M : WM} {r : Nat} (cx : Cx p s m args meth c cc nL RX4 ret D cA sz0 H0) (d : decode cc pc = .ok (.getfield 46, 3)) (hr : wk M r = 2) (kk : V p l e R s m args below meth c nL D cA sz0 H0 cells slots Q (pc + 3) lv (vr sz0 (wR M r 0) :: st) M) : V p l e R s m args below meth c nL D cA sz0 H0 cells slots Q pc lv (.ref (sz0 + r) :: st) M := v_getRN cx (k := 0) cl_X2 (by decide) in_X2 (by decide) (nst_in q192 rfl) rfl d hr kk
theorem gq193_X2 {p : Program} {l : Launch} {e : Env} {R : Room} {s : State} {m : MethodId} {args : Array Value} {below : List Frame} {meth : Method} {c : Code} {cells slots : Nat} {Q : State → Prop} {cc : ByteArray} {nL : Nat} {ret : Option FieldType} {D : va_G} {cA : Nat → ClassId} {sz0 : Nat} {H0 : Heap} {pc : Nat} {lv : List (Nat × Value)} {st : List Value} {M : WM} {r : Nat} (cx : Cx p s m args meth c cc nL RX0 ret D cA sz0 H0) (d : decode cc pc = .ok (.getfield 191, 3)) (hr : wk M r = 2) (kk : V p l e R s m args below meth c nL D cA sz0 H0 cells slots Q (pc + 3) lv (vr sz0 (wR M r 0) :: st) M) : V p l e R s m args below meth c nL D cA sz0 H0 cells slots Q pc lv (.ref (sz0 + r) :: st) M := v_getRN cx (k := 0) cl_X2 (by decide) in_X2 (by decide) (nst_in q193 rfl) rfl d hr kk
theorem gq194_X2 {p : Program} {l : Launch} {e : Env} {R : Room} {s : State} {m : MethodId} {args : Array Value} {below : List Frame} {meth : Method} {c : Code} {cells slots : Nat} {Q : State → Prop} {cc : ByteArray} {nL : Nat} {ret : Option FieldType} {D : va_G} {cA : Nat → ClassId} {sz0 : Nat} {H0 : Heap} {pc : Nat} {lv : List (Nat × Value)} {st : List Value} {M : WM} {r : Nat} (cx : Cx p s m args meth c cc nL RX2 ret D cA sz0 H0) (d : decode cc pc = .ok (.getfield 15, 3)) (hr : wk M r = 2) (kk : V p l e R s m args below meth c nL D cA sz0 H0 cells slots Q (pc + 3) lv (.int (wI M r 1) :: st) M) : V p l e R s m args below meth c nL D cA sz0 H0 cells slots Q pc lv (.ref (sz0 + r) :: st) M := v_getI cx (k := 1) cl_X2 (by decide) in_X2 (by decide) q194 rfl d hr kk
theorem gq195_X2 {p : Program} {l : Launch} {e : Env} {R : Room} {s : State} {m : MethodId} {args : Array Value} {below : List Frame} {meth : Method} {c : Code} {cells slots : Nat} {Q : State → Prop} {cc : ByteArray} {nL : Nat} {ret : Option FieldType} {D : va_G} {cA : Nat → ClassId} {sz0 : Nat} {H0 : Heap} {pc : Nat} {lv : List (Nat × Value)} {st : List Value} {M : WM} {r : Nat} (cx : Cx p s m args meth c cc nL RX4 ret D cA sz0 H0) (d : decode cc pc = .ok (.getfield 38, 3)) (hr : wk M r = 2) (kk : V p l e R s m args below meth c nL D cA sz0 H0 cells slots Q (pc + 3) lv (.int (wI M r 1) :: st) M) : V p l e R s m args below meth c nL D cA sz0 H0 cells slots Q pc lv (.ref (sz0 + r) :: st) M := v_getIN cx (k := 1) cl_X2 (by decide) in_X2 (by decide) (nst_in q195 rfl) rfl d hr kk
theorem gq196_X2 {p : Program} {l : Launch} {e : Env} {R : Room} {s : State} {m : MethodId} {args : Array Value} {below : List Frame} {meth : Method} {c : Code} {cells slots : Nat} {Q : State → Prop} {cc : ByteArray} {nL : Nat} {ret : Option FieldType} {D : va_G} {cA : Nat → ClassId} {sz0 : Nat} {H0 : Heap} {pc : Nat} {lv : List (Nat × Value)} {st : List Value} {M : WM} {r : Nat} (cx : Cx p s m args meth c cc nL RX0 ret D cA sz0 H0) (d : decode cc pc = .ok (.getfield 189, 3)) (hr : wk M r = 2) (kk : V p l e R s m args below meth c nL D cA sz0 H0 cells slots Q (pc + 3) lv (.int (wI M r 1) :: st) M) : V p l e R s m args below meth c nL D cA sz0 H0 cells slots Q pc lv (.ref (sz0 + r) :: st) M := v_getIN cx (k := 1) cl_X2 (by decide) in_X2 (by decide) (nst_in q196 rfl) rfl d hr kk
theorem gq256_X5 {p : Program} {l : Launch} {e : Env} {R : Room} {s : State} {m : MethodId} {args : Array Value} {below : List Frame} {meth : Method} {c : Code} {cells slots : Nat} {Q : State → Prop} {cc : ByteArray} {nL : Nat} {ret : Option FieldType} {D : va_G} {cA : Nat → ClassId} {sz0 : Nat} {H0 : Heap} {pc : Nat} {lv : List (Nat × Value)} {st : List Value} {M : WM} {r : Nat} (cx : Cx p s m args meth c cc nL RX4 ret D cA sz0 H0) (d : decode cc pc = .ok (.getfield 19, 3)) (hr : wk M r = 4) (kk : V p l e R s m args below meth c nL D cA sz0 H0 cells slots Q (pc + 3) lv (vr sz0 (wR M r 0) :: st) M) : V p l e R s m args below meth c nL D cA sz0 H0 cells slots Q pc lv (.ref (sz0 + r) :: st) M := v_getRN cx (k := 0) cl_X5 (by decide) in_X5 (by decide) (nst_in q256 rfl) rfl d hr kk
theorem gq257_X5 {p : Program} {l : Launch} {e : Env} {R : Room} {s : State} {m : MethodId} {args : Array Value} {below : List Frame} {meth : Method} {c : Code} {cells slots : Nat} {Q : State → Prop} {cc : ByteArray} {nL : Nat} {ret : Option FieldType} {D : va_G} {cA : Nat → ClassId} {sz0 : Nat} {H0 : Heap} {pc : Nat} {lv : List (Nat × Value)} {st : List Value} {M : WM} {r : Nat} (cx : Cx p s m args meth c cc nL RX0 ret D cA sz0 H0) (d : decode cc pc = .ok (.getfield 148, 3)) (hr : wk M r = 4) (kk : V p l e R s m args below meth c nL D cA sz0 H0 cells slots Q (pc + 3) lv (vr sz0 (wR M r 0) :: st) M) : V p l e R s m args below meth c nL D cA sz0 H0 cells slots Q pc lv (.ref (sz0 + r) :: st) M := v_getRN cx (k := 0) cl_X5 (by decide) in_X5 (by decide) (nst_in q257 rfl) rfl d hr kk
theorem gq259_X5 {p : Program} {l : Launch} {e : Env} {R : Room} {s : State} {m : MethodId} {args : Array Value} {below : List Frame} {meth : Method} {c : Code} {cells slots : Nat} {Q : State → Prop} {cc : ByteArray} {nL : Nat} {ret : Option FieldType} {D : va_G} {cA : Nat → ClassId} {sz0 : Nat} {H0 : Heap} {pc : Nat} {lv : List (Nat × Value)} {st : List Value} {M : WM} {r : Nat} (cx : Cx p s m args meth c cc nL RX0 ret D cA sz0 H0) (d : decode cc pc = .ok (.getfield 171, 3)) (hr : wk M r = 4) (kk : V p l e R s m args below meth c nL D cA sz0 H0 cells slots Q (pc + 3) lv (.int (wI M r 1) :: st) M) : V p l e R s m args below meth c nL D cA sz0 H0 cells slots Q pc lv (.ref (sz0 + r) :: st) M := v_getIN cx (k := 1) cl_X5 (by decide) in_X5 (by decide) (nst_in q259 rfl) rfl d hr kk
theorem gq260_X5 {p : Program} {l : Launch} {e : Env} {R : Room} {s : State} {m : MethodId} {args : Array Value} {below : List Frame} {meth : Method} {c : Code} {cells slots : Nat} {Q : State → Prop} {cc : ByteArray} {nL : Nat} {ret : Option FieldType} {D : va_G} {cA : Nat → ClassId} {sz0 : Nat} {H0 : Heap} {pc : Nat} {lv : List (Nat × Value)} {st : List Value} {M : WM} {r : Nat} (cx : Cx p s m args meth c cc nL RX0 ret D cA sz0 H0) (d : decode cc pc = .ok (.getfield 128, 3)) (hr : wk M r = 4) (kk : V p l e R s m args below meth c nL D cA sz0 H0 cells slots Q (pc + 3) lv (.int (wI M r 2) :: st) M) : V p l e R s m args below meth c nL D cA sz0 H0 cells slots Q pc lv (.ref (sz0 + r) :: st) M := v_getIN cx (k := 2) cl_X5 (by decide) in_X5 (by decide) (nst_in q260 rfl) rfl d hr kk
theorem gq261_X5 {p : Program} {l : Launch} {e : Env} {R : Room} {s : State} {m : MethodId} {args : Array Value} {below : List Frame} {meth : Method} {c : Code} {cells slots : Nat} {Q : State → Prop} {cc : ByteArray} {nL : Nat} {ret : Option FieldType} {D : va_G} {cA : Nat → ClassId} {sz0 : Nat} {H0 : Heap} {pc : Nat} {lv : List (Nat × Value)} {st : List Value} {M : WM} {r : Nat} (cx : Cx p s m args meth c cc nL RX0 ret D cA sz0 H0) (d : decode cc pc = .ok (.getfield 124, 3)) (hr : wk M r = 4) (kk : V p l e R s m args below meth c nL D cA sz0 H0 cells slots Q (pc + 3) lv (.int (wI M r 3) :: st) M) : V p l e R s m args below meth c nL D cA sz0 H0 cells slots Q pc lv (.ref (sz0 + r) :: st) M := v_getIN cx (k := 3) cl_X5 (by decide) in_X5 (by decide) (nst_in q261 rfl) rfl d hr kk
theorem gq273_X0 {p : Program} {l : Launch} {e : Env} {R : Room} {s : State} {m : MethodId} {args : Array Value} {below : List Frame} {meth : Method} {c : Code} {cells slots : Nat} {Q : State → Prop} {cc : ByteArray} {nL : Nat} {ret : Option FieldType} {D : va_G} {cA : Nat → ClassId} {sz0 : Nat} {H0 : Heap} {pc : Nat} {lv : List (Nat × Value)} {st : List Value} {M : WM} {r : Nat} (cx : Cx p s m args meth c cc nL RX0 ret D cA sz0 H0) (d : decode cc pc = .ok (.getfield 11, 3)) (hr : wk M r = 0) (kk : V p l e R s m args below meth c nL D cA sz0 H0 cells slots Q (pc + 3) lv (vr sz0 (wR M r 0) :: st) M) : V p l e R s m args below meth c nL D cA sz0 H0 cells slots Q pc lv (.ref (sz0 + r) :: st) M := v_getR cx (k := 0) cl_X0 (by decide) in_X0 (by decide) q273 rfl d hr kk
theorem gq275_X0 {p : Program} {l : Launch} {e : Env} {R : Room} {s : State} {m : MethodId} {args : Array Value} {below : List Frame} {meth : Method} {c : Code} {cells slots : Nat} {Q : State → Prop} {cc : ByteArray} {nL : Nat} {ret : Option FieldType} {D : va_G} {cA : Nat → ClassId} {sz0 : Nat} {H0 : Heap} {pc : Nat} {lv : List (Nat × Value)} {st : List Value} {M : WM} {r : Nat} (cx : Cx p s m args meth c cc nL RX0 ret D cA sz0 H0) (d : decode cc pc = .ok (.getfield 15, 3)) (hr : wk M r = 0) (kk : V p l e R s m args below meth c nL D cA sz0 H0 cells slots Q (pc + 3) lv (vr sz0 (wR M r 1) :: st) M) : V p l e R s m args below meth c nL D cA sz0 H0 cells slots Q pc lv (.ref (sz0 + r) :: st) M := v_getR cx (k := 1) cl_X0 (by decide) in_X0 (by decide) q275 rfl d hr kk
theorem gq276_X0 {p : Program} {l : Launch} {e : Env} {R : Room} {s : State} {m : MethodId} {args : Array Value} {below : List Frame} {meth : Method} {c : Code} {cells slots : Nat} {Q : State → Prop} {cc : ByteArray} {nL : Nat} {ret : Option FieldType} {D : va_G} {cA : Nat → ClassId} {sz0 : Nat} {H0 : Heap} {pc : Nat} {lv : List (Nat × Value)} {st : List Value} {M : WM} {r : Nat} (cx : Cx p s m args meth c cc nL RX4 ret D cA sz0 H0) (d : decode cc pc = .ok (.getfield 59, 3)) (hr : wk M r = 0) (kk : V p l e R s m args below meth c nL D cA sz0 H0 cells slots Q (pc + 3) lv (vr sz0 (wR M r 2) :: st) M) : V p l e R s m args below meth c nL D cA sz0 H0 cells slots Q pc lv (.ref (sz0 + r) :: st) M := v_getRN cx (k := 2) cl_X0 (by decide) in_X0 (by decide) (nst_in q276 rfl) rfl d hr kk
theorem gq277_X0 {p : Program} {l : Launch} {e : Env} {R : Room} {s : State} {m : MethodId} {args : Array Value} {below : List Frame} {meth : Method} {c : Code} {cells slots : Nat} {Q : State → Prop} {cc : ByteArray} {nL : Nat} {ret : Option FieldType} {D : va_G} {cA : Nat → ClassId} {sz0 : Nat} {H0 : Heap} {pc : Nat} {lv : List (Nat × Value)} {st : List Value} {M : WM} {r : Nat} (cx : Cx p s m args meth c cc nL RX0 ret D cA sz0 H0) (d : decode cc pc = .ok (.getfield 22, 3)) (hr : wk M r = 0) (kk : V p l e R s m args below meth c nL D cA sz0 H0 cells slots Q (pc + 3) lv (vr sz0 (wR M r 2) :: st) M) : V p l e R s m args below meth c nL D cA sz0 H0 cells slots Q pc lv (.ref (sz0 + r) :: st) M := v_getR cx (k := 2) cl_X0 (by decide) in_X0 (by decide) q277 rfl d hr kk
theorem gq278_X0 {p : Program} {l : Launch} {e : Env} {R : Room} {s : State} {m : MethodId} {args : Array Value} {below : List Frame} {meth : Method} {c : Code} {cells slots : Nat} {Q : State → Prop} {cc : ByteArray} {nL : Nat} {ret : Option FieldType} {D : va_G} {cA : Nat → ClassId} {sz0 : Nat} {H0 : Heap} {pc : Nat} {lv : List (Nat × Value)} {st : List Value} {M : WM} {r : Nat} (cx : Cx p s m args meth c cc nL RX0 ret D cA sz0 H0) (d : decode cc pc = .ok (.getfield 113, 3)) (hr : wk M r = 0) (kk : V p l e R s m args below meth c nL D cA sz0 H0 cells slots Q (pc + 3) lv (.int (wI M r 3) :: st) M) : V p l e R s m args below meth c nL D cA sz0 H0 cells slots Q pc lv (.ref (sz0 + r) :: st) M := v_getI cx (k := 3) cl_X0 (by decide) in_X0 (by decide) q278 rfl d hr kk
theorem gq279_X0 {p : Program} {l : Launch} {e : Env} {R : Room} {s : State} {m : MethodId} {args : Array Value} {below : List Frame} {meth : Method} {c : Code} {cells slots : Nat} {Q : State → Prop} {cc : ByteArray} {nL : Nat} {ret : Option FieldType} {D : va_G} {cA : Nat → ClassId} {sz0 : Nat} {H0 : Heap} {pc : Nat} {lv : List (Nat × Value)} {st : List Value} {M : WM} {r : Nat} (cx : Cx p s m args meth c cc nL RX0 ret D cA sz0 H0) (d : decode cc pc = .ok (.getfield 26, 3)) (hr : wk M r = 0) (kk : V p l e R s m args below meth c nL D cA sz0 H0 cells slots Q (pc + 3) lv (.int (wI M r 4) :: st) M) : V p l e R s m args below meth c nL D cA sz0 H0 cells slots Q pc lv (.ref (sz0 + r) :: st) M := v_getI cx (k := 4) cl_X0 (by decide) in_X0 (by decide) q279 rfl d hr kk
theorem gq280_X0 {p : Program} {l : Launch} {e : Env} {R : Room} {s : State} {m : MethodId} {args : Array Value} {below : List Frame} {meth : Method} {c : Code} {cells slots : Nat} {Q : State → Prop} {cc : ByteArray} {nL : Nat} {ret : Option FieldType} {D : va_G} {cA : Nat → ClassId} {sz0 : Nat} {H0 : Heap} {pc : Nat} {lv : List (Nat × Value)} {st : List Value} {M : WM} {r : Nat} (cx : Cx p s m args meth c cc nL RX0 ret D cA sz0 H0) (d : decode cc pc = .ok (.getfield 135, 3)) (hr : wk M r = 0) (kk : V p l e R s m args below meth c nL D cA sz0 H0 cells slots Q (pc + 3) lv (.int (wI M r 5) :: st) M) : V p l e R s m args below meth c nL D cA sz0 H0 cells slots Q pc lv (.ref (sz0 + r) :: st) M := v_getI cx (k := 5) cl_X0 (by decide) in_X0 (by decide) q280 rfl d hr kk
theorem gq281_X0 {p : Program} {l : Launch} {e : Env} {R : Room} {s : State} {m : MethodId} {args : Array Value} {below : List Frame} {meth : Method} {c : Code} {cells slots : Nat} {Q : State → Prop} {cc : ByteArray} {nL : Nat} {ret : Option FieldType} {D : va_G} {cA : Nat → ClassId} {sz0 : Nat} {H0 : Heap} {pc : Nat} {lv : List (Nat × Value)} {st : List Value} {M : WM} {r : Nat} (cx : Cx p s m args meth c cc nL RX0 ret D cA sz0 H0) (d : decode cc pc = .ok (.getfield 30, 3)) (hr : wk M r = 0) (kk : V p l e R s m args below meth c nL D cA sz0 H0 cells slots Q (pc + 3) lv (.int (wI M r 6) :: st) M) : V p l e R s m args below meth c nL D cA sz0 H0 cells slots Q pc lv (.ref (sz0 + r) :: st) M := v_getI cx (k := 6) cl_X0 (by decide) in_X0 (by decide) q281 rfl d hr kk
theorem gq282_X0 {p : Program} {l : Launch} {e : Env} {R : Room} {s : State} {m : MethodId} {args : Array Value} {below : List Frame} {meth : Method} {c : Code} {cells slots : Nat} {Q : State → Prop} {cc : ByteArray} {nL : Nat} {ret : Option FieldType} {D : va_G} {cA : Nat → ClassId} {sz0 : Nat} {H0 : Heap} {pc : Nat} {lv : List (Nat × Value)} {st : List Value} {M : WM} {r : Nat} (cx : Cx p s m args meth c cc nL RX0 ret D cA sz0 H0) (d : decode cc pc = .ok (.getfield 174, 3)) (hr : wk M r = 0) (kk : V p l e R s m args below meth c nL D cA sz0 H0 cells slots Q (pc + 3) lv (.int (wI M r 7) :: st) M) : V p l e R s m args below meth c nL D cA sz0 H0 cells slots Q pc lv (.ref (sz0 + r) :: st) M := v_getI cx (k := 7) cl_X0 (by decide) in_X0 (by decide) q282 rfl d hr kk
theorem gq283_X0 {p : Program} {l : Launch} {e : Env} {R : Room} {s : State} {m : MethodId} {args : Array Value} {below : List Frame} {meth : Method} {c : Code} {cells slots : Nat} {Q : State → Prop} {cc : ByteArray} {nL : Nat} {ret : Option FieldType} {D : va_G} {cA : Nat → ClassId} {sz0 : Nat} {H0 : Heap} {pc : Nat} {lv : List (Nat × Value)} {st : List Value} {M : WM} {r : Nat} (cx : Cx p s m args meth c cc nL RX0 ret D cA sz0 H0) (d : decode cc pc = .ok (.getfield 33, 3)) (hr : wk M r = 0) (kk : V p l e R s m args below meth c nL D cA sz0 H0 cells slots Q (pc + 3) lv (.int (wI M r 8) :: st) M) : V p l e R s m args below meth c nL D cA sz0 H0 cells slots Q pc lv (.ref (sz0 + r) :: st) M := v_getI cx (k := 8) cl_X0 (by decide) in_X0 (by decide) q283 rfl d hr kk
theorem gq284_X0 {p : Program} {l : Launch} {e : Env} {R : Room} {s : State} {m : MethodId} {args : Array Value} {below : List Frame} {meth : Method} {c : Code} {cells slots : Nat} {Q : State → Prop} {cc : ByteArray} {nL : Nat} {ret : Option FieldType} {D : va_G} {cA : Nat → ClassId} {sz0 : Nat} {H0 : Heap} {pc : Nat} {lv : List (Nat × Value)} {st : List Value} {M : WM} {r : Nat} (cx : Cx p s m args meth c cc nL RX0 ret D cA sz0 H0) (d : decode cc pc = .ok (.getfield 39, 3)) (hr : wk M r = 0) (kk : V p l e R s m args below meth c nL D cA sz0 H0 cells slots Q (pc + 3) lv (vr sz0 (wR M r 9) :: st) M) : V p l e R s m args below meth c nL D cA sz0 H0 cells slots Q pc lv (.ref (sz0 + r) :: st) M := v_getR cx (k := 9) cl_X0 (by decide) in_X0 (by decide) q284 rfl d hr kk
theorem gq285_X0 {p : Program} {l : Launch} {e : Env} {R : Room} {s : State} {m : MethodId} {args : Array Value} {below : List Frame} {meth : Method} {c : Code} {cells slots : Nat} {Q : State → Prop} {cc : ByteArray} {nL : Nat} {ret : Option FieldType} {D : va_G} {cA : Nat → ClassId} {sz0 : Nat} {H0 : Heap} {pc : Nat} {lv : List (Nat × Value)} {st : List Value} {M : WM} {r : Nat} (cx : Cx p s m args meth c cc nL RX0 ret D cA sz0 H0) (d : decode cc pc = .ok (.getfield 194, 3)) (hr : wk M r = 0) (kk : V p l e R s m args below meth c nL D cA sz0 H0 cells slots Q (pc + 3) lv (.int (wI M r 10) :: st) M) : V p l e R s m args below meth c nL D cA sz0 H0 cells slots Q pc lv (.ref (sz0 + r) :: st) M := v_getI cx (k := 10) cl_X0 (by decide) in_X0 (by decide) q285 rfl d hr kk
theorem gq286_X0 {p : Program} {l : Launch} {e : Env} {R : Room} {s : State} {m : MethodId} {args : Array Value} {below : List Frame} {meth : Method} {c : Code} {cells slots : Nat} {Q : State → Prop} {cc : ByteArray} {nL : Nat} {ret : Option FieldType} {D : va_G} {cA : Nat → ClassId} {sz0 : Nat} {H0 : Heap} {pc : Nat} {lv : List (Nat × Value)} {st : List Value} {M : WM} {r : Nat} (cx : Cx p s m args meth c cc nL RX0 ret D cA sz0 H0) (d : decode cc pc = .ok (.getfield 45, 3)) (hr : wk M r = 0) (kk : V p l e R s m args below meth c nL D cA sz0 H0 cells slots Q (pc + 3) lv (vr sz0 (wR M r 11) :: st) M) : V p l e R s m args below meth c nL D cA sz0 H0 cells slots Q pc lv (.ref (sz0 + r) :: st) M := v_getR cx (k := 11) cl_X0 (by decide) in_X0 (by decide) q286 rfl d hr kk
theorem gq287_X0 {p : Program} {l : Launch} {e : Env} {R : Room} {s : State} {m : MethodId} {args : Array Value} {below : List Frame} {meth : Method} {c : Code} {cells slots : Nat} {Q : State → Prop} {cc : ByteArray} {nL : Nat} {ret : Option FieldType} {D : va_G} {cA : Nat → ClassId} {sz0 : Nat} {H0 : Heap} {pc : Nat} {lv : List (Nat × Value)} {st : List Value} {M : WM} {r : Nat} (cx : Cx p s m args meth c cc nL RX0 ret D cA sz0 H0) (d : decode cc pc = .ok (.getfield 48, 3)) (hr : wk M r = 0) (kk : V p l e R s m args below meth c nL D cA sz0 H0 cells slots Q (pc + 3) lv (vr sz0 (wR M r 12) :: st) M) : V p l e R s m args below meth c nL D cA sz0 H0 cells slots Q pc lv (.ref (sz0 + r) :: st) M := v_getR cx (k := 12) cl_X0 (by decide) in_X0 (by decide) q287 rfl d hr kk
theorem gq288_X0 {p : Program} {l : Launch} {e : Env} {R : Room} {s : State} {m : MethodId} {args : Array Value} {below : List Frame} {meth : Method} {c : Code} {cells slots : Nat} {Q : State → Prop} {cc : ByteArray} {nL : Nat} {ret : Option FieldType} {D : va_G} {cA : Nat → ClassId} {sz0 : Nat} {H0 : Heap} {pc : Nat} {lv : List (Nat × Value)} {st : List Value} {M : WM} {r : Nat} (cx : Cx p s m args meth c cc nL RX0 ret D cA sz0 H0) (d : decode cc pc = .ok (.getfield 51, 3)) (hr : wk M r = 0) (kk : V p l e R s m args below meth c nL D cA sz0 H0 cells slots Q (pc + 3) lv (vr sz0 (wR M r 13) :: st) M) : V p l e R s m args below meth c nL D cA sz0 H0 cells slots Q pc lv (.ref (sz0 + r) :: st) M := v_getR cx (k := 13) cl_X0 (by decide) in_X0 (by decide) q288 rfl d hr kk
theorem gq289_X0 {p : Program} {l : Launch} {e : Env} {R : Room} {s : State} {m : MethodId} {args : Array Value} {below : List Frame} {meth : Method} {c : Code} {cells slots : Nat} {Q : State → Prop} {cc : ByteArray} {nL : Nat} {ret : Option FieldType} {D : va_G} {cA : Nat → ClassId} {sz0 : Nat} {H0 : Heap} {pc : Nat} {lv : List (Nat × Value)} {st : List Value} {M : WM} {r : Nat} (cx : Cx p s m args meth c cc nL RX0 ret D cA sz0 H0) (d : decode cc pc = .ok (.getfield 54, 3)) (hr : wk M r = 0) (kk : V p l e R s m args below meth c nL D cA sz0 H0 cells slots Q (pc + 3) lv (vr sz0 (wR M r 14) :: st) M) : V p l e R s m args below meth c nL D cA sz0 H0 cells slots Q pc lv (.ref (sz0 + r) :: st) M := v_getR cx (k := 14) cl_X0 (by decide) in_X0 (by decide) q289 rfl d hr kk
theorem gq290_X0 {p : Program} {l : Launch} {e : Env} {R : Room} {s : State} {m : MethodId} {args : Array Value} {below : List Frame} {meth : Method} {c : Code} {cells slots : Nat} {Q : State → Prop} {cc : ByteArray} {nL : Nat} {ret : Option FieldType} {D : va_G} {cA : Nat → ClassId} {sz0 : Nat} {H0 : Heap} {pc : Nat} {lv : List (Nat × Value)} {st : List Value} {M : WM} {r : Nat} (cx : Cx p s m args meth c cc nL RX0 ret D cA sz0 H0) (d : decode cc pc = .ok (.getfield 57, 3)) (hr : wk M r = 0) (kk : V p l e R s m args below meth c nL D cA sz0 H0 cells slots Q (pc + 3) lv (vr sz0 (wR M r 15) :: st) M) : V p l e R s m args below meth c nL D cA sz0 H0 cells slots Q pc lv (.ref (sz0 + r) :: st) M := v_getR cx (k := 15) cl_X0 (by decide) in_X0 (by decide) q290 rfl d hr kk
theorem gq291_X0 {p : Program} {l : Launch} {e : Env} {R : Room} {s : State} {m : MethodId} {args : Array Value} {below : List Frame} {meth : Method} {c : Code} {cells slots : Nat} {Q : State → Prop} {cc : ByteArray} {nL : Nat} {ret : Option FieldType} {D : va_G} {cA : Nat → ClassId} {sz0 : Nat} {H0 : Heap} {pc : Nat} {lv : List (Nat × Value)} {st : List Value} {M : WM} {r : Nat} (cx : Cx p s m args meth c cc nL RX0 ret D cA sz0 H0) (d : decode cc pc = .ok (.getfield 66, 3)) (hr : wk M r = 0) (kk : V p l e R s m args below meth c nL D cA sz0 H0 cells slots Q (pc + 3) lv (vr sz0 (wR M r 16) :: st) M) : V p l e R s m args below meth c nL D cA sz0 H0 cells slots Q pc lv (.ref (sz0 + r) :: st) M := v_getR cx (k := 16) cl_X0 (by decide) in_X0 (by decide) q291 rfl d hr kk
theorem gq292_X0 {p : Program} {l : Launch} {e : Env} {R : Room} {s : State} {m : MethodId} {args : Array Value} {below : List Frame} {meth : Method} {c : Code} {cells slots : Nat} {Q : State → Prop} {cc : ByteArray} {nL : Nat} {ret : Option FieldType} {D : va_G} {cA : Nat → ClassId} {sz0 : Nat} {H0 : Heap} {pc : Nat} {lv : List (Nat × Value)} {st : List Value} {M : WM} {r : Nat} (cx : Cx p s m args meth c cc nL RX0 ret D cA sz0 H0) (d : decode cc pc = .ok (.getfield 70, 3)) (hr : wk M r = 0) (kk : V p l e R s m args below meth c nL D cA sz0 H0 cells slots Q (pc + 3) lv (vr sz0 (wR M r 17) :: st) M) : V p l e R s m args below meth c nL D cA sz0 H0 cells slots Q pc lv (.ref (sz0 + r) :: st) M := v_getR cx (k := 17) cl_X0 (by decide) in_X0 (by decide) q292 rfl d hr kk
theorem gq293_X0 {p : Program} {l : Launch} {e : Env} {R : Room} {s : State} {m : MethodId} {args : Array Value} {below : List Frame} {meth : Method} {c : Code} {cells slots : Nat} {Q : State → Prop} {cc : ByteArray} {nL : Nat} {ret : Option FieldType} {D : va_G} {cA : Nat → ClassId} {sz0 : Nat} {H0 : Heap} {pc : Nat} {lv : List (Nat × Value)} {st : List Value} {M : WM} {r : Nat} (cx : Cx p s m args meth c cc nL RX0 ret D cA sz0 H0) (d : decode cc pc = .ok (.getfield 73, 3)) (hr : wk M r = 0) (kk : V p l e R s m args below meth c nL D cA sz0 H0 cells slots Q (pc + 3) lv (vr sz0 (wR M r 18) :: st) M) : V p l e R s m args below meth c nL D cA sz0 H0 cells slots Q pc lv (.ref (sz0 + r) :: st) M := v_getR cx (k := 18) cl_X0 (by decide) in_X0 (by decide) q293 rfl d hr kk
theorem gq294_X0 {p : Program} {l : Launch} {e : Env} {R : Room} {s : State} {m : MethodId} {args : Array Value} {below : List Frame} {meth : Method} {c : Code} {cells slots : Nat} {Q : State → Prop} {cc : ByteArray} {nL : Nat} {ret : Option FieldType} {D : va_G} {cA : Nat → ClassId} {sz0 : Nat} {H0 : Heap} {pc : Nat} {lv : List (Nat × Value)} {st : List Value} {M : WM} {r : Nat} (cx : Cx p s m args meth c cc nL RX0 ret D cA sz0 H0) (d : decode cc pc = .ok (.getfield 77, 3)) (hr : wk M r = 0) (kk : V p l e R s m args below meth c nL D cA sz0 H0 cells slots Q (pc + 3) lv (vr sz0 (wR M r 19) :: st) M) : V p l e R s m args below meth c nL D cA sz0 H0 cells slots Q pc lv (.ref (sz0 + r) :: st) M := v_getR cx (k := 19) cl_X0 (by decide) in_X0 (by decide) q294 rfl d hr kk
theorem gq295_X0 {p : Program} {l : Launch} {e : Env} {R : Room} {s : State} {m : MethodId} {args : Array Value} {below : List Frame} {meth : Method} {c : Code} {cells slots : Nat} {Q : State → Prop} {cc : ByteArray} {nL : Nat} {ret : Option FieldType} {D : va_G} {cA : Nat → ClassId} {sz0 : Nat} {H0 : Heap} {pc : Nat} {lv : List (Nat × Value)} {st : List Value} {M : WM} {r : Nat} (cx : Cx p s m args meth c cc nL RX0 ret D cA sz0 H0) (d : decode cc pc = .ok (.getfield 80, 3)) (hr : wk M r = 0) (kk : V p l e R s m args below meth c nL D cA sz0 H0 cells slots Q (pc + 3) lv (vr sz0 (wR M r 20) :: st) M) : V p l e R s m args below meth c nL D cA sz0 H0 cells slots Q pc lv (.ref (sz0 + r) :: st) M := v_getR cx (k := 20) cl_X0 (by decide) in_X0 (by decide) q295 rfl d hr kk
theorem gq296_X0 {p : Program} {l : Launch} {e : Env} {R : Room} {s : State} {m : MethodId} {args : Array Value} {below : List Frame} {meth : Method} {c : Code} {cells slots : Nat} {Q : State → Prop} {cc : ByteArray} {nL : Nat} {ret : Option FieldType} {D : va_G} {cA : Nat → ClassId} {sz0 : Nat} {H0 : Heap} {pc : Nat} {lv : List (Nat × Value)} {st : List Value} {M : WM} {r : Nat} (cx : Cx p s m args meth c cc nL RX0 ret D cA sz0 H0) (d : decode cc pc = .ok (.getfield 281, 3)) (hr : wk M r = 0) (kk : V p l e R s m args below meth c nL D cA sz0 H0 cells slots Q (pc + 3) lv (.int (wI M r 21) :: st) M) : V p l e R s m args below meth c nL D cA sz0 H0 cells slots Q pc lv (.ref (sz0 + r) :: st) M := v_getI cx (k := 21) cl_X0 (by decide) in_X0 (by decide) q296 rfl d hr kk
theorem gq297_X0 {p : Program} {l : Launch} {e : Env} {R : Room} {s : State} {m : MethodId} {args : Array Value} {below : List Frame} {meth : Method} {c : Code} {cells slots : Nat} {Q : State → Prop} {cc : ByteArray} {nL : Nat} {ret : Option FieldType} {D : va_G} {cA : Nat → ClassId} {sz0 : Nat} {H0 : Heap} {pc : Nat} {lv : List (Nat × Value)} {st : List Value} {M : WM} {r : Nat} (cx : Cx p s m args meth c cc nL RX0 ret D cA sz0 H0) (d : decode cc pc = .ok (.getfield 284, 3)) (hr : wk M r = 0) (kk : V p l e R s m args below meth c nL D cA sz0 H0 cells slots Q (pc + 3) lv (.int (wI M r 22) :: st) M) : V p l e R s m args below meth c nL D cA sz0 H0 cells slots Q pc lv (.ref (sz0 + r) :: st) M := v_getI cx (k := 22) cl_X0 (by decide) in_X0 (by decide) q297 rfl d hr kk
theorem gq298_X0 {p : Program} {l : Launch} {e : Env} {R : Room} {s : State} {m : MethodId} {args : Array Value} {below : List Frame} {meth : Method} {c : Code} {cells slots : Nat} {Q : State → Prop} {cc : ByteArray} {nL : Nat} {ret : Option FieldType} {D : va_G} {cA : Nat → ClassId} {sz0 : Nat} {H0 : Heap} {pc : Nat} {lv : List (Nat × Value)} {st : List Value} {M : WM} {r : Nat} (cx : Cx p s m args meth c cc nL RX0 ret D cA sz0 H0) (d : decode cc pc = .ok (.getfield 85, 3)) (hr : wk M r = 0) (kk : V p l e R s m args below meth c nL D cA sz0 H0 cells slots Q (pc + 3) lv (vr sz0 (wR M r 23) :: st) M) : V p l e R s m args below meth c nL D cA sz0 H0 cells slots Q pc lv (.ref (sz0 + r) :: st) M := v_getR cx (k := 23) cl_X0 (by decide) in_X0 (by decide) q298 rfl d hr kk
theorem gq299_X0 {p : Program} {l : Launch} {e : Env} {R : Room} {s : State} {m : MethodId} {args : Array Value} {below : List Frame} {meth : Method} {c : Code} {cells slots : Nat} {Q : State → Prop} {cc : ByteArray} {nL : Nat} {ret : Option FieldType} {D : va_G} {cA : Nat → ClassId} {sz0 : Nat} {H0 : Heap} {pc : Nat} {lv : List (Nat × Value)} {st : List Value} {M : WM} {r : Nat} (cx : Cx p s m args meth c cc nL RX0 ret D cA sz0 H0) (d : decode cc pc = .ok (.getfield 88, 3)) (hr : wk M r = 0) (kk : V p l e R s m args below meth c nL D cA sz0 H0 cells slots Q (pc + 3) lv (vr sz0 (wR M r 24) :: st) M) : V p l e R s m args below meth c nL D cA sz0 H0 cells slots Q pc lv (.ref (sz0 + r) :: st) M := v_getR cx (k := 24) cl_X0 (by decide) in_X0 (by decide) q299 rfl d hr kk
theorem gq300_X0 {p : Program} {l : Launch} {e : Env} {R : Room} {s : State} {m : MethodId} {args : Array Value} {below : List Frame} {meth : Method} {c : Code} {cells slots : Nat} {Q : State → Prop} {cc : ByteArray} {nL : Nat} {ret : Option FieldType} {D : va_G} {cA : Nat → ClassId} {sz0 : Nat} {H0 : Heap} {pc : Nat} {lv : List (Nat × Value)} {st : List Value} {M : WM} {r : Nat} (cx : Cx p s m args meth c cc nL RX0 ret D cA sz0 H0) (d : decode cc pc = .ok (.getfield 304, 3)) (hr : wk M r = 0) (kk : V p l e R s m args below meth c nL D cA sz0 H0 cells slots Q (pc + 3) lv (.int (wI M r 25) :: st) M) : V p l e R s m args below meth c nL D cA sz0 H0 cells slots Q pc lv (.ref (sz0 + r) :: st) M := v_getI cx (k := 25) cl_X0 (by decide) in_X0 (by decide) q300 rfl d hr kk
theorem gq301_X0 {p : Program} {l : Launch} {e : Env} {R : Room} {s : State} {m : MethodId} {args : Array Value} {below : List Frame} {meth : Method} {c : Code} {cells slots : Nat} {Q : State → Prop} {cc : ByteArray} {nL : Nat} {ret : Option FieldType} {D : va_G} {cA : Nat → ClassId} {sz0 : Nat} {H0 : Heap} {pc : Nat} {lv : List (Nat × Value)} {st : List Value} {M : WM} {r : Nat} (cx : Cx p s m args meth c cc nL RX0 ret D cA sz0 H0) (d : decode cc pc = .ok (.getfield 92, 3)) (hr : wk M r = 0) (kk : V p l e R s m args below meth c nL D cA sz0 H0 cells slots Q (pc + 3) lv (vr sz0 (wR M r 26) :: st) M) : V p l e R s m args below meth c nL D cA sz0 H0 cells slots Q pc lv (.ref (sz0 + r) :: st) M := v_getR cx (k := 26) cl_X0 (by decide) in_X0 (by decide) q301 rfl d hr kk
theorem gq302_X0 {p : Program} {l : Launch} {e : Env} {R : Room} {s : State} {m : MethodId} {args : Array Value} {below : List Frame} {meth : Method} {c : Code} {cells slots : Nat} {Q : State → Prop} {cc : ByteArray} {nL : Nat} {ret : Option FieldType} {D : va_G} {cA : Nat → ClassId} {sz0 : Nat} {H0 : Heap} {pc : Nat} {lv : List (Nat × Value)} {st : List Value} {M : WM} {r : Nat} (cx : Cx p s m args meth c cc nL RX0 ret D cA sz0 H0) (d : decode cc pc = .ok (.getfield 97, 3)) (hr : wk M r = 0) (kk : V p l e R s m args below meth c nL D cA sz0 H0 cells slots Q (pc + 3) lv (vr sz0 (wR M r 27) :: st) M) : V p l e R s m args below meth c nL D cA sz0 H0 cells slots Q pc lv (.ref (sz0 + r) :: st) M := v_getR cx (k := 27) cl_X0 (by decide) in_X0 (by decide) q302 rfl d hr kk
theorem gq303_X0 {p : Program} {l : Launch} {e : Env} {R : Room} {s : State} {m : MethodId} {args : Array Value} {below : List Frame} {meth : Method} {c : Code} {cells slots : Nat} {Q : State → Prop} {cc : ByteArray} {nL : Nat} {ret : Option FieldType} {D : va_G} {cA : Nat → ClassId} {sz0 : Nat} {H0 : Heap} {pc : Nat} {lv : List (Nat × Value)} {st : List Value} {M : WM} {r : Nat} (cx : Cx p s m args meth c cc nL RX0 ret D cA sz0 H0) (d : decode cc pc = .ok (.getfield 100, 3)) (hr : wk M r = 0) (kk : V p l e R s m args below meth c nL D cA sz0 H0 cells slots Q (pc + 3) lv (vr sz0 (wR M r 28) :: st) M) : V p l e R s m args below meth c nL D cA sz0 H0 cells slots Q pc lv (.ref (sz0 + r) :: st) M := v_getR cx (k := 28) cl_X0 (by decide) in_X0 (by decide) q303 rfl d hr kk
theorem gq304_X0 {p : Program} {l : Launch} {e : Env} {R : Room} {s : State} {m : MethodId} {args : Array Value} {below : List Frame} {meth : Method} {c : Code} {cells slots : Nat} {Q : State → Prop} {cc : ByteArray} {nL : Nat} {ret : Option FieldType} {D : va_G} {cA : Nat → ClassId} {sz0 : Nat} {H0 : Heap} {pc : Nat} {lv : List (Nat × Value)} {st : List Value} {M : WM} {r : Nat} (cx : Cx p s m args meth c cc nL RX0 ret D cA sz0 H0) (d : decode cc pc = .ok (.getfield 103, 3)) (hr : wk M r = 0) (kk : V p l e R s m args below meth c nL D cA sz0 H0 cells slots Q (pc + 3) lv (vr sz0 (wR M r 29) :: st) M) : V p l e R s m args below meth c nL D cA sz0 H0 cells slots Q pc lv (.ref (sz0 + r) :: st) M := v_getR cx (k := 29) cl_X0 (by decide) in_X0 (by decide) q304 rfl d hr kk
theorem gq305_X0 {p : Program} {l : Launch} {e : Env} {R : Room} {s : State} {m : MethodId} {args : Array Value} {below : List Frame} {meth : Method} {c : Code} {cells slots : Nat} {Q : State → Prop} {cc : ByteArray} {nL : Nat} {ret : Option FieldType} {D : va_G} {cA : Nat → ClassId} {sz0 : Nat} {H0 : Heap} {pc : Nat} {lv : List (Nat × Value)} {st : List Value} {M : WM} {r : Nat} (cx : Cx p s m args meth c cc nL RX0 ret D cA sz0 H0) (d : decode cc pc = .ok (.getfield 106, 3)) (hr : wk M r = 0) (kk : V p l e R s m args below meth c nL D cA sz0 H0 cells slots Q (pc + 3) lv (vr sz0 (wR M r 30) :: st) M) : V p l e R s m args below meth c nL D cA sz0 H0 cells slots Q pc lv (.ref (sz0 + r) :: st) M := v_getR cx (k := 30) cl_X0 (by decide) in_X0 (by decide) q305 rfl d hr kk
theorem gq306_X0 {p : Program} {l : Launch} {e : Env} {R : Room} {s : State} {m : MethodId} {args : Array Value} {below : List Frame} {meth : Method} {c : Code} {cells slots : Nat} {Q : State → Prop} {cc : ByteArray} {nL : Nat} {ret : Option FieldType} {D : va_G} {cA : Nat → ClassId} {sz0 : Nat} {H0 : Heap} {pc : Nat} {lv : List (Nat × Value)} {st : List Value} {M : WM} {r : Nat} (cx : Cx p s m args meth c cc nL RX0 ret D cA sz0 H0) (d : decode cc pc = .ok (.getfield 109, 3)) (hr : wk M r = 0) (kk : V p l e R s m args below meth c nL D cA sz0 H0 cells slots Q (pc + 3) lv (vr sz0 (wR M r 31) :: st) M) : V p l e R s m args below meth c nL D cA sz0 H0 cells slots Q pc lv (.ref (sz0 + r) :: st) M := v_getR cx (k := 31) cl_X0 (by decide) in_X0 (by decide) q306 rfl d hr kk
theorem gq307_X0 {p : Program} {l : Launch} {e : Env} {R : Room} {s : State} {m : MethodId} {args : Array Value} {below : List Frame} {meth : Method} {c : Code} {cells slots : Nat} {Q : State → Prop} {cc : ByteArray} {nL : Nat} {ret : Option FieldType} {D : va_G} {cA : Nat → ClassId} {sz0 : Nat} {H0 : Heap} {pc : Nat} {lv : List (Nat × Value)} {st : List Value} {M : WM} {r : Nat} (cx : Cx p s m args meth c cc nL RX0 ret D cA sz0 H0) (d : decode cc pc = .ok (.getfield 333, 3)) (hr : wk M r = 0) (kk : V p l e R s m args below meth c nL D cA sz0 H0 cells slots Q (pc + 3) lv (.int (wI M r 32) :: st) M) : V p l e R s m args below meth c nL D cA sz0 H0 cells slots Q pc lv (.ref (sz0 + r) :: st) M := v_getI cx (k := 32) cl_X0 (by decide) in_X0 (by decide) q307 rfl d hr kk
theorem pq194_X2 {p : Program} {l : Launch} {e : Env} {R : Room} {s : State} {m : MethodId} {args : Array Value} {below : List Frame} {meth : Method} {c : Code} {cells slots : Nat} {Q : State → Prop} {cc : ByteArray} {nL : Nat} {ret : Option FieldType} {D : va_G} {cA : Nat → ClassId} {sz0 : Nat} {H0 : Heap} {pc : Nat} {lv : List (Nat × Value)} {st : List Value} {M : WM} {r : Nat} (cx : Cx p s m args meth c cc nL RX2 ret D cA sz0 H0) {x : Int32}   (d : decode cc pc = .ok (.putfield 15, 3)) (hr : wk M r = 2) (kk : V p l e R s m args below meth c nL D cA sz0 H0 cells slots Q (pc + 3) lv st (wPI M r 1 x)) : V p l e R s m args below meth c nL D cA sz0 H0 cells slots Q pc lv (.int x :: .ref (sz0 + r) :: st) M := v_putI cx (k := 1) cl_X2 (by decide) in_X2 (by decide) tyX2 tyX2_ok nmX2 q194 rfl rfl (ty := .int) (tyX2_ok 1 (by decide)) rfl rfl d hr kk
theorem pq213_X4 {p : Program} {l : Launch} {e : Env} {R : Room} {s : State} {m : MethodId} {args : Array Value} {below : List Frame} {meth : Method} {c : Code} {cells slots : Nat} {Q : State → Prop} {cc : ByteArray} {nL : Nat} {ret : Option FieldType} {D : va_G} {cA : Nat → ClassId} {sz0 : Nat} {H0 : Heap} {pc : Nat} {lv : List (Nat × Value)} {st : List Value} {M : WM} {r : Nat} (cx : Cx p s m args meth c cc nL RX4 ret D cA sz0 H0) {x : Int32}   (d : decode cc pc = .ok (.putfield 25, 3)) (hr : wk M r = 3) (kk : V p l e R s m args below meth c nL D cA sz0 H0 cells slots Q (pc + 3) lv st (wPI M r 1 x)) : V p l e R s m args below meth c nL D cA sz0 H0 cells slots Q pc lv (.int x :: .ref (sz0 + r) :: st) M := v_putI cx (k := 1) cl_X4 (by decide) in_X4 (by decide) tyX4 tyX4_ok nmX4 q213 rfl rfl (ty := .int) (tyX4_ok 1 (by decide)) rfl rfl d hr kk
theorem pq214_X4 {p : Program} {l : Launch} {e : Env} {R : Room} {s : State} {m : MethodId} {args : Array Value} {below : List Frame} {meth : Method} {c : Code} {cells slots : Nat} {Q : State → Prop} {cc : ByteArray} {nL : Nat} {ret : Option FieldType} {D : va_G} {cA : Nat → ClassId} {sz0 : Nat} {H0 : Heap} {pc : Nat} {lv : List (Nat × Value)} {st : List Value} {M : WM} {r : Nat} (cx : Cx p s m args meth c cc nL RX4 ret D cA sz0 H0) {x : Int32}   (d : decode cc pc = .ok (.putfield 29, 3)) (hr : wk M r = 3) (kk : V p l e R s m args below meth c nL D cA sz0 H0 cells slots Q (pc + 3) lv st (wPI M r 2 x)) : V p l e R s m args below meth c nL D cA sz0 H0 cells slots Q pc lv (.int x :: .ref (sz0 + r) :: st) M := v_putI cx (k := 2) cl_X4 (by decide) in_X4 (by decide) tyX4 tyX4_ok nmX4 q214 rfl rfl (ty := .int) (tyX4_ok 2 (by decide)) rfl rfl d hr kk
theorem pq215_X4 {p : Program} {l : Launch} {e : Env} {R : Room} {s : State} {m : MethodId} {args : Array Value} {below : List Frame} {meth : Method} {c : Code} {cells slots : Nat} {Q : State → Prop} {cc : ByteArray} {nL : Nat} {ret : Option FieldType} {D : va_G} {cA : Nat → ClassId} {sz0 : Nat} {H0 : Heap} {pc : Nat} {lv : List (Nat × Value)} {st : List Value} {M : WM} {r : Nat} (cx : Cx p s m args meth c cc nL RX4 ret D cA sz0 H0) {x : Int32}   (d : decode cc pc = .ok (.putfield 32, 3)) (hr : wk M r = 3) (kk : V p l e R s m args below meth c nL D cA sz0 H0 cells slots Q (pc + 3) lv st (wPI M r 3 x)) : V p l e R s m args below meth c nL D cA sz0 H0 cells slots Q pc lv (.int x :: .ref (sz0 + r) :: st) M := v_putI cx (k := 3) cl_X4 (by decide) in_X4 (by decide) tyX4 tyX4_ok nmX4 q215 rfl rfl (ty := .int) (tyX4_ok 3 (by decide)) rfl rfl d hr kk
theorem pq216_X4 {p : Program} {l : Launch} {e : Env} {R : Room} {s : State} {m : MethodId} {args : Array Value} {below : List Frame} {meth : Method} {c : Code} {cells slots : Nat} {Q : State → Prop} {cc : ByteArray} {nL : Nat} {ret : Option FieldType} {D : va_G} {cA : Nat → ClassId} {sz0 : Nat} {H0 : Heap} {pc : Nat} {lv : List (Nat × Value)} {st : List Value} {M : WM} {r : Nat} (cx : Cx p s m args meth c cc nL RX4 ret D cA sz0 H0) {x : Int32}   (d : decode cc pc = .ok (.putfield 35, 3)) (hr : wk M r = 3) (kk : V p l e R s m args below meth c nL D cA sz0 H0 cells slots Q (pc + 3) lv st (wPI M r 4 x)) : V p l e R s m args below meth c nL D cA sz0 H0 cells slots Q pc lv (.int x :: .ref (sz0 + r) :: st) M := v_putI cx (k := 4) cl_X4 (by decide) in_X4 (by decide) tyX4 tyX4_ok nmX4 q216 rfl rfl (ty := .int) (tyX4_ok 4 (by decide)) rfl rfl d hr kk
theorem pq217_X4 {p : Program} {l : Launch} {e : Env} {R : Room} {s : State} {m : MethodId} {args : Array Value} {below : List Frame} {meth : Method} {c : Code} {cells slots : Nat} {Q : State → Prop} {cc : ByteArray} {nL : Nat} {ret : Option FieldType} {D : va_G} {cA : Nat → ClassId} {sz0 : Nat} {H0 : Heap} {pc : Nat} {lv : List (Nat × Value)} {st : List Value} {M : WM} {r : Nat} (cx : Cx p s m args meth c cc nL RX4 ret D cA sz0 H0) {x : Int32}   (d : decode cc pc = .ok (.putfield 50, 3)) (hr : wk M r = 3) (kk : V p l e R s m args below meth c nL D cA sz0 H0 cells slots Q (pc + 3) lv st (wPI M r 5 x)) : V p l e R s m args below meth c nL D cA sz0 H0 cells slots Q pc lv (.int x :: .ref (sz0 + r) :: st) M := v_putI cx (k := 5) cl_X4 (by decide) in_X4 (by decide) tyX4 tyX4_ok nmX4 q217 rfl rfl (ty := .int) (tyX4_ok 5 (by decide)) rfl rfl d hr kk
theorem pq218_X4 {p : Program} {l : Launch} {e : Env} {R : Room} {s : State} {m : MethodId} {args : Array Value} {below : List Frame} {meth : Method} {c : Code} {cells slots : Nat} {Q : State → Prop} {cc : ByteArray} {nL : Nat} {ret : Option FieldType} {D : va_G} {cA : Nat → ClassId} {sz0 : Nat} {H0 : Heap} {pc : Nat} {lv : List (Nat × Value)} {st : List Value} {M : WM} {r : Nat} (cx : Cx p s m args meth c cc nL RX4 ret D cA sz0 H0) {x : Int32}   (d : decode cc pc = .ok (.putfield 53, 3)) (hr : wk M r = 3) (kk : V p l e R s m args below meth c nL D cA sz0 H0 cells slots Q (pc + 3) lv st (wPI M r 6 x)) : V p l e R s m args below meth c nL D cA sz0 H0 cells slots Q pc lv (.int x :: .ref (sz0 + r) :: st) M := v_putI cx (k := 6) cl_X4 (by decide) in_X4 (by decide) tyX4 tyX4_ok nmX4 q218 rfl rfl (ty := .int) (tyX4_ok 6 (by decide)) rfl rfl d hr kk
theorem pq219_X4 {p : Program} {l : Launch} {e : Env} {R : Room} {s : State} {m : MethodId} {args : Array Value} {below : List Frame} {meth : Method} {c : Code} {cells slots : Nat} {Q : State → Prop} {cc : ByteArray} {nL : Nat} {ret : Option FieldType} {D : va_G} {cA : Nat → ClassId} {sz0 : Nat} {H0 : Heap} {pc : Nat} {lv : List (Nat × Value)} {st : List Value} {M : WM} {r : Nat} (cx : Cx p s m args meth c cc nL RX4 ret D cA sz0 H0) {x : Int32}   (d : decode cc pc = .ok (.putfield 43, 3)) (hr : wk M r = 3) (kk : V p l e R s m args below meth c nL D cA sz0 H0 cells slots Q (pc + 3) lv st (wPI M r 7 x)) : V p l e R s m args below meth c nL D cA sz0 H0 cells slots Q pc lv (.int x :: .ref (sz0 + r) :: st) M := v_putI cx (k := 7) cl_X4 (by decide) in_X4 (by decide) tyX4 tyX4_ok nmX4 q219 rfl rfl (ty := .int) (tyX4_ok 7 (by decide)) rfl rfl d hr kk
theorem pq259_X5 {p : Program} {l : Launch} {e : Env} {R : Room} {s : State} {m : MethodId} {args : Array Value} {below : List Frame} {meth : Method} {c : Code} {cells slots : Nat} {Q : State → Prop} {cc : ByteArray} {nL : Nat} {ret : Option FieldType} {D : va_G} {cA : Nat → ClassId} {sz0 : Nat} {H0 : Heap} {pc : Nat} {lv : List (Nat × Value)} {st : List Value} {M : WM} {r : Nat} (cx : Cx p s m args meth c cc nL RX0 ret D cA sz0 H0) {x : Int32}   (d : decode cc pc = .ok (.putfield 171, 3)) (hr : wk M r = 4) (kk : V p l e R s m args below meth c nL D cA sz0 H0 cells slots Q (pc + 3) lv st (wPI M r 1 x)) : V p l e R s m args below meth c nL D cA sz0 H0 cells slots Q pc lv (.int x :: .ref (sz0 + r) :: st) M := v_putIN cx (k := 1) cl_X5 (by decide) in_X5 (by decide) tyX5 tyX5_ok nmX5 (nst_in q259 rfl) rfl rfl (ty := .int) (tyX5_ok 1 (by decide)) rfl rfl d hr kk
theorem pq260_X5 {p : Program} {l : Launch} {e : Env} {R : Room} {s : State} {m : MethodId} {args : Array Value} {below : List Frame} {meth : Method} {c : Code} {cells slots : Nat} {Q : State → Prop} {cc : ByteArray} {nL : Nat} {ret : Option FieldType} {D : va_G} {cA : Nat → ClassId} {sz0 : Nat} {H0 : Heap} {pc : Nat} {lv : List (Nat × Value)} {st : List Value} {M : WM} {r : Nat} (cx : Cx p s m args meth c cc nL RX0 ret D cA sz0 H0) {x : Int32}   (d : decode cc pc = .ok (.putfield 128, 3)) (hr : wk M r = 4) (kk : V p l e R s m args below meth c nL D cA sz0 H0 cells slots Q (pc + 3) lv st (wPI M r 2 x)) : V p l e R s m args below meth c nL D cA sz0 H0 cells slots Q pc lv (.int x :: .ref (sz0 + r) :: st) M := v_putIN cx (k := 2) cl_X5 (by decide) in_X5 (by decide) tyX5 tyX5_ok nmX5 (nst_in q260 rfl) rfl rfl (ty := .int) (tyX5_ok 2 (by decide)) rfl rfl d hr kk
theorem pq261_X5 {p : Program} {l : Launch} {e : Env} {R : Room} {s : State} {m : MethodId} {args : Array Value} {below : List Frame} {meth : Method} {c : Code} {cells slots : Nat} {Q : State → Prop} {cc : ByteArray} {nL : Nat} {ret : Option FieldType} {D : va_G} {cA : Nat → ClassId} {sz0 : Nat} {H0 : Heap} {pc : Nat} {lv : List (Nat × Value)} {st : List Value} {M : WM} {r : Nat} (cx : Cx p s m args meth c cc nL RX0 ret D cA sz0 H0) {x : Int32}  (hz : x = 0 ∨ x = 1) (d : decode cc pc = .ok (.putfield 124, 3)) (hr : wk M r = 4) (kk : V p l e R s m args below meth c nL D cA sz0 H0 cells slots Q (pc + 3) lv st (wPI M r 3 x)) : V p l e R s m args below meth c nL D cA sz0 H0 cells slots Q pc lv (.int x :: .ref (sz0 + r) :: st) M := v_putIN cx (k := 3) cl_X5 (by decide) in_X5 (by decide) tyX5 tyX5_ok nmX5 (nst_in q261 rfl) rfl rfl (ty := .boolean) (tyX5_ok 3 (by decide)) (by rcases hz with rfl | rfl <;> rfl) (by rcases hz with rfl | rfl <;> rfl) d hr kk
theorem pq278_X0 {p : Program} {l : Launch} {e : Env} {R : Room} {s : State} {m : MethodId} {args : Array Value} {below : List Frame} {meth : Method} {c : Code} {cells slots : Nat} {Q : State → Prop} {cc : ByteArray} {nL : Nat} {ret : Option FieldType} {D : va_G} {cA : Nat → ClassId} {sz0 : Nat} {H0 : Heap} {pc : Nat} {lv : List (Nat × Value)} {st : List Value} {M : WM} {r : Nat} (cx : Cx p s m args meth c cc nL RX0 ret D cA sz0 H0) {x : Int32}   (d : decode cc pc = .ok (.putfield 113, 3)) (hr : wk M r = 0) (kk : V p l e R s m args below meth c nL D cA sz0 H0 cells slots Q (pc + 3) lv st (wPI M r 3 x)) : V p l e R s m args below meth c nL D cA sz0 H0 cells slots Q pc lv (.int x :: .ref (sz0 + r) :: st) M := v_putI cx (k := 3) cl_X0 (by decide) in_X0 (by decide) tyX0 tyX0_ok nmX0 q278 rfl rfl (ty := .int) (tyX0_ok 3 (by decide)) rfl rfl d hr kk
theorem pq279_X0 {p : Program} {l : Launch} {e : Env} {R : Room} {s : State} {m : MethodId} {args : Array Value} {below : List Frame} {meth : Method} {c : Code} {cells slots : Nat} {Q : State → Prop} {cc : ByteArray} {nL : Nat} {ret : Option FieldType} {D : va_G} {cA : Nat → ClassId} {sz0 : Nat} {H0 : Heap} {pc : Nat} {lv : List (Nat × Value)} {st : List Value} {M : WM} {r : Nat} (cx : Cx p s m args meth c cc nL RX0 ret D cA sz0 H0) {x : Int32}   (d : decode cc pc = .ok (.putfield 26, 3)) (hr : wk M r = 0) (kk : V p l e R s m args below meth c nL D cA sz0 H0 cells slots Q (pc + 3) lv st (wPI M r 4 x)) : V p l e R s m args below meth c nL D cA sz0 H0 cells slots Q pc lv (.int x :: .ref (sz0 + r) :: st) M := v_putI cx (k := 4) cl_X0 (by decide) in_X0 (by decide) tyX0 tyX0_ok nmX0 q279 rfl rfl (ty := .int) (tyX0_ok 4 (by decide)) rfl rfl d hr kk
theorem pq280_X0 {p : Program} {l : Launch} {e : Env} {R : Room} {s : State} {m : MethodId} {args : Array Value} {below : List Frame} {meth : Method} {c : Code} {cells slots : Nat} {Q : State → Prop} {cc : ByteArray} {nL : Nat} {ret : Option FieldType} {D : va_G} {cA : Nat → ClassId} {sz0 : Nat} {H0 : Heap} {pc : Nat} {lv : List (Nat × Value)} {st : List Value} {M : WM} {r : Nat} (cx : Cx p s m args meth c cc nL RX0 ret D cA sz0 H0) {x : Int32}   (d : decode cc pc = .ok (.putfield 135, 3)) (hr : wk M r = 0) (kk : V p l e R s m args below meth c nL D cA sz0 H0 cells slots Q (pc + 3) lv st (wPI M r 5 x)) : V p l e R s m args below meth c nL D cA sz0 H0 cells slots Q pc lv (.int x :: .ref (sz0 + r) :: st) M := v_putI cx (k := 5) cl_X0 (by decide) in_X0 (by decide) tyX0 tyX0_ok nmX0 q280 rfl rfl (ty := .int) (tyX0_ok 5 (by decide)) rfl rfl d hr kk
theorem pq281_X0 {p : Program} {l : Launch} {e : Env} {R : Room} {s : State} {m : MethodId} {args : Array Value} {below : List Frame} {meth : Method} {c : Code} {cells slots : Nat} {Q : State → Prop} {cc : ByteArray} {nL : Nat} {ret : Option FieldType} {D : va_G} {cA : Nat → ClassId} {sz0 : Nat} {H0 : Heap} {pc : Nat} {lv : List (Nat × Value)} {st : List Value} {M : WM} {r : Nat} (cx : Cx p s m args meth c cc nL RX0 ret D cA sz0 H0) {x : Int32}   (d : decode cc pc = .ok (.putfield 30, 3)) (hr : wk M r = 0) (kk : V p l e R s m args below meth c nL D cA sz0 H0 cells slots Q (pc + 3) lv st (wPI M r 6 x)) : V p l e R s m args below meth c nL D cA sz0 H0 cells slots Q pc lv (.int x :: .ref (sz0 + r) :: st) M := v_putI cx (k := 6) cl_X0 (by decide) in_X0 (by decide) tyX0 tyX0_ok nmX0 q281 rfl rfl (ty := .int) (tyX0_ok 6 (by decide)) rfl rfl d hr kk
theorem pq282_X0 {p : Program} {l : Launch} {e : Env} {R : Room} {s : State} {m : MethodId} {args : Array Value} {below : List Frame} {meth : Method} {c : Code} {cells slots : Nat} {Q : State → Prop} {cc : ByteArray} {nL : Nat} {ret : Option FieldType} {D : va_G} {cA : Nat → ClassId} {sz0 : Nat} {H0 : Heap} {pc : Nat} {lv : List (Nat × Value)} {st : List Value} {M : WM} {r : Nat} (cx : Cx p s m args meth c cc nL RX0 ret D cA sz0 H0) {x : Int32}   (d : decode cc pc = .ok (.putfield 174, 3)) (hr : wk M r = 0) (kk : V p l e R s m args below meth c nL D cA sz0 H0 cells slots Q (pc + 3) lv st (wPI M r 7 x)) : V p l e R s m args below meth c nL D cA sz0 H0 cells slots Q pc lv (.int x :: .ref (sz0 + r) :: st) M := v_putI cx (k := 7) cl_X0 (by decide) in_X0 (by decide) tyX0 tyX0_ok nmX0 q282 rfl rfl (ty := .int) (tyX0_ok 7 (by decide)) rfl rfl d hr kk
theorem pq283_X0 {p : Program} {l : Launch} {e : Env} {R : Room} {s : State} {m : MethodId} {args : Array Value} {below : List Frame} {meth : Method} {c : Code} {cells slots : Nat} {Q : State → Prop} {cc : ByteArray} {nL : Nat} {ret : Option FieldType} {D : va_G} {cA : Nat → ClassId} {sz0 : Nat} {H0 : Heap} {pc : Nat} {lv : List (Nat × Value)} {st : List Value} {M : WM} {r : Nat} (cx : Cx p s m args meth c cc nL RX0 ret D cA sz0 H0) {x : Int32}   (d : decode cc pc = .ok (.putfield 33, 3)) (hr : wk M r = 0) (kk : V p l e R s m args below meth c nL D cA sz0 H0 cells slots Q (pc + 3) lv st (wPI M r 8 x)) : V p l e R s m args below meth c nL D cA sz0 H0 cells slots Q pc lv (.int x :: .ref (sz0 + r) :: st) M := v_putI cx (k := 8) cl_X0 (by decide) in_X0 (by decide) tyX0 tyX0_ok nmX0 q283 rfl rfl (ty := .int) (tyX0_ok 8 (by decide)) rfl rfl d hr kk
theorem pq285_X0 {p : Program} {l : Launch} {e : Env} {R : Room} {s : State} {m : MethodId} {args : Array Value} {below : List Frame} {meth : Method} {c : Code} {cells slots : Nat} {Q : State → Prop} {cc : ByteArray} {nL : Nat} {ret : Option FieldType} {D : va_G} {cA : Nat → ClassId} {sz0 : Nat} {H0 : Heap} {pc : Nat} {lv : List (Nat × Value)} {st : List Value} {M : WM} {r : Nat} (cx : Cx p s m args meth c cc nL RX0 ret D cA sz0 H0) {x : Int32}   (d : decode cc pc = .ok (.putfield 194, 3)) (hr : wk M r = 0) (kk : V p l e R s m args below meth c nL D cA sz0 H0 cells slots Q (pc + 3) lv st (wPI M r 10 x)) : V p l e R s m args below meth c nL D cA sz0 H0 cells slots Q pc lv (.int x :: .ref (sz0 + r) :: st) M := v_putI cx (k := 10) cl_X0 (by decide) in_X0 (by decide) tyX0 tyX0_ok nmX0 q285 rfl rfl (ty := .int) (tyX0_ok 10 (by decide)) rfl rfl d hr kk
theorem pq296_X0 {p : Program} {l : Launch} {e : Env} {R : Room} {s : State} {m : MethodId} {args : Array Value} {below : List Frame} {meth : Method} {c : Code} {cells slots : Nat} {Q : State → Prop} {cc : ByteArray} {nL : Nat} {ret : Option FieldType} {D : va_G} {cA : Nat → ClassId} {sz0 : Nat} {H0 : Heap} {pc : Nat} {lv : List (Nat × Value)} {st : List Value} {M : WM} {r : Nat} (cx : Cx p s m args meth c cc nL RX0 ret D cA sz0 H0) {x : Int32}   (d : decode cc pc = .ok (.putfield 281, 3)) (hr : wk M r = 0) (kk : V p l e R s m args below meth c nL D cA sz0 H0 cells slots Q (pc + 3) lv st (wPI M r 21 x)) : V p l e R s m args below meth c nL D cA sz0 H0 cells slots Q pc lv (.int x :: .ref (sz0 + r) :: st) M := v_putI cx (k := 21) cl_X0 (by decide) in_X0 (by decide) tyX0 tyX0_ok nmX0 q296 rfl rfl (ty := .int) (tyX0_ok 21 (by decide)) rfl rfl d hr kk
theorem pq297_X0 {p : Program} {l : Launch} {e : Env} {R : Room} {s : State} {m : MethodId} {args : Array Value} {below : List Frame} {meth : Method} {c : Code} {cells slots : Nat} {Q : State → Prop} {cc : ByteArray} {nL : Nat} {ret : Option FieldType} {D : va_G} {cA : Nat → ClassId} {sz0 : Nat} {H0 : Heap} {pc : Nat} {lv : List (Nat × Value)} {st : List Value} {M : WM} {r : Nat} (cx : Cx p s m args meth c cc nL RX0 ret D cA sz0 H0) {x : Int32}   (d : decode cc pc = .ok (.putfield 284, 3)) (hr : wk M r = 0) (kk : V p l e R s m args below meth c nL D cA sz0 H0 cells slots Q (pc + 3) lv st (wPI M r 22 x)) : V p l e R s m args below meth c nL D cA sz0 H0 cells slots Q pc lv (.int x :: .ref (sz0 + r) :: st) M := v_putI cx (k := 22) cl_X0 (by decide) in_X0 (by decide) tyX0 tyX0_ok nmX0 q297 rfl rfl (ty := .int) (tyX0_ok 22 (by decide)) rfl rfl d hr kk
theorem pq300_X0 {p : Program} {l : Launch} {e : Env} {R : Room} {s : State} {m : MethodId} {args : Array Value} {below : List Frame} {meth : Method} {c : Code} {cells slots : Nat} {Q : State → Prop} {cc : ByteArray} {nL : Nat} {ret : Option FieldType} {D : va_G} {cA : Nat → ClassId} {sz0 : Nat} {H0 : Heap} {pc : Nat} {lv : List (Nat × Value)} {st : List Value} {M : WM} {r : Nat} (cx : Cx p s m args meth c cc nL RX0 ret D cA sz0 H0) {x : Int32}   (d : decode cc pc = .ok (.putfield 304, 3)) (hr : wk M r = 0) (kk : V p l e R s m args below meth c nL D cA sz0 H0 cells slots Q (pc + 3) lv st (wPI M r 25 x)) : V p l e R s m args below meth c nL D cA sz0 H0 cells slots Q pc lv (.int x :: .ref (sz0 + r) :: st) M := v_putI cx (k := 25) cl_X0 (by decide) in_X0 (by decide) tyX0 tyX0_ok nmX0 q300 rfl rfl (ty := .int) (tyX0_ok 25 (by decide)) rfl rfl d hr kk
theorem pq307_X0 {p : Program} {l : Launch} {e : Env} {R : Room} {s : State} {m : MethodId} {args : Array Value} {below : List Frame} {meth : Method} {c : Code} {cells slots : Nat} {Q : State → Prop} {cc : ByteArray} {nL : Nat} {ret : Option FieldType} {D : va_G} {cA : Nat → ClassId} {sz0 : Nat} {H0 : Heap} {pc : Nat} {lv : List (Nat × Value)} {st : List Value} {M : WM} {r : Nat} (cx : Cx p s m args meth c cc nL RX0 ret D cA sz0 H0) {x : Int32}   (d : decode cc pc = .ok (.putfield 333, 3)) (hr : wk M r = 0) (kk : V p l e R s m args below meth c nL D cA sz0 H0 cells slots Q (pc + 3) lv st (wPI M r 32 x)) : V p l e R s m args below meth c nL D cA sz0 H0 cells slots Q pc lv (.int x :: .ref (sz0 + r) :: st) M := v_putI cx (k := 32) cl_X0 (by decide) in_X0 (by decide) tyX0 tyX0_ok nmX0 q307 rfl rfl (ty := .int) (tyX0_ok 32 (by decide)) rfl rfl d hr kk
theorem hd_X0_usedMany : yX0_usedMany.cls ≠ "java/lang/invoke/MethodHandle" ∧ yX0_usedMany.cls ≠ "java/lang/invoke/VarHandle" ∧ (parseMethodDescriptor yX0_usedMany.desc).map (fun d => d.parameters.length) = some 0 := by decide +kernel
theorem kcq1007_X0 {p : Program} {l : Launch} {e : Env} {R : Room} {s : State} {m : MethodId} {args : Array Value} {below : List Frame} {meth : Method} {c : Code} {cells slots : Nat}  {cc : ByteArray} {nL : Nat} {ret : Option FieldType} {D : va_G} {cA : Nat → ClassId} {sz0 : Nat} {H0 : Heap} {pc : Nat} {lv : List (Nat × Value)} {st : List Value} {M : WM} {r : Nat} {mc ms fr lo : Nat} {st0 As : List Value} {Qc : Array Value → State → Outcome → State → Prop} (cx : Cx p s m args meth c cc nL RX0 ret D cA sz0 H0) (hM : Met l yX0_usedMany (ws_ yX0_usedMany cX0_usedMany 3 (some .int)) ({ frames := fr, cells := mc, slots := ms, locals := lo } : Room) (PcW D cA sz0 H0 (.ref (sz0 + r) :: As) M) Qc mc ms (Aw sz0)) (hR : fr + 1 ≤ R.frames ∧ 8 + (3 + 11) + lo ≤ R.locals) (hk : wk M r = 0) (hn : As.length = 0) (hst : st0 = As.reverse ++ .ref (sz0 + r) :: st) (hcat : (st.map fun v => v.category).sum ≤ 8) (d : decode cc pc = .ok (.invokevirtual 352, 3)) (hb : cells + mc ≤ R.cells ∧ slots + ms ≤ R.slots) : ∀ (ls : Array Slot) (H : Heap) (locs : List Loc), lv_has ls nL lv → Wd D cA sz0 H0 M H → va_S (Aw sz0) s.heap H locs → va_Run p l e R s m args below meth c H locs cells slots mc ms (F0 m pc ls st0) st (Qc (Value.ref (sz0 + r) :: As).toArray) (Aw sz0) := r_V cx hM q1007 q1009 qs49 q121 q1010 rfl hd_X0_usedMany hR cl_X0 (by decide) hk hn hst hcat d hb
theorem hd_X0_push : yX0_push.cls ≠ "java/lang/invoke/MethodHandle" ∧ yX0_push.cls ≠ "java/lang/invoke/VarHandle" ∧ (parseMethodDescriptor yX0_push.desc).map (fun d => d.parameters.length) = some 1 := by decide +kernel
theorem kcq379_X0 {p : Program} {l : Launch} {e : Env} {R : Room} {s : State} {m : MethodId} {args : Array Value} {below : List Frame} {meth : Method} {c : Code} {cells slots : Nat}  {cc : ByteArray} {nL : Nat} {ret : Option FieldType} {D : va_G} {cA : Nat → ClassId} {sz0 : Nat} {H0 : Heap} {pc : Nat} {lv : List (Nat × Value)} {st : List Value} {M : WM} {r : Nat} {mc ms fr lo : Nat} {st0 As : List Value} {Qc : Array Value → State → Outcome → State → Prop} (cx : Cx p s m args meth c cc nL RX0 ret D cA sz0 H0) (hM : Met l yX0_push (ws_ yX0_push cX0_push 3 none) ({ frames := fr, cells := mc, slots := ms, locals := lo } : Room) (PcW D cA sz0 H0 (.ref (sz0 + r) :: As) M) Qc mc ms (Aw sz0)) (hR : fr + 1 ≤ R.frames ∧ 8 + (3 + 11) + lo ≤ R.locals) (hk : wk M r = 0) (hn : As.length = 1) (hst : st0 = As.reverse ++ .ref (sz0 + r) :: st) (hcat : (st.map fun v => v.category).sum ≤ 8) (d : decode cc pc = .ok (.invokevirtual 138, 3)) (hb : cells + mc ≤ R.cells ∧ slots + ms ≤ R.slots) : ∀ (ls : Array Slot) (H : Heap) (locs : List Loc), lv_has ls nL lv → Wd D cA sz0 H0 M H → va_S (Aw sz0) s.heap H locs → va_Run p l e R s m args below meth c H locs cells slots mc ms (F0 m pc ls st0) st (Qc (Value.ref (sz0 + r) :: As).toArray) (Aw sz0) := r_V cx hM q379 q381 qs0 q121 q382 rfl hd_X0_push hR cl_X0 (by decide) hk hn hst hcat d hb
theorem hd_X0_within : yX0_within.cls ≠ "java/lang/invoke/MethodHandle" ∧ yX0_within.cls ≠ "java/lang/invoke/VarHandle" ∧ (parseMethodDescriptor yX0_within.desc).map (fun d => d.parameters.length) = some 3 := by decide +kernel
theorem kcq387_X0 {p : Program} {l : Launch} {e : Env} {R : Room} {s : State} {m : MethodId} {args : Array Value} {below : List Frame} {meth : Method} {c : Code} {cells slots : Nat}  {cc : ByteArray} {nL : Nat} {ret : Option FieldType} {D : va_G} {cA : Nat → ClassId} {sz0 : Nat} {H0 : Heap} {pc : Nat} {lv : List (Nat × Value)} {st : List Value} {M : WM}  {mc ms fr lo : Nat} {st0 As : List Value} {Qc : Array Value → State → Outcome → State → Prop} (cx : Cx p s m args meth c cc nL RX0 ret D cA sz0 H0) (hM : Met l yX0_within (ws_ yX0_within cX0_within 3 (some .boolean)) ({ frames := fr, cells := mc, slots := ms, locals := lo } : Room) (PcW D cA sz0 H0 As M) Qc mc ms (Aw sz0)) (hR : fr + 1 ≤ R.frames ∧ 8 + (3 + 11) + lo ≤ R.locals) (hn : As.length = 3) (hst : st0 = As.reverse ++ st) (hcat : (st.map fun v => v.category).sum ≤ 8) (d : decode cc pc = .ok (.invokestatic 155, 3)) (hb : cells + mc ≤ R.cells ∧ slots + ms ≤ R.slots) : ∀ (ls : Array Slot) (H : Heap) (locs : List Loc), lv_has ls nL lv → Wd D cA sz0 H0 M H → va_S (Aw sz0) s.heap H locs → va_Run p l e R s m args below meth c H locs cells slots mc ms (F0 m pc ls st0) st (Qc As.toArray) (Aw sz0) := r_S cx hM q387 q388 q121 q389 hd_X0_within hR hn hst hcat d hb
theorem hd_X0_in : yX0_in.cls ≠ "java/lang/invoke/MethodHandle" ∧ yX0_in.cls ≠ "java/lang/invoke/VarHandle" ∧ (parseMethodDescriptor yX0_in.desc).map (fun d => d.parameters.length) = some 2 := by decide +kernel
theorem kcq390_X0 {p : Program} {l : Launch} {e : Env} {R : Room} {s : State} {m : MethodId} {args : Array Value} {below : List Frame} {meth : Method} {c : Code} {cells slots : Nat}  {cc : ByteArray} {nL : Nat} {ret : Option FieldType} {D : va_G} {cA : Nat → ClassId} {sz0 : Nat} {H0 : Heap} {pc : Nat} {lv : List (Nat × Value)} {st : List Value} {M : WM}  {mc ms fr lo : Nat} {st0 As : List Value} {Qc : Array Value → State → Outcome → State → Prop} (cx : Cx p s m args meth c cc nL RX0 ret D cA sz0 H0) (hM : Met l yX0_in (ws_ yX0_in cX0_in 2 (some .boolean)) ({ frames := fr, cells := mc, slots := ms, locals := lo } : Room) (PcW D cA sz0 H0 As M) Qc mc ms (Aw sz0)) (hR : fr + 1 ≤ R.frames ∧ 8 + (2 + 11) + lo ≤ R.locals) (hn : As.length = 2) (hst : st0 = As.reverse ++ st) (hcat : (st.map fun v => v.category).sum ≤ 8) (d : decode cc pc = .ok (.invokestatic 116, 3)) (hb : cells + mc ≤ R.cells ∧ slots + ms ≤ R.slots) : ∀ (ls : Array Slot) (H : Heap) (locs : List Loc), lv_has ls nL lv → Wd D cA sz0 H0 M H → va_S (Aw sz0) s.heap H locs → va_Run p l e R s m args below meth c H locs cells slots mc ms (F0 m pc ls st0) st (Qc As.toArray) (Aw sz0) := r_S cx hM q390 q391 q121 q392 hd_X0_in hR hn hst hcat d hb
theorem hd_X0_readsLine : yX0_readsLine.cls ≠ "java/lang/invoke/MethodHandle" ∧ yX0_readsLine.cls ≠ "java/lang/invoke/VarHandle" ∧ (parseMethodDescriptor yX0_readsLine.desc).map (fun d => d.parameters.length) = some 2 := by decide +kernel
theorem kcq393_X0 {p : Program} {l : Launch} {e : Env} {R : Room} {s : State} {m : MethodId} {args : Array Value} {below : List Frame} {meth : Method} {c : Code} {cells slots : Nat}  {cc : ByteArray} {nL : Nat} {ret : Option FieldType} {D : va_G} {cA : Nat → ClassId} {sz0 : Nat} {H0 : Heap} {pc : Nat} {lv : List (Nat × Value)} {st : List Value} {M : WM} {r : Nat} {mc ms fr lo : Nat} {st0 As : List Value} {Qc : Array Value → State → Outcome → State → Prop} (cx : Cx p s m args meth c cc nL RX0 ret D cA sz0 H0) (hM : Met l yX0_readsLine (ws_ yX0_readsLine cX0_readsLine 4 (some .boolean)) ({ frames := fr, cells := mc, slots := ms, locals := lo } : Room) (PcW D cA sz0 H0 (.ref (sz0 + r) :: As) M) Qc mc ms (Aw sz0)) (hR : fr + 1 ≤ R.frames ∧ 8 + (4 + 11) + lo ≤ R.locals) (hk : wk M r = 0) (hn : As.length = 2) (hst : st0 = As.reverse ++ .ref (sz0 + r) :: st) (hcat : (st.map fun v => v.category).sum ≤ 8) (d : decode cc pc = .ok (.invokevirtual 159, 3)) (hb : cells + mc ≤ R.cells ∧ slots + ms ≤ R.slots) : ∀ (ls : Array Slot) (H : Heap) (locs : List Loc), lv_has ls nL lv → Wd D cA sz0 H0 M H → va_S (Aw sz0) s.heap H locs → va_Run p l e R s m args below meth c H locs cells slots mc ms (F0 m pc ls st0) st (Qc (Value.ref (sz0 + r) :: As).toArray) (Aw sz0) := r_V cx hM q393 q395 qs1 q121 q396 rfl hd_X0_readsLine hR cl_X0 (by decide) hk hn hst hcat d hb
theorem hd_X2_clears : yX2_clears.cls ≠ "java/lang/invoke/MethodHandle" ∧ yX2_clears.cls ≠ "java/lang/invoke/VarHandle" ∧ (parseMethodDescriptor yX2_clears.desc).map (fun d => d.parameters.length) = some 0 := by decide +kernel
theorem kcq397_X0 {p : Program} {l : Launch} {e : Env} {R : Room} {s : State} {m : MethodId} {args : Array Value} {below : List Frame} {meth : Method} {c : Code} {cells slots : Nat}  {cc : ByteArray} {nL : Nat} {ret : Option FieldType} {D : va_G} {cA : Nat → ClassId} {sz0 : Nat} {H0 : Heap} {pc : Nat} {lv : List (Nat × Value)} {st : List Value} {M : WM} {r : Nat} {mc ms fr lo : Nat} {st0 As : List Value} {Qc : Array Value → State → Outcome → State → Prop} (cx : Cx p s m args meth c cc nL RX0 ret D cA sz0 H0) (hM : Met l yX2_clears (ws_ yX2_clears cX2_clears 1 none) ({ frames := fr, cells := mc, slots := ms, locals := lo } : Room) (PcW D cA sz0 H0 (.ref (sz0 + r) :: As) M) Qc mc ms (Aw sz0)) (hR : fr + 1 ≤ R.frames ∧ 8 + (1 + 11) + lo ≤ R.locals) (hk : wk M r = 2) (hn : As.length = 0) (hst : st0 = As.reverse ++ .ref (sz0 + r) :: st) (hcat : (st.map fun v => v.category).sum ≤ 8) (d : decode cc pc = .ok (.invokevirtual 142, 3)) (hb : cells + mc ≤ R.cells ∧ slots + ms ≤ R.slots) : ∀ (ls : Array Slot) (H : Heap) (locs : List Loc), lv_has ls nL lv → Wd D cA sz0 H0 M H → va_S (Aw sz0) s.heap H locs → va_Run p l e R s m args below meth c H locs cells slots mc ms (F0 m pc ls st0) st (Qc (Value.ref (sz0 + r) :: As).toArray) (Aw sz0) := r_V cx hM q397 q398 q399 q123 q400 rfl hd_X2_clears hR cl_X2 (by decide) hk hn hst hcat d hb
theorem hd_X2_adds : yX2_adds.cls ≠ "java/lang/invoke/MethodHandle" ∧ yX2_adds.cls ≠ "java/lang/invoke/VarHandle" ∧ (parseMethodDescriptor yX2_adds.desc).map (fun d => d.parameters.length) = some 1 := by decide +kernel
theorem kcq401_X0 {p : Program} {l : Launch} {e : Env} {R : Room} {s : State} {m : MethodId} {args : Array Value} {below : List Frame} {meth : Method} {c : Code} {cells slots : Nat}  {cc : ByteArray} {nL : Nat} {ret : Option FieldType} {D : va_G} {cA : Nat → ClassId} {sz0 : Nat} {H0 : Heap} {pc : Nat} {lv : List (Nat × Value)} {st : List Value} {M : WM} {r : Nat} {mc ms fr lo : Nat} {st0 As : List Value} {Qc : Array Value → State → Outcome → State → Prop} (cx : Cx p s m args meth c cc nL RX0 ret D cA sz0 H0) (hM : Met l yX2_adds (ws_ yX2_adds cX2_adds 2 none) ({ frames := fr, cells := mc, slots := ms, locals := lo } : Room) (PcW D cA sz0 H0 (.ref (sz0 + r) :: As) M) Qc mc ms (Aw sz0)) (hR : fr + 1 ≤ R.frames ∧ 8 + (2 + 11) + lo ≤ R.locals) (hk : wk M r = 2) (hn : As.length = 1) (hst : st0 = As.reverse ++ .ref (sz0 + r) :: st) (hcat : (st.map fun v => v.category).sum ≤ 8) (d : decode cc pc = .ok (.invokevirtual 145, 3)) (hb : cells + mc ≤ R.cells ∧ slots + ms ≤ R.slots) : ∀ (ls : Array Slot) (H : Heap) (locs : List Loc), lv_has ls nL lv → Wd D cA sz0 H0 M H → va_S (Aw sz0) s.heap H locs → va_Run p l e R s m args below meth c H locs cells slots mc ms (F0 m pc ls st0) st (Qc (Value.ref (sz0 + r) :: As).toArray) (Aw sz0) := r_V cx hM q401 q402 q403 q123 q404 rfl hd_X2_adds hR cl_X2 (by decide) hk hn hst hcat d hb
theorem hd_X0_wordOf : yX0_wordOf.cls ≠ "java/lang/invoke/MethodHandle" ∧ yX0_wordOf.cls ≠ "java/lang/invoke/VarHandle" ∧ (parseMethodDescriptor yX0_wordOf.desc).map (fun d => d.parameters.length) = some 1 := by decide +kernel
theorem kcq405_X0 {p : Program} {l : Launch} {e : Env} {R : Room} {s : State} {m : MethodId} {args : Array Value} {below : List Frame} {meth : Method} {c : Code} {cells slots : Nat}  {cc : ByteArray} {nL : Nat} {ret : Option FieldType} {D : va_G} {cA : Nat → ClassId} {sz0 : Nat} {H0 : Heap} {pc : Nat} {lv : List (Nat × Value)} {st : List Value} {M : WM} {r : Nat} {mc ms fr lo : Nat} {st0 As : List Value} {Qc : Array Value → State → Outcome → State → Prop} (cx : Cx p s m args meth c cc nL RX0 ret D cA sz0 H0) (hM : Met l yX0_wordOf (ws_ yX0_wordOf cX0_wordOf 3 (some .int)) ({ frames := fr, cells := mc, slots := ms, locals := lo } : Room) (PcW D cA sz0 H0 (.ref (sz0 + r) :: As) M) Qc mc ms (Aw sz0)) (hR : fr + 1 ≤ R.frames ∧ 8 + (3 + 11) + lo ≤ R.locals) (hk : wk M r = 0) (hn : As.length = 1) (hst : st0 = As.reverse ++ .ref (sz0 + r) :: st) (hcat : (st.map fun v => v.category).sum ≤ 8) (d : decode cc pc = .ok (.invokevirtual 163, 3)) (hb : cells + mc ≤ R.cells ∧ slots + ms ≤ R.slots) : ∀ (ls : Array Slot) (H : Heap) (locs : List Loc), lv_has ls nL lv → Wd D cA sz0 H0 M H → va_S (Aw sz0) s.heap H locs → va_Run p l e R s m args below meth c H locs cells slots mc ms (F0 m pc ls st0) st (Qc (Value.ref (sz0 + r) :: As).toArray) (Aw sz0) := r_V cx hM q405 q407 qs2 q121 q408 rfl hd_X0_wordOf hR cl_X0 (by decide) hk hn hst hcat d hb
theorem hd_X2_isLike : yX2_isLike.cls ≠ "java/lang/invoke/MethodHandle" ∧ yX2_isLike.cls ≠ "java/lang/invoke/VarHandle" ∧ (parseMethodDescriptor yX2_isLike.desc).map (fun d => d.parameters.length) = some 1 := by decide +kernel
theorem kcq409_X0 {p : Program} {l : Launch} {e : Env} {R : Room} {s : State} {m : MethodId} {args : Array Value} {below : List Frame} {meth : Method} {c : Code} {cells slots : Nat}  {cc : ByteArray} {nL : Nat} {ret : Option FieldType} {D : va_G} {cA : Nat → ClassId} {sz0 : Nat} {H0 : Heap} {pc : Nat} {lv : List (Nat × Value)} {st : List Value} {M : WM} {r : Nat} {mc ms fr lo : Nat} {st0 As : List Value} {Qc : Array Value → State → Outcome → State → Prop} (cx : Cx p s m args meth c cc nL RX0 ret D cA sz0 H0) (hM : Met l yX2_isLike (ws_ yX2_isLike cX2_isLike 3 (some .boolean)) ({ frames := fr, cells := mc, slots := ms, locals := lo } : Room) (PcW D cA sz0 H0 (.ref (sz0 + r) :: As) M) Qc mc ms (Aw sz0)) (hR : fr + 1 ≤ R.frames ∧ 8 + (3 + 11) + lo ≤ R.locals) (hk : wk M r = 2) (hn : As.length = 1) (hst : st0 = As.reverse ++ .ref (sz0 + r) :: st) (hcat : (st.map fun v => v.category).sum ≤ 8) (d : decode cc pc = .ok (.invokevirtual 151, 3)) (hb : cells + mc ≤ R.cells ∧ slots + ms ≤ R.slots) : ∀ (ls : Array Slot) (H : Heap) (locs : List Loc), lv_has ls nL lv → Wd D cA sz0 H0 M H → va_S (Aw sz0) s.heap H locs → va_Run p l e R s m args below meth c H locs cells slots mc ms (F0 m pc ls st0) st (Qc (Value.ref (sz0 + r) :: As).toArray) (Aw sz0) := r_V cx hM q409 q410 q411 q123 q412 rfl hd_X2_isLike hR cl_X2 (by decide) hk hn hst hcat d hb
theorem hd_X2_takes : yX2_takes.cls ≠ "java/lang/invoke/MethodHandle" ∧ yX2_takes.cls ≠ "java/lang/invoke/VarHandle" ∧ (parseMethodDescriptor yX2_takes.desc).map (fun d => d.parameters.length) = some 1 := by decide +kernel
theorem kcq413_X0 {p : Program} {l : Launch} {e : Env} {R : Room} {s : State} {m : MethodId} {args : Array Value} {below : List Frame} {meth : Method} {c : Code} {cells slots : Nat}  {cc : ByteArray} {nL : Nat} {ret : Option FieldType} {D : va_G} {cA : Nat → ClassId} {sz0 : Nat} {H0 : Heap} {pc : Nat} {lv : List (Nat × Value)} {st : List Value} {M : WM} {r : Nat} {mc ms fr lo : Nat} {st0 As : List Value} {Qc : Array Value → State → Outcome → State → Prop} (cx : Cx p s m args meth c cc nL RX0 ret D cA sz0 H0) (hM : Met l yX2_takes (ws_ yX2_takes cX2_takes 3 none) ({ frames := fr, cells := mc, slots := ms, locals := lo } : Room) (PcW D cA sz0 H0 (.ref (sz0 + r) :: As) M) Qc mc ms (Aw sz0)) (hR : fr + 1 ≤ R.frames ∧ 8 + (3 + 11) + lo ≤ R.locals) (hk : wk M r = 2) (hn : As.length = 1) (hst : st0 = As.reverse ++ .ref (sz0 + r) :: st) (hcat : (st.map fun v => v.category).sum ≤ 8) (d : decode cc pc = .ok (.invokevirtual 167, 3)) (hb : cells + mc ≤ R.cells ∧ slots + ms ≤ R.slots) : ∀ (ls : Array Slot) (H : Heap) (locs : List Loc), lv_has ls nL lv → Wd D cA sz0 H0 M H → va_S (Aw sz0) s.heap H locs → va_Run p l e R s m args below meth c H locs cells slots mc ms (F0 m pc ls st0) st (Qc (Value.ref (sz0 + r) :: As).toArray) (Aw sz0) := r_V cx hM q413 q414 q415 q123 q416 rfl hd_X2_takes hR cl_X2 (by decide) hk hn hst hcat d hb
theorem hd_X0_isWord : yX0_isWord.cls ≠ "java/lang/invoke/MethodHandle" ∧ yX0_isWord.cls ≠ "java/lang/invoke/VarHandle" ∧ (parseMethodDescriptor yX0_isWord.desc).map (fun d => d.parameters.length) = some 1 := by decide +kernel
theorem kcq421_X0 {p : Program} {l : Launch} {e : Env} {R : Room} {s : State} {m : MethodId} {args : Array Value} {below : List Frame} {meth : Method} {c : Code} {cells slots : Nat}  {cc : ByteArray} {nL : Nat} {ret : Option FieldType} {D : va_G} {cA : Nat → ClassId} {sz0 : Nat} {H0 : Heap} {pc : Nat} {lv : List (Nat × Value)} {st : List Value} {M : WM} {r : Nat} {mc ms fr lo : Nat} {st0 As : List Value} {Qc : Array Value → State → Outcome → State → Prop} (cx : Cx p s m args meth c cc nL RX0 ret D cA sz0 H0) (hM : Met l yX0_isWord (ws_ yX0_isWord cX0_isWord 2 (some .boolean)) ({ frames := fr, cells := mc, slots := ms, locals := lo } : Room) (PcW D cA sz0 H0 (.ref (sz0 + r) :: As) M) Qc mc ms (Aw sz0)) (hR : fr + 1 ≤ R.frames ∧ 8 + (2 + 11) + lo ≤ R.locals) (hk : wk M r = 0) (hn : As.length = 1) (hst : st0 = As.reverse ++ .ref (sz0 + r) :: st) (hcat : (st.map fun v => v.category).sum ≤ 8) (d : decode cc pc = .ok (.invokevirtual 120, 3)) (hb : cells + mc ≤ R.cells ∧ slots + ms ≤ R.slots) : ∀ (ls : Array Slot) (H : Heap) (locs : List Loc), lv_has ls nL lv → Wd D cA sz0 H0 M H → va_S (Aw sz0) s.heap H locs → va_Run p l e R s m args below meth c H locs cells slots mc ms (F0 m pc ls st0) st (Qc (Value.ref (sz0 + r) :: As).toArray) (Aw sz0) := r_V cx hM q421 q423 qs3 q121 q424 rfl hd_X0_isWord hR cl_X0 (by decide) hk hn hst hcat d hb
theorem hd_X0_areTwo : yX0_areTwo.cls ≠ "java/lang/invoke/MethodHandle" ∧ yX0_areTwo.cls ≠ "java/lang/invoke/VarHandle" ∧ (parseMethodDescriptor yX0_areTwo.desc).map (fun d => d.parameters.length) = some 2 := by decide +kernel
theorem kcq705_X0 {p : Program} {l : Launch} {e : Env} {R : Room} {s : State} {m : MethodId} {args : Array Value} {below : List Frame} {meth : Method} {c : Code} {cells slots : Nat}  {cc : ByteArray} {nL : Nat} {ret : Option FieldType} {D : va_G} {cA : Nat → ClassId} {sz0 : Nat} {H0 : Heap} {pc : Nat} {lv : List (Nat × Value)} {st : List Value} {M : WM} {r : Nat} {mc ms fr lo : Nat} {st0 As : List Value} {Qc : Array Value → State → Outcome → State → Prop} (cx : Cx p s m args meth c cc nL RX0 ret D cA sz0 H0) (hM : Met l yX0_areTwo (ws_ yX0_areTwo cX0_areTwo 3 (some .boolean)) ({ frames := fr, cells := mc, slots := ms, locals := lo } : Room) (PcW D cA sz0 H0 (.ref (sz0 + r) :: As) M) Qc mc ms (Aw sz0)) (hR : fr + 1 ≤ R.frames ∧ 8 + (3 + 11) + lo ≤ R.locals) (hk : wk M r = 0) (hn : As.length = 2) (hst : st0 = As.reverse ++ .ref (sz0 + r) :: st) (hcat : (st.map fun v => v.category).sum ≤ 8) (d : decode cc pc = .ok (.invokevirtual 238, 3)) (hb : cells + mc ≤ R.cells ∧ slots + ms ≤ R.slots) : ∀ (ls : Array Slot) (H : Heap) (locs : List Loc), lv_has ls nL lv → Wd D cA sz0 H0 M H → va_S (Aw sz0) s.heap H locs → va_Run p l e R s m args below meth c H locs cells slots mc ms (F0 m pc ls st0) st (Qc (Value.ref (sz0 + r) :: As).toArray) (Aw sz0) := r_V cx hM q705 q707 qs18 q121 q708 rfl hd_X0_areTwo hR cl_X0 (by decide) hk hn hst hcat d hb
theorem hd_X0_lays : yX0_lays.cls ≠ "java/lang/invoke/MethodHandle" ∧ yX0_lays.cls ≠ "java/lang/invoke/VarHandle" ∧ (parseMethodDescriptor yX0_lays.desc).map (fun d => d.parameters.length) = some 0 := by decide +kernel
theorem kcq709_X0 {p : Program} {l : Launch} {e : Env} {R : Room} {s : State} {m : MethodId} {args : Array Value} {below : List Frame} {meth : Method} {c : Code} {cells slots : Nat}  {cc : ByteArray} {nL : Nat} {ret : Option FieldType} {D : va_G} {cA : Nat → ClassId} {sz0 : Nat} {H0 : Heap} {pc : Nat} {lv : List (Nat × Value)} {st : List Value} {M : WM} {r : Nat} {mc ms fr lo : Nat} {st0 As : List Value} {Qc : Array Value → State → Outcome → State → Prop} (cx : Cx p s m args meth c cc nL RX0 ret D cA sz0 H0) (hM : Met l yX0_lays (ws_ yX0_lays cX0_lays 4 none) ({ frames := fr, cells := mc, slots := ms, locals := lo } : Room) (PcW D cA sz0 H0 (.ref (sz0 + r) :: As) M) Qc mc ms (Aw sz0)) (hR : fr + 1 ≤ R.frames ∧ 8 + (4 + 11) + lo ≤ R.locals) (hk : wk M r = 0) (hn : As.length = 0) (hst : st0 = As.reverse ++ .ref (sz0 + r) :: st) (hcat : (st.map fun v => v.category).sum ≤ 8) (d : decode cc pc = .ok (.invokevirtual 241, 3)) (hb : cells + mc ≤ R.cells ∧ slots + ms ≤ R.slots) : ∀ (ls : Array Slot) (H : Heap) (locs : List Loc), lv_has ls nL lv → Wd D cA sz0 H0 M H → va_S (Aw sz0) s.heap H locs → va_Run p l e R s m args below meth c H locs cells slots mc ms (F0 m pc ls st0) st (Qc (Value.ref (sz0 + r) :: As).toArray) (Aw sz0) := r_V cx hM q709 q711 qs19 q121 q712 rfl hd_X0_lays hR cl_X0 (by decide) hk hn hst hcat d hb
theorem hd_X0_laysStep : yX0_laysStep.cls ≠ "java/lang/invoke/MethodHandle" ∧ yX0_laysStep.cls ≠ "java/lang/invoke/VarHandle" ∧ (parseMethodDescriptor yX0_laysStep.desc).map (fun d => d.parameters.length) = some 2 := by decide +kernel
theorem kcq713_X0 {p : Program} {l : Launch} {e : Env} {R : Room} {s : State} {m : MethodId} {args : Array Value} {below : List Frame} {meth : Method} {c : Code} {cells slots : Nat}  {cc : ByteArray} {nL : Nat} {ret : Option FieldType} {D : va_G} {cA : Nat → ClassId} {sz0 : Nat} {H0 : Heap} {pc : Nat} {lv : List (Nat × Value)} {st : List Value} {M : WM} {r : Nat} {mc ms fr lo : Nat} {st0 As : List Value} {Qc : Array Value → State → Outcome → State → Prop} (cx : Cx p s m args meth c cc nL RX0 ret D cA sz0 H0) (hM : Met l yX0_laysStep (ws_ yX0_laysStep cX0_laysStep 6 none) ({ frames := fr, cells := mc, slots := ms, locals := lo } : Room) (PcW D cA sz0 H0 (.ref (sz0 + r) :: As) M) Qc mc ms (Aw sz0)) (hR : fr + 1 ≤ R.frames ∧ 8 + (6 + 11) + lo ≤ R.locals) (hk : wk M r = 0) (hn : As.length = 2) (hst : st0 = As.reverse ++ .ref (sz0 + r) :: st) (hcat : (st.map fun v => v.category).sum ≤ 8) (d : decode cc pc = .ok (.invokevirtual 228, 3)) (hb : cells + mc ≤ R.cells ∧ slots + ms ≤ R.slots) : ∀ (ls : Array Slot) (H : Heap) (locs : List Loc), lv_has ls nL lv → Wd D cA sz0 H0 M H → va_S (Aw sz0) s.heap H locs → va_Run p l e R s m args below meth c H locs cells slots mc ms (F0 m pc ls st0) st (Qc (Value.ref (sz0 + r) :: As).toArray) (Aw sz0) := r_V cx hM q713 q715 qs20 q121 q716 rfl hd_X0_laysStep hR cl_X0 (by decide) hk hn hst hcat d hb
theorem hd_X0_isUsed : yX0_isUsed.cls ≠ "java/lang/invoke/MethodHandle" ∧ yX0_isUsed.cls ≠ "java/lang/invoke/VarHandle" ∧ (parseMethodDescriptor yX0_isUsed.desc).map (fun d => d.parameters.length) = some 1 := by decide +kernel
theorem kcq718_X0 {p : Program} {l : Launch} {e : Env} {R : Room} {s : State} {m : MethodId} {args : Array Value} {below : List Frame} {meth : Method} {c : Code} {cells slots : Nat}  {cc : ByteArray} {nL : Nat} {ret : Option FieldType} {D : va_G} {cA : Nat → ClassId} {sz0 : Nat} {H0 : Heap} {pc : Nat} {lv : List (Nat × Value)} {st : List Value} {M : WM} {r : Nat} {mc ms fr lo : Nat} {st0 As : List Value} {Qc : Array Value → State → Outcome → State → Prop} (cx : Cx p s m args meth c cc nL RX0 ret D cA sz0 H0) (hM : Met l yX0_isUsed (ws_ yX0_isUsed cX0_isUsed 2 (some .boolean)) ({ frames := fr, cells := mc, slots := ms, locals := lo } : Room) (PcW D cA sz0 H0 (.ref (sz0 + r) :: As) M) Qc mc ms (Aw sz0)) (hR : fr + 1 ≤ R.frames ∧ 8 + (2 + 11) + lo ≤ R.locals) (hk : wk M r = 0) (hn : As.length = 1) (hst : st0 = As.reverse ++ .ref (sz0 + r) :: st) (hcat : (st.map fun v => v.category).sum ≤ 8) (d : decode cc pc = .ok (.invokevirtual 221, 3)) (hb : cells + mc ≤ R.cells ∧ slots + ms ≤ R.slots) : ∀ (ls : Array Slot) (H : Heap) (locs : List Loc), lv_has ls nL lv → Wd D cA sz0 H0 M H → va_S (Aw sz0) s.heap H locs → va_Run p l e R s m args below meth c H locs cells slots mc ms (F0 m pc ls st0) st (Qc (Value.ref (sz0 + r) :: As).toArray) (Aw sz0) := r_V cx hM q718 q720 qs21 q121 q721 rfl hd_X0_isUsed hR cl_X0 (by decide) hk hn hst hcat d hb
theorem hd_X0_has : yX0_has.cls ≠ "java/lang/invoke/MethodHandle" ∧ yX0_has.cls ≠ "java/lang/invoke/VarHandle" ∧ (parseMethodDescriptor yX0_has.desc).map (fun d => d.parameters.length) = some 2 := by decide +kernel
theorem kcq722_X0 {p : Program} {l : Launch} {e : Env} {R : Room} {s : State} {m : MethodId} {args : Array Value} {below : List Frame} {meth : Method} {c : Code} {cells slots : Nat}  {cc : ByteArray} {nL : Nat} {ret : Option FieldType} {D : va_G} {cA : Nat → ClassId} {sz0 : Nat} {H0 : Heap} {pc : Nat} {lv : List (Nat × Value)} {st : List Value} {M : WM}  {mc ms fr lo : Nat} {st0 As : List Value} {Qc : Array Value → State → Outcome → State → Prop} (cx : Cx p s m args meth c cc nL RX0 ret D cA sz0 H0) (hM : Met l yX0_has (ws_ yX0_has cX0_has 3 (some .boolean)) ({ frames := fr, cells := mc, slots := ms, locals := lo } : Room) (PcW D cA sz0 H0 As M) Qc mc ms (Aw sz0)) (hR : fr + 1 ≤ R.frames ∧ 8 + (3 + 11) + lo ≤ R.locals) (hn : As.length = 2) (hst : st0 = As.reverse ++ st) (hcat : (st.map fun v => v.category).sum ≤ 8) (d : decode cc pc = .ok (.invokestatic 131, 3)) (hb : cells + mc ≤ R.cells ∧ slots + ms ≤ R.slots) : ∀ (ls : Array Slot) (H : Heap) (locs : List Loc), lv_has ls nL lv → Wd D cA sz0 H0 M H → va_S (Aw sz0) s.heap H locs → va_Run p l e R s m args below meth c H locs cells slots mc ms (F0 m pc ls st0) st (Qc As.toArray) (Aw sz0) := r_S cx hM q722 q723 q121 q724 hd_X0_has hR hn hst hcat d hb
theorem hd_X0_unlikeMany : yX0_unlikeMany.cls ≠ "java/lang/invoke/MethodHandle" ∧ yX0_unlikeMany.cls ≠ "java/lang/invoke/VarHandle" ∧ (parseMethodDescriptor yX0_unlikeMany.desc).map (fun d => d.parameters.length) = some 2 := by decide +kernel
theorem kcq725_X0 {p : Program} {l : Launch} {e : Env} {R : Room} {s : State} {m : MethodId} {args : Array Value} {below : List Frame} {meth : Method} {c : Code} {cells slots : Nat}  {cc : ByteArray} {nL : Nat} {ret : Option FieldType} {D : va_G} {cA : Nat → ClassId} {sz0 : Nat} {H0 : Heap} {pc : Nat} {lv : List (Nat × Value)} {st : List Value} {M : WM} {r : Nat} {mc ms fr lo : Nat} {st0 As : List Value} {Qc : Array Value → State → Outcome → State → Prop} (cx : Cx p s m args meth c cc nL RX0 ret D cA sz0 H0) (hM : Met l yX0_unlikeMany (ws_ yX0_unlikeMany cX0_unlikeMany 5 (some .int)) ({ frames := fr, cells := mc, slots := ms, locals := lo } : Room) (PcW D cA sz0 H0 (.ref (sz0 + r) :: As) M) Qc mc ms (Aw sz0)) (hR : fr + 1 ≤ R.frames ∧ 8 + (5 + 11) + lo ≤ R.locals) (hk : wk M r = 0) (hn : As.length = 2) (hst : st0 = As.reverse ++ .ref (sz0 + r) :: st) (hcat : (st.map fun v => v.category).sum ≤ 8) (d : decode cc pc = .ok (.invokevirtual 197, 3)) (hb : cells + mc ≤ R.cells ∧ slots + ms ≤ R.slots) : ∀ (ls : Array Slot) (H : Heap) (locs : List Loc), lv_has ls nL lv → Wd D cA sz0 H0 M H → va_S (Aw sz0) s.heap H locs → va_Run p l e R s m args below meth c H locs cells slots mc ms (F0 m pc ls st0) st (Qc (Value.ref (sz0 + r) :: As).toArray) (Aw sz0) := r_V cx hM q725 q727 qs22 q121 q728 rfl hd_X0_unlikeMany hR cl_X0 (by decide) hk hn hst hcat d hb
theorem hd_X0_tries : yX0_tries.cls ≠ "java/lang/invoke/MethodHandle" ∧ yX0_tries.cls ≠ "java/lang/invoke/VarHandle" ∧ (parseMethodDescriptor yX0_tries.desc).map (fun d => d.parameters.length) = some 4 := by decide +kernel
theorem kcq729_X0 {p : Program} {l : Launch} {e : Env} {R : Room} {s : State} {m : MethodId} {args : Array Value} {below : List Frame} {meth : Method} {c : Code} {cells slots : Nat}  {cc : ByteArray} {nL : Nat} {ret : Option FieldType} {D : va_G} {cA : Nat → ClassId} {sz0 : Nat} {H0 : Heap} {pc : Nat} {lv : List (Nat × Value)} {st : List Value} {M : WM} {r : Nat} {mc ms fr lo : Nat} {st0 As : List Value} {Qc : Array Value → State → Outcome → State → Prop} (cx : Cx p s m args meth c cc nL RX0 ret D cA sz0 H0) (hM : Met l yX0_tries (ws_ yX0_tries cX0_tries 6 none) ({ frames := fr, cells := mc, slots := ms, locals := lo } : Room) (PcW D cA sz0 H0 (.ref (sz0 + r) :: As) M) Qc mc ms (Aw sz0)) (hR : fr + 1 ≤ R.frames ∧ 8 + (6 + 11) + lo ≤ R.locals) (hk : wk M r = 0) (hn : As.length = 4) (hst : st0 = As.reverse ++ .ref (sz0 + r) :: st) (hcat : (st.map fun v => v.category).sum ≤ 8) (d : decode cc pc = .ok (.invokevirtual 224, 3)) (hb : cells + mc ≤ R.cells ∧ slots + ms ≤ R.slots) : ∀ (ls : Array Slot) (H : Heap) (locs : List Loc), lv_has ls nL lv → Wd D cA sz0 H0 M H → va_S (Aw sz0) s.heap H locs → va_Run p l e R s m args below meth c H locs cells slots mc ms (F0 m pc ls st0) st (Qc (Value.ref (sz0 + r) :: As).toArray) (Aw sz0) := r_V cx hM q729 q731 qs23 q121 q732 rfl hd_X0_tries hR cl_X0 (by decide) hk hn hst hcat d hb
theorem hd_X4_of : yX4_of.cls ≠ "java/lang/invoke/MethodHandle" ∧ yX4_of.cls ≠ "java/lang/invoke/VarHandle" ∧ (parseMethodDescriptor yX4_of.desc).map (fun d => d.parameters.length) = some 4 := by decide +kernel
theorem kcq733_X0 {p : Program} {l : Launch} {e : Env} {R : Room} {s : State} {m : MethodId} {args : Array Value} {below : List Frame} {meth : Method} {c : Code} {cells slots : Nat}  {cc : ByteArray} {nL : Nat} {ret : Option FieldType} {D : va_G} {cA : Nat → ClassId} {sz0 : Nat} {H0 : Heap} {pc : Nat} {lv : List (Nat × Value)} {st : List Value} {M : WM} {r : Nat} {mc ms fr lo : Nat} {st0 As : List Value} {Qc : Array Value → State → Outcome → State → Prop} (cx : Cx p s m args meth c cc nL RX0 ret D cA sz0 H0) (hM : Met l yX4_of (ws_ yX4_of cX4_of 7 (some (.object "LetterHeaps$Change"))) ({ frames := fr, cells := mc, slots := ms, locals := lo } : Room) (PcW D cA sz0 H0 (.ref (sz0 + r) :: As) M) Qc mc ms (Aw sz0)) (hR : fr + 1 ≤ R.frames ∧ 8 + (7 + 11) + lo ≤ R.locals) (hk : wk M r = 3) (hn : As.length = 4) (hst : st0 = As.reverse ++ .ref (sz0 + r) :: st) (hcat : (st.map fun v => v.category).sum ≤ 8) (d : decode cc pc = .ok (.invokevirtual 209, 3)) (hb : cells + mc ≤ R.cells ∧ slots + ms ≤ R.slots) : ∀ (ls : Array Slot) (H : Heap) (locs : List Loc), lv_has ls nL lv → Wd D cA sz0 H0 M H → va_S (Aw sz0) s.heap H locs → va_Run p l e R s m args below meth c H locs cells slots mc ms (F0 m pc ls st0) st (Qc (Value.ref (sz0 + r) :: As).toArray) (Aw sz0) := r_V cx hM q733 q734 q735 q125 q736 rfl hd_X4_of hR cl_X4 (by decide) hk hn hst hcat d hb
theorem hd_X4_may : yX4_may.cls ≠ "java/lang/invoke/MethodHandle" ∧ yX4_may.cls ≠ "java/lang/invoke/VarHandle" ∧ (parseMethodDescriptor yX4_may.desc).map (fun d => d.parameters.length) = some 0 := by decide +kernel
theorem kcq737_X0 {p : Program} {l : Launch} {e : Env} {R : Room} {s : State} {m : MethodId} {args : Array Value} {below : List Frame} {meth : Method} {c : Code} {cells slots : Nat}  {cc : ByteArray} {nL : Nat} {ret : Option FieldType} {D : va_G} {cA : Nat → ClassId} {sz0 : Nat} {H0 : Heap} {pc : Nat} {lv : List (Nat × Value)} {st : List Value} {M : WM} {r : Nat} {mc ms fr lo : Nat} {st0 As : List Value} {Qc : Array Value → State → Outcome → State → Prop} (cx : Cx p s m args meth c cc nL RX0 ret D cA sz0 H0) (hM : Met l yX4_may (ws_ yX4_may cX4_may 1 (some .boolean)) ({ frames := fr, cells := mc, slots := ms, locals := lo } : Room) (PcW D cA sz0 H0 (.ref (sz0 + r) :: As) M) Qc mc ms (Aw sz0)) (hR : fr + 1 ≤ R.frames ∧ 8 + (1 + 11) + lo ≤ R.locals) (hk : wk M r = 3) (hn : As.length = 0) (hst : st0 = As.reverse ++ .ref (sz0 + r) :: st) (hcat : (st.map fun v => v.category).sum ≤ 8) (d : decode cc pc = .ok (.invokevirtual 213, 3)) (hb : cells + mc ≤ R.cells ∧ slots + ms ≤ R.slots) : ∀ (ls : Array Slot) (H : Heap) (locs : List Loc), lv_has ls nL lv → Wd D cA sz0 H0 M H → va_S (Aw sz0) s.heap H locs → va_Run p l e R s m args below meth c H locs cells slots mc ms (F0 m pc ls st0) st (Qc (Value.ref (sz0 + r) :: As).toArray) (Aw sz0) := r_V cx hM q737 q738 q739 q125 q740 rfl hd_X4_may hR cl_X4 (by decide) hk hn hst hcat d hb
theorem hd_X1_says : yX1_says.cls ≠ "java/lang/invoke/MethodHandle" ∧ yX1_says.cls ≠ "java/lang/invoke/VarHandle" ∧ (parseMethodDescriptor yX1_says.desc).map (fun d => d.parameters.length) = some 2 := by decide +kernel
theorem kcq741_X4 {p : Program} {l : Launch} {e : Env} {R : Room} {s : State} {m : MethodId} {args : Array Value} {below : List Frame} {meth : Method} {c : Code} {cells slots : Nat}  {cc : ByteArray} {nL : Nat} {ret : Option FieldType} {D : va_G} {cA : Nat → ClassId} {sz0 : Nat} {H0 : Heap} {pc : Nat} {lv : List (Nat × Value)} {st : List Value} {M : WM} {r : Nat} {mc ms fr lo : Nat} {st0 As : List Value} {Qc : Array Value → State → Outcome → State → Prop} (cx : Cx p s m args meth c cc nL RX4 ret D cA sz0 H0) (hM : Met l yX1_says (ws_ yX1_says cX1_says 4 (some .boolean)) ({ frames := fr, cells := mc, slots := ms, locals := lo } : Room) (PcW D cA sz0 H0 (.ref (sz0 + r) :: As) M) Qc mc ms (Aw sz0)) (hR : fr + 1 ≤ R.frames ∧ 8 + (4 + 11) + lo ≤ R.locals) (hk : wk M r = 1) (hn : As.length = 2) (hst : st0 = As.reverse ++ .ref (sz0 + r) :: st) (hcat : (st.map fun v => v.category).sum ≤ 8) (d : decode cc pc = .ok (.invokevirtual 63, 3)) (hb : cells + mc ≤ R.cells ∧ slots + ms ≤ R.slots) : ∀ (ls : Array Slot) (H : Heap) (locs : List Loc), lv_has ls nL lv → Wd D cA sz0 H0 M H → va_S (Aw sz0) s.heap H locs → va_Run p l e R s m args below meth c H locs cells slots mc ms (F0 m pc ls st0) st (Qc (Value.ref (sz0 + r) :: As).toArray) (Aw sz0) := r_V cx hM q741 q742 q743 q122 q744 rfl hd_X1_says hR cl_X1 (by decide) hk hn hst hcat d hb
theorem hd_X4_costs : yX4_costs.cls ≠ "java/lang/invoke/MethodHandle" ∧ yX4_costs.cls ≠ "java/lang/invoke/VarHandle" ∧ (parseMethodDescriptor yX4_costs.desc).map (fun d => d.parameters.length) = some 0 := by decide +kernel
theorem kcq781_X0 {p : Program} {l : Launch} {e : Env} {R : Room} {s : State} {m : MethodId} {args : Array Value} {below : List Frame} {meth : Method} {c : Code} {cells slots : Nat}  {cc : ByteArray} {nL : Nat} {ret : Option FieldType} {D : va_G} {cA : Nat → ClassId} {sz0 : Nat} {H0 : Heap} {pc : Nat} {lv : List (Nat × Value)} {st : List Value} {M : WM} {r : Nat} {mc ms fr lo : Nat} {st0 As : List Value} {Qc : Array Value → State → Outcome → State → Prop} (cx : Cx p s m args meth c cc nL RX0 ret D cA sz0 H0) (hM : Met l yX4_costs (ws_ yX4_costs cX4_costs 1 (some .int)) ({ frames := fr, cells := mc, slots := ms, locals := lo } : Room) (PcW D cA sz0 H0 (.ref (sz0 + r) :: As) M) Qc mc ms (Aw sz0)) (hR : fr + 1 ≤ R.frames ∧ 8 + (1 + 11) + lo ≤ R.locals) (hk : wk M r = 3) (hn : As.length = 0) (hst : st0 = As.reverse ++ .ref (sz0 + r) :: st) (hcat : (st.map fun v => v.category).sum ≤ 8) (d : decode cc pc = .ok (.invokevirtual 217, 3)) (hb : cells + mc ≤ R.cells ∧ slots + ms ≤ R.slots) : ∀ (ls : Array Slot) (H : Heap) (locs : List Loc), lv_has ls nL lv → Wd D cA sz0 H0 M H → va_S (Aw sz0) s.heap H locs → va_Run p l e R s m args below meth c H locs cells slots mc ms (F0 m pc ls st0) st (Qc (Value.ref (sz0 + r) :: As).toArray) (Aw sz0) := r_V cx hM q781 q782 q783 q125 q784 rfl hd_X4_costs hR cl_X4 (by decide) hk hn hst hcat d hb
theorem hd_X1_tells : yX1_tells.cls ≠ "java/lang/invoke/MethodHandle" ∧ yX1_tells.cls ≠ "java/lang/invoke/VarHandle" ∧ (parseMethodDescriptor yX1_tells.desc).map (fun d => d.parameters.length) = some 3 := by decide +kernel
theorem kcq785_X4 {p : Program} {l : Launch} {e : Env} {R : Room} {s : State} {m : MethodId} {args : Array Value} {below : List Frame} {meth : Method} {c : Code} {cells slots : Nat}  {cc : ByteArray} {nL : Nat} {ret : Option FieldType} {D : va_G} {cA : Nat → ClassId} {sz0 : Nat} {H0 : Heap} {pc : Nat} {lv : List (Nat × Value)} {st : List Value} {M : WM} {r : Nat} {mc ms fr lo : Nat} {st0 As : List Value} {Qc : Array Value → State → Outcome → State → Prop} (cx : Cx p s m args meth c cc nL RX4 ret D cA sz0 H0) (hM : Met l yX1_tells (ws_ yX1_tells cX1_tells 5 (some .int)) ({ frames := fr, cells := mc, slots := ms, locals := lo } : Room) (PcW D cA sz0 H0 (.ref (sz0 + r) :: As) M) Qc mc ms (Aw sz0)) (hR : fr + 1 ≤ R.frames ∧ 8 + (5 + 11) + lo ≤ R.locals) (hk : wk M r = 1) (hn : As.length = 3) (hst : st0 = As.reverse ++ .ref (sz0 + r) :: st) (hcat : (st.map fun v => v.category).sum ≤ 8) (d : decode cc pc = .ok (.invokevirtual 69, 3)) (hb : cells + mc ≤ R.cells ∧ slots + ms ≤ R.slots) : ∀ (ls : Array Slot) (H : Heap) (locs : List Loc), lv_has ls nL lv → Wd D cA sz0 H0 M H → va_S (Aw sz0) s.heap H locs → va_Run p l e R s m args below meth c H locs cells slots mc ms (F0 m pc ls st0) st (Qc (Value.ref (sz0 + r) :: As).toArray) (Aw sz0) := r_V cx hM q785 q786 q787 q122 q788 rfl hd_X1_tells hR cl_X1 (by decide) hk hn hst hcat d hb
theorem hd_X0_areChanged : yX0_areChanged.cls ≠ "java/lang/invoke/MethodHandle" ∧ yX0_areChanged.cls ≠ "java/lang/invoke/VarHandle" ∧ (parseMethodDescriptor yX0_areChanged.desc).map (fun d => d.parameters.length) = some 3 := by decide +kernel
theorem kcq799_X0 {p : Program} {l : Launch} {e : Env} {R : Room} {s : State} {m : MethodId} {args : Array Value} {below : List Frame} {meth : Method} {c : Code} {cells slots : Nat}  {cc : ByteArray} {nL : Nat} {ret : Option FieldType} {D : va_G} {cA : Nat → ClassId} {sz0 : Nat} {H0 : Heap} {pc : Nat} {lv : List (Nat × Value)} {st : List Value} {M : WM} {r : Nat} {mc ms fr lo : Nat} {st0 As : List Value} {Qc : Array Value → State → Outcome → State → Prop} (cx : Cx p s m args meth c cc nL RX0 ret D cA sz0 H0) (hM : Met l yX0_areChanged (ws_ yX0_areChanged cX0_areChanged 4 (some .boolean)) ({ frames := fr, cells := mc, slots := ms, locals := lo } : Room) (PcW D cA sz0 H0 (.ref (sz0 + r) :: As) M) Qc mc ms (Aw sz0)) (hR : fr + 1 ≤ R.frames ∧ 8 + (4 + 11) + lo ≤ R.locals) (hk : wk M r = 0) (hn : As.length = 3) (hst : st0 = As.reverse ++ .ref (sz0 + r) :: st) (hcat : (st.map fun v => v.category).sum ≤ 8) (d : decode cc pc = .ok (.invokevirtual 201, 3)) (hb : cells + mc ≤ R.cells ∧ slots + ms ≤ R.slots) : ∀ (ls : Array Slot) (H : Heap) (locs : List Loc), lv_has ls nL lv → Wd D cA sz0 H0 M H → va_S (Aw sz0) s.heap H locs → va_Run p l e R s m args below meth c H locs cells slots mc ms (F0 m pc ls st0) st (Qc (Value.ref (sz0 + r) :: As).toArray) (Aw sz0) := r_V cx hM q799 q801 qs24 q121 q802 rfl hd_X0_areChanged hR cl_X0 (by decide) hk hn hst hcat d hb
theorem hd_X2_isWithout : yX2_isWithout.cls ≠ "java/lang/invoke/MethodHandle" ∧ yX2_isWithout.cls ≠ "java/lang/invoke/VarHandle" ∧ (parseMethodDescriptor yX2_isWithout.desc).map (fun d => d.parameters.length) = some 2 := by decide +kernel
theorem kcq803_X0 {p : Program} {l : Launch} {e : Env} {R : Room} {s : State} {m : MethodId} {args : Array Value} {below : List Frame} {meth : Method} {c : Code} {cells slots : Nat}  {cc : ByteArray} {nL : Nat} {ret : Option FieldType} {D : va_G} {cA : Nat → ClassId} {sz0 : Nat} {H0 : Heap} {pc : Nat} {lv : List (Nat × Value)} {st : List Value} {M : WM} {r : Nat} {mc ms fr lo : Nat} {st0 As : List Value} {Qc : Array Value → State → Outcome → State → Prop} (cx : Cx p s m args meth c cc nL RX0 ret D cA sz0 H0) (hM : Met l yX2_isWithout (ws_ yX2_isWithout cX2_isWithout 4 (some .boolean)) ({ frames := fr, cells := mc, slots := ms, locals := lo } : Room) (PcW D cA sz0 H0 (.ref (sz0 + r) :: As) M) Qc mc ms (Aw sz0)) (hR : fr + 1 ≤ R.frames ∧ 8 + (4 + 11) + lo ≤ R.locals) (hk : wk M r = 2) (hn : As.length = 2) (hst : st0 = As.reverse ++ .ref (sz0 + r) :: st) (hcat : (st.map fun v => v.category).sum ≤ 8) (d : decode cc pc = .ok (.invokevirtual 205, 3)) (hb : cells + mc ≤ R.cells ∧ slots + ms ≤ R.slots) : ∀ (ls : Array Slot) (H : Heap) (locs : List Loc), lv_has ls nL lv → Wd D cA sz0 H0 M H → va_S (Aw sz0) s.heap H locs → va_Run p l e R s m args below meth c H locs cells slots mc ms (F0 m pc ls st0) st (Qc (Value.ref (sz0 + r) :: As).toArray) (Aw sz0) := r_V cx hM q803 q804 q805 q123 q806 rfl hd_X2_isWithout hR cl_X2 (by decide) hk hn hst hcat d hb
theorem hd_X0_isStep : yX0_isStep.cls ≠ "java/lang/invoke/MethodHandle" ∧ yX0_isStep.cls ≠ "java/lang/invoke/VarHandle" ∧ (parseMethodDescriptor yX0_isStep.desc).map (fun d => d.parameters.length) = some 2 := by decide +kernel
theorem kcq808_X0 {p : Program} {l : Launch} {e : Env} {R : Room} {s : State} {m : MethodId} {args : Array Value} {below : List Frame} {meth : Method} {c : Code} {cells slots : Nat}  {cc : ByteArray} {nL : Nat} {ret : Option FieldType} {D : va_G} {cA : Nat → ClassId} {sz0 : Nat} {H0 : Heap} {pc : Nat} {lv : List (Nat × Value)} {st : List Value} {M : WM} {r : Nat} {mc ms fr lo : Nat} {st0 As : List Value} {Qc : Array Value → State → Outcome → State → Prop} (cx : Cx p s m args meth c cc nL RX0 ret D cA sz0 H0) (hM : Met l yX0_isStep (ws_ yX0_isStep cX0_isStep 3 (some .boolean)) ({ frames := fr, cells := mc, slots := ms, locals := lo } : Room) (PcW D cA sz0 H0 (.ref (sz0 + r) :: As) M) Qc mc ms (Aw sz0)) (hR : fr + 1 ≤ R.frames ∧ 8 + (3 + 11) + lo ≤ R.locals) (hk : wk M r = 0) (hn : As.length = 2) (hst : st0 = As.reverse ++ .ref (sz0 + r) :: st) (hcat : (st.map fun v => v.category).sum ≤ 8) (d : decode cc pc = .ok (.invokevirtual 244, 3)) (hb : cells + mc ≤ R.cells ∧ slots + ms ≤ R.slots) : ∀ (ls : Array Slot) (H : Heap) (locs : List Loc), lv_has ls nL lv → Wd D cA sz0 H0 M H → va_S (Aw sz0) s.heap H locs → va_Run p l e R s m args below meth c H locs cells slots mc ms (F0 m pc ls st0) st (Qc (Value.ref (sz0 + r) :: As).toArray) (Aw sz0) := r_V cx hM q808 q810 qs25 q121 q811 rfl hd_X0_isStep hR cl_X0 (by decide) hk hn hst hcat d hb
theorem hd_X0_costOf : yX0_costOf.cls ≠ "java/lang/invoke/MethodHandle" ∧ yX0_costOf.cls ≠ "java/lang/invoke/VarHandle" ∧ (parseMethodDescriptor yX0_costOf.desc).map (fun d => d.parameters.length) = some 2 := by decide +kernel
theorem kcq816_X0 {p : Program} {l : Launch} {e : Env} {R : Room} {s : State} {m : MethodId} {args : Array Value} {below : List Frame} {meth : Method} {c : Code} {cells slots : Nat}  {cc : ByteArray} {nL : Nat} {ret : Option FieldType} {D : va_G} {cA : Nat → ClassId} {sz0 : Nat} {H0 : Heap} {pc : Nat} {lv : List (Nat × Value)} {st : List Value} {M : WM} {r : Nat} {mc ms fr lo : Nat} {st0 As : List Value} {Qc : Array Value → State → Outcome → State → Prop} (cx : Cx p s m args meth c cc nL RX0 ret D cA sz0 H0) (hM : Met l yX0_costOf (ws_ yX0_costOf cX0_costOf 3 (some .int)) ({ frames := fr, cells := mc, slots := ms, locals := lo } : Room) (PcW D cA sz0 H0 (.ref (sz0 + r) :: As) M) Qc mc ms (Aw sz0)) (hR : fr + 1 ≤ R.frames ∧ 8 + (3 + 11) + lo ≤ R.locals) (hk : wk M r = 0) (hn : As.length = 2) (hst : st0 = As.reverse ++ .ref (sz0 + r) :: st) (hcat : (st.map fun v => v.category).sum ≤ 8) (d : decode cc pc = .ok (.invokevirtual 247, 3)) (hb : cells + mc ≤ R.cells ∧ slots + ms ≤ R.slots) : ∀ (ls : Array Slot) (H : Heap) (locs : List Loc), lv_has ls nL lv → Wd D cA sz0 H0 M H → va_S (Aw sz0) s.heap H locs → va_Run p l e R s m args below meth c H locs cells slots mc ms (F0 m pc ls st0) st (Qc (Value.ref (sz0 + r) :: As).toArray) (Aw sz0) := r_V cx hM q816 q818 qs26 q121 q819 rfl hd_X0_costOf hR cl_X0 (by decide) hk hn hst hcat d hb
theorem hd_X0_next : yX0_next.cls ≠ "java/lang/invoke/MethodHandle" ∧ yX0_next.cls ≠ "java/lang/invoke/VarHandle" ∧ (parseMethodDescriptor yX0_next.desc).map (fun d => d.parameters.length) = some 2 := by decide +kernel
theorem kcq820_X0 {p : Program} {l : Launch} {e : Env} {R : Room} {s : State} {m : MethodId} {args : Array Value} {below : List Frame} {meth : Method} {c : Code} {cells slots : Nat}  {cc : ByteArray} {nL : Nat} {ret : Option FieldType} {D : va_G} {cA : Nat → ClassId} {sz0 : Nat} {H0 : Heap} {pc : Nat} {lv : List (Nat × Value)} {st : List Value} {M : WM} {r : Nat} {mc ms fr lo : Nat} {st0 As : List Value} {Qc : Array Value → State → Outcome → State → Prop} (cx : Cx p s m args meth c cc nL RX0 ret D cA sz0 H0) (hM : Met l yX0_next (ws_ yX0_next cX0_next 4 (some .int)) ({ frames := fr, cells := mc, slots := ms, locals := lo } : Room) (PcW D cA sz0 H0 (.ref (sz0 + r) :: As) M) Qc mc ms (Aw sz0)) (hR : fr + 1 ≤ R.frames ∧ 8 + (4 + 11) + lo ≤ R.locals) (hk : wk M r = 0) (hn : As.length = 2) (hst : st0 = As.reverse ++ .ref (sz0 + r) :: st) (hcat : (st.map fun v => v.category).sum ≤ 8) (d : decode cc pc = .ok (.invokevirtual 250, 3)) (hb : cells + mc ≤ R.cells ∧ slots + ms ≤ R.slots) : ∀ (ls : Array Slot) (H : Heap) (locs : List Loc), lv_has ls nL lv → Wd D cA sz0 H0 M H → va_S (Aw sz0) s.heap H locs → va_Run p l e R s m args below meth c H locs cells slots mc ms (F0 m pc ls st0) st (Qc (Value.ref (sz0 + r) :: As).toArray) (Aw sz0) := r_V cx hM q820 q822 qs27 q121 q823 rfl hd_X0_next hR cl_X0 (by decide) hk hn hst hcat d hb
theorem hd_X0_rowsTo : yX0_rowsTo.cls ≠ "java/lang/invoke/MethodHandle" ∧ yX0_rowsTo.cls ≠ "java/lang/invoke/VarHandle" ∧ (parseMethodDescriptor yX0_rowsTo.desc).map (fun d => d.parameters.length) = some 2 := by decide +kernel
theorem kcq829_X0 {p : Program} {l : Launch} {e : Env} {R : Room} {s : State} {m : MethodId} {args : Array Value} {below : List Frame} {meth : Method} {c : Code} {cells slots : Nat}  {cc : ByteArray} {nL : Nat} {ret : Option FieldType} {D : va_G} {cA : Nat → ClassId} {sz0 : Nat} {H0 : Heap} {pc : Nat} {lv : List (Nat × Value)} {st : List Value} {M : WM} {r : Nat} {mc ms fr lo : Nat} {st0 As : List Value} {Qc : Array Value → State → Outcome → State → Prop} (cx : Cx p s m args meth c cc nL RX0 ret D cA sz0 H0) (hM : Met l yX0_rowsTo (ws_ yX0_rowsTo cX0_rowsTo 6 (some .long)) ({ frames := fr, cells := mc, slots := ms, locals := lo } : Room) (PcW D cA sz0 H0 (.ref (sz0 + r) :: As) M) Qc mc ms (Aw sz0)) (hR : fr + 1 ≤ R.frames ∧ 8 + (6 + 11) + lo ≤ R.locals) (hk : wk M r = 0) (hn : As.length = 2) (hst : st0 = As.reverse ++ .ref (sz0 + r) :: st) (hcat : (st.map fun v => v.category).sum ≤ 8) (d : decode cc pc = .ok (.invokevirtual 253, 3)) (hb : cells + mc ≤ R.cells ∧ slots + ms ≤ R.slots) : ∀ (ls : Array Slot) (H : Heap) (locs : List Loc), lv_has ls nL lv → Wd D cA sz0 H0 M H → va_S (Aw sz0) s.heap H locs → va_Run p l e R s m args below meth c H locs cells slots mc ms (F0 m pc ls st0) st (Qc (Value.ref (sz0 + r) :: As).toArray) (Aw sz0) := r_V cx hM q829 q831 qs28 q121 q832 rfl hd_X0_rowsTo hR cl_X0 (by decide) hk hn hst hcat d hb
theorem hd_X0_reachWithout : yX0_reachWithout.cls ≠ "java/lang/invoke/MethodHandle" ∧ yX0_reachWithout.cls ≠ "java/lang/invoke/VarHandle" ∧ (parseMethodDescriptor yX0_reachWithout.desc).map (fun d => d.parameters.length) = some 2 := by decide +kernel
theorem kcq838_X0 {p : Program} {l : Launch} {e : Env} {R : Room} {s : State} {m : MethodId} {args : Array Value} {below : List Frame} {meth : Method} {c : Code} {cells slots : Nat}  {cc : ByteArray} {nL : Nat} {ret : Option FieldType} {D : va_G} {cA : Nat → ClassId} {sz0 : Nat} {H0 : Heap} {pc : Nat} {lv : List (Nat × Value)} {st : List Value} {M : WM} {r : Nat} {mc ms fr lo : Nat} {st0 As : List Value} {Qc : Array Value → State → Outcome → State → Prop} (cx : Cx p s m args meth c cc nL RX0 ret D cA sz0 H0) (hM : Met l yX0_reachWithout (ws_ yX0_reachWithout cX0_reachWithout 9 (some .long)) ({ frames := fr, cells := mc, slots := ms, locals := lo } : Room) (PcW D cA sz0 H0 (.ref (sz0 + r) :: As) M) Qc mc ms (Aw sz0)) (hR : fr + 1 ≤ R.frames ∧ 8 + (9 + 11) + lo ≤ R.locals) (hk : wk M r = 0) (hn : As.length = 2) (hst : st0 = As.reverse ++ .ref (sz0 + r) :: st) (hcat : (st.map fun v => v.category).sum ≤ 8) (d : decode cc pc = .ok (.invokevirtual 261, 3)) (hb : cells + mc ≤ R.cells ∧ slots + ms ≤ R.slots) : ∀ (ls : Array Slot) (H : Heap) (locs : List Loc), lv_has ls nL lv → Wd D cA sz0 H0 M H → va_S (Aw sz0) s.heap H locs → va_Run p l e R s m args below meth c H locs cells slots mc ms (F0 m pc ls st0) st (Qc (Value.ref (sz0 + r) :: As).toArray) (Aw sz0) := r_V cx hM q838 q840 qs29 q121 q841 rfl hd_X0_reachWithout hR cl_X0 (by decide) hk hn hst hcat d hb
theorem hd_X0_heapOf : yX0_heapOf.cls ≠ "java/lang/invoke/MethodHandle" ∧ yX0_heapOf.cls ≠ "java/lang/invoke/VarHandle" ∧ (parseMethodDescriptor yX0_heapOf.desc).map (fun d => d.parameters.length) = some 1 := by decide +kernel
theorem kcq846_X0 {p : Program} {l : Launch} {e : Env} {R : Room} {s : State} {m : MethodId} {args : Array Value} {below : List Frame} {meth : Method} {c : Code} {cells slots : Nat}  {cc : ByteArray} {nL : Nat} {ret : Option FieldType} {D : va_G} {cA : Nat → ClassId} {sz0 : Nat} {H0 : Heap} {pc : Nat} {lv : List (Nat × Value)} {st : List Value} {M : WM} {r : Nat} {mc ms fr lo : Nat} {st0 As : List Value} {Qc : Array Value → State → Outcome → State → Prop} (cx : Cx p s m args meth c cc nL RX0 ret D cA sz0 H0) (hM : Met l yX0_heapOf (ws_ yX0_heapOf cX0_heapOf 3 (some .int)) ({ frames := fr, cells := mc, slots := ms, locals := lo } : Room) (PcW D cA sz0 H0 (.ref (sz0 + r) :: As) M) Qc mc ms (Aw sz0)) (hR : fr + 1 ≤ R.frames ∧ 8 + (3 + 11) + lo ≤ R.locals) (hk : wk M r = 0) (hn : As.length = 1) (hst : st0 = As.reverse ++ .ref (sz0 + r) :: st) (hcat : (st.map fun v => v.category).sum ≤ 8) (d : decode cc pc = .ok (.invokevirtual 264, 3)) (hb : cells + mc ≤ R.cells ∧ slots + ms ≤ R.slots) : ∀ (ls : Array Slot) (H : Heap) (locs : List Loc), lv_has ls nL lv → Wd D cA sz0 H0 M H → va_S (Aw sz0) s.heap H locs → va_Run p l e R s m args below meth c H locs cells slots mc ms (F0 m pc ls st0) st (Qc (Value.ref (sz0 + r) :: As).toArray) (Aw sz0) := r_V cx hM q846 q848 qs30 q121 q849 rfl hd_X0_heapOf hR cl_X0 (by decide) hk hn hst hcat d hb
theorem hd_X0_twosBy : yX0_twosBy.cls ≠ "java/lang/invoke/MethodHandle" ∧ yX0_twosBy.cls ≠ "java/lang/invoke/VarHandle" ∧ (parseMethodDescriptor yX0_twosBy.desc).map (fun d => d.parameters.length) = some 1 := by decide +kernel
theorem kcq862_X0 {p : Program} {l : Launch} {e : Env} {R : Room} {s : State} {m : MethodId} {args : Array Value} {below : List Frame} {meth : Method} {c : Code} {cells slots : Nat}  {cc : ByteArray} {nL : Nat} {ret : Option FieldType} {D : va_G} {cA : Nat → ClassId} {sz0 : Nat} {H0 : Heap} {pc : Nat} {lv : List (Nat × Value)} {st : List Value} {M : WM} {r : Nat} {mc ms fr lo : Nat} {st0 As : List Value} {Qc : Array Value → State → Outcome → State → Prop} (cx : Cx p s m args meth c cc nL RX0 ret D cA sz0 H0) (hM : Met l yX0_twosBy (ws_ yX0_twosBy cX0_twosBy 5 (some .int)) ({ frames := fr, cells := mc, slots := ms, locals := lo } : Room) (PcW D cA sz0 H0 (.ref (sz0 + r) :: As) M) Qc mc ms (Aw sz0)) (hR : fr + 1 ≤ R.frames ∧ 8 + (5 + 11) + lo ≤ R.locals) (hk : wk M r = 0) (hn : As.length = 1) (hst : st0 = As.reverse ++ .ref (sz0 + r) :: st) (hcat : (st.map fun v => v.category).sum ≤ 8) (d : decode cc pc = .ok (.invokevirtual 268, 3)) (hb : cells + mc ≤ R.cells ∧ slots + ms ≤ R.slots) : ∀ (ls : Array Slot) (H : Heap) (locs : List Loc), lv_has ls nL lv → Wd D cA sz0 H0 M H → va_S (Aw sz0) s.heap H locs → va_Run p l e R s m args below meth c H locs cells slots mc ms (F0 m pc ls st0) st (Qc (Value.ref (sz0 + r) :: As).toArray) (Aw sz0) := r_V cx hM q862 q864 qs31 q121 q865 rfl hd_X0_twosBy hR cl_X0 (by decide) hk hn hst hcat d hb
theorem hd_X0_triesLetters : yX0_triesLetters.cls ≠ "java/lang/invoke/MethodHandle" ∧ yX0_triesLetters.cls ≠ "java/lang/invoke/VarHandle" ∧ (parseMethodDescriptor yX0_triesLetters.desc).map (fun d => d.parameters.length) = some 3 := by decide +kernel
theorem kcq870_X0 {p : Program} {l : Launch} {e : Env} {R : Room} {s : State} {m : MethodId} {args : Array Value} {below : List Frame} {meth : Method} {c : Code} {cells slots : Nat}  {cc : ByteArray} {nL : Nat} {ret : Option FieldType} {D : va_G} {cA : Nat → ClassId} {sz0 : Nat} {H0 : Heap} {pc : Nat} {lv : List (Nat × Value)} {st : List Value} {M : WM} {r : Nat} {mc ms fr lo : Nat} {st0 As : List Value} {Qc : Array Value → State → Outcome → State → Prop} (cx : Cx p s m args meth c cc nL RX0 ret D cA sz0 H0) (hM : Met l yX0_triesLetters (ws_ yX0_triesLetters cX0_triesLetters 6 none) ({ frames := fr, cells := mc, slots := ms, locals := lo } : Room) (PcW D cA sz0 H0 (.ref (sz0 + r) :: As) M) Qc mc ms (Aw sz0)) (hR : fr + 1 ≤ R.frames ∧ 8 + (6 + 11) + lo ≤ R.locals) (hk : wk M r = 0) (hn : As.length = 3) (hst : st0 = As.reverse ++ .ref (sz0 + r) :: st) (hcat : (st.map fun v => v.category).sum ≤ 8) (d : decode cc pc = .ok (.invokevirtual 293, 3)) (hb : cells + mc ≤ R.cells ∧ slots + ms ≤ R.slots) : ∀ (ls : Array Slot) (H : Heap) (locs : List Loc), lv_has ls nL lv → Wd D cA sz0 H0 M H → va_S (Aw sz0) s.heap H locs → va_Run p l e R s m args below meth c H locs cells slots mc ms (F0 m pc ls st0) st (Qc (Value.ref (sz0 + r) :: As).toArray) (Aw sz0) := r_V cx hM q870 q872 qs32 q121 q873 rfl hd_X0_triesLetters hR cl_X0 (by decide) hk hn hst hcat d hb
theorem hd_X0_triesNew : yX0_triesNew.cls ≠ "java/lang/invoke/MethodHandle" ∧ yX0_triesNew.cls ≠ "java/lang/invoke/VarHandle" ∧ (parseMethodDescriptor yX0_triesNew.desc).map (fun d => d.parameters.length) = some 0 := by decide +kernel
theorem kcq874_X0 {p : Program} {l : Launch} {e : Env} {R : Room} {s : State} {m : MethodId} {args : Array Value} {below : List Frame} {meth : Method} {c : Code} {cells slots : Nat}  {cc : ByteArray} {nL : Nat} {ret : Option FieldType} {D : va_G} {cA : Nat → ClassId} {sz0 : Nat} {H0 : Heap} {pc : Nat} {lv : List (Nat × Value)} {st : List Value} {M : WM} {r : Nat} {mc ms fr lo : Nat} {st0 As : List Value} {Qc : Array Value → State → Outcome → State → Prop} (cx : Cx p s m args meth c cc nL RX0 ret D cA sz0 H0) (hM : Met l yX0_triesNew (ws_ yX0_triesNew cX0_triesNew 5 none) ({ frames := fr, cells := mc, slots := ms, locals := lo } : Room) (PcW D cA sz0 H0 (.ref (sz0 + r) :: As) M) Qc mc ms (Aw sz0)) (hR : fr + 1 ≤ R.frames ∧ 8 + (5 + 11) + lo ≤ R.locals) (hk : wk M r = 0) (hn : As.length = 0) (hst : st0 = As.reverse ++ .ref (sz0 + r) :: st) (hcat : (st.map fun v => v.category).sum ≤ 8) (d : decode cc pc = .ok (.invokevirtual 290, 3)) (hb : cells + mc ≤ R.cells ∧ slots + ms ≤ R.slots) : ∀ (ls : Array Slot) (H : Heap) (locs : List Loc), lv_has ls nL lv → Wd D cA sz0 H0 M H → va_S (Aw sz0) s.heap H locs → va_Run p l e R s m args below meth c H locs cells slots mc ms (F0 m pc ls st0) st (Qc (Value.ref (sz0 + r) :: As).toArray) (Aw sz0) := r_V cx hM q874 q876 qs33 q121 q877 rfl hd_X0_triesNew hR cl_X0 (by decide) hk hn hst hcat d hb
theorem hd_X0_areOneOff : yX0_areOneOff.cls ≠ "java/lang/invoke/MethodHandle" ∧ yX0_areOneOff.cls ≠ "java/lang/invoke/VarHandle" ∧ (parseMethodDescriptor yX0_areOneOff.desc).map (fun d => d.parameters.length) = some 2 := by decide +kernel
theorem kcq878_X0 {p : Program} {l : Launch} {e : Env} {R : Room} {s : State} {m : MethodId} {args : Array Value} {below : List Frame} {meth : Method} {c : Code} {cells slots : Nat}  {cc : ByteArray} {nL : Nat} {ret : Option FieldType} {D : va_G} {cA : Nat → ClassId} {sz0 : Nat} {H0 : Heap} {pc : Nat} {lv : List (Nat × Value)} {st : List Value} {M : WM} {r : Nat} {mc ms fr lo : Nat} {st0 As : List Value} {Qc : Array Value → State → Outcome → State → Prop} (cx : Cx p s m args meth c cc nL RX0 ret D cA sz0 H0) (hM : Met l yX0_areOneOff (ws_ yX0_areOneOff cX0_areOneOff 6 (some .boolean)) ({ frames := fr, cells := mc, slots := ms, locals := lo } : Room) (PcW D cA sz0 H0 (.ref (sz0 + r) :: As) M) Qc mc ms (Aw sz0)) (hR : fr + 1 ≤ R.frames ∧ 8 + (6 + 11) + lo ≤ R.locals) (hk : wk M r = 0) (hn : As.length = 2) (hst : st0 = As.reverse ++ .ref (sz0 + r) :: st) (hcat : (st.map fun v => v.category).sum ≤ 8) (d : decode cc pc = .ok (.invokevirtual 271, 3)) (hb : cells + mc ≤ R.cells ∧ slots + ms ≤ R.slots) : ∀ (ls : Array Slot) (H : Heap) (locs : List Loc), lv_has ls nL lv → Wd D cA sz0 H0 M H → va_S (Aw sz0) s.heap H locs → va_Run p l e R s m args below meth c H locs cells slots mc ms (F0 m pc ls st0) st (Qc (Value.ref (sz0 + r) :: As).toArray) (Aw sz0) := r_V cx hM q878 q880 qs34 q121 q881 rfl hd_X0_areOneOff hR cl_X0 (by decide) hk hn hst hcat d hb
theorem hd_J6_bitCount : yJ6_bitCount.cls ≠ "java/lang/invoke/MethodHandle" ∧ yJ6_bitCount.cls ≠ "java/lang/invoke/VarHandle" ∧ (parseMethodDescriptor yJ6_bitCount.desc).map (fun d => d.parameters.length) = some 1 := by decide +kernel
theorem kcq882_X0 {p : Program} {l : Launch} {e : Env} {R : Room} {s : State} {m : MethodId} {args : Array Value} {below : List Frame} {meth : Method} {c : Code} {cells slots : Nat}  {cc : ByteArray} {nL : Nat} {ret : Option FieldType} {D : va_G} {cA : Nat → ClassId} {sz0 : Nat} {H0 : Heap} {pc : Nat} {lv : List (Nat × Value)} {st : List Value} {M : WM}  {mc ms fr lo : Nat} {st0 As : List Value} {Qc : Array Value → State → Outcome → State → Prop} (cx : Cx p s m args meth c cc nL RX0 ret D cA sz0 H0) (hM : Met l yJ6_bitCount (ws_ yJ6_bitCount cJ6_bitCount 2 (some .int)) ({ frames := fr, cells := mc, slots := ms, locals := lo } : Room) (PcW D cA sz0 H0 As M) Qc mc ms (Aw sz0)) (hR : fr + 1 ≤ R.frames ∧ 8 + (2 + 11) + lo ≤ R.locals) (hn : As.length = 1) (hst : st0 = As.reverse ++ st) (hcat : (st.map fun v => v.category).sum ≤ 8) (d : decode cc pc = .ok (.invokestatic 275, 3)) (hb : cells + mc ≤ R.cells ∧ slots + ms ≤ R.slots) : ∀ (ls : Array Slot) (H : Heap) (locs : List Loc), lv_has ls nL lv → Wd D cA sz0 H0 M H → va_S (Aw sz0) s.heap H locs → va_Run p l e R s m args below meth c H locs cells slots mc ms (F0 m pc ls st0) st (Qc As.toArray) (Aw sz0) := r_S cx hM q882 q883 q143 q884 hd_J6_bitCount hR hn hst hcat d hb
theorem hd_X2_isAhead : yX2_isAhead.cls ≠ "java/lang/invoke/MethodHandle" ∧ yX2_isAhead.cls ≠ "java/lang/invoke/VarHandle" ∧ (parseMethodDescriptor yX2_isAhead.desc).map (fun d => d.parameters.length) = some 1 := by decide +kernel
theorem kcq888_X0 {p : Program} {l : Launch} {e : Env} {R : Room} {s : State} {m : MethodId} {args : Array Value} {below : List Frame} {meth : Method} {c : Code} {cells slots : Nat}  {cc : ByteArray} {nL : Nat} {ret : Option FieldType} {D : va_G} {cA : Nat → ClassId} {sz0 : Nat} {H0 : Heap} {pc : Nat} {lv : List (Nat × Value)} {st : List Value} {M : WM} {r : Nat} {mc ms fr lo : Nat} {st0 As : List Value} {Qc : Array Value → State → Outcome → State → Prop} (cx : Cx p s m args meth c cc nL RX0 ret D cA sz0 H0) (hM : Met l yX2_isAhead (ws_ yX2_isAhead cX2_isAhead 3 (some .boolean)) ({ frames := fr, cells := mc, slots := ms, locals := lo } : Room) (PcW D cA sz0 H0 (.ref (sz0 + r) :: As) M) Qc mc ms (Aw sz0)) (hR : fr + 1 ≤ R.frames ∧ 8 + (3 + 11) + lo ≤ R.locals) (hk : wk M r = 2) (hn : As.length = 1) (hst : st0 = As.reverse ++ .ref (sz0 + r) :: st) (hcat : (st.map fun v => v.category).sum ≤ 8) (d : decode cc pc = .ok (.invokevirtual 287, 3)) (hb : cells + mc ≤ R.cells ∧ slots + ms ≤ R.slots) : ∀ (ls : Array Slot) (H : Heap) (locs : List Loc), lv_has ls nL lv → Wd D cA sz0 H0 M H → va_S (Aw sz0) s.heap H locs → va_Run p l e R s m args below meth c H locs cells slots mc ms (F0 m pc ls st0) st (Qc (Value.ref (sz0 + r) :: As).toArray) (Aw sz0) := r_V cx hM q888 q889 q890 q123 q891 rfl hd_X2_isAhead hR cl_X2 (by decide) hk hn hst hcat d hb
theorem hd_X0_triesFewer : yX0_triesFewer.cls ≠ "java/lang/invoke/MethodHandle" ∧ yX0_triesFewer.cls ≠ "java/lang/invoke/VarHandle" ∧ (parseMethodDescriptor yX0_triesFewer.desc).map (fun d => d.parameters.length) = some 2 := by decide +kernel
theorem kcq892_X0 {p : Program} {l : Launch} {e : Env} {R : Room} {s : State} {m : MethodId} {args : Array Value} {below : List Frame} {meth : Method} {c : Code} {cells slots : Nat}  {cc : ByteArray} {nL : Nat} {ret : Option FieldType} {D : va_G} {cA : Nat → ClassId} {sz0 : Nat} {H0 : Heap} {pc : Nat} {lv : List (Nat × Value)} {st : List Value} {M : WM} {r : Nat} {mc ms fr lo : Nat} {st0 As : List Value} {Qc : Array Value → State → Outcome → State → Prop} (cx : Cx p s m args meth c cc nL RX0 ret D cA sz0 H0) (hM : Met l yX0_triesFewer (ws_ yX0_triesFewer cX0_triesFewer 4 none) ({ frames := fr, cells := mc, slots := ms, locals := lo } : Room) (PcW D cA sz0 H0 (.ref (sz0 + r) :: As) M) Qc mc ms (Aw sz0)) (hR : fr + 1 ≤ R.frames ∧ 8 + (4 + 11) + lo ≤ R.locals) (hk : wk M r = 0) (hn : As.length = 2) (hst : st0 = As.reverse ++ .ref (sz0 + r) :: st) (hcat : (st.map fun v => v.category).sum ≤ 8) (d : decode cc pc = .ok (.invokevirtual 297, 3)) (hb : cells + mc ≤ R.cells ∧ slots + ms ≤ R.slots) : ∀ (ls : Array Slot) (H : Heap) (locs : List Loc), lv_has ls nL lv → Wd D cA sz0 H0 M H → va_S (Aw sz0) s.heap H locs → va_Run p l e R s m args below meth c H locs cells slots mc ms (F0 m pc ls st0) st (Qc (Value.ref (sz0 + r) :: As).toArray) (Aw sz0) := r_V cx hM q892 q894 qs35 q121 q895 rfl hd_X0_triesFewer hR cl_X0 (by decide) hk hn hst hcat d hb
theorem hd_X0_triesAbout : yX0_triesAbout.cls ≠ "java/lang/invoke/MethodHandle" ∧ yX0_triesAbout.cls ≠ "java/lang/invoke/VarHandle" ∧ (parseMethodDescriptor yX0_triesAbout.desc).map (fun d => d.parameters.length) = some 2 := by decide +kernel
theorem kcq896_X0 {p : Program} {l : Launch} {e : Env} {R : Room} {s : State} {m : MethodId} {args : Array Value} {below : List Frame} {meth : Method} {c : Code} {cells slots : Nat}  {cc : ByteArray} {nL : Nat} {ret : Option FieldType} {D : va_G} {cA : Nat → ClassId} {sz0 : Nat} {H0 : Heap} {pc : Nat} {lv : List (Nat × Value)} {st : List Value} {M : WM} {r : Nat} {mc ms fr lo : Nat} {st0 As : List Value} {Qc : Array Value → State → Outcome → State → Prop} (cx : Cx p s m args meth c cc nL RX0 ret D cA sz0 H0) (hM : Met l yX0_triesAbout (ws_ yX0_triesAbout cX0_triesAbout 3 none) ({ frames := fr, cells := mc, slots := ms, locals := lo } : Room) (PcW D cA sz0 H0 (.ref (sz0 + r) :: As) M) Qc mc ms (Aw sz0)) (hR : fr + 1 ≤ R.frames ∧ 8 + (3 + 11) + lo ≤ R.locals) (hk : wk M r = 0) (hn : As.length = 2) (hst : st0 = As.reverse ++ .ref (sz0 + r) :: st) (hcat : (st.map fun v => v.category).sum ≤ 8) (d : decode cc pc = .ok (.invokevirtual 301, 3)) (hb : cells + mc ≤ R.cells ∧ slots + ms ≤ R.slots) : ∀ (ls : Array Slot) (H : Heap) (locs : List Loc), lv_has ls nL lv → Wd D cA sz0 H0 M H → va_S (Aw sz0) s.heap H locs → va_Run p l e R s m args below meth c H locs cells slots mc ms (F0 m pc ls st0) st (Qc (Value.ref (sz0 + r) :: As).toArray) (Aw sz0) := r_V cx hM q896 q898 qs36 q121 q899 rfl hd_X0_triesAbout hR cl_X0 (by decide) hk hn hst hcat d hb
theorem hd_X0_takesUsed : yX0_takesUsed.cls ≠ "java/lang/invoke/MethodHandle" ∧ yX0_takesUsed.cls ≠ "java/lang/invoke/VarHandle" ∧ (parseMethodDescriptor yX0_takesUsed.desc).map (fun d => d.parameters.length) = some 1 := by decide +kernel
theorem kcq908_X0 {p : Program} {l : Launch} {e : Env} {R : Room} {s : State} {m : MethodId} {args : Array Value} {below : List Frame} {meth : Method} {c : Code} {cells slots : Nat}  {cc : ByteArray} {nL : Nat} {ret : Option FieldType} {D : va_G} {cA : Nat → ClassId} {sz0 : Nat} {H0 : Heap} {pc : Nat} {lv : List (Nat × Value)} {st : List Value} {M : WM} {r : Nat} {mc ms fr lo : Nat} {st0 As : List Value} {Qc : Array Value → State → Outcome → State → Prop} (cx : Cx p s m args meth c cc nL RX0 ret D cA sz0 H0) (hM : Met l yX0_takesUsed (ws_ yX0_takesUsed cX0_takesUsed 3 (some .boolean)) ({ frames := fr, cells := mc, slots := ms, locals := lo } : Room) (PcW D cA sz0 H0 (.ref (sz0 + r) :: As) M) Qc mc ms (Aw sz0)) (hR : fr + 1 ≤ R.frames ∧ 8 + (3 + 11) + lo ≤ R.locals) (hk : wk M r = 0) (hn : As.length = 1) (hst : st0 = As.reverse ++ .ref (sz0 + r) :: st) (hcat : (st.map fun v => v.category).sum ≤ 8) (d : decode cc pc = .ok (.invokevirtual 314, 3)) (hb : cells + mc ≤ R.cells ∧ slots + ms ≤ R.slots) : ∀ (ls : Array Slot) (H : Heap) (locs : List Loc), lv_has ls nL lv → Wd D cA sz0 H0 M H → va_S (Aw sz0) s.heap H locs → va_Run p l e R s m args below meth c H locs cells slots mc ms (F0 m pc ls st0) st (Qc (Value.ref (sz0 + r) :: As).toArray) (Aw sz0) := r_V cx hM q908 q910 qs37 q121 q911 rfl hd_X0_takesUsed hR cl_X0 (by decide) hk hn hst hcat d hb
theorem hd_X0_takesWords : yX0_takesWords.cls ≠ "java/lang/invoke/MethodHandle" ∧ yX0_takesWords.cls ≠ "java/lang/invoke/VarHandle" ∧ (parseMethodDescriptor yX0_takesWords.desc).map (fun d => d.parameters.length) = some 1 := by decide +kernel
theorem kcq912_X0 {p : Program} {l : Launch} {e : Env} {R : Room} {s : State} {m : MethodId} {args : Array Value} {below : List Frame} {meth : Method} {c : Code} {cells slots : Nat}  {cc : ByteArray} {nL : Nat} {ret : Option FieldType} {D : va_G} {cA : Nat → ClassId} {sz0 : Nat} {H0 : Heap} {pc : Nat} {lv : List (Nat × Value)} {st : List Value} {M : WM} {r : Nat} {mc ms fr lo : Nat} {st0 As : List Value} {Qc : Array Value → State → Outcome → State → Prop} (cx : Cx p s m args meth c cc nL RX0 ret D cA sz0 H0) (hM : Met l yX0_takesWords (ws_ yX0_takesWords cX0_takesWords 5 (some .boolean)) ({ frames := fr, cells := mc, slots := ms, locals := lo } : Room) (PcW D cA sz0 H0 (.ref (sz0 + r) :: As) M) Qc mc ms (Aw sz0)) (hR : fr + 1 ≤ R.frames ∧ 8 + (5 + 11) + lo ≤ R.locals) (hk : wk M r = 0) (hn : As.length = 1) (hst : st0 = As.reverse ++ .ref (sz0 + r) :: st) (hcat : (st.map fun v => v.category).sum ≤ 8) (d : decode cc pc = .ok (.invokevirtual 307, 3)) (hb : cells + mc ≤ R.cells ∧ slots + ms ≤ R.slots) : ∀ (ls : Array Slot) (H : Heap) (locs : List Loc), lv_has ls nL lv → Wd D cA sz0 H0 M H → va_S (Aw sz0) s.heap H locs → va_Run p l e R s m args below meth c H locs cells slots mc ms (F0 m pc ls st0) st (Qc (Value.ref (sz0 + r) :: As).toArray) (Aw sz0) := r_V cx hM q912 q914 qs38 q121 q915 rfl hd_X0_takesWords hR cl_X0 (by decide) hk hn hst hcat d hb
theorem hd_X0_sorts : yX0_sorts.cls ≠ "java/lang/invoke/MethodHandle" ∧ yX0_sorts.cls ≠ "java/lang/invoke/VarHandle" ∧ (parseMethodDescriptor yX0_sorts.desc).map (fun d => d.parameters.length) = some 0 := by decide +kernel
theorem kcq916_X0 {p : Program} {l : Launch} {e : Env} {R : Room} {s : State} {m : MethodId} {args : Array Value} {below : List Frame} {meth : Method} {c : Code} {cells slots : Nat}  {cc : ByteArray} {nL : Nat} {ret : Option FieldType} {D : va_G} {cA : Nat → ClassId} {sz0 : Nat} {H0 : Heap} {pc : Nat} {lv : List (Nat × Value)} {st : List Value} {M : WM} {r : Nat} {mc ms fr lo : Nat} {st0 As : List Value} {Qc : Array Value → State → Outcome → State → Prop} (cx : Cx p s m args meth c cc nL RX0 ret D cA sz0 H0) (hM : Met l yX0_sorts (ws_ yX0_sorts cX0_sorts 4 none) ({ frames := fr, cells := mc, slots := ms, locals := lo } : Room) (PcW D cA sz0 H0 (.ref (sz0 + r) :: As) M) Qc mc ms (Aw sz0)) (hR : fr + 1 ≤ R.frames ∧ 8 + (4 + 11) + lo ≤ R.locals) (hk : wk M r = 0) (hn : As.length = 0) (hst : st0 = As.reverse ++ .ref (sz0 + r) :: st) (hcat : (st.map fun v => v.category).sum ≤ 8) (d : decode cc pc = .ok (.invokevirtual 317, 3)) (hb : cells + mc ≤ R.cells ∧ slots + ms ≤ R.slots) : ∀ (ls : Array Slot) (H : Heap) (locs : List Loc), lv_has ls nL lv → Wd D cA sz0 H0 M H → va_S (Aw sz0) s.heap H locs → va_Run p l e R s m args below meth c H locs cells slots mc ms (F0 m pc ls st0) st (Qc (Value.ref (sz0 + r) :: As).toArray) (Aw sz0) := r_V cx hM q916 q918 qs39 q121 q919 rfl hd_X0_sorts hR cl_X0 (by decide) hk hn hst hcat d hb
theorem hd_X0_leastRest : yX0_leastRest.cls ≠ "java/lang/invoke/MethodHandle" ∧ yX0_leastRest.cls ≠ "java/lang/invoke/VarHandle" ∧ (parseMethodDescriptor yX0_leastRest.desc).map (fun d => d.parameters.length) = some 2 := by decide +kernel
theorem kcq920_X0 {p : Program} {l : Launch} {e : Env} {R : Room} {s : State} {m : MethodId} {args : Array Value} {below : List Frame} {meth : Method} {c : Code} {cells slots : Nat}  {cc : ByteArray} {nL : Nat} {ret : Option FieldType} {D : va_G} {cA : Nat → ClassId} {sz0 : Nat} {H0 : Heap} {pc : Nat} {lv : List (Nat × Value)} {st : List Value} {M : WM} {r : Nat} {mc ms fr lo : Nat} {st0 As : List Value} {Qc : Array Value → State → Outcome → State → Prop} (cx : Cx p s m args meth c cc nL RX0 ret D cA sz0 H0) (hM : Met l yX0_leastRest (ws_ yX0_leastRest cX0_leastRest 5 (some .int)) ({ frames := fr, cells := mc, slots := ms, locals := lo } : Room) (PcW D cA sz0 H0 (.ref (sz0 + r) :: As) M) Qc mc ms (Aw sz0)) (hR : fr + 1 ≤ R.frames ∧ 8 + (5 + 11) + lo ≤ R.locals) (hk : wk M r = 0) (hn : As.length = 2) (hst : st0 = As.reverse ++ .ref (sz0 + r) :: st) (hcat : (st.map fun v => v.category).sum ≤ 8) (d : decode cc pc = .ok (.invokevirtual 320, 3)) (hb : cells + mc ≤ R.cells ∧ slots + ms ≤ R.slots) : ∀ (ls : Array Slot) (H : Heap) (locs : List Loc), lv_has ls nL lv → Wd D cA sz0 H0 M H → va_S (Aw sz0) s.heap H locs → va_Run p l e R s m args below meth c H locs cells slots mc ms (F0 m pc ls st0) st (Qc (Value.ref (sz0 + r) :: As).toArray) (Aw sz0) := r_V cx hM q920 q922 qs40 q121 q923 rfl hd_X0_leastRest hR cl_X0 (by decide) hk hn hst hcat d hb
theorem hd_X0_restBy : yX0_restBy.cls ≠ "java/lang/invoke/MethodHandle" ∧ yX0_restBy.cls ≠ "java/lang/invoke/VarHandle" ∧ (parseMethodDescriptor yX0_restBy.desc).map (fun d => d.parameters.length) = some 3 := by decide +kernel
theorem kcq924_X0 {p : Program} {l : Launch} {e : Env} {R : Room} {s : State} {m : MethodId} {args : Array Value} {below : List Frame} {meth : Method} {c : Code} {cells slots : Nat}  {cc : ByteArray} {nL : Nat} {ret : Option FieldType} {D : va_G} {cA : Nat → ClassId} {sz0 : Nat} {H0 : Heap} {pc : Nat} {lv : List (Nat × Value)} {st : List Value} {M : WM} {r : Nat} {mc ms fr lo : Nat} {st0 As : List Value} {Qc : Array Value → State → Outcome → State → Prop} (cx : Cx p s m args meth c cc nL RX0 ret D cA sz0 H0) (hM : Met l yX0_restBy (ws_ yX0_restBy cX0_restBy 5 (some .int)) ({ frames := fr, cells := mc, slots := ms, locals := lo } : Room) (PcW D cA sz0 H0 (.ref (sz0 + r) :: As) M) Qc mc ms (Aw sz0)) (hR : fr + 1 ≤ R.frames ∧ 8 + (5 + 11) + lo ≤ R.locals) (hk : wk M r = 0) (hn : As.length = 3) (hst : st0 = As.reverse ++ .ref (sz0 + r) :: st) (hcat : (st.map fun v => v.category).sum ≤ 8) (d : decode cc pc = .ok (.invokevirtual 310, 3)) (hb : cells + mc ≤ R.cells ∧ slots + ms ≤ R.slots) : ∀ (ls : Array Slot) (H : Heap) (locs : List Loc), lv_has ls nL lv → Wd D cA sz0 H0 M H → va_S (Aw sz0) s.heap H locs → va_Run p l e R s m args below meth c H locs cells slots mc ms (F0 m pc ls st0) st (Qc (Value.ref (sz0 + r) :: As).toArray) (Aw sz0) := r_V cx hM q924 q926 qs41 q121 q927 rfl hd_X0_restBy hR cl_X0 (by decide) hk hn hst hcat d hb
theorem hd_X0_winsBy : yX0_winsBy.cls ≠ "java/lang/invoke/MethodHandle" ∧ yX0_winsBy.cls ≠ "java/lang/invoke/VarHandle" ∧ (parseMethodDescriptor yX0_winsBy.desc).map (fun d => d.parameters.length) = some 3 := by decide +kernel
theorem kcq932_X0 {p : Program} {l : Launch} {e : Env} {R : Room} {s : State} {m : MethodId} {args : Array Value} {below : List Frame} {meth : Method} {c : Code} {cells slots : Nat}  {cc : ByteArray} {nL : Nat} {ret : Option FieldType} {D : va_G} {cA : Nat → ClassId} {sz0 : Nat} {H0 : Heap} {pc : Nat} {lv : List (Nat × Value)} {st : List Value} {M : WM} {r : Nat} {mc ms fr lo : Nat} {st0 As : List Value} {Qc : Array Value → State → Outcome → State → Prop} (cx : Cx p s m args meth c cc nL RX0 ret D cA sz0 H0) (hM : Met l yX0_winsBy (ws_ yX0_winsBy cX0_winsBy 4 (some .boolean)) ({ frames := fr, cells := mc, slots := ms, locals := lo } : Room) (PcW D cA sz0 H0 (.ref (sz0 + r) :: As) M) Qc mc ms (Aw sz0)) (hR : fr + 1 ≤ R.frames ∧ 8 + (4 + 11) + lo ≤ R.locals) (hk : wk M r = 0) (hn : As.length = 3) (hst : st0 = As.reverse ++ .ref (sz0 + r) :: st) (hcat : (st.map fun v => v.category).sum ≤ 8) (d : decode cc pc = .ok (.invokevirtual 323, 3)) (hb : cells + mc ≤ R.cells ∧ slots + ms ≤ R.slots) : ∀ (ls : Array Slot) (H : Heap) (locs : List Loc), lv_has ls nL lv → Wd D cA sz0 H0 M H → va_S (Aw sz0) s.heap H locs → va_Run p l e R s m args below meth c H locs cells slots mc ms (F0 m pc ls st0) st (Qc (Value.ref (sz0 + r) :: As).toArray) (Aw sz0) := r_V cx hM q932 q934 qs42 q121 q935 rfl hd_X0_winsBy hR cl_X0 (by decide) hk hn hst hcat d hb
theorem hd_X0_farOf : yX0_farOf.cls ≠ "java/lang/invoke/MethodHandle" ∧ yX0_farOf.cls ≠ "java/lang/invoke/VarHandle" ∧ (parseMethodDescriptor yX0_farOf.desc).map (fun d => d.parameters.length) = some 2 := by decide +kernel
theorem kcq940_X0 {p : Program} {l : Launch} {e : Env} {R : Room} {s : State} {m : MethodId} {args : Array Value} {below : List Frame} {meth : Method} {c : Code} {cells slots : Nat}  {cc : ByteArray} {nL : Nat} {ret : Option FieldType} {D : va_G} {cA : Nat → ClassId} {sz0 : Nat} {H0 : Heap} {pc : Nat} {lv : List (Nat × Value)} {st : List Value} {M : WM} {r : Nat} {mc ms fr lo : Nat} {st0 As : List Value} {Qc : Array Value → State → Outcome → State → Prop} (cx : Cx p s m args meth c cc nL RX0 ret D cA sz0 H0) (hM : Met l yX0_farOf (ws_ yX0_farOf cX0_farOf 6 (some .int)) ({ frames := fr, cells := mc, slots := ms, locals := lo } : Room) (PcW D cA sz0 H0 (.ref (sz0 + r) :: As) M) Qc mc ms (Aw sz0)) (hR : fr + 1 ≤ R.frames ∧ 8 + (6 + 11) + lo ≤ R.locals) (hk : wk M r = 0) (hn : As.length = 2) (hst : st0 = As.reverse ++ .ref (sz0 + r) :: st) (hcat : (st.map fun v => v.category).sum ≤ 8) (d : decode cc pc = .ok (.invokevirtual 326, 3)) (hb : cells + mc ≤ R.cells ∧ slots + ms ≤ R.slots) : ∀ (ls : Array Slot) (H : Heap) (locs : List Loc), lv_has ls nL lv → Wd D cA sz0 H0 M H → va_S (Aw sz0) s.heap H locs → va_Run p l e R s m args below meth c H locs cells slots mc ms (F0 m pc ls st0) st (Qc (Value.ref (sz0 + r) :: As).toArray) (Aw sz0) := r_V cx hM q940 q942 qs43 q121 q943 rfl hd_X0_farOf hR cl_X0 (by decide) hk hn hst hcat d hb
theorem hd_J7_bitCount : yJ7_bitCount.cls ≠ "java/lang/invoke/MethodHandle" ∧ yJ7_bitCount.cls ≠ "java/lang/invoke/VarHandle" ∧ (parseMethodDescriptor yJ7_bitCount.desc).map (fun d => d.parameters.length) = some 1 := by decide +kernel
theorem kcq952_X0 {p : Program} {l : Launch} {e : Env} {R : Room} {s : State} {m : MethodId} {args : Array Value} {below : List Frame} {meth : Method} {c : Code} {cells slots : Nat}  {cc : ByteArray} {nL : Nat} {ret : Option FieldType} {D : va_G} {cA : Nat → ClassId} {sz0 : Nat} {H0 : Heap} {pc : Nat} {lv : List (Nat × Value)} {st : List Value} {M : WM}  {mc ms fr lo : Nat} {st0 As : List Value} {Qc : Array Value → State → Outcome → State → Prop} (cx : Cx p s m args meth c cc nL RX0 ret D cA sz0 H0) (hM : Met l yJ7_bitCount (ws_ yJ7_bitCount cJ7_bitCount 1 (some .int)) ({ frames := fr, cells := mc, slots := ms, locals := lo } : Room) (PcW D cA sz0 H0 As M) Qc mc ms (Aw sz0)) (hR : fr + 1 ≤ R.frames ∧ 8 + (1 + 11) + lo ≤ R.locals) (hn : As.length = 1) (hst : st0 = As.reverse ++ st) (hcat : (st.map fun v => v.category).sum ≤ 8) (d : decode cc pc = .ok (.invokestatic 329, 3)) (hb : cells + mc ≤ R.cells ∧ slots + ms ≤ R.slots) : ∀ (ls : Array Slot) (H : Heap) (locs : List Loc), lv_has ls nL lv → Wd D cA sz0 H0 M H → va_S (Aw sz0) s.heap H locs → va_Run p l e R s m args below meth c H locs cells slots mc ms (F0 m pc ls st0) st (Qc As.toArray) (Aw sz0) := r_S cx hM q952 q953 q144 q954 hd_J7_bitCount hR hn hst hcat d hb
theorem hd_X0_fills : yX0_fills.cls ≠ "java/lang/invoke/MethodHandle" ∧ yX0_fills.cls ≠ "java/lang/invoke/VarHandle" ∧ (parseMethodDescriptor yX0_fills.desc).map (fun d => d.parameters.length) = some 2 := by decide +kernel
theorem kcq966_X0 {p : Program} {l : Launch} {e : Env} {R : Room} {s : State} {m : MethodId} {args : Array Value} {below : List Frame} {meth : Method} {c : Code} {cells slots : Nat}  {cc : ByteArray} {nL : Nat} {ret : Option FieldType} {D : va_G} {cA : Nat → ClassId} {sz0 : Nat} {H0 : Heap} {pc : Nat} {lv : List (Nat × Value)} {st : List Value} {M : WM} {r : Nat} {mc ms fr lo : Nat} {st0 As : List Value} {Qc : Array Value → State → Outcome → State → Prop} (cx : Cx p s m args meth c cc nL RX0 ret D cA sz0 H0) (hM : Met l yX0_fills (ws_ yX0_fills cX0_fills 6 none) ({ frames := fr, cells := mc, slots := ms, locals := lo } : Room) (PcW D cA sz0 H0 (.ref (sz0 + r) :: As) M) Qc mc ms (Aw sz0)) (hR : fr + 1 ≤ R.frames ∧ 8 + (6 + 11) + lo ≤ R.locals) (hk : wk M r = 0) (hn : As.length = 2) (hst : st0 = As.reverse ++ .ref (sz0 + r) :: st) (hcat : (st.map fun v => v.category).sum ≤ 8) (d : decode cc pc = .ok (.invokevirtual 339, 3)) (hb : cells + mc ≤ R.cells ∧ slots + ms ≤ R.slots) : ∀ (ls : Array Slot) (H : Heap) (locs : List Loc), lv_has ls nL lv → Wd D cA sz0 H0 M H → va_S (Aw sz0) s.heap H locs → va_Run p l e R s m args below meth c H locs cells slots mc ms (F0 m pc ls st0) st (Qc (Value.ref (sz0 + r) :: As).toArray) (Aw sz0) := r_V cx hM q966 q968 qs44 q121 q969 rfl hd_X0_fills hR cl_X0 (by decide) hk hn hst hcat d hb
theorem hd_X0_canColumn : yX0_canColumn.cls ≠ "java/lang/invoke/MethodHandle" ∧ yX0_canColumn.cls ≠ "java/lang/invoke/VarHandle" ∧ (parseMethodDescriptor yX0_canColumn.desc).map (fun d => d.parameters.length) = some 3 := by decide +kernel
theorem kcq970_X0 {p : Program} {l : Launch} {e : Env} {R : Room} {s : State} {m : MethodId} {args : Array Value} {below : List Frame} {meth : Method} {c : Code} {cells slots : Nat}  {cc : ByteArray} {nL : Nat} {ret : Option FieldType} {D : va_G} {cA : Nat → ClassId} {sz0 : Nat} {H0 : Heap} {pc : Nat} {lv : List (Nat × Value)} {st : List Value} {M : WM} {r : Nat} {mc ms fr lo : Nat} {st0 As : List Value} {Qc : Array Value → State → Outcome → State → Prop} (cx : Cx p s m args meth c cc nL RX0 ret D cA sz0 H0) (hM : Met l yX0_canColumn (ws_ yX0_canColumn cX0_canColumn 7 (some .boolean)) ({ frames := fr, cells := mc, slots := ms, locals := lo } : Room) (PcW D cA sz0 H0 (.ref (sz0 + r) :: As) M) Qc mc ms (Aw sz0)) (hR : fr + 1 ≤ R.frames ∧ 8 + (7 + 11) + lo ≤ R.locals) (hk : wk M r = 0) (hn : As.length = 3) (hst : st0 = As.reverse ++ .ref (sz0 + r) :: st) (hcat : (st.map fun v => v.category).sum ≤ 8) (d : decode cc pc = .ok (.invokevirtual 336, 3)) (hb : cells + mc ≤ R.cells ∧ slots + ms ≤ R.slots) : ∀ (ls : Array Slot) (H : Heap) (locs : List Loc), lv_has ls nL lv → Wd D cA sz0 H0 M H → va_S (Aw sz0) s.heap H locs → va_Run p l e R s m args below meth c H locs cells slots mc ms (F0 m pc ls st0) st (Qc (Value.ref (sz0 + r) :: As).toArray) (Aw sz0) := r_V cx hM q970 q972 qs45 q121 q973 rfl hd_X0_canColumn hR cl_X0 (by decide) hk hn hst hcat d hb
theorem hd_X0_stepsFrom : yX0_stepsFrom.cls ≠ "java/lang/invoke/MethodHandle" ∧ yX0_stepsFrom.cls ≠ "java/lang/invoke/VarHandle" ∧ (parseMethodDescriptor yX0_stepsFrom.desc).map (fun d => d.parameters.length) = some 1 := by decide +kernel
theorem kcq983_X0 {p : Program} {l : Launch} {e : Env} {R : Room} {s : State} {m : MethodId} {args : Array Value} {below : List Frame} {meth : Method} {c : Code} {cells slots : Nat}  {cc : ByteArray} {nL : Nat} {ret : Option FieldType} {D : va_G} {cA : Nat → ClassId} {sz0 : Nat} {H0 : Heap} {pc : Nat} {lv : List (Nat × Value)} {st : List Value} {M : WM} {r : Nat} {mc ms fr lo : Nat} {st0 As : List Value} {Qc : Array Value → State → Outcome → State → Prop} (cx : Cx p s m args meth c cc nL RX0 ret D cA sz0 H0) (hM : Met l yX0_stepsFrom (ws_ yX0_stepsFrom cX0_stepsFrom 4 (some .int)) ({ frames := fr, cells := mc, slots := ms, locals := lo } : Room) (PcW D cA sz0 H0 (.ref (sz0 + r) :: As) M) Qc mc ms (Aw sz0)) (hR : fr + 1 ≤ R.frames ∧ 8 + (4 + 11) + lo ≤ R.locals) (hk : wk M r = 0) (hn : As.length = 1) (hst : st0 = As.reverse ++ .ref (sz0 + r) :: st) (hcat : (st.map fun v => v.category).sum ≤ 8) (d : decode cc pc = .ok (.invokevirtual 343, 3)) (hb : cells + mc ≤ R.cells ∧ slots + ms ≤ R.slots) : ∀ (ls : Array Slot) (H : Heap) (locs : List Loc), lv_has ls nL lv → Wd D cA sz0 H0 M H → va_S (Aw sz0) s.heap H locs → va_Run p l e R s m args below meth c H locs cells slots mc ms (F0 m pc ls st0) st (Qc (Value.ref (sz0 + r) :: As).toArray) (Aw sz0) := r_V cx hM q983 q985 qs46 q121 q986 rfl hd_X0_stepsFrom hR cl_X0 (by decide) hk hn hst hcat d hb
theorem hd_X0_stepTo : yX0_stepTo.cls ≠ "java/lang/invoke/MethodHandle" ∧ yX0_stepTo.cls ≠ "java/lang/invoke/VarHandle" ∧ (parseMethodDescriptor yX0_stepTo.desc).map (fun d => d.parameters.length) = some 2 := by decide +kernel
theorem kcq987_X0 {p : Program} {l : Launch} {e : Env} {R : Room} {s : State} {m : MethodId} {args : Array Value} {below : List Frame} {meth : Method} {c : Code} {cells slots : Nat}  {cc : ByteArray} {nL : Nat} {ret : Option FieldType} {D : va_G} {cA : Nat → ClassId} {sz0 : Nat} {H0 : Heap} {pc : Nat} {lv : List (Nat × Value)} {st : List Value} {M : WM} {r : Nat} {mc ms fr lo : Nat} {st0 As : List Value} {Qc : Array Value → State → Outcome → State → Prop} (cx : Cx p s m args meth c cc nL RX0 ret D cA sz0 H0) (hM : Met l yX0_stepTo (ws_ yX0_stepTo cX0_stepTo 5 (some .int)) ({ frames := fr, cells := mc, slots := ms, locals := lo } : Room) (PcW D cA sz0 H0 (.ref (sz0 + r) :: As) M) Qc mc ms (Aw sz0)) (hR : fr + 1 ≤ R.frames ∧ 8 + (5 + 11) + lo ≤ R.locals) (hk : wk M r = 0) (hn : As.length = 2) (hst : st0 = As.reverse ++ .ref (sz0 + r) :: st) (hcat : (st.map fun v => v.category).sum ≤ 8) (d : decode cc pc = .ok (.invokevirtual 346, 3)) (hb : cells + mc ≤ R.cells ∧ slots + ms ≤ R.slots) : ∀ (ls : Array Slot) (H : Heap) (locs : List Loc), lv_has ls nL lv → Wd D cA sz0 H0 M H → va_S (Aw sz0) s.heap H locs → va_Run p l e R s m args below meth c H locs cells slots mc ms (F0 m pc ls st0) st (Qc (Value.ref (sz0 + r) :: As).toArray) (Aw sz0) := r_V cx hM q987 q989 qs47 q121 q990 rfl hd_X0_stepTo hR cl_X0 (by decide) hk hn hst hcat d hb
theorem hd_X0_numberAt : yX0_numberAt.cls ≠ "java/lang/invoke/MethodHandle" ∧ yX0_numberAt.cls ≠ "java/lang/invoke/VarHandle" ∧ (parseMethodDescriptor yX0_numberAt.desc).map (fun d => d.parameters.length) = some 1 := by decide +kernel
theorem kcq999_X0 {p : Program} {l : Launch} {e : Env} {R : Room} {s : State} {m : MethodId} {args : Array Value} {below : List Frame} {meth : Method} {c : Code} {cells slots : Nat}  {cc : ByteArray} {nL : Nat} {ret : Option FieldType} {D : va_G} {cA : Nat → ClassId} {sz0 : Nat} {H0 : Heap} {pc : Nat} {lv : List (Nat × Value)} {st : List Value} {M : WM} {r : Nat} {mc ms fr lo : Nat} {st0 As : List Value} {Qc : Array Value → State → Outcome → State → Prop} (cx : Cx p s m args meth c cc nL RX0 ret D cA sz0 H0) (hM : Met l yX0_numberAt (ws_ yX0_numberAt cX0_numberAt 4 (some .int)) ({ frames := fr, cells := mc, slots := ms, locals := lo } : Room) (PcW D cA sz0 H0 (.ref (sz0 + r) :: As) M) Qc mc ms (Aw sz0)) (hR : fr + 1 ≤ R.frames ∧ 8 + (4 + 11) + lo ≤ R.locals) (hk : wk M r = 0) (hn : As.length = 1) (hst : st0 = As.reverse ++ .ref (sz0 + r) :: st) (hcat : (st.map fun v => v.category).sum ≤ 8) (d : decode cc pc = .ok (.invokevirtual 349, 3)) (hb : cells + mc ≤ R.cells ∧ slots + ms ≤ R.slots) : ∀ (ls : Array Slot) (H : Heap) (locs : List Loc), lv_has ls nL lv → Wd D cA sz0 H0 M H → va_S (Aw sz0) s.heap H locs → va_Run p l e R s m args below meth c H locs cells slots mc ms (F0 m pc ls st0) st (Qc (Value.ref (sz0 + r) :: As).toArray) (Aw sz0) := r_V cx hM q999 q1001 qs48 q121 q1002 rfl hd_X0_numberAt hR cl_X0 (by decide) hk hn hst hcat d hb
/-! LetterHeaps.areChanged(LLetterHeaps$Line;LLetterHeaps$Line;I)Z -/
def m_X0_areChanged (x1 : Nat) (x2 : Nat) (x3 : Int32) (M : WM)  (Q : Int32 → Prop) : Prop := (((wI M x1 1) ≤ (x3 + (1 : Int32)) → Q ((0 : Int32))) ∧ (¬ (wI M x1 1) ≤ (x3 + (1 : Int32)) → (vp_in x3 13 ∧ (vp_in ((x3 + (1 : Int32))) 13 ∧ (((wI M ((x1 + 1)) x3.toNatClampNeg) = (wI M ((x2 + 1)) ((x3 + (1 : Int32))).toNatClampNeg) → (vp_in ((x3 + (1 : Int32))) 13 ∧ (vp_in x3 13 ∧ (((wI M ((x1 + 1)) ((x3 + (1 : Int32))).toNatClampNeg) = (wI M ((x2 + 1)) x3.toNatClampNeg) → Q ((1 : Int32))) ∧ (¬ (wI M ((x1 + 1)) ((x3 + (1 : Int32))).toNatClampNeg) = (wI M ((x2 + 1)) x3.toNatClampNeg) → Q ((0 : Int32))))))) ∧ (¬ (wI M ((x1 + 1)) x3.toNatClampNeg) = (wI M ((x2 + 1)) ((x3 + (1 : Int32))).toNatClampNeg) → Q ((0 : Int32))))))))
theorem c_X0_areChanged (l : Launch) (D : va_G) (cA : Nat → ClassId) (sz0 : Nat) (H0 : Heap) (M : WM) (x1 : Nat) (x2 : Nat) (x3 : Int32) (hx1 : isLn x1) (hx2 : isLn x2)  (Q : Int32 → Prop) (sh : Shp M) (h : m_X0_areChanged x1 x2 x3 M  Q) : Met l yX0_areChanged (ws_ yX0_areChanged cX0_areChanged 4 (some .boolean)) ({ frames := 0, cells := 0, slots := 0, locals := 0 } : Room) (PcW D cA sz0 H0 [.ref (sz0 + 0), .ref (sz0 + x1), .ref (sz0 + x2), .int x3] M) (QW_i D cA sz0 H0 (fun r M' => M' = M ∧ Q r)) 0 0 (Aw sz0) := by
  replace h : (((wI M x1 1) ≤ (x3 + (1 : Int32)) → Q ((0 : Int32))) ∧ (¬ (wI M x1 1) ≤ (x3 + (1 : Int32)) → (vp_in x3 13 ∧ (vp_in ((x3 + (1 : Int32))) 13 ∧ (((wI M ((x1 + 1)) x3.toNatClampNeg) = (wI M ((x2 + 1)) ((x3 + (1 : Int32))).toNatClampNeg) → (vp_in ((x3 + (1 : Int32))) 13 ∧ (vp_in x3 13 ∧ (((wI M ((x1 + 1)) ((x3 + (1 : Int32))).toNatClampNeg) = (wI M ((x2 + 1)) x3.toNatClampNeg) → Q ((1 : Int32))) ∧ (¬ (wI M ((x1 + 1)) ((x3 + (1 : Int32))).toNatClampNeg) = (wI M ((x2 + 1)) x3.toNatClampNeg) → Q ((0 : Int32))))))) ∧ (¬ (wI M ((x1 + 1)) x3.toNatClampNeg) = (wI M ((x2 + 1)) ((x3 + (1 : Int32))).toNatClampNeg) → Q ((0 : Int32)))))))) := h
  refine Met.ofV (by decide +kernel) (Nat.le_of_ble_eq_true rfl) ?_
  intro p e s m args below meth c cx hnm
  replace cx : Cx p s m args meth c cX0_areChanged 4 RX0 (some .boolean) D cA sz0 H0 := cx
  refine v_sub (lv' := [(0, .ref (sz0 + 0)), (1, .ref (sz0 + x1)), (2, .ref (sz0 + x2)), (3, .int x3)]) [0, 1, 2, 3] rfl ?_
  refine v_iload_n (pc := 0) cx dX0_areChanged_0 rfl 3 rfl ?_
  refine v_iconst (pc := 1) cx dX0_areChanged_1 ic_1 ?_
  refine v_iadd (pc := 2) cx dX0_areChanged_2 ?_
  refine v_aload_n (pc := 3) cx dX0_areChanged_3 rfl 1 rfl ?_
  refine gq196_X2 (pc := 4) cx dX0_areChanged_4 (sh.k (hx1).1) ?_
  refine v_icmp_ge (pc := 7) cx dX0_areChanged_7 (tgt := 48) rfl (fun c1 => ?_) (fun c1 => ?_)
  · replace h := h.1 c1
    refine v_iconst (pc := 48) cx dX0_areChanged_48 ic_0 ?_
    exact v_zret cx rfl (Or.inl rfl) dX0_areChanged_49 ⟨Nat.le_of_ble_eq_true rfl, Nat.le_of_ble_eq_true rfl⟩ ⟨rfl, h⟩
  · replace h := h.2 c1
    refine v_aload_n (pc := 10) cx dX0_areChanged_10 rfl 1 rfl ?_
    refine gq193_X2 (pc := 11) cx dX0_areChanged_11 (sh.k (hx1).1) (v_some (sh.r (hx1).2.2.2) ?_)
    refine v_iload_n (pc := 14) cx dX0_areChanged_14 rfl 3 rfl ?_
    obtain ⟨b2, h⟩ := h
    refine v_iald (pc := 15) cx dX0_areChanged_15 (sh.k (hx1).2.1) (sh.l (hx1).2.1 (hx1).2.2.1) b2 ?_
    refine v_aload_n (pc := 16) cx dX0_areChanged_16 rfl 2 rfl ?_
    refine gq193_X2 (pc := 17) cx dX0_areChanged_17 (sh.k (hx2).1) (v_some (sh.r (hx2).2.2.2) ?_)
    refine v_iload_n (pc := 20) cx dX0_areChanged_20 rfl 3 rfl ?_
    refine v_iconst (pc := 21) cx dX0_areChanged_21 ic_1 ?_
    refine v_iadd (pc := 22) cx dX0_areChanged_22 ?_
    obtain ⟨b3, h⟩ := h
    refine v_iald (pc := 23) cx dX0_areChanged_23 (sh.k (hx2).2.1) (sh.l (hx2).2.1 (hx2).2.2.1) b3 ?_
    refine v_icmp_ne (pc := 24) cx dX0_areChanged_24 (tgt := 48) rfl (fun c4 => ?_) (fun c4 => ?_)
    · replace h := h.2 c4
      refine v_iconst (pc := 48) cx dX0_areChanged_48 ic_0 ?_
      exact v_zret cx rfl (Or.inl rfl) dX0_areChanged_49 ⟨Nat.le_of_ble_eq_true rfl, Nat.le_of_ble_eq_true rfl⟩ ⟨rfl, h⟩
    · replace h := h.1 c4
      refine v_aload_n (pc := 27) cx dX0_areChanged_27 rfl 1 rfl ?_
      refine gq193_X2 (pc := 28) cx dX0_areChanged_28 (sh.k (hx1).1) (v_some (sh.r (hx1).2.2.2) ?_)
      refine v_iload_n (pc := 31) cx dX0_areChanged_31 rfl 3 rfl ?_
      refine v_iconst (pc := 32) cx dX0_areChanged_32 ic_1 ?_
      refine v_iadd (pc := 33) cx dX0_areChanged_33 ?_
      obtain ⟨b5, h⟩ := h
      refine v_iald (pc := 34) cx dX0_areChanged_34 (sh.k (hx1).2.1) (sh.l (hx1).2.1 (hx1).2.2.1) b5 ?_
      refine v_aload_n (pc := 35) cx dX0_areChanged_35 rfl 2 rfl ?_
      refine gq193_X2 (pc := 36) cx dX0_areChanged_36 (sh.k (hx2).1) (v_some (sh.r (hx2).2.2.2) ?_)
      refine v_iload_n (pc := 39) cx dX0_areChanged_39 rfl 3 rfl ?_
      obtain ⟨b6, h⟩ := h
      refine v_iald (pc := 40) cx dX0_areChanged_40 (sh.k (hx2).2.1) (sh.l (hx2).2.1 (hx2).2.2.1) b6 ?_
      refine v_icmp_ne (pc := 41) cx dX0_areChanged_41 (tgt := 48) rfl (fun c7 => ?_) (fun c7 => ?_)
      · replace h := h.2 c7
        refine v_iconst (pc := 48) cx dX0_areChanged_48 ic_0 ?_
        exact v_zret cx rfl (Or.inl rfl) dX0_areChanged_49 ⟨Nat.le_of_ble_eq_true rfl, Nat.le_of_ble_eq_true rfl⟩ ⟨rfl, h⟩
      · replace h := h.1 c7
        refine v_iconst (pc := 44) cx dX0_areChanged_44 ic_1 ?_
        refine v_goto (pc := 45) cx dX0_areChanged_45 (tgt := 49) rfl ?_
        exact v_zret cx rfl (Or.inr rfl) dX0_areChanged_49 ⟨Nat.le_of_ble_eq_true rfl, Nat.le_of_ble_eq_true rfl⟩ ⟨rfl, h⟩
/-! LetterHeaps.unlikeMany(LLetterHeaps$Line;LLetterHeaps$Line;)I -/
def m_X0_unlikeMany_l10   (x1 : Nat) (x2 : Nat)   (Q : Int32 → WM → Prop) : Nat → Int32 → Int32 → WM → Prop
  | 0, _, _, _ => False
  | n + 1, x3, x4, M => ((x4 < 0 → Q x3 M) ∧ (¬ x4 < 0 → (vp_in x4 13 ∧ (vp_in x4 13 ∧ (((wI M ((x1 + 1)) x4.toNatClampNeg) = (wI M ((x2 + 1)) x4.toNatClampNeg) → (∀ z8 : Int32, z8 = x4 + ((-1) : Int32) → m_X0_unlikeMany_l10 x1 x2 Q n x3 z8 M)) ∧ (¬ (wI M ((x1 + 1)) x4.toNatClampNeg) = (wI M ((x2 + 1)) x4.toNatClampNeg) → (∀ z5 : Int32, z5 = x3 + (1 : Int32) → (∀ M6 : WM, M6 = wPI M 0 10 x4 → (∀ z7 : Int32, z7 = x4 + ((-1) : Int32) → m_X0_unlikeMany_l10 x1 x2 Q n z5 z7 M6)))))))))
theorem w_X0_unlikeMany_l10 {p : Program} {l : Launch} {e : Env} {s : State} {m : MethodId} {args : Array Value} {below : List Frame} {meth : Method} {c : Code} {D : va_G} {cA : Nat → ClassId} {sz0 : Nat} {H0 : Heap}  {x1 : Nat} {x2 : Nat} {Q : Int32 → WM → Prop}  (cx : Cx p s m args meth c cX0_unlikeMany 5 RX0 (some .int) D cA sz0 H0)   (hx1 : isLn x1) (hx2 : isLn x2)  : ∀ (n : Nat) (x3 : Int32) (x4 : Int32)  (M : WM) (sh : Shp M), m_X0_unlikeMany_l10 x1 x2 Q n x3 x4 M → V p l e ({ frames := 0, cells := 0, slots := 0, locals := 0 } : Room) s m args below meth c 5 D cA sz0 H0 0 0 (MQ below (QW_i D cA sz0 H0 (fun r M' => Q r M' ∧ Shp M')) args s 0 0 (Aw sz0)) 10 [(0, .ref (sz0 + 0)), (1, .ref (sz0 + x1)), (2, .ref (sz0 + x2)), (3, .int x3), (4, .int x4)] [] M := by
  intro n
  induction n with
  | zero => intro x3 x4 M sh h; exact h.elim
  | succ n ih =>
    intro x3 x4 M sh h
    replace h : ((x4 < 0 → Q x3 M) ∧ (¬ x4 < 0 → (vp_in x4 13 ∧ (vp_in x4 13 ∧ (((wI M ((x1 + 1)) x4.toNatClampNeg) = (wI M ((x2 + 1)) x4.toNatClampNeg) → (∀ z8 : Int32, z8 = x4 + ((-1) : Int32) → m_X0_unlikeMany_l10 x1 x2 Q n x3 z8 M)) ∧ (¬ (wI M ((x1 + 1)) x4.toNatClampNeg) = (wI M ((x2 + 1)) x4.toNatClampNeg) → (∀ z5 : Int32, z5 = x3 + (1 : Int32) → (∀ M6 : WM, M6 = wPI M 0 10 x4 → (∀ z7 : Int32, z7 = x4 + ((-1) : Int32) → m_X0_unlikeMany_l10 x1 x2 Q n z5 z7 M6))))))))) := h
    refine v_iload (pc := 10) cx dX0_unlikeMany_10 4 rfl ?_
    refine v_if_lt (pc := 12) cx dX0_unlikeMany_12 (tgt := 50) rfl (fun c1 => ?_) (fun c1 => ?_)
    · replace h := h.1 c1
      refine v_iload_n (pc := 50) cx dX0_unlikeMany_50 rfl 3 rfl ?_
      exact v_iret cx rfl dX0_unlikeMany_51 ⟨Nat.le_of_ble_eq_true rfl, Nat.le_of_ble_eq_true rfl⟩ ⟨h, sh⟩
    · replace h := h.2 c1
      refine v_aload_n (pc := 15) cx dX0_unlikeMany_15 rfl 1 rfl ?_
      refine gq193_X2 (pc := 16) cx dX0_unlikeMany_16 (sh.k (hx1).1) (v_some (sh.r (hx1).2.2.2) ?_)
      refine v_iload (pc := 19) cx dX0_unlikeMany_19 4 rfl ?_
      obtain ⟨b2, h⟩ := h
      refine v_iald (pc := 21) cx dX0_unlikeMany_21 (sh.k (hx1).2.1) (sh.l (hx1).2.1 (hx1).2.2.1) b2 ?_
      refine v_aload_n (pc := 22) cx dX0_unlikeMany_22 rfl 2 rfl ?_
      refine gq193_X2 (pc := 23) cx dX0_unlikeMany_23 (sh.k (hx2).1) (v_some (sh.r (hx2).2.2.2) ?_)
      refine v_iload (pc := 26) cx dX0_unlikeMany_26 4 rfl ?_
      obtain ⟨b3, h⟩ := h
      refine v_iald (pc := 28) cx dX0_unlikeMany_28 (sh.k (hx2).2.1) (sh.l (hx2).2.1 (hx2).2.2.1) b3 ?_
      refine v_icmp_ne (pc := 29) cx dX0_unlikeMany_29 (tgt := 35) rfl (fun c4 => ?_) (fun c4 => ?_)
      · replace h := h.2 c4
        refine nm_x (x3 + (1 : Int32)) (fun z5 ez5 => ?_)
        replace h := h z5 ez5
        refine v_iinc (pc := 35) cx dX0_unlikeMany_35 (q := 3) rfl ((ii_1 _).trans ez5.symm) (Nat.le_of_ble_eq_true rfl) (lv' := [(3, .int z5), (0, .ref (sz0 + 0)), (1, .ref (sz0 + x1)), (2, .ref (sz0 + x2)), (4, .int x4)]) rfl ?_
        refine v_aload_n (pc := 38) cx dX0_unlikeMany_38 rfl 1 rfl ?_
        refine v_iload (pc := 39) cx dX0_unlikeMany_39 4 rfl ?_
        refine pq285_X0 (pc := 41) cx dX0_unlikeMany_41 (sh.k k_0) ?_
        refine v_wld (fun M6 eM6 => ?_)
        replace h := h M6 eM6
        replace sh : Shp M6 := Shp_PI sh eM6
        refine nm_x (x4 + ((-1) : Int32)) (fun z7 ez7 => ?_)
        replace h := h z7 ez7
        refine v_iinc (pc := 44) cx dX0_unlikeMany_44 (q := 4) rfl ((ii_m1 _).trans ez7.symm) (Nat.le_of_ble_eq_true rfl) (lv' := [(4, .int z7), (3, .int z5), (0, .ref (sz0 + 0)), (1, .ref (sz0 + x1)), (2, .ref (sz0 + x2))]) rfl ?_
        refine v_goto (pc := 47) cx dX0_unlikeMany_47 (tgt := 10) rfl ?_
        refine v_sub (lv' := [(0, .ref (sz0 + 0)), (1, .ref (sz0 + x1)), (2, .ref (sz0 + x2)), (3, .int z5), (4, .int z7)]) [2, 3, 4, 1, 0] rfl ?_
        exact ih z5 z7 M6 sh h
      · replace h := h.1 c4
        refine v_goto (pc := 32) cx dX0_unlikeMany_32 (tgt := 44) rfl ?_
        refine nm_x (x4 + ((-1) : Int32)) (fun z8 ez8 => ?_)
        replace h := h z8 ez8
        refine v_iinc (pc := 44) cx dX0_unlikeMany_44 (q := 4) rfl ((ii_m1 _).trans ez8.symm) (Nat.le_of_ble_eq_true rfl) (lv' := [(4, .int z8), (0, .ref (sz0 + 0)), (1, .ref (sz0 + x1)), (2, .ref (sz0 + x2)), (3, .int x3)]) rfl ?_
        refine v_goto (pc := 47) cx dX0_unlikeMany_47 (tgt := 10) rfl ?_
        refine v_sub (lv' := [(0, .ref (sz0 + 0)), (1, .ref (sz0 + x1)), (2, .ref (sz0 + x2)), (3, .int x3), (4, .int z8)]) [1, 2, 3, 4, 0] rfl ?_
        exact ih x3 z8 M sh h
def m_X0_unlikeMany (x1 : Nat) (x2 : Nat) (M : WM)  (Q : Int32 → WM → Prop) : Prop := (∀ z1 : Int32, z1 = ((wI M x1 1) - (1 : Int32)) → (∃ n0, m_X0_unlikeMany_l10 x1 x2 Q n0 ((0 : Int32)) z1 M))
theorem c_X0_unlikeMany (l : Launch) (D : va_G) (cA : Nat → ClassId) (sz0 : Nat) (H0 : Heap) (M : WM) (x1 : Nat) (x2 : Nat) (hx1 : isLn x1) (hx2 : isLn x2)  (Q : Int32 → WM → Prop) (sh : Shp M) (h : m_X0_unlikeMany x1 x2 M  Q) : Met l yX0_unlikeMany (ws_ yX0_unlikeMany cX0_unlikeMany 5 (some .int)) ({ frames := 0, cells := 0, slots := 0, locals := 0 } : Room) (PcW D cA sz0 H0 [.ref (sz0 + 0), .ref (sz0 + x1), .ref (sz0 + x2)] M) (QW_i D cA sz0 H0 (fun r M' => Q r M' ∧ Shp M')) 0 0 (Aw sz0) := by
  replace h : (∀ z1 : Int32, z1 = ((wI M x1 1) - (1 : Int32)) → (∃ n0, m_X0_unlikeMany_l10 x1 x2 Q n0 ((0 : Int32)) z1 M)) := h
  refine Met.ofV (by decide +kernel) (Nat.le_of_ble_eq_true rfl) ?_
  intro p e s m args below meth c cx hnm
  replace cx : Cx p s m args meth c cX0_unlikeMany 5 RX0 (some .int) D cA sz0 H0 := cx
  refine v_sub (lv' := [(0, .ref (sz0 + 0)), (1, .ref (sz0 + x1)), (2, .ref (sz0 + x2))]) [0, 1, 2] rfl ?_
  refine v_iconst (pc := 0) cx dX0_unlikeMany_0 ic_0 ?_
  refine v_istore_n (pc := 1) cx dX0_unlikeMany_1 rfl (Nat.le_of_ble_eq_true rfl) (lv' := [(3, .int (0 : Int32)), (0, .ref (sz0 + 0)), (1, .ref (sz0 + x1)), (2, .ref (sz0 + x2))]) rfl ?_
  refine v_aload_n (pc := 2) cx dX0_unlikeMany_2 rfl 2 rfl ?_
  refine gq196_X2 (pc := 3) cx dX0_unlikeMany_3 (sh.k (hx1).1) ?_
  refine v_iconst (pc := 6) cx dX0_unlikeMany_6 ic_1 ?_
  refine v_isub (pc := 7) cx dX0_unlikeMany_7 ?_
  refine v_topi (fun z1 ez1 => ?_)
  replace h := h z1 ez1
  refine v_istore (pc := 8) cx dX0_unlikeMany_8 (Nat.le_of_ble_eq_true rfl) (lv' := [(4, .int z1), (3, .int (0 : Int32)), (0, .ref (sz0 + 0)), (1, .ref (sz0 + x1)), (2, .ref (sz0 + x2))]) rfl ?_
  refine v_sub (lv' := [(0, .ref (sz0 + 0)), (1, .ref (sz0 + x1)), (2, .ref (sz0 + x2)), (3, .int (0 : Int32)), (4, .int z1)]) [2, 3, 4, 1, 0] rfl ?_
  obtain ⟨n0, h⟩ := h
  exact w_X0_unlikeMany_l10 cx hx1 hx2 n0 ((0 : Int32)) z1 M sh h
/-! LetterHeaps$Line.isWithout(ILLetterHeaps$Line;)Z -/
def m_X2_isWithout_j32  (K2 : Int32 → Prop) (x0 : Nat) (x1 : Int32) (x2 : Nat) (x3 : Int32) (y0 : Int32) (y1 : Nat) (y2 : Int32) (M : WM)  (Q : Int32 → Prop)  : Prop := (vp_in y0 13 ∧ ((y2 = (wI M y1 y0.toNatClampNeg) → (∀ z3 : Int32, z3 = x3 + (1 : Int32) → K2 z3)) ∧ (¬ y2 = (wI M y1 y0.toNatClampNeg) → Q ((0 : Int32)))))
theorem w_X2_isWithout_j32 {p : Program} {l : Launch} {e : Env} {s : State} {m : MethodId} {args : Array Value} {below : List Frame} {meth : Method} {c : Code} {D : va_G} {cA : Nat → ClassId} {sz0 : Nat} {H0 : Heap}  {K2 : Int32 → Prop} {x0 : Nat} {x1 : Int32} {x2 : Nat} {x3 : Int32} {y0 : Int32} {y1 : Nat} {y2 : Int32} {M : WM} {Q : Int32 → Prop}  (cx : Cx p s m args meth c cX2_isWithout 4 RX2 (some .boolean) D cA sz0 H0)  (hK2 : ∀ (x3 : Int32) , K2 x3 → V p l e ({ frames := 0, cells := 0, slots := 0, locals := 0 } : Room) s m args below meth c 4 D cA sz0 H0 0 0 (MQ below (QW_i D cA sz0 H0 (fun r M' => M' = M ∧ Q r)) args s 0 0 (Aw sz0)) 2 [(0, .ref (sz0 + x0)), (1, .int x1), (2, .ref (sz0 + x2)), (3, .int x3)] [] M) (hx0 : isLn x0) (hx2 : isLn x2) (hky1 : shK y1 = some 100) (hly1 : shL y1 = 13) (sh : Shp M)   (h : m_X2_isWithout_j32 K2 x0 x1 x2 x3 y0 y1 y2 M Q ) : V p l e ({ frames := 0, cells := 0, slots := 0, locals := 0 } : Room) s m args below meth c 4 D cA sz0 H0 0 0 (MQ below (QW_i D cA sz0 H0 (fun r M' => M' = M ∧ Q r)) args s 0 0 (Aw sz0)) 32 [(0, .ref (sz0 + x0)), (1, .int x1), (2, .ref (sz0 + x2)), (3, .int x3)] [.int y0, .ref (sz0 + y1), .int y2] M := by
  replace h : (vp_in y0 13 ∧ ((y2 = (wI M y1 y0.toNatClampNeg) → (∀ z3 : Int32, z3 = x3 + (1 : Int32) → K2 z3)) ∧ (¬ y2 = (wI M y1 y0.toNatClampNeg) → Q ((0 : Int32))))) := h
  obtain ⟨b1, h⟩ := h
  refine v_iald (pc := 32) cx dX2_isWithout_32 (sh.k hky1) (sh.l hky1 hly1) b1 ?_
  refine v_icmp_eq (pc := 33) cx dX2_isWithout_33 (tgt := 38) rfl (fun c2 => ?_) (fun c2 => ?_)
  · replace h := h.1 c2
    refine nm_x (x3 + (1 : Int32)) (fun z3 ez3 => ?_)
    replace h := h z3 ez3
    refine v_iinc (pc := 38) cx dX2_isWithout_38 (q := 3) rfl ((ii_1 _).trans ez3.symm) (Nat.le_of_ble_eq_true rfl) (lv' := [(3, .int z3), (0, .ref (sz0 + x0)), (1, .int x1), (2, .ref (sz0 + x2))]) rfl ?_
    refine v_goto (pc := 41) cx dX2_isWithout_41 (tgt := 2) rfl ?_
    refine v_sub (lv' := [(0, .ref (sz0 + x0)), (1, .int x1), (2, .ref (sz0 + x2)), (3, .int z3)]) [1, 2, 3, 0] rfl ?_
    exact hK2 z3 h
  · replace h := h.2 c2
    refine v_iconst (pc := 36) cx dX2_isWithout_36 ic_0 ?_
    exact v_zret cx rfl (Or.inl rfl) dX2_isWithout_37 ⟨Nat.le_of_ble_eq_true rfl, Nat.le_of_ble_eq_true rfl⟩ ⟨rfl, h⟩
def m_X2_isWithout_l2   (x0 : Nat) (x1 : Int32) (x2 : Nat) (M : WM)  (Q : Int32 → Prop) : Nat → Int32 → Prop
  | 0, _ => False
  | n + 1, x3 => (((wI M x2 1) ≤ x3 → (((wI M x2 1) = ((wI M x0 1) - (1 : Int32)) → Q ((1 : Int32))) ∧ (¬ (wI M x2 1) = ((wI M x0 1) - (1 : Int32)) → Q ((0 : Int32))))) ∧ (¬ (wI M x2 1) ≤ x3 → (vp_in x3 13 ∧ ((x1 ≤ x3 → m_X2_isWithout_j32 (fun x3' => m_X2_isWithout_l2 x0 x1 x2 M Q n x3') x0 x1 x2 x3 ((x3 + (1 : Int32))) ((x0 + 1)) ((wI M ((x2 + 1)) x3.toNatClampNeg)) M Q ) ∧ (¬ x1 ≤ x3 → m_X2_isWithout_j32 (fun x3' => m_X2_isWithout_l2 x0 x1 x2 M Q n x3') x0 x1 x2 x3 x3 ((x0 + 1)) ((wI M ((x2 + 1)) x3.toNatClampNeg)) M Q )))))
theorem w_X2_isWithout_l2 {p : Program} {l : Launch} {e : Env} {s : State} {m : MethodId} {args : Array Value} {below : List Frame} {meth : Method} {c : Code} {D : va_G} {cA : Nat → ClassId} {sz0 : Nat} {H0 : Heap}  {x0 : Nat} {x1 : Int32} {x2 : Nat} {M : WM} {Q : Int32 → Prop}  (cx : Cx p s m args meth c cX2_isWithout 4 RX2 (some .boolean) D cA sz0 H0)   (hx0 : isLn x0) (hx2 : isLn x2) (sh : Shp M) : ∀ (n : Nat) (x3 : Int32) , m_X2_isWithout_l2 x0 x1 x2 M Q n x3 → V p l e ({ frames := 0, cells := 0, slots := 0, locals := 0 } : Room) s m args below meth c 4 D cA sz0 H0 0 0 (MQ below (QW_i D cA sz0 H0 (fun r M' => M' = M ∧ Q r)) args s 0 0 (Aw sz0)) 2 [(0, .ref (sz0 + x0)), (1, .int x1), (2, .ref (sz0 + x2)), (3, .int x3)] [] M := by
  intro n
  induction n with
  | zero => intro x3 h; exact h.elim
  | succ n ih =>
    intro x3 h
    replace h : (((wI M x2 1) ≤ x3 → (((wI M x2 1) = ((wI M x0 1) - (1 : Int32)) → Q ((1 : Int32))) ∧ (¬ (wI M x2 1) = ((wI M x0 1) - (1 : Int32)) → Q ((0 : Int32))))) ∧ (¬ (wI M x2 1) ≤ x3 → (vp_in x3 13 ∧ ((x1 ≤ x3 → m_X2_isWithout_j32 (fun x3' => m_X2_isWithout_l2 x0 x1 x2 M Q n x3') x0 x1 x2 x3 ((x3 + (1 : Int32))) ((x0 + 1)) ((wI M ((x2 + 1)) x3.toNatClampNeg)) M Q ) ∧ (¬ x1 ≤ x3 → m_X2_isWithout_j32 (fun x3' => m_X2_isWithout_l2 x0 x1 x2 M Q n x3') x0 x1 x2 x3 x3 ((x0 + 1)) ((wI M ((x2 + 1)) x3.toNatClampNeg)) M Q ))))) := h
    refine v_iload_n (pc := 2) cx dX2_isWithout_2 rfl 3 rfl ?_
    refine v_aload_n (pc := 3) cx dX2_isWithout_3 rfl 2 rfl ?_
    refine gq194_X2 (pc := 4) cx dX2_isWithout_4 (sh.k (hx2).1) ?_
    refine v_icmp_ge (pc := 7) cx dX2_isWithout_7 (tgt := 44) rfl (fun c1 => ?_) (fun c1 => ?_)
    · replace h := h.1 c1
      refine v_aload_n (pc := 44) cx dX2_isWithout_44 rfl 2 rfl ?_
      refine gq194_X2 (pc := 45) cx dX2_isWithout_45 (sh.k (hx2).1) ?_
      refine v_aload_n (pc := 48) cx dX2_isWithout_48 rfl 0 rfl ?_
      refine gq194_X2 (pc := 49) cx dX2_isWithout_49 (sh.k (hx0).1) ?_
      refine v_iconst (pc := 52) cx dX2_isWithout_52 ic_1 ?_
      refine v_isub (pc := 53) cx dX2_isWithout_53 ?_
      refine v_icmp_ne (pc := 54) cx dX2_isWithout_54 (tgt := 61) rfl (fun c2 => ?_) (fun c2 => ?_)
      · replace h := h.2 c2
        refine v_iconst (pc := 61) cx dX2_isWithout_61 ic_0 ?_
        exact v_zret cx rfl (Or.inl rfl) dX2_isWithout_62 ⟨Nat.le_of_ble_eq_true rfl, Nat.le_of_ble_eq_true rfl⟩ ⟨rfl, h⟩
      · replace h := h.1 c2
        refine v_iconst (pc := 57) cx dX2_isWithout_57 ic_1 ?_
        refine v_goto (pc := 58) cx dX2_isWithout_58 (tgt := 62) rfl ?_
        exact v_zret cx rfl (Or.inr rfl) dX2_isWithout_62 ⟨Nat.le_of_ble_eq_true rfl, Nat.le_of_ble_eq_true rfl⟩ ⟨rfl, h⟩
    · replace h := h.2 c1
      refine v_aload_n (pc := 10) cx dX2_isWithout_10 rfl 2 rfl ?_
      refine gq191_X2 (pc := 11) cx dX2_isWithout_11 (sh.k (hx2).1) (v_some (sh.r (hx2).2.2.2) ?_)
      refine v_iload_n (pc := 14) cx dX2_isWithout_14 rfl 3 rfl ?_
      obtain ⟨b3, h⟩ := h
      refine v_iald (pc := 15) cx dX2_isWithout_15 (sh.k (hx2).2.1) (sh.l (hx2).2.1 (hx2).2.2.1) b3 ?_
      refine v_aload_n (pc := 16) cx dX2_isWithout_16 rfl 0 rfl ?_
      refine gq191_X2 (pc := 17) cx dX2_isWithout_17 (sh.k (hx0).1) (v_some (sh.r (hx0).2.2.2) ?_)
      refine v_iload_n (pc := 20) cx dX2_isWithout_20 rfl 3 rfl ?_
      refine v_iload_n (pc := 21) cx dX2_isWithout_21 rfl 1 rfl ?_
      refine v_icmp_ge (pc := 22) cx dX2_isWithout_22 (tgt := 29) rfl (fun c4 => ?_) (fun c4 => ?_)
      · replace h := h.1 c4
        refine v_iload_n (pc := 29) cx dX2_isWithout_29 rfl 3 rfl ?_
        refine v_iconst (pc := 30) cx dX2_isWithout_30 ic_1 ?_
        refine v_iadd (pc := 31) cx dX2_isWithout_31 ?_
        refine v_sub (lv' := [(0, .ref (sz0 + x0)), (1, .int x1), (2, .ref (sz0 + x2)), (3, .int x3)]) [0, 1, 2, 3] rfl ?_
        exact w_X2_isWithout_j32 cx ih hx0 hx2 ((hx0).2.1) ((hx0).2.2.1) sh  h
      · replace h := h.2 c4
        refine v_iload_n (pc := 25) cx dX2_isWithout_25 rfl 3 rfl ?_
        refine v_goto (pc := 26) cx dX2_isWithout_26 (tgt := 32) rfl ?_
        refine v_sub (lv' := [(0, .ref (sz0 + x0)), (1, .int x1), (2, .ref (sz0 + x2)), (3, .int x3)]) [0, 1, 2, 3] rfl ?_
        exact w_X2_isWithout_j32 cx ih hx0 hx2 ((hx0).2.1) ((hx0).2.2.1) sh  h
def m_X2_isWithout (t : Nat) (x1 : Int32) (x2 : Nat) (M : WM)  (Q : Int32 → Prop) : Prop := (∃ n0, m_X2_isWithout_l2 t x1 x2 M Q n0 ((0 : Int32)))
theorem c_X2_isWithout (l : Launch) (D : va_G) (cA : Nat → ClassId) (sz0 : Nat) (H0 : Heap) (M : WM) (t : Nat) (x1 : Int32) (x2 : Nat) (ht : isLn t) (hx2 : isLn x2)  (Q : Int32 → Prop) (sh : Shp M) (h : m_X2_isWithout t x1 x2 M  Q) : Met l yX2_isWithout (ws_ yX2_isWithout cX2_isWithout 4 (some .boolean)) ({ frames := 0, cells := 0, slots := 0, locals := 0 } : Room) (PcW D cA sz0 H0 [.ref (sz0 + t), .int x1, .ref (sz0 + x2)] M) (QW_i D cA sz0 H0 (fun r M' => M' = M ∧ Q r)) 0 0 (Aw sz0) := by
  replace h : (∃ n0, m_X2_isWithout_l2 t x1 x2 M Q n0 ((0 : Int32))) := h
  refine Met.ofV (by decide +kernel) (Nat.le_of_ble_eq_true rfl) ?_
  intro p e s m args below meth c cx hnm
  replace cx : Cx p s m args meth c cX2_isWithout 4 RX2 (some .boolean) D cA sz0 H0 := cx
  refine v_sub (lv' := [(0, .ref (sz0 + t)), (1, .int x1), (2, .ref (sz0 + x2))]) [0, 1, 2] rfl ?_
  refine v_iconst (pc := 0) cx dX2_isWithout_0 ic_0 ?_
  refine v_istore_n (pc := 1) cx dX2_isWithout_1 rfl (Nat.le_of_ble_eq_true rfl) (lv' := [(3, .int (0 : Int32)), (0, .ref (sz0 + t)), (1, .int x1), (2, .ref (sz0 + x2))]) rfl ?_
  refine v_sub (lv' := [(0, .ref (sz0 + t)), (1, .int x1), (2, .ref (sz0 + x2)), (3, .int (0 : Int32))]) [1, 2, 3, 0] rfl ?_
  obtain ⟨n0, h⟩ := h
  exact w_X2_isWithout_l2 cx ht hx2 sh n0 ((0 : Int32)) h
/-! LetterHeaps.areOneOff(LLetterHeaps$Line;LLetterHeaps$Line;)Z -/
def m_X0_areOneOff_l85   (x3 : Nat) (x4 : Nat)   (Q : Int32 → WM → Prop) : Nat → Int32 → WM → Prop
  | 0, _, _ => False
  | n + 1, x5, M => (((wI M x3 1) ≤ x5 → Q ((0 : Int32)) M) ∧ (¬ (wI M x3 1) ≤ x5 → (m_X2_isWithout x3 x5 x4 M (fun (a2 : Int32) => ((a2 = 0 → (∀ z4 : Int32, z4 = x5 + (1 : Int32) → m_X0_areOneOff_l85 x3 x4 Q n z4 M)) ∧ (¬ a2 = 0 → Q ((1 : Int32)) M))))))
theorem w_X0_areOneOff_l85 {p : Program} {l : Launch} {e : Env} {s : State} {m : MethodId} {args : Array Value} {below : List Frame} {meth : Method} {c : Code} {D : va_G} {cA : Nat → ClassId} {sz0 : Nat} {H0 : Heap}  {x3 : Nat} {x4 : Nat} {Q : Int32 → WM → Prop}  (cx : Cx p s m args meth c cX0_areOneOff 6 RX0 (some .boolean) D cA sz0 H0)   (hx3 : isLn x3) (hx4 : isLn x4)  : ∀ (n : Nat) (x5 : Int32)  (M : WM) (sh : Shp M), m_X0_areOneOff_l85 x3 x4 Q n x5 M → V p l e ({ frames := 1, cells := 0, slots := 0, locals := 24 } : Room) s m args below meth c 6 D cA sz0 H0 0 0 (MQ below (QW_i D cA sz0 H0 (fun r M' => Q r M' ∧ Shp M')) args s 0 0 (Aw sz0)) 85 [(3, .ref (sz0 + x3)), (4, .ref (sz0 + x4)), (5, .int x5)] [] M := by
  intro n
  induction n with
  | zero => intro x5 M sh h; exact h.elim
  | succ n ih =>
    intro x5 M sh h
    replace h : (((wI M x3 1) ≤ x5 → Q ((0 : Int32)) M) ∧ (¬ (wI M x3 1) ≤ x5 → (m_X2_isWithout x3 x5 x4 M (fun (a2 : Int32) => ((a2 = 0 → (∀ z4 : Int32, z4 = x5 + (1 : Int32) → m_X0_areOneOff_l85 x3 x4 Q n z4 M)) ∧ (¬ a2 = 0 → Q ((1 : Int32)) M)))))) := h
    refine v_iload (pc := 85) cx dX0_areOneOff_85 2 rfl ?_
    refine v_aload_n (pc := 87) cx dX0_areOneOff_87 rfl 0 rfl ?_
    refine gq196_X2 (pc := 88) cx dX0_areOneOff_88 (sh.k (hx3).1) ?_
    refine v_icmp_ge (pc := 91) cx dX0_areOneOff_91 (tgt := 113) rfl (fun c1 => ?_) (fun c1 => ?_)
    · replace h := h.1 c1
      refine v_iconst (pc := 113) cx dX0_areOneOff_113 ic_0 ?_
      exact v_zret cx rfl (Or.inl rfl) dX0_areOneOff_114 ⟨Nat.le_of_ble_eq_true rfl, Nat.le_of_ble_eq_true rfl⟩ ⟨h, sh⟩
    · replace h := h.2 c1
      refine v_aload_n (pc := 94) cx dX0_areOneOff_94 rfl 0 rfl ?_
      refine v_iload (pc := 95) cx dX0_areOneOff_95 2 rfl ?_
      refine v_aload (pc := 97) cx dX0_areOneOff_97 1 rfl ?_
      refine v_runp_i (pc := 99) cx (kcq803_X0 cx (c_X2_isWithout l D cA sz0 H0 M x3 x5 x4 hx3 hx4 _ sh h) ⟨Nat.le_of_ble_eq_true rfl, Nat.le_of_ble_eq_true rfl⟩ (sh.k (hx3).1) (As := [.int x5, .ref (sz0 + x4)]) rfl rfl (Nat.le_of_ble_eq_true rfl) dX0_areOneOff_99 ⟨Nat.le_of_ble_eq_true rfl, Nat.le_of_ble_eq_true rfl⟩) (fun a2 hq => ?_)
      replace h := hq
      refine v_if_eq (pc := 102) cx dX0_areOneOff_102 (tgt := 107) rfl (fun c3 => ?_) (fun c3 => ?_)
      · replace h := h.1 c3
        refine nm_x (x5 + (1 : Int32)) (fun z4 ez4 => ?_)
        replace h := h z4 ez4
        refine v_iinc (pc := 107) cx dX0_areOneOff_107 (q := 2) rfl ((ii_1 _).trans ez4.symm) (Nat.le_of_ble_eq_true rfl) (lv' := [(5, .int z4), (3, .ref (sz0 + x3)), (4, .ref (sz0 + x4))]) rfl ?_
        refine v_goto (pc := 110) cx dX0_areOneOff_110 (tgt := 85) rfl ?_
        refine v_sub (lv' := [(3, .ref (sz0 + x3)), (4, .ref (sz0 + x4)), (5, .int z4)]) [1, 2, 0] rfl ?_
        exact ih z4 M sh h
      · replace h := h.2 c3
        refine v_iconst (pc := 105) cx dX0_areOneOff_105 ic_1 ?_
        exact v_zret cx rfl (Or.inr rfl) dX0_areOneOff_106 ⟨Nat.le_of_ble_eq_true rfl, Nat.le_of_ble_eq_true rfl⟩ ⟨h, sh⟩
def m_X0_areOneOff_j63   (x1 : Nat) (x2 : Nat) (y0 : Nat)   (Q : Int32 → WM → Prop) (M : WM) : Prop := (((wI M x1 1) ≤ (wI M x2 1) → (∃ n0, m_X0_areOneOff_l85 y0 x1 Q n0 ((0 : Int32)) M)) ∧ (¬ (wI M x1 1) ≤ (wI M x2 1) → (∃ n0, m_X0_areOneOff_l85 y0 x2 Q n0 ((0 : Int32)) M)))
theorem w_X0_areOneOff_j63 {p : Program} {l : Launch} {e : Env} {s : State} {m : MethodId} {args : Array Value} {below : List Frame} {meth : Method} {c : Code} {D : va_G} {cA : Nat → ClassId} {sz0 : Nat} {H0 : Heap}  {x1 : Nat} {x2 : Nat} {y0 : Nat} {Q : Int32 → WM → Prop}  (cx : Cx p s m args meth c cX0_areOneOff 6 RX0 (some .boolean) D cA sz0 H0)   (hx1 : isLn x1) (hx2 : isLn x2) (hy0 : isLn y0)    (M : WM) (sh : Shp M) (h : m_X0_areOneOff_j63 x1 x2 y0 Q M) : V p l e ({ frames := 1, cells := 0, slots := 0, locals := 24 } : Room) s m args below meth c 6 D cA sz0 H0 0 0 (MQ below (QW_i D cA sz0 H0 (fun r M' => Q r M' ∧ Shp M')) args s 0 0 (Aw sz0)) 63 [(1, .ref (sz0 + x1)), (2, .ref (sz0 + x2))] [.ref (sz0 + y0)] M := by
  replace h : (((wI M x1 1) ≤ (wI M x2 1) → (∃ n0, m_X0_areOneOff_l85 y0 x1 Q n0 ((0 : Int32)) M)) ∧ (¬ (wI M x1 1) ≤ (wI M x2 1) → (∃ n0, m_X0_areOneOff_l85 y0 x2 Q n0 ((0 : Int32)) M))) := h
  refine v_astore_n (pc := 63) cx dX0_areOneOff_63 rfl (Nat.le_of_ble_eq_true rfl) (lv' := [(3, .ref (sz0 + y0)), (1, .ref (sz0 + x1)), (2, .ref (sz0 + x2))]) rfl ?_
  refine v_aload_n (pc := 64) cx dX0_areOneOff_64 rfl 1 rfl ?_
  refine gq196_X2 (pc := 65) cx dX0_areOneOff_65 (sh.k (hx1).1) ?_
  refine v_aload_n (pc := 68) cx dX0_areOneOff_68 rfl 2 rfl ?_
  refine gq196_X2 (pc := 69) cx dX0_areOneOff_69 (sh.k (hx2).1) ?_
  refine v_icmp_le (pc := 72) cx dX0_areOneOff_72 (tgt := 79) rfl (fun c1 => ?_) (fun c1 => ?_)
  · replace h := h.1 c1
    refine v_aload_n (pc := 79) cx dX0_areOneOff_79 rfl 1 rfl ?_
    refine v_astore (pc := 80) cx dX0_areOneOff_80 (Nat.le_of_ble_eq_true rfl) (lv' := [(4, .ref (sz0 + x1)), (3, .ref (sz0 + y0)), (1, .ref (sz0 + x1)), (2, .ref (sz0 + x2))]) rfl ?_
    refine v_iconst (pc := 82) cx dX0_areOneOff_82 ic_0 ?_
    refine v_istore (pc := 83) cx dX0_areOneOff_83 (Nat.le_of_ble_eq_true rfl) (lv' := [(5, .int (0 : Int32)), (4, .ref (sz0 + x1)), (3, .ref (sz0 + y0)), (1, .ref (sz0 + x1)), (2, .ref (sz0 + x2))]) rfl ?_
    refine v_sub (lv' := [(3, .ref (sz0 + y0)), (4, .ref (sz0 + x1)), (5, .int (0 : Int32))]) [2, 1, 0] rfl ?_
    obtain ⟨n0, h⟩ := h
    exact w_X0_areOneOff_l85 cx hy0 hx1 n0 ((0 : Int32)) M sh h
  · replace h := h.2 c1
    refine v_aload_n (pc := 75) cx dX0_areOneOff_75 rfl 2 rfl ?_
    refine v_goto (pc := 76) cx dX0_areOneOff_76 (tgt := 80) rfl ?_
    refine v_astore (pc := 80) cx dX0_areOneOff_80 (Nat.le_of_ble_eq_true rfl) (lv' := [(4, .ref (sz0 + x2)), (3, .ref (sz0 + y0)), (1, .ref (sz0 + x1)), (2, .ref (sz0 + x2))]) rfl ?_
    refine v_iconst (pc := 82) cx dX0_areOneOff_82 ic_0 ?_
    refine v_istore (pc := 83) cx dX0_areOneOff_83 (Nat.le_of_ble_eq_true rfl) (lv' := [(5, .int (0 : Int32)), (4, .ref (sz0 + x2)), (3, .ref (sz0 + y0)), (1, .ref (sz0 + x1)), (2, .ref (sz0 + x2))]) rfl ?_
    refine v_sub (lv' := [(3, .ref (sz0 + y0)), (4, .ref (sz0 + x2)), (5, .int (0 : Int32))]) [2, 1, 0] rfl ?_
    obtain ⟨n0, h⟩ := h
    exact w_X0_areOneOff_l85 cx hy0 hx2 n0 ((0 : Int32)) M sh h
def m_X0_areOneOff (x1 : Nat) (x2 : Nat) (M : WM)  (Q : Int32 → WM → Prop) : Prop := (((wI M x1 1) = (wI M x2 1) → (m_X0_unlikeMany x1 x2 M (fun (a3 : Int32) (M4 : WM) => ((a3 = (1 : Int32) → Q ((1 : Int32)) M4) ∧ (¬ a3 = (1 : Int32) → ((a3 = (2 : Int32) → (m_X0_areChanged x1 x2 ((wI M4 0 10)) M4 (fun (a7 : Int32) => ((a7 = 0 → Q ((0 : Int32)) M4) ∧ (¬ a7 = 0 → Q ((1 : Int32)) M4))))) ∧ (¬ a3 = (2 : Int32) → Q ((0 : Int32)) M4))))))) ∧ (¬ (wI M x1 1) = (wI M x2 1) → (((wI M x1 1) ≤ (wI M x2 1) → m_X0_areOneOff_j63 x1 x2 x2 Q M) ∧ (¬ (wI M x1 1) ≤ (wI M x2 1) → m_X0_areOneOff_j63 x1 x2 x1 Q M))))
theorem c_X0_areOneOff (l : Launch) (D : va_G) (cA : Nat → ClassId) (sz0 : Nat) (H0 : Heap) (M : WM) (x1 : Nat) (x2 : Nat) (hx1 : isLn x1) (hx2 : isLn x2)  (Q : Int32 → WM → Prop) (sh : Shp M) (h : m_X0_areOneOff x1 x2 M  Q) : Met l yX0_areOneOff (ws_ yX0_areOneOff cX0_areOneOff 6 (some .boolean)) ({ frames := 1, cells := 0, slots := 0, locals := 24 } : Room) (PcW D cA sz0 H0 [.ref (sz0 + 0), .ref (sz0 + x1), .ref (sz0 + x2)] M) (QW_i D cA sz0 H0 (fun r M' => Q r M' ∧ Shp M')) 0 0 (Aw sz0) := by
  replace h : (((wI M x1 1) = (wI M x2 1) → (m_X0_unlikeMany x1 x2 M (fun (a3 : Int32) (M4 : WM) => ((a3 = (1 : Int32) → Q ((1 : Int32)) M4) ∧ (¬ a3 = (1 : Int32) → ((a3 = (2 : Int32) → (m_X0_areChanged x1 x2 ((wI M4 0 10)) M4 (fun (a7 : Int32) => ((a7 = 0 → Q ((0 : Int32)) M4) ∧ (¬ a7 = 0 → Q ((1 : Int32)) M4))))) ∧ (¬ a3 = (2 : Int32) → Q ((0 : Int32)) M4))))))) ∧ (¬ (wI M x1 1) = (wI M x2 1) → (((wI M x1 1) ≤ (wI M x2 1) → m_X0_areOneOff_j63 x1 x2 x2 Q M) ∧ (¬ (wI M x1 1) ≤ (wI M x2 1) → m_X0_areOneOff_j63 x1 x2 x1 Q M)))) := h
  refine Met.ofV (by decide +kernel) (Nat.le_of_ble_eq_true rfl) ?_
  intro p e s m args below meth c cx hnm
  replace cx : Cx p s m args meth c cX0_areOneOff 6 RX0 (some .boolean) D cA sz0 H0 := cx
  refine v_sub (lv' := [(0, .ref (sz0 + 0)), (1, .ref (sz0 + x1)), (2, .ref (sz0 + x2))]) [0, 1, 2] rfl ?_
  refine v_aload_n (pc := 0) cx dX0_areOneOff_0 rfl 1 rfl ?_
  refine gq196_X2 (pc := 1) cx dX0_areOneOff_1 (sh.k (hx1).1) ?_
  refine v_aload_n (pc := 4) cx dX0_areOneOff_4 rfl 2 rfl ?_
  refine gq196_X2 (pc := 5) cx dX0_areOneOff_5 (sh.k (hx2).1) ?_
  refine v_icmp_ne (pc := 8) cx dX0_areOneOff_8 (tgt := 47) rfl (fun c1 => ?_) (fun c1 => ?_)
  · replace h := h.2 c1
    refine v_aload_n (pc := 47) cx dX0_areOneOff_47 rfl 1 rfl ?_
    refine gq196_X2 (pc := 48) cx dX0_areOneOff_48 (sh.k (hx1).1) ?_
    refine v_aload_n (pc := 51) cx dX0_areOneOff_51 rfl 2 rfl ?_
    refine gq196_X2 (pc := 52) cx dX0_areOneOff_52 (sh.k (hx2).1) ?_
    refine v_icmp_le (pc := 55) cx dX0_areOneOff_55 (tgt := 62) rfl (fun c2 => ?_) (fun c2 => ?_)
    · replace h := h.1 c2
      refine v_aload_n (pc := 62) cx dX0_areOneOff_62 rfl 2 rfl ?_
      refine v_sub (lv' := [(1, .ref (sz0 + x1)), (2, .ref (sz0 + x2))]) [1, 2] rfl ?_
      exact w_X0_areOneOff_j63 cx hx1 hx2 hx2 M sh h
    · replace h := h.2 c2
      refine v_aload_n (pc := 58) cx dX0_areOneOff_58 rfl 1 rfl ?_
      refine v_goto (pc := 59) cx dX0_areOneOff_59 (tgt := 63) rfl ?_
      refine v_sub (lv' := [(1, .ref (sz0 + x1)), (2, .ref (sz0 + x2))]) [1, 2] rfl ?_
      exact w_X0_areOneOff_j63 cx hx1 hx2 hx1 M sh h
  · replace h := h.1 c1
    refine v_aload_n (pc := 11) cx dX0_areOneOff_11 rfl 0 rfl ?_
    refine v_aload_n (pc := 12) cx dX0_areOneOff_12 rfl 1 rfl ?_
    refine v_aload_n (pc := 13) cx dX0_areOneOff_13 rfl 2 rfl ?_
    refine v_run_i (pc := 14) cx (kcq725_X0 cx (c_X0_unlikeMany l D cA sz0 H0 M x1 x2 hx1 hx2 _ sh h) ⟨Nat.le_of_ble_eq_true rfl, Nat.le_of_ble_eq_true rfl⟩ (sh.k k_0) (As := [.ref (sz0 + x1), .ref (sz0 + x2)]) rfl rfl (Nat.le_of_ble_eq_true rfl) dX0_areOneOff_14 ⟨Nat.le_of_ble_eq_true rfl, Nat.le_of_ble_eq_true rfl⟩) (fun a3 M4 hq => ?_)
    obtain ⟨h, sh⟩ := hq
    refine v_istore_n (pc := 17) cx dX0_areOneOff_17 rfl (Nat.le_of_ble_eq_true rfl) (lv' := [(3, .int a3), (0, .ref (sz0 + 0)), (1, .ref (sz0 + x1)), (2, .ref (sz0 + x2))]) rfl ?_
    refine v_iload_n (pc := 18) cx dX0_areOneOff_18 rfl 0 rfl ?_
    refine v_iconst (pc := 19) cx dX0_areOneOff_19 ic_1 ?_
    refine v_icmp_eq (pc := 20) cx dX0_areOneOff_20 (tgt := 41) rfl (fun c5 => ?_) (fun c5 => ?_)
    · replace h := h.1 c5
      refine v_iconst (pc := 41) cx dX0_areOneOff_41 ic_1 ?_
      refine v_goto (pc := 42) cx dX0_areOneOff_42 (tgt := 46) rfl ?_
      exact v_zret cx rfl (Or.inr rfl) dX0_areOneOff_46 ⟨Nat.le_of_ble_eq_true rfl, Nat.le_of_ble_eq_true rfl⟩ ⟨h, sh⟩
    · replace h := h.2 c5
      refine v_iload_n (pc := 23) cx dX0_areOneOff_23 rfl 0 rfl ?_
      refine v_iconst (pc := 24) cx dX0_areOneOff_24 ic_2 ?_
      refine v_icmp_ne (pc := 25) cx dX0_areOneOff_25 (tgt := 45) rfl (fun c6 => ?_) (fun c6 => ?_)
      · replace h := h.2 c6
        refine v_iconst (pc := 45) cx dX0_areOneOff_45 ic_0 ?_
        exact v_zret cx rfl (Or.inl rfl) dX0_areOneOff_46 ⟨Nat.le_of_ble_eq_true rfl, Nat.le_of_ble_eq_true rfl⟩ ⟨h, sh⟩
      · replace h := h.1 c6
        refine v_aload_n (pc := 28) cx dX0_areOneOff_28 rfl 1 rfl ?_
        refine v_aload_n (pc := 29) cx dX0_areOneOff_29 rfl 2 rfl ?_
        refine v_aload_n (pc := 30) cx dX0_areOneOff_30 rfl 3 rfl ?_
        refine v_aload_n (pc := 31) cx dX0_areOneOff_31 rfl 1 rfl ?_
        refine gq285_X0 (pc := 32) cx dX0_areOneOff_32 (sh.k k_0) ?_
        refine v_runp_i (pc := 35) cx (kcq799_X0 cx (c_X0_areChanged l D cA sz0 H0 M4 x1 x2 ((wI M4 0 10)) hx1 hx2 _ sh h) ⟨Nat.le_of_ble_eq_true rfl, Nat.le_of_ble_eq_true rfl⟩ (sh.k k_0) (As := [.ref (sz0 + x1), .ref (sz0 + x2), .int (wI M4 0 10)]) rfl rfl (Nat.le_of_ble_eq_true rfl) dX0_areOneOff_35 ⟨Nat.le_of_ble_eq_true rfl, Nat.le_of_ble_eq_true rfl⟩) (fun a7 hq => ?_)
        replace h := hq
        refine v_if_eq (pc := 38) cx dX0_areOneOff_38 (tgt := 45) rfl (fun c8 => ?_) (fun c8 => ?_)
        · replace h := h.1 c8
          refine v_iconst (pc := 45) cx dX0_areOneOff_45 ic_0 ?_
          exact v_zret cx rfl (Or.inl rfl) dX0_areOneOff_46 ⟨Nat.le_of_ble_eq_true rfl, Nat.le_of_ble_eq_true rfl⟩ ⟨h, sh⟩
        · replace h := h.2 c8
          refine v_iconst (pc := 41) cx dX0_areOneOff_41 ic_1 ?_
          refine v_goto (pc := 42) cx dX0_areOneOff_42 (tgt := 46) rfl ?_
          exact v_zret cx rfl (Or.inr rfl) dX0_areOneOff_46 ⟨Nat.le_of_ble_eq_true rfl, Nat.le_of_ble_eq_true rfl⟩ ⟨h, sh⟩
/-! LetterHeaps.in(II)Z -/
def m_X0_in (x0 : Int32) (x1 : Int32)   (Q : Int32 → Prop) : Prop := ((x0 < 0 → Q ((0 : Int32))) ∧ (¬ x0 < 0 → ((x1 ≤ x0 → Q ((0 : Int32))) ∧ (¬ x1 ≤ x0 → Q ((1 : Int32))))))
theorem c_X0_in (l : Launch) (D : va_G) (cA : Nat → ClassId) (sz0 : Nat) (H0 : Heap) (M : WM) (x0 : Int32) (x1 : Int32)   (Q : Int32 → Prop)  (h : m_X0_in x0 x1   Q) : Met l yX0_in (ws_ yX0_in cX0_in 2 (some .boolean)) ({ frames := 0, cells := 0, slots := 0, locals := 0 } : Room) (PcW D cA sz0 H0 [.int x0, .int x1] M) (QW_i D cA sz0 H0 (fun r M' => M' = M ∧ Q r)) 0 0 (Aw sz0) := by
  replace h : ((x0 < 0 → Q ((0 : Int32))) ∧ (¬ x0 < 0 → ((x1 ≤ x0 → Q ((0 : Int32))) ∧ (¬ x1 ≤ x0 → Q ((1 : Int32)))))) := h
  refine Met.ofV (by decide +kernel) (Nat.le_of_ble_eq_true rfl) ?_
  intro p e s m args below meth c cx hnm
  replace cx : Cx p s m args meth c cX0_in 2 RX0 (some .boolean) D cA sz0 H0 := cx
  refine v_sub (lv' := [(0, .int x0), (1, .int x1)]) [0, 1] rfl ?_
  refine v_iload_n (pc := 0) cx dX0_in_0 rfl 0 rfl ?_
  refine v_if_lt (pc := 1) cx dX0_in_1 (tgt := 13) rfl (fun c1 => ?_) (fun c1 => ?_)
  · replace h := h.1 c1
    refine v_iconst (pc := 13) cx dX0_in_13 ic_0 ?_
    exact v_zret cx rfl (Or.inl rfl) dX0_in_14 ⟨Nat.le_of_ble_eq_true rfl, Nat.le_of_ble_eq_true rfl⟩ ⟨rfl, h⟩
  · replace h := h.2 c1
    refine v_iload_n (pc := 4) cx dX0_in_4 rfl 0 rfl ?_
    refine v_iload_n (pc := 5) cx dX0_in_5 rfl 1 rfl ?_
    refine v_icmp_ge (pc := 6) cx dX0_in_6 (tgt := 13) rfl (fun c2 => ?_) (fun c2 => ?_)
    · replace h := h.1 c2
      refine v_iconst (pc := 13) cx dX0_in_13 ic_0 ?_
      exact v_zret cx rfl (Or.inl rfl) dX0_in_14 ⟨Nat.le_of_ble_eq_true rfl, Nat.le_of_ble_eq_true rfl⟩ ⟨rfl, h⟩
    · replace h := h.2 c2
      refine v_iconst (pc := 9) cx dX0_in_9 ic_1 ?_
      refine v_goto (pc := 10) cx dX0_in_10 (tgt := 14) rfl ?_
      exact v_zret cx rfl (Or.inr rfl) dX0_in_14 ⟨Nat.le_of_ble_eq_true rfl, Nat.le_of_ble_eq_true rfl⟩ ⟨rfl, h⟩
/-! LetterHeaps.isWord(I)Z -/
def m_X0_isWord (x1 : Int32) (M : WM)  (Q : Int32 → Prop) : Prop := (m_X0_in x1 ((wI M 0 3)) (fun (a1 : Int32) => ((a1 = 0 ∨ a1 = 1) ∧ Q a1)))
theorem c_X0_isWord (l : Launch) (D : va_G) (cA : Nat → ClassId) (sz0 : Nat) (H0 : Heap) (M : WM) (x1 : Int32)   (Q : Int32 → Prop) (sh : Shp M) (h : m_X0_isWord x1 M  Q) : Met l yX0_isWord (ws_ yX0_isWord cX0_isWord 2 (some .boolean)) ({ frames := 1, cells := 0, slots := 0, locals := 21 } : Room) (PcW D cA sz0 H0 [.ref (sz0 + 0), .int x1] M) (QW_i D cA sz0 H0 (fun r M' => M' = M ∧ Q r)) 0 0 (Aw sz0) := by
  replace h : (m_X0_in x1 ((wI M 0 3)) (fun (a1 : Int32) => ((a1 = 0 ∨ a1 = 1) ∧ Q a1))) := h
  refine Met.ofV (by decide +kernel) (Nat.le_of_ble_eq_true rfl) ?_
  intro p e s m args below meth c cx hnm
  replace cx : Cx p s m args meth c cX0_isWord 2 RX0 (some .boolean) D cA sz0 H0 := cx
  refine v_sub (lv' := [(0, .ref (sz0 + 0)), (1, .int x1)]) [0, 1] rfl ?_
  refine v_iload_n (pc := 0) cx dX0_isWord_0 rfl 1 rfl ?_
  refine v_aload_n (pc := 1) cx dX0_isWord_1 rfl 0 rfl ?_
  refine gq278_X0 (pc := 2) cx dX0_isWord_2 (sh.k k_0) ?_
  refine v_runp_i (pc := 5) cx (kcq390_X0 cx (c_X0_in l D cA sz0 H0 M x1 ((wI M 0 3))  _ h) ⟨Nat.le_of_ble_eq_true rfl, Nat.le_of_ble_eq_true rfl⟩ (As := [.int x1, .int (wI M 0 3)]) rfl rfl (Nat.le_of_ble_eq_true rfl) dX0_isWord_5 ⟨Nat.le_of_ble_eq_true rfl, Nat.le_of_ble_eq_true rfl⟩) (fun a1 hq => ?_)
  replace h := hq
  obtain ⟨q2, h⟩ := h
  exact v_zret cx rfl q2 dX0_isWord_8 ⟨Nat.le_of_ble_eq_true rfl, Nat.le_of_ble_eq_true rfl⟩ ⟨rfl, h⟩
/-! LetterHeaps.areTwo(II)Z -/
def m_X0_areTwo (x1 : Int32) (x2 : Int32) (M : WM)  (Q : Int32 → Prop) : Prop := (m_X0_isWord x1 M (fun (a1 : Int32) => ((a1 = 0 → Q ((0 : Int32))) ∧ (¬ a1 = 0 → (m_X0_isWord x2 M (fun (a3 : Int32) => ((a3 = 0 → Q ((0 : Int32))) ∧ (¬ a3 = 0 → Q ((1 : Int32))))))))))
theorem c_X0_areTwo (l : Launch) (D : va_G) (cA : Nat → ClassId) (sz0 : Nat) (H0 : Heap) (M : WM) (x1 : Int32) (x2 : Int32)   (Q : Int32 → Prop) (sh : Shp M) (h : m_X0_areTwo x1 x2 M  Q) : Met l yX0_areTwo (ws_ yX0_areTwo cX0_areTwo 3 (some .boolean)) ({ frames := 2, cells := 0, slots := 0, locals := 42 } : Room) (PcW D cA sz0 H0 [.ref (sz0 + 0), .int x1, .int x2] M) (QW_i D cA sz0 H0 (fun r M' => M' = M ∧ Q r)) 0 0 (Aw sz0) := by
  replace h : (m_X0_isWord x1 M (fun (a1 : Int32) => ((a1 = 0 → Q ((0 : Int32))) ∧ (¬ a1 = 0 → (m_X0_isWord x2 M (fun (a3 : Int32) => ((a3 = 0 → Q ((0 : Int32))) ∧ (¬ a3 = 0 → Q ((1 : Int32)))))))))) := h
  refine Met.ofV (by decide +kernel) (Nat.le_of_ble_eq_true rfl) ?_
  intro p e s m args below meth c cx hnm
  replace cx : Cx p s m args meth c cX0_areTwo 3 RX0 (some .boolean) D cA sz0 H0 := cx
  refine v_sub (lv' := [(0, .ref (sz0 + 0)), (1, .int x1), (2, .int x2)]) [0, 1, 2] rfl ?_
  refine v_aload_n (pc := 0) cx dX0_areTwo_0 rfl 0 rfl ?_
  refine v_iload_n (pc := 1) cx dX0_areTwo_1 rfl 1 rfl ?_
  refine v_runp_i (pc := 2) cx (kcq421_X0 cx (c_X0_isWord l D cA sz0 H0 M x1  _ sh h) ⟨Nat.le_of_ble_eq_true rfl, Nat.le_of_ble_eq_true rfl⟩ (sh.k k_0) (As := [.int x1]) rfl rfl (Nat.le_of_ble_eq_true rfl) dX0_areTwo_2 ⟨Nat.le_of_ble_eq_true rfl, Nat.le_of_ble_eq_true rfl⟩) (fun a1 hq => ?_)
  replace h := hq
  refine v_if_eq (pc := 5) cx dX0_areTwo_5 (tgt := 20) rfl (fun c2 => ?_) (fun c2 => ?_)
  · replace h := h.1 c2
    refine v_iconst (pc := 20) cx dX0_areTwo_20 ic_0 ?_
    exact v_zret cx rfl (Or.inl rfl) dX0_areTwo_21 ⟨Nat.le_of_ble_eq_true rfl, Nat.le_of_ble_eq_true rfl⟩ ⟨rfl, h⟩
  · replace h := h.2 c2
    refine v_aload_n (pc := 8) cx dX0_areTwo_8 rfl 0 rfl ?_
    refine v_iload_n (pc := 9) cx dX0_areTwo_9 rfl 2 rfl ?_
    refine v_runp_i (pc := 10) cx (kcq421_X0 cx (c_X0_isWord l D cA sz0 H0 M x2  _ sh h) ⟨Nat.le_of_ble_eq_true rfl, Nat.le_of_ble_eq_true rfl⟩ (sh.k k_0) (As := [.int x2]) rfl rfl (Nat.le_of_ble_eq_true rfl) dX0_areTwo_10 ⟨Nat.le_of_ble_eq_true rfl, Nat.le_of_ble_eq_true rfl⟩) (fun a3 hq => ?_)
    replace h := hq
    refine v_if_eq (pc := 13) cx dX0_areTwo_13 (tgt := 20) rfl (fun c4 => ?_) (fun c4 => ?_)
    · replace h := h.1 c4
      refine v_iconst (pc := 20) cx dX0_areTwo_20 ic_0 ?_
      exact v_zret cx rfl (Or.inl rfl) dX0_areTwo_21 ⟨Nat.le_of_ble_eq_true rfl, Nat.le_of_ble_eq_true rfl⟩ ⟨rfl, h⟩
    · replace h := h.2 c4
      refine v_iconst (pc := 16) cx dX0_areTwo_16 ic_1 ?_
      refine v_goto (pc := 17) cx dX0_areTwo_17 (tgt := 21) rfl ?_
      exact v_zret cx rfl (Or.inr rfl) dX0_areTwo_21 ⟨Nat.le_of_ble_eq_true rfl, Nat.le_of_ble_eq_true rfl⟩ ⟨rfl, h⟩
/-! LetterHeaps.bar(IZ)Z -/
def m_X0_bar (x1 : Int32) (x2 : Int32) (M : WM)  (Q : Int32 → WM → Prop) : Prop := (m_X0_isWord x1 M (fun (a1 : Int32) => ((a1 = 0 → Q ((0 : Int32)) M) ∧ (¬ a1 = 0 → (vp_in x1 40 ∧ (((wI M ((5324 + 3 * x1.toNatClampNeg)) 3) = x2 → Q ((0 : Int32)) M) ∧ (¬ (wI M ((5324 + 3 * x1.toNatClampNeg)) 3) = x2 → (vp_in x1 40 ∧ ((x2 = 0 ∨ x2 = 1) ∧ (∀ M7 : WM, M7 = wPI M ((5324 + 3 * x1.toNatClampNeg)) 3 x2 → (∀ M8 : WM, M8 = wPI M7 0 7 (((wI M7 0 7) + (1 : Int32))) → Q ((1 : Int32)) M8)))))))))))
theorem c_X0_bar (l : Launch) (D : va_G) (cA : Nat → ClassId) (sz0 : Nat) (H0 : Heap) (M : WM) (x1 : Int32) (x2 : Int32)   (Q : Int32 → WM → Prop) (sh : Shp M) (h : m_X0_bar x1 x2 M  Q) : Met l yX0_bar (ws_ yX0_bar cX0_bar 3 (some .boolean)) ({ frames := 2, cells := 0, slots := 0, locals := 42 } : Room) (PcW D cA sz0 H0 [.ref (sz0 + 0), .int x1, .int x2] M) (QW_i D cA sz0 H0 (fun r M' => Q r M' ∧ Shp M')) 0 0 (Aw sz0) := by
  replace h : (m_X0_isWord x1 M (fun (a1 : Int32) => ((a1 = 0 → Q ((0 : Int32)) M) ∧ (¬ a1 = 0 → (vp_in x1 40 ∧ (((wI M ((5324 + 3 * x1.toNatClampNeg)) 3) = x2 → Q ((0 : Int32)) M) ∧ (¬ (wI M ((5324 + 3 * x1.toNatClampNeg)) 3) = x2 → (vp_in x1 40 ∧ ((x2 = 0 ∨ x2 = 1) ∧ (∀ M7 : WM, M7 = wPI M ((5324 + 3 * x1.toNatClampNeg)) 3 x2 → (∀ M8 : WM, M8 = wPI M7 0 7 (((wI M7 0 7) + (1 : Int32))) → Q ((1 : Int32)) M8))))))))))) := h
  refine Met.ofV (by decide +kernel) (Nat.le_of_ble_eq_true rfl) ?_
  intro p e s m args below meth c cx hnm
  replace cx : Cx p s m args meth c cX0_bar 3 RX0 (some .boolean) D cA sz0 H0 := cx
  refine v_sub (lv' := [(0, .ref (sz0 + 0)), (1, .int x1), (2, .int x2)]) [0, 1, 2] rfl ?_
  refine v_aload_n (pc := 0) cx dX0_bar_0 rfl 0 rfl ?_
  refine v_iload_n (pc := 1) cx dX0_bar_1 rfl 1 rfl ?_
  refine v_runp_i (pc := 2) cx (kcq421_X0 cx (c_X0_isWord l D cA sz0 H0 M x1  _ sh h) ⟨Nat.le_of_ble_eq_true rfl, Nat.le_of_ble_eq_true rfl⟩ (sh.k k_0) (As := [.int x1]) rfl rfl (Nat.le_of_ble_eq_true rfl) dX0_bar_2 ⟨Nat.le_of_ble_eq_true rfl, Nat.le_of_ble_eq_true rfl⟩) (fun a1 hq => ?_)
  replace h := hq
  refine v_if_eq (pc := 5) cx dX0_bar_5 (tgt := 21) rfl (fun c2 => ?_) (fun c2 => ?_)
  · replace h := h.1 c2
    refine v_iconst (pc := 21) cx dX0_bar_21 ic_0 ?_
    exact v_zret cx rfl (Or.inl rfl) dX0_bar_22 ⟨Nat.le_of_ble_eq_true rfl, Nat.le_of_ble_eq_true rfl⟩ ⟨h, sh⟩
  · replace h := h.2 c2
    refine v_aload_n (pc := 8) cx dX0_bar_8 rfl 0 rfl ?_
    refine gq273_X0 (pc := 9) cx dX0_bar_9 (sh.k k_0) (v_some (sh.r r_0_0) ?_)
    refine v_iload_n (pc := 12) cx dX0_bar_12 rfl 1 rfl ?_
    obtain ⟨b3, h⟩ := h
    refine v_aald107 (pc := 13) cx dX0_bar_13 (sh.k k_1) (sh.l k_1 l_1) b3 (v_some (sh.r (f_1 (lt_in b3))) ?_)
    refine gq261_X5 (pc := 14) cx dX0_bar_14 (sh.k (fk_1 (lt_in b3))) ?_
    refine v_iload_n (pc := 17) cx dX0_bar_17 rfl 2 rfl ?_
    refine v_icmp_ne (pc := 18) cx dX0_bar_18 (tgt := 23) rfl (fun c4 => ?_) (fun c4 => ?_)
    · replace h := h.2 c4
      refine v_aload_n (pc := 23) cx dX0_bar_23 rfl 0 rfl ?_
      refine gq273_X0 (pc := 24) cx dX0_bar_24 (sh.k k_0) (v_some (sh.r r_0_0) ?_)
      refine v_iload_n (pc := 27) cx dX0_bar_27 rfl 1 rfl ?_
      obtain ⟨b5, h⟩ := h
      refine v_aald107 (pc := 28) cx dX0_bar_28 (sh.k k_1) (sh.l k_1 l_1) b5 (v_some (sh.r (f_1 (lt_in b5))) ?_)
      refine v_iload_n (pc := 29) cx dX0_bar_29 rfl 2 rfl ?_
      obtain ⟨q6, h⟩ := h
      refine pq261_X5 (pc := 30) cx q6 dX0_bar_30 (sh.k (fk_1 (lt_in b5))) ?_
      refine v_wld (fun M7 eM7 => ?_)
      replace h := h M7 eM7
      replace sh : Shp M7 := Shp_PI sh eM7
      refine v_aload_n (pc := 33) cx dX0_bar_33 rfl 0 rfl ?_
      refine v_dup (pc := 34) cx dX0_bar_34 rfl ?_
      refine gq282_X0 (pc := 35) cx dX0_bar_35 (sh.k k_0) ?_
      refine v_iconst (pc := 38) cx dX0_bar_38 ic_1 ?_
      refine v_iadd (pc := 39) cx dX0_bar_39 ?_
      refine pq282_X0 (pc := 40) cx dX0_bar_40 (sh.k k_0) ?_
      refine v_wld (fun M8 eM8 => ?_)
      replace h := h M8 eM8
      replace sh : Shp M8 := Shp_PI sh eM8
      refine v_iconst (pc := 43) cx dX0_bar_43 ic_1 ?_
      exact v_zret cx rfl (Or.inr rfl) dX0_bar_44 ⟨Nat.le_of_ble_eq_true rfl, Nat.le_of_ble_eq_true rfl⟩ ⟨h, sh⟩
    · replace h := h.1 c4
      refine v_iconst (pc := 21) cx dX0_bar_21 ic_0 ?_
      exact v_zret cx rfl (Or.inl rfl) dX0_bar_22 ⟨Nat.le_of_ble_eq_true rfl, Nat.le_of_ble_eq_true rfl⟩ ⟨h, sh⟩
/-! LetterHeaps.has(JI)Z -/
def m_X0_has (x0 : Int64) (x2 : Int32)   (Q : Int32 → Prop) : Prop := (((lg_cmp ((x0 >>> (x2.toInt64 &&& 63)) &&& (1 : Int64)) (1 : Int64)) = 0 → Q ((1 : Int32))) ∧ (¬ (lg_cmp ((x0 >>> (x2.toInt64 &&& 63)) &&& (1 : Int64)) (1 : Int64)) = 0 → Q ((0 : Int32))))
theorem c_X0_has (l : Launch) (D : va_G) (cA : Nat → ClassId) (sz0 : Nat) (H0 : Heap) (M : WM) (x0 : Int64) (x2 : Int32)   (Q : Int32 → Prop)  (h : m_X0_has x0 x2   Q) : Met l yX0_has (ws_ yX0_has cX0_has 3 (some .boolean)) ({ frames := 0, cells := 0, slots := 0, locals := 0 } : Room) (PcW D cA sz0 H0 [.long x0, .int x2] M) (QW_i D cA sz0 H0 (fun r M' => M' = M ∧ Q r)) 0 0 (Aw sz0) := by
  replace h : (((lg_cmp ((x0 >>> (x2.toInt64 &&& 63)) &&& (1 : Int64)) (1 : Int64)) = 0 → Q ((1 : Int32))) ∧ (¬ (lg_cmp ((x0 >>> (x2.toInt64 &&& 63)) &&& (1 : Int64)) (1 : Int64)) = 0 → Q ((0 : Int32)))) := h
  refine Met.ofV (by decide +kernel) (Nat.le_of_ble_eq_true rfl) ?_
  intro p e s m args below meth c cx hnm
  replace cx : Cx p s m args meth c cX0_has 3 RX0 (some .boolean) D cA sz0 H0 := cx
  refine v_sub (lv' := [(0, .long x0), (2, .int x2)]) [0, 1] rfl ?_
  refine v_lload_n (pc := 0) cx dX0_has_0 rfl 0 rfl ?_
  refine v_iload_n (pc := 1) cx dX0_has_1 rfl 1 rfl ?_
  refine v_lshr (pc := 2) cx dX0_has_2 ?_
  refine v_lconst (pc := 3) cx dX0_has_3 lc_1 ?_
  refine v_land (pc := 4) cx dX0_has_4 ?_
  refine v_lconst (pc := 5) cx dX0_has_5 lc_1 ?_
  refine v_lcmp (pc := 6) cx dX0_has_6 ?_
  refine v_if_ne (pc := 7) cx dX0_has_7 (tgt := 14) rfl (fun c1 => ?_) (fun c1 => ?_)
  · replace h := h.2 c1
    refine v_iconst (pc := 14) cx dX0_has_14 ic_0 ?_
    exact v_zret cx rfl (Or.inl rfl) dX0_has_15 ⟨Nat.le_of_ble_eq_true rfl, Nat.le_of_ble_eq_true rfl⟩ ⟨rfl, h⟩
  · replace h := h.1 c1
    refine v_iconst (pc := 10) cx dX0_has_10 ic_1 ?_
    refine v_goto (pc := 11) cx dX0_has_11 (tgt := 15) rfl ?_
    exact v_zret cx rfl (Or.inr rfl) dX0_has_15 ⟨Nat.le_of_ble_eq_true rfl, Nat.le_of_ble_eq_true rfl⟩ ⟨rfl, h⟩
/-! LetterHeaps.isUsed(I)Z -/
def m_X0_isUsed (x1 : Int32) (M : WM)  (Q : Int32 → Prop) : Prop := (m_X0_isWord x1 M (fun (a1 : Int32) => ((a1 = 0 → Q ((0 : Int32))) ∧ (¬ a1 = 0 → (vp_in x1 40 ∧ (((wI M ((5324 + 3 * x1.toNatClampNeg)) 3) = 0 → (((wI M 0 4) = ((-1) : Int32) → Q ((1 : Int32))) ∧ (¬ (wI M 0 4) = ((-1) : Int32) → (vp_in x1 40 ∧ (m_X0_has (((wI M ((5324 + 3 * x1.toNatClampNeg)) 2)).toInt64) ((wI M 0 4)) (fun (a7 : Int32) => ((a7 = 0 → Q ((0 : Int32))) ∧ (¬ a7 = 0 → Q ((1 : Int32)))))))))) ∧ (¬ (wI M ((5324 + 3 * x1.toNatClampNeg)) 3) = 0 → Q ((0 : Int32)))))))))
theorem c_X0_isUsed (l : Launch) (D : va_G) (cA : Nat → ClassId) (sz0 : Nat) (H0 : Heap) (M : WM) (x1 : Int32)   (Q : Int32 → Prop) (sh : Shp M) (h : m_X0_isUsed x1 M  Q) : Met l yX0_isUsed (ws_ yX0_isUsed cX0_isUsed 2 (some .boolean)) ({ frames := 2, cells := 0, slots := 0, locals := 42 } : Room) (PcW D cA sz0 H0 [.ref (sz0 + 0), .int x1] M) (QW_i D cA sz0 H0 (fun r M' => M' = M ∧ Q r)) 0 0 (Aw sz0) := by
  replace h : (m_X0_isWord x1 M (fun (a1 : Int32) => ((a1 = 0 → Q ((0 : Int32))) ∧ (¬ a1 = 0 → (vp_in x1 40 ∧ (((wI M ((5324 + 3 * x1.toNatClampNeg)) 3) = 0 → (((wI M 0 4) = ((-1) : Int32) → Q ((1 : Int32))) ∧ (¬ (wI M 0 4) = ((-1) : Int32) → (vp_in x1 40 ∧ (m_X0_has (((wI M ((5324 + 3 * x1.toNatClampNeg)) 2)).toInt64) ((wI M 0 4)) (fun (a7 : Int32) => ((a7 = 0 → Q ((0 : Int32))) ∧ (¬ a7 = 0 → Q ((1 : Int32)))))))))) ∧ (¬ (wI M ((5324 + 3 * x1.toNatClampNeg)) 3) = 0 → Q ((0 : Int32))))))))) := h
  refine Met.ofV (by decide +kernel) (Nat.le_of_ble_eq_true rfl) ?_
  intro p e s m args below meth c cx hnm
  replace cx : Cx p s m args meth c cX0_isUsed 2 RX0 (some .boolean) D cA sz0 H0 := cx
  refine v_sub (lv' := [(0, .ref (sz0 + 0)), (1, .int x1)]) [0, 1] rfl ?_
  refine v_aload_n (pc := 0) cx dX0_isUsed_0 rfl 0 rfl ?_
  refine v_iload_n (pc := 1) cx dX0_isUsed_1 rfl 1 rfl ?_
  refine v_runp_i (pc := 2) cx (kcq421_X0 cx (c_X0_isWord l D cA sz0 H0 M x1  _ sh h) ⟨Nat.le_of_ble_eq_true rfl, Nat.le_of_ble_eq_true rfl⟩ (sh.k k_0) (As := [.int x1]) rfl rfl (Nat.le_of_ble_eq_true rfl) dX0_isUsed_2 ⟨Nat.le_of_ble_eq_true rfl, Nat.le_of_ble_eq_true rfl⟩) (fun a1 hq => ?_)
  replace h := hq
  refine v_if_eq (pc := 5) cx dX0_isUsed_5 (tgt := 52) rfl (fun c2 => ?_) (fun c2 => ?_)
  · replace h := h.1 c2
    refine v_iconst (pc := 52) cx dX0_isUsed_52 ic_0 ?_
    exact v_zret cx rfl (Or.inl rfl) dX0_isUsed_53 ⟨Nat.le_of_ble_eq_true rfl, Nat.le_of_ble_eq_true rfl⟩ ⟨rfl, h⟩
  · replace h := h.2 c2
    refine v_aload_n (pc := 8) cx dX0_isUsed_8 rfl 0 rfl ?_
    refine gq273_X0 (pc := 9) cx dX0_isUsed_9 (sh.k k_0) (v_some (sh.r r_0_0) ?_)
    refine v_iload_n (pc := 12) cx dX0_isUsed_12 rfl 1 rfl ?_
    obtain ⟨b3, h⟩ := h
    refine v_aald107 (pc := 13) cx dX0_isUsed_13 (sh.k k_1) (sh.l k_1 l_1) b3 (v_some (sh.r (f_1 (lt_in b3))) ?_)
    refine gq261_X5 (pc := 14) cx dX0_isUsed_14 (sh.k (fk_1 (lt_in b3))) ?_
    refine v_if_ne (pc := 17) cx dX0_isUsed_17 (tgt := 52) rfl (fun c4 => ?_) (fun c4 => ?_)
    · replace h := h.2 c4
      refine v_iconst (pc := 52) cx dX0_isUsed_52 ic_0 ?_
      exact v_zret cx rfl (Or.inl rfl) dX0_isUsed_53 ⟨Nat.le_of_ble_eq_true rfl, Nat.le_of_ble_eq_true rfl⟩ ⟨rfl, h⟩
    · replace h := h.1 c4
      refine v_aload_n (pc := 20) cx dX0_isUsed_20 rfl 0 rfl ?_
      refine gq279_X0 (pc := 21) cx dX0_isUsed_21 (sh.k k_0) ?_
      refine v_iconst (pc := 24) cx dX0_isUsed_24 ic_m1 ?_
      refine v_icmp_eq (pc := 25) cx dX0_isUsed_25 (tgt := 48) rfl (fun c5 => ?_) (fun c5 => ?_)
      · replace h := h.1 c5
        refine v_iconst (pc := 48) cx dX0_isUsed_48 ic_1 ?_
        refine v_goto (pc := 49) cx dX0_isUsed_49 (tgt := 53) rfl ?_
        exact v_zret cx rfl (Or.inr rfl) dX0_isUsed_53 ⟨Nat.le_of_ble_eq_true rfl, Nat.le_of_ble_eq_true rfl⟩ ⟨rfl, h⟩
      · replace h := h.2 c5
        refine v_aload_n (pc := 28) cx dX0_isUsed_28 rfl 0 rfl ?_
        refine gq273_X0 (pc := 29) cx dX0_isUsed_29 (sh.k k_0) (v_some (sh.r r_0_0) ?_)
        refine v_iload_n (pc := 32) cx dX0_isUsed_32 rfl 1 rfl ?_
        obtain ⟨b6, h⟩ := h
        refine v_aald107 (pc := 33) cx dX0_isUsed_33 (sh.k k_1) (sh.l k_1 l_1) b6 (v_some (sh.r (f_1 (lt_in b6))) ?_)
        refine gq260_X5 (pc := 34) cx dX0_isUsed_34 (sh.k (fk_1 (lt_in b6))) ?_
        refine v_i2l (pc := 37) cx dX0_isUsed_37 ?_
        refine v_aload_n (pc := 38) cx dX0_isUsed_38 rfl 0 rfl ?_
        refine gq279_X0 (pc := 39) cx dX0_isUsed_39 (sh.k k_0) ?_
        refine v_runp_i (pc := 42) cx (kcq722_X0 cx (c_X0_has l D cA sz0 H0 M (((wI M ((5324 + 3 * x1.toNatClampNeg)) 2)).toInt64) ((wI M 0 4))  _ h) ⟨Nat.le_of_ble_eq_true rfl, Nat.le_of_ble_eq_true rfl⟩ (As := [.long ((wI M ((5324 + 3 * x1.toNatClampNeg)) 2)).toInt64, .int (wI M 0 4)]) rfl rfl (Nat.le_of_ble_eq_true rfl) dX0_isUsed_42 ⟨Nat.le_of_ble_eq_true rfl, Nat.le_of_ble_eq_true rfl⟩) (fun a7 hq => ?_)
        replace h := hq
        refine v_if_eq (pc := 45) cx dX0_isUsed_45 (tgt := 52) rfl (fun c8 => ?_) (fun c8 => ?_)
        · replace h := h.1 c8
          refine v_iconst (pc := 52) cx dX0_isUsed_52 ic_0 ?_
          exact v_zret cx rfl (Or.inl rfl) dX0_isUsed_53 ⟨Nat.le_of_ble_eq_true rfl, Nat.le_of_ble_eq_true rfl⟩ ⟨rfl, h⟩
        · replace h := h.2 c8
          refine v_iconst (pc := 48) cx dX0_isUsed_48 ic_1 ?_
          refine v_goto (pc := 49) cx dX0_isUsed_49 (tgt := 53) rfl ?_
          exact v_zret cx rfl (Or.inr rfl) dX0_isUsed_53 ⟨Nat.le_of_ble_eq_true rfl, Nat.le_of_ble_eq_true rfl⟩ ⟨rfl, h⟩
/-! LetterHeaps$Change.of(IIII)LLetterHeaps$Change; -/
def m_X4_of_j77   (x3 : Int32) (x4 : Int32) (x5 : Nat) (x6 : Nat) (y0 : Int32)   (Q : WM → Prop) (M : WM) : Prop := (∀ M1 : WM, M1 = wPI M 174 5 y0 → ((x3 = (2 : Int32) → (∀ M8 : WM, M8 = wPI M1 174 6 ((26 : Int32)) → Q M8)) ∧ (¬ x3 = (2 : Int32) → ((x3 = (3 : Int32) → (vp_in ((x4 + (1 : Int32))) 13 ∧ (∀ M7 : WM, M7 = wPI M1 174 6 ((wI M1 ((x5 + 1)) ((x4 + (1 : Int32))).toNatClampNeg)) → Q M7))) ∧ (¬ x3 = (3 : Int32) → (vp_in x4 13 ∧ (∀ M5 : WM, M5 = wPI M1 174 6 ((wI M1 ((x6 + 1)) x4.toNatClampNeg)) → Q M5)))))))
theorem w_X4_of_j77 {p : Program} {l : Launch} {e : Env} {s : State} {m : MethodId} {args : Array Value} {below : List Frame} {meth : Method} {c : Code} {D : va_G} {cA : Nat → ClassId} {sz0 : Nat} {H0 : Heap}  {x3 : Int32} {x4 : Int32} {x5 : Nat} {x6 : Nat} {y0 : Int32} {Q : WM → Prop}  (cx : Cx p s m args meth c cX4_of 7 RX4 (some (.object "LetterHeaps$Change")) D cA sz0 H0)   (hx5 : isLn x5) (hx6 : isLn x6)    (M : WM) (sh : Shp M) (h : m_X4_of_j77 x3 x4 x5 x6 y0 Q M) : V p l e ({ frames := 0, cells := 0, slots := 0, locals := 0 } : Room) s m args below meth c 7 D cA sz0 H0 0 0 (MQ below (QW_r D cA sz0 H0 (fun o M' => o = some 174 ∧ Q M' ∧ Shp M')) args s 0 0 (Aw sz0)) 77 [(0, .ref (sz0 + 174)), (3, .int x3), (4, .int x4), (5, .ref (sz0 + x5)), (6, .ref (sz0 + x6))] [.int y0, .ref (sz0 + 174)] M := by
  replace h : (∀ M1 : WM, M1 = wPI M 174 5 y0 → ((x3 = (2 : Int32) → (∀ M8 : WM, M8 = wPI M1 174 6 ((26 : Int32)) → Q M8)) ∧ (¬ x3 = (2 : Int32) → ((x3 = (3 : Int32) → (vp_in ((x4 + (1 : Int32))) 13 ∧ (∀ M7 : WM, M7 = wPI M1 174 6 ((wI M1 ((x5 + 1)) ((x4 + (1 : Int32))).toNatClampNeg)) → Q M7))) ∧ (¬ x3 = (3 : Int32) → (vp_in x4 13 ∧ (∀ M5 : WM, M5 = wPI M1 174 6 ((wI M1 ((x6 + 1)) x4.toNatClampNeg)) → Q M5))))))) := h
  refine pq217_X4 (pc := 77) cx dX4_of_77 (sh.k k_174) ?_
  refine v_wld (fun M1 eM1 => ?_)
  replace h := h M1 eM1
  replace sh : Shp M1 := Shp_PI sh eM1
  refine v_aload_n (pc := 80) cx dX4_of_80 rfl 0 rfl ?_
  refine v_iload_n (pc := 81) cx dX4_of_81 rfl 1 rfl ?_
  refine v_iconst (pc := 82) cx dX4_of_82 ic_2 ?_
  refine v_icmp_ne (pc := 83) cx dX4_of_83 (tgt := 91) rfl (fun c2 => ?_) (fun c2 => ?_)
  · replace h := h.2 c2
    refine v_iload_n (pc := 91) cx dX4_of_91 rfl 1 rfl ?_
    refine v_iconst (pc := 92) cx dX4_of_92 ic_3 ?_
    refine v_icmp_ne (pc := 93) cx dX4_of_93 (tgt := 109) rfl (fun c3 => ?_) (fun c3 => ?_)
    · replace h := h.2 c3
      refine v_aload (pc := 109) cx dX4_of_109 4 rfl ?_
      refine gq192_X2 (pc := 111) cx dX4_of_111 (sh.k (hx6).1) (v_some (sh.r (hx6).2.2.2) ?_)
      refine v_iload (pc := 114) cx dX4_of_114 2 rfl ?_
      obtain ⟨b4, h⟩ := h
      refine v_iald (pc := 116) cx dX4_of_116 (sh.k (hx6).2.1) (sh.l (hx6).2.1 (hx6).2.2.1) b4 ?_
      refine pq218_X4 (pc := 117) cx dX4_of_117 (sh.k k_174) ?_
      refine v_wld (fun M5 eM5 => ?_)
      replace h := h M5 eM5
      replace sh : Shp M5 := Shp_PI sh eM5
      refine v_aload_n (pc := 120) cx dX4_of_120 rfl 0 rfl ?_
      exact v_aret (o := some 174) cx rfl dX4_of_121 ⟨Nat.le_of_ble_eq_true rfl, Nat.le_of_ble_eq_true rfl⟩ ⟨rfl, h, sh⟩
    · replace h := h.1 c3
      refine v_aload (pc := 96) cx dX4_of_96 3 rfl ?_
      refine gq192_X2 (pc := 98) cx dX4_of_98 (sh.k (hx5).1) (v_some (sh.r (hx5).2.2.2) ?_)
      refine v_iload (pc := 101) cx dX4_of_101 2 rfl ?_
      refine v_iconst (pc := 103) cx dX4_of_103 ic_1 ?_
      refine v_iadd (pc := 104) cx dX4_of_104 ?_
      obtain ⟨b6, h⟩ := h
      refine v_iald (pc := 105) cx dX4_of_105 (sh.k (hx5).2.1) (sh.l (hx5).2.1 (hx5).2.2.1) b6 ?_
      refine v_goto (pc := 106) cx dX4_of_106 (tgt := 117) rfl ?_
      refine pq218_X4 (pc := 117) cx dX4_of_117 (sh.k k_174) ?_
      refine v_wld (fun M7 eM7 => ?_)
      replace h := h M7 eM7
      replace sh : Shp M7 := Shp_PI sh eM7
      refine v_aload_n (pc := 120) cx dX4_of_120 rfl 0 rfl ?_
      exact v_aret (o := some 174) cx rfl dX4_of_121 ⟨Nat.le_of_ble_eq_true rfl, Nat.le_of_ble_eq_true rfl⟩ ⟨rfl, h, sh⟩
  · replace h := h.1 c2
    refine v_bipush (pc := 86) cx dX4_of_86 bc_26 ?_
    refine v_goto (pc := 88) cx dX4_of_88 (tgt := 117) rfl ?_
    refine pq218_X4 (pc := 117) cx dX4_of_117 (sh.k k_174) ?_
    refine v_wld (fun M8 eM8 => ?_)
    replace h := h M8 eM8
    replace sh : Shp M8 := Shp_PI sh eM8
    refine v_aload_n (pc := 120) cx dX4_of_120 rfl 0 rfl ?_
    exact v_aret (o := some 174) cx rfl dX4_of_121 ⟨Nat.le_of_ble_eq_true rfl, Nat.le_of_ble_eq_true rfl⟩ ⟨rfl, h, sh⟩
def m_X4_of (x1 : Int32) (x2 : Int32) (x3 : Int32) (x4 : Int32) (M : WM)  (Q : WM → Prop) : Prop := (vp_in x1 40 ∧ (vp_in x2 40 ∧ (∀ M3 : WM, M3 = wPI M 174 1 x1 → (∀ M4 : WM, M4 = wPI M3 174 2 x2 → (∀ M5 : WM, M5 = wPI M4 174 3 x3 → (∀ M6 : WM, M6 = wPI M5 174 4 x4 → (∀ M7 : WM, M7 = wPI M6 174 7 ((wI M6 ((5325 + 3 * x1.toNatClampNeg)) 1)) → ((x3 = (1 : Int32) → m_X4_of_j77 x3 x4 ((5325 + 3 * x1.toNatClampNeg)) ((5325 + 3 * x2.toNatClampNeg)) ((26 : Int32)) Q M7) ∧ (¬ x3 = (1 : Int32) → (vp_in x4 13 ∧ m_X4_of_j77 x3 x4 ((5325 + 3 * x1.toNatClampNeg)) ((5325 + 3 * x2.toNatClampNeg)) ((wI M7 (((5325 + 3 * x1.toNatClampNeg) + 1)) x4.toNatClampNeg)) Q M7))))))))))
theorem c_X4_of (l : Launch) (D : va_G) (cA : Nat → ClassId) (sz0 : Nat) (H0 : Heap) (M : WM) (x1 : Int32) (x2 : Int32) (x3 : Int32) (x4 : Int32)   (Q : WM → Prop) (sh : Shp M) (h : m_X4_of x1 x2 x3 x4 M  Q) : Met l yX4_of (ws_ yX4_of cX4_of 7 (some (.object "LetterHeaps$Change"))) ({ frames := 0, cells := 0, slots := 0, locals := 0 } : Room) (PcW D cA sz0 H0 [.ref (sz0 + 174), .int x1, .int x2, .int x3, .int x4] M) (QW_r D cA sz0 H0 (fun o M' => o = some 174 ∧ Q M' ∧ Shp M')) 0 0 (Aw sz0) := by
  replace h : (vp_in x1 40 ∧ (vp_in x2 40 ∧ (∀ M3 : WM, M3 = wPI M 174 1 x1 → (∀ M4 : WM, M4 = wPI M3 174 2 x2 → (∀ M5 : WM, M5 = wPI M4 174 3 x3 → (∀ M6 : WM, M6 = wPI M5 174 4 x4 → (∀ M7 : WM, M7 = wPI M6 174 7 ((wI M6 ((5325 + 3 * x1.toNatClampNeg)) 1)) → ((x3 = (1 : Int32) → m_X4_of_j77 x3 x4 ((5325 + 3 * x1.toNatClampNeg)) ((5325 + 3 * x2.toNatClampNeg)) ((26 : Int32)) Q M7) ∧ (¬ x3 = (1 : Int32) → (vp_in x4 13 ∧ m_X4_of_j77 x3 x4 ((5325 + 3 * x1.toNatClampNeg)) ((5325 + 3 * x2.toNatClampNeg)) ((wI M7 (((5325 + 3 * x1.toNatClampNeg) + 1)) x4.toNatClampNeg)) Q M7)))))))))) := h
  refine Met.ofV (by decide +kernel) (Nat.le_of_ble_eq_true rfl) ?_
  intro p e s m args below meth c cx hnm
  replace cx : Cx p s m args meth c cX4_of 7 RX4 (some (.object "LetterHeaps$Change")) D cA sz0 H0 := cx
  refine v_sub (lv' := [(0, .ref (sz0 + 174)), (1, .int x1), (2, .int x2), (3, .int x3), (4, .int x4)]) [0, 1, 2, 3, 4] rfl ?_
  refine v_aload_n (pc := 0) cx dX4_of_0 rfl 0 rfl ?_
  refine gq220_X4 (pc := 1) cx dX4_of_1 (sh.k k_174) (v_some (sh.r r_174_8) ?_)
  refine gq272_X0 (pc := 4) cx dX4_of_4 (sh.k k_0) (v_some (sh.r r_0_0) ?_)
  refine v_iload_n (pc := 7) cx dX4_of_7 rfl 1 rfl ?_
  obtain ⟨b1, h⟩ := h
  refine v_aald107 (pc := 8) cx dX4_of_8 (sh.k k_1) (sh.l k_1 l_1) b1 (v_some (sh.r (f_1 (lt_in b1))) ?_)
  refine gq256_X5 (pc := 9) cx dX4_of_9 (sh.k (fk_1 (lt_in b1))) (v_some (sh.r (fr_1 (lt_in b1))) ?_)
  refine v_astore (pc := 12) cx dX4_of_12 (Nat.le_of_ble_eq_true rfl) (lv' := [(5, .ref (sz0 + (5325 + 3 * x1.toNatClampNeg))), (0, .ref (sz0 + 174)), (1, .int x1), (2, .int x2), (3, .int x3), (4, .int x4)]) rfl ?_
  refine v_aload_n (pc := 14) cx dX4_of_14 rfl 1 rfl ?_
  refine gq220_X4 (pc := 15) cx dX4_of_15 (sh.k k_174) (v_some (sh.r r_174_8) ?_)
  refine gq272_X0 (pc := 18) cx dX4_of_18 (sh.k k_0) (v_some (sh.r r_0_0) ?_)
  refine v_iload_n (pc := 21) cx dX4_of_21 rfl 3 rfl ?_
  obtain ⟨b2, h⟩ := h
  refine v_aald107 (pc := 22) cx dX4_of_22 (sh.k k_1) (sh.l k_1 l_1) b2 (v_some (sh.r (f_1 (lt_in b2))) ?_)
  refine gq256_X5 (pc := 23) cx dX4_of_23 (sh.k (fk_1 (lt_in b2))) (v_some (sh.r (fr_1 (lt_in b2))) ?_)
  refine v_astore (pc := 26) cx dX4_of_26 (Nat.le_of_ble_eq_true rfl) (lv' := [(6, .ref (sz0 + (5325 + 3 * x2.toNatClampNeg))), (5, .ref (sz0 + (5325 + 3 * x1.toNatClampNeg))), (0, .ref (sz0 + 174)), (1, .int x1), (2, .int x2), (3, .int x3), (4, .int x4)]) rfl ?_
  refine v_aload_n (pc := 28) cx dX4_of_28 rfl 2 rfl ?_
  refine v_iload_n (pc := 29) cx dX4_of_29 rfl 3 rfl ?_
  refine pq213_X4 (pc := 30) cx dX4_of_30 (sh.k k_174) ?_
  refine v_wld (fun M3 eM3 => ?_)
  replace h := h M3 eM3
  replace sh : Shp M3 := Shp_PI sh eM3
  refine v_aload_n (pc := 33) cx dX4_of_33 rfl 2 rfl ?_
  refine v_iload_n (pc := 34) cx dX4_of_34 rfl 4 rfl ?_
  refine pq214_X4 (pc := 35) cx dX4_of_35 (sh.k k_174) ?_
  refine v_wld (fun M4 eM4 => ?_)
  replace h := h M4 eM4
  replace sh : Shp M4 := Shp_PI sh eM4
  refine v_aload_n (pc := 38) cx dX4_of_38 rfl 2 rfl ?_
  refine v_iload_n (pc := 39) cx dX4_of_39 rfl 5 rfl ?_
  refine pq215_X4 (pc := 40) cx dX4_of_40 (sh.k k_174) ?_
  refine v_wld (fun M5 eM5 => ?_)
  replace h := h M5 eM5
  replace sh : Shp M5 := Shp_PI sh eM5
  refine v_aload_n (pc := 43) cx dX4_of_43 rfl 2 rfl ?_
  refine v_iload (pc := 44) cx dX4_of_44 6 rfl ?_
  refine pq216_X4 (pc := 46) cx dX4_of_46 (sh.k k_174) ?_
  refine v_wld (fun M6 eM6 => ?_)
  replace h := h M6 eM6
  replace sh : Shp M6 := Shp_PI sh eM6
  refine v_aload_n (pc := 49) cx dX4_of_49 rfl 2 rfl ?_
  refine v_aload (pc := 50) cx dX4_of_50 1 rfl ?_
  refine gq195_X2 (pc := 52) cx dX4_of_52 (sh.k (isLn_w (lt_in b1)).1) ?_
  refine pq219_X4 (pc := 55) cx dX4_of_55 (sh.k k_174) ?_
  refine v_wld (fun M7 eM7 => ?_)
  replace h := h M7 eM7
  replace sh : Shp M7 := Shp_PI sh eM7
  refine v_aload_n (pc := 58) cx dX4_of_58 rfl 2 rfl ?_
  refine v_iload_n (pc := 59) cx dX4_of_59 rfl 5 rfl ?_
  refine v_iconst (pc := 60) cx dX4_of_60 ic_1 ?_
  refine v_icmp_ne (pc := 61) cx dX4_of_61 (tgt := 69) rfl (fun c8 => ?_) (fun c8 => ?_)
  · replace h := h.2 c8
    refine v_aload (pc := 69) cx dX4_of_69 1 rfl ?_
    refine gq192_X2 (pc := 71) cx dX4_of_71 (sh.k (isLn_w (lt_in b1)).1) (v_some (sh.r (isLn_w (lt_in b1)).2.2.2) ?_)
    refine v_iload (pc := 74) cx dX4_of_74 6 rfl ?_
    obtain ⟨b9, h⟩ := h
    refine v_iald (pc := 76) cx dX4_of_76 (sh.k (isLn_w (lt_in b1)).2.1) (sh.l (isLn_w (lt_in b1)).2.1 (isLn_w (lt_in b1)).2.2.1) b9 ?_
    refine v_sub (lv' := [(0, .ref (sz0 + 174)), (3, .int x3), (4, .int x4), (5, .ref (sz0 + (5325 + 3 * x1.toNatClampNeg))), (6, .ref (sz0 + (5325 + 3 * x2.toNatClampNeg)))]) [2, 5, 6, 1, 0] rfl ?_
    exact w_X4_of_j77 cx (isLn_w (lt_in b1)) (isLn_w (lt_in b2)) M7 sh h
  · replace h := h.1 c8
    refine v_bipush (pc := 64) cx dX4_of_64 bc_26 ?_
    refine v_goto (pc := 66) cx dX4_of_66 (tgt := 77) rfl ?_
    refine v_sub (lv' := [(0, .ref (sz0 + 174)), (3, .int x3), (4, .int x4), (5, .ref (sz0 + (5325 + 3 * x1.toNatClampNeg))), (6, .ref (sz0 + (5325 + 3 * x2.toNatClampNeg)))]) [2, 5, 6, 1, 0] rfl ?_
    exact w_X4_of_j77 cx (isLn_w (lt_in b1)) (isLn_w (lt_in b2)) M7 sh h
/-! LetterHeaps$Change.may()Z -/
def m_X4_may  (M : WM)  (Q : Int32 → WM → Prop) : Prop := (∃ r1, wR M 0 2 = some r1 ∧ (wk M r1 = 1 ∧ (m_X1_says r1 ((110 : Int32)) M (fun (a3 : Int32) (M4 : WM) => ((a3 = 0 → Q ((1 : Int32)) M4) ∧ (¬ a3 = 0 → Q ((0 : Int32)) M4))))))
theorem c_X4_may (l : Launch) (D : va_G) (cA : Nat → ClassId) (sz0 : Nat) (H0 : Heap) (M : WM)    (Q : Int32 → WM → Prop) (sh : Shp M) (h : m_X4_may  M  Q) : Met l yX4_may (ws_ yX4_may cX4_may 1 (some .boolean)) ({ frames := 116, cells := 0, slots := 0, locals := 4538 } : Room) (PcW D cA sz0 H0 [.ref (sz0 + 174)] M) (QW_i D cA sz0 H0 (fun r M' => Q r M' ∧ Shp M')) 0 0 (Aw sz0) := by
  replace h : (∃ r1, wR M 0 2 = some r1 ∧ (wk M r1 = 1 ∧ (m_X1_says r1 ((110 : Int32)) M (fun (a3 : Int32) (M4 : WM) => ((a3 = 0 → Q ((1 : Int32)) M4) ∧ (¬ a3 = 0 → Q ((0 : Int32)) M4)))))) := h
  refine Met.ofV (by decide +kernel) (Nat.le_of_ble_eq_true rfl) ?_
  intro p e s m args below meth c cx hnm
  replace cx : Cx p s m args meth c cX4_may 1 RX4 (some .boolean) D cA sz0 H0 := cx
  refine v_sub (lv' := [(0, .ref (sz0 + 174))]) [0] rfl ?_
  refine v_aload_n (pc := 0) cx dX4_may_0 rfl 0 rfl ?_
  refine gq220_X4 (pc := 1) cx dX4_may_1 (sh.k k_174) (v_some (sh.r r_174_8) ?_)
  obtain ⟨r1, er1, h⟩ := h
  refine gq276_X0 (pc := 4) cx dX4_may_4 (sh.k k_0) (v_some er1 ?_)
  refine v_bipush (pc := 7) cx dX4_may_7 bc_110 ?_
  refine v_aload_n (pc := 9) cx dX4_may_9 rfl 0 rfl ?_
  obtain ⟨k2, h⟩ := h
  refine v_run_i (pc := 10) cx (kcq741_X4 cx (c_X1_says l D cA sz0 H0 M r1 ((110 : Int32))  _ sh h) ⟨Nat.le_of_ble_eq_true rfl, Nat.le_of_ble_eq_true rfl⟩ k2 (As := [.int (110 : Int32), .ref (sz0 + 174)]) rfl rfl (Nat.le_of_ble_eq_true rfl) dX4_may_10 ⟨Nat.le_of_ble_eq_true rfl, Nat.le_of_ble_eq_true rfl⟩) (fun a3 M4 hq => ?_)
  obtain ⟨h, sh⟩ := hq
  refine v_if_ne (pc := 13) cx dX4_may_13 (tgt := 20) rfl (fun c5 => ?_) (fun c5 => ?_)
  · replace h := h.2 c5
    refine v_iconst (pc := 20) cx dX4_may_20 ic_0 ?_
    exact v_zret cx rfl (Or.inl rfl) dX4_may_21 ⟨Nat.le_of_ble_eq_true rfl, Nat.le_of_ble_eq_true rfl⟩ ⟨h, sh⟩
  · replace h := h.1 c5
    refine v_iconst (pc := 16) cx dX4_may_16 ic_1 ?_
    refine v_goto (pc := 17) cx dX4_may_17 (tgt := 21) rfl ?_
    exact v_zret cx rfl (Or.inr rfl) dX4_may_21 ⟨Nat.le_of_ble_eq_true rfl, Nat.le_of_ble_eq_true rfl⟩ ⟨h, sh⟩
/-! LetterHeaps$Change.costs()I -/
def m_X4_costs  (M : WM)  (Q : Int32 → WM → Prop) : Prop := (∃ r1, wR M 0 2 = some r1 ∧ (wk M r1 = 1 ∧ (m_X1_tells r1 ((99 : Int32)) ((1 : Int32)) M (fun (a3 : Int32) (M4 : WM) => Q ((if (1 : Int32) < (if a3 < (99 : Int32) then a3 else (99 : Int32)) then (if a3 < (99 : Int32) then a3 else (99 : Int32)) else (1 : Int32))) M4))))
theorem c_X4_costs (l : Launch) (D : va_G) (cA : Nat → ClassId) (sz0 : Nat) (H0 : Heap) (M : WM)    (Q : Int32 → WM → Prop) (sh : Shp M) (h : m_X4_costs  M  Q) : Met l yX4_costs (ws_ yX4_costs cX4_costs 1 (some .int)) ({ frames := 116, cells := 0, slots := 0, locals := 4539 } : Room) (PcW D cA sz0 H0 [.ref (sz0 + 174)] M) (QW_i D cA sz0 H0 (fun r M' => Q r M' ∧ Shp M')) 0 0 (Aw sz0) := by
  replace h : (∃ r1, wR M 0 2 = some r1 ∧ (wk M r1 = 1 ∧ (m_X1_tells r1 ((99 : Int32)) ((1 : Int32)) M (fun (a3 : Int32) (M4 : WM) => Q ((if (1 : Int32) < (if a3 < (99 : Int32) then a3 else (99 : Int32)) then (if a3 < (99 : Int32) then a3 else (99 : Int32)) else (1 : Int32))) M4)))) := h
  refine Met.ofV (by decide +kernel) (Nat.le_of_ble_eq_true rfl) ?_
  intro p e s m args below meth c cx hnm
  replace cx : Cx p s m args meth c cX4_costs 1 RX4 (some .int) D cA sz0 H0 := cx
  refine v_sub (lv' := [(0, .ref (sz0 + 174))]) [0] rfl ?_
  refine v_iconst (pc := 0) cx dX4_costs_0 ic_1 ?_
  refine v_bipush (pc := 1) cx dX4_costs_1 bc_99 ?_
  refine v_aload_n (pc := 3) cx dX4_costs_3 rfl 0 rfl ?_
  refine gq220_X4 (pc := 4) cx dX4_costs_4 (sh.k k_174) (v_some (sh.r r_174_8) ?_)
  obtain ⟨r1, er1, h⟩ := h
  refine gq276_X0 (pc := 7) cx dX4_costs_7 (sh.k k_0) (v_some er1 ?_)
  refine v_bipush (pc := 10) cx dX4_costs_10 bc_99 ?_
  refine v_aload_n (pc := 12) cx dX4_costs_12 rfl 0 rfl ?_
  refine v_iconst (pc := 13) cx dX4_costs_13 ic_1 ?_
  obtain ⟨k2, h⟩ := h
  refine v_run_i (pc := 14) cx (kcq785_X4 cx (c_X1_tells l D cA sz0 H0 M r1 ((99 : Int32)) ((1 : Int32))  _ sh h) ⟨Nat.le_of_ble_eq_true rfl, Nat.le_of_ble_eq_true rfl⟩ k2 (As := [.int (99 : Int32), .ref (sz0 + 174), .int (1 : Int32)]) rfl rfl (Nat.le_of_ble_eq_true rfl) dX4_costs_14 ⟨Nat.le_of_ble_eq_true rfl, Nat.le_of_ble_eq_true rfl⟩) (fun a3 M4 hq => ?_)
  obtain ⟨h, sh⟩ := hq
  refine v_mmin (pc := 17) cx q797 q564 q134 q565 dX4_costs_17 ⟨Nat.le_of_ble_eq_true rfl, Nat.le_of_ble_eq_true rfl, Nat.le_of_ble_eq_true rfl, Nat.le_of_ble_eq_true rfl⟩ ?_
  refine v_mmax (pc := 20) cx q798 q561 q134 q562 dX4_costs_20 ⟨Nat.le_of_ble_eq_true rfl, Nat.le_of_ble_eq_true rfl, Nat.le_of_ble_eq_true rfl, Nat.le_of_ble_eq_true rfl⟩ ?_
  exact v_iret cx rfl dX4_costs_23 ⟨Nat.le_of_ble_eq_true rfl, Nat.le_of_ble_eq_true rfl⟩ ⟨h, sh⟩
/-! LetterHeaps.tries(IIII)V -/
def m_X0_tries (x1 : Int32) (x2 : Int32) (x3 : Int32) (x4 : Int32) (M : WM)  (Q : WM → Prop) : Prop := (m_X4_of x1 x2 x3 x4 M (fun (M2 : WM) => (m_X4_may  M2 (fun (a3 : Int32) (M4 : WM) => ((a3 = 0 → Q M4) ∧ (¬ a3 = 0 → (m_X4_costs  M4 (fun (a6 : Int32) (M7 : WM) => (vp_in x1 40 ∧ (vp_in x2 40 ∧ ((a6 < (wI M7 ((10 + x1.toNatClampNeg)) x2.toNatClampNeg) → (vp_in x1 40 ∧ (m_X4_costs  M7 (fun (a12 : Int32) (M13 : WM) => (vp_in x2 40 ∧ (∀ M15 : WM, M15 = wPI M13 ((10 + x1.toNatClampNeg)) x2.toNatClampNeg a12 → (vp_in x1 40 ∧ (vp_in x2 40 ∧ (∀ M18 : WM, M18 = wPI M15 ((51 + x1.toNatClampNeg)) x2.toNatClampNeg x3 → (vp_in x1 40 ∧ (vp_in x2 40 ∧ (∀ M21 : WM, M21 = wPI M18 ((92 + x1.toNatClampNeg)) x2.toNatClampNeg x4 → Q M21)))))))))))) ∧ (¬ a6 < (wI M7 ((10 + x1.toNatClampNeg)) x2.toNatClampNeg) → Q M7))))))))))))
theorem c_X0_tries (l : Launch) (D : va_G) (cA : Nat → ClassId) (sz0 : Nat) (H0 : Heap) (M : WM) (x1 : Int32) (x2 : Int32) (x3 : Int32) (x4 : Int32)   (Q : WM → Prop) (sh : Shp M) (h : m_X0_tries x1 x2 x3 x4 M  Q) : Met l yX0_tries (ws_ yX0_tries cX0_tries 6 none) ({ frames := 117, cells := 0, slots := 0, locals := 4559 } : Room) (PcW D cA sz0 H0 [.ref (sz0 + 0), .int x1, .int x2, .int x3, .int x4] M) (QW_v D cA sz0 H0 (fun M' => Q M' ∧ Shp M')) 0 0 (Aw sz0) := by
  replace h : (m_X4_of x1 x2 x3 x4 M (fun (M2 : WM) => (m_X4_may  M2 (fun (a3 : Int32) (M4 : WM) => ((a3 = 0 → Q M4) ∧ (¬ a3 = 0 → (m_X4_costs  M4 (fun (a6 : Int32) (M7 : WM) => (vp_in x1 40 ∧ (vp_in x2 40 ∧ ((a6 < (wI M7 ((10 + x1.toNatClampNeg)) x2.toNatClampNeg) → (vp_in x1 40 ∧ (m_X4_costs  M7 (fun (a12 : Int32) (M13 : WM) => (vp_in x2 40 ∧ (∀ M15 : WM, M15 = wPI M13 ((10 + x1.toNatClampNeg)) x2.toNatClampNeg a12 → (vp_in x1 40 ∧ (vp_in x2 40 ∧ (∀ M18 : WM, M18 = wPI M15 ((51 + x1.toNatClampNeg)) x2.toNatClampNeg x3 → (vp_in x1 40 ∧ (vp_in x2 40 ∧ (∀ M21 : WM, M21 = wPI M18 ((92 + x1.toNatClampNeg)) x2.toNatClampNeg x4 → Q M21)))))))))))) ∧ (¬ a6 < (wI M7 ((10 + x1.toNatClampNeg)) x2.toNatClampNeg) → Q M7)))))))))))) := h
  refine Met.ofV (by decide +kernel) (Nat.le_of_ble_eq_true rfl) ?_
  intro p e s m args below meth c cx hnm
  replace cx : Cx p s m args meth c cX0_tries 6 RX0 none D cA sz0 H0 := cx
  refine v_sub (lv' := [(0, .ref (sz0 + 0)), (1, .int x1), (2, .int x2), (3, .int x3), (4, .int x4)]) [0, 1, 2, 3, 4] rfl ?_
  refine v_aload_n (pc := 0) cx dX0_tries_0 rfl 0 rfl ?_
  refine gq291_X0 (pc := 1) cx dX0_tries_1 (sh.k k_0) (v_some (sh.r r_0_16) ?_)
  refine v_iload_n (pc := 4) cx dX0_tries_4 rfl 1 rfl ?_
  refine v_iload_n (pc := 5) cx dX0_tries_5 rfl 2 rfl ?_
  refine v_iload_n (pc := 6) cx dX0_tries_6 rfl 3 rfl ?_
  refine v_iload (pc := 7) cx dX0_tries_7 4 rfl ?_
  refine v_run_r (pc := 9) cx (kcq733_X0 cx (c_X4_of l D cA sz0 H0 M x1 x2 x3 x4  _ sh h) ⟨Nat.le_of_ble_eq_true rfl, Nat.le_of_ble_eq_true rfl⟩ (sh.k k_174) (As := [.int x1, .int x2, .int x3, .int x4]) rfl rfl (Nat.le_of_ble_eq_true rfl) dX0_tries_9 ⟨Nat.le_of_ble_eq_true rfl, Nat.le_of_ble_eq_true rfl⟩) (fun a1 M2 hq => ?_)
  obtain ⟨ea1, h, sh⟩ := hq
  subst ea1
  refine v_astore (pc := 12) cx dX0_tries_12 (Nat.le_of_ble_eq_true rfl) (lv' := [(5, .ref (sz0 + 174)), (0, .ref (sz0 + 0)), (1, .int x1), (2, .int x2), (3, .int x3), (4, .int x4)]) rfl ?_
  refine v_aload (pc := 14) cx dX0_tries_14 0 rfl ?_
  refine v_run_i (pc := 16) cx (kcq737_X0 cx (c_X4_may l D cA sz0 H0 M2   _ sh h) ⟨Nat.le_of_ble_eq_true rfl, Nat.le_of_ble_eq_true rfl⟩ (sh.k k_174) (As := []) rfl rfl (Nat.le_of_ble_eq_true rfl) dX0_tries_16 ⟨Nat.le_of_ble_eq_true rfl, Nat.le_of_ble_eq_true rfl⟩) (fun a3 M4 hq => ?_)
  obtain ⟨h, sh⟩ := hq
  refine v_if_eq (pc := 19) cx dX0_tries_19 (tgt := 38) rfl (fun c5 => ?_) (fun c5 => ?_)
  · replace h := h.1 c5
    exact v_vret cx rfl dX0_tries_38 ⟨Nat.le_of_ble_eq_true rfl, Nat.le_of_ble_eq_true rfl⟩ ⟨h, sh⟩
  · replace h := h.2 c5
    refine v_aload (pc := 22) cx dX0_tries_22 0 rfl ?_
    refine v_run_i (pc := 24) cx (kcq781_X0 cx (c_X4_costs l D cA sz0 H0 M4   _ sh h) ⟨Nat.le_of_ble_eq_true rfl, Nat.le_of_ble_eq_true rfl⟩ (sh.k k_174) (As := []) rfl rfl (Nat.le_of_ble_eq_true rfl) dX0_tries_24 ⟨Nat.le_of_ble_eq_true rfl, Nat.le_of_ble_eq_true rfl⟩) (fun a6 M7 hq => ?_)
    obtain ⟨h, sh⟩ := hq
    refine v_aload_n (pc := 27) cx dX0_tries_27 rfl 1 rfl ?_
    refine gq286_X0 (pc := 28) cx dX0_tries_28 (sh.k k_0) (v_some (sh.r r_0_11) ?_)
    refine v_iload_n (pc := 31) cx dX0_tries_31 rfl 2 rfl ?_
    obtain ⟨b8, h⟩ := h
    refine v_aald104 (pc := 32) cx dX0_tries_32 (sh.k k_9) (sh.l k_9 l_9) b8 (v_some (sh.r (f_9 (lt_in b8))) ?_)
    refine v_iload_n (pc := 33) cx dX0_tries_33 rfl 3 rfl ?_
    obtain ⟨b9, h⟩ := h
    refine v_iald (pc := 34) cx dX0_tries_34 (sh.k (fk_9 (lt_in b8))) (sh.l (fk_9 (lt_in b8)) (fl_9 (lt_in b8))) b9 ?_
    refine v_icmp_lt (pc := 35) cx dX0_tries_35 (tgt := 39) rfl (fun c10 => ?_) (fun c10 => ?_)
    · replace h := h.1 c10
      refine v_aload_n (pc := 39) cx dX0_tries_39 rfl 1 rfl ?_
      refine gq286_X0 (pc := 40) cx dX0_tries_40 (sh.k k_0) (v_some (sh.r r_0_11) ?_)
      refine v_iload_n (pc := 43) cx dX0_tries_43 rfl 2 rfl ?_
      obtain ⟨b11, h⟩ := h
      refine v_aald104 (pc := 44) cx dX0_tries_44 (sh.k k_9) (sh.l k_9 l_9) b11 (v_some (sh.r (f_9 (lt_in b11))) ?_)
      refine v_iload_n (pc := 45) cx dX0_tries_45 rfl 3 rfl ?_
      refine v_aload (pc := 46) cx dX0_tries_46 0 rfl ?_
      refine v_run_i (pc := 48) cx (kcq781_X0 cx (c_X4_costs l D cA sz0 H0 M7   _ sh h) ⟨Nat.le_of_ble_eq_true rfl, Nat.le_of_ble_eq_true rfl⟩ (sh.k k_174) (As := []) rfl rfl (Nat.le_of_ble_eq_true rfl) dX0_tries_48 ⟨Nat.le_of_ble_eq_true rfl, Nat.le_of_ble_eq_true rfl⟩) (fun a12 M13 hq => ?_)
      obtain ⟨h, sh⟩ := hq
      obtain ⟨b14, h⟩ := h
      refine v_iast (pc := 51) cx dX0_tries_51 (sh.k (fk_9 (lt_in b11))) (sh.l (fk_9 (lt_in b11)) (fl_9 (lt_in b11))) b14 ?_
      refine v_wld (fun M15 eM15 => ?_)
      replace h := h M15 eM15
      replace sh : Shp M15 := Shp_PI sh eM15
      refine v_aload_n (pc := 52) cx dX0_tries_52 rfl 1 rfl ?_
      refine gq287_X0 (pc := 53) cx dX0_tries_53 (sh.k k_0) (v_some (sh.r r_0_12) ?_)
      refine v_iload_n (pc := 56) cx dX0_tries_56 rfl 2 rfl ?_
      obtain ⟨b16, h⟩ := h
      refine v_aald104 (pc := 57) cx dX0_tries_57 (sh.k k_50) (sh.l k_50 l_50) b16 (v_some (sh.r (f_50 (lt_in b16))) ?_)
      refine v_iload_n (pc := 58) cx dX0_tries_58 rfl 3 rfl ?_
      refine v_iload_n (pc := 59) cx dX0_tries_59 rfl 4 rfl ?_
      obtain ⟨b17, h⟩ := h
      refine v_iast (pc := 60) cx dX0_tries_60 (sh.k (fk_50 (lt_in b16))) (sh.l (fk_50 (lt_in b16)) (fl_50 (lt_in b16))) b17 ?_
      refine v_wld (fun M18 eM18 => ?_)
      replace h := h M18 eM18
      replace sh : Shp M18 := Shp_PI sh eM18
      refine v_aload_n (pc := 61) cx dX0_tries_61 rfl 1 rfl ?_
      refine gq288_X0 (pc := 62) cx dX0_tries_62 (sh.k k_0) (v_some (sh.r r_0_13) ?_)
      refine v_iload_n (pc := 65) cx dX0_tries_65 rfl 2 rfl ?_
      obtain ⟨b19, h⟩ := h
      refine v_aald104 (pc := 66) cx dX0_tries_66 (sh.k k_91) (sh.l k_91 l_91) b19 (v_some (sh.r (f_91 (lt_in b19))) ?_)
      refine v_iload_n (pc := 67) cx dX0_tries_67 rfl 3 rfl ?_
      refine v_iload (pc := 68) cx dX0_tries_68 5 rfl ?_
      obtain ⟨b20, h⟩ := h
      refine v_iast (pc := 70) cx dX0_tries_70 (sh.k (fk_91 (lt_in b19))) (sh.l (fk_91 (lt_in b19)) (fl_91 (lt_in b19))) b20 ?_
      refine v_wld (fun M21 eM21 => ?_)
      replace h := h M21 eM21
      replace sh : Shp M21 := Shp_PI sh eM21
      exact v_vret cx rfl dX0_tries_71 ⟨Nat.le_of_ble_eq_true rfl, Nat.le_of_ble_eq_true rfl⟩ ⟨h, sh⟩
    · replace h := h.2 c10
      exact v_vret cx rfl dX0_tries_38 ⟨Nat.le_of_ble_eq_true rfl, Nat.le_of_ble_eq_true rfl⟩ ⟨h, sh⟩
/-! LetterHeaps.laysStep(II)V -/
def m_X0_laysStep_l167   (x1 : Int32) (x2 : Int32) (x3 : Nat) (x4 : Nat)   (Q : WM → Prop) : Nat → Int32 → WM → Prop
  | 0, _, _ => False
  | n + 1, x5, M => (((wI M x3 1) ≤ x5 → Q M) ∧ (¬ (wI M x3 1) ≤ x5 → (m_X2_isWithout x3 x5 x4 M (fun (a2 : Int32) => ((a2 = 0 → (∀ z4 : Int32, z4 = x5 + (1 : Int32) → m_X0_laysStep_l167 x1 x2 x3 x4 Q n z4 M)) ∧ (¬ a2 = 0 → (m_X0_tries x1 x2 ((2 : Int32)) x5 M (fun (M6 : WM) => (∀ z7 : Int32, z7 = x5 + (1 : Int32) → m_X0_laysStep_l167 x1 x2 x3 x4 Q n z7 M6)))))))))
theorem w_X0_laysStep_l167 {p : Program} {l : Launch} {e : Env} {s : State} {m : MethodId} {args : Array Value} {below : List Frame} {meth : Method} {c : Code} {D : va_G} {cA : Nat → ClassId} {sz0 : Nat} {H0 : Heap}  {x1 : Int32} {x2 : Int32} {x3 : Nat} {x4 : Nat} {Q : WM → Prop}  (cx : Cx p s m args meth c cX0_laysStep 6 RX0 none D cA sz0 H0)   (hx3 : isLn x3) (hx4 : isLn x4)  : ∀ (n : Nat) (x5 : Int32)  (M : WM) (sh : Shp M), m_X0_laysStep_l167 x1 x2 x3 x4 Q n x5 M → V p l e ({ frames := 118, cells := 0, slots := 0, locals := 4584 } : Room) s m args below meth c 6 D cA sz0 H0 0 0 (MQ below (QW_v D cA sz0 H0 (fun M' => Q M' ∧ Shp M')) args s 0 0 (Aw sz0)) 167 [(0, .ref (sz0 + 0)), (1, .int x1), (2, .int x2), (3, .ref (sz0 + x3)), (4, .ref (sz0 + x4)), (5, .int x5)] [] M := by
  intro n
  induction n with
  | zero => intro x5 M sh h; exact h.elim
  | succ n ih =>
    intro x5 M sh h
    replace h : (((wI M x3 1) ≤ x5 → Q M) ∧ (¬ (wI M x3 1) ≤ x5 → (m_X2_isWithout x3 x5 x4 M (fun (a2 : Int32) => ((a2 = 0 → (∀ z4 : Int32, z4 = x5 + (1 : Int32) → m_X0_laysStep_l167 x1 x2 x3 x4 Q n z4 M)) ∧ (¬ a2 = 0 → (m_X0_tries x1 x2 ((2 : Int32)) x5 M (fun (M6 : WM) => (∀ z7 : Int32, z7 = x5 + (1 : Int32) → m_X0_laysStep_l167 x1 x2 x3 x4 Q n z7 M6))))))))) := h
    refine v_iload (pc := 167) cx dX0_laysStep_167 5 rfl ?_
    refine v_aload_n (pc := 169) cx dX0_laysStep_169 rfl 3 rfl ?_
    refine gq196_X2 (pc := 170) cx dX0_laysStep_170 (sh.k (hx3).1) ?_
    refine v_icmp_ge (pc := 173) cx dX0_laysStep_173 (tgt := 202) rfl (fun c1 => ?_) (fun c1 => ?_)
    · replace h := h.1 c1
      exact v_vret cx rfl dX0_laysStep_202 ⟨Nat.le_of_ble_eq_true rfl, Nat.le_of_ble_eq_true rfl⟩ ⟨h, sh⟩
    · replace h := h.2 c1
      refine v_aload_n (pc := 176) cx dX0_laysStep_176 rfl 3 rfl ?_
      refine v_iload (pc := 177) cx dX0_laysStep_177 5 rfl ?_
      refine v_aload (pc := 179) cx dX0_laysStep_179 4 rfl ?_
      refine v_runp_i (pc := 181) cx (kcq803_X0 cx (c_X2_isWithout l D cA sz0 H0 M x3 x5 x4 hx3 hx4 _ sh h) ⟨Nat.le_of_ble_eq_true rfl, Nat.le_of_ble_eq_true rfl⟩ (sh.k (hx3).1) (As := [.int x5, .ref (sz0 + x4)]) rfl rfl (Nat.le_of_ble_eq_true rfl) dX0_laysStep_181 ⟨Nat.le_of_ble_eq_true rfl, Nat.le_of_ble_eq_true rfl⟩) (fun a2 hq => ?_)
      replace h := hq
      refine v_if_eq (pc := 184) cx dX0_laysStep_184 (tgt := 196) rfl (fun c3 => ?_) (fun c3 => ?_)
      · replace h := h.1 c3
        refine nm_x (x5 + (1 : Int32)) (fun z4 ez4 => ?_)
        replace h := h z4 ez4
        refine v_iinc (pc := 196) cx dX0_laysStep_196 (q := 5) rfl ((ii_1 _).trans ez4.symm) (Nat.le_of_ble_eq_true rfl) (lv' := [(5, .int z4), (0, .ref (sz0 + 0)), (1, .int x1), (2, .int x2), (3, .ref (sz0 + x3)), (4, .ref (sz0 + x4))]) rfl ?_
        refine v_goto (pc := 199) cx dX0_laysStep_199 (tgt := 167) rfl ?_
        refine v_sub (lv' := [(0, .ref (sz0 + 0)), (1, .int x1), (2, .int x2), (3, .ref (sz0 + x3)), (4, .ref (sz0 + x4)), (5, .int z4)]) [1, 2, 3, 4, 5, 0] rfl ?_
        exact ih z4 M sh h
      · replace h := h.2 c3
        refine v_aload_n (pc := 187) cx dX0_laysStep_187 rfl 0 rfl ?_
        refine v_iload_n (pc := 188) cx dX0_laysStep_188 rfl 1 rfl ?_
        refine v_iload_n (pc := 189) cx dX0_laysStep_189 rfl 2 rfl ?_
        refine v_iconst (pc := 190) cx dX0_laysStep_190 ic_2 ?_
        refine v_iload (pc := 191) cx dX0_laysStep_191 5 rfl ?_
        refine v_run_v (pc := 193) cx (kcq729_X0 cx (c_X0_tries l D cA sz0 H0 M x1 x2 ((2 : Int32)) x5  _ sh h) ⟨Nat.le_of_ble_eq_true rfl, Nat.le_of_ble_eq_true rfl⟩ (sh.k k_0) (As := [.int x1, .int x2, .int (2 : Int32), .int x5]) rfl rfl (Nat.le_of_ble_eq_true rfl) dX0_laysStep_193 ⟨Nat.le_of_ble_eq_true rfl, Nat.le_of_ble_eq_true rfl⟩) (fun M6 hq => ?_)
        obtain ⟨h, sh⟩ := hq
        refine nm_x (x5 + (1 : Int32)) (fun z7 ez7 => ?_)
        replace h := h z7 ez7
        refine v_iinc (pc := 196) cx dX0_laysStep_196 (q := 5) rfl ((ii_1 _).trans ez7.symm) (Nat.le_of_ble_eq_true rfl) (lv' := [(5, .int z7), (0, .ref (sz0 + 0)), (1, .int x1), (2, .int x2), (3, .ref (sz0 + x3)), (4, .ref (sz0 + x4))]) rfl ?_
        refine v_goto (pc := 199) cx dX0_laysStep_199 (tgt := 167) rfl ?_
        refine v_sub (lv' := [(0, .ref (sz0 + 0)), (1, .int x1), (2, .int x2), (3, .ref (sz0 + x3)), (4, .ref (sz0 + x4)), (5, .int z7)]) [1, 2, 3, 4, 5, 0] rfl ?_
        exact ih z7 M6 sh h
def m_X0_laysStep_l128   (x1 : Int32) (x2 : Int32) (x3 : Nat) (x4 : Nat)   (Q : WM → Prop) : Nat → Int32 → WM → Prop
  | 0, _, _ => False
  | n + 1, x5, M => (((wI M x4 1) ≤ x5 → (∃ n0, m_X0_laysStep_l167 x1 x2 x3 x4 Q n0 ((0 : Int32)) M)) ∧ (¬ (wI M x4 1) ≤ x5 → (m_X2_isWithout x4 x5 x3 M (fun (a2 : Int32) => ((a2 = 0 → (∀ z4 : Int32, z4 = x5 + (1 : Int32) → m_X0_laysStep_l128 x1 x2 x3 x4 Q n z4 M)) ∧ (¬ a2 = 0 → (m_X0_tries x1 x2 ((1 : Int32)) x5 M (fun (M6 : WM) => (∀ z7 : Int32, z7 = x5 + (1 : Int32) → m_X0_laysStep_l128 x1 x2 x3 x4 Q n z7 M6)))))))))
theorem w_X0_laysStep_l128 {p : Program} {l : Launch} {e : Env} {s : State} {m : MethodId} {args : Array Value} {below : List Frame} {meth : Method} {c : Code} {D : va_G} {cA : Nat → ClassId} {sz0 : Nat} {H0 : Heap}  {x1 : Int32} {x2 : Int32} {x3 : Nat} {x4 : Nat} {Q : WM → Prop}  (cx : Cx p s m args meth c cX0_laysStep 6 RX0 none D cA sz0 H0)   (hx3 : isLn x3) (hx4 : isLn x4)  : ∀ (n : Nat) (x5 : Int32)  (M : WM) (sh : Shp M), m_X0_laysStep_l128 x1 x2 x3 x4 Q n x5 M → V p l e ({ frames := 118, cells := 0, slots := 0, locals := 4584 } : Room) s m args below meth c 6 D cA sz0 H0 0 0 (MQ below (QW_v D cA sz0 H0 (fun M' => Q M' ∧ Shp M')) args s 0 0 (Aw sz0)) 128 [(0, .ref (sz0 + 0)), (1, .int x1), (2, .int x2), (3, .ref (sz0 + x3)), (4, .ref (sz0 + x4)), (5, .int x5)] [] M := by
  intro n
  induction n with
  | zero => intro x5 M sh h; exact h.elim
  | succ n ih =>
    intro x5 M sh h
    replace h : (((wI M x4 1) ≤ x5 → (∃ n0, m_X0_laysStep_l167 x1 x2 x3 x4 Q n0 ((0 : Int32)) M)) ∧ (¬ (wI M x4 1) ≤ x5 → (m_X2_isWithout x4 x5 x3 M (fun (a2 : Int32) => ((a2 = 0 → (∀ z4 : Int32, z4 = x5 + (1 : Int32) → m_X0_laysStep_l128 x1 x2 x3 x4 Q n z4 M)) ∧ (¬ a2 = 0 → (m_X0_tries x1 x2 ((1 : Int32)) x5 M (fun (M6 : WM) => (∀ z7 : Int32, z7 = x5 + (1 : Int32) → m_X0_laysStep_l128 x1 x2 x3 x4 Q n z7 M6))))))))) := h
    refine v_iload (pc := 128) cx dX0_laysStep_128 5 rfl ?_
    refine v_aload (pc := 130) cx dX0_laysStep_130 4 rfl ?_
    refine gq196_X2 (pc := 132) cx dX0_laysStep_132 (sh.k (hx4).1) ?_
    refine v_icmp_ge (pc := 135) cx dX0_laysStep_135 (tgt := 164) rfl (fun c1 => ?_) (fun c1 => ?_)
    · replace h := h.1 c1
      refine v_iconst (pc := 164) cx dX0_laysStep_164 ic_0 ?_
      refine v_istore (pc := 165) cx dX0_laysStep_165 (Nat.le_of_ble_eq_true rfl) (lv' := [(5, .int (0 : Int32)), (0, .ref (sz0 + 0)), (1, .int x1), (2, .int x2), (3, .ref (sz0 + x3)), (4, .ref (sz0 + x4))]) rfl ?_
      refine v_sub (lv' := [(0, .ref (sz0 + 0)), (1, .int x1), (2, .int x2), (3, .ref (sz0 + x3)), (4, .ref (sz0 + x4)), (5, .int (0 : Int32))]) [1, 2, 3, 4, 5, 0] rfl ?_
      obtain ⟨n0, h⟩ := h
      exact w_X0_laysStep_l167 cx hx3 hx4 n0 ((0 : Int32)) M sh h
    · replace h := h.2 c1
      refine v_aload (pc := 138) cx dX0_laysStep_138 4 rfl ?_
      refine v_iload (pc := 140) cx dX0_laysStep_140 5 rfl ?_
      refine v_aload_n (pc := 142) cx dX0_laysStep_142 rfl 3 rfl ?_
      refine v_runp_i (pc := 143) cx (kcq803_X0 cx (c_X2_isWithout l D cA sz0 H0 M x4 x5 x3 hx4 hx3 _ sh h) ⟨Nat.le_of_ble_eq_true rfl, Nat.le_of_ble_eq_true rfl⟩ (sh.k (hx4).1) (As := [.int x5, .ref (sz0 + x3)]) rfl rfl (Nat.le_of_ble_eq_true rfl) dX0_laysStep_143 ⟨Nat.le_of_ble_eq_true rfl, Nat.le_of_ble_eq_true rfl⟩) (fun a2 hq => ?_)
      replace h := hq
      refine v_if_eq (pc := 146) cx dX0_laysStep_146 (tgt := 158) rfl (fun c3 => ?_) (fun c3 => ?_)
      · replace h := h.1 c3
        refine nm_x (x5 + (1 : Int32)) (fun z4 ez4 => ?_)
        replace h := h z4 ez4
        refine v_iinc (pc := 158) cx dX0_laysStep_158 (q := 5) rfl ((ii_1 _).trans ez4.symm) (Nat.le_of_ble_eq_true rfl) (lv' := [(5, .int z4), (0, .ref (sz0 + 0)), (1, .int x1), (2, .int x2), (3, .ref (sz0 + x3)), (4, .ref (sz0 + x4))]) rfl ?_
        refine v_goto (pc := 161) cx dX0_laysStep_161 (tgt := 128) rfl ?_
        refine v_sub (lv' := [(0, .ref (sz0 + 0)), (1, .int x1), (2, .int x2), (3, .ref (sz0 + x3)), (4, .ref (sz0 + x4)), (5, .int z4)]) [1, 2, 3, 4, 5, 0] rfl ?_
        exact ih z4 M sh h
      · replace h := h.2 c3
        refine v_aload_n (pc := 149) cx dX0_laysStep_149 rfl 0 rfl ?_
        refine v_iload_n (pc := 150) cx dX0_laysStep_150 rfl 1 rfl ?_
        refine v_iload_n (pc := 151) cx dX0_laysStep_151 rfl 2 rfl ?_
        refine v_iconst (pc := 152) cx dX0_laysStep_152 ic_1 ?_
        refine v_iload (pc := 153) cx dX0_laysStep_153 5 rfl ?_
        refine v_run_v (pc := 155) cx (kcq729_X0 cx (c_X0_tries l D cA sz0 H0 M x1 x2 ((1 : Int32)) x5  _ sh h) ⟨Nat.le_of_ble_eq_true rfl, Nat.le_of_ble_eq_true rfl⟩ (sh.k k_0) (As := [.int x1, .int x2, .int (1 : Int32), .int x5]) rfl rfl (Nat.le_of_ble_eq_true rfl) dX0_laysStep_155 ⟨Nat.le_of_ble_eq_true rfl, Nat.le_of_ble_eq_true rfl⟩) (fun M6 hq => ?_)
        obtain ⟨h, sh⟩ := hq
        refine nm_x (x5 + (1 : Int32)) (fun z7 ez7 => ?_)
        replace h := h z7 ez7
        refine v_iinc (pc := 158) cx dX0_laysStep_158 (q := 5) rfl ((ii_1 _).trans ez7.symm) (Nat.le_of_ble_eq_true rfl) (lv' := [(5, .int z7), (0, .ref (sz0 + 0)), (1, .int x1), (2, .int x2), (3, .ref (sz0 + x3)), (4, .ref (sz0 + x4))]) rfl ?_
        refine v_goto (pc := 161) cx dX0_laysStep_161 (tgt := 128) rfl ?_
        refine v_sub (lv' := [(0, .ref (sz0 + 0)), (1, .int x1), (2, .int x2), (3, .ref (sz0 + x3)), (4, .ref (sz0 + x4)), (5, .int z7)]) [1, 2, 3, 4, 5, 0] rfl ?_
        exact ih z7 M6 sh h
def m_X0_laysStep (x1 : Int32) (x2 : Int32) (M : WM)  (Q : WM → Prop) : Prop := (vp_in x1 40 ∧ (vp_in x2 40 ∧ (∀ M3 : WM, M3 = wPI M ((10 + x1.toNatClampNeg)) x2.toNatClampNeg ((268435456 : Int32)) → ((x1 = x2 → Q M3) ∧ (¬ x1 = x2 → (m_X0_isUsed x1 M3 (fun (a5 : Int32) => ((a5 = 0 → Q M3) ∧ (¬ a5 = 0 → (m_X0_isUsed x2 M3 (fun (a7 : Int32) => ((a7 = 0 → Q M3) ∧ (¬ a7 = 0 → (vp_in x1 40 ∧ (vp_in x2 40 ∧ (((wI M3 ((5325 + 3 * x1.toNatClampNeg)) 1) = (wI M3 ((5325 + 3 * x2.toNatClampNeg)) 1) → (m_X0_unlikeMany ((5325 + 3 * x1.toNatClampNeg)) ((5325 + 3 * x2.toNatClampNeg)) M3 (fun (a12 : Int32) (M13 : WM) => ((a12 = (1 : Int32) → (m_X0_tries x1 x2 ((0 : Int32)) ((wI M13 0 10)) M13 (fun (M21 : WM) => (∃ n0, m_X0_laysStep_l128 x1 x2 ((5325 + 3 * x1.toNatClampNeg)) ((5325 + 3 * x2.toNatClampNeg)) Q n0 ((0 : Int32)) M21)))) ∧ (¬ a12 = (1 : Int32) → ((a12 = (2 : Int32) → (m_X0_areChanged ((5325 + 3 * x1.toNatClampNeg)) ((5325 + 3 * x2.toNatClampNeg)) ((wI M13 0 10)) M13 (fun (a16 : Int32) => ((a16 = 0 → (∃ n0, m_X0_laysStep_l128 x1 x2 ((5325 + 3 * x1.toNatClampNeg)) ((5325 + 3 * x2.toNatClampNeg)) Q n0 ((0 : Int32)) M13)) ∧ (¬ a16 = 0 → (m_X0_tries x1 x2 ((3 : Int32)) ((wI M13 0 10)) M13 (fun (M19 : WM) => (∃ n0, m_X0_laysStep_l128 x1 x2 ((5325 + 3 * x1.toNatClampNeg)) ((5325 + 3 * x2.toNatClampNeg)) Q n0 ((0 : Int32)) M19)))))))) ∧ (¬ a12 = (2 : Int32) → (∃ n0, m_X0_laysStep_l128 x1 x2 ((5325 + 3 * x1.toNatClampNeg)) ((5325 + 3 * x2.toNatClampNeg)) Q n0 ((0 : Int32)) M13)))))))) ∧ (¬ (wI M3 ((5325 + 3 * x1.toNatClampNeg)) 1) = (wI M3 ((5325 + 3 * x2.toNatClampNeg)) 1) → (∃ n0, m_X0_laysStep_l128 x1 x2 ((5325 + 3 * x1.toNatClampNeg)) ((5325 + 3 * x2.toNatClampNeg)) Q n0 ((0 : Int32)) M3))))))))))))))))))
theorem c_X0_laysStep (l : Launch) (D : va_G) (cA : Nat → ClassId) (sz0 : Nat) (H0 : Heap) (M : WM) (x1 : Int32) (x2 : Int32)   (Q : WM → Prop) (sh : Shp M) (h : m_X0_laysStep x1 x2 M  Q) : Met l yX0_laysStep (ws_ yX0_laysStep cX0_laysStep 6 none) ({ frames := 118, cells := 0, slots := 0, locals := 4584 } : Room) (PcW D cA sz0 H0 [.ref (sz0 + 0), .int x1, .int x2] M) (QW_v D cA sz0 H0 (fun M' => Q M' ∧ Shp M')) 0 0 (Aw sz0) := by
  replace h : (vp_in x1 40 ∧ (vp_in x2 40 ∧ (∀ M3 : WM, M3 = wPI M ((10 + x1.toNatClampNeg)) x2.toNatClampNeg ((268435456 : Int32)) → ((x1 = x2 → Q M3) ∧ (¬ x1 = x2 → (m_X0_isUsed x1 M3 (fun (a5 : Int32) => ((a5 = 0 → Q M3) ∧ (¬ a5 = 0 → (m_X0_isUsed x2 M3 (fun (a7 : Int32) => ((a7 = 0 → Q M3) ∧ (¬ a7 = 0 → (vp_in x1 40 ∧ (vp_in x2 40 ∧ (((wI M3 ((5325 + 3 * x1.toNatClampNeg)) 1) = (wI M3 ((5325 + 3 * x2.toNatClampNeg)) 1) → (m_X0_unlikeMany ((5325 + 3 * x1.toNatClampNeg)) ((5325 + 3 * x2.toNatClampNeg)) M3 (fun (a12 : Int32) (M13 : WM) => ((a12 = (1 : Int32) → (m_X0_tries x1 x2 ((0 : Int32)) ((wI M13 0 10)) M13 (fun (M21 : WM) => (∃ n0, m_X0_laysStep_l128 x1 x2 ((5325 + 3 * x1.toNatClampNeg)) ((5325 + 3 * x2.toNatClampNeg)) Q n0 ((0 : Int32)) M21)))) ∧ (¬ a12 = (1 : Int32) → ((a12 = (2 : Int32) → (m_X0_areChanged ((5325 + 3 * x1.toNatClampNeg)) ((5325 + 3 * x2.toNatClampNeg)) ((wI M13 0 10)) M13 (fun (a16 : Int32) => ((a16 = 0 → (∃ n0, m_X0_laysStep_l128 x1 x2 ((5325 + 3 * x1.toNatClampNeg)) ((5325 + 3 * x2.toNatClampNeg)) Q n0 ((0 : Int32)) M13)) ∧ (¬ a16 = 0 → (m_X0_tries x1 x2 ((3 : Int32)) ((wI M13 0 10)) M13 (fun (M19 : WM) => (∃ n0, m_X0_laysStep_l128 x1 x2 ((5325 + 3 * x1.toNatClampNeg)) ((5325 + 3 * x2.toNatClampNeg)) Q n0 ((0 : Int32)) M19)))))))) ∧ (¬ a12 = (2 : Int32) → (∃ n0, m_X0_laysStep_l128 x1 x2 ((5325 + 3 * x1.toNatClampNeg)) ((5325 + 3 * x2.toNatClampNeg)) Q n0 ((0 : Int32)) M13)))))))) ∧ (¬ (wI M3 ((5325 + 3 * x1.toNatClampNeg)) 1) = (wI M3 ((5325 + 3 * x2.toNatClampNeg)) 1) → (∃ n0, m_X0_laysStep_l128 x1 x2 ((5325 + 3 * x1.toNatClampNeg)) ((5325 + 3 * x2.toNatClampNeg)) Q n0 ((0 : Int32)) M3)))))))))))))))))) := h
  refine Met.ofV (by decide +kernel) (Nat.le_of_ble_eq_true rfl) ?_
  intro p e s m args below meth c cx hnm
  replace cx : Cx p s m args meth c cX0_laysStep 6 RX0 none D cA sz0 H0 := cx
  refine v_sub (lv' := [(0, .ref (sz0 + 0)), (1, .int x1), (2, .int x2)]) [0, 1, 2] rfl ?_
  refine v_aload_n (pc := 0) cx dX0_laysStep_0 rfl 0 rfl ?_
  refine gq286_X0 (pc := 1) cx dX0_laysStep_1 (sh.k k_0) (v_some (sh.r r_0_11) ?_)
  refine v_iload_n (pc := 4) cx dX0_laysStep_4 rfl 1 rfl ?_
  obtain ⟨b1, h⟩ := h
  refine v_aald104 (pc := 5) cx dX0_laysStep_5 (sh.k k_9) (sh.l k_9 l_9) b1 (v_some (sh.r (f_9 (lt_in b1))) ?_)
  refine v_iload_n (pc := 6) cx dX0_laysStep_6 rfl 2 rfl ?_
  refine v_ldc (pc := 7) cx dX0_laysStep_7 q717 ?_
  obtain ⟨b2, h⟩ := h
  refine v_iast (pc := 9) cx dX0_laysStep_9 (sh.k (fk_9 (lt_in b1))) (sh.l (fk_9 (lt_in b1)) (fl_9 (lt_in b1))) b2 ?_
  refine v_wld (fun M3 eM3 => ?_)
  replace h := h M3 eM3
  replace sh : Shp M3 := Shp_PI sh eM3
  refine v_iload_n (pc := 10) cx dX0_laysStep_10 rfl 1 rfl ?_
  refine v_iload_n (pc := 11) cx dX0_laysStep_11 rfl 2 rfl ?_
  refine v_icmp_eq (pc := 12) cx dX0_laysStep_12 (tgt := 31) rfl (fun c4 => ?_) (fun c4 => ?_)
  · replace h := h.1 c4
    exact v_vret cx rfl dX0_laysStep_31 ⟨Nat.le_of_ble_eq_true rfl, Nat.le_of_ble_eq_true rfl⟩ ⟨h, sh⟩
  · replace h := h.2 c4
    refine v_aload_n (pc := 15) cx dX0_laysStep_15 rfl 0 rfl ?_
    refine v_iload_n (pc := 16) cx dX0_laysStep_16 rfl 1 rfl ?_
    refine v_runp_i (pc := 17) cx (kcq718_X0 cx (c_X0_isUsed l D cA sz0 H0 M3 x1  _ sh h) ⟨Nat.le_of_ble_eq_true rfl, Nat.le_of_ble_eq_true rfl⟩ (sh.k k_0) (As := [.int x1]) rfl rfl (Nat.le_of_ble_eq_true rfl) dX0_laysStep_17 ⟨Nat.le_of_ble_eq_true rfl, Nat.le_of_ble_eq_true rfl⟩) (fun a5 hq => ?_)
    replace h := hq
    refine v_if_eq (pc := 20) cx dX0_laysStep_20 (tgt := 31) rfl (fun c6 => ?_) (fun c6 => ?_)
    · replace h := h.1 c6
      exact v_vret cx rfl dX0_laysStep_31 ⟨Nat.le_of_ble_eq_true rfl, Nat.le_of_ble_eq_true rfl⟩ ⟨h, sh⟩
    · replace h := h.2 c6
      refine v_aload_n (pc := 23) cx dX0_laysStep_23 rfl 0 rfl ?_
      refine v_iload_n (pc := 24) cx dX0_laysStep_24 rfl 2 rfl ?_
      refine v_runp_i (pc := 25) cx (kcq718_X0 cx (c_X0_isUsed l D cA sz0 H0 M3 x2  _ sh h) ⟨Nat.le_of_ble_eq_true rfl, Nat.le_of_ble_eq_true rfl⟩ (sh.k k_0) (As := [.int x2]) rfl rfl (Nat.le_of_ble_eq_true rfl) dX0_laysStep_25 ⟨Nat.le_of_ble_eq_true rfl, Nat.le_of_ble_eq_true rfl⟩) (fun a7 hq => ?_)
      replace h := hq
      refine v_if_ne (pc := 28) cx dX0_laysStep_28 (tgt := 32) rfl (fun c8 => ?_) (fun c8 => ?_)
      · replace h := h.2 c8
        refine v_aload_n (pc := 32) cx dX0_laysStep_32 rfl 0 rfl ?_
        refine gq273_X0 (pc := 33) cx dX0_laysStep_33 (sh.k k_0) (v_some (sh.r r_0_0) ?_)
        refine v_iload_n (pc := 36) cx dX0_laysStep_36 rfl 1 rfl ?_
        obtain ⟨b9, h⟩ := h
        refine v_aald107 (pc := 37) cx dX0_laysStep_37 (sh.k k_1) (sh.l k_1 l_1) b9 (v_some (sh.r (f_1 (lt_in b9))) ?_)
        refine gq257_X5 (pc := 38) cx dX0_laysStep_38 (sh.k (fk_1 (lt_in b9))) (v_some (sh.r (fr_1 (lt_in b9))) ?_)
        refine v_astore_n (pc := 41) cx dX0_laysStep_41 rfl (Nat.le_of_ble_eq_true rfl) (lv' := [(3, .ref (sz0 + (5325 + 3 * x1.toNatClampNeg))), (0, .ref (sz0 + 0)), (1, .int x1), (2, .int x2)]) rfl ?_
        refine v_aload_n (pc := 42) cx dX0_laysStep_42 rfl 1 rfl ?_
        refine gq273_X0 (pc := 43) cx dX0_laysStep_43 (sh.k k_0) (v_some (sh.r r_0_0) ?_)
        refine v_iload_n (pc := 46) cx dX0_laysStep_46 rfl 3 rfl ?_
        obtain ⟨b10, h⟩ := h
        refine v_aald107 (pc := 47) cx dX0_laysStep_47 (sh.k k_1) (sh.l k_1 l_1) b10 (v_some (sh.r (f_1 (lt_in b10))) ?_)
        refine gq257_X5 (pc := 48) cx dX0_laysStep_48 (sh.k (fk_1 (lt_in b10))) (v_some (sh.r (fr_1 (lt_in b10))) ?_)
        refine v_astore (pc := 51) cx dX0_laysStep_51 (Nat.le_of_ble_eq_true rfl) (lv' := [(4, .ref (sz0 + (5325 + 3 * x2.toNatClampNeg))), (3, .ref (sz0 + (5325 + 3 * x1.toNatClampNeg))), (0, .ref (sz0 + 0)), (1, .int x1), (2, .int x2)]) rfl ?_
        refine v_aload_n (pc := 53) cx dX0_laysStep_53 rfl 1 rfl ?_
        refine gq196_X2 (pc := 54) cx dX0_laysStep_54 (sh.k (isLn_w (lt_in b9)).1) ?_
        refine v_aload (pc := 57) cx dX0_laysStep_57 0 rfl ?_
        refine gq196_X2 (pc := 59) cx dX0_laysStep_59 (sh.k (isLn_w (lt_in b10)).1) ?_
        refine v_icmp_ne (pc := 62) cx dX0_laysStep_62 (tgt := 125) rfl (fun c11 => ?_) (fun c11 => ?_)
        · replace h := h.2 c11
          refine v_iconst (pc := 125) cx dX0_laysStep_125 ic_0 ?_
          refine v_istore (pc := 126) cx dX0_laysStep_126 (Nat.le_of_ble_eq_true rfl) (lv' := [(5, .int (0 : Int32)), (4, .ref (sz0 + (5325 + 3 * x2.toNatClampNeg))), (3, .ref (sz0 + (5325 + 3 * x1.toNatClampNeg))), (0, .ref (sz0 + 0)), (1, .int x1), (2, .int x2)]) rfl ?_
          refine v_sub (lv' := [(0, .ref (sz0 + 0)), (1, .int x1), (2, .int x2), (3, .ref (sz0 + (5325 + 3 * x1.toNatClampNeg))), (4, .ref (sz0 + (5325 + 3 * x2.toNatClampNeg))), (5, .int (0 : Int32))]) [3, 4, 5, 2, 1, 0] rfl ?_
          obtain ⟨n0, h⟩ := h
          exact w_X0_laysStep_l128 cx (isLn_w (lt_in b9)) (isLn_w (lt_in b10)) n0 ((0 : Int32)) M3 sh h
        · replace h := h.1 c11
          refine v_aload_n (pc := 65) cx dX0_laysStep_65 rfl 2 rfl ?_
          refine v_aload_n (pc := 66) cx dX0_laysStep_66 rfl 1 rfl ?_
          refine v_aload (pc := 67) cx dX0_laysStep_67 0 rfl ?_
          refine v_run_i (pc := 69) cx (kcq725_X0 cx (c_X0_unlikeMany l D cA sz0 H0 M3 ((5325 + 3 * x1.toNatClampNeg)) ((5325 + 3 * x2.toNatClampNeg)) (isLn_w (lt_in b9)) (isLn_w (lt_in b10)) _ sh h) ⟨Nat.le_of_ble_eq_true rfl, Nat.le_of_ble_eq_true rfl⟩ (sh.k k_0) (As := [.ref (sz0 + (5325 + 3 * x1.toNatClampNeg)), .ref (sz0 + (5325 + 3 * x2.toNatClampNeg))]) rfl rfl (Nat.le_of_ble_eq_true rfl) dX0_laysStep_69 ⟨Nat.le_of_ble_eq_true rfl, Nat.le_of_ble_eq_true rfl⟩) (fun a12 M13 hq => ?_)
          obtain ⟨h, sh⟩ := hq
          refine v_istore (pc := 72) cx dX0_laysStep_72 (Nat.le_of_ble_eq_true rfl) (lv' := [(5, .int a12), (4, .ref (sz0 + (5325 + 3 * x2.toNatClampNeg))), (3, .ref (sz0 + (5325 + 3 * x1.toNatClampNeg))), (0, .ref (sz0 + 0)), (1, .int x1), (2, .int x2)]) rfl ?_
          refine v_iload (pc := 74) cx dX0_laysStep_74 0 rfl ?_
          refine v_iconst (pc := 76) cx dX0_laysStep_76 ic_1 ?_
          refine v_icmp_ne (pc := 77) cx dX0_laysStep_77 (tgt := 94) rfl (fun c14 => ?_) (fun c14 => ?_)
          · replace h := h.2 c14
            refine v_iload (pc := 94) cx dX0_laysStep_94 0 rfl ?_
            refine v_iconst (pc := 96) cx dX0_laysStep_96 ic_2 ?_
            refine v_icmp_ne (pc := 97) cx dX0_laysStep_97 (tgt := 125) rfl (fun c15 => ?_) (fun c15 => ?_)
            · replace h := h.2 c15
              refine v_iconst (pc := 125) cx dX0_laysStep_125 ic_0 ?_
              refine v_istore (pc := 126) cx dX0_laysStep_126 (Nat.le_of_ble_eq_true rfl) (lv' := [(5, .int (0 : Int32)), (4, .ref (sz0 + (5325 + 3 * x2.toNatClampNeg))), (3, .ref (sz0 + (5325 + 3 * x1.toNatClampNeg))), (0, .ref (sz0 + 0)), (1, .int x1), (2, .int x2)]) rfl ?_
              refine v_sub (lv' := [(0, .ref (sz0 + 0)), (1, .int x1), (2, .int x2), (3, .ref (sz0 + (5325 + 3 * x1.toNatClampNeg))), (4, .ref (sz0 + (5325 + 3 * x2.toNatClampNeg))), (5, .int (0 : Int32))]) [3, 4, 5, 2, 1, 0] rfl ?_
              obtain ⟨n0, h⟩ := h
              exact w_X0_laysStep_l128 cx (isLn_w (lt_in b9)) (isLn_w (lt_in b10)) n0 ((0 : Int32)) M13 sh h
            · replace h := h.1 c15
              refine v_aload_n (pc := 100) cx dX0_laysStep_100 rfl 3 rfl ?_
              refine v_aload_n (pc := 101) cx dX0_laysStep_101 rfl 2 rfl ?_
              refine v_aload (pc := 102) cx dX0_laysStep_102 1 rfl ?_
              refine v_aload_n (pc := 104) cx dX0_laysStep_104 rfl 3 rfl ?_
              refine gq285_X0 (pc := 105) cx dX0_laysStep_105 (sh.k k_0) ?_
              refine v_runp_i (pc := 108) cx (kcq799_X0 cx (c_X0_areChanged l D cA sz0 H0 M13 ((5325 + 3 * x1.toNatClampNeg)) ((5325 + 3 * x2.toNatClampNeg)) ((wI M13 0 10)) (isLn_w (lt_in b9)) (isLn_w (lt_in b10)) _ sh h) ⟨Nat.le_of_ble_eq_true rfl, Nat.le_of_ble_eq_true rfl⟩ (sh.k k_0) (As := [.ref (sz0 + (5325 + 3 * x1.toNatClampNeg)), .ref (sz0 + (5325 + 3 * x2.toNatClampNeg)), .int (wI M13 0 10)]) rfl rfl (Nat.le_of_ble_eq_true rfl) dX0_laysStep_108 ⟨Nat.le_of_ble_eq_true rfl, Nat.le_of_ble_eq_true rfl⟩) (fun a16 hq => ?_)
              replace h := hq
              refine v_if_eq (pc := 111) cx dX0_laysStep_111 (tgt := 125) rfl (fun c17 => ?_) (fun c17 => ?_)
              · replace h := h.1 c17
                refine v_iconst (pc := 125) cx dX0_laysStep_125 ic_0 ?_
                refine v_istore (pc := 126) cx dX0_laysStep_126 (Nat.le_of_ble_eq_true rfl) (lv' := [(5, .int (0 : Int32)), (4, .ref (sz0 + (5325 + 3 * x2.toNatClampNeg))), (3, .ref (sz0 + (5325 + 3 * x1.toNatClampNeg))), (0, .ref (sz0 + 0)), (1, .int x1), (2, .int x2)]) rfl ?_
                refine v_sub (lv' := [(0, .ref (sz0 + 0)), (1, .int x1), (2, .int x2), (3, .ref (sz0 + (5325 + 3 * x1.toNatClampNeg))), (4, .ref (sz0 + (5325 + 3 * x2.toNatClampNeg))), (5, .int (0 : Int32))]) [3, 4, 5, 2, 1, 0] rfl ?_
                obtain ⟨n0, h⟩ := h
                exact w_X0_laysStep_l128 cx (isLn_w (lt_in b9)) (isLn_w (lt_in b10)) n0 ((0 : Int32)) M13 sh h
              · replace h := h.2 c17
                refine v_aload_n (pc := 114) cx dX0_laysStep_114 rfl 3 rfl ?_
                refine v_iload_n (pc := 115) cx dX0_laysStep_115 rfl 4 rfl ?_
                refine v_iload_n (pc := 116) cx dX0_laysStep_116 rfl 5 rfl ?_
                refine v_iconst (pc := 117) cx dX0_laysStep_117 ic_3 ?_
                refine v_aload_n (pc := 118) cx dX0_laysStep_118 rfl 3 rfl ?_
                refine gq285_X0 (pc := 119) cx dX0_laysStep_119 (sh.k k_0) ?_
                refine v_run_v (pc := 122) cx (kcq729_X0 cx (c_X0_tries l D cA sz0 H0 M13 x1 x2 ((3 : Int32)) ((wI M13 0 10))  _ sh h) ⟨Nat.le_of_ble_eq_true rfl, Nat.le_of_ble_eq_true rfl⟩ (sh.k k_0) (As := [.int x1, .int x2, .int (3 : Int32), .int (wI M13 0 10)]) rfl rfl (Nat.le_of_ble_eq_true rfl) dX0_laysStep_122 ⟨Nat.le_of_ble_eq_true rfl, Nat.le_of_ble_eq_true rfl⟩) (fun M19 hq => ?_)
                obtain ⟨h, sh⟩ := hq
                refine v_iconst (pc := 125) cx dX0_laysStep_125 ic_0 ?_
                refine v_istore (pc := 126) cx dX0_laysStep_126 (Nat.le_of_ble_eq_true rfl) (lv' := [(5, .int (0 : Int32)), (4, .ref (sz0 + (5325 + 3 * x2.toNatClampNeg))), (3, .ref (sz0 + (5325 + 3 * x1.toNatClampNeg))), (0, .ref (sz0 + 0)), (1, .int x1), (2, .int x2)]) rfl ?_
                refine v_sub (lv' := [(0, .ref (sz0 + 0)), (1, .int x1), (2, .int x2), (3, .ref (sz0 + (5325 + 3 * x1.toNatClampNeg))), (4, .ref (sz0 + (5325 + 3 * x2.toNatClampNeg))), (5, .int (0 : Int32))]) [3, 4, 5, 2, 1, 0] rfl ?_
                obtain ⟨n0, h⟩ := h
                exact w_X0_laysStep_l128 cx (isLn_w (lt_in b9)) (isLn_w (lt_in b10)) n0 ((0 : Int32)) M19 sh h
          · replace h := h.1 c14
            refine v_aload_n (pc := 80) cx dX0_laysStep_80 rfl 3 rfl ?_
            refine v_iload_n (pc := 81) cx dX0_laysStep_81 rfl 4 rfl ?_
            refine v_iload_n (pc := 82) cx dX0_laysStep_82 rfl 5 rfl ?_
            refine v_iconst (pc := 83) cx dX0_laysStep_83 ic_0 ?_
            refine v_aload_n (pc := 84) cx dX0_laysStep_84 rfl 3 rfl ?_
            refine gq285_X0 (pc := 85) cx dX0_laysStep_85 (sh.k k_0) ?_
            refine v_run_v (pc := 88) cx (kcq729_X0 cx (c_X0_tries l D cA sz0 H0 M13 x1 x2 ((0 : Int32)) ((wI M13 0 10))  _ sh h) ⟨Nat.le_of_ble_eq_true rfl, Nat.le_of_ble_eq_true rfl⟩ (sh.k k_0) (As := [.int x1, .int x2, .int (0 : Int32), .int (wI M13 0 10)]) rfl rfl (Nat.le_of_ble_eq_true rfl) dX0_laysStep_88 ⟨Nat.le_of_ble_eq_true rfl, Nat.le_of_ble_eq_true rfl⟩) (fun M21 hq => ?_)
            obtain ⟨h, sh⟩ := hq
            refine v_goto (pc := 91) cx dX0_laysStep_91 (tgt := 125) rfl ?_
            refine v_iconst (pc := 125) cx dX0_laysStep_125 ic_0 ?_
            refine v_istore (pc := 126) cx dX0_laysStep_126 (Nat.le_of_ble_eq_true rfl) (lv' := [(5, .int (0 : Int32)), (4, .ref (sz0 + (5325 + 3 * x2.toNatClampNeg))), (3, .ref (sz0 + (5325 + 3 * x1.toNatClampNeg))), (0, .ref (sz0 + 0)), (1, .int x1), (2, .int x2)]) rfl ?_
            refine v_sub (lv' := [(0, .ref (sz0 + 0)), (1, .int x1), (2, .int x2), (3, .ref (sz0 + (5325 + 3 * x1.toNatClampNeg))), (4, .ref (sz0 + (5325 + 3 * x2.toNatClampNeg))), (5, .int (0 : Int32))]) [3, 4, 5, 2, 1, 0] rfl ?_
            obtain ⟨n0, h⟩ := h
            exact w_X0_laysStep_l128 cx (isLn_w (lt_in b9)) (isLn_w (lt_in b10)) n0 ((0 : Int32)) M21 sh h
      · replace h := h.1 c8
        exact v_vret cx rfl dX0_laysStep_31 ⟨Nat.le_of_ble_eq_true rfl, Nat.le_of_ble_eq_true rfl⟩ ⟨h, sh⟩
/-! LetterHeaps.lays()V -/
def m_X0_lays_l268  (K258 : Int32 → WM → Prop) (x1 : Int32)   (Q : WM → Prop) : Nat → Int32 → WM → Prop
  | 0, _, _ => False
  | n + 1, x2, M => (((wI M 0 3) ≤ x2 → (∀ z2 : Int32, z2 = x1 + (1 : Int32) → K258 z2 M)) ∧ (¬ (wI M 0 3) ≤ x2 → (vp_in x1 40 ∧ (vp_in x2 40 ∧ (((268435456 : Int32) ≤ (wI M ((133 + x1.toNatClampNeg)) x2.toNatClampNeg) → (∀ z6 : Int32, z6 = x2 + (1 : Int32) → m_X0_lays_l268 K258 x1 Q n z6 M)) ∧ (¬ (268435456 : Int32) ≤ (wI M ((133 + x1.toNatClampNeg)) x2.toNatClampNeg) → (vp_in x1 40 ∧ (vp_in x1 40 ∧ (∀ M9 : WM, M9 = wPJ M 173 x1.toNatClampNeg (((wJ M 173 x1.toNatClampNeg) ||| ((1 : Int64) <<< (x2.toInt64 &&& 63)))) → (∀ z10 : Int32, z10 = x2 + (1 : Int32) → m_X0_lays_l268 K258 x1 Q n z10 M9))))))))))
theorem w_X0_lays_l268 {p : Program} {l : Launch} {e : Env} {s : State} {m : MethodId} {args : Array Value} {below : List Frame} {meth : Method} {c : Code} {D : va_G} {cA : Nat → ClassId} {sz0 : Nat} {H0 : Heap}  {K258 : Int32 → WM → Prop} {x1 : Int32} {Q : WM → Prop}  (cx : Cx p s m args meth c cX0_lays 4 RX0 none D cA sz0 H0)  (hK258 : ∀ (x1 : Int32)  (M : WM) (sh : Shp M), K258 x1 M → V p l e ({ frames := 119, cells := 0, slots := 0, locals := 4609 } : Room) s m args below meth c 4 D cA sz0 H0 0 0 (MQ below (QW_v D cA sz0 H0 (fun M' => Q M' ∧ Shp M')) args s 0 0 (Aw sz0)) 258 [(0, .ref (sz0 + 0)), (1, .int x1)] [] M)   : ∀ (n : Nat) (x2 : Int32)  (M : WM) (sh : Shp M), m_X0_lays_l268 K258 x1 Q n x2 M → V p l e ({ frames := 119, cells := 0, slots := 0, locals := 4609 } : Room) s m args below meth c 4 D cA sz0 H0 0 0 (MQ below (QW_v D cA sz0 H0 (fun M' => Q M' ∧ Shp M')) args s 0 0 (Aw sz0)) 268 [(0, .ref (sz0 + 0)), (1, .int x1), (2, .int x2)] [] M := by
  intro n
  induction n with
  | zero => intro x2 M sh h; exact h.elim
  | succ n ih =>
    intro x2 M sh h
    replace h : (((wI M 0 3) ≤ x2 → (∀ z2 : Int32, z2 = x1 + (1 : Int32) → K258 z2 M)) ∧ (¬ (wI M 0 3) ≤ x2 → (vp_in x1 40 ∧ (vp_in x2 40 ∧ (((268435456 : Int32) ≤ (wI M ((133 + x1.toNatClampNeg)) x2.toNatClampNeg) → (∀ z6 : Int32, z6 = x2 + (1 : Int32) → m_X0_lays_l268 K258 x1 Q n z6 M)) ∧ (¬ (268435456 : Int32) ≤ (wI M ((133 + x1.toNatClampNeg)) x2.toNatClampNeg) → (vp_in x1 40 ∧ (vp_in x1 40 ∧ (∀ M9 : WM, M9 = wPJ M 173 x1.toNatClampNeg (((wJ M 173 x1.toNatClampNeg) ||| ((1 : Int64) <<< (x2.toInt64 &&& 63)))) → (∀ z10 : Int32, z10 = x2 + (1 : Int32) → m_X0_lays_l268 K258 x1 Q n z10 M9)))))))))) := h
    refine v_iload_n (pc := 268) cx dX0_lays_268 rfl 2 rfl ?_
    refine v_aload_n (pc := 269) cx dX0_lays_269 rfl 0 rfl ?_
    refine gq278_X0 (pc := 270) cx dX0_lays_270 (sh.k k_0) ?_
    refine v_icmp_ge (pc := 273) cx dX0_lays_273 (tgt := 307) rfl (fun c1 => ?_) (fun c1 => ?_)
    · replace h := h.1 c1
      refine nm_x (x1 + (1 : Int32)) (fun z2 ez2 => ?_)
      replace h := h z2 ez2
      refine v_iinc (pc := 307) cx dX0_lays_307 (q := 1) rfl ((ii_1 _).trans ez2.symm) (Nat.le_of_ble_eq_true rfl) (lv' := [(1, .int z2), (0, .ref (sz0 + 0)), (2, .int x2)]) rfl ?_
      refine v_goto (pc := 310) cx dX0_lays_310 (tgt := 258) rfl ?_
      refine v_sub (lv' := [(0, .ref (sz0 + 0)), (1, .int z2)]) [1, 0] rfl ?_
      exact hK258 z2 M sh h
    · replace h := h.2 c1
      refine v_aload_n (pc := 276) cx dX0_lays_276 rfl 0 rfl ?_
      refine gq289_X0 (pc := 277) cx dX0_lays_277 (sh.k k_0) (v_some (sh.r r_0_14) ?_)
      refine v_iload_n (pc := 280) cx dX0_lays_280 rfl 1 rfl ?_
      obtain ⟨b3, h⟩ := h
      refine v_aald104 (pc := 281) cx dX0_lays_281 (sh.k k_132) (sh.l k_132 l_132) b3 (v_some (sh.r (f_132 (lt_in b3))) ?_)
      refine v_iload_n (pc := 282) cx dX0_lays_282 rfl 2 rfl ?_
      obtain ⟨b4, h⟩ := h
      refine v_iald (pc := 283) cx dX0_lays_283 (sh.k (fk_132 (lt_in b3))) (sh.l (fk_132 (lt_in b3)) (fl_132 (lt_in b3))) b4 ?_
      refine v_ldc (pc := 284) cx dX0_lays_284 q717 ?_
      refine v_icmp_ge (pc := 286) cx dX0_lays_286 (tgt := 301) rfl (fun c5 => ?_) (fun c5 => ?_)
      · replace h := h.1 c5
        refine nm_x (x2 + (1 : Int32)) (fun z6 ez6 => ?_)
        replace h := h z6 ez6
        refine v_iinc (pc := 301) cx dX0_lays_301 (q := 2) rfl ((ii_1 _).trans ez6.symm) (Nat.le_of_ble_eq_true rfl) (lv' := [(2, .int z6), (0, .ref (sz0 + 0)), (1, .int x1)]) rfl ?_
        refine v_goto (pc := 304) cx dX0_lays_304 (tgt := 268) rfl ?_
        refine v_sub (lv' := [(0, .ref (sz0 + 0)), (1, .int x1), (2, .int z6)]) [1, 2, 0] rfl ?_
        exact ih z6 M sh h
      · replace h := h.2 c5
        refine v_aload_n (pc := 289) cx dX0_lays_289 rfl 0 rfl ?_
        refine gq290_X0 (pc := 290) cx dX0_lays_290 (sh.k k_0) (v_some (sh.r r_0_15) ?_)
        refine v_iload_n (pc := 293) cx dX0_lays_293 rfl 1 rfl ?_
        refine v_dup2 (pc := 294) cx dX0_lays_294 rfl rfl ?_
        obtain ⟨b7, h⟩ := h
        refine v_lald (pc := 295) cx dX0_lays_295 (sh.k k_173) (sh.l k_173 l_173) b7 ?_
        refine v_lconst (pc := 296) cx dX0_lays_296 lc_1 ?_
        refine v_iload_n (pc := 297) cx dX0_lays_297 rfl 2 rfl ?_
        refine v_lshl (pc := 298) cx dX0_lays_298 ?_
        refine v_lor (pc := 299) cx dX0_lays_299 ?_
        obtain ⟨b8, h⟩ := h
        refine v_last (pc := 300) cx dX0_lays_300 (sh.k k_173) (sh.l k_173 l_173) b8 ?_
        refine v_wld (fun M9 eM9 => ?_)
        replace h := h M9 eM9
        replace sh : Shp M9 := Shp_PJ sh eM9
        refine nm_x (x2 + (1 : Int32)) (fun z10 ez10 => ?_)
        replace h := h z10 ez10
        refine v_iinc (pc := 301) cx dX0_lays_301 (q := 2) rfl ((ii_1 _).trans ez10.symm) (Nat.le_of_ble_eq_true rfl) (lv' := [(2, .int z10), (0, .ref (sz0 + 0)), (1, .int x1)]) rfl ?_
        refine v_goto (pc := 304) cx dX0_lays_304 (tgt := 268) rfl ?_
        refine v_sub (lv' := [(0, .ref (sz0 + 0)), (1, .int x1), (2, .int z10)]) [1, 2, 0] rfl ?_
        exact ih z10 M9 sh h
def m_X0_lays_l258      (Q : WM → Prop) : Nat → Int32 → WM → Prop
  | 0, _, _ => False
  | n + 1, x1, M => (((wI M 0 3) ≤ x1 → Q M) ∧ (¬ (wI M 0 3) ≤ x1 → (∃ n0, m_X0_lays_l268 (fun x1' M' => m_X0_lays_l258  Q n x1' M') x1 Q n0 ((0 : Int32)) M)))
theorem w_X0_lays_l258 {p : Program} {l : Launch} {e : Env} {s : State} {m : MethodId} {args : Array Value} {below : List Frame} {meth : Method} {c : Code} {D : va_G} {cA : Nat → ClassId} {sz0 : Nat} {H0 : Heap}  {Q : WM → Prop}  (cx : Cx p s m args meth c cX0_lays 4 RX0 none D cA sz0 H0)     : ∀ (n : Nat) (x1 : Int32)  (M : WM) (sh : Shp M), m_X0_lays_l258 Q n x1 M → V p l e ({ frames := 119, cells := 0, slots := 0, locals := 4609 } : Room) s m args below meth c 4 D cA sz0 H0 0 0 (MQ below (QW_v D cA sz0 H0 (fun M' => Q M' ∧ Shp M')) args s 0 0 (Aw sz0)) 258 [(0, .ref (sz0 + 0)), (1, .int x1)] [] M := by
  intro n
  induction n with
  | zero => intro x1 M sh h; exact h.elim
  | succ n ih =>
    intro x1 M sh h
    replace h : (((wI M 0 3) ≤ x1 → Q M) ∧ (¬ (wI M 0 3) ≤ x1 → (∃ n0, m_X0_lays_l268 (fun x1' M' => m_X0_lays_l258  Q n x1' M') x1 Q n0 ((0 : Int32)) M))) := h
    refine v_iload_n (pc := 258) cx dX0_lays_258 rfl 1 rfl ?_
    refine v_aload_n (pc := 259) cx dX0_lays_259 rfl 0 rfl ?_
    refine gq278_X0 (pc := 260) cx dX0_lays_260 (sh.k k_0) ?_
    refine v_icmp_ge (pc := 263) cx dX0_lays_263 (tgt := 313) rfl (fun c1 => ?_) (fun c1 => ?_)
    · replace h := h.1 c1
      exact v_vret cx rfl dX0_lays_313 ⟨Nat.le_of_ble_eq_true rfl, Nat.le_of_ble_eq_true rfl⟩ ⟨h, sh⟩
    · replace h := h.2 c1
      refine v_iconst (pc := 266) cx dX0_lays_266 ic_0 ?_
      refine v_istore_n (pc := 267) cx dX0_lays_267 rfl (Nat.le_of_ble_eq_true rfl) (lv' := [(2, .int (0 : Int32)), (0, .ref (sz0 + 0)), (1, .int x1)]) rfl ?_
      refine v_sub (lv' := [(0, .ref (sz0 + 0)), (1, .int x1), (2, .int (0 : Int32))]) [1, 2, 0] rfl ?_
      obtain ⟨n0, h⟩ := h
      exact w_X0_lays_l268 cx ih n0 ((0 : Int32)) M sh h
def m_X0_lays_l189  (K169 : Int32 → WM → Prop) (K179 : Int32 → WM → Prop) (x1 : Int32) (x2 : Int32)   (Q : WM → Prop) : Nat → Int32 → WM → Prop
  | 0, _, _ => False
  | n + 1, x3, M => (((wI M 0 3) ≤ x3 → (∀ z2 : Int32, z2 = x2 + (1 : Int32) → K179 z2 M)) ∧ (¬ (wI M 0 3) ≤ x3 → (vp_in x2 40 ∧ (vp_in x2 40 ∧ (vp_in x3 40 ∧ (vp_in x2 40 ∧ (vp_in x1 40 ∧ (vp_in x1 40 ∧ (vp_in x3 40 ∧ (vp_in x3 40 ∧ (∀ z11 : Int32, z11 = (if (if ((wI M ((133 + x2.toNatClampNeg)) x1.toNatClampNeg) + (wI M ((133 + x1.toNatClampNeg)) x3.toNatClampNeg)) < (268435456 : Int32) then ((wI M ((133 + x2.toNatClampNeg)) x1.toNatClampNeg) + (wI M ((133 + x1.toNatClampNeg)) x3.toNatClampNeg)) else (268435456 : Int32)) < (wI M ((133 + x2.toNatClampNeg)) x3.toNatClampNeg) then (if ((wI M ((133 + x2.toNatClampNeg)) x1.toNatClampNeg) + (wI M ((133 + x1.toNatClampNeg)) x3.toNatClampNeg)) < (268435456 : Int32) then ((wI M ((133 + x2.toNatClampNeg)) x1.toNatClampNeg) + (wI M ((133 + x1.toNatClampNeg)) x3.toNatClampNeg)) else (268435456 : Int32)) else (wI M ((133 + x2.toNatClampNeg)) x3.toNatClampNeg)) → (∀ M12 : WM, M12 = wPI M ((133 + x2.toNatClampNeg)) x3.toNatClampNeg z11 → (∀ z13 : Int32, z13 = x3 + (1 : Int32) → m_X0_lays_l189 K169 K179 x1 x2 Q n z13 M12)))))))))))))
theorem w_X0_lays_l189 {p : Program} {l : Launch} {e : Env} {s : State} {m : MethodId} {args : Array Value} {below : List Frame} {meth : Method} {c : Code} {D : va_G} {cA : Nat → ClassId} {sz0 : Nat} {H0 : Heap}  {K169 : Int32 → WM → Prop} {K179 : Int32 → WM → Prop} {x1 : Int32} {x2 : Int32} {Q : WM → Prop}  (cx : Cx p s m args meth c cX0_lays 4 RX0 none D cA sz0 H0)  (hK169 : ∀ (x1 : Int32)  (M : WM) (sh : Shp M), K169 x1 M → V p l e ({ frames := 119, cells := 0, slots := 0, locals := 4609 } : Room) s m args below meth c 4 D cA sz0 H0 0 0 (MQ below (QW_v D cA sz0 H0 (fun M' => Q M' ∧ Shp M')) args s 0 0 (Aw sz0)) 169 [(0, .ref (sz0 + 0)), (1, .int x1)] [] M) (hK179 : ∀ (x2 : Int32)  (M : WM) (sh : Shp M), K179 x2 M → V p l e ({ frames := 119, cells := 0, slots := 0, locals := 4609 } : Room) s m args below meth c 4 D cA sz0 H0 0 0 (MQ below (QW_v D cA sz0 H0 (fun M' => Q M' ∧ Shp M')) args s 0 0 (Aw sz0)) 179 [(0, .ref (sz0 + 0)), (1, .int x1), (2, .int x2)] [] M)   : ∀ (n : Nat) (x3 : Int32)  (M : WM) (sh : Shp M), m_X0_lays_l189 K169 K179 x1 x2 Q n x3 M → V p l e ({ frames := 119, cells := 0, slots := 0, locals := 4609 } : Room) s m args below meth c 4 D cA sz0 H0 0 0 (MQ below (QW_v D cA sz0 H0 (fun M' => Q M' ∧ Shp M')) args s 0 0 (Aw sz0)) 189 [(0, .ref (sz0 + 0)), (1, .int x1), (2, .int x2), (3, .int x3)] [] M := by
  intro n
  induction n with
  | zero => intro x3 M sh h; exact h.elim
  | succ n ih =>
    intro x3 M sh h
    replace h : (((wI M 0 3) ≤ x3 → (∀ z2 : Int32, z2 = x2 + (1 : Int32) → K179 z2 M)) ∧ (¬ (wI M 0 3) ≤ x3 → (vp_in x2 40 ∧ (vp_in x2 40 ∧ (vp_in x3 40 ∧ (vp_in x2 40 ∧ (vp_in x1 40 ∧ (vp_in x1 40 ∧ (vp_in x3 40 ∧ (vp_in x3 40 ∧ (∀ z11 : Int32, z11 = (if (if ((wI M ((133 + x2.toNatClampNeg)) x1.toNatClampNeg) + (wI M ((133 + x1.toNatClampNeg)) x3.toNatClampNeg)) < (268435456 : Int32) then ((wI M ((133 + x2.toNatClampNeg)) x1.toNatClampNeg) + (wI M ((133 + x1.toNatClampNeg)) x3.toNatClampNeg)) else (268435456 : Int32)) < (wI M ((133 + x2.toNatClampNeg)) x3.toNatClampNeg) then (if ((wI M ((133 + x2.toNatClampNeg)) x1.toNatClampNeg) + (wI M ((133 + x1.toNatClampNeg)) x3.toNatClampNeg)) < (268435456 : Int32) then ((wI M ((133 + x2.toNatClampNeg)) x1.toNatClampNeg) + (wI M ((133 + x1.toNatClampNeg)) x3.toNatClampNeg)) else (268435456 : Int32)) else (wI M ((133 + x2.toNatClampNeg)) x3.toNatClampNeg)) → (∀ M12 : WM, M12 = wPI M ((133 + x2.toNatClampNeg)) x3.toNatClampNeg z11 → (∀ z13 : Int32, z13 = x3 + (1 : Int32) → m_X0_lays_l189 K169 K179 x1 x2 Q n z13 M12))))))))))))) := h
    refine v_iload_n (pc := 189) cx dX0_lays_189 rfl 3 rfl ?_
    refine v_aload_n (pc := 190) cx dX0_lays_190 rfl 0 rfl ?_
    refine gq278_X0 (pc := 191) cx dX0_lays_191 (sh.k k_0) ?_
    refine v_icmp_ge (pc := 194) cx dX0_lays_194 (tgt := 244) rfl (fun c1 => ?_) (fun c1 => ?_)
    · replace h := h.1 c1
      refine nm_x (x2 + (1 : Int32)) (fun z2 ez2 => ?_)
      replace h := h z2 ez2
      refine v_iinc (pc := 244) cx dX0_lays_244 (q := 2) rfl ((ii_1 _).trans ez2.symm) (Nat.le_of_ble_eq_true rfl) (lv' := [(2, .int z2), (0, .ref (sz0 + 0)), (1, .int x1), (3, .int x3)]) rfl ?_
      refine v_goto (pc := 247) cx dX0_lays_247 (tgt := 179) rfl ?_
      refine v_sub (lv' := [(0, .ref (sz0 + 0)), (1, .int x1), (2, .int z2)]) [1, 2, 0] rfl ?_
      exact hK179 z2 M sh h
    · replace h := h.2 c1
      refine v_aload_n (pc := 197) cx dX0_lays_197 rfl 0 rfl ?_
      refine gq289_X0 (pc := 198) cx dX0_lays_198 (sh.k k_0) (v_some (sh.r r_0_14) ?_)
      refine v_iload_n (pc := 201) cx dX0_lays_201 rfl 2 rfl ?_
      obtain ⟨b3, h⟩ := h
      refine v_aald104 (pc := 202) cx dX0_lays_202 (sh.k k_132) (sh.l k_132 l_132) b3 (v_some (sh.r (f_132 (lt_in b3))) ?_)
      refine v_iload_n (pc := 203) cx dX0_lays_203 rfl 3 rfl ?_
      refine v_aload_n (pc := 204) cx dX0_lays_204 rfl 0 rfl ?_
      refine gq289_X0 (pc := 205) cx dX0_lays_205 (sh.k k_0) (v_some (sh.r r_0_14) ?_)
      refine v_iload_n (pc := 208) cx dX0_lays_208 rfl 2 rfl ?_
      obtain ⟨b4, h⟩ := h
      refine v_aald104 (pc := 209) cx dX0_lays_209 (sh.k k_132) (sh.l k_132 l_132) b4 (v_some (sh.r (f_132 (lt_in b4))) ?_)
      refine v_iload_n (pc := 210) cx dX0_lays_210 rfl 3 rfl ?_
      obtain ⟨b5, h⟩ := h
      refine v_iald (pc := 211) cx dX0_lays_211 (sh.k (fk_132 (lt_in b4))) (sh.l (fk_132 (lt_in b4)) (fl_132 (lt_in b4))) b5 ?_
      refine v_ldc (pc := 212) cx dX0_lays_212 q717 ?_
      refine v_aload_n (pc := 214) cx dX0_lays_214 rfl 0 rfl ?_
      refine gq289_X0 (pc := 215) cx dX0_lays_215 (sh.k k_0) (v_some (sh.r r_0_14) ?_)
      refine v_iload_n (pc := 218) cx dX0_lays_218 rfl 2 rfl ?_
      obtain ⟨b6, h⟩ := h
      refine v_aald104 (pc := 219) cx dX0_lays_219 (sh.k k_132) (sh.l k_132 l_132) b6 (v_some (sh.r (f_132 (lt_in b6))) ?_)
      refine v_iload_n (pc := 220) cx dX0_lays_220 rfl 1 rfl ?_
      obtain ⟨b7, h⟩ := h
      refine v_iald (pc := 221) cx dX0_lays_221 (sh.k (fk_132 (lt_in b6))) (sh.l (fk_132 (lt_in b6)) (fl_132 (lt_in b6))) b7 ?_
      refine v_aload_n (pc := 222) cx dX0_lays_222 rfl 0 rfl ?_
      refine gq289_X0 (pc := 223) cx dX0_lays_223 (sh.k k_0) (v_some (sh.r r_0_14) ?_)
      refine v_iload_n (pc := 226) cx dX0_lays_226 rfl 1 rfl ?_
      obtain ⟨b8, h⟩ := h
      refine v_aald104 (pc := 227) cx dX0_lays_227 (sh.k k_132) (sh.l k_132 l_132) b8 (v_some (sh.r (f_132 (lt_in b8))) ?_)
      refine v_iload_n (pc := 228) cx dX0_lays_228 rfl 3 rfl ?_
      obtain ⟨b9, h⟩ := h
      refine v_iald (pc := 229) cx dX0_lays_229 (sh.k (fk_132 (lt_in b8))) (sh.l (fk_132 (lt_in b8)) (fl_132 (lt_in b8))) b9 ?_
      refine v_iadd (pc := 230) cx dX0_lays_230 ?_
      refine v_mmin (pc := 231) cx q807 q564 q134 q565 dX0_lays_231 ⟨Nat.le_of_ble_eq_true rfl, Nat.le_of_ble_eq_true rfl, Nat.le_of_ble_eq_true rfl, Nat.le_of_ble_eq_true rfl⟩ ?_
      refine v_mmin (pc := 234) cx q807 q564 q134 q565 dX0_lays_234 ⟨Nat.le_of_ble_eq_true rfl, Nat.le_of_ble_eq_true rfl, Nat.le_of_ble_eq_true rfl, Nat.le_of_ble_eq_true rfl⟩ ?_
      obtain ⟨b10, h⟩ := h
      refine v_topi (fun z11 ez11 => ?_)
      replace h := h z11 ez11
      refine v_iast (pc := 237) cx dX0_lays_237 (sh.k (fk_132 (lt_in b3))) (sh.l (fk_132 (lt_in b3)) (fl_132 (lt_in b3))) b10 ?_
      refine v_wld (fun M12 eM12 => ?_)
      replace h := h M12 eM12
      replace sh : Shp M12 := Shp_PI sh eM12
      refine nm_x (x3 + (1 : Int32)) (fun z13 ez13 => ?_)
      replace h := h z13 ez13
      refine v_iinc (pc := 238) cx dX0_lays_238 (q := 3) rfl ((ii_1 _).trans ez13.symm) (Nat.le_of_ble_eq_true rfl) (lv' := [(3, .int z13), (0, .ref (sz0 + 0)), (1, .int x1), (2, .int x2)]) rfl ?_
      refine v_goto (pc := 241) cx dX0_lays_241 (tgt := 189) rfl ?_
      refine v_sub (lv' := [(0, .ref (sz0 + 0)), (1, .int x1), (2, .int x2), (3, .int z13)]) [1, 2, 3, 0] rfl ?_
      exact ih z13 M12 sh h
def m_X0_lays_l179  (K169 : Int32 → WM → Prop) (x1 : Int32)   (Q : WM → Prop) : Nat → Int32 → WM → Prop
  | 0, _, _ => False
  | n + 1, x2, M => (((wI M 0 3) ≤ x2 → (∀ z2 : Int32, z2 = x1 + (1 : Int32) → K169 z2 M)) ∧ (¬ (wI M 0 3) ≤ x2 → (∃ n0, m_X0_lays_l189 K169 (fun x2' M' => m_X0_lays_l179 K169 x1 Q n x2' M') x1 x2 Q n0 ((0 : Int32)) M)))
theorem w_X0_lays_l179 {p : Program} {l : Launch} {e : Env} {s : State} {m : MethodId} {args : Array Value} {below : List Frame} {meth : Method} {c : Code} {D : va_G} {cA : Nat → ClassId} {sz0 : Nat} {H0 : Heap}  {K169 : Int32 → WM → Prop} {x1 : Int32} {Q : WM → Prop}  (cx : Cx p s m args meth c cX0_lays 4 RX0 none D cA sz0 H0)  (hK169 : ∀ (x1 : Int32)  (M : WM) (sh : Shp M), K169 x1 M → V p l e ({ frames := 119, cells := 0, slots := 0, locals := 4609 } : Room) s m args below meth c 4 D cA sz0 H0 0 0 (MQ below (QW_v D cA sz0 H0 (fun M' => Q M' ∧ Shp M')) args s 0 0 (Aw sz0)) 169 [(0, .ref (sz0 + 0)), (1, .int x1)] [] M)   : ∀ (n : Nat) (x2 : Int32)  (M : WM) (sh : Shp M), m_X0_lays_l179 K169 x1 Q n x2 M → V p l e ({ frames := 119, cells := 0, slots := 0, locals := 4609 } : Room) s m args below meth c 4 D cA sz0 H0 0 0 (MQ below (QW_v D cA sz0 H0 (fun M' => Q M' ∧ Shp M')) args s 0 0 (Aw sz0)) 179 [(0, .ref (sz0 + 0)), (1, .int x1), (2, .int x2)] [] M := by
  intro n
  induction n with
  | zero => intro x2 M sh h; exact h.elim
  | succ n ih =>
    intro x2 M sh h
    replace h : (((wI M 0 3) ≤ x2 → (∀ z2 : Int32, z2 = x1 + (1 : Int32) → K169 z2 M)) ∧ (¬ (wI M 0 3) ≤ x2 → (∃ n0, m_X0_lays_l189 K169 (fun x2' M' => m_X0_lays_l179 K169 x1 Q n x2' M') x1 x2 Q n0 ((0 : Int32)) M))) := h
    refine v_iload_n (pc := 179) cx dX0_lays_179 rfl 2 rfl ?_
    refine v_aload_n (pc := 180) cx dX0_lays_180 rfl 0 rfl ?_
    refine gq278_X0 (pc := 181) cx dX0_lays_181 (sh.k k_0) ?_
    refine v_icmp_ge (pc := 184) cx dX0_lays_184 (tgt := 250) rfl (fun c1 => ?_) (fun c1 => ?_)
    · replace h := h.1 c1
      refine nm_x (x1 + (1 : Int32)) (fun z2 ez2 => ?_)
      replace h := h z2 ez2
      refine v_iinc (pc := 250) cx dX0_lays_250 (q := 1) rfl ((ii_1 _).trans ez2.symm) (Nat.le_of_ble_eq_true rfl) (lv' := [(1, .int z2), (0, .ref (sz0 + 0)), (2, .int x2)]) rfl ?_
      refine v_goto (pc := 253) cx dX0_lays_253 (tgt := 169) rfl ?_
      refine v_sub (lv' := [(0, .ref (sz0 + 0)), (1, .int z2)]) [1, 0] rfl ?_
      exact hK169 z2 M sh h
    · replace h := h.2 c1
      refine v_iconst (pc := 187) cx dX0_lays_187 ic_0 ?_
      refine v_istore_n (pc := 188) cx dX0_lays_188 rfl (Nat.le_of_ble_eq_true rfl) (lv' := [(3, .int (0 : Int32)), (0, .ref (sz0 + 0)), (1, .int x1), (2, .int x2)]) rfl ?_
      refine v_sub (lv' := [(0, .ref (sz0 + 0)), (1, .int x1), (2, .int x2), (3, .int (0 : Int32))]) [1, 2, 3, 0] rfl ?_
      obtain ⟨n0, h⟩ := h
      exact w_X0_lays_l189 cx hK169 ih n0 ((0 : Int32)) M sh h
def m_X0_lays_l169      (Q : WM → Prop) : Nat → Int32 → WM → Prop
  | 0, _, _ => False
  | n + 1, x1, M => (((wI M 0 3) ≤ x1 → (∃ n0, m_X0_lays_l258 Q n0 ((0 : Int32)) M)) ∧ (¬ (wI M 0 3) ≤ x1 → (∃ n0, m_X0_lays_l179 (fun x1' M' => m_X0_lays_l169  Q n x1' M') x1 Q n0 ((0 : Int32)) M)))
theorem w_X0_lays_l169 {p : Program} {l : Launch} {e : Env} {s : State} {m : MethodId} {args : Array Value} {below : List Frame} {meth : Method} {c : Code} {D : va_G} {cA : Nat → ClassId} {sz0 : Nat} {H0 : Heap}  {Q : WM → Prop}  (cx : Cx p s m args meth c cX0_lays 4 RX0 none D cA sz0 H0)     : ∀ (n : Nat) (x1 : Int32)  (M : WM) (sh : Shp M), m_X0_lays_l169 Q n x1 M → V p l e ({ frames := 119, cells := 0, slots := 0, locals := 4609 } : Room) s m args below meth c 4 D cA sz0 H0 0 0 (MQ below (QW_v D cA sz0 H0 (fun M' => Q M' ∧ Shp M')) args s 0 0 (Aw sz0)) 169 [(0, .ref (sz0 + 0)), (1, .int x1)] [] M := by
  intro n
  induction n with
  | zero => intro x1 M sh h; exact h.elim
  | succ n ih =>
    intro x1 M sh h
    replace h : (((wI M 0 3) ≤ x1 → (∃ n0, m_X0_lays_l258 Q n0 ((0 : Int32)) M)) ∧ (¬ (wI M 0 3) ≤ x1 → (∃ n0, m_X0_lays_l179 (fun x1' M' => m_X0_lays_l169  Q n x1' M') x1 Q n0 ((0 : Int32)) M))) := h
    refine v_iload_n (pc := 169) cx dX0_lays_169 rfl 1 rfl ?_
    refine v_aload_n (pc := 170) cx dX0_lays_170 rfl 0 rfl ?_
    refine gq278_X0 (pc := 171) cx dX0_lays_171 (sh.k k_0) ?_
    refine v_icmp_ge (pc := 174) cx dX0_lays_174 (tgt := 256) rfl (fun c1 => ?_) (fun c1 => ?_)
    · replace h := h.1 c1
      refine v_iconst (pc := 256) cx dX0_lays_256 ic_0 ?_
      refine v_istore_n (pc := 257) cx dX0_lays_257 rfl (Nat.le_of_ble_eq_true rfl) (lv' := [(1, .int (0 : Int32)), (0, .ref (sz0 + 0))]) rfl ?_
      refine v_sub (lv' := [(0, .ref (sz0 + 0)), (1, .int (0 : Int32))]) [1, 0] rfl ?_
      obtain ⟨n0, h⟩ := h
      exact w_X0_lays_l258 cx n0 ((0 : Int32)) M sh h
    · replace h := h.2 c1
      refine v_iconst (pc := 177) cx dX0_lays_177 ic_0 ?_
      refine v_istore_n (pc := 178) cx dX0_lays_178 rfl (Nat.le_of_ble_eq_true rfl) (lv' := [(2, .int (0 : Int32)), (0, .ref (sz0 + 0)), (1, .int x1)]) rfl ?_
      refine v_sub (lv' := [(0, .ref (sz0 + 0)), (1, .int x1), (2, .int (0 : Int32))]) [1, 2, 0] rfl ?_
      obtain ⟨n0, h⟩ := h
      exact w_X0_lays_l179 cx ih n0 ((0 : Int32)) M sh h
def m_X0_lays_j123  (K60 : Int32 → WM → Prop) (K91 : Int32 → WM → Prop) (x1 : Int32) (x2 : Int32) (y0 : Int32) (y1 : Nat)   (Q : WM → Prop) (M : WM) : Prop := (vp_in x1 40 ∧ (vp_in x2 40 ∧ (((wI M ((10 + x1.toNatClampNeg)) x2.toNatClampNeg) = (268435456 : Int32) → (vp_in y0 40 ∧ (∀ M11 : WM, M11 = wPI M y1 y0.toNatClampNeg ((268435456 : Int32)) → (∀ z12 : Int32, z12 = x2 + (1 : Int32) → K91 z12 M11)))) ∧ (¬ (wI M ((10 + x1.toNatClampNeg)) x2.toNatClampNeg) = (268435456 : Int32) → (vp_in x1 40 ∧ (vp_in x2 40 ∧ (vp_in y0 40 ∧ (∀ z7 : Int32, z7 = (((100 : Int32) * (wI M ((10 + x1.toNatClampNeg)) x2.toNatClampNeg)) + (1 : Int32)) → (∀ M8 : WM, M8 = wPI M y1 y0.toNatClampNeg z7 → (∀ z9 : Int32, z9 = x2 + (1 : Int32) → K91 z9 M8))))))))))
theorem w_X0_lays_j123 {p : Program} {l : Launch} {e : Env} {s : State} {m : MethodId} {args : Array Value} {below : List Frame} {meth : Method} {c : Code} {D : va_G} {cA : Nat → ClassId} {sz0 : Nat} {H0 : Heap}  {K60 : Int32 → WM → Prop} {K91 : Int32 → WM → Prop} {x1 : Int32} {x2 : Int32} {y0 : Int32} {y1 : Nat} {Q : WM → Prop}  (cx : Cx p s m args meth c cX0_lays 4 RX0 none D cA sz0 H0)  (hK60 : ∀ (x1 : Int32)  (M : WM) (sh : Shp M), K60 x1 M → V p l e ({ frames := 119, cells := 0, slots := 0, locals := 4609 } : Room) s m args below meth c 4 D cA sz0 H0 0 0 (MQ below (QW_v D cA sz0 H0 (fun M' => Q M' ∧ Shp M')) args s 0 0 (Aw sz0)) 60 [(0, .ref (sz0 + 0)), (1, .int x1)] [] M) (hK91 : ∀ (x2 : Int32)  (M : WM) (sh : Shp M), K91 x2 M → V p l e ({ frames := 119, cells := 0, slots := 0, locals := 4609 } : Room) s m args below meth c 4 D cA sz0 H0 0 0 (MQ below (QW_v D cA sz0 H0 (fun M' => Q M' ∧ Shp M')) args s 0 0 (Aw sz0)) 91 [(0, .ref (sz0 + 0)), (1, .int x1), (2, .int x2)] [] M) (hky1 : shK y1 = some 100) (hly1 : shL y1 = 40)    (M : WM) (sh : Shp M) (h : m_X0_lays_j123 K60 K91 x1 x2 y0 y1 Q M) : V p l e ({ frames := 119, cells := 0, slots := 0, locals := 4609 } : Room) s m args below meth c 4 D cA sz0 H0 0 0 (MQ below (QW_v D cA sz0 H0 (fun M' => Q M' ∧ Shp M')) args s 0 0 (Aw sz0)) 123 [(0, .ref (sz0 + 0)), (1, .int x1), (2, .int x2)] [.int y0, .ref (sz0 + y1)] M := by
  replace h : (vp_in x1 40 ∧ (vp_in x2 40 ∧ (((wI M ((10 + x1.toNatClampNeg)) x2.toNatClampNeg) = (268435456 : Int32) → (vp_in y0 40 ∧ (∀ M11 : WM, M11 = wPI M y1 y0.toNatClampNeg ((268435456 : Int32)) → (∀ z12 : Int32, z12 = x2 + (1 : Int32) → K91 z12 M11)))) ∧ (¬ (wI M ((10 + x1.toNatClampNeg)) x2.toNatClampNeg) = (268435456 : Int32) → (vp_in x1 40 ∧ (vp_in x2 40 ∧ (vp_in y0 40 ∧ (∀ z7 : Int32, z7 = (((100 : Int32) * (wI M ((10 + x1.toNatClampNeg)) x2.toNatClampNeg)) + (1 : Int32)) → (∀ M8 : WM, M8 = wPI M y1 y0.toNatClampNeg z7 → (∀ z9 : Int32, z9 = x2 + (1 : Int32) → K91 z9 M8)))))))))) := h
  refine v_aload_n (pc := 123) cx dX0_lays_123 rfl 0 rfl ?_
  refine gq286_X0 (pc := 124) cx dX0_lays_124 (sh.k k_0) (v_some (sh.r r_0_11) ?_)
  refine v_iload_n (pc := 127) cx dX0_lays_127 rfl 1 rfl ?_
  obtain ⟨b1, h⟩ := h
  refine v_aald104 (pc := 128) cx dX0_lays_128 (sh.k k_9) (sh.l k_9 l_9) b1 (v_some (sh.r (f_9 (lt_in b1))) ?_)
  refine v_iload_n (pc := 129) cx dX0_lays_129 rfl 2 rfl ?_
  obtain ⟨b2, h⟩ := h
  refine v_iald (pc := 130) cx dX0_lays_130 (sh.k (fk_9 (lt_in b1))) (sh.l (fk_9 (lt_in b1)) (fl_9 (lt_in b1))) b2 ?_
  refine v_ldc (pc := 131) cx dX0_lays_131 q717 ?_
  refine v_icmp_ne (pc := 133) cx dX0_lays_133 (tgt := 141) rfl (fun c3 => ?_) (fun c3 => ?_)
  · replace h := h.2 c3
    refine v_bipush (pc := 141) cx dX0_lays_141 bc_100 ?_
    refine v_aload_n (pc := 143) cx dX0_lays_143 rfl 0 rfl ?_
    refine gq286_X0 (pc := 144) cx dX0_lays_144 (sh.k k_0) (v_some (sh.r r_0_11) ?_)
    refine v_iload_n (pc := 147) cx dX0_lays_147 rfl 1 rfl ?_
    obtain ⟨b4, h⟩ := h
    refine v_aald104 (pc := 148) cx dX0_lays_148 (sh.k k_9) (sh.l k_9 l_9) b4 (v_some (sh.r (f_9 (lt_in b4))) ?_)
    refine v_iload_n (pc := 149) cx dX0_lays_149 rfl 2 rfl ?_
    obtain ⟨b5, h⟩ := h
    refine v_iald (pc := 150) cx dX0_lays_150 (sh.k (fk_9 (lt_in b4))) (sh.l (fk_9 (lt_in b4)) (fl_9 (lt_in b4))) b5 ?_
    refine v_imul (pc := 151) cx dX0_lays_151 ?_
    refine v_iconst (pc := 152) cx dX0_lays_152 ic_1 ?_
    refine v_iadd (pc := 153) cx dX0_lays_153 ?_
    obtain ⟨b6, h⟩ := h
    refine v_topi (fun z7 ez7 => ?_)
    replace h := h z7 ez7
    refine v_iast (pc := 154) cx dX0_lays_154 (sh.k hky1) (sh.l hky1 hly1) b6 ?_
    refine v_wld (fun M8 eM8 => ?_)
    replace h := h M8 eM8
    replace sh : Shp M8 := Shp_PI sh eM8
    refine nm_x (x2 + (1 : Int32)) (fun z9 ez9 => ?_)
    replace h := h z9 ez9
    refine v_iinc (pc := 155) cx dX0_lays_155 (q := 2) rfl ((ii_1 _).trans ez9.symm) (Nat.le_of_ble_eq_true rfl) (lv' := [(2, .int z9), (0, .ref (sz0 + 0)), (1, .int x1)]) rfl ?_
    refine v_goto (pc := 158) cx dX0_lays_158 (tgt := 91) rfl ?_
    refine v_sub (lv' := [(0, .ref (sz0 + 0)), (1, .int x1), (2, .int z9)]) [1, 2, 0] rfl ?_
    exact hK91 z9 M8 sh h
  · replace h := h.1 c3
    refine v_ldc (pc := 136) cx dX0_lays_136 q717 ?_
    refine v_goto (pc := 138) cx dX0_lays_138 (tgt := 154) rfl ?_
    obtain ⟨b10, h⟩ := h
    refine v_iast (pc := 154) cx dX0_lays_154 (sh.k hky1) (sh.l hky1 hly1) b10 ?_
    refine v_wld (fun M11 eM11 => ?_)
    replace h := h M11 eM11
    replace sh : Shp M11 := Shp_PI sh eM11
    refine nm_x (x2 + (1 : Int32)) (fun z12 ez12 => ?_)
    replace h := h z12 ez12
    refine v_iinc (pc := 155) cx dX0_lays_155 (q := 2) rfl ((ii_1 _).trans ez12.symm) (Nat.le_of_ble_eq_true rfl) (lv' := [(2, .int z12), (0, .ref (sz0 + 0)), (1, .int x1)]) rfl ?_
    refine v_goto (pc := 158) cx dX0_lays_158 (tgt := 91) rfl ?_
    refine v_sub (lv' := [(0, .ref (sz0 + 0)), (1, .int x1), (2, .int z12)]) [1, 2, 0] rfl ?_
    exact hK91 z12 M11 sh h
def m_X0_lays_l91  (K60 : Int32 → WM → Prop) (x1 : Int32)   (Q : WM → Prop) : Nat → Int32 → WM → Prop
  | 0, _, _ => False
  | n + 1, x2, M => (((wI M 0 3) ≤ x2 → (∀ z2 : Int32, z2 = x1 + (1 : Int32) → K60 z2 M)) ∧ (¬ (wI M 0 3) ≤ x2 → (vp_in x1 40 ∧ ((x1 = x2 → (m_X0_isUsed x1 M (fun (a5 : Int32) => ((a5 = 0 → m_X0_lays_j123 K60 (fun x2' M' => m_X0_lays_l91 K60 x1 Q n x2' M') x1 x2 x2 ((133 + x1.toNatClampNeg)) Q M) ∧ (¬ a5 = 0 → (vp_in x2 40 ∧ (∀ M8 : WM, M8 = wPI M ((133 + x1.toNatClampNeg)) x2.toNatClampNeg ((0 : Int32)) → (∀ z9 : Int32, z9 = x2 + (1 : Int32) → m_X0_lays_l91 K60 x1 Q n z9 M8)))))))) ∧ (¬ x1 = x2 → m_X0_lays_j123 K60 (fun x2' M' => m_X0_lays_l91 K60 x1 Q n x2' M') x1 x2 x2 ((133 + x1.toNatClampNeg)) Q M)))))
theorem w_X0_lays_l91 {p : Program} {l : Launch} {e : Env} {s : State} {m : MethodId} {args : Array Value} {below : List Frame} {meth : Method} {c : Code} {D : va_G} {cA : Nat → ClassId} {sz0 : Nat} {H0 : Heap}  {K60 : Int32 → WM → Prop} {x1 : Int32} {Q : WM → Prop}  (cx : Cx p s m args meth c cX0_lays 4 RX0 none D cA sz0 H0)  (hK60 : ∀ (x1 : Int32)  (M : WM) (sh : Shp M), K60 x1 M → V p l e ({ frames := 119, cells := 0, slots := 0, locals := 4609 } : Room) s m args below meth c 4 D cA sz0 H0 0 0 (MQ below (QW_v D cA sz0 H0 (fun M' => Q M' ∧ Shp M')) args s 0 0 (Aw sz0)) 60 [(0, .ref (sz0 + 0)), (1, .int x1)] [] M)   : ∀ (n : Nat) (x2 : Int32)  (M : WM) (sh : Shp M), m_X0_lays_l91 K60 x1 Q n x2 M → V p l e ({ frames := 119, cells := 0, slots := 0, locals := 4609 } : Room) s m args below meth c 4 D cA sz0 H0 0 0 (MQ below (QW_v D cA sz0 H0 (fun M' => Q M' ∧ Shp M')) args s 0 0 (Aw sz0)) 91 [(0, .ref (sz0 + 0)), (1, .int x1), (2, .int x2)] [] M := by
  intro n
  induction n with
  | zero => intro x2 M sh h; exact h.elim
  | succ n ih =>
    intro x2 M sh h
    replace h : (((wI M 0 3) ≤ x2 → (∀ z2 : Int32, z2 = x1 + (1 : Int32) → K60 z2 M)) ∧ (¬ (wI M 0 3) ≤ x2 → (vp_in x1 40 ∧ ((x1 = x2 → (m_X0_isUsed x1 M (fun (a5 : Int32) => ((a5 = 0 → m_X0_lays_j123 K60 (fun x2' M' => m_X0_lays_l91 K60 x1 Q n x2' M') x1 x2 x2 ((133 + x1.toNatClampNeg)) Q M) ∧ (¬ a5 = 0 → (vp_in x2 40 ∧ (∀ M8 : WM, M8 = wPI M ((133 + x1.toNatClampNeg)) x2.toNatClampNeg ((0 : Int32)) → (∀ z9 : Int32, z9 = x2 + (1 : Int32) → m_X0_lays_l91 K60 x1 Q n z9 M8)))))))) ∧ (¬ x1 = x2 → m_X0_lays_j123 K60 (fun x2' M' => m_X0_lays_l91 K60 x1 Q n x2' M') x1 x2 x2 ((133 + x1.toNatClampNeg)) Q M))))) := h
    refine v_iload_n (pc := 91) cx dX0_lays_91 rfl 2 rfl ?_
    refine v_aload_n (pc := 92) cx dX0_lays_92 rfl 0 rfl ?_
    refine gq278_X0 (pc := 93) cx dX0_lays_93 (sh.k k_0) ?_
    refine v_icmp_ge (pc := 96) cx dX0_lays_96 (tgt := 161) rfl (fun c1 => ?_) (fun c1 => ?_)
    · replace h := h.1 c1
      refine nm_x (x1 + (1 : Int32)) (fun z2 ez2 => ?_)
      replace h := h z2 ez2
      refine v_iinc (pc := 161) cx dX0_lays_161 (q := 1) rfl ((ii_1 _).trans ez2.symm) (Nat.le_of_ble_eq_true rfl) (lv' := [(1, .int z2), (0, .ref (sz0 + 0)), (2, .int x2)]) rfl ?_
      refine v_goto (pc := 164) cx dX0_lays_164 (tgt := 60) rfl ?_
      refine v_sub (lv' := [(0, .ref (sz0 + 0)), (1, .int z2)]) [1, 0] rfl ?_
      exact hK60 z2 M sh h
    · replace h := h.2 c1
      refine v_aload_n (pc := 99) cx dX0_lays_99 rfl 0 rfl ?_
      refine gq289_X0 (pc := 100) cx dX0_lays_100 (sh.k k_0) (v_some (sh.r r_0_14) ?_)
      refine v_iload_n (pc := 103) cx dX0_lays_103 rfl 1 rfl ?_
      obtain ⟨b3, h⟩ := h
      refine v_aald104 (pc := 104) cx dX0_lays_104 (sh.k k_132) (sh.l k_132 l_132) b3 (v_some (sh.r (f_132 (lt_in b3))) ?_)
      refine v_iload_n (pc := 105) cx dX0_lays_105 rfl 2 rfl ?_
      refine v_iload_n (pc := 106) cx dX0_lays_106 rfl 1 rfl ?_
      refine v_iload_n (pc := 107) cx dX0_lays_107 rfl 2 rfl ?_
      refine v_icmp_ne (pc := 108) cx dX0_lays_108 (tgt := 123) rfl (fun c4 => ?_) (fun c4 => ?_)
      · replace h := h.2 c4
        refine v_sub (lv' := [(0, .ref (sz0 + 0)), (1, .int x1), (2, .int x2)]) [0, 1, 2] rfl ?_
        exact w_X0_lays_j123 cx hK60 ih ((fk_132 (lt_in b3))) ((fl_132 (lt_in b3))) M sh h
      · replace h := h.1 c4
        refine v_aload_n (pc := 111) cx dX0_lays_111 rfl 0 rfl ?_
        refine v_iload_n (pc := 112) cx dX0_lays_112 rfl 1 rfl ?_
        refine v_runp_i (pc := 113) cx (kcq718_X0 cx (c_X0_isUsed l D cA sz0 H0 M x1  _ sh h) ⟨Nat.le_of_ble_eq_true rfl, Nat.le_of_ble_eq_true rfl⟩ (sh.k k_0) (As := [.int x1]) rfl rfl (Nat.le_of_ble_eq_true rfl) dX0_lays_113 ⟨Nat.le_of_ble_eq_true rfl, Nat.le_of_ble_eq_true rfl⟩) (fun a5 hq => ?_)
        replace h := hq
        refine v_if_eq (pc := 116) cx dX0_lays_116 (tgt := 123) rfl (fun c6 => ?_) (fun c6 => ?_)
        · replace h := h.1 c6
          refine v_sub (lv' := [(0, .ref (sz0 + 0)), (1, .int x1), (2, .int x2)]) [0, 1, 2] rfl ?_
          exact w_X0_lays_j123 cx hK60 ih ((fk_132 (lt_in b3))) ((fl_132 (lt_in b3))) M sh h
        · replace h := h.2 c6
          refine v_iconst (pc := 119) cx dX0_lays_119 ic_0 ?_
          refine v_goto (pc := 120) cx dX0_lays_120 (tgt := 154) rfl ?_
          obtain ⟨b7, h⟩ := h
          refine v_iast (pc := 154) cx dX0_lays_154 (sh.k (fk_132 (lt_in b3))) (sh.l (fk_132 (lt_in b3)) (fl_132 (lt_in b3))) b7 ?_
          refine v_wld (fun M8 eM8 => ?_)
          replace h := h M8 eM8
          replace sh : Shp M8 := Shp_PI sh eM8
          refine nm_x (x2 + (1 : Int32)) (fun z9 ez9 => ?_)
          replace h := h z9 ez9
          refine v_iinc (pc := 155) cx dX0_lays_155 (q := 2) rfl ((ii_1 _).trans ez9.symm) (Nat.le_of_ble_eq_true rfl) (lv' := [(2, .int z9), (0, .ref (sz0 + 0)), (1, .int x1)]) rfl ?_
          refine v_goto (pc := 158) cx dX0_lays_158 (tgt := 91) rfl ?_
          refine v_sub (lv' := [(0, .ref (sz0 + 0)), (1, .int x1), (2, .int z9)]) [1, 2, 0] rfl ?_
          exact ih z9 M8 sh h
def m_X0_lays_l60      (Q : WM → Prop) : Nat → Int32 → WM → Prop
  | 0, _, _ => False
  | n + 1, x1, M => (((wI M 0 3) ≤ x1 → (∃ n0, m_X0_lays_l169 Q n0 ((0 : Int32)) M)) ∧ (¬ (wI M 0 3) ≤ x1 → (m_X0_isUsed x1 M (fun (a2 : Int32) => ((a2 = 0 → (vp_in x1 40 ∧ (∀ M5 : WM, M5 = wPJ M 173 x1.toNatClampNeg ((0 : Int64)) → (∃ n0, m_X0_lays_l91 (fun x1' M' => m_X0_lays_l60  Q n x1' M') x1 Q n0 ((0 : Int32)) M5)))) ∧ (¬ a2 = 0 → (vp_in x1 40 ∧ (∀ M7 : WM, M7 = wPJ M 173 x1.toNatClampNeg (((1 : Int64) <<< (x1.toInt64 &&& 63))) → (∃ n0, m_X0_lays_l91 (fun x1' M' => m_X0_lays_l60  Q n x1' M') x1 Q n0 ((0 : Int32)) M7)))))))))
theorem w_X0_lays_l60 {p : Program} {l : Launch} {e : Env} {s : State} {m : MethodId} {args : Array Value} {below : List Frame} {meth : Method} {c : Code} {D : va_G} {cA : Nat → ClassId} {sz0 : Nat} {H0 : Heap}  {Q : WM → Prop}  (cx : Cx p s m args meth c cX0_lays 4 RX0 none D cA sz0 H0)     : ∀ (n : Nat) (x1 : Int32)  (M : WM) (sh : Shp M), m_X0_lays_l60 Q n x1 M → V p l e ({ frames := 119, cells := 0, slots := 0, locals := 4609 } : Room) s m args below meth c 4 D cA sz0 H0 0 0 (MQ below (QW_v D cA sz0 H0 (fun M' => Q M' ∧ Shp M')) args s 0 0 (Aw sz0)) 60 [(0, .ref (sz0 + 0)), (1, .int x1)] [] M := by
  intro n
  induction n with
  | zero => intro x1 M sh h; exact h.elim
  | succ n ih =>
    intro x1 M sh h
    replace h : (((wI M 0 3) ≤ x1 → (∃ n0, m_X0_lays_l169 Q n0 ((0 : Int32)) M)) ∧ (¬ (wI M 0 3) ≤ x1 → (m_X0_isUsed x1 M (fun (a2 : Int32) => ((a2 = 0 → (vp_in x1 40 ∧ (∀ M5 : WM, M5 = wPJ M 173 x1.toNatClampNeg ((0 : Int64)) → (∃ n0, m_X0_lays_l91 (fun x1' M' => m_X0_lays_l60  Q n x1' M') x1 Q n0 ((0 : Int32)) M5)))) ∧ (¬ a2 = 0 → (vp_in x1 40 ∧ (∀ M7 : WM, M7 = wPJ M 173 x1.toNatClampNeg (((1 : Int64) <<< (x1.toInt64 &&& 63))) → (∃ n0, m_X0_lays_l91 (fun x1' M' => m_X0_lays_l60  Q n x1' M') x1 Q n0 ((0 : Int32)) M7))))))))) := h
    refine v_iload_n (pc := 60) cx dX0_lays_60 rfl 1 rfl ?_
    refine v_aload_n (pc := 61) cx dX0_lays_61 rfl 0 rfl ?_
    refine gq278_X0 (pc := 62) cx dX0_lays_62 (sh.k k_0) ?_
    refine v_icmp_ge (pc := 65) cx dX0_lays_65 (tgt := 167) rfl (fun c1 => ?_) (fun c1 => ?_)
    · replace h := h.1 c1
      refine v_iconst (pc := 167) cx dX0_lays_167 ic_0 ?_
      refine v_istore_n (pc := 168) cx dX0_lays_168 rfl (Nat.le_of_ble_eq_true rfl) (lv' := [(1, .int (0 : Int32)), (0, .ref (sz0 + 0))]) rfl ?_
      refine v_sub (lv' := [(0, .ref (sz0 + 0)), (1, .int (0 : Int32))]) [1, 0] rfl ?_
      obtain ⟨n0, h⟩ := h
      exact w_X0_lays_l169 cx n0 ((0 : Int32)) M sh h
    · replace h := h.2 c1
      refine v_aload_n (pc := 68) cx dX0_lays_68 rfl 0 rfl ?_
      refine gq290_X0 (pc := 69) cx dX0_lays_69 (sh.k k_0) (v_some (sh.r r_0_15) ?_)
      refine v_iload_n (pc := 72) cx dX0_lays_72 rfl 1 rfl ?_
      refine v_aload_n (pc := 73) cx dX0_lays_73 rfl 0 rfl ?_
      refine v_iload_n (pc := 74) cx dX0_lays_74 rfl 1 rfl ?_
      refine v_runp_i (pc := 75) cx (kcq718_X0 cx (c_X0_isUsed l D cA sz0 H0 M x1  _ sh h) ⟨Nat.le_of_ble_eq_true rfl, Nat.le_of_ble_eq_true rfl⟩ (sh.k k_0) (As := [.int x1]) rfl rfl (Nat.le_of_ble_eq_true rfl) dX0_lays_75 ⟨Nat.le_of_ble_eq_true rfl, Nat.le_of_ble_eq_true rfl⟩) (fun a2 hq => ?_)
      replace h := hq
      refine v_if_eq (pc := 78) cx dX0_lays_78 (tgt := 87) rfl (fun c3 => ?_) (fun c3 => ?_)
      · replace h := h.1 c3
        refine v_lconst (pc := 87) cx dX0_lays_87 lc_0 ?_
        obtain ⟨b4, h⟩ := h
        refine v_last (pc := 88) cx dX0_lays_88 (sh.k k_173) (sh.l k_173 l_173) b4 ?_
        refine v_wld (fun M5 eM5 => ?_)
        replace h := h M5 eM5
        replace sh : Shp M5 := Shp_PJ sh eM5
        refine v_iconst (pc := 89) cx dX0_lays_89 ic_0 ?_
        refine v_istore_n (pc := 90) cx dX0_lays_90 rfl (Nat.le_of_ble_eq_true rfl) (lv' := [(2, .int (0 : Int32)), (0, .ref (sz0 + 0)), (1, .int x1)]) rfl ?_
        refine v_sub (lv' := [(0, .ref (sz0 + 0)), (1, .int x1), (2, .int (0 : Int32))]) [1, 2, 0] rfl ?_
        obtain ⟨n0, h⟩ := h
        exact w_X0_lays_l91 cx ih n0 ((0 : Int32)) M5 sh h
      · replace h := h.2 c3
        refine v_lconst (pc := 81) cx dX0_lays_81 lc_1 ?_
        refine v_iload_n (pc := 82) cx dX0_lays_82 rfl 1 rfl ?_
        refine v_lshl (pc := 83) cx dX0_lays_83 ?_
        refine v_goto (pc := 84) cx dX0_lays_84 (tgt := 88) rfl ?_
        obtain ⟨b6, h⟩ := h
        refine v_last (pc := 88) cx dX0_lays_88 (sh.k k_173) (sh.l k_173 l_173) b6 ?_
        refine v_wld (fun M7 eM7 => ?_)
        replace h := h M7 eM7
        replace sh : Shp M7 := Shp_PJ sh eM7
        refine v_iconst (pc := 89) cx dX0_lays_89 ic_0 ?_
        refine v_istore_n (pc := 90) cx dX0_lays_90 rfl (Nat.le_of_ble_eq_true rfl) (lv' := [(2, .int (0 : Int32)), (0, .ref (sz0 + 0)), (1, .int x1)]) rfl ?_
        refine v_sub (lv' := [(0, .ref (sz0 + 0)), (1, .int x1), (2, .int (0 : Int32))]) [1, 2, 0] rfl ?_
        obtain ⟨n0, h⟩ := h
        exact w_X0_lays_l91 cx ih n0 ((0 : Int32)) M7 sh h
def m_X0_lays_l32  (K22 : Int32 → WM → Prop) (x1 : Int32)   (Q : WM → Prop) : Nat → Int32 → WM → Prop
  | 0, _, _ => False
  | n + 1, x2, M => (((wI M 0 3) ≤ x2 → (∀ z2 : Int32, z2 = x1 + (1 : Int32) → K22 z2 M)) ∧ (¬ (wI M 0 3) ≤ x2 → (m_X0_laysStep x1 x2 M (fun (M4 : WM) => (∀ z5 : Int32, z5 = x2 + (1 : Int32) → m_X0_lays_l32 K22 x1 Q n z5 M4)))))
theorem w_X0_lays_l32 {p : Program} {l : Launch} {e : Env} {s : State} {m : MethodId} {args : Array Value} {below : List Frame} {meth : Method} {c : Code} {D : va_G} {cA : Nat → ClassId} {sz0 : Nat} {H0 : Heap}  {K22 : Int32 → WM → Prop} {x1 : Int32} {Q : WM → Prop}  (cx : Cx p s m args meth c cX0_lays 4 RX0 none D cA sz0 H0)  (hK22 : ∀ (x1 : Int32)  (M : WM) (sh : Shp M), K22 x1 M → V p l e ({ frames := 119, cells := 0, slots := 0, locals := 4609 } : Room) s m args below meth c 4 D cA sz0 H0 0 0 (MQ below (QW_v D cA sz0 H0 (fun M' => Q M' ∧ Shp M')) args s 0 0 (Aw sz0)) 22 [(0, .ref (sz0 + 0)), (1, .int x1)] [] M)   : ∀ (n : Nat) (x2 : Int32)  (M : WM) (sh : Shp M), m_X0_lays_l32 K22 x1 Q n x2 M → V p l e ({ frames := 119, cells := 0, slots := 0, locals := 4609 } : Room) s m args below meth c 4 D cA sz0 H0 0 0 (MQ below (QW_v D cA sz0 H0 (fun M' => Q M' ∧ Shp M')) args s 0 0 (Aw sz0)) 32 [(0, .ref (sz0 + 0)), (1, .int x1), (2, .int x2)] [] M := by
  intro n
  induction n with
  | zero => intro x2 M sh h; exact h.elim
  | succ n ih =>
    intro x2 M sh h
    replace h : (((wI M 0 3) ≤ x2 → (∀ z2 : Int32, z2 = x1 + (1 : Int32) → K22 z2 M)) ∧ (¬ (wI M 0 3) ≤ x2 → (m_X0_laysStep x1 x2 M (fun (M4 : WM) => (∀ z5 : Int32, z5 = x2 + (1 : Int32) → m_X0_lays_l32 K22 x1 Q n z5 M4))))) := h
    refine v_iload_n (pc := 32) cx dX0_lays_32 rfl 2 rfl ?_
    refine v_aload_n (pc := 33) cx dX0_lays_33 rfl 0 rfl ?_
    refine gq278_X0 (pc := 34) cx dX0_lays_34 (sh.k k_0) ?_
    refine v_icmp_ge (pc := 37) cx dX0_lays_37 (tgt := 52) rfl (fun c1 => ?_) (fun c1 => ?_)
    · replace h := h.1 c1
      refine nm_x (x1 + (1 : Int32)) (fun z2 ez2 => ?_)
      replace h := h z2 ez2
      refine v_iinc (pc := 52) cx dX0_lays_52 (q := 1) rfl ((ii_1 _).trans ez2.symm) (Nat.le_of_ble_eq_true rfl) (lv' := [(1, .int z2), (0, .ref (sz0 + 0)), (2, .int x2)]) rfl ?_
      refine v_goto (pc := 55) cx dX0_lays_55 (tgt := 22) rfl ?_
      refine v_sub (lv' := [(0, .ref (sz0 + 0)), (1, .int z2)]) [1, 0] rfl ?_
      exact hK22 z2 M sh h
    · replace h := h.2 c1
      refine v_aload_n (pc := 40) cx dX0_lays_40 rfl 0 rfl ?_
      refine v_iload_n (pc := 41) cx dX0_lays_41 rfl 1 rfl ?_
      refine v_iload_n (pc := 42) cx dX0_lays_42 rfl 2 rfl ?_
      refine v_run_v (pc := 43) cx (kcq713_X0 cx (c_X0_laysStep l D cA sz0 H0 M x1 x2  _ sh h) ⟨Nat.le_of_ble_eq_true rfl, Nat.le_of_ble_eq_true rfl⟩ (sh.k k_0) (As := [.int x1, .int x2]) rfl rfl (Nat.le_of_ble_eq_true rfl) dX0_lays_43 ⟨Nat.le_of_ble_eq_true rfl, Nat.le_of_ble_eq_true rfl⟩) (fun M4 hq => ?_)
      obtain ⟨h, sh⟩ := hq
      refine nm_x (x2 + (1 : Int32)) (fun z5 ez5 => ?_)
      replace h := h z5 ez5
      refine v_iinc (pc := 46) cx dX0_lays_46 (q := 2) rfl ((ii_1 _).trans ez5.symm) (Nat.le_of_ble_eq_true rfl) (lv' := [(2, .int z5), (0, .ref (sz0 + 0)), (1, .int x1)]) rfl ?_
      refine v_goto (pc := 49) cx dX0_lays_49 (tgt := 32) rfl ?_
      refine v_sub (lv' := [(0, .ref (sz0 + 0)), (1, .int x1), (2, .int z5)]) [1, 2, 0] rfl ?_
      exact ih z5 M4 sh h
def m_X0_lays_l22      (Q : WM → Prop) : Nat → Int32 → WM → Prop
  | 0, _, _ => False
  | n + 1, x1, M => (((wI M 0 3) ≤ x1 → (∃ n0, m_X0_lays_l60 Q n0 ((0 : Int32)) M)) ∧ (¬ (wI M 0 3) ≤ x1 → (∃ n0, m_X0_lays_l32 (fun x1' M' => m_X0_lays_l22  Q n x1' M') x1 Q n0 ((0 : Int32)) M)))
theorem w_X0_lays_l22 {p : Program} {l : Launch} {e : Env} {s : State} {m : MethodId} {args : Array Value} {below : List Frame} {meth : Method} {c : Code} {D : va_G} {cA : Nat → ClassId} {sz0 : Nat} {H0 : Heap}  {Q : WM → Prop}  (cx : Cx p s m args meth c cX0_lays 4 RX0 none D cA sz0 H0)     : ∀ (n : Nat) (x1 : Int32)  (M : WM) (sh : Shp M), m_X0_lays_l22 Q n x1 M → V p l e ({ frames := 119, cells := 0, slots := 0, locals := 4609 } : Room) s m args below meth c 4 D cA sz0 H0 0 0 (MQ below (QW_v D cA sz0 H0 (fun M' => Q M' ∧ Shp M')) args s 0 0 (Aw sz0)) 22 [(0, .ref (sz0 + 0)), (1, .int x1)] [] M := by
  intro n
  induction n with
  | zero => intro x1 M sh h; exact h.elim
  | succ n ih =>
    intro x1 M sh h
    replace h : (((wI M 0 3) ≤ x1 → (∃ n0, m_X0_lays_l60 Q n0 ((0 : Int32)) M)) ∧ (¬ (wI M 0 3) ≤ x1 → (∃ n0, m_X0_lays_l32 (fun x1' M' => m_X0_lays_l22  Q n x1' M') x1 Q n0 ((0 : Int32)) M))) := h
    refine v_iload_n (pc := 22) cx dX0_lays_22 rfl 1 rfl ?_
    refine v_aload_n (pc := 23) cx dX0_lays_23 rfl 0 rfl ?_
    refine gq278_X0 (pc := 24) cx dX0_lays_24 (sh.k k_0) ?_
    refine v_icmp_ge (pc := 27) cx dX0_lays_27 (tgt := 58) rfl (fun c1 => ?_) (fun c1 => ?_)
    · replace h := h.1 c1
      refine v_iconst (pc := 58) cx dX0_lays_58 ic_0 ?_
      refine v_istore_n (pc := 59) cx dX0_lays_59 rfl (Nat.le_of_ble_eq_true rfl) (lv' := [(1, .int (0 : Int32)), (0, .ref (sz0 + 0))]) rfl ?_
      refine v_sub (lv' := [(0, .ref (sz0 + 0)), (1, .int (0 : Int32))]) [1, 0] rfl ?_
      obtain ⟨n0, h⟩ := h
      exact w_X0_lays_l60 cx n0 ((0 : Int32)) M sh h
    · replace h := h.2 c1
      refine v_iconst (pc := 30) cx dX0_lays_30 ic_0 ?_
      refine v_istore_n (pc := 31) cx dX0_lays_31 rfl (Nat.le_of_ble_eq_true rfl) (lv' := [(2, .int (0 : Int32)), (0, .ref (sz0 + 0)), (1, .int x1)]) rfl ?_
      refine v_sub (lv' := [(0, .ref (sz0 + 0)), (1, .int x1), (2, .int (0 : Int32))]) [1, 2, 0] rfl ?_
      obtain ⟨n0, h⟩ := h
      exact w_X0_lays_l32 cx ih n0 ((0 : Int32)) M sh h
def m_X0_lays  (M : WM)  (Q : WM → Prop) : Prop := (((wI M 0 8) = (wI M 0 7) → Q M) ∧ (¬ (wI M 0 8) = (wI M 0 7) → (∀ M2 : WM, M2 = wPI M 0 8 ((wI M 0 7)) → (∃ n0, m_X0_lays_l22 Q n0 ((0 : Int32)) M2))))
theorem c_X0_lays (l : Launch) (D : va_G) (cA : Nat → ClassId) (sz0 : Nat) (H0 : Heap) (M : WM)    (Q : WM → Prop) (sh : Shp M) (h : m_X0_lays  M  Q) : Met l yX0_lays (ws_ yX0_lays cX0_lays 4 none) ({ frames := 119, cells := 0, slots := 0, locals := 4609 } : Room) (PcW D cA sz0 H0 [.ref (sz0 + 0)] M) (QW_v D cA sz0 H0 (fun M' => Q M' ∧ Shp M')) 0 0 (Aw sz0) := by
  replace h : (((wI M 0 8) = (wI M 0 7) → Q M) ∧ (¬ (wI M 0 8) = (wI M 0 7) → (∀ M2 : WM, M2 = wPI M 0 8 ((wI M 0 7)) → (∃ n0, m_X0_lays_l22 Q n0 ((0 : Int32)) M2)))) := h
  refine Met.ofV (by decide +kernel) (Nat.le_of_ble_eq_true rfl) ?_
  intro p e s m args below meth c cx hnm
  replace cx : Cx p s m args meth c cX0_lays 4 RX0 none D cA sz0 H0 := cx
  refine v_sub (lv' := [(0, .ref (sz0 + 0))]) [0] rfl ?_
  refine v_aload_n (pc := 0) cx dX0_lays_0 rfl 0 rfl ?_
  refine gq283_X0 (pc := 1) cx dX0_lays_1 (sh.k k_0) ?_
  refine v_aload_n (pc := 4) cx dX0_lays_4 rfl 0 rfl ?_
  refine gq282_X0 (pc := 5) cx dX0_lays_5 (sh.k k_0) ?_
  refine v_icmp_ne (pc := 8) cx dX0_lays_8 (tgt := 12) rfl (fun c1 => ?_) (fun c1 => ?_)
  · replace h := h.2 c1
    refine v_aload_n (pc := 12) cx dX0_lays_12 rfl 0 rfl ?_
    refine v_aload_n (pc := 13) cx dX0_lays_13 rfl 0 rfl ?_
    refine gq282_X0 (pc := 14) cx dX0_lays_14 (sh.k k_0) ?_
    refine pq283_X0 (pc := 17) cx dX0_lays_17 (sh.k k_0) ?_
    refine v_wld (fun M2 eM2 => ?_)
    replace h := h M2 eM2
    replace sh : Shp M2 := Shp_PI sh eM2
    refine v_iconst (pc := 20) cx dX0_lays_20 ic_0 ?_
    refine v_istore_n (pc := 21) cx dX0_lays_21 rfl (Nat.le_of_ble_eq_true rfl) (lv' := [(1, .int (0 : Int32)), (0, .ref (sz0 + 0))]) rfl ?_
    refine v_sub (lv' := [(0, .ref (sz0 + 0)), (1, .int (0 : Int32))]) [1, 0] rfl ?_
    obtain ⟨n0, h⟩ := h
    exact w_X0_lays_l22 cx n0 ((0 : Int32)) M2 sh h
  · replace h := h.1 c1
    exact v_vret cx rfl dX0_lays_11 ⟨Nat.le_of_ble_eq_true rfl, Nat.le_of_ble_eq_true rfl⟩ ⟨h, sh⟩
/-! LetterHeaps.costOf(II)I -/
def m_X0_costOf (x1 : Int32) (x2 : Int32) (M : WM)  (Q : Int32 → Prop) : Prop := (vp_in x1 40 ∧ (vp_in x2 40 ∧ Q (((wI M ((133 + x1.toNatClampNeg)) x2.toNatClampNeg) / (100 : Int32)))))
theorem c_X0_costOf (l : Launch) (D : va_G) (cA : Nat → ClassId) (sz0 : Nat) (H0 : Heap) (M : WM) (x1 : Int32) (x2 : Int32)   (Q : Int32 → Prop) (sh : Shp M) (h : m_X0_costOf x1 x2 M  Q) : Met l yX0_costOf (ws_ yX0_costOf cX0_costOf 3 (some .int)) ({ frames := 0, cells := 0, slots := 0, locals := 0 } : Room) (PcW D cA sz0 H0 [.ref (sz0 + 0), .int x1, .int x2] M) (QW_i D cA sz0 H0 (fun r M' => M' = M ∧ Q r)) 0 0 (Aw sz0) := by
  replace h : (vp_in x1 40 ∧ (vp_in x2 40 ∧ Q (((wI M ((133 + x1.toNatClampNeg)) x2.toNatClampNeg) / (100 : Int32))))) := h
  refine Met.ofV (by decide +kernel) (Nat.le_of_ble_eq_true rfl) ?_
  intro p e s m args below meth c cx hnm
  replace cx : Cx p s m args meth c cX0_costOf 3 RX0 (some .int) D cA sz0 H0 := cx
  refine v_sub (lv' := [(0, .ref (sz0 + 0)), (1, .int x1), (2, .int x2)]) [0, 1, 2] rfl ?_
  refine v_aload_n (pc := 0) cx dX0_costOf_0 rfl 0 rfl ?_
  refine gq289_X0 (pc := 1) cx dX0_costOf_1 (sh.k k_0) (v_some (sh.r r_0_14) ?_)
  refine v_iload_n (pc := 4) cx dX0_costOf_4 rfl 1 rfl ?_
  obtain ⟨b1, h⟩ := h
  refine v_aald104 (pc := 5) cx dX0_costOf_5 (sh.k k_132) (sh.l k_132 l_132) b1 (v_some (sh.r (f_132 (lt_in b1))) ?_)
  refine v_iload_n (pc := 6) cx dX0_costOf_6 rfl 2 rfl ?_
  obtain ⟨b2, h⟩ := h
  refine v_iald (pc := 7) cx dX0_costOf_7 (sh.k (fk_132 (lt_in b1))) (sh.l (fk_132 (lt_in b1)) (fl_132 (lt_in b1))) b2 ?_
  refine v_bipush (pc := 8) cx dX0_costOf_8 bc_100 ?_
  refine v_idiv (pc := 10) cx dX0_costOf_10 (by decide) ?_
  exact v_iret cx rfl dX0_costOf_11 ⟨Nat.le_of_ble_eq_true rfl, Nat.le_of_ble_eq_true rfl⟩ ⟨rfl, h⟩
/-! LetterHeaps.twosBy(I)I -/
def m_X0_twosBy_l15  (K4 : Int32 → Int32 → Prop) (x1 : Int32) (x3 : Int32) (M : WM)  (Q : Int32 → Prop) : Nat → Int32 → Int32 → Prop
  | 0, _, _ => False
  | n + 1, x2, x4 => (((wI M 0 3) ≤ x4 → (∀ z2 : Int32, z2 = x3 + (1 : Int32) → K4 x2 z2)) ∧ (¬ (wI M 0 3) ≤ x4 → ((x3 = x4 → (∀ z4 : Int32, z4 = x4 + (1 : Int32) → m_X0_twosBy_l15 K4 x1 x3 M Q n x2 z4)) ∧ (¬ x3 = x4 → ((x3 = x1 → (∀ z6 : Int32, z6 = x4 + (1 : Int32) → m_X0_twosBy_l15 K4 x1 x3 M Q n x2 z6)) ∧ (¬ x3 = x1 → ((x4 = x1 → (∀ z8 : Int32, z8 = x4 + (1 : Int32) → m_X0_twosBy_l15 K4 x1 x3 M Q n x2 z8)) ∧ (¬ x4 = x1 → (vp_in x3 40 ∧ (vp_in x1 40 ∧ (((wI M ((133 + x3.toNatClampNeg)) x1.toNatClampNeg) = (268435456 : Int32) → (∀ z12 : Int32, z12 = x4 + (1 : Int32) → m_X0_twosBy_l15 K4 x1 x3 M Q n x2 z12)) ∧ (¬ (wI M ((133 + x3.toNatClampNeg)) x1.toNatClampNeg) = (268435456 : Int32) → (vp_in x1 40 ∧ (vp_in x4 40 ∧ (((wI M ((133 + x1.toNatClampNeg)) x4.toNatClampNeg) = (268435456 : Int32) → (∀ z24 : Int32, z24 = x4 + (1 : Int32) → m_X0_twosBy_l15 K4 x1 x3 M Q n x2 z24)) ∧ (¬ (wI M ((133 + x1.toNatClampNeg)) x4.toNatClampNeg) = (268435456 : Int32) → (m_X0_costOf x3 x1 M (fun (a16 : Int32) => (m_X0_costOf x1 x4 M (fun (a17 : Int32) => (m_X0_costOf x3 x4 M (fun (a18 : Int32) => (((a16 + a17) = a18 → (∀ z22 : Int32, z22 = (x2 + (1 : Int32)) → (∀ z23 : Int32, z23 = x4 + (1 : Int32) → m_X0_twosBy_l15 K4 x1 x3 M Q n z22 z23))) ∧ (¬ (a16 + a17) = a18 → (∀ z20 : Int32, z20 = (x2 + (0 : Int32)) → (∀ z21 : Int32, z21 = x4 + (1 : Int32) → m_X0_twosBy_l15 K4 x1 x3 M Q n z20 z21))))))))))))))))))))))))))
theorem w_X0_twosBy_l15 {p : Program} {l : Launch} {e : Env} {s : State} {m : MethodId} {args : Array Value} {below : List Frame} {meth : Method} {c : Code} {D : va_G} {cA : Nat → ClassId} {sz0 : Nat} {H0 : Heap}  {K4 : Int32 → Int32 → Prop} {x1 : Int32} {x3 : Int32} {M : WM} {Q : Int32 → Prop}  (cx : Cx p s m args meth c cX0_twosBy 5 RX0 (some .int) D cA sz0 H0)  (hK4 : ∀ (x2 : Int32) (x3 : Int32) , K4 x2 x3 → V p l e ({ frames := 1, cells := 0, slots := 0, locals := 22 } : Room) s m args below meth c 5 D cA sz0 H0 0 0 (MQ below (QW_i D cA sz0 H0 (fun r M' => M' = M ∧ Q r)) args s 0 0 (Aw sz0)) 4 [(0, .ref (sz0 + 0)), (1, .int x1), (2, .int x2), (3, .int x3)] [] M)  (sh : Shp M) : ∀ (n : Nat) (x2 : Int32) (x4 : Int32) , m_X0_twosBy_l15 K4 x1 x3 M Q n x2 x4 → V p l e ({ frames := 1, cells := 0, slots := 0, locals := 22 } : Room) s m args below meth c 5 D cA sz0 H0 0 0 (MQ below (QW_i D cA sz0 H0 (fun r M' => M' = M ∧ Q r)) args s 0 0 (Aw sz0)) 15 [(0, .ref (sz0 + 0)), (1, .int x1), (2, .int x2), (3, .int x3), (4, .int x4)] [] M := by
  intro n
  induction n with
  | zero => intro x2 x4 h; exact h.elim
  | succ n ih =>
    intro x2 x4 h
    replace h : (((wI M 0 3) ≤ x4 → (∀ z2 : Int32, z2 = x3 + (1 : Int32) → K4 x2 z2)) ∧ (¬ (wI M 0 3) ≤ x4 → ((x3 = x4 → (∀ z4 : Int32, z4 = x4 + (1 : Int32) → m_X0_twosBy_l15 K4 x1 x3 M Q n x2 z4)) ∧ (¬ x3 = x4 → ((x3 = x1 → (∀ z6 : Int32, z6 = x4 + (1 : Int32) → m_X0_twosBy_l15 K4 x1 x3 M Q n x2 z6)) ∧ (¬ x3 = x1 → ((x4 = x1 → (∀ z8 : Int32, z8 = x4 + (1 : Int32) → m_X0_twosBy_l15 K4 x1 x3 M Q n x2 z8)) ∧ (¬ x4 = x1 → (vp_in x3 40 ∧ (vp_in x1 40 ∧ (((wI M ((133 + x3.toNatClampNeg)) x1.toNatClampNeg) = (268435456 : Int32) → (∀ z12 : Int32, z12 = x4 + (1 : Int32) → m_X0_twosBy_l15 K4 x1 x3 M Q n x2 z12)) ∧ (¬ (wI M ((133 + x3.toNatClampNeg)) x1.toNatClampNeg) = (268435456 : Int32) → (vp_in x1 40 ∧ (vp_in x4 40 ∧ (((wI M ((133 + x1.toNatClampNeg)) x4.toNatClampNeg) = (268435456 : Int32) → (∀ z24 : Int32, z24 = x4 + (1 : Int32) → m_X0_twosBy_l15 K4 x1 x3 M Q n x2 z24)) ∧ (¬ (wI M ((133 + x1.toNatClampNeg)) x4.toNatClampNeg) = (268435456 : Int32) → (m_X0_costOf x3 x1 M (fun (a16 : Int32) => (m_X0_costOf x1 x4 M (fun (a17 : Int32) => (m_X0_costOf x3 x4 M (fun (a18 : Int32) => (((a16 + a17) = a18 → (∀ z22 : Int32, z22 = (x2 + (1 : Int32)) → (∀ z23 : Int32, z23 = x4 + (1 : Int32) → m_X0_twosBy_l15 K4 x1 x3 M Q n z22 z23))) ∧ (¬ (a16 + a17) = a18 → (∀ z20 : Int32, z20 = (x2 + (0 : Int32)) → (∀ z21 : Int32, z21 = x4 + (1 : Int32) → m_X0_twosBy_l15 K4 x1 x3 M Q n z20 z21)))))))))))))))))))))))))) := h
    refine v_iload (pc := 15) cx dX0_twosBy_15 4 rfl ?_
    refine v_aload_n (pc := 17) cx dX0_twosBy_17 rfl 0 rfl ?_
    refine gq278_X0 (pc := 18) cx dX0_twosBy_18 (sh.k k_0) ?_
    refine v_icmp_ge (pc := 21) cx dX0_twosBy_21 (tgt := 109) rfl (fun c1 => ?_) (fun c1 => ?_)
    · replace h := h.1 c1
      refine nm_x (x3 + (1 : Int32)) (fun z2 ez2 => ?_)
      replace h := h z2 ez2
      refine v_iinc (pc := 109) cx dX0_twosBy_109 (q := 3) rfl ((ii_1 _).trans ez2.symm) (Nat.le_of_ble_eq_true rfl) (lv' := [(3, .int z2), (0, .ref (sz0 + 0)), (1, .int x1), (2, .int x2), (4, .int x4)]) rfl ?_
      refine v_goto (pc := 112) cx dX0_twosBy_112 (tgt := 4) rfl ?_
      refine v_sub (lv' := [(0, .ref (sz0 + 0)), (1, .int x1), (2, .int x2), (3, .int z2)]) [1, 2, 3, 0] rfl ?_
      exact hK4 x2 z2 h
    · replace h := h.2 c1
      refine v_iload_n (pc := 24) cx dX0_twosBy_24 rfl 3 rfl ?_
      refine v_iload (pc := 25) cx dX0_twosBy_25 4 rfl ?_
      refine v_icmp_eq (pc := 27) cx dX0_twosBy_27 (tgt := 103) rfl (fun c3 => ?_) (fun c3 => ?_)
      · replace h := h.1 c3
        refine nm_x (x4 + (1 : Int32)) (fun z4 ez4 => ?_)
        replace h := h z4 ez4
        refine v_iinc (pc := 103) cx dX0_twosBy_103 (q := 4) rfl ((ii_1 _).trans ez4.symm) (Nat.le_of_ble_eq_true rfl) (lv' := [(4, .int z4), (0, .ref (sz0 + 0)), (1, .int x1), (2, .int x2), (3, .int x3)]) rfl ?_
        refine v_goto (pc := 106) cx dX0_twosBy_106 (tgt := 15) rfl ?_
        refine v_sub (lv' := [(0, .ref (sz0 + 0)), (1, .int x1), (2, .int x2), (3, .int x3), (4, .int z4)]) [1, 2, 3, 4, 0] rfl ?_
        exact ih x2 z4 h
      · replace h := h.2 c3
        refine v_iload_n (pc := 30) cx dX0_twosBy_30 rfl 3 rfl ?_
        refine v_iload_n (pc := 31) cx dX0_twosBy_31 rfl 1 rfl ?_
        refine v_icmp_eq (pc := 32) cx dX0_twosBy_32 (tgt := 103) rfl (fun c5 => ?_) (fun c5 => ?_)
        · replace h := h.1 c5
          refine nm_x (x4 + (1 : Int32)) (fun z6 ez6 => ?_)
          replace h := h z6 ez6
          refine v_iinc (pc := 103) cx dX0_twosBy_103 (q := 4) rfl ((ii_1 _).trans ez6.symm) (Nat.le_of_ble_eq_true rfl) (lv' := [(4, .int z6), (0, .ref (sz0 + 0)), (1, .int x1), (2, .int x2), (3, .int x3)]) rfl ?_
          refine v_goto (pc := 106) cx dX0_twosBy_106 (tgt := 15) rfl ?_
          refine v_sub (lv' := [(0, .ref (sz0 + 0)), (1, .int x1), (2, .int x2), (3, .int x3), (4, .int z6)]) [1, 2, 3, 4, 0] rfl ?_
          exact ih x2 z6 h
        · replace h := h.2 c5
          refine v_iload (pc := 35) cx dX0_twosBy_35 4 rfl ?_
          refine v_iload_n (pc := 37) cx dX0_twosBy_37 rfl 1 rfl ?_
          refine v_icmp_eq (pc := 38) cx dX0_twosBy_38 (tgt := 103) rfl (fun c7 => ?_) (fun c7 => ?_)
          · replace h := h.1 c7
            refine nm_x (x4 + (1 : Int32)) (fun z8 ez8 => ?_)
            replace h := h z8 ez8
            refine v_iinc (pc := 103) cx dX0_twosBy_103 (q := 4) rfl ((ii_1 _).trans ez8.symm) (Nat.le_of_ble_eq_true rfl) (lv' := [(4, .int z8), (0, .ref (sz0 + 0)), (1, .int x1), (2, .int x2), (3, .int x3)]) rfl ?_
            refine v_goto (pc := 106) cx dX0_twosBy_106 (tgt := 15) rfl ?_
            refine v_sub (lv' := [(0, .ref (sz0 + 0)), (1, .int x1), (2, .int x2), (3, .int x3), (4, .int z8)]) [1, 2, 3, 4, 0] rfl ?_
            exact ih x2 z8 h
          · replace h := h.2 c7
            refine v_aload_n (pc := 41) cx dX0_twosBy_41 rfl 0 rfl ?_
            refine gq289_X0 (pc := 42) cx dX0_twosBy_42 (sh.k k_0) (v_some (sh.r r_0_14) ?_)
            refine v_iload_n (pc := 45) cx dX0_twosBy_45 rfl 3 rfl ?_
            obtain ⟨b9, h⟩ := h
            refine v_aald104 (pc := 46) cx dX0_twosBy_46 (sh.k k_132) (sh.l k_132 l_132) b9 (v_some (sh.r (f_132 (lt_in b9))) ?_)
            refine v_iload_n (pc := 47) cx dX0_twosBy_47 rfl 1 rfl ?_
            obtain ⟨b10, h⟩ := h
            refine v_iald (pc := 48) cx dX0_twosBy_48 (sh.k (fk_132 (lt_in b9))) (sh.l (fk_132 (lt_in b9)) (fl_132 (lt_in b9))) b10 ?_
            refine v_ldc (pc := 49) cx dX0_twosBy_49 q717 ?_
            refine v_icmp_eq (pc := 51) cx dX0_twosBy_51 (tgt := 103) rfl (fun c11 => ?_) (fun c11 => ?_)
            · replace h := h.1 c11
              refine nm_x (x4 + (1 : Int32)) (fun z12 ez12 => ?_)
              replace h := h z12 ez12
              refine v_iinc (pc := 103) cx dX0_twosBy_103 (q := 4) rfl ((ii_1 _).trans ez12.symm) (Nat.le_of_ble_eq_true rfl) (lv' := [(4, .int z12), (0, .ref (sz0 + 0)), (1, .int x1), (2, .int x2), (3, .int x3)]) rfl ?_
              refine v_goto (pc := 106) cx dX0_twosBy_106 (tgt := 15) rfl ?_
              refine v_sub (lv' := [(0, .ref (sz0 + 0)), (1, .int x1), (2, .int x2), (3, .int x3), (4, .int z12)]) [1, 2, 3, 4, 0] rfl ?_
              exact ih x2 z12 h
            · replace h := h.2 c11
              refine v_aload_n (pc := 54) cx dX0_twosBy_54 rfl 0 rfl ?_
              refine gq289_X0 (pc := 55) cx dX0_twosBy_55 (sh.k k_0) (v_some (sh.r r_0_14) ?_)
              refine v_iload_n (pc := 58) cx dX0_twosBy_58 rfl 1 rfl ?_
              obtain ⟨b13, h⟩ := h
              refine v_aald104 (pc := 59) cx dX0_twosBy_59 (sh.k k_132) (sh.l k_132 l_132) b13 (v_some (sh.r (f_132 (lt_in b13))) ?_)
              refine v_iload (pc := 60) cx dX0_twosBy_60 4 rfl ?_
              obtain ⟨b14, h⟩ := h
              refine v_iald (pc := 62) cx dX0_twosBy_62 (sh.k (fk_132 (lt_in b13))) (sh.l (fk_132 (lt_in b13)) (fl_132 (lt_in b13))) b14 ?_
              refine v_ldc (pc := 63) cx dX0_twosBy_63 q717 ?_
              refine v_icmp_ne (pc := 65) cx dX0_twosBy_65 (tgt := 71) rfl (fun c15 => ?_) (fun c15 => ?_)
              · replace h := h.2 c15
                refine v_iload_n (pc := 71) cx dX0_twosBy_71 rfl 2 rfl ?_
                refine v_aload_n (pc := 72) cx dX0_twosBy_72 rfl 0 rfl ?_
                refine v_iload_n (pc := 73) cx dX0_twosBy_73 rfl 3 rfl ?_
                refine v_iload_n (pc := 74) cx dX0_twosBy_74 rfl 1 rfl ?_
                refine v_runp_i (pc := 75) cx (kcq816_X0 cx (c_X0_costOf l D cA sz0 H0 M x3 x1  _ sh h) ⟨Nat.le_of_ble_eq_true rfl, Nat.le_of_ble_eq_true rfl⟩ (sh.k k_0) (As := [.int x3, .int x1]) rfl rfl (Nat.le_of_ble_eq_true rfl) dX0_twosBy_75 ⟨Nat.le_of_ble_eq_true rfl, Nat.le_of_ble_eq_true rfl⟩) (fun a16 hq => ?_)
                replace h := hq
                refine v_aload_n (pc := 78) cx dX0_twosBy_78 rfl 0 rfl ?_
                refine v_iload_n (pc := 79) cx dX0_twosBy_79 rfl 1 rfl ?_
                refine v_iload (pc := 80) cx dX0_twosBy_80 4 rfl ?_
                refine v_runp_i (pc := 82) cx (kcq816_X0 cx (c_X0_costOf l D cA sz0 H0 M x1 x4  _ sh h) ⟨Nat.le_of_ble_eq_true rfl, Nat.le_of_ble_eq_true rfl⟩ (sh.k k_0) (As := [.int x1, .int x4]) rfl rfl (Nat.le_of_ble_eq_true rfl) dX0_twosBy_82 ⟨Nat.le_of_ble_eq_true rfl, Nat.le_of_ble_eq_true rfl⟩) (fun a17 hq => ?_)
                replace h := hq
                refine v_iadd (pc := 85) cx dX0_twosBy_85 ?_
                refine v_aload_n (pc := 86) cx dX0_twosBy_86 rfl 0 rfl ?_
                refine v_iload_n (pc := 87) cx dX0_twosBy_87 rfl 3 rfl ?_
                refine v_iload (pc := 88) cx dX0_twosBy_88 4 rfl ?_
                refine v_runp_i (pc := 90) cx (kcq816_X0 cx (c_X0_costOf l D cA sz0 H0 M x3 x4  _ sh h) ⟨Nat.le_of_ble_eq_true rfl, Nat.le_of_ble_eq_true rfl⟩ (sh.k k_0) (As := [.int x3, .int x4]) rfl rfl (Nat.le_of_ble_eq_true rfl) dX0_twosBy_90 ⟨Nat.le_of_ble_eq_true rfl, Nat.le_of_ble_eq_true rfl⟩) (fun a18 hq => ?_)
                replace h := hq
                refine v_icmp_ne (pc := 93) cx dX0_twosBy_93 (tgt := 100) rfl (fun c19 => ?_) (fun c19 => ?_)
                · replace h := h.2 c19
                  refine v_iconst (pc := 100) cx dX0_twosBy_100 ic_0 ?_
                  refine v_iadd (pc := 101) cx dX0_twosBy_101 ?_
                  refine v_topi (fun z20 ez20 => ?_)
                  replace h := h z20 ez20
                  refine v_istore_n (pc := 102) cx dX0_twosBy_102 rfl (Nat.le_of_ble_eq_true rfl) (lv' := [(2, .int z20), (0, .ref (sz0 + 0)), (1, .int x1), (3, .int x3), (4, .int x4)]) rfl ?_
                  refine nm_x (x4 + (1 : Int32)) (fun z21 ez21 => ?_)
                  replace h := h z21 ez21
                  refine v_iinc (pc := 103) cx dX0_twosBy_103 (q := 4) rfl ((ii_1 _).trans ez21.symm) (Nat.le_of_ble_eq_true rfl) (lv' := [(4, .int z21), (2, .int z20), (0, .ref (sz0 + 0)), (1, .int x1), (3, .int x3)]) rfl ?_
                  refine v_goto (pc := 106) cx dX0_twosBy_106 (tgt := 15) rfl ?_
                  refine v_sub (lv' := [(0, .ref (sz0 + 0)), (1, .int x1), (2, .int z20), (3, .int x3), (4, .int z21)]) [2, 3, 1, 4, 0] rfl ?_
                  exact ih z20 z21 h
                · replace h := h.1 c19
                  refine v_iconst (pc := 96) cx dX0_twosBy_96 ic_1 ?_
                  refine v_goto (pc := 97) cx dX0_twosBy_97 (tgt := 101) rfl ?_
                  refine v_iadd (pc := 101) cx dX0_twosBy_101 ?_
                  refine v_topi (fun z22 ez22 => ?_)
                  replace h := h z22 ez22
                  refine v_istore_n (pc := 102) cx dX0_twosBy_102 rfl (Nat.le_of_ble_eq_true rfl) (lv' := [(2, .int z22), (0, .ref (sz0 + 0)), (1, .int x1), (3, .int x3), (4, .int x4)]) rfl ?_
                  refine nm_x (x4 + (1 : Int32)) (fun z23 ez23 => ?_)
                  replace h := h z23 ez23
                  refine v_iinc (pc := 103) cx dX0_twosBy_103 (q := 4) rfl ((ii_1 _).trans ez23.symm) (Nat.le_of_ble_eq_true rfl) (lv' := [(4, .int z23), (2, .int z22), (0, .ref (sz0 + 0)), (1, .int x1), (3, .int x3)]) rfl ?_
                  refine v_goto (pc := 106) cx dX0_twosBy_106 (tgt := 15) rfl ?_
                  refine v_sub (lv' := [(0, .ref (sz0 + 0)), (1, .int x1), (2, .int z22), (3, .int x3), (4, .int z23)]) [2, 3, 1, 4, 0] rfl ?_
                  exact ih z22 z23 h
              · replace h := h.1 c15
                refine v_goto (pc := 68) cx dX0_twosBy_68 (tgt := 103) rfl ?_
                refine nm_x (x4 + (1 : Int32)) (fun z24 ez24 => ?_)
                replace h := h z24 ez24
                refine v_iinc (pc := 103) cx dX0_twosBy_103 (q := 4) rfl ((ii_1 _).trans ez24.symm) (Nat.le_of_ble_eq_true rfl) (lv' := [(4, .int z24), (0, .ref (sz0 + 0)), (1, .int x1), (2, .int x2), (3, .int x3)]) rfl ?_
                refine v_goto (pc := 106) cx dX0_twosBy_106 (tgt := 15) rfl ?_
                refine v_sub (lv' := [(0, .ref (sz0 + 0)), (1, .int x1), (2, .int x2), (3, .int x3), (4, .int z24)]) [1, 2, 3, 4, 0] rfl ?_
                exact ih x2 z24 h
def m_X0_twosBy_l4   (x1 : Int32) (M : WM)  (Q : Int32 → Prop) : Nat → Int32 → Int32 → Prop
  | 0, _, _ => False
  | n + 1, x2, x3 => (((wI M 0 3) ≤ x3 → Q x2) ∧ (¬ (wI M 0 3) ≤ x3 → (∃ n0, m_X0_twosBy_l15 (fun x2' x3' => m_X0_twosBy_l4 x1 M Q n x2' x3') x1 x3 M Q n0 x2 ((0 : Int32)))))
theorem w_X0_twosBy_l4 {p : Program} {l : Launch} {e : Env} {s : State} {m : MethodId} {args : Array Value} {below : List Frame} {meth : Method} {c : Code} {D : va_G} {cA : Nat → ClassId} {sz0 : Nat} {H0 : Heap}  {x1 : Int32} {M : WM} {Q : Int32 → Prop}  (cx : Cx p s m args meth c cX0_twosBy 5 RX0 (some .int) D cA sz0 H0)    (sh : Shp M) : ∀ (n : Nat) (x2 : Int32) (x3 : Int32) , m_X0_twosBy_l4 x1 M Q n x2 x3 → V p l e ({ frames := 1, cells := 0, slots := 0, locals := 22 } : Room) s m args below meth c 5 D cA sz0 H0 0 0 (MQ below (QW_i D cA sz0 H0 (fun r M' => M' = M ∧ Q r)) args s 0 0 (Aw sz0)) 4 [(0, .ref (sz0 + 0)), (1, .int x1), (2, .int x2), (3, .int x3)] [] M := by
  intro n
  induction n with
  | zero => intro x2 x3 h; exact h.elim
  | succ n ih =>
    intro x2 x3 h
    replace h : (((wI M 0 3) ≤ x3 → Q x2) ∧ (¬ (wI M 0 3) ≤ x3 → (∃ n0, m_X0_twosBy_l15 (fun x2' x3' => m_X0_twosBy_l4 x1 M Q n x2' x3') x1 x3 M Q n0 x2 ((0 : Int32))))) := h
    refine v_iload_n (pc := 4) cx dX0_twosBy_4 rfl 3 rfl ?_
    refine v_aload_n (pc := 5) cx dX0_twosBy_5 rfl 0 rfl ?_
    refine gq278_X0 (pc := 6) cx dX0_twosBy_6 (sh.k k_0) ?_
    refine v_icmp_ge (pc := 9) cx dX0_twosBy_9 (tgt := 115) rfl (fun c1 => ?_) (fun c1 => ?_)
    · replace h := h.1 c1
      refine v_iload_n (pc := 115) cx dX0_twosBy_115 rfl 2 rfl ?_
      exact v_iret cx rfl dX0_twosBy_116 ⟨Nat.le_of_ble_eq_true rfl, Nat.le_of_ble_eq_true rfl⟩ ⟨rfl, h⟩
    · replace h := h.2 c1
      refine v_iconst (pc := 12) cx dX0_twosBy_12 ic_0 ?_
      refine v_istore (pc := 13) cx dX0_twosBy_13 (Nat.le_of_ble_eq_true rfl) (lv' := [(4, .int (0 : Int32)), (0, .ref (sz0 + 0)), (1, .int x1), (2, .int x2), (3, .int x3)]) rfl ?_
      refine v_sub (lv' := [(0, .ref (sz0 + 0)), (1, .int x1), (2, .int x2), (3, .int x3), (4, .int (0 : Int32))]) [1, 2, 3, 4, 0] rfl ?_
      obtain ⟨n0, h⟩ := h
      exact w_X0_twosBy_l15 cx ih sh n0 x2 ((0 : Int32)) h
def m_X0_twosBy (x1 : Int32) (M : WM)  (Q : Int32 → Prop) : Prop := (∃ n0, m_X0_twosBy_l4 x1 M Q n0 ((0 : Int32)) ((0 : Int32)))
theorem c_X0_twosBy (l : Launch) (D : va_G) (cA : Nat → ClassId) (sz0 : Nat) (H0 : Heap) (M : WM) (x1 : Int32)   (Q : Int32 → Prop) (sh : Shp M) (h : m_X0_twosBy x1 M  Q) : Met l yX0_twosBy (ws_ yX0_twosBy cX0_twosBy 5 (some .int)) ({ frames := 1, cells := 0, slots := 0, locals := 22 } : Room) (PcW D cA sz0 H0 [.ref (sz0 + 0), .int x1] M) (QW_i D cA sz0 H0 (fun r M' => M' = M ∧ Q r)) 0 0 (Aw sz0) := by
  replace h : (∃ n0, m_X0_twosBy_l4 x1 M Q n0 ((0 : Int32)) ((0 : Int32))) := h
  refine Met.ofV (by decide +kernel) (Nat.le_of_ble_eq_true rfl) ?_
  intro p e s m args below meth c cx hnm
  replace cx : Cx p s m args meth c cX0_twosBy 5 RX0 (some .int) D cA sz0 H0 := cx
  refine v_sub (lv' := [(0, .ref (sz0 + 0)), (1, .int x1)]) [0, 1] rfl ?_
  refine v_iconst (pc := 0) cx dX0_twosBy_0 ic_0 ?_
  refine v_istore_n (pc := 1) cx dX0_twosBy_1 rfl (Nat.le_of_ble_eq_true rfl) (lv' := [(2, .int (0 : Int32)), (0, .ref (sz0 + 0)), (1, .int x1)]) rfl ?_
  refine v_iconst (pc := 2) cx dX0_twosBy_2 ic_0 ?_
  refine v_istore_n (pc := 3) cx dX0_twosBy_3 rfl (Nat.le_of_ble_eq_true rfl) (lv' := [(3, .int (0 : Int32)), (2, .int (0 : Int32)), (0, .ref (sz0 + 0)), (1, .int x1)]) rfl ?_
  refine v_sub (lv' := [(0, .ref (sz0 + 0)), (1, .int x1), (2, .int (0 : Int32)), (3, .int (0 : Int32))]) [2, 3, 1, 0] rfl ?_
  obtain ⟨n0, h⟩ := h
  exact w_X0_twosBy_l4 cx sh n0 ((0 : Int32)) ((0 : Int32)) h
/-! LetterHeaps.between(I)I -/
def m_X0_between_l23   (x1 : Int32)   (Q : Int32 → WM → Prop) : Nat → Int32 → Int32 → Int32 → WM → Prop
  | 0, _, _, _, _ => False
  | n + 1, x2, x3, x4, M => (((wI M 0 3) ≤ x4 → ((x1 = 0 → Q x2 M) ∧ (¬ x1 = 0 → Q x3 M))) ∧ (¬ (wI M 0 3) ≤ x4 → (m_X0_isUsed x4 M (fun (a3 : Int32) => ((a3 = 0 → (∀ z5 : Int32, z5 = x4 + (1 : Int32) → m_X0_between_l23 x1 Q n x2 x3 z5 M)) ∧ (¬ a3 = 0 → (m_X0_twosBy x4 M (fun (a6 : Int32) => ((x3 < a6 → (m_X0_twosBy x4 M (fun (a8 : Int32) => (∀ z9 : Int32, z9 = x4 + (1 : Int32) → m_X0_between_l23 x1 Q n x4 a8 z9 M)))) ∧ (¬ x3 < a6 → (∀ z10 : Int32, z10 = x4 + (1 : Int32) → m_X0_between_l23 x1 Q n x2 x3 z10 M)))))))))))
theorem w_X0_between_l23 {p : Program} {l : Launch} {e : Env} {s : State} {m : MethodId} {args : Array Value} {below : List Frame} {meth : Method} {c : Code} {D : va_G} {cA : Nat → ClassId} {sz0 : Nat} {H0 : Heap}  {x1 : Int32} {Q : Int32 → WM → Prop}  (cx : Cx p s m args meth c cX0_between 5 RX0 (some .int) D cA sz0 H0)     : ∀ (n : Nat) (x2 : Int32) (x3 : Int32) (x4 : Int32)  (M : WM) (sh : Shp M), m_X0_between_l23 x1 Q n x2 x3 x4 M → V p l e ({ frames := 120, cells := 0, slots := 0, locals := 4632 } : Room) s m args below meth c 5 D cA sz0 H0 0 0 (MQ below (QW_i D cA sz0 H0 (fun r M' => Q r M' ∧ Shp M')) args s 0 0 (Aw sz0)) 23 [(0, .ref (sz0 + 0)), (1, .int x1), (2, .int x2), (3, .int x3), (4, .int x4)] [] M := by
  intro n
  induction n with
  | zero => intro x2 x3 x4 M sh h; exact h.elim
  | succ n ih =>
    intro x2 x3 x4 M sh h
    replace h : (((wI M 0 3) ≤ x4 → ((x1 = 0 → Q x2 M) ∧ (¬ x1 = 0 → Q x3 M))) ∧ (¬ (wI M 0 3) ≤ x4 → (m_X0_isUsed x4 M (fun (a3 : Int32) => ((a3 = 0 → (∀ z5 : Int32, z5 = x4 + (1 : Int32) → m_X0_between_l23 x1 Q n x2 x3 z5 M)) ∧ (¬ a3 = 0 → (m_X0_twosBy x4 M (fun (a6 : Int32) => ((x3 < a6 → (m_X0_twosBy x4 M (fun (a8 : Int32) => (∀ z9 : Int32, z9 = x4 + (1 : Int32) → m_X0_between_l23 x1 Q n x4 a8 z9 M)))) ∧ (¬ x3 < a6 → (∀ z10 : Int32, z10 = x4 + (1 : Int32) → m_X0_between_l23 x1 Q n x2 x3 z10 M))))))))))) := h
    refine v_iload (pc := 23) cx dX0_between_23 4 rfl ?_
    refine v_aload_n (pc := 25) cx dX0_between_25 rfl 0 rfl ?_
    refine gq278_X0 (pc := 26) cx dX0_between_26 (sh.k k_0) ?_
    refine v_icmp_ge (pc := 29) cx dX0_between_29 (tgt := 70) rfl (fun c1 => ?_) (fun c1 => ?_)
    · replace h := h.1 c1
      refine v_iload_n (pc := 70) cx dX0_between_70 rfl 1 rfl ?_
      refine v_if_ne (pc := 71) cx dX0_between_71 (tgt := 78) rfl (fun c2 => ?_) (fun c2 => ?_)
      · replace h := h.2 c2
        refine v_iload_n (pc := 78) cx dX0_between_78 rfl 3 rfl ?_
        exact v_iret cx rfl dX0_between_79 ⟨Nat.le_of_ble_eq_true rfl, Nat.le_of_ble_eq_true rfl⟩ ⟨h, sh⟩
      · replace h := h.1 c2
        refine v_iload_n (pc := 74) cx dX0_between_74 rfl 2 rfl ?_
        refine v_goto (pc := 75) cx dX0_between_75 (tgt := 79) rfl ?_
        exact v_iret cx rfl dX0_between_79 ⟨Nat.le_of_ble_eq_true rfl, Nat.le_of_ble_eq_true rfl⟩ ⟨h, sh⟩
    · replace h := h.2 c1
      refine v_aload_n (pc := 32) cx dX0_between_32 rfl 0 rfl ?_
      refine v_iload (pc := 33) cx dX0_between_33 4 rfl ?_
      refine v_runp_i (pc := 35) cx (kcq718_X0 cx (c_X0_isUsed l D cA sz0 H0 M x4  _ sh h) ⟨Nat.le_of_ble_eq_true rfl, Nat.le_of_ble_eq_true rfl⟩ (sh.k k_0) (As := [.int x4]) rfl rfl (Nat.le_of_ble_eq_true rfl) dX0_between_35 ⟨Nat.le_of_ble_eq_true rfl, Nat.le_of_ble_eq_true rfl⟩) (fun a3 hq => ?_)
      replace h := hq
      refine v_if_eq (pc := 38) cx dX0_between_38 (tgt := 64) rfl (fun c4 => ?_) (fun c4 => ?_)
      · replace h := h.1 c4
        refine nm_x (x4 + (1 : Int32)) (fun z5 ez5 => ?_)
        replace h := h z5 ez5
        refine v_iinc (pc := 64) cx dX0_between_64 (q := 4) rfl ((ii_1 _).trans ez5.symm) (Nat.le_of_ble_eq_true rfl) (lv' := [(4, .int z5), (0, .ref (sz0 + 0)), (1, .int x1), (2, .int x2), (3, .int x3)]) rfl ?_
        refine v_goto (pc := 67) cx dX0_between_67 (tgt := 23) rfl ?_
        refine v_sub (lv' := [(0, .ref (sz0 + 0)), (1, .int x1), (2, .int x2), (3, .int x3), (4, .int z5)]) [1, 2, 3, 4, 0] rfl ?_
        exact ih x2 x3 z5 M sh h
      · replace h := h.2 c4
        refine v_aload_n (pc := 41) cx dX0_between_41 rfl 0 rfl ?_
        refine v_iload (pc := 42) cx dX0_between_42 4 rfl ?_
        refine v_runp_i (pc := 44) cx (kcq862_X0 cx (c_X0_twosBy l D cA sz0 H0 M x4  _ sh h) ⟨Nat.le_of_ble_eq_true rfl, Nat.le_of_ble_eq_true rfl⟩ (sh.k k_0) (As := [.int x4]) rfl rfl (Nat.le_of_ble_eq_true rfl) dX0_between_44 ⟨Nat.le_of_ble_eq_true rfl, Nat.le_of_ble_eq_true rfl⟩) (fun a6 hq => ?_)
        replace h := hq
        refine v_iload_n (pc := 47) cx dX0_between_47 rfl 3 rfl ?_
        refine v_icmp_gt (pc := 48) cx dX0_between_48 (tgt := 54) rfl (fun c7 => ?_) (fun c7 => ?_)
        · replace h := h.1 c7
          refine v_iload (pc := 54) cx dX0_between_54 4 rfl ?_
          refine v_istore_n (pc := 56) cx dX0_between_56 rfl (Nat.le_of_ble_eq_true rfl) (lv' := [(2, .int x4), (0, .ref (sz0 + 0)), (1, .int x1), (3, .int x3), (4, .int x4)]) rfl ?_
          refine v_aload_n (pc := 57) cx dX0_between_57 rfl 1 rfl ?_
          refine v_iload (pc := 58) cx dX0_between_58 4 rfl ?_
          refine v_runp_i (pc := 60) cx (kcq862_X0 cx (c_X0_twosBy l D cA sz0 H0 M x4  _ sh h) ⟨Nat.le_of_ble_eq_true rfl, Nat.le_of_ble_eq_true rfl⟩ (sh.k k_0) (As := [.int x4]) rfl rfl (Nat.le_of_ble_eq_true rfl) dX0_between_60 ⟨Nat.le_of_ble_eq_true rfl, Nat.le_of_ble_eq_true rfl⟩) (fun a8 hq => ?_)
          replace h := hq
          refine v_istore_n (pc := 63) cx dX0_between_63 rfl (Nat.le_of_ble_eq_true rfl) (lv' := [(3, .int a8), (2, .int x4), (0, .ref (sz0 + 0)), (1, .int x1), (4, .int x4)]) rfl ?_
          refine nm_x (x4 + (1 : Int32)) (fun z9 ez9 => ?_)
          replace h := h z9 ez9
          refine v_iinc (pc := 64) cx dX0_between_64 (q := 4) rfl ((ii_1 _).trans ez9.symm) (Nat.le_of_ble_eq_true rfl) (lv' := [(4, .int z9), (3, .int a8), (2, .int x4), (0, .ref (sz0 + 0)), (1, .int x1)]) rfl ?_
          refine v_goto (pc := 67) cx dX0_between_67 (tgt := 23) rfl ?_
          refine v_sub (lv' := [(0, .ref (sz0 + 0)), (1, .int x1), (2, .int x4), (3, .int a8), (4, .int z9)]) [3, 4, 2, 1, 0] rfl ?_
          exact ih x4 a8 z9 M sh h
        · replace h := h.2 c7
          refine v_goto (pc := 51) cx dX0_between_51 (tgt := 64) rfl ?_
          refine nm_x (x4 + (1 : Int32)) (fun z10 ez10 => ?_)
          replace h := h z10 ez10
          refine v_iinc (pc := 64) cx dX0_between_64 (q := 4) rfl ((ii_1 _).trans ez10.symm) (Nat.le_of_ble_eq_true rfl) (lv' := [(4, .int z10), (0, .ref (sz0 + 0)), (1, .int x1), (2, .int x2), (3, .int x3)]) rfl ?_
          refine v_goto (pc := 67) cx dX0_between_67 (tgt := 23) rfl ?_
          refine v_sub (lv' := [(0, .ref (sz0 + 0)), (1, .int x1), (2, .int x2), (3, .int x3), (4, .int z10)]) [1, 2, 3, 4, 0] rfl ?_
          exact ih x2 x3 z10 M sh h
def m_X0_between (x1 : Int32) (M : WM)  (Q : Int32 → WM → Prop) : Prop := (m_X0_in x1 ((2 : Int32)) (fun (a1 : Int32) => ((a1 = 0 → Q (((-1) : Int32)) M) ∧ (¬ a1 = 0 → (m_X0_lays  M (fun (M4 : WM) => (∃ n0, m_X0_between_l23 x1 Q n0 (((-2) : Int32)) (((-2) : Int32)) ((0 : Int32)) M4)))))))
theorem c_X0_between (l : Launch) (D : va_G) (cA : Nat → ClassId) (sz0 : Nat) (H0 : Heap) (M : WM) (x1 : Int32)   (Q : Int32 → WM → Prop) (sh : Shp M) (h : m_X0_between x1 M  Q) : Met l yX0_between (ws_ yX0_between cX0_between 5 (some .int)) ({ frames := 120, cells := 0, slots := 0, locals := 4632 } : Room) (PcW D cA sz0 H0 [.ref (sz0 + 0), .int x1] M) (QW_i D cA sz0 H0 (fun r M' => Q r M' ∧ Shp M')) 0 0 (Aw sz0) := by
  replace h : (m_X0_in x1 ((2 : Int32)) (fun (a1 : Int32) => ((a1 = 0 → Q (((-1) : Int32)) M) ∧ (¬ a1 = 0 → (m_X0_lays  M (fun (M4 : WM) => (∃ n0, m_X0_between_l23 x1 Q n0 (((-2) : Int32)) (((-2) : Int32)) ((0 : Int32)) M4))))))) := h
  refine Met.ofV (by decide +kernel) (Nat.le_of_ble_eq_true rfl) ?_
  intro p e s m args below meth c cx hnm
  replace cx : Cx p s m args meth c cX0_between 5 RX0 (some .int) D cA sz0 H0 := cx
  refine v_sub (lv' := [(0, .ref (sz0 + 0)), (1, .int x1)]) [0, 1] rfl ?_
  refine v_iload_n (pc := 0) cx dX0_between_0 rfl 1 rfl ?_
  refine v_iconst (pc := 1) cx dX0_between_1 ic_2 ?_
  refine v_runp_i (pc := 2) cx (kcq390_X0 cx (c_X0_in l D cA sz0 H0 M x1 ((2 : Int32))  _ h) ⟨Nat.le_of_ble_eq_true rfl, Nat.le_of_ble_eq_true rfl⟩ (As := [.int x1, .int (2 : Int32)]) rfl rfl (Nat.le_of_ble_eq_true rfl) dX0_between_2 ⟨Nat.le_of_ble_eq_true rfl, Nat.le_of_ble_eq_true rfl⟩) (fun a1 hq => ?_)
  replace h := hq
  refine v_if_ne (pc := 5) cx dX0_between_5 (tgt := 10) rfl (fun c2 => ?_) (fun c2 => ?_)
  · replace h := h.2 c2
    refine v_aload_n (pc := 10) cx dX0_between_10 rfl 0 rfl ?_
    refine v_run_v (pc := 11) cx (kcq709_X0 cx (c_X0_lays l D cA sz0 H0 M   _ sh h) ⟨Nat.le_of_ble_eq_true rfl, Nat.le_of_ble_eq_true rfl⟩ (sh.k k_0) (As := []) rfl rfl (Nat.le_of_ble_eq_true rfl) dX0_between_11 ⟨Nat.le_of_ble_eq_true rfl, Nat.le_of_ble_eq_true rfl⟩) (fun M4 hq => ?_)
    obtain ⟨h, sh⟩ := hq
    refine v_bipush (pc := 14) cx dX0_between_14 bc_m2 ?_
    refine v_istore_n (pc := 16) cx dX0_between_16 rfl (Nat.le_of_ble_eq_true rfl) (lv' := [(2, .int ((-2) : Int32)), (0, .ref (sz0 + 0)), (1, .int x1)]) rfl ?_
    refine v_bipush (pc := 17) cx dX0_between_17 bc_m2 ?_
    refine v_istore_n (pc := 19) cx dX0_between_19 rfl (Nat.le_of_ble_eq_true rfl) (lv' := [(3, .int ((-2) : Int32)), (2, .int ((-2) : Int32)), (0, .ref (sz0 + 0)), (1, .int x1)]) rfl ?_
    refine v_iconst (pc := 20) cx dX0_between_20 ic_0 ?_
    refine v_istore (pc := 21) cx dX0_between_21 (Nat.le_of_ble_eq_true rfl) (lv' := [(4, .int (0 : Int32)), (3, .int ((-2) : Int32)), (2, .int ((-2) : Int32)), (0, .ref (sz0 + 0)), (1, .int x1)]) rfl ?_
    refine v_sub (lv' := [(0, .ref (sz0 + 0)), (1, .int x1), (2, .int ((-2) : Int32)), (3, .int ((-2) : Int32)), (4, .int (0 : Int32))]) [3, 4, 2, 1, 0] rfl ?_
    obtain ⟨n0, h⟩ := h
    exact w_X0_between_l23 cx n0 (((-2) : Int32)) (((-2) : Int32)) ((0 : Int32)) M4 sh h
  · replace h := h.1 c2
    refine v_iconst (pc := 8) cx dX0_between_8 ic_m1 ?_
    exact v_iret cx rfl dX0_between_9 ⟨Nat.le_of_ble_eq_true rfl, Nat.le_of_ble_eq_true rfl⟩ ⟨h, sh⟩
/-! LetterHeaps.canColumn(III)Z -/
def m_X0_canColumn_j111  (K3 : Int32 → Prop) (x1 : Int32) (x2 : Int32) (x3 : Int32) (x4 : Int32) (x5 : Int32) (M : WM)  (Q : Int32 → Prop)  : Prop := ((x5 = 0 → (∀ z2 : Int32, z2 = x4 + (1 : Int32) → K3 z2)) ∧ (¬ x5 = 0 → Q ((1 : Int32))))
theorem w_X0_canColumn_j111 {p : Program} {l : Launch} {e : Env} {s : State} {m : MethodId} {args : Array Value} {below : List Frame} {meth : Method} {c : Code} {D : va_G} {cA : Nat → ClassId} {sz0 : Nat} {H0 : Heap}  {K3 : Int32 → Prop} {x1 : Int32} {x2 : Int32} {x3 : Int32} {x4 : Int32} {x5 : Int32} {M : WM} {Q : Int32 → Prop}  (cx : Cx p s m args meth c cX0_canColumn 7 RX0 (some .boolean) D cA sz0 H0)  (hK3 : ∀ (x4 : Int32) , K3 x4 → V p l e ({ frames := 3, cells := 0, slots := 0, locals := 63 } : Room) s m args below meth c 7 D cA sz0 H0 0 0 (MQ below (QW_i D cA sz0 H0 (fun r M' => M' = M ∧ Q r)) args s 0 0 (Aw sz0)) 3 [(0, .ref (sz0 + 0)), (1, .int x1), (2, .int x2), (3, .int x3), (4, .int x4)] [] M)  (sh : Shp M)   (h : m_X0_canColumn_j111 K3 x1 x2 x3 x4 x5 M Q ) : V p l e ({ frames := 3, cells := 0, slots := 0, locals := 63 } : Room) s m args below meth c 7 D cA sz0 H0 0 0 (MQ below (QW_i D cA sz0 H0 (fun r M' => M' = M ∧ Q r)) args s 0 0 (Aw sz0)) 111 [(0, .ref (sz0 + 0)), (1, .int x1), (2, .int x2), (3, .int x3), (4, .int x4), (5, .int x5)] [] M := by
  replace h : ((x5 = 0 → (∀ z2 : Int32, z2 = x4 + (1 : Int32) → K3 z2)) ∧ (¬ x5 = 0 → Q ((1 : Int32)))) := h
  refine v_iload (pc := 111) cx dX0_canColumn_111 5 rfl ?_
  refine v_if_eq (pc := 113) cx dX0_canColumn_113 (tgt := 118) rfl (fun c1 => ?_) (fun c1 => ?_)
  · replace h := h.1 c1
    refine nm_x (x4 + (1 : Int32)) (fun z2 ez2 => ?_)
    replace h := h z2 ez2
    refine v_iinc (pc := 118) cx dX0_canColumn_118 (q := 4) rfl ((ii_1 _).trans ez2.symm) (Nat.le_of_ble_eq_true rfl) (lv' := [(4, .int z2), (0, .ref (sz0 + 0)), (1, .int x1), (2, .int x2), (3, .int x3), (5, .int x5)]) rfl ?_
    refine v_goto (pc := 121) cx dX0_canColumn_121 (tgt := 3) rfl ?_
    refine v_sub (lv' := [(0, .ref (sz0 + 0)), (1, .int x1), (2, .int x2), (3, .int x3), (4, .int z2)]) [1, 2, 3, 4, 0] rfl ?_
    exact hK3 z2 h
  · replace h := h.2 c1
    refine v_iconst (pc := 116) cx dX0_canColumn_116 ic_1 ?_
    exact v_zret cx rfl (Or.inr rfl) dX0_canColumn_117 ⟨Nat.le_of_ble_eq_true rfl, Nat.le_of_ble_eq_true rfl⟩ ⟨rfl, h⟩
def m_X0_canColumn_l48  (K3 : Int32 → Prop) (x1 : Int32) (x2 : Int32) (x3 : Int32) (x4 : Int32) (M : WM)  (Q : Int32 → Prop) : Nat → Int32 → Int32 → Prop
  | 0, _, _ => False
  | n + 1, x5, x6 => ((x2 ≤ x6 → m_X0_canColumn_j111 K3 x1 x2 x3 x4 x5 M Q ) ∧ (¬ x2 ≤ x6 → ((x5 = 0 → m_X0_canColumn_j111 K3 x1 x2 x3 x4 x5 M Q ) ∧ (¬ x5 = 0 → (vp_in x4 40 ∧ (vp_in x6 13 ∧ (vp_in x6 4 ∧ (vp_in ((wI M 5322 x6.toNatClampNeg)) 40 ∧ (vp_in x3 13 ∧ (((wI M (((5325 + 3 * x4.toNatClampNeg) + 1)) x6.toNatClampNeg) = (wI M (((5325 + 3 * ((wI M 5322 x6.toNatClampNeg)).toNatClampNeg) + 1)) x3.toNatClampNeg) → (∀ z10 : Int32, z10 = x6 + (1 : Int32) → m_X0_canColumn_l48 K3 x1 x2 x3 x4 M Q n ((1 : Int32)) z10)) ∧ (¬ (wI M (((5325 + 3 * x4.toNatClampNeg) + 1)) x6.toNatClampNeg) = (wI M (((5325 + 3 * ((wI M 5322 x6.toNatClampNeg)).toNatClampNeg) + 1)) x3.toNatClampNeg) → (∀ z9 : Int32, z9 = x6 + (1 : Int32) → m_X0_canColumn_l48 K3 x1 x2 x3 x4 M Q n ((0 : Int32)) z9))))))))))))
theorem w_X0_canColumn_l48 {p : Program} {l : Launch} {e : Env} {s : State} {m : MethodId} {args : Array Value} {below : List Frame} {meth : Method} {c : Code} {D : va_G} {cA : Nat → ClassId} {sz0 : Nat} {H0 : Heap}  {K3 : Int32 → Prop} {x1 : Int32} {x2 : Int32} {x3 : Int32} {x4 : Int32} {M : WM} {Q : Int32 → Prop}  (cx : Cx p s m args meth c cX0_canColumn 7 RX0 (some .boolean) D cA sz0 H0)  (hK3 : ∀ (x4 : Int32) , K3 x4 → V p l e ({ frames := 3, cells := 0, slots := 0, locals := 63 } : Room) s m args below meth c 7 D cA sz0 H0 0 0 (MQ below (QW_i D cA sz0 H0 (fun r M' => M' = M ∧ Q r)) args s 0 0 (Aw sz0)) 3 [(0, .ref (sz0 + 0)), (1, .int x1), (2, .int x2), (3, .int x3), (4, .int x4)] [] M)  (sh : Shp M) : ∀ (n : Nat) (x5 : Int32) (x6 : Int32) , m_X0_canColumn_l48 K3 x1 x2 x3 x4 M Q n x5 x6 → V p l e ({ frames := 3, cells := 0, slots := 0, locals := 63 } : Room) s m args below meth c 7 D cA sz0 H0 0 0 (MQ below (QW_i D cA sz0 H0 (fun r M' => M' = M ∧ Q r)) args s 0 0 (Aw sz0)) 48 [(0, .ref (sz0 + 0)), (1, .int x1), (2, .int x2), (3, .int x3), (4, .int x4), (5, .int x5), (6, .int x6)] [] M := by
  intro n
  induction n with
  | zero => intro x5 x6 h; exact h.elim
  | succ n ih =>
    intro x5 x6 h
    replace h : ((x2 ≤ x6 → m_X0_canColumn_j111 K3 x1 x2 x3 x4 x5 M Q ) ∧ (¬ x2 ≤ x6 → ((x5 = 0 → m_X0_canColumn_j111 K3 x1 x2 x3 x4 x5 M Q ) ∧ (¬ x5 = 0 → (vp_in x4 40 ∧ (vp_in x6 13 ∧ (vp_in x6 4 ∧ (vp_in ((wI M 5322 x6.toNatClampNeg)) 40 ∧ (vp_in x3 13 ∧ (((wI M (((5325 + 3 * x4.toNatClampNeg) + 1)) x6.toNatClampNeg) = (wI M (((5325 + 3 * ((wI M 5322 x6.toNatClampNeg)).toNatClampNeg) + 1)) x3.toNatClampNeg) → (∀ z10 : Int32, z10 = x6 + (1 : Int32) → m_X0_canColumn_l48 K3 x1 x2 x3 x4 M Q n ((1 : Int32)) z10)) ∧ (¬ (wI M (((5325 + 3 * x4.toNatClampNeg) + 1)) x6.toNatClampNeg) = (wI M (((5325 + 3 * ((wI M 5322 x6.toNatClampNeg)).toNatClampNeg) + 1)) x3.toNatClampNeg) → (∀ z9 : Int32, z9 = x6 + (1 : Int32) → m_X0_canColumn_l48 K3 x1 x2 x3 x4 M Q n ((0 : Int32)) z9)))))))))))) := h
    refine v_iload (pc := 48) cx dX0_canColumn_48 6 rfl ?_
    refine v_iload_n (pc := 50) cx dX0_canColumn_50 rfl 2 rfl ?_
    refine v_icmp_ge (pc := 51) cx dX0_canColumn_51 (tgt := 111) rfl (fun c1 => ?_) (fun c1 => ?_)
    · replace h := h.1 c1
      refine v_sub (lv' := [(0, .ref (sz0 + 0)), (1, .int x1), (2, .int x2), (3, .int x3), (4, .int x4), (5, .int x5)]) [0, 1, 2, 3, 4, 5] rfl ?_
      exact w_X0_canColumn_j111 cx hK3 sh  h
    · replace h := h.2 c1
      refine v_iload (pc := 54) cx dX0_canColumn_54 5 rfl ?_
      refine v_if_eq (pc := 56) cx dX0_canColumn_56 (tgt := 111) rfl (fun c2 => ?_) (fun c2 => ?_)
      · replace h := h.1 c2
        refine v_sub (lv' := [(0, .ref (sz0 + 0)), (1, .int x1), (2, .int x2), (3, .int x3), (4, .int x4), (5, .int x5)]) [0, 1, 2, 3, 4, 5] rfl ?_
        exact w_X0_canColumn_j111 cx hK3 sh  h
      · replace h := h.2 c2
        refine v_aload_n (pc := 59) cx dX0_canColumn_59 rfl 0 rfl ?_
        refine gq273_X0 (pc := 60) cx dX0_canColumn_60 (sh.k k_0) (v_some (sh.r r_0_0) ?_)
        refine v_iload (pc := 63) cx dX0_canColumn_63 4 rfl ?_
        obtain ⟨b3, h⟩ := h
        refine v_aald107 (pc := 65) cx dX0_canColumn_65 (sh.k k_1) (sh.l k_1 l_1) b3 (v_some (sh.r (f_1 (lt_in b3))) ?_)
        refine gq257_X5 (pc := 66) cx dX0_canColumn_66 (sh.k (fk_1 (lt_in b3))) (v_some (sh.r (fr_1 (lt_in b3))) ?_)
        refine gq193_X2 (pc := 69) cx dX0_canColumn_69 (sh.k (isLn_w (lt_in b3)).1) (v_some (sh.r (isLn_w (lt_in b3)).2.2.2) ?_)
        refine v_iload (pc := 72) cx dX0_canColumn_72 6 rfl ?_
        obtain ⟨b4, h⟩ := h
        refine v_iald (pc := 74) cx dX0_canColumn_74 (sh.k (isLn_w (lt_in b3)).2.1) (sh.l (isLn_w (lt_in b3)).2.1 (isLn_w (lt_in b3)).2.2.1) b4 ?_
        refine v_aload_n (pc := 75) cx dX0_canColumn_75 rfl 0 rfl ?_
        refine gq273_X0 (pc := 76) cx dX0_canColumn_76 (sh.k k_0) (v_some (sh.r r_0_0) ?_)
        refine v_aload_n (pc := 79) cx dX0_canColumn_79 rfl 0 rfl ?_
        refine gq305_X0 (pc := 80) cx dX0_canColumn_80 (sh.k k_0) (v_some (sh.r r_0_30) ?_)
        refine v_iload (pc := 83) cx dX0_canColumn_83 6 rfl ?_
        obtain ⟨b5, h⟩ := h
        refine v_iald (pc := 85) cx dX0_canColumn_85 (sh.k k_5322) (sh.l k_5322 l_5322) b5 ?_
        obtain ⟨b6, h⟩ := h
        refine v_aald107 (pc := 86) cx dX0_canColumn_86 (sh.k k_1) (sh.l k_1 l_1) b6 (v_some (sh.r (f_1 (lt_in b6))) ?_)
        refine gq257_X5 (pc := 87) cx dX0_canColumn_87 (sh.k (fk_1 (lt_in b6))) (v_some (sh.r (fr_1 (lt_in b6))) ?_)
        refine gq193_X2 (pc := 90) cx dX0_canColumn_90 (sh.k (isLn_w (lt_in b6)).1) (v_some (sh.r (isLn_w (lt_in b6)).2.2.2) ?_)
        refine v_iload_n (pc := 93) cx dX0_canColumn_93 rfl 3 rfl ?_
        obtain ⟨b7, h⟩ := h
        refine v_iald (pc := 94) cx dX0_canColumn_94 (sh.k (isLn_w (lt_in b6)).2.1) (sh.l (isLn_w (lt_in b6)).2.1 (isLn_w (lt_in b6)).2.2.1) b7 ?_
        refine v_icmp_ne (pc := 95) cx dX0_canColumn_95 (tgt := 102) rfl (fun c8 => ?_) (fun c8 => ?_)
        · replace h := h.2 c8
          refine v_iconst (pc := 102) cx dX0_canColumn_102 ic_0 ?_
          refine v_istore (pc := 103) cx dX0_canColumn_103 (Nat.le_of_ble_eq_true rfl) (lv' := [(5, .int (0 : Int32)), (0, .ref (sz0 + 0)), (1, .int x1), (2, .int x2), (3, .int x3), (4, .int x4), (6, .int x6)]) rfl ?_
          refine nm_x (x6 + (1 : Int32)) (fun z9 ez9 => ?_)
          replace h := h z9 ez9
          refine v_iinc (pc := 105) cx dX0_canColumn_105 (q := 6) rfl ((ii_1 _).trans ez9.symm) (Nat.le_of_ble_eq_true rfl) (lv' := [(6, .int z9), (5, .int (0 : Int32)), (0, .ref (sz0 + 0)), (1, .int x1), (2, .int x2), (3, .int x3), (4, .int x4)]) rfl ?_
          refine v_goto (pc := 108) cx dX0_canColumn_108 (tgt := 48) rfl ?_
          refine v_sub (lv' := [(0, .ref (sz0 + 0)), (1, .int x1), (2, .int x2), (3, .int x3), (4, .int x4), (5, .int (0 : Int32)), (6, .int z9)]) [2, 3, 4, 5, 6, 1, 0] rfl ?_
          exact ih ((0 : Int32)) z9 h
        · replace h := h.1 c8
          refine v_iconst (pc := 98) cx dX0_canColumn_98 ic_1 ?_
          refine v_goto (pc := 99) cx dX0_canColumn_99 (tgt := 103) rfl ?_
          refine v_istore (pc := 103) cx dX0_canColumn_103 (Nat.le_of_ble_eq_true rfl) (lv' := [(5, .int (1 : Int32)), (0, .ref (sz0 + 0)), (1, .int x1), (2, .int x2), (3, .int x3), (4, .int x4), (6, .int x6)]) rfl ?_
          refine nm_x (x6 + (1 : Int32)) (fun z10 ez10 => ?_)
          replace h := h z10 ez10
          refine v_iinc (pc := 105) cx dX0_canColumn_105 (q := 6) rfl ((ii_1 _).trans ez10.symm) (Nat.le_of_ble_eq_true rfl) (lv' := [(6, .int z10), (5, .int (1 : Int32)), (0, .ref (sz0 + 0)), (1, .int x1), (2, .int x2), (3, .int x3), (4, .int x4)]) rfl ?_
          refine v_goto (pc := 108) cx dX0_canColumn_108 (tgt := 48) rfl ?_
          refine v_sub (lv' := [(0, .ref (sz0 + 0)), (1, .int x1), (2, .int x2), (3, .int x3), (4, .int x4), (5, .int (1 : Int32)), (6, .int z10)]) [2, 3, 4, 5, 6, 1, 0] rfl ?_
          exact ih ((1 : Int32)) z10 h
def m_X0_canColumn_l3   (x1 : Int32) (x2 : Int32) (x3 : Int32) (M : WM)  (Q : Int32 → Prop) : Nat → Int32 → Prop
  | 0, _ => False
  | n + 1, x4 => (((wI M 0 3) ≤ x4 → Q ((0 : Int32))) ∧ (¬ (wI M 0 3) ≤ x4 → (m_X0_isUsed x4 M (fun (a2 : Int32) => ((a2 = 0 → (∃ n0, m_X0_canColumn_l48 (fun x4' => m_X0_canColumn_l3 x1 x2 x3 M Q n x4') x1 x2 x3 x4 M Q n0 ((0 : Int32)) ((0 : Int32)))) ∧ (¬ a2 = 0 → (vp_in x4 40 ∧ (((wI M ((5325 + 3 * x4.toNatClampNeg)) 1) = x1 → (∃ n0, m_X0_canColumn_l48 (fun x4' => m_X0_canColumn_l3 x1 x2 x3 M Q n x4') x1 x2 x3 x4 M Q n0 ((1 : Int32)) ((0 : Int32)))) ∧ (¬ (wI M ((5325 + 3 * x4.toNatClampNeg)) 1) = x1 → (∃ n0, m_X0_canColumn_l48 (fun x4' => m_X0_canColumn_l3 x1 x2 x3 M Q n x4') x1 x2 x3 x4 M Q n0 ((0 : Int32)) ((0 : Int32))))))))))))
theorem w_X0_canColumn_l3 {p : Program} {l : Launch} {e : Env} {s : State} {m : MethodId} {args : Array Value} {below : List Frame} {meth : Method} {c : Code} {D : va_G} {cA : Nat → ClassId} {sz0 : Nat} {H0 : Heap}  {x1 : Int32} {x2 : Int32} {x3 : Int32} {M : WM} {Q : Int32 → Prop}  (cx : Cx p s m args meth c cX0_canColumn 7 RX0 (some .boolean) D cA sz0 H0)    (sh : Shp M) : ∀ (n : Nat) (x4 : Int32) , m_X0_canColumn_l3 x1 x2 x3 M Q n x4 → V p l e ({ frames := 3, cells := 0, slots := 0, locals := 63 } : Room) s m args below meth c 7 D cA sz0 H0 0 0 (MQ below (QW_i D cA sz0 H0 (fun r M' => M' = M ∧ Q r)) args s 0 0 (Aw sz0)) 3 [(0, .ref (sz0 + 0)), (1, .int x1), (2, .int x2), (3, .int x3), (4, .int x4)] [] M := by
  intro n
  induction n with
  | zero => intro x4 h; exact h.elim
  | succ n ih =>
    intro x4 h
    replace h : (((wI M 0 3) ≤ x4 → Q ((0 : Int32))) ∧ (¬ (wI M 0 3) ≤ x4 → (m_X0_isUsed x4 M (fun (a2 : Int32) => ((a2 = 0 → (∃ n0, m_X0_canColumn_l48 (fun x4' => m_X0_canColumn_l3 x1 x2 x3 M Q n x4') x1 x2 x3 x4 M Q n0 ((0 : Int32)) ((0 : Int32)))) ∧ (¬ a2 = 0 → (vp_in x4 40 ∧ (((wI M ((5325 + 3 * x4.toNatClampNeg)) 1) = x1 → (∃ n0, m_X0_canColumn_l48 (fun x4' => m_X0_canColumn_l3 x1 x2 x3 M Q n x4') x1 x2 x3 x4 M Q n0 ((1 : Int32)) ((0 : Int32)))) ∧ (¬ (wI M ((5325 + 3 * x4.toNatClampNeg)) 1) = x1 → (∃ n0, m_X0_canColumn_l48 (fun x4' => m_X0_canColumn_l3 x1 x2 x3 M Q n x4') x1 x2 x3 x4 M Q n0 ((0 : Int32)) ((0 : Int32)))))))))))) := h
    refine v_iload (pc := 3) cx dX0_canColumn_3 4 rfl ?_
    refine v_aload_n (pc := 5) cx dX0_canColumn_5 rfl 0 rfl ?_
    refine gq278_X0 (pc := 6) cx dX0_canColumn_6 (sh.k k_0) ?_
    refine v_icmp_ge (pc := 9) cx dX0_canColumn_9 (tgt := 124) rfl (fun c1 => ?_) (fun c1 => ?_)
    · replace h := h.1 c1
      refine v_iconst (pc := 124) cx dX0_canColumn_124 ic_0 ?_
      exact v_zret cx rfl (Or.inl rfl) dX0_canColumn_125 ⟨Nat.le_of_ble_eq_true rfl, Nat.le_of_ble_eq_true rfl⟩ ⟨rfl, h⟩
    · replace h := h.2 c1
      refine v_aload_n (pc := 12) cx dX0_canColumn_12 rfl 0 rfl ?_
      refine v_iload (pc := 13) cx dX0_canColumn_13 4 rfl ?_
      refine v_runp_i (pc := 15) cx (kcq718_X0 cx (c_X0_isUsed l D cA sz0 H0 M x4  _ sh h) ⟨Nat.le_of_ble_eq_true rfl, Nat.le_of_ble_eq_true rfl⟩ (sh.k k_0) (As := [.int x4]) rfl rfl (Nat.le_of_ble_eq_true rfl) dX0_canColumn_15 ⟨Nat.le_of_ble_eq_true rfl, Nat.le_of_ble_eq_true rfl⟩) (fun a2 hq => ?_)
      replace h := hq
      refine v_if_eq (pc := 18) cx dX0_canColumn_18 (tgt := 42) rfl (fun c3 => ?_) (fun c3 => ?_)
      · replace h := h.1 c3
        refine v_iconst (pc := 42) cx dX0_canColumn_42 ic_0 ?_
        refine v_istore (pc := 43) cx dX0_canColumn_43 (Nat.le_of_ble_eq_true rfl) (lv' := [(5, .int (0 : Int32)), (0, .ref (sz0 + 0)), (1, .int x1), (2, .int x2), (3, .int x3), (4, .int x4)]) rfl ?_
        refine v_iconst (pc := 45) cx dX0_canColumn_45 ic_0 ?_
        refine v_istore (pc := 46) cx dX0_canColumn_46 (Nat.le_of_ble_eq_true rfl) (lv' := [(6, .int (0 : Int32)), (5, .int (0 : Int32)), (0, .ref (sz0 + 0)), (1, .int x1), (2, .int x2), (3, .int x3), (4, .int x4)]) rfl ?_
        refine v_sub (lv' := [(0, .ref (sz0 + 0)), (1, .int x1), (2, .int x2), (3, .int x3), (4, .int x4), (5, .int (0 : Int32)), (6, .int (0 : Int32))]) [2, 3, 4, 5, 6, 1, 0] rfl ?_
        obtain ⟨n0, h⟩ := h
        exact w_X0_canColumn_l48 cx ih sh n0 ((0 : Int32)) ((0 : Int32)) h
      · replace h := h.2 c3
        refine v_aload_n (pc := 21) cx dX0_canColumn_21 rfl 0 rfl ?_
        refine gq273_X0 (pc := 22) cx dX0_canColumn_22 (sh.k k_0) (v_some (sh.r r_0_0) ?_)
        refine v_iload (pc := 25) cx dX0_canColumn_25 4 rfl ?_
        obtain ⟨b4, h⟩ := h
        refine v_aald107 (pc := 27) cx dX0_canColumn_27 (sh.k k_1) (sh.l k_1 l_1) b4 (v_some (sh.r (f_1 (lt_in b4))) ?_)
        refine gq257_X5 (pc := 28) cx dX0_canColumn_28 (sh.k (fk_1 (lt_in b4))) (v_some (sh.r (fr_1 (lt_in b4))) ?_)
        refine gq196_X2 (pc := 31) cx dX0_canColumn_31 (sh.k (isLn_w (lt_in b4)).1) ?_
        refine v_iload_n (pc := 34) cx dX0_canColumn_34 rfl 1 rfl ?_
        refine v_icmp_ne (pc := 35) cx dX0_canColumn_35 (tgt := 42) rfl (fun c5 => ?_) (fun c5 => ?_)
        · replace h := h.2 c5
          refine v_iconst (pc := 42) cx dX0_canColumn_42 ic_0 ?_
          refine v_istore (pc := 43) cx dX0_canColumn_43 (Nat.le_of_ble_eq_true rfl) (lv' := [(5, .int (0 : Int32)), (0, .ref (sz0 + 0)), (1, .int x1), (2, .int x2), (3, .int x3), (4, .int x4)]) rfl ?_
          refine v_iconst (pc := 45) cx dX0_canColumn_45 ic_0 ?_
          refine v_istore (pc := 46) cx dX0_canColumn_46 (Nat.le_of_ble_eq_true rfl) (lv' := [(6, .int (0 : Int32)), (5, .int (0 : Int32)), (0, .ref (sz0 + 0)), (1, .int x1), (2, .int x2), (3, .int x3), (4, .int x4)]) rfl ?_
          refine v_sub (lv' := [(0, .ref (sz0 + 0)), (1, .int x1), (2, .int x2), (3, .int x3), (4, .int x4), (5, .int (0 : Int32)), (6, .int (0 : Int32))]) [2, 3, 4, 5, 6, 1, 0] rfl ?_
          obtain ⟨n0, h⟩ := h
          exact w_X0_canColumn_l48 cx ih sh n0 ((0 : Int32)) ((0 : Int32)) h
        · replace h := h.1 c5
          refine v_iconst (pc := 38) cx dX0_canColumn_38 ic_1 ?_
          refine v_goto (pc := 39) cx dX0_canColumn_39 (tgt := 43) rfl ?_
          refine v_istore (pc := 43) cx dX0_canColumn_43 (Nat.le_of_ble_eq_true rfl) (lv' := [(5, .int (1 : Int32)), (0, .ref (sz0 + 0)), (1, .int x1), (2, .int x2), (3, .int x3), (4, .int x4)]) rfl ?_
          refine v_iconst (pc := 45) cx dX0_canColumn_45 ic_0 ?_
          refine v_istore (pc := 46) cx dX0_canColumn_46 (Nat.le_of_ble_eq_true rfl) (lv' := [(6, .int (0 : Int32)), (5, .int (1 : Int32)), (0, .ref (sz0 + 0)), (1, .int x1), (2, .int x2), (3, .int x3), (4, .int x4)]) rfl ?_
          refine v_sub (lv' := [(0, .ref (sz0 + 0)), (1, .int x1), (2, .int x2), (3, .int x3), (4, .int x4), (5, .int (1 : Int32)), (6, .int (0 : Int32))]) [2, 3, 4, 5, 6, 1, 0] rfl ?_
          obtain ⟨n0, h⟩ := h
          exact w_X0_canColumn_l48 cx ih sh n0 ((1 : Int32)) ((0 : Int32)) h
def m_X0_canColumn (x1 : Int32) (x2 : Int32) (x3 : Int32) (M : WM)  (Q : Int32 → Prop) : Prop := (∃ n0, m_X0_canColumn_l3 x1 x2 x3 M Q n0 ((0 : Int32)))
theorem c_X0_canColumn (l : Launch) (D : va_G) (cA : Nat → ClassId) (sz0 : Nat) (H0 : Heap) (M : WM) (x1 : Int32) (x2 : Int32) (x3 : Int32)   (Q : Int32 → Prop) (sh : Shp M) (h : m_X0_canColumn x1 x2 x3 M  Q) : Met l yX0_canColumn (ws_ yX0_canColumn cX0_canColumn 7 (some .boolean)) ({ frames := 3, cells := 0, slots := 0, locals := 63 } : Room) (PcW D cA sz0 H0 [.ref (sz0 + 0), .int x1, .int x2, .int x3] M) (QW_i D cA sz0 H0 (fun r M' => M' = M ∧ Q r)) 0 0 (Aw sz0) := by
  replace h : (∃ n0, m_X0_canColumn_l3 x1 x2 x3 M Q n0 ((0 : Int32))) := h
  refine Met.ofV (by decide +kernel) (Nat.le_of_ble_eq_true rfl) ?_
  intro p e s m args below meth c cx hnm
  replace cx : Cx p s m args meth c cX0_canColumn 7 RX0 (some .boolean) D cA sz0 H0 := cx
  refine v_sub (lv' := [(0, .ref (sz0 + 0)), (1, .int x1), (2, .int x2), (3, .int x3)]) [0, 1, 2, 3] rfl ?_
  refine v_iconst (pc := 0) cx dX0_canColumn_0 ic_0 ?_
  refine v_istore (pc := 1) cx dX0_canColumn_1 (Nat.le_of_ble_eq_true rfl) (lv' := [(4, .int (0 : Int32)), (0, .ref (sz0 + 0)), (1, .int x1), (2, .int x2), (3, .int x3)]) rfl ?_
  refine v_sub (lv' := [(0, .ref (sz0 + 0)), (1, .int x1), (2, .int x2), (3, .int x3), (4, .int (0 : Int32))]) [1, 2, 3, 4, 0] rfl ?_
  obtain ⟨n0, h⟩ := h
  exact w_X0_canColumn_l3 cx sh n0 ((0 : Int32)) h
/-! LetterHeaps.within(III)Z -/
def m_X0_within (x0 : Int32) (x1 : Int32) (x2 : Int32)   (Q : Int32 → Prop) : Prop := ((x0 < x1 → Q ((0 : Int32))) ∧ (¬ x0 < x1 → ((x2 < x0 → Q ((0 : Int32))) ∧ (¬ x2 < x0 → Q ((1 : Int32))))))
theorem c_X0_within (l : Launch) (D : va_G) (cA : Nat → ClassId) (sz0 : Nat) (H0 : Heap) (M : WM) (x0 : Int32) (x1 : Int32) (x2 : Int32)   (Q : Int32 → Prop)  (h : m_X0_within x0 x1 x2   Q) : Met l yX0_within (ws_ yX0_within cX0_within 3 (some .boolean)) ({ frames := 0, cells := 0, slots := 0, locals := 0 } : Room) (PcW D cA sz0 H0 [.int x0, .int x1, .int x2] M) (QW_i D cA sz0 H0 (fun r M' => M' = M ∧ Q r)) 0 0 (Aw sz0) := by
  replace h : ((x0 < x1 → Q ((0 : Int32))) ∧ (¬ x0 < x1 → ((x2 < x0 → Q ((0 : Int32))) ∧ (¬ x2 < x0 → Q ((1 : Int32)))))) := h
  refine Met.ofV (by decide +kernel) (Nat.le_of_ble_eq_true rfl) ?_
  intro p e s m args below meth c cx hnm
  replace cx : Cx p s m args meth c cX0_within 3 RX0 (some .boolean) D cA sz0 H0 := cx
  refine v_sub (lv' := [(0, .int x0), (1, .int x1), (2, .int x2)]) [0, 1, 2] rfl ?_
  refine v_iload_n (pc := 0) cx dX0_within_0 rfl 0 rfl ?_
  refine v_iload_n (pc := 1) cx dX0_within_1 rfl 1 rfl ?_
  refine v_icmp_lt (pc := 2) cx dX0_within_2 (tgt := 14) rfl (fun c1 => ?_) (fun c1 => ?_)
  · replace h := h.1 c1
    refine v_iconst (pc := 14) cx dX0_within_14 ic_0 ?_
    exact v_zret cx rfl (Or.inl rfl) dX0_within_15 ⟨Nat.le_of_ble_eq_true rfl, Nat.le_of_ble_eq_true rfl⟩ ⟨rfl, h⟩
  · replace h := h.2 c1
    refine v_iload_n (pc := 5) cx dX0_within_5 rfl 0 rfl ?_
    refine v_iload_n (pc := 6) cx dX0_within_6 rfl 2 rfl ?_
    refine v_icmp_gt (pc := 7) cx dX0_within_7 (tgt := 14) rfl (fun c2 => ?_) (fun c2 => ?_)
    · replace h := h.1 c2
      refine v_iconst (pc := 14) cx dX0_within_14 ic_0 ?_
      exact v_zret cx rfl (Or.inl rfl) dX0_within_15 ⟨Nat.le_of_ble_eq_true rfl, Nat.le_of_ble_eq_true rfl⟩ ⟨rfl, h⟩
    · replace h := h.2 c2
      refine v_iconst (pc := 10) cx dX0_within_10 ic_1 ?_
      refine v_goto (pc := 11) cx dX0_within_11 (tgt := 15) rfl ?_
      exact v_zret cx rfl (Or.inr rfl) dX0_within_15 ⟨Nat.le_of_ble_eq_true rfl, Nat.le_of_ble_eq_true rfl⟩ ⟨rfl, h⟩
/-! LetterHeaps.numberAt(I)I -/
def m_X0_numberAt_l4   (x1 : Int32) (M : WM)  (Q : Int32 → Prop) : Nat → Int32 → Int32 → Prop
  | 0, _, _ => False
  | n + 1, x2, x3 => (((4 : Int32) ≤ x3 → Q x2) ∧ (¬ (4 : Int32) ≤ x3 → (vp_in ((((4 : Int32) * x1) + x3)) 200 ∧ (∀ z3 : Int32, z3 = ((x2 <<< ((8 : Int32) &&& 31)) ||| ((wI M 2 ((((4 : Int32) * x1) + x3)).toNatClampNeg) &&& (255 : Int32))) → (∀ z4 : Int32, z4 = x3 + (1 : Int32) → m_X0_numberAt_l4 x1 M Q n z3 z4)))))
theorem w_X0_numberAt_l4 {p : Program} {l : Launch} {e : Env} {s : State} {m : MethodId} {args : Array Value} {below : List Frame} {meth : Method} {c : Code} {D : va_G} {cA : Nat → ClassId} {sz0 : Nat} {H0 : Heap}  {x1 : Int32} {M : WM} {Q : Int32 → Prop}  (cx : Cx p s m args meth c cX0_numberAt 4 RX0 (some .int) D cA sz0 H0)    (sh : Shp M) : ∀ (n : Nat) (x2 : Int32) (x3 : Int32) , m_X0_numberAt_l4 x1 M Q n x2 x3 → V p l e ({ frames := 0, cells := 0, slots := 0, locals := 0 } : Room) s m args below meth c 4 D cA sz0 H0 0 0 (MQ below (QW_i D cA sz0 H0 (fun r M' => M' = M ∧ Q r)) args s 0 0 (Aw sz0)) 4 [(0, .ref (sz0 + 0)), (1, .int x1), (2, .int x2), (3, .int x3)] [] M := by
  intro n
  induction n with
  | zero => intro x2 x3 h; exact h.elim
  | succ n ih =>
    intro x2 x3 h
    replace h : (((4 : Int32) ≤ x3 → Q x2) ∧ (¬ (4 : Int32) ≤ x3 → (vp_in ((((4 : Int32) * x1) + x3)) 200 ∧ (∀ z3 : Int32, z3 = ((x2 <<< ((8 : Int32) &&& 31)) ||| ((wI M 2 ((((4 : Int32) * x1) + x3)).toNatClampNeg) &&& (255 : Int32))) → (∀ z4 : Int32, z4 = x3 + (1 : Int32) → m_X0_numberAt_l4 x1 M Q n z3 z4))))) := h
    refine v_iload_n (pc := 4) cx dX0_numberAt_4 rfl 3 rfl ?_
    refine v_iconst (pc := 5) cx dX0_numberAt_5 ic_4 ?_
    refine v_icmp_ge (pc := 6) cx dX0_numberAt_6 (tgt := 35) rfl (fun c1 => ?_) (fun c1 => ?_)
    · replace h := h.1 c1
      refine v_iload_n (pc := 35) cx dX0_numberAt_35 rfl 2 rfl ?_
      exact v_iret cx rfl dX0_numberAt_36 ⟨Nat.le_of_ble_eq_true rfl, Nat.le_of_ble_eq_true rfl⟩ ⟨rfl, h⟩
    · replace h := h.2 c1
      refine v_iload_n (pc := 9) cx dX0_numberAt_9 rfl 2 rfl ?_
      refine v_bipush (pc := 10) cx dX0_numberAt_10 bc_8 ?_
      refine v_ishl (pc := 12) cx dX0_numberAt_12 ?_
      refine v_aload_n (pc := 13) cx dX0_numberAt_13 rfl 0 rfl ?_
      refine gq275_X0 (pc := 14) cx dX0_numberAt_14 (sh.k k_0) (v_some (sh.r r_0_1) ?_)
      refine v_iconst (pc := 17) cx dX0_numberAt_17 ic_4 ?_
      refine v_iload_n (pc := 18) cx dX0_numberAt_18 rfl 1 rfl ?_
      refine v_imul (pc := 19) cx dX0_numberAt_19 ?_
      refine v_iload_n (pc := 20) cx dX0_numberAt_20 rfl 3 rfl ?_
      refine v_iadd (pc := 21) cx dX0_numberAt_21 ?_
      obtain ⟨b2, h⟩ := h
      refine v_bald (pc := 22) cx dX0_numberAt_22 (sh.k k_2) (sh.l k_2 l_2) b2 ?_
      refine v_sipush (pc := 23) cx dX0_numberAt_23 sc_255 ?_
      refine v_iand (pc := 26) cx dX0_numberAt_26 ?_
      refine v_ior (pc := 27) cx dX0_numberAt_27 ?_
      refine v_topi (fun z3 ez3 => ?_)
      replace h := h z3 ez3
      refine v_istore_n (pc := 28) cx dX0_numberAt_28 rfl (Nat.le_of_ble_eq_true rfl) (lv' := [(2, .int z3), (0, .ref (sz0 + 0)), (1, .int x1), (3, .int x3)]) rfl ?_
      refine nm_x (x3 + (1 : Int32)) (fun z4 ez4 => ?_)
      replace h := h z4 ez4
      refine v_iinc (pc := 29) cx dX0_numberAt_29 (q := 3) rfl ((ii_1 _).trans ez4.symm) (Nat.le_of_ble_eq_true rfl) (lv' := [(3, .int z4), (2, .int z3), (0, .ref (sz0 + 0)), (1, .int x1)]) rfl ?_
      refine v_goto (pc := 32) cx dX0_numberAt_32 (tgt := 4) rfl ?_
      refine v_sub (lv' := [(0, .ref (sz0 + 0)), (1, .int x1), (2, .int z3), (3, .int z4)]) [2, 3, 1, 0] rfl ?_
      exact ih z3 z4 h
def m_X0_numberAt (x1 : Int32) (M : WM)  (Q : Int32 → Prop) : Prop := (∃ n0, m_X0_numberAt_l4 x1 M Q n0 ((0 : Int32)) ((0 : Int32)))
theorem c_X0_numberAt (l : Launch) (D : va_G) (cA : Nat → ClassId) (sz0 : Nat) (H0 : Heap) (M : WM) (x1 : Int32)   (Q : Int32 → Prop) (sh : Shp M) (h : m_X0_numberAt x1 M  Q) : Met l yX0_numberAt (ws_ yX0_numberAt cX0_numberAt 4 (some .int)) ({ frames := 0, cells := 0, slots := 0, locals := 0 } : Room) (PcW D cA sz0 H0 [.ref (sz0 + 0), .int x1] M) (QW_i D cA sz0 H0 (fun r M' => M' = M ∧ Q r)) 0 0 (Aw sz0) := by
  replace h : (∃ n0, m_X0_numberAt_l4 x1 M Q n0 ((0 : Int32)) ((0 : Int32))) := h
  refine Met.ofV (by decide +kernel) (Nat.le_of_ble_eq_true rfl) ?_
  intro p e s m args below meth c cx hnm
  replace cx : Cx p s m args meth c cX0_numberAt 4 RX0 (some .int) D cA sz0 H0 := cx
  refine v_sub (lv' := [(0, .ref (sz0 + 0)), (1, .int x1)]) [0, 1] rfl ?_
  refine v_iconst (pc := 0) cx dX0_numberAt_0 ic_0 ?_
  refine v_istore_n (pc := 1) cx dX0_numberAt_1 rfl (Nat.le_of_ble_eq_true rfl) (lv' := [(2, .int (0 : Int32)), (0, .ref (sz0 + 0)), (1, .int x1)]) rfl ?_
  refine v_iconst (pc := 2) cx dX0_numberAt_2 ic_0 ?_
  refine v_istore_n (pc := 3) cx dX0_numberAt_3 rfl (Nat.le_of_ble_eq_true rfl) (lv' := [(3, .int (0 : Int32)), (2, .int (0 : Int32)), (0, .ref (sz0 + 0)), (1, .int x1)]) rfl ?_
  refine v_sub (lv' := [(0, .ref (sz0 + 0)), (1, .int x1), (2, .int (0 : Int32)), (3, .int (0 : Int32))]) [2, 3, 1, 0] rfl ?_
  obtain ⟨n0, h⟩ := h
  exact w_X0_numberAt_l4 cx sh n0 ((0 : Int32)) ((0 : Int32)) h
/-! LetterHeaps.check(II)I -/
def m_X0_check_l49   (x2 : Int32) (x3 : Nat)   (Q : Int32 → WM → Prop) : Nat → Int32 → WM → Prop
  | 0, _, _ => False
  | n + 1, x4, M => (((wI M x3 1) ≤ x4 → ((x2 = (wI M x3 1) → Q (((-1) : Int32)) M) ∧ (¬ x2 = (wI M x3 1) → Q ((wI M x3 1)) M))) ∧ (¬ (wI M x3 1) ≤ x4 → ((x4 = x2 → Q x2 M) ∧ (¬ x4 = x2 → (m_X0_numberAt x4 M (fun (a4 : Int32) => (vp_in x4 13 ∧ ((a4 = (wI M ((x3 + 1)) x4.toNatClampNeg) → (∀ z7 : Int32, z7 = x4 + (1 : Int32) → m_X0_check_l49 x2 x3 Q n z7 M)) ∧ (¬ a4 = (wI M ((x3 + 1)) x4.toNatClampNeg) → Q x4 M)))))))))
theorem w_X0_check_l49 {p : Program} {l : Launch} {e : Env} {s : State} {m : MethodId} {args : Array Value} {below : List Frame} {meth : Method} {c : Code} {D : va_G} {cA : Nat → ClassId} {sz0 : Nat} {H0 : Heap}  {x2 : Int32} {x3 : Nat} {Q : Int32 → WM → Prop}  (cx : Cx p s m args meth c cX0_check 5 RX0 (some .int) D cA sz0 H0)   (hx3 : isLn x3)  : ∀ (n : Nat) (x4 : Int32)  (M : WM) (sh : Shp M), m_X0_check_l49 x2 x3 Q n x4 M → V p l e ({ frames := 2, cells := 0, slots := 0, locals := 42 } : Room) s m args below meth c 5 D cA sz0 H0 0 0 (MQ below (QW_i D cA sz0 H0 (fun r M' => Q r M' ∧ Shp M')) args s 0 0 (Aw sz0)) 49 [(0, .ref (sz0 + 0)), (2, .int x2), (3, .ref (sz0 + x3)), (4, .int x4)] [] M := by
  intro n
  induction n with
  | zero => intro x4 M sh h; exact h.elim
  | succ n ih =>
    intro x4 M sh h
    replace h : (((wI M x3 1) ≤ x4 → ((x2 = (wI M x3 1) → Q (((-1) : Int32)) M) ∧ (¬ x2 = (wI M x3 1) → Q ((wI M x3 1)) M))) ∧ (¬ (wI M x3 1) ≤ x4 → ((x4 = x2 → Q x2 M) ∧ (¬ x4 = x2 → (m_X0_numberAt x4 M (fun (a4 : Int32) => (vp_in x4 13 ∧ ((a4 = (wI M ((x3 + 1)) x4.toNatClampNeg) → (∀ z7 : Int32, z7 = x4 + (1 : Int32) → m_X0_check_l49 x2 x3 Q n z7 M)) ∧ (¬ a4 = (wI M ((x3 + 1)) x4.toNatClampNeg) → Q x4 M))))))))) := h
    refine v_iload (pc := 49) cx dX0_check_49 3 rfl ?_
    refine v_aload_n (pc := 51) cx dX0_check_51 rfl 2 rfl ?_
    refine gq196_X2 (pc := 52) cx dX0_check_52 (sh.k (hx3).1) ?_
    refine v_icmp_ge (pc := 55) cx dX0_check_55 (tgt := 91) rfl (fun c1 => ?_) (fun c1 => ?_)
    · replace h := h.1 c1
      refine v_iload_n (pc := 91) cx dX0_check_91 rfl 1 rfl ?_
      refine v_aload_n (pc := 92) cx dX0_check_92 rfl 2 rfl ?_
      refine gq196_X2 (pc := 93) cx dX0_check_93 (sh.k (hx3).1) ?_
      refine v_icmp_ne (pc := 96) cx dX0_check_96 (tgt := 103) rfl (fun c2 => ?_) (fun c2 => ?_)
      · replace h := h.2 c2
        refine v_aload_n (pc := 103) cx dX0_check_103 rfl 2 rfl ?_
        refine gq196_X2 (pc := 104) cx dX0_check_104 (sh.k (hx3).1) ?_
        exact v_iret cx rfl dX0_check_107 ⟨Nat.le_of_ble_eq_true rfl, Nat.le_of_ble_eq_true rfl⟩ ⟨h, sh⟩
      · replace h := h.1 c2
        refine v_iconst (pc := 99) cx dX0_check_99 ic_m1 ?_
        refine v_goto (pc := 100) cx dX0_check_100 (tgt := 107) rfl ?_
        exact v_iret cx rfl dX0_check_107 ⟨Nat.le_of_ble_eq_true rfl, Nat.le_of_ble_eq_true rfl⟩ ⟨h, sh⟩
    · replace h := h.2 c1
      refine v_iload (pc := 58) cx dX0_check_58 3 rfl ?_
      refine v_iload_n (pc := 60) cx dX0_check_60 rfl 1 rfl ?_
      refine v_icmp_ne (pc := 61) cx dX0_check_61 (tgt := 66) rfl (fun c3 => ?_) (fun c3 => ?_)
      · replace h := h.2 c3
        refine v_aload_n (pc := 66) cx dX0_check_66 rfl 0 rfl ?_
        refine v_iload (pc := 67) cx dX0_check_67 3 rfl ?_
        refine v_runp_i (pc := 69) cx (kcq999_X0 cx (c_X0_numberAt l D cA sz0 H0 M x4  _ sh h) ⟨Nat.le_of_ble_eq_true rfl, Nat.le_of_ble_eq_true rfl⟩ (sh.k k_0) (As := [.int x4]) rfl rfl (Nat.le_of_ble_eq_true rfl) dX0_check_69 ⟨Nat.le_of_ble_eq_true rfl, Nat.le_of_ble_eq_true rfl⟩) (fun a4 hq => ?_)
        replace h := hq
        refine v_aload_n (pc := 72) cx dX0_check_72 rfl 2 rfl ?_
        refine gq193_X2 (pc := 73) cx dX0_check_73 (sh.k (hx3).1) (v_some (sh.r (hx3).2.2.2) ?_)
        refine v_iload (pc := 76) cx dX0_check_76 3 rfl ?_
        obtain ⟨b5, h⟩ := h
        refine v_iald (pc := 78) cx dX0_check_78 (sh.k (hx3).2.1) (sh.l (hx3).2.1 (hx3).2.2.1) b5 ?_
        refine v_icmp_eq (pc := 79) cx dX0_check_79 (tgt := 85) rfl (fun c6 => ?_) (fun c6 => ?_)
        · replace h := h.1 c6
          refine nm_x (x4 + (1 : Int32)) (fun z7 ez7 => ?_)
          replace h := h z7 ez7
          refine v_iinc (pc := 85) cx dX0_check_85 (q := 3) rfl ((ii_1 _).trans ez7.symm) (Nat.le_of_ble_eq_true rfl) (lv' := [(4, .int z7), (0, .ref (sz0 + 0)), (2, .int x2), (3, .ref (sz0 + x3))]) rfl ?_
          refine v_goto (pc := 88) cx dX0_check_88 (tgt := 49) rfl ?_
          refine v_sub (lv' := [(0, .ref (sz0 + 0)), (2, .int x2), (3, .ref (sz0 + x3)), (4, .int z7)]) [1, 2, 3, 0] rfl ?_
          exact ih z7 M sh h
        · replace h := h.2 c6
          refine v_iload (pc := 82) cx dX0_check_82 3 rfl ?_
          exact v_iret cx rfl dX0_check_84 ⟨Nat.le_of_ble_eq_true rfl, Nat.le_of_ble_eq_true rfl⟩ ⟨h, sh⟩
      · replace h := h.1 c3
        refine v_iload_n (pc := 64) cx dX0_check_64 rfl 1 rfl ?_
        exact v_iret cx rfl dX0_check_65 ⟨Nat.le_of_ble_eq_true rfl, Nat.le_of_ble_eq_true rfl⟩ ⟨h, sh⟩
def m_X0_check (x1 : Int32) (x2 : Int32) (M : WM)  (Q : Int32 → WM → Prop) : Prop := (m_X0_isWord x1 M (fun (a1 : Int32) => ((a1 = 0 → Q (((-2) : Int32)) M) ∧ (¬ a1 = 0 → (m_X0_within x2 ((0 : Int32)) ((8 : Int32)) (fun (a3 : Int32) => ((a3 = 0 → Q (((-2) : Int32)) M) ∧ (¬ a3 = 0 → ((x2 ≤ ((wI M 0 5) / (4 : Int32)) → (∀ M6 : WM, M6 = wPI M 0 5 ((0 : Int32)) → (vp_in x1 40 ∧ (∃ n0, m_X0_check_l49 x2 ((5325 + 3 * x1.toNatClampNeg)) Q n0 ((0 : Int32)) M6)))) ∧ (¬ x2 ≤ ((wI M 0 5) / (4 : Int32)) → Q (((-2) : Int32)) M))))))))))
theorem c_X0_check (l : Launch) (D : va_G) (cA : Nat → ClassId) (sz0 : Nat) (H0 : Heap) (M : WM) (x1 : Int32) (x2 : Int32)   (Q : Int32 → WM → Prop) (sh : Shp M) (h : m_X0_check x1 x2 M  Q) : Met l yX0_check (ws_ yX0_check cX0_check 5 (some .int)) ({ frames := 2, cells := 0, slots := 0, locals := 42 } : Room) (PcW D cA sz0 H0 [.ref (sz0 + 0), .int x1, .int x2] M) (QW_i D cA sz0 H0 (fun r M' => Q r M' ∧ Shp M')) 0 0 (Aw sz0) := by
  replace h : (m_X0_isWord x1 M (fun (a1 : Int32) => ((a1 = 0 → Q (((-2) : Int32)) M) ∧ (¬ a1 = 0 → (m_X0_within x2 ((0 : Int32)) ((8 : Int32)) (fun (a3 : Int32) => ((a3 = 0 → Q (((-2) : Int32)) M) ∧ (¬ a3 = 0 → ((x2 ≤ ((wI M 0 5) / (4 : Int32)) → (∀ M6 : WM, M6 = wPI M 0 5 ((0 : Int32)) → (vp_in x1 40 ∧ (∃ n0, m_X0_check_l49 x2 ((5325 + 3 * x1.toNatClampNeg)) Q n0 ((0 : Int32)) M6)))) ∧ (¬ x2 ≤ ((wI M 0 5) / (4 : Int32)) → Q (((-2) : Int32)) M)))))))))) := h
  refine Met.ofV (by decide +kernel) (Nat.le_of_ble_eq_true rfl) ?_
  intro p e s m args below meth c cx hnm
  replace cx : Cx p s m args meth c cX0_check 5 RX0 (some .int) D cA sz0 H0 := cx
  refine v_sub (lv' := [(0, .ref (sz0 + 0)), (1, .int x1), (2, .int x2)]) [0, 1, 2] rfl ?_
  refine v_aload_n (pc := 0) cx dX0_check_0 rfl 0 rfl ?_
  refine v_iload_n (pc := 1) cx dX0_check_1 rfl 1 rfl ?_
  refine v_runp_i (pc := 2) cx (kcq421_X0 cx (c_X0_isWord l D cA sz0 H0 M x1  _ sh h) ⟨Nat.le_of_ble_eq_true rfl, Nat.le_of_ble_eq_true rfl⟩ (sh.k k_0) (As := [.int x1]) rfl rfl (Nat.le_of_ble_eq_true rfl) dX0_check_2 ⟨Nat.le_of_ble_eq_true rfl, Nat.le_of_ble_eq_true rfl⟩) (fun a1 hq => ?_)
  replace h := hq
  refine v_if_eq (pc := 5) cx dX0_check_5 (tgt := 28) rfl (fun c2 => ?_) (fun c2 => ?_)
  · replace h := h.1 c2
    refine v_bipush (pc := 28) cx dX0_check_28 bc_m2 ?_
    exact v_iret cx rfl dX0_check_30 ⟨Nat.le_of_ble_eq_true rfl, Nat.le_of_ble_eq_true rfl⟩ ⟨h, sh⟩
  · replace h := h.2 c2
    refine v_iload_n (pc := 8) cx dX0_check_8 rfl 2 rfl ?_
    refine v_iconst (pc := 9) cx dX0_check_9 ic_0 ?_
    refine v_bipush (pc := 10) cx dX0_check_10 bc_8 ?_
    refine v_runp_i (pc := 12) cx (kcq387_X0 cx (c_X0_within l D cA sz0 H0 M x2 ((0 : Int32)) ((8 : Int32))  _ h) ⟨Nat.le_of_ble_eq_true rfl, Nat.le_of_ble_eq_true rfl⟩ (As := [.int x2, .int (0 : Int32), .int (8 : Int32)]) rfl rfl (Nat.le_of_ble_eq_true rfl) dX0_check_12 ⟨Nat.le_of_ble_eq_true rfl, Nat.le_of_ble_eq_true rfl⟩) (fun a3 hq => ?_)
    replace h := hq
    refine v_if_eq (pc := 15) cx dX0_check_15 (tgt := 28) rfl (fun c4 => ?_) (fun c4 => ?_)
    · replace h := h.1 c4
      refine v_bipush (pc := 28) cx dX0_check_28 bc_m2 ?_
      exact v_iret cx rfl dX0_check_30 ⟨Nat.le_of_ble_eq_true rfl, Nat.le_of_ble_eq_true rfl⟩ ⟨h, sh⟩
    · replace h := h.2 c4
      refine v_iload_n (pc := 18) cx dX0_check_18 rfl 2 rfl ?_
      refine v_aload_n (pc := 19) cx dX0_check_19 rfl 0 rfl ?_
      refine gq280_X0 (pc := 20) cx dX0_check_20 (sh.k k_0) ?_
      refine v_iconst (pc := 23) cx dX0_check_23 ic_4 ?_
      refine v_idiv (pc := 24) cx dX0_check_24 (by decide) ?_
      refine v_icmp_le (pc := 25) cx dX0_check_25 (tgt := 31) rfl (fun c5 => ?_) (fun c5 => ?_)
      · replace h := h.1 c5
        refine v_aload_n (pc := 31) cx dX0_check_31 rfl 0 rfl ?_
        refine v_iconst (pc := 32) cx dX0_check_32 ic_0 ?_
        refine pq280_X0 (pc := 33) cx dX0_check_33 (sh.k k_0) ?_
        refine v_wld (fun M6 eM6 => ?_)
        replace h := h M6 eM6
        replace sh : Shp M6 := Shp_PI sh eM6
        refine v_aload_n (pc := 36) cx dX0_check_36 rfl 0 rfl ?_
        refine gq273_X0 (pc := 37) cx dX0_check_37 (sh.k k_0) (v_some (sh.r r_0_0) ?_)
        refine v_iload_n (pc := 40) cx dX0_check_40 rfl 1 rfl ?_
        obtain ⟨b7, h⟩ := h
        refine v_aald107 (pc := 41) cx dX0_check_41 (sh.k k_1) (sh.l k_1 l_1) b7 (v_some (sh.r (f_1 (lt_in b7))) ?_)
        refine gq257_X5 (pc := 42) cx dX0_check_42 (sh.k (fk_1 (lt_in b7))) (v_some (sh.r (fr_1 (lt_in b7))) ?_)
        refine v_astore_n (pc := 45) cx dX0_check_45 rfl (Nat.le_of_ble_eq_true rfl) (lv' := [(3, .ref (sz0 + (5325 + 3 * x1.toNatClampNeg))), (0, .ref (sz0 + 0)), (1, .int x1), (2, .int x2)]) rfl ?_
        refine v_iconst (pc := 46) cx dX0_check_46 ic_0 ?_
        refine v_istore (pc := 47) cx dX0_check_47 (Nat.le_of_ble_eq_true rfl) (lv' := [(4, .int (0 : Int32)), (3, .ref (sz0 + (5325 + 3 * x1.toNatClampNeg))), (0, .ref (sz0 + 0)), (1, .int x1), (2, .int x2)]) rfl ?_
        refine v_sub (lv' := [(0, .ref (sz0 + 0)), (2, .int x2), (3, .ref (sz0 + (5325 + 3 * x1.toNatClampNeg))), (4, .int (0 : Int32))]) [2, 4, 1, 0] rfl ?_
        obtain ⟨n0, h⟩ := h
        exact w_X0_check_l49 cx (isLn_w (lt_in b7)) n0 ((0 : Int32)) M6 sh h
      · replace h := h.2 c5
        refine v_bipush (pc := 28) cx dX0_check_28 bc_m2 ?_
        exact v_iret cx rfl dX0_check_30 ⟨Nat.le_of_ble_eq_true rfl, Nat.le_of_ble_eq_true rfl⟩ ⟨h, sh⟩
/-! LetterHeaps.takesWords(I)Z -/
def m_X0_takesWords_l15   (x1 : Int32)   (Q : Int32 → WM → Prop) : Nat → Int64 → Int32 → WM → Prop
  | 0, _, _, _ => False
  | n + 1, x2, x4, M => ((x1 ≤ x4 → Q ((1 : Int32)) M) ∧ (¬ x1 ≤ x4 → (vp_in x4 200 ∧ (vp_in x4 14 ∧ (∀ M4 : WM, M4 = wPI M 184 x4.toNatClampNeg ((wI M 2 x4.toNatClampNeg)) → (vp_in x4 14 ∧ (m_X0_isWord ((wI M4 184 x4.toNatClampNeg)) M4 (fun (a6 : Int32) => ((a6 = 0 → Q ((0 : Int32)) M4) ∧ (¬ a6 = 0 → (vp_in x4 14 ∧ (m_X0_has x2 ((wI M4 184 x4.toNatClampNeg)) (fun (a9 : Int32) => ((a9 = 0 → (vp_in x4 14 ∧ (∀ z12 : Int64, z12 = (x2 ||| ((1 : Int64) <<< (((wI M4 184 x4.toNatClampNeg)).toInt64 &&& 63))) → (∀ z13 : Int32, z13 = x4 + (1 : Int32) → m_X0_takesWords_l15 x1 Q n z12 z13 M4)))) ∧ (¬ a9 = 0 → Q ((0 : Int32)) M4)))))))))))))))
theorem w_X0_takesWords_l15 {p : Program} {l : Launch} {e : Env} {s : State} {m : MethodId} {args : Array Value} {below : List Frame} {meth : Method} {c : Code} {D : va_G} {cA : Nat → ClassId} {sz0 : Nat} {H0 : Heap}  {x1 : Int32} {Q : Int32 → WM → Prop}  (cx : Cx p s m args meth c cX0_takesWords 5 RX0 (some .boolean) D cA sz0 H0)     : ∀ (n : Nat) (x2 : Int64) (x4 : Int32)  (M : WM) (sh : Shp M), m_X0_takesWords_l15 x1 Q n x2 x4 M → V p l e ({ frames := 2, cells := 0, slots := 0, locals := 42 } : Room) s m args below meth c 5 D cA sz0 H0 0 0 (MQ below (QW_i D cA sz0 H0 (fun r M' => Q r M' ∧ Shp M')) args s 0 0 (Aw sz0)) 15 [(0, .ref (sz0 + 0)), (1, .int x1), (2, .long x2), (4, .int x4)] [] M := by
  intro n
  induction n with
  | zero => intro x2 x4 M sh h; exact h.elim
  | succ n ih =>
    intro x2 x4 M sh h
    replace h : ((x1 ≤ x4 → Q ((1 : Int32)) M) ∧ (¬ x1 ≤ x4 → (vp_in x4 200 ∧ (vp_in x4 14 ∧ (∀ M4 : WM, M4 = wPI M 184 x4.toNatClampNeg ((wI M 2 x4.toNatClampNeg)) → (vp_in x4 14 ∧ (m_X0_isWord ((wI M4 184 x4.toNatClampNeg)) M4 (fun (a6 : Int32) => ((a6 = 0 → Q ((0 : Int32)) M4) ∧ (¬ a6 = 0 → (vp_in x4 14 ∧ (m_X0_has x2 ((wI M4 184 x4.toNatClampNeg)) (fun (a9 : Int32) => ((a9 = 0 → (vp_in x4 14 ∧ (∀ z12 : Int64, z12 = (x2 ||| ((1 : Int64) <<< (((wI M4 184 x4.toNatClampNeg)).toInt64 &&& 63))) → (∀ z13 : Int32, z13 = x4 + (1 : Int32) → m_X0_takesWords_l15 x1 Q n z12 z13 M4)))) ∧ (¬ a9 = 0 → Q ((0 : Int32)) M4))))))))))))))) := h
    refine v_iload (pc := 15) cx dX0_takesWords_15 3 rfl ?_
    refine v_iload_n (pc := 17) cx dX0_takesWords_17 rfl 1 rfl ?_
    refine v_icmp_ge (pc := 18) cx dX0_takesWords_18 (tgt := 83) rfl (fun c1 => ?_) (fun c1 => ?_)
    · replace h := h.1 c1
      refine v_iconst (pc := 83) cx dX0_takesWords_83 ic_1 ?_
      exact v_zret cx rfl (Or.inr rfl) dX0_takesWords_84 ⟨Nat.le_of_ble_eq_true rfl, Nat.le_of_ble_eq_true rfl⟩ ⟨h, sh⟩
    · replace h := h.2 c1
      refine v_aload_n (pc := 21) cx dX0_takesWords_21 rfl 0 rfl ?_
      refine gq299_X0 (pc := 22) cx dX0_takesWords_22 (sh.k k_0) (v_some (sh.r r_0_24) ?_)
      refine v_iload (pc := 25) cx dX0_takesWords_25 3 rfl ?_
      refine v_aload_n (pc := 27) cx dX0_takesWords_27 rfl 0 rfl ?_
      refine gq275_X0 (pc := 28) cx dX0_takesWords_28 (sh.k k_0) (v_some (sh.r r_0_1) ?_)
      refine v_iload (pc := 31) cx dX0_takesWords_31 3 rfl ?_
      obtain ⟨b2, h⟩ := h
      refine v_bald (pc := 33) cx dX0_takesWords_33 (sh.k k_2) (sh.l k_2 l_2) b2 ?_
      obtain ⟨b3, h⟩ := h
      refine v_iast (pc := 34) cx dX0_takesWords_34 (sh.k k_184) (sh.l k_184 l_184) b3 ?_
      refine v_wld (fun M4 eM4 => ?_)
      replace h := h M4 eM4
      replace sh : Shp M4 := Shp_PI sh eM4
      refine v_aload_n (pc := 35) cx dX0_takesWords_35 rfl 0 rfl ?_
      refine v_aload_n (pc := 36) cx dX0_takesWords_36 rfl 0 rfl ?_
      refine gq299_X0 (pc := 37) cx dX0_takesWords_37 (sh.k k_0) (v_some (sh.r r_0_24) ?_)
      refine v_iload (pc := 40) cx dX0_takesWords_40 3 rfl ?_
      obtain ⟨b5, h⟩ := h
      refine v_iald (pc := 42) cx dX0_takesWords_42 (sh.k k_184) (sh.l k_184 l_184) b5 ?_
      refine v_runp_i (pc := 43) cx (kcq421_X0 cx (c_X0_isWord l D cA sz0 H0 M4 ((wI M4 184 x4.toNatClampNeg))  _ sh h) ⟨Nat.le_of_ble_eq_true rfl, Nat.le_of_ble_eq_true rfl⟩ (sh.k k_0) (As := [.int (wI M4 184 x4.toNatClampNeg)]) rfl rfl (Nat.le_of_ble_eq_true rfl) dX0_takesWords_43 ⟨Nat.le_of_ble_eq_true rfl, Nat.le_of_ble_eq_true rfl⟩) (fun a6 hq => ?_)
      replace h := hq
      refine v_if_eq (pc := 46) cx dX0_takesWords_46 (tgt := 63) rfl (fun c7 => ?_) (fun c7 => ?_)
      · replace h := h.1 c7
        refine v_iconst (pc := 63) cx dX0_takesWords_63 ic_0 ?_
        exact v_zret cx rfl (Or.inl rfl) dX0_takesWords_64 ⟨Nat.le_of_ble_eq_true rfl, Nat.le_of_ble_eq_true rfl⟩ ⟨h, sh⟩
      · replace h := h.2 c7
        refine v_lload_n (pc := 49) cx dX0_takesWords_49 rfl 2 rfl ?_
        refine v_aload_n (pc := 50) cx dX0_takesWords_50 rfl 0 rfl ?_
        refine gq299_X0 (pc := 51) cx dX0_takesWords_51 (sh.k k_0) (v_some (sh.r r_0_24) ?_)
        refine v_iload (pc := 54) cx dX0_takesWords_54 3 rfl ?_
        obtain ⟨b8, h⟩ := h
        refine v_iald (pc := 56) cx dX0_takesWords_56 (sh.k k_184) (sh.l k_184 l_184) b8 ?_
        refine v_runp_i (pc := 57) cx (kcq722_X0 cx (c_X0_has l D cA sz0 H0 M4 x2 ((wI M4 184 x4.toNatClampNeg))  _ h) ⟨Nat.le_of_ble_eq_true rfl, Nat.le_of_ble_eq_true rfl⟩ (As := [.long x2, .int (wI M4 184 x4.toNatClampNeg)]) rfl rfl (Nat.le_of_ble_eq_true rfl) dX0_takesWords_57 ⟨Nat.le_of_ble_eq_true rfl, Nat.le_of_ble_eq_true rfl⟩) (fun a9 hq => ?_)
        replace h := hq
        refine v_if_eq (pc := 60) cx dX0_takesWords_60 (tgt := 65) rfl (fun c10 => ?_) (fun c10 => ?_)
        · replace h := h.1 c10
          refine v_lload_n (pc := 65) cx dX0_takesWords_65 rfl 2 rfl ?_
          refine v_lconst (pc := 66) cx dX0_takesWords_66 lc_1 ?_
          refine v_aload_n (pc := 67) cx dX0_takesWords_67 rfl 0 rfl ?_
          refine gq299_X0 (pc := 68) cx dX0_takesWords_68 (sh.k k_0) (v_some (sh.r r_0_24) ?_)
          refine v_iload (pc := 71) cx dX0_takesWords_71 3 rfl ?_
          obtain ⟨b11, h⟩ := h
          refine v_iald (pc := 73) cx dX0_takesWords_73 (sh.k k_184) (sh.l k_184 l_184) b11 ?_
          refine v_lshl (pc := 74) cx dX0_takesWords_74 ?_
          refine v_lor (pc := 75) cx dX0_takesWords_75 ?_
          refine v_topl (fun z12 ez12 => ?_)
          replace h := h z12 ez12
          refine v_lstore_n (pc := 76) cx dX0_takesWords_76 rfl (Nat.le_of_ble_eq_true rfl) (lv' := [(2, .long z12), (0, .ref (sz0 + 0)), (1, .int x1), (4, .int x4)]) rfl ?_
          refine nm_x (x4 + (1 : Int32)) (fun z13 ez13 => ?_)
          replace h := h z13 ez13
          refine v_iinc (pc := 77) cx dX0_takesWords_77 (q := 3) rfl ((ii_1 _).trans ez13.symm) (Nat.le_of_ble_eq_true rfl) (lv' := [(4, .int z13), (2, .long z12), (0, .ref (sz0 + 0)), (1, .int x1)]) rfl ?_
          refine v_goto (pc := 80) cx dX0_takesWords_80 (tgt := 15) rfl ?_
          refine v_sub (lv' := [(0, .ref (sz0 + 0)), (1, .int x1), (2, .long z12), (4, .int z13)]) [2, 3, 1, 0] rfl ?_
          exact ih z12 z13 M4 sh h
        · replace h := h.2 c10
          refine v_iconst (pc := 63) cx dX0_takesWords_63 ic_0 ?_
          exact v_zret cx rfl (Or.inl rfl) dX0_takesWords_64 ⟨Nat.le_of_ble_eq_true rfl, Nat.le_of_ble_eq_true rfl⟩ ⟨h, sh⟩
def m_X0_takesWords (x1 : Int32) (M : WM)  (Q : Int32 → WM → Prop) : Prop := (∀ M1 : WM, M1 = wPI M 0 5 ((0 : Int32)) → (∀ M2 : WM, M2 = wPI M1 0 25 x1 → (∃ n0, m_X0_takesWords_l15 x1 Q n0 ((0 : Int64)) ((0 : Int32)) M2)))
theorem c_X0_takesWords (l : Launch) (D : va_G) (cA : Nat → ClassId) (sz0 : Nat) (H0 : Heap) (M : WM) (x1 : Int32)   (Q : Int32 → WM → Prop) (sh : Shp M) (h : m_X0_takesWords x1 M  Q) : Met l yX0_takesWords (ws_ yX0_takesWords cX0_takesWords 5 (some .boolean)) ({ frames := 2, cells := 0, slots := 0, locals := 42 } : Room) (PcW D cA sz0 H0 [.ref (sz0 + 0), .int x1] M) (QW_i D cA sz0 H0 (fun r M' => Q r M' ∧ Shp M')) 0 0 (Aw sz0) := by
  replace h : (∀ M1 : WM, M1 = wPI M 0 5 ((0 : Int32)) → (∀ M2 : WM, M2 = wPI M1 0 25 x1 → (∃ n0, m_X0_takesWords_l15 x1 Q n0 ((0 : Int64)) ((0 : Int32)) M2))) := h
  refine Met.ofV (by decide +kernel) (Nat.le_of_ble_eq_true rfl) ?_
  intro p e s m args below meth c cx hnm
  replace cx : Cx p s m args meth c cX0_takesWords 5 RX0 (some .boolean) D cA sz0 H0 := cx
  refine v_sub (lv' := [(0, .ref (sz0 + 0)), (1, .int x1)]) [0, 1] rfl ?_
  refine v_aload_n (pc := 0) cx dX0_takesWords_0 rfl 0 rfl ?_
  refine v_iconst (pc := 1) cx dX0_takesWords_1 ic_0 ?_
  refine pq280_X0 (pc := 2) cx dX0_takesWords_2 (sh.k k_0) ?_
  refine v_wld (fun M1 eM1 => ?_)
  replace h := h M1 eM1
  replace sh : Shp M1 := Shp_PI sh eM1
  refine v_aload_n (pc := 5) cx dX0_takesWords_5 rfl 0 rfl ?_
  refine v_iload_n (pc := 6) cx dX0_takesWords_6 rfl 1 rfl ?_
  refine pq300_X0 (pc := 7) cx dX0_takesWords_7 (sh.k k_0) ?_
  refine v_wld (fun M2 eM2 => ?_)
  replace h := h M2 eM2
  replace sh : Shp M2 := Shp_PI sh eM2
  refine v_lconst (pc := 10) cx dX0_takesWords_10 lc_0 ?_
  refine v_lstore_n (pc := 11) cx dX0_takesWords_11 rfl (Nat.le_of_ble_eq_true rfl) (lv' := [(2, .long (0 : Int64)), (0, .ref (sz0 + 0)), (1, .int x1)]) rfl ?_
  refine v_iconst (pc := 12) cx dX0_takesWords_12 ic_0 ?_
  refine v_istore (pc := 13) cx dX0_takesWords_13 (Nat.le_of_ble_eq_true rfl) (lv' := [(4, .int (0 : Int32)), (2, .long (0 : Int64)), (0, .ref (sz0 + 0)), (1, .int x1)]) rfl ?_
  refine v_sub (lv' := [(0, .ref (sz0 + 0)), (1, .int x1), (2, .long (0 : Int64)), (4, .int (0 : Int32))]) [2, 3, 1, 0] rfl ?_
  obtain ⟨n0, h⟩ := h
  exact w_X0_takesWords_l15 cx n0 ((0 : Int64)) ((0 : Int32)) M2 sh h
/-! LetterHeaps.farOf(LLetterHeaps$Line;LLetterHeaps$Line;)I -/
def m_X0_farOf_j85  (K2 : Int32 → WM → Prop) (K13 : Int32 → WM → Prop) (x1 : Nat) (x2 : Nat) (x3 : Int32) (x4 : Int32) (y0 : Int32) (y1 : Int32)   (Q : Int32 → WM → Prop) (M : WM) : Prop := (∀ z1 : Int32, z1 = (y1 + y0) → (vp_in x3 13 ∧ (vp_in ((x3 - (1 : Int32))) 13 ∧ (vp_in x4 9 ∧ (vp_in x3 13 ∧ (vp_in ((x4 - (1 : Int32))) 9 ∧ (vp_in x4 9 ∧ (∀ z8 : Int32, z8 = (if ((1 : Int32) + (if (wI M ((5308 + x3.toNatClampNeg)) ((x4 - (1 : Int32))).toNatClampNeg) < (wI M ((5308 + ((x3 - (1 : Int32))).toNatClampNeg)) x4.toNatClampNeg) then (wI M ((5308 + x3.toNatClampNeg)) ((x4 - (1 : Int32))).toNatClampNeg) else (wI M ((5308 + ((x3 - (1 : Int32))).toNatClampNeg)) x4.toNatClampNeg))) < z1 then ((1 : Int32) + (if (wI M ((5308 + x3.toNatClampNeg)) ((x4 - (1 : Int32))).toNatClampNeg) < (wI M ((5308 + ((x3 - (1 : Int32))).toNatClampNeg)) x4.toNatClampNeg) then (wI M ((5308 + x3.toNatClampNeg)) ((x4 - (1 : Int32))).toNatClampNeg) else (wI M ((5308 + ((x3 - (1 : Int32))).toNatClampNeg)) x4.toNatClampNeg))) else z1) → (∀ M9 : WM, M9 = wPI M ((5308 + x3.toNatClampNeg)) x4.toNatClampNeg z8 → (∀ z10 : Int32, z10 = x4 + (1 : Int32) → K13 z10 M9))))))))))
theorem w_X0_farOf_j85 {p : Program} {l : Launch} {e : Env} {s : State} {m : MethodId} {args : Array Value} {below : List Frame} {meth : Method} {c : Code} {D : va_G} {cA : Nat → ClassId} {sz0 : Nat} {H0 : Heap}  {K2 : Int32 → WM → Prop} {K13 : Int32 → WM → Prop} {x1 : Nat} {x2 : Nat} {x3 : Int32} {x4 : Int32} {y0 : Int32} {y1 : Int32} {Q : Int32 → WM → Prop}  (cx : Cx p s m args meth c cX0_farOf 6 RX0 (some .int) D cA sz0 H0)  (hK2 : ∀ (x3 : Int32)  (M : WM) (sh : Shp M), K2 x3 M → V p l e ({ frames := 1, cells := 0, slots := 0, locals := 21 } : Room) s m args below meth c 6 D cA sz0 H0 0 0 (MQ below (QW_i D cA sz0 H0 (fun r M' => Q r M' ∧ Shp M')) args s 0 0 (Aw sz0)) 2 [(0, .ref (sz0 + 0)), (1, .ref (sz0 + x1)), (2, .ref (sz0 + x2)), (3, .int x3)] [] M) (hK13 : ∀ (x4 : Int32)  (M : WM) (sh : Shp M), K13 x4 M → V p l e ({ frames := 1, cells := 0, slots := 0, locals := 21 } : Room) s m args below meth c 6 D cA sz0 H0 0 0 (MQ below (QW_i D cA sz0 H0 (fun r M' => Q r M' ∧ Shp M')) args s 0 0 (Aw sz0)) 13 [(0, .ref (sz0 + 0)), (1, .ref (sz0 + x1)), (2, .ref (sz0 + x2)), (3, .int x3), (4, .int x4)] [] M) (hx1 : isLn x1) (hx2 : isLn x2)    (M : WM) (sh : Shp M) (h : m_X0_farOf_j85 K2 K13 x1 x2 x3 x4 y0 y1 Q M) : V p l e ({ frames := 1, cells := 0, slots := 0, locals := 21 } : Room) s m args below meth c 6 D cA sz0 H0 0 0 (MQ below (QW_i D cA sz0 H0 (fun r M' => Q r M' ∧ Shp M')) args s 0 0 (Aw sz0)) 85 [(0, .ref (sz0 + 0)), (1, .ref (sz0 + x1)), (2, .ref (sz0 + x2)), (3, .int x3), (4, .int x4)] [.int y0, .int y1] M := by
  replace h : (∀ z1 : Int32, z1 = (y1 + y0) → (vp_in x3 13 ∧ (vp_in ((x3 - (1 : Int32))) 13 ∧ (vp_in x4 9 ∧ (vp_in x3 13 ∧ (vp_in ((x4 - (1 : Int32))) 9 ∧ (vp_in x4 9 ∧ (∀ z8 : Int32, z8 = (if ((1 : Int32) + (if (wI M ((5308 + x3.toNatClampNeg)) ((x4 - (1 : Int32))).toNatClampNeg) < (wI M ((5308 + ((x3 - (1 : Int32))).toNatClampNeg)) x4.toNatClampNeg) then (wI M ((5308 + x3.toNatClampNeg)) ((x4 - (1 : Int32))).toNatClampNeg) else (wI M ((5308 + ((x3 - (1 : Int32))).toNatClampNeg)) x4.toNatClampNeg))) < z1 then ((1 : Int32) + (if (wI M ((5308 + x3.toNatClampNeg)) ((x4 - (1 : Int32))).toNatClampNeg) < (wI M ((5308 + ((x3 - (1 : Int32))).toNatClampNeg)) x4.toNatClampNeg) then (wI M ((5308 + x3.toNatClampNeg)) ((x4 - (1 : Int32))).toNatClampNeg) else (wI M ((5308 + ((x3 - (1 : Int32))).toNatClampNeg)) x4.toNatClampNeg))) else z1) → (∀ M9 : WM, M9 = wPI M ((5308 + x3.toNatClampNeg)) x4.toNatClampNeg z8 → (∀ z10 : Int32, z10 = x4 + (1 : Int32) → K13 z10 M9)))))))))) := h
  refine v_iadd (pc := 85) cx dX0_farOf_85 ?_
  refine v_topi (fun z1 ez1 => ?_)
  replace h := h z1 ez1
  refine v_istore (pc := 86) cx dX0_farOf_86 (Nat.le_of_ble_eq_true rfl) (lv' := [(5, .int z1), (0, .ref (sz0 + 0)), (1, .ref (sz0 + x1)), (2, .ref (sz0 + x2)), (3, .int x3), (4, .int x4)]) rfl ?_
  refine v_aload_n (pc := 88) cx dX0_farOf_88 rfl 1 rfl ?_
  refine gq303_X0 (pc := 89) cx dX0_farOf_89 (sh.k k_0) (v_some (sh.r r_0_28) ?_)
  refine v_iload_n (pc := 92) cx dX0_farOf_92 rfl 4 rfl ?_
  obtain ⟨b2, h⟩ := h
  refine v_aald104 (pc := 93) cx dX0_farOf_93 (sh.k k_5307) (sh.l k_5307 l_5307) b2 (v_some (sh.r (f_5307 (lt_in b2))) ?_)
  refine v_iload (pc := 94) cx dX0_farOf_94 5 rfl ?_
  refine v_iload (pc := 96) cx dX0_farOf_96 0 rfl ?_
  refine v_iconst (pc := 98) cx dX0_farOf_98 ic_1 ?_
  refine v_aload_n (pc := 99) cx dX0_farOf_99 rfl 1 rfl ?_
  refine gq303_X0 (pc := 100) cx dX0_farOf_100 (sh.k k_0) (v_some (sh.r r_0_28) ?_)
  refine v_iload_n (pc := 103) cx dX0_farOf_103 rfl 4 rfl ?_
  refine v_iconst (pc := 104) cx dX0_farOf_104 ic_1 ?_
  refine v_isub (pc := 105) cx dX0_farOf_105 ?_
  obtain ⟨b3, h⟩ := h
  refine v_aald104 (pc := 106) cx dX0_farOf_106 (sh.k k_5307) (sh.l k_5307 l_5307) b3 (v_some (sh.r (f_5307 (lt_in b3))) ?_)
  refine v_iload (pc := 107) cx dX0_farOf_107 5 rfl ?_
  obtain ⟨b4, h⟩ := h
  refine v_iald (pc := 109) cx dX0_farOf_109 (sh.k (fk_5307 (lt_in b3))) (sh.l (fk_5307 (lt_in b3)) (fl_5307 (lt_in b3))) b4 ?_
  refine v_aload_n (pc := 110) cx dX0_farOf_110 rfl 1 rfl ?_
  refine gq303_X0 (pc := 111) cx dX0_farOf_111 (sh.k k_0) (v_some (sh.r r_0_28) ?_)
  refine v_iload_n (pc := 114) cx dX0_farOf_114 rfl 4 rfl ?_
  obtain ⟨b5, h⟩ := h
  refine v_aald104 (pc := 115) cx dX0_farOf_115 (sh.k k_5307) (sh.l k_5307 l_5307) b5 (v_some (sh.r (f_5307 (lt_in b5))) ?_)
  refine v_iload (pc := 116) cx dX0_farOf_116 5 rfl ?_
  refine v_iconst (pc := 118) cx dX0_farOf_118 ic_1 ?_
  refine v_isub (pc := 119) cx dX0_farOf_119 ?_
  obtain ⟨b6, h⟩ := h
  refine v_iald (pc := 120) cx dX0_farOf_120 (sh.k (fk_5307 (lt_in b5))) (sh.l (fk_5307 (lt_in b5)) (fl_5307 (lt_in b5))) b6 ?_
  refine v_mmin (pc := 121) cx q807 q564 q134 q565 dX0_farOf_121 ⟨Nat.le_of_ble_eq_true rfl, Nat.le_of_ble_eq_true rfl, Nat.le_of_ble_eq_true rfl, Nat.le_of_ble_eq_true rfl⟩ ?_
  refine v_iadd (pc := 124) cx dX0_farOf_124 ?_
  refine v_mmin (pc := 125) cx q807 q564 q134 q565 dX0_farOf_125 ⟨Nat.le_of_ble_eq_true rfl, Nat.le_of_ble_eq_true rfl, Nat.le_of_ble_eq_true rfl, Nat.le_of_ble_eq_true rfl⟩ ?_
  obtain ⟨b7, h⟩ := h
  refine v_topi (fun z8 ez8 => ?_)
  replace h := h z8 ez8
  refine v_iast (pc := 128) cx dX0_farOf_128 (sh.k (fk_5307 (lt_in b2))) (sh.l (fk_5307 (lt_in b2)) (fl_5307 (lt_in b2))) b7 ?_
  refine v_wld (fun M9 eM9 => ?_)
  replace h := h M9 eM9
  replace sh : Shp M9 := Shp_PI sh eM9
  refine nm_x (x4 + (1 : Int32)) (fun z10 ez10 => ?_)
  replace h := h z10 ez10
  refine v_iinc (pc := 129) cx dX0_farOf_129 (q := 5) rfl ((ii_1 _).trans ez10.symm) (Nat.le_of_ble_eq_true rfl) (lv' := [(4, .int z10), (5, .int z1), (0, .ref (sz0 + 0)), (1, .ref (sz0 + x1)), (2, .ref (sz0 + x2)), (3, .int x3)]) rfl ?_
  refine v_goto (pc := 132) cx dX0_farOf_132 (tgt := 13) rfl ?_
  refine v_sub (lv' := [(0, .ref (sz0 + 0)), (1, .ref (sz0 + x1)), (2, .ref (sz0 + x2)), (3, .int x3), (4, .int z10)]) [2, 3, 4, 5, 0] rfl ?_
  exact hK13 z10 M9 sh h
def m_X0_farOf_j31  (K2 : Int32 → WM → Prop) (K13 : Int32 → WM → Prop) (x1 : Nat) (x2 : Nat) (x3 : Int32) (x4 : Int32)   (Q : Int32 → WM → Prop) (M : WM) : Prop := (vp_in x3 13 ∧ (vp_in x4 9 ∧ (∀ M3 : WM, M3 = wPI M ((5308 + x3.toNatClampNeg)) x4.toNatClampNeg ((x3 + x4)) → (∀ z4 : Int32, z4 = x4 + (1 : Int32) → K13 z4 M3))))
theorem w_X0_farOf_j31 {p : Program} {l : Launch} {e : Env} {s : State} {m : MethodId} {args : Array Value} {below : List Frame} {meth : Method} {c : Code} {D : va_G} {cA : Nat → ClassId} {sz0 : Nat} {H0 : Heap}  {K2 : Int32 → WM → Prop} {K13 : Int32 → WM → Prop} {x1 : Nat} {x2 : Nat} {x3 : Int32} {x4 : Int32} {Q : Int32 → WM → Prop}  (cx : Cx p s m args meth c cX0_farOf 6 RX0 (some .int) D cA sz0 H0)  (hK2 : ∀ (x3 : Int32)  (M : WM) (sh : Shp M), K2 x3 M → V p l e ({ frames := 1, cells := 0, slots := 0, locals := 21 } : Room) s m args below meth c 6 D cA sz0 H0 0 0 (MQ below (QW_i D cA sz0 H0 (fun r M' => Q r M' ∧ Shp M')) args s 0 0 (Aw sz0)) 2 [(0, .ref (sz0 + 0)), (1, .ref (sz0 + x1)), (2, .ref (sz0 + x2)), (3, .int x3)] [] M) (hK13 : ∀ (x4 : Int32)  (M : WM) (sh : Shp M), K13 x4 M → V p l e ({ frames := 1, cells := 0, slots := 0, locals := 21 } : Room) s m args below meth c 6 D cA sz0 H0 0 0 (MQ below (QW_i D cA sz0 H0 (fun r M' => Q r M' ∧ Shp M')) args s 0 0 (Aw sz0)) 13 [(0, .ref (sz0 + 0)), (1, .ref (sz0 + x1)), (2, .ref (sz0 + x2)), (3, .int x3), (4, .int x4)] [] M) (hx1 : isLn x1) (hx2 : isLn x2)    (M : WM) (sh : Shp M) (h : m_X0_farOf_j31 K2 K13 x1 x2 x3 x4 Q M) : V p l e ({ frames := 1, cells := 0, slots := 0, locals := 21 } : Room) s m args below meth c 6 D cA sz0 H0 0 0 (MQ below (QW_i D cA sz0 H0 (fun r M' => Q r M' ∧ Shp M')) args s 0 0 (Aw sz0)) 31 [(0, .ref (sz0 + 0)), (1, .ref (sz0 + x1)), (2, .ref (sz0 + x2)), (3, .int x3), (4, .int x4)] [] M := by
  replace h : (vp_in x3 13 ∧ (vp_in x4 9 ∧ (∀ M3 : WM, M3 = wPI M ((5308 + x3.toNatClampNeg)) x4.toNatClampNeg ((x3 + x4)) → (∀ z4 : Int32, z4 = x4 + (1 : Int32) → K13 z4 M3)))) := h
  refine v_aload_n (pc := 31) cx dX0_farOf_31 rfl 0 rfl ?_
  refine gq303_X0 (pc := 32) cx dX0_farOf_32 (sh.k k_0) (v_some (sh.r r_0_28) ?_)
  refine v_iload_n (pc := 35) cx dX0_farOf_35 rfl 3 rfl ?_
  obtain ⟨b1, h⟩ := h
  refine v_aald104 (pc := 36) cx dX0_farOf_36 (sh.k k_5307) (sh.l k_5307 l_5307) b1 (v_some (sh.r (f_5307 (lt_in b1))) ?_)
  refine v_iload (pc := 37) cx dX0_farOf_37 4 rfl ?_
  refine v_iload_n (pc := 39) cx dX0_farOf_39 rfl 3 rfl ?_
  refine v_iload (pc := 40) cx dX0_farOf_40 4 rfl ?_
  refine v_iadd (pc := 42) cx dX0_farOf_42 ?_
  obtain ⟨b2, h⟩ := h
  refine v_iast (pc := 43) cx dX0_farOf_43 (sh.k (fk_5307 (lt_in b1))) (sh.l (fk_5307 (lt_in b1)) (fl_5307 (lt_in b1))) b2 ?_
  refine v_wld (fun M3 eM3 => ?_)
  replace h := h M3 eM3
  replace sh : Shp M3 := Shp_PI sh eM3
  refine v_goto (pc := 44) cx dX0_farOf_44 (tgt := 129) rfl ?_
  refine nm_x (x4 + (1 : Int32)) (fun z4 ez4 => ?_)
  replace h := h z4 ez4
  refine v_iinc (pc := 129) cx dX0_farOf_129 (q := 4) rfl ((ii_1 _).trans ez4.symm) (Nat.le_of_ble_eq_true rfl) (lv' := [(4, .int z4), (0, .ref (sz0 + 0)), (1, .ref (sz0 + x1)), (2, .ref (sz0 + x2)), (3, .int x3)]) rfl ?_
  refine v_goto (pc := 132) cx dX0_farOf_132 (tgt := 13) rfl ?_
  refine v_sub (lv' := [(0, .ref (sz0 + 0)), (1, .ref (sz0 + x1)), (2, .ref (sz0 + x2)), (3, .int x3), (4, .int z4)]) [1, 2, 3, 4, 0] rfl ?_
  exact hK13 z4 M3 sh h
def m_X0_farOf_l13  (K2 : Int32 → WM → Prop) (x1 : Nat) (x2 : Nat) (x3 : Int32)   (Q : Int32 → WM → Prop) : Nat → Int32 → WM → Prop
  | 0, _, _ => False
  | n + 1, x4, M => (((wI M x2 1) < x4 → (∀ z2 : Int32, z2 = x3 + (1 : Int32) → K2 z2 M)) ∧ (¬ (wI M x2 1) < x4 → ((x3 = 0 → m_X0_farOf_j31 K2 (fun x4' M' => m_X0_farOf_l13 K2 x1 x2 x3 Q n x4' M') x1 x2 x3 x4 Q M) ∧ (¬ x3 = 0 → ((x4 = 0 → m_X0_farOf_j31 K2 (fun x4' M' => m_X0_farOf_l13 K2 x1 x2 x3 Q n x4' M') x1 x2 x3 x4 Q M) ∧ (¬ x4 = 0 → (vp_in ((x3 - (1 : Int32))) 13 ∧ (vp_in ((x4 - (1 : Int32))) 9 ∧ (vp_in ((x3 - (1 : Int32))) 13 ∧ (vp_in ((x4 - (1 : Int32))) 13 ∧ (((wI M ((x1 + 1)) ((x3 - (1 : Int32))).toNatClampNeg) = (wI M ((x2 + 1)) ((x4 - (1 : Int32))).toNatClampNeg) → m_X0_farOf_j85 K2 (fun x4' M' => m_X0_farOf_l13 K2 x1 x2 x3 Q n x4' M') x1 x2 x3 x4 ((0 : Int32)) ((wI M ((5308 + ((x3 - (1 : Int32))).toNatClampNeg)) ((x4 - (1 : Int32))).toNatClampNeg)) Q M) ∧ (¬ (wI M ((x1 + 1)) ((x3 - (1 : Int32))).toNatClampNeg) = (wI M ((x2 + 1)) ((x4 - (1 : Int32))).toNatClampNeg) → m_X0_farOf_j85 K2 (fun x4' M' => m_X0_farOf_l13 K2 x1 x2 x3 Q n x4' M') x1 x2 x3 x4 ((1 : Int32)) ((wI M ((5308 + ((x3 - (1 : Int32))).toNatClampNeg)) ((x4 - (1 : Int32))).toNatClampNeg)) Q M))))))))))))
theorem w_X0_farOf_l13 {p : Program} {l : Launch} {e : Env} {s : State} {m : MethodId} {args : Array Value} {below : List Frame} {meth : Method} {c : Code} {D : va_G} {cA : Nat → ClassId} {sz0 : Nat} {H0 : Heap}  {K2 : Int32 → WM → Prop} {x1 : Nat} {x2 : Nat} {x3 : Int32} {Q : Int32 → WM → Prop}  (cx : Cx p s m args meth c cX0_farOf 6 RX0 (some .int) D cA sz0 H0)  (hK2 : ∀ (x3 : Int32)  (M : WM) (sh : Shp M), K2 x3 M → V p l e ({ frames := 1, cells := 0, slots := 0, locals := 21 } : Room) s m args below meth c 6 D cA sz0 H0 0 0 (MQ below (QW_i D cA sz0 H0 (fun r M' => Q r M' ∧ Shp M')) args s 0 0 (Aw sz0)) 2 [(0, .ref (sz0 + 0)), (1, .ref (sz0 + x1)), (2, .ref (sz0 + x2)), (3, .int x3)] [] M) (hx1 : isLn x1) (hx2 : isLn x2)  : ∀ (n : Nat) (x4 : Int32)  (M : WM) (sh : Shp M), m_X0_farOf_l13 K2 x1 x2 x3 Q n x4 M → V p l e ({ frames := 1, cells := 0, slots := 0, locals := 21 } : Room) s m args below meth c 6 D cA sz0 H0 0 0 (MQ below (QW_i D cA sz0 H0 (fun r M' => Q r M' ∧ Shp M')) args s 0 0 (Aw sz0)) 13 [(0, .ref (sz0 + 0)), (1, .ref (sz0 + x1)), (2, .ref (sz0 + x2)), (3, .int x3), (4, .int x4)] [] M := by
  intro n
  induction n with
  | zero => intro x4 M sh h; exact h.elim
  | succ n ih =>
    intro x4 M sh h
    replace h : (((wI M x2 1) < x4 → (∀ z2 : Int32, z2 = x3 + (1 : Int32) → K2 z2 M)) ∧ (¬ (wI M x2 1) < x4 → ((x3 = 0 → m_X0_farOf_j31 K2 (fun x4' M' => m_X0_farOf_l13 K2 x1 x2 x3 Q n x4' M') x1 x2 x3 x4 Q M) ∧ (¬ x3 = 0 → ((x4 = 0 → m_X0_farOf_j31 K2 (fun x4' M' => m_X0_farOf_l13 K2 x1 x2 x3 Q n x4' M') x1 x2 x3 x4 Q M) ∧ (¬ x4 = 0 → (vp_in ((x3 - (1 : Int32))) 13 ∧ (vp_in ((x4 - (1 : Int32))) 9 ∧ (vp_in ((x3 - (1 : Int32))) 13 ∧ (vp_in ((x4 - (1 : Int32))) 13 ∧ (((wI M ((x1 + 1)) ((x3 - (1 : Int32))).toNatClampNeg) = (wI M ((x2 + 1)) ((x4 - (1 : Int32))).toNatClampNeg) → m_X0_farOf_j85 K2 (fun x4' M' => m_X0_farOf_l13 K2 x1 x2 x3 Q n x4' M') x1 x2 x3 x4 ((0 : Int32)) ((wI M ((5308 + ((x3 - (1 : Int32))).toNatClampNeg)) ((x4 - (1 : Int32))).toNatClampNeg)) Q M) ∧ (¬ (wI M ((x1 + 1)) ((x3 - (1 : Int32))).toNatClampNeg) = (wI M ((x2 + 1)) ((x4 - (1 : Int32))).toNatClampNeg) → m_X0_farOf_j85 K2 (fun x4' M' => m_X0_farOf_l13 K2 x1 x2 x3 Q n x4' M') x1 x2 x3 x4 ((1 : Int32)) ((wI M ((5308 + ((x3 - (1 : Int32))).toNatClampNeg)) ((x4 - (1 : Int32))).toNatClampNeg)) Q M)))))))))))) := h
    refine v_iload (pc := 13) cx dX0_farOf_13 4 rfl ?_
    refine v_aload_n (pc := 15) cx dX0_farOf_15 rfl 2 rfl ?_
    refine gq196_X2 (pc := 16) cx dX0_farOf_16 (sh.k (hx2).1) ?_
    refine v_icmp_gt (pc := 19) cx dX0_farOf_19 (tgt := 135) rfl (fun c1 => ?_) (fun c1 => ?_)
    · replace h := h.1 c1
      refine nm_x (x3 + (1 : Int32)) (fun z2 ez2 => ?_)
      replace h := h z2 ez2
      refine v_iinc (pc := 135) cx dX0_farOf_135 (q := 3) rfl ((ii_1 _).trans ez2.symm) (Nat.le_of_ble_eq_true rfl) (lv' := [(3, .int z2), (0, .ref (sz0 + 0)), (1, .ref (sz0 + x1)), (2, .ref (sz0 + x2)), (4, .int x4)]) rfl ?_
      refine v_goto (pc := 138) cx dX0_farOf_138 (tgt := 2) rfl ?_
      refine v_sub (lv' := [(0, .ref (sz0 + 0)), (1, .ref (sz0 + x1)), (2, .ref (sz0 + x2)), (3, .int z2)]) [1, 2, 3, 0] rfl ?_
      exact hK2 z2 M sh h
    · replace h := h.2 c1
      refine v_iload_n (pc := 22) cx dX0_farOf_22 rfl 3 rfl ?_
      refine v_if_eq (pc := 23) cx dX0_farOf_23 (tgt := 31) rfl (fun c3 => ?_) (fun c3 => ?_)
      · replace h := h.1 c3
        refine v_sub (lv' := [(0, .ref (sz0 + 0)), (1, .ref (sz0 + x1)), (2, .ref (sz0 + x2)), (3, .int x3), (4, .int x4)]) [0, 1, 2, 3, 4] rfl ?_
        exact w_X0_farOf_j31 cx hK2 ih hx1 hx2 M sh h
      · replace h := h.2 c3
        refine v_iload (pc := 26) cx dX0_farOf_26 4 rfl ?_
        refine v_if_ne (pc := 28) cx dX0_farOf_28 (tgt := 47) rfl (fun c4 => ?_) (fun c4 => ?_)
        · replace h := h.2 c4
          refine v_aload_n (pc := 47) cx dX0_farOf_47 rfl 0 rfl ?_
          refine gq303_X0 (pc := 48) cx dX0_farOf_48 (sh.k k_0) (v_some (sh.r r_0_28) ?_)
          refine v_iload_n (pc := 51) cx dX0_farOf_51 rfl 3 rfl ?_
          refine v_iconst (pc := 52) cx dX0_farOf_52 ic_1 ?_
          refine v_isub (pc := 53) cx dX0_farOf_53 ?_
          obtain ⟨b5, h⟩ := h
          refine v_aald104 (pc := 54) cx dX0_farOf_54 (sh.k k_5307) (sh.l k_5307 l_5307) b5 (v_some (sh.r (f_5307 (lt_in b5))) ?_)
          refine v_iload (pc := 55) cx dX0_farOf_55 4 rfl ?_
          refine v_iconst (pc := 57) cx dX0_farOf_57 ic_1 ?_
          refine v_isub (pc := 58) cx dX0_farOf_58 ?_
          obtain ⟨b6, h⟩ := h
          refine v_iald (pc := 59) cx dX0_farOf_59 (sh.k (fk_5307 (lt_in b5))) (sh.l (fk_5307 (lt_in b5)) (fl_5307 (lt_in b5))) b6 ?_
          refine v_aload_n (pc := 60) cx dX0_farOf_60 rfl 1 rfl ?_
          refine gq193_X2 (pc := 61) cx dX0_farOf_61 (sh.k (hx1).1) (v_some (sh.r (hx1).2.2.2) ?_)
          refine v_iload_n (pc := 64) cx dX0_farOf_64 rfl 3 rfl ?_
          refine v_iconst (pc := 65) cx dX0_farOf_65 ic_1 ?_
          refine v_isub (pc := 66) cx dX0_farOf_66 ?_
          obtain ⟨b7, h⟩ := h
          refine v_iald (pc := 67) cx dX0_farOf_67 (sh.k (hx1).2.1) (sh.l (hx1).2.1 (hx1).2.2.1) b7 ?_
          refine v_aload_n (pc := 68) cx dX0_farOf_68 rfl 2 rfl ?_
          refine gq193_X2 (pc := 69) cx dX0_farOf_69 (sh.k (hx2).1) (v_some (sh.r (hx2).2.2.2) ?_)
          refine v_iload (pc := 72) cx dX0_farOf_72 4 rfl ?_
          refine v_iconst (pc := 74) cx dX0_farOf_74 ic_1 ?_
          refine v_isub (pc := 75) cx dX0_farOf_75 ?_
          obtain ⟨b8, h⟩ := h
          refine v_iald (pc := 76) cx dX0_farOf_76 (sh.k (hx2).2.1) (sh.l (hx2).2.1 (hx2).2.2.1) b8 ?_
          refine v_icmp_ne (pc := 77) cx dX0_farOf_77 (tgt := 84) rfl (fun c9 => ?_) (fun c9 => ?_)
          · replace h := h.2 c9
            refine v_iconst (pc := 84) cx dX0_farOf_84 ic_1 ?_
            refine v_sub (lv' := [(0, .ref (sz0 + 0)), (1, .ref (sz0 + x1)), (2, .ref (sz0 + x2)), (3, .int x3), (4, .int x4)]) [0, 1, 2, 3, 4] rfl ?_
            exact w_X0_farOf_j85 cx hK2 ih hx1 hx2 M sh h
          · replace h := h.1 c9
            refine v_iconst (pc := 80) cx dX0_farOf_80 ic_0 ?_
            refine v_goto (pc := 81) cx dX0_farOf_81 (tgt := 85) rfl ?_
            refine v_sub (lv' := [(0, .ref (sz0 + 0)), (1, .ref (sz0 + x1)), (2, .ref (sz0 + x2)), (3, .int x3), (4, .int x4)]) [0, 1, 2, 3, 4] rfl ?_
            exact w_X0_farOf_j85 cx hK2 ih hx1 hx2 M sh h
        · replace h := h.1 c4
          refine v_sub (lv' := [(0, .ref (sz0 + 0)), (1, .ref (sz0 + x1)), (2, .ref (sz0 + x2)), (3, .int x3), (4, .int x4)]) [0, 1, 2, 3, 4] rfl ?_
          exact w_X0_farOf_j31 cx hK2 ih hx1 hx2 M sh h
def m_X0_farOf_l2   (x1 : Nat) (x2 : Nat)   (Q : Int32 → WM → Prop) : Nat → Int32 → WM → Prop
  | 0, _, _ => False
  | n + 1, x3, M => (((wI M x1 1) < x3 → (vp_in ((wI M x1 1)) 13 ∧ (vp_in ((wI M x2 1)) 9 ∧ Q ((wI M ((5308 + ((wI M x1 1)).toNatClampNeg)) ((wI M x2 1)).toNatClampNeg)) M))) ∧ (¬ (wI M x1 1) < x3 → (∃ n0, m_X0_farOf_l13 (fun x3' M' => m_X0_farOf_l2 x1 x2 Q n x3' M') x1 x2 x3 Q n0 ((0 : Int32)) M)))
theorem w_X0_farOf_l2 {p : Program} {l : Launch} {e : Env} {s : State} {m : MethodId} {args : Array Value} {below : List Frame} {meth : Method} {c : Code} {D : va_G} {cA : Nat → ClassId} {sz0 : Nat} {H0 : Heap}  {x1 : Nat} {x2 : Nat} {Q : Int32 → WM → Prop}  (cx : Cx p s m args meth c cX0_farOf 6 RX0 (some .int) D cA sz0 H0)   (hx1 : isLn x1) (hx2 : isLn x2)  : ∀ (n : Nat) (x3 : Int32)  (M : WM) (sh : Shp M), m_X0_farOf_l2 x1 x2 Q n x3 M → V p l e ({ frames := 1, cells := 0, slots := 0, locals := 21 } : Room) s m args below meth c 6 D cA sz0 H0 0 0 (MQ below (QW_i D cA sz0 H0 (fun r M' => Q r M' ∧ Shp M')) args s 0 0 (Aw sz0)) 2 [(0, .ref (sz0 + 0)), (1, .ref (sz0 + x1)), (2, .ref (sz0 + x2)), (3, .int x3)] [] M := by
  intro n
  induction n with
  | zero => intro x3 M sh h; exact h.elim
  | succ n ih =>
    intro x3 M sh h
    replace h : (((wI M x1 1) < x3 → (vp_in ((wI M x1 1)) 13 ∧ (vp_in ((wI M x2 1)) 9 ∧ Q ((wI M ((5308 + ((wI M x1 1)).toNatClampNeg)) ((wI M x2 1)).toNatClampNeg)) M))) ∧ (¬ (wI M x1 1) < x3 → (∃ n0, m_X0_farOf_l13 (fun x3' M' => m_X0_farOf_l2 x1 x2 Q n x3' M') x1 x2 x3 Q n0 ((0 : Int32)) M))) := h
    refine v_iload_n (pc := 2) cx dX0_farOf_2 rfl 3 rfl ?_
    refine v_aload_n (pc := 3) cx dX0_farOf_3 rfl 1 rfl ?_
    refine gq196_X2 (pc := 4) cx dX0_farOf_4 (sh.k (hx1).1) ?_
    refine v_icmp_gt (pc := 7) cx dX0_farOf_7 (tgt := 141) rfl (fun c1 => ?_) (fun c1 => ?_)
    · replace h := h.1 c1
      refine v_aload_n (pc := 141) cx dX0_farOf_141 rfl 0 rfl ?_
      refine gq303_X0 (pc := 142) cx dX0_farOf_142 (sh.k k_0) (v_some (sh.r r_0_28) ?_)
      refine v_aload_n (pc := 145) cx dX0_farOf_145 rfl 1 rfl ?_
      refine gq196_X2 (pc := 146) cx dX0_farOf_146 (sh.k (hx1).1) ?_
      obtain ⟨b2, h⟩ := h
      refine v_aald104 (pc := 149) cx dX0_farOf_149 (sh.k k_5307) (sh.l k_5307 l_5307) b2 (v_some (sh.r (f_5307 (lt_in b2))) ?_)
      refine v_aload_n (pc := 150) cx dX0_farOf_150 rfl 2 rfl ?_
      refine gq196_X2 (pc := 151) cx dX0_farOf_151 (sh.k (hx2).1) ?_
      obtain ⟨b3, h⟩ := h
      refine v_iald (pc := 154) cx dX0_farOf_154 (sh.k (fk_5307 (lt_in b2))) (sh.l (fk_5307 (lt_in b2)) (fl_5307 (lt_in b2))) b3 ?_
      exact v_iret cx rfl dX0_farOf_155 ⟨Nat.le_of_ble_eq_true rfl, Nat.le_of_ble_eq_true rfl⟩ ⟨h, sh⟩
    · replace h := h.2 c1
      refine v_iconst (pc := 10) cx dX0_farOf_10 ic_0 ?_
      refine v_istore (pc := 11) cx dX0_farOf_11 (Nat.le_of_ble_eq_true rfl) (lv' := [(4, .int (0 : Int32)), (0, .ref (sz0 + 0)), (1, .ref (sz0 + x1)), (2, .ref (sz0 + x2)), (3, .int x3)]) rfl ?_
      refine v_sub (lv' := [(0, .ref (sz0 + 0)), (1, .ref (sz0 + x1)), (2, .ref (sz0 + x2)), (3, .int x3), (4, .int (0 : Int32))]) [1, 2, 3, 4, 0] rfl ?_
      obtain ⟨n0, h⟩ := h
      exact w_X0_farOf_l13 cx ih hx1 hx2 n0 ((0 : Int32)) M sh h
def m_X0_farOf (x1 : Nat) (x2 : Nat) (M : WM)  (Q : Int32 → WM → Prop) : Prop := (∃ n0, m_X0_farOf_l2 x1 x2 Q n0 ((0 : Int32)) M)
theorem c_X0_farOf (l : Launch) (D : va_G) (cA : Nat → ClassId) (sz0 : Nat) (H0 : Heap) (M : WM) (x1 : Nat) (x2 : Nat) (hx1 : isLn x1) (hx2 : isLn x2)  (Q : Int32 → WM → Prop) (sh : Shp M) (h : m_X0_farOf x1 x2 M  Q) : Met l yX0_farOf (ws_ yX0_farOf cX0_farOf 6 (some .int)) ({ frames := 1, cells := 0, slots := 0, locals := 21 } : Room) (PcW D cA sz0 H0 [.ref (sz0 + 0), .ref (sz0 + x1), .ref (sz0 + x2)] M) (QW_i D cA sz0 H0 (fun r M' => Q r M' ∧ Shp M')) 0 0 (Aw sz0) := by
  replace h : (∃ n0, m_X0_farOf_l2 x1 x2 Q n0 ((0 : Int32)) M) := h
  refine Met.ofV (by decide +kernel) (Nat.le_of_ble_eq_true rfl) ?_
  intro p e s m args below meth c cx hnm
  replace cx : Cx p s m args meth c cX0_farOf 6 RX0 (some .int) D cA sz0 H0 := cx
  refine v_sub (lv' := [(0, .ref (sz0 + 0)), (1, .ref (sz0 + x1)), (2, .ref (sz0 + x2))]) [0, 1, 2] rfl ?_
  refine v_iconst (pc := 0) cx dX0_farOf_0 ic_0 ?_
  refine v_istore_n (pc := 1) cx dX0_farOf_1 rfl (Nat.le_of_ble_eq_true rfl) (lv' := [(3, .int (0 : Int32)), (0, .ref (sz0 + 0)), (1, .ref (sz0 + x1)), (2, .ref (sz0 + x2))]) rfl ?_
  refine v_sub (lv' := [(0, .ref (sz0 + 0)), (1, .ref (sz0 + x1)), (2, .ref (sz0 + x2)), (3, .int (0 : Int32))]) [1, 2, 3, 0] rfl ?_
  obtain ⟨n0, h⟩ := h
  exact w_X0_farOf_l2 cx hx1 hx2 n0 ((0 : Int32)) M sh h
/-! java/lang/Integer.bitCount(I)I -/
def m_J7_bitCount (x0 : Int32)   (Q : Int32 → Prop) : Prop := (∀ z1 : Int32, z1 = (x0 - ((x0.toUInt32 >>> (((1 : Int32)).toUInt32 &&& Int32.toUInt32 31)).toInt32 &&& (1431655765 : Int32))) → (∀ z2 : Int32, z2 = ((z1 &&& (858993459 : Int32)) + ((z1.toUInt32 >>> (((2 : Int32)).toUInt32 &&& Int32.toUInt32 31)).toInt32 &&& (858993459 : Int32))) → (∀ z3 : Int32, z3 = ((z2 + (z2.toUInt32 >>> (((4 : Int32)).toUInt32 &&& Int32.toUInt32 31)).toInt32) &&& (252645135 : Int32)) → (∀ z4 : Int32, z4 = (z3 + (z3.toUInt32 >>> (((8 : Int32)).toUInt32 &&& Int32.toUInt32 31)).toInt32) → (∀ z5 : Int32, z5 = (z4 + (z4.toUInt32 >>> (((16 : Int32)).toUInt32 &&& Int32.toUInt32 31)).toInt32) → Q ((z5 &&& (63 : Int32))))))))
theorem c_J7_bitCount (l : Launch) (D : va_G) (cA : Nat → ClassId) (sz0 : Nat) (H0 : Heap) (M : WM) (x0 : Int32)   (Q : Int32 → Prop)  (h : m_J7_bitCount x0   Q) : Met l yJ7_bitCount (ws_ yJ7_bitCount cJ7_bitCount 1 (some .int)) ({ frames := 0, cells := 0, slots := 0, locals := 0 } : Room) (PcW D cA sz0 H0 [.int x0] M) (QW_i D cA sz0 H0 (fun r M' => M' = M ∧ Q r)) 0 0 (Aw sz0) := by
  replace h : (∀ z1 : Int32, z1 = (x0 - ((x0.toUInt32 >>> (((1 : Int32)).toUInt32 &&& Int32.toUInt32 31)).toInt32 &&& (1431655765 : Int32))) → (∀ z2 : Int32, z2 = ((z1 &&& (858993459 : Int32)) + ((z1.toUInt32 >>> (((2 : Int32)).toUInt32 &&& Int32.toUInt32 31)).toInt32 &&& (858993459 : Int32))) → (∀ z3 : Int32, z3 = ((z2 + (z2.toUInt32 >>> (((4 : Int32)).toUInt32 &&& Int32.toUInt32 31)).toInt32) &&& (252645135 : Int32)) → (∀ z4 : Int32, z4 = (z3 + (z3.toUInt32 >>> (((8 : Int32)).toUInt32 &&& Int32.toUInt32 31)).toInt32) → (∀ z5 : Int32, z5 = (z4 + (z4.toUInt32 >>> (((16 : Int32)).toUInt32 &&& Int32.toUInt32 31)).toInt32) → Q ((z5 &&& (63 : Int32)))))))) := h
  refine Met.ofV (by decide +kernel) (Nat.le_of_ble_eq_true rfl) ?_
  intro p e s m args below meth c cx hnm
  replace cx : Cx p s m args meth c cJ7_bitCount 1 RJ7 (some .int) D cA sz0 H0 := cx
  refine v_sub (lv' := [(0, .int x0)]) [0] rfl ?_
  refine v_iload_n (pc := 0) cx dJ7_bitCount_0 rfl 0 rfl ?_
  refine v_iload_n (pc := 1) cx dJ7_bitCount_1 rfl 0 rfl ?_
  refine v_iconst (pc := 2) cx dJ7_bitCount_2 ic_1 ?_
  refine v_iushr (pc := 3) cx dJ7_bitCount_3 ?_
  refine v_ldcw (pc := 4) cx dJ7_bitCount_4 q955 ?_
  refine v_iand (pc := 7) cx dJ7_bitCount_7 ?_
  refine v_isub (pc := 8) cx dJ7_bitCount_8 ?_
  refine v_topi (fun z1 ez1 => ?_)
  replace h := h z1 ez1
  refine v_istore_n (pc := 9) cx dJ7_bitCount_9 rfl (Nat.le_of_ble_eq_true rfl) (lv' := [(0, .int z1)]) rfl ?_
  refine v_iload_n (pc := 10) cx dJ7_bitCount_10 rfl 0 rfl ?_
  refine v_ldcw (pc := 11) cx dJ7_bitCount_11 q956 ?_
  refine v_iand (pc := 14) cx dJ7_bitCount_14 ?_
  refine v_iload_n (pc := 15) cx dJ7_bitCount_15 rfl 0 rfl ?_
  refine v_iconst (pc := 16) cx dJ7_bitCount_16 ic_2 ?_
  refine v_iushr (pc := 17) cx dJ7_bitCount_17 ?_
  refine v_ldcw (pc := 18) cx dJ7_bitCount_18 q956 ?_
  refine v_iand (pc := 21) cx dJ7_bitCount_21 ?_
  refine v_iadd (pc := 22) cx dJ7_bitCount_22 ?_
  refine v_topi (fun z2 ez2 => ?_)
  replace h := h z2 ez2
  refine v_istore_n (pc := 23) cx dJ7_bitCount_23 rfl (Nat.le_of_ble_eq_true rfl) (lv' := [(0, .int z2)]) rfl ?_
  refine v_iload_n (pc := 24) cx dJ7_bitCount_24 rfl 0 rfl ?_
  refine v_iload_n (pc := 25) cx dJ7_bitCount_25 rfl 0 rfl ?_
  refine v_iconst (pc := 26) cx dJ7_bitCount_26 ic_4 ?_
  refine v_iushr (pc := 27) cx dJ7_bitCount_27 ?_
  refine v_iadd (pc := 28) cx dJ7_bitCount_28 ?_
  refine v_ldcw (pc := 29) cx dJ7_bitCount_29 q957 ?_
  refine v_iand (pc := 32) cx dJ7_bitCount_32 ?_
  refine v_topi (fun z3 ez3 => ?_)
  replace h := h z3 ez3
  refine v_istore_n (pc := 33) cx dJ7_bitCount_33 rfl (Nat.le_of_ble_eq_true rfl) (lv' := [(0, .int z3)]) rfl ?_
  refine v_iload_n (pc := 34) cx dJ7_bitCount_34 rfl 0 rfl ?_
  refine v_iload_n (pc := 35) cx dJ7_bitCount_35 rfl 0 rfl ?_
  refine v_bipush (pc := 36) cx dJ7_bitCount_36 bc_8 ?_
  refine v_iushr (pc := 38) cx dJ7_bitCount_38 ?_
  refine v_iadd (pc := 39) cx dJ7_bitCount_39 ?_
  refine v_topi (fun z4 ez4 => ?_)
  replace h := h z4 ez4
  refine v_istore_n (pc := 40) cx dJ7_bitCount_40 rfl (Nat.le_of_ble_eq_true rfl) (lv' := [(0, .int z4)]) rfl ?_
  refine v_iload_n (pc := 41) cx dJ7_bitCount_41 rfl 0 rfl ?_
  refine v_iload_n (pc := 42) cx dJ7_bitCount_42 rfl 0 rfl ?_
  refine v_bipush (pc := 43) cx dJ7_bitCount_43 bc_16 ?_
  refine v_iushr (pc := 45) cx dJ7_bitCount_45 ?_
  refine v_iadd (pc := 46) cx dJ7_bitCount_46 ?_
  refine v_topi (fun z5 ez5 => ?_)
  replace h := h z5 ez5
  refine v_istore_n (pc := 47) cx dJ7_bitCount_47 rfl (Nat.le_of_ble_eq_true rfl) (lv' := [(0, .int z5)]) rfl ?_
  refine v_iload_n (pc := 48) cx dJ7_bitCount_48 rfl 0 rfl ?_
  refine v_bipush (pc := 49) cx dJ7_bitCount_49 bc_63 ?_
  refine v_iand (pc := 51) cx dJ7_bitCount_51 ?_
  exact v_iret cx rfl dJ7_bitCount_52 ⟨Nat.le_of_ble_eq_true rfl, Nat.le_of_ble_eq_true rfl⟩ ⟨rfl, h⟩
/-! LetterHeaps.clear(III)I -/
def m_X0_clear_j231  (K152 : Int32 → Int32 → WM → Prop) (x1 : Int32) (x3 : Int32) (x4 : Int32) (x5 : Int32) (x6 : Int32)   (Q : Int32 → WM → Prop) (M : WM) : Prop := ((x6 = 0 → (∀ z2 : Int32, z2 = x5 + (1 : Int32) → K152 x4 z2 M)) ∧ (¬ x6 = 0 → (∀ z3 : Int32, z3 = x5 + (1 : Int32) → K152 x5 z3 M)))
theorem w_X0_clear_j231 {p : Program} {l : Launch} {e : Env} {s : State} {m : MethodId} {args : Array Value} {below : List Frame} {meth : Method} {c : Code} {D : va_G} {cA : Nat → ClassId} {sz0 : Nat} {H0 : Heap}  {K152 : Int32 → Int32 → WM → Prop} {x1 : Int32} {x3 : Int32} {x4 : Int32} {x5 : Int32} {x6 : Int32} {Q : Int32 → WM → Prop}  (cx : Cx p s m args meth c cX0_clear 8 RX0 (some .int) D cA sz0 H0)  (hK152 : ∀ (x4 : Int32) (x5 : Int32)  (M : WM) (sh : Shp M), K152 x4 x5 M → V p l e ({ frames := 3, cells := 0, slots := 0, locals := 66 } : Room) s m args below meth c 8 D cA sz0 H0 0 0 (MQ below (QW_i D cA sz0 H0 (fun r M' => Q r M' ∧ Shp M')) args s 0 0 (Aw sz0)) 152 [(0, .ref (sz0 + 0)), (1, .int x1), (3, .int x3), (4, .int x4), (5, .int x5)] [] M)     (M : WM) (sh : Shp M) (h : m_X0_clear_j231 K152 x1 x3 x4 x5 x6 Q M) : V p l e ({ frames := 3, cells := 0, slots := 0, locals := 66 } : Room) s m args below meth c 8 D cA sz0 H0 0 0 (MQ below (QW_i D cA sz0 H0 (fun r M' => Q r M' ∧ Shp M')) args s 0 0 (Aw sz0)) 231 [(0, .ref (sz0 + 0)), (1, .int x1), (3, .int x3), (4, .int x4), (5, .int x5), (6, .int x6)] [] M := by
  replace h : ((x6 = 0 → (∀ z2 : Int32, z2 = x5 + (1 : Int32) → K152 x4 z2 M)) ∧ (¬ x6 = 0 → (∀ z3 : Int32, z3 = x5 + (1 : Int32) → K152 x5 z3 M))) := h
  refine v_iload (pc := 231) cx dX0_clear_231 5 rfl ?_
  refine v_if_eq (pc := 233) cx dX0_clear_233 (tgt := 240) rfl (fun c1 => ?_) (fun c1 => ?_)
  · replace h := h.1 c1
    refine nm_x (x5 + (1 : Int32)) (fun z2 ez2 => ?_)
    replace h := h z2 ez2
    refine v_iinc (pc := 240) cx dX0_clear_240 (q := 4) rfl ((ii_1 _).trans ez2.symm) (Nat.le_of_ble_eq_true rfl) (lv' := [(5, .int z2), (0, .ref (sz0 + 0)), (1, .int x1), (3, .int x3), (4, .int x4), (6, .int x6)]) rfl ?_
    refine v_goto (pc := 243) cx dX0_clear_243 (tgt := 152) rfl ?_
    refine v_sub (lv' := [(0, .ref (sz0 + 0)), (1, .int x1), (3, .int x3), (4, .int x4), (5, .int z2)]) [1, 2, 3, 4, 0] rfl ?_
    exact hK152 x4 z2 M sh h
  · replace h := h.2 c1
    refine v_iload (pc := 236) cx dX0_clear_236 4 rfl ?_
    refine v_istore (pc := 238) cx dX0_clear_238 (Nat.le_of_ble_eq_true rfl) (lv' := [(4, .int x5), (0, .ref (sz0 + 0)), (1, .int x1), (3, .int x3), (5, .int x5), (6, .int x6)]) rfl ?_
    refine nm_x (x5 + (1 : Int32)) (fun z3 ez3 => ?_)
    replace h := h z3 ez3
    refine v_iinc (pc := 240) cx dX0_clear_240 (q := 4) rfl ((ii_1 _).trans ez3.symm) (Nat.le_of_ble_eq_true rfl) (lv' := [(5, .int z3), (4, .int x5), (0, .ref (sz0 + 0)), (1, .int x1), (3, .int x3), (6, .int x6)]) rfl ?_
    refine v_goto (pc := 243) cx dX0_clear_243 (tgt := 152) rfl ?_
    refine v_sub (lv' := [(0, .ref (sz0 + 0)), (1, .int x1), (3, .int x3), (4, .int x5), (5, .int z3)]) [2, 3, 4, 1, 0] rfl ?_
    exact hK152 x5 z3 M sh h
def m_X0_clear_l183  (K152 : Int32 → Int32 → WM → Prop) (x1 : Int32) (x3 : Int32) (x4 : Int32) (x5 : Int32)   (Q : Int32 → WM → Prop) : Nat → Int32 → Int32 → WM → Prop
  | 0, _, _, _ => False
  | n + 1, x6, x7, M => ((x1 ≤ x7 → m_X0_clear_j231 K152 x1 x3 x4 x5 x6 Q M) ∧ (¬ x1 ≤ x7 → ((x6 = 0 → m_X0_clear_j231 K152 x1 x3 x4 x5 x6 Q M) ∧ (¬ x6 = 0 → (m_X0_has x5.toInt64 x7 (fun (a3 : Int32) => ((a3 = 0 → (∀ z5 : Int32, z5 = x7 + (1 : Int32) → m_X0_clear_l183 K152 x1 x3 x4 x5 Q n ((1 : Int32)) z5 M)) ∧ (¬ a3 = 0 → (vp_in x7 14 ∧ ((((wI M 5321 x7.toNatClampNeg) &&& x5) = 0 → (∀ z9 : Int32, z9 = x7 + (1 : Int32) → m_X0_clear_l183 K152 x1 x3 x4 x5 Q n ((1 : Int32)) z9 M)) ∧ (¬ ((wI M 5321 x7.toNatClampNeg) &&& x5) = 0 → (∀ z8 : Int32, z8 = x7 + (1 : Int32) → m_X0_clear_l183 K152 x1 x3 x4 x5 Q n ((0 : Int32)) z8 M))))))))))))
theorem w_X0_clear_l183 {p : Program} {l : Launch} {e : Env} {s : State} {m : MethodId} {args : Array Value} {below : List Frame} {meth : Method} {c : Code} {D : va_G} {cA : Nat → ClassId} {sz0 : Nat} {H0 : Heap}  {K152 : Int32 → Int32 → WM → Prop} {x1 : Int32} {x3 : Int32} {x4 : Int32} {x5 : Int32} {Q : Int32 → WM → Prop}  (cx : Cx p s m args meth c cX0_clear 8 RX0 (some .int) D cA sz0 H0)  (hK152 : ∀ (x4 : Int32) (x5 : Int32)  (M : WM) (sh : Shp M), K152 x4 x5 M → V p l e ({ frames := 3, cells := 0, slots := 0, locals := 66 } : Room) s m args below meth c 8 D cA sz0 H0 0 0 (MQ below (QW_i D cA sz0 H0 (fun r M' => Q r M' ∧ Shp M')) args s 0 0 (Aw sz0)) 152 [(0, .ref (sz0 + 0)), (1, .int x1), (3, .int x3), (4, .int x4), (5, .int x5)] [] M)   : ∀ (n : Nat) (x6 : Int32) (x7 : Int32)  (M : WM) (sh : Shp M), m_X0_clear_l183 K152 x1 x3 x4 x5 Q n x6 x7 M → V p l e ({ frames := 3, cells := 0, slots := 0, locals := 66 } : Room) s m args below meth c 8 D cA sz0 H0 0 0 (MQ below (QW_i D cA sz0 H0 (fun r M' => Q r M' ∧ Shp M')) args s 0 0 (Aw sz0)) 183 [(0, .ref (sz0 + 0)), (1, .int x1), (3, .int x3), (4, .int x4), (5, .int x5), (6, .int x6), (7, .int x7)] [] M := by
  intro n
  induction n with
  | zero => intro x6 x7 M sh h; exact h.elim
  | succ n ih =>
    intro x6 x7 M sh h
    replace h : ((x1 ≤ x7 → m_X0_clear_j231 K152 x1 x3 x4 x5 x6 Q M) ∧ (¬ x1 ≤ x7 → ((x6 = 0 → m_X0_clear_j231 K152 x1 x3 x4 x5 x6 Q M) ∧ (¬ x6 = 0 → (m_X0_has x5.toInt64 x7 (fun (a3 : Int32) => ((a3 = 0 → (∀ z5 : Int32, z5 = x7 + (1 : Int32) → m_X0_clear_l183 K152 x1 x3 x4 x5 Q n ((1 : Int32)) z5 M)) ∧ (¬ a3 = 0 → (vp_in x7 14 ∧ ((((wI M 5321 x7.toNatClampNeg) &&& x5) = 0 → (∀ z9 : Int32, z9 = x7 + (1 : Int32) → m_X0_clear_l183 K152 x1 x3 x4 x5 Q n ((1 : Int32)) z9 M)) ∧ (¬ ((wI M 5321 x7.toNatClampNeg) &&& x5) = 0 → (∀ z8 : Int32, z8 = x7 + (1 : Int32) → m_X0_clear_l183 K152 x1 x3 x4 x5 Q n ((0 : Int32)) z8 M)))))))))))) := h
    refine v_iload (pc := 183) cx dX0_clear_183 6 rfl ?_
    refine v_iload_n (pc := 185) cx dX0_clear_185 rfl 1 rfl ?_
    refine v_icmp_ge (pc := 186) cx dX0_clear_186 (tgt := 231) rfl (fun c1 => ?_) (fun c1 => ?_)
    · replace h := h.1 c1
      refine v_sub (lv' := [(0, .ref (sz0 + 0)), (1, .int x1), (3, .int x3), (4, .int x4), (5, .int x5), (6, .int x6)]) [0, 1, 2, 3, 4, 5] rfl ?_
      exact w_X0_clear_j231 cx hK152 M sh h
    · replace h := h.2 c1
      refine v_iload (pc := 189) cx dX0_clear_189 5 rfl ?_
      refine v_if_eq (pc := 191) cx dX0_clear_191 (tgt := 231) rfl (fun c2 => ?_) (fun c2 => ?_)
      · replace h := h.1 c2
        refine v_sub (lv' := [(0, .ref (sz0 + 0)), (1, .int x1), (3, .int x3), (4, .int x4), (5, .int x5), (6, .int x6)]) [0, 1, 2, 3, 4, 5] rfl ?_
        exact w_X0_clear_j231 cx hK152 M sh h
      · replace h := h.2 c2
        refine v_iload (pc := 194) cx dX0_clear_194 4 rfl ?_
        refine v_i2l (pc := 196) cx dX0_clear_196 ?_
        refine v_iload (pc := 197) cx dX0_clear_197 6 rfl ?_
        refine v_runp_i (pc := 199) cx (kcq722_X0 cx (c_X0_has l D cA sz0 H0 M x5.toInt64 x7  _ h) ⟨Nat.le_of_ble_eq_true rfl, Nat.le_of_ble_eq_true rfl⟩ (As := [.long x5.toInt64, .int x7]) rfl rfl (Nat.le_of_ble_eq_true rfl) dX0_clear_199 ⟨Nat.le_of_ble_eq_true rfl, Nat.le_of_ble_eq_true rfl⟩) (fun a3 hq => ?_)
        replace h := hq
        refine v_if_eq (pc := 202) cx dX0_clear_202 (tgt := 218) rfl (fun c4 => ?_) (fun c4 => ?_)
        · replace h := h.1 c4
          refine v_iconst (pc := 218) cx dX0_clear_218 ic_1 ?_
          refine v_goto (pc := 219) cx dX0_clear_219 (tgt := 223) rfl ?_
          refine v_istore (pc := 223) cx dX0_clear_223 (Nat.le_of_ble_eq_true rfl) (lv' := [(6, .int (1 : Int32)), (0, .ref (sz0 + 0)), (1, .int x1), (3, .int x3), (4, .int x4), (5, .int x5), (7, .int x7)]) rfl ?_
          refine nm_x (x7 + (1 : Int32)) (fun z5 ez5 => ?_)
          replace h := h z5 ez5
          refine v_iinc (pc := 225) cx dX0_clear_225 (q := 6) rfl ((ii_1 _).trans ez5.symm) (Nat.le_of_ble_eq_true rfl) (lv' := [(7, .int z5), (6, .int (1 : Int32)), (0, .ref (sz0 + 0)), (1, .int x1), (3, .int x3), (4, .int x4), (5, .int x5)]) rfl ?_
          refine v_goto (pc := 228) cx dX0_clear_228 (tgt := 183) rfl ?_
          refine v_sub (lv' := [(0, .ref (sz0 + 0)), (1, .int x1), (3, .int x3), (4, .int x4), (5, .int x5), (6, .int (1 : Int32)), (7, .int z5)]) [2, 3, 4, 5, 6, 1, 0] rfl ?_
          exact ih ((1 : Int32)) z5 M sh h
        · replace h := h.2 c4
          refine v_aload_n (pc := 205) cx dX0_clear_205 rfl 0 rfl ?_
          refine gq304_X0 (pc := 206) cx dX0_clear_206 (sh.k k_0) (v_some (sh.r r_0_29) ?_)
          refine v_iload (pc := 209) cx dX0_clear_209 6 rfl ?_
          obtain ⟨b6, h⟩ := h
          refine v_iald (pc := 211) cx dX0_clear_211 (sh.k k_5321) (sh.l k_5321 l_5321) b6 ?_
          refine v_iload (pc := 212) cx dX0_clear_212 4 rfl ?_
          refine v_iand (pc := 214) cx dX0_clear_214 ?_
          refine v_if_ne (pc := 215) cx dX0_clear_215 (tgt := 222) rfl (fun c7 => ?_) (fun c7 => ?_)
          · replace h := h.2 c7
            refine v_iconst (pc := 222) cx dX0_clear_222 ic_0 ?_
            refine v_istore (pc := 223) cx dX0_clear_223 (Nat.le_of_ble_eq_true rfl) (lv' := [(6, .int (0 : Int32)), (0, .ref (sz0 + 0)), (1, .int x1), (3, .int x3), (4, .int x4), (5, .int x5), (7, .int x7)]) rfl ?_
            refine nm_x (x7 + (1 : Int32)) (fun z8 ez8 => ?_)
            replace h := h z8 ez8
            refine v_iinc (pc := 225) cx dX0_clear_225 (q := 6) rfl ((ii_1 _).trans ez8.symm) (Nat.le_of_ble_eq_true rfl) (lv' := [(7, .int z8), (6, .int (0 : Int32)), (0, .ref (sz0 + 0)), (1, .int x1), (3, .int x3), (4, .int x4), (5, .int x5)]) rfl ?_
            refine v_goto (pc := 228) cx dX0_clear_228 (tgt := 183) rfl ?_
            refine v_sub (lv' := [(0, .ref (sz0 + 0)), (1, .int x1), (3, .int x3), (4, .int x4), (5, .int x5), (6, .int (0 : Int32)), (7, .int z8)]) [2, 3, 4, 5, 6, 1, 0] rfl ?_
            exact ih ((0 : Int32)) z8 M sh h
          · replace h := h.1 c7
            refine v_iconst (pc := 218) cx dX0_clear_218 ic_1 ?_
            refine v_goto (pc := 219) cx dX0_clear_219 (tgt := 223) rfl ?_
            refine v_istore (pc := 223) cx dX0_clear_223 (Nat.le_of_ble_eq_true rfl) (lv' := [(6, .int (1 : Int32)), (0, .ref (sz0 + 0)), (1, .int x1), (3, .int x3), (4, .int x4), (5, .int x5), (7, .int x7)]) rfl ?_
            refine nm_x (x7 + (1 : Int32)) (fun z9 ez9 => ?_)
            replace h := h z9 ez9
            refine v_iinc (pc := 225) cx dX0_clear_225 (q := 6) rfl ((ii_1 _).trans ez9.symm) (Nat.le_of_ble_eq_true rfl) (lv' := [(7, .int z9), (6, .int (1 : Int32)), (0, .ref (sz0 + 0)), (1, .int x1), (3, .int x3), (4, .int x4), (5, .int x5)]) rfl ?_
            refine v_goto (pc := 228) cx dX0_clear_228 (tgt := 183) rfl ?_
            refine v_sub (lv' := [(0, .ref (sz0 + 0)), (1, .int x1), (3, .int x3), (4, .int x4), (5, .int x5), (6, .int (1 : Int32)), (7, .int z9)]) [2, 3, 4, 5, 6, 1, 0] rfl ?_
            exact ih ((1 : Int32)) z9 M sh h
def m_X0_clear_l152   (x1 : Int32) (x3 : Int32)   (Q : Int32 → WM → Prop) : Nat → Int32 → Int32 → WM → Prop
  | 0, _, _, _ => False
  | n + 1, x4, x5, M => ((((1 : Int32) <<< (x1 &&& 31)) ≤ x5 → ((x3 = 0 → (m_J7_bitCount x4 (fun (a3 : Int32) => Q a3 M))) ∧ (¬ x3 = 0 → Q x4 M))) ∧ (¬ ((1 : Int32) <<< (x1 &&& 31)) ≤ x5 → (m_J7_bitCount x5 (fun (a4 : Int32) => (m_J7_bitCount x4 (fun (a5 : Int32) => ((a4 ≤ a5 → (∃ n0, m_X0_clear_l183 (fun x4' x5' M' => m_X0_clear_l152 x1 x3 Q n x4' x5' M') x1 x3 x4 x5 Q n0 ((0 : Int32)) ((0 : Int32)) M)) ∧ (¬ a4 ≤ a5 → (∃ n0, m_X0_clear_l183 (fun x4' x5' M' => m_X0_clear_l152 x1 x3 Q n x4' x5' M') x1 x3 x4 x5 Q n0 ((1 : Int32)) ((0 : Int32)) M)))))))))
theorem w_X0_clear_l152 {p : Program} {l : Launch} {e : Env} {s : State} {m : MethodId} {args : Array Value} {below : List Frame} {meth : Method} {c : Code} {D : va_G} {cA : Nat → ClassId} {sz0 : Nat} {H0 : Heap}  {x1 : Int32} {x3 : Int32} {Q : Int32 → WM → Prop}  (cx : Cx p s m args meth c cX0_clear 8 RX0 (some .int) D cA sz0 H0)     : ∀ (n : Nat) (x4 : Int32) (x5 : Int32)  (M : WM) (sh : Shp M), m_X0_clear_l152 x1 x3 Q n x4 x5 M → V p l e ({ frames := 3, cells := 0, slots := 0, locals := 66 } : Room) s m args below meth c 8 D cA sz0 H0 0 0 (MQ below (QW_i D cA sz0 H0 (fun r M' => Q r M' ∧ Shp M')) args s 0 0 (Aw sz0)) 152 [(0, .ref (sz0 + 0)), (1, .int x1), (3, .int x3), (4, .int x4), (5, .int x5)] [] M := by
  intro n
  induction n with
  | zero => intro x4 x5 M sh h; exact h.elim
  | succ n ih =>
    intro x4 x5 M sh h
    replace h : ((((1 : Int32) <<< (x1 &&& 31)) ≤ x5 → ((x3 = 0 → (m_J7_bitCount x4 (fun (a3 : Int32) => Q a3 M))) ∧ (¬ x3 = 0 → Q x4 M))) ∧ (¬ ((1 : Int32) <<< (x1 &&& 31)) ≤ x5 → (m_J7_bitCount x5 (fun (a4 : Int32) => (m_J7_bitCount x4 (fun (a5 : Int32) => ((a4 ≤ a5 → (∃ n0, m_X0_clear_l183 (fun x4' x5' M' => m_X0_clear_l152 x1 x3 Q n x4' x5' M') x1 x3 x4 x5 Q n0 ((0 : Int32)) ((0 : Int32)) M)) ∧ (¬ a4 ≤ a5 → (∃ n0, m_X0_clear_l183 (fun x4' x5' M' => m_X0_clear_l152 x1 x3 Q n x4' x5' M') x1 x3 x4 x5 Q n0 ((1 : Int32)) ((0 : Int32)) M))))))))) := h
    refine v_iload (pc := 152) cx dX0_clear_152 4 rfl ?_
    refine v_iconst (pc := 154) cx dX0_clear_154 ic_1 ?_
    refine v_iload_n (pc := 155) cx dX0_clear_155 rfl 1 rfl ?_
    refine v_ishl (pc := 156) cx dX0_clear_156 ?_
    refine v_icmp_ge (pc := 157) cx dX0_clear_157 (tgt := 246) rfl (fun c1 => ?_) (fun c1 => ?_)
    · replace h := h.1 c1
      refine v_iload_n (pc := 246) cx dX0_clear_246 rfl 2 rfl ?_
      refine v_if_ne (pc := 247) cx dX0_clear_247 (tgt := 258) rfl (fun c2 => ?_) (fun c2 => ?_)
      · replace h := h.2 c2
        refine v_iload (pc := 258) cx dX0_clear_258 3 rfl ?_
        exact v_iret cx rfl dX0_clear_260 ⟨Nat.le_of_ble_eq_true rfl, Nat.le_of_ble_eq_true rfl⟩ ⟨h, sh⟩
      · replace h := h.1 c2
        refine v_iload (pc := 250) cx dX0_clear_250 3 rfl ?_
        refine v_runp_i (pc := 252) cx (kcq952_X0 cx (c_J7_bitCount l D cA sz0 H0 M x4  _ h) ⟨Nat.le_of_ble_eq_true rfl, Nat.le_of_ble_eq_true rfl⟩ (As := [.int x4]) rfl rfl (Nat.le_of_ble_eq_true rfl) dX0_clear_252 ⟨Nat.le_of_ble_eq_true rfl, Nat.le_of_ble_eq_true rfl⟩) (fun a3 hq => ?_)
        replace h := hq
        refine v_goto (pc := 255) cx dX0_clear_255 (tgt := 260) rfl ?_
        exact v_iret cx rfl dX0_clear_260 ⟨Nat.le_of_ble_eq_true rfl, Nat.le_of_ble_eq_true rfl⟩ ⟨h, sh⟩
    · replace h := h.2 c1
      refine v_iload (pc := 160) cx dX0_clear_160 4 rfl ?_
      refine v_runp_i (pc := 162) cx (kcq952_X0 cx (c_J7_bitCount l D cA sz0 H0 M x5  _ h) ⟨Nat.le_of_ble_eq_true rfl, Nat.le_of_ble_eq_true rfl⟩ (As := [.int x5]) rfl rfl (Nat.le_of_ble_eq_true rfl) dX0_clear_162 ⟨Nat.le_of_ble_eq_true rfl, Nat.le_of_ble_eq_true rfl⟩) (fun a4 hq => ?_)
      replace h := hq
      refine v_iload (pc := 165) cx dX0_clear_165 3 rfl ?_
      refine v_runp_i (pc := 167) cx (kcq952_X0 cx (c_J7_bitCount l D cA sz0 H0 M x4  _ h) ⟨Nat.le_of_ble_eq_true rfl, Nat.le_of_ble_eq_true rfl⟩ (As := [.int x4]) rfl rfl (Nat.le_of_ble_eq_true rfl) dX0_clear_167 ⟨Nat.le_of_ble_eq_true rfl, Nat.le_of_ble_eq_true rfl⟩) (fun a5 hq => ?_)
      replace h := hq
      refine v_icmp_le (pc := 170) cx dX0_clear_170 (tgt := 177) rfl (fun c6 => ?_) (fun c6 => ?_)
      · replace h := h.1 c6
        refine v_iconst (pc := 177) cx dX0_clear_177 ic_0 ?_
        refine v_istore (pc := 178) cx dX0_clear_178 (Nat.le_of_ble_eq_true rfl) (lv' := [(6, .int (0 : Int32)), (0, .ref (sz0 + 0)), (1, .int x1), (3, .int x3), (4, .int x4), (5, .int x5)]) rfl ?_
        refine v_iconst (pc := 180) cx dX0_clear_180 ic_0 ?_
        refine v_istore (pc := 181) cx dX0_clear_181 (Nat.le_of_ble_eq_true rfl) (lv' := [(7, .int (0 : Int32)), (6, .int (0 : Int32)), (0, .ref (sz0 + 0)), (1, .int x1), (3, .int x3), (4, .int x4), (5, .int x5)]) rfl ?_
        refine v_sub (lv' := [(0, .ref (sz0 + 0)), (1, .int x1), (3, .int x3), (4, .int x4), (5, .int x5), (6, .int (0 : Int32)), (7, .int (0 : Int32))]) [2, 3, 4, 5, 6, 1, 0] rfl ?_
        obtain ⟨n0, h⟩ := h
        exact w_X0_clear_l183 cx ih n0 ((0 : Int32)) ((0 : Int32)) M sh h
      · replace h := h.2 c6
        refine v_iconst (pc := 173) cx dX0_clear_173 ic_1 ?_
        refine v_goto (pc := 174) cx dX0_clear_174 (tgt := 178) rfl ?_
        refine v_istore (pc := 178) cx dX0_clear_178 (Nat.le_of_ble_eq_true rfl) (lv' := [(6, .int (1 : Int32)), (0, .ref (sz0 + 0)), (1, .int x1), (3, .int x3), (4, .int x4), (5, .int x5)]) rfl ?_
        refine v_iconst (pc := 180) cx dX0_clear_180 ic_0 ?_
        refine v_istore (pc := 181) cx dX0_clear_181 (Nat.le_of_ble_eq_true rfl) (lv' := [(7, .int (0 : Int32)), (6, .int (1 : Int32)), (0, .ref (sz0 + 0)), (1, .int x1), (3, .int x3), (4, .int x4), (5, .int x5)]) rfl ?_
        refine v_sub (lv' := [(0, .ref (sz0 + 0)), (1, .int x1), (3, .int x3), (4, .int x4), (5, .int x5), (6, .int (1 : Int32)), (7, .int (0 : Int32))]) [2, 3, 4, 5, 6, 1, 0] rfl ?_
        obtain ⟨n0, h⟩ := h
        exact w_X0_clear_l183 cx ih n0 ((1 : Int32)) ((0 : Int32)) M sh h
def m_X0_clear_l69  (K52 : Int32 → WM → Prop) (x1 : Int32) (x2 : Int32) (x3 : Int32) (x4 : Int32)   (Q : Int32 → WM → Prop) : Nat → Int32 → WM → Prop
  | 0, _, _ => False
  | n + 1, x5, M => ((x1 ≤ x5 → (∀ z2 : Int32, z2 = x4 + (1 : Int32) → K52 z2 M)) ∧ (¬ x1 ≤ x5 → ((x4 = x5 → (∀ z4 : Int32, z4 = x5 + (1 : Int32) → m_X0_clear_l69 K52 x1 x2 x3 x4 Q n z4 M)) ∧ (¬ x4 = x5 → (vp_in x4 14 ∧ (vp_in ((wI M 184 x4.toNatClampNeg)) 40 ∧ (vp_in x5 14 ∧ (vp_in ((wI M 184 x5.toNatClampNeg)) 40 ∧ (m_X0_farOf ((5325 + 3 * ((wI M 184 x4.toNatClampNeg)).toNatClampNeg)) ((5325 + 3 * ((wI M 184 x5.toNatClampNeg)).toNatClampNeg)) M (fun (a9 : Int32) (M10 : WM) => ((x2 ≤ a9 → (∀ z12 : Int32, z12 = x5 + (1 : Int32) → m_X0_clear_l69 K52 x1 x2 x3 x4 Q n z12 M10)) ∧ (¬ x2 ≤ a9 → (vp_in x4 14 ∧ (vp_in x4 14 ∧ (∀ z15 : Int32, z15 = ((wI M10 5321 x4.toNatClampNeg) ||| ((1 : Int32) <<< (x5 &&& 31))) → (∀ M16 : WM, M16 = wPI M10 5321 x4.toNatClampNeg z15 → (∀ z17 : Int32, z17 = x5 + (1 : Int32) → m_X0_clear_l69 K52 x1 x2 x3 x4 Q n z17 M16)))))))))))))))))
theorem w_X0_clear_l69 {p : Program} {l : Launch} {e : Env} {s : State} {m : MethodId} {args : Array Value} {below : List Frame} {meth : Method} {c : Code} {D : va_G} {cA : Nat → ClassId} {sz0 : Nat} {H0 : Heap}  {K52 : Int32 → WM → Prop} {x1 : Int32} {x2 : Int32} {x3 : Int32} {x4 : Int32} {Q : Int32 → WM → Prop}  (cx : Cx p s m args meth c cX0_clear 8 RX0 (some .int) D cA sz0 H0)  (hK52 : ∀ (x4 : Int32)  (M : WM) (sh : Shp M), K52 x4 M → V p l e ({ frames := 3, cells := 0, slots := 0, locals := 66 } : Room) s m args below meth c 8 D cA sz0 H0 0 0 (MQ below (QW_i D cA sz0 H0 (fun r M' => Q r M' ∧ Shp M')) args s 0 0 (Aw sz0)) 52 [(0, .ref (sz0 + 0)), (1, .int x1), (2, .int x2), (3, .int x3), (4, .int x4)] [] M)   : ∀ (n : Nat) (x5 : Int32)  (M : WM) (sh : Shp M), m_X0_clear_l69 K52 x1 x2 x3 x4 Q n x5 M → V p l e ({ frames := 3, cells := 0, slots := 0, locals := 66 } : Room) s m args below meth c 8 D cA sz0 H0 0 0 (MQ below (QW_i D cA sz0 H0 (fun r M' => Q r M' ∧ Shp M')) args s 0 0 (Aw sz0)) 69 [(0, .ref (sz0 + 0)), (1, .int x1), (2, .int x2), (3, .int x3), (4, .int x4), (5, .int x5)] [] M := by
  intro n
  induction n with
  | zero => intro x5 M sh h; exact h.elim
  | succ n ih =>
    intro x5 M sh h
    replace h : ((x1 ≤ x5 → (∀ z2 : Int32, z2 = x4 + (1 : Int32) → K52 z2 M)) ∧ (¬ x1 ≤ x5 → ((x4 = x5 → (∀ z4 : Int32, z4 = x5 + (1 : Int32) → m_X0_clear_l69 K52 x1 x2 x3 x4 Q n z4 M)) ∧ (¬ x4 = x5 → (vp_in x4 14 ∧ (vp_in ((wI M 184 x4.toNatClampNeg)) 40 ∧ (vp_in x5 14 ∧ (vp_in ((wI M 184 x5.toNatClampNeg)) 40 ∧ (m_X0_farOf ((5325 + 3 * ((wI M 184 x4.toNatClampNeg)).toNatClampNeg)) ((5325 + 3 * ((wI M 184 x5.toNatClampNeg)).toNatClampNeg)) M (fun (a9 : Int32) (M10 : WM) => ((x2 ≤ a9 → (∀ z12 : Int32, z12 = x5 + (1 : Int32) → m_X0_clear_l69 K52 x1 x2 x3 x4 Q n z12 M10)) ∧ (¬ x2 ≤ a9 → (vp_in x4 14 ∧ (vp_in x4 14 ∧ (∀ z15 : Int32, z15 = ((wI M10 5321 x4.toNatClampNeg) ||| ((1 : Int32) <<< (x5 &&& 31))) → (∀ M16 : WM, M16 = wPI M10 5321 x4.toNatClampNeg z15 → (∀ z17 : Int32, z17 = x5 + (1 : Int32) → m_X0_clear_l69 K52 x1 x2 x3 x4 Q n z17 M16))))))))))))))))) := h
    refine v_iload (pc := 69) cx dX0_clear_69 5 rfl ?_
    refine v_iload_n (pc := 71) cx dX0_clear_71 rfl 1 rfl ?_
    refine v_icmp_ge (pc := 72) cx dX0_clear_72 (tgt := 140) rfl (fun c1 => ?_) (fun c1 => ?_)
    · replace h := h.1 c1
      refine nm_x (x4 + (1 : Int32)) (fun z2 ez2 => ?_)
      replace h := h z2 ez2
      refine v_iinc (pc := 140) cx dX0_clear_140 (q := 4) rfl ((ii_1 _).trans ez2.symm) (Nat.le_of_ble_eq_true rfl) (lv' := [(4, .int z2), (0, .ref (sz0 + 0)), (1, .int x1), (2, .int x2), (3, .int x3), (5, .int x5)]) rfl ?_
      refine v_goto (pc := 143) cx dX0_clear_143 (tgt := 52) rfl ?_
      refine v_sub (lv' := [(0, .ref (sz0 + 0)), (1, .int x1), (2, .int x2), (3, .int x3), (4, .int z2)]) [1, 2, 3, 4, 0] rfl ?_
      exact hK52 z2 M sh h
    · replace h := h.2 c1
      refine v_iload (pc := 75) cx dX0_clear_75 4 rfl ?_
      refine v_iload (pc := 77) cx dX0_clear_77 5 rfl ?_
      refine v_icmp_eq (pc := 79) cx dX0_clear_79 (tgt := 134) rfl (fun c3 => ?_) (fun c3 => ?_)
      · replace h := h.1 c3
        refine nm_x (x5 + (1 : Int32)) (fun z4 ez4 => ?_)
        replace h := h z4 ez4
        refine v_iinc (pc := 134) cx dX0_clear_134 (q := 5) rfl ((ii_1 _).trans ez4.symm) (Nat.le_of_ble_eq_true rfl) (lv' := [(5, .int z4), (0, .ref (sz0 + 0)), (1, .int x1), (2, .int x2), (3, .int x3), (4, .int x4)]) rfl ?_
        refine v_goto (pc := 137) cx dX0_clear_137 (tgt := 69) rfl ?_
        refine v_sub (lv' := [(0, .ref (sz0 + 0)), (1, .int x1), (2, .int x2), (3, .int x3), (4, .int x4), (5, .int z4)]) [1, 2, 3, 4, 5, 0] rfl ?_
        exact ih z4 M sh h
      · replace h := h.2 c3
        refine v_aload_n (pc := 82) cx dX0_clear_82 rfl 0 rfl ?_
        refine v_aload_n (pc := 83) cx dX0_clear_83 rfl 0 rfl ?_
        refine gq273_X0 (pc := 84) cx dX0_clear_84 (sh.k k_0) (v_some (sh.r r_0_0) ?_)
        refine v_aload_n (pc := 87) cx dX0_clear_87 rfl 0 rfl ?_
        refine gq299_X0 (pc := 88) cx dX0_clear_88 (sh.k k_0) (v_some (sh.r r_0_24) ?_)
        refine v_iload (pc := 91) cx dX0_clear_91 4 rfl ?_
        obtain ⟨b5, h⟩ := h
        refine v_iald (pc := 93) cx dX0_clear_93 (sh.k k_184) (sh.l k_184 l_184) b5 ?_
        obtain ⟨b6, h⟩ := h
        refine v_aald107 (pc := 94) cx dX0_clear_94 (sh.k k_1) (sh.l k_1 l_1) b6 (v_some (sh.r (f_1 (lt_in b6))) ?_)
        refine gq257_X5 (pc := 95) cx dX0_clear_95 (sh.k (fk_1 (lt_in b6))) (v_some (sh.r (fr_1 (lt_in b6))) ?_)
        refine v_aload_n (pc := 98) cx dX0_clear_98 rfl 0 rfl ?_
        refine gq273_X0 (pc := 99) cx dX0_clear_99 (sh.k k_0) (v_some (sh.r r_0_0) ?_)
        refine v_aload_n (pc := 102) cx dX0_clear_102 rfl 0 rfl ?_
        refine gq299_X0 (pc := 103) cx dX0_clear_103 (sh.k k_0) (v_some (sh.r r_0_24) ?_)
        refine v_iload (pc := 106) cx dX0_clear_106 5 rfl ?_
        obtain ⟨b7, h⟩ := h
        refine v_iald (pc := 108) cx dX0_clear_108 (sh.k k_184) (sh.l k_184 l_184) b7 ?_
        obtain ⟨b8, h⟩ := h
        refine v_aald107 (pc := 109) cx dX0_clear_109 (sh.k k_1) (sh.l k_1 l_1) b8 (v_some (sh.r (f_1 (lt_in b8))) ?_)
        refine gq257_X5 (pc := 110) cx dX0_clear_110 (sh.k (fk_1 (lt_in b8))) (v_some (sh.r (fr_1 (lt_in b8))) ?_)
        refine v_run_i (pc := 113) cx (kcq940_X0 cx (c_X0_farOf l D cA sz0 H0 M ((5325 + 3 * ((wI M 184 x4.toNatClampNeg)).toNatClampNeg)) ((5325 + 3 * ((wI M 184 x5.toNatClampNeg)).toNatClampNeg)) (isLn_w (lt_in b6)) (isLn_w (lt_in b8)) _ sh h) ⟨Nat.le_of_ble_eq_true rfl, Nat.le_of_ble_eq_true rfl⟩ (sh.k k_0) (As := [.ref (sz0 + (5325 + 3 * ((wI M 184 x4.toNatClampNeg)).toNatClampNeg)), .ref (sz0 + (5325 + 3 * ((wI M 184 x5.toNatClampNeg)).toNatClampNeg))]) rfl rfl (Nat.le_of_ble_eq_true rfl) dX0_clear_113 ⟨Nat.le_of_ble_eq_true rfl, Nat.le_of_ble_eq_true rfl⟩) (fun a9 M10 hq => ?_)
        obtain ⟨h, sh⟩ := hq
        refine v_iload_n (pc := 116) cx dX0_clear_116 rfl 2 rfl ?_
        refine v_icmp_ge (pc := 117) cx dX0_clear_117 (tgt := 134) rfl (fun c11 => ?_) (fun c11 => ?_)
        · replace h := h.1 c11
          refine nm_x (x5 + (1 : Int32)) (fun z12 ez12 => ?_)
          replace h := h z12 ez12
          refine v_iinc (pc := 134) cx dX0_clear_134 (q := 5) rfl ((ii_1 _).trans ez12.symm) (Nat.le_of_ble_eq_true rfl) (lv' := [(5, .int z12), (0, .ref (sz0 + 0)), (1, .int x1), (2, .int x2), (3, .int x3), (4, .int x4)]) rfl ?_
          refine v_goto (pc := 137) cx dX0_clear_137 (tgt := 69) rfl ?_
          refine v_sub (lv' := [(0, .ref (sz0 + 0)), (1, .int x1), (2, .int x2), (3, .int x3), (4, .int x4), (5, .int z12)]) [1, 2, 3, 4, 5, 0] rfl ?_
          exact ih z12 M10 sh h
        · replace h := h.2 c11
          refine v_aload_n (pc := 120) cx dX0_clear_120 rfl 0 rfl ?_
          refine gq304_X0 (pc := 121) cx dX0_clear_121 (sh.k k_0) (v_some (sh.r r_0_29) ?_)
          refine v_iload (pc := 124) cx dX0_clear_124 4 rfl ?_
          refine v_dup2 (pc := 126) cx dX0_clear_126 rfl rfl ?_
          obtain ⟨b13, h⟩ := h
          refine v_iald (pc := 127) cx dX0_clear_127 (sh.k k_5321) (sh.l k_5321 l_5321) b13 ?_
          refine v_iconst (pc := 128) cx dX0_clear_128 ic_1 ?_
          refine v_iload (pc := 129) cx dX0_clear_129 5 rfl ?_
          refine v_ishl (pc := 131) cx dX0_clear_131 ?_
          refine v_ior (pc := 132) cx dX0_clear_132 ?_
          obtain ⟨b14, h⟩ := h
          refine v_topi (fun z15 ez15 => ?_)
          replace h := h z15 ez15
          refine v_iast (pc := 133) cx dX0_clear_133 (sh.k k_5321) (sh.l k_5321 l_5321) b14 ?_
          refine v_wld (fun M16 eM16 => ?_)
          replace h := h M16 eM16
          replace sh : Shp M16 := Shp_PI sh eM16
          refine nm_x (x5 + (1 : Int32)) (fun z17 ez17 => ?_)
          replace h := h z17 ez17
          refine v_iinc (pc := 134) cx dX0_clear_134 (q := 5) rfl ((ii_1 _).trans ez17.symm) (Nat.le_of_ble_eq_true rfl) (lv' := [(5, .int z17), (0, .ref (sz0 + 0)), (1, .int x1), (2, .int x2), (3, .int x3), (4, .int x4)]) rfl ?_
          refine v_goto (pc := 137) cx dX0_clear_137 (tgt := 69) rfl ?_
          refine v_sub (lv' := [(0, .ref (sz0 + 0)), (1, .int x1), (2, .int x2), (3, .int x3), (4, .int x4), (5, .int z17)]) [1, 2, 3, 4, 5, 0] rfl ?_
          exact ih z17 M16 sh h
def m_X0_clear_l52   (x1 : Int32) (x2 : Int32) (x3 : Int32)   (Q : Int32 → WM → Prop) : Nat → Int32 → WM → Prop
  | 0, _, _ => False
  | n + 1, x4, M => ((x1 ≤ x4 → (∃ n0, m_X0_clear_l152 x1 x3 Q n0 ((0 : Int32)) ((1 : Int32)) M)) ∧ (¬ x1 ≤ x4 → (vp_in x4 14 ∧ (∀ M3 : WM, M3 = wPI M 5321 x4.toNatClampNeg ((0 : Int32)) → (∃ n0, m_X0_clear_l69 (fun x4' M' => m_X0_clear_l52 x1 x2 x3 Q n x4' M') x1 x2 x3 x4 Q n0 ((0 : Int32)) M3)))))
theorem w_X0_clear_l52 {p : Program} {l : Launch} {e : Env} {s : State} {m : MethodId} {args : Array Value} {below : List Frame} {meth : Method} {c : Code} {D : va_G} {cA : Nat → ClassId} {sz0 : Nat} {H0 : Heap}  {x1 : Int32} {x2 : Int32} {x3 : Int32} {Q : Int32 → WM → Prop}  (cx : Cx p s m args meth c cX0_clear 8 RX0 (some .int) D cA sz0 H0)     : ∀ (n : Nat) (x4 : Int32)  (M : WM) (sh : Shp M), m_X0_clear_l52 x1 x2 x3 Q n x4 M → V p l e ({ frames := 3, cells := 0, slots := 0, locals := 66 } : Room) s m args below meth c 8 D cA sz0 H0 0 0 (MQ below (QW_i D cA sz0 H0 (fun r M' => Q r M' ∧ Shp M')) args s 0 0 (Aw sz0)) 52 [(0, .ref (sz0 + 0)), (1, .int x1), (2, .int x2), (3, .int x3), (4, .int x4)] [] M := by
  intro n
  induction n with
  | zero => intro x4 M sh h; exact h.elim
  | succ n ih =>
    intro x4 M sh h
    replace h : ((x1 ≤ x4 → (∃ n0, m_X0_clear_l152 x1 x3 Q n0 ((0 : Int32)) ((1 : Int32)) M)) ∧ (¬ x1 ≤ x4 → (vp_in x4 14 ∧ (∀ M3 : WM, M3 = wPI M 5321 x4.toNatClampNeg ((0 : Int32)) → (∃ n0, m_X0_clear_l69 (fun x4' M' => m_X0_clear_l52 x1 x2 x3 Q n x4' M') x1 x2 x3 x4 Q n0 ((0 : Int32)) M3))))) := h
    refine v_iload (pc := 52) cx dX0_clear_52 4 rfl ?_
    refine v_iload_n (pc := 54) cx dX0_clear_54 rfl 1 rfl ?_
    refine v_icmp_ge (pc := 55) cx dX0_clear_55 (tgt := 146) rfl (fun c1 => ?_) (fun c1 => ?_)
    · replace h := h.1 c1
      refine v_iconst (pc := 146) cx dX0_clear_146 ic_0 ?_
      refine v_istore (pc := 147) cx dX0_clear_147 (Nat.le_of_ble_eq_true rfl) (lv' := [(4, .int (0 : Int32)), (0, .ref (sz0 + 0)), (1, .int x1), (2, .int x2), (3, .int x3)]) rfl ?_
      refine v_iconst (pc := 149) cx dX0_clear_149 ic_1 ?_
      refine v_istore (pc := 150) cx dX0_clear_150 (Nat.le_of_ble_eq_true rfl) (lv' := [(5, .int (1 : Int32)), (4, .int (0 : Int32)), (0, .ref (sz0 + 0)), (1, .int x1), (2, .int x2), (3, .int x3)]) rfl ?_
      refine v_sub (lv' := [(0, .ref (sz0 + 0)), (1, .int x1), (3, .int x3), (4, .int (0 : Int32)), (5, .int (1 : Int32))]) [2, 3, 5, 1, 0] rfl ?_
      obtain ⟨n0, h⟩ := h
      exact w_X0_clear_l152 cx n0 ((0 : Int32)) ((1 : Int32)) M sh h
    · replace h := h.2 c1
      refine v_aload_n (pc := 58) cx dX0_clear_58 rfl 0 rfl ?_
      refine gq304_X0 (pc := 59) cx dX0_clear_59 (sh.k k_0) (v_some (sh.r r_0_29) ?_)
      refine v_iload (pc := 62) cx dX0_clear_62 4 rfl ?_
      refine v_iconst (pc := 64) cx dX0_clear_64 ic_0 ?_
      obtain ⟨b2, h⟩ := h
      refine v_iast (pc := 65) cx dX0_clear_65 (sh.k k_5321) (sh.l k_5321 l_5321) b2 ?_
      refine v_wld (fun M3 eM3 => ?_)
      replace h := h M3 eM3
      replace sh : Shp M3 := Shp_PI sh eM3
      refine v_iconst (pc := 66) cx dX0_clear_66 ic_0 ?_
      refine v_istore (pc := 67) cx dX0_clear_67 (Nat.le_of_ble_eq_true rfl) (lv' := [(5, .int (0 : Int32)), (0, .ref (sz0 + 0)), (1, .int x1), (2, .int x2), (3, .int x3), (4, .int x4)]) rfl ?_
      refine v_sub (lv' := [(0, .ref (sz0 + 0)), (1, .int x1), (2, .int x2), (3, .int x3), (4, .int x4), (5, .int (0 : Int32))]) [1, 2, 3, 4, 5, 0] rfl ?_
      obtain ⟨n0, h⟩ := h
      exact w_X0_clear_l69 cx ih n0 ((0 : Int32)) M3 sh h
def m_X0_clear (x1 : Int32) (x2 : Int32) (x3 : Int32) (M : WM)  (Q : Int32 → WM → Prop) : Prop := (m_X0_within x1 ((1 : Int32)) ((14 : Int32)) (fun (a1 : Int32) => ((a1 = 0 → Q (((-1) : Int32)) M) ∧ (¬ a1 = 0 → (m_X0_within x2 ((1 : Int32)) ((9 : Int32)) (fun (a3 : Int32) => ((a3 = 0 → Q (((-1) : Int32)) M) ∧ (¬ a3 = 0 → (m_X0_in x3 ((2 : Int32)) (fun (a5 : Int32) => ((a5 = 0 → Q (((-1) : Int32)) M) ∧ (¬ a5 = 0 → ((x1 ≤ (wI M 0 5) → (m_X0_takesWords x1 M (fun (a8 : Int32) (M9 : WM) => ((a8 = 0 → Q (((-3) : Int32)) M9) ∧ (¬ a8 = 0 → (∃ n0, m_X0_clear_l52 x1 x2 x3 Q n0 ((0 : Int32)) M9)))))) ∧ (¬ x1 ≤ (wI M 0 5) → Q (((-1) : Int32)) M))))))))))))))
theorem c_X0_clear (l : Launch) (D : va_G) (cA : Nat → ClassId) (sz0 : Nat) (H0 : Heap) (M : WM) (x1 : Int32) (x2 : Int32) (x3 : Int32)   (Q : Int32 → WM → Prop) (sh : Shp M) (h : m_X0_clear x1 x2 x3 M  Q) : Met l yX0_clear (ws_ yX0_clear cX0_clear 8 (some .int)) ({ frames := 3, cells := 0, slots := 0, locals := 66 } : Room) (PcW D cA sz0 H0 [.ref (sz0 + 0), .int x1, .int x2, .int x3] M) (QW_i D cA sz0 H0 (fun r M' => Q r M' ∧ Shp M')) 0 0 (Aw sz0) := by
  replace h : (m_X0_within x1 ((1 : Int32)) ((14 : Int32)) (fun (a1 : Int32) => ((a1 = 0 → Q (((-1) : Int32)) M) ∧ (¬ a1 = 0 → (m_X0_within x2 ((1 : Int32)) ((9 : Int32)) (fun (a3 : Int32) => ((a3 = 0 → Q (((-1) : Int32)) M) ∧ (¬ a3 = 0 → (m_X0_in x3 ((2 : Int32)) (fun (a5 : Int32) => ((a5 = 0 → Q (((-1) : Int32)) M) ∧ (¬ a5 = 0 → ((x1 ≤ (wI M 0 5) → (m_X0_takesWords x1 M (fun (a8 : Int32) (M9 : WM) => ((a8 = 0 → Q (((-3) : Int32)) M9) ∧ (¬ a8 = 0 → (∃ n0, m_X0_clear_l52 x1 x2 x3 Q n0 ((0 : Int32)) M9)))))) ∧ (¬ x1 ≤ (wI M 0 5) → Q (((-1) : Int32)) M)))))))))))))) := h
  refine Met.ofV (by decide +kernel) (Nat.le_of_ble_eq_true rfl) ?_
  intro p e s m args below meth c cx hnm
  replace cx : Cx p s m args meth c cX0_clear 8 RX0 (some .int) D cA sz0 H0 := cx
  refine v_sub (lv' := [(0, .ref (sz0 + 0)), (1, .int x1), (2, .int x2), (3, .int x3)]) [0, 1, 2, 3] rfl ?_
  refine v_iload_n (pc := 0) cx dX0_clear_0 rfl 1 rfl ?_
  refine v_iconst (pc := 1) cx dX0_clear_1 ic_1 ?_
  refine v_bipush (pc := 2) cx dX0_clear_2 bc_14 ?_
  refine v_runp_i (pc := 4) cx (kcq387_X0 cx (c_X0_within l D cA sz0 H0 M x1 ((1 : Int32)) ((14 : Int32))  _ h) ⟨Nat.le_of_ble_eq_true rfl, Nat.le_of_ble_eq_true rfl⟩ (As := [.int x1, .int (1 : Int32), .int (14 : Int32)]) rfl rfl (Nat.le_of_ble_eq_true rfl) dX0_clear_4 ⟨Nat.le_of_ble_eq_true rfl, Nat.le_of_ble_eq_true rfl⟩) (fun a1 hq => ?_)
  replace h := hq
  refine v_if_eq (pc := 7) cx dX0_clear_7 (tgt := 36) rfl (fun c2 => ?_) (fun c2 => ?_)
  · replace h := h.1 c2
    refine v_iconst (pc := 36) cx dX0_clear_36 ic_m1 ?_
    exact v_iret cx rfl dX0_clear_37 ⟨Nat.le_of_ble_eq_true rfl, Nat.le_of_ble_eq_true rfl⟩ ⟨h, sh⟩
  · replace h := h.2 c2
    refine v_iload_n (pc := 10) cx dX0_clear_10 rfl 2 rfl ?_
    refine v_iconst (pc := 11) cx dX0_clear_11 ic_1 ?_
    refine v_bipush (pc := 12) cx dX0_clear_12 bc_9 ?_
    refine v_runp_i (pc := 14) cx (kcq387_X0 cx (c_X0_within l D cA sz0 H0 M x2 ((1 : Int32)) ((9 : Int32))  _ h) ⟨Nat.le_of_ble_eq_true rfl, Nat.le_of_ble_eq_true rfl⟩ (As := [.int x2, .int (1 : Int32), .int (9 : Int32)]) rfl rfl (Nat.le_of_ble_eq_true rfl) dX0_clear_14 ⟨Nat.le_of_ble_eq_true rfl, Nat.le_of_ble_eq_true rfl⟩) (fun a3 hq => ?_)
    replace h := hq
    refine v_if_eq (pc := 17) cx dX0_clear_17 (tgt := 36) rfl (fun c4 => ?_) (fun c4 => ?_)
    · replace h := h.1 c4
      refine v_iconst (pc := 36) cx dX0_clear_36 ic_m1 ?_
      exact v_iret cx rfl dX0_clear_37 ⟨Nat.le_of_ble_eq_true rfl, Nat.le_of_ble_eq_true rfl⟩ ⟨h, sh⟩
    · replace h := h.2 c4
      refine v_iload_n (pc := 20) cx dX0_clear_20 rfl 3 rfl ?_
      refine v_iconst (pc := 21) cx dX0_clear_21 ic_2 ?_
      refine v_runp_i (pc := 22) cx (kcq390_X0 cx (c_X0_in l D cA sz0 H0 M x3 ((2 : Int32))  _ h) ⟨Nat.le_of_ble_eq_true rfl, Nat.le_of_ble_eq_true rfl⟩ (As := [.int x3, .int (2 : Int32)]) rfl rfl (Nat.le_of_ble_eq_true rfl) dX0_clear_22 ⟨Nat.le_of_ble_eq_true rfl, Nat.le_of_ble_eq_true rfl⟩) (fun a5 hq => ?_)
      replace h := hq
      refine v_if_eq (pc := 25) cx dX0_clear_25 (tgt := 36) rfl (fun c6 => ?_) (fun c6 => ?_)
      · replace h := h.1 c6
        refine v_iconst (pc := 36) cx dX0_clear_36 ic_m1 ?_
        exact v_iret cx rfl dX0_clear_37 ⟨Nat.le_of_ble_eq_true rfl, Nat.le_of_ble_eq_true rfl⟩ ⟨h, sh⟩
      · replace h := h.2 c6
        refine v_iload_n (pc := 28) cx dX0_clear_28 rfl 1 rfl ?_
        refine v_aload_n (pc := 29) cx dX0_clear_29 rfl 0 rfl ?_
        refine gq280_X0 (pc := 30) cx dX0_clear_30 (sh.k k_0) ?_
        refine v_icmp_le (pc := 33) cx dX0_clear_33 (tgt := 38) rfl (fun c7 => ?_) (fun c7 => ?_)
        · replace h := h.1 c7
          refine v_aload_n (pc := 38) cx dX0_clear_38 rfl 0 rfl ?_
          refine v_iload_n (pc := 39) cx dX0_clear_39 rfl 1 rfl ?_
          refine v_run_i (pc := 40) cx (kcq912_X0 cx (c_X0_takesWords l D cA sz0 H0 M x1  _ sh h) ⟨Nat.le_of_ble_eq_true rfl, Nat.le_of_ble_eq_true rfl⟩ (sh.k k_0) (As := [.int x1]) rfl rfl (Nat.le_of_ble_eq_true rfl) dX0_clear_40 ⟨Nat.le_of_ble_eq_true rfl, Nat.le_of_ble_eq_true rfl⟩) (fun a8 M9 hq => ?_)
          obtain ⟨h, sh⟩ := hq
          refine v_if_ne (pc := 43) cx dX0_clear_43 (tgt := 49) rfl (fun c10 => ?_) (fun c10 => ?_)
          · replace h := h.2 c10
            refine v_iconst (pc := 49) cx dX0_clear_49 ic_0 ?_
            refine v_istore (pc := 50) cx dX0_clear_50 (Nat.le_of_ble_eq_true rfl) (lv' := [(4, .int (0 : Int32)), (0, .ref (sz0 + 0)), (1, .int x1), (2, .int x2), (3, .int x3)]) rfl ?_
            refine v_sub (lv' := [(0, .ref (sz0 + 0)), (1, .int x1), (2, .int x2), (3, .int x3), (4, .int (0 : Int32))]) [1, 2, 3, 4, 0] rfl ?_
            obtain ⟨n0, h⟩ := h
            exact w_X0_clear_l52 cx n0 ((0 : Int32)) M9 sh h
          · replace h := h.1 c10
            refine v_bipush (pc := 46) cx dX0_clear_46 bc_m3 ?_
            exact v_iret cx rfl dX0_clear_48 ⟨Nat.le_of_ble_eq_true rfl, Nat.le_of_ble_eq_true rfl⟩ ⟨h, sh⟩
        · replace h := h.2 c7
          refine v_iconst (pc := 36) cx dX0_clear_36 ic_m1 ?_
          exact v_iret cx rfl dX0_clear_37 ⟨Nat.le_of_ble_eq_true rfl, Nat.le_of_ble_eq_true rfl⟩ ⟨h, sh⟩
/-! LetterHeaps.usedMany()I -/
def m_X0_usedMany_l4    (M : WM)  (Q : Int32 → Prop) : Nat → Int32 → Int32 → Prop
  | 0, _, _ => False
  | n + 1, x1, x2 => (((wI M 0 3) ≤ x2 → Q x1) ∧ (¬ (wI M 0 3) ≤ x2 → (m_X0_isUsed x2 M (fun (a2 : Int32) => ((a2 = 0 → (∀ z4 : Int32, z4 = (x1 + (0 : Int32)) → (∀ z5 : Int32, z5 = x2 + (1 : Int32) → m_X0_usedMany_l4 M Q n z4 z5))) ∧ (¬ a2 = 0 → (∀ z6 : Int32, z6 = (x1 + (1 : Int32)) → (∀ z7 : Int32, z7 = x2 + (1 : Int32) → m_X0_usedMany_l4 M Q n z6 z7))))))))
theorem w_X0_usedMany_l4 {p : Program} {l : Launch} {e : Env} {s : State} {m : MethodId} {args : Array Value} {below : List Frame} {meth : Method} {c : Code} {D : va_G} {cA : Nat → ClassId} {sz0 : Nat} {H0 : Heap}  {M : WM} {Q : Int32 → Prop}  (cx : Cx p s m args meth c cX0_usedMany 3 RX0 (some .int) D cA sz0 H0)    (sh : Shp M) : ∀ (n : Nat) (x1 : Int32) (x2 : Int32) , m_X0_usedMany_l4 M Q n x1 x2 → V p l e ({ frames := 3, cells := 0, slots := 0, locals := 63 } : Room) s m args below meth c 3 D cA sz0 H0 0 0 (MQ below (QW_i D cA sz0 H0 (fun r M' => M' = M ∧ Q r)) args s 0 0 (Aw sz0)) 4 [(0, .ref (sz0 + 0)), (1, .int x1), (2, .int x2)] [] M := by
  intro n
  induction n with
  | zero => intro x1 x2 h; exact h.elim
  | succ n ih =>
    intro x1 x2 h
    replace h : (((wI M 0 3) ≤ x2 → Q x1) ∧ (¬ (wI M 0 3) ≤ x2 → (m_X0_isUsed x2 M (fun (a2 : Int32) => ((a2 = 0 → (∀ z4 : Int32, z4 = (x1 + (0 : Int32)) → (∀ z5 : Int32, z5 = x2 + (1 : Int32) → m_X0_usedMany_l4 M Q n z4 z5))) ∧ (¬ a2 = 0 → (∀ z6 : Int32, z6 = (x1 + (1 : Int32)) → (∀ z7 : Int32, z7 = x2 + (1 : Int32) → m_X0_usedMany_l4 M Q n z6 z7)))))))) := h
    refine v_iload_n (pc := 4) cx dX0_usedMany_4 rfl 2 rfl ?_
    refine v_aload_n (pc := 5) cx dX0_usedMany_5 rfl 0 rfl ?_
    refine gq278_X0 (pc := 6) cx dX0_usedMany_6 (sh.k k_0) ?_
    refine v_icmp_ge (pc := 9) cx dX0_usedMany_9 (tgt := 34) rfl (fun c1 => ?_) (fun c1 => ?_)
    · replace h := h.1 c1
      refine v_iload_n (pc := 34) cx dX0_usedMany_34 rfl 1 rfl ?_
      exact v_iret cx rfl dX0_usedMany_35 ⟨Nat.le_of_ble_eq_true rfl, Nat.le_of_ble_eq_true rfl⟩ ⟨rfl, h⟩
    · replace h := h.2 c1
      refine v_iload_n (pc := 12) cx dX0_usedMany_12 rfl 1 rfl ?_
      refine v_aload_n (pc := 13) cx dX0_usedMany_13 rfl 0 rfl ?_
      refine v_iload_n (pc := 14) cx dX0_usedMany_14 rfl 2 rfl ?_
      refine v_runp_i (pc := 15) cx (kcq718_X0 cx (c_X0_isUsed l D cA sz0 H0 M x2  _ sh h) ⟨Nat.le_of_ble_eq_true rfl, Nat.le_of_ble_eq_true rfl⟩ (sh.k k_0) (As := [.int x2]) rfl rfl (Nat.le_of_ble_eq_true rfl) dX0_usedMany_15 ⟨Nat.le_of_ble_eq_true rfl, Nat.le_of_ble_eq_true rfl⟩) (fun a2 hq => ?_)
      replace h := hq
      refine v_if_eq (pc := 18) cx dX0_usedMany_18 (tgt := 25) rfl (fun c3 => ?_) (fun c3 => ?_)
      · replace h := h.1 c3
        refine v_iconst (pc := 25) cx dX0_usedMany_25 ic_0 ?_
        refine v_iadd (pc := 26) cx dX0_usedMany_26 ?_
        refine v_topi (fun z4 ez4 => ?_)
        replace h := h z4 ez4
        refine v_istore_n (pc := 27) cx dX0_usedMany_27 rfl (Nat.le_of_ble_eq_true rfl) (lv' := [(1, .int z4), (0, .ref (sz0 + 0)), (2, .int x2)]) rfl ?_
        refine nm_x (x2 + (1 : Int32)) (fun z5 ez5 => ?_)
        replace h := h z5 ez5
        refine v_iinc (pc := 28) cx dX0_usedMany_28 (q := 2) rfl ((ii_1 _).trans ez5.symm) (Nat.le_of_ble_eq_true rfl) (lv' := [(2, .int z5), (1, .int z4), (0, .ref (sz0 + 0))]) rfl ?_
        refine v_goto (pc := 31) cx dX0_usedMany_31 (tgt := 4) rfl ?_
        refine v_sub (lv' := [(0, .ref (sz0 + 0)), (1, .int z4), (2, .int z5)]) [2, 1, 0] rfl ?_
        exact ih z4 z5 h
      · replace h := h.2 c3
        refine v_iconst (pc := 21) cx dX0_usedMany_21 ic_1 ?_
        refine v_goto (pc := 22) cx dX0_usedMany_22 (tgt := 26) rfl ?_
        refine v_iadd (pc := 26) cx dX0_usedMany_26 ?_
        refine v_topi (fun z6 ez6 => ?_)
        replace h := h z6 ez6
        refine v_istore_n (pc := 27) cx dX0_usedMany_27 rfl (Nat.le_of_ble_eq_true rfl) (lv' := [(1, .int z6), (0, .ref (sz0 + 0)), (2, .int x2)]) rfl ?_
        refine nm_x (x2 + (1 : Int32)) (fun z7 ez7 => ?_)
        replace h := h z7 ez7
        refine v_iinc (pc := 28) cx dX0_usedMany_28 (q := 2) rfl ((ii_1 _).trans ez7.symm) (Nat.le_of_ble_eq_true rfl) (lv' := [(2, .int z7), (1, .int z6), (0, .ref (sz0 + 0))]) rfl ?_
        refine v_goto (pc := 31) cx dX0_usedMany_31 (tgt := 4) rfl ?_
        refine v_sub (lv' := [(0, .ref (sz0 + 0)), (1, .int z6), (2, .int z7)]) [2, 1, 0] rfl ?_
        exact ih z6 z7 h
def m_X0_usedMany  (M : WM)  (Q : Int32 → Prop) : Prop := (∃ n0, m_X0_usedMany_l4 M Q n0 ((0 : Int32)) ((0 : Int32)))
theorem c_X0_usedMany (l : Launch) (D : va_G) (cA : Nat → ClassId) (sz0 : Nat) (H0 : Heap) (M : WM)    (Q : Int32 → Prop) (sh : Shp M) (h : m_X0_usedMany  M  Q) : Met l yX0_usedMany (ws_ yX0_usedMany cX0_usedMany 3 (some .int)) ({ frames := 3, cells := 0, slots := 0, locals := 63 } : Room) (PcW D cA sz0 H0 [.ref (sz0 + 0)] M) (QW_i D cA sz0 H0 (fun r M' => M' = M ∧ Q r)) 0 0 (Aw sz0) := by
  replace h : (∃ n0, m_X0_usedMany_l4 M Q n0 ((0 : Int32)) ((0 : Int32))) := h
  refine Met.ofV (by decide +kernel) (Nat.le_of_ble_eq_true rfl) ?_
  intro p e s m args below meth c cx hnm
  replace cx : Cx p s m args meth c cX0_usedMany 3 RX0 (some .int) D cA sz0 H0 := cx
  refine v_sub (lv' := [(0, .ref (sz0 + 0))]) [0] rfl ?_
  refine v_iconst (pc := 0) cx dX0_usedMany_0 ic_0 ?_
  refine v_istore_n (pc := 1) cx dX0_usedMany_1 rfl (Nat.le_of_ble_eq_true rfl) (lv' := [(1, .int (0 : Int32)), (0, .ref (sz0 + 0))]) rfl ?_
  refine v_iconst (pc := 2) cx dX0_usedMany_2 ic_0 ?_
  refine v_istore_n (pc := 3) cx dX0_usedMany_3 rfl (Nat.le_of_ble_eq_true rfl) (lv' := [(2, .int (0 : Int32)), (1, .int (0 : Int32)), (0, .ref (sz0 + 0))]) rfl ?_
  refine v_sub (lv' := [(0, .ref (sz0 + 0)), (1, .int (0 : Int32)), (2, .int (0 : Int32))]) [2, 1, 0] rfl ?_
  obtain ⟨n0, h⟩ := h
  exact w_X0_usedMany_l4 cx sh n0 ((0 : Int32)) ((0 : Int32)) h
/-! LetterHeaps.count(I)I -/
def m_X0_count (x1 : Int32) (M : WM)  (Q : Int32 → Prop) : Prop := (m_X0_isWord ((x1 - (20 : Int32))) M (fun (a1 : Int32) => ((a1 = 0 → (m_X0_isWord ((x1 - (60 : Int32))) M (fun (a3 : Int32) => ((a3 = 0 → (m_X0_isWord ((x1 - (100 : Int32))) M (fun (a5 : Int32) => ((a5 = 0 → ((x1 = (0 : Int32) → Q ((wI M 0 3))) ∧ (¬ x1 = (0 : Int32) → ((x1 = (1 : Int32) → (m_X0_usedMany  M (fun (a9 : Int32) => Q a9))) ∧ (¬ x1 = (1 : Int32) → ((x1 = (2 : Int32) → (∃ r11, wR M 0 2 = some r11 ∧ (wk M r11 = 1 ∧ Q ((wI M r11 3))))) ∧ (¬ x1 = (2 : Int32) → ((x1 = (3 : Int32) → Q ((wI M 0 5))) ∧ (¬ x1 = (3 : Int32) → ((x1 = (4 : Int32) → Q ((wI M 0 6))) ∧ (¬ x1 = (4 : Int32) → ((x1 = (5 : Int32) → Q ((wI M 0 4))) ∧ (¬ x1 = (5 : Int32) → Q (((-1) : Int32))))))))))))))) ∧ (¬ a5 = 0 → (m_X0_isUsed ((x1 - (100 : Int32))) M (fun (a16 : Int32) => ((a16 = 0 → Q ((0 : Int32))) ∧ (¬ a16 = 0 → Q ((1 : Int32))))))))))) ∧ (¬ a3 = 0 → (vp_in ((x1 - (60 : Int32))) 40 ∧ Q ((wI M ((5324 + 3 * ((x1 - (60 : Int32))).toNatClampNeg)) 1)))))))) ∧ (¬ a1 = 0 → (vp_in ((x1 - (20 : Int32))) 40 ∧ Q ((wI M ((5325 + 3 * ((x1 - (20 : Int32))).toNatClampNeg)) 1)))))))
theorem c_X0_count (l : Launch) (D : va_G) (cA : Nat → ClassId) (sz0 : Nat) (H0 : Heap) (M : WM) (x1 : Int32)   (Q : Int32 → Prop) (sh : Shp M) (h : m_X0_count x1 M  Q) : Met l yX0_count (ws_ yX0_count cX0_count 2 (some .int)) ({ frames := 4, cells := 0, slots := 0, locals := 85 } : Room) (PcW D cA sz0 H0 [.ref (sz0 + 0), .int x1] M) (QW_i D cA sz0 H0 (fun r M' => M' = M ∧ Q r)) 0 0 (Aw sz0) := by
  replace h : (m_X0_isWord ((x1 - (20 : Int32))) M (fun (a1 : Int32) => ((a1 = 0 → (m_X0_isWord ((x1 - (60 : Int32))) M (fun (a3 : Int32) => ((a3 = 0 → (m_X0_isWord ((x1 - (100 : Int32))) M (fun (a5 : Int32) => ((a5 = 0 → ((x1 = (0 : Int32) → Q ((wI M 0 3))) ∧ (¬ x1 = (0 : Int32) → ((x1 = (1 : Int32) → (m_X0_usedMany  M (fun (a9 : Int32) => Q a9))) ∧ (¬ x1 = (1 : Int32) → ((x1 = (2 : Int32) → (∃ r11, wR M 0 2 = some r11 ∧ (wk M r11 = 1 ∧ Q ((wI M r11 3))))) ∧ (¬ x1 = (2 : Int32) → ((x1 = (3 : Int32) → Q ((wI M 0 5))) ∧ (¬ x1 = (3 : Int32) → ((x1 = (4 : Int32) → Q ((wI M 0 6))) ∧ (¬ x1 = (4 : Int32) → ((x1 = (5 : Int32) → Q ((wI M 0 4))) ∧ (¬ x1 = (5 : Int32) → Q (((-1) : Int32))))))))))))))) ∧ (¬ a5 = 0 → (m_X0_isUsed ((x1 - (100 : Int32))) M (fun (a16 : Int32) => ((a16 = 0 → Q ((0 : Int32))) ∧ (¬ a16 = 0 → Q ((1 : Int32))))))))))) ∧ (¬ a3 = 0 → (vp_in ((x1 - (60 : Int32))) 40 ∧ Q ((wI M ((5324 + 3 * ((x1 - (60 : Int32))).toNatClampNeg)) 1)))))))) ∧ (¬ a1 = 0 → (vp_in ((x1 - (20 : Int32))) 40 ∧ Q ((wI M ((5325 + 3 * ((x1 - (20 : Int32))).toNatClampNeg)) 1))))))) := h
  refine Met.ofV (by decide +kernel) (Nat.le_of_ble_eq_true rfl) ?_
  intro p e s m args below meth c cx hnm
  replace cx : Cx p s m args meth c cX0_count 2 RX0 (some .int) D cA sz0 H0 := cx
  refine v_sub (lv' := [(0, .ref (sz0 + 0)), (1, .int x1)]) [0, 1] rfl ?_
  refine v_aload_n (pc := 0) cx dX0_count_0 rfl 0 rfl ?_
  refine v_iload_n (pc := 1) cx dX0_count_1 rfl 1 rfl ?_
  refine v_bipush (pc := 2) cx dX0_count_2 bc_20 ?_
  refine v_isub (pc := 4) cx dX0_count_4 ?_
  refine v_runp_i (pc := 5) cx (kcq421_X0 cx (c_X0_isWord l D cA sz0 H0 M ((x1 - (20 : Int32)))  _ sh h) ⟨Nat.le_of_ble_eq_true rfl, Nat.le_of_ble_eq_true rfl⟩ (sh.k k_0) (As := [.int (x1 - (20 : Int32))]) rfl rfl (Nat.le_of_ble_eq_true rfl) dX0_count_5 ⟨Nat.le_of_ble_eq_true rfl, Nat.le_of_ble_eq_true rfl⟩) (fun a1 hq => ?_)
  replace h := hq
  refine v_if_eq (pc := 8) cx dX0_count_8 (tgt := 27) rfl (fun c2 => ?_) (fun c2 => ?_)
  · replace h := h.1 c2
    refine v_aload_n (pc := 27) cx dX0_count_27 rfl 0 rfl ?_
    refine v_iload_n (pc := 28) cx dX0_count_28 rfl 1 rfl ?_
    refine v_bipush (pc := 29) cx dX0_count_29 bc_60 ?_
    refine v_isub (pc := 31) cx dX0_count_31 ?_
    refine v_runp_i (pc := 32) cx (kcq421_X0 cx (c_X0_isWord l D cA sz0 H0 M ((x1 - (60 : Int32)))  _ sh h) ⟨Nat.le_of_ble_eq_true rfl, Nat.le_of_ble_eq_true rfl⟩ (sh.k k_0) (As := [.int (x1 - (60 : Int32))]) rfl rfl (Nat.le_of_ble_eq_true rfl) dX0_count_32 ⟨Nat.le_of_ble_eq_true rfl, Nat.le_of_ble_eq_true rfl⟩) (fun a3 hq => ?_)
    replace h := hq
    refine v_if_eq (pc := 35) cx dX0_count_35 (tgt := 51) rfl (fun c4 => ?_) (fun c4 => ?_)
    · replace h := h.1 c4
      refine v_aload_n (pc := 51) cx dX0_count_51 rfl 0 rfl ?_
      refine v_iload_n (pc := 52) cx dX0_count_52 rfl 1 rfl ?_
      refine v_bipush (pc := 53) cx dX0_count_53 bc_100 ?_
      refine v_isub (pc := 55) cx dX0_count_55 ?_
      refine v_runp_i (pc := 56) cx (kcq421_X0 cx (c_X0_isWord l D cA sz0 H0 M ((x1 - (100 : Int32)))  _ sh h) ⟨Nat.le_of_ble_eq_true rfl, Nat.le_of_ble_eq_true rfl⟩ (sh.k k_0) (As := [.int (x1 - (100 : Int32))]) rfl rfl (Nat.le_of_ble_eq_true rfl) dX0_count_56 ⟨Nat.le_of_ble_eq_true rfl, Nat.le_of_ble_eq_true rfl⟩) (fun a5 hq => ?_)
      replace h := hq
      refine v_if_eq (pc := 59) cx dX0_count_59 (tgt := 79) rfl (fun c6 => ?_) (fun c6 => ?_)
      · replace h := h.1 c6
        refine v_iload_n (pc := 79) cx dX0_count_79 rfl 1 rfl ?_
        by_cases c7 : x1 = (0 : Int32)
        · replace h := h.1 c7
          refine v_tswI cx (0 : Int32) (tgt := 120) dX0_count_80 c7 (by decide) (by decide) rfl rfl ?_
          refine v_aload_n (pc := 120) cx dX0_count_120 rfl 0 rfl ?_
          refine gq278_X0 (pc := 121) cx dX0_count_121 (sh.k k_0) ?_
          exact v_iret cx rfl dX0_count_124 ⟨Nat.le_of_ble_eq_true rfl, Nat.le_of_ble_eq_true rfl⟩ ⟨rfl, h⟩
        · replace h := h.2 c7
          by_cases c8 : x1 = (1 : Int32)
          · replace h := h.1 c8
            refine v_tswI cx (1 : Int32) (tgt := 125) dX0_count_80 c8 (by decide) (by decide) rfl rfl ?_
            refine v_aload_n (pc := 125) cx dX0_count_125 rfl 0 rfl ?_
            refine v_runp_i (pc := 126) cx (kcq1007_X0 cx (c_X0_usedMany l D cA sz0 H0 M   _ sh h) ⟨Nat.le_of_ble_eq_true rfl, Nat.le_of_ble_eq_true rfl⟩ (sh.k k_0) (As := []) rfl rfl (Nat.le_of_ble_eq_true rfl) dX0_count_126 ⟨Nat.le_of_ble_eq_true rfl, Nat.le_of_ble_eq_true rfl⟩) (fun a9 hq => ?_)
            replace h := hq
            exact v_iret cx rfl dX0_count_129 ⟨Nat.le_of_ble_eq_true rfl, Nat.le_of_ble_eq_true rfl⟩ ⟨rfl, h⟩
          · replace h := h.2 c8
            by_cases c10 : x1 = (2 : Int32)
            · replace h := h.1 c10
              refine v_tswI cx (2 : Int32) (tgt := 130) dX0_count_80 c10 (by decide) (by decide) rfl rfl ?_
              refine v_aload_n (pc := 130) cx dX0_count_130 rfl 0 rfl ?_
              obtain ⟨r11, er11, h⟩ := h
              refine gq277_X0 (pc := 131) cx dX0_count_131 (sh.k k_0) (v_some er11 ?_)
              obtain ⟨k12, h⟩ := h
              refine gq173_X1 (pc := 134) cx dX0_count_134 k12 ?_
              exact v_iret cx rfl dX0_count_137 ⟨Nat.le_of_ble_eq_true rfl, Nat.le_of_ble_eq_true rfl⟩ ⟨rfl, h⟩
            · replace h := h.2 c10
              by_cases c13 : x1 = (3 : Int32)
              · replace h := h.1 c13
                refine v_tswI cx (3 : Int32) (tgt := 138) dX0_count_80 c13 (by decide) (by decide) rfl rfl ?_
                refine v_aload_n (pc := 138) cx dX0_count_138 rfl 0 rfl ?_
                refine gq280_X0 (pc := 139) cx dX0_count_139 (sh.k k_0) ?_
                exact v_iret cx rfl dX0_count_142 ⟨Nat.le_of_ble_eq_true rfl, Nat.le_of_ble_eq_true rfl⟩ ⟨rfl, h⟩
              · replace h := h.2 c13
                by_cases c14 : x1 = (4 : Int32)
                · replace h := h.1 c14
                  refine v_tswI cx (4 : Int32) (tgt := 143) dX0_count_80 c14 (by decide) (by decide) rfl rfl ?_
                  refine v_aload_n (pc := 143) cx dX0_count_143 rfl 0 rfl ?_
                  refine gq281_X0 (pc := 144) cx dX0_count_144 (sh.k k_0) ?_
                  exact v_iret cx rfl dX0_count_147 ⟨Nat.le_of_ble_eq_true rfl, Nat.le_of_ble_eq_true rfl⟩ ⟨rfl, h⟩
                · replace h := h.2 c14
                  by_cases c15 : x1 = (5 : Int32)
                  · replace h := h.1 c15
                    refine v_tswI cx (5 : Int32) (tgt := 148) dX0_count_80 c15 (by decide) (by decide) rfl rfl ?_
                    refine v_aload_n (pc := 148) cx dX0_count_148 rfl 0 rfl ?_
                    refine gq279_X0 (pc := 149) cx dX0_count_149 (sh.k k_0) ?_
                    exact v_iret cx rfl dX0_count_152 ⟨Nat.le_of_ble_eq_true rfl, Nat.le_of_ble_eq_true rfl⟩ ⟨rfl, h⟩
                  · replace h := h.2 c15
                    refine v_tswD cx (vals := [(0 : Int32), (1 : Int32), (2 : Int32), (3 : Int32), (4 : Int32), (5 : Int32)]) (tgt := 153) dX0_count_80 (List.forall_mem_cons.mpr ⟨c7, List.forall_mem_cons.mpr ⟨c8, List.forall_mem_cons.mpr ⟨c10, List.forall_mem_cons.mpr ⟨c13, List.forall_mem_cons.mpr ⟨c14, List.forall_mem_cons.mpr ⟨c15, fun _ h9 => absurd h9 List.not_mem_nil⟩⟩⟩⟩⟩⟩) (by decide +kernel) ⟨by decide, by decide⟩ rfl ?_
                    refine v_iconst (pc := 153) cx dX0_count_153 ic_m1 ?_
                    exact v_iret cx rfl dX0_count_154 ⟨Nat.le_of_ble_eq_true rfl, Nat.le_of_ble_eq_true rfl⟩ ⟨rfl, h⟩
      · replace h := h.2 c6
        refine v_aload_n (pc := 62) cx dX0_count_62 rfl 0 rfl ?_
        refine v_iload_n (pc := 63) cx dX0_count_63 rfl 1 rfl ?_
        refine v_bipush (pc := 64) cx dX0_count_64 bc_100 ?_
        refine v_isub (pc := 66) cx dX0_count_66 ?_
        refine v_runp_i (pc := 67) cx (kcq718_X0 cx (c_X0_isUsed l D cA sz0 H0 M ((x1 - (100 : Int32)))  _ sh h) ⟨Nat.le_of_ble_eq_true rfl, Nat.le_of_ble_eq_true rfl⟩ (sh.k k_0) (As := [.int (x1 - (100 : Int32))]) rfl rfl (Nat.le_of_ble_eq_true rfl) dX0_count_67 ⟨Nat.le_of_ble_eq_true rfl, Nat.le_of_ble_eq_true rfl⟩) (fun a16 hq => ?_)
        replace h := hq
        refine v_if_eq (pc := 70) cx dX0_count_70 (tgt := 77) rfl (fun c17 => ?_) (fun c17 => ?_)
        · replace h := h.1 c17
          refine v_iconst (pc := 77) cx dX0_count_77 ic_0 ?_
          exact v_iret cx rfl dX0_count_78 ⟨Nat.le_of_ble_eq_true rfl, Nat.le_of_ble_eq_true rfl⟩ ⟨rfl, h⟩
        · replace h := h.2 c17
          refine v_iconst (pc := 73) cx dX0_count_73 ic_1 ?_
          refine v_goto (pc := 74) cx dX0_count_74 (tgt := 78) rfl ?_
          exact v_iret cx rfl dX0_count_78 ⟨Nat.le_of_ble_eq_true rfl, Nat.le_of_ble_eq_true rfl⟩ ⟨rfl, h⟩
    · replace h := h.2 c4
      refine v_aload_n (pc := 38) cx dX0_count_38 rfl 0 rfl ?_
      refine gq273_X0 (pc := 39) cx dX0_count_39 (sh.k k_0) (v_some (sh.r r_0_0) ?_)
      refine v_iload_n (pc := 42) cx dX0_count_42 rfl 1 rfl ?_
      refine v_bipush (pc := 43) cx dX0_count_43 bc_60 ?_
      refine v_isub (pc := 45) cx dX0_count_45 ?_
      obtain ⟨b18, h⟩ := h
      refine v_aald107 (pc := 46) cx dX0_count_46 (sh.k k_1) (sh.l k_1 l_1) b18 (v_some (sh.r (f_1 (lt_in b18))) ?_)
      refine gq259_X5 (pc := 47) cx dX0_count_47 (sh.k (fk_1 (lt_in b18))) ?_
      exact v_iret cx rfl dX0_count_50 ⟨Nat.le_of_ble_eq_true rfl, Nat.le_of_ble_eq_true rfl⟩ ⟨rfl, h⟩
  · replace h := h.2 c2
    refine v_aload_n (pc := 11) cx dX0_count_11 rfl 0 rfl ?_
    refine gq273_X0 (pc := 12) cx dX0_count_12 (sh.k k_0) (v_some (sh.r r_0_0) ?_)
    refine v_iload_n (pc := 15) cx dX0_count_15 rfl 1 rfl ?_
    refine v_bipush (pc := 16) cx dX0_count_16 bc_20 ?_
    refine v_isub (pc := 18) cx dX0_count_18 ?_
    obtain ⟨b19, h⟩ := h
    refine v_aald107 (pc := 19) cx dX0_count_19 (sh.k k_1) (sh.l k_1 l_1) b19 (v_some (sh.r (f_1 (lt_in b19))) ?_)
    refine gq257_X5 (pc := 20) cx dX0_count_20 (sh.k (fk_1 (lt_in b19))) (v_some (sh.r (fr_1 (lt_in b19))) ?_)
    refine gq196_X2 (pc := 23) cx dX0_count_23 (sh.k (isLn_w (lt_in b19)).1) ?_
    exact v_iret cx rfl dX0_count_26 ⟨Nat.le_of_ble_eq_true rfl, Nat.le_of_ble_eq_true rfl⟩ ⟨rfl, h⟩
/-! LetterHeaps.isStep(II)Z -/
def m_X0_isStep (x1 : Int32) (x2 : Int32) (M : WM)  (Q : Int32 → Prop) : Prop := (vp_in x1 40 ∧ (vp_in x2 40 ∧ (((268435456 : Int32) ≤ (wI M ((10 + x1.toNatClampNeg)) x2.toNatClampNeg) → Q ((0 : Int32))) ∧ (¬ (268435456 : Int32) ≤ (wI M ((10 + x1.toNatClampNeg)) x2.toNatClampNeg) → Q ((1 : Int32))))))
theorem c_X0_isStep (l : Launch) (D : va_G) (cA : Nat → ClassId) (sz0 : Nat) (H0 : Heap) (M : WM) (x1 : Int32) (x2 : Int32)   (Q : Int32 → Prop) (sh : Shp M) (h : m_X0_isStep x1 x2 M  Q) : Met l yX0_isStep (ws_ yX0_isStep cX0_isStep 3 (some .boolean)) ({ frames := 0, cells := 0, slots := 0, locals := 0 } : Room) (PcW D cA sz0 H0 [.ref (sz0 + 0), .int x1, .int x2] M) (QW_i D cA sz0 H0 (fun r M' => M' = M ∧ Q r)) 0 0 (Aw sz0) := by
  replace h : (vp_in x1 40 ∧ (vp_in x2 40 ∧ (((268435456 : Int32) ≤ (wI M ((10 + x1.toNatClampNeg)) x2.toNatClampNeg) → Q ((0 : Int32))) ∧ (¬ (268435456 : Int32) ≤ (wI M ((10 + x1.toNatClampNeg)) x2.toNatClampNeg) → Q ((1 : Int32)))))) := h
  refine Met.ofV (by decide +kernel) (Nat.le_of_ble_eq_true rfl) ?_
  intro p e s m args below meth c cx hnm
  replace cx : Cx p s m args meth c cX0_isStep 3 RX0 (some .boolean) D cA sz0 H0 := cx
  refine v_sub (lv' := [(0, .ref (sz0 + 0)), (1, .int x1), (2, .int x2)]) [0, 1, 2] rfl ?_
  refine v_aload_n (pc := 0) cx dX0_isStep_0 rfl 0 rfl ?_
  refine gq286_X0 (pc := 1) cx dX0_isStep_1 (sh.k k_0) (v_some (sh.r r_0_11) ?_)
  refine v_iload_n (pc := 4) cx dX0_isStep_4 rfl 1 rfl ?_
  obtain ⟨b1, h⟩ := h
  refine v_aald104 (pc := 5) cx dX0_isStep_5 (sh.k k_9) (sh.l k_9 l_9) b1 (v_some (sh.r (f_9 (lt_in b1))) ?_)
  refine v_iload_n (pc := 6) cx dX0_isStep_6 rfl 2 rfl ?_
  obtain ⟨b2, h⟩ := h
  refine v_iald (pc := 7) cx dX0_isStep_7 (sh.k (fk_9 (lt_in b1))) (sh.l (fk_9 (lt_in b1)) (fl_9 (lt_in b1))) b2 ?_
  refine v_ldc (pc := 8) cx dX0_isStep_8 q717 ?_
  refine v_icmp_ge (pc := 10) cx dX0_isStep_10 (tgt := 17) rfl (fun c3 => ?_) (fun c3 => ?_)
  · replace h := h.1 c3
    refine v_iconst (pc := 17) cx dX0_isStep_17 ic_0 ?_
    exact v_zret cx rfl (Or.inl rfl) dX0_isStep_18 ⟨Nat.le_of_ble_eq_true rfl, Nat.le_of_ble_eq_true rfl⟩ ⟨rfl, h⟩
  · replace h := h.2 c3
    refine v_iconst (pc := 13) cx dX0_isStep_13 ic_1 ?_
    refine v_goto (pc := 14) cx dX0_isStep_14 (tgt := 18) rfl ?_
    exact v_zret cx rfl (Or.inr rfl) dX0_isStep_18 ⟨Nat.le_of_ble_eq_true rfl, Nat.le_of_ble_eq_true rfl⟩ ⟨rfl, h⟩
/-! LetterHeaps.stepsFrom(I)I -/
def m_X0_stepsFrom_l4   (x1 : Int32) (M : WM)  (Q : Int32 → Prop) : Nat → Int32 → Int32 → Prop
  | 0, _, _ => False
  | n + 1, x2, x3 => (((wI M 0 3) ≤ x3 → Q x2) ∧ (¬ (wI M 0 3) ≤ x3 → (m_X0_isStep x1 x3 M (fun (a2 : Int32) => ((a2 = 0 → (∀ z4 : Int32, z4 = (x2 + (0 : Int32)) → (∀ z5 : Int32, z5 = x3 + (1 : Int32) → m_X0_stepsFrom_l4 x1 M Q n z4 z5))) ∧ (¬ a2 = 0 → (∀ z6 : Int32, z6 = (x2 + (1 : Int32)) → (∀ z7 : Int32, z7 = x3 + (1 : Int32) → m_X0_stepsFrom_l4 x1 M Q n z6 z7))))))))
theorem w_X0_stepsFrom_l4 {p : Program} {l : Launch} {e : Env} {s : State} {m : MethodId} {args : Array Value} {below : List Frame} {meth : Method} {c : Code} {D : va_G} {cA : Nat → ClassId} {sz0 : Nat} {H0 : Heap}  {x1 : Int32} {M : WM} {Q : Int32 → Prop}  (cx : Cx p s m args meth c cX0_stepsFrom 4 RX0 (some .int) D cA sz0 H0)    (sh : Shp M) : ∀ (n : Nat) (x2 : Int32) (x3 : Int32) , m_X0_stepsFrom_l4 x1 M Q n x2 x3 → V p l e ({ frames := 1, cells := 0, slots := 0, locals := 22 } : Room) s m args below meth c 4 D cA sz0 H0 0 0 (MQ below (QW_i D cA sz0 H0 (fun r M' => M' = M ∧ Q r)) args s 0 0 (Aw sz0)) 4 [(0, .ref (sz0 + 0)), (1, .int x1), (2, .int x2), (3, .int x3)] [] M := by
  intro n
  induction n with
  | zero => intro x2 x3 h; exact h.elim
  | succ n ih =>
    intro x2 x3 h
    replace h : (((wI M 0 3) ≤ x3 → Q x2) ∧ (¬ (wI M 0 3) ≤ x3 → (m_X0_isStep x1 x3 M (fun (a2 : Int32) => ((a2 = 0 → (∀ z4 : Int32, z4 = (x2 + (0 : Int32)) → (∀ z5 : Int32, z5 = x3 + (1 : Int32) → m_X0_stepsFrom_l4 x1 M Q n z4 z5))) ∧ (¬ a2 = 0 → (∀ z6 : Int32, z6 = (x2 + (1 : Int32)) → (∀ z7 : Int32, z7 = x3 + (1 : Int32) → m_X0_stepsFrom_l4 x1 M Q n z6 z7)))))))) := h
    refine v_iload_n (pc := 4) cx dX0_stepsFrom_4 rfl 3 rfl ?_
    refine v_aload_n (pc := 5) cx dX0_stepsFrom_5 rfl 0 rfl ?_
    refine gq278_X0 (pc := 6) cx dX0_stepsFrom_6 (sh.k k_0) ?_
    refine v_icmp_ge (pc := 9) cx dX0_stepsFrom_9 (tgt := 35) rfl (fun c1 => ?_) (fun c1 => ?_)
    · replace h := h.1 c1
      refine v_iload_n (pc := 35) cx dX0_stepsFrom_35 rfl 2 rfl ?_
      exact v_iret cx rfl dX0_stepsFrom_36 ⟨Nat.le_of_ble_eq_true rfl, Nat.le_of_ble_eq_true rfl⟩ ⟨rfl, h⟩
    · replace h := h.2 c1
      refine v_iload_n (pc := 12) cx dX0_stepsFrom_12 rfl 2 rfl ?_
      refine v_aload_n (pc := 13) cx dX0_stepsFrom_13 rfl 0 rfl ?_
      refine v_iload_n (pc := 14) cx dX0_stepsFrom_14 rfl 1 rfl ?_
      refine v_iload_n (pc := 15) cx dX0_stepsFrom_15 rfl 3 rfl ?_
      refine v_runp_i (pc := 16) cx (kcq808_X0 cx (c_X0_isStep l D cA sz0 H0 M x1 x3  _ sh h) ⟨Nat.le_of_ble_eq_true rfl, Nat.le_of_ble_eq_true rfl⟩ (sh.k k_0) (As := [.int x1, .int x3]) rfl rfl (Nat.le_of_ble_eq_true rfl) dX0_stepsFrom_16 ⟨Nat.le_of_ble_eq_true rfl, Nat.le_of_ble_eq_true rfl⟩) (fun a2 hq => ?_)
      replace h := hq
      refine v_if_eq (pc := 19) cx dX0_stepsFrom_19 (tgt := 26) rfl (fun c3 => ?_) (fun c3 => ?_)
      · replace h := h.1 c3
        refine v_iconst (pc := 26) cx dX0_stepsFrom_26 ic_0 ?_
        refine v_iadd (pc := 27) cx dX0_stepsFrom_27 ?_
        refine v_topi (fun z4 ez4 => ?_)
        replace h := h z4 ez4
        refine v_istore_n (pc := 28) cx dX0_stepsFrom_28 rfl (Nat.le_of_ble_eq_true rfl) (lv' := [(2, .int z4), (0, .ref (sz0 + 0)), (1, .int x1), (3, .int x3)]) rfl ?_
        refine nm_x (x3 + (1 : Int32)) (fun z5 ez5 => ?_)
        replace h := h z5 ez5
        refine v_iinc (pc := 29) cx dX0_stepsFrom_29 (q := 3) rfl ((ii_1 _).trans ez5.symm) (Nat.le_of_ble_eq_true rfl) (lv' := [(3, .int z5), (2, .int z4), (0, .ref (sz0 + 0)), (1, .int x1)]) rfl ?_
        refine v_goto (pc := 32) cx dX0_stepsFrom_32 (tgt := 4) rfl ?_
        refine v_sub (lv' := [(0, .ref (sz0 + 0)), (1, .int x1), (2, .int z4), (3, .int z5)]) [2, 3, 1, 0] rfl ?_
        exact ih z4 z5 h
      · replace h := h.2 c3
        refine v_iconst (pc := 22) cx dX0_stepsFrom_22 ic_1 ?_
        refine v_goto (pc := 23) cx dX0_stepsFrom_23 (tgt := 27) rfl ?_
        refine v_iadd (pc := 27) cx dX0_stepsFrom_27 ?_
        refine v_topi (fun z6 ez6 => ?_)
        replace h := h z6 ez6
        refine v_istore_n (pc := 28) cx dX0_stepsFrom_28 rfl (Nat.le_of_ble_eq_true rfl) (lv' := [(2, .int z6), (0, .ref (sz0 + 0)), (1, .int x1), (3, .int x3)]) rfl ?_
        refine nm_x (x3 + (1 : Int32)) (fun z7 ez7 => ?_)
        replace h := h z7 ez7
        refine v_iinc (pc := 29) cx dX0_stepsFrom_29 (q := 3) rfl ((ii_1 _).trans ez7.symm) (Nat.le_of_ble_eq_true rfl) (lv' := [(3, .int z7), (2, .int z6), (0, .ref (sz0 + 0)), (1, .int x1)]) rfl ?_
        refine v_goto (pc := 32) cx dX0_stepsFrom_32 (tgt := 4) rfl ?_
        refine v_sub (lv' := [(0, .ref (sz0 + 0)), (1, .int x1), (2, .int z6), (3, .int z7)]) [2, 3, 1, 0] rfl ?_
        exact ih z6 z7 h
def m_X0_stepsFrom (x1 : Int32) (M : WM)  (Q : Int32 → Prop) : Prop := (∃ n0, m_X0_stepsFrom_l4 x1 M Q n0 ((0 : Int32)) ((0 : Int32)))
theorem c_X0_stepsFrom (l : Launch) (D : va_G) (cA : Nat → ClassId) (sz0 : Nat) (H0 : Heap) (M : WM) (x1 : Int32)   (Q : Int32 → Prop) (sh : Shp M) (h : m_X0_stepsFrom x1 M  Q) : Met l yX0_stepsFrom (ws_ yX0_stepsFrom cX0_stepsFrom 4 (some .int)) ({ frames := 1, cells := 0, slots := 0, locals := 22 } : Room) (PcW D cA sz0 H0 [.ref (sz0 + 0), .int x1] M) (QW_i D cA sz0 H0 (fun r M' => M' = M ∧ Q r)) 0 0 (Aw sz0) := by
  replace h : (∃ n0, m_X0_stepsFrom_l4 x1 M Q n0 ((0 : Int32)) ((0 : Int32))) := h
  refine Met.ofV (by decide +kernel) (Nat.le_of_ble_eq_true rfl) ?_
  intro p e s m args below meth c cx hnm
  replace cx : Cx p s m args meth c cX0_stepsFrom 4 RX0 (some .int) D cA sz0 H0 := cx
  refine v_sub (lv' := [(0, .ref (sz0 + 0)), (1, .int x1)]) [0, 1] rfl ?_
  refine v_iconst (pc := 0) cx dX0_stepsFrom_0 ic_0 ?_
  refine v_istore_n (pc := 1) cx dX0_stepsFrom_1 rfl (Nat.le_of_ble_eq_true rfl) (lv' := [(2, .int (0 : Int32)), (0, .ref (sz0 + 0)), (1, .int x1)]) rfl ?_
  refine v_iconst (pc := 2) cx dX0_stepsFrom_2 ic_0 ?_
  refine v_istore_n (pc := 3) cx dX0_stepsFrom_3 rfl (Nat.le_of_ble_eq_true rfl) (lv' := [(3, .int (0 : Int32)), (2, .int (0 : Int32)), (0, .ref (sz0 + 0)), (1, .int x1)]) rfl ?_
  refine v_sub (lv' := [(0, .ref (sz0 + 0)), (1, .int x1), (2, .int (0 : Int32)), (3, .int (0 : Int32))]) [2, 3, 1, 0] rfl ?_
  obtain ⟨n0, h⟩ := h
  exact w_X0_stepsFrom_l4 cx sh n0 ((0 : Int32)) ((0 : Int32)) h
/-! LetterHeaps.stepTo(II)I -/
def m_X0_stepTo_l5   (x1 : Int32) (M : WM)  (Q : Int32 → Prop) : Nat → Int32 → Int32 → Prop
  | 0, _, _ => False
  | n + 1, x3, x4 => (((wI M 0 3) ≤ x4 → Q x1) ∧ (¬ (wI M 0 3) ≤ x4 → (m_X0_isStep x1 x4 M (fun (a2 : Int32) => ((a2 = 0 → (∀ z7 : Int32, z7 = x4 + (1 : Int32) → m_X0_stepTo_l5 x1 M Q n x3 z7)) ∧ (¬ a2 = 0 → ((x3 = 0 → Q x4) ∧ (¬ x3 = 0 → (∀ z5 : Int32, z5 = x3 + ((-1) : Int32) → (∀ z6 : Int32, z6 = x4 + (1 : Int32) → m_X0_stepTo_l5 x1 M Q n z5 z6))))))))))
theorem w_X0_stepTo_l5 {p : Program} {l : Launch} {e : Env} {s : State} {m : MethodId} {args : Array Value} {below : List Frame} {meth : Method} {c : Code} {D : va_G} {cA : Nat → ClassId} {sz0 : Nat} {H0 : Heap}  {x1 : Int32} {M : WM} {Q : Int32 → Prop}  (cx : Cx p s m args meth c cX0_stepTo 5 RX0 (some .int) D cA sz0 H0)    (sh : Shp M) : ∀ (n : Nat) (x3 : Int32) (x4 : Int32) , m_X0_stepTo_l5 x1 M Q n x3 x4 → V p l e ({ frames := 1, cells := 0, slots := 0, locals := 22 } : Room) s m args below meth c 5 D cA sz0 H0 0 0 (MQ below (QW_i D cA sz0 H0 (fun r M' => M' = M ∧ Q r)) args s 0 0 (Aw sz0)) 5 [(0, .ref (sz0 + 0)), (1, .int x1), (3, .int x3), (4, .int x4)] [] M := by
  intro n
  induction n with
  | zero => intro x3 x4 h; exact h.elim
  | succ n ih =>
    intro x3 x4 h
    replace h : (((wI M 0 3) ≤ x4 → Q x1) ∧ (¬ (wI M 0 3) ≤ x4 → (m_X0_isStep x1 x4 M (fun (a2 : Int32) => ((a2 = 0 → (∀ z7 : Int32, z7 = x4 + (1 : Int32) → m_X0_stepTo_l5 x1 M Q n x3 z7)) ∧ (¬ a2 = 0 → ((x3 = 0 → Q x4) ∧ (¬ x3 = 0 → (∀ z5 : Int32, z5 = x3 + ((-1) : Int32) → (∀ z6 : Int32, z6 = x4 + (1 : Int32) → m_X0_stepTo_l5 x1 M Q n z5 z6)))))))))) := h
    refine v_iload (pc := 5) cx dX0_stepTo_5 3 rfl ?_
    refine v_aload_n (pc := 7) cx dX0_stepTo_7 rfl 0 rfl ?_
    refine gq278_X0 (pc := 8) cx dX0_stepTo_8 (sh.k k_0) ?_
    refine v_icmp_ge (pc := 11) cx dX0_stepTo_11 (tgt := 43) rfl (fun c1 => ?_) (fun c1 => ?_)
    · replace h := h.1 c1
      refine v_iload_n (pc := 43) cx dX0_stepTo_43 rfl 1 rfl ?_
      exact v_iret cx rfl dX0_stepTo_44 ⟨Nat.le_of_ble_eq_true rfl, Nat.le_of_ble_eq_true rfl⟩ ⟨rfl, h⟩
    · replace h := h.2 c1
      refine v_aload_n (pc := 14) cx dX0_stepTo_14 rfl 0 rfl ?_
      refine v_iload_n (pc := 15) cx dX0_stepTo_15 rfl 1 rfl ?_
      refine v_iload (pc := 16) cx dX0_stepTo_16 3 rfl ?_
      refine v_runp_i (pc := 18) cx (kcq808_X0 cx (c_X0_isStep l D cA sz0 H0 M x1 x4  _ sh h) ⟨Nat.le_of_ble_eq_true rfl, Nat.le_of_ble_eq_true rfl⟩ (sh.k k_0) (As := [.int x1, .int x4]) rfl rfl (Nat.le_of_ble_eq_true rfl) dX0_stepTo_18 ⟨Nat.le_of_ble_eq_true rfl, Nat.le_of_ble_eq_true rfl⟩) (fun a2 hq => ?_)
      replace h := hq
      refine v_if_ne (pc := 21) cx dX0_stepTo_21 (tgt := 27) rfl (fun c3 => ?_) (fun c3 => ?_)
      · replace h := h.2 c3
        refine v_iload_n (pc := 27) cx dX0_stepTo_27 rfl 2 rfl ?_
        refine v_if_ne (pc := 28) cx dX0_stepTo_28 (tgt := 34) rfl (fun c4 => ?_) (fun c4 => ?_)
        · replace h := h.2 c4
          refine nm_x (x3 + ((-1) : Int32)) (fun z5 ez5 => ?_)
          replace h := h z5 ez5
          refine v_iinc (pc := 34) cx dX0_stepTo_34 (q := 2) rfl ((ii_m1 _).trans ez5.symm) (Nat.le_of_ble_eq_true rfl) (lv' := [(3, .int z5), (0, .ref (sz0 + 0)), (1, .int x1), (4, .int x4)]) rfl ?_
          refine nm_x (x4 + (1 : Int32)) (fun z6 ez6 => ?_)
          replace h := h z6 ez6
          refine v_iinc (pc := 37) cx dX0_stepTo_37 (q := 3) rfl ((ii_1 _).trans ez6.symm) (Nat.le_of_ble_eq_true rfl) (lv' := [(4, .int z6), (3, .int z5), (0, .ref (sz0 + 0)), (1, .int x1)]) rfl ?_
          refine v_goto (pc := 40) cx dX0_stepTo_40 (tgt := 5) rfl ?_
          refine v_sub (lv' := [(0, .ref (sz0 + 0)), (1, .int x1), (3, .int z5), (4, .int z6)]) [2, 3, 1, 0] rfl ?_
          exact ih z5 z6 h
        · replace h := h.1 c4
          refine v_iload (pc := 31) cx dX0_stepTo_31 3 rfl ?_
          exact v_iret cx rfl dX0_stepTo_33 ⟨Nat.le_of_ble_eq_true rfl, Nat.le_of_ble_eq_true rfl⟩ ⟨rfl, h⟩
      · replace h := h.1 c3
        refine v_goto (pc := 24) cx dX0_stepTo_24 (tgt := 37) rfl ?_
        refine nm_x (x4 + (1 : Int32)) (fun z7 ez7 => ?_)
        replace h := h z7 ez7
        refine v_iinc (pc := 37) cx dX0_stepTo_37 (q := 3) rfl ((ii_1 _).trans ez7.symm) (Nat.le_of_ble_eq_true rfl) (lv' := [(4, .int z7), (0, .ref (sz0 + 0)), (1, .int x1), (3, .int x3)]) rfl ?_
        refine v_goto (pc := 40) cx dX0_stepTo_40 (tgt := 5) rfl ?_
        refine v_sub (lv' := [(0, .ref (sz0 + 0)), (1, .int x1), (3, .int x3), (4, .int z7)]) [1, 2, 3, 0] rfl ?_
        exact ih x3 z7 h
def m_X0_stepTo (x1 : Int32) (x2 : Int32) (M : WM)  (Q : Int32 → Prop) : Prop := (∃ n0, m_X0_stepTo_l5 x1 M Q n0 x2 ((0 : Int32)))
theorem c_X0_stepTo (l : Launch) (D : va_G) (cA : Nat → ClassId) (sz0 : Nat) (H0 : Heap) (M : WM) (x1 : Int32) (x2 : Int32)   (Q : Int32 → Prop) (sh : Shp M) (h : m_X0_stepTo x1 x2 M  Q) : Met l yX0_stepTo (ws_ yX0_stepTo cX0_stepTo 5 (some .int)) ({ frames := 1, cells := 0, slots := 0, locals := 22 } : Room) (PcW D cA sz0 H0 [.ref (sz0 + 0), .int x1, .int x2] M) (QW_i D cA sz0 H0 (fun r M' => M' = M ∧ Q r)) 0 0 (Aw sz0) := by
  replace h : (∃ n0, m_X0_stepTo_l5 x1 M Q n0 x2 ((0 : Int32))) := h
  refine Met.ofV (by decide +kernel) (Nat.le_of_ble_eq_true rfl) ?_
  intro p e s m args below meth c cx hnm
  replace cx : Cx p s m args meth c cX0_stepTo 5 RX0 (some .int) D cA sz0 H0 := cx
  refine v_sub (lv' := [(0, .ref (sz0 + 0)), (1, .int x1), (2, .int x2)]) [0, 1, 2] rfl ?_
  refine v_iload_n (pc := 0) cx dX0_stepTo_0 rfl 2 rfl ?_
  refine v_istore_n (pc := 1) cx dX0_stepTo_1 rfl (Nat.le_of_ble_eq_true rfl) (lv' := [(3, .int x2), (0, .ref (sz0 + 0)), (1, .int x1), (2, .int x2)]) rfl ?_
  refine v_iconst (pc := 2) cx dX0_stepTo_2 ic_0 ?_
  refine v_istore (pc := 3) cx dX0_stepTo_3 (Nat.le_of_ble_eq_true rfl) (lv' := [(4, .int (0 : Int32)), (3, .int x2), (0, .ref (sz0 + 0)), (1, .int x1), (2, .int x2)]) rfl ?_
  refine v_sub (lv' := [(0, .ref (sz0 + 0)), (1, .int x1), (3, .int x2), (4, .int (0 : Int32))]) [2, 3, 1, 0] rfl ?_
  obtain ⟨n0, h⟩ := h
  exact w_X0_stepTo_l5 cx sh n0 x2 ((0 : Int32)) h
/-! java/lang/Long.bitCount(J)I -/
def m_J6_bitCount (x0 : Int64)   (Q : Int32 → Prop) : Prop := (∀ z1 : Int64, z1 = (x0 - ((x0.toUInt64 >>> (((1 : Int32)).toInt64.toUInt64 &&& Int64.toUInt64 63)).toInt64 &&& (6148914691236517205 : Int64))) → (∀ z2 : Int64, z2 = ((z1 &&& (3689348814741910323 : Int64)) + ((z1.toUInt64 >>> (((2 : Int32)).toInt64.toUInt64 &&& Int64.toUInt64 63)).toInt64 &&& (3689348814741910323 : Int64))) → (∀ z3 : Int64, z3 = ((z2 + (z2.toUInt64 >>> (((4 : Int32)).toInt64.toUInt64 &&& Int64.toUInt64 63)).toInt64) &&& (1085102592571150095 : Int64)) → (∀ z4 : Int64, z4 = (z3 + (z3.toUInt64 >>> (((8 : Int32)).toInt64.toUInt64 &&& Int64.toUInt64 63)).toInt64) → (∀ z5 : Int64, z5 = (z4 + (z4.toUInt64 >>> (((16 : Int32)).toInt64.toUInt64 &&& Int64.toUInt64 63)).toInt64) → (∀ z6 : Int64, z6 = (z5 + (z5.toUInt64 >>> (((32 : Int32)).toInt64.toUInt64 &&& Int64.toUInt64 63)).toInt64) → Q ((z6.toInt32 &&& (127 : Int32)))))))))
theorem c_J6_bitCount (l : Launch) (D : va_G) (cA : Nat → ClassId) (sz0 : Nat) (H0 : Heap) (M : WM) (x0 : Int64)   (Q : Int32 → Prop)  (h : m_J6_bitCount x0   Q) : Met l yJ6_bitCount (ws_ yJ6_bitCount cJ6_bitCount 2 (some .int)) ({ frames := 0, cells := 0, slots := 0, locals := 0 } : Room) (PcW D cA sz0 H0 [.long x0] M) (QW_i D cA sz0 H0 (fun r M' => M' = M ∧ Q r)) 0 0 (Aw sz0) := by
  replace h : (∀ z1 : Int64, z1 = (x0 - ((x0.toUInt64 >>> (((1 : Int32)).toInt64.toUInt64 &&& Int64.toUInt64 63)).toInt64 &&& (6148914691236517205 : Int64))) → (∀ z2 : Int64, z2 = ((z1 &&& (3689348814741910323 : Int64)) + ((z1.toUInt64 >>> (((2 : Int32)).toInt64.toUInt64 &&& Int64.toUInt64 63)).toInt64 &&& (3689348814741910323 : Int64))) → (∀ z3 : Int64, z3 = ((z2 + (z2.toUInt64 >>> (((4 : Int32)).toInt64.toUInt64 &&& Int64.toUInt64 63)).toInt64) &&& (1085102592571150095 : Int64)) → (∀ z4 : Int64, z4 = (z3 + (z3.toUInt64 >>> (((8 : Int32)).toInt64.toUInt64 &&& Int64.toUInt64 63)).toInt64) → (∀ z5 : Int64, z5 = (z4 + (z4.toUInt64 >>> (((16 : Int32)).toInt64.toUInt64 &&& Int64.toUInt64 63)).toInt64) → (∀ z6 : Int64, z6 = (z5 + (z5.toUInt64 >>> (((32 : Int32)).toInt64.toUInt64 &&& Int64.toUInt64 63)).toInt64) → Q ((z6.toInt32 &&& (127 : Int32))))))))) := h
  refine Met.ofV (by decide +kernel) (Nat.le_of_ble_eq_true rfl) ?_
  intro p e s m args below meth c cx hnm
  replace cx : Cx p s m args meth c cJ6_bitCount 2 RJ6 (some .int) D cA sz0 H0 := cx
  refine v_sub (lv' := [(0, .long x0)]) [0] rfl ?_
  refine v_lload_n (pc := 0) cx dJ6_bitCount_0 rfl 0 rfl ?_
  refine v_lload_n (pc := 1) cx dJ6_bitCount_1 rfl 0 rfl ?_
  refine v_iconst (pc := 2) cx dJ6_bitCount_2 ic_1 ?_
  refine v_lushr (pc := 3) cx dJ6_bitCount_3 ?_
  refine v_ldc2 (pc := 4) cx dJ6_bitCount_4 q885 ?_
  refine v_land (pc := 7) cx dJ6_bitCount_7 ?_
  refine v_lsub (pc := 8) cx dJ6_bitCount_8 ?_
  refine v_topl (fun z1 ez1 => ?_)
  replace h := h z1 ez1
  refine v_lstore_n (pc := 9) cx dJ6_bitCount_9 rfl (Nat.le_of_ble_eq_true rfl) (lv' := [(0, .long z1)]) rfl ?_
  refine v_lload_n (pc := 10) cx dJ6_bitCount_10 rfl 0 rfl ?_
  refine v_ldc2 (pc := 11) cx dJ6_bitCount_11 q886 ?_
  refine v_land (pc := 14) cx dJ6_bitCount_14 ?_
  refine v_lload_n (pc := 15) cx dJ6_bitCount_15 rfl 0 rfl ?_
  refine v_iconst (pc := 16) cx dJ6_bitCount_16 ic_2 ?_
  refine v_lushr (pc := 17) cx dJ6_bitCount_17 ?_
  refine v_ldc2 (pc := 18) cx dJ6_bitCount_18 q886 ?_
  refine v_land (pc := 21) cx dJ6_bitCount_21 ?_
  refine v_ladd (pc := 22) cx dJ6_bitCount_22 ?_
  refine v_topl (fun z2 ez2 => ?_)
  replace h := h z2 ez2
  refine v_lstore_n (pc := 23) cx dJ6_bitCount_23 rfl (Nat.le_of_ble_eq_true rfl) (lv' := [(0, .long z2)]) rfl ?_
  refine v_lload_n (pc := 24) cx dJ6_bitCount_24 rfl 0 rfl ?_
  refine v_lload_n (pc := 25) cx dJ6_bitCount_25 rfl 0 rfl ?_
  refine v_iconst (pc := 26) cx dJ6_bitCount_26 ic_4 ?_
  refine v_lushr (pc := 27) cx dJ6_bitCount_27 ?_
  refine v_ladd (pc := 28) cx dJ6_bitCount_28 ?_
  refine v_ldc2 (pc := 29) cx dJ6_bitCount_29 q887 ?_
  refine v_land (pc := 32) cx dJ6_bitCount_32 ?_
  refine v_topl (fun z3 ez3 => ?_)
  replace h := h z3 ez3
  refine v_lstore_n (pc := 33) cx dJ6_bitCount_33 rfl (Nat.le_of_ble_eq_true rfl) (lv' := [(0, .long z3)]) rfl ?_
  refine v_lload_n (pc := 34) cx dJ6_bitCount_34 rfl 0 rfl ?_
  refine v_lload_n (pc := 35) cx dJ6_bitCount_35 rfl 0 rfl ?_
  refine v_bipush (pc := 36) cx dJ6_bitCount_36 bc_8 ?_
  refine v_lushr (pc := 38) cx dJ6_bitCount_38 ?_
  refine v_ladd (pc := 39) cx dJ6_bitCount_39 ?_
  refine v_topl (fun z4 ez4 => ?_)
  replace h := h z4 ez4
  refine v_lstore_n (pc := 40) cx dJ6_bitCount_40 rfl (Nat.le_of_ble_eq_true rfl) (lv' := [(0, .long z4)]) rfl ?_
  refine v_lload_n (pc := 41) cx dJ6_bitCount_41 rfl 0 rfl ?_
  refine v_lload_n (pc := 42) cx dJ6_bitCount_42 rfl 0 rfl ?_
  refine v_bipush (pc := 43) cx dJ6_bitCount_43 bc_16 ?_
  refine v_lushr (pc := 45) cx dJ6_bitCount_45 ?_
  refine v_ladd (pc := 46) cx dJ6_bitCount_46 ?_
  refine v_topl (fun z5 ez5 => ?_)
  replace h := h z5 ez5
  refine v_lstore_n (pc := 47) cx dJ6_bitCount_47 rfl (Nat.le_of_ble_eq_true rfl) (lv' := [(0, .long z5)]) rfl ?_
  refine v_lload_n (pc := 48) cx dJ6_bitCount_48 rfl 0 rfl ?_
  refine v_lload_n (pc := 49) cx dJ6_bitCount_49 rfl 0 rfl ?_
  refine v_bipush (pc := 50) cx dJ6_bitCount_50 bc_32 ?_
  refine v_lushr (pc := 52) cx dJ6_bitCount_52 ?_
  refine v_ladd (pc := 53) cx dJ6_bitCount_53 ?_
  refine v_topl (fun z6 ez6 => ?_)
  replace h := h z6 ez6
  refine v_lstore_n (pc := 54) cx dJ6_bitCount_54 rfl (Nat.le_of_ble_eq_true rfl) (lv' := [(0, .long z6)]) rfl ?_
  refine v_lload_n (pc := 55) cx dJ6_bitCount_55 rfl 0 rfl ?_
  refine v_l2i (pc := 56) cx dJ6_bitCount_56 ?_
  refine v_bipush (pc := 57) cx dJ6_bitCount_57 bc_127 ?_
  refine v_iand (pc := 59) cx dJ6_bitCount_59 ?_
  exact v_iret cx rfl dJ6_bitCount_60 ⟨Nat.le_of_ble_eq_true rfl, Nat.le_of_ble_eq_true rfl⟩ ⟨rfl, h⟩
/-! LetterHeaps.draw(III)I -/
def m_X0_draw_l54   (x2 : Int32) (x3 : Int32)   (Q : Int32 → WM → Prop) : Nat → Int32 → Int64 → Int32 → WM → Prop
  | 0, _, _, _, _ => False
  | n + 1, x4, x5, x7, M => ((x2 ≤ x7 → ((x3 = 0 → Q x4 M) ∧ (¬ x3 = 0 → (m_J6_bitCount x5 (fun (a3 : Int32) => Q a3 M))))) ∧ (¬ x2 ≤ x7 → (∀ z4 : Int32, z4 = ((((25173 : Int32) * (wI M 0 6)) + (13849 : Int32)) - (((25173 : Int32) * (wI M 0 6)) + (13849 : Int32)) / (65536 : Int32) * (65536 : Int32)) → (∀ M5 : WM, M5 = wPI M 0 6 z4 → (m_X0_stepsFrom x4 M5 (fun (a6 : Int32) => ((a6 ≤ 0 → (∀ z8 : Int64, z8 = (x5 ||| ((1 : Int64) <<< (x4.toInt64 &&& 63))) → (∀ z9 : Int32, z9 = x7 + (1 : Int32) → m_X0_draw_l54 x2 x3 Q n x4 z8 z9 M5))) ∧ (¬ a6 ≤ 0 → (m_X0_stepsFrom x4 M5 (fun (a10 : Int32) => (¬ a10 = 0 ∧ (m_X0_stepTo x4 (((wI M5 0 6) - (wI M5 0 6) / a10 * a10)) M5 (fun (a12 : Int32) => (∀ z13 : Int64, z13 = (x5 ||| ((1 : Int64) <<< (a12.toInt64 &&& 63))) → (∀ z14 : Int32, z14 = x7 + (1 : Int32) → m_X0_draw_l54 x2 x3 Q n a12 z13 z14 M5)))))))))))))))
theorem w_X0_draw_l54 {p : Program} {l : Launch} {e : Env} {s : State} {m : MethodId} {args : Array Value} {below : List Frame} {meth : Method} {c : Code} {D : va_G} {cA : Nat → ClassId} {sz0 : Nat} {H0 : Heap}  {x2 : Int32} {x3 : Int32} {Q : Int32 → WM → Prop}  (cx : Cx p s m args meth c cX0_draw 8 RX0 (some .int) D cA sz0 H0)     : ∀ (n : Nat) (x4 : Int32) (x5 : Int64) (x7 : Int32)  (M : WM) (sh : Shp M), m_X0_draw_l54 x2 x3 Q n x4 x5 x7 M → V p l e ({ frames := 120, cells := 0, slots := 0, locals := 4632 } : Room) s m args below meth c 8 D cA sz0 H0 0 0 (MQ below (QW_i D cA sz0 H0 (fun r M' => Q r M' ∧ Shp M')) args s 0 0 (Aw sz0)) 54 [(0, .ref (sz0 + 0)), (2, .int x2), (3, .int x3), (4, .int x4), (5, .long x5), (7, .int x7)] [] M := by
  intro n
  induction n with
  | zero => intro x4 x5 x7 M sh h; exact h.elim
  | succ n ih =>
    intro x4 x5 x7 M sh h
    replace h : ((x2 ≤ x7 → ((x3 = 0 → Q x4 M) ∧ (¬ x3 = 0 → (m_J6_bitCount x5 (fun (a3 : Int32) => Q a3 M))))) ∧ (¬ x2 ≤ x7 → (∀ z4 : Int32, z4 = ((((25173 : Int32) * (wI M 0 6)) + (13849 : Int32)) - (((25173 : Int32) * (wI M 0 6)) + (13849 : Int32)) / (65536 : Int32) * (65536 : Int32)) → (∀ M5 : WM, M5 = wPI M 0 6 z4 → (m_X0_stepsFrom x4 M5 (fun (a6 : Int32) => ((a6 ≤ 0 → (∀ z8 : Int64, z8 = (x5 ||| ((1 : Int64) <<< (x4.toInt64 &&& 63))) → (∀ z9 : Int32, z9 = x7 + (1 : Int32) → m_X0_draw_l54 x2 x3 Q n x4 z8 z9 M5))) ∧ (¬ a6 ≤ 0 → (m_X0_stepsFrom x4 M5 (fun (a10 : Int32) => (¬ a10 = 0 ∧ (m_X0_stepTo x4 (((wI M5 0 6) - (wI M5 0 6) / a10 * a10)) M5 (fun (a12 : Int32) => (∀ z13 : Int64, z13 = (x5 ||| ((1 : Int64) <<< (a12.toInt64 &&& 63))) → (∀ z14 : Int32, z14 = x7 + (1 : Int32) → m_X0_draw_l54 x2 x3 Q n a12 z13 z14 M5))))))))))))))) := h
    refine v_iload (pc := 54) cx dX0_draw_54 5 rfl ?_
    refine v_iload_n (pc := 56) cx dX0_draw_56 rfl 1 rfl ?_
    refine v_icmp_ge (pc := 57) cx dX0_draw_57 (tgt := 123) rfl (fun c1 => ?_) (fun c1 => ?_)
    · replace h := h.1 c1
      refine v_iload_n (pc := 123) cx dX0_draw_123 rfl 2 rfl ?_
      refine v_if_ne (pc := 124) cx dX0_draw_124 (tgt := 132) rfl (fun c2 => ?_) (fun c2 => ?_)
      · replace h := h.2 c2
        refine v_lload (pc := 132) cx dX0_draw_132 4 rfl ?_
        refine v_runp_i (pc := 134) cx (kcq882_X0 cx (c_J6_bitCount l D cA sz0 H0 M x5  _ h) ⟨Nat.le_of_ble_eq_true rfl, Nat.le_of_ble_eq_true rfl⟩ (As := [.long x5]) rfl rfl (Nat.le_of_ble_eq_true rfl) dX0_draw_134 ⟨Nat.le_of_ble_eq_true rfl, Nat.le_of_ble_eq_true rfl⟩) (fun a3 hq => ?_)
        replace h := hq
        exact v_iret cx rfl dX0_draw_137 ⟨Nat.le_of_ble_eq_true rfl, Nat.le_of_ble_eq_true rfl⟩ ⟨h, sh⟩
      · replace h := h.1 c2
        refine v_iload (pc := 127) cx dX0_draw_127 3 rfl ?_
        refine v_goto (pc := 129) cx dX0_draw_129 (tgt := 137) rfl ?_
        exact v_iret cx rfl dX0_draw_137 ⟨Nat.le_of_ble_eq_true rfl, Nat.le_of_ble_eq_true rfl⟩ ⟨h, sh⟩
    · replace h := h.2 c1
      refine v_aload_n (pc := 60) cx dX0_draw_60 rfl 0 rfl ?_
      refine v_sipush (pc := 61) cx dX0_draw_61 sc_25173 ?_
      refine v_aload_n (pc := 64) cx dX0_draw_64 rfl 0 rfl ?_
      refine gq281_X0 (pc := 65) cx dX0_draw_65 (sh.k k_0) ?_
      refine v_imul (pc := 68) cx dX0_draw_68 ?_
      refine v_sipush (pc := 69) cx dX0_draw_69 sc_13849 ?_
      refine v_iadd (pc := 72) cx dX0_draw_72 ?_
      refine v_ldcw (pc := 73) cx dX0_draw_73 q978 ?_
      refine v_irem (pc := 76) cx dX0_draw_76 (by decide) ?_
      refine v_topi (fun z4 ez4 => ?_)
      replace h := h z4 ez4
      refine pq281_X0 (pc := 77) cx dX0_draw_77 (sh.k k_0) ?_
      refine v_wld (fun M5 eM5 => ?_)
      replace h := h M5 eM5
      replace sh : Shp M5 := Shp_PI sh eM5
      refine v_aload_n (pc := 80) cx dX0_draw_80 rfl 0 rfl ?_
      refine v_iload (pc := 81) cx dX0_draw_81 3 rfl ?_
      refine v_runp_i (pc := 83) cx (kcq983_X0 cx (c_X0_stepsFrom l D cA sz0 H0 M5 x4  _ sh h) ⟨Nat.le_of_ble_eq_true rfl, Nat.le_of_ble_eq_true rfl⟩ (sh.k k_0) (As := [.int x4]) rfl rfl (Nat.le_of_ble_eq_true rfl) dX0_draw_83 ⟨Nat.le_of_ble_eq_true rfl, Nat.le_of_ble_eq_true rfl⟩) (fun a6 hq => ?_)
      replace h := hq
      refine v_if_le (pc := 86) cx dX0_draw_86 (tgt := 108) rfl (fun c7 => ?_) (fun c7 => ?_)
      · replace h := h.1 c7
        refine v_lload (pc := 108) cx dX0_draw_108 4 rfl ?_
        refine v_lconst (pc := 110) cx dX0_draw_110 lc_1 ?_
        refine v_iload (pc := 111) cx dX0_draw_111 3 rfl ?_
        refine v_lshl (pc := 113) cx dX0_draw_113 ?_
        refine v_lor (pc := 114) cx dX0_draw_114 ?_
        refine v_topl (fun z8 ez8 => ?_)
        replace h := h z8 ez8
        refine v_lstore (pc := 115) cx dX0_draw_115 (Nat.le_of_ble_eq_true rfl) (lv' := [(5, .long z8), (0, .ref (sz0 + 0)), (2, .int x2), (3, .int x3), (4, .int x4), (7, .int x7)]) rfl ?_
        refine nm_x (x7 + (1 : Int32)) (fun z9 ez9 => ?_)
        replace h := h z9 ez9
        refine v_iinc (pc := 117) cx dX0_draw_117 (q := 5) rfl ((ii_1 _).trans ez9.symm) (Nat.le_of_ble_eq_true rfl) (lv' := [(7, .int z9), (5, .long z8), (0, .ref (sz0 + 0)), (2, .int x2), (3, .int x3), (4, .int x4)]) rfl ?_
        refine v_goto (pc := 120) cx dX0_draw_120 (tgt := 54) rfl ?_
        refine v_sub (lv' := [(0, .ref (sz0 + 0)), (2, .int x2), (3, .int x3), (4, .int x4), (5, .long z8), (7, .int z9)]) [2, 3, 4, 5, 1, 0] rfl ?_
        exact ih x4 z8 z9 M5 sh h
      · replace h := h.2 c7
        refine v_aload_n (pc := 89) cx dX0_draw_89 rfl 0 rfl ?_
        refine v_iload (pc := 90) cx dX0_draw_90 3 rfl ?_
        refine v_aload_n (pc := 92) cx dX0_draw_92 rfl 0 rfl ?_
        refine gq281_X0 (pc := 93) cx dX0_draw_93 (sh.k k_0) ?_
        refine v_aload_n (pc := 96) cx dX0_draw_96 rfl 0 rfl ?_
        refine v_iload (pc := 97) cx dX0_draw_97 3 rfl ?_
        refine v_runp_i (pc := 99) cx (kcq983_X0 cx (c_X0_stepsFrom l D cA sz0 H0 M5 x4  _ sh h) ⟨Nat.le_of_ble_eq_true rfl, Nat.le_of_ble_eq_true rfl⟩ (sh.k k_0) (As := [.int x4]) rfl rfl (Nat.le_of_ble_eq_true rfl) dX0_draw_99 ⟨Nat.le_of_ble_eq_true rfl, Nat.le_of_ble_eq_true rfl⟩) (fun a10 hq => ?_)
        replace h := hq
        obtain ⟨q11, h⟩ := h
        refine v_irem (pc := 102) cx dX0_draw_102 q11 ?_
        refine v_runp_i (pc := 103) cx (kcq987_X0 cx (c_X0_stepTo l D cA sz0 H0 M5 x4 (((wI M5 0 6) - (wI M5 0 6) / a10 * a10))  _ sh h) ⟨Nat.le_of_ble_eq_true rfl, Nat.le_of_ble_eq_true rfl⟩ (sh.k k_0) (As := [.int x4, .int ((wI M5 0 6) - (wI M5 0 6) / a10 * a10)]) rfl rfl (Nat.le_of_ble_eq_true rfl) dX0_draw_103 ⟨Nat.le_of_ble_eq_true rfl, Nat.le_of_ble_eq_true rfl⟩) (fun a12 hq => ?_)
        replace h := hq
        refine v_istore (pc := 106) cx dX0_draw_106 (Nat.le_of_ble_eq_true rfl) (lv' := [(4, .int a12), (0, .ref (sz0 + 0)), (2, .int x2), (3, .int x3), (5, .long x5), (7, .int x7)]) rfl ?_
        refine v_lload (pc := 108) cx dX0_draw_108 4 rfl ?_
        refine v_lconst (pc := 110) cx dX0_draw_110 lc_1 ?_
        refine v_iload (pc := 111) cx dX0_draw_111 0 rfl ?_
        refine v_lshl (pc := 113) cx dX0_draw_113 ?_
        refine v_lor (pc := 114) cx dX0_draw_114 ?_
        refine v_topl (fun z13 ez13 => ?_)
        replace h := h z13 ez13
        refine v_lstore (pc := 115) cx dX0_draw_115 (Nat.le_of_ble_eq_true rfl) (lv' := [(5, .long z13), (4, .int a12), (0, .ref (sz0 + 0)), (2, .int x2), (3, .int x3), (7, .int x7)]) rfl ?_
        refine nm_x (x7 + (1 : Int32)) (fun z14 ez14 => ?_)
        replace h := h z14 ez14
        refine v_iinc (pc := 117) cx dX0_draw_117 (q := 5) rfl ((ii_1 _).trans ez14.symm) (Nat.le_of_ble_eq_true rfl) (lv' := [(7, .int z14), (5, .long z13), (4, .int a12), (0, .ref (sz0 + 0)), (2, .int x2), (3, .int x3)]) rfl ?_
        refine v_goto (pc := 120) cx dX0_draw_120 (tgt := 54) rfl ?_
        refine v_sub (lv' := [(0, .ref (sz0 + 0)), (2, .int x2), (3, .int x3), (4, .int a12), (5, .long z13), (7, .int z14)]) [3, 4, 5, 2, 1, 0] rfl ?_
        exact ih a12 z13 z14 M5 sh h
def m_X0_draw (x1 : Int32) (x2 : Int32) (x3 : Int32) (M : WM)  (Q : Int32 → WM → Prop) : Prop := (m_X0_isWord x1 M (fun (a1 : Int32) => ((a1 = 0 → Q (((-1) : Int32)) M) ∧ (¬ a1 = 0 → (m_X0_within x2 ((1 : Int32)) ((60 : Int32)) (fun (a3 : Int32) => ((a3 = 0 → Q (((-1) : Int32)) M) ∧ (¬ a3 = 0 → (m_X0_in x3 ((2 : Int32)) (fun (a5 : Int32) => ((a5 = 0 → Q (((-1) : Int32)) M) ∧ (¬ a5 = 0 → (m_X0_isUsed x1 M (fun (a7 : Int32) => ((a7 = 0 → Q (((-2) : Int32)) M) ∧ (¬ a7 = 0 → (m_X0_lays  M (fun (M10 : WM) => (∀ z11 : Int64, z11 = ((1 : Int64) <<< (x1.toInt64 &&& 63)) → (∃ n0, m_X0_draw_l54 x2 x3 Q n0 x1 z11 ((0 : Int32)) M10))))))))))))))))))))
theorem c_X0_draw (l : Launch) (D : va_G) (cA : Nat → ClassId) (sz0 : Nat) (H0 : Heap) (M : WM) (x1 : Int32) (x2 : Int32) (x3 : Int32)   (Q : Int32 → WM → Prop) (sh : Shp M) (h : m_X0_draw x1 x2 x3 M  Q) : Met l yX0_draw (ws_ yX0_draw cX0_draw 8 (some .int)) ({ frames := 120, cells := 0, slots := 0, locals := 4632 } : Room) (PcW D cA sz0 H0 [.ref (sz0 + 0), .int x1, .int x2, .int x3] M) (QW_i D cA sz0 H0 (fun r M' => Q r M' ∧ Shp M')) 0 0 (Aw sz0) := by
  replace h : (m_X0_isWord x1 M (fun (a1 : Int32) => ((a1 = 0 → Q (((-1) : Int32)) M) ∧ (¬ a1 = 0 → (m_X0_within x2 ((1 : Int32)) ((60 : Int32)) (fun (a3 : Int32) => ((a3 = 0 → Q (((-1) : Int32)) M) ∧ (¬ a3 = 0 → (m_X0_in x3 ((2 : Int32)) (fun (a5 : Int32) => ((a5 = 0 → Q (((-1) : Int32)) M) ∧ (¬ a5 = 0 → (m_X0_isUsed x1 M (fun (a7 : Int32) => ((a7 = 0 → Q (((-2) : Int32)) M) ∧ (¬ a7 = 0 → (m_X0_lays  M (fun (M10 : WM) => (∀ z11 : Int64, z11 = ((1 : Int64) <<< (x1.toInt64 &&& 63)) → (∃ n0, m_X0_draw_l54 x2 x3 Q n0 x1 z11 ((0 : Int32)) M10)))))))))))))))))))) := h
  refine Met.ofV (by decide +kernel) (Nat.le_of_ble_eq_true rfl) ?_
  intro p e s m args below meth c cx hnm
  replace cx : Cx p s m args meth c cX0_draw 8 RX0 (some .int) D cA sz0 H0 := cx
  refine v_sub (lv' := [(0, .ref (sz0 + 0)), (1, .int x1), (2, .int x2), (3, .int x3)]) [0, 1, 2, 3] rfl ?_
  refine v_aload_n (pc := 0) cx dX0_draw_0 rfl 0 rfl ?_
  refine v_iload_n (pc := 1) cx dX0_draw_1 rfl 1 rfl ?_
  refine v_runp_i (pc := 2) cx (kcq421_X0 cx (c_X0_isWord l D cA sz0 H0 M x1  _ sh h) ⟨Nat.le_of_ble_eq_true rfl, Nat.le_of_ble_eq_true rfl⟩ (sh.k k_0) (As := [.int x1]) rfl rfl (Nat.le_of_ble_eq_true rfl) dX0_draw_2 ⟨Nat.le_of_ble_eq_true rfl, Nat.le_of_ble_eq_true rfl⟩) (fun a1 hq => ?_)
  replace h := hq
  refine v_if_eq (pc := 5) cx dX0_draw_5 (tgt := 26) rfl (fun c2 => ?_) (fun c2 => ?_)
  · replace h := h.1 c2
    refine v_iconst (pc := 26) cx dX0_draw_26 ic_m1 ?_
    exact v_iret cx rfl dX0_draw_27 ⟨Nat.le_of_ble_eq_true rfl, Nat.le_of_ble_eq_true rfl⟩ ⟨h, sh⟩
  · replace h := h.2 c2
    refine v_iload_n (pc := 8) cx dX0_draw_8 rfl 2 rfl ?_
    refine v_iconst (pc := 9) cx dX0_draw_9 ic_1 ?_
    refine v_bipush (pc := 10) cx dX0_draw_10 bc_60 ?_
    refine v_runp_i (pc := 12) cx (kcq387_X0 cx (c_X0_within l D cA sz0 H0 M x2 ((1 : Int32)) ((60 : Int32))  _ h) ⟨Nat.le_of_ble_eq_true rfl, Nat.le_of_ble_eq_true rfl⟩ (As := [.int x2, .int (1 : Int32), .int (60 : Int32)]) rfl rfl (Nat.le_of_ble_eq_true rfl) dX0_draw_12 ⟨Nat.le_of_ble_eq_true rfl, Nat.le_of_ble_eq_true rfl⟩) (fun a3 hq => ?_)
    replace h := hq
    refine v_if_eq (pc := 15) cx dX0_draw_15 (tgt := 26) rfl (fun c4 => ?_) (fun c4 => ?_)
    · replace h := h.1 c4
      refine v_iconst (pc := 26) cx dX0_draw_26 ic_m1 ?_
      exact v_iret cx rfl dX0_draw_27 ⟨Nat.le_of_ble_eq_true rfl, Nat.le_of_ble_eq_true rfl⟩ ⟨h, sh⟩
    · replace h := h.2 c4
      refine v_iload_n (pc := 18) cx dX0_draw_18 rfl 3 rfl ?_
      refine v_iconst (pc := 19) cx dX0_draw_19 ic_2 ?_
      refine v_runp_i (pc := 20) cx (kcq390_X0 cx (c_X0_in l D cA sz0 H0 M x3 ((2 : Int32))  _ h) ⟨Nat.le_of_ble_eq_true rfl, Nat.le_of_ble_eq_true rfl⟩ (As := [.int x3, .int (2 : Int32)]) rfl rfl (Nat.le_of_ble_eq_true rfl) dX0_draw_20 ⟨Nat.le_of_ble_eq_true rfl, Nat.le_of_ble_eq_true rfl⟩) (fun a5 hq => ?_)
      replace h := hq
      refine v_if_ne (pc := 23) cx dX0_draw_23 (tgt := 28) rfl (fun c6 => ?_) (fun c6 => ?_)
      · replace h := h.2 c6
        refine v_aload_n (pc := 28) cx dX0_draw_28 rfl 0 rfl ?_
        refine v_iload_n (pc := 29) cx dX0_draw_29 rfl 1 rfl ?_
        refine v_runp_i (pc := 30) cx (kcq718_X0 cx (c_X0_isUsed l D cA sz0 H0 M x1  _ sh h) ⟨Nat.le_of_ble_eq_true rfl, Nat.le_of_ble_eq_true rfl⟩ (sh.k k_0) (As := [.int x1]) rfl rfl (Nat.le_of_ble_eq_true rfl) dX0_draw_30 ⟨Nat.le_of_ble_eq_true rfl, Nat.le_of_ble_eq_true rfl⟩) (fun a7 hq => ?_)
        replace h := hq
        refine v_if_ne (pc := 33) cx dX0_draw_33 (tgt := 39) rfl (fun c8 => ?_) (fun c8 => ?_)
        · replace h := h.2 c8
          refine v_aload_n (pc := 39) cx dX0_draw_39 rfl 0 rfl ?_
          refine v_run_v (pc := 40) cx (kcq709_X0 cx (c_X0_lays l D cA sz0 H0 M   _ sh h) ⟨Nat.le_of_ble_eq_true rfl, Nat.le_of_ble_eq_true rfl⟩ (sh.k k_0) (As := []) rfl rfl (Nat.le_of_ble_eq_true rfl) dX0_draw_40 ⟨Nat.le_of_ble_eq_true rfl, Nat.le_of_ble_eq_true rfl⟩) (fun M10 hq => ?_)
          obtain ⟨h, sh⟩ := hq
          refine v_iload_n (pc := 43) cx dX0_draw_43 rfl 1 rfl ?_
          refine v_istore (pc := 44) cx dX0_draw_44 (Nat.le_of_ble_eq_true rfl) (lv' := [(4, .int x1), (0, .ref (sz0 + 0)), (1, .int x1), (2, .int x2), (3, .int x3)]) rfl ?_
          refine v_lconst (pc := 46) cx dX0_draw_46 lc_1 ?_
          refine v_iload_n (pc := 47) cx dX0_draw_47 rfl 2 rfl ?_
          refine v_lshl (pc := 48) cx dX0_draw_48 ?_
          refine v_topl (fun z11 ez11 => ?_)
          replace h := h z11 ez11
          refine v_lstore (pc := 49) cx dX0_draw_49 (Nat.le_of_ble_eq_true rfl) (lv' := [(5, .long z11), (4, .int x1), (0, .ref (sz0 + 0)), (1, .int x1), (2, .int x2), (3, .int x3)]) rfl ?_
          refine v_iconst (pc := 51) cx dX0_draw_51 ic_0 ?_
          refine v_istore (pc := 52) cx dX0_draw_52 (Nat.le_of_ble_eq_true rfl) (lv' := [(7, .int (0 : Int32)), (5, .long z11), (4, .int x1), (0, .ref (sz0 + 0)), (1, .int x1), (2, .int x2), (3, .int x3)]) rfl ?_
          refine v_sub (lv' := [(0, .ref (sz0 + 0)), (2, .int x2), (3, .int x3), (4, .int x1), (5, .long z11), (7, .int (0 : Int32))]) [3, 5, 6, 2, 1, 0] rfl ?_
          obtain ⟨n0, h⟩ := h
          exact w_X0_draw_l54 cx n0 x1 z11 ((0 : Int32)) M10 sh h
        · replace h := h.1 c8
          refine v_bipush (pc := 36) cx dX0_draw_36 bc_m2 ?_
          exact v_iret cx rfl dX0_draw_38 ⟨Nat.le_of_ble_eq_true rfl, Nat.le_of_ble_eq_true rfl⟩ ⟨h, sh⟩
      · replace h := h.1 c6
        refine v_iconst (pc := 26) cx dX0_draw_26 ic_m1 ?_
        exact v_iret cx rfl dX0_draw_27 ⟨Nat.le_of_ble_eq_true rfl, Nat.le_of_ble_eq_true rfl⟩ ⟨h, sh⟩
/-! LetterHeaps.far(I)I -/
def m_X0_far_l39  (K27 : Int32 → Int32 → Int32 → Int32 → WM → Prop) (x1 : Int32) (x5 : Int32)   (Q : Int32 → WM → Prop) : Nat → Int32 → Int32 → Int32 → Int32 → WM → Prop
  | 0, _, _, _, _, _ => False
  | n + 1, x2, x3, x4, x6, M => (((wI M 0 3) ≤ x6 → (∀ z2 : Int32, z2 = x5 + (1 : Int32) → K27 x2 x3 x4 z2 M)) ∧ (¬ (wI M 0 3) ≤ x6 → ((x5 = x6 → (∀ z4 : Int32, z4 = x6 + (1 : Int32) → m_X0_far_l39 K27 x1 x5 Q n x2 x3 x4 z4 M)) ∧ (¬ x5 = x6 → (vp_in x5 40 ∧ (vp_in x6 40 ∧ (((wI M ((133 + x5.toNatClampNeg)) x6.toNatClampNeg) = (268435456 : Int32) → (∀ z8 : Int32, z8 = x6 + (1 : Int32) → m_X0_far_l39 K27 x1 x5 Q n x2 x3 x4 z8 M)) ∧ (¬ (wI M ((133 + x5.toNatClampNeg)) x6.toNatClampNeg) = (268435456 : Int32) → (m_X0_costOf x5 x6 M (fun (a9 : Int32) => ((x4 < a9 → (m_X0_costOf x5 x6 M (fun (a11 : Int32) => (∀ z12 : Int32, z12 = x6 + (1 : Int32) → m_X0_far_l39 K27 x1 x5 Q n x5 x6 a11 z12 M)))) ∧ (¬ x4 < a9 → (∀ z13 : Int32, z13 = x6 + (1 : Int32) → m_X0_far_l39 K27 x1 x5 Q n x2 x3 x4 z13 M)))))))))))))
theorem w_X0_far_l39 {p : Program} {l : Launch} {e : Env} {s : State} {m : MethodId} {args : Array Value} {below : List Frame} {meth : Method} {c : Code} {D : va_G} {cA : Nat → ClassId} {sz0 : Nat} {H0 : Heap}  {K27 : Int32 → Int32 → Int32 → Int32 → WM → Prop} {x1 : Int32} {x5 : Int32} {Q : Int32 → WM → Prop}  (cx : Cx p s m args meth c cX0_far 7 RX0 (some .int) D cA sz0 H0)  (hK27 : ∀ (x2 : Int32) (x3 : Int32) (x4 : Int32) (x5 : Int32)  (M : WM) (sh : Shp M), K27 x2 x3 x4 x5 M → V p l e ({ frames := 120, cells := 0, slots := 0, locals := 4632 } : Room) s m args below meth c 7 D cA sz0 H0 0 0 (MQ below (QW_i D cA sz0 H0 (fun r M' => Q r M' ∧ Shp M')) args s 0 0 (Aw sz0)) 27 [(0, .ref (sz0 + 0)), (1, .int x1), (2, .int x2), (3, .int x3), (4, .int x4), (5, .int x5)] [] M)   : ∀ (n : Nat) (x2 : Int32) (x3 : Int32) (x4 : Int32) (x6 : Int32)  (M : WM) (sh : Shp M), m_X0_far_l39 K27 x1 x5 Q n x2 x3 x4 x6 M → V p l e ({ frames := 120, cells := 0, slots := 0, locals := 4632 } : Room) s m args below meth c 7 D cA sz0 H0 0 0 (MQ below (QW_i D cA sz0 H0 (fun r M' => Q r M' ∧ Shp M')) args s 0 0 (Aw sz0)) 39 [(0, .ref (sz0 + 0)), (1, .int x1), (2, .int x2), (3, .int x3), (4, .int x4), (5, .int x5), (6, .int x6)] [] M := by
  intro n
  induction n with
  | zero => intro x2 x3 x4 x6 M sh h; exact h.elim
  | succ n ih =>
    intro x2 x3 x4 x6 M sh h
    replace h : (((wI M 0 3) ≤ x6 → (∀ z2 : Int32, z2 = x5 + (1 : Int32) → K27 x2 x3 x4 z2 M)) ∧ (¬ (wI M 0 3) ≤ x6 → ((x5 = x6 → (∀ z4 : Int32, z4 = x6 + (1 : Int32) → m_X0_far_l39 K27 x1 x5 Q n x2 x3 x4 z4 M)) ∧ (¬ x5 = x6 → (vp_in x5 40 ∧ (vp_in x6 40 ∧ (((wI M ((133 + x5.toNatClampNeg)) x6.toNatClampNeg) = (268435456 : Int32) → (∀ z8 : Int32, z8 = x6 + (1 : Int32) → m_X0_far_l39 K27 x1 x5 Q n x2 x3 x4 z8 M)) ∧ (¬ (wI M ((133 + x5.toNatClampNeg)) x6.toNatClampNeg) = (268435456 : Int32) → (m_X0_costOf x5 x6 M (fun (a9 : Int32) => ((x4 < a9 → (m_X0_costOf x5 x6 M (fun (a11 : Int32) => (∀ z12 : Int32, z12 = x6 + (1 : Int32) → m_X0_far_l39 K27 x1 x5 Q n x5 x6 a11 z12 M)))) ∧ (¬ x4 < a9 → (∀ z13 : Int32, z13 = x6 + (1 : Int32) → m_X0_far_l39 K27 x1 x5 Q n x2 x3 x4 z13 M))))))))))))) := h
    refine v_iload (pc := 39) cx dX0_far_39 6 rfl ?_
    refine v_aload_n (pc := 41) cx dX0_far_41 rfl 0 rfl ?_
    refine gq278_X0 (pc := 42) cx dX0_far_42 (sh.k k_0) ?_
    refine v_icmp_ge (pc := 45) cx dX0_far_45 (tgt := 108) rfl (fun c1 => ?_) (fun c1 => ?_)
    · replace h := h.1 c1
      refine nm_x (x5 + (1 : Int32)) (fun z2 ez2 => ?_)
      replace h := h z2 ez2
      refine v_iinc (pc := 108) cx dX0_far_108 (q := 5) rfl ((ii_1 _).trans ez2.symm) (Nat.le_of_ble_eq_true rfl) (lv' := [(5, .int z2), (0, .ref (sz0 + 0)), (1, .int x1), (2, .int x2), (3, .int x3), (4, .int x4), (6, .int x6)]) rfl ?_
      refine v_goto (pc := 111) cx dX0_far_111 (tgt := 27) rfl ?_
      refine v_sub (lv' := [(0, .ref (sz0 + 0)), (1, .int x1), (2, .int x2), (3, .int x3), (4, .int x4), (5, .int z2)]) [1, 2, 3, 4, 5, 0] rfl ?_
      exact hK27 x2 x3 x4 z2 M sh h
    · replace h := h.2 c1
      refine v_iload (pc := 48) cx dX0_far_48 5 rfl ?_
      refine v_iload (pc := 50) cx dX0_far_50 6 rfl ?_
      refine v_icmp_eq (pc := 52) cx dX0_far_52 (tgt := 102) rfl (fun c3 => ?_) (fun c3 => ?_)
      · replace h := h.1 c3
        refine nm_x (x6 + (1 : Int32)) (fun z4 ez4 => ?_)
        replace h := h z4 ez4
        refine v_iinc (pc := 102) cx dX0_far_102 (q := 6) rfl ((ii_1 _).trans ez4.symm) (Nat.le_of_ble_eq_true rfl) (lv' := [(6, .int z4), (0, .ref (sz0 + 0)), (1, .int x1), (2, .int x2), (3, .int x3), (4, .int x4), (5, .int x5)]) rfl ?_
        refine v_goto (pc := 105) cx dX0_far_105 (tgt := 39) rfl ?_
        refine v_sub (lv' := [(0, .ref (sz0 + 0)), (1, .int x1), (2, .int x2), (3, .int x3), (4, .int x4), (5, .int x5), (6, .int z4)]) [1, 2, 3, 4, 5, 6, 0] rfl ?_
        exact ih x2 x3 x4 z4 M sh h
      · replace h := h.2 c3
        refine v_aload_n (pc := 55) cx dX0_far_55 rfl 0 rfl ?_
        refine gq289_X0 (pc := 56) cx dX0_far_56 (sh.k k_0) (v_some (sh.r r_0_14) ?_)
        refine v_iload (pc := 59) cx dX0_far_59 5 rfl ?_
        obtain ⟨b5, h⟩ := h
        refine v_aald104 (pc := 61) cx dX0_far_61 (sh.k k_132) (sh.l k_132 l_132) b5 (v_some (sh.r (f_132 (lt_in b5))) ?_)
        refine v_iload (pc := 62) cx dX0_far_62 6 rfl ?_
        obtain ⟨b6, h⟩ := h
        refine v_iald (pc := 64) cx dX0_far_64 (sh.k (fk_132 (lt_in b5))) (sh.l (fk_132 (lt_in b5)) (fl_132 (lt_in b5))) b6 ?_
        refine v_ldc (pc := 65) cx dX0_far_65 q717 ?_
        refine v_icmp_eq (pc := 67) cx dX0_far_67 (tgt := 102) rfl (fun c7 => ?_) (fun c7 => ?_)
        · replace h := h.1 c7
          refine nm_x (x6 + (1 : Int32)) (fun z8 ez8 => ?_)
          replace h := h z8 ez8
          refine v_iinc (pc := 102) cx dX0_far_102 (q := 6) rfl ((ii_1 _).trans ez8.symm) (Nat.le_of_ble_eq_true rfl) (lv' := [(6, .int z8), (0, .ref (sz0 + 0)), (1, .int x1), (2, .int x2), (3, .int x3), (4, .int x4), (5, .int x5)]) rfl ?_
          refine v_goto (pc := 105) cx dX0_far_105 (tgt := 39) rfl ?_
          refine v_sub (lv' := [(0, .ref (sz0 + 0)), (1, .int x1), (2, .int x2), (3, .int x3), (4, .int x4), (5, .int x5), (6, .int z8)]) [1, 2, 3, 4, 5, 6, 0] rfl ?_
          exact ih x2 x3 x4 z8 M sh h
        · replace h := h.2 c7
          refine v_aload_n (pc := 70) cx dX0_far_70 rfl 0 rfl ?_
          refine v_iload (pc := 71) cx dX0_far_71 5 rfl ?_
          refine v_iload (pc := 73) cx dX0_far_73 6 rfl ?_
          refine v_runp_i (pc := 75) cx (kcq816_X0 cx (c_X0_costOf l D cA sz0 H0 M x5 x6  _ sh h) ⟨Nat.le_of_ble_eq_true rfl, Nat.le_of_ble_eq_true rfl⟩ (sh.k k_0) (As := [.int x5, .int x6]) rfl rfl (Nat.le_of_ble_eq_true rfl) dX0_far_75 ⟨Nat.le_of_ble_eq_true rfl, Nat.le_of_ble_eq_true rfl⟩) (fun a9 hq => ?_)
          replace h := hq
          refine v_iload (pc := 78) cx dX0_far_78 4 rfl ?_
          refine v_icmp_gt (pc := 80) cx dX0_far_80 (tgt := 86) rfl (fun c10 => ?_) (fun c10 => ?_)
          · replace h := h.1 c10
            refine v_iload (pc := 86) cx dX0_far_86 5 rfl ?_
            refine v_istore_n (pc := 88) cx dX0_far_88 rfl (Nat.le_of_ble_eq_true rfl) (lv' := [(2, .int x5), (0, .ref (sz0 + 0)), (1, .int x1), (3, .int x3), (4, .int x4), (5, .int x5), (6, .int x6)]) rfl ?_
            refine v_iload (pc := 89) cx dX0_far_89 6 rfl ?_
            refine v_istore_n (pc := 91) cx dX0_far_91 rfl (Nat.le_of_ble_eq_true rfl) (lv' := [(3, .int x6), (2, .int x5), (0, .ref (sz0 + 0)), (1, .int x1), (4, .int x4), (5, .int x5), (6, .int x6)]) rfl ?_
            refine v_aload_n (pc := 92) cx dX0_far_92 rfl 2 rfl ?_
            refine v_iload (pc := 93) cx dX0_far_93 5 rfl ?_
            refine v_iload (pc := 95) cx dX0_far_95 6 rfl ?_
            refine v_runp_i (pc := 97) cx (kcq816_X0 cx (c_X0_costOf l D cA sz0 H0 M x5 x6  _ sh h) ⟨Nat.le_of_ble_eq_true rfl, Nat.le_of_ble_eq_true rfl⟩ (sh.k k_0) (As := [.int x5, .int x6]) rfl rfl (Nat.le_of_ble_eq_true rfl) dX0_far_97 ⟨Nat.le_of_ble_eq_true rfl, Nat.le_of_ble_eq_true rfl⟩) (fun a11 hq => ?_)
            replace h := hq
            refine v_istore (pc := 100) cx dX0_far_100 (Nat.le_of_ble_eq_true rfl) (lv' := [(4, .int a11), (3, .int x6), (2, .int x5), (0, .ref (sz0 + 0)), (1, .int x1), (5, .int x5), (6, .int x6)]) rfl ?_
            refine nm_x (x6 + (1 : Int32)) (fun z12 ez12 => ?_)
            replace h := h z12 ez12
            refine v_iinc (pc := 102) cx dX0_far_102 (q := 6) rfl ((ii_1 _).trans ez12.symm) (Nat.le_of_ble_eq_true rfl) (lv' := [(6, .int z12), (4, .int a11), (3, .int x6), (2, .int x5), (0, .ref (sz0 + 0)), (1, .int x1), (5, .int x5)]) rfl ?_
            refine v_goto (pc := 105) cx dX0_far_105 (tgt := 39) rfl ?_
            refine v_sub (lv' := [(0, .ref (sz0 + 0)), (1, .int x1), (2, .int x5), (3, .int x6), (4, .int a11), (5, .int x5), (6, .int z12)]) [4, 5, 3, 2, 1, 6, 0] rfl ?_
            exact ih x5 x6 a11 z12 M sh h
          · replace h := h.2 c10
            refine v_goto (pc := 83) cx dX0_far_83 (tgt := 102) rfl ?_
            refine nm_x (x6 + (1 : Int32)) (fun z13 ez13 => ?_)
            replace h := h z13 ez13
            refine v_iinc (pc := 102) cx dX0_far_102 (q := 6) rfl ((ii_1 _).trans ez13.symm) (Nat.le_of_ble_eq_true rfl) (lv' := [(6, .int z13), (0, .ref (sz0 + 0)), (1, .int x1), (2, .int x2), (3, .int x3), (4, .int x4), (5, .int x5)]) rfl ?_
            refine v_goto (pc := 105) cx dX0_far_105 (tgt := 39) rfl ?_
            refine v_sub (lv' := [(0, .ref (sz0 + 0)), (1, .int x1), (2, .int x2), (3, .int x3), (4, .int x4), (5, .int x5), (6, .int z13)]) [1, 2, 3, 4, 5, 6, 0] rfl ?_
            exact ih x2 x3 x4 z13 M sh h
def m_X0_far_l27   (x1 : Int32)   (Q : Int32 → WM → Prop) : Nat → Int32 → Int32 → Int32 → Int32 → WM → Prop
  | 0, _, _, _, _, _ => False
  | n + 1, x2, x3, x4, x5, M => (((wI M 0 3) ≤ x5 → ((x1 = 0 → Q x4 M) ∧ (¬ x1 = 0 → ((x1 = (1 : Int32) → Q x2 M) ∧ (¬ x1 = (1 : Int32) → Q x3 M))))) ∧ (¬ (wI M 0 3) ≤ x5 → (∃ n0, m_X0_far_l39 (fun x2' x3' x4' x5' M' => m_X0_far_l27 x1 Q n x2' x3' x4' x5' M') x1 x5 Q n0 x2 x3 x4 ((0 : Int32)) M)))
theorem w_X0_far_l27 {p : Program} {l : Launch} {e : Env} {s : State} {m : MethodId} {args : Array Value} {below : List Frame} {meth : Method} {c : Code} {D : va_G} {cA : Nat → ClassId} {sz0 : Nat} {H0 : Heap}  {x1 : Int32} {Q : Int32 → WM → Prop}  (cx : Cx p s m args meth c cX0_far 7 RX0 (some .int) D cA sz0 H0)     : ∀ (n : Nat) (x2 : Int32) (x3 : Int32) (x4 : Int32) (x5 : Int32)  (M : WM) (sh : Shp M), m_X0_far_l27 x1 Q n x2 x3 x4 x5 M → V p l e ({ frames := 120, cells := 0, slots := 0, locals := 4632 } : Room) s m args below meth c 7 D cA sz0 H0 0 0 (MQ below (QW_i D cA sz0 H0 (fun r M' => Q r M' ∧ Shp M')) args s 0 0 (Aw sz0)) 27 [(0, .ref (sz0 + 0)), (1, .int x1), (2, .int x2), (3, .int x3), (4, .int x4), (5, .int x5)] [] M := by
  intro n
  induction n with
  | zero => intro x2 x3 x4 x5 M sh h; exact h.elim
  | succ n ih =>
    intro x2 x3 x4 x5 M sh h
    replace h : (((wI M 0 3) ≤ x5 → ((x1 = 0 → Q x4 M) ∧ (¬ x1 = 0 → ((x1 = (1 : Int32) → Q x2 M) ∧ (¬ x1 = (1 : Int32) → Q x3 M))))) ∧ (¬ (wI M 0 3) ≤ x5 → (∃ n0, m_X0_far_l39 (fun x2' x3' x4' x5' M' => m_X0_far_l27 x1 Q n x2' x3' x4' x5' M') x1 x5 Q n0 x2 x3 x4 ((0 : Int32)) M))) := h
    refine v_iload (pc := 27) cx dX0_far_27 5 rfl ?_
    refine v_aload_n (pc := 29) cx dX0_far_29 rfl 0 rfl ?_
    refine gq278_X0 (pc := 30) cx dX0_far_30 (sh.k k_0) ?_
    refine v_icmp_ge (pc := 33) cx dX0_far_33 (tgt := 114) rfl (fun c1 => ?_) (fun c1 => ?_)
    · replace h := h.1 c1
      refine v_iload_n (pc := 114) cx dX0_far_114 rfl 1 rfl ?_
      refine v_if_ne (pc := 115) cx dX0_far_115 (tgt := 123) rfl (fun c2 => ?_) (fun c2 => ?_)
      · replace h := h.2 c2
        refine v_iload_n (pc := 123) cx dX0_far_123 rfl 1 rfl ?_
        refine v_iconst (pc := 124) cx dX0_far_124 ic_1 ?_
        refine v_icmp_ne (pc := 125) cx dX0_far_125 (tgt := 132) rfl (fun c3 => ?_) (fun c3 => ?_)
        · replace h := h.2 c3
          refine v_iload_n (pc := 132) cx dX0_far_132 rfl 3 rfl ?_
          exact v_iret cx rfl dX0_far_133 ⟨Nat.le_of_ble_eq_true rfl, Nat.le_of_ble_eq_true rfl⟩ ⟨h, sh⟩
        · replace h := h.1 c3
          refine v_iload_n (pc := 128) cx dX0_far_128 rfl 2 rfl ?_
          refine v_goto (pc := 129) cx dX0_far_129 (tgt := 133) rfl ?_
          exact v_iret cx rfl dX0_far_133 ⟨Nat.le_of_ble_eq_true rfl, Nat.le_of_ble_eq_true rfl⟩ ⟨h, sh⟩
      · replace h := h.1 c2
        refine v_iload (pc := 118) cx dX0_far_118 4 rfl ?_
        refine v_goto (pc := 120) cx dX0_far_120 (tgt := 133) rfl ?_
        exact v_iret cx rfl dX0_far_133 ⟨Nat.le_of_ble_eq_true rfl, Nat.le_of_ble_eq_true rfl⟩ ⟨h, sh⟩
    · replace h := h.2 c1
      refine v_iconst (pc := 36) cx dX0_far_36 ic_0 ?_
      refine v_istore (pc := 37) cx dX0_far_37 (Nat.le_of_ble_eq_true rfl) (lv' := [(6, .int (0 : Int32)), (0, .ref (sz0 + 0)), (1, .int x1), (2, .int x2), (3, .int x3), (4, .int x4), (5, .int x5)]) rfl ?_
      refine v_sub (lv' := [(0, .ref (sz0 + 0)), (1, .int x1), (2, .int x2), (3, .int x3), (4, .int x4), (5, .int x5), (6, .int (0 : Int32))]) [1, 2, 3, 4, 5, 6, 0] rfl ?_
      obtain ⟨n0, h⟩ := h
      exact w_X0_far_l39 cx ih n0 x2 x3 x4 ((0 : Int32)) M sh h
def m_X0_far (x1 : Int32) (M : WM)  (Q : Int32 → WM → Prop) : Prop := (m_X0_in x1 ((3 : Int32)) (fun (a1 : Int32) => ((a1 = 0 → Q (((-1) : Int32)) M) ∧ (¬ a1 = 0 → (m_X0_lays  M (fun (M4 : WM) => (∃ n0, m_X0_far_l27 x1 Q n0 (((-2) : Int32)) (((-2) : Int32)) (((-2) : Int32)) ((0 : Int32)) M4)))))))
theorem c_X0_far (l : Launch) (D : va_G) (cA : Nat → ClassId) (sz0 : Nat) (H0 : Heap) (M : WM) (x1 : Int32)   (Q : Int32 → WM → Prop) (sh : Shp M) (h : m_X0_far x1 M  Q) : Met l yX0_far (ws_ yX0_far cX0_far 7 (some .int)) ({ frames := 120, cells := 0, slots := 0, locals := 4632 } : Room) (PcW D cA sz0 H0 [.ref (sz0 + 0), .int x1] M) (QW_i D cA sz0 H0 (fun r M' => Q r M' ∧ Shp M')) 0 0 (Aw sz0) := by
  replace h : (m_X0_in x1 ((3 : Int32)) (fun (a1 : Int32) => ((a1 = 0 → Q (((-1) : Int32)) M) ∧ (¬ a1 = 0 → (m_X0_lays  M (fun (M4 : WM) => (∃ n0, m_X0_far_l27 x1 Q n0 (((-2) : Int32)) (((-2) : Int32)) (((-2) : Int32)) ((0 : Int32)) M4))))))) := h
  refine Met.ofV (by decide +kernel) (Nat.le_of_ble_eq_true rfl) ?_
  intro p e s m args below meth c cx hnm
  replace cx : Cx p s m args meth c cX0_far 7 RX0 (some .int) D cA sz0 H0 := cx
  refine v_sub (lv' := [(0, .ref (sz0 + 0)), (1, .int x1)]) [0, 1] rfl ?_
  refine v_iload_n (pc := 0) cx dX0_far_0 rfl 1 rfl ?_
  refine v_iconst (pc := 1) cx dX0_far_1 ic_3 ?_
  refine v_runp_i (pc := 2) cx (kcq390_X0 cx (c_X0_in l D cA sz0 H0 M x1 ((3 : Int32))  _ h) ⟨Nat.le_of_ble_eq_true rfl, Nat.le_of_ble_eq_true rfl⟩ (As := [.int x1, .int (3 : Int32)]) rfl rfl (Nat.le_of_ble_eq_true rfl) dX0_far_2 ⟨Nat.le_of_ble_eq_true rfl, Nat.le_of_ble_eq_true rfl⟩) (fun a1 hq => ?_)
  replace h := hq
  refine v_if_ne (pc := 5) cx dX0_far_5 (tgt := 10) rfl (fun c2 => ?_) (fun c2 => ?_)
  · replace h := h.2 c2
    refine v_aload_n (pc := 10) cx dX0_far_10 rfl 0 rfl ?_
    refine v_run_v (pc := 11) cx (kcq709_X0 cx (c_X0_lays l D cA sz0 H0 M   _ sh h) ⟨Nat.le_of_ble_eq_true rfl, Nat.le_of_ble_eq_true rfl⟩ (sh.k k_0) (As := []) rfl rfl (Nat.le_of_ble_eq_true rfl) dX0_far_11 ⟨Nat.le_of_ble_eq_true rfl, Nat.le_of_ble_eq_true rfl⟩) (fun M4 hq => ?_)
    obtain ⟨h, sh⟩ := hq
    refine v_bipush (pc := 14) cx dX0_far_14 bc_m2 ?_
    refine v_istore_n (pc := 16) cx dX0_far_16 rfl (Nat.le_of_ble_eq_true rfl) (lv' := [(2, .int ((-2) : Int32)), (0, .ref (sz0 + 0)), (1, .int x1)]) rfl ?_
    refine v_bipush (pc := 17) cx dX0_far_17 bc_m2 ?_
    refine v_istore_n (pc := 19) cx dX0_far_19 rfl (Nat.le_of_ble_eq_true rfl) (lv' := [(3, .int ((-2) : Int32)), (2, .int ((-2) : Int32)), (0, .ref (sz0 + 0)), (1, .int x1)]) rfl ?_
    refine v_bipush (pc := 20) cx dX0_far_20 bc_m2 ?_
    refine v_istore (pc := 22) cx dX0_far_22 (Nat.le_of_ble_eq_true rfl) (lv' := [(4, .int ((-2) : Int32)), (3, .int ((-2) : Int32)), (2, .int ((-2) : Int32)), (0, .ref (sz0 + 0)), (1, .int x1)]) rfl ?_
    refine v_iconst (pc := 24) cx dX0_far_24 ic_0 ?_
    refine v_istore (pc := 25) cx dX0_far_25 (Nat.le_of_ble_eq_true rfl) (lv' := [(5, .int (0 : Int32)), (4, .int ((-2) : Int32)), (3, .int ((-2) : Int32)), (2, .int ((-2) : Int32)), (0, .ref (sz0 + 0)), (1, .int x1)]) rfl ?_
    refine v_sub (lv' := [(0, .ref (sz0 + 0)), (1, .int x1), (2, .int ((-2) : Int32)), (3, .int ((-2) : Int32)), (4, .int ((-2) : Int32)), (5, .int (0 : Int32))]) [4, 5, 3, 2, 1, 0] rfl ?_
    obtain ⟨n0, h⟩ := h
    exact w_X0_far_l27 cx n0 (((-2) : Int32)) (((-2) : Int32)) (((-2) : Int32)) ((0 : Int32)) M4 sh h
  · replace h := h.1 c2
    refine v_iconst (pc := 8) cx dX0_far_8 ic_m1 ?_
    exact v_iret cx rfl dX0_far_9 ⟨Nat.le_of_ble_eq_true rfl, Nat.le_of_ble_eq_true rfl⟩ ⟨h, sh⟩
/-! LetterHeaps.farBy(II)I -/
def m_X0_farBy (x1 : Int32) (x2 : Int32) (M : WM)  (Q : Int32 → WM → Prop) : Prop := (m_X0_areTwo x1 x2 M (fun (a1 : Int32) => ((a1 = 0 → Q (((-1) : Int32)) M) ∧ (¬ a1 = 0 → (vp_in x1 40 ∧ (vp_in x2 40 ∧ (m_X0_farOf ((5325 + 3 * x1.toNatClampNeg)) ((5325 + 3 * x2.toNatClampNeg)) M (fun (a5 : Int32) (M6 : WM) => Q a5 M6))))))))
theorem c_X0_farBy (l : Launch) (D : va_G) (cA : Nat → ClassId) (sz0 : Nat) (H0 : Heap) (M : WM) (x1 : Int32) (x2 : Int32)   (Q : Int32 → WM → Prop) (sh : Shp M) (h : m_X0_farBy x1 x2 M  Q) : Met l yX0_farBy (ws_ yX0_farBy cX0_farBy 3 (some .int)) ({ frames := 3, cells := 0, slots := 0, locals := 64 } : Room) (PcW D cA sz0 H0 [.ref (sz0 + 0), .int x1, .int x2] M) (QW_i D cA sz0 H0 (fun r M' => Q r M' ∧ Shp M')) 0 0 (Aw sz0) := by
  replace h : (m_X0_areTwo x1 x2 M (fun (a1 : Int32) => ((a1 = 0 → Q (((-1) : Int32)) M) ∧ (¬ a1 = 0 → (vp_in x1 40 ∧ (vp_in x2 40 ∧ (m_X0_farOf ((5325 + 3 * x1.toNatClampNeg)) ((5325 + 3 * x2.toNatClampNeg)) M (fun (a5 : Int32) (M6 : WM) => Q a5 M6)))))))) := h
  refine Met.ofV (by decide +kernel) (Nat.le_of_ble_eq_true rfl) ?_
  intro p e s m args below meth c cx hnm
  replace cx : Cx p s m args meth c cX0_farBy 3 RX0 (some .int) D cA sz0 H0 := cx
  refine v_sub (lv' := [(0, .ref (sz0 + 0)), (1, .int x1), (2, .int x2)]) [0, 1, 2] rfl ?_
  refine v_aload_n (pc := 0) cx dX0_farBy_0 rfl 0 rfl ?_
  refine v_iload_n (pc := 1) cx dX0_farBy_1 rfl 1 rfl ?_
  refine v_iload_n (pc := 2) cx dX0_farBy_2 rfl 2 rfl ?_
  refine v_runp_i (pc := 3) cx (kcq705_X0 cx (c_X0_areTwo l D cA sz0 H0 M x1 x2  _ sh h) ⟨Nat.le_of_ble_eq_true rfl, Nat.le_of_ble_eq_true rfl⟩ (sh.k k_0) (As := [.int x1, .int x2]) rfl rfl (Nat.le_of_ble_eq_true rfl) dX0_farBy_3 ⟨Nat.le_of_ble_eq_true rfl, Nat.le_of_ble_eq_true rfl⟩) (fun a1 hq => ?_)
  replace h := hq
  refine v_if_eq (pc := 6) cx dX0_farBy_6 (tgt := 34) rfl (fun c2 => ?_) (fun c2 => ?_)
  · replace h := h.1 c2
    refine v_iconst (pc := 34) cx dX0_farBy_34 ic_m1 ?_
    exact v_iret cx rfl dX0_farBy_35 ⟨Nat.le_of_ble_eq_true rfl, Nat.le_of_ble_eq_true rfl⟩ ⟨h, sh⟩
  · replace h := h.2 c2
    refine v_aload_n (pc := 9) cx dX0_farBy_9 rfl 0 rfl ?_
    refine v_aload_n (pc := 10) cx dX0_farBy_10 rfl 0 rfl ?_
    refine gq273_X0 (pc := 11) cx dX0_farBy_11 (sh.k k_0) (v_some (sh.r r_0_0) ?_)
    refine v_iload_n (pc := 14) cx dX0_farBy_14 rfl 1 rfl ?_
    obtain ⟨b3, h⟩ := h
    refine v_aald107 (pc := 15) cx dX0_farBy_15 (sh.k k_1) (sh.l k_1 l_1) b3 (v_some (sh.r (f_1 (lt_in b3))) ?_)
    refine gq257_X5 (pc := 16) cx dX0_farBy_16 (sh.k (fk_1 (lt_in b3))) (v_some (sh.r (fr_1 (lt_in b3))) ?_)
    refine v_aload_n (pc := 19) cx dX0_farBy_19 rfl 0 rfl ?_
    refine gq273_X0 (pc := 20) cx dX0_farBy_20 (sh.k k_0) (v_some (sh.r r_0_0) ?_)
    refine v_iload_n (pc := 23) cx dX0_farBy_23 rfl 2 rfl ?_
    obtain ⟨b4, h⟩ := h
    refine v_aald107 (pc := 24) cx dX0_farBy_24 (sh.k k_1) (sh.l k_1 l_1) b4 (v_some (sh.r (f_1 (lt_in b4))) ?_)
    refine gq257_X5 (pc := 25) cx dX0_farBy_25 (sh.k (fk_1 (lt_in b4))) (v_some (sh.r (fr_1 (lt_in b4))) ?_)
    refine v_run_i (pc := 28) cx (kcq940_X0 cx (c_X0_farOf l D cA sz0 H0 M ((5325 + 3 * x1.toNatClampNeg)) ((5325 + 3 * x2.toNatClampNeg)) (isLn_w (lt_in b3)) (isLn_w (lt_in b4)) _ sh h) ⟨Nat.le_of_ble_eq_true rfl, Nat.le_of_ble_eq_true rfl⟩ (sh.k k_0) (As := [.ref (sz0 + (5325 + 3 * x1.toNatClampNeg)), .ref (sz0 + (5325 + 3 * x2.toNatClampNeg))]) rfl rfl (Nat.le_of_ble_eq_true rfl) dX0_farBy_28 ⟨Nat.le_of_ble_eq_true rfl, Nat.le_of_ble_eq_true rfl⟩) (fun a5 M6 hq => ?_)
    obtain ⟨h, sh⟩ := hq
    refine v_goto (pc := 31) cx dX0_farBy_31 (tgt := 35) rfl ?_
    exact v_iret cx rfl dX0_farBy_35 ⟨Nat.le_of_ble_eq_true rfl, Nat.le_of_ble_eq_true rfl⟩ ⟨h, sh⟩
/-! LetterHeaps.push(I)V -/
def m_X0_push_l3   (x1 : Int32)   (Q : WM → Prop) : Nat → Int32 → WM → Prop
  | 0, _, _ => False
  | n + 1, x2, M => ((x2 < 0 → Q M) ∧ (¬ x2 < 0 → (vp_in ((wI M 0 5)) 200 ∧ (∀ M3 : WM, M3 = wPI M 2 ((wI M 0 5)).toNatClampNeg (((x1 >>> (x2 &&& 31))).toInt8.toInt32).toInt8.toInt32 → (∀ M4 : WM, M4 = wPI M3 0 5 (((wI M3 0 5) + (1 : Int32))) → (∀ z5 : Int32, z5 = x2 + ((-8) : Int32) → m_X0_push_l3 x1 Q n z5 M4))))))
theorem w_X0_push_l3 {p : Program} {l : Launch} {e : Env} {s : State} {m : MethodId} {args : Array Value} {below : List Frame} {meth : Method} {c : Code} {D : va_G} {cA : Nat → ClassId} {sz0 : Nat} {H0 : Heap}  {x1 : Int32} {Q : WM → Prop}  (cx : Cx p s m args meth c cX0_push 3 RX0 none D cA sz0 H0)     : ∀ (n : Nat) (x2 : Int32)  (M : WM) (sh : Shp M), m_X0_push_l3 x1 Q n x2 M → V p l e ({ frames := 0, cells := 0, slots := 0, locals := 0 } : Room) s m args below meth c 3 D cA sz0 H0 0 0 (MQ below (QW_v D cA sz0 H0 (fun M' => Q M' ∧ Shp M')) args s 0 0 (Aw sz0)) 3 [(0, .ref (sz0 + 0)), (1, .int x1), (2, .int x2)] [] M := by
  intro n
  induction n with
  | zero => intro x2 M sh h; exact h.elim
  | succ n ih =>
    intro x2 M sh h
    replace h : ((x2 < 0 → Q M) ∧ (¬ x2 < 0 → (vp_in ((wI M 0 5)) 200 ∧ (∀ M3 : WM, M3 = wPI M 2 ((wI M 0 5)).toNatClampNeg (((x1 >>> (x2 &&& 31))).toInt8.toInt32).toInt8.toInt32 → (∀ M4 : WM, M4 = wPI M3 0 5 (((wI M3 0 5) + (1 : Int32))) → (∀ z5 : Int32, z5 = x2 + ((-8) : Int32) → m_X0_push_l3 x1 Q n z5 M4)))))) := h
    refine v_iload_n (pc := 3) cx dX0_push_3 rfl 2 rfl ?_
    refine v_if_lt (pc := 4) cx dX0_push_4 (tgt := 36) rfl (fun c1 => ?_) (fun c1 => ?_)
    · replace h := h.1 c1
      exact v_vret cx rfl dX0_push_36 ⟨Nat.le_of_ble_eq_true rfl, Nat.le_of_ble_eq_true rfl⟩ ⟨h, sh⟩
    · replace h := h.2 c1
      refine v_aload_n (pc := 7) cx dX0_push_7 rfl 0 rfl ?_
      refine gq275_X0 (pc := 8) cx dX0_push_8 (sh.k k_0) (v_some (sh.r r_0_1) ?_)
      refine v_aload_n (pc := 11) cx dX0_push_11 rfl 0 rfl ?_
      refine gq280_X0 (pc := 12) cx dX0_push_12 (sh.k k_0) ?_
      refine v_iload_n (pc := 15) cx dX0_push_15 rfl 1 rfl ?_
      refine v_iload_n (pc := 16) cx dX0_push_16 rfl 2 rfl ?_
      refine v_ishr (pc := 17) cx dX0_push_17 ?_
      refine v_i2b (pc := 18) cx dX0_push_18 ?_
      obtain ⟨b2, h⟩ := h
      refine v_bast (pc := 19) cx (y := (((x1 >>> (x2 &&& 31))).toInt8.toInt32).toInt8.toInt32) dX0_push_19 (sh.k k_2) (sh.l k_2 l_2) b2 rfl ?_
      refine v_wld (fun M3 eM3 => ?_)
      replace h := h M3 eM3
      replace sh : Shp M3 := Shp_PI sh eM3
      refine v_aload_n (pc := 20) cx dX0_push_20 rfl 0 rfl ?_
      refine v_dup (pc := 21) cx dX0_push_21 rfl ?_
      refine gq280_X0 (pc := 22) cx dX0_push_22 (sh.k k_0) ?_
      refine v_iconst (pc := 25) cx dX0_push_25 ic_1 ?_
      refine v_iadd (pc := 26) cx dX0_push_26 ?_
      refine pq280_X0 (pc := 27) cx dX0_push_27 (sh.k k_0) ?_
      refine v_wld (fun M4 eM4 => ?_)
      replace h := h M4 eM4
      replace sh : Shp M4 := Shp_PI sh eM4
      refine nm_x (x2 + ((-8) : Int32)) (fun z5 ez5 => ?_)
      replace h := h z5 ez5
      refine v_iinc (pc := 30) cx dX0_push_30 (q := 2) rfl ((ii_m8 _).trans ez5.symm) (Nat.le_of_ble_eq_true rfl) (lv' := [(2, .int z5), (0, .ref (sz0 + 0)), (1, .int x1)]) rfl ?_
      refine v_goto (pc := 33) cx dX0_push_33 (tgt := 3) rfl ?_
      refine v_sub (lv' := [(0, .ref (sz0 + 0)), (1, .int x1), (2, .int z5)]) [1, 2, 0] rfl ?_
      exact ih z5 M4 sh h
def m_X0_push (x1 : Int32) (M : WM)  (Q : WM → Prop) : Prop := (∃ n0, m_X0_push_l3 x1 Q n0 ((24 : Int32)) M)
theorem c_X0_push (l : Launch) (D : va_G) (cA : Nat → ClassId) (sz0 : Nat) (H0 : Heap) (M : WM) (x1 : Int32)   (Q : WM → Prop) (sh : Shp M) (h : m_X0_push x1 M  Q) : Met l yX0_push (ws_ yX0_push cX0_push 3 none) ({ frames := 0, cells := 0, slots := 0, locals := 0 } : Room) (PcW D cA sz0 H0 [.ref (sz0 + 0), .int x1] M) (QW_v D cA sz0 H0 (fun M' => Q M' ∧ Shp M')) 0 0 (Aw sz0) := by
  replace h : (∃ n0, m_X0_push_l3 x1 Q n0 ((24 : Int32)) M) := h
  refine Met.ofV (by decide +kernel) (Nat.le_of_ble_eq_true rfl) ?_
  intro p e s m args below meth c cx hnm
  replace cx : Cx p s m args meth c cX0_push 3 RX0 none D cA sz0 H0 := cx
  refine v_sub (lv' := [(0, .ref (sz0 + 0)), (1, .int x1)]) [0, 1] rfl ?_
  refine v_bipush (pc := 0) cx dX0_push_0 bc_24 ?_
  refine v_istore_n (pc := 2) cx dX0_push_2 rfl (Nat.le_of_ble_eq_true rfl) (lv' := [(2, .int (24 : Int32)), (0, .ref (sz0 + 0)), (1, .int x1)]) rfl ?_
  refine v_sub (lv' := [(0, .ref (sz0 + 0)), (1, .int x1), (2, .int (24 : Int32))]) [1, 2, 0] rfl ?_
  obtain ⟨n0, h⟩ := h
  exact w_X0_push_l3 cx n0 ((24 : Int32)) M sh h
/-! LetterHeaps.feed(IIIII)I -/
def m_X0_feed (x1 : Int32) (x2 : Int32) (x3 : Int32) (x4 : Int32) (x5 : Int32) (M : WM)  (Q : Int32 → WM → Prop) : Prop := ((((wI M 0 5) + (20 : Int32)) ≤ (200 : Int32) → (m_X0_push x1 M (fun (M3 : WM) => (m_X0_push x2 M3 (fun (M5 : WM) => (m_X0_push x3 M5 (fun (M7 : WM) => (m_X0_push x4 M7 (fun (M9 : WM) => (m_X0_push x5 M9 (fun (M11 : WM) => Q ((wI M11 0 5)) M11))))))))))) ∧ (¬ ((wI M 0 5) + (20 : Int32)) ≤ (200 : Int32) → Q (((-1) : Int32)) M))
theorem c_X0_feed (l : Launch) (D : va_G) (cA : Nat → ClassId) (sz0 : Nat) (H0 : Heap) (M : WM) (x1 : Int32) (x2 : Int32) (x3 : Int32) (x4 : Int32) (x5 : Int32)   (Q : Int32 → WM → Prop) (sh : Shp M) (h : m_X0_feed x1 x2 x3 x4 x5 M  Q) : Met l yX0_feed (ws_ yX0_feed cX0_feed 6 (some .int)) ({ frames := 1, cells := 0, slots := 0, locals := 22 } : Room) (PcW D cA sz0 H0 [.ref (sz0 + 0), .int x1, .int x2, .int x3, .int x4, .int x5] M) (QW_i D cA sz0 H0 (fun r M' => Q r M' ∧ Shp M')) 0 0 (Aw sz0) := by
  replace h : ((((wI M 0 5) + (20 : Int32)) ≤ (200 : Int32) → (m_X0_push x1 M (fun (M3 : WM) => (m_X0_push x2 M3 (fun (M5 : WM) => (m_X0_push x3 M5 (fun (M7 : WM) => (m_X0_push x4 M7 (fun (M9 : WM) => (m_X0_push x5 M9 (fun (M11 : WM) => Q ((wI M11 0 5)) M11))))))))))) ∧ (¬ ((wI M 0 5) + (20 : Int32)) ≤ (200 : Int32) → Q (((-1) : Int32)) M)) := h
  refine Met.ofV (by decide +kernel) (Nat.le_of_ble_eq_true rfl) ?_
  intro p e s m args below meth c cx hnm
  replace cx : Cx p s m args meth c cX0_feed 6 RX0 (some .int) D cA sz0 H0 := cx
  refine v_sub (lv' := [(0, .ref (sz0 + 0)), (1, .int x1), (2, .int x2), (3, .int x3), (4, .int x4), (5, .int x5)]) [0, 1, 2, 3, 4, 5] rfl ?_
  refine v_aload_n (pc := 0) cx dX0_feed_0 rfl 0 rfl ?_
  refine gq280_X0 (pc := 1) cx dX0_feed_1 (sh.k k_0) ?_
  refine v_bipush (pc := 4) cx dX0_feed_4 bc_20 ?_
  refine v_iadd (pc := 6) cx dX0_feed_6 ?_
  refine v_sipush (pc := 7) cx dX0_feed_7 sc_200 ?_
  refine v_icmp_le (pc := 10) cx dX0_feed_10 (tgt := 15) rfl (fun c1 => ?_) (fun c1 => ?_)
  · replace h := h.1 c1
    refine v_aload_n (pc := 15) cx dX0_feed_15 rfl 0 rfl ?_
    refine v_iload_n (pc := 16) cx dX0_feed_16 rfl 1 rfl ?_
    refine v_run_v (pc := 17) cx (kcq379_X0 cx (c_X0_push l D cA sz0 H0 M x1  _ sh h) ⟨Nat.le_of_ble_eq_true rfl, Nat.le_of_ble_eq_true rfl⟩ (sh.k k_0) (As := [.int x1]) rfl rfl (Nat.le_of_ble_eq_true rfl) dX0_feed_17 ⟨Nat.le_of_ble_eq_true rfl, Nat.le_of_ble_eq_true rfl⟩) (fun M3 hq => ?_)
    obtain ⟨h, sh⟩ := hq
    refine v_aload_n (pc := 20) cx dX0_feed_20 rfl 0 rfl ?_
    refine v_iload_n (pc := 21) cx dX0_feed_21 rfl 2 rfl ?_
    refine v_run_v (pc := 22) cx (kcq379_X0 cx (c_X0_push l D cA sz0 H0 M3 x2  _ sh h) ⟨Nat.le_of_ble_eq_true rfl, Nat.le_of_ble_eq_true rfl⟩ (sh.k k_0) (As := [.int x2]) rfl rfl (Nat.le_of_ble_eq_true rfl) dX0_feed_22 ⟨Nat.le_of_ble_eq_true rfl, Nat.le_of_ble_eq_true rfl⟩) (fun M5 hq => ?_)
    obtain ⟨h, sh⟩ := hq
    refine v_aload_n (pc := 25) cx dX0_feed_25 rfl 0 rfl ?_
    refine v_iload_n (pc := 26) cx dX0_feed_26 rfl 3 rfl ?_
    refine v_run_v (pc := 27) cx (kcq379_X0 cx (c_X0_push l D cA sz0 H0 M5 x3  _ sh h) ⟨Nat.le_of_ble_eq_true rfl, Nat.le_of_ble_eq_true rfl⟩ (sh.k k_0) (As := [.int x3]) rfl rfl (Nat.le_of_ble_eq_true rfl) dX0_feed_27 ⟨Nat.le_of_ble_eq_true rfl, Nat.le_of_ble_eq_true rfl⟩) (fun M7 hq => ?_)
    obtain ⟨h, sh⟩ := hq
    refine v_aload_n (pc := 30) cx dX0_feed_30 rfl 0 rfl ?_
    refine v_iload (pc := 31) cx dX0_feed_31 4 rfl ?_
    refine v_run_v (pc := 33) cx (kcq379_X0 cx (c_X0_push l D cA sz0 H0 M7 x4  _ sh h) ⟨Nat.le_of_ble_eq_true rfl, Nat.le_of_ble_eq_true rfl⟩ (sh.k k_0) (As := [.int x4]) rfl rfl (Nat.le_of_ble_eq_true rfl) dX0_feed_33 ⟨Nat.le_of_ble_eq_true rfl, Nat.le_of_ble_eq_true rfl⟩) (fun M9 hq => ?_)
    obtain ⟨h, sh⟩ := hq
    refine v_aload_n (pc := 36) cx dX0_feed_36 rfl 0 rfl ?_
    refine v_iload (pc := 37) cx dX0_feed_37 5 rfl ?_
    refine v_run_v (pc := 39) cx (kcq379_X0 cx (c_X0_push l D cA sz0 H0 M9 x5  _ sh h) ⟨Nat.le_of_ble_eq_true rfl, Nat.le_of_ble_eq_true rfl⟩ (sh.k k_0) (As := [.int x5]) rfl rfl (Nat.le_of_ble_eq_true rfl) dX0_feed_39 ⟨Nat.le_of_ble_eq_true rfl, Nat.le_of_ble_eq_true rfl⟩) (fun M11 hq => ?_)
    obtain ⟨h, sh⟩ := hq
    refine v_aload_n (pc := 42) cx dX0_feed_42 rfl 0 rfl ?_
    refine gq280_X0 (pc := 43) cx dX0_feed_43 (sh.k k_0) ?_
    exact v_iret cx rfl dX0_feed_46 ⟨Nat.le_of_ble_eq_true rfl, Nat.le_of_ble_eq_true rfl⟩ ⟨h, sh⟩
  · replace h := h.2 c1
    refine v_iconst (pc := 13) cx dX0_feed_13 ic_m1 ?_
    exact v_iret cx rfl dX0_feed_14 ⟨Nat.le_of_ble_eq_true rfl, Nat.le_of_ble_eq_true rfl⟩ ⟨h, sh⟩
/-! LetterHeaps.fills(II)V -/
def m_X0_fills_j127 (Ffills : Int32 → Int32 → WM → (WM → Prop) → Prop) (K50 : Int32 → WM → Prop) (x1 : Int32) (x2 : Int32) (x3 : Int32) (x4 : Int32)   (Q : WM → Prop) (M : WM) : Prop := ((x4 = 0 → (∀ z2 : Int32, z2 = x3 + (1 : Int32) → K50 z2 M)) ∧ (¬ x4 = 0 → (Ffills x1 ((x2 + (1 : Int32))) M (fun (M4 : WM) => (∀ z5 : Int32, z5 = x3 + (1 : Int32) → K50 z5 M4)))))
theorem w_X0_fills_j127 {p : Program} {l : Launch} {e : Env} {s : State} {m : MethodId} {args : Array Value} {below : List Frame} {meth : Method} {c : Code} {D : va_G} {cA : Nat → ClassId} {sz0 : Nat} {H0 : Heap} {d : Nat} {Ffills : Int32 → Int32 → WM → (WM → Prop) → Prop} {K50 : Int32 → WM → Prop} {x1 : Int32} {x2 : Int32} {x3 : Int32} {x4 : Int32} {Q : WM → Prop}  (cx : Cx p s m args meth c cX0_fills 6 RX0 none D cA sz0 H0) (hFfills : ∀ (x1 : Int32) (x2 : Int32) (M : WM) (Q : WM → Prop) (sh : Shp M), Ffills x1 x2 M Q → Met l yX0_fills (ws_ yX0_fills cX0_fills 6 none) ({ frames := 4 + d, cells := 0, slots := 0, locals := 89 + 40 * d } : Room) (PcW D cA sz0 H0 [.ref (sz0 + 0), .int x1, .int x2] M) (QW_v D cA sz0 H0 (fun M' => Q M' ∧ Shp M')) 0 0 (Aw sz0)) (hK50 : ∀ (x3 : Int32)  (M : WM) (sh : Shp M), K50 x3 M → V p l e ({ frames := 4 + (d + 1), cells := 0, slots := 0, locals := 89 + 40 * (d + 1) } : Room) s m args below meth c 6 D cA sz0 H0 0 0 (MQ below (QW_v D cA sz0 H0 (fun M' => Q M' ∧ Shp M')) args s 0 0 (Aw sz0)) 50 [(0, .ref (sz0 + 0)), (1, .int x1), (2, .int x2), (3, .int x3)] [] M)     (M : WM) (sh : Shp M) (h : m_X0_fills_j127 Ffills K50 x1 x2 x3 x4 Q M) : V p l e ({ frames := 4 + (d + 1), cells := 0, slots := 0, locals := 89 + 40 * (d + 1) } : Room) s m args below meth c 6 D cA sz0 H0 0 0 (MQ below (QW_v D cA sz0 H0 (fun M' => Q M' ∧ Shp M')) args s 0 0 (Aw sz0)) 127 [(0, .ref (sz0 + 0)), (1, .int x1), (2, .int x2), (3, .int x3), (4, .int x4)] [] M := by
  replace h : ((x4 = 0 → (∀ z2 : Int32, z2 = x3 + (1 : Int32) → K50 z2 M)) ∧ (¬ x4 = 0 → (Ffills x1 ((x2 + (1 : Int32))) M (fun (M4 : WM) => (∀ z5 : Int32, z5 = x3 + (1 : Int32) → K50 z5 M4))))) := h
  refine v_iload (pc := 127) cx dX0_fills_127 4 rfl ?_
  refine v_if_eq (pc := 129) cx dX0_fills_129 (tgt := 140) rfl (fun c1 => ?_) (fun c1 => ?_)
  · replace h := h.1 c1
    refine nm_x (x3 + (1 : Int32)) (fun z2 ez2 => ?_)
    replace h := h z2 ez2
    refine v_iinc (pc := 140) cx dX0_fills_140 (q := 3) rfl ((ii_1 _).trans ez2.symm) (Nat.le_of_ble_eq_true rfl) (lv' := [(3, .int z2), (0, .ref (sz0 + 0)), (1, .int x1), (2, .int x2), (4, .int x4)]) rfl ?_
    refine v_goto (pc := 143) cx dX0_fills_143 (tgt := 50) rfl ?_
    refine v_sub (lv' := [(0, .ref (sz0 + 0)), (1, .int x1), (2, .int x2), (3, .int z2)]) [1, 2, 3, 0] rfl ?_
    exact hK50 z2 M sh h
  · replace h := h.2 c1
    refine v_aload_n (pc := 132) cx dX0_fills_132 rfl 0 rfl ?_
    refine v_iload_n (pc := 133) cx dX0_fills_133 rfl 1 rfl ?_
    refine v_iload_n (pc := 134) cx dX0_fills_134 rfl 2 rfl ?_
    refine v_iconst (pc := 135) cx dX0_fills_135 ic_1 ?_
    refine v_iadd (pc := 136) cx dX0_fills_136 ?_
    refine v_run_v (pc := 137) cx (kcq966_X0 cx (hFfills x1 ((x2 + (1 : Int32))) M _ sh h) ⟨by dsimp only; omega, by dsimp only; omega⟩ (sh.k k_0) (As := [.int x1, .int (x2 + (1 : Int32))]) rfl rfl (Nat.le_of_ble_eq_true rfl) dX0_fills_137 ⟨Nat.le_of_ble_eq_true rfl, Nat.le_of_ble_eq_true rfl⟩) (fun M4 hq => ?_)
    obtain ⟨h, sh⟩ := hq
    refine nm_x (x3 + (1 : Int32)) (fun z5 ez5 => ?_)
    replace h := h z5 ez5
    refine v_iinc (pc := 140) cx dX0_fills_140 (q := 3) rfl ((ii_1 _).trans ez5.symm) (Nat.le_of_ble_eq_true rfl) (lv' := [(3, .int z5), (0, .ref (sz0 + 0)), (1, .int x1), (2, .int x2), (4, .int x4)]) rfl ?_
    refine v_goto (pc := 143) cx dX0_fills_143 (tgt := 50) rfl ?_
    refine v_sub (lv' := [(0, .ref (sz0 + 0)), (1, .int x1), (2, .int x2), (3, .int z5)]) [1, 2, 3, 0] rfl ?_
    exact hK50 z5 M4 sh h
def m_X0_fills_l98 (Ffills : Int32 → Int32 → WM → (WM → Prop) → Prop) (K50 : Int32 → WM → Prop) (x1 : Int32) (x2 : Int32) (x3 : Int32)   (Q : WM → Prop) : Nat → Int32 → Int32 → WM → Prop
  | 0, _, _, _ => False
  | n + 1, x4, x5, M => ((x1 ≤ x5 → m_X0_fills_j127 Ffills K50 x1 x2 x3 x4 Q M) ∧ (¬ x1 ≤ x5 → ((x4 = 0 → m_X0_fills_j127 Ffills K50 x1 x2 x3 x4 Q M) ∧ (¬ x4 = 0 → (m_X0_canColumn x1 ((x2 + (1 : Int32))) x5 M (fun (a3 : Int32) => (∀ z4 : Int32, z4 = x5 + (1 : Int32) → m_X0_fills_l98 Ffills K50 x1 x2 x3 Q n a3 z4 M)))))))
theorem w_X0_fills_l98 {p : Program} {l : Launch} {e : Env} {s : State} {m : MethodId} {args : Array Value} {below : List Frame} {meth : Method} {c : Code} {D : va_G} {cA : Nat → ClassId} {sz0 : Nat} {H0 : Heap} {d : Nat} {Ffills : Int32 → Int32 → WM → (WM → Prop) → Prop} {K50 : Int32 → WM → Prop} {x1 : Int32} {x2 : Int32} {x3 : Int32} {Q : WM → Prop}  (cx : Cx p s m args meth c cX0_fills 6 RX0 none D cA sz0 H0) (hFfills : ∀ (x1 : Int32) (x2 : Int32) (M : WM) (Q : WM → Prop) (sh : Shp M), Ffills x1 x2 M Q → Met l yX0_fills (ws_ yX0_fills cX0_fills 6 none) ({ frames := 4 + d, cells := 0, slots := 0, locals := 89 + 40 * d } : Room) (PcW D cA sz0 H0 [.ref (sz0 + 0), .int x1, .int x2] M) (QW_v D cA sz0 H0 (fun M' => Q M' ∧ Shp M')) 0 0 (Aw sz0)) (hK50 : ∀ (x3 : Int32)  (M : WM) (sh : Shp M), K50 x3 M → V p l e ({ frames := 4 + (d + 1), cells := 0, slots := 0, locals := 89 + 40 * (d + 1) } : Room) s m args below meth c 6 D cA sz0 H0 0 0 (MQ below (QW_v D cA sz0 H0 (fun M' => Q M' ∧ Shp M')) args s 0 0 (Aw sz0)) 50 [(0, .ref (sz0 + 0)), (1, .int x1), (2, .int x2), (3, .int x3)] [] M)   : ∀ (n : Nat) (x4 : Int32) (x5 : Int32)  (M : WM) (sh : Shp M), m_X0_fills_l98 Ffills K50 x1 x2 x3 Q n x4 x5 M → V p l e ({ frames := 4 + (d + 1), cells := 0, slots := 0, locals := 89 + 40 * (d + 1) } : Room) s m args below meth c 6 D cA sz0 H0 0 0 (MQ below (QW_v D cA sz0 H0 (fun M' => Q M' ∧ Shp M')) args s 0 0 (Aw sz0)) 98 [(0, .ref (sz0 + 0)), (1, .int x1), (2, .int x2), (3, .int x3), (4, .int x4), (5, .int x5)] [] M := by
  intro n
  induction n with
  | zero => intro x4 x5 M sh h; exact h.elim
  | succ n ih =>
    intro x4 x5 M sh h
    replace h : ((x1 ≤ x5 → m_X0_fills_j127 Ffills K50 x1 x2 x3 x4 Q M) ∧ (¬ x1 ≤ x5 → ((x4 = 0 → m_X0_fills_j127 Ffills K50 x1 x2 x3 x4 Q M) ∧ (¬ x4 = 0 → (m_X0_canColumn x1 ((x2 + (1 : Int32))) x5 M (fun (a3 : Int32) => (∀ z4 : Int32, z4 = x5 + (1 : Int32) → m_X0_fills_l98 Ffills K50 x1 x2 x3 Q n a3 z4 M))))))) := h
    refine v_iload (pc := 98) cx dX0_fills_98 5 rfl ?_
    refine v_iload_n (pc := 100) cx dX0_fills_100 rfl 1 rfl ?_
    refine v_icmp_ge (pc := 101) cx dX0_fills_101 (tgt := 127) rfl (fun c1 => ?_) (fun c1 => ?_)
    · replace h := h.1 c1
      refine v_sub (lv' := [(0, .ref (sz0 + 0)), (1, .int x1), (2, .int x2), (3, .int x3), (4, .int x4)]) [0, 1, 2, 3, 4] rfl ?_
      exact w_X0_fills_j127 cx hFfills hK50 M sh h
    · replace h := h.2 c1
      refine v_iload (pc := 104) cx dX0_fills_104 4 rfl ?_
      refine v_if_eq (pc := 106) cx dX0_fills_106 (tgt := 127) rfl (fun c2 => ?_) (fun c2 => ?_)
      · replace h := h.1 c2
        refine v_sub (lv' := [(0, .ref (sz0 + 0)), (1, .int x1), (2, .int x2), (3, .int x3), (4, .int x4)]) [0, 1, 2, 3, 4] rfl ?_
        exact w_X0_fills_j127 cx hFfills hK50 M sh h
      · replace h := h.2 c2
        refine v_aload_n (pc := 109) cx dX0_fills_109 rfl 0 rfl ?_
        refine v_iload_n (pc := 110) cx dX0_fills_110 rfl 1 rfl ?_
        refine v_iload_n (pc := 111) cx dX0_fills_111 rfl 2 rfl ?_
        refine v_iconst (pc := 112) cx dX0_fills_112 ic_1 ?_
        refine v_iadd (pc := 113) cx dX0_fills_113 ?_
        refine v_iload (pc := 114) cx dX0_fills_114 5 rfl ?_
        refine v_runp_i (pc := 116) cx (kcq970_X0 cx (c_X0_canColumn l D cA sz0 H0 M x1 ((x2 + (1 : Int32))) x5  _ sh h) ⟨by dsimp only; omega, by dsimp only; omega⟩ (sh.k k_0) (As := [.int x1, .int (x2 + (1 : Int32)), .int x5]) rfl rfl (Nat.le_of_ble_eq_true rfl) dX0_fills_116 ⟨Nat.le_of_ble_eq_true rfl, Nat.le_of_ble_eq_true rfl⟩) (fun a3 hq => ?_)
        replace h := hq
        refine v_istore (pc := 119) cx dX0_fills_119 (Nat.le_of_ble_eq_true rfl) (lv' := [(4, .int a3), (0, .ref (sz0 + 0)), (1, .int x1), (2, .int x2), (3, .int x3), (5, .int x5)]) rfl ?_
        refine nm_x (x5 + (1 : Int32)) (fun z4 ez4 => ?_)
        replace h := h z4 ez4
        refine v_iinc (pc := 121) cx dX0_fills_121 (q := 5) rfl ((ii_1 _).trans ez4.symm) (Nat.le_of_ble_eq_true rfl) (lv' := [(5, .int z4), (4, .int a3), (0, .ref (sz0 + 0)), (1, .int x1), (2, .int x2), (3, .int x3)]) rfl ?_
        refine v_goto (pc := 124) cx dX0_fills_124 (tgt := 98) rfl ?_
        refine v_sub (lv' := [(0, .ref (sz0 + 0)), (1, .int x1), (2, .int x2), (3, .int x3), (4, .int a3), (5, .int z4)]) [2, 3, 4, 5, 1, 0] rfl ?_
        exact ih a3 z4 M sh h
def m_X0_fills_l50 (Ffills : Int32 → Int32 → WM → (WM → Prop) → Prop)  (x1 : Int32) (x2 : Int32)   (Q : WM → Prop) : Nat → Int32 → WM → Prop
  | 0, _, _ => False
  | n + 1, x3, M => (((wI M 0 3) ≤ x3 → Q M) ∧ (¬ (wI M 0 3) ≤ x3 → (m_X0_isUsed x3 M (fun (a2 : Int32) => ((a2 = 0 → (∀ z4 : Int32, z4 = x3 + (1 : Int32) → m_X0_fills_l50 Ffills x1 x2 Q n z4 M)) ∧ (¬ a2 = 0 → (vp_in x3 40 ∧ (((wI M ((5325 + 3 * x3.toNatClampNeg)) 1) = x1 → (vp_in x2 4 ∧ (∀ M8 : WM, M8 = wPI M 5322 x2.toNatClampNeg x3 → (∃ n0, m_X0_fills_l98 Ffills (fun x3' M' => m_X0_fills_l50 Ffills x1 x2 Q n x3' M') x1 x2 x3 Q n0 ((1 : Int32)) ((0 : Int32)) M8)))) ∧ (¬ (wI M ((5325 + 3 * x3.toNatClampNeg)) 1) = x1 → (∀ z9 : Int32, z9 = x3 + (1 : Int32) → m_X0_fills_l50 Ffills x1 x2 Q n z9 M))))))))))
theorem w_X0_fills_l50 {p : Program} {l : Launch} {e : Env} {s : State} {m : MethodId} {args : Array Value} {below : List Frame} {meth : Method} {c : Code} {D : va_G} {cA : Nat → ClassId} {sz0 : Nat} {H0 : Heap} {d : Nat} {Ffills : Int32 → Int32 → WM → (WM → Prop) → Prop} {x1 : Int32} {x2 : Int32} {Q : WM → Prop}  (cx : Cx p s m args meth c cX0_fills 6 RX0 none D cA sz0 H0) (hFfills : ∀ (x1 : Int32) (x2 : Int32) (M : WM) (Q : WM → Prop) (sh : Shp M), Ffills x1 x2 M Q → Met l yX0_fills (ws_ yX0_fills cX0_fills 6 none) ({ frames := 4 + d, cells := 0, slots := 0, locals := 89 + 40 * d } : Room) (PcW D cA sz0 H0 [.ref (sz0 + 0), .int x1, .int x2] M) (QW_v D cA sz0 H0 (fun M' => Q M' ∧ Shp M')) 0 0 (Aw sz0))    : ∀ (n : Nat) (x3 : Int32)  (M : WM) (sh : Shp M), m_X0_fills_l50 Ffills x1 x2 Q n x3 M → V p l e ({ frames := 4 + (d + 1), cells := 0, slots := 0, locals := 89 + 40 * (d + 1) } : Room) s m args below meth c 6 D cA sz0 H0 0 0 (MQ below (QW_v D cA sz0 H0 (fun M' => Q M' ∧ Shp M')) args s 0 0 (Aw sz0)) 50 [(0, .ref (sz0 + 0)), (1, .int x1), (2, .int x2), (3, .int x3)] [] M := by
  intro n
  induction n with
  | zero => intro x3 M sh h; exact h.elim
  | succ n ih =>
    intro x3 M sh h
    replace h : (((wI M 0 3) ≤ x3 → Q M) ∧ (¬ (wI M 0 3) ≤ x3 → (m_X0_isUsed x3 M (fun (a2 : Int32) => ((a2 = 0 → (∀ z4 : Int32, z4 = x3 + (1 : Int32) → m_X0_fills_l50 Ffills x1 x2 Q n z4 M)) ∧ (¬ a2 = 0 → (vp_in x3 40 ∧ (((wI M ((5325 + 3 * x3.toNatClampNeg)) 1) = x1 → (vp_in x2 4 ∧ (∀ M8 : WM, M8 = wPI M 5322 x2.toNatClampNeg x3 → (∃ n0, m_X0_fills_l98 Ffills (fun x3' M' => m_X0_fills_l50 Ffills x1 x2 Q n x3' M') x1 x2 x3 Q n0 ((1 : Int32)) ((0 : Int32)) M8)))) ∧ (¬ (wI M ((5325 + 3 * x3.toNatClampNeg)) 1) = x1 → (∀ z9 : Int32, z9 = x3 + (1 : Int32) → m_X0_fills_l50 Ffills x1 x2 Q n z9 M)))))))))) := h
    refine v_iload_n (pc := 50) cx dX0_fills_50 rfl 3 rfl ?_
    refine v_aload_n (pc := 51) cx dX0_fills_51 rfl 0 rfl ?_
    refine gq278_X0 (pc := 52) cx dX0_fills_52 (sh.k k_0) ?_
    refine v_icmp_ge (pc := 55) cx dX0_fills_55 (tgt := 146) rfl (fun c1 => ?_) (fun c1 => ?_)
    · replace h := h.1 c1
      exact v_vret cx rfl dX0_fills_146 ⟨Nat.le_of_ble_eq_true rfl, Nat.le_of_ble_eq_true rfl⟩ ⟨h, sh⟩
    · replace h := h.2 c1
      refine v_aload_n (pc := 58) cx dX0_fills_58 rfl 0 rfl ?_
      refine v_iload_n (pc := 59) cx dX0_fills_59 rfl 3 rfl ?_
      refine v_runp_i (pc := 60) cx (kcq718_X0 cx (c_X0_isUsed l D cA sz0 H0 M x3  _ sh h) ⟨by dsimp only; omega, by dsimp only; omega⟩ (sh.k k_0) (As := [.int x3]) rfl rfl (Nat.le_of_ble_eq_true rfl) dX0_fills_60 ⟨Nat.le_of_ble_eq_true rfl, Nat.le_of_ble_eq_true rfl⟩) (fun a2 hq => ?_)
      replace h := hq
      refine v_if_eq (pc := 63) cx dX0_fills_63 (tgt := 140) rfl (fun c3 => ?_) (fun c3 => ?_)
      · replace h := h.1 c3
        refine nm_x (x3 + (1 : Int32)) (fun z4 ez4 => ?_)
        replace h := h z4 ez4
        refine v_iinc (pc := 140) cx dX0_fills_140 (q := 3) rfl ((ii_1 _).trans ez4.symm) (Nat.le_of_ble_eq_true rfl) (lv' := [(3, .int z4), (0, .ref (sz0 + 0)), (1, .int x1), (2, .int x2)]) rfl ?_
        refine v_goto (pc := 143) cx dX0_fills_143 (tgt := 50) rfl ?_
        refine v_sub (lv' := [(0, .ref (sz0 + 0)), (1, .int x1), (2, .int x2), (3, .int z4)]) [1, 2, 3, 0] rfl ?_
        exact ih z4 M sh h
      · replace h := h.2 c3
        refine v_aload_n (pc := 66) cx dX0_fills_66 rfl 0 rfl ?_
        refine gq273_X0 (pc := 67) cx dX0_fills_67 (sh.k k_0) (v_some (sh.r r_0_0) ?_)
        refine v_iload_n (pc := 70) cx dX0_fills_70 rfl 3 rfl ?_
        obtain ⟨b5, h⟩ := h
        refine v_aald107 (pc := 71) cx dX0_fills_71 (sh.k k_1) (sh.l k_1 l_1) b5 (v_some (sh.r (f_1 (lt_in b5))) ?_)
        refine gq257_X5 (pc := 72) cx dX0_fills_72 (sh.k (fk_1 (lt_in b5))) (v_some (sh.r (fr_1 (lt_in b5))) ?_)
        refine gq196_X2 (pc := 75) cx dX0_fills_75 (sh.k (isLn_w (lt_in b5)).1) ?_
        refine v_iload_n (pc := 78) cx dX0_fills_78 rfl 1 rfl ?_
        refine v_icmp_eq (pc := 79) cx dX0_fills_79 (tgt := 85) rfl (fun c6 => ?_) (fun c6 => ?_)
        · replace h := h.1 c6
          refine v_aload_n (pc := 85) cx dX0_fills_85 rfl 0 rfl ?_
          refine gq305_X0 (pc := 86) cx dX0_fills_86 (sh.k k_0) (v_some (sh.r r_0_30) ?_)
          refine v_iload_n (pc := 89) cx dX0_fills_89 rfl 2 rfl ?_
          refine v_iload_n (pc := 90) cx dX0_fills_90 rfl 3 rfl ?_
          obtain ⟨b7, h⟩ := h
          refine v_iast (pc := 91) cx dX0_fills_91 (sh.k k_5322) (sh.l k_5322 l_5322) b7 ?_
          refine v_wld (fun M8 eM8 => ?_)
          replace h := h M8 eM8
          replace sh : Shp M8 := Shp_PI sh eM8
          refine v_iconst (pc := 92) cx dX0_fills_92 ic_1 ?_
          refine v_istore (pc := 93) cx dX0_fills_93 (Nat.le_of_ble_eq_true rfl) (lv' := [(4, .int (1 : Int32)), (0, .ref (sz0 + 0)), (1, .int x1), (2, .int x2), (3, .int x3)]) rfl ?_
          refine v_iconst (pc := 95) cx dX0_fills_95 ic_0 ?_
          refine v_istore (pc := 96) cx dX0_fills_96 (Nat.le_of_ble_eq_true rfl) (lv' := [(5, .int (0 : Int32)), (4, .int (1 : Int32)), (0, .ref (sz0 + 0)), (1, .int x1), (2, .int x2), (3, .int x3)]) rfl ?_
          refine v_sub (lv' := [(0, .ref (sz0 + 0)), (1, .int x1), (2, .int x2), (3, .int x3), (4, .int (1 : Int32)), (5, .int (0 : Int32))]) [2, 3, 4, 5, 1, 0] rfl ?_
          obtain ⟨n0, h⟩ := h
          exact w_X0_fills_l98 cx hFfills ih n0 ((1 : Int32)) ((0 : Int32)) M8 sh h
        · replace h := h.2 c6
          refine v_goto (pc := 82) cx dX0_fills_82 (tgt := 140) rfl ?_
          refine nm_x (x3 + (1 : Int32)) (fun z9 ez9 => ?_)
          replace h := h z9 ez9
          refine v_iinc (pc := 140) cx dX0_fills_140 (q := 3) rfl ((ii_1 _).trans ez9.symm) (Nat.le_of_ble_eq_true rfl) (lv' := [(3, .int z9), (0, .ref (sz0 + 0)), (1, .int x1), (2, .int x2)]) rfl ?_
          refine v_goto (pc := 143) cx dX0_fills_143 (tgt := 50) rfl ?_
          refine v_sub (lv' := [(0, .ref (sz0 + 0)), (1, .int x1), (2, .int x2), (3, .int z9)]) [1, 2, 3, 0] rfl ?_
          exact ih z9 M sh h
def m_X0_fills_j37 (Ffills : Int32 → Int32 → WM → (WM → Prop) → Prop)     (Q : WM → Prop) (M : WM) : Prop := (∀ M1 : WM, M1 = wPI M 0 32 (((wI M 0 32) + (1 : Int32))) → Q M1)
theorem w_X0_fills_j37 {p : Program} {l : Launch} {e : Env} {s : State} {m : MethodId} {args : Array Value} {below : List Frame} {meth : Method} {c : Code} {D : va_G} {cA : Nat → ClassId} {sz0 : Nat} {H0 : Heap} {d : Nat} {Ffills : Int32 → Int32 → WM → (WM → Prop) → Prop} {Q : WM → Prop}  (cx : Cx p s m args meth c cX0_fills 6 RX0 none D cA sz0 H0) (hFfills : ∀ (x1 : Int32) (x2 : Int32) (M : WM) (Q : WM → Prop) (sh : Shp M), Ffills x1 x2 M Q → Met l yX0_fills (ws_ yX0_fills cX0_fills 6 none) ({ frames := 4 + d, cells := 0, slots := 0, locals := 89 + 40 * d } : Room) (PcW D cA sz0 H0 [.ref (sz0 + 0), .int x1, .int x2] M) (QW_v D cA sz0 H0 (fun M' => Q M' ∧ Shp M')) 0 0 (Aw sz0))      (M : WM) (sh : Shp M) (h : m_X0_fills_j37 Ffills Q M) : V p l e ({ frames := 4 + (d + 1), cells := 0, slots := 0, locals := 89 + 40 * (d + 1) } : Room) s m args below meth c 6 D cA sz0 H0 0 0 (MQ below (QW_v D cA sz0 H0 (fun M' => Q M' ∧ Shp M')) args s 0 0 (Aw sz0)) 37 [(0, .ref (sz0 + 0))] [] M := by
  replace h : (∀ M1 : WM, M1 = wPI M 0 32 (((wI M 0 32) + (1 : Int32))) → Q M1) := h
  refine v_aload_n (pc := 37) cx dX0_fills_37 rfl 0 rfl ?_
  refine v_dup (pc := 38) cx dX0_fills_38 rfl ?_
  refine gq307_X0 (pc := 39) cx dX0_fills_39 (sh.k k_0) ?_
  refine v_iconst (pc := 42) cx dX0_fills_42 ic_1 ?_
  refine v_iadd (pc := 43) cx dX0_fills_43 ?_
  refine pq307_X0 (pc := 44) cx dX0_fills_44 (sh.k k_0) ?_
  refine v_wld (fun M1 eM1 => ?_)
  replace h := h M1 eM1
  replace sh : Shp M1 := Shp_PI sh eM1
  exact v_vret cx rfl dX0_fills_47 ⟨Nat.le_of_ble_eq_true rfl, Nat.le_of_ble_eq_true rfl⟩ ⟨h, sh⟩
def m_X0_fills_l7 (Ffills : Int32 → Int32 → WM → (WM → Prop) → Prop)  (x1 : Int32)   (Q : WM → Prop) : Nat → Int32 → WM → Prop
  | 0, _, _ => False
  | n + 1, x3, M => ((x1 ≤ x3 → m_X0_fills_j37 Ffills Q M) ∧ (¬ x1 ≤ x3 → (((wI M 0 32) = 0 → (vp_in x3 4 ∧ (vp_in x3 4 ∧ (∀ M5 : WM, M5 = wPI M 5323 x3.toNatClampNeg ((wI M 5322 x3.toNatClampNeg)) → (∀ z6 : Int32, z6 = x3 + (1 : Int32) → m_X0_fills_l7 Ffills x1 Q n z6 M5))))) ∧ (¬ (wI M 0 32) = 0 → m_X0_fills_j37 Ffills Q M))))
theorem w_X0_fills_l7 {p : Program} {l : Launch} {e : Env} {s : State} {m : MethodId} {args : Array Value} {below : List Frame} {meth : Method} {c : Code} {D : va_G} {cA : Nat → ClassId} {sz0 : Nat} {H0 : Heap} {d : Nat} {Ffills : Int32 → Int32 → WM → (WM → Prop) → Prop} {x1 : Int32} {Q : WM → Prop}  (cx : Cx p s m args meth c cX0_fills 6 RX0 none D cA sz0 H0) (hFfills : ∀ (x1 : Int32) (x2 : Int32) (M : WM) (Q : WM → Prop) (sh : Shp M), Ffills x1 x2 M Q → Met l yX0_fills (ws_ yX0_fills cX0_fills 6 none) ({ frames := 4 + d, cells := 0, slots := 0, locals := 89 + 40 * d } : Room) (PcW D cA sz0 H0 [.ref (sz0 + 0), .int x1, .int x2] M) (QW_v D cA sz0 H0 (fun M' => Q M' ∧ Shp M')) 0 0 (Aw sz0))    : ∀ (n : Nat) (x3 : Int32)  (M : WM) (sh : Shp M), m_X0_fills_l7 Ffills x1 Q n x3 M → V p l e ({ frames := 4 + (d + 1), cells := 0, slots := 0, locals := 89 + 40 * (d + 1) } : Room) s m args below meth c 6 D cA sz0 H0 0 0 (MQ below (QW_v D cA sz0 H0 (fun M' => Q M' ∧ Shp M')) args s 0 0 (Aw sz0)) 7 [(0, .ref (sz0 + 0)), (1, .int x1), (3, .int x3)] [] M := by
  intro n
  induction n with
  | zero => intro x3 M sh h; exact h.elim
  | succ n ih =>
    intro x3 M sh h
    replace h : ((x1 ≤ x3 → m_X0_fills_j37 Ffills Q M) ∧ (¬ x1 ≤ x3 → (((wI M 0 32) = 0 → (vp_in x3 4 ∧ (vp_in x3 4 ∧ (∀ M5 : WM, M5 = wPI M 5323 x3.toNatClampNeg ((wI M 5322 x3.toNatClampNeg)) → (∀ z6 : Int32, z6 = x3 + (1 : Int32) → m_X0_fills_l7 Ffills x1 Q n z6 M5))))) ∧ (¬ (wI M 0 32) = 0 → m_X0_fills_j37 Ffills Q M)))) := h
    refine v_iload_n (pc := 7) cx dX0_fills_7 rfl 2 rfl ?_
    refine v_iload_n (pc := 8) cx dX0_fills_8 rfl 1 rfl ?_
    refine v_icmp_ge (pc := 9) cx dX0_fills_9 (tgt := 37) rfl (fun c1 => ?_) (fun c1 => ?_)
    · replace h := h.1 c1
      refine v_sub (lv' := [(0, .ref (sz0 + 0))]) [0] rfl ?_
      exact w_X0_fills_j37 cx hFfills M sh h
    · replace h := h.2 c1
      refine v_aload_n (pc := 12) cx dX0_fills_12 rfl 0 rfl ?_
      refine gq307_X0 (pc := 13) cx dX0_fills_13 (sh.k k_0) ?_
      refine v_if_ne (pc := 16) cx dX0_fills_16 (tgt := 37) rfl (fun c2 => ?_) (fun c2 => ?_)
      · replace h := h.2 c2
        refine v_sub (lv' := [(0, .ref (sz0 + 0))]) [0] rfl ?_
        exact w_X0_fills_j37 cx hFfills M sh h
      · replace h := h.1 c2
        refine v_aload_n (pc := 19) cx dX0_fills_19 rfl 0 rfl ?_
        refine gq306_X0 (pc := 20) cx dX0_fills_20 (sh.k k_0) (v_some (sh.r r_0_31) ?_)
        refine v_iload_n (pc := 23) cx dX0_fills_23 rfl 2 rfl ?_
        refine v_aload_n (pc := 24) cx dX0_fills_24 rfl 0 rfl ?_
        refine gq305_X0 (pc := 25) cx dX0_fills_25 (sh.k k_0) (v_some (sh.r r_0_30) ?_)
        refine v_iload_n (pc := 28) cx dX0_fills_28 rfl 2 rfl ?_
        obtain ⟨b3, h⟩ := h
        refine v_iald (pc := 29) cx dX0_fills_29 (sh.k k_5322) (sh.l k_5322 l_5322) b3 ?_
        obtain ⟨b4, h⟩ := h
        refine v_iast (pc := 30) cx dX0_fills_30 (sh.k k_5323) (sh.l k_5323 l_5323) b4 ?_
        refine v_wld (fun M5 eM5 => ?_)
        replace h := h M5 eM5
        replace sh : Shp M5 := Shp_PI sh eM5
        refine nm_x (x3 + (1 : Int32)) (fun z6 ez6 => ?_)
        replace h := h z6 ez6
        refine v_iinc (pc := 31) cx dX0_fills_31 (q := 2) rfl ((ii_1 _).trans ez6.symm) (Nat.le_of_ble_eq_true rfl) (lv' := [(3, .int z6), (0, .ref (sz0 + 0)), (1, .int x1)]) rfl ?_
        refine v_goto (pc := 34) cx dX0_fills_34 (tgt := 7) rfl ?_
        refine v_sub (lv' := [(0, .ref (sz0 + 0)), (1, .int x1), (3, .int z6)]) [1, 2, 0] rfl ?_
        exact ih z6 M5 sh h
def b_X0_fills (Ffills : Int32 → Int32 → WM → (WM → Prop) → Prop) (x1 : Int32) (x2 : Int32) (M : WM)  (Q : WM → Prop) : Prop := ((x2 = x1 → (∃ n0, m_X0_fills_l7 Ffills x1 Q n0 ((0 : Int32)) M)) ∧ (¬ x2 = x1 → (∃ n0, m_X0_fills_l50 Ffills x1 x2 Q n0 ((0 : Int32)) M)))
theorem cb_X0_fills {l : Launch} {D : va_G} {cA : Nat → ClassId} {sz0 : Nat} {H0 : Heap} {d : Nat} {Ffills : Int32 → Int32 → WM → (WM → Prop) → Prop} (hFfills : ∀ (x1 : Int32) (x2 : Int32) (M : WM) (Q : WM → Prop) (sh : Shp M), Ffills x1 x2 M Q → Met l yX0_fills (ws_ yX0_fills cX0_fills 6 none) ({ frames := 4 + d, cells := 0, slots := 0, locals := 89 + 40 * d } : Room) (PcW D cA sz0 H0 [.ref (sz0 + 0), .int x1, .int x2] M) (QW_v D cA sz0 H0 (fun M' => Q M' ∧ Shp M')) 0 0 (Aw sz0)) (M : WM) (x1 : Int32) (x2 : Int32)   (Q : WM → Prop) (sh : Shp M) (h : b_X0_fills Ffills x1 x2 M  Q) : Met l yX0_fills (ws_ yX0_fills cX0_fills 6 none) ({ frames := 4 + (d + 1), cells := 0, slots := 0, locals := 89 + 40 * (d + 1) } : Room) (PcW D cA sz0 H0 [.ref (sz0 + 0), .int x1, .int x2] M) (QW_v D cA sz0 H0 (fun M' => Q M' ∧ Shp M')) 0 0 (Aw sz0) := by
  replace h : ((x2 = x1 → (∃ n0, m_X0_fills_l7 Ffills x1 Q n0 ((0 : Int32)) M)) ∧ (¬ x2 = x1 → (∃ n0, m_X0_fills_l50 Ffills x1 x2 Q n0 ((0 : Int32)) M))) := h
  refine Met.ofV (by decide +kernel) (Nat.le_of_ble_eq_true rfl) ?_
  intro p e s m args below meth c cx hnm
  replace cx : Cx p s m args meth c cX0_fills 6 RX0 none D cA sz0 H0 := cx
  refine v_sub (lv' := [(0, .ref (sz0 + 0)), (1, .int x1), (2, .int x2)]) [0, 1, 2] rfl ?_
  refine v_iload_n (pc := 0) cx dX0_fills_0 rfl 2 rfl ?_
  refine v_iload_n (pc := 1) cx dX0_fills_1 rfl 1 rfl ?_
  refine v_icmp_ne (pc := 2) cx dX0_fills_2 (tgt := 48) rfl (fun c1 => ?_) (fun c1 => ?_)
  · replace h := h.2 c1
    refine v_iconst (pc := 48) cx dX0_fills_48 ic_0 ?_
    refine v_istore_n (pc := 49) cx dX0_fills_49 rfl (Nat.le_of_ble_eq_true rfl) (lv' := [(3, .int (0 : Int32)), (0, .ref (sz0 + 0)), (1, .int x1), (2, .int x2)]) rfl ?_
    refine v_sub (lv' := [(0, .ref (sz0 + 0)), (1, .int x1), (2, .int x2), (3, .int (0 : Int32))]) [1, 2, 3, 0] rfl ?_
    obtain ⟨n0, h⟩ := h
    exact w_X0_fills_l50 cx hFfills n0 ((0 : Int32)) M sh h
  · replace h := h.1 c1
    refine v_iconst (pc := 5) cx dX0_fills_5 ic_0 ?_
    refine v_istore_n (pc := 6) cx dX0_fills_6 rfl (Nat.le_of_ble_eq_true rfl) (lv' := [(3, .int (0 : Int32)), (0, .ref (sz0 + 0)), (1, .int x1), (2, .int x2)]) rfl ?_
    refine v_sub (lv' := [(0, .ref (sz0 + 0)), (1, .int x1), (3, .int (0 : Int32))]) [1, 2, 0] rfl ?_
    obtain ⟨n0, h⟩ := h
    exact w_X0_fills_l7 cx hFfills n0 ((0 : Int32)) M sh h
def m_X0_fills : Nat → Int32 → Int32 → WM → (WM → Prop) → Prop
  | 0 => fun _ _ _ _ => False
  | d + 1 => b_X0_fills (m_X0_fills d)
theorem cg_fills (l : Launch) (D : va_G) (cA : Nat → ClassId) (sz0 : Nat) (H0 : Heap) : ∀ d : Nat, (∀ (x1 : Int32) (x2 : Int32) (M : WM) (Q : WM → Prop) (sh : Shp M), m_X0_fills d x1 x2 M Q → Met l yX0_fills (ws_ yX0_fills cX0_fills 6 none) ({ frames := 4 + d, cells := 0, slots := 0, locals := 89 + 40 * d } : Room) (PcW D cA sz0 H0 [.ref (sz0 + 0), .int x1, .int x2] M) (QW_v D cA sz0 H0 (fun M' => Q M' ∧ Shp M')) 0 0 (Aw sz0)) := by
  intro d
  induction d with
  | zero => exact fun x1 x2 M Q sh h => h.elim
  | succ d ih => exact fun x1 x2 M Q sh h => cb_X0_fills ih M x1 x2  Q sh h
theorem c_X0_fills (l : Launch) (D : va_G) (cA : Nat → ClassId) (sz0 : Nat) (H0 : Heap) (M : WM) (x1 : Int32) (x2 : Int32) (d : Nat)  (Q : WM → Prop) (sh : Shp M) (h : m_X0_fills d x1 x2 M  Q) : Met l yX0_fills (ws_ yX0_fills cX0_fills 6 none) ({ frames := 4 + d, cells := 0, slots := 0, locals := 89 + 40 * d } : Room) (PcW D cA sz0 H0 [.ref (sz0 + 0), .int x1, .int x2] M) (QW_v D cA sz0 H0 (fun M' => Q M' ∧ Shp M')) 0 0 (Aw sz0) := (cg_fills l D cA sz0 H0 d) x1 x2 M  Q sh h
/-! LetterHeaps.takesUsed(I)Z -/
def m_X0_takesUsed_l12   (x1 : Int32)   (Q : Int32 → WM → Prop) : Nat → Int32 → WM → Prop
  | 0, _, _ => False
  | n + 1, x2, M => ((x1 ≤ x2 → Q ((1 : Int32)) M) ∧ (¬ x1 ≤ x2 → (vp_in x2 14 ∧ (m_X0_isUsed ((wI M 184 x2.toNatClampNeg)) M (fun (a3 : Int32) => ((a3 = 0 → Q ((0 : Int32)) M) ∧ (¬ a3 = 0 → (∀ z5 : Int32, z5 = x2 + (1 : Int32) → m_X0_takesUsed_l12 x1 Q n z5 M))))))))
theorem w_X0_takesUsed_l12 {p : Program} {l : Launch} {e : Env} {s : State} {m : MethodId} {args : Array Value} {below : List Frame} {meth : Method} {c : Code} {D : va_G} {cA : Nat → ClassId} {sz0 : Nat} {H0 : Heap}  {x1 : Int32} {Q : Int32 → WM → Prop}  (cx : Cx p s m args meth c cX0_takesUsed 3 RX0 (some .boolean) D cA sz0 H0)     : ∀ (n : Nat) (x2 : Int32)  (M : WM) (sh : Shp M), m_X0_takesUsed_l12 x1 Q n x2 M → V p l e ({ frames := 3, cells := 0, slots := 0, locals := 66 } : Room) s m args below meth c 3 D cA sz0 H0 0 0 (MQ below (QW_i D cA sz0 H0 (fun r M' => Q r M' ∧ Shp M')) args s 0 0 (Aw sz0)) 12 [(0, .ref (sz0 + 0)), (1, .int x1), (2, .int x2)] [] M := by
  intro n
  induction n with
  | zero => intro x2 M sh h; exact h.elim
  | succ n ih =>
    intro x2 M sh h
    replace h : ((x1 ≤ x2 → Q ((1 : Int32)) M) ∧ (¬ x1 ≤ x2 → (vp_in x2 14 ∧ (m_X0_isUsed ((wI M 184 x2.toNatClampNeg)) M (fun (a3 : Int32) => ((a3 = 0 → Q ((0 : Int32)) M) ∧ (¬ a3 = 0 → (∀ z5 : Int32, z5 = x2 + (1 : Int32) → m_X0_takesUsed_l12 x1 Q n z5 M)))))))) := h
    refine v_iload_n (pc := 12) cx dX0_takesUsed_12 rfl 2 rfl ?_
    refine v_iload_n (pc := 13) cx dX0_takesUsed_13 rfl 1 rfl ?_
    refine v_icmp_ge (pc := 14) cx dX0_takesUsed_14 (tgt := 38) rfl (fun c1 => ?_) (fun c1 => ?_)
    · replace h := h.1 c1
      refine v_iconst (pc := 38) cx dX0_takesUsed_38 ic_1 ?_
      exact v_zret cx rfl (Or.inr rfl) dX0_takesUsed_39 ⟨Nat.le_of_ble_eq_true rfl, Nat.le_of_ble_eq_true rfl⟩ ⟨h, sh⟩
    · replace h := h.2 c1
      refine v_aload_n (pc := 17) cx dX0_takesUsed_17 rfl 0 rfl ?_
      refine v_aload_n (pc := 18) cx dX0_takesUsed_18 rfl 0 rfl ?_
      refine gq299_X0 (pc := 19) cx dX0_takesUsed_19 (sh.k k_0) (v_some (sh.r r_0_24) ?_)
      refine v_iload_n (pc := 22) cx dX0_takesUsed_22 rfl 2 rfl ?_
      obtain ⟨b2, h⟩ := h
      refine v_iald (pc := 23) cx dX0_takesUsed_23 (sh.k k_184) (sh.l k_184 l_184) b2 ?_
      refine v_runp_i (pc := 24) cx (kcq718_X0 cx (c_X0_isUsed l D cA sz0 H0 M ((wI M 184 x2.toNatClampNeg))  _ sh h) ⟨Nat.le_of_ble_eq_true rfl, Nat.le_of_ble_eq_true rfl⟩ (sh.k k_0) (As := [.int (wI M 184 x2.toNatClampNeg)]) rfl rfl (Nat.le_of_ble_eq_true rfl) dX0_takesUsed_24 ⟨Nat.le_of_ble_eq_true rfl, Nat.le_of_ble_eq_true rfl⟩) (fun a3 hq => ?_)
      replace h := hq
      refine v_if_ne (pc := 27) cx dX0_takesUsed_27 (tgt := 32) rfl (fun c4 => ?_) (fun c4 => ?_)
      · replace h := h.2 c4
        refine nm_x (x2 + (1 : Int32)) (fun z5 ez5 => ?_)
        replace h := h z5 ez5
        refine v_iinc (pc := 32) cx dX0_takesUsed_32 (q := 2) rfl ((ii_1 _).trans ez5.symm) (Nat.le_of_ble_eq_true rfl) (lv' := [(2, .int z5), (0, .ref (sz0 + 0)), (1, .int x1)]) rfl ?_
        refine v_goto (pc := 35) cx dX0_takesUsed_35 (tgt := 12) rfl ?_
        refine v_sub (lv' := [(0, .ref (sz0 + 0)), (1, .int x1), (2, .int z5)]) [1, 2, 0] rfl ?_
        exact ih z5 M sh h
      · replace h := h.1 c4
        refine v_iconst (pc := 30) cx dX0_takesUsed_30 ic_0 ?_
        exact v_zret cx rfl (Or.inl rfl) dX0_takesUsed_31 ⟨Nat.le_of_ble_eq_true rfl, Nat.le_of_ble_eq_true rfl⟩ ⟨h, sh⟩
def m_X0_takesUsed (x1 : Int32) (M : WM)  (Q : Int32 → WM → Prop) : Prop := (m_X0_takesWords x1 M (fun (a1 : Int32) (M2 : WM) => ((a1 = 0 → Q ((0 : Int32)) M2) ∧ (¬ a1 = 0 → (∃ n0, m_X0_takesUsed_l12 x1 Q n0 ((0 : Int32)) M2)))))
theorem c_X0_takesUsed (l : Launch) (D : va_G) (cA : Nat → ClassId) (sz0 : Nat) (H0 : Heap) (M : WM) (x1 : Int32)   (Q : Int32 → WM → Prop) (sh : Shp M) (h : m_X0_takesUsed x1 M  Q) : Met l yX0_takesUsed (ws_ yX0_takesUsed cX0_takesUsed 3 (some .boolean)) ({ frames := 3, cells := 0, slots := 0, locals := 66 } : Room) (PcW D cA sz0 H0 [.ref (sz0 + 0), .int x1] M) (QW_i D cA sz0 H0 (fun r M' => Q r M' ∧ Shp M')) 0 0 (Aw sz0) := by
  replace h : (m_X0_takesWords x1 M (fun (a1 : Int32) (M2 : WM) => ((a1 = 0 → Q ((0 : Int32)) M2) ∧ (¬ a1 = 0 → (∃ n0, m_X0_takesUsed_l12 x1 Q n0 ((0 : Int32)) M2))))) := h
  refine Met.ofV (by decide +kernel) (Nat.le_of_ble_eq_true rfl) ?_
  intro p e s m args below meth c cx hnm
  replace cx : Cx p s m args meth c cX0_takesUsed 3 RX0 (some .boolean) D cA sz0 H0 := cx
  refine v_sub (lv' := [(0, .ref (sz0 + 0)), (1, .int x1)]) [0, 1] rfl ?_
  refine v_aload_n (pc := 0) cx dX0_takesUsed_0 rfl 0 rfl ?_
  refine v_iload_n (pc := 1) cx dX0_takesUsed_1 rfl 1 rfl ?_
  refine v_run_i (pc := 2) cx (kcq912_X0 cx (c_X0_takesWords l D cA sz0 H0 M x1  _ sh h) ⟨Nat.le_of_ble_eq_true rfl, Nat.le_of_ble_eq_true rfl⟩ (sh.k k_0) (As := [.int x1]) rfl rfl (Nat.le_of_ble_eq_true rfl) dX0_takesUsed_2 ⟨Nat.le_of_ble_eq_true rfl, Nat.le_of_ble_eq_true rfl⟩) (fun a1 M2 hq => ?_)
  obtain ⟨h, sh⟩ := hq
  refine v_if_ne (pc := 5) cx dX0_takesUsed_5 (tgt := 10) rfl (fun c3 => ?_) (fun c3 => ?_)
  · replace h := h.2 c3
    refine v_iconst (pc := 10) cx dX0_takesUsed_10 ic_0 ?_
    refine v_istore_n (pc := 11) cx dX0_takesUsed_11 rfl (Nat.le_of_ble_eq_true rfl) (lv' := [(2, .int (0 : Int32)), (0, .ref (sz0 + 0)), (1, .int x1)]) rfl ?_
    refine v_sub (lv' := [(0, .ref (sz0 + 0)), (1, .int x1), (2, .int (0 : Int32))]) [1, 2, 0] rfl ?_
    obtain ⟨n0, h⟩ := h
    exact w_X0_takesUsed_l12 cx n0 ((0 : Int32)) M2 sh h
  · replace h := h.1 c3
    refine v_iconst (pc := 8) cx dX0_takesUsed_8 ic_0 ?_
    exact v_zret cx rfl (Or.inl rfl) dX0_takesUsed_9 ⟨Nat.le_of_ble_eq_true rfl, Nat.le_of_ble_eq_true rfl⟩ ⟨h, sh⟩
/-! LetterHeaps.winsBy(III)Z -/
def m_X0_winsBy (x1 : Int32) (x2 : Int32) (x3 : Int32) (M : WM)  (Q : Int32 → Prop) : Prop := (m_X0_has x1.toInt64 x3 (fun (a1 : Int32) => ((a1 = 0 → (vp_in x2 14 ∧ (vp_in x3 14 ∧ (m_X0_isStep ((wI M 184 x2.toNatClampNeg)) ((wI M 184 x3.toNatClampNeg)) M (fun (a5 : Int32) => ((a5 = 0 → Q ((0 : Int32))) ∧ (¬ a5 = 0 → (vp_in ((x1 ||| ((1 : Int32) <<< (x3 &&& 31)))) 4096 ∧ (vp_in x3 12 ∧ (((wI M ((1211 + ((x1 ||| ((1 : Int32) <<< (x3 &&& 31)))).toNatClampNeg)) x3.toNatClampNeg) = 0 → Q ((1 : Int32))) ∧ (¬ (wI M ((1211 + ((x1 ||| ((1 : Int32) <<< (x3 &&& 31)))).toNatClampNeg)) x3.toNatClampNeg) = 0 → Q ((0 : Int32))))))))))))) ∧ (¬ a1 = 0 → Q ((0 : Int32))))))
theorem c_X0_winsBy (l : Launch) (D : va_G) (cA : Nat → ClassId) (sz0 : Nat) (H0 : Heap) (M : WM) (x1 : Int32) (x2 : Int32) (x3 : Int32)   (Q : Int32 → Prop) (sh : Shp M) (h : m_X0_winsBy x1 x2 x3 M  Q) : Met l yX0_winsBy (ws_ yX0_winsBy cX0_winsBy 4 (some .boolean)) ({ frames := 1, cells := 0, slots := 0, locals := 22 } : Room) (PcW D cA sz0 H0 [.ref (sz0 + 0), .int x1, .int x2, .int x3] M) (QW_i D cA sz0 H0 (fun r M' => M' = M ∧ Q r)) 0 0 (Aw sz0) := by
  replace h : (m_X0_has x1.toInt64 x3 (fun (a1 : Int32) => ((a1 = 0 → (vp_in x2 14 ∧ (vp_in x3 14 ∧ (m_X0_isStep ((wI M 184 x2.toNatClampNeg)) ((wI M 184 x3.toNatClampNeg)) M (fun (a5 : Int32) => ((a5 = 0 → Q ((0 : Int32))) ∧ (¬ a5 = 0 → (vp_in ((x1 ||| ((1 : Int32) <<< (x3 &&& 31)))) 4096 ∧ (vp_in x3 12 ∧ (((wI M ((1211 + ((x1 ||| ((1 : Int32) <<< (x3 &&& 31)))).toNatClampNeg)) x3.toNatClampNeg) = 0 → Q ((1 : Int32))) ∧ (¬ (wI M ((1211 + ((x1 ||| ((1 : Int32) <<< (x3 &&& 31)))).toNatClampNeg)) x3.toNatClampNeg) = 0 → Q ((0 : Int32))))))))))))) ∧ (¬ a1 = 0 → Q ((0 : Int32)))))) := h
  refine Met.ofV (by decide +kernel) (Nat.le_of_ble_eq_true rfl) ?_
  intro p e s m args below meth c cx hnm
  replace cx : Cx p s m args meth c cX0_winsBy 4 RX0 (some .boolean) D cA sz0 H0 := cx
  refine v_sub (lv' := [(0, .ref (sz0 + 0)), (1, .int x1), (2, .int x2), (3, .int x3)]) [0, 1, 2, 3] rfl ?_
  refine v_iload_n (pc := 0) cx dX0_winsBy_0 rfl 1 rfl ?_
  refine v_i2l (pc := 1) cx dX0_winsBy_1 ?_
  refine v_iload_n (pc := 2) cx dX0_winsBy_2 rfl 3 rfl ?_
  refine v_runp_i (pc := 3) cx (kcq722_X0 cx (c_X0_has l D cA sz0 H0 M x1.toInt64 x3  _ h) ⟨Nat.le_of_ble_eq_true rfl, Nat.le_of_ble_eq_true rfl⟩ (As := [.long x1.toInt64, .int x3]) rfl rfl (Nat.le_of_ble_eq_true rfl) dX0_winsBy_3 ⟨Nat.le_of_ble_eq_true rfl, Nat.le_of_ble_eq_true rfl⟩) (fun a1 hq => ?_)
  replace h := hq
  refine v_if_ne (pc := 6) cx dX0_winsBy_6 (tgt := 47) rfl (fun c2 => ?_) (fun c2 => ?_)
  · replace h := h.2 c2
    refine v_iconst (pc := 47) cx dX0_winsBy_47 ic_0 ?_
    exact v_zret cx rfl (Or.inl rfl) dX0_winsBy_48 ⟨Nat.le_of_ble_eq_true rfl, Nat.le_of_ble_eq_true rfl⟩ ⟨rfl, h⟩
  · replace h := h.1 c2
    refine v_aload_n (pc := 9) cx dX0_winsBy_9 rfl 0 rfl ?_
    refine v_aload_n (pc := 10) cx dX0_winsBy_10 rfl 0 rfl ?_
    refine gq299_X0 (pc := 11) cx dX0_winsBy_11 (sh.k k_0) (v_some (sh.r r_0_24) ?_)
    refine v_iload_n (pc := 14) cx dX0_winsBy_14 rfl 2 rfl ?_
    obtain ⟨b3, h⟩ := h
    refine v_iald (pc := 15) cx dX0_winsBy_15 (sh.k k_184) (sh.l k_184 l_184) b3 ?_
    refine v_aload_n (pc := 16) cx dX0_winsBy_16 rfl 0 rfl ?_
    refine gq299_X0 (pc := 17) cx dX0_winsBy_17 (sh.k k_0) (v_some (sh.r r_0_24) ?_)
    refine v_iload_n (pc := 20) cx dX0_winsBy_20 rfl 3 rfl ?_
    obtain ⟨b4, h⟩ := h
    refine v_iald (pc := 21) cx dX0_winsBy_21 (sh.k k_184) (sh.l k_184 l_184) b4 ?_
    refine v_runp_i (pc := 22) cx (kcq808_X0 cx (c_X0_isStep l D cA sz0 H0 M ((wI M 184 x2.toNatClampNeg)) ((wI M 184 x3.toNatClampNeg))  _ sh h) ⟨Nat.le_of_ble_eq_true rfl, Nat.le_of_ble_eq_true rfl⟩ (sh.k k_0) (As := [.int (wI M 184 x2.toNatClampNeg), .int (wI M 184 x3.toNatClampNeg)]) rfl rfl (Nat.le_of_ble_eq_true rfl) dX0_winsBy_22 ⟨Nat.le_of_ble_eq_true rfl, Nat.le_of_ble_eq_true rfl⟩) (fun a5 hq => ?_)
    replace h := hq
    refine v_if_eq (pc := 25) cx dX0_winsBy_25 (tgt := 47) rfl (fun c6 => ?_) (fun c6 => ?_)
    · replace h := h.1 c6
      refine v_iconst (pc := 47) cx dX0_winsBy_47 ic_0 ?_
      exact v_zret cx rfl (Or.inl rfl) dX0_winsBy_48 ⟨Nat.le_of_ble_eq_true rfl, Nat.le_of_ble_eq_true rfl⟩ ⟨rfl, h⟩
    · replace h := h.2 c6
      refine v_aload_n (pc := 28) cx dX0_winsBy_28 rfl 0 rfl ?_
      refine gq302_X0 (pc := 29) cx dX0_winsBy_29 (sh.k k_0) (v_some (sh.r r_0_27) ?_)
      refine v_iload_n (pc := 32) cx dX0_winsBy_32 rfl 1 rfl ?_
      refine v_iconst (pc := 33) cx dX0_winsBy_33 ic_1 ?_
      refine v_iload_n (pc := 34) cx dX0_winsBy_34 rfl 3 rfl ?_
      refine v_ishl (pc := 35) cx dX0_winsBy_35 ?_
      refine v_ior (pc := 36) cx dX0_winsBy_36 ?_
      obtain ⟨b7, h⟩ := h
      refine v_aald106 (pc := 37) cx dX0_winsBy_37 (sh.k k_1210) (sh.l k_1210 l_1210) b7 (v_some (sh.r (f_1210 (lt_in b7))) ?_)
      refine v_iload_n (pc := 38) cx dX0_winsBy_38 rfl 3 rfl ?_
      obtain ⟨b8, h⟩ := h
      refine v_zald (pc := 39) cx dX0_winsBy_39 (sh.k (fk_1210 (lt_in b7))) (sh.l (fk_1210 (lt_in b7)) (fl_1210 (lt_in b7))) b8 ?_
      refine v_if_ne (pc := 40) cx dX0_winsBy_40 (tgt := 47) rfl (fun c9 => ?_) (fun c9 => ?_)
      · replace h := h.2 c9
        refine v_iconst (pc := 47) cx dX0_winsBy_47 ic_0 ?_
        exact v_zret cx rfl (Or.inl rfl) dX0_winsBy_48 ⟨Nat.le_of_ble_eq_true rfl, Nat.le_of_ble_eq_true rfl⟩ ⟨rfl, h⟩
      · replace h := h.1 c9
        refine v_iconst (pc := 43) cx dX0_winsBy_43 ic_1 ?_
        refine v_goto (pc := 44) cx dX0_winsBy_44 (tgt := 48) rfl ?_
        exact v_zret cx rfl (Or.inr rfl) dX0_winsBy_48 ⟨Nat.le_of_ble_eq_true rfl, Nat.le_of_ble_eq_true rfl⟩ ⟨rfl, h⟩
/-! LetterHeaps.game(II)I -/
def m_X0_game_l157   (x1 : Int32)   (Q : Int32 → WM → Prop) : Nat → Int32 → Int32 → WM → Prop
  | 0, _, _, _ => False
  | n + 1, x3, x4, M => ((x1 ≤ x4 → Q x3 M) ∧ (¬ x1 ≤ x4 → (m_X0_winsBy ((1 : Int32)) ((0 : Int32)) x4 M (fun (a2 : Int32) => ((a2 = 0 → (∀ z4 : Int32, z4 = x4 + (1 : Int32) → m_X0_game_l157 x1 Q n x3 z4 M)) ∧ (¬ a2 = 0 → ((x3 = ((-2) : Int32) → (vp_in x4 14 ∧ (∀ z7 : Int32, z7 = (wI M 184 x4.toNatClampNeg) → (∀ z8 : Int32, z8 = x4 + (1 : Int32) → m_X0_game_l157 x1 Q n z7 z8 M)))) ∧ (¬ x3 = ((-2) : Int32) → (vp_in x4 14 ∧ ((x3 ≤ (wI M 184 x4.toNatClampNeg) → (∀ z11 : Int32, z11 = x4 + (1 : Int32) → m_X0_game_l157 x1 Q n x3 z11 M)) ∧ (¬ x3 ≤ (wI M 184 x4.toNatClampNeg) → (vp_in x4 14 ∧ (∀ z13 : Int32, z13 = (wI M 184 x4.toNatClampNeg) → (∀ z14 : Int32, z14 = x4 + (1 : Int32) → m_X0_game_l157 x1 Q n z13 z14 M))))))))))))))
theorem w_X0_game_l157 {p : Program} {l : Launch} {e : Env} {s : State} {m : MethodId} {args : Array Value} {below : List Frame} {meth : Method} {c : Code} {D : va_G} {cA : Nat → ClassId} {sz0 : Nat} {H0 : Heap}  {x1 : Int32} {Q : Int32 → WM → Prop}  (cx : Cx p s m args meth c cX0_game 6 RX0 (some .int) D cA sz0 H0)     : ∀ (n : Nat) (x3 : Int32) (x4 : Int32)  (M : WM) (sh : Shp M), m_X0_game_l157 x1 Q n x3 x4 M → V p l e ({ frames := 120, cells := 0, slots := 0, locals := 4632 } : Room) s m args below meth c 6 D cA sz0 H0 0 0 (MQ below (QW_i D cA sz0 H0 (fun r M' => Q r M' ∧ Shp M')) args s 0 0 (Aw sz0)) 157 [(0, .ref (sz0 + 0)), (1, .int x1), (3, .int x3), (4, .int x4)] [] M := by
  intro n
  induction n with
  | zero => intro x3 x4 M sh h; exact h.elim
  | succ n ih =>
    intro x3 x4 M sh h
    replace h : ((x1 ≤ x4 → Q x3 M) ∧ (¬ x1 ≤ x4 → (m_X0_winsBy ((1 : Int32)) ((0 : Int32)) x4 M (fun (a2 : Int32) => ((a2 = 0 → (∀ z4 : Int32, z4 = x4 + (1 : Int32) → m_X0_game_l157 x1 Q n x3 z4 M)) ∧ (¬ a2 = 0 → ((x3 = ((-2) : Int32) → (vp_in x4 14 ∧ (∀ z7 : Int32, z7 = (wI M 184 x4.toNatClampNeg) → (∀ z8 : Int32, z8 = x4 + (1 : Int32) → m_X0_game_l157 x1 Q n z7 z8 M)))) ∧ (¬ x3 = ((-2) : Int32) → (vp_in x4 14 ∧ ((x3 ≤ (wI M 184 x4.toNatClampNeg) → (∀ z11 : Int32, z11 = x4 + (1 : Int32) → m_X0_game_l157 x1 Q n x3 z11 M)) ∧ (¬ x3 ≤ (wI M 184 x4.toNatClampNeg) → (vp_in x4 14 ∧ (∀ z13 : Int32, z13 = (wI M 184 x4.toNatClampNeg) → (∀ z14 : Int32, z14 = x4 + (1 : Int32) → m_X0_game_l157 x1 Q n z13 z14 M)))))))))))))) := h
    refine v_iload (pc := 157) cx dX0_game_157 3 rfl ?_
    refine v_iload_n (pc := 159) cx dX0_game_159 rfl 1 rfl ?_
    refine v_icmp_ge (pc := 160) cx dX0_game_160 (tgt := 205) rfl (fun c1 => ?_) (fun c1 => ?_)
    · replace h := h.1 c1
      refine v_iload_n (pc := 205) cx dX0_game_205 rfl 2 rfl ?_
      exact v_iret cx rfl dX0_game_206 ⟨Nat.le_of_ble_eq_true rfl, Nat.le_of_ble_eq_true rfl⟩ ⟨h, sh⟩
    · replace h := h.2 c1
      refine v_aload_n (pc := 163) cx dX0_game_163 rfl 0 rfl ?_
      refine v_iconst (pc := 164) cx dX0_game_164 ic_1 ?_
      refine v_iconst (pc := 165) cx dX0_game_165 ic_0 ?_
      refine v_iload (pc := 166) cx dX0_game_166 3 rfl ?_
      refine v_runp_i (pc := 168) cx (kcq932_X0 cx (c_X0_winsBy l D cA sz0 H0 M ((1 : Int32)) ((0 : Int32)) x4  _ sh h) ⟨Nat.le_of_ble_eq_true rfl, Nat.le_of_ble_eq_true rfl⟩ (sh.k k_0) (As := [.int (1 : Int32), .int (0 : Int32), .int x4]) rfl rfl (Nat.le_of_ble_eq_true rfl) dX0_game_168 ⟨Nat.le_of_ble_eq_true rfl, Nat.le_of_ble_eq_true rfl⟩) (fun a2 hq => ?_)
      replace h := hq
      refine v_if_eq (pc := 171) cx dX0_game_171 (tgt := 199) rfl (fun c3 => ?_) (fun c3 => ?_)
      · replace h := h.1 c3
        refine nm_x (x4 + (1 : Int32)) (fun z4 ez4 => ?_)
        replace h := h z4 ez4
        refine v_iinc (pc := 199) cx dX0_game_199 (q := 3) rfl ((ii_1 _).trans ez4.symm) (Nat.le_of_ble_eq_true rfl) (lv' := [(4, .int z4), (0, .ref (sz0 + 0)), (1, .int x1), (3, .int x3)]) rfl ?_
        refine v_goto (pc := 202) cx dX0_game_202 (tgt := 157) rfl ?_
        refine v_sub (lv' := [(0, .ref (sz0 + 0)), (1, .int x1), (3, .int x3), (4, .int z4)]) [1, 2, 3, 0] rfl ?_
        exact ih x3 z4 M sh h
      · replace h := h.2 c3
        refine v_iload_n (pc := 174) cx dX0_game_174 rfl 2 rfl ?_
        refine v_bipush (pc := 175) cx dX0_game_175 bc_m2 ?_
        refine v_icmp_eq (pc := 177) cx dX0_game_177 (tgt := 191) rfl (fun c5 => ?_) (fun c5 => ?_)
        · replace h := h.1 c5
          refine v_aload_n (pc := 191) cx dX0_game_191 rfl 0 rfl ?_
          refine gq299_X0 (pc := 192) cx dX0_game_192 (sh.k k_0) (v_some (sh.r r_0_24) ?_)
          refine v_iload (pc := 195) cx dX0_game_195 3 rfl ?_
          obtain ⟨b6, h⟩ := h
          refine v_iald (pc := 197) cx dX0_game_197 (sh.k k_184) (sh.l k_184 l_184) b6 ?_
          refine v_topi (fun z7 ez7 => ?_)
          replace h := h z7 ez7
          refine v_istore_n (pc := 198) cx dX0_game_198 rfl (Nat.le_of_ble_eq_true rfl) (lv' := [(3, .int z7), (0, .ref (sz0 + 0)), (1, .int x1), (4, .int x4)]) rfl ?_
          refine nm_x (x4 + (1 : Int32)) (fun z8 ez8 => ?_)
          replace h := h z8 ez8
          refine v_iinc (pc := 199) cx dX0_game_199 (q := 3) rfl ((ii_1 _).trans ez8.symm) (Nat.le_of_ble_eq_true rfl) (lv' := [(4, .int z8), (3, .int z7), (0, .ref (sz0 + 0)), (1, .int x1)]) rfl ?_
          refine v_goto (pc := 202) cx dX0_game_202 (tgt := 157) rfl ?_
          refine v_sub (lv' := [(0, .ref (sz0 + 0)), (1, .int x1), (3, .int z7), (4, .int z8)]) [2, 3, 1, 0] rfl ?_
          exact ih z7 z8 M sh h
        · replace h := h.2 c5
          refine v_aload_n (pc := 180) cx dX0_game_180 rfl 0 rfl ?_
          refine gq299_X0 (pc := 181) cx dX0_game_181 (sh.k k_0) (v_some (sh.r r_0_24) ?_)
          refine v_iload (pc := 184) cx dX0_game_184 3 rfl ?_
          obtain ⟨b9, h⟩ := h
          refine v_iald (pc := 186) cx dX0_game_186 (sh.k k_184) (sh.l k_184 l_184) b9 ?_
          refine v_iload_n (pc := 187) cx dX0_game_187 rfl 2 rfl ?_
          refine v_icmp_ge (pc := 188) cx dX0_game_188 (tgt := 199) rfl (fun c10 => ?_) (fun c10 => ?_)
          · replace h := h.1 c10
            refine nm_x (x4 + (1 : Int32)) (fun z11 ez11 => ?_)
            replace h := h z11 ez11
            refine v_iinc (pc := 199) cx dX0_game_199 (q := 3) rfl ((ii_1 _).trans ez11.symm) (Nat.le_of_ble_eq_true rfl) (lv' := [(4, .int z11), (0, .ref (sz0 + 0)), (1, .int x1), (3, .int x3)]) rfl ?_
            refine v_goto (pc := 202) cx dX0_game_202 (tgt := 157) rfl ?_
            refine v_sub (lv' := [(0, .ref (sz0 + 0)), (1, .int x1), (3, .int x3), (4, .int z11)]) [1, 2, 3, 0] rfl ?_
            exact ih x3 z11 M sh h
          · replace h := h.2 c10
            refine v_aload_n (pc := 191) cx dX0_game_191 rfl 0 rfl ?_
            refine gq299_X0 (pc := 192) cx dX0_game_192 (sh.k k_0) (v_some (sh.r r_0_24) ?_)
            refine v_iload (pc := 195) cx dX0_game_195 3 rfl ?_
            obtain ⟨b12, h⟩ := h
            refine v_iald (pc := 197) cx dX0_game_197 (sh.k k_184) (sh.l k_184 l_184) b12 ?_
            refine v_topi (fun z13 ez13 => ?_)
            replace h := h z13 ez13
            refine v_istore_n (pc := 198) cx dX0_game_198 rfl (Nat.le_of_ble_eq_true rfl) (lv' := [(3, .int z13), (0, .ref (sz0 + 0)), (1, .int x1), (4, .int x4)]) rfl ?_
            refine nm_x (x4 + (1 : Int32)) (fun z14 ez14 => ?_)
            replace h := h z14 ez14
            refine v_iinc (pc := 199) cx dX0_game_199 (q := 3) rfl ((ii_1 _).trans ez14.symm) (Nat.le_of_ble_eq_true rfl) (lv' := [(4, .int z14), (3, .int z13), (0, .ref (sz0 + 0)), (1, .int x1)]) rfl ?_
            refine v_goto (pc := 202) cx dX0_game_202 (tgt := 157) rfl ?_
            refine v_sub (lv' := [(0, .ref (sz0 + 0)), (1, .int x1), (3, .int z13), (4, .int z14)]) [2, 3, 1, 0] rfl ?_
            exact ih z13 z14 M sh h
def m_X0_game_l75  (K49 : Int32 → WM → Prop) (K56 : Int32 → WM → Prop) (x1 : Int32) (x2 : Int32) (x3 : Int32) (x4 : Int32)   (Q : Int32 → WM → Prop) : Nat → Int32 → WM → Prop
  | 0, _, _ => False
  | n + 1, x5, M => ((x1 ≤ x5 → (∀ z2 : Int32, z2 = x4 + (1 : Int32) → K56 z2 M)) ∧ (¬ x1 ≤ x5 → (m_X0_has x3.toInt64 x4 (fun (a3 : Int32) => ((a3 = 0 → (∀ z5 : Int32, z5 = x4 + (1 : Int32) → K56 z5 M)) ∧ (¬ a3 = 0 → (vp_in x3 4096 ∧ (vp_in x4 12 ∧ (m_X0_winsBy x3 x4 x5 M (fun (a8 : Int32) => (vp_in x4 12 ∧ (∀ M10 : WM, M10 = wPI M ((1211 + x3.toNatClampNeg)) x4.toNatClampNeg (zb (((wI M ((1211 + x3.toNatClampNeg)) x4.toNatClampNeg) ||| a8))) → (∀ z11 : Int32, z11 = x5 + (1 : Int32) → m_X0_game_l75 K49 K56 x1 x2 x3 x4 Q n z11 M10)))))))))))))
theorem w_X0_game_l75 {p : Program} {l : Launch} {e : Env} {s : State} {m : MethodId} {args : Array Value} {below : List Frame} {meth : Method} {c : Code} {D : va_G} {cA : Nat → ClassId} {sz0 : Nat} {H0 : Heap}  {K49 : Int32 → WM → Prop} {K56 : Int32 → WM → Prop} {x1 : Int32} {x2 : Int32} {x3 : Int32} {x4 : Int32} {Q : Int32 → WM → Prop}  (cx : Cx p s m args meth c cX0_game 6 RX0 (some .int) D cA sz0 H0)  (hK49 : ∀ (x3 : Int32)  (M : WM) (sh : Shp M), K49 x3 M → V p l e ({ frames := 120, cells := 0, slots := 0, locals := 4632 } : Room) s m args below meth c 6 D cA sz0 H0 0 0 (MQ below (QW_i D cA sz0 H0 (fun r M' => Q r M' ∧ Shp M')) args s 0 0 (Aw sz0)) 49 [(0, .ref (sz0 + 0)), (1, .int x1), (2, .int x2), (3, .int x3)] [] M) (hK56 : ∀ (x4 : Int32)  (M : WM) (sh : Shp M), K56 x4 M → V p l e ({ frames := 120, cells := 0, slots := 0, locals := 4632 } : Room) s m args below meth c 6 D cA sz0 H0 0 0 (MQ below (QW_i D cA sz0 H0 (fun r M' => Q r M' ∧ Shp M')) args s 0 0 (Aw sz0)) 56 [(0, .ref (sz0 + 0)), (1, .int x1), (2, .int x2), (3, .int x3), (4, .int x4)] [] M)   : ∀ (n : Nat) (x5 : Int32)  (M : WM) (sh : Shp M), m_X0_game_l75 K49 K56 x1 x2 x3 x4 Q n x5 M → V p l e ({ frames := 120, cells := 0, slots := 0, locals := 4632 } : Room) s m args below meth c 6 D cA sz0 H0 0 0 (MQ below (QW_i D cA sz0 H0 (fun r M' => Q r M' ∧ Shp M')) args s 0 0 (Aw sz0)) 75 [(0, .ref (sz0 + 0)), (1, .int x1), (2, .int x2), (3, .int x3), (4, .int x4), (5, .int x5)] [] M := by
  intro n
  induction n with
  | zero => intro x5 M sh h; exact h.elim
  | succ n ih =>
    intro x5 M sh h
    replace h : ((x1 ≤ x5 → (∀ z2 : Int32, z2 = x4 + (1 : Int32) → K56 z2 M)) ∧ (¬ x1 ≤ x5 → (m_X0_has x3.toInt64 x4 (fun (a3 : Int32) => ((a3 = 0 → (∀ z5 : Int32, z5 = x4 + (1 : Int32) → K56 z5 M)) ∧ (¬ a3 = 0 → (vp_in x3 4096 ∧ (vp_in x4 12 ∧ (m_X0_winsBy x3 x4 x5 M (fun (a8 : Int32) => (vp_in x4 12 ∧ (∀ M10 : WM, M10 = wPI M ((1211 + x3.toNatClampNeg)) x4.toNatClampNeg (zb (((wI M ((1211 + x3.toNatClampNeg)) x4.toNatClampNeg) ||| a8))) → (∀ z11 : Int32, z11 = x5 + (1 : Int32) → m_X0_game_l75 K49 K56 x1 x2 x3 x4 Q n z11 M10))))))))))))) := h
    refine v_iload (pc := 75) cx dX0_game_75 5 rfl ?_
    refine v_iload_n (pc := 77) cx dX0_game_77 rfl 1 rfl ?_
    refine v_icmp_ge (pc := 78) cx dX0_game_78 (tgt := 118) rfl (fun c1 => ?_) (fun c1 => ?_)
    · replace h := h.1 c1
      refine nm_x (x4 + (1 : Int32)) (fun z2 ez2 => ?_)
      replace h := h z2 ez2
      refine v_iinc (pc := 118) cx dX0_game_118 (q := 4) rfl ((ii_1 _).trans ez2.symm) (Nat.le_of_ble_eq_true rfl) (lv' := [(4, .int z2), (0, .ref (sz0 + 0)), (1, .int x1), (2, .int x2), (3, .int x3), (5, .int x5)]) rfl ?_
      refine v_goto (pc := 121) cx dX0_game_121 (tgt := 56) rfl ?_
      refine v_sub (lv' := [(0, .ref (sz0 + 0)), (1, .int x1), (2, .int x2), (3, .int x3), (4, .int z2)]) [1, 2, 3, 4, 0] rfl ?_
      exact hK56 z2 M sh h
    · replace h := h.2 c1
      refine v_iload_n (pc := 81) cx dX0_game_81 rfl 3 rfl ?_
      refine v_i2l (pc := 82) cx dX0_game_82 ?_
      refine v_iload (pc := 83) cx dX0_game_83 4 rfl ?_
      refine v_runp_i (pc := 85) cx (kcq722_X0 cx (c_X0_has l D cA sz0 H0 M x3.toInt64 x4  _ h) ⟨Nat.le_of_ble_eq_true rfl, Nat.le_of_ble_eq_true rfl⟩ (As := [.long x3.toInt64, .int x4]) rfl rfl (Nat.le_of_ble_eq_true rfl) dX0_game_85 ⟨Nat.le_of_ble_eq_true rfl, Nat.le_of_ble_eq_true rfl⟩) (fun a3 hq => ?_)
      replace h := hq
      refine v_if_eq (pc := 88) cx dX0_game_88 (tgt := 118) rfl (fun c4 => ?_) (fun c4 => ?_)
      · replace h := h.1 c4
        refine nm_x (x4 + (1 : Int32)) (fun z5 ez5 => ?_)
        replace h := h z5 ez5
        refine v_iinc (pc := 118) cx dX0_game_118 (q := 4) rfl ((ii_1 _).trans ez5.symm) (Nat.le_of_ble_eq_true rfl) (lv' := [(4, .int z5), (0, .ref (sz0 + 0)), (1, .int x1), (2, .int x2), (3, .int x3), (5, .int x5)]) rfl ?_
        refine v_goto (pc := 121) cx dX0_game_121 (tgt := 56) rfl ?_
        refine v_sub (lv' := [(0, .ref (sz0 + 0)), (1, .int x1), (2, .int x2), (3, .int x3), (4, .int z5)]) [1, 2, 3, 4, 0] rfl ?_
        exact hK56 z5 M sh h
      · replace h := h.2 c4
        refine v_aload_n (pc := 91) cx dX0_game_91 rfl 0 rfl ?_
        refine gq302_X0 (pc := 92) cx dX0_game_92 (sh.k k_0) (v_some (sh.r r_0_27) ?_)
        refine v_iload_n (pc := 95) cx dX0_game_95 rfl 3 rfl ?_
        obtain ⟨b6, h⟩ := h
        refine v_aald106 (pc := 96) cx dX0_game_96 (sh.k k_1210) (sh.l k_1210 l_1210) b6 (v_some (sh.r (f_1210 (lt_in b6))) ?_)
        refine v_iload (pc := 97) cx dX0_game_97 4 rfl ?_
        refine v_dup2 (pc := 99) cx dX0_game_99 rfl rfl ?_
        obtain ⟨b7, h⟩ := h
        refine v_zald (pc := 100) cx dX0_game_100 (sh.k (fk_1210 (lt_in b6))) (sh.l (fk_1210 (lt_in b6)) (fl_1210 (lt_in b6))) b7 ?_
        refine v_aload_n (pc := 101) cx dX0_game_101 rfl 0 rfl ?_
        refine v_iload_n (pc := 102) cx dX0_game_102 rfl 3 rfl ?_
        refine v_iload (pc := 103) cx dX0_game_103 4 rfl ?_
        refine v_iload (pc := 105) cx dX0_game_105 5 rfl ?_
        refine v_runp_i (pc := 107) cx (kcq932_X0 cx (c_X0_winsBy l D cA sz0 H0 M x3 x4 x5  _ sh h) ⟨Nat.le_of_ble_eq_true rfl, Nat.le_of_ble_eq_true rfl⟩ (sh.k k_0) (As := [.int x3, .int x4, .int x5]) rfl rfl (Nat.le_of_ble_eq_true rfl) dX0_game_107 ⟨Nat.le_of_ble_eq_true rfl, Nat.le_of_ble_eq_true rfl⟩) (fun a8 hq => ?_)
        replace h := hq
        refine v_ior (pc := 110) cx dX0_game_110 ?_
        obtain ⟨b9, h⟩ := h
        refine v_zast (pc := 111) cx (y := zb (((wI M ((1211 + x3.toNatClampNeg)) x4.toNatClampNeg) ||| a8))) dX0_game_111 (sh.k (fk_1210 (lt_in b6))) (sh.l (fk_1210 (lt_in b6)) (fl_1210 (lt_in b6))) b9 (zb_nar _) ?_
        refine v_wld (fun M10 eM10 => ?_)
        replace h := h M10 eM10
        replace sh : Shp M10 := Shp_PI sh eM10
        refine nm_x (x5 + (1 : Int32)) (fun z11 ez11 => ?_)
        replace h := h z11 ez11
        refine v_iinc (pc := 112) cx dX0_game_112 (q := 5) rfl ((ii_1 _).trans ez11.symm) (Nat.le_of_ble_eq_true rfl) (lv' := [(5, .int z11), (0, .ref (sz0 + 0)), (1, .int x1), (2, .int x2), (3, .int x3), (4, .int x4)]) rfl ?_
        refine v_goto (pc := 115) cx dX0_game_115 (tgt := 75) rfl ?_
        refine v_sub (lv' := [(0, .ref (sz0 + 0)), (1, .int x1), (2, .int x2), (3, .int x3), (4, .int x4), (5, .int z11)]) [1, 2, 3, 4, 5, 0] rfl ?_
        exact ih z11 M10 sh h
def m_X0_game_l56  (K49 : Int32 → WM → Prop) (x1 : Int32) (x2 : Int32) (x3 : Int32)   (Q : Int32 → WM → Prop) : Nat → Int32 → WM → Prop
  | 0, _, _ => False
  | n + 1, x4, M => ((x1 ≤ x4 → (∀ z2 : Int32, z2 = x3 + ((-1) : Int32) → K49 z2 M)) ∧ (¬ x1 ≤ x4 → (vp_in x3 4096 ∧ (vp_in x4 12 ∧ (∀ M5 : WM, M5 = wPI M ((1211 + x3.toNatClampNeg)) x4.toNatClampNeg (zb ((0 : Int32))) → (∃ n0, m_X0_game_l75 K49 (fun x4' M' => m_X0_game_l56 K49 x1 x2 x3 Q n x4' M') x1 x2 x3 x4 Q n0 ((0 : Int32)) M5))))))
theorem w_X0_game_l56 {p : Program} {l : Launch} {e : Env} {s : State} {m : MethodId} {args : Array Value} {below : List Frame} {meth : Method} {c : Code} {D : va_G} {cA : Nat → ClassId} {sz0 : Nat} {H0 : Heap}  {K49 : Int32 → WM → Prop} {x1 : Int32} {x2 : Int32} {x3 : Int32} {Q : Int32 → WM → Prop}  (cx : Cx p s m args meth c cX0_game 6 RX0 (some .int) D cA sz0 H0)  (hK49 : ∀ (x3 : Int32)  (M : WM) (sh : Shp M), K49 x3 M → V p l e ({ frames := 120, cells := 0, slots := 0, locals := 4632 } : Room) s m args below meth c 6 D cA sz0 H0 0 0 (MQ below (QW_i D cA sz0 H0 (fun r M' => Q r M' ∧ Shp M')) args s 0 0 (Aw sz0)) 49 [(0, .ref (sz0 + 0)), (1, .int x1), (2, .int x2), (3, .int x3)] [] M)   : ∀ (n : Nat) (x4 : Int32)  (M : WM) (sh : Shp M), m_X0_game_l56 K49 x1 x2 x3 Q n x4 M → V p l e ({ frames := 120, cells := 0, slots := 0, locals := 4632 } : Room) s m args below meth c 6 D cA sz0 H0 0 0 (MQ below (QW_i D cA sz0 H0 (fun r M' => Q r M' ∧ Shp M')) args s 0 0 (Aw sz0)) 56 [(0, .ref (sz0 + 0)), (1, .int x1), (2, .int x2), (3, .int x3), (4, .int x4)] [] M := by
  intro n
  induction n with
  | zero => intro x4 M sh h; exact h.elim
  | succ n ih =>
    intro x4 M sh h
    replace h : ((x1 ≤ x4 → (∀ z2 : Int32, z2 = x3 + ((-1) : Int32) → K49 z2 M)) ∧ (¬ x1 ≤ x4 → (vp_in x3 4096 ∧ (vp_in x4 12 ∧ (∀ M5 : WM, M5 = wPI M ((1211 + x3.toNatClampNeg)) x4.toNatClampNeg (zb ((0 : Int32))) → (∃ n0, m_X0_game_l75 K49 (fun x4' M' => m_X0_game_l56 K49 x1 x2 x3 Q n x4' M') x1 x2 x3 x4 Q n0 ((0 : Int32)) M5)))))) := h
    refine v_iload (pc := 56) cx dX0_game_56 4 rfl ?_
    refine v_iload_n (pc := 58) cx dX0_game_58 rfl 1 rfl ?_
    refine v_icmp_ge (pc := 59) cx dX0_game_59 (tgt := 124) rfl (fun c1 => ?_) (fun c1 => ?_)
    · replace h := h.1 c1
      refine nm_x (x3 + ((-1) : Int32)) (fun z2 ez2 => ?_)
      replace h := h z2 ez2
      refine v_iinc (pc := 124) cx dX0_game_124 (q := 3) rfl ((ii_m1 _).trans ez2.symm) (Nat.le_of_ble_eq_true rfl) (lv' := [(3, .int z2), (0, .ref (sz0 + 0)), (1, .int x1), (2, .int x2), (4, .int x4)]) rfl ?_
      refine v_goto (pc := 127) cx dX0_game_127 (tgt := 49) rfl ?_
      refine v_sub (lv' := [(0, .ref (sz0 + 0)), (1, .int x1), (2, .int x2), (3, .int z2)]) [1, 2, 3, 0] rfl ?_
      exact hK49 z2 M sh h
    · replace h := h.2 c1
      refine v_aload_n (pc := 62) cx dX0_game_62 rfl 0 rfl ?_
      refine gq302_X0 (pc := 63) cx dX0_game_63 (sh.k k_0) (v_some (sh.r r_0_27) ?_)
      refine v_iload_n (pc := 66) cx dX0_game_66 rfl 3 rfl ?_
      obtain ⟨b3, h⟩ := h
      refine v_aald106 (pc := 67) cx dX0_game_67 (sh.k k_1210) (sh.l k_1210 l_1210) b3 (v_some (sh.r (f_1210 (lt_in b3))) ?_)
      refine v_iload (pc := 68) cx dX0_game_68 4 rfl ?_
      refine v_iconst (pc := 70) cx dX0_game_70 ic_0 ?_
      obtain ⟨b4, h⟩ := h
      refine v_zast (pc := 71) cx (y := zb ((0 : Int32))) dX0_game_71 (sh.k (fk_1210 (lt_in b3))) (sh.l (fk_1210 (lt_in b3)) (fl_1210 (lt_in b3))) b4 (zb_nar _) ?_
      refine v_wld (fun M5 eM5 => ?_)
      replace h := h M5 eM5
      replace sh : Shp M5 := Shp_PI sh eM5
      refine v_iconst (pc := 72) cx dX0_game_72 ic_0 ?_
      refine v_istore (pc := 73) cx dX0_game_73 (Nat.le_of_ble_eq_true rfl) (lv' := [(5, .int (0 : Int32)), (0, .ref (sz0 + 0)), (1, .int x1), (2, .int x2), (3, .int x3), (4, .int x4)]) rfl ?_
      refine v_sub (lv' := [(0, .ref (sz0 + 0)), (1, .int x1), (2, .int x2), (3, .int x3), (4, .int x4), (5, .int (0 : Int32))]) [1, 2, 3, 4, 5, 0] rfl ?_
      obtain ⟨n0, h⟩ := h
      exact w_X0_game_l75 cx hK49 ih n0 ((0 : Int32)) M5 sh h
def m_X0_game_l49   (x1 : Int32) (x2 : Int32)   (Q : Int32 → WM → Prop) : Nat → Int32 → WM → Prop
  | 0, _, _ => False
  | n + 1, x3, M => ((x3 ≤ 0 → ((x2 = 0 → (vp_in ((1 : Int32)) 4096 ∧ (vp_in ((0 : Int32)) 12 ∧ (((wI M ((1211 + ((1 : Int32)).toNatClampNeg)) ((0 : Int32)).toNatClampNeg) = 0 → Q ((0 : Int32)) M) ∧ (¬ (wI M ((1211 + ((1 : Int32)).toNatClampNeg)) ((0 : Int32)).toNatClampNeg) = 0 → Q ((1 : Int32)) M))))) ∧ (¬ x2 = 0 → (∃ n0, m_X0_game_l157 x1 Q n0 (((-2) : Int32)) ((0 : Int32)) M)))) ∧ (¬ x3 ≤ 0 → (∃ n0, m_X0_game_l56 (fun x3' M' => m_X0_game_l49 x1 x2 Q n x3' M') x1 x2 x3 Q n0 ((0 : Int32)) M)))
theorem w_X0_game_l49 {p : Program} {l : Launch} {e : Env} {s : State} {m : MethodId} {args : Array Value} {below : List Frame} {meth : Method} {c : Code} {D : va_G} {cA : Nat → ClassId} {sz0 : Nat} {H0 : Heap}  {x1 : Int32} {x2 : Int32} {Q : Int32 → WM → Prop}  (cx : Cx p s m args meth c cX0_game 6 RX0 (some .int) D cA sz0 H0)     : ∀ (n : Nat) (x3 : Int32)  (M : WM) (sh : Shp M), m_X0_game_l49 x1 x2 Q n x3 M → V p l e ({ frames := 120, cells := 0, slots := 0, locals := 4632 } : Room) s m args below meth c 6 D cA sz0 H0 0 0 (MQ below (QW_i D cA sz0 H0 (fun r M' => Q r M' ∧ Shp M')) args s 0 0 (Aw sz0)) 49 [(0, .ref (sz0 + 0)), (1, .int x1), (2, .int x2), (3, .int x3)] [] M := by
  intro n
  induction n with
  | zero => intro x3 M sh h; exact h.elim
  | succ n ih =>
    intro x3 M sh h
    replace h : ((x3 ≤ 0 → ((x2 = 0 → (vp_in ((1 : Int32)) 4096 ∧ (vp_in ((0 : Int32)) 12 ∧ (((wI M ((1211 + ((1 : Int32)).toNatClampNeg)) ((0 : Int32)).toNatClampNeg) = 0 → Q ((0 : Int32)) M) ∧ (¬ (wI M ((1211 + ((1 : Int32)).toNatClampNeg)) ((0 : Int32)).toNatClampNeg) = 0 → Q ((1 : Int32)) M))))) ∧ (¬ x2 = 0 → (∃ n0, m_X0_game_l157 x1 Q n0 (((-2) : Int32)) ((0 : Int32)) M)))) ∧ (¬ x3 ≤ 0 → (∃ n0, m_X0_game_l56 (fun x3' M' => m_X0_game_l49 x1 x2 Q n x3' M') x1 x2 x3 Q n0 ((0 : Int32)) M))) := h
    refine v_iload_n (pc := 49) cx dX0_game_49 rfl 3 rfl ?_
    refine v_if_le (pc := 50) cx dX0_game_50 (tgt := 130) rfl (fun c1 => ?_) (fun c1 => ?_)
    · replace h := h.1 c1
      refine v_iload_n (pc := 130) cx dX0_game_130 rfl 2 rfl ?_
      refine v_if_ne (pc := 131) cx dX0_game_131 (tgt := 151) rfl (fun c2 => ?_) (fun c2 => ?_)
      · replace h := h.2 c2
        refine v_bipush (pc := 151) cx dX0_game_151 bc_m2 ?_
        refine v_istore_n (pc := 153) cx dX0_game_153 rfl (Nat.le_of_ble_eq_true rfl) (lv' := [(3, .int ((-2) : Int32)), (0, .ref (sz0 + 0)), (1, .int x1), (2, .int x2)]) rfl ?_
        refine v_iconst (pc := 154) cx dX0_game_154 ic_0 ?_
        refine v_istore (pc := 155) cx dX0_game_155 (Nat.le_of_ble_eq_true rfl) (lv' := [(4, .int (0 : Int32)), (3, .int ((-2) : Int32)), (0, .ref (sz0 + 0)), (1, .int x1), (2, .int x2)]) rfl ?_
        refine v_sub (lv' := [(0, .ref (sz0 + 0)), (1, .int x1), (3, .int ((-2) : Int32)), (4, .int (0 : Int32))]) [2, 3, 1, 0] rfl ?_
        obtain ⟨n0, h⟩ := h
        exact w_X0_game_l157 cx n0 (((-2) : Int32)) ((0 : Int32)) M sh h
      · replace h := h.1 c2
        refine v_aload_n (pc := 134) cx dX0_game_134 rfl 0 rfl ?_
        refine gq302_X0 (pc := 135) cx dX0_game_135 (sh.k k_0) (v_some (sh.r r_0_27) ?_)
        refine v_iconst (pc := 138) cx dX0_game_138 ic_1 ?_
        obtain ⟨b3, h⟩ := h
        refine v_aald106 (pc := 139) cx dX0_game_139 (sh.k k_1210) (sh.l k_1210 l_1210) b3 (v_some (sh.r (f_1210 (lt_in b3))) ?_)
        refine v_iconst (pc := 140) cx dX0_game_140 ic_0 ?_
        obtain ⟨b4, h⟩ := h
        refine v_zald (pc := 141) cx dX0_game_141 (sh.k (fk_1210 (lt_in b3))) (sh.l (fk_1210 (lt_in b3)) (fl_1210 (lt_in b3))) b4 ?_
        refine v_if_eq (pc := 142) cx dX0_game_142 (tgt := 149) rfl (fun c5 => ?_) (fun c5 => ?_)
        · replace h := h.1 c5
          refine v_iconst (pc := 149) cx dX0_game_149 ic_0 ?_
          exact v_iret cx rfl dX0_game_150 ⟨Nat.le_of_ble_eq_true rfl, Nat.le_of_ble_eq_true rfl⟩ ⟨h, sh⟩
        · replace h := h.2 c5
          refine v_iconst (pc := 145) cx dX0_game_145 ic_1 ?_
          refine v_goto (pc := 146) cx dX0_game_146 (tgt := 150) rfl ?_
          exact v_iret cx rfl dX0_game_150 ⟨Nat.le_of_ble_eq_true rfl, Nat.le_of_ble_eq_true rfl⟩ ⟨h, sh⟩
    · replace h := h.2 c1
      refine v_iconst (pc := 53) cx dX0_game_53 ic_0 ?_
      refine v_istore (pc := 54) cx dX0_game_54 (Nat.le_of_ble_eq_true rfl) (lv' := [(4, .int (0 : Int32)), (0, .ref (sz0 + 0)), (1, .int x1), (2, .int x2), (3, .int x3)]) rfl ?_
      refine v_sub (lv' := [(0, .ref (sz0 + 0)), (1, .int x1), (2, .int x2), (3, .int x3), (4, .int (0 : Int32))]) [1, 2, 3, 4, 0] rfl ?_
      obtain ⟨n0, h⟩ := h
      exact w_X0_game_l56 cx ih n0 ((0 : Int32)) M sh h
def m_X0_game (x1 : Int32) (x2 : Int32) (M : WM)  (Q : Int32 → WM → Prop) : Prop := (m_X0_within x1 ((2 : Int32)) ((12 : Int32)) (fun (a1 : Int32) => ((a1 = 0 → Q (((-1) : Int32)) M) ∧ (¬ a1 = 0 → (m_X0_in x2 ((2 : Int32)) (fun (a3 : Int32) => ((a3 = 0 → Q (((-1) : Int32)) M) ∧ (¬ a3 = 0 → ((x1 ≤ (wI M 0 5) → (m_X0_takesUsed x1 M (fun (a6 : Int32) (M7 : WM) => ((a6 = 0 → Q (((-3) : Int32)) M7) ∧ (¬ a6 = 0 → (m_X0_lays  M7 (fun (M10 : WM) => (∀ z11 : Int32, z11 = (((1 : Int32) <<< (x1 &&& 31)) - (1 : Int32)) → (∃ n0, m_X0_game_l49 x1 x2 Q n0 z11 M10))))))))) ∧ (¬ x1 ≤ (wI M 0 5) → Q (((-1) : Int32)) M))))))))))
theorem c_X0_game (l : Launch) (D : va_G) (cA : Nat → ClassId) (sz0 : Nat) (H0 : Heap) (M : WM) (x1 : Int32) (x2 : Int32)   (Q : Int32 → WM → Prop) (sh : Shp M) (h : m_X0_game x1 x2 M  Q) : Met l yX0_game (ws_ yX0_game cX0_game 6 (some .int)) ({ frames := 120, cells := 0, slots := 0, locals := 4632 } : Room) (PcW D cA sz0 H0 [.ref (sz0 + 0), .int x1, .int x2] M) (QW_i D cA sz0 H0 (fun r M' => Q r M' ∧ Shp M')) 0 0 (Aw sz0) := by
  replace h : (m_X0_within x1 ((2 : Int32)) ((12 : Int32)) (fun (a1 : Int32) => ((a1 = 0 → Q (((-1) : Int32)) M) ∧ (¬ a1 = 0 → (m_X0_in x2 ((2 : Int32)) (fun (a3 : Int32) => ((a3 = 0 → Q (((-1) : Int32)) M) ∧ (¬ a3 = 0 → ((x1 ≤ (wI M 0 5) → (m_X0_takesUsed x1 M (fun (a6 : Int32) (M7 : WM) => ((a6 = 0 → Q (((-3) : Int32)) M7) ∧ (¬ a6 = 0 → (m_X0_lays  M7 (fun (M10 : WM) => (∀ z11 : Int32, z11 = (((1 : Int32) <<< (x1 &&& 31)) - (1 : Int32)) → (∃ n0, m_X0_game_l49 x1 x2 Q n0 z11 M10))))))))) ∧ (¬ x1 ≤ (wI M 0 5) → Q (((-1) : Int32)) M)))))))))) := h
  refine Met.ofV (by decide +kernel) (Nat.le_of_ble_eq_true rfl) ?_
  intro p e s m args below meth c cx hnm
  replace cx : Cx p s m args meth c cX0_game 6 RX0 (some .int) D cA sz0 H0 := cx
  refine v_sub (lv' := [(0, .ref (sz0 + 0)), (1, .int x1), (2, .int x2)]) [0, 1, 2] rfl ?_
  refine v_iload_n (pc := 0) cx dX0_game_0 rfl 1 rfl ?_
  refine v_iconst (pc := 1) cx dX0_game_1 ic_2 ?_
  refine v_bipush (pc := 2) cx dX0_game_2 bc_12 ?_
  refine v_runp_i (pc := 4) cx (kcq387_X0 cx (c_X0_within l D cA sz0 H0 M x1 ((2 : Int32)) ((12 : Int32))  _ h) ⟨Nat.le_of_ble_eq_true rfl, Nat.le_of_ble_eq_true rfl⟩ (As := [.int x1, .int (2 : Int32), .int (12 : Int32)]) rfl rfl (Nat.le_of_ble_eq_true rfl) dX0_game_4 ⟨Nat.le_of_ble_eq_true rfl, Nat.le_of_ble_eq_true rfl⟩) (fun a1 hq => ?_)
  replace h := hq
  refine v_if_eq (pc := 7) cx dX0_game_7 (tgt := 26) rfl (fun c2 => ?_) (fun c2 => ?_)
  · replace h := h.1 c2
    refine v_iconst (pc := 26) cx dX0_game_26 ic_m1 ?_
    exact v_iret cx rfl dX0_game_27 ⟨Nat.le_of_ble_eq_true rfl, Nat.le_of_ble_eq_true rfl⟩ ⟨h, sh⟩
  · replace h := h.2 c2
    refine v_iload_n (pc := 10) cx dX0_game_10 rfl 2 rfl ?_
    refine v_iconst (pc := 11) cx dX0_game_11 ic_2 ?_
    refine v_runp_i (pc := 12) cx (kcq390_X0 cx (c_X0_in l D cA sz0 H0 M x2 ((2 : Int32))  _ h) ⟨Nat.le_of_ble_eq_true rfl, Nat.le_of_ble_eq_true rfl⟩ (As := [.int x2, .int (2 : Int32)]) rfl rfl (Nat.le_of_ble_eq_true rfl) dX0_game_12 ⟨Nat.le_of_ble_eq_true rfl, Nat.le_of_ble_eq_true rfl⟩) (fun a3 hq => ?_)
    replace h := hq
    refine v_if_eq (pc := 15) cx dX0_game_15 (tgt := 26) rfl (fun c4 => ?_) (fun c4 => ?_)
    · replace h := h.1 c4
      refine v_iconst (pc := 26) cx dX0_game_26 ic_m1 ?_
      exact v_iret cx rfl dX0_game_27 ⟨Nat.le_of_ble_eq_true rfl, Nat.le_of_ble_eq_true rfl⟩ ⟨h, sh⟩
    · replace h := h.2 c4
      refine v_iload_n (pc := 18) cx dX0_game_18 rfl 1 rfl ?_
      refine v_aload_n (pc := 19) cx dX0_game_19 rfl 0 rfl ?_
      refine gq280_X0 (pc := 20) cx dX0_game_20 (sh.k k_0) ?_
      refine v_icmp_le (pc := 23) cx dX0_game_23 (tgt := 28) rfl (fun c5 => ?_) (fun c5 => ?_)
      · replace h := h.1 c5
        refine v_aload_n (pc := 28) cx dX0_game_28 rfl 0 rfl ?_
        refine v_iload_n (pc := 29) cx dX0_game_29 rfl 1 rfl ?_
        refine v_run_i (pc := 30) cx (kcq908_X0 cx (c_X0_takesUsed l D cA sz0 H0 M x1  _ sh h) ⟨Nat.le_of_ble_eq_true rfl, Nat.le_of_ble_eq_true rfl⟩ (sh.k k_0) (As := [.int x1]) rfl rfl (Nat.le_of_ble_eq_true rfl) dX0_game_30 ⟨Nat.le_of_ble_eq_true rfl, Nat.le_of_ble_eq_true rfl⟩) (fun a6 M7 hq => ?_)
        obtain ⟨h, sh⟩ := hq
        refine v_if_ne (pc := 33) cx dX0_game_33 (tgt := 39) rfl (fun c8 => ?_) (fun c8 => ?_)
        · replace h := h.2 c8
          refine v_aload_n (pc := 39) cx dX0_game_39 rfl 0 rfl ?_
          refine v_run_v (pc := 40) cx (kcq709_X0 cx (c_X0_lays l D cA sz0 H0 M7   _ sh h) ⟨Nat.le_of_ble_eq_true rfl, Nat.le_of_ble_eq_true rfl⟩ (sh.k k_0) (As := []) rfl rfl (Nat.le_of_ble_eq_true rfl) dX0_game_40 ⟨Nat.le_of_ble_eq_true rfl, Nat.le_of_ble_eq_true rfl⟩) (fun M10 hq => ?_)
          obtain ⟨h, sh⟩ := hq
          refine v_iconst (pc := 43) cx dX0_game_43 ic_1 ?_
          refine v_iload_n (pc := 44) cx dX0_game_44 rfl 1 rfl ?_
          refine v_ishl (pc := 45) cx dX0_game_45 ?_
          refine v_iconst (pc := 46) cx dX0_game_46 ic_1 ?_
          refine v_isub (pc := 47) cx dX0_game_47 ?_
          refine v_topi (fun z11 ez11 => ?_)
          replace h := h z11 ez11
          refine v_istore_n (pc := 48) cx dX0_game_48 rfl (Nat.le_of_ble_eq_true rfl) (lv' := [(3, .int z11), (0, .ref (sz0 + 0)), (1, .int x1), (2, .int x2)]) rfl ?_
          refine v_sub (lv' := [(0, .ref (sz0 + 0)), (1, .int x1), (2, .int x2), (3, .int z11)]) [1, 2, 3, 0] rfl ?_
          obtain ⟨n0, h⟩ := h
          exact w_X0_game_l49 cx n0 z11 M10 sh h
        · replace h := h.1 c8
          refine v_bipush (pc := 36) cx dX0_game_36 bc_m3 ?_
          exact v_iret cx rfl dX0_game_38 ⟨Nat.le_of_ble_eq_true rfl, Nat.le_of_ble_eq_true rfl⟩ ⟨h, sh⟩
      · replace h := h.2 c5
        refine v_iconst (pc := 26) cx dX0_game_26 ic_m1 ?_
        exact v_iret cx rfl dX0_game_27 ⟨Nat.le_of_ble_eq_true rfl, Nat.le_of_ble_eq_true rfl⟩ ⟨h, sh⟩
/-! LetterHeaps.heapOf(I)I -/
def m_X0_heapOf_l2   (x1 : Int32) (M : WM)  (Q : Int32 → Prop) : Nat → Int32 → Prop
  | 0, _ => False
  | n + 1, x2 => (vp_in x1 40 ∧ (m_X0_has ((wJ M 173 x1.toNatClampNeg)) x2 (fun (a2 : Int32) => ((a2 = 0 → (∀ z4 : Int32, z4 = x2 + (1 : Int32) → m_X0_heapOf_l2 x1 M Q n z4)) ∧ (¬ a2 = 0 → (vp_in x2 40 ∧ (m_X0_has ((wJ M 173 x2.toNatClampNeg)) x1 (fun (a6 : Int32) => ((a6 = 0 → (∀ z8 : Int32, z8 = x2 + (1 : Int32) → m_X0_heapOf_l2 x1 M Q n z8)) ∧ (¬ a6 = 0 → Q x2))))))))))
theorem w_X0_heapOf_l2 {p : Program} {l : Launch} {e : Env} {s : State} {m : MethodId} {args : Array Value} {below : List Frame} {meth : Method} {c : Code} {D : va_G} {cA : Nat → ClassId} {sz0 : Nat} {H0 : Heap}  {x1 : Int32} {M : WM} {Q : Int32 → Prop}  (cx : Cx p s m args meth c cX0_heapOf 3 RX0 (some .int) D cA sz0 H0)    (sh : Shp M) : ∀ (n : Nat) (x2 : Int32) , m_X0_heapOf_l2 x1 M Q n x2 → V p l e ({ frames := 1, cells := 0, slots := 0, locals := 22 } : Room) s m args below meth c 3 D cA sz0 H0 0 0 (MQ below (QW_i D cA sz0 H0 (fun r M' => M' = M ∧ Q r)) args s 0 0 (Aw sz0)) 2 [(0, .ref (sz0 + 0)), (1, .int x1), (2, .int x2)] [] M := by
  intro n
  induction n with
  | zero => intro x2 h; exact h.elim
  | succ n ih =>
    intro x2 h
    replace h : (vp_in x1 40 ∧ (m_X0_has ((wJ M 173 x1.toNatClampNeg)) x2 (fun (a2 : Int32) => ((a2 = 0 → (∀ z4 : Int32, z4 = x2 + (1 : Int32) → m_X0_heapOf_l2 x1 M Q n z4)) ∧ (¬ a2 = 0 → (vp_in x2 40 ∧ (m_X0_has ((wJ M 173 x2.toNatClampNeg)) x1 (fun (a6 : Int32) => ((a6 = 0 → (∀ z8 : Int32, z8 = x2 + (1 : Int32) → m_X0_heapOf_l2 x1 M Q n z8)) ∧ (¬ a6 = 0 → Q x2)))))))))) := h
    refine v_aload_n (pc := 2) cx dX0_heapOf_2 rfl 0 rfl ?_
    refine gq290_X0 (pc := 3) cx dX0_heapOf_3 (sh.k k_0) (v_some (sh.r r_0_15) ?_)
    refine v_iload_n (pc := 6) cx dX0_heapOf_6 rfl 1 rfl ?_
    obtain ⟨b1, h⟩ := h
    refine v_lald (pc := 7) cx dX0_heapOf_7 (sh.k k_173) (sh.l k_173 l_173) b1 ?_
    refine v_iload_n (pc := 8) cx dX0_heapOf_8 rfl 2 rfl ?_
    refine v_runp_i (pc := 9) cx (kcq722_X0 cx (c_X0_has l D cA sz0 H0 M ((wJ M 173 x1.toNatClampNeg)) x2  _ h) ⟨Nat.le_of_ble_eq_true rfl, Nat.le_of_ble_eq_true rfl⟩ (As := [.long (wJ M 173 x1.toNatClampNeg), .int x2]) rfl rfl (Nat.le_of_ble_eq_true rfl) dX0_heapOf_9 ⟨Nat.le_of_ble_eq_true rfl, Nat.le_of_ble_eq_true rfl⟩) (fun a2 hq => ?_)
    replace h := hq
    refine v_if_eq (pc := 12) cx dX0_heapOf_12 (tgt := 28) rfl (fun c3 => ?_) (fun c3 => ?_)
    · replace h := h.1 c3
      refine nm_x (x2 + (1 : Int32)) (fun z4 ez4 => ?_)
      replace h := h z4 ez4
      refine v_iinc (pc := 28) cx dX0_heapOf_28 (q := 2) rfl ((ii_1 _).trans ez4.symm) (Nat.le_of_ble_eq_true rfl) (lv' := [(2, .int z4), (0, .ref (sz0 + 0)), (1, .int x1)]) rfl ?_
      refine v_goto (pc := 31) cx dX0_heapOf_31 (tgt := 2) rfl ?_
      refine v_sub (lv' := [(0, .ref (sz0 + 0)), (1, .int x1), (2, .int z4)]) [1, 2, 0] rfl ?_
      exact ih z4 h
    · replace h := h.2 c3
      refine v_aload_n (pc := 15) cx dX0_heapOf_15 rfl 0 rfl ?_
      refine gq290_X0 (pc := 16) cx dX0_heapOf_16 (sh.k k_0) (v_some (sh.r r_0_15) ?_)
      refine v_iload_n (pc := 19) cx dX0_heapOf_19 rfl 2 rfl ?_
      obtain ⟨b5, h⟩ := h
      refine v_lald (pc := 20) cx dX0_heapOf_20 (sh.k k_173) (sh.l k_173 l_173) b5 ?_
      refine v_iload_n (pc := 21) cx dX0_heapOf_21 rfl 1 rfl ?_
      refine v_runp_i (pc := 22) cx (kcq722_X0 cx (c_X0_has l D cA sz0 H0 M ((wJ M 173 x2.toNatClampNeg)) x1  _ h) ⟨Nat.le_of_ble_eq_true rfl, Nat.le_of_ble_eq_true rfl⟩ (As := [.long (wJ M 173 x2.toNatClampNeg), .int x1]) rfl rfl (Nat.le_of_ble_eq_true rfl) dX0_heapOf_22 ⟨Nat.le_of_ble_eq_true rfl, Nat.le_of_ble_eq_true rfl⟩) (fun a6 hq => ?_)
      replace h := hq
      refine v_if_ne (pc := 25) cx dX0_heapOf_25 (tgt := 34) rfl (fun c7 => ?_) (fun c7 => ?_)
      · replace h := h.2 c7
        refine v_iload_n (pc := 34) cx dX0_heapOf_34 rfl 2 rfl ?_
        exact v_iret cx rfl dX0_heapOf_35 ⟨Nat.le_of_ble_eq_true rfl, Nat.le_of_ble_eq_true rfl⟩ ⟨rfl, h⟩
      · replace h := h.1 c7
        refine nm_x (x2 + (1 : Int32)) (fun z8 ez8 => ?_)
        replace h := h z8 ez8
        refine v_iinc (pc := 28) cx dX0_heapOf_28 (q := 2) rfl ((ii_1 _).trans ez8.symm) (Nat.le_of_ble_eq_true rfl) (lv' := [(2, .int z8), (0, .ref (sz0 + 0)), (1, .int x1)]) rfl ?_
        refine v_goto (pc := 31) cx dX0_heapOf_31 (tgt := 2) rfl ?_
        refine v_sub (lv' := [(0, .ref (sz0 + 0)), (1, .int x1), (2, .int z8)]) [1, 2, 0] rfl ?_
        exact ih z8 h
def m_X0_heapOf (x1 : Int32) (M : WM)  (Q : Int32 → Prop) : Prop := (∃ n0, m_X0_heapOf_l2 x1 M Q n0 ((0 : Int32)))
theorem c_X0_heapOf (l : Launch) (D : va_G) (cA : Nat → ClassId) (sz0 : Nat) (H0 : Heap) (M : WM) (x1 : Int32)   (Q : Int32 → Prop) (sh : Shp M) (h : m_X0_heapOf x1 M  Q) : Met l yX0_heapOf (ws_ yX0_heapOf cX0_heapOf 3 (some .int)) ({ frames := 1, cells := 0, slots := 0, locals := 22 } : Room) (PcW D cA sz0 H0 [.ref (sz0 + 0), .int x1] M) (QW_i D cA sz0 H0 (fun r M' => M' = M ∧ Q r)) 0 0 (Aw sz0) := by
  replace h : (∃ n0, m_X0_heapOf_l2 x1 M Q n0 ((0 : Int32))) := h
  refine Met.ofV (by decide +kernel) (Nat.le_of_ble_eq_true rfl) ?_
  intro p e s m args below meth c cx hnm
  replace cx : Cx p s m args meth c cX0_heapOf 3 RX0 (some .int) D cA sz0 H0 := cx
  refine v_sub (lv' := [(0, .ref (sz0 + 0)), (1, .int x1)]) [0, 1] rfl ?_
  refine v_iconst (pc := 0) cx dX0_heapOf_0 ic_0 ?_
  refine v_istore_n (pc := 1) cx dX0_heapOf_1 rfl (Nat.le_of_ble_eq_true rfl) (lv' := [(2, .int (0 : Int32)), (0, .ref (sz0 + 0)), (1, .int x1)]) rfl ?_
  refine v_sub (lv' := [(0, .ref (sz0 + 0)), (1, .int x1), (2, .int (0 : Int32))]) [1, 2, 0] rfl ?_
  obtain ⟨n0, h⟩ := h
  exact w_X0_heapOf_l2 cx sh n0 ((0 : Int32)) h
/-! LetterHeaps.heap(I)I -/
def m_X0_heap (x1 : Int32) (M : WM)  (Q : Int32 → WM → Prop) : Prop := (m_X0_isWord x1 M (fun (a1 : Int32) => ((a1 = 0 → Q (((-1) : Int32)) M) ∧ (¬ a1 = 0 → (m_X0_lays  M (fun (M4 : WM) => (m_X0_isUsed x1 M4 (fun (a5 : Int32) => ((a5 = 0 → Q (((-2) : Int32)) M4) ∧ (¬ a5 = 0 → (m_X0_heapOf x1 M4 (fun (a7 : Int32) => Q a7 M4))))))))))))
theorem c_X0_heap (l : Launch) (D : va_G) (cA : Nat → ClassId) (sz0 : Nat) (H0 : Heap) (M : WM) (x1 : Int32)   (Q : Int32 → WM → Prop) (sh : Shp M) (h : m_X0_heap x1 M  Q) : Met l yX0_heap (ws_ yX0_heap cX0_heap 2 (some .int)) ({ frames := 120, cells := 0, slots := 0, locals := 4632 } : Room) (PcW D cA sz0 H0 [.ref (sz0 + 0), .int x1] M) (QW_i D cA sz0 H0 (fun r M' => Q r M' ∧ Shp M')) 0 0 (Aw sz0) := by
  replace h : (m_X0_isWord x1 M (fun (a1 : Int32) => ((a1 = 0 → Q (((-1) : Int32)) M) ∧ (¬ a1 = 0 → (m_X0_lays  M (fun (M4 : WM) => (m_X0_isUsed x1 M4 (fun (a5 : Int32) => ((a5 = 0 → Q (((-2) : Int32)) M4) ∧ (¬ a5 = 0 → (m_X0_heapOf x1 M4 (fun (a7 : Int32) => Q a7 M4)))))))))))) := h
  refine Met.ofV (by decide +kernel) (Nat.le_of_ble_eq_true rfl) ?_
  intro p e s m args below meth c cx hnm
  replace cx : Cx p s m args meth c cX0_heap 2 RX0 (some .int) D cA sz0 H0 := cx
  refine v_sub (lv' := [(0, .ref (sz0 + 0)), (1, .int x1)]) [0, 1] rfl ?_
  refine v_aload_n (pc := 0) cx dX0_heap_0 rfl 0 rfl ?_
  refine v_iload_n (pc := 1) cx dX0_heap_1 rfl 1 rfl ?_
  refine v_runp_i (pc := 2) cx (kcq421_X0 cx (c_X0_isWord l D cA sz0 H0 M x1  _ sh h) ⟨Nat.le_of_ble_eq_true rfl, Nat.le_of_ble_eq_true rfl⟩ (sh.k k_0) (As := [.int x1]) rfl rfl (Nat.le_of_ble_eq_true rfl) dX0_heap_2 ⟨Nat.le_of_ble_eq_true rfl, Nat.le_of_ble_eq_true rfl⟩) (fun a1 hq => ?_)
  replace h := hq
  refine v_if_ne (pc := 5) cx dX0_heap_5 (tgt := 10) rfl (fun c2 => ?_) (fun c2 => ?_)
  · replace h := h.2 c2
    refine v_aload_n (pc := 10) cx dX0_heap_10 rfl 0 rfl ?_
    refine v_run_v (pc := 11) cx (kcq709_X0 cx (c_X0_lays l D cA sz0 H0 M   _ sh h) ⟨Nat.le_of_ble_eq_true rfl, Nat.le_of_ble_eq_true rfl⟩ (sh.k k_0) (As := []) rfl rfl (Nat.le_of_ble_eq_true rfl) dX0_heap_11 ⟨Nat.le_of_ble_eq_true rfl, Nat.le_of_ble_eq_true rfl⟩) (fun M4 hq => ?_)
    obtain ⟨h, sh⟩ := hq
    refine v_aload_n (pc := 14) cx dX0_heap_14 rfl 0 rfl ?_
    refine v_iload_n (pc := 15) cx dX0_heap_15 rfl 1 rfl ?_
    refine v_runp_i (pc := 16) cx (kcq718_X0 cx (c_X0_isUsed l D cA sz0 H0 M4 x1  _ sh h) ⟨Nat.le_of_ble_eq_true rfl, Nat.le_of_ble_eq_true rfl⟩ (sh.k k_0) (As := [.int x1]) rfl rfl (Nat.le_of_ble_eq_true rfl) dX0_heap_16 ⟨Nat.le_of_ble_eq_true rfl, Nat.le_of_ble_eq_true rfl⟩) (fun a5 hq => ?_)
    replace h := hq
    refine v_if_eq (pc := 19) cx dX0_heap_19 (tgt := 30) rfl (fun c6 => ?_) (fun c6 => ?_)
    · replace h := h.1 c6
      refine v_bipush (pc := 30) cx dX0_heap_30 bc_m2 ?_
      exact v_iret cx rfl dX0_heap_32 ⟨Nat.le_of_ble_eq_true rfl, Nat.le_of_ble_eq_true rfl⟩ ⟨h, sh⟩
    · replace h := h.2 c6
      refine v_aload_n (pc := 22) cx dX0_heap_22 rfl 0 rfl ?_
      refine v_iload_n (pc := 23) cx dX0_heap_23 rfl 1 rfl ?_
      refine v_runp_i (pc := 24) cx (kcq846_X0 cx (c_X0_heapOf l D cA sz0 H0 M4 x1  _ sh h) ⟨Nat.le_of_ble_eq_true rfl, Nat.le_of_ble_eq_true rfl⟩ (sh.k k_0) (As := [.int x1]) rfl rfl (Nat.le_of_ble_eq_true rfl) dX0_heap_24 ⟨Nat.le_of_ble_eq_true rfl, Nat.le_of_ble_eq_true rfl⟩) (fun a7 hq => ?_)
      replace h := hq
      refine v_goto (pc := 27) cx dX0_heap_27 (tgt := 32) rfl ?_
      exact v_iret cx rfl dX0_heap_32 ⟨Nat.le_of_ble_eq_true rfl, Nat.le_of_ble_eq_true rfl⟩ ⟨h, sh⟩
  · replace h := h.1 c2
    refine v_iconst (pc := 8) cx dX0_heap_8 ic_m1 ?_
    exact v_iret cx rfl dX0_heap_9 ⟨Nat.le_of_ble_eq_true rfl, Nat.le_of_ble_eq_true rfl⟩ ⟨h, sh⟩
/-! LetterHeaps.heaps()I -/
def m_X0_heaps_l8      (Q : Int32 → WM → Prop) : Nat → Int32 → Int32 → WM → Prop
  | 0, _, _, _ => False
  | n + 1, x1, x2, M => (((wI M 0 3) ≤ x2 → Q x1 M) ∧ (¬ (wI M 0 3) ≤ x2 → (m_X0_isUsed x2 M (fun (a2 : Int32) => ((a2 = 0 → (∀ z4 : Int32, z4 = (x1 + (0 : Int32)) → (∀ z5 : Int32, z5 = x2 + (1 : Int32) → m_X0_heaps_l8  Q n z4 z5 M))) ∧ (¬ a2 = 0 → (m_X0_heapOf x2 M (fun (a6 : Int32) => ((a6 = x2 → (∀ z10 : Int32, z10 = (x1 + (1 : Int32)) → (∀ z11 : Int32, z11 = x2 + (1 : Int32) → m_X0_heaps_l8  Q n z10 z11 M))) ∧ (¬ a6 = x2 → (∀ z8 : Int32, z8 = (x1 + (0 : Int32)) → (∀ z9 : Int32, z9 = x2 + (1 : Int32) → m_X0_heaps_l8  Q n z8 z9 M))))))))))))
theorem w_X0_heaps_l8 {p : Program} {l : Launch} {e : Env} {s : State} {m : MethodId} {args : Array Value} {below : List Frame} {meth : Method} {c : Code} {D : va_G} {cA : Nat → ClassId} {sz0 : Nat} {H0 : Heap}  {Q : Int32 → WM → Prop}  (cx : Cx p s m args meth c cX0_heaps 3 RX0 (some .int) D cA sz0 H0)     : ∀ (n : Nat) (x1 : Int32) (x2 : Int32)  (M : WM) (sh : Shp M), m_X0_heaps_l8 Q n x1 x2 M → V p l e ({ frames := 120, cells := 0, slots := 0, locals := 4632 } : Room) s m args below meth c 3 D cA sz0 H0 0 0 (MQ below (QW_i D cA sz0 H0 (fun r M' => Q r M' ∧ Shp M')) args s 0 0 (Aw sz0)) 8 [(0, .ref (sz0 + 0)), (1, .int x1), (2, .int x2)] [] M := by
  intro n
  induction n with
  | zero => intro x1 x2 M sh h; exact h.elim
  | succ n ih =>
    intro x1 x2 M sh h
    replace h : (((wI M 0 3) ≤ x2 → Q x1 M) ∧ (¬ (wI M 0 3) ≤ x2 → (m_X0_isUsed x2 M (fun (a2 : Int32) => ((a2 = 0 → (∀ z4 : Int32, z4 = (x1 + (0 : Int32)) → (∀ z5 : Int32, z5 = x2 + (1 : Int32) → m_X0_heaps_l8  Q n z4 z5 M))) ∧ (¬ a2 = 0 → (m_X0_heapOf x2 M (fun (a6 : Int32) => ((a6 = x2 → (∀ z10 : Int32, z10 = (x1 + (1 : Int32)) → (∀ z11 : Int32, z11 = x2 + (1 : Int32) → m_X0_heaps_l8  Q n z10 z11 M))) ∧ (¬ a6 = x2 → (∀ z8 : Int32, z8 = (x1 + (0 : Int32)) → (∀ z9 : Int32, z9 = x2 + (1 : Int32) → m_X0_heaps_l8  Q n z8 z9 M)))))))))))) := h
    refine v_iload_n (pc := 8) cx dX0_heaps_8 rfl 2 rfl ?_
    refine v_aload_n (pc := 9) cx dX0_heaps_9 rfl 0 rfl ?_
    refine gq278_X0 (pc := 10) cx dX0_heaps_10 (sh.k k_0) ?_
    refine v_icmp_ge (pc := 13) cx dX0_heaps_13 (tgt := 47) rfl (fun c1 => ?_) (fun c1 => ?_)
    · replace h := h.1 c1
      refine v_iload_n (pc := 47) cx dX0_heaps_47 rfl 1 rfl ?_
      exact v_iret cx rfl dX0_heaps_48 ⟨Nat.le_of_ble_eq_true rfl, Nat.le_of_ble_eq_true rfl⟩ ⟨h, sh⟩
    · replace h := h.2 c1
      refine v_iload_n (pc := 16) cx dX0_heaps_16 rfl 1 rfl ?_
      refine v_aload_n (pc := 17) cx dX0_heaps_17 rfl 0 rfl ?_
      refine v_iload_n (pc := 18) cx dX0_heaps_18 rfl 2 rfl ?_
      refine v_runp_i (pc := 19) cx (kcq718_X0 cx (c_X0_isUsed l D cA sz0 H0 M x2  _ sh h) ⟨Nat.le_of_ble_eq_true rfl, Nat.le_of_ble_eq_true rfl⟩ (sh.k k_0) (As := [.int x2]) rfl rfl (Nat.le_of_ble_eq_true rfl) dX0_heaps_19 ⟨Nat.le_of_ble_eq_true rfl, Nat.le_of_ble_eq_true rfl⟩) (fun a2 hq => ?_)
      replace h := hq
      refine v_if_eq (pc := 22) cx dX0_heaps_22 (tgt := 38) rfl (fun c3 => ?_) (fun c3 => ?_)
      · replace h := h.1 c3
        refine v_iconst (pc := 38) cx dX0_heaps_38 ic_0 ?_
        refine v_iadd (pc := 39) cx dX0_heaps_39 ?_
        refine v_topi (fun z4 ez4 => ?_)
        replace h := h z4 ez4
        refine v_istore_n (pc := 40) cx dX0_heaps_40 rfl (Nat.le_of_ble_eq_true rfl) (lv' := [(1, .int z4), (0, .ref (sz0 + 0)), (2, .int x2)]) rfl ?_
        refine nm_x (x2 + (1 : Int32)) (fun z5 ez5 => ?_)
        replace h := h z5 ez5
        refine v_iinc (pc := 41) cx dX0_heaps_41 (q := 2) rfl ((ii_1 _).trans ez5.symm) (Nat.le_of_ble_eq_true rfl) (lv' := [(2, .int z5), (1, .int z4), (0, .ref (sz0 + 0))]) rfl ?_
        refine v_goto (pc := 44) cx dX0_heaps_44 (tgt := 8) rfl ?_
        refine v_sub (lv' := [(0, .ref (sz0 + 0)), (1, .int z4), (2, .int z5)]) [2, 1, 0] rfl ?_
        exact ih z4 z5 M sh h
      · replace h := h.2 c3
        refine v_aload_n (pc := 25) cx dX0_heaps_25 rfl 0 rfl ?_
        refine v_iload_n (pc := 26) cx dX0_heaps_26 rfl 2 rfl ?_
        refine v_runp_i (pc := 27) cx (kcq846_X0 cx (c_X0_heapOf l D cA sz0 H0 M x2  _ sh h) ⟨Nat.le_of_ble_eq_true rfl, Nat.le_of_ble_eq_true rfl⟩ (sh.k k_0) (As := [.int x2]) rfl rfl (Nat.le_of_ble_eq_true rfl) dX0_heaps_27 ⟨Nat.le_of_ble_eq_true rfl, Nat.le_of_ble_eq_true rfl⟩) (fun a6 hq => ?_)
        replace h := hq
        refine v_iload_n (pc := 30) cx dX0_heaps_30 rfl 2 rfl ?_
        refine v_icmp_ne (pc := 31) cx dX0_heaps_31 (tgt := 38) rfl (fun c7 => ?_) (fun c7 => ?_)
        · replace h := h.2 c7
          refine v_iconst (pc := 38) cx dX0_heaps_38 ic_0 ?_
          refine v_iadd (pc := 39) cx dX0_heaps_39 ?_
          refine v_topi (fun z8 ez8 => ?_)
          replace h := h z8 ez8
          refine v_istore_n (pc := 40) cx dX0_heaps_40 rfl (Nat.le_of_ble_eq_true rfl) (lv' := [(1, .int z8), (0, .ref (sz0 + 0)), (2, .int x2)]) rfl ?_
          refine nm_x (x2 + (1 : Int32)) (fun z9 ez9 => ?_)
          replace h := h z9 ez9
          refine v_iinc (pc := 41) cx dX0_heaps_41 (q := 2) rfl ((ii_1 _).trans ez9.symm) (Nat.le_of_ble_eq_true rfl) (lv' := [(2, .int z9), (1, .int z8), (0, .ref (sz0 + 0))]) rfl ?_
          refine v_goto (pc := 44) cx dX0_heaps_44 (tgt := 8) rfl ?_
          refine v_sub (lv' := [(0, .ref (sz0 + 0)), (1, .int z8), (2, .int z9)]) [2, 1, 0] rfl ?_
          exact ih z8 z9 M sh h
        · replace h := h.1 c7
          refine v_iconst (pc := 34) cx dX0_heaps_34 ic_1 ?_
          refine v_goto (pc := 35) cx dX0_heaps_35 (tgt := 39) rfl ?_
          refine v_iadd (pc := 39) cx dX0_heaps_39 ?_
          refine v_topi (fun z10 ez10 => ?_)
          replace h := h z10 ez10
          refine v_istore_n (pc := 40) cx dX0_heaps_40 rfl (Nat.le_of_ble_eq_true rfl) (lv' := [(1, .int z10), (0, .ref (sz0 + 0)), (2, .int x2)]) rfl ?_
          refine nm_x (x2 + (1 : Int32)) (fun z11 ez11 => ?_)
          replace h := h z11 ez11
          refine v_iinc (pc := 41) cx dX0_heaps_41 (q := 2) rfl ((ii_1 _).trans ez11.symm) (Nat.le_of_ble_eq_true rfl) (lv' := [(2, .int z11), (1, .int z10), (0, .ref (sz0 + 0))]) rfl ?_
          refine v_goto (pc := 44) cx dX0_heaps_44 (tgt := 8) rfl ?_
          refine v_sub (lv' := [(0, .ref (sz0 + 0)), (1, .int z10), (2, .int z11)]) [2, 1, 0] rfl ?_
          exact ih z10 z11 M sh h
def m_X0_heaps  (M : WM)  (Q : Int32 → WM → Prop) : Prop := (m_X0_lays  M (fun (M2 : WM) => (∃ n0, m_X0_heaps_l8 Q n0 ((0 : Int32)) ((0 : Int32)) M2)))
theorem c_X0_heaps (l : Launch) (D : va_G) (cA : Nat → ClassId) (sz0 : Nat) (H0 : Heap) (M : WM)    (Q : Int32 → WM → Prop) (sh : Shp M) (h : m_X0_heaps  M  Q) : Met l yX0_heaps (ws_ yX0_heaps cX0_heaps 3 (some .int)) ({ frames := 120, cells := 0, slots := 0, locals := 4632 } : Room) (PcW D cA sz0 H0 [.ref (sz0 + 0)] M) (QW_i D cA sz0 H0 (fun r M' => Q r M' ∧ Shp M')) 0 0 (Aw sz0) := by
  replace h : (m_X0_lays  M (fun (M2 : WM) => (∃ n0, m_X0_heaps_l8 Q n0 ((0 : Int32)) ((0 : Int32)) M2))) := h
  refine Met.ofV (by decide +kernel) (Nat.le_of_ble_eq_true rfl) ?_
  intro p e s m args below meth c cx hnm
  replace cx : Cx p s m args meth c cX0_heaps 3 RX0 (some .int) D cA sz0 H0 := cx
  refine v_sub (lv' := [(0, .ref (sz0 + 0))]) [0] rfl ?_
  refine v_aload_n (pc := 0) cx dX0_heaps_0 rfl 0 rfl ?_
  refine v_run_v (pc := 1) cx (kcq709_X0 cx (c_X0_lays l D cA sz0 H0 M   _ sh h) ⟨Nat.le_of_ble_eq_true rfl, Nat.le_of_ble_eq_true rfl⟩ (sh.k k_0) (As := []) rfl rfl (Nat.le_of_ble_eq_true rfl) dX0_heaps_1 ⟨Nat.le_of_ble_eq_true rfl, Nat.le_of_ble_eq_true rfl⟩) (fun M2 hq => ?_)
  obtain ⟨h, sh⟩ := hq
  refine v_iconst (pc := 4) cx dX0_heaps_4 ic_0 ?_
  refine v_istore_n (pc := 5) cx dX0_heaps_5 rfl (Nat.le_of_ble_eq_true rfl) (lv' := [(1, .int (0 : Int32)), (0, .ref (sz0 + 0))]) rfl ?_
  refine v_iconst (pc := 6) cx dX0_heaps_6 ic_0 ?_
  refine v_istore_n (pc := 7) cx dX0_heaps_7 rfl (Nat.le_of_ble_eq_true rfl) (lv' := [(2, .int (0 : Int32)), (1, .int (0 : Int32)), (0, .ref (sz0 + 0))]) rfl ?_
  refine v_sub (lv' := [(0, .ref (sz0 + 0)), (1, .int (0 : Int32)), (2, .int (0 : Int32))]) [2, 1, 0] rfl ?_
  obtain ⟨n0, h⟩ := h
  exact w_X0_heaps_l8 cx n0 ((0 : Int32)) ((0 : Int32)) M2 sh h
/-! LetterHeaps.rowsTo(II)J -/
def m_X0_rowsTo_l28 (FrowsTo : Int32 → Int32 → WM → (Int64 → WM → Prop) → Prop)  (x1 : Int32) (x2 : Int32)   (Q : Int64 → WM → Prop) : Nat → Int64 → Int32 → WM → Prop
  | 0, _, _, _ => False
  | n + 1, x3, x5, M => (((wI M 0 3) ≤ x5 → (vp_in x1 40 ∧ (∀ M3 : WM, M3 = wPI M 176 x1.toNatClampNeg (zb ((1 : Int32))) → (vp_in x1 40 ∧ (∀ M5 : WM, M5 = wPJ M3 175 x1.toNatClampNeg x3 → Q x3 M5))))) ∧ (¬ (wI M 0 3) ≤ x5 → (m_X0_isStep x1 x5 M (fun (a6 : Int32) => ((a6 = 0 → (∀ z8 : Int32, z8 = x5 + (1 : Int32) → m_X0_rowsTo_l28 FrowsTo x1 x2 Q n x3 z8 M)) ∧ (¬ a6 = 0 → (vp_in x5 40 ∧ (vp_in x2 40 ∧ (((268435456 : Int32) ≤ (wI M ((133 + x5.toNatClampNeg)) x2.toNatClampNeg) → (∀ z12 : Int32, z12 = x5 + (1 : Int32) → m_X0_rowsTo_l28 FrowsTo x1 x2 Q n x3 z12 M)) ∧ (¬ (268435456 : Int32) ≤ (wI M ((133 + x5.toNatClampNeg)) x2.toNatClampNeg) → (vp_in x1 40 ∧ (vp_in x5 40 ∧ (m_X0_costOf x5 x2 M (fun (a15 : Int32) => (m_X0_costOf x1 x2 M (fun (a16 : Int32) => ((((wI M ((10 + x1.toNatClampNeg)) x5.toNatClampNeg) + a15) = a16 → (FrowsTo x5 x2 M (fun (a19 : Int64) (M20 : WM) => (∀ z21 : Int64, z21 = (x3 + a19) → (∀ z22 : Int32, z22 = x5 + (1 : Int32) → m_X0_rowsTo_l28 FrowsTo x1 x2 Q n z21 z22 M20))))) ∧ (¬ ((wI M ((10 + x1.toNatClampNeg)) x5.toNatClampNeg) + a15) = a16 → (∀ z18 : Int32, z18 = x5 + (1 : Int32) → m_X0_rowsTo_l28 FrowsTo x1 x2 Q n x3 z18 M)))))))))))))))))))
theorem w_X0_rowsTo_l28 {p : Program} {l : Launch} {e : Env} {s : State} {m : MethodId} {args : Array Value} {below : List Frame} {meth : Method} {c : Code} {D : va_G} {cA : Nat → ClassId} {sz0 : Nat} {H0 : Heap} {d : Nat} {FrowsTo : Int32 → Int32 → WM → (Int64 → WM → Prop) → Prop} {x1 : Int32} {x2 : Int32} {Q : Int64 → WM → Prop}  (cx : Cx p s m args meth c cX0_rowsTo 6 RX0 (some .long) D cA sz0 H0) (hFrowsTo : ∀ (x1 : Int32) (x2 : Int32) (M : WM) (Q : Int64 → WM → Prop) (sh : Shp M), FrowsTo x1 x2 M Q → Met l yX0_rowsTo (ws_ yX0_rowsTo cX0_rowsTo 6 (some .long)) ({ frames := 1 + d, cells := 0, slots := 0, locals := 22 + 40 * d } : Room) (PcW D cA sz0 H0 [.ref (sz0 + 0), .int x1, .int x2] M) (QW_l D cA sz0 H0 (fun r M' => Q r M' ∧ Shp M')) 0 0 (Aw sz0))    : ∀ (n : Nat) (x3 : Int64) (x5 : Int32)  (M : WM) (sh : Shp M), m_X0_rowsTo_l28 FrowsTo x1 x2 Q n x3 x5 M → V p l e ({ frames := 1 + (d + 1), cells := 0, slots := 0, locals := 22 + 40 * (d + 1) } : Room) s m args below meth c 6 D cA sz0 H0 0 0 (MQ below (QW_l D cA sz0 H0 (fun r M' => Q r M' ∧ Shp M')) args s 0 0 (Aw sz0)) 28 [(0, .ref (sz0 + 0)), (1, .int x1), (2, .int x2), (3, .long x3), (5, .int x5)] [] M := by
  intro n
  induction n with
  | zero => intro x3 x5 M sh h; exact h.elim
  | succ n ih =>
    intro x3 x5 M sh h
    replace h : (((wI M 0 3) ≤ x5 → (vp_in x1 40 ∧ (∀ M3 : WM, M3 = wPI M 176 x1.toNatClampNeg (zb ((1 : Int32))) → (vp_in x1 40 ∧ (∀ M5 : WM, M5 = wPJ M3 175 x1.toNatClampNeg x3 → Q x3 M5))))) ∧ (¬ (wI M 0 3) ≤ x5 → (m_X0_isStep x1 x5 M (fun (a6 : Int32) => ((a6 = 0 → (∀ z8 : Int32, z8 = x5 + (1 : Int32) → m_X0_rowsTo_l28 FrowsTo x1 x2 Q n x3 z8 M)) ∧ (¬ a6 = 0 → (vp_in x5 40 ∧ (vp_in x2 40 ∧ (((268435456 : Int32) ≤ (wI M ((133 + x5.toNatClampNeg)) x2.toNatClampNeg) → (∀ z12 : Int32, z12 = x5 + (1 : Int32) → m_X0_rowsTo_l28 FrowsTo x1 x2 Q n x3 z12 M)) ∧ (¬ (268435456 : Int32) ≤ (wI M ((133 + x5.toNatClampNeg)) x2.toNatClampNeg) → (vp_in x1 40 ∧ (vp_in x5 40 ∧ (m_X0_costOf x5 x2 M (fun (a15 : Int32) => (m_X0_costOf x1 x2 M (fun (a16 : Int32) => ((((wI M ((10 + x1.toNatClampNeg)) x5.toNatClampNeg) + a15) = a16 → (FrowsTo x5 x2 M (fun (a19 : Int64) (M20 : WM) => (∀ z21 : Int64, z21 = (x3 + a19) → (∀ z22 : Int32, z22 = x5 + (1 : Int32) → m_X0_rowsTo_l28 FrowsTo x1 x2 Q n z21 z22 M20))))) ∧ (¬ ((wI M ((10 + x1.toNatClampNeg)) x5.toNatClampNeg) + a15) = a16 → (∀ z18 : Int32, z18 = x5 + (1 : Int32) → m_X0_rowsTo_l28 FrowsTo x1 x2 Q n x3 z18 M))))))))))))))))))) := h
    refine v_iload (pc := 28) cx dX0_rowsTo_28 4 rfl ?_
    refine v_aload_n (pc := 30) cx dX0_rowsTo_30 rfl 0 rfl ?_
    refine gq278_X0 (pc := 31) cx dX0_rowsTo_31 (sh.k k_0) ?_
    refine v_icmp_ge (pc := 34) cx dX0_rowsTo_34 (tgt := 103) rfl (fun c1 => ?_) (fun c1 => ?_)
    · replace h := h.1 c1
      refine v_aload_n (pc := 103) cx dX0_rowsTo_103 rfl 0 rfl ?_
      refine gq293_X0 (pc := 104) cx dX0_rowsTo_104 (sh.k k_0) (v_some (sh.r r_0_18) ?_)
      refine v_iload_n (pc := 107) cx dX0_rowsTo_107 rfl 1 rfl ?_
      refine v_iconst (pc := 108) cx dX0_rowsTo_108 ic_1 ?_
      obtain ⟨b2, h⟩ := h
      refine v_zast (pc := 109) cx (y := zb ((1 : Int32))) dX0_rowsTo_109 (sh.k k_176) (sh.l k_176 l_176) b2 (zb_nar _) ?_
      refine v_wld (fun M3 eM3 => ?_)
      replace h := h M3 eM3
      replace sh : Shp M3 := Shp_PI sh eM3
      refine v_aload_n (pc := 110) cx dX0_rowsTo_110 rfl 0 rfl ?_
      refine gq292_X0 (pc := 111) cx dX0_rowsTo_111 (sh.k k_0) (v_some (sh.r r_0_17) ?_)
      refine v_iload_n (pc := 114) cx dX0_rowsTo_114 rfl 1 rfl ?_
      refine v_lload_n (pc := 115) cx dX0_rowsTo_115 rfl 3 rfl ?_
      obtain ⟨b4, h⟩ := h
      refine v_last (pc := 116) cx dX0_rowsTo_116 (sh.k k_175) (sh.l k_175 l_175) b4 ?_
      refine v_wld (fun M5 eM5 => ?_)
      replace h := h M5 eM5
      replace sh : Shp M5 := Shp_PJ sh eM5
      refine v_lload_n (pc := 117) cx dX0_rowsTo_117 rfl 3 rfl ?_
      exact v_lret cx rfl dX0_rowsTo_118 ⟨Nat.le_of_ble_eq_true rfl, Nat.le_of_ble_eq_true rfl⟩ ⟨h, sh⟩
    · replace h := h.2 c1
      refine v_aload_n (pc := 37) cx dX0_rowsTo_37 rfl 0 rfl ?_
      refine v_iload_n (pc := 38) cx dX0_rowsTo_38 rfl 1 rfl ?_
      refine v_iload (pc := 39) cx dX0_rowsTo_39 4 rfl ?_
      refine v_runp_i (pc := 41) cx (kcq808_X0 cx (c_X0_isStep l D cA sz0 H0 M x1 x5  _ sh h) ⟨by dsimp only; omega, by dsimp only; omega⟩ (sh.k k_0) (As := [.int x1, .int x5]) rfl rfl (Nat.le_of_ble_eq_true rfl) dX0_rowsTo_41 ⟨Nat.le_of_ble_eq_true rfl, Nat.le_of_ble_eq_true rfl⟩) (fun a6 hq => ?_)
      replace h := hq
      refine v_if_eq (pc := 44) cx dX0_rowsTo_44 (tgt := 97) rfl (fun c7 => ?_) (fun c7 => ?_)
      · replace h := h.1 c7
        refine nm_x (x5 + (1 : Int32)) (fun z8 ez8 => ?_)
        replace h := h z8 ez8
        refine v_iinc (pc := 97) cx dX0_rowsTo_97 (q := 4) rfl ((ii_1 _).trans ez8.symm) (Nat.le_of_ble_eq_true rfl) (lv' := [(5, .int z8), (0, .ref (sz0 + 0)), (1, .int x1), (2, .int x2), (3, .long x3)]) rfl ?_
        refine v_goto (pc := 100) cx dX0_rowsTo_100 (tgt := 28) rfl ?_
        refine v_sub (lv' := [(0, .ref (sz0 + 0)), (1, .int x1), (2, .int x2), (3, .long x3), (5, .int z8)]) [1, 2, 3, 4, 0] rfl ?_
        exact ih x3 z8 M sh h
      · replace h := h.2 c7
        refine v_aload_n (pc := 47) cx dX0_rowsTo_47 rfl 0 rfl ?_
        refine gq289_X0 (pc := 48) cx dX0_rowsTo_48 (sh.k k_0) (v_some (sh.r r_0_14) ?_)
        refine v_iload (pc := 51) cx dX0_rowsTo_51 4 rfl ?_
        obtain ⟨b9, h⟩ := h
        refine v_aald104 (pc := 53) cx dX0_rowsTo_53 (sh.k k_132) (sh.l k_132 l_132) b9 (v_some (sh.r (f_132 (lt_in b9))) ?_)
        refine v_iload_n (pc := 54) cx dX0_rowsTo_54 rfl 2 rfl ?_
        obtain ⟨b10, h⟩ := h
        refine v_iald (pc := 55) cx dX0_rowsTo_55 (sh.k (fk_132 (lt_in b9))) (sh.l (fk_132 (lt_in b9)) (fl_132 (lt_in b9))) b10 ?_
        refine v_ldc (pc := 56) cx dX0_rowsTo_56 q717 ?_
        refine v_icmp_ge (pc := 58) cx dX0_rowsTo_58 (tgt := 97) rfl (fun c11 => ?_) (fun c11 => ?_)
        · replace h := h.1 c11
          refine nm_x (x5 + (1 : Int32)) (fun z12 ez12 => ?_)
          replace h := h z12 ez12
          refine v_iinc (pc := 97) cx dX0_rowsTo_97 (q := 4) rfl ((ii_1 _).trans ez12.symm) (Nat.le_of_ble_eq_true rfl) (lv' := [(5, .int z12), (0, .ref (sz0 + 0)), (1, .int x1), (2, .int x2), (3, .long x3)]) rfl ?_
          refine v_goto (pc := 100) cx dX0_rowsTo_100 (tgt := 28) rfl ?_
          refine v_sub (lv' := [(0, .ref (sz0 + 0)), (1, .int x1), (2, .int x2), (3, .long x3), (5, .int z12)]) [1, 2, 3, 4, 0] rfl ?_
          exact ih x3 z12 M sh h
        · replace h := h.2 c11
          refine v_aload_n (pc := 61) cx dX0_rowsTo_61 rfl 0 rfl ?_
          refine gq286_X0 (pc := 62) cx dX0_rowsTo_62 (sh.k k_0) (v_some (sh.r r_0_11) ?_)
          refine v_iload_n (pc := 65) cx dX0_rowsTo_65 rfl 1 rfl ?_
          obtain ⟨b13, h⟩ := h
          refine v_aald104 (pc := 66) cx dX0_rowsTo_66 (sh.k k_9) (sh.l k_9 l_9) b13 (v_some (sh.r (f_9 (lt_in b13))) ?_)
          refine v_iload (pc := 67) cx dX0_rowsTo_67 4 rfl ?_
          obtain ⟨b14, h⟩ := h
          refine v_iald (pc := 69) cx dX0_rowsTo_69 (sh.k (fk_9 (lt_in b13))) (sh.l (fk_9 (lt_in b13)) (fl_9 (lt_in b13))) b14 ?_
          refine v_aload_n (pc := 70) cx dX0_rowsTo_70 rfl 0 rfl ?_
          refine v_iload (pc := 71) cx dX0_rowsTo_71 4 rfl ?_
          refine v_iload_n (pc := 73) cx dX0_rowsTo_73 rfl 2 rfl ?_
          refine v_runp_i (pc := 74) cx (kcq816_X0 cx (c_X0_costOf l D cA sz0 H0 M x5 x2  _ sh h) ⟨by dsimp only; omega, by dsimp only; omega⟩ (sh.k k_0) (As := [.int x5, .int x2]) rfl rfl (Nat.le_of_ble_eq_true rfl) dX0_rowsTo_74 ⟨Nat.le_of_ble_eq_true rfl, Nat.le_of_ble_eq_true rfl⟩) (fun a15 hq => ?_)
          replace h := hq
          refine v_iadd (pc := 77) cx dX0_rowsTo_77 ?_
          refine v_aload_n (pc := 78) cx dX0_rowsTo_78 rfl 0 rfl ?_
          refine v_iload_n (pc := 79) cx dX0_rowsTo_79 rfl 1 rfl ?_
          refine v_iload_n (pc := 80) cx dX0_rowsTo_80 rfl 2 rfl ?_
          refine v_runp_i (pc := 81) cx (kcq816_X0 cx (c_X0_costOf l D cA sz0 H0 M x1 x2  _ sh h) ⟨by dsimp only; omega, by dsimp only; omega⟩ (sh.k k_0) (As := [.int x1, .int x2]) rfl rfl (Nat.le_of_ble_eq_true rfl) dX0_rowsTo_81 ⟨Nat.le_of_ble_eq_true rfl, Nat.le_of_ble_eq_true rfl⟩) (fun a16 hq => ?_)
          replace h := hq
          refine v_icmp_ne (pc := 84) cx dX0_rowsTo_84 (tgt := 97) rfl (fun c17 => ?_) (fun c17 => ?_)
          · replace h := h.2 c17
            refine nm_x (x5 + (1 : Int32)) (fun z18 ez18 => ?_)
            replace h := h z18 ez18
            refine v_iinc (pc := 97) cx dX0_rowsTo_97 (q := 4) rfl ((ii_1 _).trans ez18.symm) (Nat.le_of_ble_eq_true rfl) (lv' := [(5, .int z18), (0, .ref (sz0 + 0)), (1, .int x1), (2, .int x2), (3, .long x3)]) rfl ?_
            refine v_goto (pc := 100) cx dX0_rowsTo_100 (tgt := 28) rfl ?_
            refine v_sub (lv' := [(0, .ref (sz0 + 0)), (1, .int x1), (2, .int x2), (3, .long x3), (5, .int z18)]) [1, 2, 3, 4, 0] rfl ?_
            exact ih x3 z18 M sh h
          · replace h := h.1 c17
            refine v_lload_n (pc := 87) cx dX0_rowsTo_87 rfl 3 rfl ?_
            refine v_aload_n (pc := 88) cx dX0_rowsTo_88 rfl 0 rfl ?_
            refine v_iload (pc := 89) cx dX0_rowsTo_89 4 rfl ?_
            refine v_iload_n (pc := 91) cx dX0_rowsTo_91 rfl 2 rfl ?_
            refine v_run_l (pc := 92) cx (kcq829_X0 cx (hFrowsTo x5 x2 M _ sh h) ⟨by dsimp only; omega, by dsimp only; omega⟩ (sh.k k_0) (As := [.int x5, .int x2]) rfl rfl (Nat.le_of_ble_eq_true rfl) dX0_rowsTo_92 ⟨Nat.le_of_ble_eq_true rfl, Nat.le_of_ble_eq_true rfl⟩) (fun a19 M20 hq => ?_)
            obtain ⟨h, sh⟩ := hq
            refine v_ladd (pc := 95) cx dX0_rowsTo_95 ?_
            refine v_topl (fun z21 ez21 => ?_)
            replace h := h z21 ez21
            refine v_lstore_n (pc := 96) cx dX0_rowsTo_96 rfl (Nat.le_of_ble_eq_true rfl) (lv' := [(3, .long z21), (0, .ref (sz0 + 0)), (1, .int x1), (2, .int x2), (5, .int x5)]) rfl ?_
            refine nm_x (x5 + (1 : Int32)) (fun z22 ez22 => ?_)
            replace h := h z22 ez22
            refine v_iinc (pc := 97) cx dX0_rowsTo_97 (q := 4) rfl ((ii_1 _).trans ez22.symm) (Nat.le_of_ble_eq_true rfl) (lv' := [(5, .int z22), (3, .long z21), (0, .ref (sz0 + 0)), (1, .int x1), (2, .int x2)]) rfl ?_
            refine v_goto (pc := 100) cx dX0_rowsTo_100 (tgt := 28) rfl ?_
            refine v_sub (lv' := [(0, .ref (sz0 + 0)), (1, .int x1), (2, .int x2), (3, .long z21), (5, .int z22)]) [2, 3, 4, 1, 0] rfl ?_
            exact ih z21 z22 M20 sh h
def b_X0_rowsTo (FrowsTo : Int32 → Int32 → WM → (Int64 → WM → Prop) → Prop) (x1 : Int32) (x2 : Int32) (M : WM)  (Q : Int64 → WM → Prop) : Prop := ((x1 = x2 → Q ((1 : Int64)) M) ∧ (¬ x1 = x2 → (vp_in x1 40 ∧ (((wI M 176 x1.toNatClampNeg) = 0 → (∃ n0, m_X0_rowsTo_l28 FrowsTo x1 x2 Q n0 ((0 : Int64)) ((0 : Int32)) M)) ∧ (¬ (wI M 176 x1.toNatClampNeg) = 0 → (vp_in x1 40 ∧ Q ((wJ M 175 x1.toNatClampNeg)) M))))))
theorem cb_X0_rowsTo {l : Launch} {D : va_G} {cA : Nat → ClassId} {sz0 : Nat} {H0 : Heap} {d : Nat} {FrowsTo : Int32 → Int32 → WM → (Int64 → WM → Prop) → Prop} (hFrowsTo : ∀ (x1 : Int32) (x2 : Int32) (M : WM) (Q : Int64 → WM → Prop) (sh : Shp M), FrowsTo x1 x2 M Q → Met l yX0_rowsTo (ws_ yX0_rowsTo cX0_rowsTo 6 (some .long)) ({ frames := 1 + d, cells := 0, slots := 0, locals := 22 + 40 * d } : Room) (PcW D cA sz0 H0 [.ref (sz0 + 0), .int x1, .int x2] M) (QW_l D cA sz0 H0 (fun r M' => Q r M' ∧ Shp M')) 0 0 (Aw sz0)) (M : WM) (x1 : Int32) (x2 : Int32)   (Q : Int64 → WM → Prop) (sh : Shp M) (h : b_X0_rowsTo FrowsTo x1 x2 M  Q) : Met l yX0_rowsTo (ws_ yX0_rowsTo cX0_rowsTo 6 (some .long)) ({ frames := 1 + (d + 1), cells := 0, slots := 0, locals := 22 + 40 * (d + 1) } : Room) (PcW D cA sz0 H0 [.ref (sz0 + 0), .int x1, .int x2] M) (QW_l D cA sz0 H0 (fun r M' => Q r M' ∧ Shp M')) 0 0 (Aw sz0) := by
  replace h : ((x1 = x2 → Q ((1 : Int64)) M) ∧ (¬ x1 = x2 → (vp_in x1 40 ∧ (((wI M 176 x1.toNatClampNeg) = 0 → (∃ n0, m_X0_rowsTo_l28 FrowsTo x1 x2 Q n0 ((0 : Int64)) ((0 : Int32)) M)) ∧ (¬ (wI M 176 x1.toNatClampNeg) = 0 → (vp_in x1 40 ∧ Q ((wJ M 175 x1.toNatClampNeg)) M)))))) := h
  refine Met.ofV (by decide +kernel) (Nat.le_of_ble_eq_true rfl) ?_
  intro p e s m args below meth c cx hnm
  replace cx : Cx p s m args meth c cX0_rowsTo 6 RX0 (some .long) D cA sz0 H0 := cx
  refine v_sub (lv' := [(0, .ref (sz0 + 0)), (1, .int x1), (2, .int x2)]) [0, 1, 2] rfl ?_
  refine v_iload_n (pc := 0) cx dX0_rowsTo_0 rfl 1 rfl ?_
  refine v_iload_n (pc := 1) cx dX0_rowsTo_1 rfl 2 rfl ?_
  refine v_icmp_ne (pc := 2) cx dX0_rowsTo_2 (tgt := 7) rfl (fun c1 => ?_) (fun c1 => ?_)
  · replace h := h.2 c1
    refine v_aload_n (pc := 7) cx dX0_rowsTo_7 rfl 0 rfl ?_
    refine gq293_X0 (pc := 8) cx dX0_rowsTo_8 (sh.k k_0) (v_some (sh.r r_0_18) ?_)
    refine v_iload_n (pc := 11) cx dX0_rowsTo_11 rfl 1 rfl ?_
    obtain ⟨b2, h⟩ := h
    refine v_zald (pc := 12) cx dX0_rowsTo_12 (sh.k k_176) (sh.l k_176 l_176) b2 ?_
    refine v_if_eq (pc := 13) cx dX0_rowsTo_13 (tgt := 23) rfl (fun c3 => ?_) (fun c3 => ?_)
    · replace h := h.1 c3
      refine v_lconst (pc := 23) cx dX0_rowsTo_23 lc_0 ?_
      refine v_lstore_n (pc := 24) cx dX0_rowsTo_24 rfl (Nat.le_of_ble_eq_true rfl) (lv' := [(3, .long (0 : Int64)), (0, .ref (sz0 + 0)), (1, .int x1), (2, .int x2)]) rfl ?_
      refine v_iconst (pc := 25) cx dX0_rowsTo_25 ic_0 ?_
      refine v_istore (pc := 26) cx dX0_rowsTo_26 (Nat.le_of_ble_eq_true rfl) (lv' := [(5, .int (0 : Int32)), (3, .long (0 : Int64)), (0, .ref (sz0 + 0)), (1, .int x1), (2, .int x2)]) rfl ?_
      refine v_sub (lv' := [(0, .ref (sz0 + 0)), (1, .int x1), (2, .int x2), (3, .long (0 : Int64)), (5, .int (0 : Int32))]) [2, 3, 4, 1, 0] rfl ?_
      obtain ⟨n0, h⟩ := h
      exact w_X0_rowsTo_l28 cx hFrowsTo n0 ((0 : Int64)) ((0 : Int32)) M sh h
    · replace h := h.2 c3
      refine v_aload_n (pc := 16) cx dX0_rowsTo_16 rfl 0 rfl ?_
      refine gq292_X0 (pc := 17) cx dX0_rowsTo_17 (sh.k k_0) (v_some (sh.r r_0_17) ?_)
      refine v_iload_n (pc := 20) cx dX0_rowsTo_20 rfl 1 rfl ?_
      obtain ⟨b4, h⟩ := h
      refine v_lald (pc := 21) cx dX0_rowsTo_21 (sh.k k_175) (sh.l k_175 l_175) b4 ?_
      exact v_lret cx rfl dX0_rowsTo_22 ⟨Nat.le_of_ble_eq_true rfl, Nat.le_of_ble_eq_true rfl⟩ ⟨h, sh⟩
  · replace h := h.1 c1
    refine v_lconst (pc := 5) cx dX0_rowsTo_5 lc_1 ?_
    exact v_lret cx rfl dX0_rowsTo_6 ⟨Nat.le_of_ble_eq_true rfl, Nat.le_of_ble_eq_true rfl⟩ ⟨h, sh⟩
def m_X0_rowsTo : Nat → Int32 → Int32 → WM → (Int64 → WM → Prop) → Prop
  | 0 => fun _ _ _ _ => False
  | d + 1 => b_X0_rowsTo (m_X0_rowsTo d)
theorem cg_rowsTo (l : Launch) (D : va_G) (cA : Nat → ClassId) (sz0 : Nat) (H0 : Heap) : ∀ d : Nat, (∀ (x1 : Int32) (x2 : Int32) (M : WM) (Q : Int64 → WM → Prop) (sh : Shp M), m_X0_rowsTo d x1 x2 M Q → Met l yX0_rowsTo (ws_ yX0_rowsTo cX0_rowsTo 6 (some .long)) ({ frames := 1 + d, cells := 0, slots := 0, locals := 22 + 40 * d } : Room) (PcW D cA sz0 H0 [.ref (sz0 + 0), .int x1, .int x2] M) (QW_l D cA sz0 H0 (fun r M' => Q r M' ∧ Shp M')) 0 0 (Aw sz0)) := by
  intro d
  induction d with
  | zero => exact fun x1 x2 M Q sh h => h.elim
  | succ d ih => exact fun x1 x2 M Q sh h => cb_X0_rowsTo ih M x1 x2  Q sh h
theorem c_X0_rowsTo (l : Launch) (D : va_G) (cA : Nat → ClassId) (sz0 : Nat) (H0 : Heap) (M : WM) (x1 : Int32) (x2 : Int32) (d : Nat)  (Q : Int64 → WM → Prop) (sh : Shp M) (h : m_X0_rowsTo d x1 x2 M  Q) : Met l yX0_rowsTo (ws_ yX0_rowsTo cX0_rowsTo 6 (some .long)) ({ frames := 1 + d, cells := 0, slots := 0, locals := 22 + 40 * d } : Room) (PcW D cA sz0 H0 [.ref (sz0 + 0), .int x1, .int x2] M) (QW_l D cA sz0 H0 (fun r M' => Q r M' ∧ Shp M')) 0 0 (Aw sz0) := (cg_rowsTo l D cA sz0 H0 d) x1 x2 M  Q sh h
/-! LetterHeaps.howMany(II)J -/
def m_X0_howMany_l34   (x1 : Int32) (x2 : Int32)   (Q : Int64 → WM → Prop) : Nat → Int32 → WM → Prop
  | 0, _, _ => False
  | n + 1, x3, M => (((wI M 0 3) ≤ x3 → (∃ d0, d0 ≤ 45 ∧ (m_X0_rowsTo d0 x1 x2 M (fun (a2 : Int64) (M3 : WM) => Q a2 M3)))) ∧ (¬ (wI M 0 3) ≤ x3 → (vp_in x3 40 ∧ (∀ M5 : WM, M5 = wPI M 176 x3.toNatClampNeg (zb ((0 : Int32))) → (∀ z6 : Int32, z6 = x3 + (1 : Int32) → m_X0_howMany_l34 x1 x2 Q n z6 M5)))))
theorem w_X0_howMany_l34 {p : Program} {l : Launch} {e : Env} {s : State} {m : MethodId} {args : Array Value} {below : List Frame} {meth : Method} {c : Code} {D : va_G} {cA : Nat → ClassId} {sz0 : Nat} {H0 : Heap}  {x1 : Int32} {x2 : Int32} {Q : Int64 → WM → Prop}  (cx : Cx p s m args meth c cX0_howMany 4 RX0 (some .long) D cA sz0 H0)     : ∀ (n : Nat) (x3 : Int32)  (M : WM) (sh : Shp M), m_X0_howMany_l34 x1 x2 Q n x3 M → V p l e ({ frames := 120, cells := 0, slots := 0, locals := 4632 } : Room) s m args below meth c 4 D cA sz0 H0 0 0 (MQ below (QW_l D cA sz0 H0 (fun r M' => Q r M' ∧ Shp M')) args s 0 0 (Aw sz0)) 34 [(0, .ref (sz0 + 0)), (1, .int x1), (2, .int x2), (3, .int x3)] [] M := by
  intro n
  induction n with
  | zero => intro x3 M sh h; exact h.elim
  | succ n ih =>
    intro x3 M sh h
    replace h : (((wI M 0 3) ≤ x3 → (∃ d0, d0 ≤ 45 ∧ (m_X0_rowsTo d0 x1 x2 M (fun (a2 : Int64) (M3 : WM) => Q a2 M3)))) ∧ (¬ (wI M 0 3) ≤ x3 → (vp_in x3 40 ∧ (∀ M5 : WM, M5 = wPI M 176 x3.toNatClampNeg (zb ((0 : Int32))) → (∀ z6 : Int32, z6 = x3 + (1 : Int32) → m_X0_howMany_l34 x1 x2 Q n z6 M5))))) := h
    refine v_iload_n (pc := 34) cx dX0_howMany_34 rfl 3 rfl ?_
    refine v_aload_n (pc := 35) cx dX0_howMany_35 rfl 0 rfl ?_
    refine gq278_X0 (pc := 36) cx dX0_howMany_36 (sh.k k_0) ?_
    refine v_icmp_ge (pc := 39) cx dX0_howMany_39 (tgt := 55) rfl (fun c1 => ?_) (fun c1 => ?_)
    · replace h := h.1 c1
      refine v_aload_n (pc := 55) cx dX0_howMany_55 rfl 0 rfl ?_
      refine v_iload_n (pc := 56) cx dX0_howMany_56 rfl 1 rfl ?_
      refine v_iload_n (pc := 57) cx dX0_howMany_57 rfl 2 rfl ?_
      obtain ⟨d0, hd0, h⟩ := h
      refine v_run_l (pc := 58) cx (kcq829_X0 cx (c_X0_rowsTo l D cA sz0 H0 M x1 x2  d0 _ sh h) ⟨by dsimp only; omega, by dsimp only; omega⟩ (sh.k k_0) (As := [.int x1, .int x2]) rfl rfl (Nat.le_of_ble_eq_true rfl) dX0_howMany_58 ⟨Nat.le_of_ble_eq_true rfl, Nat.le_of_ble_eq_true rfl⟩) (fun a2 M3 hq => ?_)
      obtain ⟨h, sh⟩ := hq
      exact v_lret cx rfl dX0_howMany_61 ⟨Nat.le_of_ble_eq_true rfl, Nat.le_of_ble_eq_true rfl⟩ ⟨h, sh⟩
    · replace h := h.2 c1
      refine v_aload_n (pc := 42) cx dX0_howMany_42 rfl 0 rfl ?_
      refine gq293_X0 (pc := 43) cx dX0_howMany_43 (sh.k k_0) (v_some (sh.r r_0_18) ?_)
      refine v_iload_n (pc := 46) cx dX0_howMany_46 rfl 3 rfl ?_
      refine v_iconst (pc := 47) cx dX0_howMany_47 ic_0 ?_
      obtain ⟨b4, h⟩ := h
      refine v_zast (pc := 48) cx (y := zb ((0 : Int32))) dX0_howMany_48 (sh.k k_176) (sh.l k_176 l_176) b4 (zb_nar _) ?_
      refine v_wld (fun M5 eM5 => ?_)
      replace h := h M5 eM5
      replace sh : Shp M5 := Shp_PI sh eM5
      refine nm_x (x3 + (1 : Int32)) (fun z6 ez6 => ?_)
      replace h := h z6 ez6
      refine v_iinc (pc := 49) cx dX0_howMany_49 (q := 3) rfl ((ii_1 _).trans ez6.symm) (Nat.le_of_ble_eq_true rfl) (lv' := [(3, .int z6), (0, .ref (sz0 + 0)), (1, .int x1), (2, .int x2)]) rfl ?_
      refine v_goto (pc := 52) cx dX0_howMany_52 (tgt := 34) rfl ?_
      refine v_sub (lv' := [(0, .ref (sz0 + 0)), (1, .int x1), (2, .int x2), (3, .int z6)]) [1, 2, 3, 0] rfl ?_
      exact ih z6 M5 sh h
def m_X0_howMany (x1 : Int32) (x2 : Int32) (M : WM)  (Q : Int64 → WM → Prop) : Prop := (m_X0_areTwo x1 x2 M (fun (a1 : Int32) => ((a1 = 0 → Q (((-1) : Int64)) M) ∧ (¬ a1 = 0 → (m_X0_lays  M (fun (M4 : WM) => (vp_in x1 40 ∧ (vp_in x2 40 ∧ (((wI M4 ((133 + x1.toNatClampNeg)) x2.toNatClampNeg) = (268435456 : Int32) → Q ((0 : Int64)) M4) ∧ (¬ (wI M4 ((133 + x1.toNatClampNeg)) x2.toNatClampNeg) = (268435456 : Int32) → (∃ n0, m_X0_howMany_l34 x1 x2 Q n0 ((0 : Int32)) M4)))))))))))
theorem c_X0_howMany (l : Launch) (D : va_G) (cA : Nat → ClassId) (sz0 : Nat) (H0 : Heap) (M : WM) (x1 : Int32) (x2 : Int32)   (Q : Int64 → WM → Prop) (sh : Shp M) (h : m_X0_howMany x1 x2 M  Q) : Met l yX0_howMany (ws_ yX0_howMany cX0_howMany 4 (some .long)) ({ frames := 120, cells := 0, slots := 0, locals := 4632 } : Room) (PcW D cA sz0 H0 [.ref (sz0 + 0), .int x1, .int x2] M) (QW_l D cA sz0 H0 (fun r M' => Q r M' ∧ Shp M')) 0 0 (Aw sz0) := by
  replace h : (m_X0_areTwo x1 x2 M (fun (a1 : Int32) => ((a1 = 0 → Q (((-1) : Int64)) M) ∧ (¬ a1 = 0 → (m_X0_lays  M (fun (M4 : WM) => (vp_in x1 40 ∧ (vp_in x2 40 ∧ (((wI M4 ((133 + x1.toNatClampNeg)) x2.toNatClampNeg) = (268435456 : Int32) → Q ((0 : Int64)) M4) ∧ (¬ (wI M4 ((133 + x1.toNatClampNeg)) x2.toNatClampNeg) = (268435456 : Int32) → (∃ n0, m_X0_howMany_l34 x1 x2 Q n0 ((0 : Int32)) M4))))))))))) := h
  refine Met.ofV (by decide +kernel) (Nat.le_of_ble_eq_true rfl) ?_
  intro p e s m args below meth c cx hnm
  replace cx : Cx p s m args meth c cX0_howMany 4 RX0 (some .long) D cA sz0 H0 := cx
  refine v_sub (lv' := [(0, .ref (sz0 + 0)), (1, .int x1), (2, .int x2)]) [0, 1, 2] rfl ?_
  refine v_aload_n (pc := 0) cx dX0_howMany_0 rfl 0 rfl ?_
  refine v_iload_n (pc := 1) cx dX0_howMany_1 rfl 1 rfl ?_
  refine v_iload_n (pc := 2) cx dX0_howMany_2 rfl 2 rfl ?_
  refine v_runp_i (pc := 3) cx (kcq705_X0 cx (c_X0_areTwo l D cA sz0 H0 M x1 x2  _ sh h) ⟨Nat.le_of_ble_eq_true rfl, Nat.le_of_ble_eq_true rfl⟩ (sh.k k_0) (As := [.int x1, .int x2]) rfl rfl (Nat.le_of_ble_eq_true rfl) dX0_howMany_3 ⟨Nat.le_of_ble_eq_true rfl, Nat.le_of_ble_eq_true rfl⟩) (fun a1 hq => ?_)
  replace h := hq
  refine v_if_ne (pc := 6) cx dX0_howMany_6 (tgt := 13) rfl (fun c2 => ?_) (fun c2 => ?_)
  · replace h := h.2 c2
    refine v_aload_n (pc := 13) cx dX0_howMany_13 rfl 0 rfl ?_
    refine v_run_v (pc := 14) cx (kcq709_X0 cx (c_X0_lays l D cA sz0 H0 M   _ sh h) ⟨Nat.le_of_ble_eq_true rfl, Nat.le_of_ble_eq_true rfl⟩ (sh.k k_0) (As := []) rfl rfl (Nat.le_of_ble_eq_true rfl) dX0_howMany_14 ⟨Nat.le_of_ble_eq_true rfl, Nat.le_of_ble_eq_true rfl⟩) (fun M4 hq => ?_)
    obtain ⟨h, sh⟩ := hq
    refine v_aload_n (pc := 17) cx dX0_howMany_17 rfl 0 rfl ?_
    refine gq289_X0 (pc := 18) cx dX0_howMany_18 (sh.k k_0) (v_some (sh.r r_0_14) ?_)
    refine v_iload_n (pc := 21) cx dX0_howMany_21 rfl 1 rfl ?_
    obtain ⟨b5, h⟩ := h
    refine v_aald104 (pc := 22) cx dX0_howMany_22 (sh.k k_132) (sh.l k_132 l_132) b5 (v_some (sh.r (f_132 (lt_in b5))) ?_)
    refine v_iload_n (pc := 23) cx dX0_howMany_23 rfl 2 rfl ?_
    obtain ⟨b6, h⟩ := h
    refine v_iald (pc := 24) cx dX0_howMany_24 (sh.k (fk_132 (lt_in b5))) (sh.l (fk_132 (lt_in b5)) (fl_132 (lt_in b5))) b6 ?_
    refine v_ldc (pc := 25) cx dX0_howMany_25 q717 ?_
    refine v_icmp_ne (pc := 27) cx dX0_howMany_27 (tgt := 32) rfl (fun c7 => ?_) (fun c7 => ?_)
    · replace h := h.2 c7
      refine v_iconst (pc := 32) cx dX0_howMany_32 ic_0 ?_
      refine v_istore_n (pc := 33) cx dX0_howMany_33 rfl (Nat.le_of_ble_eq_true rfl) (lv' := [(3, .int (0 : Int32)), (0, .ref (sz0 + 0)), (1, .int x1), (2, .int x2)]) rfl ?_
      refine v_sub (lv' := [(0, .ref (sz0 + 0)), (1, .int x1), (2, .int x2), (3, .int (0 : Int32))]) [1, 2, 3, 0] rfl ?_
      obtain ⟨n0, h⟩ := h
      exact w_X0_howMany_l34 cx n0 ((0 : Int32)) M4 sh h
    · replace h := h.1 c7
      refine v_lconst (pc := 30) cx dX0_howMany_30 lc_0 ?_
      exact v_lret cx rfl dX0_howMany_31 ⟨Nat.le_of_ble_eq_true rfl, Nat.le_of_ble_eq_true rfl⟩ ⟨h, sh⟩
  · replace h := h.1 c2
    refine v_ldc2 (pc := 9) cx dX0_howMany_9 q828 ?_
    exact v_lret cx rfl dX0_howMany_12 ⟨Nat.le_of_ble_eq_true rfl, Nat.le_of_ble_eq_true rfl⟩ ⟨h, sh⟩
/-! LetterHeaps.know(II)Z -/
def m_X0_know (x1 : Int32) (x2 : Int32) (M : WM)  (Q : Int32 → WM → Prop) : Prop := (m_X0_isWord x1 M (fun (a1 : Int32) => ((a1 = 0 → Q ((0 : Int32)) M) ∧ (¬ a1 = 0 → (m_X0_in x2 ((100 : Int32)) (fun (a3 : Int32) => ((a3 = 0 → Q ((0 : Int32)) M) ∧ (¬ a3 = 0 → (vp_in x1 40 ∧ (∀ M6 : WM, M6 = wPI M ((5324 + 3 * x1.toNatClampNeg)) 1 x2 → (∀ M7 : WM, M7 = wPI M6 0 7 (((wI M6 0 7) + (1 : Int32))) → Q ((1 : Int32)) M7)))))))))))
theorem c_X0_know (l : Launch) (D : va_G) (cA : Nat → ClassId) (sz0 : Nat) (H0 : Heap) (M : WM) (x1 : Int32) (x2 : Int32)   (Q : Int32 → WM → Prop) (sh : Shp M) (h : m_X0_know x1 x2 M  Q) : Met l yX0_know (ws_ yX0_know cX0_know 3 (some .boolean)) ({ frames := 2, cells := 0, slots := 0, locals := 42 } : Room) (PcW D cA sz0 H0 [.ref (sz0 + 0), .int x1, .int x2] M) (QW_i D cA sz0 H0 (fun r M' => Q r M' ∧ Shp M')) 0 0 (Aw sz0) := by
  replace h : (m_X0_isWord x1 M (fun (a1 : Int32) => ((a1 = 0 → Q ((0 : Int32)) M) ∧ (¬ a1 = 0 → (m_X0_in x2 ((100 : Int32)) (fun (a3 : Int32) => ((a3 = 0 → Q ((0 : Int32)) M) ∧ (¬ a3 = 0 → (vp_in x1 40 ∧ (∀ M6 : WM, M6 = wPI M ((5324 + 3 * x1.toNatClampNeg)) 1 x2 → (∀ M7 : WM, M7 = wPI M6 0 7 (((wI M6 0 7) + (1 : Int32))) → Q ((1 : Int32)) M7))))))))))) := h
  refine Met.ofV (by decide +kernel) (Nat.le_of_ble_eq_true rfl) ?_
  intro p e s m args below meth c cx hnm
  replace cx : Cx p s m args meth c cX0_know 3 RX0 (some .boolean) D cA sz0 H0 := cx
  refine v_sub (lv' := [(0, .ref (sz0 + 0)), (1, .int x1), (2, .int x2)]) [0, 1, 2] rfl ?_
  refine v_aload_n (pc := 0) cx dX0_know_0 rfl 0 rfl ?_
  refine v_iload_n (pc := 1) cx dX0_know_1 rfl 1 rfl ?_
  refine v_runp_i (pc := 2) cx (kcq421_X0 cx (c_X0_isWord l D cA sz0 H0 M x1  _ sh h) ⟨Nat.le_of_ble_eq_true rfl, Nat.le_of_ble_eq_true rfl⟩ (sh.k k_0) (As := [.int x1]) rfl rfl (Nat.le_of_ble_eq_true rfl) dX0_know_2 ⟨Nat.le_of_ble_eq_true rfl, Nat.le_of_ble_eq_true rfl⟩) (fun a1 hq => ?_)
  replace h := hq
  refine v_if_eq (pc := 5) cx dX0_know_5 (tgt := 17) rfl (fun c2 => ?_) (fun c2 => ?_)
  · replace h := h.1 c2
    refine v_iconst (pc := 17) cx dX0_know_17 ic_0 ?_
    exact v_zret cx rfl (Or.inl rfl) dX0_know_18 ⟨Nat.le_of_ble_eq_true rfl, Nat.le_of_ble_eq_true rfl⟩ ⟨h, sh⟩
  · replace h := h.2 c2
    refine v_iload_n (pc := 8) cx dX0_know_8 rfl 2 rfl ?_
    refine v_bipush (pc := 9) cx dX0_know_9 bc_100 ?_
    refine v_runp_i (pc := 11) cx (kcq390_X0 cx (c_X0_in l D cA sz0 H0 M x2 ((100 : Int32))  _ h) ⟨Nat.le_of_ble_eq_true rfl, Nat.le_of_ble_eq_true rfl⟩ (As := [.int x2, .int (100 : Int32)]) rfl rfl (Nat.le_of_ble_eq_true rfl) dX0_know_11 ⟨Nat.le_of_ble_eq_true rfl, Nat.le_of_ble_eq_true rfl⟩) (fun a3 hq => ?_)
    replace h := hq
    refine v_if_ne (pc := 14) cx dX0_know_14 (tgt := 19) rfl (fun c4 => ?_) (fun c4 => ?_)
    · replace h := h.2 c4
      refine v_aload_n (pc := 19) cx dX0_know_19 rfl 0 rfl ?_
      refine gq273_X0 (pc := 20) cx dX0_know_20 (sh.k k_0) (v_some (sh.r r_0_0) ?_)
      refine v_iload_n (pc := 23) cx dX0_know_23 rfl 1 rfl ?_
      obtain ⟨b5, h⟩ := h
      refine v_aald107 (pc := 24) cx dX0_know_24 (sh.k k_1) (sh.l k_1 l_1) b5 (v_some (sh.r (f_1 (lt_in b5))) ?_)
      refine v_iload_n (pc := 25) cx dX0_know_25 rfl 2 rfl ?_
      refine pq259_X5 (pc := 26) cx dX0_know_26 (sh.k (fk_1 (lt_in b5))) ?_
      refine v_wld (fun M6 eM6 => ?_)
      replace h := h M6 eM6
      replace sh : Shp M6 := Shp_PI sh eM6
      refine v_aload_n (pc := 29) cx dX0_know_29 rfl 0 rfl ?_
      refine v_dup (pc := 30) cx dX0_know_30 rfl ?_
      refine gq282_X0 (pc := 31) cx dX0_know_31 (sh.k k_0) ?_
      refine v_iconst (pc := 34) cx dX0_know_34 ic_1 ?_
      refine v_iadd (pc := 35) cx dX0_know_35 ?_
      refine pq282_X0 (pc := 36) cx dX0_know_36 (sh.k k_0) ?_
      refine v_wld (fun M7 eM7 => ?_)
      replace h := h M7 eM7
      replace sh : Shp M7 := Shp_PI sh eM7
      refine v_iconst (pc := 39) cx dX0_know_39 ic_1 ?_
      exact v_zret cx rfl (Or.inr rfl) dX0_know_40 ⟨Nat.le_of_ble_eq_true rfl, Nat.le_of_ble_eq_true rfl⟩ ⟨h, sh⟩
    · replace h := h.1 c4
      refine v_iconst (pc := 17) cx dX0_know_17 ic_0 ?_
      exact v_zret cx rfl (Or.inl rfl) dX0_know_18 ⟨Nat.le_of_ble_eq_true rfl, Nat.le_of_ble_eq_true rfl⟩ ⟨h, sh⟩
/-! LetterHeaps.next(II)I -/
def m_X0_next_l2   (x1 : Int32) (x2 : Int32) (M : WM)  (Q : Int32 → Prop) : Nat → Int32 → Prop
  | 0, _ => False
  | n + 1, x3 => (m_X0_isStep x1 x3 M (fun (a1 : Int32) => ((a1 = 0 → (∀ z3 : Int32, z3 = x3 + (1 : Int32) → m_X0_next_l2 x1 x2 M Q n z3)) ∧ (¬ a1 = 0 → (vp_in x3 40 ∧ (vp_in x2 40 ∧ (((wI M ((133 + x3.toNatClampNeg)) x2.toNatClampNeg) = (268435456 : Int32) → (∀ z7 : Int32, z7 = x3 + (1 : Int32) → m_X0_next_l2 x1 x2 M Q n z7)) ∧ (¬ (wI M ((133 + x3.toNatClampNeg)) x2.toNatClampNeg) = (268435456 : Int32) → (vp_in x1 40 ∧ (vp_in x3 40 ∧ (vp_in x3 40 ∧ (vp_in x2 40 ∧ (vp_in x1 40 ∧ (vp_in x2 40 ∧ ((((((100 : Int32) * (wI M ((10 + x1.toNatClampNeg)) x3.toNatClampNeg)) + (1 : Int32)) + (wI M ((133 + x3.toNatClampNeg)) x2.toNatClampNeg)) = (wI M ((133 + x1.toNatClampNeg)) x2.toNatClampNeg) → Q x3) ∧ (¬ ((((100 : Int32) * (wI M ((10 + x1.toNatClampNeg)) x3.toNatClampNeg)) + (1 : Int32)) + (wI M ((133 + x3.toNatClampNeg)) x2.toNatClampNeg)) = (wI M ((133 + x1.toNatClampNeg)) x2.toNatClampNeg) → (∀ z15 : Int32, z15 = x3 + (1 : Int32) → m_X0_next_l2 x1 x2 M Q n z15)))))))))))))))))
theorem w_X0_next_l2 {p : Program} {l : Launch} {e : Env} {s : State} {m : MethodId} {args : Array Value} {below : List Frame} {meth : Method} {c : Code} {D : va_G} {cA : Nat → ClassId} {sz0 : Nat} {H0 : Heap}  {x1 : Int32} {x2 : Int32} {M : WM} {Q : Int32 → Prop}  (cx : Cx p s m args meth c cX0_next 4 RX0 (some .int) D cA sz0 H0)    (sh : Shp M) : ∀ (n : Nat) (x3 : Int32) , m_X0_next_l2 x1 x2 M Q n x3 → V p l e ({ frames := 1, cells := 0, slots := 0, locals := 22 } : Room) s m args below meth c 4 D cA sz0 H0 0 0 (MQ below (QW_i D cA sz0 H0 (fun r M' => M' = M ∧ Q r)) args s 0 0 (Aw sz0)) 2 [(0, .ref (sz0 + 0)), (1, .int x1), (2, .int x2), (3, .int x3)] [] M := by
  intro n
  induction n with
  | zero => intro x3 h; exact h.elim
  | succ n ih =>
    intro x3 h
    replace h : (m_X0_isStep x1 x3 M (fun (a1 : Int32) => ((a1 = 0 → (∀ z3 : Int32, z3 = x3 + (1 : Int32) → m_X0_next_l2 x1 x2 M Q n z3)) ∧ (¬ a1 = 0 → (vp_in x3 40 ∧ (vp_in x2 40 ∧ (((wI M ((133 + x3.toNatClampNeg)) x2.toNatClampNeg) = (268435456 : Int32) → (∀ z7 : Int32, z7 = x3 + (1 : Int32) → m_X0_next_l2 x1 x2 M Q n z7)) ∧ (¬ (wI M ((133 + x3.toNatClampNeg)) x2.toNatClampNeg) = (268435456 : Int32) → (vp_in x1 40 ∧ (vp_in x3 40 ∧ (vp_in x3 40 ∧ (vp_in x2 40 ∧ (vp_in x1 40 ∧ (vp_in x2 40 ∧ ((((((100 : Int32) * (wI M ((10 + x1.toNatClampNeg)) x3.toNatClampNeg)) + (1 : Int32)) + (wI M ((133 + x3.toNatClampNeg)) x2.toNatClampNeg)) = (wI M ((133 + x1.toNatClampNeg)) x2.toNatClampNeg) → Q x3) ∧ (¬ ((((100 : Int32) * (wI M ((10 + x1.toNatClampNeg)) x3.toNatClampNeg)) + (1 : Int32)) + (wI M ((133 + x3.toNatClampNeg)) x2.toNatClampNeg)) = (wI M ((133 + x1.toNatClampNeg)) x2.toNatClampNeg) → (∀ z15 : Int32, z15 = x3 + (1 : Int32) → m_X0_next_l2 x1 x2 M Q n z15))))))))))))))))) := h
    refine v_aload_n (pc := 2) cx dX0_next_2 rfl 0 rfl ?_
    refine v_iload_n (pc := 3) cx dX0_next_3 rfl 1 rfl ?_
    refine v_iload_n (pc := 4) cx dX0_next_4 rfl 3 rfl ?_
    refine v_runp_i (pc := 5) cx (kcq808_X0 cx (c_X0_isStep l D cA sz0 H0 M x1 x3  _ sh h) ⟨Nat.le_of_ble_eq_true rfl, Nat.le_of_ble_eq_true rfl⟩ (sh.k k_0) (As := [.int x1, .int x3]) rfl rfl (Nat.le_of_ble_eq_true rfl) dX0_next_5 ⟨Nat.le_of_ble_eq_true rfl, Nat.le_of_ble_eq_true rfl⟩) (fun a1 hq => ?_)
    replace h := hq
    refine v_if_eq (pc := 8) cx dX0_next_8 (tgt := 57) rfl (fun c2 => ?_) (fun c2 => ?_)
    · replace h := h.1 c2
      refine nm_x (x3 + (1 : Int32)) (fun z3 ez3 => ?_)
      replace h := h z3 ez3
      refine v_iinc (pc := 57) cx dX0_next_57 (q := 3) rfl ((ii_1 _).trans ez3.symm) (Nat.le_of_ble_eq_true rfl) (lv' := [(3, .int z3), (0, .ref (sz0 + 0)), (1, .int x1), (2, .int x2)]) rfl ?_
      refine v_goto (pc := 60) cx dX0_next_60 (tgt := 2) rfl ?_
      refine v_sub (lv' := [(0, .ref (sz0 + 0)), (1, .int x1), (2, .int x2), (3, .int z3)]) [1, 2, 3, 0] rfl ?_
      exact ih z3 h
    · replace h := h.2 c2
      refine v_aload_n (pc := 11) cx dX0_next_11 rfl 0 rfl ?_
      refine gq289_X0 (pc := 12) cx dX0_next_12 (sh.k k_0) (v_some (sh.r r_0_14) ?_)
      refine v_iload_n (pc := 15) cx dX0_next_15 rfl 3 rfl ?_
      obtain ⟨b4, h⟩ := h
      refine v_aald104 (pc := 16) cx dX0_next_16 (sh.k k_132) (sh.l k_132 l_132) b4 (v_some (sh.r (f_132 (lt_in b4))) ?_)
      refine v_iload_n (pc := 17) cx dX0_next_17 rfl 2 rfl ?_
      obtain ⟨b5, h⟩ := h
      refine v_iald (pc := 18) cx dX0_next_18 (sh.k (fk_132 (lt_in b4))) (sh.l (fk_132 (lt_in b4)) (fl_132 (lt_in b4))) b5 ?_
      refine v_ldc (pc := 19) cx dX0_next_19 q717 ?_
      refine v_icmp_eq (pc := 21) cx dX0_next_21 (tgt := 57) rfl (fun c6 => ?_) (fun c6 => ?_)
      · replace h := h.1 c6
        refine nm_x (x3 + (1 : Int32)) (fun z7 ez7 => ?_)
        replace h := h z7 ez7
        refine v_iinc (pc := 57) cx dX0_next_57 (q := 3) rfl ((ii_1 _).trans ez7.symm) (Nat.le_of_ble_eq_true rfl) (lv' := [(3, .int z7), (0, .ref (sz0 + 0)), (1, .int x1), (2, .int x2)]) rfl ?_
        refine v_goto (pc := 60) cx dX0_next_60 (tgt := 2) rfl ?_
        refine v_sub (lv' := [(0, .ref (sz0 + 0)), (1, .int x1), (2, .int x2), (3, .int z7)]) [1, 2, 3, 0] rfl ?_
        exact ih z7 h
      · replace h := h.2 c6
        refine v_bipush (pc := 24) cx dX0_next_24 bc_100 ?_
        refine v_aload_n (pc := 26) cx dX0_next_26 rfl 0 rfl ?_
        refine gq286_X0 (pc := 27) cx dX0_next_27 (sh.k k_0) (v_some (sh.r r_0_11) ?_)
        refine v_iload_n (pc := 30) cx dX0_next_30 rfl 1 rfl ?_
        obtain ⟨b8, h⟩ := h
        refine v_aald104 (pc := 31) cx dX0_next_31 (sh.k k_9) (sh.l k_9 l_9) b8 (v_some (sh.r (f_9 (lt_in b8))) ?_)
        refine v_iload_n (pc := 32) cx dX0_next_32 rfl 3 rfl ?_
        obtain ⟨b9, h⟩ := h
        refine v_iald (pc := 33) cx dX0_next_33 (sh.k (fk_9 (lt_in b8))) (sh.l (fk_9 (lt_in b8)) (fl_9 (lt_in b8))) b9 ?_
        refine v_imul (pc := 34) cx dX0_next_34 ?_
        refine v_iconst (pc := 35) cx dX0_next_35 ic_1 ?_
        refine v_iadd (pc := 36) cx dX0_next_36 ?_
        refine v_aload_n (pc := 37) cx dX0_next_37 rfl 0 rfl ?_
        refine gq289_X0 (pc := 38) cx dX0_next_38 (sh.k k_0) (v_some (sh.r r_0_14) ?_)
        refine v_iload_n (pc := 41) cx dX0_next_41 rfl 3 rfl ?_
        obtain ⟨b10, h⟩ := h
        refine v_aald104 (pc := 42) cx dX0_next_42 (sh.k k_132) (sh.l k_132 l_132) b10 (v_some (sh.r (f_132 (lt_in b10))) ?_)
        refine v_iload_n (pc := 43) cx dX0_next_43 rfl 2 rfl ?_
        obtain ⟨b11, h⟩ := h
        refine v_iald (pc := 44) cx dX0_next_44 (sh.k (fk_132 (lt_in b10))) (sh.l (fk_132 (lt_in b10)) (fl_132 (lt_in b10))) b11 ?_
        refine v_iadd (pc := 45) cx dX0_next_45 ?_
        refine v_aload_n (pc := 46) cx dX0_next_46 rfl 0 rfl ?_
        refine gq289_X0 (pc := 47) cx dX0_next_47 (sh.k k_0) (v_some (sh.r r_0_14) ?_)
        refine v_iload_n (pc := 50) cx dX0_next_50 rfl 1 rfl ?_
        obtain ⟨b12, h⟩ := h
        refine v_aald104 (pc := 51) cx dX0_next_51 (sh.k k_132) (sh.l k_132 l_132) b12 (v_some (sh.r (f_132 (lt_in b12))) ?_)
        refine v_iload_n (pc := 52) cx dX0_next_52 rfl 2 rfl ?_
        obtain ⟨b13, h⟩ := h
        refine v_iald (pc := 53) cx dX0_next_53 (sh.k (fk_132 (lt_in b12))) (sh.l (fk_132 (lt_in b12)) (fl_132 (lt_in b12))) b13 ?_
        refine v_icmp_eq (pc := 54) cx dX0_next_54 (tgt := 63) rfl (fun c14 => ?_) (fun c14 => ?_)
        · replace h := h.1 c14
          refine v_iload_n (pc := 63) cx dX0_next_63 rfl 3 rfl ?_
          exact v_iret cx rfl dX0_next_64 ⟨Nat.le_of_ble_eq_true rfl, Nat.le_of_ble_eq_true rfl⟩ ⟨rfl, h⟩
        · replace h := h.2 c14
          refine nm_x (x3 + (1 : Int32)) (fun z15 ez15 => ?_)
          replace h := h z15 ez15
          refine v_iinc (pc := 57) cx dX0_next_57 (q := 3) rfl ((ii_1 _).trans ez15.symm) (Nat.le_of_ble_eq_true rfl) (lv' := [(3, .int z15), (0, .ref (sz0 + 0)), (1, .int x1), (2, .int x2)]) rfl ?_
          refine v_goto (pc := 60) cx dX0_next_60 (tgt := 2) rfl ?_
          refine v_sub (lv' := [(0, .ref (sz0 + 0)), (1, .int x1), (2, .int x2), (3, .int z15)]) [1, 2, 3, 0] rfl ?_
          exact ih z15 h
def m_X0_next (x1 : Int32) (x2 : Int32) (M : WM)  (Q : Int32 → Prop) : Prop := (∃ n0, m_X0_next_l2 x1 x2 M Q n0 ((0 : Int32)))
theorem c_X0_next (l : Launch) (D : va_G) (cA : Nat → ClassId) (sz0 : Nat) (H0 : Heap) (M : WM) (x1 : Int32) (x2 : Int32)   (Q : Int32 → Prop) (sh : Shp M) (h : m_X0_next x1 x2 M  Q) : Met l yX0_next (ws_ yX0_next cX0_next 4 (some .int)) ({ frames := 1, cells := 0, slots := 0, locals := 22 } : Room) (PcW D cA sz0 H0 [.ref (sz0 + 0), .int x1, .int x2] M) (QW_i D cA sz0 H0 (fun r M' => M' = M ∧ Q r)) 0 0 (Aw sz0) := by
  replace h : (∃ n0, m_X0_next_l2 x1 x2 M Q n0 ((0 : Int32))) := h
  refine Met.ofV (by decide +kernel) (Nat.le_of_ble_eq_true rfl) ?_
  intro p e s m args below meth c cx hnm
  replace cx : Cx p s m args meth c cX0_next 4 RX0 (some .int) D cA sz0 H0 := cx
  refine v_sub (lv' := [(0, .ref (sz0 + 0)), (1, .int x1), (2, .int x2)]) [0, 1, 2] rfl ?_
  refine v_iconst (pc := 0) cx dX0_next_0 ic_0 ?_
  refine v_istore_n (pc := 1) cx dX0_next_1 rfl (Nat.le_of_ble_eq_true rfl) (lv' := [(3, .int (0 : Int32)), (0, .ref (sz0 + 0)), (1, .int x1), (2, .int x2)]) rfl ?_
  refine v_sub (lv' := [(0, .ref (sz0 + 0)), (1, .int x1), (2, .int x2), (3, .int (0 : Int32))]) [1, 2, 3, 0] rfl ?_
  obtain ⟨n0, h⟩ := h
  exact w_X0_next_l2 cx sh n0 ((0 : Int32)) h
/-! LetterHeaps.least(III)I -/
def m_X0_least_l101   (x2 : Int32) (x3 : Int32)   (Q : Int32 → WM → Prop) : Nat → Int32 → Int32 → WM → Prop
  | 0, _, _, _ => False
  | n + 1, x4, x5, M => ((x3 ≤ x5 → Q x4 M) ∧ (¬ x3 ≤ x5 → (m_X0_next x4 x2 M (fun (a2 : Int32) => (∀ z3 : Int32, z3 = x5 + (1 : Int32) → m_X0_least_l101 x2 x3 Q n a2 z3 M)))))
theorem w_X0_least_l101 {p : Program} {l : Launch} {e : Env} {s : State} {m : MethodId} {args : Array Value} {below : List Frame} {meth : Method} {c : Code} {D : va_G} {cA : Nat → ClassId} {sz0 : Nat} {H0 : Heap}  {x2 : Int32} {x3 : Int32} {Q : Int32 → WM → Prop}  (cx : Cx p s m args meth c cX0_least 6 RX0 (some .int) D cA sz0 H0)     : ∀ (n : Nat) (x4 : Int32) (x5 : Int32)  (M : WM) (sh : Shp M), m_X0_least_l101 x2 x3 Q n x4 x5 M → V p l e ({ frames := 120, cells := 0, slots := 0, locals := 4632 } : Room) s m args below meth c 6 D cA sz0 H0 0 0 (MQ below (QW_i D cA sz0 H0 (fun r M' => Q r M' ∧ Shp M')) args s 0 0 (Aw sz0)) 101 [(0, .ref (sz0 + 0)), (2, .int x2), (3, .int x3), (4, .int x4), (5, .int x5)] [] M := by
  intro n
  induction n with
  | zero => intro x4 x5 M sh h; exact h.elim
  | succ n ih =>
    intro x4 x5 M sh h
    replace h : ((x3 ≤ x5 → Q x4 M) ∧ (¬ x3 ≤ x5 → (m_X0_next x4 x2 M (fun (a2 : Int32) => (∀ z3 : Int32, z3 = x5 + (1 : Int32) → m_X0_least_l101 x2 x3 Q n a2 z3 M))))) := h
    refine v_iload (pc := 101) cx dX0_least_101 4 rfl ?_
    refine v_iload_n (pc := 103) cx dX0_least_103 rfl 2 rfl ?_
    refine v_icmp_ge (pc := 104) cx dX0_least_104 (tgt := 122) rfl (fun c1 => ?_) (fun c1 => ?_)
    · replace h := h.1 c1
      refine v_iload (pc := 122) cx dX0_least_122 3 rfl ?_
      exact v_iret cx rfl dX0_least_124 ⟨Nat.le_of_ble_eq_true rfl, Nat.le_of_ble_eq_true rfl⟩ ⟨h, sh⟩
    · replace h := h.2 c1
      refine v_aload_n (pc := 107) cx dX0_least_107 rfl 0 rfl ?_
      refine v_iload (pc := 108) cx dX0_least_108 3 rfl ?_
      refine v_iload_n (pc := 110) cx dX0_least_110 rfl 1 rfl ?_
      refine v_runp_i (pc := 111) cx (kcq820_X0 cx (c_X0_next l D cA sz0 H0 M x4 x2  _ sh h) ⟨Nat.le_of_ble_eq_true rfl, Nat.le_of_ble_eq_true rfl⟩ (sh.k k_0) (As := [.int x4, .int x2]) rfl rfl (Nat.le_of_ble_eq_true rfl) dX0_least_111 ⟨Nat.le_of_ble_eq_true rfl, Nat.le_of_ble_eq_true rfl⟩) (fun a2 hq => ?_)
      replace h := hq
      refine v_istore (pc := 114) cx dX0_least_114 (Nat.le_of_ble_eq_true rfl) (lv' := [(4, .int a2), (0, .ref (sz0 + 0)), (2, .int x2), (3, .int x3), (5, .int x5)]) rfl ?_
      refine nm_x (x5 + (1 : Int32)) (fun z3 ez3 => ?_)
      replace h := h z3 ez3
      refine v_iinc (pc := 116) cx dX0_least_116 (q := 4) rfl ((ii_1 _).trans ez3.symm) (Nat.le_of_ble_eq_true rfl) (lv' := [(5, .int z3), (4, .int a2), (0, .ref (sz0 + 0)), (2, .int x2), (3, .int x3)]) rfl ?_
      refine v_goto (pc := 119) cx dX0_least_119 (tgt := 101) rfl ?_
      refine v_sub (lv' := [(0, .ref (sz0 + 0)), (2, .int x2), (3, .int x3), (4, .int a2), (5, .int z3)]) [2, 3, 4, 1, 0] rfl ?_
      exact ih a2 z3 M sh h
def m_X0_least_j52   (x1 : Int32) (x2 : Int32) (x3 : Int32)   (Q : Int32 → WM → Prop) (M : WM) : Prop := ((x3 = ((-1) : Int32) → (m_X0_costOf x1 x2 M (fun (a4 : Int32) => Q a4 M))) ∧ (¬ x3 = ((-1) : Int32) → (vp_in x1 40 ∧ (vp_in x2 40 ∧ Q (((wI M ((133 + x1.toNatClampNeg)) x2.toNatClampNeg) - (wI M ((133 + x1.toNatClampNeg)) x2.toNatClampNeg) / (100 : Int32) * (100 : Int32))) M))))
theorem w_X0_least_j52 {p : Program} {l : Launch} {e : Env} {s : State} {m : MethodId} {args : Array Value} {below : List Frame} {meth : Method} {c : Code} {D : va_G} {cA : Nat → ClassId} {sz0 : Nat} {H0 : Heap}  {x1 : Int32} {x2 : Int32} {x3 : Int32} {Q : Int32 → WM → Prop}  (cx : Cx p s m args meth c cX0_least 6 RX0 (some .int) D cA sz0 H0)       (M : WM) (sh : Shp M) (h : m_X0_least_j52 x1 x2 x3 Q M) : V p l e ({ frames := 120, cells := 0, slots := 0, locals := 4632 } : Room) s m args below meth c 6 D cA sz0 H0 0 0 (MQ below (QW_i D cA sz0 H0 (fun r M' => Q r M' ∧ Shp M')) args s 0 0 (Aw sz0)) 52 [(0, .ref (sz0 + 0)), (1, .int x1), (2, .int x2), (3, .int x3)] [] M := by
  replace h : ((x3 = ((-1) : Int32) → (m_X0_costOf x1 x2 M (fun (a4 : Int32) => Q a4 M))) ∧ (¬ x3 = ((-1) : Int32) → (vp_in x1 40 ∧ (vp_in x2 40 ∧ Q (((wI M ((133 + x1.toNatClampNeg)) x2.toNatClampNeg) - (wI M ((133 + x1.toNatClampNeg)) x2.toNatClampNeg) / (100 : Int32) * (100 : Int32))) M)))) := h
  refine v_iload_n (pc := 52) cx dX0_least_52 rfl 3 rfl ?_
  refine v_iconst (pc := 53) cx dX0_least_53 ic_m1 ?_
  refine v_icmp_ne (pc := 54) cx dX0_least_54 (tgt := 66) rfl (fun c1 => ?_) (fun c1 => ?_)
  · replace h := h.2 c1
    refine v_aload_n (pc := 66) cx dX0_least_66 rfl 0 rfl ?_
    refine gq289_X0 (pc := 67) cx dX0_least_67 (sh.k k_0) (v_some (sh.r r_0_14) ?_)
    refine v_iload_n (pc := 70) cx dX0_least_70 rfl 1 rfl ?_
    obtain ⟨b2, h⟩ := h
    refine v_aald104 (pc := 71) cx dX0_least_71 (sh.k k_132) (sh.l k_132 l_132) b2 (v_some (sh.r (f_132 (lt_in b2))) ?_)
    refine v_iload_n (pc := 72) cx dX0_least_72 rfl 2 rfl ?_
    obtain ⟨b3, h⟩ := h
    refine v_iald (pc := 73) cx dX0_least_73 (sh.k (fk_132 (lt_in b2))) (sh.l (fk_132 (lt_in b2)) (fl_132 (lt_in b2))) b3 ?_
    refine v_bipush (pc := 74) cx dX0_least_74 bc_100 ?_
    refine v_irem (pc := 76) cx dX0_least_76 (by decide) ?_
    exact v_iret cx rfl dX0_least_77 ⟨Nat.le_of_ble_eq_true rfl, Nat.le_of_ble_eq_true rfl⟩ ⟨h, sh⟩
  · replace h := h.1 c1
    refine v_aload_n (pc := 57) cx dX0_least_57 rfl 0 rfl ?_
    refine v_iload_n (pc := 58) cx dX0_least_58 rfl 1 rfl ?_
    refine v_iload_n (pc := 59) cx dX0_least_59 rfl 2 rfl ?_
    refine v_runp_i (pc := 60) cx (kcq816_X0 cx (c_X0_costOf l D cA sz0 H0 M x1 x2  _ sh h) ⟨Nat.le_of_ble_eq_true rfl, Nat.le_of_ble_eq_true rfl⟩ (sh.k k_0) (As := [.int x1, .int x2]) rfl rfl (Nat.le_of_ble_eq_true rfl) dX0_least_60 ⟨Nat.le_of_ble_eq_true rfl, Nat.le_of_ble_eq_true rfl⟩) (fun a4 hq => ?_)
    replace h := hq
    refine v_goto (pc := 63) cx dX0_least_63 (tgt := 77) rfl ?_
    exact v_iret cx rfl dX0_least_77 ⟨Nat.le_of_ble_eq_true rfl, Nat.le_of_ble_eq_true rfl⟩ ⟨h, sh⟩
def m_X0_least (x1 : Int32) (x2 : Int32) (x3 : Int32) (M : WM)  (Q : Int32 → WM → Prop) : Prop := (m_X0_areTwo x1 x2 M (fun (a1 : Int32) => ((a1 = 0 → Q (((-1) : Int32)) M) ∧ (¬ a1 = 0 → (m_X0_within x3 (((-1) : Int32)) ((40 : Int32)) (fun (a3 : Int32) => ((a3 = 0 → Q (((-1) : Int32)) M) ∧ (¬ a3 = 0 → (m_X0_lays  M (fun (M6 : WM) => (vp_in x1 40 ∧ (vp_in x2 40 ∧ (((wI M6 ((133 + x1.toNatClampNeg)) x2.toNatClampNeg) = (268435456 : Int32) → Q (((-2) : Int32)) M6) ∧ (¬ (wI M6 ((133 + x1.toNatClampNeg)) x2.toNatClampNeg) = (268435456 : Int32) → ((x3 = ((-1) : Int32) → m_X0_least_j52 x1 x2 x3 Q M6) ∧ (¬ x3 = ((-1) : Int32) → ((x3 = (40 : Int32) → m_X0_least_j52 x1 x2 x3 Q M6) ∧ (¬ x3 = (40 : Int32) → (vp_in x1 40 ∧ (vp_in x2 40 ∧ ((x3 ≤ ((wI M6 ((133 + x1.toNatClampNeg)) x2.toNatClampNeg) - (wI M6 ((133 + x1.toNatClampNeg)) x2.toNatClampNeg) / (100 : Int32) * (100 : Int32)) → (∃ n0, m_X0_least_l101 x2 x3 Q n0 x1 ((0 : Int32)) M6)) ∧ (¬ x3 ≤ ((wI M6 ((133 + x1.toNatClampNeg)) x2.toNatClampNeg) - (wI M6 ((133 + x1.toNatClampNeg)) x2.toNatClampNeg) / (100 : Int32) * (100 : Int32)) → Q (((-1) : Int32)) M6))))))))))))))))))))))
theorem c_X0_least (l : Launch) (D : va_G) (cA : Nat → ClassId) (sz0 : Nat) (H0 : Heap) (M : WM) (x1 : Int32) (x2 : Int32) (x3 : Int32)   (Q : Int32 → WM → Prop) (sh : Shp M) (h : m_X0_least x1 x2 x3 M  Q) : Met l yX0_least (ws_ yX0_least cX0_least 6 (some .int)) ({ frames := 120, cells := 0, slots := 0, locals := 4632 } : Room) (PcW D cA sz0 H0 [.ref (sz0 + 0), .int x1, .int x2, .int x3] M) (QW_i D cA sz0 H0 (fun r M' => Q r M' ∧ Shp M')) 0 0 (Aw sz0) := by
  replace h : (m_X0_areTwo x1 x2 M (fun (a1 : Int32) => ((a1 = 0 → Q (((-1) : Int32)) M) ∧ (¬ a1 = 0 → (m_X0_within x3 (((-1) : Int32)) ((40 : Int32)) (fun (a3 : Int32) => ((a3 = 0 → Q (((-1) : Int32)) M) ∧ (¬ a3 = 0 → (m_X0_lays  M (fun (M6 : WM) => (vp_in x1 40 ∧ (vp_in x2 40 ∧ (((wI M6 ((133 + x1.toNatClampNeg)) x2.toNatClampNeg) = (268435456 : Int32) → Q (((-2) : Int32)) M6) ∧ (¬ (wI M6 ((133 + x1.toNatClampNeg)) x2.toNatClampNeg) = (268435456 : Int32) → ((x3 = ((-1) : Int32) → m_X0_least_j52 x1 x2 x3 Q M6) ∧ (¬ x3 = ((-1) : Int32) → ((x3 = (40 : Int32) → m_X0_least_j52 x1 x2 x3 Q M6) ∧ (¬ x3 = (40 : Int32) → (vp_in x1 40 ∧ (vp_in x2 40 ∧ ((x3 ≤ ((wI M6 ((133 + x1.toNatClampNeg)) x2.toNatClampNeg) - (wI M6 ((133 + x1.toNatClampNeg)) x2.toNatClampNeg) / (100 : Int32) * (100 : Int32)) → (∃ n0, m_X0_least_l101 x2 x3 Q n0 x1 ((0 : Int32)) M6)) ∧ (¬ x3 ≤ ((wI M6 ((133 + x1.toNatClampNeg)) x2.toNatClampNeg) - (wI M6 ((133 + x1.toNatClampNeg)) x2.toNatClampNeg) / (100 : Int32) * (100 : Int32)) → Q (((-1) : Int32)) M6)))))))))))))))))))))) := h
  refine Met.ofV (by decide +kernel) (Nat.le_of_ble_eq_true rfl) ?_
  intro p e s m args below meth c cx hnm
  replace cx : Cx p s m args meth c cX0_least 6 RX0 (some .int) D cA sz0 H0 := cx
  refine v_sub (lv' := [(0, .ref (sz0 + 0)), (1, .int x1), (2, .int x2), (3, .int x3)]) [0, 1, 2, 3] rfl ?_
  refine v_aload_n (pc := 0) cx dX0_least_0 rfl 0 rfl ?_
  refine v_iload_n (pc := 1) cx dX0_least_1 rfl 1 rfl ?_
  refine v_iload_n (pc := 2) cx dX0_least_2 rfl 2 rfl ?_
  refine v_runp_i (pc := 3) cx (kcq705_X0 cx (c_X0_areTwo l D cA sz0 H0 M x1 x2  _ sh h) ⟨Nat.le_of_ble_eq_true rfl, Nat.le_of_ble_eq_true rfl⟩ (sh.k k_0) (As := [.int x1, .int x2]) rfl rfl (Nat.le_of_ble_eq_true rfl) dX0_least_3 ⟨Nat.le_of_ble_eq_true rfl, Nat.le_of_ble_eq_true rfl⟩) (fun a1 hq => ?_)
  replace h := hq
  refine v_if_eq (pc := 6) cx dX0_least_6 (tgt := 19) rfl (fun c2 => ?_) (fun c2 => ?_)
  · replace h := h.1 c2
    refine v_iconst (pc := 19) cx dX0_least_19 ic_m1 ?_
    exact v_iret cx rfl dX0_least_20 ⟨Nat.le_of_ble_eq_true rfl, Nat.le_of_ble_eq_true rfl⟩ ⟨h, sh⟩
  · replace h := h.2 c2
    refine v_iload_n (pc := 9) cx dX0_least_9 rfl 3 rfl ?_
    refine v_iconst (pc := 10) cx dX0_least_10 ic_m1 ?_
    refine v_bipush (pc := 11) cx dX0_least_11 bc_40 ?_
    refine v_runp_i (pc := 13) cx (kcq387_X0 cx (c_X0_within l D cA sz0 H0 M x3 (((-1) : Int32)) ((40 : Int32))  _ h) ⟨Nat.le_of_ble_eq_true rfl, Nat.le_of_ble_eq_true rfl⟩ (As := [.int x3, .int ((-1) : Int32), .int (40 : Int32)]) rfl rfl (Nat.le_of_ble_eq_true rfl) dX0_least_13 ⟨Nat.le_of_ble_eq_true rfl, Nat.le_of_ble_eq_true rfl⟩) (fun a3 hq => ?_)
    replace h := hq
    refine v_if_ne (pc := 16) cx dX0_least_16 (tgt := 21) rfl (fun c4 => ?_) (fun c4 => ?_)
    · replace h := h.2 c4
      refine v_aload_n (pc := 21) cx dX0_least_21 rfl 0 rfl ?_
      refine v_run_v (pc := 22) cx (kcq709_X0 cx (c_X0_lays l D cA sz0 H0 M   _ sh h) ⟨Nat.le_of_ble_eq_true rfl, Nat.le_of_ble_eq_true rfl⟩ (sh.k k_0) (As := []) rfl rfl (Nat.le_of_ble_eq_true rfl) dX0_least_22 ⟨Nat.le_of_ble_eq_true rfl, Nat.le_of_ble_eq_true rfl⟩) (fun M6 hq => ?_)
      obtain ⟨h, sh⟩ := hq
      refine v_aload_n (pc := 25) cx dX0_least_25 rfl 0 rfl ?_
      refine gq289_X0 (pc := 26) cx dX0_least_26 (sh.k k_0) (v_some (sh.r r_0_14) ?_)
      refine v_iload_n (pc := 29) cx dX0_least_29 rfl 1 rfl ?_
      obtain ⟨b7, h⟩ := h
      refine v_aald104 (pc := 30) cx dX0_least_30 (sh.k k_132) (sh.l k_132 l_132) b7 (v_some (sh.r (f_132 (lt_in b7))) ?_)
      refine v_iload_n (pc := 31) cx dX0_least_31 rfl 2 rfl ?_
      obtain ⟨b8, h⟩ := h
      refine v_iald (pc := 32) cx dX0_least_32 (sh.k (fk_132 (lt_in b7))) (sh.l (fk_132 (lt_in b7)) (fl_132 (lt_in b7))) b8 ?_
      refine v_ldc (pc := 33) cx dX0_least_33 q717 ?_
      refine v_icmp_ne (pc := 35) cx dX0_least_35 (tgt := 41) rfl (fun c9 => ?_) (fun c9 => ?_)
      · replace h := h.2 c9
        refine v_iload_n (pc := 41) cx dX0_least_41 rfl 3 rfl ?_
        refine v_iconst (pc := 42) cx dX0_least_42 ic_m1 ?_
        refine v_icmp_eq (pc := 43) cx dX0_least_43 (tgt := 52) rfl (fun c10 => ?_) (fun c10 => ?_)
        · replace h := h.1 c10
          refine v_sub (lv' := [(0, .ref (sz0 + 0)), (1, .int x1), (2, .int x2), (3, .int x3)]) [0, 1, 2, 3] rfl ?_
          exact w_X0_least_j52 cx M6 sh h
        · replace h := h.2 c10
          refine v_iload_n (pc := 46) cx dX0_least_46 rfl 3 rfl ?_
          refine v_bipush (pc := 47) cx dX0_least_47 bc_40 ?_
          refine v_icmp_ne (pc := 49) cx dX0_least_49 (tgt := 78) rfl (fun c11 => ?_) (fun c11 => ?_)
          · replace h := h.2 c11
            refine v_iload_n (pc := 78) cx dX0_least_78 rfl 3 rfl ?_
            refine v_aload_n (pc := 79) cx dX0_least_79 rfl 0 rfl ?_
            refine gq289_X0 (pc := 80) cx dX0_least_80 (sh.k k_0) (v_some (sh.r r_0_14) ?_)
            refine v_iload_n (pc := 83) cx dX0_least_83 rfl 1 rfl ?_
            obtain ⟨b12, h⟩ := h
            refine v_aald104 (pc := 84) cx dX0_least_84 (sh.k k_132) (sh.l k_132 l_132) b12 (v_some (sh.r (f_132 (lt_in b12))) ?_)
            refine v_iload_n (pc := 85) cx dX0_least_85 rfl 2 rfl ?_
            obtain ⟨b13, h⟩ := h
            refine v_iald (pc := 86) cx dX0_least_86 (sh.k (fk_132 (lt_in b12))) (sh.l (fk_132 (lt_in b12)) (fl_132 (lt_in b12))) b13 ?_
            refine v_bipush (pc := 87) cx dX0_least_87 bc_100 ?_
            refine v_irem (pc := 89) cx dX0_least_89 (by decide) ?_
            refine v_icmp_le (pc := 90) cx dX0_least_90 (tgt := 95) rfl (fun c14 => ?_) (fun c14 => ?_)
            · replace h := h.1 c14
              refine v_iload_n (pc := 95) cx dX0_least_95 rfl 1 rfl ?_
              refine v_istore (pc := 96) cx dX0_least_96 (Nat.le_of_ble_eq_true rfl) (lv' := [(4, .int x1), (0, .ref (sz0 + 0)), (1, .int x1), (2, .int x2), (3, .int x3)]) rfl ?_
              refine v_iconst (pc := 98) cx dX0_least_98 ic_0 ?_
              refine v_istore (pc := 99) cx dX0_least_99 (Nat.le_of_ble_eq_true rfl) (lv' := [(5, .int (0 : Int32)), (4, .int x1), (0, .ref (sz0 + 0)), (1, .int x1), (2, .int x2), (3, .int x3)]) rfl ?_
              refine v_sub (lv' := [(0, .ref (sz0 + 0)), (2, .int x2), (3, .int x3), (4, .int x1), (5, .int (0 : Int32))]) [2, 4, 5, 1, 0] rfl ?_
              obtain ⟨n0, h⟩ := h
              exact w_X0_least_l101 cx n0 x1 ((0 : Int32)) M6 sh h
            · replace h := h.2 c14
              refine v_iconst (pc := 93) cx dX0_least_93 ic_m1 ?_
              exact v_iret cx rfl dX0_least_94 ⟨Nat.le_of_ble_eq_true rfl, Nat.le_of_ble_eq_true rfl⟩ ⟨h, sh⟩
          · replace h := h.1 c11
            refine v_sub (lv' := [(0, .ref (sz0 + 0)), (1, .int x1), (2, .int x2), (3, .int x3)]) [0, 1, 2, 3] rfl ?_
            exact w_X0_least_j52 cx M6 sh h
      · replace h := h.1 c9
        refine v_bipush (pc := 38) cx dX0_least_38 bc_m2 ?_
        exact v_iret cx rfl dX0_least_40 ⟨Nat.le_of_ble_eq_true rfl, Nat.le_of_ble_eq_true rfl⟩ ⟨h, sh⟩
    · replace h := h.1 c4
      refine v_iconst (pc := 19) cx dX0_least_19 ic_m1 ?_
      exact v_iret cx rfl dX0_least_20 ⟨Nat.le_of_ble_eq_true rfl, Nat.le_of_ble_eq_true rfl⟩ ⟨h, sh⟩
/-! LetterHeaps.restBy(III)I -/
def m_X0_restBy_j26   (x1 : Int32) (x3 : Int32) (y0 : Int32) (M : WM)  (Q : Int32 → Prop)  : Prop := (vp_in ((x1 ||| ((1 : Int32) <<< (x3 &&& 31)))) 1024 ∧ (vp_in x3 10 ∧ Q ((if (y0 + (wI M ((186 + ((x1 ||| ((1 : Int32) <<< (x3 &&& 31)))).toNatClampNeg)) x3.toNatClampNeg)) < (268435456 : Int32) then (y0 + (wI M ((186 + ((x1 ||| ((1 : Int32) <<< (x3 &&& 31)))).toNatClampNeg)) x3.toNatClampNeg)) else (268435456 : Int32)))))
theorem w_X0_restBy_j26 {p : Program} {l : Launch} {e : Env} {s : State} {m : MethodId} {args : Array Value} {below : List Frame} {meth : Method} {c : Code} {D : va_G} {cA : Nat → ClassId} {sz0 : Nat} {H0 : Heap}  {x1 : Int32} {x3 : Int32} {y0 : Int32} {M : WM} {Q : Int32 → Prop}  (cx : Cx p s m args meth c cX0_restBy 5 RX0 (some .int) D cA sz0 H0)    (sh : Shp M)   (h : m_X0_restBy_j26 x1 x3 y0 M Q ) : V p l e ({ frames := 1, cells := 0, slots := 0, locals := 21 } : Room) s m args below meth c 5 D cA sz0 H0 0 0 (MQ below (QW_i D cA sz0 H0 (fun r M' => M' = M ∧ Q r)) args s 0 0 (Aw sz0)) 26 [(0, .ref (sz0 + 0)), (1, .int x1), (3, .int x3)] [.int y0] M := by
  replace h : (vp_in ((x1 ||| ((1 : Int32) <<< (x3 &&& 31)))) 1024 ∧ (vp_in x3 10 ∧ Q ((if (y0 + (wI M ((186 + ((x1 ||| ((1 : Int32) <<< (x3 &&& 31)))).toNatClampNeg)) x3.toNatClampNeg)) < (268435456 : Int32) then (y0 + (wI M ((186 + ((x1 ||| ((1 : Int32) <<< (x3 &&& 31)))).toNatClampNeg)) x3.toNatClampNeg)) else (268435456 : Int32))))) := h
  refine v_istore (pc := 26) cx dX0_restBy_26 (Nat.le_of_ble_eq_true rfl) (lv' := [(4, .int y0), (0, .ref (sz0 + 0)), (1, .int x1), (3, .int x3)]) rfl ?_
  refine v_ldc (pc := 28) cx dX0_restBy_28 q717 ?_
  refine v_iload (pc := 30) cx dX0_restBy_30 0 rfl ?_
  refine v_aload_n (pc := 32) cx dX0_restBy_32 rfl 1 rfl ?_
  refine gq301_X0 (pc := 33) cx dX0_restBy_33 (sh.k k_0) (v_some (sh.r r_0_26) ?_)
  refine v_iload_n (pc := 36) cx dX0_restBy_36 rfl 2 rfl ?_
  refine v_iconst (pc := 37) cx dX0_restBy_37 ic_1 ?_
  refine v_iload_n (pc := 38) cx dX0_restBy_38 rfl 3 rfl ?_
  refine v_ishl (pc := 39) cx dX0_restBy_39 ?_
  refine v_ior (pc := 40) cx dX0_restBy_40 ?_
  obtain ⟨b1, h⟩ := h
  refine v_aald104 (pc := 41) cx dX0_restBy_41 (sh.k k_185) (sh.l k_185 l_185) b1 (v_some (sh.r (f_185 (lt_in b1))) ?_)
  refine v_iload_n (pc := 42) cx dX0_restBy_42 rfl 3 rfl ?_
  obtain ⟨b2, h⟩ := h
  refine v_iald (pc := 43) cx dX0_restBy_43 (sh.k (fk_185 (lt_in b1))) (sh.l (fk_185 (lt_in b1)) (fl_185 (lt_in b1))) b2 ?_
  refine v_iadd (pc := 44) cx dX0_restBy_44 ?_
  refine v_mmin (pc := 45) cx q807 q564 q134 q565 dX0_restBy_45 ⟨Nat.le_of_ble_eq_true rfl, Nat.le_of_ble_eq_true rfl, Nat.le_of_ble_eq_true rfl, Nat.le_of_ble_eq_true rfl⟩ ?_
  exact v_iret cx rfl dX0_restBy_48 ⟨Nat.le_of_ble_eq_true rfl, Nat.le_of_ble_eq_true rfl⟩ ⟨rfl, h⟩
def m_X0_restBy (x1 : Int32) (x2 : Int32) (x3 : Int32) (M : WM)  (Q : Int32 → Prop) : Prop := ((x1 = 0 → m_X0_restBy_j26 x1 x3 ((0 : Int32)) M Q ) ∧ (¬ x1 = 0 → (vp_in x2 14 ∧ (vp_in ((wI M 184 x2.toNatClampNeg)) 40 ∧ (vp_in x3 14 ∧ (vp_in ((wI M 184 x3.toNatClampNeg)) 40 ∧ m_X0_restBy_j26 x1 x3 ((wI M ((10 + ((wI M 184 x2.toNatClampNeg)).toNatClampNeg)) ((wI M 184 x3.toNatClampNeg)).toNatClampNeg)) M Q ))))))
theorem c_X0_restBy (l : Launch) (D : va_G) (cA : Nat → ClassId) (sz0 : Nat) (H0 : Heap) (M : WM) (x1 : Int32) (x2 : Int32) (x3 : Int32)   (Q : Int32 → Prop) (sh : Shp M) (h : m_X0_restBy x1 x2 x3 M  Q) : Met l yX0_restBy (ws_ yX0_restBy cX0_restBy 5 (some .int)) ({ frames := 1, cells := 0, slots := 0, locals := 21 } : Room) (PcW D cA sz0 H0 [.ref (sz0 + 0), .int x1, .int x2, .int x3] M) (QW_i D cA sz0 H0 (fun r M' => M' = M ∧ Q r)) 0 0 (Aw sz0) := by
  replace h : ((x1 = 0 → m_X0_restBy_j26 x1 x3 ((0 : Int32)) M Q ) ∧ (¬ x1 = 0 → (vp_in x2 14 ∧ (vp_in ((wI M 184 x2.toNatClampNeg)) 40 ∧ (vp_in x3 14 ∧ (vp_in ((wI M 184 x3.toNatClampNeg)) 40 ∧ m_X0_restBy_j26 x1 x3 ((wI M ((10 + ((wI M 184 x2.toNatClampNeg)).toNatClampNeg)) ((wI M 184 x3.toNatClampNeg)).toNatClampNeg)) M Q )))))) := h
  refine Met.ofV (by decide +kernel) (Nat.le_of_ble_eq_true rfl) ?_
  intro p e s m args below meth c cx hnm
  replace cx : Cx p s m args meth c cX0_restBy 5 RX0 (some .int) D cA sz0 H0 := cx
  refine v_sub (lv' := [(0, .ref (sz0 + 0)), (1, .int x1), (2, .int x2), (3, .int x3)]) [0, 1, 2, 3] rfl ?_
  refine v_iload_n (pc := 0) cx dX0_restBy_0 rfl 1 rfl ?_
  refine v_if_ne (pc := 1) cx dX0_restBy_1 (tgt := 8) rfl (fun c1 => ?_) (fun c1 => ?_)
  · replace h := h.2 c1
    refine v_aload_n (pc := 8) cx dX0_restBy_8 rfl 0 rfl ?_
    refine gq286_X0 (pc := 9) cx dX0_restBy_9 (sh.k k_0) (v_some (sh.r r_0_11) ?_)
    refine v_aload_n (pc := 12) cx dX0_restBy_12 rfl 0 rfl ?_
    refine gq299_X0 (pc := 13) cx dX0_restBy_13 (sh.k k_0) (v_some (sh.r r_0_24) ?_)
    refine v_iload_n (pc := 16) cx dX0_restBy_16 rfl 2 rfl ?_
    obtain ⟨b2, h⟩ := h
    refine v_iald (pc := 17) cx dX0_restBy_17 (sh.k k_184) (sh.l k_184 l_184) b2 ?_
    obtain ⟨b3, h⟩ := h
    refine v_aald104 (pc := 18) cx dX0_restBy_18 (sh.k k_9) (sh.l k_9 l_9) b3 (v_some (sh.r (f_9 (lt_in b3))) ?_)
    refine v_aload_n (pc := 19) cx dX0_restBy_19 rfl 0 rfl ?_
    refine gq299_X0 (pc := 20) cx dX0_restBy_20 (sh.k k_0) (v_some (sh.r r_0_24) ?_)
    refine v_iload_n (pc := 23) cx dX0_restBy_23 rfl 3 rfl ?_
    obtain ⟨b4, h⟩ := h
    refine v_iald (pc := 24) cx dX0_restBy_24 (sh.k k_184) (sh.l k_184 l_184) b4 ?_
    obtain ⟨b5, h⟩ := h
    refine v_iald (pc := 25) cx dX0_restBy_25 (sh.k (fk_9 (lt_in b3))) (sh.l (fk_9 (lt_in b3)) (fl_9 (lt_in b3))) b5 ?_
    refine v_sub (lv' := [(0, .ref (sz0 + 0)), (1, .int x1), (3, .int x3)]) [0, 1, 3] rfl ?_
    exact w_X0_restBy_j26 cx sh  h
  · replace h := h.1 c1
    refine v_iconst (pc := 4) cx dX0_restBy_4 ic_0 ?_
    refine v_goto (pc := 5) cx dX0_restBy_5 (tgt := 26) rfl ?_
    refine v_sub (lv' := [(0, .ref (sz0 + 0)), (1, .int x1), (3, .int x3)]) [0, 1, 3] rfl ?_
    exact w_X0_restBy_j26 cx sh  h
/-! LetterHeaps.leastRest(II)I -/
def m_X0_leastRest_l6   (x1 : Int32) (x2 : Int32) (M : WM)  (Q : Int32 → Prop) : Nat → Int32 → Int32 → Prop
  | 0, _, _ => False
  | n + 1, x3, x4 => (((wI M 0 25) ≤ x4 → Q x3) ∧ (¬ (wI M 0 25) ≤ x4 → (m_X0_has x1.toInt64 x4 (fun (a2 : Int32) => ((a2 = 0 → (m_X0_restBy x1 x2 x4 M (fun (a5 : Int32) => (∀ z6 : Int32, z6 = (if a5 < x3 then a5 else x3) → (∀ z7 : Int32, z7 = x4 + (1 : Int32) → m_X0_leastRest_l6 x1 x2 M Q n z6 z7))))) ∧ (¬ a2 = 0 → (∀ z4 : Int32, z4 = x4 + (1 : Int32) → m_X0_leastRest_l6 x1 x2 M Q n x3 z4)))))))
theorem w_X0_leastRest_l6 {p : Program} {l : Launch} {e : Env} {s : State} {m : MethodId} {args : Array Value} {below : List Frame} {meth : Method} {c : Code} {D : va_G} {cA : Nat → ClassId} {sz0 : Nat} {H0 : Heap}  {x1 : Int32} {x2 : Int32} {M : WM} {Q : Int32 → Prop}  (cx : Cx p s m args meth c cX0_leastRest 5 RX0 (some .int) D cA sz0 H0)    (sh : Shp M) : ∀ (n : Nat) (x3 : Int32) (x4 : Int32) , m_X0_leastRest_l6 x1 x2 M Q n x3 x4 → V p l e ({ frames := 2, cells := 0, slots := 0, locals := 45 } : Room) s m args below meth c 5 D cA sz0 H0 0 0 (MQ below (QW_i D cA sz0 H0 (fun r M' => M' = M ∧ Q r)) args s 0 0 (Aw sz0)) 6 [(0, .ref (sz0 + 0)), (1, .int x1), (2, .int x2), (3, .int x3), (4, .int x4)] [] M := by
  intro n
  induction n with
  | zero => intro x3 x4 h; exact h.elim
  | succ n ih =>
    intro x3 x4 h
    replace h : (((wI M 0 25) ≤ x4 → Q x3) ∧ (¬ (wI M 0 25) ≤ x4 → (m_X0_has x1.toInt64 x4 (fun (a2 : Int32) => ((a2 = 0 → (m_X0_restBy x1 x2 x4 M (fun (a5 : Int32) => (∀ z6 : Int32, z6 = (if a5 < x3 then a5 else x3) → (∀ z7 : Int32, z7 = x4 + (1 : Int32) → m_X0_leastRest_l6 x1 x2 M Q n z6 z7))))) ∧ (¬ a2 = 0 → (∀ z4 : Int32, z4 = x4 + (1 : Int32) → m_X0_leastRest_l6 x1 x2 M Q n x3 z4))))))) := h
    refine v_iload (pc := 6) cx dX0_leastRest_6 4 rfl ?_
    refine v_aload_n (pc := 8) cx dX0_leastRest_8 rfl 0 rfl ?_
    refine gq300_X0 (pc := 9) cx dX0_leastRest_9 (sh.k k_0) ?_
    refine v_icmp_ge (pc := 12) cx dX0_leastRest_12 (tgt := 44) rfl (fun c1 => ?_) (fun c1 => ?_)
    · replace h := h.1 c1
      refine v_iload_n (pc := 44) cx dX0_leastRest_44 rfl 3 rfl ?_
      exact v_iret cx rfl dX0_leastRest_45 ⟨Nat.le_of_ble_eq_true rfl, Nat.le_of_ble_eq_true rfl⟩ ⟨rfl, h⟩
    · replace h := h.2 c1
      refine v_iload_n (pc := 15) cx dX0_leastRest_15 rfl 1 rfl ?_
      refine v_i2l (pc := 16) cx dX0_leastRest_16 ?_
      refine v_iload (pc := 17) cx dX0_leastRest_17 4 rfl ?_
      refine v_runp_i (pc := 19) cx (kcq722_X0 cx (c_X0_has l D cA sz0 H0 M x1.toInt64 x4  _ h) ⟨Nat.le_of_ble_eq_true rfl, Nat.le_of_ble_eq_true rfl⟩ (As := [.long x1.toInt64, .int x4]) rfl rfl (Nat.le_of_ble_eq_true rfl) dX0_leastRest_19 ⟨Nat.le_of_ble_eq_true rfl, Nat.le_of_ble_eq_true rfl⟩) (fun a2 hq => ?_)
      replace h := hq
      refine v_if_ne (pc := 22) cx dX0_leastRest_22 (tgt := 38) rfl (fun c3 => ?_) (fun c3 => ?_)
      · replace h := h.2 c3
        refine nm_x (x4 + (1 : Int32)) (fun z4 ez4 => ?_)
        replace h := h z4 ez4
        refine v_iinc (pc := 38) cx dX0_leastRest_38 (q := 4) rfl ((ii_1 _).trans ez4.symm) (Nat.le_of_ble_eq_true rfl) (lv' := [(4, .int z4), (0, .ref (sz0 + 0)), (1, .int x1), (2, .int x2), (3, .int x3)]) rfl ?_
        refine v_goto (pc := 41) cx dX0_leastRest_41 (tgt := 6) rfl ?_
        refine v_sub (lv' := [(0, .ref (sz0 + 0)), (1, .int x1), (2, .int x2), (3, .int x3), (4, .int z4)]) [1, 2, 3, 4, 0] rfl ?_
        exact ih x3 z4 h
      · replace h := h.1 c3
        refine v_iload_n (pc := 25) cx dX0_leastRest_25 rfl 3 rfl ?_
        refine v_aload_n (pc := 26) cx dX0_leastRest_26 rfl 0 rfl ?_
        refine v_iload_n (pc := 27) cx dX0_leastRest_27 rfl 1 rfl ?_
        refine v_iload_n (pc := 28) cx dX0_leastRest_28 rfl 2 rfl ?_
        refine v_iload (pc := 29) cx dX0_leastRest_29 4 rfl ?_
        refine v_runp_i (pc := 31) cx (kcq924_X0 cx (c_X0_restBy l D cA sz0 H0 M x1 x2 x4  _ sh h) ⟨Nat.le_of_ble_eq_true rfl, Nat.le_of_ble_eq_true rfl⟩ (sh.k k_0) (As := [.int x1, .int x2, .int x4]) rfl rfl (Nat.le_of_ble_eq_true rfl) dX0_leastRest_31 ⟨Nat.le_of_ble_eq_true rfl, Nat.le_of_ble_eq_true rfl⟩) (fun a5 hq => ?_)
        replace h := hq
        refine v_mmin (pc := 34) cx q807 q564 q134 q565 dX0_leastRest_34 ⟨Nat.le_of_ble_eq_true rfl, Nat.le_of_ble_eq_true rfl, Nat.le_of_ble_eq_true rfl, Nat.le_of_ble_eq_true rfl⟩ ?_
        refine v_topi (fun z6 ez6 => ?_)
        replace h := h z6 ez6
        refine v_istore_n (pc := 37) cx dX0_leastRest_37 rfl (Nat.le_of_ble_eq_true rfl) (lv' := [(3, .int z6), (0, .ref (sz0 + 0)), (1, .int x1), (2, .int x2), (4, .int x4)]) rfl ?_
        refine nm_x (x4 + (1 : Int32)) (fun z7 ez7 => ?_)
        replace h := h z7 ez7
        refine v_iinc (pc := 38) cx dX0_leastRest_38 (q := 4) rfl ((ii_1 _).trans ez7.symm) (Nat.le_of_ble_eq_true rfl) (lv' := [(4, .int z7), (3, .int z6), (0, .ref (sz0 + 0)), (1, .int x1), (2, .int x2)]) rfl ?_
        refine v_goto (pc := 41) cx dX0_leastRest_41 (tgt := 6) rfl ?_
        refine v_sub (lv' := [(0, .ref (sz0 + 0)), (1, .int x1), (2, .int x2), (3, .int z6), (4, .int z7)]) [2, 3, 4, 1, 0] rfl ?_
        exact ih z6 z7 h
def m_X0_leastRest (x1 : Int32) (x2 : Int32) (M : WM)  (Q : Int32 → Prop) : Prop := (∃ n0, m_X0_leastRest_l6 x1 x2 M Q n0 ((268435456 : Int32)) ((0 : Int32)))
theorem c_X0_leastRest (l : Launch) (D : va_G) (cA : Nat → ClassId) (sz0 : Nat) (H0 : Heap) (M : WM) (x1 : Int32) (x2 : Int32)   (Q : Int32 → Prop) (sh : Shp M) (h : m_X0_leastRest x1 x2 M  Q) : Met l yX0_leastRest (ws_ yX0_leastRest cX0_leastRest 5 (some .int)) ({ frames := 2, cells := 0, slots := 0, locals := 45 } : Room) (PcW D cA sz0 H0 [.ref (sz0 + 0), .int x1, .int x2] M) (QW_i D cA sz0 H0 (fun r M' => M' = M ∧ Q r)) 0 0 (Aw sz0) := by
  replace h : (∃ n0, m_X0_leastRest_l6 x1 x2 M Q n0 ((268435456 : Int32)) ((0 : Int32))) := h
  refine Met.ofV (by decide +kernel) (Nat.le_of_ble_eq_true rfl) ?_
  intro p e s m args below meth c cx hnm
  replace cx : Cx p s m args meth c cX0_leastRest 5 RX0 (some .int) D cA sz0 H0 := cx
  refine v_sub (lv' := [(0, .ref (sz0 + 0)), (1, .int x1), (2, .int x2)]) [0, 1, 2] rfl ?_
  refine v_ldc (pc := 0) cx dX0_leastRest_0 q717 ?_
  refine v_istore_n (pc := 2) cx dX0_leastRest_2 rfl (Nat.le_of_ble_eq_true rfl) (lv' := [(3, .int (268435456 : Int32)), (0, .ref (sz0 + 0)), (1, .int x1), (2, .int x2)]) rfl ?_
  refine v_iconst (pc := 3) cx dX0_leastRest_3 ic_0 ?_
  refine v_istore (pc := 4) cx dX0_leastRest_4 (Nat.le_of_ble_eq_true rfl) (lv' := [(4, .int (0 : Int32)), (3, .int (268435456 : Int32)), (0, .ref (sz0 + 0)), (1, .int x1), (2, .int x2)]) rfl ?_
  refine v_sub (lv' := [(0, .ref (sz0 + 0)), (1, .int x1), (2, .int x2), (3, .int (268435456 : Int32)), (4, .int (0 : Int32))]) [2, 3, 4, 1, 0] rfl ?_
  obtain ⟨n0, h⟩ := h
  exact w_X0_leastRest_l6 cx sh n0 ((268435456 : Int32)) ((0 : Int32)) h
/-! LetterHeaps$Line.clears()V -/
def m_X2_clears (t : Nat) (M : WM)  (Q : WM → Prop) : Prop := (∀ M1 : WM, M1 = wPI M t 1 ((0 : Int32)) → Q M1)
theorem c_X2_clears (l : Launch) (D : va_G) (cA : Nat → ClassId) (sz0 : Nat) (H0 : Heap) (M : WM) (t : Nat) (ht : isLn t)  (Q : WM → Prop) (sh : Shp M) (h : m_X2_clears t M  Q) : Met l yX2_clears (ws_ yX2_clears cX2_clears 1 none) ({ frames := 0, cells := 0, slots := 0, locals := 0 } : Room) (PcW D cA sz0 H0 [.ref (sz0 + t)] M) (QW_v D cA sz0 H0 (fun M' => Q M' ∧ Shp M')) 0 0 (Aw sz0) := by
  replace h : (∀ M1 : WM, M1 = wPI M t 1 ((0 : Int32)) → Q M1) := h
  refine Met.ofV (by decide +kernel) (Nat.le_of_ble_eq_true rfl) ?_
  intro p e s m args below meth c cx hnm
  replace cx : Cx p s m args meth c cX2_clears 1 RX2 none D cA sz0 H0 := cx
  refine v_sub (lv' := [(0, .ref (sz0 + t))]) [0] rfl ?_
  refine v_aload_n (pc := 0) cx dX2_clears_0 rfl 0 rfl ?_
  refine v_iconst (pc := 1) cx dX2_clears_1 ic_0 ?_
  refine pq194_X2 (pc := 2) cx dX2_clears_2 (sh.k (ht).1) ?_
  refine v_wld (fun M1 eM1 => ?_)
  replace h := h M1 eM1
  replace sh : Shp M1 := Shp_PI sh eM1
  exact v_vret cx rfl dX2_clears_5 ⟨Nat.le_of_ble_eq_true rfl, Nat.le_of_ble_eq_true rfl⟩ ⟨h, sh⟩
/-! LetterHeaps$Line.adds(I)V -/
def m_X2_adds (t : Nat) (x1 : Int32) (M : WM)  (Q : WM → Prop) : Prop := (vp_in ((wI M t 1)) 13 ∧ (∀ M2 : WM, M2 = wPI M ((t + 1)) ((wI M t 1)).toNatClampNeg x1 → (∀ M3 : WM, M3 = wPI M2 t 1 (((wI M2 t 1) + (1 : Int32))) → Q M3)))
theorem c_X2_adds (l : Launch) (D : va_G) (cA : Nat → ClassId) (sz0 : Nat) (H0 : Heap) (M : WM) (t : Nat) (x1 : Int32) (ht : isLn t)  (Q : WM → Prop) (sh : Shp M) (h : m_X2_adds t x1 M  Q) : Met l yX2_adds (ws_ yX2_adds cX2_adds 2 none) ({ frames := 0, cells := 0, slots := 0, locals := 0 } : Room) (PcW D cA sz0 H0 [.ref (sz0 + t), .int x1] M) (QW_v D cA sz0 H0 (fun M' => Q M' ∧ Shp M')) 0 0 (Aw sz0) := by
  replace h : (vp_in ((wI M t 1)) 13 ∧ (∀ M2 : WM, M2 = wPI M ((t + 1)) ((wI M t 1)).toNatClampNeg x1 → (∀ M3 : WM, M3 = wPI M2 t 1 (((wI M2 t 1) + (1 : Int32))) → Q M3))) := h
  refine Met.ofV (by decide +kernel) (Nat.le_of_ble_eq_true rfl) ?_
  intro p e s m args below meth c cx hnm
  replace cx : Cx p s m args meth c cX2_adds 2 RX2 none D cA sz0 H0 := cx
  refine v_sub (lv' := [(0, .ref (sz0 + t)), (1, .int x1)]) [0, 1] rfl ?_
  refine v_aload_n (pc := 0) cx dX2_adds_0 rfl 0 rfl ?_
  refine gq191_X2 (pc := 1) cx dX2_adds_1 (sh.k (ht).1) (v_some (sh.r (ht).2.2.2) ?_)
  refine v_aload_n (pc := 4) cx dX2_adds_4 rfl 0 rfl ?_
  refine gq194_X2 (pc := 5) cx dX2_adds_5 (sh.k (ht).1) ?_
  refine v_iload_n (pc := 8) cx dX2_adds_8 rfl 1 rfl ?_
  obtain ⟨b1, h⟩ := h
  refine v_iast (pc := 9) cx dX2_adds_9 (sh.k (ht).2.1) (sh.l (ht).2.1 (ht).2.2.1) b1 ?_
  refine v_wld (fun M2 eM2 => ?_)
  replace h := h M2 eM2
  replace sh : Shp M2 := Shp_PI sh eM2
  refine v_aload_n (pc := 10) cx dX2_adds_10 rfl 0 rfl ?_
  refine v_dup (pc := 11) cx dX2_adds_11 rfl ?_
  refine gq194_X2 (pc := 12) cx dX2_adds_12 (sh.k (ht).1) ?_
  refine v_iconst (pc := 15) cx dX2_adds_15 ic_1 ?_
  refine v_iadd (pc := 16) cx dX2_adds_16 ?_
  refine pq194_X2 (pc := 17) cx dX2_adds_17 (sh.k (ht).1) ?_
  refine v_wld (fun M3 eM3 => ?_)
  replace h := h M3 eM3
  replace sh : Shp M3 := Shp_PI sh eM3
  exact v_vret cx rfl dX2_adds_20 ⟨Nat.le_of_ble_eq_true rfl, Nat.le_of_ble_eq_true rfl⟩ ⟨h, sh⟩
/-! LetterHeaps.readsLine(LLetterHeaps$Line;I)Z -/
def m_X0_readsLine_l6   (x1 : Nat) (x2 : Int32)   (Q : Int32 → WM → Prop) : Nat → Int32 → WM → Prop
  | 0, _, _ => False
  | n + 1, x3, M => ((x2 ≤ x3 → Q ((1 : Int32)) M) ∧ (¬ x2 ≤ x3 → (vp_in x3 200 ∧ (m_X0_in (((wI M 2 x3.toNatClampNeg) - (97 : Int32))) ((26 : Int32)) (fun (a3 : Int32) => ((a3 = 0 → Q ((0 : Int32)) M) ∧ (¬ a3 = 0 → (vp_in x3 200 ∧ (m_X2_adds x1 (((wI M 2 x3.toNatClampNeg) - (97 : Int32))) M (fun (M7 : WM) => (∀ z8 : Int32, z8 = x3 + (1 : Int32) → m_X0_readsLine_l6 x1 x2 Q n z8 M7)))))))))))
theorem w_X0_readsLine_l6 {p : Program} {l : Launch} {e : Env} {s : State} {m : MethodId} {args : Array Value} {below : List Frame} {meth : Method} {c : Code} {D : va_G} {cA : Nat → ClassId} {sz0 : Nat} {H0 : Heap}  {x1 : Nat} {x2 : Int32} {Q : Int32 → WM → Prop}  (cx : Cx p s m args meth c cX0_readsLine 4 RX0 (some .boolean) D cA sz0 H0)   (hx1 : isLn x1)  : ∀ (n : Nat) (x3 : Int32)  (M : WM) (sh : Shp M), m_X0_readsLine_l6 x1 x2 Q n x3 M → V p l e ({ frames := 1, cells := 0, slots := 0, locals := 21 } : Room) s m args below meth c 4 D cA sz0 H0 0 0 (MQ below (QW_i D cA sz0 H0 (fun r M' => Q r M' ∧ Shp M')) args s 0 0 (Aw sz0)) 6 [(0, .ref (sz0 + 0)), (1, .ref (sz0 + x1)), (2, .int x2), (3, .int x3)] [] M := by
  intro n
  induction n with
  | zero => intro x3 M sh h; exact h.elim
  | succ n ih =>
    intro x3 M sh h
    replace h : ((x2 ≤ x3 → Q ((1 : Int32)) M) ∧ (¬ x2 ≤ x3 → (vp_in x3 200 ∧ (m_X0_in (((wI M 2 x3.toNatClampNeg) - (97 : Int32))) ((26 : Int32)) (fun (a3 : Int32) => ((a3 = 0 → Q ((0 : Int32)) M) ∧ (¬ a3 = 0 → (vp_in x3 200 ∧ (m_X2_adds x1 (((wI M 2 x3.toNatClampNeg) - (97 : Int32))) M (fun (M7 : WM) => (∀ z8 : Int32, z8 = x3 + (1 : Int32) → m_X0_readsLine_l6 x1 x2 Q n z8 M7))))))))))) := h
    refine v_iload_n (pc := 6) cx dX0_readsLine_6 rfl 3 rfl ?_
    refine v_iload_n (pc := 7) cx dX0_readsLine_7 rfl 2 rfl ?_
    refine v_icmp_ge (pc := 8) cx dX0_readsLine_8 (tgt := 49) rfl (fun c1 => ?_) (fun c1 => ?_)
    · replace h := h.1 c1
      refine v_iconst (pc := 49) cx dX0_readsLine_49 ic_1 ?_
      exact v_zret cx rfl (Or.inr rfl) dX0_readsLine_50 ⟨Nat.le_of_ble_eq_true rfl, Nat.le_of_ble_eq_true rfl⟩ ⟨h, sh⟩
    · replace h := h.2 c1
      refine v_aload_n (pc := 11) cx dX0_readsLine_11 rfl 0 rfl ?_
      refine gq275_X0 (pc := 12) cx dX0_readsLine_12 (sh.k k_0) (v_some (sh.r r_0_1) ?_)
      refine v_iload_n (pc := 15) cx dX0_readsLine_15 rfl 3 rfl ?_
      obtain ⟨b2, h⟩ := h
      refine v_bald (pc := 16) cx dX0_readsLine_16 (sh.k k_2) (sh.l k_2 l_2) b2 ?_
      refine v_bipush (pc := 17) cx dX0_readsLine_17 bc_97 ?_
      refine v_isub (pc := 19) cx dX0_readsLine_19 ?_
      refine v_bipush (pc := 20) cx dX0_readsLine_20 bc_26 ?_
      refine v_runp_i (pc := 22) cx (kcq390_X0 cx (c_X0_in l D cA sz0 H0 M (((wI M 2 x3.toNatClampNeg) - (97 : Int32))) ((26 : Int32))  _ h) ⟨Nat.le_of_ble_eq_true rfl, Nat.le_of_ble_eq_true rfl⟩ (As := [.int ((wI M 2 x3.toNatClampNeg) - (97 : Int32)), .int (26 : Int32)]) rfl rfl (Nat.le_of_ble_eq_true rfl) dX0_readsLine_22 ⟨Nat.le_of_ble_eq_true rfl, Nat.le_of_ble_eq_true rfl⟩) (fun a3 hq => ?_)
      replace h := hq
      refine v_if_ne (pc := 25) cx dX0_readsLine_25 (tgt := 30) rfl (fun c4 => ?_) (fun c4 => ?_)
      · replace h := h.2 c4
        refine v_aload_n (pc := 30) cx dX0_readsLine_30 rfl 1 rfl ?_
        refine v_aload_n (pc := 31) cx dX0_readsLine_31 rfl 0 rfl ?_
        refine gq275_X0 (pc := 32) cx dX0_readsLine_32 (sh.k k_0) (v_some (sh.r r_0_1) ?_)
        refine v_iload_n (pc := 35) cx dX0_readsLine_35 rfl 3 rfl ?_
        obtain ⟨b5, h⟩ := h
        refine v_bald (pc := 36) cx dX0_readsLine_36 (sh.k k_2) (sh.l k_2 l_2) b5 ?_
        refine v_bipush (pc := 37) cx dX0_readsLine_37 bc_97 ?_
        refine v_isub (pc := 39) cx dX0_readsLine_39 ?_
        refine v_run_v (pc := 40) cx (kcq401_X0 cx (c_X2_adds l D cA sz0 H0 M x1 (((wI M 2 x3.toNatClampNeg) - (97 : Int32))) hx1 _ sh h) ⟨Nat.le_of_ble_eq_true rfl, Nat.le_of_ble_eq_true rfl⟩ (sh.k (hx1).1) (As := [.int ((wI M 2 x3.toNatClampNeg) - (97 : Int32))]) rfl rfl (Nat.le_of_ble_eq_true rfl) dX0_readsLine_40 ⟨Nat.le_of_ble_eq_true rfl, Nat.le_of_ble_eq_true rfl⟩) (fun M7 hq => ?_)
        obtain ⟨h, sh⟩ := hq
        refine nm_x (x3 + (1 : Int32)) (fun z8 ez8 => ?_)
        replace h := h z8 ez8
        refine v_iinc (pc := 43) cx dX0_readsLine_43 (q := 3) rfl ((ii_1 _).trans ez8.symm) (Nat.le_of_ble_eq_true rfl) (lv' := [(3, .int z8), (0, .ref (sz0 + 0)), (1, .ref (sz0 + x1)), (2, .int x2)]) rfl ?_
        refine v_goto (pc := 46) cx dX0_readsLine_46 (tgt := 6) rfl ?_
        refine v_sub (lv' := [(0, .ref (sz0 + 0)), (1, .ref (sz0 + x1)), (2, .int x2), (3, .int z8)]) [1, 2, 3, 0] rfl ?_
        exact ih z8 M7 sh h
      · replace h := h.1 c4
        refine v_iconst (pc := 28) cx dX0_readsLine_28 ic_0 ?_
        exact v_zret cx rfl (Or.inl rfl) dX0_readsLine_29 ⟨Nat.le_of_ble_eq_true rfl, Nat.le_of_ble_eq_true rfl⟩ ⟨h, sh⟩
def m_X0_readsLine (x1 : Nat) (x2 : Int32) (M : WM)  (Q : Int32 → WM → Prop) : Prop := (m_X2_clears x1 M (fun (M2 : WM) => (∃ n0, m_X0_readsLine_l6 x1 x2 Q n0 ((0 : Int32)) M2)))
theorem c_X0_readsLine (l : Launch) (D : va_G) (cA : Nat → ClassId) (sz0 : Nat) (H0 : Heap) (M : WM) (x1 : Nat) (x2 : Int32) (hx1 : isLn x1)  (Q : Int32 → WM → Prop) (sh : Shp M) (h : m_X0_readsLine x1 x2 M  Q) : Met l yX0_readsLine (ws_ yX0_readsLine cX0_readsLine 4 (some .boolean)) ({ frames := 1, cells := 0, slots := 0, locals := 21 } : Room) (PcW D cA sz0 H0 [.ref (sz0 + 0), .ref (sz0 + x1), .int x2] M) (QW_i D cA sz0 H0 (fun r M' => Q r M' ∧ Shp M')) 0 0 (Aw sz0) := by
  replace h : (m_X2_clears x1 M (fun (M2 : WM) => (∃ n0, m_X0_readsLine_l6 x1 x2 Q n0 ((0 : Int32)) M2))) := h
  refine Met.ofV (by decide +kernel) (Nat.le_of_ble_eq_true rfl) ?_
  intro p e s m args below meth c cx hnm
  replace cx : Cx p s m args meth c cX0_readsLine 4 RX0 (some .boolean) D cA sz0 H0 := cx
  refine v_sub (lv' := [(0, .ref (sz0 + 0)), (1, .ref (sz0 + x1)), (2, .int x2)]) [0, 1, 2] rfl ?_
  refine v_aload_n (pc := 0) cx dX0_readsLine_0 rfl 1 rfl ?_
  refine v_run_v (pc := 1) cx (kcq397_X0 cx (c_X2_clears l D cA sz0 H0 M x1 hx1 _ sh h) ⟨Nat.le_of_ble_eq_true rfl, Nat.le_of_ble_eq_true rfl⟩ (sh.k (hx1).1) (As := []) rfl rfl (Nat.le_of_ble_eq_true rfl) dX0_readsLine_1 ⟨Nat.le_of_ble_eq_true rfl, Nat.le_of_ble_eq_true rfl⟩) (fun M2 hq => ?_)
  obtain ⟨h, sh⟩ := hq
  refine v_iconst (pc := 4) cx dX0_readsLine_4 ic_0 ?_
  refine v_istore_n (pc := 5) cx dX0_readsLine_5 rfl (Nat.le_of_ble_eq_true rfl) (lv' := [(3, .int (0 : Int32)), (0, .ref (sz0 + 0)), (1, .ref (sz0 + x1)), (2, .int x2)]) rfl ?_
  refine v_sub (lv' := [(0, .ref (sz0 + 0)), (1, .ref (sz0 + x1)), (2, .int x2), (3, .int (0 : Int32))]) [1, 2, 3, 0] rfl ?_
  obtain ⟨n0, h⟩ := h
  exact w_X0_readsLine_l6 cx hx1 n0 ((0 : Int32)) M2 sh h
/-! LetterHeaps.near(II)I -/
def m_X0_near_j143  (K61 : Int32 → Int32 → Int32 → Int32 → WM → Prop) (x2 : Int32) (x4 : Int32) (x5 : Int32) (x6 : Int32) (x7 : Int32) (y0 : Int32)   (Q : Int32 → WM → Prop) (M : WM) : Prop := (∀ z1 : Int32, z1 = (if x7 < x4 then x7 else x4) → (∀ z2 : Int32, z2 = x6 + (1 : Int32) → K61 y0 z1 x5 z2 M))
theorem w_X0_near_j143 {p : Program} {l : Launch} {e : Env} {s : State} {m : MethodId} {args : Array Value} {below : List Frame} {meth : Method} {c : Code} {D : va_G} {cA : Nat → ClassId} {sz0 : Nat} {H0 : Heap}  {K61 : Int32 → Int32 → Int32 → Int32 → WM → Prop} {x2 : Int32} {x4 : Int32} {x5 : Int32} {x6 : Int32} {x7 : Int32} {y0 : Int32} {Q : Int32 → WM → Prop}  (cx : Cx p s m args meth c cX0_near 8 RX0 (some .int) D cA sz0 H0)  (hK61 : ∀ (x3 : Int32) (x4 : Int32) (x5 : Int32) (x6 : Int32)  (M : WM) (sh : Shp M), K61 x3 x4 x5 x6 M → V p l e ({ frames := 3, cells := 0, slots := 0, locals := 63 } : Room) s m args below meth c 8 D cA sz0 H0 0 0 (MQ below (QW_i D cA sz0 H0 (fun r M' => Q r M' ∧ Shp M')) args s 0 0 (Aw sz0)) 61 [(0, .ref (sz0 + 0)), (2, .int x2), (3, .int x3), (4, .int x4), (5, .int x5), (6, .int x6)] [] M)     (M : WM) (sh : Shp M) (h : m_X0_near_j143 K61 x2 x4 x5 x6 x7 y0 Q M) : V p l e ({ frames := 3, cells := 0, slots := 0, locals := 63 } : Room) s m args below meth c 8 D cA sz0 H0 0 0 (MQ below (QW_i D cA sz0 H0 (fun r M' => Q r M' ∧ Shp M')) args s 0 0 (Aw sz0)) 143 [(0, .ref (sz0 + 0)), (2, .int x2), (4, .int x4), (5, .int x5), (6, .int x6), (7, .int x7)] [.int y0] M := by
  replace h : (∀ z1 : Int32, z1 = (if x7 < x4 then x7 else x4) → (∀ z2 : Int32, z2 = x6 + (1 : Int32) → K61 y0 z1 x5 z2 M)) := h
  refine v_istore_n (pc := 143) cx dX0_near_143 rfl (Nat.le_of_ble_eq_true rfl) (lv' := [(3, .int y0), (0, .ref (sz0 + 0)), (2, .int x2), (4, .int x4), (5, .int x5), (6, .int x6), (7, .int x7)]) rfl ?_
  refine v_iload (pc := 144) cx dX0_near_144 3 rfl ?_
  refine v_iload (pc := 146) cx dX0_near_146 6 rfl ?_
  refine v_mmin (pc := 148) cx q807 q564 q134 q565 dX0_near_148 ⟨Nat.le_of_ble_eq_true rfl, Nat.le_of_ble_eq_true rfl, Nat.le_of_ble_eq_true rfl, Nat.le_of_ble_eq_true rfl⟩ ?_
  refine v_topi (fun z1 ez1 => ?_)
  replace h := h z1 ez1
  refine v_istore (pc := 151) cx dX0_near_151 (Nat.le_of_ble_eq_true rfl) (lv' := [(4, .int z1), (3, .int y0), (0, .ref (sz0 + 0)), (2, .int x2), (5, .int x5), (6, .int x6), (7, .int x7)]) rfl ?_
  refine nm_x (x6 + (1 : Int32)) (fun z2 ez2 => ?_)
  replace h := h z2 ez2
  refine v_iinc (pc := 153) cx dX0_near_153 (q := 5) rfl ((ii_1 _).trans ez2.symm) (Nat.le_of_ble_eq_true rfl) (lv' := [(6, .int z2), (4, .int z1), (3, .int y0), (0, .ref (sz0 + 0)), (2, .int x2), (5, .int x5), (7, .int x7)]) rfl ?_
  refine v_goto (pc := 156) cx dX0_near_156 (tgt := 61) rfl ?_
  refine v_sub (lv' := [(0, .ref (sz0 + 0)), (2, .int x2), (3, .int y0), (4, .int z1), (5, .int x5), (6, .int z2)]) [3, 4, 2, 1, 5, 0] rfl ?_
  exact hK61 y0 z1 x5 z2 M sh h
def m_X0_near_j128  (K61 : Int32 → Int32 → Int32 → Int32 → WM → Prop) (x2 : Int32) (x3 : Int32) (x4 : Int32) (x6 : Int32) (x7 : Int32) (y0 : Int32)   (Q : Int32 → WM → Prop) (M : WM) : Prop := ((x4 ≤ x7 → m_X0_near_j143 K61 x2 x4 y0 x6 x7 x3 Q M) ∧ (¬ x4 ≤ x7 → m_X0_near_j143 K61 x2 x4 y0 x6 x7 x6 Q M))
theorem w_X0_near_j128 {p : Program} {l : Launch} {e : Env} {s : State} {m : MethodId} {args : Array Value} {below : List Frame} {meth : Method} {c : Code} {D : va_G} {cA : Nat → ClassId} {sz0 : Nat} {H0 : Heap}  {K61 : Int32 → Int32 → Int32 → Int32 → WM → Prop} {x2 : Int32} {x3 : Int32} {x4 : Int32} {x6 : Int32} {x7 : Int32} {y0 : Int32} {Q : Int32 → WM → Prop}  (cx : Cx p s m args meth c cX0_near 8 RX0 (some .int) D cA sz0 H0)  (hK61 : ∀ (x3 : Int32) (x4 : Int32) (x5 : Int32) (x6 : Int32)  (M : WM) (sh : Shp M), K61 x3 x4 x5 x6 M → V p l e ({ frames := 3, cells := 0, slots := 0, locals := 63 } : Room) s m args below meth c 8 D cA sz0 H0 0 0 (MQ below (QW_i D cA sz0 H0 (fun r M' => Q r M' ∧ Shp M')) args s 0 0 (Aw sz0)) 61 [(0, .ref (sz0 + 0)), (2, .int x2), (3, .int x3), (4, .int x4), (5, .int x5), (6, .int x6)] [] M)     (M : WM) (sh : Shp M) (h : m_X0_near_j128 K61 x2 x3 x4 x6 x7 y0 Q M) : V p l e ({ frames := 3, cells := 0, slots := 0, locals := 63 } : Room) s m args below meth c 8 D cA sz0 H0 0 0 (MQ below (QW_i D cA sz0 H0 (fun r M' => Q r M' ∧ Shp M')) args s 0 0 (Aw sz0)) 128 [(0, .ref (sz0 + 0)), (2, .int x2), (3, .int x3), (4, .int x4), (6, .int x6), (7, .int x7)] [.int y0] M := by
  replace h : ((x4 ≤ x7 → m_X0_near_j143 K61 x2 x4 y0 x6 x7 x3 Q M) ∧ (¬ x4 ≤ x7 → m_X0_near_j143 K61 x2 x4 y0 x6 x7 x6 Q M)) := h
  refine v_istore (pc := 128) cx dX0_near_128 (Nat.le_of_ble_eq_true rfl) (lv' := [(5, .int y0), (0, .ref (sz0 + 0)), (2, .int x2), (3, .int x3), (4, .int x4), (6, .int x6), (7, .int x7)]) rfl ?_
  refine v_iload (pc := 130) cx dX0_near_130 6 rfl ?_
  refine v_iload (pc := 132) cx dX0_near_132 4 rfl ?_
  refine v_icmp_ge (pc := 134) cx dX0_near_134 (tgt := 142) rfl (fun c1 => ?_) (fun c1 => ?_)
  · replace h := h.1 c1
    refine v_iload_n (pc := 142) cx dX0_near_142 rfl 3 rfl ?_
    refine v_sub (lv' := [(0, .ref (sz0 + 0)), (2, .int x2), (4, .int x4), (5, .int y0), (6, .int x6), (7, .int x7)]) [1, 2, 4, 0, 5, 6] rfl ?_
    exact w_X0_near_j143 cx hK61 M sh h
  · replace h := h.2 c1
    refine v_iload (pc := 137) cx dX0_near_137 5 rfl ?_
    refine v_goto (pc := 139) cx dX0_near_139 (tgt := 143) rfl ?_
    refine v_sub (lv' := [(0, .ref (sz0 + 0)), (2, .int x2), (4, .int x4), (5, .int y0), (6, .int x6), (7, .int x7)]) [1, 2, 4, 0, 5, 6] rfl ?_
    exact w_X0_near_j143 cx hK61 M sh h
def m_X0_near_j127  (K61 : Int32 → Int32 → Int32 → Int32 → WM → Prop) (x2 : Int32) (x3 : Int32) (x4 : Int32) (x6 : Int32) (x7 : Int32) (y0 : Int32) (y1 : Int32)   (Q : Int32 → WM → Prop) (M : WM) : Prop := m_X0_near_j128 K61 x2 x3 x4 x6 x7 ((y1 + y0)) Q M
theorem w_X0_near_j127 {p : Program} {l : Launch} {e : Env} {s : State} {m : MethodId} {args : Array Value} {below : List Frame} {meth : Method} {c : Code} {D : va_G} {cA : Nat → ClassId} {sz0 : Nat} {H0 : Heap}  {K61 : Int32 → Int32 → Int32 → Int32 → WM → Prop} {x2 : Int32} {x3 : Int32} {x4 : Int32} {x6 : Int32} {x7 : Int32} {y0 : Int32} {y1 : Int32} {Q : Int32 → WM → Prop}  (cx : Cx p s m args meth c cX0_near 8 RX0 (some .int) D cA sz0 H0)  (hK61 : ∀ (x3 : Int32) (x4 : Int32) (x5 : Int32) (x6 : Int32)  (M : WM) (sh : Shp M), K61 x3 x4 x5 x6 M → V p l e ({ frames := 3, cells := 0, slots := 0, locals := 63 } : Room) s m args below meth c 8 D cA sz0 H0 0 0 (MQ below (QW_i D cA sz0 H0 (fun r M' => Q r M' ∧ Shp M')) args s 0 0 (Aw sz0)) 61 [(0, .ref (sz0 + 0)), (2, .int x2), (3, .int x3), (4, .int x4), (5, .int x5), (6, .int x6)] [] M)     (M : WM) (sh : Shp M) (h : m_X0_near_j127 K61 x2 x3 x4 x6 x7 y0 y1 Q M) : V p l e ({ frames := 3, cells := 0, slots := 0, locals := 63 } : Room) s m args below meth c 8 D cA sz0 H0 0 0 (MQ below (QW_i D cA sz0 H0 (fun r M' => Q r M' ∧ Shp M')) args s 0 0 (Aw sz0)) 127 [(0, .ref (sz0 + 0)), (2, .int x2), (3, .int x3), (4, .int x4), (6, .int x6), (7, .int x7)] [.int y0, .int y1] M := by
  replace h : m_X0_near_j128 K61 x2 x3 x4 x6 x7 ((y1 + y0)) Q M := h
  refine v_iadd (pc := 127) cx dX0_near_127 ?_
  refine v_sub (lv' := [(0, .ref (sz0 + 0)), (2, .int x2), (3, .int x3), (4, .int x4), (6, .int x6), (7, .int x7)]) [0, 1, 2, 3, 4, 5] rfl ?_
  exact w_X0_near_j128 cx hK61 M sh h
def m_X0_near_l61   (x2 : Int32)   (Q : Int32 → WM → Prop) : Nat → Int32 → Int32 → Int32 → Int32 → WM → Prop
  | 0, _, _, _, _, _ => False
  | n + 1, x3, x4, x5, x6, M => (((wI M 0 3) ≤ x6 → ((x3 = ((-2) : Int32) → Q (((-2) : Int32)) M) ∧ (¬ x3 = ((-2) : Int32) → ((x2 = 0 → Q x4 M) ∧ (¬ x2 = 0 → ((x2 = (1 : Int32) → Q x3 M) ∧ (¬ x2 = (1 : Int32) → Q x5 M))))))) ∧ (¬ (wI M 0 3) ≤ x6 → (m_X0_isUsed x6 M (fun (a5 : Int32) => ((a5 = 0 → (∀ z12 : Int32, z12 = x6 + (1 : Int32) → m_X0_near_l61 x2 Q n x3 x4 x5 z12 M)) ∧ (¬ a5 = 0 → (vp_in x6 40 ∧ (m_X0_farOf 7 ((5325 + 3 * x6.toNatClampNeg)) M (fun (a8 : Int32) (M9 : WM) => ((x4 ≤ a8 → ((a8 = x4 → m_X0_near_j127 (fun x3' x4' x5' x6' M' => m_X0_near_l61 x2 Q n x3' x4' x5' x6' M') x2 x3 x4 x6 a8 ((1 : Int32)) x5 Q M9) ∧ (¬ a8 = x4 → m_X0_near_j127 (fun x3' x4' x5' x6' M' => m_X0_near_l61 x2 Q n x3' x4' x5' x6' M') x2 x3 x4 x6 a8 ((0 : Int32)) x5 Q M9))) ∧ (¬ x4 ≤ a8 → m_X0_near_j128 (fun x3' x4' x5' x6' M' => m_X0_near_l61 x2 Q n x3' x4' x5' x6' M') x2 x3 x4 x6 a8 ((1 : Int32)) Q M9)))))))))))
theorem w_X0_near_l61 {p : Program} {l : Launch} {e : Env} {s : State} {m : MethodId} {args : Array Value} {below : List Frame} {meth : Method} {c : Code} {D : va_G} {cA : Nat → ClassId} {sz0 : Nat} {H0 : Heap}  {x2 : Int32} {Q : Int32 → WM → Prop}  (cx : Cx p s m args meth c cX0_near 8 RX0 (some .int) D cA sz0 H0)     : ∀ (n : Nat) (x3 : Int32) (x4 : Int32) (x5 : Int32) (x6 : Int32)  (M : WM) (sh : Shp M), m_X0_near_l61 x2 Q n x3 x4 x5 x6 M → V p l e ({ frames := 3, cells := 0, slots := 0, locals := 63 } : Room) s m args below meth c 8 D cA sz0 H0 0 0 (MQ below (QW_i D cA sz0 H0 (fun r M' => Q r M' ∧ Shp M')) args s 0 0 (Aw sz0)) 61 [(0, .ref (sz0 + 0)), (2, .int x2), (3, .int x3), (4, .int x4), (5, .int x5), (6, .int x6)] [] M := by
  intro n
  induction n with
  | zero => intro x3 x4 x5 x6 M sh h; exact h.elim
  | succ n ih =>
    intro x3 x4 x5 x6 M sh h
    replace h : (((wI M 0 3) ≤ x6 → ((x3 = ((-2) : Int32) → Q (((-2) : Int32)) M) ∧ (¬ x3 = ((-2) : Int32) → ((x2 = 0 → Q x4 M) ∧ (¬ x2 = 0 → ((x2 = (1 : Int32) → Q x3 M) ∧ (¬ x2 = (1 : Int32) → Q x5 M))))))) ∧ (¬ (wI M 0 3) ≤ x6 → (m_X0_isUsed x6 M (fun (a5 : Int32) => ((a5 = 0 → (∀ z12 : Int32, z12 = x6 + (1 : Int32) → m_X0_near_l61 x2 Q n x3 x4 x5 z12 M)) ∧ (¬ a5 = 0 → (vp_in x6 40 ∧ (m_X0_farOf 7 ((5325 + 3 * x6.toNatClampNeg)) M (fun (a8 : Int32) (M9 : WM) => ((x4 ≤ a8 → ((a8 = x4 → m_X0_near_j127 (fun x3' x4' x5' x6' M' => m_X0_near_l61 x2 Q n x3' x4' x5' x6' M') x2 x3 x4 x6 a8 ((1 : Int32)) x5 Q M9) ∧ (¬ a8 = x4 → m_X0_near_j127 (fun x3' x4' x5' x6' M' => m_X0_near_l61 x2 Q n x3' x4' x5' x6' M') x2 x3 x4 x6 a8 ((0 : Int32)) x5 Q M9))) ∧ (¬ x4 ≤ a8 → m_X0_near_j128 (fun x3' x4' x5' x6' M' => m_X0_near_l61 x2 Q n x3' x4' x5' x6' M') x2 x3 x4 x6 a8 ((1 : Int32)) Q M9))))))))))) := h
    refine v_iload (pc := 61) cx dX0_near_61 5 rfl ?_
    refine v_aload_n (pc := 63) cx dX0_near_63 rfl 0 rfl ?_
    refine gq278_X0 (pc := 64) cx dX0_near_64 (sh.k k_0) ?_
    refine v_icmp_ge (pc := 67) cx dX0_near_67 (tgt := 159) rfl (fun c1 => ?_) (fun c1 => ?_)
    · replace h := h.1 c1
      refine v_iload_n (pc := 159) cx dX0_near_159 rfl 2 rfl ?_
      refine v_bipush (pc := 160) cx dX0_near_160 bc_m2 ?_
      refine v_icmp_ne (pc := 162) cx dX0_near_162 (tgt := 170) rfl (fun c2 => ?_) (fun c2 => ?_)
      · replace h := h.2 c2
        refine v_iload_n (pc := 170) cx dX0_near_170 rfl 1 rfl ?_
        refine v_if_ne (pc := 171) cx dX0_near_171 (tgt := 179) rfl (fun c3 => ?_) (fun c3 => ?_)
        · replace h := h.2 c3
          refine v_iload_n (pc := 179) cx dX0_near_179 rfl 1 rfl ?_
          refine v_iconst (pc := 180) cx dX0_near_180 ic_1 ?_
          refine v_icmp_ne (pc := 181) cx dX0_near_181 (tgt := 188) rfl (fun c4 => ?_) (fun c4 => ?_)
          · replace h := h.2 c4
            refine v_iload (pc := 188) cx dX0_near_188 4 rfl ?_
            exact v_iret cx rfl dX0_near_190 ⟨Nat.le_of_ble_eq_true rfl, Nat.le_of_ble_eq_true rfl⟩ ⟨h, sh⟩
          · replace h := h.1 c4
            refine v_iload_n (pc := 184) cx dX0_near_184 rfl 2 rfl ?_
            refine v_goto (pc := 185) cx dX0_near_185 (tgt := 190) rfl ?_
            exact v_iret cx rfl dX0_near_190 ⟨Nat.le_of_ble_eq_true rfl, Nat.le_of_ble_eq_true rfl⟩ ⟨h, sh⟩
        · replace h := h.1 c3
          refine v_iload (pc := 174) cx dX0_near_174 3 rfl ?_
          refine v_goto (pc := 176) cx dX0_near_176 (tgt := 190) rfl ?_
          exact v_iret cx rfl dX0_near_190 ⟨Nat.le_of_ble_eq_true rfl, Nat.le_of_ble_eq_true rfl⟩ ⟨h, sh⟩
      · replace h := h.1 c2
        refine v_bipush (pc := 165) cx dX0_near_165 bc_m2 ?_
        refine v_goto (pc := 167) cx dX0_near_167 (tgt := 190) rfl ?_
        exact v_iret cx rfl dX0_near_190 ⟨Nat.le_of_ble_eq_true rfl, Nat.le_of_ble_eq_true rfl⟩ ⟨h, sh⟩
    · replace h := h.2 c1
      refine v_aload_n (pc := 70) cx dX0_near_70 rfl 0 rfl ?_
      refine v_iload (pc := 71) cx dX0_near_71 5 rfl ?_
      refine v_runp_i (pc := 73) cx (kcq718_X0 cx (c_X0_isUsed l D cA sz0 H0 M x6  _ sh h) ⟨Nat.le_of_ble_eq_true rfl, Nat.le_of_ble_eq_true rfl⟩ (sh.k k_0) (As := [.int x6]) rfl rfl (Nat.le_of_ble_eq_true rfl) dX0_near_73 ⟨Nat.le_of_ble_eq_true rfl, Nat.le_of_ble_eq_true rfl⟩) (fun a5 hq => ?_)
      replace h := hq
      refine v_if_ne (pc := 76) cx dX0_near_76 (tgt := 82) rfl (fun c6 => ?_) (fun c6 => ?_)
      · replace h := h.2 c6
        refine v_aload_n (pc := 82) cx dX0_near_82 rfl 0 rfl ?_
        refine v_aload_n (pc := 83) cx dX0_near_83 rfl 0 rfl ?_
        refine gq284_X0 (pc := 84) cx dX0_near_84 (sh.k k_0) (v_some (sh.r r_0_9) ?_)
        refine v_aload_n (pc := 87) cx dX0_near_87 rfl 0 rfl ?_
        refine gq273_X0 (pc := 88) cx dX0_near_88 (sh.k k_0) (v_some (sh.r r_0_0) ?_)
        refine v_iload (pc := 91) cx dX0_near_91 5 rfl ?_
        obtain ⟨b7, h⟩ := h
        refine v_aald107 (pc := 93) cx dX0_near_93 (sh.k k_1) (sh.l k_1 l_1) b7 (v_some (sh.r (f_1 (lt_in b7))) ?_)
        refine gq257_X5 (pc := 94) cx dX0_near_94 (sh.k (fk_1 (lt_in b7))) (v_some (sh.r (fr_1 (lt_in b7))) ?_)
        refine v_run_i (pc := 97) cx (kcq940_X0 cx (c_X0_farOf l D cA sz0 H0 M 7 ((5325 + 3 * x6.toNatClampNeg)) isLn_7 (isLn_w (lt_in b7)) _ sh h) ⟨Nat.le_of_ble_eq_true rfl, Nat.le_of_ble_eq_true rfl⟩ (sh.k k_0) (As := [.ref (sz0 + 7), .ref (sz0 + (5325 + 3 * x6.toNatClampNeg))]) rfl rfl (Nat.le_of_ble_eq_true rfl) dX0_near_97 ⟨Nat.le_of_ble_eq_true rfl, Nat.le_of_ble_eq_true rfl⟩) (fun a8 M9 hq => ?_)
        obtain ⟨h, sh⟩ := hq
        refine v_istore (pc := 100) cx dX0_near_100 (Nat.le_of_ble_eq_true rfl) (lv' := [(7, .int a8), (0, .ref (sz0 + 0)), (2, .int x2), (3, .int x3), (4, .int x4), (5, .int x5), (6, .int x6)]) rfl ?_
        refine v_iload (pc := 102) cx dX0_near_102 0 rfl ?_
        refine v_iload (pc := 104) cx dX0_near_104 4 rfl ?_
        refine v_icmp_ge (pc := 106) cx dX0_near_106 (tgt := 113) rfl (fun c10 => ?_) (fun c10 => ?_)
        · replace h := h.1 c10
          refine v_iload (pc := 113) cx dX0_near_113 5 rfl ?_
          refine v_iload (pc := 115) cx dX0_near_115 0 rfl ?_
          refine v_iload (pc := 117) cx dX0_near_117 4 rfl ?_
          refine v_icmp_ne (pc := 119) cx dX0_near_119 (tgt := 126) rfl (fun c11 => ?_) (fun c11 => ?_)
          · replace h := h.2 c11
            refine v_iconst (pc := 126) cx dX0_near_126 ic_0 ?_
            refine v_sub (lv' := [(0, .ref (sz0 + 0)), (2, .int x2), (3, .int x3), (4, .int x4), (6, .int x6), (7, .int a8)]) [1, 2, 3, 4, 6, 0] rfl ?_
            exact w_X0_near_j127 cx ih M9 sh h
          · replace h := h.1 c11
            refine v_iconst (pc := 122) cx dX0_near_122 ic_1 ?_
            refine v_goto (pc := 123) cx dX0_near_123 (tgt := 127) rfl ?_
            refine v_sub (lv' := [(0, .ref (sz0 + 0)), (2, .int x2), (3, .int x3), (4, .int x4), (6, .int x6), (7, .int a8)]) [1, 2, 3, 4, 6, 0] rfl ?_
            exact w_X0_near_j127 cx ih M9 sh h
        · replace h := h.2 c10
          refine v_iconst (pc := 109) cx dX0_near_109 ic_1 ?_
          refine v_goto (pc := 110) cx dX0_near_110 (tgt := 128) rfl ?_
          refine v_sub (lv' := [(0, .ref (sz0 + 0)), (2, .int x2), (3, .int x3), (4, .int x4), (6, .int x6), (7, .int a8)]) [1, 2, 3, 4, 6, 0] rfl ?_
          exact w_X0_near_j128 cx ih M9 sh h
      · replace h := h.1 c6
        refine v_goto (pc := 79) cx dX0_near_79 (tgt := 153) rfl ?_
        refine nm_x (x6 + (1 : Int32)) (fun z12 ez12 => ?_)
        replace h := h z12 ez12
        refine v_iinc (pc := 153) cx dX0_near_153 (q := 5) rfl ((ii_1 _).trans ez12.symm) (Nat.le_of_ble_eq_true rfl) (lv' := [(6, .int z12), (0, .ref (sz0 + 0)), (2, .int x2), (3, .int x3), (4, .int x4), (5, .int x5)]) rfl ?_
        refine v_goto (pc := 156) cx dX0_near_156 (tgt := 61) rfl ?_
        refine v_sub (lv' := [(0, .ref (sz0 + 0)), (2, .int x2), (3, .int x3), (4, .int x4), (5, .int x5), (6, .int z12)]) [1, 2, 3, 4, 5, 0] rfl ?_
        exact ih x3 x4 x5 z12 M sh h
def m_X0_near (x1 : Int32) (x2 : Int32) (M : WM)  (Q : Int32 → WM → Prop) : Prop := (m_X0_within x1 ((1 : Int32)) ((12 : Int32)) (fun (a1 : Int32) => ((a1 = 0 → Q (((-1) : Int32)) M) ∧ (¬ a1 = 0 → (m_X0_in x2 ((3 : Int32)) (fun (a3 : Int32) => ((a3 = 0 → Q (((-1) : Int32)) M) ∧ (¬ a3 = 0 → ((x1 ≤ (wI M 0 5) → (∀ M6 : WM, M6 = wPI M 0 5 ((0 : Int32)) → (m_X0_readsLine 7 x1 M6 (fun (a7 : Int32) (M8 : WM) => ((a7 = 0 → Q (((-2) : Int32)) M8) ∧ (¬ a7 = 0 → (∃ n0, m_X0_near_l61 x2 Q n0 (((-2) : Int32)) ((268435456 : Int32)) ((0 : Int32)) ((0 : Int32)) M8))))))) ∧ (¬ x1 ≤ (wI M 0 5) → Q (((-1) : Int32)) M))))))))))
theorem c_X0_near (l : Launch) (D : va_G) (cA : Nat → ClassId) (sz0 : Nat) (H0 : Heap) (M : WM) (x1 : Int32) (x2 : Int32)   (Q : Int32 → WM → Prop) (sh : Shp M) (h : m_X0_near x1 x2 M  Q) : Met l yX0_near (ws_ yX0_near cX0_near 8 (some .int)) ({ frames := 3, cells := 0, slots := 0, locals := 63 } : Room) (PcW D cA sz0 H0 [.ref (sz0 + 0), .int x1, .int x2] M) (QW_i D cA sz0 H0 (fun r M' => Q r M' ∧ Shp M')) 0 0 (Aw sz0) := by
  replace h : (m_X0_within x1 ((1 : Int32)) ((12 : Int32)) (fun (a1 : Int32) => ((a1 = 0 → Q (((-1) : Int32)) M) ∧ (¬ a1 = 0 → (m_X0_in x2 ((3 : Int32)) (fun (a3 : Int32) => ((a3 = 0 → Q (((-1) : Int32)) M) ∧ (¬ a3 = 0 → ((x1 ≤ (wI M 0 5) → (∀ M6 : WM, M6 = wPI M 0 5 ((0 : Int32)) → (m_X0_readsLine 7 x1 M6 (fun (a7 : Int32) (M8 : WM) => ((a7 = 0 → Q (((-2) : Int32)) M8) ∧ (¬ a7 = 0 → (∃ n0, m_X0_near_l61 x2 Q n0 (((-2) : Int32)) ((268435456 : Int32)) ((0 : Int32)) ((0 : Int32)) M8))))))) ∧ (¬ x1 ≤ (wI M 0 5) → Q (((-1) : Int32)) M)))))))))) := h
  refine Met.ofV (by decide +kernel) (Nat.le_of_ble_eq_true rfl) ?_
  intro p e s m args below meth c cx hnm
  replace cx : Cx p s m args meth c cX0_near 8 RX0 (some .int) D cA sz0 H0 := cx
  refine v_sub (lv' := [(0, .ref (sz0 + 0)), (1, .int x1), (2, .int x2)]) [0, 1, 2] rfl ?_
  refine v_iload_n (pc := 0) cx dX0_near_0 rfl 1 rfl ?_
  refine v_iconst (pc := 1) cx dX0_near_1 ic_1 ?_
  refine v_bipush (pc := 2) cx dX0_near_2 bc_12 ?_
  refine v_runp_i (pc := 4) cx (kcq387_X0 cx (c_X0_within l D cA sz0 H0 M x1 ((1 : Int32)) ((12 : Int32))  _ h) ⟨Nat.le_of_ble_eq_true rfl, Nat.le_of_ble_eq_true rfl⟩ (As := [.int x1, .int (1 : Int32), .int (12 : Int32)]) rfl rfl (Nat.le_of_ble_eq_true rfl) dX0_near_4 ⟨Nat.le_of_ble_eq_true rfl, Nat.le_of_ble_eq_true rfl⟩) (fun a1 hq => ?_)
  replace h := hq
  refine v_if_eq (pc := 7) cx dX0_near_7 (tgt := 26) rfl (fun c2 => ?_) (fun c2 => ?_)
  · replace h := h.1 c2
    refine v_iconst (pc := 26) cx dX0_near_26 ic_m1 ?_
    exact v_iret cx rfl dX0_near_27 ⟨Nat.le_of_ble_eq_true rfl, Nat.le_of_ble_eq_true rfl⟩ ⟨h, sh⟩
  · replace h := h.2 c2
    refine v_iload_n (pc := 10) cx dX0_near_10 rfl 2 rfl ?_
    refine v_iconst (pc := 11) cx dX0_near_11 ic_3 ?_
    refine v_runp_i (pc := 12) cx (kcq390_X0 cx (c_X0_in l D cA sz0 H0 M x2 ((3 : Int32))  _ h) ⟨Nat.le_of_ble_eq_true rfl, Nat.le_of_ble_eq_true rfl⟩ (As := [.int x2, .int (3 : Int32)]) rfl rfl (Nat.le_of_ble_eq_true rfl) dX0_near_12 ⟨Nat.le_of_ble_eq_true rfl, Nat.le_of_ble_eq_true rfl⟩) (fun a3 hq => ?_)
    replace h := hq
    refine v_if_eq (pc := 15) cx dX0_near_15 (tgt := 26) rfl (fun c4 => ?_) (fun c4 => ?_)
    · replace h := h.1 c4
      refine v_iconst (pc := 26) cx dX0_near_26 ic_m1 ?_
      exact v_iret cx rfl dX0_near_27 ⟨Nat.le_of_ble_eq_true rfl, Nat.le_of_ble_eq_true rfl⟩ ⟨h, sh⟩
    · replace h := h.2 c4
      refine v_iload_n (pc := 18) cx dX0_near_18 rfl 1 rfl ?_
      refine v_aload_n (pc := 19) cx dX0_near_19 rfl 0 rfl ?_
      refine gq280_X0 (pc := 20) cx dX0_near_20 (sh.k k_0) ?_
      refine v_icmp_le (pc := 23) cx dX0_near_23 (tgt := 28) rfl (fun c5 => ?_) (fun c5 => ?_)
      · replace h := h.1 c5
        refine v_aload_n (pc := 28) cx dX0_near_28 rfl 0 rfl ?_
        refine v_iconst (pc := 29) cx dX0_near_29 ic_0 ?_
        refine pq280_X0 (pc := 30) cx dX0_near_30 (sh.k k_0) ?_
        refine v_wld (fun M6 eM6 => ?_)
        replace h := h M6 eM6
        replace sh : Shp M6 := Shp_PI sh eM6
        refine v_aload_n (pc := 33) cx dX0_near_33 rfl 0 rfl ?_
        refine v_aload_n (pc := 34) cx dX0_near_34 rfl 0 rfl ?_
        refine gq284_X0 (pc := 35) cx dX0_near_35 (sh.k k_0) (v_some (sh.r r_0_9) ?_)
        refine v_iload_n (pc := 38) cx dX0_near_38 rfl 1 rfl ?_
        refine v_run_i (pc := 39) cx (kcq393_X0 cx (c_X0_readsLine l D cA sz0 H0 M6 7 x1 isLn_7 _ sh h) ⟨Nat.le_of_ble_eq_true rfl, Nat.le_of_ble_eq_true rfl⟩ (sh.k k_0) (As := [.ref (sz0 + 7), .int x1]) rfl rfl (Nat.le_of_ble_eq_true rfl) dX0_near_39 ⟨Nat.le_of_ble_eq_true rfl, Nat.le_of_ble_eq_true rfl⟩) (fun a7 M8 hq => ?_)
        obtain ⟨h, sh⟩ := hq
        refine v_if_ne (pc := 42) cx dX0_near_42 (tgt := 48) rfl (fun c9 => ?_) (fun c9 => ?_)
        · replace h := h.2 c9
          refine v_bipush (pc := 48) cx dX0_near_48 bc_m2 ?_
          refine v_istore_n (pc := 50) cx dX0_near_50 rfl (Nat.le_of_ble_eq_true rfl) (lv' := [(3, .int ((-2) : Int32)), (0, .ref (sz0 + 0)), (1, .int x1), (2, .int x2)]) rfl ?_
          refine v_ldc (pc := 51) cx dX0_near_51 q717 ?_
          refine v_istore (pc := 53) cx dX0_near_53 (Nat.le_of_ble_eq_true rfl) (lv' := [(4, .int (268435456 : Int32)), (3, .int ((-2) : Int32)), (0, .ref (sz0 + 0)), (1, .int x1), (2, .int x2)]) rfl ?_
          refine v_iconst (pc := 55) cx dX0_near_55 ic_0 ?_
          refine v_istore (pc := 56) cx dX0_near_56 (Nat.le_of_ble_eq_true rfl) (lv' := [(5, .int (0 : Int32)), (4, .int (268435456 : Int32)), (3, .int ((-2) : Int32)), (0, .ref (sz0 + 0)), (1, .int x1), (2, .int x2)]) rfl ?_
          refine v_iconst (pc := 58) cx dX0_near_58 ic_0 ?_
          refine v_istore (pc := 59) cx dX0_near_59 (Nat.le_of_ble_eq_true rfl) (lv' := [(6, .int (0 : Int32)), (5, .int (0 : Int32)), (4, .int (268435456 : Int32)), (3, .int ((-2) : Int32)), (0, .ref (sz0 + 0)), (1, .int x1), (2, .int x2)]) rfl ?_
          refine v_sub (lv' := [(0, .ref (sz0 + 0)), (2, .int x2), (3, .int ((-2) : Int32)), (4, .int (268435456 : Int32)), (5, .int (0 : Int32)), (6, .int (0 : Int32))]) [4, 6, 3, 2, 1, 0] rfl ?_
          obtain ⟨n0, h⟩ := h
          exact w_X0_near_l61 cx n0 (((-2) : Int32)) ((268435456 : Int32)) ((0 : Int32)) ((0 : Int32)) M8 sh h
        · replace h := h.1 c9
          refine v_bipush (pc := 45) cx dX0_near_45 bc_m2 ?_
          exact v_iret cx rfl dX0_near_47 ⟨Nat.le_of_ble_eq_true rfl, Nat.le_of_ble_eq_true rfl⟩ ⟨h, sh⟩
      · replace h := h.2 c5
        refine v_iconst (pc := 26) cx dX0_near_26 ic_m1 ?_
        exact v_iret cx rfl dX0_near_27 ⟨Nat.le_of_ble_eq_true rfl, Nat.le_of_ble_eq_true rfl⟩ ⟨h, sh⟩
/-! LetterHeaps$Line.isLike(LLetterHeaps$Line;)Z -/
def m_X2_isLike_l15   (x0 : Nat) (x1 : Nat) (M : WM)  (Q : Int32 → Prop) : Nat → Int32 → Prop
  | 0, _ => False
  | n + 1, x2 => (((wI M x0 1) ≤ x2 → Q ((1 : Int32))) ∧ (¬ (wI M x0 1) ≤ x2 → (vp_in x2 13 ∧ (vp_in x2 13 ∧ (((wI M ((x0 + 1)) x2.toNatClampNeg) = (wI M ((x1 + 1)) x2.toNatClampNeg) → (∀ z5 : Int32, z5 = x2 + (1 : Int32) → m_X2_isLike_l15 x0 x1 M Q n z5)) ∧ (¬ (wI M ((x0 + 1)) x2.toNatClampNeg) = (wI M ((x1 + 1)) x2.toNatClampNeg) → Q ((0 : Int32))))))))
theorem w_X2_isLike_l15 {p : Program} {l : Launch} {e : Env} {s : State} {m : MethodId} {args : Array Value} {below : List Frame} {meth : Method} {c : Code} {D : va_G} {cA : Nat → ClassId} {sz0 : Nat} {H0 : Heap}  {x0 : Nat} {x1 : Nat} {M : WM} {Q : Int32 → Prop}  (cx : Cx p s m args meth c cX2_isLike 3 RX2 (some .boolean) D cA sz0 H0)   (hx0 : isLn x0) (hx1 : isLn x1) (sh : Shp M) : ∀ (n : Nat) (x2 : Int32) , m_X2_isLike_l15 x0 x1 M Q n x2 → V p l e ({ frames := 0, cells := 0, slots := 0, locals := 0 } : Room) s m args below meth c 3 D cA sz0 H0 0 0 (MQ below (QW_i D cA sz0 H0 (fun r M' => M' = M ∧ Q r)) args s 0 0 (Aw sz0)) 15 [(0, .ref (sz0 + x0)), (1, .ref (sz0 + x1)), (2, .int x2)] [] M := by
  intro n
  induction n with
  | zero => intro x2 h; exact h.elim
  | succ n ih =>
    intro x2 h
    replace h : (((wI M x0 1) ≤ x2 → Q ((1 : Int32))) ∧ (¬ (wI M x0 1) ≤ x2 → (vp_in x2 13 ∧ (vp_in x2 13 ∧ (((wI M ((x0 + 1)) x2.toNatClampNeg) = (wI M ((x1 + 1)) x2.toNatClampNeg) → (∀ z5 : Int32, z5 = x2 + (1 : Int32) → m_X2_isLike_l15 x0 x1 M Q n z5)) ∧ (¬ (wI M ((x0 + 1)) x2.toNatClampNeg) = (wI M ((x1 + 1)) x2.toNatClampNeg) → Q ((0 : Int32)))))))) := h
    refine v_iload_n (pc := 15) cx dX2_isLike_15 rfl 2 rfl ?_
    refine v_aload_n (pc := 16) cx dX2_isLike_16 rfl 0 rfl ?_
    refine gq194_X2 (pc := 17) cx dX2_isLike_17 (sh.k (hx0).1) ?_
    refine v_icmp_ge (pc := 20) cx dX2_isLike_20 (tgt := 46) rfl (fun c1 => ?_) (fun c1 => ?_)
    · replace h := h.1 c1
      refine v_iconst (pc := 46) cx dX2_isLike_46 ic_1 ?_
      exact v_zret cx rfl (Or.inr rfl) dX2_isLike_47 ⟨Nat.le_of_ble_eq_true rfl, Nat.le_of_ble_eq_true rfl⟩ ⟨rfl, h⟩
    · replace h := h.2 c1
      refine v_aload_n (pc := 23) cx dX2_isLike_23 rfl 0 rfl ?_
      refine gq191_X2 (pc := 24) cx dX2_isLike_24 (sh.k (hx0).1) (v_some (sh.r (hx0).2.2.2) ?_)
      refine v_iload_n (pc := 27) cx dX2_isLike_27 rfl 2 rfl ?_
      obtain ⟨b2, h⟩ := h
      refine v_iald (pc := 28) cx dX2_isLike_28 (sh.k (hx0).2.1) (sh.l (hx0).2.1 (hx0).2.2.1) b2 ?_
      refine v_aload_n (pc := 29) cx dX2_isLike_29 rfl 1 rfl ?_
      refine gq191_X2 (pc := 30) cx dX2_isLike_30 (sh.k (hx1).1) (v_some (sh.r (hx1).2.2.2) ?_)
      refine v_iload_n (pc := 33) cx dX2_isLike_33 rfl 2 rfl ?_
      obtain ⟨b3, h⟩ := h
      refine v_iald (pc := 34) cx dX2_isLike_34 (sh.k (hx1).2.1) (sh.l (hx1).2.1 (hx1).2.2.1) b3 ?_
      refine v_icmp_eq (pc := 35) cx dX2_isLike_35 (tgt := 40) rfl (fun c4 => ?_) (fun c4 => ?_)
      · replace h := h.1 c4
        refine nm_x (x2 + (1 : Int32)) (fun z5 ez5 => ?_)
        replace h := h z5 ez5
        refine v_iinc (pc := 40) cx dX2_isLike_40 (q := 2) rfl ((ii_1 _).trans ez5.symm) (Nat.le_of_ble_eq_true rfl) (lv' := [(2, .int z5), (0, .ref (sz0 + x0)), (1, .ref (sz0 + x1))]) rfl ?_
        refine v_goto (pc := 43) cx dX2_isLike_43 (tgt := 15) rfl ?_
        refine v_sub (lv' := [(0, .ref (sz0 + x0)), (1, .ref (sz0 + x1)), (2, .int z5)]) [1, 2, 0] rfl ?_
        exact ih z5 h
      · replace h := h.2 c4
        refine v_iconst (pc := 38) cx dX2_isLike_38 ic_0 ?_
        exact v_zret cx rfl (Or.inl rfl) dX2_isLike_39 ⟨Nat.le_of_ble_eq_true rfl, Nat.le_of_ble_eq_true rfl⟩ ⟨rfl, h⟩
def m_X2_isLike (t : Nat) (x1 : Nat) (M : WM)  (Q : Int32 → Prop) : Prop := (((wI M t 1) = (wI M x1 1) → (∃ n0, m_X2_isLike_l15 t x1 M Q n0 ((0 : Int32)))) ∧ (¬ (wI M t 1) = (wI M x1 1) → Q ((0 : Int32))))
theorem c_X2_isLike (l : Launch) (D : va_G) (cA : Nat → ClassId) (sz0 : Nat) (H0 : Heap) (M : WM) (t : Nat) (x1 : Nat) (ht : isLn t) (hx1 : isLn x1)  (Q : Int32 → Prop) (sh : Shp M) (h : m_X2_isLike t x1 M  Q) : Met l yX2_isLike (ws_ yX2_isLike cX2_isLike 3 (some .boolean)) ({ frames := 0, cells := 0, slots := 0, locals := 0 } : Room) (PcW D cA sz0 H0 [.ref (sz0 + t), .ref (sz0 + x1)] M) (QW_i D cA sz0 H0 (fun r M' => M' = M ∧ Q r)) 0 0 (Aw sz0) := by
  replace h : (((wI M t 1) = (wI M x1 1) → (∃ n0, m_X2_isLike_l15 t x1 M Q n0 ((0 : Int32)))) ∧ (¬ (wI M t 1) = (wI M x1 1) → Q ((0 : Int32)))) := h
  refine Met.ofV (by decide +kernel) (Nat.le_of_ble_eq_true rfl) ?_
  intro p e s m args below meth c cx hnm
  replace cx : Cx p s m args meth c cX2_isLike 3 RX2 (some .boolean) D cA sz0 H0 := cx
  refine v_sub (lv' := [(0, .ref (sz0 + t)), (1, .ref (sz0 + x1))]) [0, 1] rfl ?_
  refine v_aload_n (pc := 0) cx dX2_isLike_0 rfl 0 rfl ?_
  refine gq194_X2 (pc := 1) cx dX2_isLike_1 (sh.k (ht).1) ?_
  refine v_aload_n (pc := 4) cx dX2_isLike_4 rfl 1 rfl ?_
  refine gq194_X2 (pc := 5) cx dX2_isLike_5 (sh.k (hx1).1) ?_
  refine v_icmp_eq (pc := 8) cx dX2_isLike_8 (tgt := 13) rfl (fun c1 => ?_) (fun c1 => ?_)
  · replace h := h.1 c1
    refine v_iconst (pc := 13) cx dX2_isLike_13 ic_0 ?_
    refine v_istore_n (pc := 14) cx dX2_isLike_14 rfl (Nat.le_of_ble_eq_true rfl) (lv' := [(2, .int (0 : Int32)), (0, .ref (sz0 + t)), (1, .ref (sz0 + x1))]) rfl ?_
    refine v_sub (lv' := [(0, .ref (sz0 + t)), (1, .ref (sz0 + x1)), (2, .int (0 : Int32))]) [1, 2, 0] rfl ?_
    obtain ⟨n0, h⟩ := h
    exact w_X2_isLike_l15 cx ht hx1 sh n0 ((0 : Int32)) h
  · replace h := h.2 c1
    refine v_iconst (pc := 11) cx dX2_isLike_11 ic_0 ?_
    exact v_zret cx rfl (Or.inl rfl) dX2_isLike_12 ⟨Nat.le_of_ble_eq_true rfl, Nat.le_of_ble_eq_true rfl⟩ ⟨rfl, h⟩
/-! LetterHeaps.wordOf(LLetterHeaps$Line;)I -/
def m_X0_wordOf_l2   (x1 : Nat) (M : WM)  (Q : Int32 → Prop) : Nat → Int32 → Prop
  | 0, _ => False
  | n + 1, x2 => (((wI M 0 3) ≤ x2 → Q (((-1) : Int32))) ∧ (¬ (wI M 0 3) ≤ x2 → (vp_in x2 40 ∧ (m_X2_isLike ((5325 + 3 * x2.toNatClampNeg)) x1 M (fun (a3 : Int32) => ((a3 = 0 → (∀ z5 : Int32, z5 = x2 + (1 : Int32) → m_X0_wordOf_l2 x1 M Q n z5)) ∧ (¬ a3 = 0 → Q x2)))))))
theorem w_X0_wordOf_l2 {p : Program} {l : Launch} {e : Env} {s : State} {m : MethodId} {args : Array Value} {below : List Frame} {meth : Method} {c : Code} {D : va_G} {cA : Nat → ClassId} {sz0 : Nat} {H0 : Heap}  {x1 : Nat} {M : WM} {Q : Int32 → Prop}  (cx : Cx p s m args meth c cX0_wordOf 3 RX0 (some .int) D cA sz0 H0)   (hx1 : isLn x1) (sh : Shp M) : ∀ (n : Nat) (x2 : Int32) , m_X0_wordOf_l2 x1 M Q n x2 → V p l e ({ frames := 1, cells := 0, slots := 0, locals := 22 } : Room) s m args below meth c 3 D cA sz0 H0 0 0 (MQ below (QW_i D cA sz0 H0 (fun r M' => M' = M ∧ Q r)) args s 0 0 (Aw sz0)) 2 [(0, .ref (sz0 + 0)), (1, .ref (sz0 + x1)), (2, .int x2)] [] M := by
  intro n
  induction n with
  | zero => intro x2 h; exact h.elim
  | succ n ih =>
    intro x2 h
    replace h : (((wI M 0 3) ≤ x2 → Q (((-1) : Int32))) ∧ (¬ (wI M 0 3) ≤ x2 → (vp_in x2 40 ∧ (m_X2_isLike ((5325 + 3 * x2.toNatClampNeg)) x1 M (fun (a3 : Int32) => ((a3 = 0 → (∀ z5 : Int32, z5 = x2 + (1 : Int32) → m_X0_wordOf_l2 x1 M Q n z5)) ∧ (¬ a3 = 0 → Q x2))))))) := h
    refine v_iload_n (pc := 2) cx dX0_wordOf_2 rfl 2 rfl ?_
    refine v_aload_n (pc := 3) cx dX0_wordOf_3 rfl 0 rfl ?_
    refine gq278_X0 (pc := 4) cx dX0_wordOf_4 (sh.k k_0) ?_
    refine v_icmp_ge (pc := 7) cx dX0_wordOf_7 (tgt := 34) rfl (fun c1 => ?_) (fun c1 => ?_)
    · replace h := h.1 c1
      refine v_iconst (pc := 34) cx dX0_wordOf_34 ic_m1 ?_
      exact v_iret cx rfl dX0_wordOf_35 ⟨Nat.le_of_ble_eq_true rfl, Nat.le_of_ble_eq_true rfl⟩ ⟨rfl, h⟩
    · replace h := h.2 c1
      refine v_aload_n (pc := 10) cx dX0_wordOf_10 rfl 0 rfl ?_
      refine gq273_X0 (pc := 11) cx dX0_wordOf_11 (sh.k k_0) (v_some (sh.r r_0_0) ?_)
      refine v_iload_n (pc := 14) cx dX0_wordOf_14 rfl 2 rfl ?_
      obtain ⟨b2, h⟩ := h
      refine v_aald107 (pc := 15) cx dX0_wordOf_15 (sh.k k_1) (sh.l k_1 l_1) b2 (v_some (sh.r (f_1 (lt_in b2))) ?_)
      refine gq257_X5 (pc := 16) cx dX0_wordOf_16 (sh.k (fk_1 (lt_in b2))) (v_some (sh.r (fr_1 (lt_in b2))) ?_)
      refine v_aload_n (pc := 19) cx dX0_wordOf_19 rfl 1 rfl ?_
      refine v_runp_i (pc := 20) cx (kcq409_X0 cx (c_X2_isLike l D cA sz0 H0 M ((5325 + 3 * x2.toNatClampNeg)) x1 (isLn_w (lt_in b2)) hx1 _ sh h) ⟨Nat.le_of_ble_eq_true rfl, Nat.le_of_ble_eq_true rfl⟩ (sh.k (isLn_w (lt_in b2)).1) (As := [.ref (sz0 + x1)]) rfl rfl (Nat.le_of_ble_eq_true rfl) dX0_wordOf_20 ⟨Nat.le_of_ble_eq_true rfl, Nat.le_of_ble_eq_true rfl⟩) (fun a3 hq => ?_)
      replace h := hq
      refine v_if_eq (pc := 23) cx dX0_wordOf_23 (tgt := 28) rfl (fun c4 => ?_) (fun c4 => ?_)
      · replace h := h.1 c4
        refine nm_x (x2 + (1 : Int32)) (fun z5 ez5 => ?_)
        replace h := h z5 ez5
        refine v_iinc (pc := 28) cx dX0_wordOf_28 (q := 2) rfl ((ii_1 _).trans ez5.symm) (Nat.le_of_ble_eq_true rfl) (lv' := [(2, .int z5), (0, .ref (sz0 + 0)), (1, .ref (sz0 + x1))]) rfl ?_
        refine v_goto (pc := 31) cx dX0_wordOf_31 (tgt := 2) rfl ?_
        refine v_sub (lv' := [(0, .ref (sz0 + 0)), (1, .ref (sz0 + x1)), (2, .int z5)]) [1, 2, 0] rfl ?_
        exact ih z5 h
      · replace h := h.2 c4
        refine v_iload_n (pc := 26) cx dX0_wordOf_26 rfl 2 rfl ?_
        exact v_iret cx rfl dX0_wordOf_27 ⟨Nat.le_of_ble_eq_true rfl, Nat.le_of_ble_eq_true rfl⟩ ⟨rfl, h⟩
def m_X0_wordOf (x1 : Nat) (M : WM)  (Q : Int32 → Prop) : Prop := (∃ n0, m_X0_wordOf_l2 x1 M Q n0 ((0 : Int32)))
theorem c_X0_wordOf (l : Launch) (D : va_G) (cA : Nat → ClassId) (sz0 : Nat) (H0 : Heap) (M : WM) (x1 : Nat) (hx1 : isLn x1)  (Q : Int32 → Prop) (sh : Shp M) (h : m_X0_wordOf x1 M  Q) : Met l yX0_wordOf (ws_ yX0_wordOf cX0_wordOf 3 (some .int)) ({ frames := 1, cells := 0, slots := 0, locals := 22 } : Room) (PcW D cA sz0 H0 [.ref (sz0 + 0), .ref (sz0 + x1)] M) (QW_i D cA sz0 H0 (fun r M' => M' = M ∧ Q r)) 0 0 (Aw sz0) := by
  replace h : (∃ n0, m_X0_wordOf_l2 x1 M Q n0 ((0 : Int32))) := h
  refine Met.ofV (by decide +kernel) (Nat.le_of_ble_eq_true rfl) ?_
  intro p e s m args below meth c cx hnm
  replace cx : Cx p s m args meth c cX0_wordOf 3 RX0 (some .int) D cA sz0 H0 := cx
  refine v_sub (lv' := [(0, .ref (sz0 + 0)), (1, .ref (sz0 + x1))]) [0, 1] rfl ?_
  refine v_iconst (pc := 0) cx dX0_wordOf_0 ic_0 ?_
  refine v_istore_n (pc := 1) cx dX0_wordOf_1 rfl (Nat.le_of_ble_eq_true rfl) (lv' := [(2, .int (0 : Int32)), (0, .ref (sz0 + 0)), (1, .ref (sz0 + x1))]) rfl ?_
  refine v_sub (lv' := [(0, .ref (sz0 + 0)), (1, .ref (sz0 + x1)), (2, .int (0 : Int32))]) [1, 2, 0] rfl ?_
  obtain ⟨n0, h⟩ := h
  exact w_X0_wordOf_l2 cx hx1 sh n0 ((0 : Int32)) h
/-! LetterHeaps$Line.isAhead(LLetterHeaps$Line;)Z -/
def m_X2_isAhead_l30   (x0 : Nat) (x1 : Nat) (M : WM)  (Q : Int32 → Prop) : Nat → Int32 → Prop
  | 0, _ => False
  | n + 1, x2 => (((wI M x0 1) ≤ x2 → Q ((0 : Int32))) ∧ (¬ (wI M x0 1) ≤ x2 → (vp_in x2 13 ∧ (vp_in x2 13 ∧ (((wI M ((x0 + 1)) x2.toNatClampNeg) = (wI M ((x1 + 1)) x2.toNatClampNeg) → (∀ z5 : Int32, z5 = x2 + (1 : Int32) → m_X2_isAhead_l30 x0 x1 M Q n z5)) ∧ (¬ (wI M ((x0 + 1)) x2.toNatClampNeg) = (wI M ((x1 + 1)) x2.toNatClampNeg) → (vp_in x2 13 ∧ (vp_in x2 13 ∧ (((wI M ((x1 + 1)) x2.toNatClampNeg) ≤ (wI M ((x0 + 1)) x2.toNatClampNeg) → Q ((0 : Int32))) ∧ (¬ (wI M ((x1 + 1)) x2.toNatClampNeg) ≤ (wI M ((x0 + 1)) x2.toNatClampNeg) → Q ((1 : Int32))))))))))))
theorem w_X2_isAhead_l30 {p : Program} {l : Launch} {e : Env} {s : State} {m : MethodId} {args : Array Value} {below : List Frame} {meth : Method} {c : Code} {D : va_G} {cA : Nat → ClassId} {sz0 : Nat} {H0 : Heap}  {x0 : Nat} {x1 : Nat} {M : WM} {Q : Int32 → Prop}  (cx : Cx p s m args meth c cX2_isAhead 3 RX2 (some .boolean) D cA sz0 H0)   (hx0 : isLn x0) (hx1 : isLn x1) (sh : Shp M) : ∀ (n : Nat) (x2 : Int32) , m_X2_isAhead_l30 x0 x1 M Q n x2 → V p l e ({ frames := 0, cells := 0, slots := 0, locals := 0 } : Room) s m args below meth c 3 D cA sz0 H0 0 0 (MQ below (QW_i D cA sz0 H0 (fun r M' => M' = M ∧ Q r)) args s 0 0 (Aw sz0)) 30 [(0, .ref (sz0 + x0)), (1, .ref (sz0 + x1)), (2, .int x2)] [] M := by
  intro n
  induction n with
  | zero => intro x2 h; exact h.elim
  | succ n ih =>
    intro x2 h
    replace h : (((wI M x0 1) ≤ x2 → Q ((0 : Int32))) ∧ (¬ (wI M x0 1) ≤ x2 → (vp_in x2 13 ∧ (vp_in x2 13 ∧ (((wI M ((x0 + 1)) x2.toNatClampNeg) = (wI M ((x1 + 1)) x2.toNatClampNeg) → (∀ z5 : Int32, z5 = x2 + (1 : Int32) → m_X2_isAhead_l30 x0 x1 M Q n z5)) ∧ (¬ (wI M ((x0 + 1)) x2.toNatClampNeg) = (wI M ((x1 + 1)) x2.toNatClampNeg) → (vp_in x2 13 ∧ (vp_in x2 13 ∧ (((wI M ((x1 + 1)) x2.toNatClampNeg) ≤ (wI M ((x0 + 1)) x2.toNatClampNeg) → Q ((0 : Int32))) ∧ (¬ (wI M ((x1 + 1)) x2.toNatClampNeg) ≤ (wI M ((x0 + 1)) x2.toNatClampNeg) → Q ((1 : Int32)))))))))))) := h
    refine v_iload_n (pc := 30) cx dX2_isAhead_30 rfl 2 rfl ?_
    refine v_aload_n (pc := 31) cx dX2_isAhead_31 rfl 0 rfl ?_
    refine gq194_X2 (pc := 32) cx dX2_isAhead_32 (sh.k (hx0).1) ?_
    refine v_icmp_ge (pc := 35) cx dX2_isAhead_35 (tgt := 80) rfl (fun c1 => ?_) (fun c1 => ?_)
    · replace h := h.1 c1
      refine v_iconst (pc := 80) cx dX2_isAhead_80 ic_0 ?_
      exact v_zret cx rfl (Or.inl rfl) dX2_isAhead_81 ⟨Nat.le_of_ble_eq_true rfl, Nat.le_of_ble_eq_true rfl⟩ ⟨rfl, h⟩
    · replace h := h.2 c1
      refine v_aload_n (pc := 38) cx dX2_isAhead_38 rfl 0 rfl ?_
      refine gq191_X2 (pc := 39) cx dX2_isAhead_39 (sh.k (hx0).1) (v_some (sh.r (hx0).2.2.2) ?_)
      refine v_iload_n (pc := 42) cx dX2_isAhead_42 rfl 2 rfl ?_
      obtain ⟨b2, h⟩ := h
      refine v_iald (pc := 43) cx dX2_isAhead_43 (sh.k (hx0).2.1) (sh.l (hx0).2.1 (hx0).2.2.1) b2 ?_
      refine v_aload_n (pc := 44) cx dX2_isAhead_44 rfl 1 rfl ?_
      refine gq191_X2 (pc := 45) cx dX2_isAhead_45 (sh.k (hx1).1) (v_some (sh.r (hx1).2.2.2) ?_)
      refine v_iload_n (pc := 48) cx dX2_isAhead_48 rfl 2 rfl ?_
      obtain ⟨b3, h⟩ := h
      refine v_iald (pc := 49) cx dX2_isAhead_49 (sh.k (hx1).2.1) (sh.l (hx1).2.1 (hx1).2.2.1) b3 ?_
      refine v_icmp_eq (pc := 50) cx dX2_isAhead_50 (tgt := 74) rfl (fun c4 => ?_) (fun c4 => ?_)
      · replace h := h.1 c4
        refine nm_x (x2 + (1 : Int32)) (fun z5 ez5 => ?_)
        replace h := h z5 ez5
        refine v_iinc (pc := 74) cx dX2_isAhead_74 (q := 2) rfl ((ii_1 _).trans ez5.symm) (Nat.le_of_ble_eq_true rfl) (lv' := [(2, .int z5), (0, .ref (sz0 + x0)), (1, .ref (sz0 + x1))]) rfl ?_
        refine v_goto (pc := 77) cx dX2_isAhead_77 (tgt := 30) rfl ?_
        refine v_sub (lv' := [(0, .ref (sz0 + x0)), (1, .ref (sz0 + x1)), (2, .int z5)]) [1, 2, 0] rfl ?_
        exact ih z5 h
      · replace h := h.2 c4
        refine v_aload_n (pc := 53) cx dX2_isAhead_53 rfl 0 rfl ?_
        refine gq191_X2 (pc := 54) cx dX2_isAhead_54 (sh.k (hx0).1) (v_some (sh.r (hx0).2.2.2) ?_)
        refine v_iload_n (pc := 57) cx dX2_isAhead_57 rfl 2 rfl ?_
        obtain ⟨b6, h⟩ := h
        refine v_iald (pc := 58) cx dX2_isAhead_58 (sh.k (hx0).2.1) (sh.l (hx0).2.1 (hx0).2.2.1) b6 ?_
        refine v_aload_n (pc := 59) cx dX2_isAhead_59 rfl 1 rfl ?_
        refine gq191_X2 (pc := 60) cx dX2_isAhead_60 (sh.k (hx1).1) (v_some (sh.r (hx1).2.2.2) ?_)
        refine v_iload_n (pc := 63) cx dX2_isAhead_63 rfl 2 rfl ?_
        obtain ⟨b7, h⟩ := h
        refine v_iald (pc := 64) cx dX2_isAhead_64 (sh.k (hx1).2.1) (sh.l (hx1).2.1 (hx1).2.2.1) b7 ?_
        refine v_icmp_ge (pc := 65) cx dX2_isAhead_65 (tgt := 72) rfl (fun c8 => ?_) (fun c8 => ?_)
        · replace h := h.1 c8
          refine v_iconst (pc := 72) cx dX2_isAhead_72 ic_0 ?_
          exact v_zret cx rfl (Or.inl rfl) dX2_isAhead_73 ⟨Nat.le_of_ble_eq_true rfl, Nat.le_of_ble_eq_true rfl⟩ ⟨rfl, h⟩
        · replace h := h.2 c8
          refine v_iconst (pc := 68) cx dX2_isAhead_68 ic_1 ?_
          refine v_goto (pc := 69) cx dX2_isAhead_69 (tgt := 73) rfl ?_
          exact v_zret cx rfl (Or.inr rfl) dX2_isAhead_73 ⟨Nat.le_of_ble_eq_true rfl, Nat.le_of_ble_eq_true rfl⟩ ⟨rfl, h⟩
def m_X2_isAhead (t : Nat) (x1 : Nat) (M : WM)  (Q : Int32 → Prop) : Prop := (((wI M t 1) = (wI M x1 1) → (∃ n0, m_X2_isAhead_l30 t x1 M Q n0 ((0 : Int32)))) ∧ (¬ (wI M t 1) = (wI M x1 1) → (((wI M x1 1) ≤ (wI M t 1) → Q ((0 : Int32))) ∧ (¬ (wI M x1 1) ≤ (wI M t 1) → Q ((1 : Int32))))))
theorem c_X2_isAhead (l : Launch) (D : va_G) (cA : Nat → ClassId) (sz0 : Nat) (H0 : Heap) (M : WM) (t : Nat) (x1 : Nat) (ht : isLn t) (hx1 : isLn x1)  (Q : Int32 → Prop) (sh : Shp M) (h : m_X2_isAhead t x1 M  Q) : Met l yX2_isAhead (ws_ yX2_isAhead cX2_isAhead 3 (some .boolean)) ({ frames := 0, cells := 0, slots := 0, locals := 0 } : Room) (PcW D cA sz0 H0 [.ref (sz0 + t), .ref (sz0 + x1)] M) (QW_i D cA sz0 H0 (fun r M' => M' = M ∧ Q r)) 0 0 (Aw sz0) := by
  replace h : (((wI M t 1) = (wI M x1 1) → (∃ n0, m_X2_isAhead_l30 t x1 M Q n0 ((0 : Int32)))) ∧ (¬ (wI M t 1) = (wI M x1 1) → (((wI M x1 1) ≤ (wI M t 1) → Q ((0 : Int32))) ∧ (¬ (wI M x1 1) ≤ (wI M t 1) → Q ((1 : Int32)))))) := h
  refine Met.ofV (by decide +kernel) (Nat.le_of_ble_eq_true rfl) ?_
  intro p e s m args below meth c cx hnm
  replace cx : Cx p s m args meth c cX2_isAhead 3 RX2 (some .boolean) D cA sz0 H0 := cx
  refine v_sub (lv' := [(0, .ref (sz0 + t)), (1, .ref (sz0 + x1))]) [0, 1] rfl ?_
  refine v_aload_n (pc := 0) cx dX2_isAhead_0 rfl 0 rfl ?_
  refine gq194_X2 (pc := 1) cx dX2_isAhead_1 (sh.k (ht).1) ?_
  refine v_aload_n (pc := 4) cx dX2_isAhead_4 rfl 1 rfl ?_
  refine gq194_X2 (pc := 5) cx dX2_isAhead_5 (sh.k (hx1).1) ?_
  refine v_icmp_eq (pc := 8) cx dX2_isAhead_8 (tgt := 28) rfl (fun c1 => ?_) (fun c1 => ?_)
  · replace h := h.1 c1
    refine v_iconst (pc := 28) cx dX2_isAhead_28 ic_0 ?_
    refine v_istore_n (pc := 29) cx dX2_isAhead_29 rfl (Nat.le_of_ble_eq_true rfl) (lv' := [(2, .int (0 : Int32)), (0, .ref (sz0 + t)), (1, .ref (sz0 + x1))]) rfl ?_
    refine v_sub (lv' := [(0, .ref (sz0 + t)), (1, .ref (sz0 + x1)), (2, .int (0 : Int32))]) [1, 2, 0] rfl ?_
    obtain ⟨n0, h⟩ := h
    exact w_X2_isAhead_l30 cx ht hx1 sh n0 ((0 : Int32)) h
  · replace h := h.2 c1
    refine v_aload_n (pc := 11) cx dX2_isAhead_11 rfl 0 rfl ?_
    refine gq194_X2 (pc := 12) cx dX2_isAhead_12 (sh.k (ht).1) ?_
    refine v_aload_n (pc := 15) cx dX2_isAhead_15 rfl 1 rfl ?_
    refine gq194_X2 (pc := 16) cx dX2_isAhead_16 (sh.k (hx1).1) ?_
    refine v_icmp_ge (pc := 19) cx dX2_isAhead_19 (tgt := 26) rfl (fun c2 => ?_) (fun c2 => ?_)
    · replace h := h.1 c2
      refine v_iconst (pc := 26) cx dX2_isAhead_26 ic_0 ?_
      exact v_zret cx rfl (Or.inl rfl) dX2_isAhead_27 ⟨Nat.le_of_ble_eq_true rfl, Nat.le_of_ble_eq_true rfl⟩ ⟨rfl, h⟩
    · replace h := h.2 c2
      refine v_iconst (pc := 22) cx dX2_isAhead_22 ic_1 ?_
      refine v_goto (pc := 23) cx dX2_isAhead_23 (tgt := 27) rfl ?_
      exact v_zret cx rfl (Or.inr rfl) dX2_isAhead_27 ⟨Nat.le_of_ble_eq_true rfl, Nat.le_of_ble_eq_true rfl⟩ ⟨rfl, h⟩
/-! LetterHeaps$Line.takes(LLetterHeaps$Line;)V -/
def m_X2_takes_l10   (x0 : Nat) (x1 : Nat)   (Q : WM → Prop) : Nat → Int32 → WM → Prop
  | 0, _, _ => False
  | n + 1, x2, M => (((wI M x0 1) ≤ x2 → Q M) ∧ (¬ (wI M x0 1) ≤ x2 → (vp_in x2 13 ∧ (vp_in x2 13 ∧ (∀ M4 : WM, M4 = wPI M ((x0 + 1)) x2.toNatClampNeg ((wI M ((x1 + 1)) x2.toNatClampNeg)) → (∀ z5 : Int32, z5 = x2 + (1 : Int32) → m_X2_takes_l10 x0 x1 Q n z5 M4))))))
theorem w_X2_takes_l10 {p : Program} {l : Launch} {e : Env} {s : State} {m : MethodId} {args : Array Value} {below : List Frame} {meth : Method} {c : Code} {D : va_G} {cA : Nat → ClassId} {sz0 : Nat} {H0 : Heap}  {x0 : Nat} {x1 : Nat} {Q : WM → Prop}  (cx : Cx p s m args meth c cX2_takes 3 RX2 none D cA sz0 H0)   (hx0 : isLn x0) (hx1 : isLn x1)  : ∀ (n : Nat) (x2 : Int32)  (M : WM) (sh : Shp M), m_X2_takes_l10 x0 x1 Q n x2 M → V p l e ({ frames := 0, cells := 0, slots := 0, locals := 0 } : Room) s m args below meth c 3 D cA sz0 H0 0 0 (MQ below (QW_v D cA sz0 H0 (fun M' => Q M' ∧ Shp M')) args s 0 0 (Aw sz0)) 10 [(0, .ref (sz0 + x0)), (1, .ref (sz0 + x1)), (2, .int x2)] [] M := by
  intro n
  induction n with
  | zero => intro x2 M sh h; exact h.elim
  | succ n ih =>
    intro x2 M sh h
    replace h : (((wI M x0 1) ≤ x2 → Q M) ∧ (¬ (wI M x0 1) ≤ x2 → (vp_in x2 13 ∧ (vp_in x2 13 ∧ (∀ M4 : WM, M4 = wPI M ((x0 + 1)) x2.toNatClampNeg ((wI M ((x1 + 1)) x2.toNatClampNeg)) → (∀ z5 : Int32, z5 = x2 + (1 : Int32) → m_X2_takes_l10 x0 x1 Q n z5 M4)))))) := h
    refine v_iload_n (pc := 10) cx dX2_takes_10 rfl 2 rfl ?_
    refine v_aload_n (pc := 11) cx dX2_takes_11 rfl 0 rfl ?_
    refine gq194_X2 (pc := 12) cx dX2_takes_12 (sh.k (hx0).1) ?_
    refine v_icmp_ge (pc := 15) cx dX2_takes_15 (tgt := 36) rfl (fun c1 => ?_) (fun c1 => ?_)
    · replace h := h.1 c1
      exact v_vret cx rfl dX2_takes_36 ⟨Nat.le_of_ble_eq_true rfl, Nat.le_of_ble_eq_true rfl⟩ ⟨h, sh⟩
    · replace h := h.2 c1
      refine v_aload_n (pc := 18) cx dX2_takes_18 rfl 0 rfl ?_
      refine gq191_X2 (pc := 19) cx dX2_takes_19 (sh.k (hx0).1) (v_some (sh.r (hx0).2.2.2) ?_)
      refine v_iload_n (pc := 22) cx dX2_takes_22 rfl 2 rfl ?_
      refine v_aload_n (pc := 23) cx dX2_takes_23 rfl 1 rfl ?_
      refine gq191_X2 (pc := 24) cx dX2_takes_24 (sh.k (hx1).1) (v_some (sh.r (hx1).2.2.2) ?_)
      refine v_iload_n (pc := 27) cx dX2_takes_27 rfl 2 rfl ?_
      obtain ⟨b2, h⟩ := h
      refine v_iald (pc := 28) cx dX2_takes_28 (sh.k (hx1).2.1) (sh.l (hx1).2.1 (hx1).2.2.1) b2 ?_
      obtain ⟨b3, h⟩ := h
      refine v_iast (pc := 29) cx dX2_takes_29 (sh.k (hx0).2.1) (sh.l (hx0).2.1 (hx0).2.2.1) b3 ?_
      refine v_wld (fun M4 eM4 => ?_)
      replace h := h M4 eM4
      replace sh : Shp M4 := Shp_PI sh eM4
      refine nm_x (x2 + (1 : Int32)) (fun z5 ez5 => ?_)
      replace h := h z5 ez5
      refine v_iinc (pc := 30) cx dX2_takes_30 (q := 2) rfl ((ii_1 _).trans ez5.symm) (Nat.le_of_ble_eq_true rfl) (lv' := [(2, .int z5), (0, .ref (sz0 + x0)), (1, .ref (sz0 + x1))]) rfl ?_
      refine v_goto (pc := 33) cx dX2_takes_33 (tgt := 10) rfl ?_
      refine v_sub (lv' := [(0, .ref (sz0 + x0)), (1, .ref (sz0 + x1)), (2, .int z5)]) [1, 2, 0] rfl ?_
      exact ih z5 M4 sh h
def m_X2_takes (t : Nat) (x1 : Nat) (M : WM)  (Q : WM → Prop) : Prop := (∀ M1 : WM, M1 = wPI M t 1 ((wI M x1 1)) → (∃ n0, m_X2_takes_l10 t x1 Q n0 ((0 : Int32)) M1))
theorem c_X2_takes (l : Launch) (D : va_G) (cA : Nat → ClassId) (sz0 : Nat) (H0 : Heap) (M : WM) (t : Nat) (x1 : Nat) (ht : isLn t) (hx1 : isLn x1)  (Q : WM → Prop) (sh : Shp M) (h : m_X2_takes t x1 M  Q) : Met l yX2_takes (ws_ yX2_takes cX2_takes 3 none) ({ frames := 0, cells := 0, slots := 0, locals := 0 } : Room) (PcW D cA sz0 H0 [.ref (sz0 + t), .ref (sz0 + x1)] M) (QW_v D cA sz0 H0 (fun M' => Q M' ∧ Shp M')) 0 0 (Aw sz0) := by
  replace h : (∀ M1 : WM, M1 = wPI M t 1 ((wI M x1 1)) → (∃ n0, m_X2_takes_l10 t x1 Q n0 ((0 : Int32)) M1)) := h
  refine Met.ofV (by decide +kernel) (Nat.le_of_ble_eq_true rfl) ?_
  intro p e s m args below meth c cx hnm
  replace cx : Cx p s m args meth c cX2_takes 3 RX2 none D cA sz0 H0 := cx
  refine v_sub (lv' := [(0, .ref (sz0 + t)), (1, .ref (sz0 + x1))]) [0, 1] rfl ?_
  refine v_aload_n (pc := 0) cx dX2_takes_0 rfl 0 rfl ?_
  refine v_aload_n (pc := 1) cx dX2_takes_1 rfl 1 rfl ?_
  refine gq194_X2 (pc := 2) cx dX2_takes_2 (sh.k (hx1).1) ?_
  refine pq194_X2 (pc := 5) cx dX2_takes_5 (sh.k (ht).1) ?_
  refine v_wld (fun M1 eM1 => ?_)
  replace h := h M1 eM1
  replace sh : Shp M1 := Shp_PI sh eM1
  refine v_iconst (pc := 8) cx dX2_takes_8 ic_0 ?_
  refine v_istore_n (pc := 9) cx dX2_takes_9 rfl (Nat.le_of_ble_eq_true rfl) (lv' := [(2, .int (0 : Int32)), (0, .ref (sz0 + t)), (1, .ref (sz0 + x1))]) rfl ?_
  refine v_sub (lv' := [(0, .ref (sz0 + t)), (1, .ref (sz0 + x1)), (2, .int (0 : Int32))]) [1, 2, 0] rfl ?_
  obtain ⟨n0, h⟩ := h
  exact w_X2_takes_l10 cx ht hx1 n0 ((0 : Int32)) M1 sh h
/-! LetterHeaps.triesNew()V -/
def m_X0_triesNew_j153   (x3 : Int32) (x4 : Int32)   (Q : WM → Prop) (M : WM) : Prop := (∀ M1 : WM, M1 = wPI M 0 21 x4 → (∀ M2 : WM, M2 = wPI M1 0 22 x3 → (m_X2_takes 179 177 M2 (fun (M4 : WM) => Q M4))))
theorem w_X0_triesNew_j153 {p : Program} {l : Launch} {e : Env} {s : State} {m : MethodId} {args : Array Value} {below : List Frame} {meth : Method} {c : Code} {D : va_G} {cA : Nat → ClassId} {sz0 : Nat} {H0 : Heap}  {x3 : Int32} {x4 : Int32} {Q : WM → Prop}  (cx : Cx p s m args meth c cX0_triesNew 5 RX0 none D cA sz0 H0)       (M : WM) (sh : Shp M) (h : m_X0_triesNew_j153 x3 x4 Q M) : V p l e ({ frames := 3, cells := 0, slots := 0, locals := 63 } : Room) s m args below meth c 5 D cA sz0 H0 0 0 (MQ below (QW_v D cA sz0 H0 (fun M' => Q M' ∧ Shp M')) args s 0 0 (Aw sz0)) 153 [(0, .ref (sz0 + 0)), (3, .int x3), (4, .int x4)] [] M := by
  replace h : (∀ M1 : WM, M1 = wPI M 0 21 x4 → (∀ M2 : WM, M2 = wPI M1 0 22 x3 → (m_X2_takes 179 177 M2 (fun (M4 : WM) => Q M4)))) := h
  refine v_aload_n (pc := 153) cx dX0_triesNew_153 rfl 0 rfl ?_
  refine v_iload (pc := 154) cx dX0_triesNew_154 2 rfl ?_
  refine pq296_X0 (pc := 156) cx dX0_triesNew_156 (sh.k k_0) ?_
  refine v_wld (fun M1 eM1 => ?_)
  replace h := h M1 eM1
  replace sh : Shp M1 := Shp_PI sh eM1
  refine v_aload_n (pc := 159) cx dX0_triesNew_159 rfl 0 rfl ?_
  refine v_iload_n (pc := 160) cx dX0_triesNew_160 rfl 1 rfl ?_
  refine pq297_X0 (pc := 161) cx dX0_triesNew_161 (sh.k k_0) ?_
  refine v_wld (fun M2 eM2 => ?_)
  replace h := h M2 eM2
  replace sh : Shp M2 := Shp_PI sh eM2
  refine v_aload_n (pc := 164) cx dX0_triesNew_164 rfl 0 rfl ?_
  refine gq295_X0 (pc := 165) cx dX0_triesNew_165 (sh.k k_0) (v_some (sh.r r_0_20) ?_)
  refine v_aload_n (pc := 168) cx dX0_triesNew_168 rfl 0 rfl ?_
  refine gq294_X0 (pc := 169) cx dX0_triesNew_169 (sh.k k_0) (v_some (sh.r r_0_19) ?_)
  refine v_run_v (pc := 172) cx (kcq413_X0 cx (c_X2_takes l D cA sz0 H0 M2 179 177 isLn_179 isLn_177 _ sh h) ⟨Nat.le_of_ble_eq_true rfl, Nat.le_of_ble_eq_true rfl⟩ (sh.k k_179) (As := [.ref (sz0 + 177)]) rfl rfl (Nat.le_of_ble_eq_true rfl) dX0_triesNew_172 ⟨Nat.le_of_ble_eq_true rfl, Nat.le_of_ble_eq_true rfl⟩) (fun M4 hq => ?_)
  obtain ⟨h, sh⟩ := hq
  exact v_vret cx rfl dX0_triesNew_175 ⟨Nat.le_of_ble_eq_true rfl, Nat.le_of_ble_eq_true rfl⟩ ⟨h, sh⟩
def m_X0_triesNew_l36      (Q : WM → Prop) : Nat → Int64 → Int32 → Int32 → WM → Prop
  | 0, _, _, _, _ => False
  | n + 1, x1, x3, x4, M => (((wI M 0 3) ≤ x4 → (m_J6_bitCount x1 (fun (a2 : Int32) => ((a2 < (wI M 0 21) → Q M) ∧ (¬ a2 < (wI M 0 21) → ((a2 = (wI M 0 21) → ((x3 < (wI M 0 22) → Q M) ∧ (¬ x3 < (wI M 0 22) → ((x3 = (wI M 0 22) → (m_X2_isAhead 177 179 M (fun (a7 : Int32) => ((a7 = 0 → Q M) ∧ (¬ a7 = 0 → m_X0_triesNew_j153 x3 a2 Q M))))) ∧ (¬ x3 = (wI M 0 22) → m_X0_triesNew_j153 x3 a2 Q M))))) ∧ (¬ a2 = (wI M 0 21) → m_X0_triesNew_j153 x3 a2 Q M))))))) ∧ (¬ (wI M 0 3) ≤ x4 → (m_X0_isUsed x4 M (fun (a9 : Int32) => ((a9 = 0 → (∀ z11 : Int32, z11 = x4 + (1 : Int32) → m_X0_triesNew_l36  Q n x1 x3 z11 M)) ∧ (¬ a9 = 0 → (vp_in x4 40 ∧ (m_X0_areOneOff 177 ((5325 + 3 * x4.toNatClampNeg)) M (fun (a13 : Int32) (M14 : WM) => ((a13 = 0 → (∀ z20 : Int32, z20 = x4 + (1 : Int32) → m_X0_triesNew_l36  Q n x1 x3 z20 M14)) ∧ (¬ a13 = 0 → (m_X0_heapOf x4 M14 (fun (a16 : Int32) => (∀ z17 : Int64, z17 = (x1 ||| ((1 : Int64) <<< (a16.toInt64 &&& 63))) → (∀ z18 : Int32, z18 = x3 + (1 : Int32) → (∀ z19 : Int32, z19 = x4 + (1 : Int32) → m_X0_triesNew_l36  Q n z17 z18 z19 M14))))))))))))))))
theorem w_X0_triesNew_l36 {p : Program} {l : Launch} {e : Env} {s : State} {m : MethodId} {args : Array Value} {below : List Frame} {meth : Method} {c : Code} {D : va_G} {cA : Nat → ClassId} {sz0 : Nat} {H0 : Heap}  {Q : WM → Prop}  (cx : Cx p s m args meth c cX0_triesNew 5 RX0 none D cA sz0 H0)     : ∀ (n : Nat) (x1 : Int64) (x3 : Int32) (x4 : Int32)  (M : WM) (sh : Shp M), m_X0_triesNew_l36 Q n x1 x3 x4 M → V p l e ({ frames := 3, cells := 0, slots := 0, locals := 63 } : Room) s m args below meth c 5 D cA sz0 H0 0 0 (MQ below (QW_v D cA sz0 H0 (fun M' => Q M' ∧ Shp M')) args s 0 0 (Aw sz0)) 36 [(0, .ref (sz0 + 0)), (1, .long x1), (3, .int x3), (4, .int x4)] [] M := by
  intro n
  induction n with
  | zero => intro x1 x3 x4 M sh h; exact h.elim
  | succ n ih =>
    intro x1 x3 x4 M sh h
    replace h : (((wI M 0 3) ≤ x4 → (m_J6_bitCount x1 (fun (a2 : Int32) => ((a2 < (wI M 0 21) → Q M) ∧ (¬ a2 < (wI M 0 21) → ((a2 = (wI M 0 21) → ((x3 < (wI M 0 22) → Q M) ∧ (¬ x3 < (wI M 0 22) → ((x3 = (wI M 0 22) → (m_X2_isAhead 177 179 M (fun (a7 : Int32) => ((a7 = 0 → Q M) ∧ (¬ a7 = 0 → m_X0_triesNew_j153 x3 a2 Q M))))) ∧ (¬ x3 = (wI M 0 22) → m_X0_triesNew_j153 x3 a2 Q M))))) ∧ (¬ a2 = (wI M 0 21) → m_X0_triesNew_j153 x3 a2 Q M))))))) ∧ (¬ (wI M 0 3) ≤ x4 → (m_X0_isUsed x4 M (fun (a9 : Int32) => ((a9 = 0 → (∀ z11 : Int32, z11 = x4 + (1 : Int32) → m_X0_triesNew_l36  Q n x1 x3 z11 M)) ∧ (¬ a9 = 0 → (vp_in x4 40 ∧ (m_X0_areOneOff 177 ((5325 + 3 * x4.toNatClampNeg)) M (fun (a13 : Int32) (M14 : WM) => ((a13 = 0 → (∀ z20 : Int32, z20 = x4 + (1 : Int32) → m_X0_triesNew_l36  Q n x1 x3 z20 M14)) ∧ (¬ a13 = 0 → (m_X0_heapOf x4 M14 (fun (a16 : Int32) => (∀ z17 : Int64, z17 = (x1 ||| ((1 : Int64) <<< (a16.toInt64 &&& 63))) → (∀ z18 : Int32, z18 = x3 + (1 : Int32) → (∀ z19 : Int32, z19 = x4 + (1 : Int32) → m_X0_triesNew_l36  Q n z17 z18 z19 M14)))))))))))))))) := h
    refine v_iload (pc := 36) cx dX0_triesNew_36 3 rfl ?_
    refine v_aload_n (pc := 38) cx dX0_triesNew_38 rfl 0 rfl ?_
    refine gq278_X0 (pc := 39) cx dX0_triesNew_39 (sh.k k_0) ?_
    refine v_icmp_ge (pc := 42) cx dX0_triesNew_42 (tgt := 98) rfl (fun c1 => ?_) (fun c1 => ?_)
    · replace h := h.1 c1
      refine v_lload_n (pc := 98) cx dX0_triesNew_98 rfl 1 rfl ?_
      refine v_runp_i (pc := 99) cx (kcq882_X0 cx (c_J6_bitCount l D cA sz0 H0 M x1  _ h) ⟨Nat.le_of_ble_eq_true rfl, Nat.le_of_ble_eq_true rfl⟩ (As := [.long x1]) rfl rfl (Nat.le_of_ble_eq_true rfl) dX0_triesNew_99 ⟨Nat.le_of_ble_eq_true rfl, Nat.le_of_ble_eq_true rfl⟩) (fun a2 hq => ?_)
      replace h := hq
      refine v_istore (pc := 102) cx dX0_triesNew_102 (Nat.le_of_ble_eq_true rfl) (lv' := [(4, .int a2), (0, .ref (sz0 + 0)), (1, .long x1), (3, .int x3)]) rfl ?_
      refine v_iload (pc := 104) cx dX0_triesNew_104 0 rfl ?_
      refine v_aload_n (pc := 106) cx dX0_triesNew_106 rfl 1 rfl ?_
      refine gq296_X0 (pc := 107) cx dX0_triesNew_107 (sh.k k_0) ?_
      refine v_icmp_lt (pc := 110) cx dX0_triesNew_110 (tgt := 152) rfl (fun c3 => ?_) (fun c3 => ?_)
      · replace h := h.1 c3
        exact v_vret cx rfl dX0_triesNew_152 ⟨Nat.le_of_ble_eq_true rfl, Nat.le_of_ble_eq_true rfl⟩ ⟨h, sh⟩
      · replace h := h.2 c3
        refine v_iload (pc := 113) cx dX0_triesNew_113 0 rfl ?_
        refine v_aload_n (pc := 115) cx dX0_triesNew_115 rfl 1 rfl ?_
        refine gq296_X0 (pc := 116) cx dX0_triesNew_116 (sh.k k_0) ?_
        refine v_icmp_ne (pc := 119) cx dX0_triesNew_119 (tgt := 153) rfl (fun c4 => ?_) (fun c4 => ?_)
        · replace h := h.2 c4
          refine v_sub (lv' := [(0, .ref (sz0 + 0)), (3, .int x3), (4, .int a2)]) [1, 3, 0] rfl ?_
          exact w_X0_triesNew_j153 cx M sh h
        · replace h := h.1 c4
          refine v_iload_n (pc := 122) cx dX0_triesNew_122 rfl 3 rfl ?_
          refine v_aload_n (pc := 123) cx dX0_triesNew_123 rfl 1 rfl ?_
          refine gq297_X0 (pc := 124) cx dX0_triesNew_124 (sh.k k_0) ?_
          refine v_icmp_lt (pc := 127) cx dX0_triesNew_127 (tgt := 152) rfl (fun c5 => ?_) (fun c5 => ?_)
          · replace h := h.1 c5
            exact v_vret cx rfl dX0_triesNew_152 ⟨Nat.le_of_ble_eq_true rfl, Nat.le_of_ble_eq_true rfl⟩ ⟨h, sh⟩
          · replace h := h.2 c5
            refine v_iload_n (pc := 130) cx dX0_triesNew_130 rfl 3 rfl ?_
            refine v_aload_n (pc := 131) cx dX0_triesNew_131 rfl 1 rfl ?_
            refine gq297_X0 (pc := 132) cx dX0_triesNew_132 (sh.k k_0) ?_
            refine v_icmp_ne (pc := 135) cx dX0_triesNew_135 (tgt := 153) rfl (fun c6 => ?_) (fun c6 => ?_)
            · replace h := h.2 c6
              refine v_sub (lv' := [(0, .ref (sz0 + 0)), (3, .int x3), (4, .int a2)]) [1, 3, 0] rfl ?_
              exact w_X0_triesNew_j153 cx M sh h
            · replace h := h.1 c6
              refine v_aload_n (pc := 138) cx dX0_triesNew_138 rfl 1 rfl ?_
              refine gq294_X0 (pc := 139) cx dX0_triesNew_139 (sh.k k_0) (v_some (sh.r r_0_19) ?_)
              refine v_aload_n (pc := 142) cx dX0_triesNew_142 rfl 1 rfl ?_
              refine gq295_X0 (pc := 143) cx dX0_triesNew_143 (sh.k k_0) (v_some (sh.r r_0_20) ?_)
              refine v_runp_i (pc := 146) cx (kcq888_X0 cx (c_X2_isAhead l D cA sz0 H0 M 177 179 isLn_177 isLn_179 _ sh h) ⟨Nat.le_of_ble_eq_true rfl, Nat.le_of_ble_eq_true rfl⟩ (sh.k k_177) (As := [.ref (sz0 + 179)]) rfl rfl (Nat.le_of_ble_eq_true rfl) dX0_triesNew_146 ⟨Nat.le_of_ble_eq_true rfl, Nat.le_of_ble_eq_true rfl⟩) (fun a7 hq => ?_)
              replace h := hq
              refine v_if_ne (pc := 149) cx dX0_triesNew_149 (tgt := 153) rfl (fun c8 => ?_) (fun c8 => ?_)
              · replace h := h.2 c8
                refine v_sub (lv' := [(0, .ref (sz0 + 0)), (3, .int x3), (4, .int a2)]) [1, 3, 0] rfl ?_
                exact w_X0_triesNew_j153 cx M sh h
              · replace h := h.1 c8
                exact v_vret cx rfl dX0_triesNew_152 ⟨Nat.le_of_ble_eq_true rfl, Nat.le_of_ble_eq_true rfl⟩ ⟨h, sh⟩
    · replace h := h.2 c1
      refine v_aload_n (pc := 45) cx dX0_triesNew_45 rfl 0 rfl ?_
      refine v_iload (pc := 46) cx dX0_triesNew_46 3 rfl ?_
      refine v_runp_i (pc := 48) cx (kcq718_X0 cx (c_X0_isUsed l D cA sz0 H0 M x4  _ sh h) ⟨Nat.le_of_ble_eq_true rfl, Nat.le_of_ble_eq_true rfl⟩ (sh.k k_0) (As := [.int x4]) rfl rfl (Nat.le_of_ble_eq_true rfl) dX0_triesNew_48 ⟨Nat.le_of_ble_eq_true rfl, Nat.le_of_ble_eq_true rfl⟩) (fun a9 hq => ?_)
      replace h := hq
      refine v_if_eq (pc := 51) cx dX0_triesNew_51 (tgt := 92) rfl (fun c10 => ?_) (fun c10 => ?_)
      · replace h := h.1 c10
        refine nm_x (x4 + (1 : Int32)) (fun z11 ez11 => ?_)
        replace h := h z11 ez11
        refine v_iinc (pc := 92) cx dX0_triesNew_92 (q := 3) rfl ((ii_1 _).trans ez11.symm) (Nat.le_of_ble_eq_true rfl) (lv' := [(4, .int z11), (0, .ref (sz0 + 0)), (1, .long x1), (3, .int x3)]) rfl ?_
        refine v_goto (pc := 95) cx dX0_triesNew_95 (tgt := 36) rfl ?_
        refine v_sub (lv' := [(0, .ref (sz0 + 0)), (1, .long x1), (3, .int x3), (4, .int z11)]) [1, 2, 3, 0] rfl ?_
        exact ih x1 x3 z11 M sh h
      · replace h := h.2 c10
        refine v_aload_n (pc := 54) cx dX0_triesNew_54 rfl 0 rfl ?_
        refine v_aload_n (pc := 55) cx dX0_triesNew_55 rfl 0 rfl ?_
        refine gq294_X0 (pc := 56) cx dX0_triesNew_56 (sh.k k_0) (v_some (sh.r r_0_19) ?_)
        refine v_aload_n (pc := 59) cx dX0_triesNew_59 rfl 0 rfl ?_
        refine gq273_X0 (pc := 60) cx dX0_triesNew_60 (sh.k k_0) (v_some (sh.r r_0_0) ?_)
        refine v_iload (pc := 63) cx dX0_triesNew_63 3 rfl ?_
        obtain ⟨b12, h⟩ := h
        refine v_aald107 (pc := 65) cx dX0_triesNew_65 (sh.k k_1) (sh.l k_1 l_1) b12 (v_some (sh.r (f_1 (lt_in b12))) ?_)
        refine gq257_X5 (pc := 66) cx dX0_triesNew_66 (sh.k (fk_1 (lt_in b12))) (v_some (sh.r (fr_1 (lt_in b12))) ?_)
        refine v_run_i (pc := 69) cx (kcq878_X0 cx (c_X0_areOneOff l D cA sz0 H0 M 177 ((5325 + 3 * x4.toNatClampNeg)) isLn_177 (isLn_w (lt_in b12)) _ sh h) ⟨Nat.le_of_ble_eq_true rfl, Nat.le_of_ble_eq_true rfl⟩ (sh.k k_0) (As := [.ref (sz0 + 177), .ref (sz0 + (5325 + 3 * x4.toNatClampNeg))]) rfl rfl (Nat.le_of_ble_eq_true rfl) dX0_triesNew_69 ⟨Nat.le_of_ble_eq_true rfl, Nat.le_of_ble_eq_true rfl⟩) (fun a13 M14 hq => ?_)
        obtain ⟨h, sh⟩ := hq
        refine v_if_ne (pc := 72) cx dX0_triesNew_72 (tgt := 78) rfl (fun c15 => ?_) (fun c15 => ?_)
        · replace h := h.2 c15
          refine v_lload_n (pc := 78) cx dX0_triesNew_78 rfl 1 rfl ?_
          refine v_lconst (pc := 79) cx dX0_triesNew_79 lc_1 ?_
          refine v_aload_n (pc := 80) cx dX0_triesNew_80 rfl 0 rfl ?_
          refine v_iload (pc := 81) cx dX0_triesNew_81 3 rfl ?_
          refine v_runp_i (pc := 83) cx (kcq846_X0 cx (c_X0_heapOf l D cA sz0 H0 M14 x4  _ sh h) ⟨Nat.le_of_ble_eq_true rfl, Nat.le_of_ble_eq_true rfl⟩ (sh.k k_0) (As := [.int x4]) rfl rfl (Nat.le_of_ble_eq_true rfl) dX0_triesNew_83 ⟨Nat.le_of_ble_eq_true rfl, Nat.le_of_ble_eq_true rfl⟩) (fun a16 hq => ?_)
          replace h := hq
          refine v_lshl (pc := 86) cx dX0_triesNew_86 ?_
          refine v_lor (pc := 87) cx dX0_triesNew_87 ?_
          refine v_topl (fun z17 ez17 => ?_)
          replace h := h z17 ez17
          refine v_lstore_n (pc := 88) cx dX0_triesNew_88 rfl (Nat.le_of_ble_eq_true rfl) (lv' := [(1, .long z17), (0, .ref (sz0 + 0)), (3, .int x3), (4, .int x4)]) rfl ?_
          refine nm_x (x3 + (1 : Int32)) (fun z18 ez18 => ?_)
          replace h := h z18 ez18
          refine v_iinc (pc := 89) cx dX0_triesNew_89 (q := 2) rfl ((ii_1 _).trans ez18.symm) (Nat.le_of_ble_eq_true rfl) (lv' := [(3, .int z18), (1, .long z17), (0, .ref (sz0 + 0)), (4, .int x4)]) rfl ?_
          refine nm_x (x4 + (1 : Int32)) (fun z19 ez19 => ?_)
          replace h := h z19 ez19
          refine v_iinc (pc := 92) cx dX0_triesNew_92 (q := 3) rfl ((ii_1 _).trans ez19.symm) (Nat.le_of_ble_eq_true rfl) (lv' := [(4, .int z19), (3, .int z18), (1, .long z17), (0, .ref (sz0 + 0))]) rfl ?_
          refine v_goto (pc := 95) cx dX0_triesNew_95 (tgt := 36) rfl ?_
          refine v_sub (lv' := [(0, .ref (sz0 + 0)), (1, .long z17), (3, .int z18), (4, .int z19)]) [3, 2, 1, 0] rfl ?_
          exact ih z17 z18 z19 M14 sh h
        · replace h := h.1 c15
          refine v_goto (pc := 75) cx dX0_triesNew_75 (tgt := 92) rfl ?_
          refine nm_x (x4 + (1 : Int32)) (fun z20 ez20 => ?_)
          replace h := h z20 ez20
          refine v_iinc (pc := 92) cx dX0_triesNew_92 (q := 3) rfl ((ii_1 _).trans ez20.symm) (Nat.le_of_ble_eq_true rfl) (lv' := [(4, .int z20), (0, .ref (sz0 + 0)), (1, .long x1), (3, .int x3)]) rfl ?_
          refine v_goto (pc := 95) cx dX0_triesNew_95 (tgt := 36) rfl ?_
          refine v_sub (lv' := [(0, .ref (sz0 + 0)), (1, .long x1), (3, .int x3), (4, .int z20)]) [1, 2, 3, 0] rfl ?_
          exact ih x1 x3 z20 M14 sh h
def m_X0_triesNew  (M : WM)  (Q : WM → Prop) : Prop := (m_X0_within ((wI M 177 1)) ((1 : Int32)) ((8 : Int32)) (fun (a1 : Int32) => ((a1 = 0 → Q M) ∧ (¬ a1 = 0 → (m_X0_wordOf 177 M (fun (a3 : Int32) => ((a3 = ((-1) : Int32) → (∃ n0, m_X0_triesNew_l36 Q n0 ((0 : Int64)) ((0 : Int32)) ((0 : Int32)) M)) ∧ (¬ a3 = ((-1) : Int32) → Q M))))))))
theorem c_X0_triesNew (l : Launch) (D : va_G) (cA : Nat → ClassId) (sz0 : Nat) (H0 : Heap) (M : WM)    (Q : WM → Prop) (sh : Shp M) (h : m_X0_triesNew  M  Q) : Met l yX0_triesNew (ws_ yX0_triesNew cX0_triesNew 5 none) ({ frames := 3, cells := 0, slots := 0, locals := 63 } : Room) (PcW D cA sz0 H0 [.ref (sz0 + 0)] M) (QW_v D cA sz0 H0 (fun M' => Q M' ∧ Shp M')) 0 0 (Aw sz0) := by
  replace h : (m_X0_within ((wI M 177 1)) ((1 : Int32)) ((8 : Int32)) (fun (a1 : Int32) => ((a1 = 0 → Q M) ∧ (¬ a1 = 0 → (m_X0_wordOf 177 M (fun (a3 : Int32) => ((a3 = ((-1) : Int32) → (∃ n0, m_X0_triesNew_l36 Q n0 ((0 : Int64)) ((0 : Int32)) ((0 : Int32)) M)) ∧ (¬ a3 = ((-1) : Int32) → Q M)))))))) := h
  refine Met.ofV (by decide +kernel) (Nat.le_of_ble_eq_true rfl) ?_
  intro p e s m args below meth c cx hnm
  replace cx : Cx p s m args meth c cX0_triesNew 5 RX0 none D cA sz0 H0 := cx
  refine v_sub (lv' := [(0, .ref (sz0 + 0))]) [0] rfl ?_
  refine v_aload_n (pc := 0) cx dX0_triesNew_0 rfl 0 rfl ?_
  refine gq294_X0 (pc := 1) cx dX0_triesNew_1 (sh.k k_0) (v_some (sh.r r_0_19) ?_)
  refine gq196_X2 (pc := 4) cx dX0_triesNew_4 (sh.k k_177) ?_
  refine v_iconst (pc := 7) cx dX0_triesNew_7 ic_1 ?_
  refine v_bipush (pc := 8) cx dX0_triesNew_8 bc_8 ?_
  refine v_runp_i (pc := 10) cx (kcq387_X0 cx (c_X0_within l D cA sz0 H0 M ((wI M 177 1)) ((1 : Int32)) ((8 : Int32))  _ h) ⟨Nat.le_of_ble_eq_true rfl, Nat.le_of_ble_eq_true rfl⟩ (As := [.int (wI M 177 1), .int (1 : Int32), .int (8 : Int32)]) rfl rfl (Nat.le_of_ble_eq_true rfl) dX0_triesNew_10 ⟨Nat.le_of_ble_eq_true rfl, Nat.le_of_ble_eq_true rfl⟩) (fun a1 hq => ?_)
  replace h := hq
  refine v_if_eq (pc := 13) cx dX0_triesNew_13 (tgt := 28) rfl (fun c2 => ?_) (fun c2 => ?_)
  · replace h := h.1 c2
    exact v_vret cx rfl dX0_triesNew_28 ⟨Nat.le_of_ble_eq_true rfl, Nat.le_of_ble_eq_true rfl⟩ ⟨h, sh⟩
  · replace h := h.2 c2
    refine v_aload_n (pc := 16) cx dX0_triesNew_16 rfl 0 rfl ?_
    refine v_aload_n (pc := 17) cx dX0_triesNew_17 rfl 0 rfl ?_
    refine gq294_X0 (pc := 18) cx dX0_triesNew_18 (sh.k k_0) (v_some (sh.r r_0_19) ?_)
    refine v_runp_i (pc := 21) cx (kcq405_X0 cx (c_X0_wordOf l D cA sz0 H0 M 177 isLn_177 _ sh h) ⟨Nat.le_of_ble_eq_true rfl, Nat.le_of_ble_eq_true rfl⟩ (sh.k k_0) (As := [.ref (sz0 + 177)]) rfl rfl (Nat.le_of_ble_eq_true rfl) dX0_triesNew_21 ⟨Nat.le_of_ble_eq_true rfl, Nat.le_of_ble_eq_true rfl⟩) (fun a3 hq => ?_)
    replace h := hq
    refine v_iconst (pc := 24) cx dX0_triesNew_24 ic_m1 ?_
    refine v_icmp_eq (pc := 25) cx dX0_triesNew_25 (tgt := 29) rfl (fun c4 => ?_) (fun c4 => ?_)
    · replace h := h.1 c4
      refine v_lconst (pc := 29) cx dX0_triesNew_29 lc_0 ?_
      refine v_lstore_n (pc := 30) cx dX0_triesNew_30 rfl (Nat.le_of_ble_eq_true rfl) (lv' := [(1, .long (0 : Int64)), (0, .ref (sz0 + 0))]) rfl ?_
      refine v_iconst (pc := 31) cx dX0_triesNew_31 ic_0 ?_
      refine v_istore_n (pc := 32) cx dX0_triesNew_32 rfl (Nat.le_of_ble_eq_true rfl) (lv' := [(3, .int (0 : Int32)), (1, .long (0 : Int64)), (0, .ref (sz0 + 0))]) rfl ?_
      refine v_iconst (pc := 33) cx dX0_triesNew_33 ic_0 ?_
      refine v_istore (pc := 34) cx dX0_triesNew_34 (Nat.le_of_ble_eq_true rfl) (lv' := [(4, .int (0 : Int32)), (3, .int (0 : Int32)), (1, .long (0 : Int64)), (0, .ref (sz0 + 0))]) rfl ?_
      refine v_sub (lv' := [(0, .ref (sz0 + 0)), (1, .long (0 : Int64)), (3, .int (0 : Int32)), (4, .int (0 : Int32))]) [3, 2, 1, 0] rfl ?_
      obtain ⟨n0, h⟩ := h
      exact w_X0_triesNew_l36 cx n0 ((0 : Int64)) ((0 : Int32)) ((0 : Int32)) M sh h
    · replace h := h.2 c4
      exact v_vret cx rfl dX0_triesNew_28 ⟨Nat.le_of_ble_eq_true rfl, Nat.le_of_ble_eq_true rfl⟩ ⟨h, sh⟩
/-! LetterHeaps.triesLetters(LLetterHeaps$Line;IZ)V -/
def m_X0_triesLetters_j78  (K3 : Int32 → WM → Prop) (K20 : Int32 → WM → Prop) (x1 : Nat) (x2 : Int32) (x3 : Int32) (x4 : Int32) (x5 : Int32) (y0 : Int32)   (Q : WM → Prop) (M : WM) : Prop := (m_X2_adds 177 y0 M (fun (M2 : WM) => (∀ z3 : Int32, z3 = x5 + (1 : Int32) → K20 z3 M2)))
theorem w_X0_triesLetters_j78 {p : Program} {l : Launch} {e : Env} {s : State} {m : MethodId} {args : Array Value} {below : List Frame} {meth : Method} {c : Code} {D : va_G} {cA : Nat → ClassId} {sz0 : Nat} {H0 : Heap}  {K3 : Int32 → WM → Prop} {K20 : Int32 → WM → Prop} {x1 : Nat} {x2 : Int32} {x3 : Int32} {x4 : Int32} {x5 : Int32} {y0 : Int32} {Q : WM → Prop}  (cx : Cx p s m args meth c cX0_triesLetters 6 RX0 none D cA sz0 H0)  (hK3 : ∀ (x4 : Int32)  (M : WM) (sh : Shp M), K3 x4 M → V p l e ({ frames := 4, cells := 0, slots := 0, locals := 87 } : Room) s m args below meth c 6 D cA sz0 H0 0 0 (MQ below (QW_v D cA sz0 H0 (fun M' => Q M' ∧ Shp M')) args s 0 0 (Aw sz0)) 3 [(0, .ref (sz0 + 0)), (1, .ref (sz0 + x1)), (2, .int x2), (3, .int x3), (4, .int x4)] [] M) (hK20 : ∀ (x5 : Int32)  (M : WM) (sh : Shp M), K20 x5 M → V p l e ({ frames := 4, cells := 0, slots := 0, locals := 87 } : Room) s m args below meth c 6 D cA sz0 H0 0 0 (MQ below (QW_v D cA sz0 H0 (fun M' => Q M' ∧ Shp M')) args s 0 0 (Aw sz0)) 20 [(0, .ref (sz0 + 0)), (1, .ref (sz0 + x1)), (2, .int x2), (3, .int x3), (4, .int x4), (5, .int x5)] [] M) (hx1 : isLn x1)    (M : WM) (sh : Shp M) (h : m_X0_triesLetters_j78 K3 K20 x1 x2 x3 x4 x5 y0 Q M) : V p l e ({ frames := 4, cells := 0, slots := 0, locals := 87 } : Room) s m args below meth c 6 D cA sz0 H0 0 0 (MQ below (QW_v D cA sz0 H0 (fun M' => Q M' ∧ Shp M')) args s 0 0 (Aw sz0)) 78 [(0, .ref (sz0 + 0)), (1, .ref (sz0 + x1)), (2, .int x2), (3, .int x3), (4, .int x4), (5, .int x5)] [.int y0, .ref (sz0 + 177)] M := by
  replace h : (m_X2_adds 177 y0 M (fun (M2 : WM) => (∀ z3 : Int32, z3 = x5 + (1 : Int32) → K20 z3 M2))) := h
  refine v_run_v (pc := 78) cx (kcq401_X0 cx (c_X2_adds l D cA sz0 H0 M 177 y0 isLn_177 _ sh h) ⟨Nat.le_of_ble_eq_true rfl, Nat.le_of_ble_eq_true rfl⟩ (sh.k k_177) (As := [.int y0]) rfl rfl (Nat.le_of_ble_eq_true rfl) dX0_triesLetters_78 ⟨Nat.le_of_ble_eq_true rfl, Nat.le_of_ble_eq_true rfl⟩) (fun M2 hq => ?_)
  obtain ⟨h, sh⟩ := hq
  refine nm_x (x5 + (1 : Int32)) (fun z3 ez3 => ?_)
  replace h := h z3 ez3
  refine v_iinc (pc := 81) cx dX0_triesLetters_81 (q := 5) rfl ((ii_1 _).trans ez3.symm) (Nat.le_of_ble_eq_true rfl) (lv' := [(5, .int z3), (0, .ref (sz0 + 0)), (1, .ref (sz0 + x1)), (2, .int x2), (3, .int x3), (4, .int x4)]) rfl ?_
  refine v_goto (pc := 84) cx dX0_triesLetters_84 (tgt := 20) rfl ?_
  refine v_sub (lv' := [(0, .ref (sz0 + 0)), (1, .ref (sz0 + x1)), (2, .int x2), (3, .int x3), (4, .int x4), (5, .int z3)]) [1, 2, 3, 4, 5, 0] rfl ?_
  exact hK20 z3 M2 sh h
def m_X0_triesLetters_j77  (K3 : Int32 → WM → Prop) (K20 : Int32 → WM → Prop) (x1 : Nat) (x2 : Int32) (x3 : Int32) (x4 : Int32) (x5 : Int32) (y0 : Int32) (y1 : Nat)   (Q : WM → Prop) (M : WM) : Prop := (vp_in y0 13 ∧ m_X0_triesLetters_j78 K3 K20 x1 x2 x3 x4 x5 ((wI M y1 y0.toNatClampNeg)) Q M)
theorem w_X0_triesLetters_j77 {p : Program} {l : Launch} {e : Env} {s : State} {m : MethodId} {args : Array Value} {below : List Frame} {meth : Method} {c : Code} {D : va_G} {cA : Nat → ClassId} {sz0 : Nat} {H0 : Heap}  {K3 : Int32 → WM → Prop} {K20 : Int32 → WM → Prop} {x1 : Nat} {x2 : Int32} {x3 : Int32} {x4 : Int32} {x5 : Int32} {y0 : Int32} {y1 : Nat} {Q : WM → Prop}  (cx : Cx p s m args meth c cX0_triesLetters 6 RX0 none D cA sz0 H0)  (hK3 : ∀ (x4 : Int32)  (M : WM) (sh : Shp M), K3 x4 M → V p l e ({ frames := 4, cells := 0, slots := 0, locals := 87 } : Room) s m args below meth c 6 D cA sz0 H0 0 0 (MQ below (QW_v D cA sz0 H0 (fun M' => Q M' ∧ Shp M')) args s 0 0 (Aw sz0)) 3 [(0, .ref (sz0 + 0)), (1, .ref (sz0 + x1)), (2, .int x2), (3, .int x3), (4, .int x4)] [] M) (hK20 : ∀ (x5 : Int32)  (M : WM) (sh : Shp M), K20 x5 M → V p l e ({ frames := 4, cells := 0, slots := 0, locals := 87 } : Room) s m args below meth c 6 D cA sz0 H0 0 0 (MQ below (QW_v D cA sz0 H0 (fun M' => Q M' ∧ Shp M')) args s 0 0 (Aw sz0)) 20 [(0, .ref (sz0 + 0)), (1, .ref (sz0 + x1)), (2, .int x2), (3, .int x3), (4, .int x4), (5, .int x5)] [] M) (hx1 : isLn x1) (hky1 : shK y1 = some 100) (hly1 : shL y1 = 13)    (M : WM) (sh : Shp M) (h : m_X0_triesLetters_j77 K3 K20 x1 x2 x3 x4 x5 y0 y1 Q M) : V p l e ({ frames := 4, cells := 0, slots := 0, locals := 87 } : Room) s m args below meth c 6 D cA sz0 H0 0 0 (MQ below (QW_v D cA sz0 H0 (fun M' => Q M' ∧ Shp M')) args s 0 0 (Aw sz0)) 77 [(0, .ref (sz0 + 0)), (1, .ref (sz0 + x1)), (2, .int x2), (3, .int x3), (4, .int x4), (5, .int x5)] [.int y0, .ref (sz0 + y1), .ref (sz0 + 177)] M := by
  replace h : (vp_in y0 13 ∧ m_X0_triesLetters_j78 K3 K20 x1 x2 x3 x4 x5 ((wI M y1 y0.toNatClampNeg)) Q M) := h
  obtain ⟨b1, h⟩ := h
  refine v_iald (pc := 77) cx dX0_triesLetters_77 (sh.k hky1) (sh.l hky1 hly1) b1 ?_
  refine v_sub (lv' := [(0, .ref (sz0 + 0)), (1, .ref (sz0 + x1)), (2, .int x2), (3, .int x3), (4, .int x4), (5, .int x5)]) [0, 1, 2, 3, 4, 5] rfl ?_
  exact w_X0_triesLetters_j78 cx hK3 hK20 hx1 M sh h
def m_X0_triesLetters_j75  (K3 : Int32 → WM → Prop) (K20 : Int32 → WM → Prop) (x1 : Nat) (x2 : Int32) (x3 : Int32) (x4 : Int32) (x5 : Int32) (y0 : Nat)   (Q : WM → Prop) (M : WM) : Prop := m_X0_triesLetters_j77 K3 K20 x1 x2 x3 x4 x5 x5 y0 Q M
theorem w_X0_triesLetters_j75 {p : Program} {l : Launch} {e : Env} {s : State} {m : MethodId} {args : Array Value} {below : List Frame} {meth : Method} {c : Code} {D : va_G} {cA : Nat → ClassId} {sz0 : Nat} {H0 : Heap}  {K3 : Int32 → WM → Prop} {K20 : Int32 → WM → Prop} {x1 : Nat} {x2 : Int32} {x3 : Int32} {x4 : Int32} {x5 : Int32} {y0 : Nat} {Q : WM → Prop}  (cx : Cx p s m args meth c cX0_triesLetters 6 RX0 none D cA sz0 H0)  (hK3 : ∀ (x4 : Int32)  (M : WM) (sh : Shp M), K3 x4 M → V p l e ({ frames := 4, cells := 0, slots := 0, locals := 87 } : Room) s m args below meth c 6 D cA sz0 H0 0 0 (MQ below (QW_v D cA sz0 H0 (fun M' => Q M' ∧ Shp M')) args s 0 0 (Aw sz0)) 3 [(0, .ref (sz0 + 0)), (1, .ref (sz0 + x1)), (2, .int x2), (3, .int x3), (4, .int x4)] [] M) (hK20 : ∀ (x5 : Int32)  (M : WM) (sh : Shp M), K20 x5 M → V p l e ({ frames := 4, cells := 0, slots := 0, locals := 87 } : Room) s m args below meth c 6 D cA sz0 H0 0 0 (MQ below (QW_v D cA sz0 H0 (fun M' => Q M' ∧ Shp M')) args s 0 0 (Aw sz0)) 20 [(0, .ref (sz0 + 0)), (1, .ref (sz0 + x1)), (2, .int x2), (3, .int x3), (4, .int x4), (5, .int x5)] [] M) (hx1 : isLn x1) (hky0 : shK y0 = some 100) (hly0 : shL y0 = 13)    (M : WM) (sh : Shp M) (h : m_X0_triesLetters_j75 K3 K20 x1 x2 x3 x4 x5 y0 Q M) : V p l e ({ frames := 4, cells := 0, slots := 0, locals := 87 } : Room) s m args below meth c 6 D cA sz0 H0 0 0 (MQ below (QW_v D cA sz0 H0 (fun M' => Q M' ∧ Shp M')) args s 0 0 (Aw sz0)) 75 [(0, .ref (sz0 + 0)), (1, .ref (sz0 + x1)), (2, .int x2), (3, .int x3), (4, .int x4), (5, .int x5)] [.ref (sz0 + y0), .ref (sz0 + 177)] M := by
  replace h : m_X0_triesLetters_j77 K3 K20 x1 x2 x3 x4 x5 x5 y0 Q M := h
  refine v_iload (pc := 75) cx dX0_triesLetters_75 5 rfl ?_
  refine v_sub (lv' := [(0, .ref (sz0 + 0)), (1, .ref (sz0 + x1)), (2, .int x2), (3, .int x3), (4, .int x4), (5, .int x5)]) [0, 1, 2, 3, 4, 5] rfl ?_
  exact w_X0_triesLetters_j77 cx hK3 hK20 hx1 hky0 hly0 M sh h
def m_X0_triesLetters_j35  (K3 : Int32 → WM → Prop) (K20 : Int32 → WM → Prop) (x1 : Nat) (x2 : Int32) (x3 : Int32) (x4 : Int32) (x5 : Int32) (y0 : Int32) (y1 : Int32) (y2 : Int32)   (Q : WM → Prop) (M : WM) : Prop := (((y1 + y0) ≤ y2 → (m_X0_triesNew  M (fun (M3 : WM) => (∀ z4 : Int32, z4 = x4 + (1 : Int32) → K3 z4 M3)))) ∧ (¬ (y1 + y0) ≤ y2 → ((x5 = x2 → m_X0_triesLetters_j78 K3 K20 x1 x2 x3 x4 x5 x4 Q M) ∧ (¬ x5 = x2 → ((x3 = 0 → m_X0_triesLetters_j75 K3 K20 x1 x2 x3 x4 x5 ((x1 + 1)) Q M) ∧ (¬ x3 = 0 → ((x5 ≤ x2 → m_X0_triesLetters_j75 K3 K20 x1 x2 x3 x4 x5 ((x1 + 1)) Q M) ∧ (¬ x5 ≤ x2 → m_X0_triesLetters_j77 K3 K20 x1 x2 x3 x4 x5 ((x5 - (1 : Int32))) ((x1 + 1)) Q M))))))))
theorem w_X0_triesLetters_j35 {p : Program} {l : Launch} {e : Env} {s : State} {m : MethodId} {args : Array Value} {below : List Frame} {meth : Method} {c : Code} {D : va_G} {cA : Nat → ClassId} {sz0 : Nat} {H0 : Heap}  {K3 : Int32 → WM → Prop} {K20 : Int32 → WM → Prop} {x1 : Nat} {x2 : Int32} {x3 : Int32} {x4 : Int32} {x5 : Int32} {y0 : Int32} {y1 : Int32} {y2 : Int32} {Q : WM → Prop}  (cx : Cx p s m args meth c cX0_triesLetters 6 RX0 none D cA sz0 H0)  (hK3 : ∀ (x4 : Int32)  (M : WM) (sh : Shp M), K3 x4 M → V p l e ({ frames := 4, cells := 0, slots := 0, locals := 87 } : Room) s m args below meth c 6 D cA sz0 H0 0 0 (MQ below (QW_v D cA sz0 H0 (fun M' => Q M' ∧ Shp M')) args s 0 0 (Aw sz0)) 3 [(0, .ref (sz0 + 0)), (1, .ref (sz0 + x1)), (2, .int x2), (3, .int x3), (4, .int x4)] [] M) (hK20 : ∀ (x5 : Int32)  (M : WM) (sh : Shp M), K20 x5 M → V p l e ({ frames := 4, cells := 0, slots := 0, locals := 87 } : Room) s m args below meth c 6 D cA sz0 H0 0 0 (MQ below (QW_v D cA sz0 H0 (fun M' => Q M' ∧ Shp M')) args s 0 0 (Aw sz0)) 20 [(0, .ref (sz0 + 0)), (1, .ref (sz0 + x1)), (2, .int x2), (3, .int x3), (4, .int x4), (5, .int x5)] [] M) (hx1 : isLn x1)    (M : WM) (sh : Shp M) (h : m_X0_triesLetters_j35 K3 K20 x1 x2 x3 x4 x5 y0 y1 y2 Q M) : V p l e ({ frames := 4, cells := 0, slots := 0, locals := 87 } : Room) s m args below meth c 6 D cA sz0 H0 0 0 (MQ below (QW_v D cA sz0 H0 (fun M' => Q M' ∧ Shp M')) args s 0 0 (Aw sz0)) 35 [(0, .ref (sz0 + 0)), (1, .ref (sz0 + x1)), (2, .int x2), (3, .int x3), (4, .int x4), (5, .int x5)] [.int y0, .int y1, .int y2] M := by
  replace h : (((y1 + y0) ≤ y2 → (m_X0_triesNew  M (fun (M3 : WM) => (∀ z4 : Int32, z4 = x4 + (1 : Int32) → K3 z4 M3)))) ∧ (¬ (y1 + y0) ≤ y2 → ((x5 = x2 → m_X0_triesLetters_j78 K3 K20 x1 x2 x3 x4 x5 x4 Q M) ∧ (¬ x5 = x2 → ((x3 = 0 → m_X0_triesLetters_j75 K3 K20 x1 x2 x3 x4 x5 ((x1 + 1)) Q M) ∧ (¬ x3 = 0 → ((x5 ≤ x2 → m_X0_triesLetters_j75 K3 K20 x1 x2 x3 x4 x5 ((x1 + 1)) Q M) ∧ (¬ x5 ≤ x2 → m_X0_triesLetters_j77 K3 K20 x1 x2 x3 x4 x5 ((x5 - (1 : Int32))) ((x1 + 1)) Q M)))))))) := h
  refine v_iadd (pc := 35) cx dX0_triesLetters_35 ?_
  refine v_icmp_ge (pc := 36) cx dX0_triesLetters_36 (tgt := 87) rfl (fun c1 => ?_) (fun c1 => ?_)
  · replace h := h.1 c1
    refine v_aload_n (pc := 87) cx dX0_triesLetters_87 rfl 0 rfl ?_
    refine v_run_v (pc := 88) cx (kcq874_X0 cx (c_X0_triesNew l D cA sz0 H0 M   _ sh h) ⟨Nat.le_of_ble_eq_true rfl, Nat.le_of_ble_eq_true rfl⟩ (sh.k k_0) (As := []) rfl rfl (Nat.le_of_ble_eq_true rfl) dX0_triesLetters_88 ⟨Nat.le_of_ble_eq_true rfl, Nat.le_of_ble_eq_true rfl⟩) (fun M3 hq => ?_)
    obtain ⟨h, sh⟩ := hq
    refine nm_x (x4 + (1 : Int32)) (fun z4 ez4 => ?_)
    replace h := h z4 ez4
    refine v_iinc (pc := 91) cx dX0_triesLetters_91 (q := 4) rfl ((ii_1 _).trans ez4.symm) (Nat.le_of_ble_eq_true rfl) (lv' := [(4, .int z4), (0, .ref (sz0 + 0)), (1, .ref (sz0 + x1)), (2, .int x2), (3, .int x3), (5, .int x5)]) rfl ?_
    refine v_goto (pc := 94) cx dX0_triesLetters_94 (tgt := 3) rfl ?_
    refine v_sub (lv' := [(0, .ref (sz0 + 0)), (1, .ref (sz0 + x1)), (2, .int x2), (3, .int x3), (4, .int z4)]) [1, 2, 3, 4, 0] rfl ?_
    exact hK3 z4 M3 sh h
  · replace h := h.2 c1
    refine v_aload_n (pc := 39) cx dX0_triesLetters_39 rfl 0 rfl ?_
    refine gq294_X0 (pc := 40) cx dX0_triesLetters_40 (sh.k k_0) (v_some (sh.r r_0_19) ?_)
    refine v_iload (pc := 43) cx dX0_triesLetters_43 5 rfl ?_
    refine v_iload_n (pc := 45) cx dX0_triesLetters_45 rfl 2 rfl ?_
    refine v_icmp_ne (pc := 46) cx dX0_triesLetters_46 (tgt := 54) rfl (fun c5 => ?_) (fun c5 => ?_)
    · replace h := h.2 c5
      refine v_aload_n (pc := 54) cx dX0_triesLetters_54 rfl 1 rfl ?_
      refine gq193_X2 (pc := 55) cx dX0_triesLetters_55 (sh.k (hx1).1) (v_some (sh.r (hx1).2.2.2) ?_)
      refine v_iload_n (pc := 58) cx dX0_triesLetters_58 rfl 3 rfl ?_
      refine v_if_eq (pc := 59) cx dX0_triesLetters_59 (tgt := 75) rfl (fun c6 => ?_) (fun c6 => ?_)
      · replace h := h.1 c6
        refine v_sub (lv' := [(0, .ref (sz0 + 0)), (1, .ref (sz0 + x1)), (2, .int x2), (3, .int x3), (4, .int x4), (5, .int x5)]) [0, 1, 2, 3, 4, 5] rfl ?_
        exact w_X0_triesLetters_j75 cx hK3 hK20 hx1 ((hx1).2.1) ((hx1).2.2.1) M sh h
      · replace h := h.2 c6
        refine v_iload (pc := 62) cx dX0_triesLetters_62 5 rfl ?_
        refine v_iload_n (pc := 64) cx dX0_triesLetters_64 rfl 2 rfl ?_
        refine v_icmp_le (pc := 65) cx dX0_triesLetters_65 (tgt := 75) rfl (fun c7 => ?_) (fun c7 => ?_)
        · replace h := h.1 c7
          refine v_sub (lv' := [(0, .ref (sz0 + 0)), (1, .ref (sz0 + x1)), (2, .int x2), (3, .int x3), (4, .int x4), (5, .int x5)]) [0, 1, 2, 3, 4, 5] rfl ?_
          exact w_X0_triesLetters_j75 cx hK3 hK20 hx1 ((hx1).2.1) ((hx1).2.2.1) M sh h
        · replace h := h.2 c7
          refine v_iload (pc := 68) cx dX0_triesLetters_68 5 rfl ?_
          refine v_iconst (pc := 70) cx dX0_triesLetters_70 ic_1 ?_
          refine v_isub (pc := 71) cx dX0_triesLetters_71 ?_
          refine v_goto (pc := 72) cx dX0_triesLetters_72 (tgt := 77) rfl ?_
          refine v_sub (lv' := [(0, .ref (sz0 + 0)), (1, .ref (sz0 + x1)), (2, .int x2), (3, .int x3), (4, .int x4), (5, .int x5)]) [0, 1, 2, 3, 4, 5] rfl ?_
          exact w_X0_triesLetters_j77 cx hK3 hK20 hx1 ((hx1).2.1) ((hx1).2.2.1) M sh h
    · replace h := h.1 c5
      refine v_iload (pc := 49) cx dX0_triesLetters_49 4 rfl ?_
      refine v_goto (pc := 51) cx dX0_triesLetters_51 (tgt := 78) rfl ?_
      refine v_sub (lv' := [(0, .ref (sz0 + 0)), (1, .ref (sz0 + x1)), (2, .int x2), (3, .int x3), (4, .int x4), (5, .int x5)]) [0, 1, 2, 3, 4, 5] rfl ?_
      exact w_X0_triesLetters_j78 cx hK3 hK20 hx1 M sh h
def m_X0_triesLetters_l20  (K3 : Int32 → WM → Prop) (x1 : Nat) (x2 : Int32) (x3 : Int32) (x4 : Int32)   (Q : WM → Prop) : Nat → Int32 → WM → Prop
  | 0, _, _ => False
  | n + 1, x5, M => ((x3 = 0 → m_X0_triesLetters_j35 K3 (fun x5' M' => m_X0_triesLetters_l20 K3 x1 x2 x3 x4 Q n x5' M') x1 x2 x3 x4 x5 ((0 : Int32)) ((wI M x1 1)) x5 Q M) ∧ (¬ x3 = 0 → m_X0_triesLetters_j35 K3 (fun x5' M' => m_X0_triesLetters_l20 K3 x1 x2 x3 x4 Q n x5' M') x1 x2 x3 x4 x5 ((1 : Int32)) ((wI M x1 1)) x5 Q M))
theorem w_X0_triesLetters_l20 {p : Program} {l : Launch} {e : Env} {s : State} {m : MethodId} {args : Array Value} {below : List Frame} {meth : Method} {c : Code} {D : va_G} {cA : Nat → ClassId} {sz0 : Nat} {H0 : Heap}  {K3 : Int32 → WM → Prop} {x1 : Nat} {x2 : Int32} {x3 : Int32} {x4 : Int32} {Q : WM → Prop}  (cx : Cx p s m args meth c cX0_triesLetters 6 RX0 none D cA sz0 H0)  (hK3 : ∀ (x4 : Int32)  (M : WM) (sh : Shp M), K3 x4 M → V p l e ({ frames := 4, cells := 0, slots := 0, locals := 87 } : Room) s m args below meth c 6 D cA sz0 H0 0 0 (MQ below (QW_v D cA sz0 H0 (fun M' => Q M' ∧ Shp M')) args s 0 0 (Aw sz0)) 3 [(0, .ref (sz0 + 0)), (1, .ref (sz0 + x1)), (2, .int x2), (3, .int x3), (4, .int x4)] [] M) (hx1 : isLn x1)  : ∀ (n : Nat) (x5 : Int32)  (M : WM) (sh : Shp M), m_X0_triesLetters_l20 K3 x1 x2 x3 x4 Q n x5 M → V p l e ({ frames := 4, cells := 0, slots := 0, locals := 87 } : Room) s m args below meth c 6 D cA sz0 H0 0 0 (MQ below (QW_v D cA sz0 H0 (fun M' => Q M' ∧ Shp M')) args s 0 0 (Aw sz0)) 20 [(0, .ref (sz0 + 0)), (1, .ref (sz0 + x1)), (2, .int x2), (3, .int x3), (4, .int x4), (5, .int x5)] [] M := by
  intro n
  induction n with
  | zero => intro x5 M sh h; exact h.elim
  | succ n ih =>
    intro x5 M sh h
    replace h : ((x3 = 0 → m_X0_triesLetters_j35 K3 (fun x5' M' => m_X0_triesLetters_l20 K3 x1 x2 x3 x4 Q n x5' M') x1 x2 x3 x4 x5 ((0 : Int32)) ((wI M x1 1)) x5 Q M) ∧ (¬ x3 = 0 → m_X0_triesLetters_j35 K3 (fun x5' M' => m_X0_triesLetters_l20 K3 x1 x2 x3 x4 Q n x5' M') x1 x2 x3 x4 x5 ((1 : Int32)) ((wI M x1 1)) x5 Q M)) := h
    refine v_iload (pc := 20) cx dX0_triesLetters_20 5 rfl ?_
    refine v_aload_n (pc := 22) cx dX0_triesLetters_22 rfl 1 rfl ?_
    refine gq196_X2 (pc := 23) cx dX0_triesLetters_23 (sh.k (hx1).1) ?_
    refine v_iload_n (pc := 26) cx dX0_triesLetters_26 rfl 3 rfl ?_
    refine v_if_eq (pc := 27) cx dX0_triesLetters_27 (tgt := 34) rfl (fun c1 => ?_) (fun c1 => ?_)
    · replace h := h.1 c1
      refine v_iconst (pc := 34) cx dX0_triesLetters_34 ic_0 ?_
      refine v_sub (lv' := [(0, .ref (sz0 + 0)), (1, .ref (sz0 + x1)), (2, .int x2), (3, .int x3), (4, .int x4), (5, .int x5)]) [0, 1, 2, 3, 4, 5] rfl ?_
      exact w_X0_triesLetters_j35 cx hK3 ih hx1 M sh h
    · replace h := h.2 c1
      refine v_iconst (pc := 30) cx dX0_triesLetters_30 ic_1 ?_
      refine v_goto (pc := 31) cx dX0_triesLetters_31 (tgt := 35) rfl ?_
      refine v_sub (lv' := [(0, .ref (sz0 + 0)), (1, .ref (sz0 + x1)), (2, .int x2), (3, .int x3), (4, .int x4), (5, .int x5)]) [0, 1, 2, 3, 4, 5] rfl ?_
      exact w_X0_triesLetters_j35 cx hK3 ih hx1 M sh h
def m_X0_triesLetters_l3   (x1 : Nat) (x2 : Int32) (x3 : Int32)   (Q : WM → Prop) : Nat → Int32 → WM → Prop
  | 0, _, _ => False
  | n + 1, x4, M => (((26 : Int32) ≤ x4 → Q M) ∧ (¬ (26 : Int32) ≤ x4 → (m_X2_clears 177 M (fun (M3 : WM) => (∃ n0, m_X0_triesLetters_l20 (fun x4' M' => m_X0_triesLetters_l3 x1 x2 x3 Q n x4' M') x1 x2 x3 x4 Q n0 ((0 : Int32)) M3)))))
theorem w_X0_triesLetters_l3 {p : Program} {l : Launch} {e : Env} {s : State} {m : MethodId} {args : Array Value} {below : List Frame} {meth : Method} {c : Code} {D : va_G} {cA : Nat → ClassId} {sz0 : Nat} {H0 : Heap}  {x1 : Nat} {x2 : Int32} {x3 : Int32} {Q : WM → Prop}  (cx : Cx p s m args meth c cX0_triesLetters 6 RX0 none D cA sz0 H0)   (hx1 : isLn x1)  : ∀ (n : Nat) (x4 : Int32)  (M : WM) (sh : Shp M), m_X0_triesLetters_l3 x1 x2 x3 Q n x4 M → V p l e ({ frames := 4, cells := 0, slots := 0, locals := 87 } : Room) s m args below meth c 6 D cA sz0 H0 0 0 (MQ below (QW_v D cA sz0 H0 (fun M' => Q M' ∧ Shp M')) args s 0 0 (Aw sz0)) 3 [(0, .ref (sz0 + 0)), (1, .ref (sz0 + x1)), (2, .int x2), (3, .int x3), (4, .int x4)] [] M := by
  intro n
  induction n with
  | zero => intro x4 M sh h; exact h.elim
  | succ n ih =>
    intro x4 M sh h
    replace h : (((26 : Int32) ≤ x4 → Q M) ∧ (¬ (26 : Int32) ≤ x4 → (m_X2_clears 177 M (fun (M3 : WM) => (∃ n0, m_X0_triesLetters_l20 (fun x4' M' => m_X0_triesLetters_l3 x1 x2 x3 Q n x4' M') x1 x2 x3 x4 Q n0 ((0 : Int32)) M3))))) := h
    refine v_iload (pc := 3) cx dX0_triesLetters_3 4 rfl ?_
    refine v_bipush (pc := 5) cx dX0_triesLetters_5 bc_26 ?_
    refine v_icmp_ge (pc := 7) cx dX0_triesLetters_7 (tgt := 97) rfl (fun c1 => ?_) (fun c1 => ?_)
    · replace h := h.1 c1
      exact v_vret cx rfl dX0_triesLetters_97 ⟨Nat.le_of_ble_eq_true rfl, Nat.le_of_ble_eq_true rfl⟩ ⟨h, sh⟩
    · replace h := h.2 c1
      refine v_aload_n (pc := 10) cx dX0_triesLetters_10 rfl 0 rfl ?_
      refine gq294_X0 (pc := 11) cx dX0_triesLetters_11 (sh.k k_0) (v_some (sh.r r_0_19) ?_)
      refine v_run_v (pc := 14) cx (kcq397_X0 cx (c_X2_clears l D cA sz0 H0 M 177 isLn_177 _ sh h) ⟨Nat.le_of_ble_eq_true rfl, Nat.le_of_ble_eq_true rfl⟩ (sh.k k_177) (As := []) rfl rfl (Nat.le_of_ble_eq_true rfl) dX0_triesLetters_14 ⟨Nat.le_of_ble_eq_true rfl, Nat.le_of_ble_eq_true rfl⟩) (fun M3 hq => ?_)
      obtain ⟨h, sh⟩ := hq
      refine v_iconst (pc := 17) cx dX0_triesLetters_17 ic_0 ?_
      refine v_istore (pc := 18) cx dX0_triesLetters_18 (Nat.le_of_ble_eq_true rfl) (lv' := [(5, .int (0 : Int32)), (0, .ref (sz0 + 0)), (1, .ref (sz0 + x1)), (2, .int x2), (3, .int x3), (4, .int x4)]) rfl ?_
      refine v_sub (lv' := [(0, .ref (sz0 + 0)), (1, .ref (sz0 + x1)), (2, .int x2), (3, .int x3), (4, .int x4), (5, .int (0 : Int32))]) [1, 2, 3, 4, 5, 0] rfl ?_
      obtain ⟨n0, h⟩ := h
      exact w_X0_triesLetters_l20 cx ih hx1 n0 ((0 : Int32)) M3 sh h
def m_X0_triesLetters (x1 : Nat) (x2 : Int32) (x3 : Int32) (M : WM)  (Q : WM → Prop) : Prop := (∃ n0, m_X0_triesLetters_l3 x1 x2 x3 Q n0 ((0 : Int32)) M)
theorem c_X0_triesLetters (l : Launch) (D : va_G) (cA : Nat → ClassId) (sz0 : Nat) (H0 : Heap) (M : WM) (x1 : Nat) (x2 : Int32) (x3 : Int32) (hx1 : isLn x1)  (Q : WM → Prop) (sh : Shp M) (h : m_X0_triesLetters x1 x2 x3 M  Q) : Met l yX0_triesLetters (ws_ yX0_triesLetters cX0_triesLetters 6 none) ({ frames := 4, cells := 0, slots := 0, locals := 87 } : Room) (PcW D cA sz0 H0 [.ref (sz0 + 0), .ref (sz0 + x1), .int x2, .int x3] M) (QW_v D cA sz0 H0 (fun M' => Q M' ∧ Shp M')) 0 0 (Aw sz0) := by
  replace h : (∃ n0, m_X0_triesLetters_l3 x1 x2 x3 Q n0 ((0 : Int32)) M) := h
  refine Met.ofV (by decide +kernel) (Nat.le_of_ble_eq_true rfl) ?_
  intro p e s m args below meth c cx hnm
  replace cx : Cx p s m args meth c cX0_triesLetters 6 RX0 none D cA sz0 H0 := cx
  refine v_sub (lv' := [(0, .ref (sz0 + 0)), (1, .ref (sz0 + x1)), (2, .int x2), (3, .int x3)]) [0, 1, 2, 3] rfl ?_
  refine v_iconst (pc := 0) cx dX0_triesLetters_0 ic_0 ?_
  refine v_istore (pc := 1) cx dX0_triesLetters_1 (Nat.le_of_ble_eq_true rfl) (lv' := [(4, .int (0 : Int32)), (0, .ref (sz0 + 0)), (1, .ref (sz0 + x1)), (2, .int x2), (3, .int x3)]) rfl ?_
  refine v_sub (lv' := [(0, .ref (sz0 + 0)), (1, .ref (sz0 + x1)), (2, .int x2), (3, .int x3), (4, .int (0 : Int32))]) [1, 2, 3, 4, 0] rfl ?_
  obtain ⟨n0, h⟩ := h
  exact w_X0_triesLetters_l3 cx hx1 n0 ((0 : Int32)) M sh h
/-! LetterHeaps.triesFewer(LLetterHeaps$Line;I)V -/
def m_X0_triesFewer_l9   (x1 : Nat) (x2 : Int32)   (Q : WM → Prop) : Nat → Int32 → WM → Prop
  | 0, _, _ => False
  | n + 1, x3, M => (((wI M x1 1) ≤ x3 → (m_X0_triesNew  M (fun (M3 : WM) => Q M3))) ∧ (¬ (wI M x1 1) ≤ x3 → ((x3 = x2 → (∀ z5 : Int32, z5 = x3 + (1 : Int32) → m_X0_triesFewer_l9 x1 x2 Q n z5 M)) ∧ (¬ x3 = x2 → (vp_in x3 13 ∧ (m_X2_adds 177 ((wI M ((x1 + 1)) x3.toNatClampNeg)) M (fun (M8 : WM) => (∀ z9 : Int32, z9 = x3 + (1 : Int32) → m_X0_triesFewer_l9 x1 x2 Q n z9 M8))))))))
theorem w_X0_triesFewer_l9 {p : Program} {l : Launch} {e : Env} {s : State} {m : MethodId} {args : Array Value} {below : List Frame} {meth : Method} {c : Code} {D : va_G} {cA : Nat → ClassId} {sz0 : Nat} {H0 : Heap}  {x1 : Nat} {x2 : Int32} {Q : WM → Prop}  (cx : Cx p s m args meth c cX0_triesFewer 4 RX0 none D cA sz0 H0)   (hx1 : isLn x1)  : ∀ (n : Nat) (x3 : Int32)  (M : WM) (sh : Shp M), m_X0_triesFewer_l9 x1 x2 Q n x3 M → V p l e ({ frames := 4, cells := 0, slots := 0, locals := 87 } : Room) s m args below meth c 4 D cA sz0 H0 0 0 (MQ below (QW_v D cA sz0 H0 (fun M' => Q M' ∧ Shp M')) args s 0 0 (Aw sz0)) 9 [(0, .ref (sz0 + 0)), (1, .ref (sz0 + x1)), (2, .int x2), (3, .int x3)] [] M := by
  intro n
  induction n with
  | zero => intro x3 M sh h; exact h.elim
  | succ n ih =>
    intro x3 M sh h
    replace h : (((wI M x1 1) ≤ x3 → (m_X0_triesNew  M (fun (M3 : WM) => Q M3))) ∧ (¬ (wI M x1 1) ≤ x3 → ((x3 = x2 → (∀ z5 : Int32, z5 = x3 + (1 : Int32) → m_X0_triesFewer_l9 x1 x2 Q n z5 M)) ∧ (¬ x3 = x2 → (vp_in x3 13 ∧ (m_X2_adds 177 ((wI M ((x1 + 1)) x3.toNatClampNeg)) M (fun (M8 : WM) => (∀ z9 : Int32, z9 = x3 + (1 : Int32) → m_X0_triesFewer_l9 x1 x2 Q n z9 M8)))))))) := h
    refine v_iload_n (pc := 9) cx dX0_triesFewer_9 rfl 3 rfl ?_
    refine v_aload_n (pc := 10) cx dX0_triesFewer_10 rfl 1 rfl ?_
    refine gq196_X2 (pc := 11) cx dX0_triesFewer_11 (sh.k (hx1).1) ?_
    refine v_icmp_ge (pc := 14) cx dX0_triesFewer_14 (tgt := 41) rfl (fun c1 => ?_) (fun c1 => ?_)
    · replace h := h.1 c1
      refine v_aload_n (pc := 41) cx dX0_triesFewer_41 rfl 0 rfl ?_
      refine v_run_v (pc := 42) cx (kcq874_X0 cx (c_X0_triesNew l D cA sz0 H0 M   _ sh h) ⟨Nat.le_of_ble_eq_true rfl, Nat.le_of_ble_eq_true rfl⟩ (sh.k k_0) (As := []) rfl rfl (Nat.le_of_ble_eq_true rfl) dX0_triesFewer_42 ⟨Nat.le_of_ble_eq_true rfl, Nat.le_of_ble_eq_true rfl⟩) (fun M3 hq => ?_)
      obtain ⟨h, sh⟩ := hq
      exact v_vret cx rfl dX0_triesFewer_45 ⟨Nat.le_of_ble_eq_true rfl, Nat.le_of_ble_eq_true rfl⟩ ⟨h, sh⟩
    · replace h := h.2 c1
      refine v_iload_n (pc := 17) cx dX0_triesFewer_17 rfl 3 rfl ?_
      refine v_iload_n (pc := 18) cx dX0_triesFewer_18 rfl 2 rfl ?_
      refine v_icmp_eq (pc := 19) cx dX0_triesFewer_19 (tgt := 35) rfl (fun c4 => ?_) (fun c4 => ?_)
      · replace h := h.1 c4
        refine nm_x (x3 + (1 : Int32)) (fun z5 ez5 => ?_)
        replace h := h z5 ez5
        refine v_iinc (pc := 35) cx dX0_triesFewer_35 (q := 3) rfl ((ii_1 _).trans ez5.symm) (Nat.le_of_ble_eq_true rfl) (lv' := [(3, .int z5), (0, .ref (sz0 + 0)), (1, .ref (sz0 + x1)), (2, .int x2)]) rfl ?_
        refine v_goto (pc := 38) cx dX0_triesFewer_38 (tgt := 9) rfl ?_
        refine v_sub (lv' := [(0, .ref (sz0 + 0)), (1, .ref (sz0 + x1)), (2, .int x2), (3, .int z5)]) [1, 2, 3, 0] rfl ?_
        exact ih z5 M sh h
      · replace h := h.2 c4
        refine v_aload_n (pc := 22) cx dX0_triesFewer_22 rfl 0 rfl ?_
        refine gq294_X0 (pc := 23) cx dX0_triesFewer_23 (sh.k k_0) (v_some (sh.r r_0_19) ?_)
        refine v_aload_n (pc := 26) cx dX0_triesFewer_26 rfl 1 rfl ?_
        refine gq193_X2 (pc := 27) cx dX0_triesFewer_27 (sh.k (hx1).1) (v_some (sh.r (hx1).2.2.2) ?_)
        refine v_iload_n (pc := 30) cx dX0_triesFewer_30 rfl 3 rfl ?_
        obtain ⟨b6, h⟩ := h
        refine v_iald (pc := 31) cx dX0_triesFewer_31 (sh.k (hx1).2.1) (sh.l (hx1).2.1 (hx1).2.2.1) b6 ?_
        refine v_run_v (pc := 32) cx (kcq401_X0 cx (c_X2_adds l D cA sz0 H0 M 177 ((wI M ((x1 + 1)) x3.toNatClampNeg)) isLn_177 _ sh h) ⟨Nat.le_of_ble_eq_true rfl, Nat.le_of_ble_eq_true rfl⟩ (sh.k k_177) (As := [.int (wI M ((x1 + 1)) x3.toNatClampNeg)]) rfl rfl (Nat.le_of_ble_eq_true rfl) dX0_triesFewer_32 ⟨Nat.le_of_ble_eq_true rfl, Nat.le_of_ble_eq_true rfl⟩) (fun M8 hq => ?_)
        obtain ⟨h, sh⟩ := hq
        refine nm_x (x3 + (1 : Int32)) (fun z9 ez9 => ?_)
        replace h := h z9 ez9
        refine v_iinc (pc := 35) cx dX0_triesFewer_35 (q := 3) rfl ((ii_1 _).trans ez9.symm) (Nat.le_of_ble_eq_true rfl) (lv' := [(3, .int z9), (0, .ref (sz0 + 0)), (1, .ref (sz0 + x1)), (2, .int x2)]) rfl ?_
        refine v_goto (pc := 38) cx dX0_triesFewer_38 (tgt := 9) rfl ?_
        refine v_sub (lv' := [(0, .ref (sz0 + 0)), (1, .ref (sz0 + x1)), (2, .int x2), (3, .int z9)]) [1, 2, 3, 0] rfl ?_
        exact ih z9 M8 sh h
def m_X0_triesFewer (x1 : Nat) (x2 : Int32) (M : WM)  (Q : WM → Prop) : Prop := (m_X2_clears 177 M (fun (M2 : WM) => (∃ n0, m_X0_triesFewer_l9 x1 x2 Q n0 ((0 : Int32)) M2)))
theorem c_X0_triesFewer (l : Launch) (D : va_G) (cA : Nat → ClassId) (sz0 : Nat) (H0 : Heap) (M : WM) (x1 : Nat) (x2 : Int32) (hx1 : isLn x1)  (Q : WM → Prop) (sh : Shp M) (h : m_X0_triesFewer x1 x2 M  Q) : Met l yX0_triesFewer (ws_ yX0_triesFewer cX0_triesFewer 4 none) ({ frames := 4, cells := 0, slots := 0, locals := 87 } : Room) (PcW D cA sz0 H0 [.ref (sz0 + 0), .ref (sz0 + x1), .int x2] M) (QW_v D cA sz0 H0 (fun M' => Q M' ∧ Shp M')) 0 0 (Aw sz0) := by
  replace h : (m_X2_clears 177 M (fun (M2 : WM) => (∃ n0, m_X0_triesFewer_l9 x1 x2 Q n0 ((0 : Int32)) M2))) := h
  refine Met.ofV (by decide +kernel) (Nat.le_of_ble_eq_true rfl) ?_
  intro p e s m args below meth c cx hnm
  replace cx : Cx p s m args meth c cX0_triesFewer 4 RX0 none D cA sz0 H0 := cx
  refine v_sub (lv' := [(0, .ref (sz0 + 0)), (1, .ref (sz0 + x1)), (2, .int x2)]) [0, 1, 2] rfl ?_
  refine v_aload_n (pc := 0) cx dX0_triesFewer_0 rfl 0 rfl ?_
  refine gq294_X0 (pc := 1) cx dX0_triesFewer_1 (sh.k k_0) (v_some (sh.r r_0_19) ?_)
  refine v_run_v (pc := 4) cx (kcq397_X0 cx (c_X2_clears l D cA sz0 H0 M 177 isLn_177 _ sh h) ⟨Nat.le_of_ble_eq_true rfl, Nat.le_of_ble_eq_true rfl⟩ (sh.k k_177) (As := []) rfl rfl (Nat.le_of_ble_eq_true rfl) dX0_triesFewer_4 ⟨Nat.le_of_ble_eq_true rfl, Nat.le_of_ble_eq_true rfl⟩) (fun M2 hq => ?_)
  obtain ⟨h, sh⟩ := hq
  refine v_iconst (pc := 7) cx dX0_triesFewer_7 ic_0 ?_
  refine v_istore_n (pc := 8) cx dX0_triesFewer_8 rfl (Nat.le_of_ble_eq_true rfl) (lv' := [(3, .int (0 : Int32)), (0, .ref (sz0 + 0)), (1, .ref (sz0 + x1)), (2, .int x2)]) rfl ?_
  refine v_sub (lv' := [(0, .ref (sz0 + 0)), (1, .ref (sz0 + x1)), (2, .int x2), (3, .int (0 : Int32))]) [1, 2, 3, 0] rfl ?_
  obtain ⟨n0, h⟩ := h
  exact w_X0_triesFewer_l9 cx hx1 n0 ((0 : Int32)) M2 sh h
/-! LetterHeaps.triesAbout(LLetterHeaps$Line;I)V -/
def m_X0_triesAbout (x1 : Nat) (x2 : Int32) (M : WM)  (Q : WM → Prop) : Prop := (m_X2_takes 177 x1 M (fun (M2 : WM) => (vp_in ((x2 + (1 : Int32))) 13 ∧ (vp_in x2 13 ∧ (∀ M5 : WM, M5 = wPI M2 178 x2.toNatClampNeg ((wI M2 ((x1 + 1)) ((x2 + (1 : Int32))).toNatClampNeg)) → (vp_in x2 13 ∧ (vp_in ((x2 + (1 : Int32))) 13 ∧ (∀ M8 : WM, M8 = wPI M5 178 ((x2 + (1 : Int32))).toNatClampNeg ((wI M5 ((x1 + 1)) x2.toNatClampNeg)) → (m_X0_triesNew  M8 (fun (M10 : WM) => Q M10))))))))))
theorem c_X0_triesAbout (l : Launch) (D : va_G) (cA : Nat → ClassId) (sz0 : Nat) (H0 : Heap) (M : WM) (x1 : Nat) (x2 : Int32) (hx1 : isLn x1)  (Q : WM → Prop) (sh : Shp M) (h : m_X0_triesAbout x1 x2 M  Q) : Met l yX0_triesAbout (ws_ yX0_triesAbout cX0_triesAbout 3 none) ({ frames := 4, cells := 0, slots := 0, locals := 87 } : Room) (PcW D cA sz0 H0 [.ref (sz0 + 0), .ref (sz0 + x1), .int x2] M) (QW_v D cA sz0 H0 (fun M' => Q M' ∧ Shp M')) 0 0 (Aw sz0) := by
  replace h : (m_X2_takes 177 x1 M (fun (M2 : WM) => (vp_in ((x2 + (1 : Int32))) 13 ∧ (vp_in x2 13 ∧ (∀ M5 : WM, M5 = wPI M2 178 x2.toNatClampNeg ((wI M2 ((x1 + 1)) ((x2 + (1 : Int32))).toNatClampNeg)) → (vp_in x2 13 ∧ (vp_in ((x2 + (1 : Int32))) 13 ∧ (∀ M8 : WM, M8 = wPI M5 178 ((x2 + (1 : Int32))).toNatClampNeg ((wI M5 ((x1 + 1)) x2.toNatClampNeg)) → (m_X0_triesNew  M8 (fun (M10 : WM) => Q M10)))))))))) := h
  refine Met.ofV (by decide +kernel) (Nat.le_of_ble_eq_true rfl) ?_
  intro p e s m args below meth c cx hnm
  replace cx : Cx p s m args meth c cX0_triesAbout 3 RX0 none D cA sz0 H0 := cx
  refine v_sub (lv' := [(0, .ref (sz0 + 0)), (1, .ref (sz0 + x1)), (2, .int x2)]) [0, 1, 2] rfl ?_
  refine v_aload_n (pc := 0) cx dX0_triesAbout_0 rfl 0 rfl ?_
  refine gq294_X0 (pc := 1) cx dX0_triesAbout_1 (sh.k k_0) (v_some (sh.r r_0_19) ?_)
  refine v_aload_n (pc := 4) cx dX0_triesAbout_4 rfl 1 rfl ?_
  refine v_run_v (pc := 5) cx (kcq413_X0 cx (c_X2_takes l D cA sz0 H0 M 177 x1 isLn_177 hx1 _ sh h) ⟨Nat.le_of_ble_eq_true rfl, Nat.le_of_ble_eq_true rfl⟩ (sh.k k_177) (As := [.ref (sz0 + x1)]) rfl rfl (Nat.le_of_ble_eq_true rfl) dX0_triesAbout_5 ⟨Nat.le_of_ble_eq_true rfl, Nat.le_of_ble_eq_true rfl⟩) (fun M2 hq => ?_)
  obtain ⟨h, sh⟩ := hq
  refine v_aload_n (pc := 8) cx dX0_triesAbout_8 rfl 0 rfl ?_
  refine gq294_X0 (pc := 9) cx dX0_triesAbout_9 (sh.k k_0) (v_some (sh.r r_0_19) ?_)
  refine gq193_X2 (pc := 12) cx dX0_triesAbout_12 (sh.k k_177) (v_some (sh.r r_177_0) ?_)
  refine v_iload_n (pc := 15) cx dX0_triesAbout_15 rfl 2 rfl ?_
  refine v_aload_n (pc := 16) cx dX0_triesAbout_16 rfl 1 rfl ?_
  refine gq193_X2 (pc := 17) cx dX0_triesAbout_17 (sh.k (hx1).1) (v_some (sh.r (hx1).2.2.2) ?_)
  refine v_iload_n (pc := 20) cx dX0_triesAbout_20 rfl 2 rfl ?_
  refine v_iconst (pc := 21) cx dX0_triesAbout_21 ic_1 ?_
  refine v_iadd (pc := 22) cx dX0_triesAbout_22 ?_
  obtain ⟨b3, h⟩ := h
  refine v_iald (pc := 23) cx dX0_triesAbout_23 (sh.k (hx1).2.1) (sh.l (hx1).2.1 (hx1).2.2.1) b3 ?_
  obtain ⟨b4, h⟩ := h
  refine v_iast (pc := 24) cx dX0_triesAbout_24 (sh.k k_178) (sh.l k_178 l_178) b4 ?_
  refine v_wld (fun M5 eM5 => ?_)
  replace h := h M5 eM5
  replace sh : Shp M5 := Shp_PI sh eM5
  refine v_aload_n (pc := 25) cx dX0_triesAbout_25 rfl 0 rfl ?_
  refine gq294_X0 (pc := 26) cx dX0_triesAbout_26 (sh.k k_0) (v_some (sh.r r_0_19) ?_)
  refine gq193_X2 (pc := 29) cx dX0_triesAbout_29 (sh.k k_177) (v_some (sh.r r_177_0) ?_)
  refine v_iload_n (pc := 32) cx dX0_triesAbout_32 rfl 2 rfl ?_
  refine v_iconst (pc := 33) cx dX0_triesAbout_33 ic_1 ?_
  refine v_iadd (pc := 34) cx dX0_triesAbout_34 ?_
  refine v_aload_n (pc := 35) cx dX0_triesAbout_35 rfl 1 rfl ?_
  refine gq193_X2 (pc := 36) cx dX0_triesAbout_36 (sh.k (hx1).1) (v_some (sh.r (hx1).2.2.2) ?_)
  refine v_iload_n (pc := 39) cx dX0_triesAbout_39 rfl 2 rfl ?_
  obtain ⟨b6, h⟩ := h
  refine v_iald (pc := 40) cx dX0_triesAbout_40 (sh.k (hx1).2.1) (sh.l (hx1).2.1 (hx1).2.2.1) b6 ?_
  obtain ⟨b7, h⟩ := h
  refine v_iast (pc := 41) cx dX0_triesAbout_41 (sh.k k_178) (sh.l k_178 l_178) b7 ?_
  refine v_wld (fun M8 eM8 => ?_)
  replace h := h M8 eM8
  replace sh : Shp M8 := Shp_PI sh eM8
  refine v_aload_n (pc := 42) cx dX0_triesAbout_42 rfl 0 rfl ?_
  refine v_run_v (pc := 43) cx (kcq874_X0 cx (c_X0_triesNew l D cA sz0 H0 M8   _ sh h) ⟨Nat.le_of_ble_eq_true rfl, Nat.le_of_ble_eq_true rfl⟩ (sh.k k_0) (As := []) rfl rfl (Nat.le_of_ble_eq_true rfl) dX0_triesAbout_43 ⟨Nat.le_of_ble_eq_true rfl, Nat.le_of_ble_eq_true rfl⟩) (fun M10 hq => ?_)
  obtain ⟨h, sh⟩ := hq
  exact v_vret cx rfl dX0_triesAbout_46 ⟨Nat.le_of_ble_eq_true rfl, Nat.le_of_ble_eq_true rfl⟩ ⟨h, sh⟩
/-! LetterHeaps.newWord(I)I -/
def m_X0_newWord_l77  (K45 : Int32 → WM → Prop) (x1 : Int32) (x2 : Int32) (x3 : Nat)   (Q : Int32 → WM → Prop) : Nat → Int32 → WM → Prop
  | 0, _, _ => False
  | n + 1, x4, M => (((wI M x3 1) < x4 → (∀ z2 : Int32, z2 = x2 + (1 : Int32) → K45 z2 M)) ∧ (¬ (wI M x3 1) < x4 → (m_X0_triesLetters x3 x4 ((1 : Int32)) M (fun (M4 : WM) => ((x4 = (wI M4 x3 1) → (∀ z15 : Int32, z15 = x4 + (1 : Int32) → m_X0_newWord_l77 K45 x1 x2 x3 Q n z15 M4)) ∧ (¬ x4 = (wI M4 x3 1) → (m_X0_triesLetters x3 x4 ((0 : Int32)) M4 (fun (M7 : WM) => (m_X0_triesFewer x3 x4 M7 (fun (M9 : WM) => (((wI M9 x3 1) ≤ (x4 + (1 : Int32)) → (∀ z11 : Int32, z11 = x4 + (1 : Int32) → m_X0_newWord_l77 K45 x1 x2 x3 Q n z11 M9)) ∧ (¬ (wI M9 x3 1) ≤ (x4 + (1 : Int32)) → (m_X0_triesAbout x3 x4 M9 (fun (M13 : WM) => (∀ z14 : Int32, z14 = x4 + (1 : Int32) → m_X0_newWord_l77 K45 x1 x2 x3 Q n z14 M13)))))))))))))))
theorem w_X0_newWord_l77 {p : Program} {l : Launch} {e : Env} {s : State} {m : MethodId} {args : Array Value} {below : List Frame} {meth : Method} {c : Code} {D : va_G} {cA : Nat → ClassId} {sz0 : Nat} {H0 : Heap}  {K45 : Int32 → WM → Prop} {x1 : Int32} {x2 : Int32} {x3 : Nat} {Q : Int32 → WM → Prop}  (cx : Cx p s m args meth c cX0_newWord 5 RX0 (some .int) D cA sz0 H0)  (hK45 : ∀ (x2 : Int32)  (M : WM) (sh : Shp M), K45 x2 M → V p l e ({ frames := 120, cells := 0, slots := 0, locals := 4632 } : Room) s m args below meth c 5 D cA sz0 H0 0 0 (MQ below (QW_i D cA sz0 H0 (fun r M' => Q r M' ∧ Shp M')) args s 0 0 (Aw sz0)) 45 [(0, .ref (sz0 + 0)), (1, .int x1), (2, .int x2)] [] M) (hx3 : isLn x3)  : ∀ (n : Nat) (x4 : Int32)  (M : WM) (sh : Shp M), m_X0_newWord_l77 K45 x1 x2 x3 Q n x4 M → V p l e ({ frames := 120, cells := 0, slots := 0, locals := 4632 } : Room) s m args below meth c 5 D cA sz0 H0 0 0 (MQ below (QW_i D cA sz0 H0 (fun r M' => Q r M' ∧ Shp M')) args s 0 0 (Aw sz0)) 77 [(0, .ref (sz0 + 0)), (1, .int x1), (2, .int x2), (3, .ref (sz0 + x3)), (4, .int x4)] [] M := by
  intro n
  induction n with
  | zero => intro x4 M sh h; exact h.elim
  | succ n ih =>
    intro x4 M sh h
    replace h : (((wI M x3 1) < x4 → (∀ z2 : Int32, z2 = x2 + (1 : Int32) → K45 z2 M)) ∧ (¬ (wI M x3 1) < x4 → (m_X0_triesLetters x3 x4 ((1 : Int32)) M (fun (M4 : WM) => ((x4 = (wI M4 x3 1) → (∀ z15 : Int32, z15 = x4 + (1 : Int32) → m_X0_newWord_l77 K45 x1 x2 x3 Q n z15 M4)) ∧ (¬ x4 = (wI M4 x3 1) → (m_X0_triesLetters x3 x4 ((0 : Int32)) M4 (fun (M7 : WM) => (m_X0_triesFewer x3 x4 M7 (fun (M9 : WM) => (((wI M9 x3 1) ≤ (x4 + (1 : Int32)) → (∀ z11 : Int32, z11 = x4 + (1 : Int32) → m_X0_newWord_l77 K45 x1 x2 x3 Q n z11 M9)) ∧ (¬ (wI M9 x3 1) ≤ (x4 + (1 : Int32)) → (m_X0_triesAbout x3 x4 M9 (fun (M13 : WM) => (∀ z14 : Int32, z14 = x4 + (1 : Int32) → m_X0_newWord_l77 K45 x1 x2 x3 Q n z14 M13))))))))))))))) := h
    refine v_iload (pc := 77) cx dX0_newWord_77 4 rfl ?_
    refine v_aload_n (pc := 79) cx dX0_newWord_79 rfl 3 rfl ?_
    refine gq196_X2 (pc := 80) cx dX0_newWord_80 (sh.k (hx3).1) ?_
    refine v_icmp_gt (pc := 83) cx dX0_newWord_83 (tgt := 145) rfl (fun c1 => ?_) (fun c1 => ?_)
    · replace h := h.1 c1
      refine nm_x (x2 + (1 : Int32)) (fun z2 ez2 => ?_)
      replace h := h z2 ez2
      refine v_iinc (pc := 145) cx dX0_newWord_145 (q := 2) rfl ((ii_1 _).trans ez2.symm) (Nat.le_of_ble_eq_true rfl) (lv' := [(2, .int z2), (0, .ref (sz0 + 0)), (1, .int x1), (3, .ref (sz0 + x3)), (4, .int x4)]) rfl ?_
      refine v_goto (pc := 148) cx dX0_newWord_148 (tgt := 45) rfl ?_
      refine v_sub (lv' := [(0, .ref (sz0 + 0)), (1, .int x1), (2, .int z2)]) [1, 2, 0] rfl ?_
      exact hK45 z2 M sh h
    · replace h := h.2 c1
      refine v_aload_n (pc := 86) cx dX0_newWord_86 rfl 0 rfl ?_
      refine v_aload_n (pc := 87) cx dX0_newWord_87 rfl 3 rfl ?_
      refine v_iload (pc := 88) cx dX0_newWord_88 4 rfl ?_
      refine v_iconst (pc := 90) cx dX0_newWord_90 ic_1 ?_
      refine v_run_v (pc := 91) cx (kcq870_X0 cx (c_X0_triesLetters l D cA sz0 H0 M x3 x4 ((1 : Int32)) hx3 _ sh h) ⟨Nat.le_of_ble_eq_true rfl, Nat.le_of_ble_eq_true rfl⟩ (sh.k k_0) (As := [.ref (sz0 + x3), .int x4, .int (1 : Int32)]) rfl rfl (Nat.le_of_ble_eq_true rfl) dX0_newWord_91 ⟨Nat.le_of_ble_eq_true rfl, Nat.le_of_ble_eq_true rfl⟩) (fun M4 hq => ?_)
      obtain ⟨h, sh⟩ := hq
      refine v_iload (pc := 94) cx dX0_newWord_94 4 rfl ?_
      refine v_aload_n (pc := 96) cx dX0_newWord_96 rfl 3 rfl ?_
      refine gq196_X2 (pc := 97) cx dX0_newWord_97 (sh.k (hx3).1) ?_
      refine v_icmp_ne (pc := 100) cx dX0_newWord_100 (tgt := 106) rfl (fun c5 => ?_) (fun c5 => ?_)
      · replace h := h.2 c5
        refine v_aload_n (pc := 106) cx dX0_newWord_106 rfl 0 rfl ?_
        refine v_aload_n (pc := 107) cx dX0_newWord_107 rfl 3 rfl ?_
        refine v_iload (pc := 108) cx dX0_newWord_108 4 rfl ?_
        refine v_iconst (pc := 110) cx dX0_newWord_110 ic_0 ?_
        refine v_run_v (pc := 111) cx (kcq870_X0 cx (c_X0_triesLetters l D cA sz0 H0 M4 x3 x4 ((0 : Int32)) hx3 _ sh h) ⟨Nat.le_of_ble_eq_true rfl, Nat.le_of_ble_eq_true rfl⟩ (sh.k k_0) (As := [.ref (sz0 + x3), .int x4, .int (0 : Int32)]) rfl rfl (Nat.le_of_ble_eq_true rfl) dX0_newWord_111 ⟨Nat.le_of_ble_eq_true rfl, Nat.le_of_ble_eq_true rfl⟩) (fun M7 hq => ?_)
        obtain ⟨h, sh⟩ := hq
        refine v_aload_n (pc := 114) cx dX0_newWord_114 rfl 0 rfl ?_
        refine v_aload_n (pc := 115) cx dX0_newWord_115 rfl 3 rfl ?_
        refine v_iload (pc := 116) cx dX0_newWord_116 4 rfl ?_
        refine v_run_v (pc := 118) cx (kcq892_X0 cx (c_X0_triesFewer l D cA sz0 H0 M7 x3 x4 hx3 _ sh h) ⟨Nat.le_of_ble_eq_true rfl, Nat.le_of_ble_eq_true rfl⟩ (sh.k k_0) (As := [.ref (sz0 + x3), .int x4]) rfl rfl (Nat.le_of_ble_eq_true rfl) dX0_newWord_118 ⟨Nat.le_of_ble_eq_true rfl, Nat.le_of_ble_eq_true rfl⟩) (fun M9 hq => ?_)
        obtain ⟨h, sh⟩ := hq
        refine v_iload (pc := 121) cx dX0_newWord_121 4 rfl ?_
        refine v_iconst (pc := 123) cx dX0_newWord_123 ic_1 ?_
        refine v_iadd (pc := 124) cx dX0_newWord_124 ?_
        refine v_aload_n (pc := 125) cx dX0_newWord_125 rfl 3 rfl ?_
        refine gq196_X2 (pc := 126) cx dX0_newWord_126 (sh.k (hx3).1) ?_
        refine v_icmp_ge (pc := 129) cx dX0_newWord_129 (tgt := 139) rfl (fun c10 => ?_) (fun c10 => ?_)
        · replace h := h.1 c10
          refine nm_x (x4 + (1 : Int32)) (fun z11 ez11 => ?_)
          replace h := h z11 ez11
          refine v_iinc (pc := 139) cx dX0_newWord_139 (q := 4) rfl ((ii_1 _).trans ez11.symm) (Nat.le_of_ble_eq_true rfl) (lv' := [(4, .int z11), (0, .ref (sz0 + 0)), (1, .int x1), (2, .int x2), (3, .ref (sz0 + x3))]) rfl ?_
          refine v_goto (pc := 142) cx dX0_newWord_142 (tgt := 77) rfl ?_
          refine v_sub (lv' := [(0, .ref (sz0 + 0)), (1, .int x1), (2, .int x2), (3, .ref (sz0 + x3)), (4, .int z11)]) [1, 2, 3, 4, 0] rfl ?_
          exact ih z11 M9 sh h
        · replace h := h.2 c10
          refine v_aload_n (pc := 132) cx dX0_newWord_132 rfl 0 rfl ?_
          refine v_aload_n (pc := 133) cx dX0_newWord_133 rfl 3 rfl ?_
          refine v_iload (pc := 134) cx dX0_newWord_134 4 rfl ?_
          refine v_run_v (pc := 136) cx (kcq896_X0 cx (c_X0_triesAbout l D cA sz0 H0 M9 x3 x4 hx3 _ sh h) ⟨Nat.le_of_ble_eq_true rfl, Nat.le_of_ble_eq_true rfl⟩ (sh.k k_0) (As := [.ref (sz0 + x3), .int x4]) rfl rfl (Nat.le_of_ble_eq_true rfl) dX0_newWord_136 ⟨Nat.le_of_ble_eq_true rfl, Nat.le_of_ble_eq_true rfl⟩) (fun M13 hq => ?_)
          obtain ⟨h, sh⟩ := hq
          refine nm_x (x4 + (1 : Int32)) (fun z14 ez14 => ?_)
          replace h := h z14 ez14
          refine v_iinc (pc := 139) cx dX0_newWord_139 (q := 4) rfl ((ii_1 _).trans ez14.symm) (Nat.le_of_ble_eq_true rfl) (lv' := [(4, .int z14), (0, .ref (sz0 + 0)), (1, .int x1), (2, .int x2), (3, .ref (sz0 + x3))]) rfl ?_
          refine v_goto (pc := 142) cx dX0_newWord_142 (tgt := 77) rfl ?_
          refine v_sub (lv' := [(0, .ref (sz0 + 0)), (1, .int x1), (2, .int x2), (3, .ref (sz0 + x3)), (4, .int z14)]) [1, 2, 3, 4, 0] rfl ?_
          exact ih z14 M13 sh h
      · replace h := h.1 c5
        refine v_goto (pc := 103) cx dX0_newWord_103 (tgt := 139) rfl ?_
        refine nm_x (x4 + (1 : Int32)) (fun z15 ez15 => ?_)
        replace h := h z15 ez15
        refine v_iinc (pc := 139) cx dX0_newWord_139 (q := 4) rfl ((ii_1 _).trans ez15.symm) (Nat.le_of_ble_eq_true rfl) (lv' := [(4, .int z15), (0, .ref (sz0 + 0)), (1, .int x1), (2, .int x2), (3, .ref (sz0 + x3))]) rfl ?_
        refine v_goto (pc := 142) cx dX0_newWord_142 (tgt := 77) rfl ?_
        refine v_sub (lv' := [(0, .ref (sz0 + 0)), (1, .int x1), (2, .int x2), (3, .ref (sz0 + x3)), (4, .int z15)]) [1, 2, 3, 4, 0] rfl ?_
        exact ih z15 M4 sh h
def m_X0_newWord_l45   (x1 : Int32)   (Q : Int32 → WM → Prop) : Nat → Int32 → WM → Prop
  | 0, _, _ => False
  | n + 1, x2, M => (((wI M 0 3) ≤ x2 → (((wI M 0 21) = 0 → Q (((-2) : Int32)) M) ∧ (¬ (wI M 0 21) = 0 → ((x1 = 0 → Q ((wI M 0 21)) M) ∧ (¬ x1 = 0 → ((x1 = (1 : Int32) → Q ((wI M 0 22)) M) ∧ (¬ x1 = (1 : Int32) → ((x1 = (2 : Int32) → Q ((wI M 179 1)) M) ∧ (¬ x1 = (2 : Int32) → (((wI M 179 1) ≤ (x1 - (10 : Int32)) → Q (((-1) : Int32)) M) ∧ (¬ (wI M 179 1) ≤ (x1 - (10 : Int32)) → (vp_in ((x1 - (10 : Int32))) 13 ∧ Q ((wI M 180 ((x1 - (10 : Int32))).toNatClampNeg)) M)))))))))))) ∧ (¬ (wI M 0 3) ≤ x2 → (m_X0_isUsed x2 M (fun (a8 : Int32) => ((a8 = 0 → (∀ z11 : Int32, z11 = x2 + (1 : Int32) → m_X0_newWord_l45 x1 Q n z11 M)) ∧ (¬ a8 = 0 → (vp_in x2 40 ∧ (∃ n0, m_X0_newWord_l77 (fun x2' M' => m_X0_newWord_l45 x1 Q n x2' M') x1 x2 ((5325 + 3 * x2.toNatClampNeg)) Q n0 ((0 : Int32)) M))))))))
theorem w_X0_newWord_l45 {p : Program} {l : Launch} {e : Env} {s : State} {m : MethodId} {args : Array Value} {below : List Frame} {meth : Method} {c : Code} {D : va_G} {cA : Nat → ClassId} {sz0 : Nat} {H0 : Heap}  {x1 : Int32} {Q : Int32 → WM → Prop}  (cx : Cx p s m args meth c cX0_newWord 5 RX0 (some .int) D cA sz0 H0)     : ∀ (n : Nat) (x2 : Int32)  (M : WM) (sh : Shp M), m_X0_newWord_l45 x1 Q n x2 M → V p l e ({ frames := 120, cells := 0, slots := 0, locals := 4632 } : Room) s m args below meth c 5 D cA sz0 H0 0 0 (MQ below (QW_i D cA sz0 H0 (fun r M' => Q r M' ∧ Shp M')) args s 0 0 (Aw sz0)) 45 [(0, .ref (sz0 + 0)), (1, .int x1), (2, .int x2)] [] M := by
  intro n
  induction n with
  | zero => intro x2 M sh h; exact h.elim
  | succ n ih =>
    intro x2 M sh h
    replace h : (((wI M 0 3) ≤ x2 → (((wI M 0 21) = 0 → Q (((-2) : Int32)) M) ∧ (¬ (wI M 0 21) = 0 → ((x1 = 0 → Q ((wI M 0 21)) M) ∧ (¬ x1 = 0 → ((x1 = (1 : Int32) → Q ((wI M 0 22)) M) ∧ (¬ x1 = (1 : Int32) → ((x1 = (2 : Int32) → Q ((wI M 179 1)) M) ∧ (¬ x1 = (2 : Int32) → (((wI M 179 1) ≤ (x1 - (10 : Int32)) → Q (((-1) : Int32)) M) ∧ (¬ (wI M 179 1) ≤ (x1 - (10 : Int32)) → (vp_in ((x1 - (10 : Int32))) 13 ∧ Q ((wI M 180 ((x1 - (10 : Int32))).toNatClampNeg)) M)))))))))))) ∧ (¬ (wI M 0 3) ≤ x2 → (m_X0_isUsed x2 M (fun (a8 : Int32) => ((a8 = 0 → (∀ z11 : Int32, z11 = x2 + (1 : Int32) → m_X0_newWord_l45 x1 Q n z11 M)) ∧ (¬ a8 = 0 → (vp_in x2 40 ∧ (∃ n0, m_X0_newWord_l77 (fun x2' M' => m_X0_newWord_l45 x1 Q n x2' M') x1 x2 ((5325 + 3 * x2.toNatClampNeg)) Q n0 ((0 : Int32)) M)))))))) := h
    refine v_iload_n (pc := 45) cx dX0_newWord_45 rfl 2 rfl ?_
    refine v_aload_n (pc := 46) cx dX0_newWord_46 rfl 0 rfl ?_
    refine gq278_X0 (pc := 47) cx dX0_newWord_47 (sh.k k_0) ?_
    refine v_icmp_ge (pc := 50) cx dX0_newWord_50 (tgt := 151) rfl (fun c1 => ?_) (fun c1 => ?_)
    · replace h := h.1 c1
      refine v_aload_n (pc := 151) cx dX0_newWord_151 rfl 0 rfl ?_
      refine gq296_X0 (pc := 152) cx dX0_newWord_152 (sh.k k_0) ?_
      refine v_if_ne (pc := 155) cx dX0_newWord_155 (tgt := 161) rfl (fun c2 => ?_) (fun c2 => ?_)
      · replace h := h.2 c2
        refine v_iload_n (pc := 161) cx dX0_newWord_161 rfl 1 rfl ?_
        refine v_if_ne (pc := 162) cx dX0_newWord_162 (tgt := 172) rfl (fun c3 => ?_) (fun c3 => ?_)
        · replace h := h.2 c3
          refine v_iload_n (pc := 172) cx dX0_newWord_172 rfl 1 rfl ?_
          refine v_iconst (pc := 173) cx dX0_newWord_173 ic_1 ?_
          refine v_icmp_ne (pc := 174) cx dX0_newWord_174 (tgt := 184) rfl (fun c4 => ?_) (fun c4 => ?_)
          · replace h := h.2 c4
            refine v_iload_n (pc := 184) cx dX0_newWord_184 rfl 1 rfl ?_
            refine v_iconst (pc := 185) cx dX0_newWord_185 ic_2 ?_
            refine v_icmp_ne (pc := 186) cx dX0_newWord_186 (tgt := 199) rfl (fun c5 => ?_) (fun c5 => ?_)
            · replace h := h.2 c5
              refine v_iload_n (pc := 199) cx dX0_newWord_199 rfl 1 rfl ?_
              refine v_bipush (pc := 200) cx dX0_newWord_200 bc_10 ?_
              refine v_isub (pc := 202) cx dX0_newWord_202 ?_
              refine v_aload_n (pc := 203) cx dX0_newWord_203 rfl 0 rfl ?_
              refine gq295_X0 (pc := 204) cx dX0_newWord_204 (sh.k k_0) (v_some (sh.r r_0_20) ?_)
              refine gq196_X2 (pc := 207) cx dX0_newWord_207 (sh.k k_179) ?_
              refine v_icmp_ge (pc := 210) cx dX0_newWord_210 (tgt := 228) rfl (fun c6 => ?_) (fun c6 => ?_)
              · replace h := h.1 c6
                refine v_iconst (pc := 228) cx dX0_newWord_228 ic_m1 ?_
                exact v_iret cx rfl dX0_newWord_229 ⟨Nat.le_of_ble_eq_true rfl, Nat.le_of_ble_eq_true rfl⟩ ⟨h, sh⟩
              · replace h := h.2 c6
                refine v_aload_n (pc := 213) cx dX0_newWord_213 rfl 0 rfl ?_
                refine gq295_X0 (pc := 214) cx dX0_newWord_214 (sh.k k_0) (v_some (sh.r r_0_20) ?_)
                refine gq193_X2 (pc := 217) cx dX0_newWord_217 (sh.k k_179) (v_some (sh.r r_179_0) ?_)
                refine v_iload_n (pc := 220) cx dX0_newWord_220 rfl 1 rfl ?_
                refine v_bipush (pc := 221) cx dX0_newWord_221 bc_10 ?_
                refine v_isub (pc := 223) cx dX0_newWord_223 ?_
                obtain ⟨b7, h⟩ := h
                refine v_iald (pc := 224) cx dX0_newWord_224 (sh.k k_180) (sh.l k_180 l_180) b7 ?_
                refine v_goto (pc := 225) cx dX0_newWord_225 (tgt := 229) rfl ?_
                exact v_iret cx rfl dX0_newWord_229 ⟨Nat.le_of_ble_eq_true rfl, Nat.le_of_ble_eq_true rfl⟩ ⟨h, sh⟩
            · replace h := h.1 c5
              refine v_aload_n (pc := 189) cx dX0_newWord_189 rfl 0 rfl ?_
              refine gq295_X0 (pc := 190) cx dX0_newWord_190 (sh.k k_0) (v_some (sh.r r_0_20) ?_)
              refine gq196_X2 (pc := 193) cx dX0_newWord_193 (sh.k k_179) ?_
              refine v_goto (pc := 196) cx dX0_newWord_196 (tgt := 229) rfl ?_
              exact v_iret cx rfl dX0_newWord_229 ⟨Nat.le_of_ble_eq_true rfl, Nat.le_of_ble_eq_true rfl⟩ ⟨h, sh⟩
          · replace h := h.1 c4
            refine v_aload_n (pc := 177) cx dX0_newWord_177 rfl 0 rfl ?_
            refine gq297_X0 (pc := 178) cx dX0_newWord_178 (sh.k k_0) ?_
            refine v_goto (pc := 181) cx dX0_newWord_181 (tgt := 229) rfl ?_
            exact v_iret cx rfl dX0_newWord_229 ⟨Nat.le_of_ble_eq_true rfl, Nat.le_of_ble_eq_true rfl⟩ ⟨h, sh⟩
        · replace h := h.1 c3
          refine v_aload_n (pc := 165) cx dX0_newWord_165 rfl 0 rfl ?_
          refine gq296_X0 (pc := 166) cx dX0_newWord_166 (sh.k k_0) ?_
          refine v_goto (pc := 169) cx dX0_newWord_169 (tgt := 229) rfl ?_
          exact v_iret cx rfl dX0_newWord_229 ⟨Nat.le_of_ble_eq_true rfl, Nat.le_of_ble_eq_true rfl⟩ ⟨h, sh⟩
      · replace h := h.1 c2
        refine v_bipush (pc := 158) cx dX0_newWord_158 bc_m2 ?_
        exact v_iret cx rfl dX0_newWord_160 ⟨Nat.le_of_ble_eq_true rfl, Nat.le_of_ble_eq_true rfl⟩ ⟨h, sh⟩
    · replace h := h.2 c1
      refine v_aload_n (pc := 53) cx dX0_newWord_53 rfl 0 rfl ?_
      refine v_iload_n (pc := 54) cx dX0_newWord_54 rfl 2 rfl ?_
      refine v_runp_i (pc := 55) cx (kcq718_X0 cx (c_X0_isUsed l D cA sz0 H0 M x2  _ sh h) ⟨Nat.le_of_ble_eq_true rfl, Nat.le_of_ble_eq_true rfl⟩ (sh.k k_0) (As := [.int x2]) rfl rfl (Nat.le_of_ble_eq_true rfl) dX0_newWord_55 ⟨Nat.le_of_ble_eq_true rfl, Nat.le_of_ble_eq_true rfl⟩) (fun a8 hq => ?_)
      replace h := hq
      refine v_if_ne (pc := 58) cx dX0_newWord_58 (tgt := 64) rfl (fun c9 => ?_) (fun c9 => ?_)
      · replace h := h.2 c9
        refine v_aload_n (pc := 64) cx dX0_newWord_64 rfl 0 rfl ?_
        refine gq273_X0 (pc := 65) cx dX0_newWord_65 (sh.k k_0) (v_some (sh.r r_0_0) ?_)
        refine v_iload_n (pc := 68) cx dX0_newWord_68 rfl 2 rfl ?_
        obtain ⟨b10, h⟩ := h
        refine v_aald107 (pc := 69) cx dX0_newWord_69 (sh.k k_1) (sh.l k_1 l_1) b10 (v_some (sh.r (f_1 (lt_in b10))) ?_)
        refine gq257_X5 (pc := 70) cx dX0_newWord_70 (sh.k (fk_1 (lt_in b10))) (v_some (sh.r (fr_1 (lt_in b10))) ?_)
        refine v_astore_n (pc := 73) cx dX0_newWord_73 rfl (Nat.le_of_ble_eq_true rfl) (lv' := [(3, .ref (sz0 + (5325 + 3 * x2.toNatClampNeg))), (0, .ref (sz0 + 0)), (1, .int x1), (2, .int x2)]) rfl ?_
        refine v_iconst (pc := 74) cx dX0_newWord_74 ic_0 ?_
        refine v_istore (pc := 75) cx dX0_newWord_75 (Nat.le_of_ble_eq_true rfl) (lv' := [(4, .int (0 : Int32)), (3, .ref (sz0 + (5325 + 3 * x2.toNatClampNeg))), (0, .ref (sz0 + 0)), (1, .int x1), (2, .int x2)]) rfl ?_
        refine v_sub (lv' := [(0, .ref (sz0 + 0)), (1, .int x1), (2, .int x2), (3, .ref (sz0 + (5325 + 3 * x2.toNatClampNeg))), (4, .int (0 : Int32))]) [2, 3, 4, 1, 0] rfl ?_
        obtain ⟨n0, h⟩ := h
        exact w_X0_newWord_l77 cx ih (isLn_w (lt_in b10)) n0 ((0 : Int32)) M sh h
      · replace h := h.1 c9
        refine v_goto (pc := 61) cx dX0_newWord_61 (tgt := 145) rfl ?_
        refine nm_x (x2 + (1 : Int32)) (fun z11 ez11 => ?_)
        replace h := h z11 ez11
        refine v_iinc (pc := 145) cx dX0_newWord_145 (q := 2) rfl ((ii_1 _).trans ez11.symm) (Nat.le_of_ble_eq_true rfl) (lv' := [(2, .int z11), (0, .ref (sz0 + 0)), (1, .int x1)]) rfl ?_
        refine v_goto (pc := 148) cx dX0_newWord_148 (tgt := 45) rfl ?_
        refine v_sub (lv' := [(0, .ref (sz0 + 0)), (1, .int x1), (2, .int z11)]) [1, 2, 0] rfl ?_
        exact ih z11 M sh h
def m_X0_newWord_j22   (x1 : Int32)   (Q : Int32 → WM → Prop) (M : WM) : Prop := (m_X0_lays  M (fun (M2 : WM) => (∀ M3 : WM, M3 = wPI M2 0 21 ((0 : Int32)) → (∀ M4 : WM, M4 = wPI M3 0 22 ((0 : Int32)) → (m_X2_clears 179 M4 (fun (M6 : WM) => (∃ n0, m_X0_newWord_l45 x1 Q n0 ((0 : Int32)) M6)))))))
theorem w_X0_newWord_j22 {p : Program} {l : Launch} {e : Env} {s : State} {m : MethodId} {args : Array Value} {below : List Frame} {meth : Method} {c : Code} {D : va_G} {cA : Nat → ClassId} {sz0 : Nat} {H0 : Heap}  {x1 : Int32} {Q : Int32 → WM → Prop}  (cx : Cx p s m args meth c cX0_newWord 5 RX0 (some .int) D cA sz0 H0)       (M : WM) (sh : Shp M) (h : m_X0_newWord_j22 x1 Q M) : V p l e ({ frames := 120, cells := 0, slots := 0, locals := 4632 } : Room) s m args below meth c 5 D cA sz0 H0 0 0 (MQ below (QW_i D cA sz0 H0 (fun r M' => Q r M' ∧ Shp M')) args s 0 0 (Aw sz0)) 22 [(0, .ref (sz0 + 0)), (1, .int x1)] [] M := by
  replace h : (m_X0_lays  M (fun (M2 : WM) => (∀ M3 : WM, M3 = wPI M2 0 21 ((0 : Int32)) → (∀ M4 : WM, M4 = wPI M3 0 22 ((0 : Int32)) → (m_X2_clears 179 M4 (fun (M6 : WM) => (∃ n0, m_X0_newWord_l45 x1 Q n0 ((0 : Int32)) M6))))))) := h
  refine v_aload_n (pc := 22) cx dX0_newWord_22 rfl 0 rfl ?_
  refine v_run_v (pc := 23) cx (kcq709_X0 cx (c_X0_lays l D cA sz0 H0 M   _ sh h) ⟨Nat.le_of_ble_eq_true rfl, Nat.le_of_ble_eq_true rfl⟩ (sh.k k_0) (As := []) rfl rfl (Nat.le_of_ble_eq_true rfl) dX0_newWord_23 ⟨Nat.le_of_ble_eq_true rfl, Nat.le_of_ble_eq_true rfl⟩) (fun M2 hq => ?_)
  obtain ⟨h, sh⟩ := hq
  refine v_aload_n (pc := 26) cx dX0_newWord_26 rfl 0 rfl ?_
  refine v_iconst (pc := 27) cx dX0_newWord_27 ic_0 ?_
  refine pq296_X0 (pc := 28) cx dX0_newWord_28 (sh.k k_0) ?_
  refine v_wld (fun M3 eM3 => ?_)
  replace h := h M3 eM3
  replace sh : Shp M3 := Shp_PI sh eM3
  refine v_aload_n (pc := 31) cx dX0_newWord_31 rfl 0 rfl ?_
  refine v_iconst (pc := 32) cx dX0_newWord_32 ic_0 ?_
  refine pq297_X0 (pc := 33) cx dX0_newWord_33 (sh.k k_0) ?_
  refine v_wld (fun M4 eM4 => ?_)
  replace h := h M4 eM4
  replace sh : Shp M4 := Shp_PI sh eM4
  refine v_aload_n (pc := 36) cx dX0_newWord_36 rfl 0 rfl ?_
  refine gq295_X0 (pc := 37) cx dX0_newWord_37 (sh.k k_0) (v_some (sh.r r_0_20) ?_)
  refine v_run_v (pc := 40) cx (kcq397_X0 cx (c_X2_clears l D cA sz0 H0 M4 179 isLn_179 _ sh h) ⟨Nat.le_of_ble_eq_true rfl, Nat.le_of_ble_eq_true rfl⟩ (sh.k k_179) (As := []) rfl rfl (Nat.le_of_ble_eq_true rfl) dX0_newWord_40 ⟨Nat.le_of_ble_eq_true rfl, Nat.le_of_ble_eq_true rfl⟩) (fun M6 hq => ?_)
  obtain ⟨h, sh⟩ := hq
  refine v_iconst (pc := 43) cx dX0_newWord_43 ic_0 ?_
  refine v_istore_n (pc := 44) cx dX0_newWord_44 rfl (Nat.le_of_ble_eq_true rfl) (lv' := [(2, .int (0 : Int32)), (0, .ref (sz0 + 0)), (1, .int x1)]) rfl ?_
  refine v_sub (lv' := [(0, .ref (sz0 + 0)), (1, .int x1), (2, .int (0 : Int32))]) [1, 2, 0] rfl ?_
  obtain ⟨n0, h⟩ := h
  exact w_X0_newWord_l45 cx n0 ((0 : Int32)) M6 sh h
def m_X0_newWord (x1 : Int32) (M : WM)  (Q : Int32 → WM → Prop) : Prop := (m_X0_in x1 ((3 : Int32)) (fun (a1 : Int32) => ((a1 = 0 → (m_X0_in ((x1 - (10 : Int32))) ((8 : Int32)) (fun (a3 : Int32) => ((a3 = 0 → Q (((-1) : Int32)) M) ∧ (¬ a3 = 0 → m_X0_newWord_j22 x1 Q M))))) ∧ (¬ a1 = 0 → m_X0_newWord_j22 x1 Q M))))
theorem c_X0_newWord (l : Launch) (D : va_G) (cA : Nat → ClassId) (sz0 : Nat) (H0 : Heap) (M : WM) (x1 : Int32)   (Q : Int32 → WM → Prop) (sh : Shp M) (h : m_X0_newWord x1 M  Q) : Met l yX0_newWord (ws_ yX0_newWord cX0_newWord 5 (some .int)) ({ frames := 120, cells := 0, slots := 0, locals := 4632 } : Room) (PcW D cA sz0 H0 [.ref (sz0 + 0), .int x1] M) (QW_i D cA sz0 H0 (fun r M' => Q r M' ∧ Shp M')) 0 0 (Aw sz0) := by
  replace h : (m_X0_in x1 ((3 : Int32)) (fun (a1 : Int32) => ((a1 = 0 → (m_X0_in ((x1 - (10 : Int32))) ((8 : Int32)) (fun (a3 : Int32) => ((a3 = 0 → Q (((-1) : Int32)) M) ∧ (¬ a3 = 0 → m_X0_newWord_j22 x1 Q M))))) ∧ (¬ a1 = 0 → m_X0_newWord_j22 x1 Q M)))) := h
  refine Met.ofV (by decide +kernel) (Nat.le_of_ble_eq_true rfl) ?_
  intro p e s m args below meth c cx hnm
  replace cx : Cx p s m args meth c cX0_newWord 5 RX0 (some .int) D cA sz0 H0 := cx
  refine v_sub (lv' := [(0, .ref (sz0 + 0)), (1, .int x1)]) [0, 1] rfl ?_
  refine v_iload_n (pc := 0) cx dX0_newWord_0 rfl 1 rfl ?_
  refine v_iconst (pc := 1) cx dX0_newWord_1 ic_3 ?_
  refine v_runp_i (pc := 2) cx (kcq390_X0 cx (c_X0_in l D cA sz0 H0 M x1 ((3 : Int32))  _ h) ⟨Nat.le_of_ble_eq_true rfl, Nat.le_of_ble_eq_true rfl⟩ (As := [.int x1, .int (3 : Int32)]) rfl rfl (Nat.le_of_ble_eq_true rfl) dX0_newWord_2 ⟨Nat.le_of_ble_eq_true rfl, Nat.le_of_ble_eq_true rfl⟩) (fun a1 hq => ?_)
  replace h := hq
  refine v_if_ne (pc := 5) cx dX0_newWord_5 (tgt := 22) rfl (fun c2 => ?_) (fun c2 => ?_)
  · replace h := h.2 c2
    refine v_sub (lv' := [(0, .ref (sz0 + 0)), (1, .int x1)]) [0, 1] rfl ?_
    exact w_X0_newWord_j22 cx M sh h
  · replace h := h.1 c2
    refine v_iload_n (pc := 8) cx dX0_newWord_8 rfl 1 rfl ?_
    refine v_bipush (pc := 9) cx dX0_newWord_9 bc_10 ?_
    refine v_isub (pc := 11) cx dX0_newWord_11 ?_
    refine v_bipush (pc := 12) cx dX0_newWord_12 bc_8 ?_
    refine v_runp_i (pc := 14) cx (kcq390_X0 cx (c_X0_in l D cA sz0 H0 M ((x1 - (10 : Int32))) ((8 : Int32))  _ h) ⟨Nat.le_of_ble_eq_true rfl, Nat.le_of_ble_eq_true rfl⟩ (As := [.int (x1 - (10 : Int32)), .int (8 : Int32)]) rfl rfl (Nat.le_of_ble_eq_true rfl) dX0_newWord_14 ⟨Nat.le_of_ble_eq_true rfl, Nat.le_of_ble_eq_true rfl⟩) (fun a3 hq => ?_)
    replace h := hq
    refine v_if_ne (pc := 17) cx dX0_newWord_17 (tgt := 22) rfl (fun c4 => ?_) (fun c4 => ?_)
    · replace h := h.2 c4
      refine v_sub (lv' := [(0, .ref (sz0 + 0)), (1, .int x1)]) [0, 1] rfl ?_
      exact w_X0_newWord_j22 cx M sh h
    · replace h := h.1 c4
      refine v_iconst (pc := 20) cx dX0_newWord_20 ic_m1 ?_
      exact v_iret cx rfl dX0_newWord_21 ⟨Nat.le_of_ble_eq_true rfl, Nat.le_of_ble_eq_true rfl⟩ ⟨h, sh⟩
/-! LetterHeaps.off()I -/
def m_X0_off  (M : WM)  (Q : Int32 → WM → Prop) : Prop := (((wI M 0 3) = 0 → Q (((-1) : Int32)) M) ∧ (¬ (wI M 0 3) = 0 → (∀ M2 : WM, M2 = wPI M 0 3 (((wI M 0 3) - (1 : Int32))) → (∀ M3 : WM, M3 = wPI M2 0 7 (((wI M2 0 7) + (1 : Int32))) → (vp_in ((wI M3 0 3)) 40 ∧ Q ((wI M3 ((5325 + 3 * ((wI M3 0 3)).toNatClampNeg)) 1)) M3)))))
theorem c_X0_off (l : Launch) (D : va_G) (cA : Nat → ClassId) (sz0 : Nat) (H0 : Heap) (M : WM)    (Q : Int32 → WM → Prop) (sh : Shp M) (h : m_X0_off  M  Q) : Met l yX0_off (ws_ yX0_off cX0_off 1 (some .int)) ({ frames := 0, cells := 0, slots := 0, locals := 0 } : Room) (PcW D cA sz0 H0 [.ref (sz0 + 0)] M) (QW_i D cA sz0 H0 (fun r M' => Q r M' ∧ Shp M')) 0 0 (Aw sz0) := by
  replace h : (((wI M 0 3) = 0 → Q (((-1) : Int32)) M) ∧ (¬ (wI M 0 3) = 0 → (∀ M2 : WM, M2 = wPI M 0 3 (((wI M 0 3) - (1 : Int32))) → (∀ M3 : WM, M3 = wPI M2 0 7 (((wI M2 0 7) + (1 : Int32))) → (vp_in ((wI M3 0 3)) 40 ∧ Q ((wI M3 ((5325 + 3 * ((wI M3 0 3)).toNatClampNeg)) 1)) M3))))) := h
  refine Met.ofV (by decide +kernel) (Nat.le_of_ble_eq_true rfl) ?_
  intro p e s m args below meth c cx hnm
  replace cx : Cx p s m args meth c cX0_off 1 RX0 (some .int) D cA sz0 H0 := cx
  refine v_sub (lv' := [(0, .ref (sz0 + 0))]) [0] rfl ?_
  refine v_aload_n (pc := 0) cx dX0_off_0 rfl 0 rfl ?_
  refine gq278_X0 (pc := 1) cx dX0_off_1 (sh.k k_0) ?_
  refine v_if_ne (pc := 4) cx dX0_off_4 (tgt := 9) rfl (fun c1 => ?_) (fun c1 => ?_)
  · replace h := h.2 c1
    refine v_aload_n (pc := 9) cx dX0_off_9 rfl 0 rfl ?_
    refine v_dup (pc := 10) cx dX0_off_10 rfl ?_
    refine gq278_X0 (pc := 11) cx dX0_off_11 (sh.k k_0) ?_
    refine v_iconst (pc := 14) cx dX0_off_14 ic_1 ?_
    refine v_isub (pc := 15) cx dX0_off_15 ?_
    refine pq278_X0 (pc := 16) cx dX0_off_16 (sh.k k_0) ?_
    refine v_wld (fun M2 eM2 => ?_)
    replace h := h M2 eM2
    replace sh : Shp M2 := Shp_PI sh eM2
    refine v_aload_n (pc := 19) cx dX0_off_19 rfl 0 rfl ?_
    refine v_dup (pc := 20) cx dX0_off_20 rfl ?_
    refine gq282_X0 (pc := 21) cx dX0_off_21 (sh.k k_0) ?_
    refine v_iconst (pc := 24) cx dX0_off_24 ic_1 ?_
    refine v_iadd (pc := 25) cx dX0_off_25 ?_
    refine pq282_X0 (pc := 26) cx dX0_off_26 (sh.k k_0) ?_
    refine v_wld (fun M3 eM3 => ?_)
    replace h := h M3 eM3
    replace sh : Shp M3 := Shp_PI sh eM3
    refine v_aload_n (pc := 29) cx dX0_off_29 rfl 0 rfl ?_
    refine gq273_X0 (pc := 30) cx dX0_off_30 (sh.k k_0) (v_some (sh.r r_0_0) ?_)
    refine v_aload_n (pc := 33) cx dX0_off_33 rfl 0 rfl ?_
    refine gq278_X0 (pc := 34) cx dX0_off_34 (sh.k k_0) ?_
    obtain ⟨b4, h⟩ := h
    refine v_aald107 (pc := 37) cx dX0_off_37 (sh.k k_1) (sh.l k_1 l_1) b4 (v_some (sh.r (f_1 (lt_in b4))) ?_)
    refine gq257_X5 (pc := 38) cx dX0_off_38 (sh.k (fk_1 (lt_in b4))) (v_some (sh.r (fr_1 (lt_in b4))) ?_)
    refine gq196_X2 (pc := 41) cx dX0_off_41 (sh.k (isLn_w (lt_in b4)).1) ?_
    exact v_iret cx rfl dX0_off_44 ⟨Nat.le_of_ble_eq_true rfl, Nat.le_of_ble_eq_true rfl⟩ ⟨h, sh⟩
  · replace h := h.1 c1
    refine v_iconst (pc := 7) cx dX0_off_7 ic_m1 ?_
    exact v_iret cx rfl dX0_off_8 ⟨Nat.le_of_ble_eq_true rfl, Nat.le_of_ble_eq_true rfl⟩ ⟨h, sh⟩
/-! LetterHeaps.reachWithout(II)J -/
def m_X0_reachWithout_l32  (K7 : Int64 → Int64 → Prop) (K20 : Int64 → Int32 → Prop) (x2 : Int32) (x5 : Int64) (x7 : Int32) (M : WM)  (Q : Int64 → Prop) : Nat → Int64 → Int32 → Prop
  | 0, _, _ => False
  | n + 1, x3, x8 => (((wI M 0 3) ≤ x8 → (∀ z2 : Int32, z2 = x7 + (1 : Int32) → K20 x3 z2)) ∧ (¬ (wI M 0 3) ≤ x8 → (m_X0_has x5 x7 (fun (a3 : Int32) => ((a3 = 0 → (∀ z5 : Int32, z5 = x7 + (1 : Int32) → K20 x3 z5)) ∧ (¬ a3 = 0 → ((x8 = x2 → (∀ z7 : Int32, z7 = x8 + (1 : Int32) → m_X0_reachWithout_l32 K7 K20 x2 x5 x7 M Q n x3 z7)) ∧ (¬ x8 = x2 → (m_X0_isStep x7 x8 M (fun (a8 : Int32) => ((a8 = 0 → (∀ z10 : Int32, z10 = x8 + (1 : Int32) → m_X0_reachWithout_l32 K7 K20 x2 x5 x7 M Q n x3 z10)) ∧ (¬ a8 = 0 → (∀ z11 : Int64, z11 = (x3 ||| ((1 : Int64) <<< (x8.toInt64 &&& 63))) → (∀ z12 : Int32, z12 = x8 + (1 : Int32) → m_X0_reachWithout_l32 K7 K20 x2 x5 x7 M Q n z11 z12))))))))))))))
theorem w_X0_reachWithout_l32 {p : Program} {l : Launch} {e : Env} {s : State} {m : MethodId} {args : Array Value} {below : List Frame} {meth : Method} {c : Code} {D : va_G} {cA : Nat → ClassId} {sz0 : Nat} {H0 : Heap}  {K7 : Int64 → Int64 → Prop} {K20 : Int64 → Int32 → Prop} {x2 : Int32} {x5 : Int64} {x7 : Int32} {M : WM} {Q : Int64 → Prop}  (cx : Cx p s m args meth c cX0_reachWithout 9 RX0 (some .long) D cA sz0 H0)  (hK7 : ∀ (x3 : Int64) (x5 : Int64) , K7 x3 x5 → V p l e ({ frames := 1, cells := 0, slots := 0, locals := 22 } : Room) s m args below meth c 9 D cA sz0 H0 0 0 (MQ below (QW_l D cA sz0 H0 (fun r M' => M' = M ∧ Q r)) args s 0 0 (Aw sz0)) 7 [(0, .ref (sz0 + 0)), (2, .int x2), (3, .long x3), (5, .long x5)] [] M) (hK20 : ∀ (x3 : Int64) (x7 : Int32) , K20 x3 x7 → V p l e ({ frames := 1, cells := 0, slots := 0, locals := 22 } : Room) s m args below meth c 9 D cA sz0 H0 0 0 (MQ below (QW_l D cA sz0 H0 (fun r M' => M' = M ∧ Q r)) args s 0 0 (Aw sz0)) 20 [(0, .ref (sz0 + 0)), (2, .int x2), (3, .long x3), (5, .long x5), (7, .int x7)] [] M)  (sh : Shp M) : ∀ (n : Nat) (x3 : Int64) (x8 : Int32) , m_X0_reachWithout_l32 K7 K20 x2 x5 x7 M Q n x3 x8 → V p l e ({ frames := 1, cells := 0, slots := 0, locals := 22 } : Room) s m args below meth c 9 D cA sz0 H0 0 0 (MQ below (QW_l D cA sz0 H0 (fun r M' => M' = M ∧ Q r)) args s 0 0 (Aw sz0)) 32 [(0, .ref (sz0 + 0)), (2, .int x2), (3, .long x3), (5, .long x5), (7, .int x7), (8, .int x8)] [] M := by
  intro n
  induction n with
  | zero => intro x3 x8 h; exact h.elim
  | succ n ih =>
    intro x3 x8 h
    replace h : (((wI M 0 3) ≤ x8 → (∀ z2 : Int32, z2 = x7 + (1 : Int32) → K20 x3 z2)) ∧ (¬ (wI M 0 3) ≤ x8 → (m_X0_has x5 x7 (fun (a3 : Int32) => ((a3 = 0 → (∀ z5 : Int32, z5 = x7 + (1 : Int32) → K20 x3 z5)) ∧ (¬ a3 = 0 → ((x8 = x2 → (∀ z7 : Int32, z7 = x8 + (1 : Int32) → m_X0_reachWithout_l32 K7 K20 x2 x5 x7 M Q n x3 z7)) ∧ (¬ x8 = x2 → (m_X0_isStep x7 x8 M (fun (a8 : Int32) => ((a8 = 0 → (∀ z10 : Int32, z10 = x8 + (1 : Int32) → m_X0_reachWithout_l32 K7 K20 x2 x5 x7 M Q n x3 z10)) ∧ (¬ a8 = 0 → (∀ z11 : Int64, z11 = (x3 ||| ((1 : Int64) <<< (x8.toInt64 &&& 63))) → (∀ z12 : Int32, z12 = x8 + (1 : Int32) → m_X0_reachWithout_l32 K7 K20 x2 x5 x7 M Q n z11 z12)))))))))))))) := h
    refine v_iload (pc := 32) cx dX0_reachWithout_32 5 rfl ?_
    refine v_aload_n (pc := 34) cx dX0_reachWithout_34 rfl 0 rfl ?_
    refine gq278_X0 (pc := 35) cx dX0_reachWithout_35 (sh.k k_0) ?_
    refine v_icmp_ge (pc := 38) cx dX0_reachWithout_38 (tgt := 81) rfl (fun c1 => ?_) (fun c1 => ?_)
    · replace h := h.1 c1
      refine nm_x (x7 + (1 : Int32)) (fun z2 ez2 => ?_)
      replace h := h z2 ez2
      refine v_iinc (pc := 81) cx dX0_reachWithout_81 (q := 4) rfl ((ii_1 _).trans ez2.symm) (Nat.le_of_ble_eq_true rfl) (lv' := [(7, .int z2), (0, .ref (sz0 + 0)), (2, .int x2), (3, .long x3), (5, .long x5), (8, .int x8)]) rfl ?_
      refine v_goto (pc := 84) cx dX0_reachWithout_84 (tgt := 20) rfl ?_
      refine v_sub (lv' := [(0, .ref (sz0 + 0)), (2, .int x2), (3, .long x3), (5, .long x5), (7, .int z2)]) [1, 2, 3, 4, 0] rfl ?_
      exact hK20 x3 z2 h
    · replace h := h.2 c1
      refine v_lload (pc := 41) cx dX0_reachWithout_41 3 rfl ?_
      refine v_iload (pc := 43) cx dX0_reachWithout_43 4 rfl ?_
      refine v_runp_i (pc := 45) cx (kcq722_X0 cx (c_X0_has l D cA sz0 H0 M x5 x7  _ h) ⟨Nat.le_of_ble_eq_true rfl, Nat.le_of_ble_eq_true rfl⟩ (As := [.long x5, .int x7]) rfl rfl (Nat.le_of_ble_eq_true rfl) dX0_reachWithout_45 ⟨Nat.le_of_ble_eq_true rfl, Nat.le_of_ble_eq_true rfl⟩) (fun a3 hq => ?_)
      replace h := hq
      refine v_if_eq (pc := 48) cx dX0_reachWithout_48 (tgt := 81) rfl (fun c4 => ?_) (fun c4 => ?_)
      · replace h := h.1 c4
        refine nm_x (x7 + (1 : Int32)) (fun z5 ez5 => ?_)
        replace h := h z5 ez5
        refine v_iinc (pc := 81) cx dX0_reachWithout_81 (q := 4) rfl ((ii_1 _).trans ez5.symm) (Nat.le_of_ble_eq_true rfl) (lv' := [(7, .int z5), (0, .ref (sz0 + 0)), (2, .int x2), (3, .long x3), (5, .long x5), (8, .int x8)]) rfl ?_
        refine v_goto (pc := 84) cx dX0_reachWithout_84 (tgt := 20) rfl ?_
        refine v_sub (lv' := [(0, .ref (sz0 + 0)), (2, .int x2), (3, .long x3), (5, .long x5), (7, .int z5)]) [1, 2, 3, 4, 0] rfl ?_
        exact hK20 x3 z5 h
      · replace h := h.2 c4
        refine v_iload (pc := 51) cx dX0_reachWithout_51 5 rfl ?_
        refine v_iload_n (pc := 53) cx dX0_reachWithout_53 rfl 1 rfl ?_
        refine v_icmp_eq (pc := 54) cx dX0_reachWithout_54 (tgt := 75) rfl (fun c6 => ?_) (fun c6 => ?_)
        · replace h := h.1 c6
          refine nm_x (x8 + (1 : Int32)) (fun z7 ez7 => ?_)
          replace h := h z7 ez7
          refine v_iinc (pc := 75) cx dX0_reachWithout_75 (q := 5) rfl ((ii_1 _).trans ez7.symm) (Nat.le_of_ble_eq_true rfl) (lv' := [(8, .int z7), (0, .ref (sz0 + 0)), (2, .int x2), (3, .long x3), (5, .long x5), (7, .int x7)]) rfl ?_
          refine v_goto (pc := 78) cx dX0_reachWithout_78 (tgt := 32) rfl ?_
          refine v_sub (lv' := [(0, .ref (sz0 + 0)), (2, .int x2), (3, .long x3), (5, .long x5), (7, .int x7), (8, .int z7)]) [1, 2, 3, 4, 5, 0] rfl ?_
          exact ih x3 z7 h
        · replace h := h.2 c6
          refine v_aload_n (pc := 57) cx dX0_reachWithout_57 rfl 0 rfl ?_
          refine v_iload (pc := 58) cx dX0_reachWithout_58 4 rfl ?_
          refine v_iload (pc := 60) cx dX0_reachWithout_60 5 rfl ?_
          refine v_runp_i (pc := 62) cx (kcq808_X0 cx (c_X0_isStep l D cA sz0 H0 M x7 x8  _ sh h) ⟨Nat.le_of_ble_eq_true rfl, Nat.le_of_ble_eq_true rfl⟩ (sh.k k_0) (As := [.int x7, .int x8]) rfl rfl (Nat.le_of_ble_eq_true rfl) dX0_reachWithout_62 ⟨Nat.le_of_ble_eq_true rfl, Nat.le_of_ble_eq_true rfl⟩) (fun a8 hq => ?_)
          replace h := hq
          refine v_if_eq (pc := 65) cx dX0_reachWithout_65 (tgt := 75) rfl (fun c9 => ?_) (fun c9 => ?_)
          · replace h := h.1 c9
            refine nm_x (x8 + (1 : Int32)) (fun z10 ez10 => ?_)
            replace h := h z10 ez10
            refine v_iinc (pc := 75) cx dX0_reachWithout_75 (q := 5) rfl ((ii_1 _).trans ez10.symm) (Nat.le_of_ble_eq_true rfl) (lv' := [(8, .int z10), (0, .ref (sz0 + 0)), (2, .int x2), (3, .long x3), (5, .long x5), (7, .int x7)]) rfl ?_
            refine v_goto (pc := 78) cx dX0_reachWithout_78 (tgt := 32) rfl ?_
            refine v_sub (lv' := [(0, .ref (sz0 + 0)), (2, .int x2), (3, .long x3), (5, .long x5), (7, .int x7), (8, .int z10)]) [1, 2, 3, 4, 5, 0] rfl ?_
            exact ih x3 z10 h
          · replace h := h.2 c9
            refine v_lload_n (pc := 68) cx dX0_reachWithout_68 rfl 2 rfl ?_
            refine v_lconst (pc := 69) cx dX0_reachWithout_69 lc_1 ?_
            refine v_iload (pc := 70) cx dX0_reachWithout_70 5 rfl ?_
            refine v_lshl (pc := 72) cx dX0_reachWithout_72 ?_
            refine v_lor (pc := 73) cx dX0_reachWithout_73 ?_
            refine v_topl (fun z11 ez11 => ?_)
            replace h := h z11 ez11
            refine v_lstore_n (pc := 74) cx dX0_reachWithout_74 rfl (Nat.le_of_ble_eq_true rfl) (lv' := [(3, .long z11), (0, .ref (sz0 + 0)), (2, .int x2), (5, .long x5), (7, .int x7), (8, .int x8)]) rfl ?_
            refine nm_x (x8 + (1 : Int32)) (fun z12 ez12 => ?_)
            replace h := h z12 ez12
            refine v_iinc (pc := 75) cx dX0_reachWithout_75 (q := 5) rfl ((ii_1 _).trans ez12.symm) (Nat.le_of_ble_eq_true rfl) (lv' := [(8, .int z12), (3, .long z11), (0, .ref (sz0 + 0)), (2, .int x2), (5, .long x5), (7, .int x7)]) rfl ?_
            refine v_goto (pc := 78) cx dX0_reachWithout_78 (tgt := 32) rfl ?_
            refine v_sub (lv' := [(0, .ref (sz0 + 0)), (2, .int x2), (3, .long z11), (5, .long x5), (7, .int x7), (8, .int z12)]) [2, 3, 1, 4, 5, 0] rfl ?_
            exact ih z11 z12 h
def m_X0_reachWithout_l20  (K7 : Int64 → Int64 → Prop) (x2 : Int32) (x5 : Int64) (M : WM)  (Q : Int64 → Prop) : Nat → Int64 → Int32 → Prop
  | 0, _, _ => False
  | n + 1, x3, x7 => (((wI M 0 3) ≤ x7 → K7 x3 x5) ∧ (¬ (wI M 0 3) ≤ x7 → (∃ n0, m_X0_reachWithout_l32 K7 (fun x3' x7' => m_X0_reachWithout_l20 K7 x2 x5 M Q n x3' x7') x2 x5 x7 M Q n0 x3 ((0 : Int32)))))
theorem w_X0_reachWithout_l20 {p : Program} {l : Launch} {e : Env} {s : State} {m : MethodId} {args : Array Value} {below : List Frame} {meth : Method} {c : Code} {D : va_G} {cA : Nat → ClassId} {sz0 : Nat} {H0 : Heap}  {K7 : Int64 → Int64 → Prop} {x2 : Int32} {x5 : Int64} {M : WM} {Q : Int64 → Prop}  (cx : Cx p s m args meth c cX0_reachWithout 9 RX0 (some .long) D cA sz0 H0)  (hK7 : ∀ (x3 : Int64) (x5 : Int64) , K7 x3 x5 → V p l e ({ frames := 1, cells := 0, slots := 0, locals := 22 } : Room) s m args below meth c 9 D cA sz0 H0 0 0 (MQ below (QW_l D cA sz0 H0 (fun r M' => M' = M ∧ Q r)) args s 0 0 (Aw sz0)) 7 [(0, .ref (sz0 + 0)), (2, .int x2), (3, .long x3), (5, .long x5)] [] M)  (sh : Shp M) : ∀ (n : Nat) (x3 : Int64) (x7 : Int32) , m_X0_reachWithout_l20 K7 x2 x5 M Q n x3 x7 → V p l e ({ frames := 1, cells := 0, slots := 0, locals := 22 } : Room) s m args below meth c 9 D cA sz0 H0 0 0 (MQ below (QW_l D cA sz0 H0 (fun r M' => M' = M ∧ Q r)) args s 0 0 (Aw sz0)) 20 [(0, .ref (sz0 + 0)), (2, .int x2), (3, .long x3), (5, .long x5), (7, .int x7)] [] M := by
  intro n
  induction n with
  | zero => intro x3 x7 h; exact h.elim
  | succ n ih =>
    intro x3 x7 h
    replace h : (((wI M 0 3) ≤ x7 → K7 x3 x5) ∧ (¬ (wI M 0 3) ≤ x7 → (∃ n0, m_X0_reachWithout_l32 K7 (fun x3' x7' => m_X0_reachWithout_l20 K7 x2 x5 M Q n x3' x7') x2 x5 x7 M Q n0 x3 ((0 : Int32))))) := h
    refine v_iload (pc := 20) cx dX0_reachWithout_20 4 rfl ?_
    refine v_aload_n (pc := 22) cx dX0_reachWithout_22 rfl 0 rfl ?_
    refine gq278_X0 (pc := 23) cx dX0_reachWithout_23 (sh.k k_0) ?_
    refine v_icmp_ge (pc := 26) cx dX0_reachWithout_26 (tgt := 87) rfl (fun c1 => ?_) (fun c1 => ?_)
    · replace h := h.1 c1
      refine v_goto (pc := 87) cx dX0_reachWithout_87 (tgt := 7) rfl ?_
      refine v_sub (lv' := [(0, .ref (sz0 + 0)), (2, .int x2), (3, .long x3), (5, .long x5)]) [0, 1, 2, 3] rfl ?_
      exact hK7 x3 x5 h
    · replace h := h.2 c1
      refine v_iconst (pc := 29) cx dX0_reachWithout_29 ic_0 ?_
      refine v_istore (pc := 30) cx dX0_reachWithout_30 (Nat.le_of_ble_eq_true rfl) (lv' := [(8, .int (0 : Int32)), (0, .ref (sz0 + 0)), (2, .int x2), (3, .long x3), (5, .long x5), (7, .int x7)]) rfl ?_
      refine v_sub (lv' := [(0, .ref (sz0 + 0)), (2, .int x2), (3, .long x3), (5, .long x5), (7, .int x7), (8, .int (0 : Int32))]) [1, 2, 3, 4, 5, 0] rfl ?_
      obtain ⟨n0, h⟩ := h
      exact w_X0_reachWithout_l32 cx hK7 ih sh n0 x3 ((0 : Int32)) h
def m_X0_reachWithout_l7   (x2 : Int32) (M : WM)  (Q : Int64 → Prop) : Nat → Int64 → Int64 → Prop
  | 0, _, _ => False
  | n + 1, x3, x5 => (((lg_cmp x3 x5) = 0 → Q x3) ∧ (¬ (lg_cmp x3 x5) = 0 → (∃ n0, m_X0_reachWithout_l20 (fun x3' x5' => m_X0_reachWithout_l7 x2 M Q n x3' x5') x2 x3 M Q n0 x3 ((0 : Int32)))))
theorem w_X0_reachWithout_l7 {p : Program} {l : Launch} {e : Env} {s : State} {m : MethodId} {args : Array Value} {below : List Frame} {meth : Method} {c : Code} {D : va_G} {cA : Nat → ClassId} {sz0 : Nat} {H0 : Heap}  {x2 : Int32} {M : WM} {Q : Int64 → Prop}  (cx : Cx p s m args meth c cX0_reachWithout 9 RX0 (some .long) D cA sz0 H0)    (sh : Shp M) : ∀ (n : Nat) (x3 : Int64) (x5 : Int64) , m_X0_reachWithout_l7 x2 M Q n x3 x5 → V p l e ({ frames := 1, cells := 0, slots := 0, locals := 22 } : Room) s m args below meth c 9 D cA sz0 H0 0 0 (MQ below (QW_l D cA sz0 H0 (fun r M' => M' = M ∧ Q r)) args s 0 0 (Aw sz0)) 7 [(0, .ref (sz0 + 0)), (2, .int x2), (3, .long x3), (5, .long x5)] [] M := by
  intro n
  induction n with
  | zero => intro x3 x5 h; exact h.elim
  | succ n ih =>
    intro x3 x5 h
    replace h : (((lg_cmp x3 x5) = 0 → Q x3) ∧ (¬ (lg_cmp x3 x5) = 0 → (∃ n0, m_X0_reachWithout_l20 (fun x3' x5' => m_X0_reachWithout_l7 x2 M Q n x3' x5') x2 x3 M Q n0 x3 ((0 : Int32))))) := h
    refine v_lload_n (pc := 7) cx dX0_reachWithout_7 rfl 2 rfl ?_
    refine v_lload (pc := 8) cx dX0_reachWithout_8 3 rfl ?_
    refine v_lcmp (pc := 10) cx dX0_reachWithout_10 ?_
    refine v_if_eq (pc := 11) cx dX0_reachWithout_11 (tgt := 90) rfl (fun c1 => ?_) (fun c1 => ?_)
    · replace h := h.1 c1
      refine v_lload_n (pc := 90) cx dX0_reachWithout_90 rfl 2 rfl ?_
      exact v_lret cx rfl dX0_reachWithout_91 ⟨Nat.le_of_ble_eq_true rfl, Nat.le_of_ble_eq_true rfl⟩ ⟨rfl, h⟩
    · replace h := h.2 c1
      refine v_lload_n (pc := 14) cx dX0_reachWithout_14 rfl 2 rfl ?_
      refine v_lstore (pc := 15) cx dX0_reachWithout_15 (Nat.le_of_ble_eq_true rfl) (lv' := [(5, .long x3), (0, .ref (sz0 + 0)), (2, .int x2), (3, .long x3)]) rfl ?_
      refine v_iconst (pc := 17) cx dX0_reachWithout_17 ic_0 ?_
      refine v_istore (pc := 18) cx dX0_reachWithout_18 (Nat.le_of_ble_eq_true rfl) (lv' := [(7, .int (0 : Int32)), (5, .long x3), (0, .ref (sz0 + 0)), (2, .int x2), (3, .long x3)]) rfl ?_
      refine v_sub (lv' := [(0, .ref (sz0 + 0)), (2, .int x2), (3, .long x3), (5, .long x3), (7, .int (0 : Int32))]) [2, 3, 4, 1, 0] rfl ?_
      obtain ⟨n0, h⟩ := h
      exact w_X0_reachWithout_l20 cx ih sh n0 x3 ((0 : Int32)) h
def m_X0_reachWithout (x1 : Int32) (x2 : Int32) (M : WM)  (Q : Int64 → Prop) : Prop := (∀ z1 : Int64, z1 = ((1 : Int64) <<< (x1.toInt64 &&& 63)) → (∃ n0, m_X0_reachWithout_l7 x2 M Q n0 z1 ((0 : Int64))))
theorem c_X0_reachWithout (l : Launch) (D : va_G) (cA : Nat → ClassId) (sz0 : Nat) (H0 : Heap) (M : WM) (x1 : Int32) (x2 : Int32)   (Q : Int64 → Prop) (sh : Shp M) (h : m_X0_reachWithout x1 x2 M  Q) : Met l yX0_reachWithout (ws_ yX0_reachWithout cX0_reachWithout 9 (some .long)) ({ frames := 1, cells := 0, slots := 0, locals := 22 } : Room) (PcW D cA sz0 H0 [.ref (sz0 + 0), .int x1, .int x2] M) (QW_l D cA sz0 H0 (fun r M' => M' = M ∧ Q r)) 0 0 (Aw sz0) := by
  replace h : (∀ z1 : Int64, z1 = ((1 : Int64) <<< (x1.toInt64 &&& 63)) → (∃ n0, m_X0_reachWithout_l7 x2 M Q n0 z1 ((0 : Int64)))) := h
  refine Met.ofV (by decide +kernel) (Nat.le_of_ble_eq_true rfl) ?_
  intro p e s m args below meth c cx hnm
  replace cx : Cx p s m args meth c cX0_reachWithout 9 RX0 (some .long) D cA sz0 H0 := cx
  refine v_sub (lv' := [(0, .ref (sz0 + 0)), (1, .int x1), (2, .int x2)]) [0, 1, 2] rfl ?_
  refine v_lconst (pc := 0) cx dX0_reachWithout_0 lc_1 ?_
  refine v_iload_n (pc := 1) cx dX0_reachWithout_1 rfl 1 rfl ?_
  refine v_lshl (pc := 2) cx dX0_reachWithout_2 ?_
  refine v_topl (fun z1 ez1 => ?_)
  replace h := h z1 ez1
  refine v_lstore_n (pc := 3) cx dX0_reachWithout_3 rfl (Nat.le_of_ble_eq_true rfl) (lv' := [(3, .long z1), (0, .ref (sz0 + 0)), (1, .int x1), (2, .int x2)]) rfl ?_
  refine v_lconst (pc := 4) cx dX0_reachWithout_4 lc_0 ?_
  refine v_lstore (pc := 5) cx dX0_reachWithout_5 (Nat.le_of_ble_eq_true rfl) (lv' := [(5, .long (0 : Int64)), (3, .long z1), (0, .ref (sz0 + 0)), (1, .int x1), (2, .int x2)]) rfl ?_
  refine v_sub (lv' := [(0, .ref (sz0 + 0)), (2, .int x2), (3, .long z1), (5, .long (0 : Int64))]) [2, 4, 1, 0] rfl ?_
  obtain ⟨n0, h⟩ := h
  exact w_X0_reachWithout_l7 cx sh n0 z1 ((0 : Int64)) h
/-! LetterHeaps.sorts()V -/
def m_X0_sorts_l12  (K2 : Int32 → WM → Prop) (x1 : Int32)   (Q : WM → Prop) : Nat → Int32 → WM → Prop
  | 0, _, _ => False
  | n + 1, x2, M => ((x2 ≤ 0 → (∀ z2 : Int32, z2 = x1 + (1 : Int32) → K2 z2 M)) ∧ (¬ x2 ≤ 0 → (vp_in ((x2 - (1 : Int32))) 14 ∧ (vp_in x2 14 ∧ (((wI M 184 ((x2 - (1 : Int32))).toNatClampNeg) ≤ (wI M 184 x2.toNatClampNeg) → (∀ z6 : Int32, z6 = x1 + (1 : Int32) → K2 z6 M)) ∧ (¬ (wI M 184 ((x2 - (1 : Int32))).toNatClampNeg) ≤ (wI M 184 x2.toNatClampNeg) → (vp_in x2 14 ∧ (∀ z8 : Int32, z8 = (wI M 184 x2.toNatClampNeg) → (vp_in ((x2 - (1 : Int32))) 14 ∧ (vp_in x2 14 ∧ (∀ M11 : WM, M11 = wPI M 184 x2.toNatClampNeg ((wI M 184 ((x2 - (1 : Int32))).toNatClampNeg)) → (vp_in ((x2 - (1 : Int32))) 14 ∧ (∀ M13 : WM, M13 = wPI M11 184 ((x2 - (1 : Int32))).toNatClampNeg z8 → (∀ z14 : Int32, z14 = x2 + ((-1) : Int32) → m_X0_sorts_l12 K2 x1 Q n z14 M13))))))))))))))
theorem w_X0_sorts_l12 {p : Program} {l : Launch} {e : Env} {s : State} {m : MethodId} {args : Array Value} {below : List Frame} {meth : Method} {c : Code} {D : va_G} {cA : Nat → ClassId} {sz0 : Nat} {H0 : Heap}  {K2 : Int32 → WM → Prop} {x1 : Int32} {Q : WM → Prop}  (cx : Cx p s m args meth c cX0_sorts 4 RX0 none D cA sz0 H0)  (hK2 : ∀ (x1 : Int32)  (M : WM) (sh : Shp M), K2 x1 M → V p l e ({ frames := 0, cells := 0, slots := 0, locals := 0 } : Room) s m args below meth c 4 D cA sz0 H0 0 0 (MQ below (QW_v D cA sz0 H0 (fun M' => Q M' ∧ Shp M')) args s 0 0 (Aw sz0)) 2 [(0, .ref (sz0 + 0)), (1, .int x1)] [] M)   : ∀ (n : Nat) (x2 : Int32)  (M : WM) (sh : Shp M), m_X0_sorts_l12 K2 x1 Q n x2 M → V p l e ({ frames := 0, cells := 0, slots := 0, locals := 0 } : Room) s m args below meth c 4 D cA sz0 H0 0 0 (MQ below (QW_v D cA sz0 H0 (fun M' => Q M' ∧ Shp M')) args s 0 0 (Aw sz0)) 12 [(0, .ref (sz0 + 0)), (1, .int x1), (2, .int x2)] [] M := by
  intro n
  induction n with
  | zero => intro x2 M sh h; exact h.elim
  | succ n ih =>
    intro x2 M sh h
    replace h : ((x2 ≤ 0 → (∀ z2 : Int32, z2 = x1 + (1 : Int32) → K2 z2 M)) ∧ (¬ x2 ≤ 0 → (vp_in ((x2 - (1 : Int32))) 14 ∧ (vp_in x2 14 ∧ (((wI M 184 ((x2 - (1 : Int32))).toNatClampNeg) ≤ (wI M 184 x2.toNatClampNeg) → (∀ z6 : Int32, z6 = x1 + (1 : Int32) → K2 z6 M)) ∧ (¬ (wI M 184 ((x2 - (1 : Int32))).toNatClampNeg) ≤ (wI M 184 x2.toNatClampNeg) → (vp_in x2 14 ∧ (∀ z8 : Int32, z8 = (wI M 184 x2.toNatClampNeg) → (vp_in ((x2 - (1 : Int32))) 14 ∧ (vp_in x2 14 ∧ (∀ M11 : WM, M11 = wPI M 184 x2.toNatClampNeg ((wI M 184 ((x2 - (1 : Int32))).toNatClampNeg)) → (vp_in ((x2 - (1 : Int32))) 14 ∧ (∀ M13 : WM, M13 = wPI M11 184 ((x2 - (1 : Int32))).toNatClampNeg z8 → (∀ z14 : Int32, z14 = x2 + ((-1) : Int32) → m_X0_sorts_l12 K2 x1 Q n z14 M13)))))))))))))) := h
    refine v_iload_n (pc := 12) cx dX0_sorts_12 rfl 2 rfl ?_
    refine v_if_le (pc := 13) cx dX0_sorts_13 (tgt := 69) rfl (fun c1 => ?_) (fun c1 => ?_)
    · replace h := h.1 c1
      refine nm_x (x1 + (1 : Int32)) (fun z2 ez2 => ?_)
      replace h := h z2 ez2
      refine v_iinc (pc := 69) cx dX0_sorts_69 (q := 1) rfl ((ii_1 _).trans ez2.symm) (Nat.le_of_ble_eq_true rfl) (lv' := [(1, .int z2), (0, .ref (sz0 + 0)), (2, .int x2)]) rfl ?_
      refine v_goto (pc := 72) cx dX0_sorts_72 (tgt := 2) rfl ?_
      refine v_sub (lv' := [(0, .ref (sz0 + 0)), (1, .int z2)]) [1, 0] rfl ?_
      exact hK2 z2 M sh h
    · replace h := h.2 c1
      refine v_aload_n (pc := 16) cx dX0_sorts_16 rfl 0 rfl ?_
      refine gq299_X0 (pc := 17) cx dX0_sorts_17 (sh.k k_0) (v_some (sh.r r_0_24) ?_)
      refine v_iload_n (pc := 20) cx dX0_sorts_20 rfl 2 rfl ?_
      refine v_iconst (pc := 21) cx dX0_sorts_21 ic_1 ?_
      refine v_isub (pc := 22) cx dX0_sorts_22 ?_
      obtain ⟨b3, h⟩ := h
      refine v_iald (pc := 23) cx dX0_sorts_23 (sh.k k_184) (sh.l k_184 l_184) b3 ?_
      refine v_aload_n (pc := 24) cx dX0_sorts_24 rfl 0 rfl ?_
      refine gq299_X0 (pc := 25) cx dX0_sorts_25 (sh.k k_0) (v_some (sh.r r_0_24) ?_)
      refine v_iload_n (pc := 28) cx dX0_sorts_28 rfl 2 rfl ?_
      obtain ⟨b4, h⟩ := h
      refine v_iald (pc := 29) cx dX0_sorts_29 (sh.k k_184) (sh.l k_184 l_184) b4 ?_
      refine v_icmp_le (pc := 30) cx dX0_sorts_30 (tgt := 69) rfl (fun c5 => ?_) (fun c5 => ?_)
      · replace h := h.1 c5
        refine nm_x (x1 + (1 : Int32)) (fun z6 ez6 => ?_)
        replace h := h z6 ez6
        refine v_iinc (pc := 69) cx dX0_sorts_69 (q := 1) rfl ((ii_1 _).trans ez6.symm) (Nat.le_of_ble_eq_true rfl) (lv' := [(1, .int z6), (0, .ref (sz0 + 0)), (2, .int x2)]) rfl ?_
        refine v_goto (pc := 72) cx dX0_sorts_72 (tgt := 2) rfl ?_
        refine v_sub (lv' := [(0, .ref (sz0 + 0)), (1, .int z6)]) [1, 0] rfl ?_
        exact hK2 z6 M sh h
      · replace h := h.2 c5
        refine v_aload_n (pc := 33) cx dX0_sorts_33 rfl 0 rfl ?_
        refine gq299_X0 (pc := 34) cx dX0_sorts_34 (sh.k k_0) (v_some (sh.r r_0_24) ?_)
        refine v_iload_n (pc := 37) cx dX0_sorts_37 rfl 2 rfl ?_
        obtain ⟨b7, h⟩ := h
        refine v_iald (pc := 38) cx dX0_sorts_38 (sh.k k_184) (sh.l k_184 l_184) b7 ?_
        refine v_topi (fun z8 ez8 => ?_)
        replace h := h z8 ez8
        refine v_istore_n (pc := 39) cx dX0_sorts_39 rfl (Nat.le_of_ble_eq_true rfl) (lv' := [(3, .int z8), (0, .ref (sz0 + 0)), (1, .int x1), (2, .int x2)]) rfl ?_
        refine v_aload_n (pc := 40) cx dX0_sorts_40 rfl 1 rfl ?_
        refine gq299_X0 (pc := 41) cx dX0_sorts_41 (sh.k k_0) (v_some (sh.r r_0_24) ?_)
        refine v_iload_n (pc := 44) cx dX0_sorts_44 rfl 3 rfl ?_
        refine v_aload_n (pc := 45) cx dX0_sorts_45 rfl 1 rfl ?_
        refine gq299_X0 (pc := 46) cx dX0_sorts_46 (sh.k k_0) (v_some (sh.r r_0_24) ?_)
        refine v_iload_n (pc := 49) cx dX0_sorts_49 rfl 3 rfl ?_
        refine v_iconst (pc := 50) cx dX0_sorts_50 ic_1 ?_
        refine v_isub (pc := 51) cx dX0_sorts_51 ?_
        obtain ⟨b9, h⟩ := h
        refine v_iald (pc := 52) cx dX0_sorts_52 (sh.k k_184) (sh.l k_184 l_184) b9 ?_
        obtain ⟨b10, h⟩ := h
        refine v_iast (pc := 53) cx dX0_sorts_53 (sh.k k_184) (sh.l k_184 l_184) b10 ?_
        refine v_wld (fun M11 eM11 => ?_)
        replace h := h M11 eM11
        replace sh : Shp M11 := Shp_PI sh eM11
        refine v_aload_n (pc := 54) cx dX0_sorts_54 rfl 1 rfl ?_
        refine gq299_X0 (pc := 55) cx dX0_sorts_55 (sh.k k_0) (v_some (sh.r r_0_24) ?_)
        refine v_iload_n (pc := 58) cx dX0_sorts_58 rfl 3 rfl ?_
        refine v_iconst (pc := 59) cx dX0_sorts_59 ic_1 ?_
        refine v_isub (pc := 60) cx dX0_sorts_60 ?_
        refine v_iload_n (pc := 61) cx dX0_sorts_61 rfl 0 rfl ?_
        obtain ⟨b12, h⟩ := h
        refine v_iast (pc := 62) cx dX0_sorts_62 (sh.k k_184) (sh.l k_184 l_184) b12 ?_
        refine v_wld (fun M13 eM13 => ?_)
        replace h := h M13 eM13
        replace sh : Shp M13 := Shp_PI sh eM13
        refine nm_x (x2 + ((-1) : Int32)) (fun z14 ez14 => ?_)
        replace h := h z14 ez14
        refine v_iinc (pc := 63) cx dX0_sorts_63 (q := 3) rfl ((ii_m1 _).trans ez14.symm) (Nat.le_of_ble_eq_true rfl) (lv' := [(2, .int z14), (3, .int z8), (0, .ref (sz0 + 0)), (1, .int x1)]) rfl ?_
        refine v_goto (pc := 66) cx dX0_sorts_66 (tgt := 12) rfl ?_
        refine v_sub (lv' := [(0, .ref (sz0 + 0)), (1, .int x1), (2, .int z14)]) [2, 3, 0] rfl ?_
        exact ih z14 M13 sh h
def m_X0_sorts_l2      (Q : WM → Prop) : Nat → Int32 → WM → Prop
  | 0, _, _ => False
  | n + 1, x1, M => (((wI M 0 25) ≤ x1 → Q M) ∧ (¬ (wI M 0 25) ≤ x1 → (∃ n0, m_X0_sorts_l12 (fun x1' M' => m_X0_sorts_l2  Q n x1' M') x1 Q n0 x1 M)))
theorem w_X0_sorts_l2 {p : Program} {l : Launch} {e : Env} {s : State} {m : MethodId} {args : Array Value} {below : List Frame} {meth : Method} {c : Code} {D : va_G} {cA : Nat → ClassId} {sz0 : Nat} {H0 : Heap}  {Q : WM → Prop}  (cx : Cx p s m args meth c cX0_sorts 4 RX0 none D cA sz0 H0)     : ∀ (n : Nat) (x1 : Int32)  (M : WM) (sh : Shp M), m_X0_sorts_l2 Q n x1 M → V p l e ({ frames := 0, cells := 0, slots := 0, locals := 0 } : Room) s m args below meth c 4 D cA sz0 H0 0 0 (MQ below (QW_v D cA sz0 H0 (fun M' => Q M' ∧ Shp M')) args s 0 0 (Aw sz0)) 2 [(0, .ref (sz0 + 0)), (1, .int x1)] [] M := by
  intro n
  induction n with
  | zero => intro x1 M sh h; exact h.elim
  | succ n ih =>
    intro x1 M sh h
    replace h : (((wI M 0 25) ≤ x1 → Q M) ∧ (¬ (wI M 0 25) ≤ x1 → (∃ n0, m_X0_sorts_l12 (fun x1' M' => m_X0_sorts_l2  Q n x1' M') x1 Q n0 x1 M))) := h
    refine v_iload_n (pc := 2) cx dX0_sorts_2 rfl 1 rfl ?_
    refine v_aload_n (pc := 3) cx dX0_sorts_3 rfl 0 rfl ?_
    refine gq300_X0 (pc := 4) cx dX0_sorts_4 (sh.k k_0) ?_
    refine v_icmp_ge (pc := 7) cx dX0_sorts_7 (tgt := 75) rfl (fun c1 => ?_) (fun c1 => ?_)
    · replace h := h.1 c1
      exact v_vret cx rfl dX0_sorts_75 ⟨Nat.le_of_ble_eq_true rfl, Nat.le_of_ble_eq_true rfl⟩ ⟨h, sh⟩
    · replace h := h.2 c1
      refine v_iload_n (pc := 10) cx dX0_sorts_10 rfl 1 rfl ?_
      refine v_istore_n (pc := 11) cx dX0_sorts_11 rfl (Nat.le_of_ble_eq_true rfl) (lv' := [(2, .int x1), (0, .ref (sz0 + 0)), (1, .int x1)]) rfl ?_
      refine v_sub (lv' := [(0, .ref (sz0 + 0)), (1, .int x1), (2, .int x1)]) [1, 2, 0] rfl ?_
      obtain ⟨n0, h⟩ := h
      exact w_X0_sorts_l12 cx ih n0 x1 M sh h
def m_X0_sorts  (M : WM)  (Q : WM → Prop) : Prop := (∃ n0, m_X0_sorts_l2 Q n0 ((1 : Int32)) M)
theorem c_X0_sorts (l : Launch) (D : va_G) (cA : Nat → ClassId) (sz0 : Nat) (H0 : Heap) (M : WM)    (Q : WM → Prop) (sh : Shp M) (h : m_X0_sorts  M  Q) : Met l yX0_sorts (ws_ yX0_sorts cX0_sorts 4 none) ({ frames := 0, cells := 0, slots := 0, locals := 0 } : Room) (PcW D cA sz0 H0 [.ref (sz0 + 0)] M) (QW_v D cA sz0 H0 (fun M' => Q M' ∧ Shp M')) 0 0 (Aw sz0) := by
  replace h : (∃ n0, m_X0_sorts_l2 Q n0 ((1 : Int32)) M) := h
  refine Met.ofV (by decide +kernel) (Nat.le_of_ble_eq_true rfl) ?_
  intro p e s m args below meth c cx hnm
  replace cx : Cx p s m args meth c cX0_sorts 4 RX0 none D cA sz0 H0 := cx
  refine v_sub (lv' := [(0, .ref (sz0 + 0))]) [0] rfl ?_
  refine v_iconst (pc := 0) cx dX0_sorts_0 ic_1 ?_
  refine v_istore_n (pc := 1) cx dX0_sorts_1 rfl (Nat.le_of_ble_eq_true rfl) (lv' := [(1, .int (1 : Int32)), (0, .ref (sz0 + 0))]) rfl ?_
  refine v_sub (lv' := [(0, .ref (sz0 + 0)), (1, .int (1 : Int32))]) [1, 0] rfl ?_
  obtain ⟨n0, h⟩ := h
  exact w_X0_sorts_l2 cx n0 ((1 : Int32)) M sh h
/-! LetterHeaps.row(II)I -/
def m_X0_row_l178  (K159 : Int32 → Int32 → Int32 → WM → Prop) (x2 : Int32) (x5 : Int32) (x6 : Int32) (x7 : Int32) (x8 : Int32)   (Q : Int32 → WM → Prop) : Nat → Int32 → WM → Prop
  | 0, _, _ => False
  | n + 1, x9, M => (m_X0_has x5.toInt64 x9 (fun (a1 : Int32) => ((a1 = 0 → (m_X0_restBy x5 x6 x9 M (fun (a4 : Int32) => ((a4 = x8 → (∀ z6 : Int32, z6 = (x5 ||| ((1 : Int32) <<< (x9 &&& 31))) → (∀ z7 : Int32, z7 = x7 + (1 : Int32) → K159 z6 x9 z7 M))) ∧ (¬ a4 = x8 → (∀ z8 : Int32, z8 = x9 + (1 : Int32) → m_X0_row_l178 K159 x2 x5 x6 x7 x8 Q n z8 M)))))) ∧ (¬ a1 = 0 → (∀ z3 : Int32, z3 = x9 + (1 : Int32) → m_X0_row_l178 K159 x2 x5 x6 x7 x8 Q n z3 M)))))
theorem w_X0_row_l178 {p : Program} {l : Launch} {e : Env} {s : State} {m : MethodId} {args : Array Value} {below : List Frame} {meth : Method} {c : Code} {D : va_G} {cA : Nat → ClassId} {sz0 : Nat} {H0 : Heap}  {K159 : Int32 → Int32 → Int32 → WM → Prop} {x2 : Int32} {x5 : Int32} {x6 : Int32} {x7 : Int32} {x8 : Int32} {Q : Int32 → WM → Prop}  (cx : Cx p s m args meth c cX0_row 10 RX0 (some .int) D cA sz0 H0)  (hK159 : ∀ (x5 : Int32) (x6 : Int32) (x7 : Int32)  (M : WM) (sh : Shp M), K159 x5 x6 x7 M → V p l e ({ frames := 120, cells := 0, slots := 0, locals := 4632 } : Room) s m args below meth c 10 D cA sz0 H0 0 0 (MQ below (QW_i D cA sz0 H0 (fun r M' => Q r M' ∧ Shp M')) args s 0 0 (Aw sz0)) 159 [(0, .ref (sz0 + 0)), (2, .int x2), (5, .int x5), (6, .int x6), (7, .int x7)] [] M)   : ∀ (n : Nat) (x9 : Int32)  (M : WM) (sh : Shp M), m_X0_row_l178 K159 x2 x5 x6 x7 x8 Q n x9 M → V p l e ({ frames := 120, cells := 0, slots := 0, locals := 4632 } : Room) s m args below meth c 10 D cA sz0 H0 0 0 (MQ below (QW_i D cA sz0 H0 (fun r M' => Q r M' ∧ Shp M')) args s 0 0 (Aw sz0)) 178 [(0, .ref (sz0 + 0)), (2, .int x2), (5, .int x5), (6, .int x6), (7, .int x7), (8, .int x8), (9, .int x9)] [] M := by
  intro n
  induction n with
  | zero => intro x9 M sh h; exact h.elim
  | succ n ih =>
    intro x9 M sh h
    replace h : (m_X0_has x5.toInt64 x9 (fun (a1 : Int32) => ((a1 = 0 → (m_X0_restBy x5 x6 x9 M (fun (a4 : Int32) => ((a4 = x8 → (∀ z6 : Int32, z6 = (x5 ||| ((1 : Int32) <<< (x9 &&& 31))) → (∀ z7 : Int32, z7 = x7 + (1 : Int32) → K159 z6 x9 z7 M))) ∧ (¬ a4 = x8 → (∀ z8 : Int32, z8 = x9 + (1 : Int32) → m_X0_row_l178 K159 x2 x5 x6 x7 x8 Q n z8 M)))))) ∧ (¬ a1 = 0 → (∀ z3 : Int32, z3 = x9 + (1 : Int32) → m_X0_row_l178 K159 x2 x5 x6 x7 x8 Q n z3 M))))) := h
    refine v_iload (pc := 178) cx dX0_row_178 2 rfl ?_
    refine v_i2l (pc := 180) cx dX0_row_180 ?_
    refine v_iload (pc := 181) cx dX0_row_181 6 rfl ?_
    refine v_runp_i (pc := 183) cx (kcq722_X0 cx (c_X0_has l D cA sz0 H0 M x5.toInt64 x9  _ h) ⟨Nat.le_of_ble_eq_true rfl, Nat.le_of_ble_eq_true rfl⟩ (As := [.long x5.toInt64, .int x9]) rfl rfl (Nat.le_of_ble_eq_true rfl) dX0_row_183 ⟨Nat.le_of_ble_eq_true rfl, Nat.le_of_ble_eq_true rfl⟩) (fun a1 hq => ?_)
    replace h := hq
    refine v_if_ne (pc := 186) cx dX0_row_186 (tgt := 204) rfl (fun c2 => ?_) (fun c2 => ?_)
    · replace h := h.2 c2
      refine nm_x (x9 + (1 : Int32)) (fun z3 ez3 => ?_)
      replace h := h z3 ez3
      refine v_iinc (pc := 204) cx dX0_row_204 (q := 6) rfl ((ii_1 _).trans ez3.symm) (Nat.le_of_ble_eq_true rfl) (lv' := [(9, .int z3), (0, .ref (sz0 + 0)), (2, .int x2), (5, .int x5), (6, .int x6), (7, .int x7), (8, .int x8)]) rfl ?_
      refine v_goto (pc := 207) cx dX0_row_207 (tgt := 178) rfl ?_
      refine v_sub (lv' := [(0, .ref (sz0 + 0)), (2, .int x2), (5, .int x5), (6, .int x6), (7, .int x7), (8, .int x8), (9, .int z3)]) [1, 2, 3, 4, 5, 6, 0] rfl ?_
      exact ih z3 M sh h
    · replace h := h.1 c2
      refine v_aload_n (pc := 189) cx dX0_row_189 rfl 0 rfl ?_
      refine v_iload (pc := 190) cx dX0_row_190 2 rfl ?_
      refine v_iload (pc := 192) cx dX0_row_192 3 rfl ?_
      refine v_iload (pc := 194) cx dX0_row_194 6 rfl ?_
      refine v_runp_i (pc := 196) cx (kcq924_X0 cx (c_X0_restBy l D cA sz0 H0 M x5 x6 x9  _ sh h) ⟨Nat.le_of_ble_eq_true rfl, Nat.le_of_ble_eq_true rfl⟩ (sh.k k_0) (As := [.int x5, .int x6, .int x9]) rfl rfl (Nat.le_of_ble_eq_true rfl) dX0_row_196 ⟨Nat.le_of_ble_eq_true rfl, Nat.le_of_ble_eq_true rfl⟩) (fun a4 hq => ?_)
      replace h := hq
      refine v_iload (pc := 199) cx dX0_row_199 5 rfl ?_
      refine v_icmp_eq (pc := 201) cx dX0_row_201 (tgt := 210) rfl (fun c5 => ?_) (fun c5 => ?_)
      · replace h := h.1 c5
        refine v_iload (pc := 210) cx dX0_row_210 2 rfl ?_
        refine v_iconst (pc := 212) cx dX0_row_212 ic_1 ?_
        refine v_iload (pc := 213) cx dX0_row_213 6 rfl ?_
        refine v_ishl (pc := 215) cx dX0_row_215 ?_
        refine v_ior (pc := 216) cx dX0_row_216 ?_
        refine v_topi (fun z6 ez6 => ?_)
        replace h := h z6 ez6
        refine v_istore (pc := 217) cx dX0_row_217 (Nat.le_of_ble_eq_true rfl) (lv' := [(5, .int z6), (0, .ref (sz0 + 0)), (2, .int x2), (6, .int x6), (7, .int x7), (8, .int x8), (9, .int x9)]) rfl ?_
        refine v_iload (pc := 219) cx dX0_row_219 6 rfl ?_
        refine v_istore (pc := 221) cx dX0_row_221 (Nat.le_of_ble_eq_true rfl) (lv' := [(6, .int x9), (5, .int z6), (0, .ref (sz0 + 0)), (2, .int x2), (7, .int x7), (8, .int x8), (9, .int x9)]) rfl ?_
        refine nm_x (x7 + (1 : Int32)) (fun z7 ez7 => ?_)
        replace h := h z7 ez7
        refine v_iinc (pc := 223) cx dX0_row_223 (q := 4) rfl ((ii_1 _).trans ez7.symm) (Nat.le_of_ble_eq_true rfl) (lv' := [(7, .int z7), (6, .int x9), (5, .int z6), (0, .ref (sz0 + 0)), (2, .int x2), (8, .int x8), (9, .int x9)]) rfl ?_
        refine v_goto (pc := 226) cx dX0_row_226 (tgt := 159) rfl ?_
        refine v_sub (lv' := [(0, .ref (sz0 + 0)), (2, .int x2), (5, .int z6), (6, .int x9), (7, .int z7)]) [3, 4, 2, 1, 0] rfl ?_
        exact hK159 z6 x9 z7 M sh h
      · replace h := h.2 c5
        refine nm_x (x9 + (1 : Int32)) (fun z8 ez8 => ?_)
        replace h := h z8 ez8
        refine v_iinc (pc := 204) cx dX0_row_204 (q := 6) rfl ((ii_1 _).trans ez8.symm) (Nat.le_of_ble_eq_true rfl) (lv' := [(9, .int z8), (0, .ref (sz0 + 0)), (2, .int x2), (5, .int x5), (6, .int x6), (7, .int x7), (8, .int x8)]) rfl ?_
        refine v_goto (pc := 207) cx dX0_row_207 (tgt := 178) rfl ?_
        refine v_sub (lv' := [(0, .ref (sz0 + 0)), (2, .int x2), (5, .int x5), (6, .int x6), (7, .int x7), (8, .int x8), (9, .int z8)]) [1, 2, 3, 4, 5, 6, 0] rfl ?_
        exact ih z8 M sh h
def m_X0_row_l159   (x2 : Int32)   (Q : Int32 → WM → Prop) : Nat → Int32 → Int32 → Int32 → WM → Prop
  | 0, _, _, _, _ => False
  | n + 1, x5, x6, x7, M => ((x2 < x7 → (vp_in x6 14 ∧ Q ((wI M 184 x6.toNatClampNeg)) M)) ∧ (¬ x2 < x7 → (m_X0_leastRest x5 x6 M (fun (a3 : Int32) => (∃ n0, m_X0_row_l178 (fun x5' x6' x7' M' => m_X0_row_l159 x2 Q n x5' x6' x7' M') x2 x5 x6 x7 a3 Q n0 ((0 : Int32)) M)))))
theorem w_X0_row_l159 {p : Program} {l : Launch} {e : Env} {s : State} {m : MethodId} {args : Array Value} {below : List Frame} {meth : Method} {c : Code} {D : va_G} {cA : Nat → ClassId} {sz0 : Nat} {H0 : Heap}  {x2 : Int32} {Q : Int32 → WM → Prop}  (cx : Cx p s m args meth c cX0_row 10 RX0 (some .int) D cA sz0 H0)     : ∀ (n : Nat) (x5 : Int32) (x6 : Int32) (x7 : Int32)  (M : WM) (sh : Shp M), m_X0_row_l159 x2 Q n x5 x6 x7 M → V p l e ({ frames := 120, cells := 0, slots := 0, locals := 4632 } : Room) s m args below meth c 10 D cA sz0 H0 0 0 (MQ below (QW_i D cA sz0 H0 (fun r M' => Q r M' ∧ Shp M')) args s 0 0 (Aw sz0)) 159 [(0, .ref (sz0 + 0)), (2, .int x2), (5, .int x5), (6, .int x6), (7, .int x7)] [] M := by
  intro n
  induction n with
  | zero => intro x5 x6 x7 M sh h; exact h.elim
  | succ n ih =>
    intro x5 x6 x7 M sh h
    replace h : ((x2 < x7 → (vp_in x6 14 ∧ Q ((wI M 184 x6.toNatClampNeg)) M)) ∧ (¬ x2 < x7 → (m_X0_leastRest x5 x6 M (fun (a3 : Int32) => (∃ n0, m_X0_row_l178 (fun x5' x6' x7' M' => m_X0_row_l159 x2 Q n x5' x6' x7' M') x2 x5 x6 x7 a3 Q n0 ((0 : Int32)) M))))) := h
    refine v_iload (pc := 159) cx dX0_row_159 4 rfl ?_
    refine v_iload_n (pc := 161) cx dX0_row_161 rfl 1 rfl ?_
    refine v_icmp_gt (pc := 162) cx dX0_row_162 (tgt := 229) rfl (fun c1 => ?_) (fun c1 => ?_)
    · replace h := h.1 c1
      refine v_aload_n (pc := 229) cx dX0_row_229 rfl 0 rfl ?_
      refine gq299_X0 (pc := 230) cx dX0_row_230 (sh.k k_0) (v_some (sh.r r_0_24) ?_)
      refine v_iload (pc := 233) cx dX0_row_233 3 rfl ?_
      obtain ⟨b2, h⟩ := h
      refine v_iald (pc := 235) cx dX0_row_235 (sh.k k_184) (sh.l k_184 l_184) b2 ?_
      exact v_iret cx rfl dX0_row_236 ⟨Nat.le_of_ble_eq_true rfl, Nat.le_of_ble_eq_true rfl⟩ ⟨h, sh⟩
    · replace h := h.2 c1
      refine v_aload_n (pc := 165) cx dX0_row_165 rfl 0 rfl ?_
      refine v_iload (pc := 166) cx dX0_row_166 2 rfl ?_
      refine v_iload (pc := 168) cx dX0_row_168 3 rfl ?_
      refine v_runp_i (pc := 170) cx (kcq920_X0 cx (c_X0_leastRest l D cA sz0 H0 M x5 x6  _ sh h) ⟨Nat.le_of_ble_eq_true rfl, Nat.le_of_ble_eq_true rfl⟩ (sh.k k_0) (As := [.int x5, .int x6]) rfl rfl (Nat.le_of_ble_eq_true rfl) dX0_row_170 ⟨Nat.le_of_ble_eq_true rfl, Nat.le_of_ble_eq_true rfl⟩) (fun a3 hq => ?_)
      replace h := hq
      refine v_istore (pc := 173) cx dX0_row_173 (Nat.le_of_ble_eq_true rfl) (lv' := [(8, .int a3), (0, .ref (sz0 + 0)), (2, .int x2), (5, .int x5), (6, .int x6), (7, .int x7)]) rfl ?_
      refine v_iconst (pc := 175) cx dX0_row_175 ic_0 ?_
      refine v_istore (pc := 176) cx dX0_row_176 (Nat.le_of_ble_eq_true rfl) (lv' := [(9, .int (0 : Int32)), (8, .int a3), (0, .ref (sz0 + 0)), (2, .int x2), (5, .int x5), (6, .int x6), (7, .int x7)]) rfl ?_
      refine v_sub (lv' := [(0, .ref (sz0 + 0)), (2, .int x2), (5, .int x5), (6, .int x6), (7, .int x7), (8, .int a3), (9, .int (0 : Int32))]) [2, 3, 4, 5, 6, 1, 0] rfl ?_
      obtain ⟨n0, h⟩ := h
      exact w_X0_row_l178 cx ih n0 ((0 : Int32)) M sh h
def m_X0_row_l67  (K59 : Int32 → WM → Prop) (x1 : Int32) (x2 : Int32) (x3 : Int32) (x4 : Int32)   (Q : Int32 → WM → Prop) : Nat → Int32 → WM → Prop
  | 0, _, _ => False
  | n + 1, x5, M => ((x1 ≤ x5 → (∀ z2 : Int32, z2 = x4 + ((-1) : Int32) → K59 z2 M)) ∧ (¬ x1 ≤ x5 → (m_X0_has x4.toInt64 x5 (fun (a3 : Int32) => ((a3 = 0 → (∀ z5 : Int32, z5 = x5 + (1 : Int32) → m_X0_row_l67 K59 x1 x2 x3 x4 Q n z5 M)) ∧ (¬ a3 = 0 → (vp_in x4 1024 ∧ ((x4 = x3 → (vp_in x5 10 ∧ (∀ M13 : WM, M13 = wPI M ((186 + x4.toNatClampNeg)) x5.toNatClampNeg ((0 : Int32)) → (∀ z14 : Int32, z14 = x5 + (1 : Int32) → m_X0_row_l67 K59 x1 x2 x3 x4 Q n z14 M13)))) ∧ (¬ x4 = x3 → (m_X0_leastRest x4 x5 M (fun (a8 : Int32) => (vp_in x5 10 ∧ (∀ M10 : WM, M10 = wPI M ((186 + x4.toNatClampNeg)) x5.toNatClampNeg a8 → (∀ z11 : Int32, z11 = x5 + (1 : Int32) → m_X0_row_l67 K59 x1 x2 x3 x4 Q n z11 M10))))))))))))))
theorem w_X0_row_l67 {p : Program} {l : Launch} {e : Env} {s : State} {m : MethodId} {args : Array Value} {below : List Frame} {meth : Method} {c : Code} {D : va_G} {cA : Nat → ClassId} {sz0 : Nat} {H0 : Heap}  {K59 : Int32 → WM → Prop} {x1 : Int32} {x2 : Int32} {x3 : Int32} {x4 : Int32} {Q : Int32 → WM → Prop}  (cx : Cx p s m args meth c cX0_row 10 RX0 (some .int) D cA sz0 H0)  (hK59 : ∀ (x4 : Int32)  (M : WM) (sh : Shp M), K59 x4 M → V p l e ({ frames := 120, cells := 0, slots := 0, locals := 4632 } : Room) s m args below meth c 10 D cA sz0 H0 0 0 (MQ below (QW_i D cA sz0 H0 (fun r M' => Q r M' ∧ Shp M')) args s 0 0 (Aw sz0)) 59 [(0, .ref (sz0 + 0)), (1, .int x1), (2, .int x2), (3, .int x3), (4, .int x4)] [] M)   : ∀ (n : Nat) (x5 : Int32)  (M : WM) (sh : Shp M), m_X0_row_l67 K59 x1 x2 x3 x4 Q n x5 M → V p l e ({ frames := 120, cells := 0, slots := 0, locals := 4632 } : Room) s m args below meth c 10 D cA sz0 H0 0 0 (MQ below (QW_i D cA sz0 H0 (fun r M' => Q r M' ∧ Shp M')) args s 0 0 (Aw sz0)) 67 [(0, .ref (sz0 + 0)), (1, .int x1), (2, .int x2), (3, .int x3), (4, .int x4), (5, .int x5)] [] M := by
  intro n
  induction n with
  | zero => intro x5 M sh h; exact h.elim
  | succ n ih =>
    intro x5 M sh h
    replace h : ((x1 ≤ x5 → (∀ z2 : Int32, z2 = x4 + ((-1) : Int32) → K59 z2 M)) ∧ (¬ x1 ≤ x5 → (m_X0_has x4.toInt64 x5 (fun (a3 : Int32) => ((a3 = 0 → (∀ z5 : Int32, z5 = x5 + (1 : Int32) → m_X0_row_l67 K59 x1 x2 x3 x4 Q n z5 M)) ∧ (¬ a3 = 0 → (vp_in x4 1024 ∧ ((x4 = x3 → (vp_in x5 10 ∧ (∀ M13 : WM, M13 = wPI M ((186 + x4.toNatClampNeg)) x5.toNatClampNeg ((0 : Int32)) → (∀ z14 : Int32, z14 = x5 + (1 : Int32) → m_X0_row_l67 K59 x1 x2 x3 x4 Q n z14 M13)))) ∧ (¬ x4 = x3 → (m_X0_leastRest x4 x5 M (fun (a8 : Int32) => (vp_in x5 10 ∧ (∀ M10 : WM, M10 = wPI M ((186 + x4.toNatClampNeg)) x5.toNatClampNeg a8 → (∀ z11 : Int32, z11 = x5 + (1 : Int32) → m_X0_row_l67 K59 x1 x2 x3 x4 Q n z11 M10)))))))))))))) := h
    refine v_iload (pc := 67) cx dX0_row_67 5 rfl ?_
    refine v_iload_n (pc := 69) cx dX0_row_69 rfl 1 rfl ?_
    refine v_icmp_ge (pc := 70) cx dX0_row_70 (tgt := 118) rfl (fun c1 => ?_) (fun c1 => ?_)
    · replace h := h.1 c1
      refine nm_x (x4 + ((-1) : Int32)) (fun z2 ez2 => ?_)
      replace h := h z2 ez2
      refine v_iinc (pc := 118) cx dX0_row_118 (q := 4) rfl ((ii_m1 _).trans ez2.symm) (Nat.le_of_ble_eq_true rfl) (lv' := [(4, .int z2), (0, .ref (sz0 + 0)), (1, .int x1), (2, .int x2), (3, .int x3), (5, .int x5)]) rfl ?_
      refine v_goto (pc := 121) cx dX0_row_121 (tgt := 59) rfl ?_
      refine v_sub (lv' := [(0, .ref (sz0 + 0)), (1, .int x1), (2, .int x2), (3, .int x3), (4, .int z2)]) [1, 2, 3, 4, 0] rfl ?_
      exact hK59 z2 M sh h
    · replace h := h.2 c1
      refine v_iload (pc := 73) cx dX0_row_73 4 rfl ?_
      refine v_i2l (pc := 75) cx dX0_row_75 ?_
      refine v_iload (pc := 76) cx dX0_row_76 5 rfl ?_
      refine v_runp_i (pc := 78) cx (kcq722_X0 cx (c_X0_has l D cA sz0 H0 M x4.toInt64 x5  _ h) ⟨Nat.le_of_ble_eq_true rfl, Nat.le_of_ble_eq_true rfl⟩ (As := [.long x4.toInt64, .int x5]) rfl rfl (Nat.le_of_ble_eq_true rfl) dX0_row_78 ⟨Nat.le_of_ble_eq_true rfl, Nat.le_of_ble_eq_true rfl⟩) (fun a3 hq => ?_)
      replace h := hq
      refine v_if_eq (pc := 81) cx dX0_row_81 (tgt := 112) rfl (fun c4 => ?_) (fun c4 => ?_)
      · replace h := h.1 c4
        refine nm_x (x5 + (1 : Int32)) (fun z5 ez5 => ?_)
        replace h := h z5 ez5
        refine v_iinc (pc := 112) cx dX0_row_112 (q := 5) rfl ((ii_1 _).trans ez5.symm) (Nat.le_of_ble_eq_true rfl) (lv' := [(5, .int z5), (0, .ref (sz0 + 0)), (1, .int x1), (2, .int x2), (3, .int x3), (4, .int x4)]) rfl ?_
        refine v_goto (pc := 115) cx dX0_row_115 (tgt := 67) rfl ?_
        refine v_sub (lv' := [(0, .ref (sz0 + 0)), (1, .int x1), (2, .int x2), (3, .int x3), (4, .int x4), (5, .int z5)]) [1, 2, 3, 4, 5, 0] rfl ?_
        exact ih z5 M sh h
      · replace h := h.2 c4
        refine v_aload_n (pc := 84) cx dX0_row_84 rfl 0 rfl ?_
        refine gq301_X0 (pc := 85) cx dX0_row_85 (sh.k k_0) (v_some (sh.r r_0_26) ?_)
        refine v_iload (pc := 88) cx dX0_row_88 4 rfl ?_
        obtain ⟨b6, h⟩ := h
        refine v_aald104 (pc := 90) cx dX0_row_90 (sh.k k_185) (sh.l k_185 l_185) b6 (v_some (sh.r (f_185 (lt_in b6))) ?_)
        refine v_iload (pc := 91) cx dX0_row_91 5 rfl ?_
        refine v_iload (pc := 93) cx dX0_row_93 4 rfl ?_
        refine v_iload_n (pc := 95) cx dX0_row_95 rfl 3 rfl ?_
        refine v_icmp_ne (pc := 96) cx dX0_row_96 (tgt := 103) rfl (fun c7 => ?_) (fun c7 => ?_)
        · replace h := h.2 c7
          refine v_aload_n (pc := 103) cx dX0_row_103 rfl 0 rfl ?_
          refine v_iload (pc := 104) cx dX0_row_104 4 rfl ?_
          refine v_iload (pc := 106) cx dX0_row_106 5 rfl ?_
          refine v_runp_i (pc := 108) cx (kcq920_X0 cx (c_X0_leastRest l D cA sz0 H0 M x4 x5  _ sh h) ⟨Nat.le_of_ble_eq_true rfl, Nat.le_of_ble_eq_true rfl⟩ (sh.k k_0) (As := [.int x4, .int x5]) rfl rfl (Nat.le_of_ble_eq_true rfl) dX0_row_108 ⟨Nat.le_of_ble_eq_true rfl, Nat.le_of_ble_eq_true rfl⟩) (fun a8 hq => ?_)
          replace h := hq
          obtain ⟨b9, h⟩ := h
          refine v_iast (pc := 111) cx dX0_row_111 (sh.k (fk_185 (lt_in b6))) (sh.l (fk_185 (lt_in b6)) (fl_185 (lt_in b6))) b9 ?_
          refine v_wld (fun M10 eM10 => ?_)
          replace h := h M10 eM10
          replace sh : Shp M10 := Shp_PI sh eM10
          refine nm_x (x5 + (1 : Int32)) (fun z11 ez11 => ?_)
          replace h := h z11 ez11
          refine v_iinc (pc := 112) cx dX0_row_112 (q := 5) rfl ((ii_1 _).trans ez11.symm) (Nat.le_of_ble_eq_true rfl) (lv' := [(5, .int z11), (0, .ref (sz0 + 0)), (1, .int x1), (2, .int x2), (3, .int x3), (4, .int x4)]) rfl ?_
          refine v_goto (pc := 115) cx dX0_row_115 (tgt := 67) rfl ?_
          refine v_sub (lv' := [(0, .ref (sz0 + 0)), (1, .int x1), (2, .int x2), (3, .int x3), (4, .int x4), (5, .int z11)]) [1, 2, 3, 4, 5, 0] rfl ?_
          exact ih z11 M10 sh h
        · replace h := h.1 c7
          refine v_iconst (pc := 99) cx dX0_row_99 ic_0 ?_
          refine v_goto (pc := 100) cx dX0_row_100 (tgt := 111) rfl ?_
          obtain ⟨b12, h⟩ := h
          refine v_iast (pc := 111) cx dX0_row_111 (sh.k (fk_185 (lt_in b6))) (sh.l (fk_185 (lt_in b6)) (fl_185 (lt_in b6))) b12 ?_
          refine v_wld (fun M13 eM13 => ?_)
          replace h := h M13 eM13
          replace sh : Shp M13 := Shp_PI sh eM13
          refine nm_x (x5 + (1 : Int32)) (fun z14 ez14 => ?_)
          replace h := h z14 ez14
          refine v_iinc (pc := 112) cx dX0_row_112 (q := 5) rfl ((ii_1 _).trans ez14.symm) (Nat.le_of_ble_eq_true rfl) (lv' := [(5, .int z14), (0, .ref (sz0 + 0)), (1, .int x1), (2, .int x2), (3, .int x3), (4, .int x4)]) rfl ?_
          refine v_goto (pc := 115) cx dX0_row_115 (tgt := 67) rfl ?_
          refine v_sub (lv' := [(0, .ref (sz0 + 0)), (1, .int x1), (2, .int x2), (3, .int x3), (4, .int x4), (5, .int z14)]) [1, 2, 3, 4, 5, 0] rfl ?_
          exact ih z14 M13 sh h
def m_X0_row_l59   (x1 : Int32) (x2 : Int32) (x3 : Int32)   (Q : Int32 → WM → Prop) : Nat → Int32 → WM → Prop
  | 0, _, _ => False
  | n + 1, x4, M => ((x4 ≤ 0 → (m_X0_leastRest ((0 : Int32)) ((0 : Int32)) M (fun (a2 : Int32) => ((a2 = (268435456 : Int32) → Q (((-2) : Int32)) M) ∧ (¬ a2 = (268435456 : Int32) → ((x2 = ((-1) : Int32) → Q a2 M) ∧ (¬ x2 = ((-1) : Int32) → (∃ n0, m_X0_row_l159 x2 Q n0 ((0 : Int32)) ((0 : Int32)) ((0 : Int32)) M)))))))) ∧ (¬ x4 ≤ 0 → (∃ n0, m_X0_row_l67 (fun x4' M' => m_X0_row_l59 x1 x2 x3 Q n x4' M') x1 x2 x3 x4 Q n0 ((0 : Int32)) M)))
theorem w_X0_row_l59 {p : Program} {l : Launch} {e : Env} {s : State} {m : MethodId} {args : Array Value} {below : List Frame} {meth : Method} {c : Code} {D : va_G} {cA : Nat → ClassId} {sz0 : Nat} {H0 : Heap}  {x1 : Int32} {x2 : Int32} {x3 : Int32} {Q : Int32 → WM → Prop}  (cx : Cx p s m args meth c cX0_row 10 RX0 (some .int) D cA sz0 H0)     : ∀ (n : Nat) (x4 : Int32)  (M : WM) (sh : Shp M), m_X0_row_l59 x1 x2 x3 Q n x4 M → V p l e ({ frames := 120, cells := 0, slots := 0, locals := 4632 } : Room) s m args below meth c 10 D cA sz0 H0 0 0 (MQ below (QW_i D cA sz0 H0 (fun r M' => Q r M' ∧ Shp M')) args s 0 0 (Aw sz0)) 59 [(0, .ref (sz0 + 0)), (1, .int x1), (2, .int x2), (3, .int x3), (4, .int x4)] [] M := by
  intro n
  induction n with
  | zero => intro x4 M sh h; exact h.elim
  | succ n ih =>
    intro x4 M sh h
    replace h : ((x4 ≤ 0 → (m_X0_leastRest ((0 : Int32)) ((0 : Int32)) M (fun (a2 : Int32) => ((a2 = (268435456 : Int32) → Q (((-2) : Int32)) M) ∧ (¬ a2 = (268435456 : Int32) → ((x2 = ((-1) : Int32) → Q a2 M) ∧ (¬ x2 = ((-1) : Int32) → (∃ n0, m_X0_row_l159 x2 Q n0 ((0 : Int32)) ((0 : Int32)) ((0 : Int32)) M)))))))) ∧ (¬ x4 ≤ 0 → (∃ n0, m_X0_row_l67 (fun x4' M' => m_X0_row_l59 x1 x2 x3 Q n x4' M') x1 x2 x3 x4 Q n0 ((0 : Int32)) M))) := h
    refine v_iload (pc := 59) cx dX0_row_59 4 rfl ?_
    refine v_if_le (pc := 61) cx dX0_row_61 (tgt := 124) rfl (fun c1 => ?_) (fun c1 => ?_)
    · replace h := h.1 c1
      refine v_aload_n (pc := 124) cx dX0_row_124 rfl 0 rfl ?_
      refine v_iconst (pc := 125) cx dX0_row_125 ic_0 ?_
      refine v_iconst (pc := 126) cx dX0_row_126 ic_0 ?_
      refine v_runp_i (pc := 127) cx (kcq920_X0 cx (c_X0_leastRest l D cA sz0 H0 M ((0 : Int32)) ((0 : Int32))  _ sh h) ⟨Nat.le_of_ble_eq_true rfl, Nat.le_of_ble_eq_true rfl⟩ (sh.k k_0) (As := [.int (0 : Int32), .int (0 : Int32)]) rfl rfl (Nat.le_of_ble_eq_true rfl) dX0_row_127 ⟨Nat.le_of_ble_eq_true rfl, Nat.le_of_ble_eq_true rfl⟩) (fun a2 hq => ?_)
      replace h := hq
      refine v_istore (pc := 130) cx dX0_row_130 (Nat.le_of_ble_eq_true rfl) (lv' := [(4, .int a2), (0, .ref (sz0 + 0)), (1, .int x1), (2, .int x2), (3, .int x3)]) rfl ?_
      refine v_iload (pc := 132) cx dX0_row_132 0 rfl ?_
      refine v_ldc (pc := 134) cx dX0_row_134 q717 ?_
      refine v_icmp_ne (pc := 136) cx dX0_row_136 (tgt := 142) rfl (fun c3 => ?_) (fun c3 => ?_)
      · replace h := h.2 c3
        refine v_iload_n (pc := 142) cx dX0_row_142 rfl 3 rfl ?_
        refine v_iconst (pc := 143) cx dX0_row_143 ic_m1 ?_
        refine v_icmp_ne (pc := 144) cx dX0_row_144 (tgt := 150) rfl (fun c4 => ?_) (fun c4 => ?_)
        · replace h := h.2 c4
          refine v_iconst (pc := 150) cx dX0_row_150 ic_0 ?_
          refine v_istore (pc := 151) cx dX0_row_151 (Nat.le_of_ble_eq_true rfl) (lv' := [(5, .int (0 : Int32)), (4, .int a2), (0, .ref (sz0 + 0)), (1, .int x1), (2, .int x2), (3, .int x3)]) rfl ?_
          refine v_iconst (pc := 153) cx dX0_row_153 ic_0 ?_
          refine v_istore (pc := 154) cx dX0_row_154 (Nat.le_of_ble_eq_true rfl) (lv' := [(6, .int (0 : Int32)), (5, .int (0 : Int32)), (4, .int a2), (0, .ref (sz0 + 0)), (1, .int x1), (2, .int x2), (3, .int x3)]) rfl ?_
          refine v_iconst (pc := 156) cx dX0_row_156 ic_0 ?_
          refine v_istore (pc := 157) cx dX0_row_157 (Nat.le_of_ble_eq_true rfl) (lv' := [(7, .int (0 : Int32)), (6, .int (0 : Int32)), (5, .int (0 : Int32)), (4, .int a2), (0, .ref (sz0 + 0)), (1, .int x1), (2, .int x2), (3, .int x3)]) rfl ?_
          refine v_sub (lv' := [(0, .ref (sz0 + 0)), (2, .int x2), (5, .int (0 : Int32)), (6, .int (0 : Int32)), (7, .int (0 : Int32))]) [4, 6, 2, 1, 0] rfl ?_
          obtain ⟨n0, h⟩ := h
          exact w_X0_row_l159 cx n0 ((0 : Int32)) ((0 : Int32)) ((0 : Int32)) M sh h
        · replace h := h.1 c4
          refine v_iload (pc := 147) cx dX0_row_147 0 rfl ?_
          exact v_iret cx rfl dX0_row_149 ⟨Nat.le_of_ble_eq_true rfl, Nat.le_of_ble_eq_true rfl⟩ ⟨h, sh⟩
      · replace h := h.1 c3
        refine v_bipush (pc := 139) cx dX0_row_139 bc_m2 ?_
        exact v_iret cx rfl dX0_row_141 ⟨Nat.le_of_ble_eq_true rfl, Nat.le_of_ble_eq_true rfl⟩ ⟨h, sh⟩
    · replace h := h.2 c1
      refine v_iconst (pc := 64) cx dX0_row_64 ic_0 ?_
      refine v_istore (pc := 65) cx dX0_row_65 (Nat.le_of_ble_eq_true rfl) (lv' := [(5, .int (0 : Int32)), (0, .ref (sz0 + 0)), (1, .int x1), (2, .int x2), (3, .int x3), (4, .int x4)]) rfl ?_
      refine v_sub (lv' := [(0, .ref (sz0 + 0)), (1, .int x1), (2, .int x2), (3, .int x3), (4, .int x4), (5, .int (0 : Int32))]) [1, 2, 3, 4, 5, 0] rfl ?_
      obtain ⟨n0, h⟩ := h
      exact w_X0_row_l67 cx ih n0 ((0 : Int32)) M sh h
def m_X0_row (x1 : Int32) (x2 : Int32) (M : WM)  (Q : Int32 → WM → Prop) : Prop := (m_X0_within x1 ((2 : Int32)) ((10 : Int32)) (fun (a1 : Int32) => ((a1 = 0 → Q (((-1) : Int32)) M) ∧ (¬ a1 = 0 → (m_X0_within x2 (((-1) : Int32)) ((x1 - (1 : Int32))) (fun (a3 : Int32) => ((a3 = 0 → Q (((-1) : Int32)) M) ∧ (¬ a3 = 0 → ((x1 ≤ (wI M 0 5) → (m_X0_takesUsed x1 M (fun (a6 : Int32) (M7 : WM) => ((a6 = 0 → Q (((-3) : Int32)) M7) ∧ (¬ a6 = 0 → (m_X0_lays  M7 (fun (M10 : WM) => (m_X0_sorts  M10 (fun (M12 : WM) => (∀ z13 : Int32, z13 = (((1 : Int32) <<< (x1 &&& 31)) - (1 : Int32)) → (∃ n0, m_X0_row_l59 x1 x2 z13 Q n0 z13 M12))))))))))) ∧ (¬ x1 ≤ (wI M 0 5) → Q (((-1) : Int32)) M))))))))))
theorem c_X0_row (l : Launch) (D : va_G) (cA : Nat → ClassId) (sz0 : Nat) (H0 : Heap) (M : WM) (x1 : Int32) (x2 : Int32)   (Q : Int32 → WM → Prop) (sh : Shp M) (h : m_X0_row x1 x2 M  Q) : Met l yX0_row (ws_ yX0_row cX0_row 10 (some .int)) ({ frames := 120, cells := 0, slots := 0, locals := 4632 } : Room) (PcW D cA sz0 H0 [.ref (sz0 + 0), .int x1, .int x2] M) (QW_i D cA sz0 H0 (fun r M' => Q r M' ∧ Shp M')) 0 0 (Aw sz0) := by
  replace h : (m_X0_within x1 ((2 : Int32)) ((10 : Int32)) (fun (a1 : Int32) => ((a1 = 0 → Q (((-1) : Int32)) M) ∧ (¬ a1 = 0 → (m_X0_within x2 (((-1) : Int32)) ((x1 - (1 : Int32))) (fun (a3 : Int32) => ((a3 = 0 → Q (((-1) : Int32)) M) ∧ (¬ a3 = 0 → ((x1 ≤ (wI M 0 5) → (m_X0_takesUsed x1 M (fun (a6 : Int32) (M7 : WM) => ((a6 = 0 → Q (((-3) : Int32)) M7) ∧ (¬ a6 = 0 → (m_X0_lays  M7 (fun (M10 : WM) => (m_X0_sorts  M10 (fun (M12 : WM) => (∀ z13 : Int32, z13 = (((1 : Int32) <<< (x1 &&& 31)) - (1 : Int32)) → (∃ n0, m_X0_row_l59 x1 x2 z13 Q n0 z13 M12))))))))))) ∧ (¬ x1 ≤ (wI M 0 5) → Q (((-1) : Int32)) M)))))))))) := h
  refine Met.ofV (by decide +kernel) (Nat.le_of_ble_eq_true rfl) ?_
  intro p e s m args below meth c cx hnm
  replace cx : Cx p s m args meth c cX0_row 10 RX0 (some .int) D cA sz0 H0 := cx
  refine v_sub (lv' := [(0, .ref (sz0 + 0)), (1, .int x1), (2, .int x2)]) [0, 1, 2] rfl ?_
  refine v_iload_n (pc := 0) cx dX0_row_0 rfl 1 rfl ?_
  refine v_iconst (pc := 1) cx dX0_row_1 ic_2 ?_
  refine v_bipush (pc := 2) cx dX0_row_2 bc_10 ?_
  refine v_runp_i (pc := 4) cx (kcq387_X0 cx (c_X0_within l D cA sz0 H0 M x1 ((2 : Int32)) ((10 : Int32))  _ h) ⟨Nat.le_of_ble_eq_true rfl, Nat.le_of_ble_eq_true rfl⟩ (As := [.int x1, .int (2 : Int32), .int (10 : Int32)]) rfl rfl (Nat.le_of_ble_eq_true rfl) dX0_row_4 ⟨Nat.le_of_ble_eq_true rfl, Nat.le_of_ble_eq_true rfl⟩) (fun a1 hq => ?_)
  replace h := hq
  refine v_if_eq (pc := 7) cx dX0_row_7 (tgt := 29) rfl (fun c2 => ?_) (fun c2 => ?_)
  · replace h := h.1 c2
    refine v_iconst (pc := 29) cx dX0_row_29 ic_m1 ?_
    exact v_iret cx rfl dX0_row_30 ⟨Nat.le_of_ble_eq_true rfl, Nat.le_of_ble_eq_true rfl⟩ ⟨h, sh⟩
  · replace h := h.2 c2
    refine v_iload_n (pc := 10) cx dX0_row_10 rfl 2 rfl ?_
    refine v_iconst (pc := 11) cx dX0_row_11 ic_m1 ?_
    refine v_iload_n (pc := 12) cx dX0_row_12 rfl 1 rfl ?_
    refine v_iconst (pc := 13) cx dX0_row_13 ic_1 ?_
    refine v_isub (pc := 14) cx dX0_row_14 ?_
    refine v_runp_i (pc := 15) cx (kcq387_X0 cx (c_X0_within l D cA sz0 H0 M x2 (((-1) : Int32)) ((x1 - (1 : Int32)))  _ h) ⟨Nat.le_of_ble_eq_true rfl, Nat.le_of_ble_eq_true rfl⟩ (As := [.int x2, .int ((-1) : Int32), .int (x1 - (1 : Int32))]) rfl rfl (Nat.le_of_ble_eq_true rfl) dX0_row_15 ⟨Nat.le_of_ble_eq_true rfl, Nat.le_of_ble_eq_true rfl⟩) (fun a3 hq => ?_)
    replace h := hq
    refine v_if_eq (pc := 18) cx dX0_row_18 (tgt := 29) rfl (fun c4 => ?_) (fun c4 => ?_)
    · replace h := h.1 c4
      refine v_iconst (pc := 29) cx dX0_row_29 ic_m1 ?_
      exact v_iret cx rfl dX0_row_30 ⟨Nat.le_of_ble_eq_true rfl, Nat.le_of_ble_eq_true rfl⟩ ⟨h, sh⟩
    · replace h := h.2 c4
      refine v_iload_n (pc := 21) cx dX0_row_21 rfl 1 rfl ?_
      refine v_aload_n (pc := 22) cx dX0_row_22 rfl 0 rfl ?_
      refine gq280_X0 (pc := 23) cx dX0_row_23 (sh.k k_0) ?_
      refine v_icmp_le (pc := 26) cx dX0_row_26 (tgt := 31) rfl (fun c5 => ?_) (fun c5 => ?_)
      · replace h := h.1 c5
        refine v_aload_n (pc := 31) cx dX0_row_31 rfl 0 rfl ?_
        refine v_iload_n (pc := 32) cx dX0_row_32 rfl 1 rfl ?_
        refine v_run_i (pc := 33) cx (kcq908_X0 cx (c_X0_takesUsed l D cA sz0 H0 M x1  _ sh h) ⟨Nat.le_of_ble_eq_true rfl, Nat.le_of_ble_eq_true rfl⟩ (sh.k k_0) (As := [.int x1]) rfl rfl (Nat.le_of_ble_eq_true rfl) dX0_row_33 ⟨Nat.le_of_ble_eq_true rfl, Nat.le_of_ble_eq_true rfl⟩) (fun a6 M7 hq => ?_)
        obtain ⟨h, sh⟩ := hq
        refine v_if_ne (pc := 36) cx dX0_row_36 (tgt := 42) rfl (fun c8 => ?_) (fun c8 => ?_)
        · replace h := h.2 c8
          refine v_aload_n (pc := 42) cx dX0_row_42 rfl 0 rfl ?_
          refine v_run_v (pc := 43) cx (kcq709_X0 cx (c_X0_lays l D cA sz0 H0 M7   _ sh h) ⟨Nat.le_of_ble_eq_true rfl, Nat.le_of_ble_eq_true rfl⟩ (sh.k k_0) (As := []) rfl rfl (Nat.le_of_ble_eq_true rfl) dX0_row_43 ⟨Nat.le_of_ble_eq_true rfl, Nat.le_of_ble_eq_true rfl⟩) (fun M10 hq => ?_)
          obtain ⟨h, sh⟩ := hq
          refine v_aload_n (pc := 46) cx dX0_row_46 rfl 0 rfl ?_
          refine v_run_v (pc := 47) cx (kcq916_X0 cx (c_X0_sorts l D cA sz0 H0 M10   _ sh h) ⟨Nat.le_of_ble_eq_true rfl, Nat.le_of_ble_eq_true rfl⟩ (sh.k k_0) (As := []) rfl rfl (Nat.le_of_ble_eq_true rfl) dX0_row_47 ⟨Nat.le_of_ble_eq_true rfl, Nat.le_of_ble_eq_true rfl⟩) (fun M12 hq => ?_)
          obtain ⟨h, sh⟩ := hq
          refine v_iconst (pc := 50) cx dX0_row_50 ic_1 ?_
          refine v_iload_n (pc := 51) cx dX0_row_51 rfl 1 rfl ?_
          refine v_ishl (pc := 52) cx dX0_row_52 ?_
          refine v_iconst (pc := 53) cx dX0_row_53 ic_1 ?_
          refine v_isub (pc := 54) cx dX0_row_54 ?_
          refine v_topi (fun z13 ez13 => ?_)
          replace h := h z13 ez13
          refine v_istore_n (pc := 55) cx dX0_row_55 rfl (Nat.le_of_ble_eq_true rfl) (lv' := [(3, .int z13), (0, .ref (sz0 + 0)), (1, .int x1), (2, .int x2)]) rfl ?_
          refine v_iload_n (pc := 56) cx dX0_row_56 rfl 0 rfl ?_
          refine v_istore (pc := 57) cx dX0_row_57 (Nat.le_of_ble_eq_true rfl) (lv' := [(4, .int z13), (3, .int z13), (0, .ref (sz0 + 0)), (1, .int x1), (2, .int x2)]) rfl ?_
          refine v_sub (lv' := [(0, .ref (sz0 + 0)), (1, .int x1), (2, .int x2), (3, .int z13), (4, .int z13)]) [2, 3, 4, 1, 0] rfl ?_
          obtain ⟨n0, h⟩ := h
          exact w_X0_row_l59 cx n0 z13 M12 sh h
        · replace h := h.1 c8
          refine v_bipush (pc := 39) cx dX0_row_39 bc_m3 ?_
          exact v_iret cx rfl dX0_row_41 ⟨Nat.le_of_ble_eq_true rfl, Nat.le_of_ble_eq_true rfl⟩ ⟨h, sh⟩
      · replace h := h.2 c5
        refine v_iconst (pc := 29) cx dX0_row_29 ic_m1 ?_
        exact v_iret cx rfl dX0_row_30 ⟨Nat.le_of_ble_eq_true rfl, Nat.le_of_ble_eq_true rfl⟩ ⟨h, sh⟩
/-! LetterHeaps.rubbed(I)J -/
def m_X0_rubbed_j183  (K77 : Int64 → Int32 → WM → Prop) (x1 : Int32) (x2 : Int64) (x4 : Int32) (x6 : Int32)   (Q : Int64 → WM → Prop) (M : WM) : Prop := ((x6 = 0 → (∀ z2 : Int32, z2 = x4 + (1 : Int32) → K77 x2 z2 M)) ∧ (¬ x6 = 0 → (∀ z3 : Int64, z3 = (x2 ||| ((1 : Int64) <<< (x4.toInt64 &&& 63))) → (∀ z4 : Int32, z4 = x4 + (1 : Int32) → K77 z3 z4 M))))
theorem w_X0_rubbed_j183 {p : Program} {l : Launch} {e : Env} {s : State} {m : MethodId} {args : Array Value} {below : List Frame} {meth : Method} {c : Code} {D : va_G} {cA : Nat → ClassId} {sz0 : Nat} {H0 : Heap}  {K77 : Int64 → Int32 → WM → Prop} {x1 : Int32} {x2 : Int64} {x4 : Int32} {x6 : Int32} {Q : Int64 → WM → Prop}  (cx : Cx p s m args meth c cX0_rubbed 8 RX0 (some .long) D cA sz0 H0)  (hK77 : ∀ (x2 : Int64) (x4 : Int32)  (M : WM) (sh : Shp M), K77 x2 x4 M → V p l e ({ frames := 3, cells := 0, slots := 0, locals := 63 } : Room) s m args below meth c 8 D cA sz0 H0 0 0 (MQ below (QW_l D cA sz0 H0 (fun r M' => Q r M' ∧ Shp M')) args s 0 0 (Aw sz0)) 77 [(0, .ref (sz0 + 0)), (1, .int x1), (2, .long x2), (4, .int x4)] [] M)     (M : WM) (sh : Shp M) (h : m_X0_rubbed_j183 K77 x1 x2 x4 x6 Q M) : V p l e ({ frames := 3, cells := 0, slots := 0, locals := 63 } : Room) s m args below meth c 8 D cA sz0 H0 0 0 (MQ below (QW_l D cA sz0 H0 (fun r M' => Q r M' ∧ Shp M')) args s 0 0 (Aw sz0)) 183 [(0, .ref (sz0 + 0)), (1, .int x1), (2, .long x2), (4, .int x4), (6, .int x6)] [] M := by
  replace h : ((x6 = 0 → (∀ z2 : Int32, z2 = x4 + (1 : Int32) → K77 x2 z2 M)) ∧ (¬ x6 = 0 → (∀ z3 : Int64, z3 = (x2 ||| ((1 : Int64) <<< (x4.toInt64 &&& 63))) → (∀ z4 : Int32, z4 = x4 + (1 : Int32) → K77 z3 z4 M)))) := h
  refine v_iload (pc := 183) cx dX0_rubbed_183 4 rfl ?_
  refine v_if_eq (pc := 185) cx dX0_rubbed_185 (tgt := 195) rfl (fun c1 => ?_) (fun c1 => ?_)
  · replace h := h.1 c1
    refine nm_x (x4 + (1 : Int32)) (fun z2 ez2 => ?_)
    replace h := h z2 ez2
    refine v_iinc (pc := 195) cx dX0_rubbed_195 (q := 3) rfl ((ii_1 _).trans ez2.symm) (Nat.le_of_ble_eq_true rfl) (lv' := [(4, .int z2), (0, .ref (sz0 + 0)), (1, .int x1), (2, .long x2), (6, .int x6)]) rfl ?_
    refine v_goto (pc := 198) cx dX0_rubbed_198 (tgt := 77) rfl ?_
    refine v_sub (lv' := [(0, .ref (sz0 + 0)), (1, .int x1), (2, .long x2), (4, .int z2)]) [1, 2, 3, 0] rfl ?_
    exact hK77 x2 z2 M sh h
  · replace h := h.2 c1
    refine v_lload_n (pc := 188) cx dX0_rubbed_188 rfl 2 rfl ?_
    refine v_lconst (pc := 189) cx dX0_rubbed_189 lc_1 ?_
    refine v_iload (pc := 190) cx dX0_rubbed_190 3 rfl ?_
    refine v_lshl (pc := 192) cx dX0_rubbed_192 ?_
    refine v_lor (pc := 193) cx dX0_rubbed_193 ?_
    refine v_topl (fun z3 ez3 => ?_)
    replace h := h z3 ez3
    refine v_lstore_n (pc := 194) cx dX0_rubbed_194 rfl (Nat.le_of_ble_eq_true rfl) (lv' := [(2, .long z3), (0, .ref (sz0 + 0)), (1, .int x1), (4, .int x4), (6, .int x6)]) rfl ?_
    refine nm_x (x4 + (1 : Int32)) (fun z4 ez4 => ?_)
    replace h := h z4 ez4
    refine v_iinc (pc := 195) cx dX0_rubbed_195 (q := 3) rfl ((ii_1 _).trans ez4.symm) (Nat.le_of_ble_eq_true rfl) (lv' := [(4, .int z4), (2, .long z3), (0, .ref (sz0 + 0)), (1, .int x1), (6, .int x6)]) rfl ?_
    refine v_goto (pc := 198) cx dX0_rubbed_198 (tgt := 77) rfl ?_
    refine v_sub (lv' := [(0, .ref (sz0 + 0)), (1, .int x1), (2, .long z3), (4, .int z4)]) [2, 3, 1, 0] rfl ?_
    exact hK77 z3 z4 M sh h
def m_X0_rubbed_l126  (K77 : Int64 → Int32 → WM → Prop) (x1 : Int32) (x2 : Int64) (x4 : Int32) (x5 : Nat)   (Q : Int64 → WM → Prop) : Nat → Int32 → Int32 → WM → Prop
  | 0, _, _, _ => False
  | n + 1, x6, x7, M => ((x1 ≤ x7 → m_X0_rubbed_j183 K77 x1 x2 x4 x6 Q M) ∧ (¬ x1 ≤ x7 → ((x6 = 0 → m_X0_rubbed_j183 K77 x1 x2 x4 x6 Q M) ∧ (¬ x6 = 0 → (vp_in x7 200 ∧ (((wI M 2 x7.toNatClampNeg) = (63 : Int32) → (∀ z5 : Int32, z5 = x7 + (1 : Int32) → m_X0_rubbed_l126 K77 x1 x2 x4 x5 Q n ((1 : Int32)) z5 M)) ∧ (¬ (wI M 2 x7.toNatClampNeg) = (63 : Int32) → (vp_in x7 200 ∧ (vp_in x7 13 ∧ ((((wI M 2 x7.toNatClampNeg) - (97 : Int32)) = (wI M ((x5 + 1)) x7.toNatClampNeg) → (∀ z10 : Int32, z10 = x7 + (1 : Int32) → m_X0_rubbed_l126 K77 x1 x2 x4 x5 Q n ((1 : Int32)) z10 M)) ∧ (¬ ((wI M 2 x7.toNatClampNeg) - (97 : Int32)) = (wI M ((x5 + 1)) x7.toNatClampNeg) → (∀ z9 : Int32, z9 = x7 + (1 : Int32) → m_X0_rubbed_l126 K77 x1 x2 x4 x5 Q n ((0 : Int32)) z9 M))))))))))))
theorem w_X0_rubbed_l126 {p : Program} {l : Launch} {e : Env} {s : State} {m : MethodId} {args : Array Value} {below : List Frame} {meth : Method} {c : Code} {D : va_G} {cA : Nat → ClassId} {sz0 : Nat} {H0 : Heap}  {K77 : Int64 → Int32 → WM → Prop} {x1 : Int32} {x2 : Int64} {x4 : Int32} {x5 : Nat} {Q : Int64 → WM → Prop}  (cx : Cx p s m args meth c cX0_rubbed 8 RX0 (some .long) D cA sz0 H0)  (hK77 : ∀ (x2 : Int64) (x4 : Int32)  (M : WM) (sh : Shp M), K77 x2 x4 M → V p l e ({ frames := 3, cells := 0, slots := 0, locals := 63 } : Room) s m args below meth c 8 D cA sz0 H0 0 0 (MQ below (QW_l D cA sz0 H0 (fun r M' => Q r M' ∧ Shp M')) args s 0 0 (Aw sz0)) 77 [(0, .ref (sz0 + 0)), (1, .int x1), (2, .long x2), (4, .int x4)] [] M) (hx5 : isLn x5)  : ∀ (n : Nat) (x6 : Int32) (x7 : Int32)  (M : WM) (sh : Shp M), m_X0_rubbed_l126 K77 x1 x2 x4 x5 Q n x6 x7 M → V p l e ({ frames := 3, cells := 0, slots := 0, locals := 63 } : Room) s m args below meth c 8 D cA sz0 H0 0 0 (MQ below (QW_l D cA sz0 H0 (fun r M' => Q r M' ∧ Shp M')) args s 0 0 (Aw sz0)) 126 [(0, .ref (sz0 + 0)), (1, .int x1), (2, .long x2), (4, .int x4), (5, .ref (sz0 + x5)), (6, .int x6), (7, .int x7)] [] M := by
  intro n
  induction n with
  | zero => intro x6 x7 M sh h; exact h.elim
  | succ n ih =>
    intro x6 x7 M sh h
    replace h : ((x1 ≤ x7 → m_X0_rubbed_j183 K77 x1 x2 x4 x6 Q M) ∧ (¬ x1 ≤ x7 → ((x6 = 0 → m_X0_rubbed_j183 K77 x1 x2 x4 x6 Q M) ∧ (¬ x6 = 0 → (vp_in x7 200 ∧ (((wI M 2 x7.toNatClampNeg) = (63 : Int32) → (∀ z5 : Int32, z5 = x7 + (1 : Int32) → m_X0_rubbed_l126 K77 x1 x2 x4 x5 Q n ((1 : Int32)) z5 M)) ∧ (¬ (wI M 2 x7.toNatClampNeg) = (63 : Int32) → (vp_in x7 200 ∧ (vp_in x7 13 ∧ ((((wI M 2 x7.toNatClampNeg) - (97 : Int32)) = (wI M ((x5 + 1)) x7.toNatClampNeg) → (∀ z10 : Int32, z10 = x7 + (1 : Int32) → m_X0_rubbed_l126 K77 x1 x2 x4 x5 Q n ((1 : Int32)) z10 M)) ∧ (¬ ((wI M 2 x7.toNatClampNeg) - (97 : Int32)) = (wI M ((x5 + 1)) x7.toNatClampNeg) → (∀ z9 : Int32, z9 = x7 + (1 : Int32) → m_X0_rubbed_l126 K77 x1 x2 x4 x5 Q n ((0 : Int32)) z9 M)))))))))))) := h
    refine v_iload (pc := 126) cx dX0_rubbed_126 6 rfl ?_
    refine v_iload_n (pc := 128) cx dX0_rubbed_128 rfl 1 rfl ?_
    refine v_icmp_ge (pc := 129) cx dX0_rubbed_129 (tgt := 183) rfl (fun c1 => ?_) (fun c1 => ?_)
    · replace h := h.1 c1
      refine v_sub (lv' := [(0, .ref (sz0 + 0)), (1, .int x1), (2, .long x2), (4, .int x4), (6, .int x6)]) [0, 1, 2, 3, 5] rfl ?_
      exact w_X0_rubbed_j183 cx hK77 M sh h
    · replace h := h.2 c1
      refine v_iload (pc := 132) cx dX0_rubbed_132 5 rfl ?_
      refine v_if_eq (pc := 134) cx dX0_rubbed_134 (tgt := 183) rfl (fun c2 => ?_) (fun c2 => ?_)
      · replace h := h.1 c2
        refine v_sub (lv' := [(0, .ref (sz0 + 0)), (1, .int x1), (2, .long x2), (4, .int x4), (6, .int x6)]) [0, 1, 2, 3, 5] rfl ?_
        exact w_X0_rubbed_j183 cx hK77 M sh h
      · replace h := h.2 c2
        refine v_aload_n (pc := 137) cx dX0_rubbed_137 rfl 0 rfl ?_
        refine gq275_X0 (pc := 138) cx dX0_rubbed_138 (sh.k k_0) (v_some (sh.r r_0_1) ?_)
        refine v_iload (pc := 141) cx dX0_rubbed_141 6 rfl ?_
        obtain ⟨b3, h⟩ := h
        refine v_bald (pc := 143) cx dX0_rubbed_143 (sh.k k_2) (sh.l k_2 l_2) b3 ?_
        refine v_bipush (pc := 144) cx dX0_rubbed_144 bc_63 ?_
        refine v_icmp_eq (pc := 146) cx dX0_rubbed_146 (tgt := 170) rfl (fun c4 => ?_) (fun c4 => ?_)
        · replace h := h.1 c4
          refine v_iconst (pc := 170) cx dX0_rubbed_170 ic_1 ?_
          refine v_goto (pc := 171) cx dX0_rubbed_171 (tgt := 175) rfl ?_
          refine v_istore (pc := 175) cx dX0_rubbed_175 (Nat.le_of_ble_eq_true rfl) (lv' := [(6, .int (1 : Int32)), (0, .ref (sz0 + 0)), (1, .int x1), (2, .long x2), (4, .int x4), (5, .ref (sz0 + x5)), (7, .int x7)]) rfl ?_
          refine nm_x (x7 + (1 : Int32)) (fun z5 ez5 => ?_)
          replace h := h z5 ez5
          refine v_iinc (pc := 177) cx dX0_rubbed_177 (q := 6) rfl ((ii_1 _).trans ez5.symm) (Nat.le_of_ble_eq_true rfl) (lv' := [(7, .int z5), (6, .int (1 : Int32)), (0, .ref (sz0 + 0)), (1, .int x1), (2, .long x2), (4, .int x4), (5, .ref (sz0 + x5))]) rfl ?_
          refine v_goto (pc := 180) cx dX0_rubbed_180 (tgt := 126) rfl ?_
          refine v_sub (lv' := [(0, .ref (sz0 + 0)), (1, .int x1), (2, .long x2), (4, .int x4), (5, .ref (sz0 + x5)), (6, .int (1 : Int32)), (7, .int z5)]) [2, 3, 4, 5, 6, 1, 0] rfl ?_
          exact ih ((1 : Int32)) z5 M sh h
        · replace h := h.2 c4
          refine v_aload_n (pc := 149) cx dX0_rubbed_149 rfl 0 rfl ?_
          refine gq275_X0 (pc := 150) cx dX0_rubbed_150 (sh.k k_0) (v_some (sh.r r_0_1) ?_)
          refine v_iload (pc := 153) cx dX0_rubbed_153 6 rfl ?_
          obtain ⟨b6, h⟩ := h
          refine v_bald (pc := 155) cx dX0_rubbed_155 (sh.k k_2) (sh.l k_2 l_2) b6 ?_
          refine v_bipush (pc := 156) cx dX0_rubbed_156 bc_97 ?_
          refine v_isub (pc := 158) cx dX0_rubbed_158 ?_
          refine v_aload (pc := 159) cx dX0_rubbed_159 4 rfl ?_
          refine gq193_X2 (pc := 161) cx dX0_rubbed_161 (sh.k (hx5).1) (v_some (sh.r (hx5).2.2.2) ?_)
          refine v_iload (pc := 164) cx dX0_rubbed_164 6 rfl ?_
          obtain ⟨b7, h⟩ := h
          refine v_iald (pc := 166) cx dX0_rubbed_166 (sh.k (hx5).2.1) (sh.l (hx5).2.1 (hx5).2.2.1) b7 ?_
          refine v_icmp_ne (pc := 167) cx dX0_rubbed_167 (tgt := 174) rfl (fun c8 => ?_) (fun c8 => ?_)
          · replace h := h.2 c8
            refine v_iconst (pc := 174) cx dX0_rubbed_174 ic_0 ?_
            refine v_istore (pc := 175) cx dX0_rubbed_175 (Nat.le_of_ble_eq_true rfl) (lv' := [(6, .int (0 : Int32)), (0, .ref (sz0 + 0)), (1, .int x1), (2, .long x2), (4, .int x4), (5, .ref (sz0 + x5)), (7, .int x7)]) rfl ?_
            refine nm_x (x7 + (1 : Int32)) (fun z9 ez9 => ?_)
            replace h := h z9 ez9
            refine v_iinc (pc := 177) cx dX0_rubbed_177 (q := 6) rfl ((ii_1 _).trans ez9.symm) (Nat.le_of_ble_eq_true rfl) (lv' := [(7, .int z9), (6, .int (0 : Int32)), (0, .ref (sz0 + 0)), (1, .int x1), (2, .long x2), (4, .int x4), (5, .ref (sz0 + x5))]) rfl ?_
            refine v_goto (pc := 180) cx dX0_rubbed_180 (tgt := 126) rfl ?_
            refine v_sub (lv' := [(0, .ref (sz0 + 0)), (1, .int x1), (2, .long x2), (4, .int x4), (5, .ref (sz0 + x5)), (6, .int (0 : Int32)), (7, .int z9)]) [2, 3, 4, 5, 6, 1, 0] rfl ?_
            exact ih ((0 : Int32)) z9 M sh h
          · replace h := h.1 c8
            refine v_iconst (pc := 170) cx dX0_rubbed_170 ic_1 ?_
            refine v_goto (pc := 171) cx dX0_rubbed_171 (tgt := 175) rfl ?_
            refine v_istore (pc := 175) cx dX0_rubbed_175 (Nat.le_of_ble_eq_true rfl) (lv' := [(6, .int (1 : Int32)), (0, .ref (sz0 + 0)), (1, .int x1), (2, .long x2), (4, .int x4), (5, .ref (sz0 + x5)), (7, .int x7)]) rfl ?_
            refine nm_x (x7 + (1 : Int32)) (fun z10 ez10 => ?_)
            replace h := h z10 ez10
            refine v_iinc (pc := 177) cx dX0_rubbed_177 (q := 6) rfl ((ii_1 _).trans ez10.symm) (Nat.le_of_ble_eq_true rfl) (lv' := [(7, .int z10), (6, .int (1 : Int32)), (0, .ref (sz0 + 0)), (1, .int x1), (2, .long x2), (4, .int x4), (5, .ref (sz0 + x5))]) rfl ?_
            refine v_goto (pc := 180) cx dX0_rubbed_180 (tgt := 126) rfl ?_
            refine v_sub (lv' := [(0, .ref (sz0 + 0)), (1, .int x1), (2, .long x2), (4, .int x4), (5, .ref (sz0 + x5)), (6, .int (1 : Int32)), (7, .int z10)]) [2, 3, 4, 5, 6, 1, 0] rfl ?_
            exact ih ((1 : Int32)) z10 M sh h
def m_X0_rubbed_l77   (x1 : Int32)   (Q : Int64 → WM → Prop) : Nat → Int64 → Int32 → WM → Prop
  | 0, _, _, _ => False
  | n + 1, x2, x4, M => (((wI M 0 3) ≤ x4 → Q x2 M) ∧ (¬ (wI M 0 3) ≤ x4 → (vp_in x4 40 ∧ (m_X0_isUsed x4 M (fun (a3 : Int32) => ((a3 = 0 → (∃ n0, m_X0_rubbed_l126 (fun x2' x4' M' => m_X0_rubbed_l77 x1 Q n x2' x4' M') x1 x2 x4 ((5325 + 3 * x4.toNatClampNeg)) Q n0 ((0 : Int32)) ((0 : Int32)) M)) ∧ (¬ a3 = 0 → (((wI M ((5325 + 3 * x4.toNatClampNeg)) 1) = x1 → (∃ n0, m_X0_rubbed_l126 (fun x2' x4' M' => m_X0_rubbed_l77 x1 Q n x2' x4' M') x1 x2 x4 ((5325 + 3 * x4.toNatClampNeg)) Q n0 ((1 : Int32)) ((0 : Int32)) M)) ∧ (¬ (wI M ((5325 + 3 * x4.toNatClampNeg)) 1) = x1 → (∃ n0, m_X0_rubbed_l126 (fun x2' x4' M' => m_X0_rubbed_l77 x1 Q n x2' x4' M') x1 x2 x4 ((5325 + 3 * x4.toNatClampNeg)) Q n0 ((0 : Int32)) ((0 : Int32)) M))))))))))
theorem w_X0_rubbed_l77 {p : Program} {l : Launch} {e : Env} {s : State} {m : MethodId} {args : Array Value} {below : List Frame} {meth : Method} {c : Code} {D : va_G} {cA : Nat → ClassId} {sz0 : Nat} {H0 : Heap}  {x1 : Int32} {Q : Int64 → WM → Prop}  (cx : Cx p s m args meth c cX0_rubbed 8 RX0 (some .long) D cA sz0 H0)     : ∀ (n : Nat) (x2 : Int64) (x4 : Int32)  (M : WM) (sh : Shp M), m_X0_rubbed_l77 x1 Q n x2 x4 M → V p l e ({ frames := 3, cells := 0, slots := 0, locals := 63 } : Room) s m args below meth c 8 D cA sz0 H0 0 0 (MQ below (QW_l D cA sz0 H0 (fun r M' => Q r M' ∧ Shp M')) args s 0 0 (Aw sz0)) 77 [(0, .ref (sz0 + 0)), (1, .int x1), (2, .long x2), (4, .int x4)] [] M := by
  intro n
  induction n with
  | zero => intro x2 x4 M sh h; exact h.elim
  | succ n ih =>
    intro x2 x4 M sh h
    replace h : (((wI M 0 3) ≤ x4 → Q x2 M) ∧ (¬ (wI M 0 3) ≤ x4 → (vp_in x4 40 ∧ (m_X0_isUsed x4 M (fun (a3 : Int32) => ((a3 = 0 → (∃ n0, m_X0_rubbed_l126 (fun x2' x4' M' => m_X0_rubbed_l77 x1 Q n x2' x4' M') x1 x2 x4 ((5325 + 3 * x4.toNatClampNeg)) Q n0 ((0 : Int32)) ((0 : Int32)) M)) ∧ (¬ a3 = 0 → (((wI M ((5325 + 3 * x4.toNatClampNeg)) 1) = x1 → (∃ n0, m_X0_rubbed_l126 (fun x2' x4' M' => m_X0_rubbed_l77 x1 Q n x2' x4' M') x1 x2 x4 ((5325 + 3 * x4.toNatClampNeg)) Q n0 ((1 : Int32)) ((0 : Int32)) M)) ∧ (¬ (wI M ((5325 + 3 * x4.toNatClampNeg)) 1) = x1 → (∃ n0, m_X0_rubbed_l126 (fun x2' x4' M' => m_X0_rubbed_l77 x1 Q n x2' x4' M') x1 x2 x4 ((5325 + 3 * x4.toNatClampNeg)) Q n0 ((0 : Int32)) ((0 : Int32)) M)))))))))) := h
    refine v_iload (pc := 77) cx dX0_rubbed_77 3 rfl ?_
    refine v_aload_n (pc := 79) cx dX0_rubbed_79 rfl 0 rfl ?_
    refine gq278_X0 (pc := 80) cx dX0_rubbed_80 (sh.k k_0) ?_
    refine v_icmp_ge (pc := 83) cx dX0_rubbed_83 (tgt := 201) rfl (fun c1 => ?_) (fun c1 => ?_)
    · replace h := h.1 c1
      refine v_lload_n (pc := 201) cx dX0_rubbed_201 rfl 2 rfl ?_
      exact v_lret cx rfl dX0_rubbed_202 ⟨Nat.le_of_ble_eq_true rfl, Nat.le_of_ble_eq_true rfl⟩ ⟨h, sh⟩
    · replace h := h.2 c1
      refine v_aload_n (pc := 86) cx dX0_rubbed_86 rfl 0 rfl ?_
      refine gq273_X0 (pc := 87) cx dX0_rubbed_87 (sh.k k_0) (v_some (sh.r r_0_0) ?_)
      refine v_iload (pc := 90) cx dX0_rubbed_90 3 rfl ?_
      obtain ⟨b2, h⟩ := h
      refine v_aald107 (pc := 92) cx dX0_rubbed_92 (sh.k k_1) (sh.l k_1 l_1) b2 (v_some (sh.r (f_1 (lt_in b2))) ?_)
      refine gq257_X5 (pc := 93) cx dX0_rubbed_93 (sh.k (fk_1 (lt_in b2))) (v_some (sh.r (fr_1 (lt_in b2))) ?_)
      refine v_astore (pc := 96) cx dX0_rubbed_96 (Nat.le_of_ble_eq_true rfl) (lv' := [(5, .ref (sz0 + (5325 + 3 * x4.toNatClampNeg))), (0, .ref (sz0 + 0)), (1, .int x1), (2, .long x2), (4, .int x4)]) rfl ?_
      refine v_aload_n (pc := 98) cx dX0_rubbed_98 rfl 1 rfl ?_
      refine v_iload (pc := 99) cx dX0_rubbed_99 4 rfl ?_
      refine v_runp_i (pc := 101) cx (kcq718_X0 cx (c_X0_isUsed l D cA sz0 H0 M x4  _ sh h) ⟨Nat.le_of_ble_eq_true rfl, Nat.le_of_ble_eq_true rfl⟩ (sh.k k_0) (As := [.int x4]) rfl rfl (Nat.le_of_ble_eq_true rfl) dX0_rubbed_101 ⟨Nat.le_of_ble_eq_true rfl, Nat.le_of_ble_eq_true rfl⟩) (fun a3 hq => ?_)
      replace h := hq
      refine v_if_eq (pc := 104) cx dX0_rubbed_104 (tgt := 120) rfl (fun c4 => ?_) (fun c4 => ?_)
      · replace h := h.1 c4
        refine v_iconst (pc := 120) cx dX0_rubbed_120 ic_0 ?_
        refine v_istore (pc := 121) cx dX0_rubbed_121 (Nat.le_of_ble_eq_true rfl) (lv' := [(6, .int (0 : Int32)), (5, .ref (sz0 + (5325 + 3 * x4.toNatClampNeg))), (0, .ref (sz0 + 0)), (1, .int x1), (2, .long x2), (4, .int x4)]) rfl ?_
        refine v_iconst (pc := 123) cx dX0_rubbed_123 ic_0 ?_
        refine v_istore (pc := 124) cx dX0_rubbed_124 (Nat.le_of_ble_eq_true rfl) (lv' := [(7, .int (0 : Int32)), (6, .int (0 : Int32)), (5, .ref (sz0 + (5325 + 3 * x4.toNatClampNeg))), (0, .ref (sz0 + 0)), (1, .int x1), (2, .long x2), (4, .int x4)]) rfl ?_
        refine v_sub (lv' := [(0, .ref (sz0 + 0)), (1, .int x1), (2, .long x2), (4, .int x4), (5, .ref (sz0 + (5325 + 3 * x4.toNatClampNeg))), (6, .int (0 : Int32)), (7, .int (0 : Int32))]) [3, 4, 5, 6, 2, 1, 0] rfl ?_
        obtain ⟨n0, h⟩ := h
        exact w_X0_rubbed_l126 cx ih (isLn_w (lt_in b2)) n0 ((0 : Int32)) ((0 : Int32)) M sh h
      · replace h := h.2 c4
        refine v_aload (pc := 107) cx dX0_rubbed_107 0 rfl ?_
        refine gq196_X2 (pc := 109) cx dX0_rubbed_109 (sh.k (isLn_w (lt_in b2)).1) ?_
        refine v_iload_n (pc := 112) cx dX0_rubbed_112 rfl 2 rfl ?_
        refine v_icmp_ne (pc := 113) cx dX0_rubbed_113 (tgt := 120) rfl (fun c5 => ?_) (fun c5 => ?_)
        · replace h := h.2 c5
          refine v_iconst (pc := 120) cx dX0_rubbed_120 ic_0 ?_
          refine v_istore (pc := 121) cx dX0_rubbed_121 (Nat.le_of_ble_eq_true rfl) (lv' := [(6, .int (0 : Int32)), (5, .ref (sz0 + (5325 + 3 * x4.toNatClampNeg))), (0, .ref (sz0 + 0)), (1, .int x1), (2, .long x2), (4, .int x4)]) rfl ?_
          refine v_iconst (pc := 123) cx dX0_rubbed_123 ic_0 ?_
          refine v_istore (pc := 124) cx dX0_rubbed_124 (Nat.le_of_ble_eq_true rfl) (lv' := [(7, .int (0 : Int32)), (6, .int (0 : Int32)), (5, .ref (sz0 + (5325 + 3 * x4.toNatClampNeg))), (0, .ref (sz0 + 0)), (1, .int x1), (2, .long x2), (4, .int x4)]) rfl ?_
          refine v_sub (lv' := [(0, .ref (sz0 + 0)), (1, .int x1), (2, .long x2), (4, .int x4), (5, .ref (sz0 + (5325 + 3 * x4.toNatClampNeg))), (6, .int (0 : Int32)), (7, .int (0 : Int32))]) [3, 4, 5, 6, 2, 1, 0] rfl ?_
          obtain ⟨n0, h⟩ := h
          exact w_X0_rubbed_l126 cx ih (isLn_w (lt_in b2)) n0 ((0 : Int32)) ((0 : Int32)) M sh h
        · replace h := h.1 c5
          refine v_iconst (pc := 116) cx dX0_rubbed_116 ic_1 ?_
          refine v_goto (pc := 117) cx dX0_rubbed_117 (tgt := 121) rfl ?_
          refine v_istore (pc := 121) cx dX0_rubbed_121 (Nat.le_of_ble_eq_true rfl) (lv' := [(6, .int (1 : Int32)), (5, .ref (sz0 + (5325 + 3 * x4.toNatClampNeg))), (0, .ref (sz0 + 0)), (1, .int x1), (2, .long x2), (4, .int x4)]) rfl ?_
          refine v_iconst (pc := 123) cx dX0_rubbed_123 ic_0 ?_
          refine v_istore (pc := 124) cx dX0_rubbed_124 (Nat.le_of_ble_eq_true rfl) (lv' := [(7, .int (0 : Int32)), (6, .int (1 : Int32)), (5, .ref (sz0 + (5325 + 3 * x4.toNatClampNeg))), (0, .ref (sz0 + 0)), (1, .int x1), (2, .long x2), (4, .int x4)]) rfl ?_
          refine v_sub (lv' := [(0, .ref (sz0 + 0)), (1, .int x1), (2, .long x2), (4, .int x4), (5, .ref (sz0 + (5325 + 3 * x4.toNatClampNeg))), (6, .int (1 : Int32)), (7, .int (0 : Int32))]) [3, 4, 5, 6, 2, 1, 0] rfl ?_
          obtain ⟨n0, h⟩ := h
          exact w_X0_rubbed_l126 cx ih (isLn_w (lt_in b2)) n0 ((1 : Int32)) ((0 : Int32)) M sh h
def m_X0_rubbed_l29   (x1 : Int32)   (Q : Int64 → WM → Prop) : Nat → Int32 → WM → Prop
  | 0, _, _ => False
  | n + 1, x2, M => ((x1 ≤ x2 → (∃ n0, m_X0_rubbed_l77 x1 Q n0 ((0 : Int64)) ((0 : Int32)) M)) ∧ (¬ x1 ≤ x2 → (vp_in x2 200 ∧ (((wI M 2 x2.toNatClampNeg) = (63 : Int32) → (∀ z4 : Int32, z4 = x2 + (1 : Int32) → m_X0_rubbed_l29 x1 Q n z4 M)) ∧ (¬ (wI M 2 x2.toNatClampNeg) = (63 : Int32) → (vp_in x2 200 ∧ (m_X0_in (((wI M 2 x2.toNatClampNeg) - (97 : Int32))) ((26 : Int32)) (fun (a6 : Int32) => ((a6 = 0 → Q (((-2) : Int64)) M) ∧ (¬ a6 = 0 → (∀ z8 : Int32, z8 = x2 + (1 : Int32) → m_X0_rubbed_l29 x1 Q n z8 M)))))))))))
theorem w_X0_rubbed_l29 {p : Program} {l : Launch} {e : Env} {s : State} {m : MethodId} {args : Array Value} {below : List Frame} {meth : Method} {c : Code} {D : va_G} {cA : Nat → ClassId} {sz0 : Nat} {H0 : Heap}  {x1 : Int32} {Q : Int64 → WM → Prop}  (cx : Cx p s m args meth c cX0_rubbed 8 RX0 (some .long) D cA sz0 H0)     : ∀ (n : Nat) (x2 : Int32)  (M : WM) (sh : Shp M), m_X0_rubbed_l29 x1 Q n x2 M → V p l e ({ frames := 3, cells := 0, slots := 0, locals := 63 } : Room) s m args below meth c 8 D cA sz0 H0 0 0 (MQ below (QW_l D cA sz0 H0 (fun r M' => Q r M' ∧ Shp M')) args s 0 0 (Aw sz0)) 29 [(0, .ref (sz0 + 0)), (1, .int x1), (2, .int x2)] [] M := by
  intro n
  induction n with
  | zero => intro x2 M sh h; exact h.elim
  | succ n ih =>
    intro x2 M sh h
    replace h : ((x1 ≤ x2 → (∃ n0, m_X0_rubbed_l77 x1 Q n0 ((0 : Int64)) ((0 : Int32)) M)) ∧ (¬ x1 ≤ x2 → (vp_in x2 200 ∧ (((wI M 2 x2.toNatClampNeg) = (63 : Int32) → (∀ z4 : Int32, z4 = x2 + (1 : Int32) → m_X0_rubbed_l29 x1 Q n z4 M)) ∧ (¬ (wI M 2 x2.toNatClampNeg) = (63 : Int32) → (vp_in x2 200 ∧ (m_X0_in (((wI M 2 x2.toNatClampNeg) - (97 : Int32))) ((26 : Int32)) (fun (a6 : Int32) => ((a6 = 0 → Q (((-2) : Int64)) M) ∧ (¬ a6 = 0 → (∀ z8 : Int32, z8 = x2 + (1 : Int32) → m_X0_rubbed_l29 x1 Q n z8 M))))))))))) := h
    refine v_iload_n (pc := 29) cx dX0_rubbed_29 rfl 2 rfl ?_
    refine v_iload_n (pc := 30) cx dX0_rubbed_30 rfl 1 rfl ?_
    refine v_icmp_ge (pc := 31) cx dX0_rubbed_31 (tgt := 72) rfl (fun c1 => ?_) (fun c1 => ?_)
    · replace h := h.1 c1
      refine v_lconst (pc := 72) cx dX0_rubbed_72 lc_0 ?_
      refine v_lstore_n (pc := 73) cx dX0_rubbed_73 rfl (Nat.le_of_ble_eq_true rfl) (lv' := [(2, .long (0 : Int64)), (0, .ref (sz0 + 0)), (1, .int x1)]) rfl ?_
      refine v_iconst (pc := 74) cx dX0_rubbed_74 ic_0 ?_
      refine v_istore (pc := 75) cx dX0_rubbed_75 (Nat.le_of_ble_eq_true rfl) (lv' := [(4, .int (0 : Int32)), (2, .long (0 : Int64)), (0, .ref (sz0 + 0)), (1, .int x1)]) rfl ?_
      refine v_sub (lv' := [(0, .ref (sz0 + 0)), (1, .int x1), (2, .long (0 : Int64)), (4, .int (0 : Int32))]) [2, 3, 1, 0] rfl ?_
      obtain ⟨n0, h⟩ := h
      exact w_X0_rubbed_l77 cx n0 ((0 : Int64)) ((0 : Int32)) M sh h
    · replace h := h.2 c1
      refine v_aload_n (pc := 34) cx dX0_rubbed_34 rfl 0 rfl ?_
      refine gq275_X0 (pc := 35) cx dX0_rubbed_35 (sh.k k_0) (v_some (sh.r r_0_1) ?_)
      refine v_iload_n (pc := 38) cx dX0_rubbed_38 rfl 2 rfl ?_
      obtain ⟨b2, h⟩ := h
      refine v_bald (pc := 39) cx dX0_rubbed_39 (sh.k k_2) (sh.l k_2 l_2) b2 ?_
      refine v_bipush (pc := 40) cx dX0_rubbed_40 bc_63 ?_
      refine v_icmp_eq (pc := 42) cx dX0_rubbed_42 (tgt := 66) rfl (fun c3 => ?_) (fun c3 => ?_)
      · replace h := h.1 c3
        refine nm_x (x2 + (1 : Int32)) (fun z4 ez4 => ?_)
        replace h := h z4 ez4
        refine v_iinc (pc := 66) cx dX0_rubbed_66 (q := 2) rfl ((ii_1 _).trans ez4.symm) (Nat.le_of_ble_eq_true rfl) (lv' := [(2, .int z4), (0, .ref (sz0 + 0)), (1, .int x1)]) rfl ?_
        refine v_goto (pc := 69) cx dX0_rubbed_69 (tgt := 29) rfl ?_
        refine v_sub (lv' := [(0, .ref (sz0 + 0)), (1, .int x1), (2, .int z4)]) [1, 2, 0] rfl ?_
        exact ih z4 M sh h
      · replace h := h.2 c3
        refine v_aload_n (pc := 45) cx dX0_rubbed_45 rfl 0 rfl ?_
        refine gq275_X0 (pc := 46) cx dX0_rubbed_46 (sh.k k_0) (v_some (sh.r r_0_1) ?_)
        refine v_iload_n (pc := 49) cx dX0_rubbed_49 rfl 2 rfl ?_
        obtain ⟨b5, h⟩ := h
        refine v_bald (pc := 50) cx dX0_rubbed_50 (sh.k k_2) (sh.l k_2 l_2) b5 ?_
        refine v_bipush (pc := 51) cx dX0_rubbed_51 bc_97 ?_
        refine v_isub (pc := 53) cx dX0_rubbed_53 ?_
        refine v_bipush (pc := 54) cx dX0_rubbed_54 bc_26 ?_
        refine v_runp_i (pc := 56) cx (kcq390_X0 cx (c_X0_in l D cA sz0 H0 M (((wI M 2 x2.toNatClampNeg) - (97 : Int32))) ((26 : Int32))  _ h) ⟨Nat.le_of_ble_eq_true rfl, Nat.le_of_ble_eq_true rfl⟩ (As := [.int ((wI M 2 x2.toNatClampNeg) - (97 : Int32)), .int (26 : Int32)]) rfl rfl (Nat.le_of_ble_eq_true rfl) dX0_rubbed_56 ⟨Nat.le_of_ble_eq_true rfl, Nat.le_of_ble_eq_true rfl⟩) (fun a6 hq => ?_)
        replace h := hq
        refine v_if_ne (pc := 59) cx dX0_rubbed_59 (tgt := 66) rfl (fun c7 => ?_) (fun c7 => ?_)
        · replace h := h.2 c7
          refine nm_x (x2 + (1 : Int32)) (fun z8 ez8 => ?_)
          replace h := h z8 ez8
          refine v_iinc (pc := 66) cx dX0_rubbed_66 (q := 2) rfl ((ii_1 _).trans ez8.symm) (Nat.le_of_ble_eq_true rfl) (lv' := [(2, .int z8), (0, .ref (sz0 + 0)), (1, .int x1)]) rfl ?_
          refine v_goto (pc := 69) cx dX0_rubbed_69 (tgt := 29) rfl ?_
          refine v_sub (lv' := [(0, .ref (sz0 + 0)), (1, .int x1), (2, .int z8)]) [1, 2, 0] rfl ?_
          exact ih z8 M sh h
        · replace h := h.1 c7
          refine v_ldc2 (pc := 62) cx dX0_rubbed_62 q837 ?_
          exact v_lret cx rfl dX0_rubbed_65 ⟨Nat.le_of_ble_eq_true rfl, Nat.le_of_ble_eq_true rfl⟩ ⟨h, sh⟩
def m_X0_rubbed (x1 : Int32) (M : WM)  (Q : Int64 → WM → Prop) : Prop := (m_X0_within x1 ((1 : Int32)) ((8 : Int32)) (fun (a1 : Int32) => ((a1 = 0 → Q (((-1) : Int64)) M) ∧ (¬ a1 = 0 → ((x1 ≤ (wI M 0 5) → (∀ M4 : WM, M4 = wPI M 0 5 ((0 : Int32)) → (∃ n0, m_X0_rubbed_l29 x1 Q n0 ((0 : Int32)) M4))) ∧ (¬ x1 ≤ (wI M 0 5) → Q (((-1) : Int64)) M))))))
theorem c_X0_rubbed (l : Launch) (D : va_G) (cA : Nat → ClassId) (sz0 : Nat) (H0 : Heap) (M : WM) (x1 : Int32)   (Q : Int64 → WM → Prop) (sh : Shp M) (h : m_X0_rubbed x1 M  Q) : Met l yX0_rubbed (ws_ yX0_rubbed cX0_rubbed 8 (some .long)) ({ frames := 3, cells := 0, slots := 0, locals := 63 } : Room) (PcW D cA sz0 H0 [.ref (sz0 + 0), .int x1] M) (QW_l D cA sz0 H0 (fun r M' => Q r M' ∧ Shp M')) 0 0 (Aw sz0) := by
  replace h : (m_X0_within x1 ((1 : Int32)) ((8 : Int32)) (fun (a1 : Int32) => ((a1 = 0 → Q (((-1) : Int64)) M) ∧ (¬ a1 = 0 → ((x1 ≤ (wI M 0 5) → (∀ M4 : WM, M4 = wPI M 0 5 ((0 : Int32)) → (∃ n0, m_X0_rubbed_l29 x1 Q n0 ((0 : Int32)) M4))) ∧ (¬ x1 ≤ (wI M 0 5) → Q (((-1) : Int64)) M)))))) := h
  refine Met.ofV (by decide +kernel) (Nat.le_of_ble_eq_true rfl) ?_
  intro p e s m args below meth c cx hnm
  replace cx : Cx p s m args meth c cX0_rubbed 8 RX0 (some .long) D cA sz0 H0 := cx
  refine v_sub (lv' := [(0, .ref (sz0 + 0)), (1, .int x1)]) [0, 1] rfl ?_
  refine v_iload_n (pc := 0) cx dX0_rubbed_0 rfl 1 rfl ?_
  refine v_iconst (pc := 1) cx dX0_rubbed_1 ic_1 ?_
  refine v_bipush (pc := 2) cx dX0_rubbed_2 bc_8 ?_
  refine v_runp_i (pc := 4) cx (kcq387_X0 cx (c_X0_within l D cA sz0 H0 M x1 ((1 : Int32)) ((8 : Int32))  _ h) ⟨Nat.le_of_ble_eq_true rfl, Nat.le_of_ble_eq_true rfl⟩ (As := [.int x1, .int (1 : Int32), .int (8 : Int32)]) rfl rfl (Nat.le_of_ble_eq_true rfl) dX0_rubbed_4 ⟨Nat.le_of_ble_eq_true rfl, Nat.le_of_ble_eq_true rfl⟩) (fun a1 hq => ?_)
  replace h := hq
  refine v_if_eq (pc := 7) cx dX0_rubbed_7 (tgt := 18) rfl (fun c2 => ?_) (fun c2 => ?_)
  · replace h := h.1 c2
    refine v_ldc2 (pc := 18) cx dX0_rubbed_18 q828 ?_
    exact v_lret cx rfl dX0_rubbed_21 ⟨Nat.le_of_ble_eq_true rfl, Nat.le_of_ble_eq_true rfl⟩ ⟨h, sh⟩
  · replace h := h.2 c2
    refine v_iload_n (pc := 10) cx dX0_rubbed_10 rfl 1 rfl ?_
    refine v_aload_n (pc := 11) cx dX0_rubbed_11 rfl 0 rfl ?_
    refine gq280_X0 (pc := 12) cx dX0_rubbed_12 (sh.k k_0) ?_
    refine v_icmp_le (pc := 15) cx dX0_rubbed_15 (tgt := 22) rfl (fun c3 => ?_) (fun c3 => ?_)
    · replace h := h.1 c3
      refine v_aload_n (pc := 22) cx dX0_rubbed_22 rfl 0 rfl ?_
      refine v_iconst (pc := 23) cx dX0_rubbed_23 ic_0 ?_
      refine pq280_X0 (pc := 24) cx dX0_rubbed_24 (sh.k k_0) ?_
      refine v_wld (fun M4 eM4 => ?_)
      replace h := h M4 eM4
      replace sh : Shp M4 := Shp_PI sh eM4
      refine v_iconst (pc := 27) cx dX0_rubbed_27 ic_0 ?_
      refine v_istore_n (pc := 28) cx dX0_rubbed_28 rfl (Nat.le_of_ble_eq_true rfl) (lv' := [(2, .int (0 : Int32)), (0, .ref (sz0 + 0)), (1, .int x1)]) rfl ?_
      refine v_sub (lv' := [(0, .ref (sz0 + 0)), (1, .int x1), (2, .int (0 : Int32))]) [1, 2, 0] rfl ?_
      obtain ⟨n0, h⟩ := h
      exact w_X0_rubbed_l29 cx n0 ((0 : Int32)) M4 sh h
    · replace h := h.2 c3
      refine v_ldc2 (pc := 18) cx dX0_rubbed_18 q828 ?_
      exact v_lret cx rfl dX0_rubbed_21 ⟨Nat.le_of_ble_eq_true rfl, Nat.le_of_ble_eq_true rfl⟩ ⟨h, sh⟩
/-! LetterHeaps.seed(I)Z -/
def m_X0_seed (x1 : Int32) (M : WM)  (Q : Int32 → WM → Prop) : Prop := (m_X0_in x1 ((65536 : Int32)) (fun (a1 : Int32) => ((a1 = 0 → Q ((0 : Int32)) M) ∧ (¬ a1 = 0 → (∀ M3 : WM, M3 = wPI M 0 6 x1 → Q ((1 : Int32)) M3)))))
theorem c_X0_seed (l : Launch) (D : va_G) (cA : Nat → ClassId) (sz0 : Nat) (H0 : Heap) (M : WM) (x1 : Int32)   (Q : Int32 → WM → Prop) (sh : Shp M) (h : m_X0_seed x1 M  Q) : Met l yX0_seed (ws_ yX0_seed cX0_seed 2 (some .boolean)) ({ frames := 1, cells := 0, slots := 0, locals := 21 } : Room) (PcW D cA sz0 H0 [.ref (sz0 + 0), .int x1] M) (QW_i D cA sz0 H0 (fun r M' => Q r M' ∧ Shp M')) 0 0 (Aw sz0) := by
  replace h : (m_X0_in x1 ((65536 : Int32)) (fun (a1 : Int32) => ((a1 = 0 → Q ((0 : Int32)) M) ∧ (¬ a1 = 0 → (∀ M3 : WM, M3 = wPI M 0 6 x1 → Q ((1 : Int32)) M3))))) := h
  refine Met.ofV (by decide +kernel) (Nat.le_of_ble_eq_true rfl) ?_
  intro p e s m args below meth c cx hnm
  replace cx : Cx p s m args meth c cX0_seed 2 RX0 (some .boolean) D cA sz0 H0 := cx
  refine v_sub (lv' := [(0, .ref (sz0 + 0)), (1, .int x1)]) [0, 1] rfl ?_
  refine v_iload_n (pc := 0) cx dX0_seed_0 rfl 1 rfl ?_
  refine v_ldcw (pc := 1) cx dX0_seed_1 q978 ?_
  refine v_runp_i (pc := 4) cx (kcq390_X0 cx (c_X0_in l D cA sz0 H0 M x1 ((65536 : Int32))  _ h) ⟨Nat.le_of_ble_eq_true rfl, Nat.le_of_ble_eq_true rfl⟩ (As := [.int x1, .int (65536 : Int32)]) rfl rfl (Nat.le_of_ble_eq_true rfl) dX0_seed_4 ⟨Nat.le_of_ble_eq_true rfl, Nat.le_of_ble_eq_true rfl⟩) (fun a1 hq => ?_)
  replace h := hq
  refine v_if_ne (pc := 7) cx dX0_seed_7 (tgt := 12) rfl (fun c2 => ?_) (fun c2 => ?_)
  · replace h := h.2 c2
    refine v_aload_n (pc := 12) cx dX0_seed_12 rfl 0 rfl ?_
    refine v_iload_n (pc := 13) cx dX0_seed_13 rfl 1 rfl ?_
    refine pq281_X0 (pc := 14) cx dX0_seed_14 (sh.k k_0) ?_
    refine v_wld (fun M3 eM3 => ?_)
    replace h := h M3 eM3
    replace sh : Shp M3 := Shp_PI sh eM3
    refine v_iconst (pc := 17) cx dX0_seed_17 ic_1 ?_
    exact v_zret cx rfl (Or.inr rfl) dX0_seed_18 ⟨Nat.le_of_ble_eq_true rfl, Nat.le_of_ble_eq_true rfl⟩ ⟨h, sh⟩
  · replace h := h.1 c2
    refine v_iconst (pc := 10) cx dX0_seed_10 ic_0 ?_
    exact v_zret cx rfl (Or.inl rfl) dX0_seed_11 ⟨Nat.le_of_ble_eq_true rfl, Nat.le_of_ble_eq_true rfl⟩ ⟨h, sh⟩
/-! LetterHeaps.speak(I)Z -/
def m_X0_speak_j15   (x1 : Int32)   (Q : Int32 → WM → Prop) (M : WM) : Prop := (∀ M1 : WM, M1 = wPI M 0 4 x1 → (∀ M2 : WM, M2 = wPI M1 0 7 (((wI M1 0 7) + (1 : Int32))) → Q ((1 : Int32)) M2))
theorem w_X0_speak_j15 {p : Program} {l : Launch} {e : Env} {s : State} {m : MethodId} {args : Array Value} {below : List Frame} {meth : Method} {c : Code} {D : va_G} {cA : Nat → ClassId} {sz0 : Nat} {H0 : Heap}  {x1 : Int32} {Q : Int32 → WM → Prop}  (cx : Cx p s m args meth c cX0_speak 2 RX0 (some .boolean) D cA sz0 H0)       (M : WM) (sh : Shp M) (h : m_X0_speak_j15 x1 Q M) : V p l e ({ frames := 1, cells := 0, slots := 0, locals := 21 } : Room) s m args below meth c 2 D cA sz0 H0 0 0 (MQ below (QW_i D cA sz0 H0 (fun r M' => Q r M' ∧ Shp M')) args s 0 0 (Aw sz0)) 15 [(0, .ref (sz0 + 0)), (1, .int x1)] [] M := by
  replace h : (∀ M1 : WM, M1 = wPI M 0 4 x1 → (∀ M2 : WM, M2 = wPI M1 0 7 (((wI M1 0 7) + (1 : Int32))) → Q ((1 : Int32)) M2)) := h
  refine v_aload_n (pc := 15) cx dX0_speak_15 rfl 0 rfl ?_
  refine v_iload_n (pc := 16) cx dX0_speak_16 rfl 1 rfl ?_
  refine pq279_X0 (pc := 17) cx dX0_speak_17 (sh.k k_0) ?_
  refine v_wld (fun M1 eM1 => ?_)
  replace h := h M1 eM1
  replace sh : Shp M1 := Shp_PI sh eM1
  refine v_aload_n (pc := 20) cx dX0_speak_20 rfl 0 rfl ?_
  refine v_dup (pc := 21) cx dX0_speak_21 rfl ?_
  refine gq282_X0 (pc := 22) cx dX0_speak_22 (sh.k k_0) ?_
  refine v_iconst (pc := 25) cx dX0_speak_25 ic_1 ?_
  refine v_iadd (pc := 26) cx dX0_speak_26 ?_
  refine pq282_X0 (pc := 27) cx dX0_speak_27 (sh.k k_0) ?_
  refine v_wld (fun M2 eM2 => ?_)
  replace h := h M2 eM2
  replace sh : Shp M2 := Shp_PI sh eM2
  refine v_iconst (pc := 30) cx dX0_speak_30 ic_1 ?_
  exact v_zret cx rfl (Or.inr rfl) dX0_speak_31 ⟨Nat.le_of_ble_eq_true rfl, Nat.le_of_ble_eq_true rfl⟩ ⟨h, sh⟩
def m_X0_speak (x1 : Int32) (M : WM)  (Q : Int32 → WM → Prop) : Prop := ((x1 = ((-1) : Int32) → m_X0_speak_j15 x1 Q M) ∧ (¬ x1 = ((-1) : Int32) → (m_X0_in x1 ((4 : Int32)) (fun (a2 : Int32) => ((a2 = 0 → Q ((0 : Int32)) M) ∧ (¬ a2 = 0 → m_X0_speak_j15 x1 Q M))))))
theorem c_X0_speak (l : Launch) (D : va_G) (cA : Nat → ClassId) (sz0 : Nat) (H0 : Heap) (M : WM) (x1 : Int32)   (Q : Int32 → WM → Prop) (sh : Shp M) (h : m_X0_speak x1 M  Q) : Met l yX0_speak (ws_ yX0_speak cX0_speak 2 (some .boolean)) ({ frames := 1, cells := 0, slots := 0, locals := 21 } : Room) (PcW D cA sz0 H0 [.ref (sz0 + 0), .int x1] M) (QW_i D cA sz0 H0 (fun r M' => Q r M' ∧ Shp M')) 0 0 (Aw sz0) := by
  replace h : ((x1 = ((-1) : Int32) → m_X0_speak_j15 x1 Q M) ∧ (¬ x1 = ((-1) : Int32) → (m_X0_in x1 ((4 : Int32)) (fun (a2 : Int32) => ((a2 = 0 → Q ((0 : Int32)) M) ∧ (¬ a2 = 0 → m_X0_speak_j15 x1 Q M)))))) := h
  refine Met.ofV (by decide +kernel) (Nat.le_of_ble_eq_true rfl) ?_
  intro p e s m args below meth c cx hnm
  replace cx : Cx p s m args meth c cX0_speak 2 RX0 (some .boolean) D cA sz0 H0 := cx
  refine v_sub (lv' := [(0, .ref (sz0 + 0)), (1, .int x1)]) [0, 1] rfl ?_
  refine v_iload_n (pc := 0) cx dX0_speak_0 rfl 1 rfl ?_
  refine v_iconst (pc := 1) cx dX0_speak_1 ic_m1 ?_
  refine v_icmp_eq (pc := 2) cx dX0_speak_2 (tgt := 15) rfl (fun c1 => ?_) (fun c1 => ?_)
  · replace h := h.1 c1
    refine v_sub (lv' := [(0, .ref (sz0 + 0)), (1, .int x1)]) [0, 1] rfl ?_
    exact w_X0_speak_j15 cx M sh h
  · replace h := h.2 c1
    refine v_iload_n (pc := 5) cx dX0_speak_5 rfl 1 rfl ?_
    refine v_iconst (pc := 6) cx dX0_speak_6 ic_4 ?_
    refine v_runp_i (pc := 7) cx (kcq390_X0 cx (c_X0_in l D cA sz0 H0 M x1 ((4 : Int32))  _ h) ⟨Nat.le_of_ble_eq_true rfl, Nat.le_of_ble_eq_true rfl⟩ (As := [.int x1, .int (4 : Int32)]) rfl rfl (Nat.le_of_ble_eq_true rfl) dX0_speak_7 ⟨Nat.le_of_ble_eq_true rfl, Nat.le_of_ble_eq_true rfl⟩) (fun a2 hq => ?_)
    replace h := hq
    refine v_if_ne (pc := 10) cx dX0_speak_10 (tgt := 15) rfl (fun c3 => ?_) (fun c3 => ?_)
    · replace h := h.2 c3
      refine v_sub (lv' := [(0, .ref (sz0 + 0)), (1, .int x1)]) [0, 1] rfl ?_
      exact w_X0_speak_j15 cx M sh h
    · replace h := h.1 c3
      refine v_iconst (pc := 13) cx dX0_speak_13 ic_0 ?_
      exact v_zret cx rfl (Or.inl rfl) dX0_speak_14 ⟨Nat.le_of_ble_eq_true rfl, Nat.le_of_ble_eq_true rfl⟩ ⟨h, sh⟩
/-! LetterHeaps.square(II)I -/
def m_X0_square (x1 : Int32) (x2 : Int32) (M : WM)  (Q : Int32 → WM → Prop) : Prop := (m_X0_within x1 ((2 : Int32)) ((4 : Int32)) (fun (a1 : Int32) => ((a1 = 0 → Q (((-1) : Int32)) M) ∧ (¬ a1 = 0 → (m_X0_within x2 (((-1) : Int32)) ((x1 - (1 : Int32))) (fun (a3 : Int32) => ((a3 = 0 → Q (((-1) : Int32)) M) ∧ (¬ a3 = 0 → (∀ M5 : WM, M5 = wPI M 0 32 ((0 : Int32)) → (∃ d0, d0 ≤ 8 ∧ (m_X0_fills d0 x1 ((0 : Int32)) M5 (fun (M7 : WM) => ((x2 = ((-1) : Int32) → Q ((wI M7 0 32)) M7) ∧ (¬ x2 = ((-1) : Int32) → (((wI M7 0 32) = 0 → Q (((-2) : Int32)) M7) ∧ (¬ (wI M7 0 32) = 0 → (vp_in x2 4 ∧ Q ((wI M7 5323 x2.toNatClampNeg)) M7)))))))))))))))))
theorem c_X0_square (l : Launch) (D : va_G) (cA : Nat → ClassId) (sz0 : Nat) (H0 : Heap) (M : WM) (x1 : Int32) (x2 : Int32)   (Q : Int32 → WM → Prop) (sh : Shp M) (h : m_X0_square x1 x2 M  Q) : Met l yX0_square (ws_ yX0_square cX0_square 3 (some .int)) ({ frames := 13, cells := 0, slots := 0, locals := 434 } : Room) (PcW D cA sz0 H0 [.ref (sz0 + 0), .int x1, .int x2] M) (QW_i D cA sz0 H0 (fun r M' => Q r M' ∧ Shp M')) 0 0 (Aw sz0) := by
  replace h : (m_X0_within x1 ((2 : Int32)) ((4 : Int32)) (fun (a1 : Int32) => ((a1 = 0 → Q (((-1) : Int32)) M) ∧ (¬ a1 = 0 → (m_X0_within x2 (((-1) : Int32)) ((x1 - (1 : Int32))) (fun (a3 : Int32) => ((a3 = 0 → Q (((-1) : Int32)) M) ∧ (¬ a3 = 0 → (∀ M5 : WM, M5 = wPI M 0 32 ((0 : Int32)) → (∃ d0, d0 ≤ 8 ∧ (m_X0_fills d0 x1 ((0 : Int32)) M5 (fun (M7 : WM) => ((x2 = ((-1) : Int32) → Q ((wI M7 0 32)) M7) ∧ (¬ x2 = ((-1) : Int32) → (((wI M7 0 32) = 0 → Q (((-2) : Int32)) M7) ∧ (¬ (wI M7 0 32) = 0 → (vp_in x2 4 ∧ Q ((wI M7 5323 x2.toNatClampNeg)) M7))))))))))))))))) := h
  refine Met.ofV (by decide +kernel) (Nat.le_of_ble_eq_true rfl) ?_
  intro p e s m args below meth c cx hnm
  replace cx : Cx p s m args meth c cX0_square 3 RX0 (some .int) D cA sz0 H0 := cx
  refine v_sub (lv' := [(0, .ref (sz0 + 0)), (1, .int x1), (2, .int x2)]) [0, 1, 2] rfl ?_
  refine v_iload_n (pc := 0) cx dX0_square_0 rfl 1 rfl ?_
  refine v_iconst (pc := 1) cx dX0_square_1 ic_2 ?_
  refine v_iconst (pc := 2) cx dX0_square_2 ic_4 ?_
  refine v_runp_i (pc := 3) cx (kcq387_X0 cx (c_X0_within l D cA sz0 H0 M x1 ((2 : Int32)) ((4 : Int32))  _ h) ⟨Nat.le_of_ble_eq_true rfl, Nat.le_of_ble_eq_true rfl⟩ (As := [.int x1, .int (2 : Int32), .int (4 : Int32)]) rfl rfl (Nat.le_of_ble_eq_true rfl) dX0_square_3 ⟨Nat.le_of_ble_eq_true rfl, Nat.le_of_ble_eq_true rfl⟩) (fun a1 hq => ?_)
  replace h := hq
  refine v_if_eq (pc := 6) cx dX0_square_6 (tgt := 20) rfl (fun c2 => ?_) (fun c2 => ?_)
  · replace h := h.1 c2
    refine v_iconst (pc := 20) cx dX0_square_20 ic_m1 ?_
    exact v_iret cx rfl dX0_square_21 ⟨Nat.le_of_ble_eq_true rfl, Nat.le_of_ble_eq_true rfl⟩ ⟨h, sh⟩
  · replace h := h.2 c2
    refine v_iload_n (pc := 9) cx dX0_square_9 rfl 2 rfl ?_
    refine v_iconst (pc := 10) cx dX0_square_10 ic_m1 ?_
    refine v_iload_n (pc := 11) cx dX0_square_11 rfl 1 rfl ?_
    refine v_iconst (pc := 12) cx dX0_square_12 ic_1 ?_
    refine v_isub (pc := 13) cx dX0_square_13 ?_
    refine v_runp_i (pc := 14) cx (kcq387_X0 cx (c_X0_within l D cA sz0 H0 M x2 (((-1) : Int32)) ((x1 - (1 : Int32)))  _ h) ⟨Nat.le_of_ble_eq_true rfl, Nat.le_of_ble_eq_true rfl⟩ (As := [.int x2, .int ((-1) : Int32), .int (x1 - (1 : Int32))]) rfl rfl (Nat.le_of_ble_eq_true rfl) dX0_square_14 ⟨Nat.le_of_ble_eq_true rfl, Nat.le_of_ble_eq_true rfl⟩) (fun a3 hq => ?_)
    replace h := hq
    refine v_if_ne (pc := 17) cx dX0_square_17 (tgt := 22) rfl (fun c4 => ?_) (fun c4 => ?_)
    · replace h := h.2 c4
      refine v_aload_n (pc := 22) cx dX0_square_22 rfl 0 rfl ?_
      refine v_iconst (pc := 23) cx dX0_square_23 ic_0 ?_
      refine pq307_X0 (pc := 24) cx dX0_square_24 (sh.k k_0) ?_
      refine v_wld (fun M5 eM5 => ?_)
      replace h := h M5 eM5
      replace sh : Shp M5 := Shp_PI sh eM5
      refine v_aload_n (pc := 27) cx dX0_square_27 rfl 0 rfl ?_
      refine v_iload_n (pc := 28) cx dX0_square_28 rfl 1 rfl ?_
      refine v_iconst (pc := 29) cx dX0_square_29 ic_0 ?_
      obtain ⟨d0, hd0, h⟩ := h
      refine v_run_v (pc := 30) cx (kcq966_X0 cx (c_X0_fills l D cA sz0 H0 M5 x1 ((0 : Int32))  d0 _ sh h) ⟨by dsimp only; omega, by dsimp only; omega⟩ (sh.k k_0) (As := [.int x1, .int (0 : Int32)]) rfl rfl (Nat.le_of_ble_eq_true rfl) dX0_square_30 ⟨Nat.le_of_ble_eq_true rfl, Nat.le_of_ble_eq_true rfl⟩) (fun M7 hq => ?_)
      obtain ⟨h, sh⟩ := hq
      refine v_iload_n (pc := 33) cx dX0_square_33 rfl 2 rfl ?_
      refine v_iconst (pc := 34) cx dX0_square_34 ic_m1 ?_
      refine v_icmp_ne (pc := 35) cx dX0_square_35 (tgt := 45) rfl (fun c8 => ?_) (fun c8 => ?_)
      · replace h := h.2 c8
        refine v_aload_n (pc := 45) cx dX0_square_45 rfl 0 rfl ?_
        refine gq307_X0 (pc := 46) cx dX0_square_46 (sh.k k_0) ?_
        refine v_if_ne (pc := 49) cx dX0_square_49 (tgt := 57) rfl (fun c9 => ?_) (fun c9 => ?_)
        · replace h := h.2 c9
          refine v_aload_n (pc := 57) cx dX0_square_57 rfl 0 rfl ?_
          refine gq306_X0 (pc := 58) cx dX0_square_58 (sh.k k_0) (v_some (sh.r r_0_31) ?_)
          refine v_iload_n (pc := 61) cx dX0_square_61 rfl 2 rfl ?_
          obtain ⟨b10, h⟩ := h
          refine v_iald (pc := 62) cx dX0_square_62 (sh.k k_5323) (sh.l k_5323 l_5323) b10 ?_
          exact v_iret cx rfl dX0_square_63 ⟨Nat.le_of_ble_eq_true rfl, Nat.le_of_ble_eq_true rfl⟩ ⟨h, sh⟩
        · replace h := h.1 c9
          refine v_bipush (pc := 52) cx dX0_square_52 bc_m2 ?_
          refine v_goto (pc := 54) cx dX0_square_54 (tgt := 63) rfl ?_
          exact v_iret cx rfl dX0_square_63 ⟨Nat.le_of_ble_eq_true rfl, Nat.le_of_ble_eq_true rfl⟩ ⟨h, sh⟩
      · replace h := h.1 c8
        refine v_aload_n (pc := 38) cx dX0_square_38 rfl 0 rfl ?_
        refine gq307_X0 (pc := 39) cx dX0_square_39 (sh.k k_0) ?_
        refine v_goto (pc := 42) cx dX0_square_42 (tgt := 63) rfl ?_
        exact v_iret cx rfl dX0_square_63 ⟨Nat.le_of_ble_eq_true rfl, Nat.le_of_ble_eq_true rfl⟩ ⟨h, sh⟩
    · replace h := h.1 c4
      refine v_iconst (pc := 20) cx dX0_square_20 ic_m1 ?_
      exact v_iret cx rfl dX0_square_21 ⟨Nat.le_of_ble_eq_true rfl, Nat.le_of_ble_eq_true rfl⟩ ⟨h, sh⟩
/-! LetterHeaps.step(III)I -/
def m_X0_step (x1 : Int32) (x2 : Int32) (x3 : Int32) (M : WM)  (Q : Int32 → WM → Prop) : Prop := (m_X0_areTwo x1 x2 M (fun (a1 : Int32) => ((a1 = 0 → Q (((-1) : Int32)) M) ∧ (¬ a1 = 0 → (m_X0_in x3 ((3 : Int32)) (fun (a3 : Int32) => ((a3 = 0 → Q (((-1) : Int32)) M) ∧ (¬ a3 = 0 → (m_X0_lays  M (fun (M6 : WM) => (m_X0_isStep x1 x2 M6 (fun (a7 : Int32) => ((a7 = 0 → Q (((-2) : Int32)) M6) ∧ (¬ a7 = 0 → ((x3 = 0 → (vp_in x1 40 ∧ (vp_in x2 40 ∧ Q ((wI M6 ((10 + x1.toNatClampNeg)) x2.toNatClampNeg)) M6))) ∧ (¬ x3 = 0 → ((x3 = (1 : Int32) → (vp_in x1 40 ∧ (vp_in x2 40 ∧ Q ((wI M6 ((51 + x1.toNatClampNeg)) x2.toNatClampNeg)) M6))) ∧ (¬ x3 = (1 : Int32) → (vp_in x1 40 ∧ (vp_in x2 40 ∧ Q ((wI M6 ((92 + x1.toNatClampNeg)) x2.toNatClampNeg)) M6))))))))))))))))))))
theorem c_X0_step (l : Launch) (D : va_G) (cA : Nat → ClassId) (sz0 : Nat) (H0 : Heap) (M : WM) (x1 : Int32) (x2 : Int32) (x3 : Int32)   (Q : Int32 → WM → Prop) (sh : Shp M) (h : m_X0_step x1 x2 x3 M  Q) : Met l yX0_step (ws_ yX0_step cX0_step 4 (some .int)) ({ frames := 120, cells := 0, slots := 0, locals := 4632 } : Room) (PcW D cA sz0 H0 [.ref (sz0 + 0), .int x1, .int x2, .int x3] M) (QW_i D cA sz0 H0 (fun r M' => Q r M' ∧ Shp M')) 0 0 (Aw sz0) := by
  replace h : (m_X0_areTwo x1 x2 M (fun (a1 : Int32) => ((a1 = 0 → Q (((-1) : Int32)) M) ∧ (¬ a1 = 0 → (m_X0_in x3 ((3 : Int32)) (fun (a3 : Int32) => ((a3 = 0 → Q (((-1) : Int32)) M) ∧ (¬ a3 = 0 → (m_X0_lays  M (fun (M6 : WM) => (m_X0_isStep x1 x2 M6 (fun (a7 : Int32) => ((a7 = 0 → Q (((-2) : Int32)) M6) ∧ (¬ a7 = 0 → ((x3 = 0 → (vp_in x1 40 ∧ (vp_in x2 40 ∧ Q ((wI M6 ((10 + x1.toNatClampNeg)) x2.toNatClampNeg)) M6))) ∧ (¬ x3 = 0 → ((x3 = (1 : Int32) → (vp_in x1 40 ∧ (vp_in x2 40 ∧ Q ((wI M6 ((51 + x1.toNatClampNeg)) x2.toNatClampNeg)) M6))) ∧ (¬ x3 = (1 : Int32) → (vp_in x1 40 ∧ (vp_in x2 40 ∧ Q ((wI M6 ((92 + x1.toNatClampNeg)) x2.toNatClampNeg)) M6)))))))))))))))))))) := h
  refine Met.ofV (by decide +kernel) (Nat.le_of_ble_eq_true rfl) ?_
  intro p e s m args below meth c cx hnm
  replace cx : Cx p s m args meth c cX0_step 4 RX0 (some .int) D cA sz0 H0 := cx
  refine v_sub (lv' := [(0, .ref (sz0 + 0)), (1, .int x1), (2, .int x2), (3, .int x3)]) [0, 1, 2, 3] rfl ?_
  refine v_aload_n (pc := 0) cx dX0_step_0 rfl 0 rfl ?_
  refine v_iload_n (pc := 1) cx dX0_step_1 rfl 1 rfl ?_
  refine v_iload_n (pc := 2) cx dX0_step_2 rfl 2 rfl ?_
  refine v_runp_i (pc := 3) cx (kcq705_X0 cx (c_X0_areTwo l D cA sz0 H0 M x1 x2  _ sh h) ⟨Nat.le_of_ble_eq_true rfl, Nat.le_of_ble_eq_true rfl⟩ (sh.k k_0) (As := [.int x1, .int x2]) rfl rfl (Nat.le_of_ble_eq_true rfl) dX0_step_3 ⟨Nat.le_of_ble_eq_true rfl, Nat.le_of_ble_eq_true rfl⟩) (fun a1 hq => ?_)
  replace h := hq
  refine v_if_eq (pc := 6) cx dX0_step_6 (tgt := 17) rfl (fun c2 => ?_) (fun c2 => ?_)
  · replace h := h.1 c2
    refine v_iconst (pc := 17) cx dX0_step_17 ic_m1 ?_
    exact v_iret cx rfl dX0_step_18 ⟨Nat.le_of_ble_eq_true rfl, Nat.le_of_ble_eq_true rfl⟩ ⟨h, sh⟩
  · replace h := h.2 c2
    refine v_iload_n (pc := 9) cx dX0_step_9 rfl 3 rfl ?_
    refine v_iconst (pc := 10) cx dX0_step_10 ic_3 ?_
    refine v_runp_i (pc := 11) cx (kcq390_X0 cx (c_X0_in l D cA sz0 H0 M x3 ((3 : Int32))  _ h) ⟨Nat.le_of_ble_eq_true rfl, Nat.le_of_ble_eq_true rfl⟩ (As := [.int x3, .int (3 : Int32)]) rfl rfl (Nat.le_of_ble_eq_true rfl) dX0_step_11 ⟨Nat.le_of_ble_eq_true rfl, Nat.le_of_ble_eq_true rfl⟩) (fun a3 hq => ?_)
    replace h := hq
    refine v_if_ne (pc := 14) cx dX0_step_14 (tgt := 19) rfl (fun c4 => ?_) (fun c4 => ?_)
    · replace h := h.2 c4
      refine v_aload_n (pc := 19) cx dX0_step_19 rfl 0 rfl ?_
      refine v_run_v (pc := 20) cx (kcq709_X0 cx (c_X0_lays l D cA sz0 H0 M   _ sh h) ⟨Nat.le_of_ble_eq_true rfl, Nat.le_of_ble_eq_true rfl⟩ (sh.k k_0) (As := []) rfl rfl (Nat.le_of_ble_eq_true rfl) dX0_step_20 ⟨Nat.le_of_ble_eq_true rfl, Nat.le_of_ble_eq_true rfl⟩) (fun M6 hq => ?_)
      obtain ⟨h, sh⟩ := hq
      refine v_aload_n (pc := 23) cx dX0_step_23 rfl 0 rfl ?_
      refine v_iload_n (pc := 24) cx dX0_step_24 rfl 1 rfl ?_
      refine v_iload_n (pc := 25) cx dX0_step_25 rfl 2 rfl ?_
      refine v_runp_i (pc := 26) cx (kcq808_X0 cx (c_X0_isStep l D cA sz0 H0 M6 x1 x2  _ sh h) ⟨Nat.le_of_ble_eq_true rfl, Nat.le_of_ble_eq_true rfl⟩ (sh.k k_0) (As := [.int x1, .int x2]) rfl rfl (Nat.le_of_ble_eq_true rfl) dX0_step_26 ⟨Nat.le_of_ble_eq_true rfl, Nat.le_of_ble_eq_true rfl⟩) (fun a7 hq => ?_)
      replace h := hq
      refine v_if_ne (pc := 29) cx dX0_step_29 (tgt := 35) rfl (fun c8 => ?_) (fun c8 => ?_)
      · replace h := h.2 c8
        refine v_iload_n (pc := 35) cx dX0_step_35 rfl 3 rfl ?_
        refine v_if_ne (pc := 36) cx dX0_step_36 (tgt := 50) rfl (fun c9 => ?_) (fun c9 => ?_)
        · replace h := h.2 c9
          refine v_iload_n (pc := 50) cx dX0_step_50 rfl 3 rfl ?_
          refine v_iconst (pc := 51) cx dX0_step_51 ic_1 ?_
          refine v_icmp_ne (pc := 52) cx dX0_step_52 (tgt := 66) rfl (fun c10 => ?_) (fun c10 => ?_)
          · replace h := h.2 c10
            refine v_aload_n (pc := 66) cx dX0_step_66 rfl 0 rfl ?_
            refine gq288_X0 (pc := 67) cx dX0_step_67 (sh.k k_0) (v_some (sh.r r_0_13) ?_)
            refine v_iload_n (pc := 70) cx dX0_step_70 rfl 1 rfl ?_
            obtain ⟨b11, h⟩ := h
            refine v_aald104 (pc := 71) cx dX0_step_71 (sh.k k_91) (sh.l k_91 l_91) b11 (v_some (sh.r (f_91 (lt_in b11))) ?_)
            refine v_iload_n (pc := 72) cx dX0_step_72 rfl 2 rfl ?_
            obtain ⟨b12, h⟩ := h
            refine v_iald (pc := 73) cx dX0_step_73 (sh.k (fk_91 (lt_in b11))) (sh.l (fk_91 (lt_in b11)) (fl_91 (lt_in b11))) b12 ?_
            exact v_iret cx rfl dX0_step_74 ⟨Nat.le_of_ble_eq_true rfl, Nat.le_of_ble_eq_true rfl⟩ ⟨h, sh⟩
          · replace h := h.1 c10
            refine v_aload_n (pc := 55) cx dX0_step_55 rfl 0 rfl ?_
            refine gq287_X0 (pc := 56) cx dX0_step_56 (sh.k k_0) (v_some (sh.r r_0_12) ?_)
            refine v_iload_n (pc := 59) cx dX0_step_59 rfl 1 rfl ?_
            obtain ⟨b13, h⟩ := h
            refine v_aald104 (pc := 60) cx dX0_step_60 (sh.k k_50) (sh.l k_50 l_50) b13 (v_some (sh.r (f_50 (lt_in b13))) ?_)
            refine v_iload_n (pc := 61) cx dX0_step_61 rfl 2 rfl ?_
            obtain ⟨b14, h⟩ := h
            refine v_iald (pc := 62) cx dX0_step_62 (sh.k (fk_50 (lt_in b13))) (sh.l (fk_50 (lt_in b13)) (fl_50 (lt_in b13))) b14 ?_
            refine v_goto (pc := 63) cx dX0_step_63 (tgt := 74) rfl ?_
            exact v_iret cx rfl dX0_step_74 ⟨Nat.le_of_ble_eq_true rfl, Nat.le_of_ble_eq_true rfl⟩ ⟨h, sh⟩
        · replace h := h.1 c9
          refine v_aload_n (pc := 39) cx dX0_step_39 rfl 0 rfl ?_
          refine gq286_X0 (pc := 40) cx dX0_step_40 (sh.k k_0) (v_some (sh.r r_0_11) ?_)
          refine v_iload_n (pc := 43) cx dX0_step_43 rfl 1 rfl ?_
          obtain ⟨b15, h⟩ := h
          refine v_aald104 (pc := 44) cx dX0_step_44 (sh.k k_9) (sh.l k_9 l_9) b15 (v_some (sh.r (f_9 (lt_in b15))) ?_)
          refine v_iload_n (pc := 45) cx dX0_step_45 rfl 2 rfl ?_
          obtain ⟨b16, h⟩ := h
          refine v_iald (pc := 46) cx dX0_step_46 (sh.k (fk_9 (lt_in b15))) (sh.l (fk_9 (lt_in b15)) (fl_9 (lt_in b15))) b16 ?_
          refine v_goto (pc := 47) cx dX0_step_47 (tgt := 74) rfl ?_
          exact v_iret cx rfl dX0_step_74 ⟨Nat.le_of_ble_eq_true rfl, Nat.le_of_ble_eq_true rfl⟩ ⟨h, sh⟩
      · replace h := h.1 c8
        refine v_bipush (pc := 32) cx dX0_step_32 bc_m2 ?_
        exact v_iret cx rfl dX0_step_34 ⟨Nat.le_of_ble_eq_true rfl, Nat.le_of_ble_eq_true rfl⟩ ⟨h, sh⟩
    · replace h := h.1 c4
      refine v_iconst (pc := 17) cx dX0_step_17 ic_m1 ?_
      exact v_iret cx rfl dX0_step_18 ⟨Nat.le_of_ble_eq_true rfl, Nat.le_of_ble_eq_true rfl⟩ ⟨h, sh⟩
/-! LetterHeaps.walks(III)J -/
def m_X0_walks_l145  (K76 : Int32 → WM → Prop) (K133 : Int32 → WM → Prop) (x2 : Int32) (x3 : Int32) (x4 : Int32) (x5 : Nat) (x6 : Nat) (x7 : Int32)   (Q : Int64 → WM → Prop) : Nat → Int32 → WM → Prop
  | 0, _, _ => False
  | n + 1, x8, M => (((wI M 0 3) ≤ x8 → (∀ z2 : Int32, z2 = x7 + (1 : Int32) → K133 z2 M)) ∧ (¬ (wI M 0 3) ≤ x8 → (m_X0_isStep x7 x8 M (fun (a3 : Int32) => ((a3 = 0 → (∀ z5 : Int32, z5 = x8 + (1 : Int32) → m_X0_walks_l145 K76 K133 x2 x3 x4 x5 x6 x7 Q n z5 M)) ∧ (¬ a3 = 0 → (vp_in x8 40 ∧ (vp_in x7 40 ∧ (vp_in x8 40 ∧ (∀ M9 : WM, M9 = wPJ M x6 x8.toNatClampNeg (((wJ M x6 x8.toNatClampNeg) + (wJ M x5 x7.toNatClampNeg))) → (∀ z10 : Int32, z10 = x8 + (1 : Int32) → m_X0_walks_l145 K76 K133 x2 x3 x4 x5 x6 x7 Q n z10 M9)))))))))))
theorem w_X0_walks_l145 {p : Program} {l : Launch} {e : Env} {s : State} {m : MethodId} {args : Array Value} {below : List Frame} {meth : Method} {c : Code} {D : va_G} {cA : Nat → ClassId} {sz0 : Nat} {H0 : Heap}  {K76 : Int32 → WM → Prop} {K133 : Int32 → WM → Prop} {x2 : Int32} {x3 : Int32} {x4 : Int32} {x5 : Nat} {x6 : Nat} {x7 : Int32} {Q : Int64 → WM → Prop}  (cx : Cx p s m args meth c cX0_walks 9 RX0 (some .long) D cA sz0 H0)  (hK76 : ∀ (x4 : Int32)  (M : WM) (sh : Shp M), K76 x4 M → V p l e ({ frames := 120, cells := 0, slots := 0, locals := 4632 } : Room) s m args below meth c 9 D cA sz0 H0 0 0 (MQ below (QW_l D cA sz0 H0 (fun r M' => Q r M' ∧ Shp M')) args s 0 0 (Aw sz0)) 76 [(0, .ref (sz0 + 0)), (2, .int x2), (3, .int x3), (4, .int x4)] [] M) (hK133 : ∀ (x7 : Int32)  (M : WM) (sh : Shp M), K133 x7 M → V p l e ({ frames := 120, cells := 0, slots := 0, locals := 4632 } : Room) s m args below meth c 9 D cA sz0 H0 0 0 (MQ below (QW_l D cA sz0 H0 (fun r M' => Q r M' ∧ Shp M')) args s 0 0 (Aw sz0)) 133 [(0, .ref (sz0 + 0)), (2, .int x2), (3, .int x3), (4, .int x4), (5, .ref (sz0 + x5)), (6, .ref (sz0 + x6)), (7, .int x7)] [] M) (hkx5 : shK x5 = some 101) (hlx5 : shL x5 = 40) (hkx6 : shK x6 = some 101) (hlx6 : shL x6 = 40)  : ∀ (n : Nat) (x8 : Int32)  (M : WM) (sh : Shp M), m_X0_walks_l145 K76 K133 x2 x3 x4 x5 x6 x7 Q n x8 M → V p l e ({ frames := 120, cells := 0, slots := 0, locals := 4632 } : Room) s m args below meth c 9 D cA sz0 H0 0 0 (MQ below (QW_l D cA sz0 H0 (fun r M' => Q r M' ∧ Shp M')) args s 0 0 (Aw sz0)) 145 [(0, .ref (sz0 + 0)), (2, .int x2), (3, .int x3), (4, .int x4), (5, .ref (sz0 + x5)), (6, .ref (sz0 + x6)), (7, .int x7), (8, .int x8)] [] M := by
  intro n
  induction n with
  | zero => intro x8 M sh h; exact h.elim
  | succ n ih =>
    intro x8 M sh h
    replace h : (((wI M 0 3) ≤ x8 → (∀ z2 : Int32, z2 = x7 + (1 : Int32) → K133 z2 M)) ∧ (¬ (wI M 0 3) ≤ x8 → (m_X0_isStep x7 x8 M (fun (a3 : Int32) => ((a3 = 0 → (∀ z5 : Int32, z5 = x8 + (1 : Int32) → m_X0_walks_l145 K76 K133 x2 x3 x4 x5 x6 x7 Q n z5 M)) ∧ (¬ a3 = 0 → (vp_in x8 40 ∧ (vp_in x7 40 ∧ (vp_in x8 40 ∧ (∀ M9 : WM, M9 = wPJ M x6 x8.toNatClampNeg (((wJ M x6 x8.toNatClampNeg) + (wJ M x5 x7.toNatClampNeg))) → (∀ z10 : Int32, z10 = x8 + (1 : Int32) → m_X0_walks_l145 K76 K133 x2 x3 x4 x5 x6 x7 Q n z10 M9))))))))))) := h
    refine v_iload (pc := 145) cx dX0_walks_145 7 rfl ?_
    refine v_aload_n (pc := 147) cx dX0_walks_147 rfl 0 rfl ?_
    refine gq278_X0 (pc := 148) cx dX0_walks_148 (sh.k k_0) ?_
    refine v_icmp_ge (pc := 151) cx dX0_walks_151 (tgt := 184) rfl (fun c1 => ?_) (fun c1 => ?_)
    · replace h := h.1 c1
      refine nm_x (x7 + (1 : Int32)) (fun z2 ez2 => ?_)
      replace h := h z2 ez2
      refine v_iinc (pc := 184) cx dX0_walks_184 (q := 6) rfl ((ii_1 _).trans ez2.symm) (Nat.le_of_ble_eq_true rfl) (lv' := [(7, .int z2), (0, .ref (sz0 + 0)), (2, .int x2), (3, .int x3), (4, .int x4), (5, .ref (sz0 + x5)), (6, .ref (sz0 + x6)), (8, .int x8)]) rfl ?_
      refine v_goto (pc := 187) cx dX0_walks_187 (tgt := 133) rfl ?_
      refine v_sub (lv' := [(0, .ref (sz0 + 0)), (2, .int x2), (3, .int x3), (4, .int x4), (5, .ref (sz0 + x5)), (6, .ref (sz0 + x6)), (7, .int z2)]) [1, 2, 3, 4, 5, 6, 0] rfl ?_
      exact hK133 z2 M sh h
    · replace h := h.2 c1
      refine v_aload_n (pc := 154) cx dX0_walks_154 rfl 0 rfl ?_
      refine v_iload (pc := 155) cx dX0_walks_155 6 rfl ?_
      refine v_iload (pc := 157) cx dX0_walks_157 7 rfl ?_
      refine v_runp_i (pc := 159) cx (kcq808_X0 cx (c_X0_isStep l D cA sz0 H0 M x7 x8  _ sh h) ⟨Nat.le_of_ble_eq_true rfl, Nat.le_of_ble_eq_true rfl⟩ (sh.k k_0) (As := [.int x7, .int x8]) rfl rfl (Nat.le_of_ble_eq_true rfl) dX0_walks_159 ⟨Nat.le_of_ble_eq_true rfl, Nat.le_of_ble_eq_true rfl⟩) (fun a3 hq => ?_)
      replace h := hq
      refine v_if_eq (pc := 162) cx dX0_walks_162 (tgt := 178) rfl (fun c4 => ?_) (fun c4 => ?_)
      · replace h := h.1 c4
        refine nm_x (x8 + (1 : Int32)) (fun z5 ez5 => ?_)
        replace h := h z5 ez5
        refine v_iinc (pc := 178) cx dX0_walks_178 (q := 7) rfl ((ii_1 _).trans ez5.symm) (Nat.le_of_ble_eq_true rfl) (lv' := [(8, .int z5), (0, .ref (sz0 + 0)), (2, .int x2), (3, .int x3), (4, .int x4), (5, .ref (sz0 + x5)), (6, .ref (sz0 + x6)), (7, .int x7)]) rfl ?_
        refine v_goto (pc := 181) cx dX0_walks_181 (tgt := 145) rfl ?_
        refine v_sub (lv' := [(0, .ref (sz0 + 0)), (2, .int x2), (3, .int x3), (4, .int x4), (5, .ref (sz0 + x5)), (6, .ref (sz0 + x6)), (7, .int x7), (8, .int z5)]) [1, 2, 3, 4, 5, 6, 7, 0] rfl ?_
        exact ih z5 M sh h
      · replace h := h.2 c4
        refine v_aload (pc := 165) cx dX0_walks_165 5 rfl ?_
        refine v_iload (pc := 167) cx dX0_walks_167 7 rfl ?_
        refine v_dup2 (pc := 169) cx dX0_walks_169 rfl rfl ?_
        obtain ⟨b6, h⟩ := h
        refine v_lald (pc := 170) cx dX0_walks_170 (sh.k hkx6) (sh.l hkx6 hlx6) b6 ?_
        refine v_aload (pc := 171) cx dX0_walks_171 4 rfl ?_
        refine v_iload (pc := 173) cx dX0_walks_173 6 rfl ?_
        obtain ⟨b7, h⟩ := h
        refine v_lald (pc := 175) cx dX0_walks_175 (sh.k hkx5) (sh.l hkx5 hlx5) b7 ?_
        refine v_ladd (pc := 176) cx dX0_walks_176 ?_
        obtain ⟨b8, h⟩ := h
        refine v_last (pc := 177) cx dX0_walks_177 (sh.k hkx6) (sh.l hkx6 hlx6) b8 ?_
        refine v_wld (fun M9 eM9 => ?_)
        replace h := h M9 eM9
        replace sh : Shp M9 := Shp_PJ sh eM9
        refine nm_x (x8 + (1 : Int32)) (fun z10 ez10 => ?_)
        replace h := h z10 ez10
        refine v_iinc (pc := 178) cx dX0_walks_178 (q := 7) rfl ((ii_1 _).trans ez10.symm) (Nat.le_of_ble_eq_true rfl) (lv' := [(8, .int z10), (0, .ref (sz0 + 0)), (2, .int x2), (3, .int x3), (4, .int x4), (5, .ref (sz0 + x5)), (6, .ref (sz0 + x6)), (7, .int x7)]) rfl ?_
        refine v_goto (pc := 181) cx dX0_walks_181 (tgt := 145) rfl ?_
        refine v_sub (lv' := [(0, .ref (sz0 + 0)), (2, .int x2), (3, .int x3), (4, .int x4), (5, .ref (sz0 + x5)), (6, .ref (sz0 + x6)), (7, .int x7), (8, .int z10)]) [1, 2, 3, 4, 5, 6, 7, 0] rfl ?_
        exact ih z10 M9 sh h
def m_X0_walks_l133  (K76 : Int32 → WM → Prop) (x2 : Int32) (x3 : Int32) (x4 : Int32) (x5 : Nat) (x6 : Nat)   (Q : Int64 → WM → Prop) : Nat → Int32 → WM → Prop
  | 0, _, _ => False
  | n + 1, x7, M => (((wI M 0 3) ≤ x7 → (∀ z2 : Int32, z2 = x4 + (1 : Int32) → K76 z2 M)) ∧ (¬ (wI M 0 3) ≤ x7 → (∃ n0, m_X0_walks_l145 K76 (fun x7' M' => m_X0_walks_l133 K76 x2 x3 x4 x5 x6 Q n x7' M') x2 x3 x4 x5 x6 x7 Q n0 ((0 : Int32)) M)))
theorem w_X0_walks_l133 {p : Program} {l : Launch} {e : Env} {s : State} {m : MethodId} {args : Array Value} {below : List Frame} {meth : Method} {c : Code} {D : va_G} {cA : Nat → ClassId} {sz0 : Nat} {H0 : Heap}  {K76 : Int32 → WM → Prop} {x2 : Int32} {x3 : Int32} {x4 : Int32} {x5 : Nat} {x6 : Nat} {Q : Int64 → WM → Prop}  (cx : Cx p s m args meth c cX0_walks 9 RX0 (some .long) D cA sz0 H0)  (hK76 : ∀ (x4 : Int32)  (M : WM) (sh : Shp M), K76 x4 M → V p l e ({ frames := 120, cells := 0, slots := 0, locals := 4632 } : Room) s m args below meth c 9 D cA sz0 H0 0 0 (MQ below (QW_l D cA sz0 H0 (fun r M' => Q r M' ∧ Shp M')) args s 0 0 (Aw sz0)) 76 [(0, .ref (sz0 + 0)), (2, .int x2), (3, .int x3), (4, .int x4)] [] M) (hkx5 : shK x5 = some 101) (hlx5 : shL x5 = 40) (hkx6 : shK x6 = some 101) (hlx6 : shL x6 = 40)  : ∀ (n : Nat) (x7 : Int32)  (M : WM) (sh : Shp M), m_X0_walks_l133 K76 x2 x3 x4 x5 x6 Q n x7 M → V p l e ({ frames := 120, cells := 0, slots := 0, locals := 4632 } : Room) s m args below meth c 9 D cA sz0 H0 0 0 (MQ below (QW_l D cA sz0 H0 (fun r M' => Q r M' ∧ Shp M')) args s 0 0 (Aw sz0)) 133 [(0, .ref (sz0 + 0)), (2, .int x2), (3, .int x3), (4, .int x4), (5, .ref (sz0 + x5)), (6, .ref (sz0 + x6)), (7, .int x7)] [] M := by
  intro n
  induction n with
  | zero => intro x7 M sh h; exact h.elim
  | succ n ih =>
    intro x7 M sh h
    replace h : (((wI M 0 3) ≤ x7 → (∀ z2 : Int32, z2 = x4 + (1 : Int32) → K76 z2 M)) ∧ (¬ (wI M 0 3) ≤ x7 → (∃ n0, m_X0_walks_l145 K76 (fun x7' M' => m_X0_walks_l133 K76 x2 x3 x4 x5 x6 Q n x7' M') x2 x3 x4 x5 x6 x7 Q n0 ((0 : Int32)) M))) := h
    refine v_iload (pc := 133) cx dX0_walks_133 6 rfl ?_
    refine v_aload_n (pc := 135) cx dX0_walks_135 rfl 0 rfl ?_
    refine gq278_X0 (pc := 136) cx dX0_walks_136 (sh.k k_0) ?_
    refine v_icmp_ge (pc := 139) cx dX0_walks_139 (tgt := 190) rfl (fun c1 => ?_) (fun c1 => ?_)
    · replace h := h.1 c1
      refine nm_x (x4 + (1 : Int32)) (fun z2 ez2 => ?_)
      replace h := h z2 ez2
      refine v_iinc (pc := 190) cx dX0_walks_190 (q := 3) rfl ((ii_1 _).trans ez2.symm) (Nat.le_of_ble_eq_true rfl) (lv' := [(4, .int z2), (0, .ref (sz0 + 0)), (2, .int x2), (3, .int x3), (5, .ref (sz0 + x5)), (6, .ref (sz0 + x6)), (7, .int x7)]) rfl ?_
      refine v_goto (pc := 193) cx dX0_walks_193 (tgt := 76) rfl ?_
      refine v_sub (lv' := [(0, .ref (sz0 + 0)), (2, .int x2), (3, .int x3), (4, .int z2)]) [1, 2, 3, 0] rfl ?_
      exact hK76 z2 M sh h
    · replace h := h.2 c1
      refine v_iconst (pc := 142) cx dX0_walks_142 ic_0 ?_
      refine v_istore (pc := 143) cx dX0_walks_143 (Nat.le_of_ble_eq_true rfl) (lv' := [(8, .int (0 : Int32)), (0, .ref (sz0 + 0)), (2, .int x2), (3, .int x3), (4, .int x4), (5, .ref (sz0 + x5)), (6, .ref (sz0 + x6)), (7, .int x7)]) rfl ?_
      refine v_sub (lv' := [(0, .ref (sz0 + 0)), (2, .int x2), (3, .int x3), (4, .int x4), (5, .ref (sz0 + x5)), (6, .ref (sz0 + x6)), (7, .int x7), (8, .int (0 : Int32))]) [1, 2, 3, 4, 5, 6, 7, 0] rfl ?_
      obtain ⟨n0, h⟩ := h
      exact w_X0_walks_l145 cx hK76 ih hkx5 hlx5 hkx6 hlx6 n0 ((0 : Int32)) M sh h
def m_X0_walks_l109  (K76 : Int32 → WM → Prop) (x2 : Int32) (x3 : Int32) (x4 : Int32) (x5 : Nat) (x6 : Nat)   (Q : Int64 → WM → Prop) : Nat → Int32 → WM → Prop
  | 0, _, _ => False
  | n + 1, x7, M => (((wI M 0 3) ≤ x7 → (∃ n0, m_X0_walks_l133 K76 x2 x3 x4 x5 x6 Q n0 ((0 : Int32)) M)) ∧ (¬ (wI M 0 3) ≤ x7 → (vp_in x7 40 ∧ (∀ M3 : WM, M3 = wPJ M x6 x7.toNatClampNeg ((0 : Int64)) → (∀ z4 : Int32, z4 = x7 + (1 : Int32) → m_X0_walks_l109 K76 x2 x3 x4 x5 x6 Q n z4 M3)))))
theorem w_X0_walks_l109 {p : Program} {l : Launch} {e : Env} {s : State} {m : MethodId} {args : Array Value} {below : List Frame} {meth : Method} {c : Code} {D : va_G} {cA : Nat → ClassId} {sz0 : Nat} {H0 : Heap}  {K76 : Int32 → WM → Prop} {x2 : Int32} {x3 : Int32} {x4 : Int32} {x5 : Nat} {x6 : Nat} {Q : Int64 → WM → Prop}  (cx : Cx p s m args meth c cX0_walks 9 RX0 (some .long) D cA sz0 H0)  (hK76 : ∀ (x4 : Int32)  (M : WM) (sh : Shp M), K76 x4 M → V p l e ({ frames := 120, cells := 0, slots := 0, locals := 4632 } : Room) s m args below meth c 9 D cA sz0 H0 0 0 (MQ below (QW_l D cA sz0 H0 (fun r M' => Q r M' ∧ Shp M')) args s 0 0 (Aw sz0)) 76 [(0, .ref (sz0 + 0)), (2, .int x2), (3, .int x3), (4, .int x4)] [] M) (hkx5 : shK x5 = some 101) (hlx5 : shL x5 = 40) (hkx6 : shK x6 = some 101) (hlx6 : shL x6 = 40)  : ∀ (n : Nat) (x7 : Int32)  (M : WM) (sh : Shp M), m_X0_walks_l109 K76 x2 x3 x4 x5 x6 Q n x7 M → V p l e ({ frames := 120, cells := 0, slots := 0, locals := 4632 } : Room) s m args below meth c 9 D cA sz0 H0 0 0 (MQ below (QW_l D cA sz0 H0 (fun r M' => Q r M' ∧ Shp M')) args s 0 0 (Aw sz0)) 109 [(0, .ref (sz0 + 0)), (2, .int x2), (3, .int x3), (4, .int x4), (5, .ref (sz0 + x5)), (6, .ref (sz0 + x6)), (7, .int x7)] [] M := by
  intro n
  induction n with
  | zero => intro x7 M sh h; exact h.elim
  | succ n ih =>
    intro x7 M sh h
    replace h : (((wI M 0 3) ≤ x7 → (∃ n0, m_X0_walks_l133 K76 x2 x3 x4 x5 x6 Q n0 ((0 : Int32)) M)) ∧ (¬ (wI M 0 3) ≤ x7 → (vp_in x7 40 ∧ (∀ M3 : WM, M3 = wPJ M x6 x7.toNatClampNeg ((0 : Int64)) → (∀ z4 : Int32, z4 = x7 + (1 : Int32) → m_X0_walks_l109 K76 x2 x3 x4 x5 x6 Q n z4 M3))))) := h
    refine v_iload (pc := 109) cx dX0_walks_109 6 rfl ?_
    refine v_aload_n (pc := 111) cx dX0_walks_111 rfl 0 rfl ?_
    refine gq278_X0 (pc := 112) cx dX0_walks_112 (sh.k k_0) ?_
    refine v_icmp_ge (pc := 115) cx dX0_walks_115 (tgt := 130) rfl (fun c1 => ?_) (fun c1 => ?_)
    · replace h := h.1 c1
      refine v_iconst (pc := 130) cx dX0_walks_130 ic_0 ?_
      refine v_istore (pc := 131) cx dX0_walks_131 (Nat.le_of_ble_eq_true rfl) (lv' := [(7, .int (0 : Int32)), (0, .ref (sz0 + 0)), (2, .int x2), (3, .int x3), (4, .int x4), (5, .ref (sz0 + x5)), (6, .ref (sz0 + x6))]) rfl ?_
      refine v_sub (lv' := [(0, .ref (sz0 + 0)), (2, .int x2), (3, .int x3), (4, .int x4), (5, .ref (sz0 + x5)), (6, .ref (sz0 + x6)), (7, .int (0 : Int32))]) [1, 2, 3, 4, 5, 6, 0] rfl ?_
      obtain ⟨n0, h⟩ := h
      exact w_X0_walks_l133 cx hK76 hkx5 hlx5 hkx6 hlx6 n0 ((0 : Int32)) M sh h
    · replace h := h.2 c1
      refine v_aload (pc := 118) cx dX0_walks_118 5 rfl ?_
      refine v_iload (pc := 120) cx dX0_walks_120 6 rfl ?_
      refine v_lconst (pc := 122) cx dX0_walks_122 lc_0 ?_
      obtain ⟨b2, h⟩ := h
      refine v_last (pc := 123) cx dX0_walks_123 (sh.k hkx6) (sh.l hkx6 hlx6) b2 ?_
      refine v_wld (fun M3 eM3 => ?_)
      replace h := h M3 eM3
      replace sh : Shp M3 := Shp_PJ sh eM3
      refine nm_x (x7 + (1 : Int32)) (fun z4 ez4 => ?_)
      replace h := h z4 ez4
      refine v_iinc (pc := 124) cx dX0_walks_124 (q := 6) rfl ((ii_1 _).trans ez4.symm) (Nat.le_of_ble_eq_true rfl) (lv' := [(7, .int z4), (0, .ref (sz0 + 0)), (2, .int x2), (3, .int x3), (4, .int x4), (5, .ref (sz0 + x5)), (6, .ref (sz0 + x6))]) rfl ?_
      refine v_goto (pc := 127) cx dX0_walks_127 (tgt := 109) rfl ?_
      refine v_sub (lv' := [(0, .ref (sz0 + 0)), (2, .int x2), (3, .int x3), (4, .int x4), (5, .ref (sz0 + x5)), (6, .ref (sz0 + x6)), (7, .int z4)]) [1, 2, 3, 4, 5, 6, 0] rfl ?_
      exact ih z4 M3 sh h
def m_X0_walks_l76   (x2 : Int32) (x3 : Int32)   (Q : Int64 → WM → Prop) : Nat → Int32 → WM → Prop
  | 0, _, _ => False
  | n + 1, x4, M => ((x3 ≤ x4 → (m_X0_isUsed x2 M (fun (a2 : Int32) => ((a2 = 0 → Q ((0 : Int64)) M) ∧ (¬ a2 = 0 → (vp_in ((x3 - x3 / (2 : Int32) * (2 : Int32))) 2 ∧ (vp_in x2 40 ∧ Q ((wJ M ((182 + ((x3 - x3 / (2 : Int32) * (2 : Int32))).toNatClampNeg)) x2.toNatClampNeg)) M))))))) ∧ (¬ x3 ≤ x4 → (vp_in ((x4 - x4 / (2 : Int32) * (2 : Int32))) 2 ∧ (vp_in (((1 : Int32) - (x4 - x4 / (2 : Int32) * (2 : Int32)))) 2 ∧ (∃ n0, m_X0_walks_l109 (fun x4' M' => m_X0_walks_l76 x2 x3 Q n x4' M') x2 x3 x4 ((182 + ((x4 - x4 / (2 : Int32) * (2 : Int32))).toNatClampNeg)) ((182 + (((1 : Int32) - (x4 - x4 / (2 : Int32) * (2 : Int32)))).toNatClampNeg)) Q n0 ((0 : Int32)) M)))))
theorem w_X0_walks_l76 {p : Program} {l : Launch} {e : Env} {s : State} {m : MethodId} {args : Array Value} {below : List Frame} {meth : Method} {c : Code} {D : va_G} {cA : Nat → ClassId} {sz0 : Nat} {H0 : Heap}  {x2 : Int32} {x3 : Int32} {Q : Int64 → WM → Prop}  (cx : Cx p s m args meth c cX0_walks 9 RX0 (some .long) D cA sz0 H0)     : ∀ (n : Nat) (x4 : Int32)  (M : WM) (sh : Shp M), m_X0_walks_l76 x2 x3 Q n x4 M → V p l e ({ frames := 120, cells := 0, slots := 0, locals := 4632 } : Room) s m args below meth c 9 D cA sz0 H0 0 0 (MQ below (QW_l D cA sz0 H0 (fun r M' => Q r M' ∧ Shp M')) args s 0 0 (Aw sz0)) 76 [(0, .ref (sz0 + 0)), (2, .int x2), (3, .int x3), (4, .int x4)] [] M := by
  intro n
  induction n with
  | zero => intro x4 M sh h; exact h.elim
  | succ n ih =>
    intro x4 M sh h
    replace h : ((x3 ≤ x4 → (m_X0_isUsed x2 M (fun (a2 : Int32) => ((a2 = 0 → Q ((0 : Int64)) M) ∧ (¬ a2 = 0 → (vp_in ((x3 - x3 / (2 : Int32) * (2 : Int32))) 2 ∧ (vp_in x2 40 ∧ Q ((wJ M ((182 + ((x3 - x3 / (2 : Int32) * (2 : Int32))).toNatClampNeg)) x2.toNatClampNeg)) M))))))) ∧ (¬ x3 ≤ x4 → (vp_in ((x4 - x4 / (2 : Int32) * (2 : Int32))) 2 ∧ (vp_in (((1 : Int32) - (x4 - x4 / (2 : Int32) * (2 : Int32)))) 2 ∧ (∃ n0, m_X0_walks_l109 (fun x4' M' => m_X0_walks_l76 x2 x3 Q n x4' M') x2 x3 x4 ((182 + ((x4 - x4 / (2 : Int32) * (2 : Int32))).toNatClampNeg)) ((182 + (((1 : Int32) - (x4 - x4 / (2 : Int32) * (2 : Int32)))).toNatClampNeg)) Q n0 ((0 : Int32)) M))))) := h
    refine v_iload (pc := 76) cx dX0_walks_76 3 rfl ?_
    refine v_iload_n (pc := 78) cx dX0_walks_78 rfl 2 rfl ?_
    refine v_icmp_ge (pc := 79) cx dX0_walks_79 (tgt := 196) rfl (fun c1 => ?_) (fun c1 => ?_)
    · replace h := h.1 c1
      refine v_aload_n (pc := 196) cx dX0_walks_196 rfl 0 rfl ?_
      refine v_iload_n (pc := 197) cx dX0_walks_197 rfl 1 rfl ?_
      refine v_runp_i (pc := 198) cx (kcq718_X0 cx (c_X0_isUsed l D cA sz0 H0 M x2  _ sh h) ⟨Nat.le_of_ble_eq_true rfl, Nat.le_of_ble_eq_true rfl⟩ (sh.k k_0) (As := [.int x2]) rfl rfl (Nat.le_of_ble_eq_true rfl) dX0_walks_198 ⟨Nat.le_of_ble_eq_true rfl, Nat.le_of_ble_eq_true rfl⟩) (fun a2 hq => ?_)
      replace h := hq
      refine v_if_eq (pc := 201) cx dX0_walks_201 (tgt := 217) rfl (fun c3 => ?_) (fun c3 => ?_)
      · replace h := h.1 c3
        refine v_lconst (pc := 217) cx dX0_walks_217 lc_0 ?_
        exact v_lret cx rfl dX0_walks_218 ⟨Nat.le_of_ble_eq_true rfl, Nat.le_of_ble_eq_true rfl⟩ ⟨h, sh⟩
      · replace h := h.2 c3
        refine v_aload_n (pc := 204) cx dX0_walks_204 rfl 0 rfl ?_
        refine gq298_X0 (pc := 205) cx dX0_walks_205 (sh.k k_0) (v_some (sh.r r_0_23) ?_)
        refine v_iload_n (pc := 208) cx dX0_walks_208 rfl 2 rfl ?_
        refine v_iconst (pc := 209) cx dX0_walks_209 ic_2 ?_
        refine v_irem (pc := 210) cx dX0_walks_210 (by decide) ?_
        obtain ⟨b4, h⟩ := h
        refine v_aald105 (pc := 211) cx dX0_walks_211 (sh.k k_181) (sh.l k_181 l_181) b4 (v_some (sh.r (f_181 (lt_in b4))) ?_)
        refine v_iload_n (pc := 212) cx dX0_walks_212 rfl 1 rfl ?_
        obtain ⟨b5, h⟩ := h
        refine v_lald (pc := 213) cx dX0_walks_213 (sh.k (fk_181 (lt_in b4))) (sh.l (fk_181 (lt_in b4)) (fl_181 (lt_in b4))) b5 ?_
        refine v_goto (pc := 214) cx dX0_walks_214 (tgt := 218) rfl ?_
        exact v_lret cx rfl dX0_walks_218 ⟨Nat.le_of_ble_eq_true rfl, Nat.le_of_ble_eq_true rfl⟩ ⟨h, sh⟩
    · replace h := h.2 c1
      refine v_aload_n (pc := 82) cx dX0_walks_82 rfl 0 rfl ?_
      refine gq298_X0 (pc := 83) cx dX0_walks_83 (sh.k k_0) (v_some (sh.r r_0_23) ?_)
      refine v_iload (pc := 86) cx dX0_walks_86 3 rfl ?_
      refine v_iconst (pc := 88) cx dX0_walks_88 ic_2 ?_
      refine v_irem (pc := 89) cx dX0_walks_89 (by decide) ?_
      obtain ⟨b6, h⟩ := h
      refine v_aald105 (pc := 90) cx dX0_walks_90 (sh.k k_181) (sh.l k_181 l_181) b6 (v_some (sh.r (f_181 (lt_in b6))) ?_)
      refine v_astore (pc := 91) cx dX0_walks_91 (Nat.le_of_ble_eq_true rfl) (lv' := [(5, .ref (sz0 + (182 + ((x4 - x4 / (2 : Int32) * (2 : Int32))).toNatClampNeg))), (0, .ref (sz0 + 0)), (2, .int x2), (3, .int x3), (4, .int x4)]) rfl ?_
      refine v_aload_n (pc := 93) cx dX0_walks_93 rfl 1 rfl ?_
      refine gq298_X0 (pc := 94) cx dX0_walks_94 (sh.k k_0) (v_some (sh.r r_0_23) ?_)
      refine v_iconst (pc := 97) cx dX0_walks_97 ic_1 ?_
      refine v_iload (pc := 98) cx dX0_walks_98 4 rfl ?_
      refine v_iconst (pc := 100) cx dX0_walks_100 ic_2 ?_
      refine v_irem (pc := 101) cx dX0_walks_101 (by decide) ?_
      refine v_isub (pc := 102) cx dX0_walks_102 ?_
      obtain ⟨b7, h⟩ := h
      refine v_aald105 (pc := 103) cx dX0_walks_103 (sh.k k_181) (sh.l k_181 l_181) b7 (v_some (sh.r (f_181 (lt_in b7))) ?_)
      refine v_astore (pc := 104) cx dX0_walks_104 (Nat.le_of_ble_eq_true rfl) (lv' := [(6, .ref (sz0 + (182 + (((1 : Int32) - (x4 - x4 / (2 : Int32) * (2 : Int32)))).toNatClampNeg))), (5, .ref (sz0 + (182 + ((x4 - x4 / (2 : Int32) * (2 : Int32))).toNatClampNeg))), (0, .ref (sz0 + 0)), (2, .int x2), (3, .int x3), (4, .int x4)]) rfl ?_
      refine v_iconst (pc := 106) cx dX0_walks_106 ic_0 ?_
      refine v_istore (pc := 107) cx dX0_walks_107 (Nat.le_of_ble_eq_true rfl) (lv' := [(7, .int (0 : Int32)), (6, .ref (sz0 + (182 + (((1 : Int32) - (x4 - x4 / (2 : Int32) * (2 : Int32)))).toNatClampNeg))), (5, .ref (sz0 + (182 + ((x4 - x4 / (2 : Int32) * (2 : Int32))).toNatClampNeg))), (0, .ref (sz0 + 0)), (2, .int x2), (3, .int x3), (4, .int x4)]) rfl ?_
      refine v_sub (lv' := [(0, .ref (sz0 + 0)), (2, .int x2), (3, .int x3), (4, .int x4), (5, .ref (sz0 + (182 + ((x4 - x4 / (2 : Int32) * (2 : Int32))).toNatClampNeg))), (6, .ref (sz0 + (182 + (((1 : Int32) - (x4 - x4 / (2 : Int32) * (2 : Int32)))).toNatClampNeg))), (7, .int (0 : Int32))]) [3, 4, 5, 6, 2, 1, 0] rfl ?_
      obtain ⟨n0, h⟩ := h
      exact w_X0_walks_l109 cx ih ((fk_181 (lt_in b6))) ((fl_181 (lt_in b6))) ((fk_181 (lt_in b7))) ((fl_181 (lt_in b7))) n0 ((0 : Int32)) M sh h
def m_X0_walks_l30   (x1 : Int32) (x2 : Int32) (x3 : Int32)   (Q : Int64 → WM → Prop) : Nat → Int32 → WM → Prop
  | 0, _, _ => False
  | n + 1, x4, M => (((wI M 0 3) ≤ x4 → (∃ n0, m_X0_walks_l76 x2 x3 Q n0 ((0 : Int32)) M)) ∧ (¬ (wI M 0 3) ≤ x4 → (vp_in ((0 : Int32)) 2 ∧ ((x4 = x1 → (m_X0_isUsed x1 M (fun (a7 : Int32) => ((a7 = 0 → (vp_in x4 40 ∧ (∀ M10 : WM, M10 = wPJ M ((182 + ((0 : Int32)).toNatClampNeg)) x4.toNatClampNeg ((0 : Int64)) → (∀ z11 : Int32, z11 = x4 + (1 : Int32) → m_X0_walks_l30 x1 x2 x3 Q n z11 M10)))) ∧ (¬ a7 = 0 → (vp_in x4 40 ∧ (∀ M13 : WM, M13 = wPJ M ((182 + ((0 : Int32)).toNatClampNeg)) x4.toNatClampNeg ((1 : Int64)) → (∀ z14 : Int32, z14 = x4 + (1 : Int32) → m_X0_walks_l30 x1 x2 x3 Q n z14 M13)))))))) ∧ (¬ x4 = x1 → (vp_in x4 40 ∧ (∀ M5 : WM, M5 = wPJ M ((182 + ((0 : Int32)).toNatClampNeg)) x4.toNatClampNeg ((0 : Int64)) → (∀ z6 : Int32, z6 = x4 + (1 : Int32) → m_X0_walks_l30 x1 x2 x3 Q n z6 M5))))))))
theorem w_X0_walks_l30 {p : Program} {l : Launch} {e : Env} {s : State} {m : MethodId} {args : Array Value} {below : List Frame} {meth : Method} {c : Code} {D : va_G} {cA : Nat → ClassId} {sz0 : Nat} {H0 : Heap}  {x1 : Int32} {x2 : Int32} {x3 : Int32} {Q : Int64 → WM → Prop}  (cx : Cx p s m args meth c cX0_walks 9 RX0 (some .long) D cA sz0 H0)     : ∀ (n : Nat) (x4 : Int32)  (M : WM) (sh : Shp M), m_X0_walks_l30 x1 x2 x3 Q n x4 M → V p l e ({ frames := 120, cells := 0, slots := 0, locals := 4632 } : Room) s m args below meth c 9 D cA sz0 H0 0 0 (MQ below (QW_l D cA sz0 H0 (fun r M' => Q r M' ∧ Shp M')) args s 0 0 (Aw sz0)) 30 [(0, .ref (sz0 + 0)), (1, .int x1), (2, .int x2), (3, .int x3), (4, .int x4)] [] M := by
  intro n
  induction n with
  | zero => intro x4 M sh h; exact h.elim
  | succ n ih =>
    intro x4 M sh h
    replace h : (((wI M 0 3) ≤ x4 → (∃ n0, m_X0_walks_l76 x2 x3 Q n0 ((0 : Int32)) M)) ∧ (¬ (wI M 0 3) ≤ x4 → (vp_in ((0 : Int32)) 2 ∧ ((x4 = x1 → (m_X0_isUsed x1 M (fun (a7 : Int32) => ((a7 = 0 → (vp_in x4 40 ∧ (∀ M10 : WM, M10 = wPJ M ((182 + ((0 : Int32)).toNatClampNeg)) x4.toNatClampNeg ((0 : Int64)) → (∀ z11 : Int32, z11 = x4 + (1 : Int32) → m_X0_walks_l30 x1 x2 x3 Q n z11 M10)))) ∧ (¬ a7 = 0 → (vp_in x4 40 ∧ (∀ M13 : WM, M13 = wPJ M ((182 + ((0 : Int32)).toNatClampNeg)) x4.toNatClampNeg ((1 : Int64)) → (∀ z14 : Int32, z14 = x4 + (1 : Int32) → m_X0_walks_l30 x1 x2 x3 Q n z14 M13)))))))) ∧ (¬ x4 = x1 → (vp_in x4 40 ∧ (∀ M5 : WM, M5 = wPJ M ((182 + ((0 : Int32)).toNatClampNeg)) x4.toNatClampNeg ((0 : Int64)) → (∀ z6 : Int32, z6 = x4 + (1 : Int32) → m_X0_walks_l30 x1 x2 x3 Q n z6 M5)))))))) := h
    refine v_iload (pc := 30) cx dX0_walks_30 4 rfl ?_
    refine v_aload_n (pc := 32) cx dX0_walks_32 rfl 0 rfl ?_
    refine gq278_X0 (pc := 33) cx dX0_walks_33 (sh.k k_0) ?_
    refine v_icmp_ge (pc := 36) cx dX0_walks_36 (tgt := 73) rfl (fun c1 => ?_) (fun c1 => ?_)
    · replace h := h.1 c1
      refine v_iconst (pc := 73) cx dX0_walks_73 ic_0 ?_
      refine v_istore (pc := 74) cx dX0_walks_74 (Nat.le_of_ble_eq_true rfl) (lv' := [(4, .int (0 : Int32)), (0, .ref (sz0 + 0)), (1, .int x1), (2, .int x2), (3, .int x3)]) rfl ?_
      refine v_sub (lv' := [(0, .ref (sz0 + 0)), (2, .int x2), (3, .int x3), (4, .int (0 : Int32))]) [1, 3, 4, 0] rfl ?_
      obtain ⟨n0, h⟩ := h
      exact w_X0_walks_l76 cx n0 ((0 : Int32)) M sh h
    · replace h := h.2 c1
      refine v_aload_n (pc := 39) cx dX0_walks_39 rfl 0 rfl ?_
      refine gq298_X0 (pc := 40) cx dX0_walks_40 (sh.k k_0) (v_some (sh.r r_0_23) ?_)
      refine v_iconst (pc := 43) cx dX0_walks_43 ic_0 ?_
      obtain ⟨b2, h⟩ := h
      refine v_aald105 (pc := 44) cx dX0_walks_44 (sh.k k_181) (sh.l k_181 l_181) b2 (v_some (sh.r (f_181 (lt_in b2))) ?_)
      refine v_iload (pc := 45) cx dX0_walks_45 4 rfl ?_
      refine v_iload (pc := 47) cx dX0_walks_47 4 rfl ?_
      refine v_iload_n (pc := 49) cx dX0_walks_49 rfl 1 rfl ?_
      refine v_icmp_ne (pc := 50) cx dX0_walks_50 (tgt := 65) rfl (fun c3 => ?_) (fun c3 => ?_)
      · replace h := h.2 c3
        refine v_lconst (pc := 65) cx dX0_walks_65 lc_0 ?_
        obtain ⟨b4, h⟩ := h
        refine v_last (pc := 66) cx dX0_walks_66 (sh.k (fk_181 (lt_in b2))) (sh.l (fk_181 (lt_in b2)) (fl_181 (lt_in b2))) b4 ?_
        refine v_wld (fun M5 eM5 => ?_)
        replace h := h M5 eM5
        replace sh : Shp M5 := Shp_PJ sh eM5
        refine nm_x (x4 + (1 : Int32)) (fun z6 ez6 => ?_)
        replace h := h z6 ez6
        refine v_iinc (pc := 67) cx dX0_walks_67 (q := 4) rfl ((ii_1 _).trans ez6.symm) (Nat.le_of_ble_eq_true rfl) (lv' := [(4, .int z6), (0, .ref (sz0 + 0)), (1, .int x1), (2, .int x2), (3, .int x3)]) rfl ?_
        refine v_goto (pc := 70) cx dX0_walks_70 (tgt := 30) rfl ?_
        refine v_sub (lv' := [(0, .ref (sz0 + 0)), (1, .int x1), (2, .int x2), (3, .int x3), (4, .int z6)]) [1, 2, 3, 4, 0] rfl ?_
        exact ih z6 M5 sh h
      · replace h := h.1 c3
        refine v_aload_n (pc := 53) cx dX0_walks_53 rfl 0 rfl ?_
        refine v_iload_n (pc := 54) cx dX0_walks_54 rfl 1 rfl ?_
        refine v_runp_i (pc := 55) cx (kcq718_X0 cx (c_X0_isUsed l D cA sz0 H0 M x1  _ sh h) ⟨Nat.le_of_ble_eq_true rfl, Nat.le_of_ble_eq_true rfl⟩ (sh.k k_0) (As := [.int x1]) rfl rfl (Nat.le_of_ble_eq_true rfl) dX0_walks_55 ⟨Nat.le_of_ble_eq_true rfl, Nat.le_of_ble_eq_true rfl⟩) (fun a7 hq => ?_)
        replace h := hq
        refine v_if_eq (pc := 58) cx dX0_walks_58 (tgt := 65) rfl (fun c8 => ?_) (fun c8 => ?_)
        · replace h := h.1 c8
          refine v_lconst (pc := 65) cx dX0_walks_65 lc_0 ?_
          obtain ⟨b9, h⟩ := h
          refine v_last (pc := 66) cx dX0_walks_66 (sh.k (fk_181 (lt_in b2))) (sh.l (fk_181 (lt_in b2)) (fl_181 (lt_in b2))) b9 ?_
          refine v_wld (fun M10 eM10 => ?_)
          replace h := h M10 eM10
          replace sh : Shp M10 := Shp_PJ sh eM10
          refine nm_x (x4 + (1 : Int32)) (fun z11 ez11 => ?_)
          replace h := h z11 ez11
          refine v_iinc (pc := 67) cx dX0_walks_67 (q := 4) rfl ((ii_1 _).trans ez11.symm) (Nat.le_of_ble_eq_true rfl) (lv' := [(4, .int z11), (0, .ref (sz0 + 0)), (1, .int x1), (2, .int x2), (3, .int x3)]) rfl ?_
          refine v_goto (pc := 70) cx dX0_walks_70 (tgt := 30) rfl ?_
          refine v_sub (lv' := [(0, .ref (sz0 + 0)), (1, .int x1), (2, .int x2), (3, .int x3), (4, .int z11)]) [1, 2, 3, 4, 0] rfl ?_
          exact ih z11 M10 sh h
        · replace h := h.2 c8
          refine v_lconst (pc := 61) cx dX0_walks_61 lc_1 ?_
          refine v_goto (pc := 62) cx dX0_walks_62 (tgt := 66) rfl ?_
          obtain ⟨b12, h⟩ := h
          refine v_last (pc := 66) cx dX0_walks_66 (sh.k (fk_181 (lt_in b2))) (sh.l (fk_181 (lt_in b2)) (fl_181 (lt_in b2))) b12 ?_
          refine v_wld (fun M13 eM13 => ?_)
          replace h := h M13 eM13
          replace sh : Shp M13 := Shp_PJ sh eM13
          refine nm_x (x4 + (1 : Int32)) (fun z14 ez14 => ?_)
          replace h := h z14 ez14
          refine v_iinc (pc := 67) cx dX0_walks_67 (q := 4) rfl ((ii_1 _).trans ez14.symm) (Nat.le_of_ble_eq_true rfl) (lv' := [(4, .int z14), (0, .ref (sz0 + 0)), (1, .int x1), (2, .int x2), (3, .int x3)]) rfl ?_
          refine v_goto (pc := 70) cx dX0_walks_70 (tgt := 30) rfl ?_
          refine v_sub (lv' := [(0, .ref (sz0 + 0)), (1, .int x1), (2, .int x2), (3, .int x3), (4, .int z14)]) [1, 2, 3, 4, 0] rfl ?_
          exact ih z14 M13 sh h
def m_X0_walks (x1 : Int32) (x2 : Int32) (x3 : Int32) (M : WM)  (Q : Int64 → WM → Prop) : Prop := (m_X0_areTwo x1 x2 M (fun (a1 : Int32) => ((a1 = 0 → Q (((-1) : Int64)) M) ∧ (¬ a1 = 0 → (m_X0_within x3 ((0 : Int32)) ((10 : Int32)) (fun (a3 : Int32) => ((a3 = 0 → Q (((-1) : Int64)) M) ∧ (¬ a3 = 0 → (m_X0_lays  M (fun (M6 : WM) => (∃ n0, m_X0_walks_l30 x1 x2 x3 Q n0 ((0 : Int32)) M6)))))))))))
theorem c_X0_walks (l : Launch) (D : va_G) (cA : Nat → ClassId) (sz0 : Nat) (H0 : Heap) (M : WM) (x1 : Int32) (x2 : Int32) (x3 : Int32)   (Q : Int64 → WM → Prop) (sh : Shp M) (h : m_X0_walks x1 x2 x3 M  Q) : Met l yX0_walks (ws_ yX0_walks cX0_walks 9 (some .long)) ({ frames := 120, cells := 0, slots := 0, locals := 4632 } : Room) (PcW D cA sz0 H0 [.ref (sz0 + 0), .int x1, .int x2, .int x3] M) (QW_l D cA sz0 H0 (fun r M' => Q r M' ∧ Shp M')) 0 0 (Aw sz0) := by
  replace h : (m_X0_areTwo x1 x2 M (fun (a1 : Int32) => ((a1 = 0 → Q (((-1) : Int64)) M) ∧ (¬ a1 = 0 → (m_X0_within x3 ((0 : Int32)) ((10 : Int32)) (fun (a3 : Int32) => ((a3 = 0 → Q (((-1) : Int64)) M) ∧ (¬ a3 = 0 → (m_X0_lays  M (fun (M6 : WM) => (∃ n0, m_X0_walks_l30 x1 x2 x3 Q n0 ((0 : Int32)) M6))))))))))) := h
  refine Met.ofV (by decide +kernel) (Nat.le_of_ble_eq_true rfl) ?_
  intro p e s m args below meth c cx hnm
  replace cx : Cx p s m args meth c cX0_walks 9 RX0 (some .long) D cA sz0 H0 := cx
  refine v_sub (lv' := [(0, .ref (sz0 + 0)), (1, .int x1), (2, .int x2), (3, .int x3)]) [0, 1, 2, 3] rfl ?_
  refine v_aload_n (pc := 0) cx dX0_walks_0 rfl 0 rfl ?_
  refine v_iload_n (pc := 1) cx dX0_walks_1 rfl 1 rfl ?_
  refine v_iload_n (pc := 2) cx dX0_walks_2 rfl 2 rfl ?_
  refine v_runp_i (pc := 3) cx (kcq705_X0 cx (c_X0_areTwo l D cA sz0 H0 M x1 x2  _ sh h) ⟨Nat.le_of_ble_eq_true rfl, Nat.le_of_ble_eq_true rfl⟩ (sh.k k_0) (As := [.int x1, .int x2]) rfl rfl (Nat.le_of_ble_eq_true rfl) dX0_walks_3 ⟨Nat.le_of_ble_eq_true rfl, Nat.le_of_ble_eq_true rfl⟩) (fun a1 hq => ?_)
  replace h := hq
  refine v_if_eq (pc := 6) cx dX0_walks_6 (tgt := 19) rfl (fun c2 => ?_) (fun c2 => ?_)
  · replace h := h.1 c2
    refine v_ldc2 (pc := 19) cx dX0_walks_19 q828 ?_
    exact v_lret cx rfl dX0_walks_22 ⟨Nat.le_of_ble_eq_true rfl, Nat.le_of_ble_eq_true rfl⟩ ⟨h, sh⟩
  · replace h := h.2 c2
    refine v_iload_n (pc := 9) cx dX0_walks_9 rfl 3 rfl ?_
    refine v_iconst (pc := 10) cx dX0_walks_10 ic_0 ?_
    refine v_bipush (pc := 11) cx dX0_walks_11 bc_10 ?_
    refine v_runp_i (pc := 13) cx (kcq387_X0 cx (c_X0_within l D cA sz0 H0 M x3 ((0 : Int32)) ((10 : Int32))  _ h) ⟨Nat.le_of_ble_eq_true rfl, Nat.le_of_ble_eq_true rfl⟩ (As := [.int x3, .int (0 : Int32), .int (10 : Int32)]) rfl rfl (Nat.le_of_ble_eq_true rfl) dX0_walks_13 ⟨Nat.le_of_ble_eq_true rfl, Nat.le_of_ble_eq_true rfl⟩) (fun a3 hq => ?_)
    replace h := hq
    refine v_if_ne (pc := 16) cx dX0_walks_16 (tgt := 23) rfl (fun c4 => ?_) (fun c4 => ?_)
    · replace h := h.2 c4
      refine v_aload_n (pc := 23) cx dX0_walks_23 rfl 0 rfl ?_
      refine v_run_v (pc := 24) cx (kcq709_X0 cx (c_X0_lays l D cA sz0 H0 M   _ sh h) ⟨Nat.le_of_ble_eq_true rfl, Nat.le_of_ble_eq_true rfl⟩ (sh.k k_0) (As := []) rfl rfl (Nat.le_of_ble_eq_true rfl) dX0_walks_24 ⟨Nat.le_of_ble_eq_true rfl, Nat.le_of_ble_eq_true rfl⟩) (fun M6 hq => ?_)
      obtain ⟨h, sh⟩ := hq
      refine v_iconst (pc := 27) cx dX0_walks_27 ic_0 ?_
      refine v_istore (pc := 28) cx dX0_walks_28 (Nat.le_of_ble_eq_true rfl) (lv' := [(4, .int (0 : Int32)), (0, .ref (sz0 + 0)), (1, .int x1), (2, .int x2), (3, .int x3)]) rfl ?_
      refine v_sub (lv' := [(0, .ref (sz0 + 0)), (1, .int x1), (2, .int x2), (3, .int x3), (4, .int (0 : Int32))]) [1, 2, 3, 4, 0] rfl ?_
      obtain ⟨n0, h⟩ := h
      exact w_X0_walks_l30 cx n0 ((0 : Int32)) M6 sh h
    · replace h := h.1 c4
      refine v_ldc2 (pc := 19) cx dX0_walks_19 q828 ?_
      exact v_lret cx rfl dX0_walks_22 ⟨Nat.le_of_ble_eq_true rfl, Nat.le_of_ble_eq_true rfl⟩ ⟨h, sh⟩
/-! LetterHeaps.without(II)J -/
def m_X0_without_l39   (x1 : Int32) (x2 : Int32)   (Q : Int64 → WM → Prop) : Nat → Int64 → Int32 → WM → Prop
  | 0, _, _, _ => False
  | n + 1, x3, x5, M => (((wI M 0 3) ≤ x5 → Q x3 M) ∧ (¬ (wI M 0 3) ≤ x5 → ((x5 = x1 → (∀ z3 : Int32, z3 = x5 + (1 : Int32) → m_X0_without_l39 x1 x2 Q n x3 z3 M)) ∧ (¬ x5 = x1 → ((x5 = x2 → (∀ z5 : Int32, z5 = x5 + (1 : Int32) → m_X0_without_l39 x1 x2 Q n x3 z5 M)) ∧ (¬ x5 = x2 → (m_X0_isUsed x5 M (fun (a6 : Int32) => ((a6 = 0 → (∀ z8 : Int32, z8 = x5 + (1 : Int32) → m_X0_without_l39 x1 x2 Q n x3 z8 M)) ∧ (¬ a6 = 0 → (m_X0_reachWithout x1 x5 M (fun (a9 : Int64) => (m_X0_has a9 x2 (fun (a10 : Int32) => ((a10 = 0 → (∀ z13 : Int64, z13 = (x3 ||| ((1 : Int64) <<< (x5.toInt64 &&& 63))) → (∀ z14 : Int32, z14 = x5 + (1 : Int32) → m_X0_without_l39 x1 x2 Q n z13 z14 M))) ∧ (¬ a10 = 0 → (∀ z12 : Int32, z12 = x5 + (1 : Int32) → m_X0_without_l39 x1 x2 Q n x3 z12 M)))))))))))))))))
theorem w_X0_without_l39 {p : Program} {l : Launch} {e : Env} {s : State} {m : MethodId} {args : Array Value} {below : List Frame} {meth : Method} {c : Code} {D : va_G} {cA : Nat → ClassId} {sz0 : Nat} {H0 : Heap}  {x1 : Int32} {x2 : Int32} {Q : Int64 → WM → Prop}  (cx : Cx p s m args meth c cX0_without 6 RX0 (some .long) D cA sz0 H0)     : ∀ (n : Nat) (x3 : Int64) (x5 : Int32)  (M : WM) (sh : Shp M), m_X0_without_l39 x1 x2 Q n x3 x5 M → V p l e ({ frames := 120, cells := 0, slots := 0, locals := 4632 } : Room) s m args below meth c 6 D cA sz0 H0 0 0 (MQ below (QW_l D cA sz0 H0 (fun r M' => Q r M' ∧ Shp M')) args s 0 0 (Aw sz0)) 39 [(0, .ref (sz0 + 0)), (1, .int x1), (2, .int x2), (3, .long x3), (5, .int x5)] [] M := by
  intro n
  induction n with
  | zero => intro x3 x5 M sh h; exact h.elim
  | succ n ih =>
    intro x3 x5 M sh h
    replace h : (((wI M 0 3) ≤ x5 → Q x3 M) ∧ (¬ (wI M 0 3) ≤ x5 → ((x5 = x1 → (∀ z3 : Int32, z3 = x5 + (1 : Int32) → m_X0_without_l39 x1 x2 Q n x3 z3 M)) ∧ (¬ x5 = x1 → ((x5 = x2 → (∀ z5 : Int32, z5 = x5 + (1 : Int32) → m_X0_without_l39 x1 x2 Q n x3 z5 M)) ∧ (¬ x5 = x2 → (m_X0_isUsed x5 M (fun (a6 : Int32) => ((a6 = 0 → (∀ z8 : Int32, z8 = x5 + (1 : Int32) → m_X0_without_l39 x1 x2 Q n x3 z8 M)) ∧ (¬ a6 = 0 → (m_X0_reachWithout x1 x5 M (fun (a9 : Int64) => (m_X0_has a9 x2 (fun (a10 : Int32) => ((a10 = 0 → (∀ z13 : Int64, z13 = (x3 ||| ((1 : Int64) <<< (x5.toInt64 &&& 63))) → (∀ z14 : Int32, z14 = x5 + (1 : Int32) → m_X0_without_l39 x1 x2 Q n z13 z14 M))) ∧ (¬ a10 = 0 → (∀ z12 : Int32, z12 = x5 + (1 : Int32) → m_X0_without_l39 x1 x2 Q n x3 z12 M))))))))))))))))) := h
    refine v_iload (pc := 39) cx dX0_without_39 4 rfl ?_
    refine v_aload_n (pc := 41) cx dX0_without_41 rfl 0 rfl ?_
    refine gq278_X0 (pc := 42) cx dX0_without_42 (sh.k k_0) ?_
    refine v_icmp_ge (pc := 45) cx dX0_without_45 (tgt := 96) rfl (fun c1 => ?_) (fun c1 => ?_)
    · replace h := h.1 c1
      refine v_lload_n (pc := 96) cx dX0_without_96 rfl 3 rfl ?_
      exact v_lret cx rfl dX0_without_97 ⟨Nat.le_of_ble_eq_true rfl, Nat.le_of_ble_eq_true rfl⟩ ⟨h, sh⟩
    · replace h := h.2 c1
      refine v_iload (pc := 48) cx dX0_without_48 4 rfl ?_
      refine v_iload_n (pc := 50) cx dX0_without_50 rfl 1 rfl ?_
      refine v_icmp_eq (pc := 51) cx dX0_without_51 (tgt := 90) rfl (fun c2 => ?_) (fun c2 => ?_)
      · replace h := h.1 c2
        refine nm_x (x5 + (1 : Int32)) (fun z3 ez3 => ?_)
        replace h := h z3 ez3
        refine v_iinc (pc := 90) cx dX0_without_90 (q := 4) rfl ((ii_1 _).trans ez3.symm) (Nat.le_of_ble_eq_true rfl) (lv' := [(5, .int z3), (0, .ref (sz0 + 0)), (1, .int x1), (2, .int x2), (3, .long x3)]) rfl ?_
        refine v_goto (pc := 93) cx dX0_without_93 (tgt := 39) rfl ?_
        refine v_sub (lv' := [(0, .ref (sz0 + 0)), (1, .int x1), (2, .int x2), (3, .long x3), (5, .int z3)]) [1, 2, 3, 4, 0] rfl ?_
        exact ih x3 z3 M sh h
      · replace h := h.2 c2
        refine v_iload (pc := 54) cx dX0_without_54 4 rfl ?_
        refine v_iload_n (pc := 56) cx dX0_without_56 rfl 2 rfl ?_
        refine v_icmp_eq (pc := 57) cx dX0_without_57 (tgt := 90) rfl (fun c4 => ?_) (fun c4 => ?_)
        · replace h := h.1 c4
          refine nm_x (x5 + (1 : Int32)) (fun z5 ez5 => ?_)
          replace h := h z5 ez5
          refine v_iinc (pc := 90) cx dX0_without_90 (q := 4) rfl ((ii_1 _).trans ez5.symm) (Nat.le_of_ble_eq_true rfl) (lv' := [(5, .int z5), (0, .ref (sz0 + 0)), (1, .int x1), (2, .int x2), (3, .long x3)]) rfl ?_
          refine v_goto (pc := 93) cx dX0_without_93 (tgt := 39) rfl ?_
          refine v_sub (lv' := [(0, .ref (sz0 + 0)), (1, .int x1), (2, .int x2), (3, .long x3), (5, .int z5)]) [1, 2, 3, 4, 0] rfl ?_
          exact ih x3 z5 M sh h
        · replace h := h.2 c4
          refine v_aload_n (pc := 60) cx dX0_without_60 rfl 0 rfl ?_
          refine v_iload (pc := 61) cx dX0_without_61 4 rfl ?_
          refine v_runp_i (pc := 63) cx (kcq718_X0 cx (c_X0_isUsed l D cA sz0 H0 M x5  _ sh h) ⟨Nat.le_of_ble_eq_true rfl, Nat.le_of_ble_eq_true rfl⟩ (sh.k k_0) (As := [.int x5]) rfl rfl (Nat.le_of_ble_eq_true rfl) dX0_without_63 ⟨Nat.le_of_ble_eq_true rfl, Nat.le_of_ble_eq_true rfl⟩) (fun a6 hq => ?_)
          replace h := hq
          refine v_if_eq (pc := 66) cx dX0_without_66 (tgt := 90) rfl (fun c7 => ?_) (fun c7 => ?_)
          · replace h := h.1 c7
            refine nm_x (x5 + (1 : Int32)) (fun z8 ez8 => ?_)
            replace h := h z8 ez8
            refine v_iinc (pc := 90) cx dX0_without_90 (q := 4) rfl ((ii_1 _).trans ez8.symm) (Nat.le_of_ble_eq_true rfl) (lv' := [(5, .int z8), (0, .ref (sz0 + 0)), (1, .int x1), (2, .int x2), (3, .long x3)]) rfl ?_
            refine v_goto (pc := 93) cx dX0_without_93 (tgt := 39) rfl ?_
            refine v_sub (lv' := [(0, .ref (sz0 + 0)), (1, .int x1), (2, .int x2), (3, .long x3), (5, .int z8)]) [1, 2, 3, 4, 0] rfl ?_
            exact ih x3 z8 M sh h
          · replace h := h.2 c7
            refine v_aload_n (pc := 69) cx dX0_without_69 rfl 0 rfl ?_
            refine v_iload_n (pc := 70) cx dX0_without_70 rfl 1 rfl ?_
            refine v_iload (pc := 71) cx dX0_without_71 4 rfl ?_
            refine v_runp_l (pc := 73) cx (kcq838_X0 cx (c_X0_reachWithout l D cA sz0 H0 M x1 x5  _ sh h) ⟨Nat.le_of_ble_eq_true rfl, Nat.le_of_ble_eq_true rfl⟩ (sh.k k_0) (As := [.int x1, .int x5]) rfl rfl (Nat.le_of_ble_eq_true rfl) dX0_without_73 ⟨Nat.le_of_ble_eq_true rfl, Nat.le_of_ble_eq_true rfl⟩) (fun a9 hq => ?_)
            replace h := hq
            refine v_iload_n (pc := 76) cx dX0_without_76 rfl 2 rfl ?_
            refine v_runp_i (pc := 77) cx (kcq722_X0 cx (c_X0_has l D cA sz0 H0 M a9 x2  _ h) ⟨Nat.le_of_ble_eq_true rfl, Nat.le_of_ble_eq_true rfl⟩ (As := [.long a9, .int x2]) rfl rfl (Nat.le_of_ble_eq_true rfl) dX0_without_77 ⟨Nat.le_of_ble_eq_true rfl, Nat.le_of_ble_eq_true rfl⟩) (fun a10 hq => ?_)
            replace h := hq
            refine v_if_ne (pc := 80) cx dX0_without_80 (tgt := 90) rfl (fun c11 => ?_) (fun c11 => ?_)
            · replace h := h.2 c11
              refine nm_x (x5 + (1 : Int32)) (fun z12 ez12 => ?_)
              replace h := h z12 ez12
              refine v_iinc (pc := 90) cx dX0_without_90 (q := 4) rfl ((ii_1 _).trans ez12.symm) (Nat.le_of_ble_eq_true rfl) (lv' := [(5, .int z12), (0, .ref (sz0 + 0)), (1, .int x1), (2, .int x2), (3, .long x3)]) rfl ?_
              refine v_goto (pc := 93) cx dX0_without_93 (tgt := 39) rfl ?_
              refine v_sub (lv' := [(0, .ref (sz0 + 0)), (1, .int x1), (2, .int x2), (3, .long x3), (5, .int z12)]) [1, 2, 3, 4, 0] rfl ?_
              exact ih x3 z12 M sh h
            · replace h := h.1 c11
              refine v_lload_n (pc := 83) cx dX0_without_83 rfl 3 rfl ?_
              refine v_lconst (pc := 84) cx dX0_without_84 lc_1 ?_
              refine v_iload (pc := 85) cx dX0_without_85 4 rfl ?_
              refine v_lshl (pc := 87) cx dX0_without_87 ?_
              refine v_lor (pc := 88) cx dX0_without_88 ?_
              refine v_topl (fun z13 ez13 => ?_)
              replace h := h z13 ez13
              refine v_lstore_n (pc := 89) cx dX0_without_89 rfl (Nat.le_of_ble_eq_true rfl) (lv' := [(3, .long z13), (0, .ref (sz0 + 0)), (1, .int x1), (2, .int x2), (5, .int x5)]) rfl ?_
              refine nm_x (x5 + (1 : Int32)) (fun z14 ez14 => ?_)
              replace h := h z14 ez14
              refine v_iinc (pc := 90) cx dX0_without_90 (q := 4) rfl ((ii_1 _).trans ez14.symm) (Nat.le_of_ble_eq_true rfl) (lv' := [(5, .int z14), (3, .long z13), (0, .ref (sz0 + 0)), (1, .int x1), (2, .int x2)]) rfl ?_
              refine v_goto (pc := 93) cx dX0_without_93 (tgt := 39) rfl ?_
              refine v_sub (lv' := [(0, .ref (sz0 + 0)), (1, .int x1), (2, .int x2), (3, .long z13), (5, .int z14)]) [2, 3, 4, 1, 0] rfl ?_
              exact ih z13 z14 M sh h
def m_X0_without (x1 : Int32) (x2 : Int32) (M : WM)  (Q : Int64 → WM → Prop) : Prop := (m_X0_areTwo x1 x2 M (fun (a1 : Int32) => ((a1 = 0 → Q (((-1) : Int64)) M) ∧ (¬ a1 = 0 → (m_X0_lays  M (fun (M4 : WM) => (vp_in x1 40 ∧ (vp_in x2 40 ∧ (((wI M4 ((133 + x1.toNatClampNeg)) x2.toNatClampNeg) = (268435456 : Int32) → Q (((-2) : Int64)) M4) ∧ (¬ (wI M4 ((133 + x1.toNatClampNeg)) x2.toNatClampNeg) = (268435456 : Int32) → (∃ n0, m_X0_without_l39 x1 x2 Q n0 ((0 : Int64)) ((0 : Int32)) M4)))))))))))
theorem c_X0_without (l : Launch) (D : va_G) (cA : Nat → ClassId) (sz0 : Nat) (H0 : Heap) (M : WM) (x1 : Int32) (x2 : Int32)   (Q : Int64 → WM → Prop) (sh : Shp M) (h : m_X0_without x1 x2 M  Q) : Met l yX0_without (ws_ yX0_without cX0_without 6 (some .long)) ({ frames := 120, cells := 0, slots := 0, locals := 4632 } : Room) (PcW D cA sz0 H0 [.ref (sz0 + 0), .int x1, .int x2] M) (QW_l D cA sz0 H0 (fun r M' => Q r M' ∧ Shp M')) 0 0 (Aw sz0) := by
  replace h : (m_X0_areTwo x1 x2 M (fun (a1 : Int32) => ((a1 = 0 → Q (((-1) : Int64)) M) ∧ (¬ a1 = 0 → (m_X0_lays  M (fun (M4 : WM) => (vp_in x1 40 ∧ (vp_in x2 40 ∧ (((wI M4 ((133 + x1.toNatClampNeg)) x2.toNatClampNeg) = (268435456 : Int32) → Q (((-2) : Int64)) M4) ∧ (¬ (wI M4 ((133 + x1.toNatClampNeg)) x2.toNatClampNeg) = (268435456 : Int32) → (∃ n0, m_X0_without_l39 x1 x2 Q n0 ((0 : Int64)) ((0 : Int32)) M4))))))))))) := h
  refine Met.ofV (by decide +kernel) (Nat.le_of_ble_eq_true rfl) ?_
  intro p e s m args below meth c cx hnm
  replace cx : Cx p s m args meth c cX0_without 6 RX0 (some .long) D cA sz0 H0 := cx
  refine v_sub (lv' := [(0, .ref (sz0 + 0)), (1, .int x1), (2, .int x2)]) [0, 1, 2] rfl ?_
  refine v_aload_n (pc := 0) cx dX0_without_0 rfl 0 rfl ?_
  refine v_iload_n (pc := 1) cx dX0_without_1 rfl 1 rfl ?_
  refine v_iload_n (pc := 2) cx dX0_without_2 rfl 2 rfl ?_
  refine v_runp_i (pc := 3) cx (kcq705_X0 cx (c_X0_areTwo l D cA sz0 H0 M x1 x2  _ sh h) ⟨Nat.le_of_ble_eq_true rfl, Nat.le_of_ble_eq_true rfl⟩ (sh.k k_0) (As := [.int x1, .int x2]) rfl rfl (Nat.le_of_ble_eq_true rfl) dX0_without_3 ⟨Nat.le_of_ble_eq_true rfl, Nat.le_of_ble_eq_true rfl⟩) (fun a1 hq => ?_)
  replace h := hq
  refine v_if_ne (pc := 6) cx dX0_without_6 (tgt := 13) rfl (fun c2 => ?_) (fun c2 => ?_)
  · replace h := h.2 c2
    refine v_aload_n (pc := 13) cx dX0_without_13 rfl 0 rfl ?_
    refine v_run_v (pc := 14) cx (kcq709_X0 cx (c_X0_lays l D cA sz0 H0 M   _ sh h) ⟨Nat.le_of_ble_eq_true rfl, Nat.le_of_ble_eq_true rfl⟩ (sh.k k_0) (As := []) rfl rfl (Nat.le_of_ble_eq_true rfl) dX0_without_14 ⟨Nat.le_of_ble_eq_true rfl, Nat.le_of_ble_eq_true rfl⟩) (fun M4 hq => ?_)
    obtain ⟨h, sh⟩ := hq
    refine v_aload_n (pc := 17) cx dX0_without_17 rfl 0 rfl ?_
    refine gq289_X0 (pc := 18) cx dX0_without_18 (sh.k k_0) (v_some (sh.r r_0_14) ?_)
    refine v_iload_n (pc := 21) cx dX0_without_21 rfl 1 rfl ?_
    obtain ⟨b5, h⟩ := h
    refine v_aald104 (pc := 22) cx dX0_without_22 (sh.k k_132) (sh.l k_132 l_132) b5 (v_some (sh.r (f_132 (lt_in b5))) ?_)
    refine v_iload_n (pc := 23) cx dX0_without_23 rfl 2 rfl ?_
    obtain ⟨b6, h⟩ := h
    refine v_iald (pc := 24) cx dX0_without_24 (sh.k (fk_132 (lt_in b5))) (sh.l (fk_132 (lt_in b5)) (fl_132 (lt_in b5))) b6 ?_
    refine v_ldc (pc := 25) cx dX0_without_25 q717 ?_
    refine v_icmp_ne (pc := 27) cx dX0_without_27 (tgt := 34) rfl (fun c7 => ?_) (fun c7 => ?_)
    · replace h := h.2 c7
      refine v_lconst (pc := 34) cx dX0_without_34 lc_0 ?_
      refine v_lstore_n (pc := 35) cx dX0_without_35 rfl (Nat.le_of_ble_eq_true rfl) (lv' := [(3, .long (0 : Int64)), (0, .ref (sz0 + 0)), (1, .int x1), (2, .int x2)]) rfl ?_
      refine v_iconst (pc := 36) cx dX0_without_36 ic_0 ?_
      refine v_istore (pc := 37) cx dX0_without_37 (Nat.le_of_ble_eq_true rfl) (lv' := [(5, .int (0 : Int32)), (3, .long (0 : Int64)), (0, .ref (sz0 + 0)), (1, .int x1), (2, .int x2)]) rfl ?_
      refine v_sub (lv' := [(0, .ref (sz0 + 0)), (1, .int x1), (2, .int x2), (3, .long (0 : Int64)), (5, .int (0 : Int32))]) [2, 3, 4, 1, 0] rfl ?_
      obtain ⟨n0, h⟩ := h
      exact w_X0_without_l39 cx n0 ((0 : Int64)) ((0 : Int32)) M4 sh h
    · replace h := h.1 c7
      refine v_ldc2 (pc := 30) cx dX0_without_30 q837 ?_
      exact v_lret cx rfl dX0_without_33 ⟨Nat.le_of_ble_eq_true rfl, Nat.le_of_ble_eq_true rfl⟩ ⟨h, sh⟩
  · replace h := h.1 c2
    refine v_ldc2 (pc := 9) cx dX0_without_9 q828 ?_
    exact v_lret cx rfl dX0_without_12 ⟨Nat.le_of_ble_eq_true rfl, Nat.le_of_ble_eq_true rfl⟩ ⟨h, sh⟩
/-! LetterHeaps.word(III)I -/
def m_X0_word (x1 : Int32) (x2 : Int32) (x3 : Int32) (M : WM)  (Q : Int32 → WM → Prop) : Prop := (m_X0_within x1 ((1 : Int32)) ((8 : Int32)) (fun (a1 : Int32) => ((a1 = 0 → Q (((-1) : Int32)) M) ∧ (¬ a1 = 0 → (m_X0_in x2 ((100 : Int32)) (fun (a3 : Int32) => ((a3 = 0 → Q (((-1) : Int32)) M) ∧ (¬ a3 = 0 → (m_X0_within x3 ((1 : Int32)) ((15 : Int32)) (fun (a5 : Int32) => ((a5 = 0 → Q (((-1) : Int32)) M) ∧ (¬ a5 = 0 → (((wI M 0 3) = (40 : Int32) → Q (((-1) : Int32)) M) ∧ (¬ (wI M 0 3) = (40 : Int32) → ((x1 ≤ (wI M 0 5) → (∀ M9 : WM, M9 = wPI M 0 5 ((0 : Int32)) → (m_X0_readsLine 7 x1 M9 (fun (a10 : Int32) (M11 : WM) => ((a10 = 0 → Q (((-2) : Int32)) M11) ∧ (¬ a10 = 0 → (m_X0_wordOf 7 M11 (fun (a13 : Int32) => ((a13 = ((-1) : Int32) → (vp_in ((wI M11 0 3)) 40 ∧ (m_X2_takes ((5325 + 3 * ((wI M11 0 3)).toNatClampNeg)) 7 M11 (fun (M17 : WM) => (∀ M18 : WM, M18 = wPI M17 ((5324 + 3 * ((wI M11 0 3)).toNatClampNeg)) 1 x2 → (∀ M19 : WM, M19 = wPI M18 ((5324 + 3 * ((wI M11 0 3)).toNatClampNeg)) 2 x3 → (∀ M20 : WM, M20 = wPI M19 ((5324 + 3 * ((wI M11 0 3)).toNatClampNeg)) 3 ((0 : Int32)) → (∀ M21 : WM, M21 = wPI M20 0 3 (((wI M20 0 3) + (1 : Int32))) → (∀ M22 : WM, M22 = wPI M21 0 7 (((wI M21 0 7) + (1 : Int32))) → Q (((wI M22 0 3) - (1 : Int32))) M22))))))))) ∧ (¬ a13 = ((-1) : Int32) → Q (((-2) : Int32)) M11)))))))))) ∧ (¬ x1 ≤ (wI M 0 5) → Q (((-1) : Int32)) M))))))))))))))))
theorem c_X0_word (l : Launch) (D : va_G) (cA : Nat → ClassId) (sz0 : Nat) (H0 : Heap) (M : WM) (x1 : Int32) (x2 : Int32) (x3 : Int32)   (Q : Int32 → WM → Prop) (sh : Shp M) (h : m_X0_word x1 x2 x3 M  Q) : Met l yX0_word (ws_ yX0_word cX0_word 5 (some .int)) ({ frames := 2, cells := 0, slots := 0, locals := 44 } : Room) (PcW D cA sz0 H0 [.ref (sz0 + 0), .int x1, .int x2, .int x3] M) (QW_i D cA sz0 H0 (fun r M' => Q r M' ∧ Shp M')) 0 0 (Aw sz0) := by
  replace h : (m_X0_within x1 ((1 : Int32)) ((8 : Int32)) (fun (a1 : Int32) => ((a1 = 0 → Q (((-1) : Int32)) M) ∧ (¬ a1 = 0 → (m_X0_in x2 ((100 : Int32)) (fun (a3 : Int32) => ((a3 = 0 → Q (((-1) : Int32)) M) ∧ (¬ a3 = 0 → (m_X0_within x3 ((1 : Int32)) ((15 : Int32)) (fun (a5 : Int32) => ((a5 = 0 → Q (((-1) : Int32)) M) ∧ (¬ a5 = 0 → (((wI M 0 3) = (40 : Int32) → Q (((-1) : Int32)) M) ∧ (¬ (wI M 0 3) = (40 : Int32) → ((x1 ≤ (wI M 0 5) → (∀ M9 : WM, M9 = wPI M 0 5 ((0 : Int32)) → (m_X0_readsLine 7 x1 M9 (fun (a10 : Int32) (M11 : WM) => ((a10 = 0 → Q (((-2) : Int32)) M11) ∧ (¬ a10 = 0 → (m_X0_wordOf 7 M11 (fun (a13 : Int32) => ((a13 = ((-1) : Int32) → (vp_in ((wI M11 0 3)) 40 ∧ (m_X2_takes ((5325 + 3 * ((wI M11 0 3)).toNatClampNeg)) 7 M11 (fun (M17 : WM) => (∀ M18 : WM, M18 = wPI M17 ((5324 + 3 * ((wI M11 0 3)).toNatClampNeg)) 1 x2 → (∀ M19 : WM, M19 = wPI M18 ((5324 + 3 * ((wI M11 0 3)).toNatClampNeg)) 2 x3 → (∀ M20 : WM, M20 = wPI M19 ((5324 + 3 * ((wI M11 0 3)).toNatClampNeg)) 3 ((0 : Int32)) → (∀ M21 : WM, M21 = wPI M20 0 3 (((wI M20 0 3) + (1 : Int32))) → (∀ M22 : WM, M22 = wPI M21 0 7 (((wI M21 0 7) + (1 : Int32))) → Q (((wI M22 0 3) - (1 : Int32))) M22))))))))) ∧ (¬ a13 = ((-1) : Int32) → Q (((-2) : Int32)) M11)))))))))) ∧ (¬ x1 ≤ (wI M 0 5) → Q (((-1) : Int32)) M)))))))))))))))) := h
  refine Met.ofV (by decide +kernel) (Nat.le_of_ble_eq_true rfl) ?_
  intro p e s m args below meth c cx hnm
  replace cx : Cx p s m args meth c cX0_word 5 RX0 (some .int) D cA sz0 H0 := cx
  refine v_sub (lv' := [(0, .ref (sz0 + 0)), (1, .int x1), (2, .int x2), (3, .int x3)]) [0, 1, 2, 3] rfl ?_
  refine v_iload_n (pc := 0) cx dX0_word_0 rfl 1 rfl ?_
  refine v_iconst (pc := 1) cx dX0_word_1 ic_1 ?_
  refine v_bipush (pc := 2) cx dX0_word_2 bc_8 ?_
  refine v_runp_i (pc := 4) cx (kcq387_X0 cx (c_X0_within l D cA sz0 H0 M x1 ((1 : Int32)) ((8 : Int32))  _ h) ⟨Nat.le_of_ble_eq_true rfl, Nat.le_of_ble_eq_true rfl⟩ (As := [.int x1, .int (1 : Int32), .int (8 : Int32)]) rfl rfl (Nat.le_of_ble_eq_true rfl) dX0_word_4 ⟨Nat.le_of_ble_eq_true rfl, Nat.le_of_ble_eq_true rfl⟩) (fun a1 hq => ?_)
  replace h := hq
  refine v_if_eq (pc := 7) cx dX0_word_7 (tgt := 46) rfl (fun c2 => ?_) (fun c2 => ?_)
  · replace h := h.1 c2
    refine v_iconst (pc := 46) cx dX0_word_46 ic_m1 ?_
    exact v_iret cx rfl dX0_word_47 ⟨Nat.le_of_ble_eq_true rfl, Nat.le_of_ble_eq_true rfl⟩ ⟨h, sh⟩
  · replace h := h.2 c2
    refine v_iload_n (pc := 10) cx dX0_word_10 rfl 2 rfl ?_
    refine v_bipush (pc := 11) cx dX0_word_11 bc_100 ?_
    refine v_runp_i (pc := 13) cx (kcq390_X0 cx (c_X0_in l D cA sz0 H0 M x2 ((100 : Int32))  _ h) ⟨Nat.le_of_ble_eq_true rfl, Nat.le_of_ble_eq_true rfl⟩ (As := [.int x2, .int (100 : Int32)]) rfl rfl (Nat.le_of_ble_eq_true rfl) dX0_word_13 ⟨Nat.le_of_ble_eq_true rfl, Nat.le_of_ble_eq_true rfl⟩) (fun a3 hq => ?_)
    replace h := hq
    refine v_if_eq (pc := 16) cx dX0_word_16 (tgt := 46) rfl (fun c4 => ?_) (fun c4 => ?_)
    · replace h := h.1 c4
      refine v_iconst (pc := 46) cx dX0_word_46 ic_m1 ?_
      exact v_iret cx rfl dX0_word_47 ⟨Nat.le_of_ble_eq_true rfl, Nat.le_of_ble_eq_true rfl⟩ ⟨h, sh⟩
    · replace h := h.2 c4
      refine v_iload_n (pc := 19) cx dX0_word_19 rfl 3 rfl ?_
      refine v_iconst (pc := 20) cx dX0_word_20 ic_1 ?_
      refine v_bipush (pc := 21) cx dX0_word_21 bc_15 ?_
      refine v_runp_i (pc := 23) cx (kcq387_X0 cx (c_X0_within l D cA sz0 H0 M x3 ((1 : Int32)) ((15 : Int32))  _ h) ⟨Nat.le_of_ble_eq_true rfl, Nat.le_of_ble_eq_true rfl⟩ (As := [.int x3, .int (1 : Int32), .int (15 : Int32)]) rfl rfl (Nat.le_of_ble_eq_true rfl) dX0_word_23 ⟨Nat.le_of_ble_eq_true rfl, Nat.le_of_ble_eq_true rfl⟩) (fun a5 hq => ?_)
      replace h := hq
      refine v_if_eq (pc := 26) cx dX0_word_26 (tgt := 46) rfl (fun c6 => ?_) (fun c6 => ?_)
      · replace h := h.1 c6
        refine v_iconst (pc := 46) cx dX0_word_46 ic_m1 ?_
        exact v_iret cx rfl dX0_word_47 ⟨Nat.le_of_ble_eq_true rfl, Nat.le_of_ble_eq_true rfl⟩ ⟨h, sh⟩
      · replace h := h.2 c6
        refine v_aload_n (pc := 29) cx dX0_word_29 rfl 0 rfl ?_
        refine gq278_X0 (pc := 30) cx dX0_word_30 (sh.k k_0) ?_
        refine v_bipush (pc := 33) cx dX0_word_33 bc_40 ?_
        refine v_icmp_eq (pc := 35) cx dX0_word_35 (tgt := 46) rfl (fun c7 => ?_) (fun c7 => ?_)
        · replace h := h.1 c7
          refine v_iconst (pc := 46) cx dX0_word_46 ic_m1 ?_
          exact v_iret cx rfl dX0_word_47 ⟨Nat.le_of_ble_eq_true rfl, Nat.le_of_ble_eq_true rfl⟩ ⟨h, sh⟩
        · replace h := h.2 c7
          refine v_iload_n (pc := 38) cx dX0_word_38 rfl 1 rfl ?_
          refine v_aload_n (pc := 39) cx dX0_word_39 rfl 0 rfl ?_
          refine gq280_X0 (pc := 40) cx dX0_word_40 (sh.k k_0) ?_
          refine v_icmp_le (pc := 43) cx dX0_word_43 (tgt := 48) rfl (fun c8 => ?_) (fun c8 => ?_)
          · replace h := h.1 c8
            refine v_aload_n (pc := 48) cx dX0_word_48 rfl 0 rfl ?_
            refine v_iconst (pc := 49) cx dX0_word_49 ic_0 ?_
            refine pq280_X0 (pc := 50) cx dX0_word_50 (sh.k k_0) ?_
            refine v_wld (fun M9 eM9 => ?_)
            replace h := h M9 eM9
            replace sh : Shp M9 := Shp_PI sh eM9
            refine v_aload_n (pc := 53) cx dX0_word_53 rfl 0 rfl ?_
            refine v_aload_n (pc := 54) cx dX0_word_54 rfl 0 rfl ?_
            refine gq284_X0 (pc := 55) cx dX0_word_55 (sh.k k_0) (v_some (sh.r r_0_9) ?_)
            refine v_iload_n (pc := 58) cx dX0_word_58 rfl 1 rfl ?_
            refine v_run_i (pc := 59) cx (kcq393_X0 cx (c_X0_readsLine l D cA sz0 H0 M9 7 x1 isLn_7 _ sh h) ⟨Nat.le_of_ble_eq_true rfl, Nat.le_of_ble_eq_true rfl⟩ (sh.k k_0) (As := [.ref (sz0 + 7), .int x1]) rfl rfl (Nat.le_of_ble_eq_true rfl) dX0_word_59 ⟨Nat.le_of_ble_eq_true rfl, Nat.le_of_ble_eq_true rfl⟩) (fun a10 M11 hq => ?_)
            obtain ⟨h, sh⟩ := hq
            refine v_if_eq (pc := 62) cx dX0_word_62 (tgt := 77) rfl (fun c12 => ?_) (fun c12 => ?_)
            · replace h := h.1 c12
              refine v_bipush (pc := 77) cx dX0_word_77 bc_m2 ?_
              exact v_iret cx rfl dX0_word_79 ⟨Nat.le_of_ble_eq_true rfl, Nat.le_of_ble_eq_true rfl⟩ ⟨h, sh⟩
            · replace h := h.2 c12
              refine v_aload_n (pc := 65) cx dX0_word_65 rfl 0 rfl ?_
              refine v_aload_n (pc := 66) cx dX0_word_66 rfl 0 rfl ?_
              refine gq284_X0 (pc := 67) cx dX0_word_67 (sh.k k_0) (v_some (sh.r r_0_9) ?_)
              refine v_runp_i (pc := 70) cx (kcq405_X0 cx (c_X0_wordOf l D cA sz0 H0 M11 7 isLn_7 _ sh h) ⟨Nat.le_of_ble_eq_true rfl, Nat.le_of_ble_eq_true rfl⟩ (sh.k k_0) (As := [.ref (sz0 + 7)]) rfl rfl (Nat.le_of_ble_eq_true rfl) dX0_word_70 ⟨Nat.le_of_ble_eq_true rfl, Nat.le_of_ble_eq_true rfl⟩) (fun a13 hq => ?_)
              replace h := hq
              refine v_iconst (pc := 73) cx dX0_word_73 ic_m1 ?_
              refine v_icmp_eq (pc := 74) cx dX0_word_74 (tgt := 80) rfl (fun c14 => ?_) (fun c14 => ?_)
              · replace h := h.1 c14
                refine v_aload_n (pc := 80) cx dX0_word_80 rfl 0 rfl ?_
                refine gq273_X0 (pc := 81) cx dX0_word_81 (sh.k k_0) (v_some (sh.r r_0_0) ?_)
                refine v_aload_n (pc := 84) cx dX0_word_84 rfl 0 rfl ?_
                refine gq278_X0 (pc := 85) cx dX0_word_85 (sh.k k_0) ?_
                obtain ⟨b15, h⟩ := h
                refine v_aald107 (pc := 88) cx dX0_word_88 (sh.k k_1) (sh.l k_1 l_1) b15 (v_some (sh.r (f_1 (lt_in b15))) ?_)
                refine v_astore (pc := 89) cx dX0_word_89 (Nat.le_of_ble_eq_true rfl) (lv' := [(4, .ref (sz0 + (5324 + 3 * ((wI M11 0 3)).toNatClampNeg))), (0, .ref (sz0 + 0)), (1, .int x1), (2, .int x2), (3, .int x3)]) rfl ?_
                refine v_aload (pc := 91) cx dX0_word_91 0 rfl ?_
                refine gq257_X5 (pc := 93) cx dX0_word_93 (sh.k (fk_1 (lt_in b15))) (v_some (sh.r (fr_1 (lt_in b15))) ?_)
                refine v_aload_n (pc := 96) cx dX0_word_96 rfl 1 rfl ?_
                refine gq284_X0 (pc := 97) cx dX0_word_97 (sh.k k_0) (v_some (sh.r r_0_9) ?_)
                refine v_run_v (pc := 100) cx (kcq413_X0 cx (c_X2_takes l D cA sz0 H0 M11 ((5325 + 3 * ((wI M11 0 3)).toNatClampNeg)) 7 (isLn_w (lt_in b15)) isLn_7 _ sh h) ⟨Nat.le_of_ble_eq_true rfl, Nat.le_of_ble_eq_true rfl⟩ (sh.k (isLn_w (lt_in b15)).1) (As := [.ref (sz0 + 7)]) rfl rfl (Nat.le_of_ble_eq_true rfl) dX0_word_100 ⟨Nat.le_of_ble_eq_true rfl, Nat.le_of_ble_eq_true rfl⟩) (fun M17 hq => ?_)
                obtain ⟨h, sh⟩ := hq
                refine v_aload (pc := 103) cx dX0_word_103 0 rfl ?_
                refine v_iload_n (pc := 105) cx dX0_word_105 rfl 3 rfl ?_
                refine pq259_X5 (pc := 106) cx dX0_word_106 (sh.k (fk_1 (lt_in b15))) ?_
                refine v_wld (fun M18 eM18 => ?_)
                replace h := h M18 eM18
                replace sh : Shp M18 := Shp_PI sh eM18
                refine v_aload (pc := 109) cx dX0_word_109 0 rfl ?_
                refine v_iload_n (pc := 111) cx dX0_word_111 rfl 4 rfl ?_
                refine pq260_X5 (pc := 112) cx dX0_word_112 (sh.k (fk_1 (lt_in b15))) ?_
                refine v_wld (fun M19 eM19 => ?_)
                replace h := h M19 eM19
                replace sh : Shp M19 := Shp_PI sh eM19
                refine v_aload (pc := 115) cx dX0_word_115 0 rfl ?_
                refine v_iconst (pc := 117) cx dX0_word_117 ic_0 ?_
                refine pq261_X5 (pc := 118) cx (Or.inl rfl) dX0_word_118 (sh.k (fk_1 (lt_in b15))) ?_
                refine v_wld (fun M20 eM20 => ?_)
                replace h := h M20 eM20
                replace sh : Shp M20 := Shp_PI sh eM20
                refine v_aload_n (pc := 121) cx dX0_word_121 rfl 1 rfl ?_
                refine v_dup (pc := 122) cx dX0_word_122 rfl ?_
                refine gq278_X0 (pc := 123) cx dX0_word_123 (sh.k k_0) ?_
                refine v_iconst (pc := 126) cx dX0_word_126 ic_1 ?_
                refine v_iadd (pc := 127) cx dX0_word_127 ?_
                refine pq278_X0 (pc := 128) cx dX0_word_128 (sh.k k_0) ?_
                refine v_wld (fun M21 eM21 => ?_)
                replace h := h M21 eM21
                replace sh : Shp M21 := Shp_PI sh eM21
                refine v_aload_n (pc := 131) cx dX0_word_131 rfl 1 rfl ?_
                refine v_dup (pc := 132) cx dX0_word_132 rfl ?_
                refine gq282_X0 (pc := 133) cx dX0_word_133 (sh.k k_0) ?_
                refine v_iconst (pc := 136) cx dX0_word_136 ic_1 ?_
                refine v_iadd (pc := 137) cx dX0_word_137 ?_
                refine pq282_X0 (pc := 138) cx dX0_word_138 (sh.k k_0) ?_
                refine v_wld (fun M22 eM22 => ?_)
                replace h := h M22 eM22
                replace sh : Shp M22 := Shp_PI sh eM22
                refine v_aload_n (pc := 141) cx dX0_word_141 rfl 1 rfl ?_
                refine gq278_X0 (pc := 142) cx dX0_word_142 (sh.k k_0) ?_
                refine v_iconst (pc := 145) cx dX0_word_145 ic_1 ?_
                refine v_isub (pc := 146) cx dX0_word_146 ?_
                exact v_iret cx rfl dX0_word_147 ⟨Nat.le_of_ble_eq_true rfl, Nat.le_of_ble_eq_true rfl⟩ ⟨h, sh⟩
              · replace h := h.2 c14
                refine v_bipush (pc := 77) cx dX0_word_77 bc_m2 ?_
                exact v_iret cx rfl dX0_word_79 ⟨Nat.le_of_ble_eq_true rfl, Nat.le_of_ble_eq_true rfl⟩ ⟨h, sh⟩
          · replace h := h.2 c8
            refine v_iconst (pc := 46) cx dX0_word_46 ic_m1 ?_
            exact v_iret cx rfl dX0_word_47 ⟨Nat.le_of_ble_eq_true rfl, Nat.le_of_ble_eq_true rfl⟩ ⟨h, sh⟩
