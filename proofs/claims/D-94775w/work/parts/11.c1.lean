set_option maxRecDepth 100000

theorem gq165_X1 {p : Program} {l : Launch} {e : Env} {R : Room} {s : State} {m : MethodId} {args : Array Value} {below : List Frame} {meth : Method} {c : Code} {cells slots : Nat} {Q : State → Prop} {cc : ByteArray} {nL : Nat} {ret : Option FieldType} {D : va_G} {cA : Nat → ClassId} {sz0 : Nat} {H0 : Heap} {pc : Nat} {lv : List (Nat × Value)} {st : List Value} {M : WM} {r : Nat} (cx : Cx p s m args meth c cc nL RX1 ret D cA sz0 H0) (d : decode cc pc = .ok (.getfield 9, 3)) (hr : wk M r = 1) (kk : V p l e R s m args below meth c nL D cA sz0 H0 cells slots Q (pc + 3) lv (vr sz0 (wR M r 0) :: st) M) : V p l e R s m args below meth c nL D cA sz0 H0 cells slots Q pc lv (.ref (sz0 + r) :: st) M := v_getR cx (k := 0) cl_X1 (by decide) in_X1 (by decide) q165 rfl d hr kk
theorem gq167_X1 {p : Program} {l : Launch} {e : Env} {R : Room} {s : State} {m : MethodId} {args : Array Value} {below : List Frame} {meth : Method} {c : Code} {cells slots : Nat} {Q : State → Prop} {cc : ByteArray} {nL : Nat} {ret : Option FieldType} {D : va_G} {cA : Nat → ClassId} {sz0 : Nat} {H0 : Heap} {pc : Nat} {lv : List (Nat × Value)} {st : List Value} {M : WM} {r : Nat} (cx : Cx p s m args meth c cc nL RX1 ret D cA sz0 H0) (d : decode cc pc = .ok (.getfield 17, 3)) (hr : wk M r = 1) (kk : V p l e R s m args below meth c nL D cA sz0 H0 cells slots Q (pc + 3) lv (vr sz0 (wR M r 1) :: st) M) : V p l e R s m args below meth c nL D cA sz0 H0 cells slots Q pc lv (.ref (sz0 + r) :: st) M := v_getR cx (k := 1) cl_X1 (by decide) in_X1 (by decide) q167 rfl d hr kk
theorem gq169_X1 {p : Program} {l : Launch} {e : Env} {R : Room} {s : State} {m : MethodId} {args : Array Value} {below : List Frame} {meth : Method} {c : Code} {cells slots : Nat} {Q : State → Prop} {cc : ByteArray} {nL : Nat} {ret : Option FieldType} {D : va_G} {cA : Nat → ClassId} {sz0 : Nat} {H0 : Heap} {pc : Nat} {lv : List (Nat × Value)} {st : List Value} {M : WM} {r : Nat} (cx : Cx p s m args meth c cc nL RX1 ret D cA sz0 H0) (d : decode cc pc = .ok (.getfield 23, 3)) (hr : wk M r = 1) (kk : V p l e R s m args below meth c nL D cA sz0 H0 cells slots Q (pc + 3) lv (vr sz0 (wR M r 2) :: st) M) : V p l e R s m args below meth c nL D cA sz0 H0 cells slots Q pc lv (.ref (sz0 + r) :: st) M := v_getR cx (k := 2) cl_X1 (by decide) in_X1 (by decide) q169 rfl d hr kk
theorem gq171_X1 {p : Program} {l : Launch} {e : Env} {R : Room} {s : State} {m : MethodId} {args : Array Value} {below : List Frame} {meth : Method} {c : Code} {cells slots : Nat} {Q : State → Prop} {cc : ByteArray} {nL : Nat} {ret : Option FieldType} {D : va_G} {cA : Nat → ClassId} {sz0 : Nat} {H0 : Heap} {pc : Nat} {lv : List (Nat × Value)} {st : List Value} {M : WM} {r : Nat} (cx : Cx p s m args meth c cc nL RX1 ret D cA sz0 H0) (d : decode cc pc = .ok (.getfield 27, 3)) (hr : wk M r = 1) (kk : V p l e R s m args below meth c nL D cA sz0 H0 cells slots Q (pc + 3) lv (.int (wI M r 3) :: st) M) : V p l e R s m args below meth c nL D cA sz0 H0 cells slots Q pc lv (.ref (sz0 + r) :: st) M := v_getI cx (k := 3) cl_X1 (by decide) in_X1 (by decide) q171 rfl d hr kk
theorem gq213_X4 {p : Program} {l : Launch} {e : Env} {R : Room} {s : State} {m : MethodId} {args : Array Value} {below : List Frame} {meth : Method} {c : Code} {cells slots : Nat} {Q : State → Prop} {cc : ByteArray} {nL : Nat} {ret : Option FieldType} {D : va_G} {cA : Nat → ClassId} {sz0 : Nat} {H0 : Heap} {pc : Nat} {lv : List (Nat × Value)} {st : List Value} {M : WM} {r : Nat} (cx : Cx p s m args meth c cc nL RX4 ret D cA sz0 H0) (d : decode cc pc = .ok (.getfield 25, 3)) (hr : wk M r = 3) (kk : V p l e R s m args below meth c nL D cA sz0 H0 cells slots Q (pc + 3) lv (.int (wI M r 1) :: st) M) : V p l e R s m args below meth c nL D cA sz0 H0 cells slots Q pc lv (.ref (sz0 + r) :: st) M := v_getI cx (k := 1) cl_X4 (by decide) in_X4 (by decide) q213 rfl d hr kk
theorem gq214_X4 {p : Program} {l : Launch} {e : Env} {R : Room} {s : State} {m : MethodId} {args : Array Value} {below : List Frame} {meth : Method} {c : Code} {cells slots : Nat} {Q : State → Prop} {cc : ByteArray} {nL : Nat} {ret : Option FieldType} {D : va_G} {cA : Nat → ClassId} {sz0 : Nat} {H0 : Heap} {pc : Nat} {lv : List (Nat × Value)} {st : List Value} {M : WM} {r : Nat} (cx : Cx p s m args meth c cc nL RX4 ret D cA sz0 H0) (d : decode cc pc = .ok (.getfield 29, 3)) (hr : wk M r = 3) (kk : V p l e R s m args below meth c nL D cA sz0 H0 cells slots Q (pc + 3) lv (.int (wI M r 2) :: st) M) : V p l e R s m args below meth c nL D cA sz0 H0 cells slots Q pc lv (.ref (sz0 + r) :: st) M := v_getI cx (k := 2) cl_X4 (by decide) in_X4 (by decide) q214 rfl d hr kk
theorem gq215_X4 {p : Program} {l : Launch} {e : Env} {R : Room} {s : State} {m : MethodId} {args : Array Value} {below : List Frame} {meth : Method} {c : Code} {cells slots : Nat} {Q : State → Prop} {cc : ByteArray} {nL : Nat} {ret : Option FieldType} {D : va_G} {cA : Nat → ClassId} {sz0 : Nat} {H0 : Heap} {pc : Nat} {lv : List (Nat × Value)} {st : List Value} {M : WM} {r : Nat} (cx : Cx p s m args meth c cc nL RX4 ret D cA sz0 H0) (d : decode cc pc = .ok (.getfield 32, 3)) (hr : wk M r = 3) (kk : V p l e R s m args below meth c nL D cA sz0 H0 cells slots Q (pc + 3) lv (.int (wI M r 3) :: st) M) : V p l e R s m args below meth c nL D cA sz0 H0 cells slots Q pc lv (.ref (sz0 + r) :: st) M := v_getI cx (k := 3) cl_X4 (by decide) in_X4 (by decide) q215 rfl d hr kk
theorem gq216_X4 {p : Program} {l : Launch} {e : Env} {R : Room} {s : State} {m : MethodId} {args : Array Value} {below : List Frame} {meth : Method} {c : Code} {cells slots : Nat} {Q : State → Prop} {cc : ByteArray} {nL : Nat} {ret : Option FieldType} {D : va_G} {cA : Nat → ClassId} {sz0 : Nat} {H0 : Heap} {pc : Nat} {lv : List (Nat × Value)} {st : List Value} {M : WM} {r : Nat} (cx : Cx p s m args meth c cc nL RX4 ret D cA sz0 H0) (d : decode cc pc = .ok (.getfield 35, 3)) (hr : wk M r = 3) (kk : V p l e R s m args below meth c nL D cA sz0 H0 cells slots Q (pc + 3) lv (.int (wI M r 4) :: st) M) : V p l e R s m args below meth c nL D cA sz0 H0 cells slots Q pc lv (.ref (sz0 + r) :: st) M := v_getI cx (k := 4) cl_X4 (by decide) in_X4 (by decide) q216 rfl d hr kk
theorem gq217_X4 {p : Program} {l : Launch} {e : Env} {R : Room} {s : State} {m : MethodId} {args : Array Value} {below : List Frame} {meth : Method} {c : Code} {cells slots : Nat} {Q : State → Prop} {cc : ByteArray} {nL : Nat} {ret : Option FieldType} {D : va_G} {cA : Nat → ClassId} {sz0 : Nat} {H0 : Heap} {pc : Nat} {lv : List (Nat × Value)} {st : List Value} {M : WM} {r : Nat} (cx : Cx p s m args meth c cc nL RX4 ret D cA sz0 H0) (d : decode cc pc = .ok (.getfield 50, 3)) (hr : wk M r = 3) (kk : V p l e R s m args below meth c nL D cA sz0 H0 cells slots Q (pc + 3) lv (.int (wI M r 5) :: st) M) : V p l e R s m args below meth c nL D cA sz0 H0 cells slots Q pc lv (.ref (sz0 + r) :: st) M := v_getI cx (k := 5) cl_X4 (by decide) in_X4 (by decide) q217 rfl d hr kk
theorem gq218_X4 {p : Program} {l : Launch} {e : Env} {R : Room} {s : State} {m : MethodId} {args : Array Value} {below : List Frame} {meth : Method} {c : Code} {cells slots : Nat} {Q : State → Prop} {cc : ByteArray} {nL : Nat} {ret : Option FieldType} {D : va_G} {cA : Nat → ClassId} {sz0 : Nat} {H0 : Heap} {pc : Nat} {lv : List (Nat × Value)} {st : List Value} {M : WM} {r : Nat} (cx : Cx p s m args meth c cc nL RX4 ret D cA sz0 H0) (d : decode cc pc = .ok (.getfield 53, 3)) (hr : wk M r = 3) (kk : V p l e R s m args below meth c nL D cA sz0 H0 cells slots Q (pc + 3) lv (.int (wI M r 6) :: st) M) : V p l e R s m args below meth c nL D cA sz0 H0 cells slots Q pc lv (.ref (sz0 + r) :: st) M := v_getI cx (k := 6) cl_X4 (by decide) in_X4 (by decide) q218 rfl d hr kk
theorem gq219_X4 {p : Program} {l : Launch} {e : Env} {R : Room} {s : State} {m : MethodId} {args : Array Value} {below : List Frame} {meth : Method} {c : Code} {cells slots : Nat} {Q : State → Prop} {cc : ByteArray} {nL : Nat} {ret : Option FieldType} {D : va_G} {cA : Nat → ClassId} {sz0 : Nat} {H0 : Heap} {pc : Nat} {lv : List (Nat × Value)} {st : List Value} {M : WM} {r : Nat} (cx : Cx p s m args meth c cc nL RX4 ret D cA sz0 H0) (d : decode cc pc = .ok (.getfield 43, 3)) (hr : wk M r = 3) (kk : V p l e R s m args below meth c nL D cA sz0 H0 cells slots Q (pc + 3) lv (.int (wI M r 7) :: st) M) : V p l e R s m args below meth c nL D cA sz0 H0 cells slots Q pc lv (.ref (sz0 + r) :: st) M := v_getI cx (k := 7) cl_X4 (by decide) in_X4 (by decide) q219 rfl d hr kk
theorem gq220_X4 {p : Program} {l : Launch} {e : Env} {R : Room} {s : State} {m : MethodId} {args : Array Value} {below : List Frame} {meth : Method} {c : Code} {cells slots : Nat} {Q : State → Prop} {cc : ByteArray} {nL : Nat} {ret : Option FieldType} {D : va_G} {cA : Nat → ClassId} {sz0 : Nat} {H0 : Heap} {pc : Nat} {lv : List (Nat × Value)} {st : List Value} {M : WM} {r : Nat} (cx : Cx p s m args meth c cc nL RX4 ret D cA sz0 H0) (d : decode cc pc = .ok (.getfield 3, 3)) (hr : wk M r = 3) (kk : V p l e R s m args below meth c nL D cA sz0 H0 cells slots Q (pc + 3) lv (vr sz0 (wR M r 8) :: st) M) : V p l e R s m args below meth c nL D cA sz0 H0 cells slots Q pc lv (.ref (sz0 + r) :: st) M := v_getR cx (k := 8) cl_X4 (by decide) in_X4 (by decide) q220 rfl d hr kk
theorem gq221_X4 {p : Program} {l : Launch} {e : Env} {R : Room} {s : State} {m : MethodId} {args : Array Value} {below : List Frame} {meth : Method} {c : Code} {cells slots : Nat} {Q : State → Prop} {cc : ByteArray} {nL : Nat} {ret : Option FieldType} {D : va_G} {cA : Nat → ClassId} {sz0 : Nat} {H0 : Heap} {pc : Nat} {lv : List (Nat × Value)} {st : List Value} {M : WM} {r : Nat} (cx : Cx p s m args meth c cc nL RX15 ret D cA sz0 H0) (d : decode cc pc = .ok (.getfield 20, 3)) (hr : wk M r = 3) (kk : V p l e R s m args below meth c nL D cA sz0 H0 cells slots Q (pc + 3) lv (.int (wI M r 0) :: st) M) : V p l e R s m args below meth c nL D cA sz0 H0 cells slots Q pc lv (.ref (sz0 + r) :: st) M := v_getIN cx (k := 0) cl_X4 (by decide) in_X4 (by decide) (nst_in q221 rfl) rfl d hr kk
theorem gq223_X4 {p : Program} {l : Launch} {e : Env} {R : Room} {s : State} {m : MethodId} {args : Array Value} {below : List Frame} {meth : Method} {c : Code} {cells slots : Nat} {Q : State → Prop} {cc : ByteArray} {nL : Nat} {ret : Option FieldType} {D : va_G} {cA : Nat → ClassId} {sz0 : Nat} {H0 : Heap} {pc : Nat} {lv : List (Nat × Value)} {st : List Value} {M : WM} {r : Nat} (cx : Cx p s m args meth c cc nL RX8 ret D cA sz0 H0) (d : decode cc pc = .ok (.getfield 7, 3)) (hr : wk M r = 3) (kk : V p l e R s m args below meth c nL D cA sz0 H0 cells slots Q (pc + 3) lv (.int (wI M r 0) :: st) M) : V p l e R s m args below meth c nL D cA sz0 H0 cells slots Q pc lv (.ref (sz0 + r) :: st) M := v_getIN cx (k := 0) cl_X4 (by decide) in_X4 (by decide) (nst_in q223 rfl) rfl d hr kk
theorem gq258_X5 {p : Program} {l : Launch} {e : Env} {R : Room} {s : State} {m : MethodId} {args : Array Value} {below : List Frame} {meth : Method} {c : Code} {cells slots : Nat} {Q : State → Prop} {cc : ByteArray} {nL : Nat} {ret : Option FieldType} {D : va_G} {cA : Nat → ClassId} {sz0 : Nat} {H0 : Heap} {pc : Nat} {lv : List (Nat × Value)} {st : List Value} {M : WM} {r : Nat} (cx : Cx p s m args meth c cc nL RX4 ret D cA sz0 H0) (d : decode cc pc = .ok (.getfield 56, 3)) (hr : wk M r = 4) (kk : V p l e R s m args below meth c nL D cA sz0 H0 cells slots Q (pc + 3) lv (.int (wI M r 1) :: st) M) : V p l e R s m args below meth c nL D cA sz0 H0 cells slots Q pc lv (.ref (sz0 + r) :: st) M := v_getIN cx (k := 1) cl_X5 (by decide) in_X5 (by decide) (nst_in q258 rfl) rfl d hr kk
theorem gq272_X0 {p : Program} {l : Launch} {e : Env} {R : Room} {s : State} {m : MethodId} {args : Array Value} {below : List Frame} {meth : Method} {c : Code} {cells slots : Nat} {Q : State → Prop} {cc : ByteArray} {nL : Nat} {ret : Option FieldType} {D : va_G} {cA : Nat → ClassId} {sz0 : Nat} {H0 : Heap} {pc : Nat} {lv : List (Nat × Value)} {st : List Value} {M : WM} {r : Nat} (cx : Cx p s m args meth c cc nL RX4 ret D cA sz0 H0) (d : decode cc pc = .ok (.getfield 15, 3)) (hr : wk M r = 0) (kk : V p l e R s m args below meth c nL D cA sz0 H0 cells slots Q (pc + 3) lv (vr sz0 (wR M r 0) :: st) M) : V p l e R s m args below meth c nL D cA sz0 H0 cells slots Q pc lv (.ref (sz0 + r) :: st) M := v_getRN cx (k := 0) cl_X0 (by decide) in_X0 (by decide) (nst_in q272 rfl) rfl d hr kk
theorem gq527_X10 {p : Program} {l : Launch} {e : Env} {R : Room} {s : State} {m : MethodId} {args : Array Value} {below : List Frame} {meth : Method} {c : Code} {cells slots : Nat} {Q : State → Prop} {cc : ByteArray} {nL : Nat} {ret : Option FieldType} {D : va_G} {cA : Nat → ClassId} {sz0 : Nat} {H0 : Heap} {pc : Nat} {lv : List (Nat × Value)} {st : List Value} {M : WM} {r : Nat} (cx : Cx p s m args meth c cc nL RX10 ret D cA sz0 H0) (d : decode cc pc = .ok (.getfield 7, 3)) (hr : wk M r = 8) (kk : V p l e R s m args below meth c nL D cA sz0 H0 cells slots Q (pc + 3) lv (.int (wI M r 0) :: st) M) : V p l e R s m args below meth c nL D cA sz0 H0 cells slots Q pc lv (.ref (sz0 + r) :: st) M := v_getI cx (k := 0) cl_X10 (by decide) in_X10 (by decide) q527 rfl d hr kk
theorem gq624_X11 {p : Program} {l : Launch} {e : Env} {R : Room} {s : State} {m : MethodId} {args : Array Value} {below : List Frame} {meth : Method} {c : Code} {cells slots : Nat} {Q : State → Prop} {cc : ByteArray} {nL : Nat} {ret : Option FieldType} {D : va_G} {cA : Nat → ClassId} {sz0 : Nat} {H0 : Heap} {pc : Nat} {lv : List (Nat × Value)} {st : List Value} {M : WM} {r : Nat} (cx : Cx p s m args meth c cc nL RX11 ret D cA sz0 H0) (d : decode cc pc = .ok (.getfield 7, 3)) (hr : wk M r = 9) (kk : V p l e R s m args below meth c nL D cA sz0 H0 cells slots Q (pc + 3) lv (.int (wI M r 0) :: st) M) : V p l e R s m args below meth c nL D cA sz0 H0 cells slots Q pc lv (.ref (sz0 + r) :: st) M := v_getI cx (k := 0) cl_X11 (by decide) in_X11 (by decide) q624 rfl d hr kk
theorem gq632_X9 {p : Program} {l : Launch} {e : Env} {R : Room} {s : State} {m : MethodId} {args : Array Value} {below : List Frame} {meth : Method} {c : Code} {cells slots : Nat} {Q : State → Prop} {cc : ByteArray} {nL : Nat} {ret : Option FieldType} {D : va_G} {cA : Nat → ClassId} {sz0 : Nat} {H0 : Heap} {pc : Nat} {lv : List (Nat × Value)} {st : List Value} {M : WM} {r : Nat} (cx : Cx p s m args meth c cc nL RX9 ret D cA sz0 H0) (d : decode cc pc = .ok (.getfield 7, 3)) (hr : wk M r = 7) (kk : V p l e R s m args below meth c nL D cA sz0 H0 cells slots Q (pc + 3) lv (.int (wI M r 0) :: st) M) : V p l e R s m args below meth c nL D cA sz0 H0 cells slots Q pc lv (.ref (sz0 + r) :: st) M := v_getI cx (k := 0) cl_X9 (by decide) in_X9 (by decide) q632 rfl d hr kk
theorem gq633_X9 {p : Program} {l : Launch} {e : Env} {R : Room} {s : State} {m : MethodId} {args : Array Value} {below : List Frame} {meth : Method} {c : Code} {cells slots : Nat} {Q : State → Prop} {cc : ByteArray} {nL : Nat} {ret : Option FieldType} {D : va_G} {cA : Nat → ClassId} {sz0 : Nat} {H0 : Heap} {pc : Nat} {lv : List (Nat × Value)} {st : List Value} {M : WM} {r : Nat} (cx : Cx p s m args meth c cc nL RX9 ret D cA sz0 H0) (d : decode cc pc = .ok (.getfield 13, 3)) (hr : wk M r = 7) (kk : V p l e R s m args below meth c nL D cA sz0 H0 cells slots Q (pc + 3) lv (vr sz0 (wR M r 1) :: st) M) : V p l e R s m args below meth c nL D cA sz0 H0 cells slots Q pc lv (.ref (sz0 + r) :: st) M := v_getR cx (k := 1) cl_X9 (by decide) in_X9 (by decide) q633 rfl d hr kk
theorem gq634_X9 {p : Program} {l : Launch} {e : Env} {R : Room} {s : State} {m : MethodId} {args : Array Value} {below : List Frame} {meth : Method} {c : Code} {cells slots : Nat} {Q : State → Prop} {cc : ByteArray} {nL : Nat} {ret : Option FieldType} {D : va_G} {cA : Nat → ClassId} {sz0 : Nat} {H0 : Heap} {pc : Nat} {lv : List (Nat × Value)} {st : List Value} {M : WM} {r : Nat} (cx : Cx p s m args meth c cc nL RX9 ret D cA sz0 H0) (d : decode cc pc = .ok (.getfield 27, 3)) (hr : wk M r = 7) (kk : V p l e R s m args below meth c nL D cA sz0 H0 cells slots Q (pc + 3) lv (vr sz0 (wR M r 2) :: st) M) : V p l e R s m args below meth c nL D cA sz0 H0 cells slots Q pc lv (.ref (sz0 + r) :: st) M := v_getR cx (k := 2) cl_X9 (by decide) in_X9 (by decide) q634 rfl d hr kk
theorem gq666_X14 {p : Program} {l : Launch} {e : Env} {R : Room} {s : State} {m : MethodId} {args : Array Value} {below : List Frame} {meth : Method} {c : Code} {cells slots : Nat} {Q : State → Prop} {cc : ByteArray} {nL : Nat} {ret : Option FieldType} {D : va_G} {cA : Nat → ClassId} {sz0 : Nat} {H0 : Heap} {pc : Nat} {lv : List (Nat × Value)} {st : List Value} {M : WM} {r : Nat} (cx : Cx p s m args meth c cc nL RX14 ret D cA sz0 H0) (d : decode cc pc = .ok (.getfield 7, 3)) (hr : wk M r = 11) (kk : V p l e R s m args below meth c nL D cA sz0 H0 cells slots Q (pc + 3) lv (vr sz0 (wR M r 0) :: st) M) : V p l e R s m args below meth c nL D cA sz0 H0 cells slots Q pc lv (.ref (sz0 + r) :: st) M := v_getR cx (k := 0) cl_X14 (by decide) in_X14 (by decide) q666 rfl d hr kk
theorem gq676_X15 {p : Program} {l : Launch} {e : Env} {R : Room} {s : State} {m : MethodId} {args : Array Value} {below : List Frame} {meth : Method} {c : Code} {cells slots : Nat} {Q : State → Prop} {cc : ByteArray} {nL : Nat} {ret : Option FieldType} {D : va_G} {cA : Nat → ClassId} {sz0 : Nat} {H0 : Heap} {pc : Nat} {lv : List (Nat × Value)} {st : List Value} {M : WM} {r : Nat} (cx : Cx p s m args meth c cc nL RX15 ret D cA sz0 H0) (d : decode cc pc = .ok (.getfield 7, 3)) (hr : wk M r = 12) (kk : V p l e R s m args below meth c nL D cA sz0 H0 cells slots Q (pc + 3) lv (vr sz0 (wR M r 0) :: st) M) : V p l e R s m args below meth c nL D cA sz0 H0 cells slots Q pc lv (.ref (sz0 + r) :: st) M := v_getR cx (k := 0) cl_X15 (by decide) in_X15 (by decide) q676 rfl d hr kk
theorem gq677_X15 {p : Program} {l : Launch} {e : Env} {R : Room} {s : State} {m : MethodId} {args : Array Value} {below : List Frame} {meth : Method} {c : Code} {cells slots : Nat} {Q : State → Prop} {cc : ByteArray} {nL : Nat} {ret : Option FieldType} {D : va_G} {cA : Nat → ClassId} {sz0 : Nat} {H0 : Heap} {pc : Nat} {lv : List (Nat × Value)} {st : List Value} {M : WM} {r : Nat} (cx : Cx p s m args meth c cc nL RX15 ret D cA sz0 H0) (d : decode cc pc = .ok (.getfield 17, 3)) (hr : wk M r = 12) (kk : V p l e R s m args below meth c nL D cA sz0 H0 cells slots Q (pc + 3) lv (vr sz0 (wR M r 1) :: st) M) : V p l e R s m args below meth c nL D cA sz0 H0 cells slots Q pc lv (.ref (sz0 + r) :: st) M := v_getR cx (k := 1) cl_X15 (by decide) in_X15 (by decide) q677 rfl d hr kk
theorem gq678_X15 {p : Program} {l : Launch} {e : Env} {R : Room} {s : State} {m : MethodId} {args : Array Value} {below : List Frame} {meth : Method} {c : Code} {cells slots : Nat} {Q : State → Prop} {cc : ByteArray} {nL : Nat} {ret : Option FieldType} {D : va_G} {cA : Nat → ClassId} {sz0 : Nat} {H0 : Heap} {pc : Nat} {lv : List (Nat × Value)} {st : List Value} {M : WM} {r : Nat} (cx : Cx p s m args meth c cc nL RX15 ret D cA sz0 H0) (d : decode cc pc = .ok (.getfield 13, 3)) (hr : wk M r = 12) (kk : V p l e R s m args below meth c nL D cA sz0 H0 cells slots Q (pc + 3) lv (.int (wI M r 2) :: st) M) : V p l e R s m args below meth c nL D cA sz0 H0 cells slots Q pc lv (.ref (sz0 + r) :: st) M := v_getI cx (k := 2) cl_X15 (by decide) in_X15 (by decide) q678 rfl d hr kk
theorem gq690_X13 {p : Program} {l : Launch} {e : Env} {R : Room} {s : State} {m : MethodId} {args : Array Value} {below : List Frame} {meth : Method} {c : Code} {cells slots : Nat} {Q : State → Prop} {cc : ByteArray} {nL : Nat} {ret : Option FieldType} {D : va_G} {cA : Nat → ClassId} {sz0 : Nat} {H0 : Heap} {pc : Nat} {lv : List (Nat × Value)} {st : List Value} {M : WM} {r : Nat} (cx : Cx p s m args meth c cc nL RX13 ret D cA sz0 H0) (d : decode cc pc = .ok (.getfield 7, 3)) (hr : wk M r = 10) (kk : V p l e R s m args below meth c nL D cA sz0 H0 cells slots Q (pc + 3) lv (vr sz0 (wR M r 0) :: st) M) : V p l e R s m args below meth c nL D cA sz0 H0 cells slots Q pc lv (.ref (sz0 + r) :: st) M := v_getR cx (k := 0) cl_X13 (by decide) in_X13 (by decide) q690 rfl d hr kk
theorem gq691_X13 {p : Program} {l : Launch} {e : Env} {R : Room} {s : State} {m : MethodId} {args : Array Value} {below : List Frame} {meth : Method} {c : Code} {cells slots : Nat} {Q : State → Prop} {cc : ByteArray} {nL : Nat} {ret : Option FieldType} {D : va_G} {cA : Nat → ClassId} {sz0 : Nat} {H0 : Heap} {pc : Nat} {lv : List (Nat × Value)} {st : List Value} {M : WM} {r : Nat} (cx : Cx p s m args meth c cc nL RX13 ret D cA sz0 H0) (d : decode cc pc = .ok (.getfield 13, 3)) (hr : wk M r = 10) (kk : V p l e R s m args below meth c nL D cA sz0 H0 cells slots Q (pc + 3) lv (.int (wI M r 1) :: st) M) : V p l e R s m args below meth c nL D cA sz0 H0 cells slots Q pc lv (.ref (sz0 + r) :: st) M := v_getI cx (k := 1) cl_X13 (by decide) in_X13 (by decide) q691 rfl d hr kk
theorem gq692_X13 {p : Program} {l : Launch} {e : Env} {R : Room} {s : State} {m : MethodId} {args : Array Value} {below : List Frame} {meth : Method} {c : Code} {cells slots : Nat} {Q : State → Prop} {cc : ByteArray} {nL : Nat} {ret : Option FieldType} {D : va_G} {cA : Nat → ClassId} {sz0 : Nat} {H0 : Heap} {pc : Nat} {lv : List (Nat × Value)} {st : List Value} {M : WM} {r : Nat} (cx : Cx p s m args meth c cc nL RX13 ret D cA sz0 H0) (d : decode cc pc = .ok (.getfield 21, 3)) (hr : wk M r = 10) (kk : V p l e R s m args below meth c nL D cA sz0 H0 cells slots Q (pc + 3) lv (vr sz0 (wR M r 2) :: st) M) : V p l e R s m args below meth c nL D cA sz0 H0 cells slots Q pc lv (.ref (sz0 + r) :: st) M := v_getR cx (k := 2) cl_X13 (by decide) in_X13 (by decide) q692 rfl d hr kk
theorem pq221_X4 {p : Program} {l : Launch} {e : Env} {R : Room} {s : State} {m : MethodId} {args : Array Value} {below : List Frame} {meth : Method} {c : Code} {cells slots : Nat} {Q : State → Prop} {cc : ByteArray} {nL : Nat} {ret : Option FieldType} {D : va_G} {cA : Nat → ClassId} {sz0 : Nat} {H0 : Heap} {pc : Nat} {lv : List (Nat × Value)} {st : List Value} {M : WM} {r : Nat} (cx : Cx p s m args meth c cc nL RX15 ret D cA sz0 H0) {x : Int32}  (hz : x = 0 ∨ x = 1) (d : decode cc pc = .ok (.putfield 20, 3)) (hr : wk M r = 3) (kk : V p l e R s m args below meth c nL D cA sz0 H0 cells slots Q (pc + 3) lv st (wPI M r 0 x)) : V p l e R s m args below meth c nL D cA sz0 H0 cells slots Q pc lv (.int x :: .ref (sz0 + r) :: st) M := v_putIN cx (k := 0) cl_X4 (by decide) in_X4 (by decide) tyX4 tyX4_ok nmX4 (nst_in q221 rfl) rfl rfl (ty := .boolean) (tyX4_ok 0 (by decide)) (by rcases hz with rfl | rfl <;> rfl) (by rcases hz with rfl | rfl <;> rfl) d hr kk
theorem pq222_X4 {p : Program} {l : Launch} {e : Env} {R : Room} {s : State} {m : MethodId} {args : Array Value} {below : List Frame} {meth : Method} {c : Code} {cells slots : Nat} {Q : State → Prop} {cc : ByteArray} {nL : Nat} {ret : Option FieldType} {D : va_G} {cA : Nat → ClassId} {sz0 : Nat} {H0 : Heap} {pc : Nat} {lv : List (Nat × Value)} {st : List Value} {M : WM} {r : Nat} (cx : Cx p s m args meth c cc nL RX9 ret D cA sz0 H0) {x : Int32}  (hz : x = 0 ∨ x = 1) (d : decode cc pc = .ok (.putfield 17, 3)) (hr : wk M r = 3) (kk : V p l e R s m args below meth c nL D cA sz0 H0 cells slots Q (pc + 3) lv st (wPI M r 0 x)) : V p l e R s m args below meth c nL D cA sz0 H0 cells slots Q pc lv (.int x :: .ref (sz0 + r) :: st) M := v_putIN cx (k := 0) cl_X4 (by decide) in_X4 (by decide) tyX4 tyX4_ok nmX4 (nst_in q222 rfl) rfl rfl (ty := .boolean) (tyX4_ok 0 (by decide)) (by rcases hz with rfl | rfl <;> rfl) (by rcases hz with rfl | rfl <;> rfl) d hr kk
theorem pq223_X4 {p : Program} {l : Launch} {e : Env} {R : Room} {s : State} {m : MethodId} {args : Array Value} {below : List Frame} {meth : Method} {c : Code} {cells slots : Nat} {Q : State → Prop} {cc : ByteArray} {nL : Nat} {ret : Option FieldType} {D : va_G} {cA : Nat → ClassId} {sz0 : Nat} {H0 : Heap} {pc : Nat} {lv : List (Nat × Value)} {st : List Value} {M : WM} {r : Nat} (cx : Cx p s m args meth c cc nL RX8 ret D cA sz0 H0) {x : Int32}  (hz : x = 0 ∨ x = 1) (d : decode cc pc = .ok (.putfield 7, 3)) (hr : wk M r = 3) (kk : V p l e R s m args below meth c nL D cA sz0 H0 cells slots Q (pc + 3) lv st (wPI M r 0 x)) : V p l e R s m args below meth c nL D cA sz0 H0 cells slots Q pc lv (.int x :: .ref (sz0 + r) :: st) M := v_putIN cx (k := 0) cl_X4 (by decide) in_X4 (by decide) tyX4 tyX4_ok nmX4 (nst_in q223 rfl) rfl rfl (ty := .boolean) (tyX4_ok 0 (by decide)) (by rcases hz with rfl | rfl <;> rfl) (by rcases hz with rfl | rfl <;> rfl) d hr kk
theorem hd_X9_worked : yX9_worked.cls ≠ "java/lang/invoke/MethodHandle" ∧ yX9_worked.cls ≠ "java/lang/invoke/VarHandle" ∧ (parseMethodDescriptor yX9_worked.desc).map (fun d => d.parameters.length) = some 4 := by decide +kernel
theorem kcq770_X9 {p : Program} {l : Launch} {e : Env} {R : Room} {s : State} {m : MethodId} {args : Array Value} {below : List Frame} {meth : Method} {c : Code} {cells slots : Nat}  {cc : ByteArray} {nL : Nat} {ret : Option FieldType} {D : va_G} {cA : Nat → ClassId} {sz0 : Nat} {H0 : Heap} {pc : Nat} {lv : List (Nat × Value)} {st : List Value} {M : WM}  {mc ms fr lo : Nat} {st0 As : List Value} {Qc : Array Value → State → Outcome → State → Prop} (cx : Cx p s m args meth c cc nL RX9 ret D cA sz0 H0) (hM : Met l yX9_worked (ws_ yX9_worked cX9_worked 4 (some .int)) ({ frames := fr, cells := mc, slots := ms, locals := lo } : Room) (PcW D cA sz0 H0 As M) Qc mc ms (Aw sz0)) (hR : fr + 1 ≤ R.frames ∧ 8 + (4 + 11) + lo ≤ R.locals) (hn : As.length = 4) (hst : st0 = As.reverse ++ st) (hcat : (st.map fun v => v.category).sum ≤ 8) (d : decode cc pc = .ok (.invokestatic 31, 3)) (hb : cells + mc ≤ R.cells ∧ slots + ms ≤ R.slots) : ∀ (ls : Array Slot) (H : Heap) (locs : List Loc), lv_has ls nL lv → Wd D cA sz0 H0 M H → va_S (Aw sz0) s.heap H locs → va_Run p l e R s m args below meth c H locs cells slots mc ms (F0 m pc ls st0) st (Qc As.toArray) (Aw sz0) := r_S cx hM q770 q771 q130 q772 hd_X9_worked hR hn hst hcat d hb
def m_X4_value (x1 : Int32) (M : WM)  (Q : Int32 → Prop) : Prop := ((x1 = (97 : Int32) → Q ((wI M 174 1))) ∧ (¬ x1 = (97 : Int32) → ((x1 = (102 : Int32) → (vp_in ((wI M 174 1)) 40 ∧ Q ((wI M ((5324 + 3 * ((wI M 174 1)).toNatClampNeg)) 1)))) ∧ (¬ x1 = (102 : Int32) → ((x1 = (103 : Int32) → (vp_in ((wI M 174 2)) 40 ∧ Q ((wI M ((5324 + 3 * ((wI M 174 2)).toNatClampNeg)) 1)))) ∧ (¬ x1 = (103 : Int32) → ((x1 = (105 : Int32) → Q ((wI M 174 4))) ∧ (¬ x1 = (105 : Int32) → ((x1 = (107 : Int32) → Q ((wI M 174 3))) ∧ (¬ x1 = (107 : Int32) → ((x1 = (108 : Int32) → Q ((wI M 174 7))) ∧ (¬ x1 = (108 : Int32) → ((x1 = (111 : Int32) → Q ((wI M 174 5))) ∧ (¬ x1 = (111 : Int32) → ((x1 = (112 : Int32) → Q ((wI M 174 6))) ∧ (¬ x1 = (112 : Int32) → Q ((wI M 174 2))))))))))))))))))
theorem c_X4_value (l : Launch) (D : va_G) (cA : Nat → ClassId) (sz0 : Nat) (H0 : Heap) (M : WM) (x1 : Int32)   (Q : Int32 → Prop) (sh : Shp M) (h : m_X4_value x1 M  Q) : Met l yX4_value (ws_ yX4_value cX4_value 2 (some .int)) ({ frames := 0, cells := 0, slots := 0, locals := 0 } : Room) (PcW D cA sz0 H0 [.ref (sz0 + 174), .int x1] M) (QW_i D cA sz0 H0 (fun r M' => M' = M ∧ Q r)) 0 0 (Aw sz0) := by
  replace h : ((x1 = (97 : Int32) → Q ((wI M 174 1))) ∧ (¬ x1 = (97 : Int32) → ((x1 = (102 : Int32) → (vp_in ((wI M 174 1)) 40 ∧ Q ((wI M ((5324 + 3 * ((wI M 174 1)).toNatClampNeg)) 1)))) ∧ (¬ x1 = (102 : Int32) → ((x1 = (103 : Int32) → (vp_in ((wI M 174 2)) 40 ∧ Q ((wI M ((5324 + 3 * ((wI M 174 2)).toNatClampNeg)) 1)))) ∧ (¬ x1 = (103 : Int32) → ((x1 = (105 : Int32) → Q ((wI M 174 4))) ∧ (¬ x1 = (105 : Int32) → ((x1 = (107 : Int32) → Q ((wI M 174 3))) ∧ (¬ x1 = (107 : Int32) → ((x1 = (108 : Int32) → Q ((wI M 174 7))) ∧ (¬ x1 = (108 : Int32) → ((x1 = (111 : Int32) → Q ((wI M 174 5))) ∧ (¬ x1 = (111 : Int32) → ((x1 = (112 : Int32) → Q ((wI M 174 6))) ∧ (¬ x1 = (112 : Int32) → Q ((wI M 174 2)))))))))))))))))) := h
  refine Met.ofV (by decide +kernel) (Nat.le_of_ble_eq_true rfl) ?_
  intro p e s m args below meth c cx hnm
  replace cx : Cx p s m args meth c cX4_value 2 RX4 (some .int) D cA sz0 H0 := cx
  refine v_sub (lv' := [(0, .ref (sz0 + 174)), (1, .int x1)]) [0, 1] rfl ?_
  refine v_iload_n (pc := 0) cx dX4_value_0 rfl 1 rfl ?_
  by_cases c1 : x1 = (97 : Int32)
  · replace h := h.1 c1
    refine v_tswI cx (97 : Int32) (tgt := 137) dX4_value_1 c1 (by decide) (by decide) rfl rfl ?_
    refine v_aload_n (pc := 137) cx dX4_value_137 rfl 0 rfl ?_
    refine gq213_X4 (pc := 138) cx dX4_value_138 (sh.k k_174) ?_
    exact v_iret cx rfl dX4_value_141 ⟨Nat.le_of_ble_eq_true rfl, Nat.le_of_ble_eq_true rfl⟩ ⟨rfl, h⟩
  · replace h := h.2 c1
    by_cases c2 : x1 = (102 : Int32)
    · replace h := h.1 c2
      refine v_tswI cx (102 : Int32) (tgt := 105) dX4_value_1 c2 (by decide) (by decide) rfl rfl ?_
      refine v_aload_n (pc := 105) cx dX4_value_105 rfl 0 rfl ?_
      refine gq220_X4 (pc := 106) cx dX4_value_106 (sh.k k_174) (v_some (sh.r r_174_8) ?_)
      refine gq272_X0 (pc := 109) cx dX4_value_109 (sh.k k_0) (v_some (sh.r r_0_0) ?_)
      refine v_aload_n (pc := 112) cx dX4_value_112 rfl 0 rfl ?_
      refine gq213_X4 (pc := 113) cx dX4_value_113 (sh.k k_174) ?_
      obtain ⟨b3, h⟩ := h
      refine v_aald107 (pc := 116) cx dX4_value_116 (sh.k k_1) (sh.l k_1 l_1) b3 (v_some (sh.r (f_1 (lt_in b3))) ?_)
      refine gq258_X5 (pc := 117) cx dX4_value_117 (sh.k (fk_1 (lt_in b3))) ?_
      exact v_iret cx rfl dX4_value_120 ⟨Nat.le_of_ble_eq_true rfl, Nat.le_of_ble_eq_true rfl⟩ ⟨rfl, h⟩
    · replace h := h.2 c2
      by_cases c4 : x1 = (103 : Int32)
      · replace h := h.1 c4
        refine v_tswI cx (103 : Int32) (tgt := 121) dX4_value_1 c4 (by decide) (by decide) rfl rfl ?_
        refine v_aload_n (pc := 121) cx dX4_value_121 rfl 0 rfl ?_
        refine gq220_X4 (pc := 122) cx dX4_value_122 (sh.k k_174) (v_some (sh.r r_174_8) ?_)
        refine gq272_X0 (pc := 125) cx dX4_value_125 (sh.k k_0) (v_some (sh.r r_0_0) ?_)
        refine v_aload_n (pc := 128) cx dX4_value_128 rfl 0 rfl ?_
        refine gq214_X4 (pc := 129) cx dX4_value_129 (sh.k k_174) ?_
        obtain ⟨b5, h⟩ := h
        refine v_aald107 (pc := 132) cx dX4_value_132 (sh.k k_1) (sh.l k_1 l_1) b5 (v_some (sh.r (f_1 (lt_in b5))) ?_)
        refine gq258_X5 (pc := 133) cx dX4_value_133 (sh.k (fk_1 (lt_in b5))) ?_
        exact v_iret cx rfl dX4_value_136 ⟨Nat.le_of_ble_eq_true rfl, Nat.le_of_ble_eq_true rfl⟩ ⟨rfl, h⟩
      · replace h := h.2 c4
        by_cases c6 : x1 = (105 : Int32)
        · replace h := h.1 c6
          refine v_tswI cx (105 : Int32) (tgt := 85) dX4_value_1 c6 (by decide) (by decide) rfl rfl ?_
          refine v_aload_n (pc := 85) cx dX4_value_85 rfl 0 rfl ?_
          refine gq216_X4 (pc := 86) cx dX4_value_86 (sh.k k_174) ?_
          exact v_iret cx rfl dX4_value_89 ⟨Nat.le_of_ble_eq_true rfl, Nat.le_of_ble_eq_true rfl⟩ ⟨rfl, h⟩
        · replace h := h.2 c6
          by_cases c7 : x1 = (107 : Int32)
          · replace h := h.1 c7
            refine v_tswI cx (107 : Int32) (tgt := 80) dX4_value_1 c7 (by decide) (by decide) rfl rfl ?_
            refine v_aload_n (pc := 80) cx dX4_value_80 rfl 0 rfl ?_
            refine gq215_X4 (pc := 81) cx dX4_value_81 (sh.k k_174) ?_
            exact v_iret cx rfl dX4_value_84 ⟨Nat.le_of_ble_eq_true rfl, Nat.le_of_ble_eq_true rfl⟩ ⟨rfl, h⟩
          · replace h := h.2 c7
            by_cases c8 : x1 = (108 : Int32)
            · replace h := h.1 c8
              refine v_tswI cx (108 : Int32) (tgt := 100) dX4_value_1 c8 (by decide) (by decide) rfl rfl ?_
              refine v_aload_n (pc := 100) cx dX4_value_100 rfl 0 rfl ?_
              refine gq219_X4 (pc := 101) cx dX4_value_101 (sh.k k_174) ?_
              exact v_iret cx rfl dX4_value_104 ⟨Nat.le_of_ble_eq_true rfl, Nat.le_of_ble_eq_true rfl⟩ ⟨rfl, h⟩
            · replace h := h.2 c8
              by_cases c9 : x1 = (111 : Int32)
              · replace h := h.1 c9
                refine v_tswI cx (111 : Int32) (tgt := 90) dX4_value_1 c9 (by decide) (by decide) rfl rfl ?_
                refine v_aload_n (pc := 90) cx dX4_value_90 rfl 0 rfl ?_
                refine gq217_X4 (pc := 91) cx dX4_value_91 (sh.k k_174) ?_
                exact v_iret cx rfl dX4_value_94 ⟨Nat.le_of_ble_eq_true rfl, Nat.le_of_ble_eq_true rfl⟩ ⟨rfl, h⟩
              · replace h := h.2 c9
                by_cases c10 : x1 = (112 : Int32)
                · replace h := h.1 c10
                  refine v_tswI cx (112 : Int32) (tgt := 95) dX4_value_1 c10 (by decide) (by decide) rfl rfl ?_
                  refine v_aload_n (pc := 95) cx dX4_value_95 rfl 0 rfl ?_
                  refine gq218_X4 (pc := 96) cx dX4_value_96 (sh.k k_174) ?_
                  exact v_iret cx rfl dX4_value_99 ⟨Nat.le_of_ble_eq_true rfl, Nat.le_of_ble_eq_true rfl⟩ ⟨rfl, h⟩
                · replace h := h.2 c10
                  refine v_tswD cx (vals := [(97 : Int32), (102 : Int32), (103 : Int32), (105 : Int32), (107 : Int32), (108 : Int32), (111 : Int32), (112 : Int32)]) (tgt := 142) dX4_value_1 (List.forall_mem_cons.mpr ⟨c1, List.forall_mem_cons.mpr ⟨c2, List.forall_mem_cons.mpr ⟨c4, List.forall_mem_cons.mpr ⟨c6, List.forall_mem_cons.mpr ⟨c7, List.forall_mem_cons.mpr ⟨c8, List.forall_mem_cons.mpr ⟨c9, List.forall_mem_cons.mpr ⟨c10, fun _ h9 => absurd h9 List.not_mem_nil⟩⟩⟩⟩⟩⟩⟩⟩) (by decide +kernel) ⟨by decide, by decide⟩ rfl ?_
                  refine v_aload_n (pc := 142) cx dX4_value_142 rfl 0 rfl ?_
                  refine gq214_X4 (pc := 143) cx dX4_value_143 (sh.k k_174) ?_
                  exact v_iret cx rfl dX4_value_146 ⟨Nat.le_of_ble_eq_true rfl, Nat.le_of_ble_eq_true rfl⟩ ⟨rfl, h⟩
def yX3_value : MethodName := ⟨RX3, "value", "(I)I"⟩
theorem kd_value {p : Program} {l : Launch} {e : Env} {R : Room} {s : State} {m : MethodId} {args : Array Value} {below : List Frame} {meth : Method} {c : Code} {cells slots : Nat}  {cc : ByteArray} {nL : Nat} {ret : Option FieldType} {D : va_G} {cA : Nat → ClassId} {sz0 : Nat} {H0 : Heap} {pc : Nat} {lv : List (Nat × Value)} {st : List Value} {M : WM}  {own : String} {idx fr lo : Nat} {st0 As : List Value} {Qc : Array Value → State → Outcome → State → Prop} (cx : Cx p s m args meth c cc nL own ret D cA sz0 H0) (hl : Cond.methodLink own idx yX3_value ∈ lw_all) (hM : Met l yX4_value (ws_ yX4_value cX4_value 2 (some .int)) ({ frames := fr, cells := 0, slots := 0, locals := lo } : Room) (PcW D cA sz0 H0 (.ref (sz0 + 174) :: As) M) Qc 0 0 (Aw sz0)) (hR : fr + 1 ≤ R.frames ∧ 8 + (2 + 11) + lo ≤ R.locals) (hk : wk M 174 = 3) (hn : As.length = 1) (hst : st0 = As.reverse ++ .ref (sz0 + 174) :: st) (hcat : (st.map fun v => v.category).sum ≤ 8) (d : decode cc pc = .ok (.invokevirtual idx, 3)) (hb : cells + 0 ≤ R.cells ∧ slots + 0 ≤ R.slots) : ∀ (ls : Array Slot) (H : Heap) (locs : List Loc), lv_has ls nL lv → Wd D cA sz0 H0 M H → va_S (Aw sz0) s.heap H locs → va_Run p l e R s m args below meth c H locs cells slots 0 0 (F0 m pc ls st0) st ((Qc (Value.ref (sz0 + 174) :: As).toArray)) (Aw sz0) := r_A cx hM (lw_U hl q759 q760 q761 q125 q762) (nst_in q758 rfl) (by decide +kernel) hR cl_X4 (by decide) hk hn hst hcat d hb
def m_X10_worth (t : Nat) (M : WM)  (Q : Int32 → Prop) : Prop := (wk M t = 8 ∧ Q ((wI M t 0)))
theorem c_X10_worth (l : Launch) (D : va_G) (cA : Nat → ClassId) (sz0 : Nat) (H0 : Heap) (M : WM) (t : Nat)   (Q : Int32 → Prop) (sh : Shp M) (h : m_X10_worth t M  Q) : Met l yX10_worth (ws_ yX10_worth cX10_worth 2 (some .int)) ({ frames := 0, cells := 0, slots := 0, locals := 0 } : Room) (PcW D cA sz0 H0 [.ref (sz0 + t), .ref (sz0 + 174)] M) (QW_i D cA sz0 H0 (fun r M' => M' = M ∧ Q r)) 0 0 (Aw sz0) := by
  replace h : (wk M t = 8 ∧ Q ((wI M t 0))) := h
  refine Met.ofV (by decide +kernel) (Nat.le_of_ble_eq_true rfl) ?_
  intro p e s m args below meth c cx hnm
  replace cx : Cx p s m args meth c cX10_worth 2 RX10 (some .int) D cA sz0 H0 := cx
  refine v_sub (lv' := [(0, .ref (sz0 + t)), (1, .ref (sz0 + 174))]) [0, 1] rfl ?_
  refine v_aload_n (pc := 0) cx dX10_worth_0 rfl 0 rfl ?_
  obtain ⟨k1, h⟩ := h
  refine gq527_X10 (pc := 1) cx dX10_worth_1 k1 ?_
  exact v_iret cx rfl dX10_worth_4 ⟨Nat.le_of_ble_eq_true rfl, Nat.le_of_ble_eq_true rfl⟩ ⟨rfl, h⟩
def m_X11_worth (t : Nat) (M : WM)  (Q : Int32 → Prop) : Prop := (wk M t = 9 ∧ (m_X4_value ((wI M t 0)) M (fun (a2 : Int32) => Q a2)))
theorem c_X11_worth (l : Launch) (D : va_G) (cA : Nat → ClassId) (sz0 : Nat) (H0 : Heap) (M : WM) (t : Nat)   (Q : Int32 → Prop) (sh : Shp M) (h : m_X11_worth t M  Q) : Met l yX11_worth (ws_ yX11_worth cX11_worth 2 (some .int)) ({ frames := 1, cells := 0, slots := 0, locals := 21 } : Room) (PcW D cA sz0 H0 [.ref (sz0 + t), .ref (sz0 + 174)] M) (QW_i D cA sz0 H0 (fun r M' => M' = M ∧ Q r)) 0 0 (Aw sz0) := by
  replace h : (wk M t = 9 ∧ (m_X4_value ((wI M t 0)) M (fun (a2 : Int32) => Q a2))) := h
  refine Met.ofV (by decide +kernel) (Nat.le_of_ble_eq_true rfl) ?_
  intro p e s m args below meth c cx hnm
  replace cx : Cx p s m args meth c cX11_worth 2 RX11 (some .int) D cA sz0 H0 := cx
  refine v_sub (lv' := [(0, .ref (sz0 + t)), (1, .ref (sz0 + 174))]) [0, 1] rfl ?_
  refine v_aload_n (pc := 0) cx dX11_worth_0 rfl 1 rfl ?_
  refine v_aload_n (pc := 1) cx dX11_worth_1 rfl 0 rfl ?_
  obtain ⟨k1, h⟩ := h
  refine gq624_X11 (pc := 2) cx dX11_worth_2 k1 ?_
  refine v_runp_i (pc := 5) cx (kd_value cx q757 (c_X4_value l D cA sz0 H0 M ((wI M t 0)) _ sh h) ⟨Nat.le_of_ble_eq_true rfl, Nat.le_of_ble_eq_true rfl⟩ (sh.k k_174) (As := [.int (wI M t 0)]) rfl rfl (Nat.le_of_ble_eq_true rfl) dX11_worth_5 ⟨Nat.le_of_ble_eq_true rfl, Nat.le_of_ble_eq_true rfl⟩) (fun a2 hq => ?_)
  replace h := hq
  exact v_iret cx rfl dX11_worth_8 ⟨Nat.le_of_ble_eq_true rfl, Nat.le_of_ble_eq_true rfl⟩ ⟨rfl, h⟩
def m_X9_worked_j53   (x0 : Int32) (x1 : Int32) (x2 : Int32)   (Q : Int32 → WM → Prop) (M : WM) : Prop := ((x2 = 0 → Q ((0 : Int32)) M) ∧ (¬ x2 = 0 → ((x0 = (47 : Int32) → (¬ x2 = 0 ∧ Q ((x1 / x2)) M)) ∧ (¬ x0 = (47 : Int32) → (¬ x2 = 0 ∧ Q ((x1 - x1 / x2 * x2)) M)))))
theorem w_X9_worked_j53 {p : Program} {l : Launch} {e : Env} {s : State} {m : MethodId} {args : Array Value} {below : List Frame} {meth : Method} {c : Code} {D : va_G} {cA : Nat → ClassId} {sz0 : Nat} {H0 : Heap}  {x0 : Int32} {x1 : Int32} {x2 : Int32} {Q : Int32 → WM → Prop}  (cx : Cx p s m args meth c cX9_worked 4 RX9 (some .int) D cA sz0 H0)       (M : WM) (sh : Shp M) (h : m_X9_worked_j53 x0 x1 x2 Q M) : V p l e ({ frames := 0, cells := 0, slots := 0, locals := 0 } : Room) s m args below meth c 4 D cA sz0 H0 0 0 (MQ below (QW_i D cA sz0 H0 (fun r M' => Q r M' ∧ Shp M')) args s 0 0 (Aw sz0)) 53 [(0, .int x0), (1, .int x1), (2, .int x2)] [] M := by
  replace h : ((x2 = 0 → Q ((0 : Int32)) M) ∧ (¬ x2 = 0 → ((x0 = (47 : Int32) → (¬ x2 = 0 ∧ Q ((x1 / x2)) M)) ∧ (¬ x0 = (47 : Int32) → (¬ x2 = 0 ∧ Q ((x1 - x1 / x2 * x2)) M))))) := h
  refine v_iload_n (pc := 53) cx dX9_worked_53 rfl 2 rfl ?_
  refine v_if_ne (pc := 54) cx dX9_worked_54 (tgt := 61) rfl (fun c1 => ?_) (fun c1 => ?_)
  · replace h := h.2 c1
    refine v_iload_n (pc := 61) cx dX9_worked_61 rfl 0 rfl ?_
    refine v_bipush (pc := 62) cx dX9_worked_62 bc_47 ?_
    refine v_icmp_ne (pc := 64) cx dX9_worked_64 (tgt := 73) rfl (fun c2 => ?_) (fun c2 => ?_)
    · replace h := h.2 c2
      refine v_iload_n (pc := 73) cx dX9_worked_73 rfl 1 rfl ?_
      refine v_iload_n (pc := 74) cx dX9_worked_74 rfl 2 rfl ?_
      obtain ⟨q3, h⟩ := h
      refine v_irem (pc := 75) cx dX9_worked_75 q3 ?_
      exact v_iret cx rfl dX9_worked_76 ⟨Nat.le_of_ble_eq_true rfl, Nat.le_of_ble_eq_true rfl⟩ ⟨h, sh⟩
    · replace h := h.1 c2
      refine v_iload_n (pc := 67) cx dX9_worked_67 rfl 1 rfl ?_
      refine v_iload_n (pc := 68) cx dX9_worked_68 rfl 2 rfl ?_
      obtain ⟨q4, h⟩ := h
      refine v_idiv (pc := 69) cx dX9_worked_69 q4 ?_
      refine v_goto (pc := 70) cx dX9_worked_70 (tgt := 76) rfl ?_
      exact v_iret cx rfl dX9_worked_76 ⟨Nat.le_of_ble_eq_true rfl, Nat.le_of_ble_eq_true rfl⟩ ⟨h, sh⟩
  · replace h := h.1 c1
    refine v_iconst (pc := 57) cx dX9_worked_57 ic_0 ?_
    refine v_goto (pc := 58) cx dX9_worked_58 (tgt := 76) rfl ?_
    exact v_iret cx rfl dX9_worked_76 ⟨Nat.le_of_ble_eq_true rfl, Nat.le_of_ble_eq_true rfl⟩ ⟨h, sh⟩
def m_X9_worked (x0 : Int32) (x1 : Int32) (x2 : Int32) (M : WM)  (Q : Int32 → WM → Prop) : Prop := ((x0 = (42 : Int32) → Q ((x1 * x2)) M) ∧ (¬ x0 = (42 : Int32) → ((x0 = (43 : Int32) → Q ((x1 + x2)) M) ∧ (¬ x0 = (43 : Int32) → ((x0 = (45 : Int32) → Q ((x1 - x2)) M) ∧ (¬ x0 = (45 : Int32) → ((x2 = 0 → (∀ M5 : WM, M5 = wPI M 174 0 ((1 : Int32)) → m_X9_worked_j53 x0 x1 x2 Q M5)) ∧ (¬ x2 = 0 → m_X9_worked_j53 x0 x1 x2 Q M))))))))
theorem c_X9_worked (l : Launch) (D : va_G) (cA : Nat → ClassId) (sz0 : Nat) (H0 : Heap) (M : WM) (x0 : Int32) (x1 : Int32) (x2 : Int32)   (Q : Int32 → WM → Prop) (sh : Shp M) (h : m_X9_worked x0 x1 x2 M  Q) : Met l yX9_worked (ws_ yX9_worked cX9_worked 4 (some .int)) ({ frames := 0, cells := 0, slots := 0, locals := 0 } : Room) (PcW D cA sz0 H0 [.int x0, .int x1, .int x2, .ref (sz0 + 174)] M) (QW_i D cA sz0 H0 (fun r M' => Q r M' ∧ Shp M')) 0 0 (Aw sz0) := by
  replace h : ((x0 = (42 : Int32) → Q ((x1 * x2)) M) ∧ (¬ x0 = (42 : Int32) → ((x0 = (43 : Int32) → Q ((x1 + x2)) M) ∧ (¬ x0 = (43 : Int32) → ((x0 = (45 : Int32) → Q ((x1 - x2)) M) ∧ (¬ x0 = (45 : Int32) → ((x2 = 0 → (∀ M5 : WM, M5 = wPI M 174 0 ((1 : Int32)) → m_X9_worked_j53 x0 x1 x2 Q M5)) ∧ (¬ x2 = 0 → m_X9_worked_j53 x0 x1 x2 Q M)))))))) := h
  refine Met.ofV (by decide +kernel) (Nat.le_of_ble_eq_true rfl) ?_
  intro p e s m args below meth c cx hnm
  replace cx : Cx p s m args meth c cX9_worked 4 RX9 (some .int) D cA sz0 H0 := cx
  refine v_sub (lv' := [(0, .int x0), (1, .int x1), (2, .int x2), (3, .ref (sz0 + 174))]) [0, 1, 2, 3] rfl ?_
  refine v_iload_n (pc := 0) cx dX9_worked_0 rfl 0 rfl ?_
  by_cases c1 : x0 = (42 : Int32)
  · replace h := h.1 c1
    refine v_tswI cx (42 : Int32) (tgt := 40) dX9_worked_1 c1 (by decide) (by decide) rfl rfl ?_
    refine v_iload_n (pc := 40) cx dX9_worked_40 rfl 1 rfl ?_
    refine v_iload_n (pc := 41) cx dX9_worked_41 rfl 2 rfl ?_
    refine v_imul (pc := 42) cx dX9_worked_42 ?_
    exact v_iret cx rfl dX9_worked_43 ⟨Nat.le_of_ble_eq_true rfl, Nat.le_of_ble_eq_true rfl⟩ ⟨h, sh⟩
  · replace h := h.2 c1
    by_cases c2 : x0 = (43 : Int32)
    · replace h := h.1 c2
      refine v_tswI cx (43 : Int32) (tgt := 32) dX9_worked_1 c2 (by decide) (by decide) rfl rfl ?_
      refine v_iload_n (pc := 32) cx dX9_worked_32 rfl 1 rfl ?_
      refine v_iload_n (pc := 33) cx dX9_worked_33 rfl 2 rfl ?_
      refine v_iadd (pc := 34) cx dX9_worked_34 ?_
      exact v_iret cx rfl dX9_worked_35 ⟨Nat.le_of_ble_eq_true rfl, Nat.le_of_ble_eq_true rfl⟩ ⟨h, sh⟩
    · replace h := h.2 c2
      by_cases c3 : x0 = (45 : Int32)
      · replace h := h.1 c3
        refine v_tswI cx (45 : Int32) (tgt := 36) dX9_worked_1 c3 (by decide) (by decide) rfl rfl ?_
        refine v_iload_n (pc := 36) cx dX9_worked_36 rfl 1 rfl ?_
        refine v_iload_n (pc := 37) cx dX9_worked_37 rfl 2 rfl ?_
        refine v_isub (pc := 38) cx dX9_worked_38 ?_
        exact v_iret cx rfl dX9_worked_39 ⟨Nat.le_of_ble_eq_true rfl, Nat.le_of_ble_eq_true rfl⟩ ⟨h, sh⟩
      · replace h := h.2 c3
        refine v_tswD cx (vals := [(42 : Int32), (43 : Int32), (45 : Int32)]) (tgt := 44) dX9_worked_1 (List.forall_mem_cons.mpr ⟨c1, List.forall_mem_cons.mpr ⟨c2, List.forall_mem_cons.mpr ⟨c3, fun _ h9 => absurd h9 List.not_mem_nil⟩⟩⟩) (by decide +kernel) ⟨by decide, by decide⟩ rfl ?_
        refine v_iload_n (pc := 44) cx dX9_worked_44 rfl 2 rfl ?_
        refine v_if_ne (pc := 45) cx dX9_worked_45 (tgt := 53) rfl (fun c4 => ?_) (fun c4 => ?_)
        · replace h := h.2 c4
          refine v_sub (lv' := [(0, .int x0), (1, .int x1), (2, .int x2)]) [0, 1, 2] rfl ?_
          exact w_X9_worked_j53 cx M sh h
        · replace h := h.1 c4
          refine v_aload_n (pc := 48) cx dX9_worked_48 rfl 3 rfl ?_
          refine v_iconst (pc := 49) cx dX9_worked_49 ic_1 ?_
          refine pq222_X4 (pc := 50) cx (Or.inr rfl) dX9_worked_50 (sh.k k_174) ?_
          refine v_wld (fun M5 eM5 => ?_)
          replace h := h M5 eM5
          replace sh : Shp M5 := Shp_PI sh eM5
          refine v_sub (lv' := [(0, .int x0), (1, .int x1), (2, .int x2)]) [0, 1, 2] rfl ?_
          exact w_X9_worked_j53 cx M5 sh h
def yX8_worth : MethodName := ⟨RX8, "worth", "(LLetterHeaps$Asked;)I"⟩
def HDw (l : Launch) (D : va_G) (cA : Nat → ClassId) (sz0 : Nat) (H0 : Heap) (d x : Nat) (M : WM) (Q : Int32 → WM → Prop) : Prop := (wk M x = 8 ∧ Met l yX10_worth (ws_ yX10_worth cX10_worth 2 (some .int)) ({ frames := 0, cells := 0, slots := 0, locals := 0 } : Room) (PcW D cA sz0 H0 [.ref (sz0 + x), .ref (sz0 + 174)] M) (QW_i D cA sz0 H0 (fun r M' => Q r M' ∧ Shp M')) 0 0 (Aw sz0)) ∨ (wk M x = 9 ∧ Met l yX11_worth (ws_ yX11_worth cX11_worth 2 (some .int)) ({ frames := 1, cells := 0, slots := 0, locals := 21 } : Room) (PcW D cA sz0 H0 [.ref (sz0 + x), .ref (sz0 + 174)] M) (QW_i D cA sz0 H0 (fun r M' => Q r M' ∧ Shp M')) 0 0 (Aw sz0)) ∨ (wk M x = 7 ∧ Met l yX9_worth (ws_ yX9_worth cX9_worth 4 (some .int)) ({ frames := 2 + d, cells := 0, slots := 0, locals := 44 + 40 * d } : Room) (PcW D cA sz0 H0 [.ref (sz0 + x), .ref (sz0 + 174)] M) (QW_i D cA sz0 H0 (fun r M' => Q r M' ∧ Shp M')) 0 0 (Aw sz0))
theorem kd_worth {p : Program} {l : Launch} {e : Env} {R : Room} {s : State} {m : MethodId} {args : Array Value} {below : List Frame} {meth : Method} {c : Code} {cells slots : Nat}  {cc : ByteArray} {nL : Nat} {ret : Option FieldType} {D : va_G} {cA : Nat → ClassId} {sz0 : Nat} {H0 : Heap} {pc : Nat} {lv : List (Nat × Value)} {st : List Value} {M : WM}  {own : String} {idx d0 x : Nat} {st0 As : List Value} {Q : Int32 → WM → Prop} (cx : Cx p s m args meth c cc nL own ret D cA sz0 H0) (hl : Cond.methodLink own idx yX8_worth ∈ lw_all) (hM : HDw l D cA sz0 H0 d0 x M Q) (hR : 2 + d0 + 1 ≤ R.frames ∧ 8 + (4 + 11) + (44 + 40 * d0) ≤ R.locals) (hAs : As = [.ref (sz0 + 174)]) (hst : st0 = As.reverse ++ .ref (sz0 + x) :: st) (hcat : (st.map fun v => v.category).sum ≤ 8) (d : decode cc pc = .ok (.invokevirtual idx, 3)) (hb : cells + 0 ≤ R.cells ∧ slots + 0 ≤ R.slots) : ∀ (ls : Array Slot) (H : Heap) (locs : List Loc), lv_has ls nL lv → Wd D cA sz0 H0 M H → va_S (Aw sz0) s.heap H locs → va_Run p l e R s m args below meth c H locs cells slots 0 0 (F0 m pc ls st0) st (QW_i D cA sz0 H0 (fun r M' => Q r M' ∧ Shp M') (Value.ref (sz0 + x) :: As).toArray) (Aw sz0) := by
  subst hAs
  rcases hM with ⟨hk, hM⟩ | ⟨hk, hM⟩ | ⟨hk, hM⟩
  · exact r_A cx (n := 1) hM (lw_U hl q753 q763 q764 q131 q765) (nst_in q752 rfl) (by decide +kernel) ⟨by omega, by omega⟩ cl_X10 (by decide) hk rfl hst hcat d hb
  · exact r_A cx (n := 1) hM (lw_U hl q753 q754 q755 q138 q756) (nst_in q752 rfl) (by decide +kernel) ⟨by omega, by omega⟩ cl_X11 (by decide) hk rfl hst hcat d hb
  · exact r_A cx (n := 1) hM (lw_U hl q753 q766 q767 q130 q768) (nst_in q752 rfl) (by decide +kernel) ⟨by omega, by omega⟩ cl_X9 (by decide) hk rfl hst hcat d hb

def m_X9_worth_l14 (Fworth : Nat → WM → (Int32 → WM → Prop) → Prop)     (Q : Int32 → WM → Prop) : Nat → Int32 → Option Nat → WM → Prop
  | 0, _, _, _ => False
  | n + 1, x2, x3, M => ((x3 = none → Q x2 M) ∧ (∀ r2, x3 = some r2 → (wk M r2 = 7 ∧ (wk M r2 = 7 ∧ (∃ r5, wR M r2 1 = some r5 ∧ (Fworth r5 M (fun (a6 : Int32) (M7 : WM) => (m_X9_worked ((wI M r2 0)) x2 a6 M7 (fun (a8 : Int32) (M9 : WM) => (wk M9 r2 = 7 ∧ (∀ o11 : Option Nat, o11 = (wR M9 r2 2) → m_X9_worth_l14 Fworth Q n a8 o11 M9)))))))))))
theorem w_X9_worth_l14 {p : Program} {l : Launch} {e : Env} {s : State} {m : MethodId} {args : Array Value} {below : List Frame} {meth : Method} {c : Code} {D : va_G} {cA : Nat → ClassId} {sz0 : Nat} {H0 : Heap} {d : Nat} {Fworth : Nat → WM → (Int32 → WM → Prop) → Prop} {Q : Int32 → WM → Prop}  (cx : Cx p s m args meth c cX9_worth 4 RX9 (some .int) D cA sz0 H0) (hFworth : ∀ (x : Nat) (M : WM) (Q : Int32 → WM → Prop) (sh : Shp M), Fworth x M Q → HDw l D cA sz0 H0 d x M Q)    : ∀ (n : Nat) (x2 : Int32) (x3 : Option Nat)  (M : WM) (sh : Shp M), m_X9_worth_l14 Fworth Q n x2 x3 M → V p l e ({ frames := 2 + (d + 1), cells := 0, slots := 0, locals := 44 + 40 * (d + 1) } : Room) s m args below meth c 4 D cA sz0 H0 0 0 (MQ below (QW_i D cA sz0 H0 (fun r M' => Q r M' ∧ Shp M')) args s 0 0 (Aw sz0)) 14 [(1, .ref (sz0 + 174)), (2, .int x2), (3, vr sz0 x3)] [] M := by
  intro n
  induction n with
  | zero => intro x2 x3 M sh h; exact h.elim
  | succ n ih =>
    intro x2 x3 M sh h
    replace h : ((x3 = none → Q x2 M) ∧ (∀ r2, x3 = some r2 → (wk M r2 = 7 ∧ (wk M r2 = 7 ∧ (∃ r5, wR M r2 1 = some r5 ∧ (Fworth r5 M (fun (a6 : Int32) (M7 : WM) => (m_X9_worked ((wI M r2 0)) x2 a6 M7 (fun (a8 : Int32) (M9 : WM) => (wk M9 r2 = 7 ∧ (∀ o11 : Option Nat, o11 = (wR M9 r2 2) → m_X9_worth_l14 Fworth Q n a8 o11 M9))))))))))) := h
    refine v_aload_nQ (pc := 14) cx dX9_worth_14 rfl 2 rfl ?_
    refine v_ifnull (pc := 15) cx dX9_worth_15 (tgt := 44) rfl (fun c1 => ?_) (fun r2 c1 => ?_)
    · replace h := h.1 c1
      subst c1
      refine v_iload_n (pc := 44) cx dX9_worth_44 rfl 1 rfl ?_
      exact v_iret cx rfl dX9_worth_45 ⟨Nat.le_of_ble_eq_true rfl, Nat.le_of_ble_eq_true rfl⟩ ⟨h, sh⟩
    · replace h := h.2 r2 c1
      subst c1
      show V p l e _ s m args below meth c 4 D cA sz0 H0 _ _ _ _ [(1, .ref (sz0 + 174)), (2, .int x2), (3, .ref (sz0 + r2))] [] _
      refine v_aload_n (pc := 18) cx dX9_worth_18 rfl 2 rfl ?_
      obtain ⟨k3, h⟩ := h
      refine gq632_X9 (pc := 19) cx dX9_worth_19 k3 ?_
      refine v_iload_n (pc := 22) cx dX9_worth_22 rfl 1 rfl ?_
      refine v_aload_n (pc := 23) cx dX9_worth_23 rfl 2 rfl ?_
      obtain ⟨k4, h⟩ := h
      obtain ⟨r5, er5, h⟩ := h
      refine gq633_X9 (pc := 24) cx dX9_worth_24 k4 (v_some er5 ?_)
      refine v_aload_n (pc := 27) cx dX9_worth_27 rfl 0 rfl ?_
      refine v_run_i (pc := 28) cx (kd_worth cx q769 (hFworth r5 M _ sh h) ⟨by dsimp only; omega, by dsimp only; omega⟩ (As := [.ref (sz0 + 174)]) rfl rfl (Nat.le_of_ble_eq_true rfl) dX9_worth_28 ⟨Nat.le_of_ble_eq_true rfl, Nat.le_of_ble_eq_true rfl⟩) (fun a6 M7 hq => ?_)
      obtain ⟨h, sh⟩ := hq
      refine v_aload_n (pc := 31) cx dX9_worth_31 rfl 0 rfl ?_
      refine v_run_i (pc := 32) cx (kcq770_X9 cx (c_X9_worked l D cA sz0 H0 M7 ((wI M r2 0)) x2 a6  _ sh h) ⟨by dsimp only; omega, by dsimp only; omega⟩ (As := [.int (wI M r2 0), .int x2, .int a6, .ref (sz0 + 174)]) rfl rfl (Nat.le_of_ble_eq_true rfl) dX9_worth_32 ⟨Nat.le_of_ble_eq_true rfl, Nat.le_of_ble_eq_true rfl⟩) (fun a8 M9 hq => ?_)
      obtain ⟨h, sh⟩ := hq
      refine v_istore_n (pc := 35) cx dX9_worth_35 rfl (Nat.le_of_ble_eq_true rfl) (lv' := [(2, .int a8), (1, .ref (sz0 + 174)), (3, .ref (sz0 + r2))]) rfl ?_
      refine v_aload_n (pc := 36) cx dX9_worth_36 rfl 2 rfl ?_
      obtain ⟨k10, h⟩ := h
      refine gq634_X9 (pc := 37) cx dX9_worth_37 k10 ?_
      refine v_topo (fun o11 eo11 => ?_)
      replace h := h o11 eo11
      refine v_astore_nQ (pc := 40) cx dX9_worth_40 rfl (Nat.le_of_ble_eq_true rfl) (lv' := [(3, vr sz0 o11), (2, .int a8), (1, .ref (sz0 + 174))]) rfl ?_
      refine v_goto (pc := 41) cx dX9_worth_41 (tgt := 14) rfl ?_
      refine v_sub (lv' := [(1, .ref (sz0 + 174)), (2, .int a8), (3, vr sz0 o11)]) [2, 1, 0] rfl ?_
      exact ih a8 o11 M9 sh h
def b_X9_worth (Fworth : Nat → WM → (Int32 → WM → Prop) → Prop) (t : Nat) (M : WM)  (Q : Int32 → WM → Prop) : Prop := (wk M t = 7 ∧ (∃ r2, wR M t 1 = some r2 ∧ (Fworth r2 M (fun (a3 : Int32) (M4 : WM) => (wk M4 t = 7 ∧ (∀ o6 : Option Nat, o6 = (wR M4 t 2) → (∃ n0, m_X9_worth_l14 Fworth Q n0 a3 o6 M4)))))))
theorem cb_X9_worth {l : Launch} {D : va_G} {cA : Nat → ClassId} {sz0 : Nat} {H0 : Heap} {d : Nat} {Fworth : Nat → WM → (Int32 → WM → Prop) → Prop} (hFworth : ∀ (x : Nat) (M : WM) (Q : Int32 → WM → Prop) (sh : Shp M), Fworth x M Q → HDw l D cA sz0 H0 d x M Q) (M : WM) (t : Nat)   (Q : Int32 → WM → Prop) (sh : Shp M) (h : b_X9_worth Fworth t M  Q) : Met l yX9_worth (ws_ yX9_worth cX9_worth 4 (some .int)) ({ frames := 2 + (d + 1), cells := 0, slots := 0, locals := 44 + 40 * (d + 1) } : Room) (PcW D cA sz0 H0 [.ref (sz0 + t), .ref (sz0 + 174)] M) (QW_i D cA sz0 H0 (fun r M' => Q r M' ∧ Shp M')) 0 0 (Aw sz0) := by
  replace h : (wk M t = 7 ∧ (∃ r2, wR M t 1 = some r2 ∧ (Fworth r2 M (fun (a3 : Int32) (M4 : WM) => (wk M4 t = 7 ∧ (∀ o6 : Option Nat, o6 = (wR M4 t 2) → (∃ n0, m_X9_worth_l14 Fworth Q n0 a3 o6 M4))))))) := h
  refine Met.ofV (by decide +kernel) (Nat.le_of_ble_eq_true rfl) ?_
  intro p e s m args below meth c cx hnm
  replace cx : Cx p s m args meth c cX9_worth 4 RX9 (some .int) D cA sz0 H0 := cx
  refine v_sub (lv' := [(0, .ref (sz0 + t)), (1, .ref (sz0 + 174))]) [0, 1] rfl ?_
  refine v_aload_n (pc := 0) cx dX9_worth_0 rfl 0 rfl ?_
  obtain ⟨k1, h⟩ := h
  obtain ⟨r2, er2, h⟩ := h
  refine gq633_X9 (pc := 1) cx dX9_worth_1 k1 (v_some er2 ?_)
  refine v_aload_n (pc := 4) cx dX9_worth_4 rfl 1 rfl ?_
  refine v_run_i (pc := 5) cx (kd_worth cx q769 (hFworth r2 M _ sh h) ⟨by dsimp only; omega, by dsimp only; omega⟩ (As := [.ref (sz0 + 174)]) rfl rfl (Nat.le_of_ble_eq_true rfl) dX9_worth_5 ⟨Nat.le_of_ble_eq_true rfl, Nat.le_of_ble_eq_true rfl⟩) (fun a3 M4 hq => ?_)
  obtain ⟨h, sh⟩ := hq
  refine v_istore_n (pc := 8) cx dX9_worth_8 rfl (Nat.le_of_ble_eq_true rfl) (lv' := [(2, .int a3), (0, .ref (sz0 + t)), (1, .ref (sz0 + 174))]) rfl ?_
  refine v_aload_n (pc := 9) cx dX9_worth_9 rfl 1 rfl ?_
  obtain ⟨k5, h⟩ := h
  refine gq634_X9 (pc := 10) cx dX9_worth_10 k5 ?_
  refine v_topo (fun o6 eo6 => ?_)
  replace h := h o6 eo6
  refine v_astore_nQ (pc := 13) cx dX9_worth_13 rfl (Nat.le_of_ble_eq_true rfl) (lv' := [(3, vr sz0 o6), (2, .int a3), (0, .ref (sz0 + t)), (1, .ref (sz0 + 174))]) rfl ?_
  refine v_sub (lv' := [(1, .ref (sz0 + 174)), (2, .int a3), (3, vr sz0 o6)]) [3, 1, 0] rfl ?_
  obtain ⟨n0, h⟩ := h
  exact w_X9_worth_l14 cx hFworth n0 a3 o6 M4 sh h
def m_worth : Nat → Nat → WM → (Int32 → WM → Prop) → Prop
  | 0, _, _, _ => False
  | d + 1, x, M, Q => (wk M x = 8 ∧ m_X10_worth x M (fun r => Q r M)) ∨ (wk M x = 9 ∧ m_X11_worth x M (fun r => Q r M)) ∨ (wk M x = 7 ∧ b_X9_worth (m_worth d) x M Q)
theorem c_worth (l : Launch) (D : va_G) (cA : Nat → ClassId) (sz0 : Nat) (H0 : Heap) : ∀ (d x : Nat) (M : WM) (Q : Int32 → WM → Prop) (sh : Shp M), m_worth d x M Q → HDw l D cA sz0 H0 d x M Q := by
  intro d
  induction d with
  | zero => intro x M Q sh h; exact h.elim
  | succ d ih =>
    intro x M Q sh h
    rcases h with ⟨hk, h⟩ | ⟨hk, h⟩ | ⟨hk, h⟩
    · exact Or.inl ⟨hk, met_pure (c_X10_worth l D cA sz0 H0 M x _ sh h) sh⟩
    · exact Or.inr (Or.inl ⟨hk, met_pure (c_X11_worth l D cA sz0 H0 M x _ sh h) sh⟩)
    · exact Or.inr (Or.inr (⟨hk, cb_X9_worth ih M x Q sh h⟩))

def m_X8_told (t : Nat) (M : WM)  (Q : Int32 → WM → Prop) : Prop := (∀ M1 : WM, M1 = wPI M 174 0 ((0 : Int32)) → (∃ d0, d0 ≤ 40 ∧ (m_worth d0 t M1 (fun (a2 : Int32) (M3 : WM) => (((wI M3 174 0) = 0 → Q a2 M3) ∧ (¬ (wI M3 174 0) = 0 → Q ((0 : Int32)) M3))))))
theorem c_X8_told (l : Launch) (D : va_G) (cA : Nat → ClassId) (sz0 : Nat) (H0 : Heap) (M : WM) (t : Nat)   (Q : Int32 → WM → Prop) (sh : Shp M) (h : m_X8_told t M  Q) : Met l yX8_told (ws_ yX8_told cX8_told 3 (some .int)) ({ frames := 43, cells := 0, slots := 0, locals := 1667 } : Room) (PcW D cA sz0 H0 [.ref (sz0 + t), .ref (sz0 + 174)] M) (QW_i D cA sz0 H0 (fun r M' => Q r M' ∧ Shp M')) 0 0 (Aw sz0) := by
  replace h : (∀ M1 : WM, M1 = wPI M 174 0 ((0 : Int32)) → (∃ d0, d0 ≤ 40 ∧ (m_worth d0 t M1 (fun (a2 : Int32) (M3 : WM) => (((wI M3 174 0) = 0 → Q a2 M3) ∧ (¬ (wI M3 174 0) = 0 → Q ((0 : Int32)) M3)))))) := h
  refine Met.ofV (by decide +kernel) (Nat.le_of_ble_eq_true rfl) ?_
  intro p e s m args below meth c cx hnm
  replace cx : Cx p s m args meth c cX8_told 3 RX8 (some .int) D cA sz0 H0 := cx
  refine v_sub (lv' := [(0, .ref (sz0 + t)), (1, .ref (sz0 + 174))]) [0, 1] rfl ?_
  refine v_aload_n (pc := 0) cx dX8_told_0 rfl 1 rfl ?_
  refine v_iconst (pc := 1) cx dX8_told_1 ic_0 ?_
  refine pq223_X4 (pc := 2) cx (Or.inl rfl) dX8_told_2 (sh.k k_174) ?_
  refine v_wld (fun M1 eM1 => ?_)
  replace h := h M1 eM1
  replace sh : Shp M1 := Shp_PI sh eM1
  refine v_aload_n (pc := 5) cx dX8_told_5 rfl 0 rfl ?_
  refine v_aload_n (pc := 6) cx dX8_told_6 rfl 1 rfl ?_
  obtain ⟨d0, hd0, h⟩ := h
  refine v_run_i (pc := 7) cx (kd_worth cx q796 (c_worth l D cA sz0 H0 d0 t M1 _ sh h) ⟨by dsimp only; omega, by dsimp only; omega⟩ (As := [.ref (sz0 + 174)]) rfl rfl (Nat.le_of_ble_eq_true rfl) dX8_told_7 ⟨Nat.le_of_ble_eq_true rfl, Nat.le_of_ble_eq_true rfl⟩) (fun a2 M3 hq => ?_)
  obtain ⟨h, sh⟩ := hq
  refine v_istore_n (pc := 10) cx dX8_told_10 rfl (Nat.le_of_ble_eq_true rfl) (lv' := [(2, .int a2), (0, .ref (sz0 + t)), (1, .ref (sz0 + 174))]) rfl ?_
  refine v_aload_n (pc := 11) cx dX8_told_11 rfl 2 rfl ?_
  refine gq223_X4 (pc := 12) cx dX8_told_12 (sh.k k_174) ?_
  refine v_if_eq (pc := 15) cx dX8_told_15 (tgt := 22) rfl (fun c4 => ?_) (fun c4 => ?_)
  · replace h := h.1 c4
    refine v_iload_n (pc := 22) cx dX8_told_22 rfl 0 rfl ?_
    exact v_iret cx rfl dX8_told_23 ⟨Nat.le_of_ble_eq_true rfl, Nat.le_of_ble_eq_true rfl⟩ ⟨h, sh⟩
  · replace h := h.2 c4
    refine v_iconst (pc := 18) cx dX8_told_18 ic_0 ?_
    refine v_goto (pc := 19) cx dX8_told_19 (tgt := 23) rfl ?_
    exact v_iret cx rfl dX8_told_23 ⟨Nat.le_of_ble_eq_true rfl, Nat.le_of_ble_eq_true rfl⟩ ⟨h, sh⟩
theorem kd_told {p : Program} {l : Launch} {e : Env} {R : Room} {s : State} {m : MethodId} {args : Array Value} {below : List Frame} {meth : Method} {c : Code} {cells slots : Nat}  {cc : ByteArray} {nL : Nat} {ret : Option FieldType} {D : va_G} {cA : Nat → ClassId} {sz0 : Nat} {H0 : Heap} {pc : Nat} {lv : List (Nat × Value)} {st : List Value} {M : WM}  {own : String} {idx x fr lo : Nat} {st0 As : List Value} {Qc : Array Value → State → Outcome → State → Prop} (cx : Cx p s m args meth c cc nL own ret D cA sz0 H0) (hl : Cond.methodLink own idx yX8_told ∈ lw_all) (hM : Met l yX8_told (ws_ yX8_told cX8_told 3 (some .int)) ({ frames := fr, cells := 0, slots := 0, locals := lo } : Room) (PcW D cA sz0 H0 (.ref (sz0 + x) :: As) M) Qc 0 0 (Aw sz0)) (hR : fr + 1 ≤ R.frames ∧ 8 + (3 + 11) + lo ≤ R.locals) (hk : wk M x = 7 ∨ wk M x = 8 ∨ wk M x = 9) (hn : As.length = 1) (hst : st0 = As.reverse ++ .ref (sz0 + x) :: st) (hcat : (st.map fun v => v.category).sum ≤ 8) (d : decode cc pc = .ok (.invokevirtual idx, 3)) (hb : cells + 0 ≤ R.cells ∧ slots + 0 ≤ R.slots) : ∀ (ls : Array Slot) (H : Heap) (locs : List Loc), lv_has ls nL lv → Wd D cA sz0 H0 M H → va_S (Aw sz0) s.heap H locs → va_Run p l e R s m args below meth c H locs cells slots 0 0 (F0 m pc ls st0) st ((Qc (Value.ref (sz0 + x) :: As).toArray)) (Aw sz0) := by
  rcases hk with hk | hk | hk
  · exact r_U cx hM (lw_U hl q791 q794 q790 q129 q795) rfl (by decide +kernel) hR cl_X9 (by decide) hk hn hst hcat d hb
  · exact r_U cx hM (lw_U hl q791 q793 q790 q129 q795) rfl (by decide +kernel) hR cl_X10 (by decide) hk hn hst hcat d hb
  · exact r_U cx hM (lw_U hl q791 q792 q790 q129 q795) rfl (by decide +kernel) hR cl_X11 (by decide) hk hn hst hcat d hb

def m_X15_holds_j77   (y0 : Int32)   (Q : Int32 → WM → Prop) (M : WM) : Prop := (((wI M 174 0) = 0 → ((y0 = 0 → Q ((0 : Int32)) M) ∧ (¬ y0 = 0 → Q ((1 : Int32)) M))) ∧ (¬ (wI M 174 0) = 0 → Q ((2 : Int32)) M))
theorem w_X15_holds_j77 {p : Program} {l : Launch} {e : Env} {s : State} {m : MethodId} {args : Array Value} {below : List Frame} {meth : Method} {c : Code} {D : va_G} {cA : Nat → ClassId} {sz0 : Nat} {H0 : Heap}  {y0 : Int32} {Q : Int32 → WM → Prop}  (cx : Cx p s m args meth c cX15_holds 5 RX15 (some .int) D cA sz0 H0)       (M : WM) (sh : Shp M) (h : m_X15_holds_j77 y0 Q M) : V p l e ({ frames := 43, cells := 0, slots := 0, locals := 1667 } : Room) s m args below meth c 5 D cA sz0 H0 0 0 (MQ below (QW_i D cA sz0 H0 (fun r M' => Q r M' ∧ Shp M')) args s 0 0 (Aw sz0)) 77 [(1, .ref (sz0 + 174))] [.int y0] M := by
  replace h : (((wI M 174 0) = 0 → ((y0 = 0 → Q ((0 : Int32)) M) ∧ (¬ y0 = 0 → Q ((1 : Int32)) M))) ∧ (¬ (wI M 174 0) = 0 → Q ((2 : Int32)) M)) := h
  refine v_istore (pc := 77) cx dX15_holds_77 (Nat.le_of_ble_eq_true rfl) (lv' := [(4, .int y0), (1, .ref (sz0 + 174))]) rfl ?_
  refine v_aload_n (pc := 79) cx dX15_holds_79 rfl 1 rfl ?_
  refine gq221_X4 (pc := 80) cx dX15_holds_80 (sh.k k_174) ?_
  refine v_if_eq (pc := 83) cx dX15_holds_83 (tgt := 90) rfl (fun c1 => ?_) (fun c1 => ?_)
  · replace h := h.1 c1
    refine v_iload (pc := 90) cx dX15_holds_90 0 rfl ?_
    refine v_if_eq (pc := 92) cx dX15_holds_92 (tgt := 99) rfl (fun c2 => ?_) (fun c2 => ?_)
    · replace h := h.1 c2
      refine v_iconst (pc := 99) cx dX15_holds_99 ic_0 ?_
      exact v_iret cx rfl dX15_holds_100 ⟨Nat.le_of_ble_eq_true rfl, Nat.le_of_ble_eq_true rfl⟩ ⟨h, sh⟩
    · replace h := h.2 c2
      refine v_iconst (pc := 95) cx dX15_holds_95 ic_1 ?_
      refine v_goto (pc := 96) cx dX15_holds_96 (tgt := 100) rfl ?_
      exact v_iret cx rfl dX15_holds_100 ⟨Nat.le_of_ble_eq_true rfl, Nat.le_of_ble_eq_true rfl⟩ ⟨h, sh⟩
  · replace h := h.2 c1
    refine v_iconst (pc := 86) cx dX15_holds_86 ic_2 ?_
    refine v_goto (pc := 87) cx dX15_holds_87 (tgt := 100) rfl ?_
    exact v_iret cx rfl dX15_holds_100 ⟨Nat.le_of_ble_eq_true rfl, Nat.le_of_ble_eq_true rfl⟩ ⟨h, sh⟩
def m_X15_holds (t : Nat) (M : WM)  (Q : Int32 → WM → Prop) : Prop := (∀ M1 : WM, M1 = wPI M 174 0 ((0 : Int32)) → (wk M1 t = 12 ∧ (∃ r3, wR M1 t 0 = some r3 ∧ (∃ d0, d0 ≤ 40 ∧ (m_worth d0 r3 M1 (fun (a4 : Int32) (M5 : WM) => (wk M5 t = 12 ∧ (∃ r7, wR M5 t 1 = some r7 ∧ (∃ d0, d0 ≤ 40 ∧ (m_worth d0 r7 M5 (fun (a8 : Int32) (M9 : WM) => (wk M9 t = 12 ∧ (((wI M9 t 2) = (60 : Int32) → ((a8 ≤ a4 → m_X15_holds_j77 ((0 : Int32)) Q M9) ∧ (¬ a8 ≤ a4 → m_X15_holds_j77 ((1 : Int32)) Q M9))) ∧ (¬ (wI M9 t 2) = (60 : Int32) → (wk M9 t = 12 ∧ (((wI M9 t 2) = (62 : Int32) → ((a4 ≤ a8 → m_X15_holds_j77 ((0 : Int32)) Q M9) ∧ (¬ a4 ≤ a8 → m_X15_holds_j77 ((1 : Int32)) Q M9))) ∧ (¬ (wI M9 t 2) = (62 : Int32) → ((a4 = a8 → m_X15_holds_j77 ((1 : Int32)) Q M9) ∧ (¬ a4 = a8 → m_X15_holds_j77 ((0 : Int32)) Q M9)))))))))))))))))))
theorem c_X15_holds (l : Launch) (D : va_G) (cA : Nat → ClassId) (sz0 : Nat) (H0 : Heap) (M : WM) (t : Nat)   (Q : Int32 → WM → Prop) (sh : Shp M) (h : m_X15_holds t M  Q) : Met l yX15_holds (ws_ yX15_holds cX15_holds 5 (some .int)) ({ frames := 43, cells := 0, slots := 0, locals := 1667 } : Room) (PcW D cA sz0 H0 [.ref (sz0 + t), .ref (sz0 + 174)] M) (QW_i D cA sz0 H0 (fun r M' => Q r M' ∧ Shp M')) 0 0 (Aw sz0) := by
  replace h : (∀ M1 : WM, M1 = wPI M 174 0 ((0 : Int32)) → (wk M1 t = 12 ∧ (∃ r3, wR M1 t 0 = some r3 ∧ (∃ d0, d0 ≤ 40 ∧ (m_worth d0 r3 M1 (fun (a4 : Int32) (M5 : WM) => (wk M5 t = 12 ∧ (∃ r7, wR M5 t 1 = some r7 ∧ (∃ d0, d0 ≤ 40 ∧ (m_worth d0 r7 M5 (fun (a8 : Int32) (M9 : WM) => (wk M9 t = 12 ∧ (((wI M9 t 2) = (60 : Int32) → ((a8 ≤ a4 → m_X15_holds_j77 ((0 : Int32)) Q M9) ∧ (¬ a8 ≤ a4 → m_X15_holds_j77 ((1 : Int32)) Q M9))) ∧ (¬ (wI M9 t 2) = (60 : Int32) → (wk M9 t = 12 ∧ (((wI M9 t 2) = (62 : Int32) → ((a4 ≤ a8 → m_X15_holds_j77 ((0 : Int32)) Q M9) ∧ (¬ a4 ≤ a8 → m_X15_holds_j77 ((1 : Int32)) Q M9))) ∧ (¬ (wI M9 t 2) = (62 : Int32) → ((a4 = a8 → m_X15_holds_j77 ((1 : Int32)) Q M9) ∧ (¬ a4 = a8 → m_X15_holds_j77 ((0 : Int32)) Q M9))))))))))))))))))) := h
  refine Met.ofV (by decide +kernel) (Nat.le_of_ble_eq_true rfl) ?_
  intro p e s m args below meth c cx hnm
  replace cx : Cx p s m args meth c cX15_holds 5 RX15 (some .int) D cA sz0 H0 := cx
  refine v_sub (lv' := [(0, .ref (sz0 + t)), (1, .ref (sz0 + 174))]) [0, 1] rfl ?_
  refine v_aload_n (pc := 0) cx dX15_holds_0 rfl 1 rfl ?_
  refine v_iconst (pc := 1) cx dX15_holds_1 ic_0 ?_
  refine pq221_X4 (pc := 2) cx (Or.inl rfl) dX15_holds_2 (sh.k k_174) ?_
  refine v_wld (fun M1 eM1 => ?_)
  replace h := h M1 eM1
  replace sh : Shp M1 := Shp_PI sh eM1
  refine v_aload_n (pc := 5) cx dX15_holds_5 rfl 0 rfl ?_
  obtain ⟨k2, h⟩ := h
  obtain ⟨r3, er3, h⟩ := h
  refine gq676_X15 (pc := 6) cx dX15_holds_6 k2 (v_some er3 ?_)
  refine v_aload_n (pc := 9) cx dX15_holds_9 rfl 1 rfl ?_
  obtain ⟨d0, hd0, h⟩ := h
  refine v_run_i (pc := 10) cx (kd_worth cx q751 (c_worth l D cA sz0 H0 d0 r3 M1 _ sh h) ⟨by dsimp only; omega, by dsimp only; omega⟩ (As := [.ref (sz0 + 174)]) rfl rfl (Nat.le_of_ble_eq_true rfl) dX15_holds_10 ⟨Nat.le_of_ble_eq_true rfl, Nat.le_of_ble_eq_true rfl⟩) (fun a4 M5 hq => ?_)
  obtain ⟨h, sh⟩ := hq
  refine v_istore_n (pc := 13) cx dX15_holds_13 rfl (Nat.le_of_ble_eq_true rfl) (lv' := [(2, .int a4), (0, .ref (sz0 + t)), (1, .ref (sz0 + 174))]) rfl ?_
  refine v_aload_n (pc := 14) cx dX15_holds_14 rfl 1 rfl ?_
  obtain ⟨k6, h⟩ := h
  obtain ⟨r7, er7, h⟩ := h
  refine gq677_X15 (pc := 15) cx dX15_holds_15 k6 (v_some er7 ?_)
  refine v_aload_n (pc := 18) cx dX15_holds_18 rfl 2 rfl ?_
  obtain ⟨d0, hd0, h⟩ := h
  refine v_run_i (pc := 19) cx (kd_worth cx q751 (c_worth l D cA sz0 H0 d0 r7 M5 _ sh h) ⟨by dsimp only; omega, by dsimp only; omega⟩ (As := [.ref (sz0 + 174)]) rfl rfl (Nat.le_of_ble_eq_true rfl) dX15_holds_19 ⟨Nat.le_of_ble_eq_true rfl, Nat.le_of_ble_eq_true rfl⟩) (fun a8 M9 hq => ?_)
  obtain ⟨h, sh⟩ := hq
  refine v_istore_n (pc := 22) cx dX15_holds_22 rfl (Nat.le_of_ble_eq_true rfl) (lv' := [(3, .int a8), (2, .int a4), (0, .ref (sz0 + t)), (1, .ref (sz0 + 174))]) rfl ?_
  refine v_aload_n (pc := 23) cx dX15_holds_23 rfl 2 rfl ?_
  obtain ⟨k10, h⟩ := h
  refine gq678_X15 (pc := 24) cx dX15_holds_24 k10 ?_
  refine v_bipush (pc := 27) cx dX15_holds_27 bc_60 ?_
  refine v_icmp_ne (pc := 29) cx dX15_holds_29 (tgt := 45) rfl (fun c11 => ?_) (fun c11 => ?_)
  · replace h := h.2 c11
    refine v_aload_n (pc := 45) cx dX15_holds_45 rfl 2 rfl ?_
    obtain ⟨k12, h⟩ := h
    refine gq678_X15 (pc := 46) cx dX15_holds_46 k12 ?_
    refine v_bipush (pc := 49) cx dX15_holds_49 bc_62 ?_
    refine v_icmp_ne (pc := 51) cx dX15_holds_51 (tgt := 67) rfl (fun c13 => ?_) (fun c13 => ?_)
    · replace h := h.2 c13
      refine v_iload_n (pc := 67) cx dX15_holds_67 rfl 1 rfl ?_
      refine v_iload_n (pc := 68) cx dX15_holds_68 rfl 0 rfl ?_
      refine v_icmp_ne (pc := 69) cx dX15_holds_69 (tgt := 76) rfl (fun c14 => ?_) (fun c14 => ?_)
      · replace h := h.2 c14
        refine v_iconst (pc := 76) cx dX15_holds_76 ic_0 ?_
        refine v_sub (lv' := [(1, .ref (sz0 + 174))]) [3] rfl ?_
        exact w_X15_holds_j77 cx M9 sh h
      · replace h := h.1 c14
        refine v_iconst (pc := 72) cx dX15_holds_72 ic_1 ?_
        refine v_goto (pc := 73) cx dX15_holds_73 (tgt := 77) rfl ?_
        refine v_sub (lv' := [(1, .ref (sz0 + 174))]) [3] rfl ?_
        exact w_X15_holds_j77 cx M9 sh h
    · replace h := h.1 c13
      refine v_iload_n (pc := 54) cx dX15_holds_54 rfl 1 rfl ?_
      refine v_iload_n (pc := 55) cx dX15_holds_55 rfl 0 rfl ?_
      refine v_icmp_le (pc := 56) cx dX15_holds_56 (tgt := 63) rfl (fun c15 => ?_) (fun c15 => ?_)
      · replace h := h.1 c15
        refine v_iconst (pc := 63) cx dX15_holds_63 ic_0 ?_
        refine v_goto (pc := 64) cx dX15_holds_64 (tgt := 77) rfl ?_
        refine v_sub (lv' := [(1, .ref (sz0 + 174))]) [3] rfl ?_
        exact w_X15_holds_j77 cx M9 sh h
      · replace h := h.2 c15
        refine v_iconst (pc := 59) cx dX15_holds_59 ic_1 ?_
        refine v_goto (pc := 60) cx dX15_holds_60 (tgt := 77) rfl ?_
        refine v_sub (lv' := [(1, .ref (sz0 + 174))]) [3] rfl ?_
        exact w_X15_holds_j77 cx M9 sh h
  · replace h := h.1 c11
    refine v_iload_n (pc := 32) cx dX15_holds_32 rfl 1 rfl ?_
    refine v_iload_n (pc := 33) cx dX15_holds_33 rfl 0 rfl ?_
    refine v_icmp_ge (pc := 34) cx dX15_holds_34 (tgt := 41) rfl (fun c16 => ?_) (fun c16 => ?_)
    · replace h := h.1 c16
      refine v_iconst (pc := 41) cx dX15_holds_41 ic_0 ?_
      refine v_goto (pc := 42) cx dX15_holds_42 (tgt := 77) rfl ?_
      refine v_sub (lv' := [(1, .ref (sz0 + 174))]) [3] rfl ?_
      exact w_X15_holds_j77 cx M9 sh h
    · replace h := h.2 c16
      refine v_iconst (pc := 37) cx dX15_holds_37 ic_1 ?_
      refine v_goto (pc := 38) cx dX15_holds_38 (tgt := 77) rfl ?_
      refine v_sub (lv' := [(1, .ref (sz0 + 174))]) [3] rfl ?_
      exact w_X15_holds_j77 cx M9 sh h
def yX12_holds : MethodName := ⟨RX12, "holds", "(LLetterHeaps$Asked;)I"⟩
def HDh (l : Launch) (D : va_G) (cA : Nat → ClassId) (sz0 : Nat) (H0 : Heap) (d x : Nat) (M : WM) (Q : Int32 → WM → Prop) : Prop := (wk M x = 12 ∧ Met l yX15_holds (ws_ yX15_holds cX15_holds 5 (some .int)) ({ frames := 43, cells := 0, slots := 0, locals := 1667 } : Room) (PcW D cA sz0 H0 [.ref (sz0 + x), .ref (sz0 + 174)] M) (QW_i D cA sz0 H0 (fun r M' => Q r M' ∧ Shp M')) 0 0 (Aw sz0)) ∨ (wk M x = 11 ∧ Met l yX14_holds (ws_ yX14_holds cX14_holds 3 (some .int)) ({ frames := 44 + d, cells := 0, slots := 0, locals := 1691 + 40 * d } : Room) (PcW D cA sz0 H0 [.ref (sz0 + x), .ref (sz0 + 174)] M) (QW_i D cA sz0 H0 (fun r M' => Q r M' ∧ Shp M')) 0 0 (Aw sz0)) ∨ (wk M x = 10 ∧ Met l yX13_holds (ws_ yX13_holds cX13_holds 4 (some .int)) ({ frames := 44 + d, cells := 0, slots := 0, locals := 1691 + 40 * d } : Room) (PcW D cA sz0 H0 [.ref (sz0 + x), .ref (sz0 + 174)] M) (QW_i D cA sz0 H0 (fun r M' => Q r M' ∧ Shp M')) 0 0 (Aw sz0))
theorem kd_holds {p : Program} {l : Launch} {e : Env} {R : Room} {s : State} {m : MethodId} {args : Array Value} {below : List Frame} {meth : Method} {c : Code} {cells slots : Nat}  {cc : ByteArray} {nL : Nat} {ret : Option FieldType} {D : va_G} {cA : Nat → ClassId} {sz0 : Nat} {H0 : Heap} {pc : Nat} {lv : List (Nat × Value)} {st : List Value} {M : WM}  {own : String} {idx d0 x : Nat} {st0 As : List Value} {Q : Int32 → WM → Prop} (cx : Cx p s m args meth c cc nL own ret D cA sz0 H0) (hl : Cond.methodLink own idx yX12_holds ∈ lw_all) (hM : HDh l D cA sz0 H0 d0 x M Q) (hR : 44 + d0 + 1 ≤ R.frames ∧ 8 + (5 + 11) + (1691 + 40 * d0) ≤ R.locals) (hAs : As = [.ref (sz0 + 174)]) (hst : st0 = As.reverse ++ .ref (sz0 + x) :: st) (hcat : (st.map fun v => v.category).sum ≤ 8) (d : decode cc pc = .ok (.invokevirtual idx, 3)) (hb : cells + 0 ≤ R.cells ∧ slots + 0 ≤ R.slots) : ∀ (ls : Array Slot) (H : Heap) (locs : List Loc), lv_has ls nL lv → Wd D cA sz0 H0 M H → va_S (Aw sz0) s.heap H locs → va_Run p l e R s m args below meth c H locs cells slots 0 0 (F0 m pc ls st0) st (QW_i D cA sz0 H0 (fun r M' => Q r M' ∧ Shp M') (Value.ref (sz0 + x) :: As).toArray) (Aw sz0) := by
  subst hAs
  rcases hM with ⟨hk, hM⟩ | ⟨hk, hM⟩ | ⟨hk, hM⟩
  · exact r_A cx (n := 1) hM (lw_U hl q747 q748 q749 q142 q750) (nst_in q746 rfl) (by decide +kernel) ⟨by omega, by omega⟩ cl_X15 (by decide) hk rfl hst hcat d hb
  · exact r_A cx (n := 1) hM (lw_U hl q747 q773 q774 q141 q775) (nst_in q746 rfl) (by decide +kernel) ⟨by omega, by omega⟩ cl_X14 (by decide) hk rfl hst hcat d hb
  · exact r_A cx (n := 1) hM (lw_U hl q747 q780 q777 q140 q778) (nst_in q746 rfl) (by decide +kernel) ⟨by omega, by omega⟩ cl_X13 (by decide) hk rfl hst hcat d hb

def b_X14_holds (Fholds : Nat → WM → (Int32 → WM → Prop) → Prop) (t : Nat) (M : WM)  (Q : Int32 → WM → Prop) : Prop := (wk M t = 11 ∧ (∃ r2, wR M t 0 = some r2 ∧ (Fholds r2 M (fun (a3 : Int32) (M4 : WM) => ((a3 = (2 : Int32) → Q ((2 : Int32)) M4) ∧ (¬ a3 = (2 : Int32) → Q (((1 : Int32) - a3)) M4))))))
theorem cb_X14_holds {l : Launch} {D : va_G} {cA : Nat → ClassId} {sz0 : Nat} {H0 : Heap} {d : Nat} {Fholds : Nat → WM → (Int32 → WM → Prop) → Prop} (hFholds : ∀ (x : Nat) (M : WM) (Q : Int32 → WM → Prop) (sh : Shp M), Fholds x M Q → HDh l D cA sz0 H0 d x M Q) (M : WM) (t : Nat)   (Q : Int32 → WM → Prop) (sh : Shp M) (h : b_X14_holds Fholds t M  Q) : Met l yX14_holds (ws_ yX14_holds cX14_holds 3 (some .int)) ({ frames := 44 + (d + 1), cells := 0, slots := 0, locals := 1691 + 40 * (d + 1) } : Room) (PcW D cA sz0 H0 [.ref (sz0 + t), .ref (sz0 + 174)] M) (QW_i D cA sz0 H0 (fun r M' => Q r M' ∧ Shp M')) 0 0 (Aw sz0) := by
  replace h : (wk M t = 11 ∧ (∃ r2, wR M t 0 = some r2 ∧ (Fholds r2 M (fun (a3 : Int32) (M4 : WM) => ((a3 = (2 : Int32) → Q ((2 : Int32)) M4) ∧ (¬ a3 = (2 : Int32) → Q (((1 : Int32) - a3)) M4)))))) := h
  refine Met.ofV (by decide +kernel) (Nat.le_of_ble_eq_true rfl) ?_
  intro p e s m args below meth c cx hnm
  replace cx : Cx p s m args meth c cX14_holds 3 RX14 (some .int) D cA sz0 H0 := cx
  refine v_sub (lv' := [(0, .ref (sz0 + t)), (1, .ref (sz0 + 174))]) [0, 1] rfl ?_
  refine v_aload_n (pc := 0) cx dX14_holds_0 rfl 0 rfl ?_
  obtain ⟨k1, h⟩ := h
  obtain ⟨r2, er2, h⟩ := h
  refine gq666_X14 (pc := 1) cx dX14_holds_1 k1 (v_some er2 ?_)
  refine v_aload_n (pc := 4) cx dX14_holds_4 rfl 1 rfl ?_
  refine v_run_i (pc := 5) cx (kd_holds cx q776 (hFholds r2 M _ sh h) ⟨by dsimp only; omega, by dsimp only; omega⟩ (As := [.ref (sz0 + 174)]) rfl rfl (Nat.le_of_ble_eq_true rfl) dX14_holds_5 ⟨Nat.le_of_ble_eq_true rfl, Nat.le_of_ble_eq_true rfl⟩) (fun a3 M4 hq => ?_)
  obtain ⟨h, sh⟩ := hq
  refine v_istore_n (pc := 8) cx dX14_holds_8 rfl (Nat.le_of_ble_eq_true rfl) (lv' := [(2, .int a3), (0, .ref (sz0 + t)), (1, .ref (sz0 + 174))]) rfl ?_
  refine v_iload_n (pc := 9) cx dX14_holds_9 rfl 0 rfl ?_
  refine v_iconst (pc := 10) cx dX14_holds_10 ic_2 ?_
  refine v_icmp_ne (pc := 11) cx dX14_holds_11 (tgt := 18) rfl (fun c5 => ?_) (fun c5 => ?_)
  · replace h := h.2 c5
    refine v_iconst (pc := 18) cx dX14_holds_18 ic_1 ?_
    refine v_iload_n (pc := 19) cx dX14_holds_19 rfl 0 rfl ?_
    refine v_isub (pc := 20) cx dX14_holds_20 ?_
    exact v_iret cx rfl dX14_holds_21 ⟨Nat.le_of_ble_eq_true rfl, Nat.le_of_ble_eq_true rfl⟩ ⟨h, sh⟩
  · replace h := h.1 c5
    refine v_iconst (pc := 14) cx dX14_holds_14 ic_2 ?_
    refine v_goto (pc := 15) cx dX14_holds_15 (tgt := 21) rfl ?_
    exact v_iret cx rfl dX14_holds_21 ⟨Nat.le_of_ble_eq_true rfl, Nat.le_of_ble_eq_true rfl⟩ ⟨h, sh⟩
def m_X13_holds_l2 (Fholds : Nat → WM → (Int32 → WM → Prop) → Prop)  (x0 : Nat)   (Q : Int32 → WM → Prop) : Nat → Option Nat → WM → Prop
  | 0, _, _ => False
  | n + 1, x2, M => ((x2 = none → (wk M x0 = 10 ∧ Q (((1 : Int32) - (wI M x0 1))) M)) ∧ (∀ r2, x2 = some r2 → (wk M r2 = 10 ∧ (∃ r5, wR M r2 0 = some r5 ∧ (Fholds r5 M (fun (a6 : Int32) (M7 : WM) => ((a6 = (2 : Int32) → Q a6 M7) ∧ (¬ a6 = (2 : Int32) → (wk M7 x0 = 10 ∧ ((a6 = (wI M7 x0 1) → Q a6 M7) ∧ (¬ a6 = (wI M7 x0 1) → (wk M7 r2 = 10 ∧ (∀ o12 : Option Nat, o12 = (wR M7 r2 2) → m_X13_holds_l2 Fholds x0 Q n o12 M7)))))))))))))
theorem w_X13_holds_l2 {p : Program} {l : Launch} {e : Env} {s : State} {m : MethodId} {args : Array Value} {below : List Frame} {meth : Method} {c : Code} {D : va_G} {cA : Nat → ClassId} {sz0 : Nat} {H0 : Heap} {d : Nat} {Fholds : Nat → WM → (Int32 → WM → Prop) → Prop} {x0 : Nat} {Q : Int32 → WM → Prop}  (cx : Cx p s m args meth c cX13_holds 4 RX13 (some .int) D cA sz0 H0) (hFholds : ∀ (x : Nat) (M : WM) (Q : Int32 → WM → Prop) (sh : Shp M), Fholds x M Q → HDh l D cA sz0 H0 d x M Q)    : ∀ (n : Nat) (x2 : Option Nat)  (M : WM) (sh : Shp M), m_X13_holds_l2 Fholds x0 Q n x2 M → V p l e ({ frames := 44 + (d + 1), cells := 0, slots := 0, locals := 1691 + 40 * (d + 1) } : Room) s m args below meth c 4 D cA sz0 H0 0 0 (MQ below (QW_i D cA sz0 H0 (fun r M' => Q r M' ∧ Shp M')) args s 0 0 (Aw sz0)) 2 [(0, .ref (sz0 + x0)), (1, .ref (sz0 + 174)), (2, vr sz0 x2)] [] M := by
  intro n
  induction n with
  | zero => intro x2 M sh h; exact h.elim
  | succ n ih =>
    intro x2 M sh h
    replace h : ((x2 = none → (wk M x0 = 10 ∧ Q (((1 : Int32) - (wI M x0 1))) M)) ∧ (∀ r2, x2 = some r2 → (wk M r2 = 10 ∧ (∃ r5, wR M r2 0 = some r5 ∧ (Fholds r5 M (fun (a6 : Int32) (M7 : WM) => ((a6 = (2 : Int32) → Q a6 M7) ∧ (¬ a6 = (2 : Int32) → (wk M7 x0 = 10 ∧ ((a6 = (wI M7 x0 1) → Q a6 M7) ∧ (¬ a6 = (wI M7 x0 1) → (wk M7 r2 = 10 ∧ (∀ o12 : Option Nat, o12 = (wR M7 r2 2) → m_X13_holds_l2 Fholds x0 Q n o12 M7))))))))))))) := h
    refine v_aload_nQ (pc := 2) cx dX13_holds_2 rfl 2 rfl ?_
    refine v_ifnull (pc := 3) cx dX13_holds_3 (tgt := 38) rfl (fun c1 => ?_) (fun r2 c1 => ?_)
    · replace h := h.1 c1
      subst c1
      refine v_iconst (pc := 38) cx dX13_holds_38 ic_1 ?_
      refine v_aload_n (pc := 39) cx dX13_holds_39 rfl 0 rfl ?_
      obtain ⟨k3, h⟩ := h
      refine gq691_X13 (pc := 40) cx dX13_holds_40 k3 ?_
      refine v_isub (pc := 43) cx dX13_holds_43 ?_
      exact v_iret cx rfl dX13_holds_44 ⟨Nat.le_of_ble_eq_true rfl, Nat.le_of_ble_eq_true rfl⟩ ⟨h, sh⟩
    · replace h := h.2 r2 c1
      subst c1
      show V p l e _ s m args below meth c 4 D cA sz0 H0 _ _ _ _ [(0, .ref (sz0 + x0)), (1, .ref (sz0 + 174)), (2, .ref (sz0 + r2))] [] _
      refine v_aload_n (pc := 6) cx dX13_holds_6 rfl 2 rfl ?_
      obtain ⟨k4, h⟩ := h
      obtain ⟨r5, er5, h⟩ := h
      refine gq690_X13 (pc := 7) cx dX13_holds_7 k4 (v_some er5 ?_)
      refine v_aload_n (pc := 10) cx dX13_holds_10 rfl 1 rfl ?_
      refine v_run_i (pc := 11) cx (kd_holds cx q779 (hFholds r5 M _ sh h) ⟨by dsimp only; omega, by dsimp only; omega⟩ (As := [.ref (sz0 + 174)]) rfl rfl (Nat.le_of_ble_eq_true rfl) dX13_holds_11 ⟨Nat.le_of_ble_eq_true rfl, Nat.le_of_ble_eq_true rfl⟩) (fun a6 M7 hq => ?_)
      obtain ⟨h, sh⟩ := hq
      refine v_istore_n (pc := 14) cx dX13_holds_14 rfl (Nat.le_of_ble_eq_true rfl) (lv' := [(3, .int a6), (0, .ref (sz0 + x0)), (1, .ref (sz0 + 174)), (2, .ref (sz0 + r2))]) rfl ?_
      refine v_iload_n (pc := 15) cx dX13_holds_15 rfl 0 rfl ?_
      refine v_iconst (pc := 16) cx dX13_holds_16 ic_2 ?_
      refine v_icmp_eq (pc := 17) cx dX13_holds_17 (tgt := 28) rfl (fun c8 => ?_) (fun c8 => ?_)
      · replace h := h.1 c8
        refine v_iload_n (pc := 28) cx dX13_holds_28 rfl 0 rfl ?_
        exact v_iret cx rfl dX13_holds_29 ⟨Nat.le_of_ble_eq_true rfl, Nat.le_of_ble_eq_true rfl⟩ ⟨h, sh⟩
      · replace h := h.2 c8
        refine v_iload_n (pc := 20) cx dX13_holds_20 rfl 0 rfl ?_
        refine v_aload_n (pc := 21) cx dX13_holds_21 rfl 1 rfl ?_
        obtain ⟨k9, h⟩ := h
        refine gq691_X13 (pc := 22) cx dX13_holds_22 k9 ?_
        refine v_icmp_ne (pc := 25) cx dX13_holds_25 (tgt := 30) rfl (fun c10 => ?_) (fun c10 => ?_)
        · replace h := h.2 c10
          refine v_aload_n (pc := 30) cx dX13_holds_30 rfl 3 rfl ?_
          obtain ⟨k11, h⟩ := h
          refine gq692_X13 (pc := 31) cx dX13_holds_31 k11 ?_
          refine v_topo (fun o12 eo12 => ?_)
          replace h := h o12 eo12
          refine v_astore_nQ (pc := 34) cx dX13_holds_34 rfl (Nat.le_of_ble_eq_true rfl) (lv' := [(2, vr sz0 o12), (3, .int a6), (0, .ref (sz0 + x0)), (1, .ref (sz0 + 174))]) rfl ?_
          refine v_goto (pc := 35) cx dX13_holds_35 (tgt := 2) rfl ?_
          refine v_sub (lv' := [(0, .ref (sz0 + x0)), (1, .ref (sz0 + 174)), (2, vr sz0 o12)]) [2, 3, 0] rfl ?_
          exact ih o12 M7 sh h
        · replace h := h.1 c10
          refine v_iload_n (pc := 28) cx dX13_holds_28 rfl 0 rfl ?_
          exact v_iret cx rfl dX13_holds_29 ⟨Nat.le_of_ble_eq_true rfl, Nat.le_of_ble_eq_true rfl⟩ ⟨h, sh⟩
def b_X13_holds (Fholds : Nat → WM → (Int32 → WM → Prop) → Prop) (t : Nat) (M : WM)  (Q : Int32 → WM → Prop) : Prop := (∃ n0, m_X13_holds_l2 Fholds t Q n0 (some t) M)
theorem cb_X13_holds {l : Launch} {D : va_G} {cA : Nat → ClassId} {sz0 : Nat} {H0 : Heap} {d : Nat} {Fholds : Nat → WM → (Int32 → WM → Prop) → Prop} (hFholds : ∀ (x : Nat) (M : WM) (Q : Int32 → WM → Prop) (sh : Shp M), Fholds x M Q → HDh l D cA sz0 H0 d x M Q) (M : WM) (t : Nat)   (Q : Int32 → WM → Prop) (sh : Shp M) (h : b_X13_holds Fholds t M  Q) : Met l yX13_holds (ws_ yX13_holds cX13_holds 4 (some .int)) ({ frames := 44 + (d + 1), cells := 0, slots := 0, locals := 1691 + 40 * (d + 1) } : Room) (PcW D cA sz0 H0 [.ref (sz0 + t), .ref (sz0 + 174)] M) (QW_i D cA sz0 H0 (fun r M' => Q r M' ∧ Shp M')) 0 0 (Aw sz0) := by
  replace h : (∃ n0, m_X13_holds_l2 Fholds t Q n0 (some t) M) := h
  refine Met.ofV (by decide +kernel) (Nat.le_of_ble_eq_true rfl) ?_
  intro p e s m args below meth c cx hnm
  replace cx : Cx p s m args meth c cX13_holds 4 RX13 (some .int) D cA sz0 H0 := cx
  refine v_sub (lv' := [(0, .ref (sz0 + t)), (1, .ref (sz0 + 174))]) [0, 1] rfl ?_
  refine v_aload_n (pc := 0) cx dX13_holds_0 rfl 0 rfl ?_
  refine v_astore_n (pc := 1) cx dX13_holds_1 rfl (Nat.le_of_ble_eq_true rfl) (lv' := [(2, .ref (sz0 + t)), (0, .ref (sz0 + t)), (1, .ref (sz0 + 174))]) rfl ?_
  refine v_sub (lv' := [(0, .ref (sz0 + t)), (1, .ref (sz0 + 174)), (2, vr sz0 (some t))]) [1, 2, 0] rfl ?_
  obtain ⟨n0, h⟩ := h
  exact w_X13_holds_l2 cx hFholds n0 (some t) M sh h
def m_holds : Nat → Nat → WM → (Int32 → WM → Prop) → Prop
  | 0, _, _, _ => False
  | d + 1, x, M, Q => (wk M x = 12 ∧ m_X15_holds x M Q) ∨ (wk M x = 11 ∧ b_X14_holds (m_holds d) x M Q) ∨ (wk M x = 10 ∧ b_X13_holds (m_holds d) x M Q)
theorem c_holds (l : Launch) (D : va_G) (cA : Nat → ClassId) (sz0 : Nat) (H0 : Heap) : ∀ (d x : Nat) (M : WM) (Q : Int32 → WM → Prop) (sh : Shp M), m_holds d x M Q → HDh l D cA sz0 H0 d x M Q := by
  intro d
  induction d with
  | zero => intro x M Q sh h; exact h.elim
  | succ d ih =>
    intro x M Q sh h
    rcases h with ⟨hk, h⟩ | ⟨hk, h⟩ | ⟨hk, h⟩
    · exact Or.inl ⟨hk, c_X15_holds l D cA sz0 H0 M x Q sh h⟩
    · exact Or.inr (Or.inl ⟨hk, cb_X14_holds ih M x Q sh h⟩)
    · exact Or.inr (Or.inr (⟨hk, cb_X13_holds ih M x Q sh h⟩))

def m_X1_says_l2   (x0 : Nat) (x1 : Int32)   (Q : Int32 → WM → Prop) : Nat → Int32 → WM → Prop
  | 0, _, _ => False
  | n + 1, x3, M => (wk M x0 = 1 ∧ (((wI M x0 3) ≤ x3 → Q ((0 : Int32)) M) ∧ (¬ (wI M x0 3) ≤ x3 → (wk M x0 = 1 ∧ (∃ r4, wR M x0 0 = some r4 ∧ (wk M r4 = 100 ∧ (vp_in x3 (wl M r4) ∧ (((wI M r4 x3.toNatClampNeg) = x1 → (wk M x0 = 1 ∧ (∃ r10, wR M x0 2 = some r10 ∧ (wk M r10 = 109 ∧ (vp_in x3 (wl M r10) ∧ (∃ r13, wR M r10 x3.toNatClampNeg = some r13 ∧ (∃ d0, d0 ≤ 70 ∧ (m_holds d0 r13 M (fun (a14 : Int32) (M15 : WM) => ((a14 = (1 : Int32) → Q ((1 : Int32)) M15) ∧ (¬ a14 = (1 : Int32) → (∀ z17 : Int32, z17 = x3 + (1 : Int32) → m_X1_says_l2 x0 x1 Q n z17 M15)))))))))))) ∧ (¬ (wI M r4 x3.toNatClampNeg) = x1 → (∀ z8 : Int32, z8 = x3 + (1 : Int32) → m_X1_says_l2 x0 x1 Q n z8 M))))))))))
theorem w_X1_says_l2 {p : Program} {l : Launch} {e : Env} {s : State} {m : MethodId} {args : Array Value} {below : List Frame} {meth : Method} {c : Code} {D : va_G} {cA : Nat → ClassId} {sz0 : Nat} {H0 : Heap}  {x0 : Nat} {x1 : Int32} {Q : Int32 → WM → Prop}  (cx : Cx p s m args meth c cX1_says 4 RX1 (some .boolean) D cA sz0 H0)     : ∀ (n : Nat) (x3 : Int32)  (M : WM) (sh : Shp M), m_X1_says_l2 x0 x1 Q n x3 M → V p l e ({ frames := 115, cells := 0, slots := 0, locals := 4515 } : Room) s m args below meth c 4 D cA sz0 H0 0 0 (MQ below (QW_i D cA sz0 H0 (fun r M' => Q r M' ∧ Shp M')) args s 0 0 (Aw sz0)) 2 [(0, .ref (sz0 + x0)), (1, .int x1), (2, .ref (sz0 + 174)), (3, .int x3)] [] M := by
  intro n
  induction n with
  | zero => intro x3 M sh h; exact h.elim
  | succ n ih =>
    intro x3 M sh h
    replace h : (wk M x0 = 1 ∧ (((wI M x0 3) ≤ x3 → Q ((0 : Int32)) M) ∧ (¬ (wI M x0 3) ≤ x3 → (wk M x0 = 1 ∧ (∃ r4, wR M x0 0 = some r4 ∧ (wk M r4 = 100 ∧ (vp_in x3 (wl M r4) ∧ (((wI M r4 x3.toNatClampNeg) = x1 → (wk M x0 = 1 ∧ (∃ r10, wR M x0 2 = some r10 ∧ (wk M r10 = 109 ∧ (vp_in x3 (wl M r10) ∧ (∃ r13, wR M r10 x3.toNatClampNeg = some r13 ∧ (∃ d0, d0 ≤ 70 ∧ (m_holds d0 r13 M (fun (a14 : Int32) (M15 : WM) => ((a14 = (1 : Int32) → Q ((1 : Int32)) M15) ∧ (¬ a14 = (1 : Int32) → (∀ z17 : Int32, z17 = x3 + (1 : Int32) → m_X1_says_l2 x0 x1 Q n z17 M15)))))))))))) ∧ (¬ (wI M r4 x3.toNatClampNeg) = x1 → (∀ z8 : Int32, z8 = x3 + (1 : Int32) → m_X1_says_l2 x0 x1 Q n z8 M)))))))))) := h
    refine v_iload_n (pc := 2) cx dX1_says_2 rfl 3 rfl ?_
    refine v_aload_n (pc := 3) cx dX1_says_3 rfl 0 rfl ?_
    obtain ⟨k1, h⟩ := h
    refine gq171_X1 (pc := 4) cx dX1_says_4 k1 ?_
    refine v_icmp_ge (pc := 7) cx dX1_says_7 (tgt := 42) rfl (fun c2 => ?_) (fun c2 => ?_)
    · replace h := h.1 c2
      refine v_iconst (pc := 42) cx dX1_says_42 ic_0 ?_
      exact v_zret cx rfl (Or.inl rfl) dX1_says_43 ⟨Nat.le_of_ble_eq_true rfl, Nat.le_of_ble_eq_true rfl⟩ ⟨h, sh⟩
    · replace h := h.2 c2
      refine v_aload_n (pc := 10) cx dX1_says_10 rfl 0 rfl ?_
      obtain ⟨k3, h⟩ := h
      obtain ⟨r4, er4, h⟩ := h
      refine gq165_X1 (pc := 11) cx dX1_says_11 k3 (v_some er4 ?_)
      refine v_iload_n (pc := 14) cx dX1_says_14 rfl 3 rfl ?_
      obtain ⟨k5, h⟩ := h
      obtain ⟨b6, h⟩ := h
      refine v_iald (pc := 15) cx dX1_says_15 k5 rfl b6 ?_
      refine v_iload_n (pc := 16) cx dX1_says_16 rfl 1 rfl ?_
      refine v_icmp_ne (pc := 17) cx dX1_says_17 (tgt := 36) rfl (fun c7 => ?_) (fun c7 => ?_)
      · replace h := h.2 c7
        refine nm_x (x3 + (1 : Int32)) (fun z8 ez8 => ?_)
        replace h := h z8 ez8
        refine v_iinc (pc := 36) cx dX1_says_36 (q := 3) rfl ((ii_1 _).trans ez8.symm) (Nat.le_of_ble_eq_true rfl) (lv' := [(3, .int z8), (0, .ref (sz0 + x0)), (1, .int x1), (2, .ref (sz0 + 174))]) rfl ?_
        refine v_goto (pc := 39) cx dX1_says_39 (tgt := 2) rfl ?_
        refine v_sub (lv' := [(0, .ref (sz0 + x0)), (1, .int x1), (2, .ref (sz0 + 174)), (3, .int z8)]) [1, 2, 3, 0] rfl ?_
        exact ih z8 M sh h
      · replace h := h.1 c7
        refine v_aload_n (pc := 20) cx dX1_says_20 rfl 0 rfl ?_
        obtain ⟨k9, h⟩ := h
        obtain ⟨r10, er10, h⟩ := h
        refine gq169_X1 (pc := 21) cx dX1_says_21 k9 (v_some er10 ?_)
        refine v_iload_n (pc := 24) cx dX1_says_24 rfl 3 rfl ?_
        obtain ⟨k11, h⟩ := h
        obtain ⟨b12, h⟩ := h
        obtain ⟨r13, er13, h⟩ := h
        refine v_aald109 (pc := 25) cx dX1_says_25 k11 rfl b12 (v_some er13 ?_)
        refine v_aload_n (pc := 26) cx dX1_says_26 rfl 2 rfl ?_
        obtain ⟨d0, hd0, h⟩ := h
        refine v_run_i (pc := 27) cx (kd_holds cx q745 (c_holds l D cA sz0 H0 d0 r13 M _ sh h) ⟨by dsimp only; omega, by dsimp only; omega⟩ (As := [.ref (sz0 + 174)]) rfl rfl (Nat.le_of_ble_eq_true rfl) dX1_says_27 ⟨Nat.le_of_ble_eq_true rfl, Nat.le_of_ble_eq_true rfl⟩) (fun a14 M15 hq => ?_)
        obtain ⟨h, sh⟩ := hq
        refine v_iconst (pc := 30) cx dX1_says_30 ic_1 ?_
        refine v_icmp_ne (pc := 31) cx dX1_says_31 (tgt := 36) rfl (fun c16 => ?_) (fun c16 => ?_)
        · replace h := h.2 c16
          refine nm_x (x3 + (1 : Int32)) (fun z17 ez17 => ?_)
          replace h := h z17 ez17
          refine v_iinc (pc := 36) cx dX1_says_36 (q := 3) rfl ((ii_1 _).trans ez17.symm) (Nat.le_of_ble_eq_true rfl) (lv' := [(3, .int z17), (0, .ref (sz0 + x0)), (1, .int x1), (2, .ref (sz0 + 174))]) rfl ?_
          refine v_goto (pc := 39) cx dX1_says_39 (tgt := 2) rfl ?_
          refine v_sub (lv' := [(0, .ref (sz0 + x0)), (1, .int x1), (2, .ref (sz0 + 174)), (3, .int z17)]) [1, 2, 3, 0] rfl ?_
          exact ih z17 M15 sh h
        · replace h := h.1 c16
          refine v_iconst (pc := 34) cx dX1_says_34 ic_1 ?_
          exact v_zret cx rfl (Or.inr rfl) dX1_says_35 ⟨Nat.le_of_ble_eq_true rfl, Nat.le_of_ble_eq_true rfl⟩ ⟨h, sh⟩
def m_X1_says (t : Nat) (x1 : Int32) (M : WM)  (Q : Int32 → WM → Prop) : Prop := (∃ n0, m_X1_says_l2 t x1 Q n0 ((0 : Int32)) M)
theorem c_X1_says (l : Launch) (D : va_G) (cA : Nat → ClassId) (sz0 : Nat) (H0 : Heap) (M : WM) (t : Nat) (x1 : Int32)   (Q : Int32 → WM → Prop) (sh : Shp M) (h : m_X1_says t x1 M  Q) : Met l yX1_says (ws_ yX1_says cX1_says 4 (some .boolean)) ({ frames := 115, cells := 0, slots := 0, locals := 4515 } : Room) (PcW D cA sz0 H0 [.ref (sz0 + t), .int x1, .ref (sz0 + 174)] M) (QW_i D cA sz0 H0 (fun r M' => Q r M' ∧ Shp M')) 0 0 (Aw sz0) := by
  replace h : (∃ n0, m_X1_says_l2 t x1 Q n0 ((0 : Int32)) M) := h
  refine Met.ofV (by decide +kernel) (Nat.le_of_ble_eq_true rfl) ?_
  intro p e s m args below meth c cx hnm
  replace cx : Cx p s m args meth c cX1_says 4 RX1 (some .boolean) D cA sz0 H0 := cx
  refine v_sub (lv' := [(0, .ref (sz0 + t)), (1, .int x1), (2, .ref (sz0 + 174))]) [0, 1, 2] rfl ?_
  refine v_iconst (pc := 0) cx dX1_says_0 ic_0 ?_
  refine v_istore_n (pc := 1) cx dX1_says_1 rfl (Nat.le_of_ble_eq_true rfl) (lv' := [(3, .int (0 : Int32)), (0, .ref (sz0 + t)), (1, .int x1), (2, .ref (sz0 + 174))]) rfl ?_
  refine v_sub (lv' := [(0, .ref (sz0 + t)), (1, .int x1), (2, .ref (sz0 + 174)), (3, .int (0 : Int32))]) [1, 2, 3, 0] rfl ?_
  obtain ⟨n0, h⟩ := h
  exact w_X1_says_l2 cx n0 ((0 : Int32)) M sh h
def m_X1_tells_l3   (x0 : Nat) (x1 : Int32) (x3 : Int32)   (Q : Int32 → WM → Prop) : Nat → Int32 → WM → Prop
  | 0, _, _ => False
  | n + 1, x4, M => (wk M x0 = 1 ∧ (((wI M x0 3) ≤ x4 → Q x3 M) ∧ (¬ (wI M x0 3) ≤ x4 → (wk M x0 = 1 ∧ (∃ r4, wR M x0 0 = some r4 ∧ (wk M r4 = 100 ∧ (vp_in x4 (wl M r4) ∧ (((wI M r4 x4.toNatClampNeg) = x1 → (wk M x0 = 1 ∧ (∃ r10, wR M x0 2 = some r10 ∧ (wk M r10 = 109 ∧ (vp_in x4 (wl M r10) ∧ (∃ r13, wR M r10 x4.toNatClampNeg = some r13 ∧ (∃ d0, d0 ≤ 70 ∧ (m_holds d0 r13 M (fun (a14 : Int32) (M15 : WM) => ((a14 = (1 : Int32) → (wk M15 x0 = 1 ∧ (∃ r19, wR M15 x0 1 = some r19 ∧ (wk M15 r19 = 108 ∧ (vp_in x4 (wl M15 r19) ∧ (∃ r22, wR M15 r19 x4.toNatClampNeg = some r22 ∧ ((wk M15 r22 = 7 ∨ wk M15 r22 = 8 ∨ wk M15 r22 = 9) ∧ (m_X8_told r22 M15 (fun (a23 : Int32) (M24 : WM) => Q a23 M24))))))))) ∧ (¬ a14 = (1 : Int32) → (∀ z17 : Int32, z17 = x4 + (1 : Int32) → m_X1_tells_l3 x0 x1 x3 Q n z17 M15)))))))))))) ∧ (¬ (wI M r4 x4.toNatClampNeg) = x1 → (∀ z8 : Int32, z8 = x4 + (1 : Int32) → m_X1_tells_l3 x0 x1 x3 Q n z8 M))))))))))
theorem w_X1_tells_l3 {p : Program} {l : Launch} {e : Env} {s : State} {m : MethodId} {args : Array Value} {below : List Frame} {meth : Method} {c : Code} {D : va_G} {cA : Nat → ClassId} {sz0 : Nat} {H0 : Heap}  {x0 : Nat} {x1 : Int32} {x3 : Int32} {Q : Int32 → WM → Prop}  (cx : Cx p s m args meth c cX1_tells 5 RX1 (some .int) D cA sz0 H0)     : ∀ (n : Nat) (x4 : Int32)  (M : WM) (sh : Shp M), m_X1_tells_l3 x0 x1 x3 Q n x4 M → V p l e ({ frames := 115, cells := 0, slots := 0, locals := 4515 } : Room) s m args below meth c 5 D cA sz0 H0 0 0 (MQ below (QW_i D cA sz0 H0 (fun r M' => Q r M' ∧ Shp M')) args s 0 0 (Aw sz0)) 3 [(0, .ref (sz0 + x0)), (1, .int x1), (2, .ref (sz0 + 174)), (3, .int x3), (4, .int x4)] [] M := by
  intro n
  induction n with
  | zero => intro x4 M sh h; exact h.elim
  | succ n ih =>
    intro x4 M sh h
    replace h : (wk M x0 = 1 ∧ (((wI M x0 3) ≤ x4 → Q x3 M) ∧ (¬ (wI M x0 3) ≤ x4 → (wk M x0 = 1 ∧ (∃ r4, wR M x0 0 = some r4 ∧ (wk M r4 = 100 ∧ (vp_in x4 (wl M r4) ∧ (((wI M r4 x4.toNatClampNeg) = x1 → (wk M x0 = 1 ∧ (∃ r10, wR M x0 2 = some r10 ∧ (wk M r10 = 109 ∧ (vp_in x4 (wl M r10) ∧ (∃ r13, wR M r10 x4.toNatClampNeg = some r13 ∧ (∃ d0, d0 ≤ 70 ∧ (m_holds d0 r13 M (fun (a14 : Int32) (M15 : WM) => ((a14 = (1 : Int32) → (wk M15 x0 = 1 ∧ (∃ r19, wR M15 x0 1 = some r19 ∧ (wk M15 r19 = 108 ∧ (vp_in x4 (wl M15 r19) ∧ (∃ r22, wR M15 r19 x4.toNatClampNeg = some r22 ∧ ((wk M15 r22 = 7 ∨ wk M15 r22 = 8 ∨ wk M15 r22 = 9) ∧ (m_X8_told r22 M15 (fun (a23 : Int32) (M24 : WM) => Q a23 M24))))))))) ∧ (¬ a14 = (1 : Int32) → (∀ z17 : Int32, z17 = x4 + (1 : Int32) → m_X1_tells_l3 x0 x1 x3 Q n z17 M15)))))))))))) ∧ (¬ (wI M r4 x4.toNatClampNeg) = x1 → (∀ z8 : Int32, z8 = x4 + (1 : Int32) → m_X1_tells_l3 x0 x1 x3 Q n z8 M)))))))))) := h
    refine v_iload (pc := 3) cx dX1_tells_3 4 rfl ?_
    refine v_aload_n (pc := 5) cx dX1_tells_5 rfl 0 rfl ?_
    obtain ⟨k1, h⟩ := h
    refine gq171_X1 (pc := 6) cx dX1_tells_6 k1 ?_
    refine v_icmp_ge (pc := 9) cx dX1_tells_9 (tgt := 56) rfl (fun c2 => ?_) (fun c2 => ?_)
    · replace h := h.1 c2
      refine v_iload_n (pc := 56) cx dX1_tells_56 rfl 3 rfl ?_
      exact v_iret cx rfl dX1_tells_57 ⟨Nat.le_of_ble_eq_true rfl, Nat.le_of_ble_eq_true rfl⟩ ⟨h, sh⟩
    · replace h := h.2 c2
      refine v_aload_n (pc := 12) cx dX1_tells_12 rfl 0 rfl ?_
      obtain ⟨k3, h⟩ := h
      obtain ⟨r4, er4, h⟩ := h
      refine gq165_X1 (pc := 13) cx dX1_tells_13 k3 (v_some er4 ?_)
      refine v_iload (pc := 16) cx dX1_tells_16 4 rfl ?_
      obtain ⟨k5, h⟩ := h
      obtain ⟨b6, h⟩ := h
      refine v_iald (pc := 18) cx dX1_tells_18 k5 rfl b6 ?_
      refine v_iload_n (pc := 19) cx dX1_tells_19 rfl 1 rfl ?_
      refine v_icmp_ne (pc := 20) cx dX1_tells_20 (tgt := 50) rfl (fun c7 => ?_) (fun c7 => ?_)
      · replace h := h.2 c7
        refine nm_x (x4 + (1 : Int32)) (fun z8 ez8 => ?_)
        replace h := h z8 ez8
        refine v_iinc (pc := 50) cx dX1_tells_50 (q := 4) rfl ((ii_1 _).trans ez8.symm) (Nat.le_of_ble_eq_true rfl) (lv' := [(4, .int z8), (0, .ref (sz0 + x0)), (1, .int x1), (2, .ref (sz0 + 174)), (3, .int x3)]) rfl ?_
        refine v_goto (pc := 53) cx dX1_tells_53 (tgt := 3) rfl ?_
        refine v_sub (lv' := [(0, .ref (sz0 + x0)), (1, .int x1), (2, .ref (sz0 + 174)), (3, .int x3), (4, .int z8)]) [1, 2, 3, 4, 0] rfl ?_
        exact ih z8 M sh h
      · replace h := h.1 c7
        refine v_aload_n (pc := 23) cx dX1_tells_23 rfl 0 rfl ?_
        obtain ⟨k9, h⟩ := h
        obtain ⟨r10, er10, h⟩ := h
        refine gq169_X1 (pc := 24) cx dX1_tells_24 k9 (v_some er10 ?_)
        refine v_iload (pc := 27) cx dX1_tells_27 4 rfl ?_
        obtain ⟨k11, h⟩ := h
        obtain ⟨b12, h⟩ := h
        obtain ⟨r13, er13, h⟩ := h
        refine v_aald109 (pc := 29) cx dX1_tells_29 k11 rfl b12 (v_some er13 ?_)
        refine v_aload_n (pc := 30) cx dX1_tells_30 rfl 2 rfl ?_
        obtain ⟨d0, hd0, h⟩ := h
        refine v_run_i (pc := 31) cx (kd_holds cx q745 (c_holds l D cA sz0 H0 d0 r13 M _ sh h) ⟨by dsimp only; omega, by dsimp only; omega⟩ (As := [.ref (sz0 + 174)]) rfl rfl (Nat.le_of_ble_eq_true rfl) dX1_tells_31 ⟨Nat.le_of_ble_eq_true rfl, Nat.le_of_ble_eq_true rfl⟩) (fun a14 M15 hq => ?_)
        obtain ⟨h, sh⟩ := hq
        refine v_iconst (pc := 34) cx dX1_tells_34 ic_1 ?_
        refine v_icmp_ne (pc := 35) cx dX1_tells_35 (tgt := 50) rfl (fun c16 => ?_) (fun c16 => ?_)
        · replace h := h.2 c16
          refine nm_x (x4 + (1 : Int32)) (fun z17 ez17 => ?_)
          replace h := h z17 ez17
          refine v_iinc (pc := 50) cx dX1_tells_50 (q := 4) rfl ((ii_1 _).trans ez17.symm) (Nat.le_of_ble_eq_true rfl) (lv' := [(4, .int z17), (0, .ref (sz0 + x0)), (1, .int x1), (2, .ref (sz0 + 174)), (3, .int x3)]) rfl ?_
          refine v_goto (pc := 53) cx dX1_tells_53 (tgt := 3) rfl ?_
          refine v_sub (lv' := [(0, .ref (sz0 + x0)), (1, .int x1), (2, .ref (sz0 + 174)), (3, .int x3), (4, .int z17)]) [1, 2, 3, 4, 0] rfl ?_
          exact ih z17 M15 sh h
        · replace h := h.1 c16
          refine v_aload_n (pc := 38) cx dX1_tells_38 rfl 0 rfl ?_
          obtain ⟨k18, h⟩ := h
          obtain ⟨r19, er19, h⟩ := h
          refine gq167_X1 (pc := 39) cx dX1_tells_39 k18 (v_some er19 ?_)
          refine v_iload (pc := 42) cx dX1_tells_42 4 rfl ?_
          obtain ⟨k20, h⟩ := h
          obtain ⟨b21, h⟩ := h
          obtain ⟨r22, er22, h⟩ := h
          refine v_aald108 (pc := 44) cx dX1_tells_44 k20 rfl b21 (v_some er22 ?_)
          refine v_aload_n (pc := 45) cx dX1_tells_45 rfl 2 rfl ?_
          obtain ⟨k25, h⟩ := h
          refine v_run_i (pc := 46) cx (kd_told cx q789 (c_X8_told l D cA sz0 H0 M15 r22 _ sh h) ⟨Nat.le_of_ble_eq_true rfl, Nat.le_of_ble_eq_true rfl⟩ k25 (As := [.ref (sz0 + 174)]) rfl rfl (Nat.le_of_ble_eq_true rfl) dX1_tells_46 ⟨Nat.le_of_ble_eq_true rfl, Nat.le_of_ble_eq_true rfl⟩) (fun a23 M24 hq => ?_)
          obtain ⟨h, sh⟩ := hq
          exact v_iret cx rfl dX1_tells_49 ⟨Nat.le_of_ble_eq_true rfl, Nat.le_of_ble_eq_true rfl⟩ ⟨h, sh⟩
def m_X1_tells (t : Nat) (x1 : Int32) (x3 : Int32) (M : WM)  (Q : Int32 → WM → Prop) : Prop := (∃ n0, m_X1_tells_l3 t x1 x3 Q n0 ((0 : Int32)) M)
theorem c_X1_tells (l : Launch) (D : va_G) (cA : Nat → ClassId) (sz0 : Nat) (H0 : Heap) (M : WM) (t : Nat) (x1 : Int32) (x3 : Int32)   (Q : Int32 → WM → Prop) (sh : Shp M) (h : m_X1_tells t x1 x3 M  Q) : Met l yX1_tells (ws_ yX1_tells cX1_tells 5 (some .int)) ({ frames := 115, cells := 0, slots := 0, locals := 4515 } : Room) (PcW D cA sz0 H0 [.ref (sz0 + t), .int x1, .ref (sz0 + 174), .int x3] M) (QW_i D cA sz0 H0 (fun r M' => Q r M' ∧ Shp M')) 0 0 (Aw sz0) := by
  replace h : (∃ n0, m_X1_tells_l3 t x1 x3 Q n0 ((0 : Int32)) M) := h
  refine Met.ofV (by decide +kernel) (Nat.le_of_ble_eq_true rfl) ?_
  intro p e s m args below meth c cx hnm
  replace cx : Cx p s m args meth c cX1_tells 5 RX1 (some .int) D cA sz0 H0 := cx
  refine v_sub (lv' := [(0, .ref (sz0 + t)), (1, .int x1), (2, .ref (sz0 + 174)), (3, .int x3)]) [0, 1, 2, 3] rfl ?_
  refine v_iconst (pc := 0) cx dX1_tells_0 ic_0 ?_
  refine v_istore (pc := 1) cx dX1_tells_1 (Nat.le_of_ble_eq_true rfl) (lv' := [(4, .int (0 : Int32)), (0, .ref (sz0 + t)), (1, .int x1), (2, .ref (sz0 + 174)), (3, .int x3)]) rfl ?_
  refine v_sub (lv' := [(0, .ref (sz0 + t)), (1, .int x1), (2, .ref (sz0 + 174)), (3, .int x3), (4, .int (0 : Int32))]) [1, 2, 3, 4, 0] rfl ?_
  obtain ⟨n0, h⟩ := h
  exact w_X1_tells_l3 cx n0 ((0 : Int32)) M sh h
