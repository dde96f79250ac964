set_option maxRecDepth 100000
theorem bc_117 : (Int8.ofInt 117).toInt32 = (117 : Int32) := by decide
theorem sc_320 : (Int16.ofInt 320).toInt32 = (320 : Int32) := by decide
theorem sc_1024 : (Int16.ofInt 1024).toInt32 = (1024 : Int32) := by decide
theorem sc_1600 : (Int16.ofInt 1600).toInt32 = (1600 : Int32) := by decide
theorem sc_4096 : (Int16.ofInt 4096).toInt32 = (4096 : Int32) := by decide
theorem gq166_X1 {p : Program} {l : Launch} {e : Env} {R : Room} {s : State} {m : MethodId} {args : Array Value} {below : List Frame} {meth : Method} {c : Code} {cells slots : Nat} {Q : State → Prop} {cc : ByteArray} {nL : Nat} {ret : Option FieldType} {D : va_G} {cA : Nat → ClassId} {sz0 : Nat} {H0 : Heap} {pc : Nat} {lv : List (Nat × Value)} {st : List Value} {M : WM} {r : Nat} (cx : Cx p s m args meth c cc nL RX7 ret D cA sz0 H0) (d : decode cc pc = .ok (.getfield 132, 3)) (hr : wk M r = 1) (kk : V p l e R s m args below meth c nL D cA sz0 H0 cells slots Q (pc + 3) lv (vr sz0 (wR M r 0) :: st) M) : V p l e R s m args below meth c nL D cA sz0 H0 cells slots Q pc lv (.ref (sz0 + r) :: st) M := v_getRN cx (k := 0) cl_X1 (by decide) in_X1 (by decide) (nst_in q166 rfl) rfl d hr kk
theorem gq168_X1 {p : Program} {l : Launch} {e : Env} {R : Room} {s : State} {m : MethodId} {args : Array Value} {below : List Frame} {meth : Method} {c : Code} {cells slots : Nat} {Q : State → Prop} {cc : ByteArray} {nL : Nat} {ret : Option FieldType} {D : va_G} {cA : Nat → ClassId} {sz0 : Nat} {H0 : Heap} {pc : Nat} {lv : List (Nat × Value)} {st : List Value} {M : WM} {r : Nat} (cx : Cx p s m args meth c cc nL RX7 ret D cA sz0 H0) (d : decode cc pc = .ok (.getfield 136, 3)) (hr : wk M r = 1) (kk : V p l e R s m args below meth c nL D cA sz0 H0 cells slots Q (pc + 3) lv (vr sz0 (wR M r 1) :: st) M) : V p l e R s m args below meth c nL D cA sz0 H0 cells slots Q pc lv (.ref (sz0 + r) :: st) M := v_getRN cx (k := 1) cl_X1 (by decide) in_X1 (by decide) (nst_in q168 rfl) rfl d hr kk
theorem gq170_X1 {p : Program} {l : Launch} {e : Env} {R : Room} {s : State} {m : MethodId} {args : Array Value} {below : List Frame} {meth : Method} {c : Code} {cells slots : Nat} {Q : State → Prop} {cc : ByteArray} {nL : Nat} {ret : Option FieldType} {D : va_G} {cA : Nat → ClassId} {sz0 : Nat} {H0 : Heap} {pc : Nat} {lv : List (Nat × Value)} {st : List Value} {M : WM} {r : Nat} (cx : Cx p s m args meth c cc nL RX7 ret D cA sz0 H0) (d : decode cc pc = .ok (.getfield 140, 3)) (hr : wk M r = 1) (kk : V p l e R s m args below meth c nL D cA sz0 H0 cells slots Q (pc + 3) lv (vr sz0 (wR M r 2) :: st) M) : V p l e R s m args below meth c nL D cA sz0 H0 cells slots Q pc lv (.ref (sz0 + r) :: st) M := v_getRN cx (k := 2) cl_X1 (by decide) in_X1 (by decide) (nst_in q170 rfl) rfl d hr kk
theorem gq172_X1 {p : Program} {l : Launch} {e : Env} {R : Room} {s : State} {m : MethodId} {args : Array Value} {below : List Frame} {meth : Method} {c : Code} {cells slots : Nat} {Q : State → Prop} {cc : ByteArray} {nL : Nat} {ret : Option FieldType} {D : va_G} {cA : Nat → ClassId} {sz0 : Nat} {H0 : Heap} {pc : Nat} {lv : List (Nat × Value)} {st : List Value} {M : WM} {r : Nat} (cx : Cx p s m args meth c cc nL RX7 ret D cA sz0 H0) (d : decode cc pc = .ok (.getfield 129, 3)) (hr : wk M r = 1) (kk : V p l e R s m args below meth c nL D cA sz0 H0 cells slots Q (pc + 3) lv (.int (wI M r 3) :: st) M) : V p l e R s m args below meth c nL D cA sz0 H0 cells slots Q pc lv (.ref (sz0 + r) :: st) M := v_getIN cx (k := 3) cl_X1 (by decide) in_X1 (by decide) (nst_in q172 rfl) rfl d hr kk
theorem gq274_X0 {p : Program} {l : Launch} {e : Env} {R : Room} {s : State} {m : MethodId} {args : Array Value} {below : List Frame} {meth : Method} {c : Code} {cells slots : Nat} {Q : State → Prop} {cc : ByteArray} {nL : Nat} {ret : Option FieldType} {D : va_G} {cA : Nat → ClassId} {sz0 : Nat} {H0 : Heap} {pc : Nat} {lv : List (Nat × Value)} {st : List Value} {M : WM} {r : Nat} (cx : Cx p s m args meth c cc nL RX7 ret D cA sz0 H0) (d : decode cc pc = .ok (.getfield 29, 3)) (hr : wk M r = 0) (kk : V p l e R s m args below meth c nL D cA sz0 H0 cells slots Q (pc + 3) lv (vr sz0 (wR M r 1) :: st) M) : V p l e R s m args below meth c nL D cA sz0 H0 cells slots Q pc lv (.ref (sz0 + r) :: st) M := v_getRN cx (k := 1) cl_X0 (by decide) in_X0 (by decide) (nst_in q274 rfl) rfl d hr kk
theorem gq445_X7 {p : Program} {l : Launch} {e : Env} {R : Room} {s : State} {m : MethodId} {args : Array Value} {below : List Frame} {meth : Method} {c : Code} {cells slots : Nat} {Q : State → Prop} {cc : ByteArray} {nL : Nat} {ret : Option FieldType} {D : va_G} {cA : Nat → ClassId} {sz0 : Nat} {H0 : Heap} {pc : Nat} {lv : List (Nat × Value)} {st : List Value} {M : WM} {r : Nat} (cx : Cx p s m args meth c cc nL RX7 ret D cA sz0 H0) (d : decode cc pc = .ok (.getfield 22, 3)) (hr : wk M r = 6) (kk : V p l e R s m args below meth c nL D cA sz0 H0 cells slots Q (pc + 3) lv (.int (wI M r 0) :: st) M) : V p l e R s m args below meth c nL D cA sz0 H0 cells slots Q pc lv (.ref (sz0 + r) :: st) M := v_getI cx (k := 0) cl_X7 (by decide) in_X7 (by decide) q445 rfl d hr kk
theorem gq446_X7 {p : Program} {l : Launch} {e : Env} {R : Room} {s : State} {m : MethodId} {args : Array Value} {below : List Frame} {meth : Method} {c : Code} {cells slots : Nat} {Q : State → Prop} {cc : ByteArray} {nL : Nat} {ret : Option FieldType} {D : va_G} {cA : Nat → ClassId} {sz0 : Nat} {H0 : Heap} {pc : Nat} {lv : List (Nat × Value)} {st : List Value} {M : WM} {r : Nat} (cx : Cx p s m args meth c cc nL RX7 ret D cA sz0 H0) (d : decode cc pc = .ok (.getfield 18, 3)) (hr : wk M r = 6) (kk : V p l e R s m args below meth c nL D cA sz0 H0 cells slots Q (pc + 3) lv (vr sz0 (wR M r 1) :: st) M) : V p l e R s m args below meth c nL D cA sz0 H0 cells slots Q pc lv (.ref (sz0 + r) :: st) M := v_getR cx (k := 1) cl_X7 (by decide) in_X7 (by decide) q446 rfl d hr kk
theorem gq447_X7 {p : Program} {l : Launch} {e : Env} {R : Room} {s : State} {m : MethodId} {args : Array Value} {below : List Frame} {meth : Method} {c : Code} {cells slots : Nat} {Q : State → Prop} {cc : ByteArray} {nL : Nat} {ret : Option FieldType} {D : va_G} {cA : Nat → ClassId} {sz0 : Nat} {H0 : Heap} {pc : Nat} {lv : List (Nat × Value)} {st : List Value} {M : WM} {r : Nat} (cx : Cx p s m args meth c cc nL RX0 ret D cA sz0 H0) (d : decode cc pc = .ok (.getfield 186, 3)) (hr : wk M r = 6) (kk : V p l e R s m args below meth c nL D cA sz0 H0 cells slots Q (pc + 3) lv (vr sz0 (wR M r 1) :: st) M) : V p l e R s m args below meth c nL D cA sz0 H0 cells slots Q pc lv (.ref (sz0 + r) :: st) M := v_getRN cx (k := 1) cl_X7 (by decide) in_X7 (by decide) (nst_in q447 rfl) rfl d hr kk
theorem gq448_X7 {p : Program} {l : Launch} {e : Env} {R : Room} {s : State} {m : MethodId} {args : Array Value} {below : List Frame} {meth : Method} {c : Code} {cells slots : Nat} {Q : State → Prop} {cc : ByteArray} {nL : Nat} {ret : Option FieldType} {D : va_G} {cA : Nat → ClassId} {sz0 : Nat} {H0 : Heap} {pc : Nat} {lv : List (Nat × Value)} {st : List Value} {M : WM} {r : Nat} (cx : Cx p s m args meth c cc nL RX7 ret D cA sz0 H0) (d : decode cc pc = .ok (.getfield 26, 3)) (hr : wk M r = 6) (kk : V p l e R s m args below meth c nL D cA sz0 H0 cells slots Q (pc + 3) lv (.int (wI M r 2) :: st) M) : V p l e R s m args below meth c nL D cA sz0 H0 cells slots Q pc lv (.ref (sz0 + r) :: st) M := v_getI cx (k := 2) cl_X7 (by decide) in_X7 (by decide) q448 rfl d hr kk
theorem gq449_X7 {p : Program} {l : Launch} {e : Env} {R : Room} {s : State} {m : MethodId} {args : Array Value} {below : List Frame} {meth : Method} {c : Code} {cells slots : Nat} {Q : State → Prop} {cc : ByteArray} {nL : Nat} {ret : Option FieldType} {D : va_G} {cA : Nat → ClassId} {sz0 : Nat} {H0 : Heap} {pc : Nat} {lv : List (Nat × Value)} {st : List Value} {M : WM} {r : Nat} (cx : Cx p s m args meth c cc nL RX7 ret D cA sz0 H0) (d : decode cc pc = .ok (.getfield 54, 3)) (hr : wk M r = 6) (kk : V p l e R s m args below meth c nL D cA sz0 H0 cells slots Q (pc + 3) lv (.int (wI M r 3) :: st) M) : V p l e R s m args below meth c nL D cA sz0 H0 cells slots Q pc lv (.ref (sz0 + r) :: st) M := v_getI cx (k := 3) cl_X7 (by decide) in_X7 (by decide) q449 rfl d hr kk
theorem gq450_X7 {p : Program} {l : Launch} {e : Env} {R : Room} {s : State} {m : MethodId} {args : Array Value} {below : List Frame} {meth : Method} {c : Code} {cells slots : Nat} {Q : State → Prop} {cc : ByteArray} {nL : Nat} {ret : Option FieldType} {D : va_G} {cA : Nat → ClassId} {sz0 : Nat} {H0 : Heap} {pc : Nat} {lv : List (Nat × Value)} {st : List Value} {M : WM} {r : Nat} (cx : Cx p s m args meth c cc nL RX7 ret D cA sz0 H0) (d : decode cc pc = .ok (.getfield 33, 3)) (hr : wk M r = 6) (kk : V p l e R s m args below meth c nL D cA sz0 H0 cells slots Q (pc + 3) lv (.int (wI M r 4) :: st) M) : V p l e R s m args below meth c nL D cA sz0 H0 cells slots Q pc lv (.ref (sz0 + r) :: st) M := v_getI cx (k := 4) cl_X7 (by decide) in_X7 (by decide) q450 rfl d hr kk
theorem gq451_X7 {p : Program} {l : Launch} {e : Env} {R : Room} {s : State} {m : MethodId} {args : Array Value} {below : List Frame} {meth : Method} {c : Code} {cells slots : Nat} {Q : State → Prop} {cc : ByteArray} {nL : Nat} {ret : Option FieldType} {D : va_G} {cA : Nat → ClassId} {sz0 : Nat} {H0 : Heap} {pc : Nat} {lv : List (Nat × Value)} {st : List Value} {M : WM} {r : Nat} (cx : Cx p s m args meth c cc nL RX7 ret D cA sz0 H0) (d : decode cc pc = .ok (.getfield 36, 3)) (hr : wk M r = 6) (kk : V p l e R s m args below meth c nL D cA sz0 H0 cells slots Q (pc + 3) lv (.int (wI M r 5) :: st) M) : V p l e R s m args below meth c nL D cA sz0 H0 cells slots Q pc lv (.ref (sz0 + r) :: st) M := v_getI cx (k := 5) cl_X7 (by decide) in_X7 (by decide) q451 rfl d hr kk
theorem gq452_X7 {p : Program} {l : Launch} {e : Env} {R : Room} {s : State} {m : MethodId} {args : Array Value} {below : List Frame} {meth : Method} {c : Code} {cells slots : Nat} {Q : State → Prop} {cc : ByteArray} {nL : Nat} {ret : Option FieldType} {D : va_G} {cA : Nat → ClassId} {sz0 : Nat} {H0 : Heap} {pc : Nat} {lv : List (Nat × Value)} {st : List Value} {M : WM} {r : Nat} (cx : Cx p s m args meth c cc nL RX7 ret D cA sz0 H0) (d : decode cc pc = .ok (.getfield 3, 3)) (hr : wk M r = 6) (kk : V p l e R s m args below meth c nL D cA sz0 H0 cells slots Q (pc + 3) lv (vr sz0 (wR M r 6) :: st) M) : V p l e R s m args below meth c nL D cA sz0 H0 cells slots Q pc lv (.ref (sz0 + r) :: st) M := v_getR cx (k := 6) cl_X7 (by decide) in_X7 (by decide) q452 rfl d hr kk
theorem gq635_X9 {p : Program} {l : Launch} {e : Env} {R : Room} {s : State} {m : MethodId} {args : Array Value} {below : List Frame} {meth : Method} {c : Code} {cells slots : Nat} {Q : State → Prop} {cc : ByteArray} {nL : Nat} {ret : Option FieldType} {D : va_G} {cA : Nat → ClassId} {sz0 : Nat} {H0 : Heap} {pc : Nat} {lv : List (Nat × Value)} {st : List Value} {M : WM} {r : Nat} (cx : Cx p s m args meth c cc nL RX7 ret D cA sz0 H0) (d : decode cc pc = .ok (.getfield 94, 3)) (hr : wk M r = 7) (kk : V p l e R s m args below meth c nL D cA sz0 H0 cells slots Q (pc + 3) lv (vr sz0 (wR M r 2) :: st) M) : V p l e R s m args below meth c nL D cA sz0 H0 cells slots Q pc lv (.ref (sz0 + r) :: st) M := v_getRN cx (k := 2) cl_X9 (by decide) in_X9 (by decide) (nst_in q635 rfl) rfl d hr kk
theorem gq693_X13 {p : Program} {l : Launch} {e : Env} {R : Room} {s : State} {m : MethodId} {args : Array Value} {below : List Frame} {meth : Method} {c : Code} {cells slots : Nat} {Q : State → Prop} {cc : ByteArray} {nL : Nat} {ret : Option FieldType} {D : va_G} {cA : Nat → ClassId} {sz0 : Nat} {H0 : Heap} {pc : Nat} {lv : List (Nat × Value)} {st : List Value} {M : WM} {r : Nat} (cx : Cx p s m args meth c cc nL RX7 ret D cA sz0 H0) (d : decode cc pc = .ok (.getfield 123, 3)) (hr : wk M r = 10) (kk : V p l e R s m args below meth c nL D cA sz0 H0 cells slots Q (pc + 3) lv (vr sz0 (wR M r 2) :: st) M) : V p l e R s m args below meth c nL D cA sz0 H0 cells slots Q pc lv (.ref (sz0 + r) :: st) M := v_getRN cx (k := 2) cl_X13 (by decide) in_X13 (by decide) (nst_in q693 rfl) rfl d hr kk
theorem pq1021_X6 {p : Program} {l : Launch} {e : Env} {R : Room} {s : State} {m : MethodId} {args : Array Value} {below : List Frame} {meth : Method} {c : Code} {cells slots : Nat} {Q : State → Prop} {cc : ByteArray} {nL : Nat} {ret : Option FieldType} {D : va_G} {cA : Nat → ClassId} {sz0 : Nat} {H0 : Heap} {pc : Nat} {lv : List (Nat × Value)} {st : List Value} {M : WM} {r : Nat} (cx : Cx p s m args meth c cc nL RX6 ret D cA sz0 H0) {x : Option Nat} (hnm : meth.name = "<init>")  (d : decode cc pc = .ok (.putfield 7, 3)) (hr : wk M r = 5) (kk : V p l e R s m args below meth c nL D cA sz0 H0 cells slots Q (pc + 3) lv st (wPR M r 3 x)) : V p l e R s m args below meth c nL D cA sz0 H0 cells slots Q pc lv (vr sz0 x :: .ref (sz0 + r) :: st) M := v_putFR cx (k := 3) cl_X6 (by decide) in_X6 (by decide) tyX6 tyX6_ok nmX6 q1021 rfl rfl hnm rfl (ty := tyX6 3) (tyX6_ok 3 (by decide)) (by cases x <;> rfl) (by cases x <;> rfl) d hr kk
theorem pq1022_X6 {p : Program} {l : Launch} {e : Env} {R : Room} {s : State} {m : MethodId} {args : Array Value} {below : List Frame} {meth : Method} {c : Code} {cells slots : Nat} {Q : State → Prop} {cc : ByteArray} {nL : Nat} {ret : Option FieldType} {D : va_G} {cA : Nat → ClassId} {sz0 : Nat} {H0 : Heap} {pc : Nat} {lv : List (Nat × Value)} {st : List Value} {M : WM} {r : Nat} (cx : Cx p s m args meth c cc nL RX6 ret D cA sz0 H0) {x : Option Nat} (hnm : meth.name = "<init>")  (d : decode cc pc = .ok (.putfield 13, 3)) (hr : wk M r = 5) (kk : V p l e R s m args below meth c nL D cA sz0 H0 cells slots Q (pc + 3) lv st (wPR M r 4 x)) : V p l e R s m args below meth c nL D cA sz0 H0 cells slots Q pc lv (vr sz0 x :: .ref (sz0 + r) :: st) M := v_putFR cx (k := 4) cl_X6 (by decide) in_X6 (by decide) tyX6 tyX6_ok nmX6 q1022 rfl rfl hnm rfl (ty := tyX6 4) (tyX6_ok 4 (by decide)) (by cases x <;> rfl) (by cases x <;> rfl) d hr kk
theorem pq1023_X6 {p : Program} {l : Launch} {e : Env} {R : Room} {s : State} {m : MethodId} {args : Array Value} {below : List Frame} {meth : Method} {c : Code} {cells slots : Nat} {Q : State → Prop} {cc : ByteArray} {nL : Nat} {ret : Option FieldType} {D : va_G} {cA : Nat → ClassId} {sz0 : Nat} {H0 : Heap} {pc : Nat} {lv : List (Nat × Value)} {st : List Value} {M : WM} {r : Nat} (cx : Cx p s m args meth c cc nL RX6 ret D cA sz0 H0) {x : Option Nat} (hnm : meth.name = "<init>")  (d : decode cc pc = .ok (.putfield 16, 3)) (hr : wk M r = 5) (kk : V p l e R s m args below meth c nL D cA sz0 H0 cells slots Q (pc + 3) lv st (wPR M r 5 x)) : V p l e R s m args below meth c nL D cA sz0 H0 cells slots Q pc lv (vr sz0 x :: .ref (sz0 + r) :: st) M := v_putFR cx (k := 5) cl_X6 (by decide) in_X6 (by decide) tyX6 tyX6_ok nmX6 q1023 rfl rfl hnm rfl (ty := tyX6 5) (tyX6_ok 5 (by decide)) (by cases x <;> rfl) (by cases x <;> rfl) d hr kk
theorem pq1024_X6 {p : Program} {l : Launch} {e : Env} {R : Room} {s : State} {m : MethodId} {args : Array Value} {below : List Frame} {meth : Method} {c : Code} {cells slots : Nat} {Q : State → Prop} {cc : ByteArray} {nL : Nat} {ret : Option FieldType} {D : va_G} {cA : Nat → ClassId} {sz0 : Nat} {H0 : Heap} {pc : Nat} {lv : List (Nat × Value)} {st : List Value} {M : WM} {r : Nat} (cx : Cx p s m args meth c cc nL RX6 ret D cA sz0 H0) {x : Option Nat} (hnm : meth.name = "<init>")  (d : decode cc pc = .ok (.putfield 19, 3)) (hr : wk M r = 5) (kk : V p l e R s m args below meth c nL D cA sz0 H0 cells slots Q (pc + 3) lv st (wPR M r 6 x)) : V p l e R s m args below meth c nL D cA sz0 H0 cells slots Q pc lv (vr sz0 x :: .ref (sz0 + r) :: st) M := v_putFR cx (k := 6) cl_X6 (by decide) in_X6 (by decide) tyX6 tyX6_ok nmX6 q1024 rfl rfl hnm rfl (ty := tyX6 6) (tyX6_ok 6 (by decide)) (by cases x <;> rfl) (by cases x <;> rfl) d hr kk
theorem pq1025_X6 {p : Program} {l : Launch} {e : Env} {R : Room} {s : State} {m : MethodId} {args : Array Value} {below : List Frame} {meth : Method} {c : Code} {cells slots : Nat} {Q : State → Prop} {cc : ByteArray} {nL : Nat} {ret : Option FieldType} {D : va_G} {cA : Nat → ClassId} {sz0 : Nat} {H0 : Heap} {pc : Nat} {lv : List (Nat × Value)} {st : List Value} {M : WM} {r : Nat} (cx : Cx p s m args meth c cc nL RX6 ret D cA sz0 H0) {x : Option Nat} (hnm : meth.name = "<init>")  (d : decode cc pc = .ok (.putfield 22, 3)) (hr : wk M r = 5) (kk : V p l e R s m args below meth c nL D cA sz0 H0 cells slots Q (pc + 3) lv st (wPR M r 7 x)) : V p l e R s m args below meth c nL D cA sz0 H0 cells slots Q pc lv (vr sz0 x :: .ref (sz0 + r) :: st) M := v_putFR cx (k := 7) cl_X6 (by decide) in_X6 (by decide) tyX6 tyX6_ok nmX6 q1025 rfl rfl hnm rfl (ty := tyX6 7) (tyX6_ok 7 (by decide)) (by cases x <;> rfl) (by cases x <;> rfl) d hr kk
theorem pq1026_X6 {p : Program} {l : Launch} {e : Env} {R : Room} {s : State} {m : MethodId} {args : Array Value} {below : List Frame} {meth : Method} {c : Code} {cells slots : Nat} {Q : State → Prop} {cc : ByteArray} {nL : Nat} {ret : Option FieldType} {D : va_G} {cA : Nat → ClassId} {sz0 : Nat} {H0 : Heap} {pc : Nat} {lv : List (Nat × Value)} {st : List Value} {M : WM} {r : Nat} (cx : Cx p s m args meth c cc nL RX6 ret D cA sz0 H0) {x : Option Nat} (hnm : meth.name = "<init>")  (d : decode cc pc = .ok (.putfield 26, 3)) (hr : wk M r = 5) (kk : V p l e R s m args below meth c nL D cA sz0 H0 cells slots Q (pc + 3) lv st (wPR M r 8 x)) : V p l e R s m args below meth c nL D cA sz0 H0 cells slots Q pc lv (vr sz0 x :: .ref (sz0 + r) :: st) M := v_putFR cx (k := 8) cl_X6 (by decide) in_X6 (by decide) tyX6 tyX6_ok nmX6 q1026 rfl rfl hnm rfl (ty := tyX6 8) (tyX6_ok 8 (by decide)) (by cases x <;> rfl) (by cases x <;> rfl) d hr kk
theorem pq1028_X6 {p : Program} {l : Launch} {e : Env} {R : Room} {s : State} {m : MethodId} {args : Array Value} {below : List Frame} {meth : Method} {c : Code} {cells slots : Nat} {Q : State → Prop} {cc : ByteArray} {nL : Nat} {ret : Option FieldType} {D : va_G} {cA : Nat → ClassId} {sz0 : Nat} {H0 : Heap} {pc : Nat} {lv : List (Nat × Value)} {st : List Value} {M : WM} {r : Nat} (cx : Cx p s m args meth c cc nL RX6 ret D cA sz0 H0) {x : Option Nat} (hnm : meth.name = "<init>")  (d : decode cc pc = .ok (.putfield 29, 3)) (hr : wk M r = 5) (kk : V p l e R s m args below meth c nL D cA sz0 H0 cells slots Q (pc + 3) lv st (wPR M r 10 x)) : V p l e R s m args below meth c nL D cA sz0 H0 cells slots Q pc lv (vr sz0 x :: .ref (sz0 + r) :: st) M := v_putFR cx (k := 10) cl_X6 (by decide) in_X6 (by decide) tyX6 tyX6_ok nmX6 q1028 rfl rfl hnm rfl (ty := tyX6 10) (tyX6_ok 10 (by decide)) (by cases x <;> rfl) (by cases x <;> rfl) d hr kk
theorem pq1039_X6 {p : Program} {l : Launch} {e : Env} {R : Room} {s : State} {m : MethodId} {args : Array Value} {below : List Frame} {meth : Method} {c : Code} {cells slots : Nat} {Q : State → Prop} {cc : ByteArray} {nL : Nat} {ret : Option FieldType} {D : va_G} {cA : Nat → ClassId} {sz0 : Nat} {H0 : Heap} {pc : Nat} {lv : List (Nat × Value)} {st : List Value} {M : WM} {r : Nat} (cx : Cx p s m args meth c cc nL RX6 ret D cA sz0 H0) {x : Option Nat} (hnm : meth.name = "<init>")  (d : decode cc pc = .ok (.putfield 33, 3)) (hr : wk M r = 5) (kk : V p l e R s m args below meth c nL D cA sz0 H0 cells slots Q (pc + 3) lv st (wPR M r 21 x)) : V p l e R s m args below meth c nL D cA sz0 H0 cells slots Q pc lv (vr sz0 x :: .ref (sz0 + r) :: st) M := v_putFR cx (k := 21) cl_X6 (by decide) in_X6 (by decide) tyX6 tyX6_ok nmX6 q1039 rfl rfl hnm rfl (ty := tyX6 21) (tyX6_ok 21 (by decide)) (by cases x <;> rfl) (by cases x <;> rfl) d hr kk
theorem pq1040_X6 {p : Program} {l : Launch} {e : Env} {R : Room} {s : State} {m : MethodId} {args : Array Value} {below : List Frame} {meth : Method} {c : Code} {cells slots : Nat} {Q : State → Prop} {cc : ByteArray} {nL : Nat} {ret : Option FieldType} {D : va_G} {cA : Nat → ClassId} {sz0 : Nat} {H0 : Heap} {pc : Nat} {lv : List (Nat × Value)} {st : List Value} {M : WM} {r : Nat} (cx : Cx p s m args meth c cc nL RX6 ret D cA sz0 H0) {x : Option Nat} (hnm : meth.name = "<init>")  (d : decode cc pc = .ok (.putfield 36, 3)) (hr : wk M r = 5) (kk : V p l e R s m args below meth c nL D cA sz0 H0 cells slots Q (pc + 3) lv st (wPR M r 22 x)) : V p l e R s m args below meth c nL D cA sz0 H0 cells slots Q pc lv (vr sz0 x :: .ref (sz0 + r) :: st) M := v_putFR cx (k := 22) cl_X6 (by decide) in_X6 (by decide) tyX6 tyX6_ok nmX6 q1040 rfl rfl hnm rfl (ty := tyX6 22) (tyX6_ok 22 (by decide)) (by cases x <;> rfl) (by cases x <;> rfl) d hr kk
theorem pq1041_X6 {p : Program} {l : Launch} {e : Env} {R : Room} {s : State} {m : MethodId} {args : Array Value} {below : List Frame} {meth : Method} {c : Code} {cells slots : Nat} {Q : State → Prop} {cc : ByteArray} {nL : Nat} {ret : Option FieldType} {D : va_G} {cA : Nat → ClassId} {sz0 : Nat} {H0 : Heap} {pc : Nat} {lv : List (Nat × Value)} {st : List Value} {M : WM} {r : Nat} (cx : Cx p s m args meth c cc nL RX6 ret D cA sz0 H0) {x : Option Nat} (hnm : meth.name = "<init>")  (d : decode cc pc = .ok (.putfield 39, 3)) (hr : wk M r = 5) (kk : V p l e R s m args below meth c nL D cA sz0 H0 cells slots Q (pc + 3) lv st (wPR M r 23 x)) : V p l e R s m args below meth c nL D cA sz0 H0 cells slots Q pc lv (vr sz0 x :: .ref (sz0 + r) :: st) M := v_putFR cx (k := 23) cl_X6 (by decide) in_X6 (by decide) tyX6 tyX6_ok nmX6 q1041 rfl rfl hnm rfl (ty := tyX6 23) (tyX6_ok 23 (by decide)) (by cases x <;> rfl) (by cases x <;> rfl) d hr kk
theorem pq1042_X6 {p : Program} {l : Launch} {e : Env} {R : Room} {s : State} {m : MethodId} {args : Array Value} {below : List Frame} {meth : Method} {c : Code} {cells slots : Nat} {Q : State → Prop} {cc : ByteArray} {nL : Nat} {ret : Option FieldType} {D : va_G} {cA : Nat → ClassId} {sz0 : Nat} {H0 : Heap} {pc : Nat} {lv : List (Nat × Value)} {st : List Value} {M : WM} {r : Nat} (cx : Cx p s m args meth c cc nL RX6 ret D cA sz0 H0) {x : Option Nat} (hnm : meth.name = "<init>")  (d : decode cc pc = .ok (.putfield 42, 3)) (hr : wk M r = 5) (kk : V p l e R s m args below meth c nL D cA sz0 H0 cells slots Q (pc + 3) lv st (wPR M r 24 x)) : V p l e R s m args below meth c nL D cA sz0 H0 cells slots Q pc lv (vr sz0 x :: .ref (sz0 + r) :: st) M := v_putFR cx (k := 24) cl_X6 (by decide) in_X6 (by decide) tyX6 tyX6_ok nmX6 q1042 rfl rfl hnm rfl (ty := tyX6 24) (tyX6_ok 24 (by decide)) (by cases x <;> rfl) (by cases x <;> rfl) d hr kk
theorem pq1043_X6 {p : Program} {l : Launch} {e : Env} {R : Room} {s : State} {m : MethodId} {args : Array Value} {below : List Frame} {meth : Method} {c : Code} {cells slots : Nat} {Q : State → Prop} {cc : ByteArray} {nL : Nat} {ret : Option FieldType} {D : va_G} {cA : Nat → ClassId} {sz0 : Nat} {H0 : Heap} {pc : Nat} {lv : List (Nat × Value)} {st : List Value} {M : WM} {r : Nat} (cx : Cx p s m args meth c cc nL RX6 ret D cA sz0 H0) {x : Option Nat} (hnm : meth.name = "<init>")  (d : decode cc pc = .ok (.putfield 45, 3)) (hr : wk M r = 5) (kk : V p l e R s m args below meth c nL D cA sz0 H0 cells slots Q (pc + 3) lv st (wPR M r 25 x)) : V p l e R s m args below meth c nL D cA sz0 H0 cells slots Q pc lv (vr sz0 x :: .ref (sz0 + r) :: st) M := v_putFR cx (k := 25) cl_X6 (by decide) in_X6 (by decide) tyX6 tyX6_ok nmX6 q1043 rfl rfl hnm rfl (ty := tyX6 25) (tyX6_ok 25 (by decide)) (by cases x <;> rfl) (by cases x <;> rfl) d hr kk
theorem pq1044_X6 {p : Program} {l : Launch} {e : Env} {R : Room} {s : State} {m : MethodId} {args : Array Value} {below : List Frame} {meth : Method} {c : Code} {cells slots : Nat} {Q : State → Prop} {cc : ByteArray} {nL : Nat} {ret : Option FieldType} {D : va_G} {cA : Nat → ClassId} {sz0 : Nat} {H0 : Heap} {pc : Nat} {lv : List (Nat × Value)} {st : List Value} {M : WM} {r : Nat} (cx : Cx p s m args meth c cc nL RX6 ret D cA sz0 H0) {x : Option Nat} (hnm : meth.name = "<init>")  (d : decode cc pc = .ok (.putfield 48, 3)) (hr : wk M r = 5) (kk : V p l e R s m args below meth c nL D cA sz0 H0 cells slots Q (pc + 3) lv st (wPR M r 26 x)) : V p l e R s m args below meth c nL D cA sz0 H0 cells slots Q pc lv (vr sz0 x :: .ref (sz0 + r) :: st) M := v_putFR cx (k := 26) cl_X6 (by decide) in_X6 (by decide) tyX6 tyX6_ok nmX6 q1044 rfl rfl hnm rfl (ty := tyX6 26) (tyX6_ok 26 (by decide)) (by cases x <;> rfl) (by cases x <;> rfl) d hr kk
theorem pq1045_X6 {p : Program} {l : Launch} {e : Env} {R : Room} {s : State} {m : MethodId} {args : Array Value} {below : List Frame} {meth : Method} {c : Code} {cells slots : Nat} {Q : State → Prop} {cc : ByteArray} {nL : Nat} {ret : Option FieldType} {D : va_G} {cA : Nat → ClassId} {sz0 : Nat} {H0 : Heap} {pc : Nat} {lv : List (Nat × Value)} {st : List Value} {M : WM} {r : Nat} (cx : Cx p s m args meth c cc nL RX6 ret D cA sz0 H0) {x : Option Nat} (hnm : meth.name = "<init>")  (d : decode cc pc = .ok (.putfield 51, 3)) (hr : wk M r = 5) (kk : V p l e R s m args below meth c nL D cA sz0 H0 cells slots Q (pc + 3) lv st (wPR M r 27 x)) : V p l e R s m args below meth c nL D cA sz0 H0 cells slots Q pc lv (vr sz0 x :: .ref (sz0 + r) :: st) M := v_putFR cx (k := 27) cl_X6 (by decide) in_X6 (by decide) tyX6 tyX6_ok nmX6 q1045 rfl rfl hnm rfl (ty := tyX6 27) (tyX6_ok 27 (by decide)) (by cases x <;> rfl) (by cases x <;> rfl) d hr kk
theorem pq1046_X6 {p : Program} {l : Launch} {e : Env} {R : Room} {s : State} {m : MethodId} {args : Array Value} {below : List Frame} {meth : Method} {c : Code} {cells slots : Nat} {Q : State → Prop} {cc : ByteArray} {nL : Nat} {ret : Option FieldType} {D : va_G} {cA : Nat → ClassId} {sz0 : Nat} {H0 : Heap} {pc : Nat} {lv : List (Nat × Value)} {st : List Value} {M : WM} {r : Nat} (cx : Cx p s m args meth c cc nL RX6 ret D cA sz0 H0) {x : Option Nat} (hnm : meth.name = "<init>")  (d : decode cc pc = .ok (.putfield 54, 3)) (hr : wk M r = 5) (kk : V p l e R s m args below meth c nL D cA sz0 H0 cells slots Q (pc + 3) lv st (wPR M r 28 x)) : V p l e R s m args below meth c nL D cA sz0 H0 cells slots Q pc lv (vr sz0 x :: .ref (sz0 + r) :: st) M := v_putFR cx (k := 28) cl_X6 (by decide) in_X6 (by decide) tyX6 tyX6_ok nmX6 q1046 rfl rfl hnm rfl (ty := tyX6 28) (tyX6_ok 28 (by decide)) (by cases x <;> rfl) (by cases x <;> rfl) d hr kk
theorem pq1047_X6 {p : Program} {l : Launch} {e : Env} {R : Room} {s : State} {m : MethodId} {args : Array Value} {below : List Frame} {meth : Method} {c : Code} {cells slots : Nat} {Q : State → Prop} {cc : ByteArray} {nL : Nat} {ret : Option FieldType} {D : va_G} {cA : Nat → ClassId} {sz0 : Nat} {H0 : Heap} {pc : Nat} {lv : List (Nat × Value)} {st : List Value} {M : WM} {r : Nat} (cx : Cx p s m args meth c cc nL RX6 ret D cA sz0 H0) {x : Option Nat} (hnm : meth.name = "<init>")  (d : decode cc pc = .ok (.putfield 57, 3)) (hr : wk M r = 5) (kk : V p l e R s m args below meth c nL D cA sz0 H0 cells slots Q (pc + 3) lv st (wPR M r 29 x)) : V p l e R s m args below meth c nL D cA sz0 H0 cells slots Q pc lv (vr sz0 x :: .ref (sz0 + r) :: st) M := v_putFR cx (k := 29) cl_X6 (by decide) in_X6 (by decide) tyX6 tyX6_ok nmX6 q1047 rfl rfl hnm rfl (ty := tyX6 29) (tyX6_ok 29 (by decide)) (by cases x <;> rfl) (by cases x <;> rfl) d hr kk
theorem pq1048_X6 {p : Program} {l : Launch} {e : Env} {R : Room} {s : State} {m : MethodId} {args : Array Value} {below : List Frame} {meth : Method} {c : Code} {cells slots : Nat} {Q : State → Prop} {cc : ByteArray} {nL : Nat} {ret : Option FieldType} {D : va_G} {cA : Nat → ClassId} {sz0 : Nat} {H0 : Heap} {pc : Nat} {lv : List (Nat × Value)} {st : List Value} {M : WM} {r : Nat} (cx : Cx p s m args meth c cc nL RX6 ret D cA sz0 H0) {x : Option Nat} (hnm : meth.name = "<init>")  (d : decode cc pc = .ok (.putfield 60, 3)) (hr : wk M r = 5) (kk : V p l e R s m args below meth c nL D cA sz0 H0 cells slots Q (pc + 3) lv st (wPR M r 30 x)) : V p l e R s m args below meth c nL D cA sz0 H0 cells slots Q pc lv (vr sz0 x :: .ref (sz0 + r) :: st) M := v_putFR cx (k := 30) cl_X6 (by decide) in_X6 (by decide) tyX6 tyX6_ok nmX6 q1048 rfl rfl hnm rfl (ty := tyX6 30) (tyX6_ok 30 (by decide)) (by cases x <;> rfl) (by cases x <;> rfl) d hr kk
theorem pq1049_X6 {p : Program} {l : Launch} {e : Env} {R : Room} {s : State} {m : MethodId} {args : Array Value} {below : List Frame} {meth : Method} {c : Code} {cells slots : Nat} {Q : State → Prop} {cc : ByteArray} {nL : Nat} {ret : Option FieldType} {D : va_G} {cA : Nat → ClassId} {sz0 : Nat} {H0 : Heap} {pc : Nat} {lv : List (Nat × Value)} {st : List Value} {M : WM} {r : Nat} (cx : Cx p s m args meth c cc nL RX6 ret D cA sz0 H0) {x : Option Nat} (hnm : meth.name = "<init>")  (d : decode cc pc = .ok (.putfield 63, 3)) (hr : wk M r = 5) (kk : V p l e R s m args below meth c nL D cA sz0 H0 cells slots Q (pc + 3) lv st (wPR M r 31 x)) : V p l e R s m args below meth c nL D cA sz0 H0 cells slots Q pc lv (vr sz0 x :: .ref (sz0 + r) :: st) M := v_putFR cx (k := 31) cl_X6 (by decide) in_X6 (by decide) tyX6 tyX6_ok nmX6 q1049 rfl rfl hnm rfl (ty := tyX6 31) (tyX6_ok 31 (by decide)) (by cases x <;> rfl) (by cases x <;> rfl) d hr kk
theorem pq1050_X6 {p : Program} {l : Launch} {e : Env} {R : Room} {s : State} {m : MethodId} {args : Array Value} {below : List Frame} {meth : Method} {c : Code} {cells slots : Nat} {Q : State → Prop} {cc : ByteArray} {nL : Nat} {ret : Option FieldType} {D : va_G} {cA : Nat → ClassId} {sz0 : Nat} {H0 : Heap} {pc : Nat} {lv : List (Nat × Value)} {st : List Value} {M : WM} {r : Nat} (cx : Cx p s m args meth c cc nL RX6 ret D cA sz0 H0) {x : Option Nat} (hnm : meth.name = "<init>")  (d : decode cc pc = .ok (.putfield 66, 3)) (hr : wk M r = 5) (kk : V p l e R s m args below meth c nL D cA sz0 H0 cells slots Q (pc + 3) lv st (wPR M r 32 x)) : V p l e R s m args below meth c nL D cA sz0 H0 cells slots Q pc lv (vr sz0 x :: .ref (sz0 + r) :: st) M := v_putFR cx (k := 32) cl_X6 (by decide) in_X6 (by decide) tyX6 tyX6_ok nmX6 q1050 rfl rfl hnm rfl (ty := tyX6 32) (tyX6_ok 32 (by decide)) (by cases x <;> rfl) (by cases x <;> rfl) d hr kk
theorem pq1051_X6 {p : Program} {l : Launch} {e : Env} {R : Room} {s : State} {m : MethodId} {args : Array Value} {below : List Frame} {meth : Method} {c : Code} {cells slots : Nat} {Q : State → Prop} {cc : ByteArray} {nL : Nat} {ret : Option FieldType} {D : va_G} {cA : Nat → ClassId} {sz0 : Nat} {H0 : Heap} {pc : Nat} {lv : List (Nat × Value)} {st : List Value} {M : WM} {r : Nat} (cx : Cx p s m args meth c cc nL RX6 ret D cA sz0 H0) {x : Option Nat} (hnm : meth.name = "<init>")  (d : decode cc pc = .ok (.putfield 69, 3)) (hr : wk M r = 5) (kk : V p l e R s m args below meth c nL D cA sz0 H0 cells slots Q (pc + 3) lv st (wPR M r 33 x)) : V p l e R s m args below meth c nL D cA sz0 H0 cells slots Q pc lv (vr sz0 x :: .ref (sz0 + r) :: st) M := v_putFR cx (k := 33) cl_X6 (by decide) in_X6 (by decide) tyX6 tyX6_ok nmX6 q1051 rfl rfl hnm rfl (ty := tyX6 33) (tyX6_ok 33 (by decide)) (by cases x <;> rfl) (by cases x <;> rfl) d hr kk
theorem pq1052_X6 {p : Program} {l : Launch} {e : Env} {R : Room} {s : State} {m : MethodId} {args : Array Value} {below : List Frame} {meth : Method} {c : Code} {cells slots : Nat} {Q : State → Prop} {cc : ByteArray} {nL : Nat} {ret : Option FieldType} {D : va_G} {cA : Nat → ClassId} {sz0 : Nat} {H0 : Heap} {pc : Nat} {lv : List (Nat × Value)} {st : List Value} {M : WM} {r : Nat} (cx : Cx p s m args meth c cc nL RX6 ret D cA sz0 H0) {x : Option Nat} (hnm : meth.name = "<init>")  (d : decode cc pc = .ok (.putfield 72, 3)) (hr : wk M r = 5) (kk : V p l e R s m args below meth c nL D cA sz0 H0 cells slots Q (pc + 3) lv st (wPR M r 34 x)) : V p l e R s m args below meth c nL D cA sz0 H0 cells slots Q pc lv (vr sz0 x :: .ref (sz0 + r) :: st) M := v_putFR cx (k := 34) cl_X6 (by decide) in_X6 (by decide) tyX6 tyX6_ok nmX6 q1052 rfl rfl hnm rfl (ty := tyX6 34) (tyX6_ok 34 (by decide)) (by cases x <;> rfl) (by cases x <;> rfl) d hr kk
theorem pq1053_X6 {p : Program} {l : Launch} {e : Env} {R : Room} {s : State} {m : MethodId} {args : Array Value} {below : List Frame} {meth : Method} {c : Code} {cells slots : Nat} {Q : State → Prop} {cc : ByteArray} {nL : Nat} {ret : Option FieldType} {D : va_G} {cA : Nat → ClassId} {sz0 : Nat} {H0 : Heap} {pc : Nat} {lv : List (Nat × Value)} {st : List Value} {M : WM} {r : Nat} (cx : Cx p s m args meth c cc nL RX6 ret D cA sz0 H0) {x : Option Nat} (hnm : meth.name = "<init>")  (d : decode cc pc = .ok (.putfield 75, 3)) (hr : wk M r = 5) (kk : V p l e R s m args below meth c nL D cA sz0 H0 cells slots Q (pc + 3) lv st (wPR M r 35 x)) : V p l e R s m args below meth c nL D cA sz0 H0 cells slots Q pc lv (vr sz0 x :: .ref (sz0 + r) :: st) M := v_putFR cx (k := 35) cl_X6 (by decide) in_X6 (by decide) tyX6 tyX6_ok nmX6 q1053 rfl rfl hnm rfl (ty := tyX6 35) (tyX6_ok 35 (by decide)) (by cases x <;> rfl) (by cases x <;> rfl) d hr kk
theorem pq1054_X6 {p : Program} {l : Launch} {e : Env} {R : Room} {s : State} {m : MethodId} {args : Array Value} {below : List Frame} {meth : Method} {c : Code} {cells slots : Nat} {Q : State → Prop} {cc : ByteArray} {nL : Nat} {ret : Option FieldType} {D : va_G} {cA : Nat → ClassId} {sz0 : Nat} {H0 : Heap} {pc : Nat} {lv : List (Nat × Value)} {st : List Value} {M : WM} {r : Nat} (cx : Cx p s m args meth c cc nL RX6 ret D cA sz0 H0) {x : Option Nat} (hnm : meth.name = "<init>")  (d : decode cc pc = .ok (.putfield 78, 3)) (hr : wk M r = 5) (kk : V p l e R s m args below meth c nL D cA sz0 H0 cells slots Q (pc + 3) lv st (wPR M r 36 x)) : V p l e R s m args below meth c nL D cA sz0 H0 cells slots Q pc lv (vr sz0 x :: .ref (sz0 + r) :: st) M := v_putFR cx (k := 36) cl_X6 (by decide) in_X6 (by decide) tyX6 tyX6_ok nmX6 q1054 rfl rfl hnm rfl (ty := tyX6 36) (tyX6_ok 36 (by decide)) (by cases x <;> rfl) (by cases x <;> rfl) d hr kk
theorem pq1055_X6 {p : Program} {l : Launch} {e : Env} {R : Room} {s : State} {m : MethodId} {args : Array Value} {below : List Frame} {meth : Method} {c : Code} {cells slots : Nat} {Q : State → Prop} {cc : ByteArray} {nL : Nat} {ret : Option FieldType} {D : va_G} {cA : Nat → ClassId} {sz0 : Nat} {H0 : Heap} {pc : Nat} {lv : List (Nat × Value)} {st : List Value} {M : WM} {r : Nat} (cx : Cx p s m args meth c cc nL RX6 ret D cA sz0 H0) {x : Option Nat} (hnm : meth.name = "<init>")  (d : decode cc pc = .ok (.putfield 81, 3)) (hr : wk M r = 5) (kk : V p l e R s m args below meth c nL D cA sz0 H0 cells slots Q (pc + 3) lv st (wPR M r 37 x)) : V p l e R s m args below meth c nL D cA sz0 H0 cells slots Q pc lv (vr sz0 x :: .ref (sz0 + r) :: st) M := v_putFR cx (k := 37) cl_X6 (by decide) in_X6 (by decide) tyX6 tyX6_ok nmX6 q1055 rfl rfl hnm rfl (ty := tyX6 37) (tyX6_ok 37 (by decide)) (by cases x <;> rfl) (by cases x <;> rfl) d hr kk
theorem pq1056_X6 {p : Program} {l : Launch} {e : Env} {R : Room} {s : State} {m : MethodId} {args : Array Value} {below : List Frame} {meth : Method} {c : Code} {cells slots : Nat} {Q : State → Prop} {cc : ByteArray} {nL : Nat} {ret : Option FieldType} {D : va_G} {cA : Nat → ClassId} {sz0 : Nat} {H0 : Heap} {pc : Nat} {lv : List (Nat × Value)} {st : List Value} {M : WM} {r : Nat} (cx : Cx p s m args meth c cc nL RX6 ret D cA sz0 H0) {x : Option Nat} (hnm : meth.name = "<init>")  (d : decode cc pc = .ok (.putfield 84, 3)) (hr : wk M r = 5) (kk : V p l e R s m args below meth c nL D cA sz0 H0 cells slots Q (pc + 3) lv st (wPR M r 38 x)) : V p l e R s m args below meth c nL D cA sz0 H0 cells slots Q pc lv (vr sz0 x :: .ref (sz0 + r) :: st) M := v_putFR cx (k := 38) cl_X6 (by decide) in_X6 (by decide) tyX6 tyX6_ok nmX6 q1056 rfl rfl hnm rfl (ty := tyX6 38) (tyX6_ok 38 (by decide)) (by cases x <;> rfl) (by cases x <;> rfl) d hr kk
theorem pq1057_X6 {p : Program} {l : Launch} {e : Env} {R : Room} {s : State} {m : MethodId} {args : Array Value} {below : List Frame} {meth : Method} {c : Code} {cells slots : Nat} {Q : State → Prop} {cc : ByteArray} {nL : Nat} {ret : Option FieldType} {D : va_G} {cA : Nat → ClassId} {sz0 : Nat} {H0 : Heap} {pc : Nat} {lv : List (Nat × Value)} {st : List Value} {M : WM} {r : Nat} (cx : Cx p s m args meth c cc nL RX6 ret D cA sz0 H0) {x : Option Nat} (hnm : meth.name = "<init>")  (d : decode cc pc = .ok (.putfield 88, 3)) (hr : wk M r = 5) (kk : V p l e R s m args below meth c nL D cA sz0 H0 cells slots Q (pc + 3) lv st (wPR M r 39 x)) : V p l e R s m args below meth c nL D cA sz0 H0 cells slots Q pc lv (vr sz0 x :: .ref (sz0 + r) :: st) M := v_putFR cx (k := 39) cl_X6 (by decide) in_X6 (by decide) tyX6 tyX6_ok nmX6 q1057 rfl rfl hnm rfl (ty := tyX6 39) (tyX6_ok 39 (by decide)) (by cases x <;> rfl) (by cases x <;> rfl) d hr kk
theorem pq1058_X6 {p : Program} {l : Launch} {e : Env} {R : Room} {s : State} {m : MethodId} {args : Array Value} {below : List Frame} {meth : Method} {c : Code} {cells slots : Nat} {Q : State → Prop} {cc : ByteArray} {nL : Nat} {ret : Option FieldType} {D : va_G} {cA : Nat → ClassId} {sz0 : Nat} {H0 : Heap} {pc : Nat} {lv : List (Nat × Value)} {st : List Value} {M : WM} {r : Nat} (cx : Cx p s m args meth c cc nL RX6 ret D cA sz0 H0) {x : Option Nat} (hnm : meth.name = "<init>")  (d : decode cc pc = .ok (.putfield 91, 3)) (hr : wk M r = 5) (kk : V p l e R s m args below meth c nL D cA sz0 H0 cells slots Q (pc + 3) lv st (wPR M r 40 x)) : V p l e R s m args below meth c nL D cA sz0 H0 cells slots Q pc lv (vr sz0 x :: .ref (sz0 + r) :: st) M := v_putFR cx (k := 40) cl_X6 (by decide) in_X6 (by decide) tyX6 tyX6_ok nmX6 q1058 rfl rfl hnm rfl (ty := tyX6 40) (tyX6_ok 40 (by decide)) (by cases x <;> rfl) (by cases x <;> rfl) d hr kk
theorem pq1062_X6 {p : Program} {l : Launch} {e : Env} {R : Room} {s : State} {m : MethodId} {args : Array Value} {below : List Frame} {meth : Method} {c : Code} {cells slots : Nat} {Q : State → Prop} {cc : ByteArray} {nL : Nat} {ret : Option FieldType} {D : va_G} {cA : Nat → ClassId} {sz0 : Nat} {H0 : Heap} {pc : Nat} {lv : List (Nat × Value)} {st : List Value} {M : WM} {r : Nat} (cx : Cx p s m args meth c cc nL RX6 ret D cA sz0 H0) {x : Option Nat} (hnm : meth.name = "<init>")  (d : decode cc pc = .ok (.putfield 94, 3)) (hr : wk M r = 5) (kk : V p l e R s m args below meth c nL D cA sz0 H0 cells slots Q (pc + 3) lv st (wPR M r 44 x)) : V p l e R s m args below meth c nL D cA sz0 H0 cells slots Q pc lv (vr sz0 x :: .ref (sz0 + r) :: st) M := v_putFR cx (k := 44) cl_X6 (by decide) in_X6 (by decide) tyX6 tyX6_ok nmX6 q1062 rfl rfl hnm rfl (ty := tyX6 44) (tyX6_ok 44 (by decide)) (by cases x <;> rfl) (by cases x <;> rfl) d hr kk
theorem pq1063_X6 {p : Program} {l : Launch} {e : Env} {R : Room} {s : State} {m : MethodId} {args : Array Value} {below : List Frame} {meth : Method} {c : Code} {cells slots : Nat} {Q : State → Prop} {cc : ByteArray} {nL : Nat} {ret : Option FieldType} {D : va_G} {cA : Nat → ClassId} {sz0 : Nat} {H0 : Heap} {pc : Nat} {lv : List (Nat × Value)} {st : List Value} {M : WM} {r : Nat} (cx : Cx p s m args meth c cc nL RX6 ret D cA sz0 H0) {x : Option Nat} (hnm : meth.name = "<init>")  (d : decode cc pc = .ok (.putfield 97, 3)) (hr : wk M r = 5) (kk : V p l e R s m args below meth c nL D cA sz0 H0 cells slots Q (pc + 3) lv st (wPR M r 45 x)) : V p l e R s m args below meth c nL D cA sz0 H0 cells slots Q pc lv (vr sz0 x :: .ref (sz0 + r) :: st) M := v_putFR cx (k := 45) cl_X6 (by decide) in_X6 (by decide) tyX6 tyX6_ok nmX6 q1063 rfl rfl hnm rfl (ty := tyX6 45) (tyX6_ok 45 (by decide)) (by cases x <;> rfl) (by cases x <;> rfl) d hr kk
theorem pq1064_X6 {p : Program} {l : Launch} {e : Env} {R : Room} {s : State} {m : MethodId} {args : Array Value} {below : List Frame} {meth : Method} {c : Code} {cells slots : Nat} {Q : State → Prop} {cc : ByteArray} {nL : Nat} {ret : Option FieldType} {D : va_G} {cA : Nat → ClassId} {sz0 : Nat} {H0 : Heap} {pc : Nat} {lv : List (Nat × Value)} {st : List Value} {M : WM} {r : Nat} (cx : Cx p s m args meth c cc nL RX6 ret D cA sz0 H0) {x : Option Nat} (hnm : meth.name = "<init>")  (d : decode cc pc = .ok (.putfield 100, 3)) (hr : wk M r = 5) (kk : V p l e R s m args below meth c nL D cA sz0 H0 cells slots Q (pc + 3) lv st (wPR M r 46 x)) : V p l e R s m args below meth c nL D cA sz0 H0 cells slots Q pc lv (vr sz0 x :: .ref (sz0 + r) :: st) M := v_putFR cx (k := 46) cl_X6 (by decide) in_X6 (by decide) tyX6 tyX6_ok nmX6 q1064 rfl rfl hnm rfl (ty := tyX6 46) (tyX6_ok 46 (by decide)) (by cases x <;> rfl) (by cases x <;> rfl) d hr kk
theorem pq1065_X6 {p : Program} {l : Launch} {e : Env} {R : Room} {s : State} {m : MethodId} {args : Array Value} {below : List Frame} {meth : Method} {c : Code} {cells slots : Nat} {Q : State → Prop} {cc : ByteArray} {nL : Nat} {ret : Option FieldType} {D : va_G} {cA : Nat → ClassId} {sz0 : Nat} {H0 : Heap} {pc : Nat} {lv : List (Nat × Value)} {st : List Value} {M : WM} {r : Nat} (cx : Cx p s m args meth c cc nL RX6 ret D cA sz0 H0) {x : Option Nat} (hnm : meth.name = "<init>")  (d : decode cc pc = .ok (.putfield 103, 3)) (hr : wk M r = 5) (kk : V p l e R s m args below meth c nL D cA sz0 H0 cells slots Q (pc + 3) lv st (wPR M r 47 x)) : V p l e R s m args below meth c nL D cA sz0 H0 cells slots Q pc lv (vr sz0 x :: .ref (sz0 + r) :: st) M := v_putFR cx (k := 47) cl_X6 (by decide) in_X6 (by decide) tyX6 tyX6_ok nmX6 q1065 rfl rfl hnm rfl (ty := tyX6 47) (tyX6_ok 47 (by decide)) (by cases x <;> rfl) (by cases x <;> rfl) d hr kk
theorem pq1066_X6 {p : Program} {l : Launch} {e : Env} {R : Room} {s : State} {m : MethodId} {args : Array Value} {below : List Frame} {meth : Method} {c : Code} {cells slots : Nat} {Q : State → Prop} {cc : ByteArray} {nL : Nat} {ret : Option FieldType} {D : va_G} {cA : Nat → ClassId} {sz0 : Nat} {H0 : Heap} {pc : Nat} {lv : List (Nat × Value)} {st : List Value} {M : WM} {r : Nat} (cx : Cx p s m args meth c cc nL RX6 ret D cA sz0 H0) {x : Option Nat} (hnm : meth.name = "<init>")  (d : decode cc pc = .ok (.putfield 107, 3)) (hr : wk M r = 5) (kk : V p l e R s m args below meth c nL D cA sz0 H0 cells slots Q (pc + 3) lv st (wPR M r 48 x)) : V p l e R s m args below meth c nL D cA sz0 H0 cells slots Q pc lv (vr sz0 x :: .ref (sz0 + r) :: st) M := v_putFR cx (k := 48) cl_X6 (by decide) in_X6 (by decide) tyX6 tyX6_ok nmX6 q1066 rfl rfl hnm rfl (ty := tyX6 48) (tyX6_ok 48 (by decide)) (by cases x <;> rfl) (by cases x <;> rfl) d hr kk
theorem pq1067_X6 {p : Program} {l : Launch} {e : Env} {R : Room} {s : State} {m : MethodId} {args : Array Value} {below : List Frame} {meth : Method} {c : Code} {cells slots : Nat} {Q : State → Prop} {cc : ByteArray} {nL : Nat} {ret : Option FieldType} {D : va_G} {cA : Nat → ClassId} {sz0 : Nat} {H0 : Heap} {pc : Nat} {lv : List (Nat × Value)} {st : List Value} {M : WM} {r : Nat} (cx : Cx p s m args meth c cc nL RX6 ret D cA sz0 H0) {x : Option Nat} (hnm : meth.name = "<init>")  (d : decode cc pc = .ok (.putfield 110, 3)) (hr : wk M r = 5) (kk : V p l e R s m args below meth c nL D cA sz0 H0 cells slots Q (pc + 3) lv st (wPR M r 49 x)) : V p l e R s m args below meth c nL D cA sz0 H0 cells slots Q pc lv (vr sz0 x :: .ref (sz0 + r) :: st) M := v_putFR cx (k := 49) cl_X6 (by decide) in_X6 (by decide) tyX6 tyX6_ok nmX6 q1067 rfl rfl hnm rfl (ty := tyX6 49) (tyX6_ok 49 (by decide)) (by cases x <;> rfl) (by cases x <;> rfl) d hr kk
theorem pq1068_X6 {p : Program} {l : Launch} {e : Env} {R : Room} {s : State} {m : MethodId} {args : Array Value} {below : List Frame} {meth : Method} {c : Code} {cells slots : Nat} {Q : State → Prop} {cc : ByteArray} {nL : Nat} {ret : Option FieldType} {D : va_G} {cA : Nat → ClassId} {sz0 : Nat} {H0 : Heap} {pc : Nat} {lv : List (Nat × Value)} {st : List Value} {M : WM} {r : Nat} (cx : Cx p s m args meth c cc nL RX6 ret D cA sz0 H0) {x : Option Nat} (hnm : meth.name = "<init>")  (d : decode cc pc = .ok (.putfield 113, 3)) (hr : wk M r = 5) (kk : V p l e R s m args below meth c nL D cA sz0 H0 cells slots Q (pc + 3) lv st (wPR M r 50 x)) : V p l e R s m args below meth c nL D cA sz0 H0 cells slots Q pc lv (vr sz0 x :: .ref (sz0 + r) :: st) M := v_putFR cx (k := 50) cl_X6 (by decide) in_X6 (by decide) tyX6 tyX6_ok nmX6 q1068 rfl rfl hnm rfl (ty := tyX6 50) (tyX6_ok 50 (by decide)) (by cases x <;> rfl) (by cases x <;> rfl) d hr kk
theorem pq1069_X6 {p : Program} {l : Launch} {e : Env} {R : Room} {s : State} {m : MethodId} {args : Array Value} {below : List Frame} {meth : Method} {c : Code} {cells slots : Nat} {Q : State → Prop} {cc : ByteArray} {nL : Nat} {ret : Option FieldType} {D : va_G} {cA : Nat → ClassId} {sz0 : Nat} {H0 : Heap} {pc : Nat} {lv : List (Nat × Value)} {st : List Value} {M : WM} {r : Nat} (cx : Cx p s m args meth c cc nL RX6 ret D cA sz0 H0) {x : Option Nat} (hnm : meth.name = "<init>")  (d : decode cc pc = .ok (.putfield 116, 3)) (hr : wk M r = 5) (kk : V p l e R s m args below meth c nL D cA sz0 H0 cells slots Q (pc + 3) lv st (wPR M r 51 x)) : V p l e R s m args below meth c nL D cA sz0 H0 cells slots Q pc lv (vr sz0 x :: .ref (sz0 + r) :: st) M := v_putFR cx (k := 51) cl_X6 (by decide) in_X6 (by decide) tyX6 tyX6_ok nmX6 q1069 rfl rfl hnm rfl (ty := tyX6 51) (tyX6_ok 51 (by decide)) (by cases x <;> rfl) (by cases x <;> rfl) d hr kk
theorem pq1070_X6 {p : Program} {l : Launch} {e : Env} {R : Room} {s : State} {m : MethodId} {args : Array Value} {below : List Frame} {meth : Method} {c : Code} {cells slots : Nat} {Q : State → Prop} {cc : ByteArray} {nL : Nat} {ret : Option FieldType} {D : va_G} {cA : Nat → ClassId} {sz0 : Nat} {H0 : Heap} {pc : Nat} {lv : List (Nat × Value)} {st : List Value} {M : WM} {r : Nat} (cx : Cx p s m args meth c cc nL RX6 ret D cA sz0 H0) {x : Option Nat} (hnm : meth.name = "<init>")  (d : decode cc pc = .ok (.putfield 119, 3)) (hr : wk M r = 5) (kk : V p l e R s m args below meth c nL D cA sz0 H0 cells slots Q (pc + 3) lv st (wPR M r 52 x)) : V p l e R s m args below meth c nL D cA sz0 H0 cells slots Q pc lv (vr sz0 x :: .ref (sz0 + r) :: st) M := v_putFR cx (k := 52) cl_X6 (by decide) in_X6 (by decide) tyX6 tyX6_ok nmX6 q1070 rfl rfl hnm rfl (ty := tyX6 52) (tyX6_ok 52 (by decide)) (by cases x <;> rfl) (by cases x <;> rfl) d hr kk
theorem pq172_X1 {p : Program} {l : Launch} {e : Env} {R : Room} {s : State} {m : MethodId} {args : Array Value} {below : List Frame} {meth : Method} {c : Code} {cells slots : Nat} {Q : State → Prop} {cc : ByteArray} {nL : Nat} {ret : Option FieldType} {D : va_G} {cA : Nat → ClassId} {sz0 : Nat} {H0 : Heap} {pc : Nat} {lv : List (Nat × Value)} {st : List Value} {M : WM} {r : Nat} (cx : Cx p s m args meth c cc nL RX7 ret D cA sz0 H0) {x : Int32}   (d : decode cc pc = .ok (.putfield 129, 3)) (hr : wk M r = 1) (kk : V p l e R s m args below meth c nL D cA sz0 H0 cells slots Q (pc + 3) lv st (wPI M r 3 x)) : V p l e R s m args below meth c nL D cA sz0 H0 cells slots Q pc lv (.int x :: .ref (sz0 + r) :: st) M := v_putIN cx (k := 3) cl_X1 (by decide) in_X1 (by decide) tyX1 tyX1_ok nmX1 (nst_in q172 rfl) rfl rfl (ty := .int) (tyX1_ok 3 (by decide)) rfl rfl d hr kk
theorem pq191_X2 {p : Program} {l : Launch} {e : Env} {R : Room} {s : State} {m : MethodId} {args : Array Value} {below : List Frame} {meth : Method} {c : Code} {cells slots : Nat} {Q : State → Prop} {cc : ByteArray} {nL : Nat} {ret : Option FieldType} {D : va_G} {cA : Nat → ClassId} {sz0 : Nat} {H0 : Heap} {pc : Nat} {lv : List (Nat × Value)} {st : List Value} {M : WM} {r : Nat} (cx : Cx p s m args meth c cc nL RX2 ret D cA sz0 H0) {x : Option Nat} (hnm : meth.name = "<init>")  (d : decode cc pc = .ok (.putfield 9, 3)) (hr : wk M r = 2) (kk : V p l e R s m args below meth c nL D cA sz0 H0 cells slots Q (pc + 3) lv st (wPR M r 0 x)) : V p l e R s m args below meth c nL D cA sz0 H0 cells slots Q pc lv (vr sz0 x :: .ref (sz0 + r) :: st) M := v_putFR cx (k := 0) cl_X2 (by decide) in_X2 (by decide) tyX2 tyX2_ok nmX2 q191 rfl rfl hnm rfl (ty := tyX2 0) (tyX2_ok 0 (by decide)) (by cases x <;> rfl) (by cases x <;> rfl) d hr kk
theorem pq220_X4 {p : Program} {l : Launch} {e : Env} {R : Room} {s : State} {m : MethodId} {args : Array Value} {below : List Frame} {meth : Method} {c : Code} {cells slots : Nat} {Q : State → Prop} {cc : ByteArray} {nL : Nat} {ret : Option FieldType} {D : va_G} {cA : Nat → ClassId} {sz0 : Nat} {H0 : Heap} {pc : Nat} {lv : List (Nat × Value)} {st : List Value} {M : WM} {r : Nat} (cx : Cx p s m args meth c cc nL RX4 ret D cA sz0 H0) {x : Option Nat} (hnm : meth.name = "<init>")  (d : decode cc pc = .ok (.putfield 3, 3)) (hr : wk M r = 3) (kk : V p l e R s m args below meth c nL D cA sz0 H0 cells slots Q (pc + 3) lv st (wPR M r 8 x)) : V p l e R s m args below meth c nL D cA sz0 H0 cells slots Q pc lv (vr sz0 x :: .ref (sz0 + r) :: st) M := v_putFR cx (k := 8) cl_X4 (by decide) in_X4 (by decide) tyX4 tyX4_ok nmX4 q220 rfl rfl hnm rfl (ty := tyX4 8) (tyX4_ok 8 (by decide)) (by cases x <;> rfl) (by cases x <;> rfl) d hr kk
theorem pq255_X5 {p : Program} {l : Launch} {e : Env} {R : Room} {s : State} {m : MethodId} {args : Array Value} {below : List Frame} {meth : Method} {c : Code} {cells slots : Nat} {Q : State → Prop} {cc : ByteArray} {nL : Nat} {ret : Option FieldType} {D : va_G} {cA : Nat → ClassId} {sz0 : Nat} {H0 : Heap} {pc : Nat} {lv : List (Nat × Value)} {st : List Value} {M : WM} {r : Nat} (cx : Cx p s m args meth c cc nL RX5 ret D cA sz0 H0) {x : Option Nat} (hnm : meth.name = "<init>")  (d : decode cc pc = .ok (.putfield 10, 3)) (hr : wk M r = 4) (kk : V p l e R s m args below meth c nL D cA sz0 H0 cells slots Q (pc + 3) lv st (wPR M r 0 x)) : V p l e R s m args below meth c nL D cA sz0 H0 cells slots Q pc lv (vr sz0 x :: .ref (sz0 + r) :: st) M := v_putFR cx (k := 0) cl_X5 (by decide) in_X5 (by decide) tyX5 tyX5_ok nmX5 q255 rfl rfl hnm rfl (ty := tyX5 0) (tyX5_ok 0 (by decide)) (by cases x <;> rfl) (by cases x <;> rfl) d hr kk
theorem pq273_X0 {p : Program} {l : Launch} {e : Env} {R : Room} {s : State} {m : MethodId} {args : Array Value} {below : List Frame} {meth : Method} {c : Code} {cells slots : Nat} {Q : State → Prop} {cc : ByteArray} {nL : Nat} {ret : Option FieldType} {D : va_G} {cA : Nat → ClassId} {sz0 : Nat} {H0 : Heap} {pc : Nat} {lv : List (Nat × Value)} {st : List Value} {M : WM} {r : Nat} (cx : Cx p s m args meth c cc nL RX0 ret D cA sz0 H0) {x : Option Nat} (hnm : meth.name = "<init>")  (d : decode cc pc = .ok (.putfield 11, 3)) (hr : wk M r = 0) (kk : V p l e R s m args below meth c nL D cA sz0 H0 cells slots Q (pc + 3) lv st (wPR M r 0 x)) : V p l e R s m args below meth c nL D cA sz0 H0 cells slots Q pc lv (vr sz0 x :: .ref (sz0 + r) :: st) M := v_putFR cx (k := 0) cl_X0 (by decide) in_X0 (by decide) tyX0 tyX0_ok nmX0 q273 rfl rfl hnm rfl (ty := tyX0 0) (tyX0_ok 0 (by decide)) (by cases x <;> rfl) (by cases x <;> rfl) d hr kk
theorem pq275_X0 {p : Program} {l : Launch} {e : Env} {R : Room} {s : State} {m : MethodId} {args : Array Value} {below : List Frame} {meth : Method} {c : Code} {cells slots : Nat} {Q : State → Prop} {cc : ByteArray} {nL : Nat} {ret : Option FieldType} {D : va_G} {cA : Nat → ClassId} {sz0 : Nat} {H0 : Heap} {pc : Nat} {lv : List (Nat × Value)} {st : List Value} {M : WM} {r : Nat} (cx : Cx p s m args meth c cc nL RX0 ret D cA sz0 H0) {x : Option Nat} (hnm : meth.name = "<init>")  (d : decode cc pc = .ok (.putfield 15, 3)) (hr : wk M r = 0) (kk : V p l e R s m args below meth c nL D cA sz0 H0 cells slots Q (pc + 3) lv st (wPR M r 1 x)) : V p l e R s m args below meth c nL D cA sz0 H0 cells slots Q pc lv (vr sz0 x :: .ref (sz0 + r) :: st) M := v_putFR cx (k := 1) cl_X0 (by decide) in_X0 (by decide) tyX0 tyX0_ok nmX0 q275 rfl rfl hnm rfl (ty := tyX0 1) (tyX0_ok 1 (by decide)) (by cases x <;> rfl) (by cases x <;> rfl) d hr kk
theorem pq277_X0 {p : Program} {l : Launch} {e : Env} {R : Room} {s : State} {m : MethodId} {args : Array Value} {below : List Frame} {meth : Method} {c : Code} {cells slots : Nat} {Q : State → Prop} {cc : ByteArray} {nL : Nat} {ret : Option FieldType} {D : va_G} {cA : Nat → ClassId} {sz0 : Nat} {H0 : Heap} {pc : Nat} {lv : List (Nat × Value)} {st : List Value} {M : WM} {r : Nat} (cx : Cx p s m args meth c cc nL RX0 ret D cA sz0 H0) {x : Option Nat}   (d : decode cc pc = .ok (.putfield 22, 3)) (hr : wk M r = 0) (kk : V p l e R s m args below meth c nL D cA sz0 H0 cells slots Q (pc + 3) lv st (wPR M r 2 x)) : V p l e R s m args below meth c nL D cA sz0 H0 cells slots Q pc lv (vr sz0 x :: .ref (sz0 + r) :: st) M := v_putR cx (k := 2) cl_X0 (by decide) in_X0 (by decide) tyX0 tyX0_ok nmX0 q277 rfl rfl (ty := tyX0 2) (tyX0_ok 2 (by decide)) (by cases x <;> rfl) (by cases x <;> rfl) d hr kk
theorem pq284_X0 {p : Program} {l : Launch} {e : Env} {R : Room} {s : State} {m : MethodId} {args : Array Value} {below : List Frame} {meth : Method} {c : Code} {cells slots : Nat} {Q : State → Prop} {cc : ByteArray} {nL : Nat} {ret : Option FieldType} {D : va_G} {cA : Nat → ClassId} {sz0 : Nat} {H0 : Heap} {pc : Nat} {lv : List (Nat × Value)} {st : List Value} {M : WM} {r : Nat} (cx : Cx p s m args meth c cc nL RX0 ret D cA sz0 H0) {x : Option Nat} (hnm : meth.name = "<init>")  (d : decode cc pc = .ok (.putfield 39, 3)) (hr : wk M r = 0) (kk : V p l e R s m args below meth c nL D cA sz0 H0 cells slots Q (pc + 3) lv st (wPR M r 9 x)) : V p l e R s m args below meth c nL D cA sz0 H0 cells slots Q pc lv (vr sz0 x :: .ref (sz0 + r) :: st) M := v_putFR cx (k := 9) cl_X0 (by decide) in_X0 (by decide) tyX0 tyX0_ok nmX0 q284 rfl rfl hnm rfl (ty := tyX0 9) (tyX0_ok 9 (by decide)) (by cases x <;> rfl) (by cases x <;> rfl) d hr kk
theorem pq286_X0 {p : Program} {l : Launch} {e : Env} {R : Room} {s : State} {m : MethodId} {args : Array Value} {below : List Frame} {meth : Method} {c : Code} {cells slots : Nat} {Q : State → Prop} {cc : ByteArray} {nL : Nat} {ret : Option FieldType} {D : va_G} {cA : Nat → ClassId} {sz0 : Nat} {H0 : Heap} {pc : Nat} {lv : List (Nat × Value)} {st : List Value} {M : WM} {r : Nat} (cx : Cx p s m args meth c cc nL RX0 ret D cA sz0 H0) {x : Option Nat} (hnm : meth.name = "<init>")  (d : decode cc pc = .ok (.putfield 45, 3)) (hr : wk M r = 0) (kk : V p l e R s m args below meth c nL D cA sz0 H0 cells slots Q (pc + 3) lv st (wPR M r 11 x)) : V p l e R s m args below meth c nL D cA sz0 H0 cells slots Q pc lv (vr sz0 x :: .ref (sz0 + r) :: st) M := v_putFR cx (k := 11) cl_X0 (by decide) in_X0 (by decide) tyX0 tyX0_ok nmX0 q286 rfl rfl hnm rfl (ty := tyX0 11) (tyX0_ok 11 (by decide)) (by cases x <;> rfl) (by cases x <;> rfl) d hr kk
theorem pq287_X0 {p : Program} {l : Launch} {e : Env} {R : Room} {s : State} {m : MethodId} {args : Array Value} {below : List Frame} {meth : Method} {c : Code} {cells slots : Nat} {Q : State → Prop} {cc : ByteArray} {nL : Nat} {ret : Option FieldType} {D : va_G} {cA : Nat → ClassId} {sz0 : Nat} {H0 : Heap} {pc : Nat} {lv : List (Nat × Value)} {st : List Value} {M : WM} {r : Nat} (cx : Cx p s m args meth c cc nL RX0 ret D cA sz0 H0) {x : Option Nat} (hnm : meth.name = "<init>")  (d : decode cc pc = .ok (.putfield 48, 3)) (hr : wk M r = 0) (kk : V p l e R s m args below meth c nL D cA sz0 H0 cells slots Q (pc + 3) lv st (wPR M r 12 x)) : V p l e R s m args below meth c nL D cA sz0 H0 cells slots Q pc lv (vr sz0 x :: .ref (sz0 + r) :: st) M := v_putFR cx (k := 12) cl_X0 (by decide) in_X0 (by decide) tyX0 tyX0_ok nmX0 q287 rfl rfl hnm rfl (ty := tyX0 12) (tyX0_ok 12 (by decide)) (by cases x <;> rfl) (by cases x <;> rfl) d hr kk
theorem pq288_X0 {p : Program} {l : Launch} {e : Env} {R : Room} {s : State} {m : MethodId} {args : Array Value} {below : List Frame} {meth : Method} {c : Code} {cells slots : Nat} {Q : State → Prop} {cc : ByteArray} {nL : Nat} {ret : Option FieldType} {D : va_G} {cA : Nat → ClassId} {sz0 : Nat} {H0 : Heap} {pc : Nat} {lv : List (Nat × Value)} {st : List Value} {M : WM} {r : Nat} (cx : Cx p s m args meth c cc nL RX0 ret D cA sz0 H0) {x : Option Nat} (hnm : meth.name = "<init>")  (d : decode cc pc = .ok (.putfield 51, 3)) (hr : wk M r = 0) (kk : V p l e R s m args below meth c nL D cA sz0 H0 cells slots Q (pc + 3) lv st (wPR M r 13 x)) : V p l e R s m args below meth c nL D cA sz0 H0 cells slots Q pc lv (vr sz0 x :: .ref (sz0 + r) :: st) M := v_putFR cx (k := 13) cl_X0 (by decide) in_X0 (by decide) tyX0 tyX0_ok nmX0 q288 rfl rfl hnm rfl (ty := tyX0 13) (tyX0_ok 13 (by decide)) (by cases x <;> rfl) (by cases x <;> rfl) d hr kk
theorem pq289_X0 {p : Program} {l : Launch} {e : Env} {R : Room} {s : State} {m : MethodId} {args : Array Value} {below : List Frame} {meth : Method} {c : Code} {cells slots : Nat} {Q : State → Prop} {cc : ByteArray} {nL : Nat} {ret : Option FieldType} {D : va_G} {cA : Nat → ClassId} {sz0 : Nat} {H0 : Heap} {pc : Nat} {lv : List (Nat × Value)} {st : List Value} {M : WM} {r : Nat} (cx : Cx p s m args meth c cc nL RX0 ret D cA sz0 H0) {x : Option Nat} (hnm : meth.name = "<init>")  (d : decode cc pc = .ok (.putfield 54, 3)) (hr : wk M r = 0) (kk : V p l e R s m args below meth c nL D cA sz0 H0 cells slots Q (pc + 3) lv st (wPR M r 14 x)) : V p l e R s m args below meth c nL D cA sz0 H0 cells slots Q pc lv (vr sz0 x :: .ref (sz0 + r) :: st) M := v_putFR cx (k := 14) cl_X0 (by decide) in_X0 (by decide) tyX0 tyX0_ok nmX0 q289 rfl rfl hnm rfl (ty := tyX0 14) (tyX0_ok 14 (by decide)) (by cases x <;> rfl) (by cases x <;> rfl) d hr kk
theorem pq290_X0 {p : Program} {l : Launch} {e : Env} {R : Room} {s : State} {m : MethodId} {args : Array Value} {below : List Frame} {meth : Method} {c : Code} {cells slots : Nat} {Q : State → Prop} {cc : ByteArray} {nL : Nat} {ret : Option FieldType} {D : va_G} {cA : Nat → ClassId} {sz0 : Nat} {H0 : Heap} {pc : Nat} {lv : List (Nat × Value)} {st : List Value} {M : WM} {r : Nat} (cx : Cx p s m args meth c cc nL RX0 ret D cA sz0 H0) {x : Option Nat} (hnm : meth.name = "<init>")  (d : decode cc pc = .ok (.putfield 57, 3)) (hr : wk M r = 0) (kk : V p l e R s m args below meth c nL D cA sz0 H0 cells slots Q (pc + 3) lv st (wPR M r 15 x)) : V p l e R s m args below meth c nL D cA sz0 H0 cells slots Q pc lv (vr sz0 x :: .ref (sz0 + r) :: st) M := v_putFR cx (k := 15) cl_X0 (by decide) in_X0 (by decide) tyX0 tyX0_ok nmX0 q290 rfl rfl hnm rfl (ty := tyX0 15) (tyX0_ok 15 (by decide)) (by cases x <;> rfl) (by cases x <;> rfl) d hr kk
theorem pq291_X0 {p : Program} {l : Launch} {e : Env} {R : Room} {s : State} {m : MethodId} {args : Array Value} {below : List Frame} {meth : Method} {c : Code} {cells slots : Nat} {Q : State → Prop} {cc : ByteArray} {nL : Nat} {ret : Option FieldType} {D : va_G} {cA : Nat → ClassId} {sz0 : Nat} {H0 : Heap} {pc : Nat} {lv : List (Nat × Value)} {st : List Value} {M : WM} {r : Nat} (cx : Cx p s m args meth c cc nL RX0 ret D cA sz0 H0) {x : Option Nat} (hnm : meth.name = "<init>")  (d : decode cc pc = .ok (.putfield 66, 3)) (hr : wk M r = 0) (kk : V p l e R s m args below meth c nL D cA sz0 H0 cells slots Q (pc + 3) lv st (wPR M r 16 x)) : V p l e R s m args below meth c nL D cA sz0 H0 cells slots Q pc lv (vr sz0 x :: .ref (sz0 + r) :: st) M := v_putFR cx (k := 16) cl_X0 (by decide) in_X0 (by decide) tyX0 tyX0_ok nmX0 q291 rfl rfl hnm rfl (ty := tyX0 16) (tyX0_ok 16 (by decide)) (by cases x <;> rfl) (by cases x <;> rfl) d hr kk
theorem pq292_X0 {p : Program} {l : Launch} {e : Env} {R : Room} {s : State} {m : MethodId} {args : Array Value} {below : List Frame} {meth : Method} {c : Code} {cells slots : Nat} {Q : State → Prop} {cc : ByteArray} {nL : Nat} {ret : Option FieldType} {D : va_G} {cA : Nat → ClassId} {sz0 : Nat} {H0 : Heap} {pc : Nat} {lv : List (Nat × Value)} {st : List Value} {M : WM} {r : Nat} (cx : Cx p s m args meth c cc nL RX0 ret D cA sz0 H0) {x : Option Nat} (hnm : meth.name = "<init>")  (d : decode cc pc = .ok (.putfield 70, 3)) (hr : wk M r = 0) (kk : V p l e R s m args below meth c nL D cA sz0 H0 cells slots Q (pc + 3) lv st (wPR M r 17 x)) : V p l e R s m args below meth c nL D cA sz0 H0 cells slots Q pc lv (vr sz0 x :: .ref (sz0 + r) :: st) M := v_putFR cx (k := 17) cl_X0 (by decide) in_X0 (by decide) tyX0 tyX0_ok nmX0 q292 rfl rfl hnm rfl (ty := tyX0 17) (tyX0_ok 17 (by decide)) (by cases x <;> rfl) (by cases x <;> rfl) d hr kk
theorem pq293_X0 {p : Program} {l : Launch} {e : Env} {R : Room} {s : State} {m : MethodId} {args : Array Value} {below : List Frame} {meth : Method} {c : Code} {cells slots : Nat} {Q : State → Prop} {cc : ByteArray} {nL : Nat} {ret : Option FieldType} {D : va_G} {cA : Nat → ClassId} {sz0 : Nat} {H0 : Heap} {pc : Nat} {lv : List (Nat × Value)} {st : List Value} {M : WM} {r : Nat} (cx : Cx p s m args meth c cc nL RX0 ret D cA sz0 H0) {x : Option Nat} (hnm : meth.name = "<init>")  (d : decode cc pc = .ok (.putfield 73, 3)) (hr : wk M r = 0) (kk : V p l e R s m args below meth c nL D cA sz0 H0 cells slots Q (pc + 3) lv st (wPR M r 18 x)) : V p l e R s m args below meth c nL D cA sz0 H0 cells slots Q pc lv (vr sz0 x :: .ref (sz0 + r) :: st) M := v_putFR cx (k := 18) cl_X0 (by decide) in_X0 (by decide) tyX0 tyX0_ok nmX0 q293 rfl rfl hnm rfl (ty := tyX0 18) (tyX0_ok 18 (by decide)) (by cases x <;> rfl) (by cases x <;> rfl) d hr kk
theorem pq294_X0 {p : Program} {l : Launch} {e : Env} {R : Room} {s : State} {m : MethodId} {args : Array Value} {below : List Frame} {meth : Method} {c : Code} {cells slots : Nat} {Q : State → Prop} {cc : ByteArray} {nL : Nat} {ret : Option FieldType} {D : va_G} {cA : Nat → ClassId} {sz0 : Nat} {H0 : Heap} {pc : Nat} {lv : List (Nat × Value)} {st : List Value} {M : WM} {r : Nat} (cx : Cx p s m args meth c cc nL RX0 ret D cA sz0 H0) {x : Option Nat} (hnm : meth.name = "<init>")  (d : decode cc pc = .ok (.putfield 77, 3)) (hr : wk M r = 0) (kk : V p l e R s m args below meth c nL D cA sz0 H0 cells slots Q (pc + 3) lv st (wPR M r 19 x)) : V p l e R s m args below meth c nL D cA sz0 H0 cells slots Q pc lv (vr sz0 x :: .ref (sz0 + r) :: st) M := v_putFR cx (k := 19) cl_X0 (by decide) in_X0 (by decide) tyX0 tyX0_ok nmX0 q294 rfl rfl hnm rfl (ty := tyX0 19) (tyX0_ok 19 (by decide)) (by cases x <;> rfl) (by cases x <;> rfl) d hr kk
theorem pq295_X0 {p : Program} {l : Launch} {e : Env} {R : Room} {s : State} {m : MethodId} {args : Array Value} {below : List Frame} {meth : Method} {c : Code} {cells slots : Nat} {Q : State → Prop} {cc : ByteArray} {nL : Nat} {ret : Option FieldType} {D : va_G} {cA : Nat → ClassId} {sz0 : Nat} {H0 : Heap} {pc : Nat} {lv : List (Nat × Value)} {st : List Value} {M : WM} {r : Nat} (cx : Cx p s m args meth c cc nL RX0 ret D cA sz0 H0) {x : Option Nat} (hnm : meth.name = "<init>")  (d : decode cc pc = .ok (.putfield 80, 3)) (hr : wk M r = 0) (kk : V p l e R s m args below meth c nL D cA sz0 H0 cells slots Q (pc + 3) lv st (wPR M r 20 x)) : V p l e R s m args below meth c nL D cA sz0 H0 cells slots Q pc lv (vr sz0 x :: .ref (sz0 + r) :: st) M := v_putFR cx (k := 20) cl_X0 (by decide) in_X0 (by decide) tyX0 tyX0_ok nmX0 q295 rfl rfl hnm rfl (ty := tyX0 20) (tyX0_ok 20 (by decide)) (by cases x <;> rfl) (by cases x <;> rfl) d hr kk
theorem pq298_X0 {p : Program} {l : Launch} {e : Env} {R : Room} {s : State} {m : MethodId} {args : Array Value} {below : List Frame} {meth : Method} {c : Code} {cells slots : Nat} {Q : State → Prop} {cc : ByteArray} {nL : Nat} {ret : Option FieldType} {D : va_G} {cA : Nat → ClassId} {sz0 : Nat} {H0 : Heap} {pc : Nat} {lv : List (Nat × Value)} {st : List Value} {M : WM} {r : Nat} (cx : Cx p s m args meth c cc nL RX0 ret D cA sz0 H0) {x : Option Nat} (hnm : meth.name = "<init>")  (d : decode cc pc = .ok (.putfield 85, 3)) (hr : wk M r = 0) (kk : V p l e R s m args below meth c nL D cA sz0 H0 cells slots Q (pc + 3) lv st (wPR M r 23 x)) : V p l e R s m args below meth c nL D cA sz0 H0 cells slots Q pc lv (vr sz0 x :: .ref (sz0 + r) :: st) M := v_putFR cx (k := 23) cl_X0 (by decide) in_X0 (by decide) tyX0 tyX0_ok nmX0 q298 rfl rfl hnm rfl (ty := tyX0 23) (tyX0_ok 23 (by decide)) (by cases x <;> rfl) (by cases x <;> rfl) d hr kk
theorem pq299_X0 {p : Program} {l : Launch} {e : Env} {R : Room} {s : State} {m : MethodId} {args : Array Value} {below : List Frame} {meth : Method} {c : Code} {cells slots : Nat} {Q : State → Prop} {cc : ByteArray} {nL : Nat} {ret : Option FieldType} {D : va_G} {cA : Nat → ClassId} {sz0 : Nat} {H0 : Heap} {pc : Nat} {lv : List (Nat × Value)} {st : List Value} {M : WM} {r : Nat} (cx : Cx p s m args meth c cc nL RX0 ret D cA sz0 H0) {x : Option Nat} (hnm : meth.name = "<init>")  (d : decode cc pc = .ok (.putfield 88, 3)) (hr : wk M r = 0) (kk : V p l e R s m args below meth c nL D cA sz0 H0 cells slots Q (pc + 3) lv st (wPR M r 24 x)) : V p l e R s m args below meth c nL D cA sz0 H0 cells slots Q pc lv (vr sz0 x :: .ref (sz0 + r) :: st) M := v_putFR cx (k := 24) cl_X0 (by decide) in_X0 (by decide) tyX0 tyX0_ok nmX0 q299 rfl rfl hnm rfl (ty := tyX0 24) (tyX0_ok 24 (by decide)) (by cases x <;> rfl) (by cases x <;> rfl) d hr kk
theorem pq301_X0 {p : Program} {l : Launch} {e : Env} {R : Room} {s : State} {m : MethodId} {args : Array Value} {below : List Frame} {meth : Method} {c : Code} {cells slots : Nat} {Q : State → Prop} {cc : ByteArray} {nL : Nat} {ret : Option FieldType} {D : va_G} {cA : Nat → ClassId} {sz0 : Nat} {H0 : Heap} {pc : Nat} {lv : List (Nat × Value)} {st : List Value} {M : WM} {r : Nat} (cx : Cx p s m args meth c cc nL RX0 ret D cA sz0 H0) {x : Option Nat} (hnm : meth.name = "<init>")  (d : decode cc pc = .ok (.putfield 92, 3)) (hr : wk M r = 0) (kk : V p l e R s m args below meth c nL D cA sz0 H0 cells slots Q (pc + 3) lv st (wPR M r 26 x)) : V p l e R s m args below meth c nL D cA sz0 H0 cells slots Q pc lv (vr sz0 x :: .ref (sz0 + r) :: st) M := v_putFR cx (k := 26) cl_X0 (by decide) in_X0 (by decide) tyX0 tyX0_ok nmX0 q301 rfl rfl hnm rfl (ty := tyX0 26) (tyX0_ok 26 (by decide)) (by cases x <;> rfl) (by cases x <;> rfl) d hr kk
theorem pq302_X0 {p : Program} {l : Launch} {e : Env} {R : Room} {s : State} {m : MethodId} {args : Array Value} {below : List Frame} {meth : Method} {c : Code} {cells slots : Nat} {Q : State → Prop} {cc : ByteArray} {nL : Nat} {ret : Option FieldType} {D : va_G} {cA : Nat → ClassId} {sz0 : Nat} {H0 : Heap} {pc : Nat} {lv : List (Nat × Value)} {st : List Value} {M : WM} {r : Nat} (cx : Cx p s m args meth c cc nL RX0 ret D cA sz0 H0) {x : Option Nat} (hnm : meth.name = "<init>")  (d : decode cc pc = .ok (.putfield 97, 3)) (hr : wk M r = 0) (kk : V p l e R s m args below meth c nL D cA sz0 H0 cells slots Q (pc + 3) lv st (wPR M r 27 x)) : V p l e R s m args below meth c nL D cA sz0 H0 cells slots Q pc lv (vr sz0 x :: .ref (sz0 + r) :: st) M := v_putFR cx (k := 27) cl_X0 (by decide) in_X0 (by decide) tyX0 tyX0_ok nmX0 q302 rfl rfl hnm rfl (ty := tyX0 27) (tyX0_ok 27 (by decide)) (by cases x <;> rfl) (by cases x <;> rfl) d hr kk
theorem pq303_X0 {p : Program} {l : Launch} {e : Env} {R : Room} {s : State} {m : MethodId} {args : Array Value} {below : List Frame} {meth : Method} {c : Code} {cells slots : Nat} {Q : State → Prop} {cc : ByteArray} {nL : Nat} {ret : Option FieldType} {D : va_G} {cA : Nat → ClassId} {sz0 : Nat} {H0 : Heap} {pc : Nat} {lv : List (Nat × Value)} {st : List Value} {M : WM} {r : Nat} (cx : Cx p s m args meth c cc nL RX0 ret D cA sz0 H0) {x : Option Nat} (hnm : meth.name = "<init>")  (d : decode cc pc = .ok (.putfield 100, 3)) (hr : wk M r = 0) (kk : V p l e R s m args below meth c nL D cA sz0 H0 cells slots Q (pc + 3) lv st (wPR M r 28 x)) : V p l e R s m args below meth c nL D cA sz0 H0 cells slots Q pc lv (vr sz0 x :: .ref (sz0 + r) :: st) M := v_putFR cx (k := 28) cl_X0 (by decide) in_X0 (by decide) tyX0 tyX0_ok nmX0 q303 rfl rfl hnm rfl (ty := tyX0 28) (tyX0_ok 28 (by decide)) (by cases x <;> rfl) (by cases x <;> rfl) d hr kk
theorem pq304_X0 {p : Program} {l : Launch} {e : Env} {R : Room} {s : State} {m : MethodId} {args : Array Value} {below : List Frame} {meth : Method} {c : Code} {cells slots : Nat} {Q : State → Prop} {cc : ByteArray} {nL : Nat} {ret : Option FieldType} {D : va_G} {cA : Nat → ClassId} {sz0 : Nat} {H0 : Heap} {pc : Nat} {lv : List (Nat × Value)} {st : List Value} {M : WM} {r : Nat} (cx : Cx p s m args meth c cc nL RX0 ret D cA sz0 H0) {x : Option Nat} (hnm : meth.name = "<init>")  (d : decode cc pc = .ok (.putfield 103, 3)) (hr : wk M r = 0) (kk : V p l e R s m args below meth c nL D cA sz0 H0 cells slots Q (pc + 3) lv st (wPR M r 29 x)) : V p l e R s m args below meth c nL D cA sz0 H0 cells slots Q pc lv (vr sz0 x :: .ref (sz0 + r) :: st) M := v_putFR cx (k := 29) cl_X0 (by decide) in_X0 (by decide) tyX0 tyX0_ok nmX0 q304 rfl rfl hnm rfl (ty := tyX0 29) (tyX0_ok 29 (by decide)) (by cases x <;> rfl) (by cases x <;> rfl) d hr kk
theorem pq305_X0 {p : Program} {l : Launch} {e : Env} {R : Room} {s : State} {m : MethodId} {args : Array Value} {below : List Frame} {meth : Method} {c : Code} {cells slots : Nat} {Q : State → Prop} {cc : ByteArray} {nL : Nat} {ret : Option FieldType} {D : va_G} {cA : Nat → ClassId} {sz0 : Nat} {H0 : Heap} {pc : Nat} {lv : List (Nat × Value)} {st : List Value} {M : WM} {r : Nat} (cx : Cx p s m args meth c cc nL RX0 ret D cA sz0 H0) {x : Option Nat} (hnm : meth.name = "<init>")  (d : decode cc pc = .ok (.putfield 106, 3)) (hr : wk M r = 0) (kk : V p l e R s m args below meth c nL D cA sz0 H0 cells slots Q (pc + 3) lv st (wPR M r 30 x)) : V p l e R s m args below meth c nL D cA sz0 H0 cells slots Q pc lv (vr sz0 x :: .ref (sz0 + r) :: st) M := v_putFR cx (k := 30) cl_X0 (by decide) in_X0 (by decide) tyX0 tyX0_ok nmX0 q305 rfl rfl hnm rfl (ty := tyX0 30) (tyX0_ok 30 (by decide)) (by cases x <;> rfl) (by cases x <;> rfl) d hr kk
theorem pq306_X0 {p : Program} {l : Launch} {e : Env} {R : Room} {s : State} {m : MethodId} {args : Array Value} {below : List Frame} {meth : Method} {c : Code} {cells slots : Nat} {Q : State → Prop} {cc : ByteArray} {nL : Nat} {ret : Option FieldType} {D : va_G} {cA : Nat → ClassId} {sz0 : Nat} {H0 : Heap} {pc : Nat} {lv : List (Nat × Value)} {st : List Value} {M : WM} {r : Nat} (cx : Cx p s m args meth c cc nL RX0 ret D cA sz0 H0) {x : Option Nat} (hnm : meth.name = "<init>")  (d : decode cc pc = .ok (.putfield 109, 3)) (hr : wk M r = 0) (kk : V p l e R s m args below meth c nL D cA sz0 H0 cells slots Q (pc + 3) lv st (wPR M r 31 x)) : V p l e R s m args below meth c nL D cA sz0 H0 cells slots Q pc lv (vr sz0 x :: .ref (sz0 + r) :: st) M := v_putFR cx (k := 31) cl_X0 (by decide) in_X0 (by decide) tyX0 tyX0_ok nmX0 q306 rfl rfl hnm rfl (ty := tyX0 31) (tyX0_ok 31 (by decide)) (by cases x <;> rfl) (by cases x <;> rfl) d hr kk
theorem pq445_X7 {p : Program} {l : Launch} {e : Env} {R : Room} {s : State} {m : MethodId} {args : Array Value} {below : List Frame} {meth : Method} {c : Code} {cells slots : Nat} {Q : State → Prop} {cc : ByteArray} {nL : Nat} {ret : Option FieldType} {D : va_G} {cA : Nat → ClassId} {sz0 : Nat} {H0 : Heap} {pc : Nat} {lv : List (Nat × Value)} {st : List Value} {M : WM} {r : Nat} (cx : Cx p s m args meth c cc nL RX7 ret D cA sz0 H0) {x : Int32} (hnm : meth.name = "<init>")  (d : decode cc pc = .ok (.putfield 22, 3)) (hr : wk M r = 6) (kk : V p l e R s m args below meth c nL D cA sz0 H0 cells slots Q (pc + 3) lv st (wPI M r 0 x)) : V p l e R s m args below meth c nL D cA sz0 H0 cells slots Q pc lv (.int x :: .ref (sz0 + r) :: st) M := v_putFI cx (k := 0) cl_X7 (by decide) in_X7 (by decide) tyX7 tyX7_ok nmX7 q445 rfl rfl hnm rfl (ty := .int) (tyX7_ok 0 (by decide)) rfl rfl d hr kk
theorem pq446_X7 {p : Program} {l : Launch} {e : Env} {R : Room} {s : State} {m : MethodId} {args : Array Value} {below : List Frame} {meth : Method} {c : Code} {cells slots : Nat} {Q : State → Prop} {cc : ByteArray} {nL : Nat} {ret : Option FieldType} {D : va_G} {cA : Nat → ClassId} {sz0 : Nat} {H0 : Heap} {pc : Nat} {lv : List (Nat × Value)} {st : List Value} {M : WM} {r : Nat} (cx : Cx p s m args meth c cc nL RX7 ret D cA sz0 H0) {x : Option Nat} (hnm : meth.name = "<init>")  (d : decode cc pc = .ok (.putfield 18, 3)) (hr : wk M r = 6) (kk : V p l e R s m args below meth c nL D cA sz0 H0 cells slots Q (pc + 3) lv st (wPR M r 1 x)) : V p l e R s m args below meth c nL D cA sz0 H0 cells slots Q pc lv (vr sz0 x :: .ref (sz0 + r) :: st) M := v_putFR cx (k := 1) cl_X7 (by decide) in_X7 (by decide) tyX7 tyX7_ok nmX7 q446 rfl rfl hnm rfl (ty := tyX7 1) (tyX7_ok 1 (by decide)) (by cases x <;> rfl) (by cases x <;> rfl) d hr kk
theorem pq448_X7 {p : Program} {l : Launch} {e : Env} {R : Room} {s : State} {m : MethodId} {args : Array Value} {below : List Frame} {meth : Method} {c : Code} {cells slots : Nat} {Q : State → Prop} {cc : ByteArray} {nL : Nat} {ret : Option FieldType} {D : va_G} {cA : Nat → ClassId} {sz0 : Nat} {H0 : Heap} {pc : Nat} {lv : List (Nat × Value)} {st : List Value} {M : WM} {r : Nat} (cx : Cx p s m args meth c cc nL RX7 ret D cA sz0 H0) {x : Int32}   (d : decode cc pc = .ok (.putfield 26, 3)) (hr : wk M r = 6) (kk : V p l e R s m args below meth c nL D cA sz0 H0 cells slots Q (pc + 3) lv st (wPI M r 2 x)) : V p l e R s m args below meth c nL D cA sz0 H0 cells slots Q pc lv (.int x :: .ref (sz0 + r) :: st) M := v_putI cx (k := 2) cl_X7 (by decide) in_X7 (by decide) tyX7 tyX7_ok nmX7 q448 rfl rfl (ty := .int) (tyX7_ok 2 (by decide)) rfl rfl d hr kk
theorem pq449_X7 {p : Program} {l : Launch} {e : Env} {R : Room} {s : State} {m : MethodId} {args : Array Value} {below : List Frame} {meth : Method} {c : Code} {cells slots : Nat} {Q : State → Prop} {cc : ByteArray} {nL : Nat} {ret : Option FieldType} {D : va_G} {cA : Nat → ClassId} {sz0 : Nat} {H0 : Heap} {pc : Nat} {lv : List (Nat × Value)} {st : List Value} {M : WM} {r : Nat} (cx : Cx p s m args meth c cc nL RX7 ret D cA sz0 H0) {x : Int32}   (d : decode cc pc = .ok (.putfield 54, 3)) (hr : wk M r = 6) (kk : V p l e R s m args below meth c nL D cA sz0 H0 cells slots Q (pc + 3) lv st (wPI M r 3 x)) : V p l e R s m args below meth c nL D cA sz0 H0 cells slots Q pc lv (.int x :: .ref (sz0 + r) :: st) M := v_putI cx (k := 3) cl_X7 (by decide) in_X7 (by decide) tyX7 tyX7_ok nmX7 q449 rfl rfl (ty := .int) (tyX7_ok 3 (by decide)) rfl rfl d hr kk
theorem pq450_X7 {p : Program} {l : Launch} {e : Env} {R : Room} {s : State} {m : MethodId} {args : Array Value} {below : List Frame} {meth : Method} {c : Code} {cells slots : Nat} {Q : State → Prop} {cc : ByteArray} {nL : Nat} {ret : Option FieldType} {D : va_G} {cA : Nat → ClassId} {sz0 : Nat} {H0 : Heap} {pc : Nat} {lv : List (Nat × Value)} {st : List Value} {M : WM} {r : Nat} (cx : Cx p s m args meth c cc nL RX7 ret D cA sz0 H0) {x : Int32}   (d : decode cc pc = .ok (.putfield 33, 3)) (hr : wk M r = 6) (kk : V p l e R s m args below meth c nL D cA sz0 H0 cells slots Q (pc + 3) lv st (wPI M r 4 x)) : V p l e R s m args below meth c nL D cA sz0 H0 cells slots Q pc lv (.int x :: .ref (sz0 + r) :: st) M := v_putI cx (k := 4) cl_X7 (by decide) in_X7 (by decide) tyX7 tyX7_ok nmX7 q450 rfl rfl (ty := .int) (tyX7_ok 4 (by decide)) rfl rfl d hr kk
theorem pq451_X7 {p : Program} {l : Launch} {e : Env} {R : Room} {s : State} {m : MethodId} {args : Array Value} {below : List Frame} {meth : Method} {c : Code} {cells slots : Nat} {Q : State → Prop} {cc : ByteArray} {nL : Nat} {ret : Option FieldType} {D : va_G} {cA : Nat → ClassId} {sz0 : Nat} {H0 : Heap} {pc : Nat} {lv : List (Nat × Value)} {st : List Value} {M : WM} {r : Nat} (cx : Cx p s m args meth c cc nL RX7 ret D cA sz0 H0) {x : Int32}   (d : decode cc pc = .ok (.putfield 36, 3)) (hr : wk M r = 6) (kk : V p l e R s m args below meth c nL D cA sz0 H0 cells slots Q (pc + 3) lv st (wPI M r 5 x)) : V p l e R s m args below meth c nL D cA sz0 H0 cells slots Q pc lv (.int x :: .ref (sz0 + r) :: st) M := v_putI cx (k := 5) cl_X7 (by decide) in_X7 (by decide) tyX7 tyX7_ok nmX7 q451 rfl rfl (ty := .int) (tyX7_ok 5 (by decide)) rfl rfl d hr kk
theorem pq452_X7 {p : Program} {l : Launch} {e : Env} {R : Room} {s : State} {m : MethodId} {args : Array Value} {below : List Frame} {meth : Method} {c : Code} {cells slots : Nat} {Q : State → Prop} {cc : ByteArray} {nL : Nat} {ret : Option FieldType} {D : va_G} {cA : Nat → ClassId} {sz0 : Nat} {H0 : Heap} {pc : Nat} {lv : List (Nat × Value)} {st : List Value} {M : WM} {r : Nat} (cx : Cx p s m args meth c cc nL RX7 ret D cA sz0 H0) {x : Option Nat} (hnm : meth.name = "<init>")  (d : decode cc pc = .ok (.putfield 3, 3)) (hr : wk M r = 6) (kk : V p l e R s m args below meth c nL D cA sz0 H0 cells slots Q (pc + 3) lv st (wPR M r 6 x)) : V p l e R s m args below meth c nL D cA sz0 H0 cells slots Q pc lv (vr sz0 x :: .ref (sz0 + r) :: st) M := v_putFR cx (k := 6) cl_X7 (by decide) in_X7 (by decide) tyX7 tyX7_ok nmX7 q452 rfl rfl hnm rfl (ty := tyX7 6) (tyX7_ok 6 (by decide)) (by cases x <;> rfl) (by cases x <;> rfl) d hr kk
theorem pq635_X9 {p : Program} {l : Launch} {e : Env} {R : Room} {s : State} {m : MethodId} {args : Array Value} {below : List Frame} {meth : Method} {c : Code} {cells slots : Nat} {Q : State → Prop} {cc : ByteArray} {nL : Nat} {ret : Option FieldType} {D : va_G} {cA : Nat → ClassId} {sz0 : Nat} {H0 : Heap} {pc : Nat} {lv : List (Nat × Value)} {st : List Value} {M : WM} {r : Nat} (cx : Cx p s m args meth c cc nL RX7 ret D cA sz0 H0) {x : Option Nat}   (d : decode cc pc = .ok (.putfield 94, 3)) (hr : wk M r = 7) (kk : V p l e R s m args below meth c nL D cA sz0 H0 cells slots Q (pc + 3) lv st (wPR M r 2 x)) : V p l e R s m args below meth c nL D cA sz0 H0 cells slots Q pc lv (vr sz0 x :: .ref (sz0 + r) :: st) M := v_putRN cx (k := 2) cl_X9 (by decide) in_X9 (by decide) tyX9 tyX9_ok nmX9 (nst_in q635 rfl) rfl rfl (ty := tyX9 2) (tyX9_ok 2 (by decide)) (by cases x <;> rfl) (by cases x <;> rfl) d hr kk
theorem pq693_X13 {p : Program} {l : Launch} {e : Env} {R : Room} {s : State} {m : MethodId} {args : Array Value} {below : List Frame} {meth : Method} {c : Code} {cells slots : Nat} {Q : State → Prop} {cc : ByteArray} {nL : Nat} {ret : Option FieldType} {D : va_G} {cA : Nat → ClassId} {sz0 : Nat} {H0 : Heap} {pc : Nat} {lv : List (Nat × Value)} {st : List Value} {M : WM} {r : Nat} (cx : Cx p s m args meth c cc nL RX7 ret D cA sz0 H0) {x : Option Nat}   (d : decode cc pc = .ok (.putfield 123, 3)) (hr : wk M r = 10) (kk : V p l e R s m args below meth c nL D cA sz0 H0 cells slots Q (pc + 3) lv st (wPR M r 2 x)) : V p l e R s m args below meth c nL D cA sz0 H0 cells slots Q pc lv (vr sz0 x :: .ref (sz0 + r) :: st) M := v_putRN cx (k := 2) cl_X13 (by decide) in_X13 (by decide) tyX13 tyX13_ok nmX13 (nst_in q693 rfl) rfl rfl (ty := tyX13 2) (tyX13_ok 2 (by decide)) (by cases x <;> rfl) (by cases x <;> rfl) d hr kk
theorem hd_X1_init : yX1_init.cls ≠ "java/lang/invoke/MethodHandle" ∧ yX1_init.cls ≠ "java/lang/invoke/VarHandle" ∧ (parseMethodDescriptor yX1_init.desc).map (fun d => d.parameters.length) = some 0 := by decide +kernel
theorem kcq157_X0 {p : Program} {l : Launch} {e : Env} {R : Room} {s : State} {m : MethodId} {args : Array Value} {below : List Frame} {meth : Method} {c : Code} {cells slots : Nat}  {cc : ByteArray} {nL : Nat} {ret : Option FieldType} {D : va_G} {cA : Nat → ClassId} {sz0 : Nat} {H0 : Heap} {pc : Nat} {lv : List (Nat × Value)} {st : List Value} {M : WM} {r : Nat} {mc ms fr lo : Nat} {st0 As : List Value} {Qc : Array Value → State → Outcome → State → Prop} (cx : Cx p s m args meth c cc nL RX0 ret D cA sz0 H0) (hM : Met l yX1_init (ws_ yX1_init cX1_init 1 none) ({ frames := fr, cells := mc, slots := ms, locals := lo } : Room) (PcW D cA sz0 H0 (.ref (sz0 + r) :: As) M) Qc mc ms (Aw sz0)) (hR : fr + 1 ≤ R.frames ∧ 8 + (1 + 11) + lo ≤ R.locals) (hn : As.length = 0) (hst : st0 = As.reverse ++ .ref (sz0 + r) :: st) (hcat : (st.map fun v => v.category).sum ≤ 8) (d : decode cc pc = .ok (.invokespecial 21, 3)) (hb : cells + mc ≤ R.cells ∧ slots + ms ≤ R.slots) : ∀ (ls : Array Slot) (H : Heap) (locs : List Loc), lv_has ls nL lv → Wd D cA sz0 H0 M H → va_S (Aw sz0) s.heap H locs → va_Run p l e R s m args below meth c H locs cells slots mc ms (F0 m pc ls st0) st (Qc (Value.ref (sz0 + r) :: As).toArray) (Aw sz0) := r_IN cx hM (nst_in q157 rfl) q158 q122 q159 rfl hd_X1_init hR hn hst hcat d hb
theorem hd_X2_init : yX2_init.cls ≠ "java/lang/invoke/MethodHandle" ∧ yX2_init.cls ≠ "java/lang/invoke/VarHandle" ∧ (parseMethodDescriptor yX2_init.desc).map (fun d => d.parameters.length) = some 0 := by decide +kernel
theorem kcq187_X0 {p : Program} {l : Launch} {e : Env} {R : Room} {s : State} {m : MethodId} {args : Array Value} {below : List Frame} {meth : Method} {c : Code} {cells slots : Nat}  {cc : ByteArray} {nL : Nat} {ret : Option FieldType} {D : va_G} {cA : Nat → ClassId} {sz0 : Nat} {H0 : Heap} {pc : Nat} {lv : List (Nat × Value)} {st : List Value} {M : WM} {r : Nat} {mc ms fr lo : Nat} {st0 As : List Value} {Qc : Array Value → State → Outcome → State → Prop} (cx : Cx p s m args meth c cc nL RX0 ret D cA sz0 H0) (hM : Met l yX2_init (ws_ yX2_init cX2_init 1 none) ({ frames := fr, cells := mc, slots := ms, locals := lo } : Room) (PcW D cA sz0 H0 (.ref (sz0 + r) :: As) M) Qc mc ms (Aw sz0)) (hR : fr + 1 ≤ R.frames ∧ 8 + (1 + 11) + lo ≤ R.locals) (hn : As.length = 0) (hst : st0 = As.reverse ++ .ref (sz0 + r) :: st) (hcat : (st.map fun v => v.category).sum ≤ 8) (d : decode cc pc = .ok (.invokespecial 38, 3)) (hb : cells + mc ≤ R.cells ∧ slots + ms ≤ R.slots) : ∀ (ls : Array Slot) (H : Heap) (locs : List Loc), lv_has ls nL lv → Wd D cA sz0 H0 M H → va_S (Aw sz0) s.heap H locs → va_Run p l e R s m args below meth c H locs cells slots mc ms (F0 m pc ls st0) st (Qc (Value.ref (sz0 + r) :: As).toArray) (Aw sz0) := r_IN cx hM (nst_in q187 rfl) q188 q123 q189 rfl hd_X2_init hR hn hst hcat d hb
theorem hd_X4_init : yX4_init.cls ≠ "java/lang/invoke/MethodHandle" ∧ yX4_init.cls ≠ "java/lang/invoke/VarHandle" ∧ (parseMethodDescriptor yX4_init.desc).map (fun d => d.parameters.length) = some 1 := by decide +kernel
theorem kcq206_X0 {p : Program} {l : Launch} {e : Env} {R : Room} {s : State} {m : MethodId} {args : Array Value} {below : List Frame} {meth : Method} {c : Code} {cells slots : Nat}  {cc : ByteArray} {nL : Nat} {ret : Option FieldType} {D : va_G} {cA : Nat → ClassId} {sz0 : Nat} {H0 : Heap} {pc : Nat} {lv : List (Nat × Value)} {st : List Value} {M : WM} {r : Nat} {mc ms fr lo : Nat} {st0 As : List Value} {Qc : Array Value → State → Outcome → State → Prop} (cx : Cx p s m args meth c cc nL RX0 ret D cA sz0 H0) (hM : Met l yX4_init (ws_ yX4_init cX4_init 2 none) ({ frames := fr, cells := mc, slots := ms, locals := lo } : Room) (PcW D cA sz0 H0 (.ref (sz0 + r) :: As) M) Qc mc ms (Aw sz0)) (hR : fr + 1 ≤ R.frames ∧ 8 + (2 + 11) + lo ≤ R.locals) (hn : As.length = 1) (hst : st0 = As.reverse ++ .ref (sz0 + r) :: st) (hcat : (st.map fun v => v.category).sum ≤ 8) (d : decode cc pc = .ok (.invokespecial 63, 3)) (hb : cells + mc ≤ R.cells ∧ slots + ms ≤ R.slots) : ∀ (ls : Array Slot) (H : Heap) (locs : List Loc), lv_has ls nL lv → Wd D cA sz0 H0 M H → va_S (Aw sz0) s.heap H locs → va_Run p l e R s m args below meth c H locs cells slots mc ms (F0 m pc ls st0) st (Qc (Value.ref (sz0 + r) :: As).toArray) (Aw sz0) := r_IN cx hM (nst_in q206 rfl) q207 q125 q208 rfl hd_X4_init hR hn hst hcat d hb
theorem hd_X3_init : yX3_init.cls ≠ "java/lang/invoke/MethodHandle" ∧ yX3_init.cls ≠ "java/lang/invoke/VarHandle" ∧ (parseMethodDescriptor yX3_init.desc).map (fun d => d.parameters.length) = some 0 := by decide +kernel
theorem kcq209_X4 {p : Program} {l : Launch} {e : Env} {R : Room} {s : State} {m : MethodId} {args : Array Value} {below : List Frame} {meth : Method} {c : Code} {cells slots : Nat}  {cc : ByteArray} {nL : Nat} {ret : Option FieldType} {D : va_G} {cA : Nat → ClassId} {sz0 : Nat} {H0 : Heap} {pc : Nat} {lv : List (Nat × Value)} {st : List Value} {M : WM} {r : Nat} {mc ms fr lo : Nat} {st0 As : List Value} {Qc : Array Value → State → Outcome → State → Prop} (cx : Cx p s m args meth c cc nL RX4 ret D cA sz0 H0) (hM : Met l yX3_init (ws_ yX3_init cX3_init 1 none) ({ frames := fr, cells := mc, slots := ms, locals := lo } : Room) (PcW D cA sz0 H0 (.ref (sz0 + r) :: As) M) Qc mc ms (Aw sz0)) (hR : fr + 1 ≤ R.frames ∧ 8 + (1 + 11) + lo ≤ R.locals) (hn : As.length = 0) (hst : st0 = As.reverse ++ .ref (sz0 + r) :: st) (hcat : (st.map fun v => v.category).sum ≤ 8) (d : decode cc pc = .ok (.invokespecial 9, 3)) (hb : cells + mc ≤ R.cells ∧ slots + ms ≤ R.slots) : ∀ (ls : Array Slot) (H : Heap) (locs : List Loc), lv_has ls nL lv → Wd D cA sz0 H0 M H → va_S (Aw sz0) s.heap H locs → va_Run p l e R s m args below meth c H locs cells slots mc ms (F0 m pc ls st0) st (Qc (Value.ref (sz0 + r) :: As).toArray) (Aw sz0) := r_IN cx hM (nst_in q209 rfl) q210 q124 q211 rfl hd_X3_init hR hn hst hcat d hb
theorem hd_X5_init : yX5_init.cls ≠ "java/lang/invoke/MethodHandle" ∧ yX5_init.cls ≠ "java/lang/invoke/VarHandle" ∧ (parseMethodDescriptor yX5_init.desc).map (fun d => d.parameters.length) = some 0 := by decide +kernel
theorem kcq249_X0 {p : Program} {l : Launch} {e : Env} {R : Room} {s : State} {m : MethodId} {args : Array Value} {below : List Frame} {meth : Method} {c : Code} {cells slots : Nat}  {cc : ByteArray} {nL : Nat} {ret : Option FieldType} {D : va_G} {cA : Nat → ClassId} {sz0 : Nat} {H0 : Heap} {pc : Nat} {lv : List (Nat × Value)} {st : List Value} {M : WM} {r : Nat} {mc ms fr lo : Nat} {st0 As : List Value} {Qc : Array Value → State → Outcome → State → Prop} (cx : Cx p s m args meth c cc nL RX0 ret D cA sz0 H0) (hM : Met l yX5_init (ws_ yX5_init cX5_init 1 none) ({ frames := fr, cells := mc, slots := ms, locals := lo } : Room) (PcW D cA sz0 H0 (.ref (sz0 + r) :: As) M) Qc mc ms (Aw sz0)) (hR : fr + 1 ≤ R.frames ∧ 8 + (1 + 11) + lo ≤ R.locals) (hn : As.length = 0) (hst : st0 = As.reverse ++ .ref (sz0 + r) :: st) (hcat : (st.map fun v => v.category).sum ≤ 8) (d : decode cc pc = .ok (.invokespecial 112, 3)) (hb : cells + mc ≤ R.cells ∧ slots + ms ≤ R.slots) : ∀ (ls : Array Slot) (H : Heap) (locs : List Loc), lv_has ls nL lv → Wd D cA sz0 H0 M H → va_S (Aw sz0) s.heap H locs → va_Run p l e R s m args below meth c H locs cells slots mc ms (F0 m pc ls st0) st (Qc (Value.ref (sz0 + r) :: As).toArray) (Aw sz0) := r_IN cx hM (nst_in q249 rfl) q250 q126 q251 rfl hd_X5_init hR hn hst hcat d hb
theorem kcq254_X5 {p : Program} {l : Launch} {e : Env} {R : Room} {s : State} {m : MethodId} {args : Array Value} {below : List Frame} {meth : Method} {c : Code} {cells slots : Nat}  {cc : ByteArray} {nL : Nat} {ret : Option FieldType} {D : va_G} {cA : Nat → ClassId} {sz0 : Nat} {H0 : Heap} {pc : Nat} {lv : List (Nat × Value)} {st : List Value} {M : WM} {r : Nat} {mc ms fr lo : Nat} {st0 As : List Value} {Qc : Array Value → State → Outcome → State → Prop} (cx : Cx p s m args meth c cc nL RX5 ret D cA sz0 H0) (hM : Met l yX2_init (ws_ yX2_init cX2_init 1 none) ({ frames := fr, cells := mc, slots := ms, locals := lo } : Room) (PcW D cA sz0 H0 (.ref (sz0 + r) :: As) M) Qc mc ms (Aw sz0)) (hR : fr + 1 ≤ R.frames ∧ 8 + (1 + 11) + lo ≤ R.locals) (hn : As.length = 0) (hst : st0 = As.reverse ++ .ref (sz0 + r) :: st) (hcat : (st.map fun v => v.category).sum ≤ 8) (d : decode cc pc = .ok (.invokespecial 9, 3)) (hb : cells + mc ≤ R.cells ∧ slots + ms ≤ R.slots) : ∀ (ls : Array Slot) (H : Heap) (locs : List Loc), lv_has ls nL lv → Wd D cA sz0 H0 M H → va_S (Aw sz0) s.heap H locs → va_Run p l e R s m args below meth c H locs cells slots mc ms (F0 m pc ls st0) st (Qc (Value.ref (sz0 + r) :: As).toArray) (Aw sz0) := r_IN cx hM (nst_in q254 rfl) q188 q123 q189 rfl hd_X2_init hR hn hst hcat d hb
theorem hd_X7_init : yX7_init.cls ≠ "java/lang/invoke/MethodHandle" ∧ yX7_init.cls ≠ "java/lang/invoke/VarHandle" ∧ (parseMethodDescriptor yX7_init.desc).map (fun d => d.parameters.length) = some 2 := by decide +kernel
theorem kcq439_X0 {p : Program} {l : Launch} {e : Env} {R : Room} {s : State} {m : MethodId} {args : Array Value} {below : List Frame} {meth : Method} {c : Code} {cells slots : Nat}  {cc : ByteArray} {nL : Nat} {ret : Option FieldType} {D : va_G} {cA : Nat → ClassId} {sz0 : Nat} {H0 : Heap} {pc : Nat} {lv : List (Nat × Value)} {st : List Value} {M : WM} {r : Nat} {mc ms fr lo : Nat} {st0 As : List Value} {Qc : Array Value → State → Outcome → State → Prop} (cx : Cx p s m args meth c cc nL RX0 ret D cA sz0 H0) (hM : Met l yX7_init (ws_ yX7_init cX7_init 3 none) ({ frames := fr, cells := mc, slots := ms, locals := lo } : Room) (PcW D cA sz0 H0 (.ref (sz0 + r) :: As) M) Qc mc ms (Aw sz0)) (hR : fr + 1 ≤ R.frames ∧ 8 + (3 + 11) + lo ≤ R.locals) (hn : As.length = 2) (hst : st0 = As.reverse ++ .ref (sz0 + r) :: st) (hcat : (st.map fun v => v.category).sum ≤ 8) (d : decode cc pc = .ok (.invokespecial 179, 3)) (hb : cells + mc ≤ R.cells ∧ slots + ms ≤ R.slots) : ∀ (ls : Array Slot) (H : Heap) (locs : List Loc), lv_has ls nL lv → Wd D cA sz0 H0 M H → va_S (Aw sz0) s.heap H locs → va_Run p l e R s m args below meth c H locs cells slots mc ms (F0 m pc ls st0) st (Qc (Value.ref (sz0 + r) :: As).toArray) (Aw sz0) := r_I cx hM q439 q440 q128 q441 rfl hd_X7_init hR hn hst hcat d hb
theorem kcq444_X7 {p : Program} {l : Launch} {e : Env} {R : Room} {s : State} {m : MethodId} {args : Array Value} {below : List Frame} {meth : Method} {c : Code} {cells slots : Nat}  {cc : ByteArray} {nL : Nat} {ret : Option FieldType} {D : va_G} {cA : Nat → ClassId} {sz0 : Nat} {H0 : Heap} {pc : Nat} {lv : List (Nat × Value)} {st : List Value} {M : WM} {r : Nat} {mc ms fr lo : Nat} {st0 As : List Value} {Qc : Array Value → State → Outcome → State → Prop} (cx : Cx p s m args meth c cc nL RX7 ret D cA sz0 H0) (hM : Met l yX1_init (ws_ yX1_init cX1_init 1 none) ({ frames := fr, cells := mc, slots := ms, locals := lo } : Room) (PcW D cA sz0 H0 (.ref (sz0 + r) :: As) M) Qc mc ms (Aw sz0)) (hR : fr + 1 ≤ R.frames ∧ 8 + (1 + 11) + lo ≤ R.locals) (hn : As.length = 0) (hst : st0 = As.reverse ++ .ref (sz0 + r) :: st) (hcat : (st.map fun v => v.category).sum ≤ 8) (d : decode cc pc = .ok (.invokespecial 17, 3)) (hb : cells + mc ≤ R.cells ∧ slots + ms ≤ R.slots) : ∀ (ls : Array Slot) (H : Heap) (locs : List Loc), lv_has ls nL lv → Wd D cA sz0 H0 M H → va_S (Aw sz0) s.heap H locs → va_Run p l e R s m args below meth c H locs cells slots mc ms (F0 m pc ls st0) st (Qc (Value.ref (sz0 + r) :: As).toArray) (Aw sz0) := r_IN cx hM (nst_in q444 rfl) q158 q122 q159 rfl hd_X1_init hR hn hst hcat d hb
theorem hd_X7_read : yX7_read.cls ≠ "java/lang/invoke/MethodHandle" ∧ yX7_read.cls ≠ "java/lang/invoke/VarHandle" ∧ (parseMethodDescriptor yX7_read.desc).map (fun d => d.parameters.length) = some 0 := by decide +kernel
theorem kcq468_X0 {p : Program} {l : Launch} {e : Env} {R : Room} {s : State} {m : MethodId} {args : Array Value} {below : List Frame} {meth : Method} {c : Code} {cells slots : Nat}  {cc : ByteArray} {nL : Nat} {ret : Option FieldType} {D : va_G} {cA : Nat → ClassId} {sz0 : Nat} {H0 : Heap} {pc : Nat} {lv : List (Nat × Value)} {st : List Value} {M : WM} {r : Nat} {mc ms fr lo : Nat} {st0 As : List Value} {Qc : Array Value → State → Outcome → State → Prop} (cx : Cx p s m args meth c cc nL RX0 ret D cA sz0 H0) (hM : Met l yX7_read (ws_ yX7_read cX7_read 2 (some .int)) ({ frames := fr, cells := mc, slots := ms, locals := lo } : Room) (PcW D cA sz0 H0 (.ref (sz0 + r) :: As) M) Qc mc ms (Aw sz0)) (hR : fr + 1 ≤ R.frames ∧ 8 + (2 + 11) + lo ≤ R.locals) (hk : wk M r = 6) (hn : As.length = 0) (hst : st0 = As.reverse ++ .ref (sz0 + r) :: st) (hcat : (st.map fun v => v.category).sum ≤ 8) (d : decode cc pc = .ok (.invokevirtual 182, 3)) (hb : cells + mc ≤ R.cells ∧ slots + ms ≤ R.slots) : ∀ (ls : Array Slot) (H : Heap) (locs : List Loc), lv_has ls nL lv → Wd D cA sz0 H0 M H → va_S (Aw sz0) s.heap H locs → va_Run p l e R s m args below meth c H locs cells slots mc ms (F0 m pc ls st0) st (Qc (Value.ref (sz0 + r) :: As).toArray) (Aw sz0) := r_V cx hM q468 q469 q470 q128 q471 rfl hd_X7_read hR cl_X7 (by decide) hk hn hst hcat d hb
theorem hd_X7_isGood : yX7_isGood.cls ≠ "java/lang/invoke/MethodHandle" ∧ yX7_isGood.cls ≠ "java/lang/invoke/VarHandle" ∧ (parseMethodDescriptor yX7_isGood.desc).map (fun d => d.parameters.length) = some 0 := by decide +kernel
theorem kcq472_X7 {p : Program} {l : Launch} {e : Env} {R : Room} {s : State} {m : MethodId} {args : Array Value} {below : List Frame} {meth : Method} {c : Code} {cells slots : Nat}  {cc : ByteArray} {nL : Nat} {ret : Option FieldType} {D : va_G} {cA : Nat → ClassId} {sz0 : Nat} {H0 : Heap} {pc : Nat} {lv : List (Nat × Value)} {st : List Value} {M : WM} {r : Nat} {mc ms fr lo : Nat} {st0 As : List Value} {Qc : Array Value → State → Outcome → State → Prop} (cx : Cx p s m args meth c cc nL RX7 ret D cA sz0 H0) (hM : Met l yX7_isGood (ws_ yX7_isGood cX7_isGood 1 (some .boolean)) ({ frames := fr, cells := mc, slots := ms, locals := lo } : Room) (PcW D cA sz0 H0 (.ref (sz0 + r) :: As) M) Qc mc ms (Aw sz0)) (hR : fr + 1 ≤ R.frames ∧ 8 + (1 + 11) + lo ≤ R.locals) (hk : wk M r = 6) (hn : As.length = 0) (hst : st0 = As.reverse ++ .ref (sz0 + r) :: st) (hcat : (st.map fun v => v.category).sum ≤ 8) (d : decode cc pc = .ok (.invokevirtual 43, 3)) (hb : cells + mc ≤ R.cells ∧ slots + ms ≤ R.slots) : ∀ (ls : Array Slot) (H : Heap) (locs : List Loc), lv_has ls nL lv → Wd D cA sz0 H0 M H → va_S (Aw sz0) s.heap H locs → va_Run p l e R s m args below meth c H locs cells slots mc ms (F0 m pc ls st0) st (Qc (Value.ref (sz0 + r) :: As).toArray) (Aw sz0) := r_V cx hM q472 q474 qs4 q128 q475 rfl hd_X7_isGood hR cl_X7 (by decide) hk hn hst hcat d hb
theorem hd_X7_clause : yX7_clause.cls ≠ "java/lang/invoke/MethodHandle" ∧ yX7_clause.cls ≠ "java/lang/invoke/VarHandle" ∧ (parseMethodDescriptor yX7_clause.desc).map (fun d => d.parameters.length) = some 0 := by decide +kernel
theorem kcq476_X7 {p : Program} {l : Launch} {e : Env} {R : Room} {s : State} {m : MethodId} {args : Array Value} {below : List Frame} {meth : Method} {c : Code} {cells slots : Nat}  {cc : ByteArray} {nL : Nat} {ret : Option FieldType} {D : va_G} {cA : Nat → ClassId} {sz0 : Nat} {H0 : Heap} {pc : Nat} {lv : List (Nat × Value)} {st : List Value} {M : WM} {r : Nat} {mc ms fr lo : Nat} {st0 As : List Value} {Qc : Array Value → State → Outcome → State → Prop} (cx : Cx p s m args meth c cc nL RX7 ret D cA sz0 H0) (hM : Met l yX7_clause (ws_ yX7_clause cX7_clause 4 none) ({ frames := fr, cells := mc, slots := ms, locals := lo } : Room) (PcW D cA sz0 H0 (.ref (sz0 + r) :: As) M) Qc mc ms (Aw sz0)) (hR : fr + 1 ≤ R.frames ∧ 8 + (4 + 11) + lo ≤ R.locals) (hk : wk M r = 6) (hn : As.length = 0) (hst : st0 = As.reverse ++ .ref (sz0 + r) :: st) (hcat : (st.map fun v => v.category).sum ≤ 8) (d : decode cc pc = .ok (.invokevirtual 144, 3)) (hb : cells + mc ≤ R.cells ∧ slots + ms ≤ R.slots) : ∀ (ls : Array Slot) (H : Heap) (locs : List Loc), lv_has ls nL lv → Wd D cA sz0 H0 M H → va_S (Aw sz0) s.heap H locs → va_Run p l e R s m args below meth c H locs cells slots mc ms (F0 m pc ls st0) st (Qc (Value.ref (sz0 + r) :: As).toArray) (Aw sz0) := r_V cx hM q476 q478 qs5 q128 q479 rfl hd_X7_clause hR cl_X7 (by decide) hk hn hst hcat d hb
theorem hd_X7_here : yX7_here.cls ≠ "java/lang/invoke/MethodHandle" ∧ yX7_here.cls ≠ "java/lang/invoke/VarHandle" ∧ (parseMethodDescriptor yX7_here.desc).map (fun d => d.parameters.length) = some 0 := by decide +kernel
theorem kcq480_X7 {p : Program} {l : Launch} {e : Env} {R : Room} {s : State} {m : MethodId} {args : Array Value} {below : List Frame} {meth : Method} {c : Code} {cells slots : Nat}  {cc : ByteArray} {nL : Nat} {ret : Option FieldType} {D : va_G} {cA : Nat → ClassId} {sz0 : Nat} {H0 : Heap} {pc : Nat} {lv : List (Nat × Value)} {st : List Value} {M : WM} {r : Nat} {mc ms fr lo : Nat} {st0 As : List Value} {Qc : Array Value → State → Outcome → State → Prop} (cx : Cx p s m args meth c cc nL RX7 ret D cA sz0 H0) (hM : Met l yX7_here (ws_ yX7_here cX7_here 1 (some .int)) ({ frames := fr, cells := mc, slots := ms, locals := lo } : Room) (PcW D cA sz0 H0 (.ref (sz0 + r) :: As) M) Qc mc ms (Aw sz0)) (hR : fr + 1 ≤ R.frames ∧ 8 + (1 + 11) + lo ≤ R.locals) (hk : wk M r = 6) (hn : As.length = 0) (hst : st0 = As.reverse ++ .ref (sz0 + r) :: st) (hcat : (st.map fun v => v.category).sum ≤ 8) (d : decode cc pc = .ok (.invokevirtual 39, 3)) (hb : cells + mc ≤ R.cells ∧ slots + ms ≤ R.slots) : ∀ (ls : Array Slot) (H : Heap) (locs : List Loc), lv_has ls nL lv → Wd D cA sz0 H0 M H → va_S (Aw sz0) s.heap H locs → va_Run p l e R s m args below meth c H locs cells slots mc ms (F0 m pc ls st0) st (Qc (Value.ref (sz0 + r) :: As).toArray) (Aw sz0) := r_V cx hM q480 q482 qs6 q128 q483 rfl hd_X7_here hR cl_X7 (by decide) hk hn hst hcat d hb
theorem hd_X7_bad : yX7_bad.cls ≠ "java/lang/invoke/MethodHandle" ∧ yX7_bad.cls ≠ "java/lang/invoke/VarHandle" ∧ (parseMethodDescriptor yX7_bad.desc).map (fun d => d.parameters.length) = some 2 := by decide +kernel
theorem kcq484_X7 {p : Program} {l : Launch} {e : Env} {R : Room} {s : State} {m : MethodId} {args : Array Value} {below : List Frame} {meth : Method} {c : Code} {cells slots : Nat}  {cc : ByteArray} {nL : Nat} {ret : Option FieldType} {D : va_G} {cA : Nat → ClassId} {sz0 : Nat} {H0 : Heap} {pc : Nat} {lv : List (Nat × Value)} {st : List Value} {M : WM} {r : Nat} {mc ms fr lo : Nat} {st0 As : List Value} {Qc : Array Value → State → Outcome → State → Prop} (cx : Cx p s m args meth c cc nL RX7 ret D cA sz0 H0) (hM : Met l yX7_bad (ws_ yX7_bad cX7_bad 3 none) ({ frames := fr, cells := mc, slots := ms, locals := lo } : Room) (PcW D cA sz0 H0 (.ref (sz0 + r) :: As) M) Qc mc ms (Aw sz0)) (hR : fr + 1 ≤ R.frames ∧ 8 + (3 + 11) + lo ≤ R.locals) (hk : wk M r = 6) (hn : As.length = 2) (hst : st0 = As.reverse ++ .ref (sz0 + r) :: st) (hcat : (st.map fun v => v.category).sum ≤ 8) (d : decode cc pc = .ok (.invokevirtual 50, 3)) (hb : cells + mc ≤ R.cells ∧ slots + ms ≤ R.slots) : ∀ (ls : Array Slot) (H : Heap) (locs : List Loc), lv_has ls nL lv → Wd D cA sz0 H0 M H → va_S (Aw sz0) s.heap H locs → va_Run p l e R s m args below meth c H locs cells slots mc ms (F0 m pc ls st0) st (Qc (Value.ref (sz0 + r) :: As).toArray) (Aw sz0) := r_V cx hM q484 q486 qs7 q128 q487 rfl hd_X7_bad hR cl_X7 (by decide) hk hn hst hcat d hb
theorem hd_X7_sum : yX7_sum.cls ≠ "java/lang/invoke/MethodHandle" ∧ yX7_sum.cls ≠ "java/lang/invoke/VarHandle" ∧ (parseMethodDescriptor yX7_sum.desc).map (fun d => d.parameters.length) = some 0 := by decide +kernel
theorem kcq488_X7 {p : Program} {l : Launch} {e : Env} {R : Room} {s : State} {m : MethodId} {args : Array Value} {below : List Frame} {meth : Method} {c : Code} {cells slots : Nat}  {cc : ByteArray} {nL : Nat} {ret : Option FieldType} {D : va_G} {cA : Nat → ClassId} {sz0 : Nat} {H0 : Heap} {pc : Nat} {lv : List (Nat × Value)} {st : List Value} {M : WM} {r : Nat} {mc ms fr lo : Nat} {st0 As : List Value} {Qc : Array Value → State → Outcome → State → Prop} (cx : Cx p s m args meth c cc nL RX7 ret D cA sz0 H0) (hM : Met l yX7_sum (ws_ yX7_sum cX7_sum 4 (some (.object "LetterHeaps$Sum"))) ({ frames := fr, cells := mc, slots := ms, locals := lo } : Room) (PcW D cA sz0 H0 (.ref (sz0 + r) :: As) M) Qc mc ms (Aw sz0)) (hR : fr + 1 ≤ R.frames ∧ 8 + (4 + 11) + lo ≤ R.locals) (hk : wk M r = 6) (hn : As.length = 0) (hst : st0 = As.reverse ++ .ref (sz0 + r) :: st) (hcat : (st.map fun v => v.category).sum ≤ 8) (d : decode cc pc = .ok (.invokevirtual 60, 3)) (hb : cells + mc ≤ R.cells ∧ slots + ms ≤ R.slots) : ∀ (ls : Array Slot) (H : Heap) (locs : List Loc), lv_has ls nL lv → Wd D cA sz0 H0 M H → va_S (Aw sz0) s.heap H locs → va_Run p l e R s m args below meth c H locs cells slots mc ms (F0 m pc ls st0) st (Qc (Value.ref (sz0 + r) :: As).toArray) (Aw sz0) := r_V cx hM q488 q490 qs8 q128 q491 rfl hd_X7_sum hR cl_X7 (by decide) hk hn hst hcat d hb
theorem hd_X7_product : yX7_product.cls ≠ "java/lang/invoke/MethodHandle" ∧ yX7_product.cls ≠ "java/lang/invoke/VarHandle" ∧ (parseMethodDescriptor yX7_product.desc).map (fun d => d.parameters.length) = some 0 := by decide +kernel
theorem kcq494_X7 {p : Program} {l : Launch} {e : Env} {R : Room} {s : State} {m : MethodId} {args : Array Value} {below : List Frame} {meth : Method} {c : Code} {cells slots : Nat}  {cc : ByteArray} {nL : Nat} {ret : Option FieldType} {D : va_G} {cA : Nat → ClassId} {sz0 : Nat} {H0 : Heap} {pc : Nat} {lv : List (Nat × Value)} {st : List Value} {M : WM} {r : Nat} {mc ms fr lo : Nat} {st0 As : List Value} {Qc : Array Value → State → Outcome → State → Prop} (cx : Cx p s m args meth c cc nL RX7 ret D cA sz0 H0) (hM : Met l yX7_product (ws_ yX7_product cX7_product 4 (some (.object "LetterHeaps$Sum"))) ({ frames := fr, cells := mc, slots := ms, locals := lo } : Room) (PcW D cA sz0 H0 (.ref (sz0 + r) :: As) M) Qc mc ms (Aw sz0)) (hR : fr + 1 ≤ R.frames ∧ 8 + (4 + 11) + lo ≤ R.locals) (hk : wk M r = 6) (hn : As.length = 0) (hst : st0 = As.reverse ++ .ref (sz0 + r) :: st) (hcat : (st.map fun v => v.category).sum ≤ 8) (d : decode cc pc = .ok (.invokevirtual 98, 3)) (hb : cells + mc ≤ R.cells ∧ slots + ms ≤ R.slots) : ∀ (ls : Array Slot) (H : Heap) (locs : List Loc), lv_has ls nL lv → Wd D cA sz0 H0 M H → va_S (Aw sz0) s.heap H locs → va_Run p l e R s m args below meth c H locs cells slots mc ms (F0 m pc ls st0) st (Qc (Value.ref (sz0 + r) :: As).toArray) (Aw sz0) := r_V cx hM q494 q496 qs9 q128 q497 rfl hd_X7_product hR cl_X7 (by decide) hk hn hst hcat d hb
theorem hd_X7_factor : yX7_factor.cls ≠ "java/lang/invoke/MethodHandle" ∧ yX7_factor.cls ≠ "java/lang/invoke/VarHandle" ∧ (parseMethodDescriptor yX7_factor.desc).map (fun d => d.parameters.length) = some 0 := by decide +kernel
theorem kcq498_X7 {p : Program} {l : Launch} {e : Env} {R : Room} {s : State} {m : MethodId} {args : Array Value} {below : List Frame} {meth : Method} {c : Code} {cells slots : Nat}  {cc : ByteArray} {nL : Nat} {ret : Option FieldType} {D : va_G} {cA : Nat → ClassId} {sz0 : Nat} {H0 : Heap} {pc : Nat} {lv : List (Nat × Value)} {st : List Value} {M : WM} {r : Nat} {mc ms fr lo : Nat} {st0 As : List Value} {Qc : Array Value → State → Outcome → State → Prop} (cx : Cx p s m args meth c cc nL RX7 ret D cA sz0 H0) (hM : Met l yX7_factor (ws_ yX7_factor cX7_factor 3 (some (.object "LetterHeaps$Sum"))) ({ frames := fr, cells := mc, slots := ms, locals := lo } : Room) (PcW D cA sz0 H0 (.ref (sz0 + r) :: As) M) Qc mc ms (Aw sz0)) (hR : fr + 1 ≤ R.frames ∧ 8 + (3 + 11) + lo ≤ R.locals) (hk : wk M r = 6) (hn : As.length = 0) (hst : st0 = As.reverse ++ .ref (sz0 + r) :: st) (hcat : (st.map fun v => v.category).sum ≤ 8) (d : decode cc pc = .ok (.invokevirtual 88, 3)) (hb : cells + mc ≤ R.cells ∧ slots + ms ≤ R.slots) : ∀ (ls : Array Slot) (H : Heap) (locs : List Loc), lv_has ls nL lv → Wd D cA sz0 H0 M H → va_S (Aw sz0) s.heap H locs → va_Run p l e R s m args below meth c H locs cells slots mc ms (F0 m pc ls st0) st (Qc (Value.ref (sz0 + r) :: As).toArray) (Aw sz0) := r_V cx hM q498 q500 qs10 q128 q501 rfl hd_X7_factor hR cl_X7 (by decide) hk hn hst hcat d hb
theorem hd_X7_opens : yX7_opens.cls ≠ "java/lang/invoke/MethodHandle" ∧ yX7_opens.cls ≠ "java/lang/invoke/VarHandle" ∧ (parseMethodDescriptor yX7_opens.desc).map (fun d => d.parameters.length) = some 0 := by decide +kernel
theorem kcq502_X7 {p : Program} {l : Launch} {e : Env} {R : Room} {s : State} {m : MethodId} {args : Array Value} {below : List Frame} {meth : Method} {c : Code} {cells slots : Nat}  {cc : ByteArray} {nL : Nat} {ret : Option FieldType} {D : va_G} {cA : Nat → ClassId} {sz0 : Nat} {H0 : Heap} {pc : Nat} {lv : List (Nat × Value)} {st : List Value} {M : WM} {r : Nat} {mc ms fr lo : Nat} {st0 As : List Value} {Qc : Array Value → State → Outcome → State → Prop} (cx : Cx p s m args meth c cc nL RX7 ret D cA sz0 H0) (hM : Met l yX7_opens (ws_ yX7_opens cX7_opens 1 none) ({ frames := fr, cells := mc, slots := ms, locals := lo } : Room) (PcW D cA sz0 H0 (.ref (sz0 + r) :: As) M) Qc mc ms (Aw sz0)) (hR : fr + 1 ≤ R.frames ∧ 8 + (1 + 11) + lo ≤ R.locals) (hk : wk M r = 6) (hn : As.length = 0) (hst : st0 = As.reverse ++ .ref (sz0 + r) :: st) (hcat : (st.map fun v => v.category).sum ≤ 8) (d : decode cc pc = .ok (.invokevirtual 57, 3)) (hb : cells + mc ≤ R.cells ∧ slots + ms ≤ R.slots) : ∀ (ls : Array Slot) (H : Heap) (locs : List Loc), lv_has ls nL lv → Wd D cA sz0 H0 M H → va_S (Aw sz0) s.heap H locs → va_Run p l e R s m args below meth c H locs cells slots mc ms (F0 m pc ls st0) st (Qc (Value.ref (sz0 + r) :: As).toArray) (Aw sz0) := r_V cx hM q502 q504 qs11 q128 q505 rfl hd_X7_opens hR cl_X7 (by decide) hk hn hst hcat d hb
theorem hd_X7_must : yX7_must.cls ≠ "java/lang/invoke/MethodHandle" ∧ yX7_must.cls ≠ "java/lang/invoke/VarHandle" ∧ (parseMethodDescriptor yX7_must.desc).map (fun d => d.parameters.length) = some 1 := by decide +kernel
theorem kcq506_X7 {p : Program} {l : Launch} {e : Env} {R : Room} {s : State} {m : MethodId} {args : Array Value} {below : List Frame} {meth : Method} {c : Code} {cells slots : Nat}  {cc : ByteArray} {nL : Nat} {ret : Option FieldType} {D : va_G} {cA : Nat → ClassId} {sz0 : Nat} {H0 : Heap} {pc : Nat} {lv : List (Nat × Value)} {st : List Value} {M : WM} {r : Nat} {mc ms fr lo : Nat} {st0 As : List Value} {Qc : Array Value → State → Outcome → State → Prop} (cx : Cx p s m args meth c cc nL RX7 ret D cA sz0 H0) (hM : Met l yX7_must (ws_ yX7_must cX7_must 2 none) ({ frames := fr, cells := mc, slots := ms, locals := lo } : Room) (PcW D cA sz0 H0 (.ref (sz0 + r) :: As) M) Qc mc ms (Aw sz0)) (hR : fr + 1 ≤ R.frames ∧ 8 + (2 + 11) + lo ≤ R.locals) (hk : wk M r = 6) (hn : As.length = 1) (hst : st0 = As.reverse ++ .ref (sz0 + r) :: st) (hcat : (st.map fun v => v.category).sum ≤ 8) (d : decode cc pc = .ok (.invokevirtual 64, 3)) (hb : cells + mc ≤ R.cells ∧ slots + ms ≤ R.slots) : ∀ (ls : Array Slot) (H : Heap) (locs : List Loc), lv_has ls nL lv → Wd D cA sz0 H0 M H → va_S (Aw sz0) s.heap H locs → va_Run p l e R s m args below meth c H locs cells slots mc ms (F0 m pc ls st0) st (Qc (Value.ref (sz0 + r) :: As).toArray) (Aw sz0) := r_V cx hM q506 q508 qs12 q128 q509 rfl hd_X7_must hR cl_X7 (by decide) hk hn hst hcat d hb
theorem hd_X7_seesDigit : yX7_seesDigit.cls ≠ "java/lang/invoke/MethodHandle" ∧ yX7_seesDigit.cls ≠ "java/lang/invoke/VarHandle" ∧ (parseMethodDescriptor yX7_seesDigit.desc).map (fun d => d.parameters.length) = some 0 := by decide +kernel
theorem kcq510_X7 {p : Program} {l : Launch} {e : Env} {R : Room} {s : State} {m : MethodId} {args : Array Value} {below : List Frame} {meth : Method} {c : Code} {cells slots : Nat}  {cc : ByteArray} {nL : Nat} {ret : Option FieldType} {D : va_G} {cA : Nat → ClassId} {sz0 : Nat} {H0 : Heap} {pc : Nat} {lv : List (Nat × Value)} {st : List Value} {M : WM} {r : Nat} {mc ms fr lo : Nat} {st0 As : List Value} {Qc : Array Value → State → Outcome → State → Prop} (cx : Cx p s m args meth c cc nL RX7 ret D cA sz0 H0) (hM : Met l yX7_seesDigit (ws_ yX7_seesDigit cX7_seesDigit 1 (some .boolean)) ({ frames := fr, cells := mc, slots := ms, locals := lo } : Room) (PcW D cA sz0 H0 (.ref (sz0 + r) :: As) M) Qc mc ms (Aw sz0)) (hR : fr + 1 ≤ R.frames ∧ 8 + (1 + 11) + lo ≤ R.locals) (hk : wk M r = 6) (hn : As.length = 0) (hst : st0 = As.reverse ++ .ref (sz0 + r) :: st) (hcat : (st.map fun v => v.category).sum ≤ 8) (d : decode cc pc = .ok (.invokevirtual 47, 3)) (hb : cells + mc ≤ R.cells ∧ slots + ms ≤ R.slots) : ∀ (ls : Array Slot) (H : Heap) (locs : List Loc), lv_has ls nL lv → Wd D cA sz0 H0 M H → va_S (Aw sz0) s.heap H locs → va_Run p l e R s m args below meth c H locs cells slots mc ms (F0 m pc ls st0) st (Qc (Value.ref (sz0 + r) :: As).toArray) (Aw sz0) := r_V cx hM q510 q512 qs13 q128 q513 rfl hd_X7_seesDigit hR cl_X7 (by decide) hk hn hst hcat d hb
theorem hd_X7_number : yX7_number.cls ≠ "java/lang/invoke/MethodHandle" ∧ yX7_number.cls ≠ "java/lang/invoke/VarHandle" ∧ (parseMethodDescriptor yX7_number.desc).map (fun d => d.parameters.length) = some 0 := by decide +kernel
theorem kcq516_X7 {p : Program} {l : Launch} {e : Env} {R : Room} {s : State} {m : MethodId} {args : Array Value} {below : List Frame} {meth : Method} {c : Code} {cells slots : Nat}  {cc : ByteArray} {nL : Nat} {ret : Option FieldType} {D : va_G} {cA : Nat → ClassId} {sz0 : Nat} {H0 : Heap} {pc : Nat} {lv : List (Nat × Value)} {st : List Value} {M : WM} {r : Nat} {mc ms fr lo : Nat} {st0 As : List Value} {Qc : Array Value → State → Outcome → State → Prop} (cx : Cx p s m args meth c cc nL RX7 ret D cA sz0 H0) (hM : Met l yX7_number (ws_ yX7_number cX7_number 3 (some .int)) ({ frames := fr, cells := mc, slots := ms, locals := lo } : Room) (PcW D cA sz0 H0 (.ref (sz0 + r) :: As) M) Qc mc ms (Aw sz0)) (hR : fr + 1 ≤ R.frames ∧ 8 + (3 + 11) + lo ≤ R.locals) (hk : wk M r = 6) (hn : As.length = 0) (hst : st0 = As.reverse ++ .ref (sz0 + r) :: st) (hcat : (st.map fun v => v.category).sum ≤ 8) (d : decode cc pc = .ok (.invokevirtual 70, 3)) (hb : cells + mc ≤ R.cells ∧ slots + ms ≤ R.slots) : ∀ (ls : Array Slot) (H : Heap) (locs : List Loc), lv_has ls nL lv → Wd D cA sz0 H0 M H → va_S (Aw sz0) s.heap H locs → va_Run p l e R s m args below meth c H locs cells slots mc ms (F0 m pc ls st0) st (Qc (Value.ref (sz0 + r) :: As).toArray) (Aw sz0) := r_V cx hM q516 q518 qs14 q128 q519 rfl hd_X7_number hR cl_X7 (by decide) hk hn hst hcat d hb
theorem hd_X10_init : yX10_init.cls ≠ "java/lang/invoke/MethodHandle" ∧ yX10_init.cls ≠ "java/lang/invoke/VarHandle" ∧ (parseMethodDescriptor yX10_init.desc).map (fun d => d.parameters.length) = some 1 := by decide +kernel
theorem kcq520_X7 {p : Program} {l : Launch} {e : Env} {R : Room} {s : State} {m : MethodId} {args : Array Value} {below : List Frame} {meth : Method} {c : Code} {cells slots : Nat}  {cc : ByteArray} {nL : Nat} {ret : Option FieldType} {D : va_G} {cA : Nat → ClassId} {sz0 : Nat} {H0 : Heap} {pc : Nat} {lv : List (Nat × Value)} {st : List Value} {M : WM} {r : Nat} {mc ms fr lo : Nat} {st0 As : List Value} {Qc : Array Value → State → Outcome → State → Prop} (cx : Cx p s m args meth c cc nL RX7 ret D cA sz0 H0) (hM : Met l yX10_init (ws_ yX10_init cX10_init 2 none) ({ frames := fr, cells := mc, slots := ms, locals := lo } : Room) (PcW D cA sz0 H0 (.ref (sz0 + r) :: As) M) Qc mc ms (Aw sz0)) (hR : fr + 1 ≤ R.frames ∧ 8 + (2 + 11) + lo ≤ R.locals) (hn : As.length = 1) (hst : st0 = As.reverse ++ .ref (sz0 + r) :: st) (hcat : (st.map fun v => v.category).sum ≤ 8) (d : decode cc pc = .ok (.invokespecial 73, 3)) (hb : cells + mc ≤ R.cells ∧ slots + ms ≤ R.slots) : ∀ (ls : Array Slot) (H : Heap) (locs : List Loc), lv_has ls nL lv → Wd D cA sz0 H0 M H → va_S (Aw sz0) s.heap H locs → va_Run p l e R s m args below meth c H locs cells slots mc ms (F0 m pc ls st0) st (Qc (Value.ref (sz0 + r) :: As).toArray) (Aw sz0) := r_I cx hM q520 q521 q131 q522 rfl hd_X10_init hR hn hst hcat d hb
theorem hd_X11_init : yX11_init.cls ≠ "java/lang/invoke/MethodHandle" ∧ yX11_init.cls ≠ "java/lang/invoke/VarHandle" ∧ (parseMethodDescriptor yX11_init.desc).map (fun d => d.parameters.length) = some 1 := by decide +kernel
theorem kcq620_X7 {p : Program} {l : Launch} {e : Env} {R : Room} {s : State} {m : MethodId} {args : Array Value} {below : List Frame} {meth : Method} {c : Code} {cells slots : Nat}  {cc : ByteArray} {nL : Nat} {ret : Option FieldType} {D : va_G} {cA : Nat → ClassId} {sz0 : Nat} {H0 : Heap} {pc : Nat} {lv : List (Nat × Value)} {st : List Value} {M : WM} {r : Nat} {mc ms fr lo : Nat} {st0 As : List Value} {Qc : Array Value → State → Outcome → State → Prop} (cx : Cx p s m args meth c cc nL RX7 ret D cA sz0 H0) (hM : Met l yX11_init (ws_ yX11_init cX11_init 2 none) ({ frames := fr, cells := mc, slots := ms, locals := lo } : Room) (PcW D cA sz0 H0 (.ref (sz0 + r) :: As) M) Qc mc ms (Aw sz0)) (hR : fr + 1 ≤ R.frames ∧ 8 + (2 + 11) + lo ≤ R.locals) (hn : As.length = 1) (hst : st0 = As.reverse ++ .ref (sz0 + r) :: st) (hcat : (st.map fun v => v.category).sum ≤ 8) (d : decode cc pc = .ok (.invokespecial 85, 3)) (hb : cells + mc ≤ R.cells ∧ slots + ms ≤ R.slots) : ∀ (ls : Array Slot) (H : Heap) (locs : List Loc), lv_has ls nL lv → Wd D cA sz0 H0 M H → va_S (Aw sz0) s.heap H locs → va_Run p l e R s m args below meth c H locs cells slots mc ms (F0 m pc ls st0) st (Qc (Value.ref (sz0 + r) :: As).toArray) (Aw sz0) := r_I cx hM q620 q621 q138 q622 rfl hd_X11_init hR hn hst hcat d hb
theorem hd_X9_init : yX9_init.cls ≠ "java/lang/invoke/MethodHandle" ∧ yX9_init.cls ≠ "java/lang/invoke/VarHandle" ∧ (parseMethodDescriptor yX9_init.desc).map (fun d => d.parameters.length) = some 2 := by decide +kernel
theorem kcq628_X7 {p : Program} {l : Launch} {e : Env} {R : Room} {s : State} {m : MethodId} {args : Array Value} {below : List Frame} {meth : Method} {c : Code} {cells slots : Nat}  {cc : ByteArray} {nL : Nat} {ret : Option FieldType} {D : va_G} {cA : Nat → ClassId} {sz0 : Nat} {H0 : Heap} {pc : Nat} {lv : List (Nat × Value)} {st : List Value} {M : WM} {r : Nat} {mc ms fr lo : Nat} {st0 As : List Value} {Qc : Array Value → State → Outcome → State → Prop} (cx : Cx p s m args meth c cc nL RX7 ret D cA sz0 H0) (hM : Met l yX9_init (ws_ yX9_init cX9_init 3 none) ({ frames := fr, cells := mc, slots := ms, locals := lo } : Room) (PcW D cA sz0 H0 (.ref (sz0 + r) :: As) M) Qc mc ms (Aw sz0)) (hR : fr + 1 ≤ R.frames ∧ 8 + (3 + 11) + lo ≤ R.locals) (hn : As.length = 2) (hst : st0 = As.reverse ++ .ref (sz0 + r) :: st) (hcat : (st.map fun v => v.category).sum ≤ 8) (d : decode cc pc = .ok (.invokespecial 91, 3)) (hb : cells + mc ≤ R.cells ∧ slots + ms ≤ R.slots) : ∀ (ls : Array Slot) (H : Heap) (locs : List Loc), lv_has ls nL lv → Wd D cA sz0 H0 M H → va_S (Aw sz0) s.heap H locs → va_Run p l e R s m args below meth c H locs cells slots mc ms (F0 m pc ls st0) st (Qc (Value.ref (sz0 + r) :: As).toArray) (Aw sz0) := r_I cx hM q628 q629 q130 q630 rfl hd_X9_init hR hn hst hcat d hb
theorem hd_X7_condition : yX7_condition.cls ≠ "java/lang/invoke/MethodHandle" ∧ yX7_condition.cls ≠ "java/lang/invoke/VarHandle" ∧ (parseMethodDescriptor yX7_condition.desc).map (fun d => d.parameters.length) = some 0 := by decide +kernel
theorem kcq643_X7 {p : Program} {l : Launch} {e : Env} {R : Room} {s : State} {m : MethodId} {args : Array Value} {below : List Frame} {meth : Method} {c : Code} {cells slots : Nat}  {cc : ByteArray} {nL : Nat} {ret : Option FieldType} {D : va_G} {cA : Nat → ClassId} {sz0 : Nat} {H0 : Heap} {pc : Nat} {lv : List (Nat × Value)} {st : List Value} {M : WM} {r : Nat} {mc ms fr lo : Nat} {st0 As : List Value} {Qc : Array Value → State → Outcome → State → Prop} (cx : Cx p s m args meth c cc nL RX7 ret D cA sz0 H0) (hM : Met l yX7_condition (ws_ yX7_condition cX7_condition 3 (some (.object "LetterHeaps$Condition"))) ({ frames := fr, cells := mc, slots := ms, locals := lo } : Room) (PcW D cA sz0 H0 (.ref (sz0 + r) :: As) M) Qc mc ms (Aw sz0)) (hR : fr + 1 ≤ R.frames ∧ 8 + (3 + 11) + lo ≤ R.locals) (hk : wk M r = 6) (hn : As.length = 0) (hst : st0 = As.reverse ++ .ref (sz0 + r) :: st) (hcat : (st.map fun v => v.category).sum ≤ 8) (d : decode cc pc = .ok (.invokevirtual 110, 3)) (hb : cells + mc ≤ R.cells ∧ slots + ms ≤ R.slots) : ∀ (ls : Array Slot) (H : Heap) (locs : List Loc), lv_has ls nL lv → Wd D cA sz0 H0 M H → va_S (Aw sz0) s.heap H locs → va_Run p l e R s m args below meth c H locs cells slots mc ms (F0 m pc ls st0) st (Qc (Value.ref (sz0 + r) :: As).toArray) (Aw sz0) := r_V cx hM q643 q645 qs15 q128 q646 rfl hd_X7_condition hR cl_X7 (by decide) hk hn hst hcat d hb
theorem hd_X7_pieces : yX7_pieces.cls ≠ "java/lang/invoke/MethodHandle" ∧ yX7_pieces.cls ≠ "java/lang/invoke/VarHandle" ∧ (parseMethodDescriptor yX7_pieces.desc).map (fun d => d.parameters.length) = some 0 := by decide +kernel
theorem kcq649_X7 {p : Program} {l : Launch} {e : Env} {R : Room} {s : State} {m : MethodId} {args : Array Value} {below : List Frame} {meth : Method} {c : Code} {cells slots : Nat}  {cc : ByteArray} {nL : Nat} {ret : Option FieldType} {D : va_G} {cA : Nat → ClassId} {sz0 : Nat} {H0 : Heap} {pc : Nat} {lv : List (Nat × Value)} {st : List Value} {M : WM} {r : Nat} {mc ms fr lo : Nat} {st0 As : List Value} {Qc : Array Value → State → Outcome → State → Prop} (cx : Cx p s m args meth c cc nL RX7 ret D cA sz0 H0) (hM : Met l yX7_pieces (ws_ yX7_pieces cX7_pieces 3 (some (.object "LetterHeaps$Condition"))) ({ frames := fr, cells := mc, slots := ms, locals := lo } : Room) (PcW D cA sz0 H0 (.ref (sz0 + r) :: As) M) Qc mc ms (Aw sz0)) (hR : fr + 1 ≤ R.frames ∧ 8 + (3 + 11) + lo ≤ R.locals) (hk : wk M r = 6) (hn : As.length = 0) (hst : st0 = As.reverse ++ .ref (sz0 + r) :: st) (hcat : (st.map fun v => v.category).sum ≤ 8) (d : decode cc pc = .ok (.invokevirtual 126, 3)) (hb : cells + mc ≤ R.cells ∧ slots + ms ≤ R.slots) : ∀ (ls : Array Slot) (H : Heap) (locs : List Loc), lv_has ls nL lv → Wd D cA sz0 H0 M H → va_S (Aw sz0) s.heap H locs → va_Run p l e R s m args below meth c H locs cells slots mc ms (F0 m pc ls st0) st (Qc (Value.ref (sz0 + r) :: As).toArray) (Aw sz0) := r_V cx hM q649 q651 qs16 q128 q652 rfl hd_X7_pieces hR cl_X7 (by decide) hk hn hst hcat d hb
theorem hd_X7_piece : yX7_piece.cls ≠ "java/lang/invoke/MethodHandle" ∧ yX7_piece.cls ≠ "java/lang/invoke/VarHandle" ∧ (parseMethodDescriptor yX7_piece.desc).map (fun d => d.parameters.length) = some 0 := by decide +kernel
theorem kcq653_X7 {p : Program} {l : Launch} {e : Env} {R : Room} {s : State} {m : MethodId} {args : Array Value} {below : List Frame} {meth : Method} {c : Code} {cells slots : Nat}  {cc : ByteArray} {nL : Nat} {ret : Option FieldType} {D : va_G} {cA : Nat → ClassId} {sz0 : Nat} {H0 : Heap} {pc : Nat} {lv : List (Nat × Value)} {st : List Value} {M : WM} {r : Nat} {mc ms fr lo : Nat} {st0 As : List Value} {Qc : Array Value → State → Outcome → State → Prop} (cx : Cx p s m args meth c cc nL RX7 ret D cA sz0 H0) (hM : Met l yX7_piece (ws_ yX7_piece cX7_piece 4 (some (.object "LetterHeaps$Condition"))) ({ frames := fr, cells := mc, slots := ms, locals := lo } : Room) (PcW D cA sz0 H0 (.ref (sz0 + r) :: As) M) Qc mc ms (Aw sz0)) (hR : fr + 1 ≤ R.frames ∧ 8 + (4 + 11) + lo ≤ R.locals) (hk : wk M r = 6) (hn : As.length = 0) (hst : st0 = As.reverse ++ .ref (sz0 + r) :: st) (hcat : (st.map fun v => v.category).sum ≤ 8) (d : decode cc pc = .ok (.invokevirtual 101, 3)) (hb : cells + mc ≤ R.cells ∧ slots + ms ≤ R.slots) : ∀ (ls : Array Slot) (H : Heap) (locs : List Loc), lv_has ls nL lv → Wd D cA sz0 H0 M H → va_S (Aw sz0) s.heap H locs → va_Run p l e R s m args below meth c H locs cells slots mc ms (F0 m pc ls st0) st (Qc (Value.ref (sz0 + r) :: As).toArray) (Aw sz0) := r_V cx hM q653 q655 qs17 q128 q656 rfl hd_X7_piece hR cl_X7 (by decide) hk hn hst hcat d hb
theorem hd_X14_init : yX14_init.cls ≠ "java/lang/invoke/MethodHandle" ∧ yX14_init.cls ≠ "java/lang/invoke/VarHandle" ∧ (parseMethodDescriptor yX14_init.desc).map (fun d => d.parameters.length) = some 1 := by decide +kernel
theorem kcq659_X7 {p : Program} {l : Launch} {e : Env} {R : Room} {s : State} {m : MethodId} {args : Array Value} {below : List Frame} {meth : Method} {c : Code} {cells slots : Nat}  {cc : ByteArray} {nL : Nat} {ret : Option FieldType} {D : va_G} {cA : Nat → ClassId} {sz0 : Nat} {H0 : Heap} {pc : Nat} {lv : List (Nat × Value)} {st : List Value} {M : WM} {r : Nat} {mc ms fr lo : Nat} {st0 As : List Value} {Qc : Array Value → State → Outcome → State → Prop} (cx : Cx p s m args meth c cc nL RX7 ret D cA sz0 H0) (hM : Met l yX14_init (ws_ yX14_init cX14_init 2 none) ({ frames := fr, cells := mc, slots := ms, locals := lo } : Room) (PcW D cA sz0 H0 (.ref (sz0 + r) :: As) M) Qc mc ms (Aw sz0)) (hR : fr + 1 ≤ R.frames ∧ 8 + (2 + 11) + lo ≤ R.locals) (hn : As.length = 1) (hst : st0 = As.reverse ++ .ref (sz0 + r) :: st) (hcat : (st.map fun v => v.category).sum ≤ 8) (d : decode cc pc = .ok (.invokespecial 107, 3)) (hb : cells + mc ≤ R.cells ∧ slots + ms ≤ R.slots) : ∀ (ls : Array Slot) (H : Heap) (locs : List Loc), lv_has ls nL lv → Wd D cA sz0 H0 M H → va_S (Aw sz0) s.heap H locs → va_Run p l e R s m args below meth c H locs cells slots mc ms (F0 m pc ls st0) st (Qc (Value.ref (sz0 + r) :: As).toArray) (Aw sz0) := r_I cx hM q659 q660 q141 q661 rfl hd_X14_init hR hn hst hcat d hb
theorem hd_X15_init : yX15_init.cls ≠ "java/lang/invoke/MethodHandle" ∧ yX15_init.cls ≠ "java/lang/invoke/VarHandle" ∧ (parseMethodDescriptor yX15_init.desc).map (fun d => d.parameters.length) = some 3 := by decide +kernel
theorem kcq672_X7 {p : Program} {l : Launch} {e : Env} {R : Room} {s : State} {m : MethodId} {args : Array Value} {below : List Frame} {meth : Method} {c : Code} {cells slots : Nat}  {cc : ByteArray} {nL : Nat} {ret : Option FieldType} {D : va_G} {cA : Nat → ClassId} {sz0 : Nat} {H0 : Heap} {pc : Nat} {lv : List (Nat × Value)} {st : List Value} {M : WM} {r : Nat} {mc ms fr lo : Nat} {st0 As : List Value} {Qc : Array Value → State → Outcome → State → Prop} (cx : Cx p s m args meth c cc nL RX7 ret D cA sz0 H0) (hM : Met l yX15_init (ws_ yX15_init cX15_init 4 none) ({ frames := fr, cells := mc, slots := ms, locals := lo } : Room) (PcW D cA sz0 H0 (.ref (sz0 + r) :: As) M) Qc mc ms (Aw sz0)) (hR : fr + 1 ≤ R.frames ∧ 8 + (4 + 11) + lo ≤ R.locals) (hn : As.length = 3) (hst : st0 = As.reverse ++ .ref (sz0 + r) :: st) (hcat : (st.map fun v => v.category).sum ≤ 8) (d : decode cc pc = .ok (.invokespecial 115, 3)) (hb : cells + mc ≤ R.cells ∧ slots + ms ≤ R.slots) : ∀ (ls : Array Slot) (H : Heap) (locs : List Loc), lv_has ls nL lv → Wd D cA sz0 H0 M H → va_S (Aw sz0) s.heap H locs → va_Run p l e R s m args below meth c H locs cells slots mc ms (F0 m pc ls st0) st (Qc (Value.ref (sz0 + r) :: As).toArray) (Aw sz0) := r_I cx hM q672 q673 q142 q674 rfl hd_X15_init hR hn hst hcat d hb
theorem hd_X13_init : yX13_init.cls ≠ "java/lang/invoke/MethodHandle" ∧ yX13_init.cls ≠ "java/lang/invoke/VarHandle" ∧ (parseMethodDescriptor yX13_init.desc).map (fun d => d.parameters.length) = some 2 := by decide +kernel
theorem kcq686_X7 {p : Program} {l : Launch} {e : Env} {R : Room} {s : State} {m : MethodId} {args : Array Value} {below : List Frame} {meth : Method} {c : Code} {cells slots : Nat}  {cc : ByteArray} {nL : Nat} {ret : Option FieldType} {D : va_G} {cA : Nat → ClassId} {sz0 : Nat} {H0 : Heap} {pc : Nat} {lv : List (Nat × Value)} {st : List Value} {M : WM} {r : Nat} {mc ms fr lo : Nat} {st0 As : List Value} {Qc : Array Value → State → Outcome → State → Prop} (cx : Cx p s m args meth c cc nL RX7 ret D cA sz0 H0) (hM : Met l yX13_init (ws_ yX13_init cX13_init 3 none) ({ frames := fr, cells := mc, slots := ms, locals := lo } : Room) (PcW D cA sz0 H0 (.ref (sz0 + r) :: As) M) Qc mc ms (Aw sz0)) (hR : fr + 1 ≤ R.frames ∧ 8 + (3 + 11) + lo ≤ R.locals) (hn : As.length = 2) (hst : st0 = As.reverse ++ .ref (sz0 + r) :: st) (hcat : (st.map fun v => v.category).sum ≤ 8) (d : decode cc pc = .ok (.invokespecial 120, 3)) (hb : cells + mc ≤ R.cells ∧ slots + ms ≤ R.slots) : ∀ (ls : Array Slot) (H : Heap) (locs : List Loc), lv_has ls nL lv → Wd D cA sz0 H0 M H → va_S (Aw sz0) s.heap H locs → va_Run p l e R s m args below meth c H locs cells slots mc ms (F0 m pc ls st0) st (Qc (Value.ref (sz0 + r) :: As).toArray) (Aw sz0) := r_I cx hM q686 q687 q140 q688 rfl hd_X13_init hR hn hst hcat d hb
/-! LetterHeaps$Reader.<init>(LLetterHeaps;I)V -/
def m_X7_init (t : Nat) (x2 : Int32) (M : WM) (bc bs : Nat) (Q : WM → Prop) : Prop := (wk M t = 6 ∧ (shR t 6 = none ∧ (∀ M3 : WM, M3 = wPR M t 6 (some 0) → ((0 + 1 ≤ bc ∧ 0 + 4 ≤ bs) ∧ (∀ r5, r5 = wn M3 → (∀ M6 : WM, M6 = wNw M3 1 0 → (∃ mc7 ms8, (0 + 1) + mc7 ≤ bc ∧ (0 + 4) + ms8 ≤ bs ∧ (m_X1_init r5 M6 mc7 ms8 (fun (M10 : WM) => (Shp M10 ∧ (wk M10 t = 6 ∧ (shR t 1 = none ∧ (∀ M13 : WM, M13 = wPR M10 t 1 (some r5) → (wk M13 t = 6 ∧ (∀ M15 : WM, M15 = wPI M13 t 0 x2 → ((((0 + 1) + mc7) ≤ bc ∧ ((0 + 4) + ms8) ≤ bs) ∧ Q M15))))))))))))))))
theorem c_X7_init (l : Launch) (D : va_G) (cA : Nat → ClassId) (sz0 : Nat) (H0 : Heap) (M : WM) (t : Nat) (x2 : Int32)  (bc bs : Nat) (Q : WM → Prop) (sh : Shp M) (h : m_X7_init t x2 M bc bs Q) : Met l yX7_init (ws_ yX7_init cX7_init 3 none) ({ frames := 2, cells := bc, slots := bs, locals := 40 } : Room) (PcW D cA sz0 H0 [.ref (sz0 + t), .ref (sz0 + 0), .int x2] M) (QW_v D cA sz0 H0 (fun M' => Q M' ∧ Shp M')) bc bs (Aw sz0) := by
  replace h : (wk M t = 6 ∧ (shR t 6 = none ∧ (∀ M3 : WM, M3 = wPR M t 6 (some 0) → ((0 + 1 ≤ bc ∧ 0 + 4 ≤ bs) ∧ (∀ r5, r5 = wn M3 → (∀ M6 : WM, M6 = wNw M3 1 0 → (∃ mc7 ms8, (0 + 1) + mc7 ≤ bc ∧ (0 + 4) + ms8 ≤ bs ∧ (m_X1_init r5 M6 mc7 ms8 (fun (M10 : WM) => (Shp M10 ∧ (wk M10 t = 6 ∧ (shR t 1 = none ∧ (∀ M13 : WM, M13 = wPR M10 t 1 (some r5) → (wk M13 t = 6 ∧ (∀ M15 : WM, M15 = wPI M13 t 0 x2 → ((((0 + 1) + mc7) ≤ bc ∧ ((0 + 4) + ms8) ≤ bs) ∧ Q M15)))))))))))))))) := h
  refine Met.ofV (by decide +kernel) (Nat.le_of_ble_eq_true rfl) ?_
  intro p e s m args below meth c cx hnm
  replace cx : Cx p s m args meth c cX7_init 3 RX7 none D cA sz0 H0 := cx
  refine v_sub (lv' := [(0, .ref (sz0 + t)), (1, .ref (sz0 + 0)), (2, .int x2)]) [0, 1, 2] rfl ?_
  refine v_aload_n (pc := 0) cx dX7_init_0 rfl 0 rfl ?_
  refine v_aload_n (pc := 1) cx dX7_init_1 rfl 1 rfl ?_
  obtain ⟨k1, h⟩ := h
  obtain ⟨q2, h⟩ := h
  refine pq452_X7 (pc := 2) cx (x := some 0) hnm dX7_init_2 k1 ?_
  refine v_wld (fun M3 eM3 => ?_)
  replace h := h M3 eM3
  replace sh : Shp M3 := Shp_PR sh q2 eM3
  refine v_aload_n (pc := 5) cx dX7_init_5 rfl 0 rfl ?_
  refine v_objInit (pc := 6) cx q442 q151 q152 dX7_init_6 ⟨Nat.le_of_ble_eq_true rfl, Nat.le_of_ble_eq_true rfl⟩ ?_
  refine v_aload_n (pc := 9) cx dX7_init_9 rfl 0 rfl ?_
  obtain ⟨q4, h⟩ := h
  refine v_new (pc := 10) cx cl_X1 (by decide) in_X1 tyX1 tyX1_ok q443 q156 q122 df_X1 q4.1 q4.2 dX7_init_10 ?_
  refine v_topr (fun r5 er5 => ?_)
  replace h := h r5 er5
  refine v_wld (fun M6 eM6 => ?_)
  replace h := h M6 eM6
  replace sh : Shp M6 := Shp_Nw sh eM6
  refine v_dup (pc := 13) cx dX7_init_13 rfl ?_
  obtain ⟨mc7, ms8, hmc, hms, h⟩ := h
  refine v_run_v (pc := 14) cx (kcq444_X7 cx (c_X1_init l D cA sz0 H0 M6 r5  mc7 ms8 _ h) ⟨Nat.le_of_ble_eq_true rfl, Nat.le_of_ble_eq_true rfl⟩ (As := []) rfl rfl (Nat.le_of_ble_eq_true rfl) dX7_init_14 ⟨hmc, hms⟩) (fun M10 hq => ?_)
  replace h := hq
  obtain ⟨sh, h⟩ := h
  obtain ⟨k11, h⟩ := h
  obtain ⟨q12, h⟩ := h
  refine pq446_X7 (pc := 17) cx (x := some r5) hnm dX7_init_17 k11 ?_
  refine v_wld (fun M13 eM13 => ?_)
  replace h := h M13 eM13
  replace sh : Shp M13 := Shp_PR sh q12 eM13
  refine v_aload_n (pc := 20) cx dX7_init_20 rfl 0 rfl ?_
  refine v_iload_n (pc := 21) cx dX7_init_21 rfl 2 rfl ?_
  obtain ⟨k14, h⟩ := h
  refine pq445_X7 (pc := 22) cx hnm dX7_init_22 k14 ?_
  refine v_wld (fun M15 eM15 => ?_)
  replace h := h M15 eM15
  replace sh : Shp M15 := Shp_PI sh eM15
  obtain ⟨q16, h⟩ := h
  exact v_vret cx rfl dX7_init_25 q16 ⟨h, sh⟩
/-! LetterHeaps$Reader.isGood()Z -/
def m_X7_isGood (t : Nat) (M : WM)  (Q : Int32 → Prop) : Prop := (wk M t = 6 ∧ (((wI M t 4) = 0 → Q ((1 : Int32))) ∧ (¬ (wI M t 4) = 0 → Q ((0 : Int32)))))
theorem c_X7_isGood (l : Launch) (D : va_G) (cA : Nat → ClassId) (sz0 : Nat) (H0 : Heap) (M : WM) (t : Nat)   (Q : Int32 → Prop) (sh : Shp M) (h : m_X7_isGood t M  Q) : Met l yX7_isGood (ws_ yX7_isGood cX7_isGood 1 (some .boolean)) ({ frames := 0, cells := 0, slots := 0, locals := 0 } : Room) (PcW D cA sz0 H0 [.ref (sz0 + t)] M) (QW_i D cA sz0 H0 (fun r M' => M' = M ∧ Q r)) 0 0 (Aw sz0) := by
  replace h : (wk M t = 6 ∧ (((wI M t 4) = 0 → Q ((1 : Int32))) ∧ (¬ (wI M t 4) = 0 → Q ((0 : Int32))))) := h
  refine Met.ofV (by decide +kernel) (Nat.le_of_ble_eq_true rfl) ?_
  intro p e s m args below meth c cx hnm
  replace cx : Cx p s m args meth c cX7_isGood 1 RX7 (some .boolean) D cA sz0 H0 := cx
  refine v_sub (lv' := [(0, .ref (sz0 + t))]) [0] rfl ?_
  refine v_aload_n (pc := 0) cx dX7_isGood_0 rfl 0 rfl ?_
  obtain ⟨k1, h⟩ := h
  refine gq450_X7 (pc := 1) cx dX7_isGood_1 k1 ?_
  refine v_if_ne (pc := 4) cx dX7_isGood_4 (tgt := 11) rfl (fun c2 => ?_) (fun c2 => ?_)
  · replace h := h.2 c2
    refine v_iconst (pc := 11) cx dX7_isGood_11 ic_0 ?_
    exact v_zret cx rfl (Or.inl rfl) dX7_isGood_12 ⟨Nat.le_of_ble_eq_true rfl, Nat.le_of_ble_eq_true rfl⟩ ⟨rfl, h⟩
  · replace h := h.1 c2
    refine v_iconst (pc := 7) cx dX7_isGood_7 ic_1 ?_
    refine v_goto (pc := 8) cx dX7_isGood_8 (tgt := 12) rfl ?_
    exact v_zret cx rfl (Or.inr rfl) dX7_isGood_12 ⟨Nat.le_of_ble_eq_true rfl, Nat.le_of_ble_eq_true rfl⟩ ⟨rfl, h⟩
/-! LetterHeaps$Reader.here()I -/
def m_X7_here (t : Nat) (M : WM)  (Q : Int32 → Prop) : Prop := (wk M t = 6 ∧ (wk M t = 6 ∧ (((wI M t 0) ≤ (wI M t 2) → Q ((0 : Int32))) ∧ (¬ (wI M t 0) ≤ (wI M t 2) → (wk M t = 6 ∧ (wR M t 6 = some 0 ∧ (wk M t = 6 ∧ (vp_in ((wI M t 2)) 200 ∧ Q (((wI M 2 ((wI M t 2)).toNatClampNeg) &&& (255 : Int32)))))))))))
theorem c_X7_here (l : Launch) (D : va_G) (cA : Nat → ClassId) (sz0 : Nat) (H0 : Heap) (M : WM) (t : Nat)   (Q : Int32 → Prop) (sh : Shp M) (h : m_X7_here t M  Q) : Met l yX7_here (ws_ yX7_here cX7_here 1 (some .int)) ({ frames := 0, cells := 0, slots := 0, locals := 0 } : Room) (PcW D cA sz0 H0 [.ref (sz0 + t)] M) (QW_i D cA sz0 H0 (fun r M' => M' = M ∧ Q r)) 0 0 (Aw sz0) := by
  replace h : (wk M t = 6 ∧ (wk M t = 6 ∧ (((wI M t 0) ≤ (wI M t 2) → Q ((0 : Int32))) ∧ (¬ (wI M t 0) ≤ (wI M t 2) → (wk M t = 6 ∧ (wR M t 6 = some 0 ∧ (wk M t = 6 ∧ (vp_in ((wI M t 2)) 200 ∧ Q (((wI M 2 ((wI M t 2)).toNatClampNeg) &&& (255 : Int32))))))))))) := h
  refine Met.ofV (by decide +kernel) (Nat.le_of_ble_eq_true rfl) ?_
  intro p e s m args below meth c cx hnm
  replace cx : Cx p s m args meth c cX7_here 1 RX7 (some .int) D cA sz0 H0 := cx
  refine v_sub (lv' := [(0, .ref (sz0 + t))]) [0] rfl ?_
  refine v_aload_n (pc := 0) cx dX7_here_0 rfl 0 rfl ?_
  obtain ⟨k1, h⟩ := h
  refine gq448_X7 (pc := 1) cx dX7_here_1 k1 ?_
  refine v_aload_n (pc := 4) cx dX7_here_4 rfl 0 rfl ?_
  obtain ⟨k2, h⟩ := h
  refine gq445_X7 (pc := 5) cx dX7_here_5 k2 ?_
  refine v_icmp_ge (pc := 8) cx dX7_here_8 (tgt := 30) rfl (fun c3 => ?_) (fun c3 => ?_)
  · replace h := h.1 c3
    refine v_iconst (pc := 30) cx dX7_here_30 ic_0 ?_
    exact v_iret cx rfl dX7_here_31 ⟨Nat.le_of_ble_eq_true rfl, Nat.le_of_ble_eq_true rfl⟩ ⟨rfl, h⟩
  · replace h := h.2 c3
    refine v_aload_n (pc := 11) cx dX7_here_11 rfl 0 rfl ?_
    obtain ⟨k4, h⟩ := h
    obtain ⟨k5, h⟩ := h
    refine gq452_X7 (pc := 12) cx dX7_here_12 k4 (v_some k5 ?_)
    refine gq274_X0 (pc := 15) cx dX7_here_15 (sh.k k_0) (v_some (sh.r r_0_1) ?_)
    refine v_aload_n (pc := 18) cx dX7_here_18 rfl 0 rfl ?_
    obtain ⟨k6, h⟩ := h
    refine gq448_X7 (pc := 19) cx dX7_here_19 k6 ?_
    obtain ⟨b7, h⟩ := h
    refine v_bald (pc := 22) cx dX7_here_22 (sh.k k_2) (sh.l k_2 l_2) b7 ?_
    refine v_sipush (pc := 23) cx dX7_here_23 sc_255 ?_
    refine v_iand (pc := 26) cx dX7_here_26 ?_
    refine v_goto (pc := 27) cx dX7_here_27 (tgt := 31) rfl ?_
    exact v_iret cx rfl dX7_here_31 ⟨Nat.le_of_ble_eq_true rfl, Nat.le_of_ble_eq_true rfl⟩ ⟨rfl, h⟩
/-! LetterHeaps$Reader.bad(II)V -/
def m_X7_bad (t : Nat) (x1 : Int32) (x2 : Int32) (M : WM)  (Q : WM → Prop) : Prop := (wk M t = 6 ∧ (((wI M t 4) ≤ 0 → (wk M t = 6 ∧ (∀ M4 : WM, M4 = wPI M t 4 x1 → (wk M4 t = 6 ∧ (∀ M6 : WM, M6 = wPI M4 t 5 x2 → Q M6))))) ∧ (¬ (wI M t 4) ≤ 0 → Q M)))
theorem c_X7_bad (l : Launch) (D : va_G) (cA : Nat → ClassId) (sz0 : Nat) (H0 : Heap) (M : WM) (t : Nat) (x1 : Int32) (x2 : Int32)   (Q : WM → Prop) (sh : Shp M) (h : m_X7_bad t x1 x2 M  Q) : Met l yX7_bad (ws_ yX7_bad cX7_bad 3 none) ({ frames := 0, cells := 0, slots := 0, locals := 0 } : Room) (PcW D cA sz0 H0 [.ref (sz0 + t), .int x1, .int x2] M) (QW_v D cA sz0 H0 (fun M' => Q M' ∧ Shp M')) 0 0 (Aw sz0) := by
  replace h : (wk M t = 6 ∧ (((wI M t 4) ≤ 0 → (wk M t = 6 ∧ (∀ M4 : WM, M4 = wPI M t 4 x1 → (wk M4 t = 6 ∧ (∀ M6 : WM, M6 = wPI M4 t 5 x2 → Q M6))))) ∧ (¬ (wI M t 4) ≤ 0 → Q M))) := h
  refine Met.ofV (by decide +kernel) (Nat.le_of_ble_eq_true rfl) ?_
  intro p e s m args below meth c cx hnm
  replace cx : Cx p s m args meth c cX7_bad 3 RX7 none D cA sz0 H0 := cx
  refine v_sub (lv' := [(0, .ref (sz0 + t)), (1, .int x1), (2, .int x2)]) [0, 1, 2] rfl ?_
  refine v_aload_n (pc := 0) cx dX7_bad_0 rfl 0 rfl ?_
  obtain ⟨k1, h⟩ := h
  refine gq450_X7 (pc := 1) cx dX7_bad_1 k1 ?_
  refine v_if_le (pc := 4) cx dX7_bad_4 (tgt := 8) rfl (fun c2 => ?_) (fun c2 => ?_)
  · replace h := h.1 c2
    refine v_aload_n (pc := 8) cx dX7_bad_8 rfl 0 rfl ?_
    refine v_iload_n (pc := 9) cx dX7_bad_9 rfl 1 rfl ?_
    obtain ⟨k3, h⟩ := h
    refine pq450_X7 (pc := 10) cx dX7_bad_10 k3 ?_
    refine v_wld (fun M4 eM4 => ?_)
    replace h := h M4 eM4
    replace sh : Shp M4 := Shp_PI sh eM4
    refine v_aload_n (pc := 13) cx dX7_bad_13 rfl 0 rfl ?_
    refine v_iload_n (pc := 14) cx dX7_bad_14 rfl 2 rfl ?_
    obtain ⟨k5, h⟩ := h
    refine pq451_X7 (pc := 15) cx dX7_bad_15 k5 ?_
    refine v_wld (fun M6 eM6 => ?_)
    replace h := h M6 eM6
    replace sh : Shp M6 := Shp_PI sh eM6
    exact v_vret cx rfl dX7_bad_18 ⟨Nat.le_of_ble_eq_true rfl, Nat.le_of_ble_eq_true rfl⟩ ⟨h, sh⟩
  · replace h := h.2 c2
    exact v_vret cx rfl dX7_bad_7 ⟨Nat.le_of_ble_eq_true rfl, Nat.le_of_ble_eq_true rfl⟩ ⟨h, sh⟩
/-! LetterHeaps$Reader.opens()V -/
def m_X7_opens_j18   (x0 : Nat)   (Q : WM → Prop) (M : WM) : Prop := (wk M x0 = 6 ∧ (wk M x0 = 6 ∧ (∀ M3 : WM, M3 = wPI M x0 3 (((wI M x0 3) + (1 : Int32))) → (wk M3 x0 = 6 ∧ (wk M3 x0 = 6 ∧ (∀ M6 : WM, M6 = wPI M3 x0 2 (((wI M3 x0 2) + (1 : Int32))) → Q M6))))))
theorem w_X7_opens_j18 {p : Program} {l : Launch} {e : Env} {s : State} {m : MethodId} {args : Array Value} {below : List Frame} {meth : Method} {c : Code} {D : va_G} {cA : Nat → ClassId} {sz0 : Nat} {H0 : Heap}  {x0 : Nat} {Q : WM → Prop}  (cx : Cx p s m args meth c cX7_opens 1 RX7 none D cA sz0 H0)       (M : WM) (sh : Shp M) (h : m_X7_opens_j18 x0 Q M) : V p l e ({ frames := 1, cells := 0, slots := 0, locals := 22 } : Room) s m args below meth c 1 D cA sz0 H0 0 0 (MQ below (QW_v D cA sz0 H0 (fun M' => Q M' ∧ Shp M')) args s 0 0 (Aw sz0)) 18 [(0, .ref (sz0 + x0))] [] M := by
  replace h : (wk M x0 = 6 ∧ (wk M x0 = 6 ∧ (∀ M3 : WM, M3 = wPI M x0 3 (((wI M x0 3) + (1 : Int32))) → (wk M3 x0 = 6 ∧ (wk M3 x0 = 6 ∧ (∀ M6 : WM, M6 = wPI M3 x0 2 (((wI M3 x0 2) + (1 : Int32))) → Q M6)))))) := h
  refine v_aload_n (pc := 18) cx dX7_opens_18 rfl 0 rfl ?_
  refine v_dup (pc := 19) cx dX7_opens_19 rfl ?_
  obtain ⟨k1, h⟩ := h
  refine gq449_X7 (pc := 20) cx dX7_opens_20 k1 ?_
  refine v_iconst (pc := 23) cx dX7_opens_23 ic_1 ?_
  refine v_iadd (pc := 24) cx dX7_opens_24 ?_
  obtain ⟨k2, h⟩ := h
  refine pq449_X7 (pc := 25) cx dX7_opens_25 k2 ?_
  refine v_wld (fun M3 eM3 => ?_)
  replace h := h M3 eM3
  replace sh : Shp M3 := Shp_PI sh eM3
  refine v_aload_n (pc := 28) cx dX7_opens_28 rfl 0 rfl ?_
  refine v_dup (pc := 29) cx dX7_opens_29 rfl ?_
  obtain ⟨k4, h⟩ := h
  refine gq448_X7 (pc := 30) cx dX7_opens_30 k4 ?_
  refine v_iconst (pc := 33) cx dX7_opens_33 ic_1 ?_
  refine v_iadd (pc := 34) cx dX7_opens_34 ?_
  obtain ⟨k5, h⟩ := h
  refine pq448_X7 (pc := 35) cx dX7_opens_35 k5 ?_
  refine v_wld (fun M6 eM6 => ?_)
  replace h := h M6 eM6
  replace sh : Shp M6 := Shp_PI sh eM6
  exact v_vret cx rfl dX7_opens_38 ⟨Nat.le_of_ble_eq_true rfl, Nat.le_of_ble_eq_true rfl⟩ ⟨h, sh⟩
def m_X7_opens (t : Nat) (M : WM)  (Q : WM → Prop) : Prop := (wk M t = 6 ∧ (((wI M t 3) = (6 : Int32) → (wk M t = 6 ∧ (wk M t = 6 ∧ (m_X7_bad t ((5 : Int32)) ((wI M t 2)) M (fun (M6 : WM) => m_X7_opens_j18 t Q M6))))) ∧ (¬ (wI M t 3) = (6 : Int32) → m_X7_opens_j18 t Q M)))
theorem c_X7_opens (l : Launch) (D : va_G) (cA : Nat → ClassId) (sz0 : Nat) (H0 : Heap) (M : WM) (t : Nat)   (Q : WM → Prop) (sh : Shp M) (h : m_X7_opens t M  Q) : Met l yX7_opens (ws_ yX7_opens cX7_opens 1 none) ({ frames := 1, cells := 0, slots := 0, locals := 22 } : Room) (PcW D cA sz0 H0 [.ref (sz0 + t)] M) (QW_v D cA sz0 H0 (fun M' => Q M' ∧ Shp M')) 0 0 (Aw sz0) := by
  replace h : (wk M t = 6 ∧ (((wI M t 3) = (6 : Int32) → (wk M t = 6 ∧ (wk M t = 6 ∧ (m_X7_bad t ((5 : Int32)) ((wI M t 2)) M (fun (M6 : WM) => m_X7_opens_j18 t Q M6))))) ∧ (¬ (wI M t 3) = (6 : Int32) → m_X7_opens_j18 t Q M))) := h
  refine Met.ofV (by decide +kernel) (Nat.le_of_ble_eq_true rfl) ?_
  intro p e s m args below meth c cx hnm
  replace cx : Cx p s m args meth c cX7_opens 1 RX7 none D cA sz0 H0 := cx
  refine v_sub (lv' := [(0, .ref (sz0 + t))]) [0] rfl ?_
  refine v_aload_n (pc := 0) cx dX7_opens_0 rfl 0 rfl ?_
  obtain ⟨k1, h⟩ := h
  refine gq449_X7 (pc := 1) cx dX7_opens_1 k1 ?_
  refine v_bipush (pc := 4) cx dX7_opens_4 bc_6 ?_
  refine v_icmp_ne (pc := 6) cx dX7_opens_6 (tgt := 18) rfl (fun c2 => ?_) (fun c2 => ?_)
  · replace h := h.2 c2
    refine v_sub (lv' := [(0, .ref (sz0 + t))]) [0] rfl ?_
    exact w_X7_opens_j18 cx M sh h
  · replace h := h.1 c2
    refine v_aload_n (pc := 9) cx dX7_opens_9 rfl 0 rfl ?_
    refine v_iconst (pc := 10) cx dX7_opens_10 ic_5 ?_
    refine v_aload_n (pc := 11) cx dX7_opens_11 rfl 0 rfl ?_
    obtain ⟨k3, h⟩ := h
    refine gq448_X7 (pc := 12) cx dX7_opens_12 k3 ?_
    obtain ⟨k4, h⟩ := h
    refine v_run_v (pc := 15) cx (kcq484_X7 cx (c_X7_bad l D cA sz0 H0 M t ((5 : Int32)) ((wI M t 2))  _ sh h) ⟨Nat.le_of_ble_eq_true rfl, Nat.le_of_ble_eq_true rfl⟩ k4 (As := [.int (5 : Int32), .int (wI M t 2)]) rfl rfl (Nat.le_of_ble_eq_true rfl) dX7_opens_15 ⟨Nat.le_of_ble_eq_true rfl, Nat.le_of_ble_eq_true rfl⟩) (fun M6 hq => ?_)
    obtain ⟨h, sh⟩ := hq
    refine v_sub (lv' := [(0, .ref (sz0 + t))]) [0] rfl ?_
    exact w_X7_opens_j18 cx M6 sh h
/-! LetterHeaps$Reader.must(I)V -/
def m_X7_must_j17   (x0 : Nat)   (Q : WM → Prop) (M : WM) : Prop := (wk M x0 = 6 ∧ (wk M x0 = 6 ∧ (∀ M3 : WM, M3 = wPI M x0 2 (((wI M x0 2) + (1 : Int32))) → Q M3)))
theorem w_X7_must_j17 {p : Program} {l : Launch} {e : Env} {s : State} {m : MethodId} {args : Array Value} {below : List Frame} {meth : Method} {c : Code} {D : va_G} {cA : Nat → ClassId} {sz0 : Nat} {H0 : Heap}  {x0 : Nat} {Q : WM → Prop}  (cx : Cx p s m args meth c cX7_must 2 RX7 none D cA sz0 H0)       (M : WM) (sh : Shp M) (h : m_X7_must_j17 x0 Q M) : V p l e ({ frames := 1, cells := 0, slots := 0, locals := 22 } : Room) s m args below meth c 2 D cA sz0 H0 0 0 (MQ below (QW_v D cA sz0 H0 (fun M' => Q M' ∧ Shp M')) args s 0 0 (Aw sz0)) 17 [(0, .ref (sz0 + x0))] [] M := by
  replace h : (wk M x0 = 6 ∧ (wk M x0 = 6 ∧ (∀ M3 : WM, M3 = wPI M x0 2 (((wI M x0 2) + (1 : Int32))) → Q M3))) := h
  refine v_aload_n (pc := 17) cx dX7_must_17 rfl 0 rfl ?_
  refine v_dup (pc := 18) cx dX7_must_18 rfl ?_
  obtain ⟨k1, h⟩ := h
  refine gq448_X7 (pc := 19) cx dX7_must_19 k1 ?_
  refine v_iconst (pc := 22) cx dX7_must_22 ic_1 ?_
  refine v_iadd (pc := 23) cx dX7_must_23 ?_
  obtain ⟨k2, h⟩ := h
  refine pq448_X7 (pc := 24) cx dX7_must_24 k2 ?_
  refine v_wld (fun M3 eM3 => ?_)
  replace h := h M3 eM3
  replace sh : Shp M3 := Shp_PI sh eM3
  exact v_vret cx rfl dX7_must_27 ⟨Nat.le_of_ble_eq_true rfl, Nat.le_of_ble_eq_true rfl⟩ ⟨h, sh⟩
def m_X7_must (t : Nat) (x1 : Int32) (M : WM)  (Q : WM → Prop) : Prop := (wk M t = 6 ∧ (m_X7_here t M (fun (a2 : Int32) => ((a2 = x1 → m_X7_must_j17 t Q M) ∧ (¬ a2 = x1 → (wk M t = 6 ∧ (wk M t = 6 ∧ (m_X7_bad t ((1 : Int32)) ((wI M t 2)) M (fun (M7 : WM) => m_X7_must_j17 t Q M7)))))))))
theorem c_X7_must (l : Launch) (D : va_G) (cA : Nat → ClassId) (sz0 : Nat) (H0 : Heap) (M : WM) (t : Nat) (x1 : Int32)   (Q : WM → Prop) (sh : Shp M) (h : m_X7_must t x1 M  Q) : Met l yX7_must (ws_ yX7_must cX7_must 2 none) ({ frames := 1, cells := 0, slots := 0, locals := 22 } : Room) (PcW D cA sz0 H0 [.ref (sz0 + t), .int x1] M) (QW_v D cA sz0 H0 (fun M' => Q M' ∧ Shp M')) 0 0 (Aw sz0) := by
  replace h : (wk M t = 6 ∧ (m_X7_here t M (fun (a2 : Int32) => ((a2 = x1 → m_X7_must_j17 t Q M) ∧ (¬ a2 = x1 → (wk M t = 6 ∧ (wk M t = 6 ∧ (m_X7_bad t ((1 : Int32)) ((wI M t 2)) M (fun (M7 : WM) => m_X7_must_j17 t Q M7))))))))) := h
  refine Met.ofV (by decide +kernel) (Nat.le_of_ble_eq_true rfl) ?_
  intro p e s m args below meth c cx hnm
  replace cx : Cx p s m args meth c cX7_must 2 RX7 none D cA sz0 H0 := cx
  refine v_sub (lv' := [(0, .ref (sz0 + t)), (1, .int x1)]) [0, 1] rfl ?_
  refine v_aload_n (pc := 0) cx dX7_must_0 rfl 0 rfl ?_
  obtain ⟨k1, h⟩ := h
  refine v_runp_i (pc := 1) cx (kcq480_X7 cx (c_X7_here l D cA sz0 H0 M t  _ sh h) ⟨Nat.le_of_ble_eq_true rfl, Nat.le_of_ble_eq_true rfl⟩ k1 (As := []) rfl rfl (Nat.le_of_ble_eq_true rfl) dX7_must_1 ⟨Nat.le_of_ble_eq_true rfl, Nat.le_of_ble_eq_true rfl⟩) (fun a2 hq => ?_)
  replace h := hq
  refine v_iload_n (pc := 4) cx dX7_must_4 rfl 1 rfl ?_
  refine v_icmp_eq (pc := 5) cx dX7_must_5 (tgt := 17) rfl (fun c3 => ?_) (fun c3 => ?_)
  · replace h := h.1 c3
    refine v_sub (lv' := [(0, .ref (sz0 + t))]) [0] rfl ?_
    exact w_X7_must_j17 cx M sh h
  · replace h := h.2 c3
    refine v_aload_n (pc := 8) cx dX7_must_8 rfl 0 rfl ?_
    refine v_iconst (pc := 9) cx dX7_must_9 ic_1 ?_
    refine v_aload_n (pc := 10) cx dX7_must_10 rfl 0 rfl ?_
    obtain ⟨k4, h⟩ := h
    refine gq448_X7 (pc := 11) cx dX7_must_11 k4 ?_
    obtain ⟨k5, h⟩ := h
    refine v_run_v (pc := 14) cx (kcq484_X7 cx (c_X7_bad l D cA sz0 H0 M t ((1 : Int32)) ((wI M t 2))  _ sh h) ⟨Nat.le_of_ble_eq_true rfl, Nat.le_of_ble_eq_true rfl⟩ k5 (As := [.int (1 : Int32), .int (wI M t 2)]) rfl rfl (Nat.le_of_ble_eq_true rfl) dX7_must_14 ⟨Nat.le_of_ble_eq_true rfl, Nat.le_of_ble_eq_true rfl⟩) (fun M7 hq => ?_)
    obtain ⟨h, sh⟩ := hq
    refine v_sub (lv' := [(0, .ref (sz0 + t))]) [0] rfl ?_
    exact w_X7_must_j17 cx M7 sh h
/-! LetterHeaps$Reader.seesDigit()Z -/
def m_X7_seesDigit (t : Nat) (M : WM)  (Q : Int32 → Prop) : Prop := (wk M t = 6 ∧ (m_X7_here t M (fun (a2 : Int32) => ((a2 < (48 : Int32) → Q ((0 : Int32))) ∧ (¬ a2 < (48 : Int32) → (wk M t = 6 ∧ (m_X7_here t M (fun (a5 : Int32) => (((57 : Int32) < a5 → Q ((0 : Int32))) ∧ (¬ (57 : Int32) < a5 → Q ((1 : Int32))))))))))))
theorem c_X7_seesDigit (l : Launch) (D : va_G) (cA : Nat → ClassId) (sz0 : Nat) (H0 : Heap) (M : WM) (t : Nat)   (Q : Int32 → Prop) (sh : Shp M) (h : m_X7_seesDigit t M  Q) : Met l yX7_seesDigit (ws_ yX7_seesDigit cX7_seesDigit 1 (some .boolean)) ({ frames := 1, cells := 0, slots := 0, locals := 20 } : Room) (PcW D cA sz0 H0 [.ref (sz0 + t)] M) (QW_i D cA sz0 H0 (fun r M' => M' = M ∧ Q r)) 0 0 (Aw sz0) := by
  replace h : (wk M t = 6 ∧ (m_X7_here t M (fun (a2 : Int32) => ((a2 < (48 : Int32) → Q ((0 : Int32))) ∧ (¬ a2 < (48 : Int32) → (wk M t = 6 ∧ (m_X7_here t M (fun (a5 : Int32) => (((57 : Int32) < a5 → Q ((0 : Int32))) ∧ (¬ (57 : Int32) < a5 → Q ((1 : Int32)))))))))))) := h
  refine Met.ofV (by decide +kernel) (Nat.le_of_ble_eq_true rfl) ?_
  intro p e s m args below meth c cx hnm
  replace cx : Cx p s m args meth c cX7_seesDigit 1 RX7 (some .boolean) D cA sz0 H0 := cx
  refine v_sub (lv' := [(0, .ref (sz0 + t))]) [0] rfl ?_
  refine v_aload_n (pc := 0) cx dX7_seesDigit_0 rfl 0 rfl ?_
  obtain ⟨k1, h⟩ := h
  refine v_runp_i (pc := 1) cx (kcq480_X7 cx (c_X7_here l D cA sz0 H0 M t  _ sh h) ⟨Nat.le_of_ble_eq_true rfl, Nat.le_of_ble_eq_true rfl⟩ k1 (As := []) rfl rfl (Nat.le_of_ble_eq_true rfl) dX7_seesDigit_1 ⟨Nat.le_of_ble_eq_true rfl, Nat.le_of_ble_eq_true rfl⟩) (fun a2 hq => ?_)
  replace h := hq
  refine v_bipush (pc := 4) cx dX7_seesDigit_4 bc_48 ?_
  refine v_icmp_lt (pc := 6) cx dX7_seesDigit_6 (tgt := 22) rfl (fun c3 => ?_) (fun c3 => ?_)
  · replace h := h.1 c3
    refine v_iconst (pc := 22) cx dX7_seesDigit_22 ic_0 ?_
    exact v_zret cx rfl (Or.inl rfl) dX7_seesDigit_23 ⟨Nat.le_of_ble_eq_true rfl, Nat.le_of_ble_eq_true rfl⟩ ⟨rfl, h⟩
  · replace h := h.2 c3
    refine v_aload_n (pc := 9) cx dX7_seesDigit_9 rfl 0 rfl ?_
    obtain ⟨k4, h⟩ := h
    refine v_runp_i (pc := 10) cx (kcq480_X7 cx (c_X7_here l D cA sz0 H0 M t  _ sh h) ⟨Nat.le_of_ble_eq_true rfl, Nat.le_of_ble_eq_true rfl⟩ k4 (As := []) rfl rfl (Nat.le_of_ble_eq_true rfl) dX7_seesDigit_10 ⟨Nat.le_of_ble_eq_true rfl, Nat.le_of_ble_eq_true rfl⟩) (fun a5 hq => ?_)
    replace h := hq
    refine v_bipush (pc := 13) cx dX7_seesDigit_13 bc_57 ?_
    refine v_icmp_gt (pc := 15) cx dX7_seesDigit_15 (tgt := 22) rfl (fun c6 => ?_) (fun c6 => ?_)
    · replace h := h.1 c6
      refine v_iconst (pc := 22) cx dX7_seesDigit_22 ic_0 ?_
      exact v_zret cx rfl (Or.inl rfl) dX7_seesDigit_23 ⟨Nat.le_of_ble_eq_true rfl, Nat.le_of_ble_eq_true rfl⟩ ⟨rfl, h⟩
    · replace h := h.2 c6
      refine v_iconst (pc := 18) cx dX7_seesDigit_18 ic_1 ?_
      refine v_goto (pc := 19) cx dX7_seesDigit_19 (tgt := 23) rfl ?_
      exact v_zret cx rfl (Or.inr rfl) dX7_seesDigit_23 ⟨Nat.le_of_ble_eq_true rfl, Nat.le_of_ble_eq_true rfl⟩ ⟨rfl, h⟩
/-! LetterHeaps$Reader.number()I -/
def m_X7_number_j40  (K7 : Int32 → WM → Prop) (x0 : Nat) (x1 : Int32) (x2 : Int32)   (Q : Int32 → WM → Prop) (M : WM) : Prop := (wk M x0 = 6 ∧ (m_X7_here x0 M (fun (a2 : Int32) => (∀ z3 : Int32, z3 = ((((10 : Int32) * x2) + a2) - (48 : Int32)) → (wk M x0 = 6 ∧ (wk M x0 = 6 ∧ (∀ M6 : WM, M6 = wPI M x0 2 (((wI M x0 2) + (1 : Int32))) → K7 z3 M6)))))))
theorem w_X7_number_j40 {p : Program} {l : Launch} {e : Env} {s : State} {m : MethodId} {args : Array Value} {below : List Frame} {meth : Method} {c : Code} {D : va_G} {cA : Nat → ClassId} {sz0 : Nat} {H0 : Heap}  {K7 : Int32 → WM → Prop} {x0 : Nat} {x1 : Int32} {x2 : Int32} {Q : Int32 → WM → Prop}  (cx : Cx p s m args meth c cX7_number 3 RX7 (some .int) D cA sz0 H0)  (hK7 : ∀ (x2 : Int32)  (M : WM) (sh : Shp M), K7 x2 M → V p l e ({ frames := 2, cells := 0, slots := 0, locals := 40 } : Room) s m args below meth c 3 D cA sz0 H0 0 0 (MQ below (QW_i D cA sz0 H0 (fun r M' => Q r M' ∧ Shp M')) args s 0 0 (Aw sz0)) 7 [(0, .ref (sz0 + x0)), (1, .int x1), (2, .int x2)] [] M)     (M : WM) (sh : Shp M) (h : m_X7_number_j40 K7 x0 x1 x2 Q M) : V p l e ({ frames := 2, cells := 0, slots := 0, locals := 40 } : Room) s m args below meth c 3 D cA sz0 H0 0 0 (MQ below (QW_i D cA sz0 H0 (fun r M' => Q r M' ∧ Shp M')) args s 0 0 (Aw sz0)) 40 [(0, .ref (sz0 + x0)), (1, .int x1), (2, .int x2)] [] M := by
  replace h : (wk M x0 = 6 ∧ (m_X7_here x0 M (fun (a2 : Int32) => (∀ z3 : Int32, z3 = ((((10 : Int32) * x2) + a2) - (48 : Int32)) → (wk M x0 = 6 ∧ (wk M x0 = 6 ∧ (∀ M6 : WM, M6 = wPI M x0 2 (((wI M x0 2) + (1 : Int32))) → K7 z3 M6))))))) := h
  refine v_bipush (pc := 40) cx dX7_number_40 bc_10 ?_
  refine v_iload_n (pc := 42) cx dX7_number_42 rfl 2 rfl ?_
  refine v_imul (pc := 43) cx dX7_number_43 ?_
  refine v_aload_n (pc := 44) cx dX7_number_44 rfl 0 rfl ?_
  obtain ⟨k1, h⟩ := h
  refine v_runp_i (pc := 45) cx (kcq480_X7 cx (c_X7_here l D cA sz0 H0 M x0  _ sh h) ⟨Nat.le_of_ble_eq_true rfl, Nat.le_of_ble_eq_true rfl⟩ k1 (As := []) rfl rfl (Nat.le_of_ble_eq_true rfl) dX7_number_45 ⟨Nat.le_of_ble_eq_true rfl, Nat.le_of_ble_eq_true rfl⟩) (fun a2 hq => ?_)
  replace h := hq
  refine v_iadd (pc := 48) cx dX7_number_48 ?_
  refine v_bipush (pc := 49) cx dX7_number_49 bc_48 ?_
  refine v_isub (pc := 51) cx dX7_number_51 ?_
  refine v_topi (fun z3 ez3 => ?_)
  replace h := h z3 ez3
  refine v_istore_n (pc := 52) cx dX7_number_52 rfl (Nat.le_of_ble_eq_true rfl) (lv' := [(2, .int z3), (0, .ref (sz0 + x0)), (1, .int x1)]) rfl ?_
  refine v_aload_n (pc := 53) cx dX7_number_53 rfl 1 rfl ?_
  refine v_dup (pc := 54) cx dX7_number_54 rfl ?_
  obtain ⟨k4, h⟩ := h
  refine gq448_X7 (pc := 55) cx dX7_number_55 k4 ?_
  refine v_iconst (pc := 58) cx dX7_number_58 ic_1 ?_
  refine v_iadd (pc := 59) cx dX7_number_59 ?_
  obtain ⟨k5, h⟩ := h
  refine pq448_X7 (pc := 60) cx dX7_number_60 k5 ?_
  refine v_wld (fun M6 eM6 => ?_)
  replace h := h M6 eM6
  replace sh : Shp M6 := Shp_PI sh eM6
  refine v_goto (pc := 63) cx dX7_number_63 (tgt := 7) rfl ?_
  refine v_sub (lv' := [(0, .ref (sz0 + x0)), (1, .int x1), (2, .int z3)]) [1, 2, 0] rfl ?_
  exact hK7 z3 M6 sh h
def m_X7_number_l7   (x0 : Nat) (x1 : Int32)   (Q : Int32 → WM → Prop) : Nat → Int32 → WM → Prop
  | 0, _, _ => False
  | n + 1, x2, M => (wk M x0 = 6 ∧ (m_X7_isGood x0 M (fun (a2 : Int32) => ((a2 = 0 → Q x2 M) ∧ (¬ a2 = 0 → (wk M x0 = 6 ∧ (m_X7_seesDigit x0 M (fun (a5 : Int32) => ((a5 = 0 → Q x2 M) ∧ (¬ a5 = 0 → (wk M x0 = 6 ∧ (((wI M x0 2) = (x1 + (5 : Int32)) → (wk M x0 = 6 ∧ (wk M x0 = 6 ∧ (m_X7_bad x0 ((2 : Int32)) ((wI M x0 2)) M (fun (M12 : WM) => m_X7_number_j40 (fun x2' M' => m_X7_number_l7 x0 x1 Q n x2' M') x0 x1 x2 Q M12))))) ∧ (¬ (wI M x0 2) = (x1 + (5 : Int32)) → m_X7_number_j40 (fun x2' M' => m_X7_number_l7 x0 x1 Q n x2' M') x0 x1 x2 Q M)))))))))))))
theorem w_X7_number_l7 {p : Program} {l : Launch} {e : Env} {s : State} {m : MethodId} {args : Array Value} {below : List Frame} {meth : Method} {c : Code} {D : va_G} {cA : Nat → ClassId} {sz0 : Nat} {H0 : Heap}  {x0 : Nat} {x1 : Int32} {Q : Int32 → WM → Prop}  (cx : Cx p s m args meth c cX7_number 3 RX7 (some .int) D cA sz0 H0)     : ∀ (n : Nat) (x2 : Int32)  (M : WM) (sh : Shp M), m_X7_number_l7 x0 x1 Q n x2 M → V p l e ({ frames := 2, cells := 0, slots := 0, locals := 40 } : Room) s m args below meth c 3 D cA sz0 H0 0 0 (MQ below (QW_i D cA sz0 H0 (fun r M' => Q r M' ∧ Shp M')) args s 0 0 (Aw sz0)) 7 [(0, .ref (sz0 + x0)), (1, .int x1), (2, .int x2)] [] M := by
  intro n
  induction n with
  | zero => intro x2 M sh h; exact h.elim
  | succ n ih =>
    intro x2 M sh h
    replace h : (wk M x0 = 6 ∧ (m_X7_isGood x0 M (fun (a2 : Int32) => ((a2 = 0 → Q x2 M) ∧ (¬ a2 = 0 → (wk M x0 = 6 ∧ (m_X7_seesDigit x0 M (fun (a5 : Int32) => ((a5 = 0 → Q x2 M) ∧ (¬ a5 = 0 → (wk M x0 = 6 ∧ (((wI M x0 2) = (x1 + (5 : Int32)) → (wk M x0 = 6 ∧ (wk M x0 = 6 ∧ (m_X7_bad x0 ((2 : Int32)) ((wI M x0 2)) M (fun (M12 : WM) => m_X7_number_j40 (fun x2' M' => m_X7_number_l7 x0 x1 Q n x2' M') x0 x1 x2 Q M12))))) ∧ (¬ (wI M x0 2) = (x1 + (5 : Int32)) → m_X7_number_j40 (fun x2' M' => m_X7_number_l7 x0 x1 Q n x2' M') x0 x1 x2 Q M))))))))))))) := h
    refine v_aload_n (pc := 7) cx dX7_number_7 rfl 0 rfl ?_
    obtain ⟨k1, h⟩ := h
    refine v_runp_i (pc := 8) cx (kcq472_X7 cx (c_X7_isGood l D cA sz0 H0 M x0  _ sh h) ⟨Nat.le_of_ble_eq_true rfl, Nat.le_of_ble_eq_true rfl⟩ k1 (As := []) rfl rfl (Nat.le_of_ble_eq_true rfl) dX7_number_8 ⟨Nat.le_of_ble_eq_true rfl, Nat.le_of_ble_eq_true rfl⟩) (fun a2 hq => ?_)
    replace h := hq
    refine v_if_eq (pc := 11) cx dX7_number_11 (tgt := 66) rfl (fun c3 => ?_) (fun c3 => ?_)
    · replace h := h.1 c3
      refine v_iload_n (pc := 66) cx dX7_number_66 rfl 2 rfl ?_
      exact v_iret cx rfl dX7_number_67 ⟨Nat.le_of_ble_eq_true rfl, Nat.le_of_ble_eq_true rfl⟩ ⟨h, sh⟩
    · replace h := h.2 c3
      refine v_aload_n (pc := 14) cx dX7_number_14 rfl 0 rfl ?_
      obtain ⟨k4, h⟩ := h
      refine v_runp_i (pc := 15) cx (kcq510_X7 cx (c_X7_seesDigit l D cA sz0 H0 M x0  _ sh h) ⟨Nat.le_of_ble_eq_true rfl, Nat.le_of_ble_eq_true rfl⟩ k4 (As := []) rfl rfl (Nat.le_of_ble_eq_true rfl) dX7_number_15 ⟨Nat.le_of_ble_eq_true rfl, Nat.le_of_ble_eq_true rfl⟩) (fun a5 hq => ?_)
      replace h := hq
      refine v_if_eq (pc := 18) cx dX7_number_18 (tgt := 66) rfl (fun c6 => ?_) (fun c6 => ?_)
      · replace h := h.1 c6
        refine v_iload_n (pc := 66) cx dX7_number_66 rfl 2 rfl ?_
        exact v_iret cx rfl dX7_number_67 ⟨Nat.le_of_ble_eq_true rfl, Nat.le_of_ble_eq_true rfl⟩ ⟨h, sh⟩
      · replace h := h.2 c6
        refine v_aload_n (pc := 21) cx dX7_number_21 rfl 0 rfl ?_
        obtain ⟨k7, h⟩ := h
        refine gq448_X7 (pc := 22) cx dX7_number_22 k7 ?_
        refine v_iload_n (pc := 25) cx dX7_number_25 rfl 1 rfl ?_
        refine v_iconst (pc := 26) cx dX7_number_26 ic_5 ?_
        refine v_iadd (pc := 27) cx dX7_number_27 ?_
        refine v_icmp_ne (pc := 28) cx dX7_number_28 (tgt := 40) rfl (fun c8 => ?_) (fun c8 => ?_)
        · replace h := h.2 c8
          refine v_sub (lv' := [(0, .ref (sz0 + x0)), (1, .int x1), (2, .int x2)]) [0, 1, 2] rfl ?_
          exact w_X7_number_j40 cx ih M sh h
        · replace h := h.1 c8
          refine v_aload_n (pc := 31) cx dX7_number_31 rfl 0 rfl ?_
          refine v_iconst (pc := 32) cx dX7_number_32 ic_2 ?_
          refine v_aload_n (pc := 33) cx dX7_number_33 rfl 0 rfl ?_
          obtain ⟨k9, h⟩ := h
          refine gq448_X7 (pc := 34) cx dX7_number_34 k9 ?_
          obtain ⟨k10, h⟩ := h
          refine v_run_v (pc := 37) cx (kcq484_X7 cx (c_X7_bad l D cA sz0 H0 M x0 ((2 : Int32)) ((wI M x0 2))  _ sh h) ⟨Nat.le_of_ble_eq_true rfl, Nat.le_of_ble_eq_true rfl⟩ k10 (As := [.int (2 : Int32), .int (wI M x0 2)]) rfl rfl (Nat.le_of_ble_eq_true rfl) dX7_number_37 ⟨Nat.le_of_ble_eq_true rfl, Nat.le_of_ble_eq_true rfl⟩) (fun M12 hq => ?_)
          obtain ⟨h, sh⟩ := hq
          refine v_sub (lv' := [(0, .ref (sz0 + x0)), (1, .int x1), (2, .int x2)]) [0, 1, 2] rfl ?_
          exact w_X7_number_j40 cx ih M12 sh h
def m_X7_number (t : Nat) (M : WM)  (Q : Int32 → WM → Prop) : Prop := (wk M t = 6 ∧ (∀ z2 : Int32, z2 = (wI M t 2) → (∃ n0, m_X7_number_l7 t z2 Q n0 ((0 : Int32)) M)))
theorem c_X7_number (l : Launch) (D : va_G) (cA : Nat → ClassId) (sz0 : Nat) (H0 : Heap) (M : WM) (t : Nat)   (Q : Int32 → WM → Prop) (sh : Shp M) (h : m_X7_number t M  Q) : Met l yX7_number (ws_ yX7_number cX7_number 3 (some .int)) ({ frames := 2, cells := 0, slots := 0, locals := 40 } : Room) (PcW D cA sz0 H0 [.ref (sz0 + t)] M) (QW_i D cA sz0 H0 (fun r M' => Q r M' ∧ Shp M')) 0 0 (Aw sz0) := by
  replace h : (wk M t = 6 ∧ (∀ z2 : Int32, z2 = (wI M t 2) → (∃ n0, m_X7_number_l7 t z2 Q n0 ((0 : Int32)) M))) := h
  refine Met.ofV (by decide +kernel) (Nat.le_of_ble_eq_true rfl) ?_
  intro p e s m args below meth c cx hnm
  replace cx : Cx p s m args meth c cX7_number 3 RX7 (some .int) D cA sz0 H0 := cx
  refine v_sub (lv' := [(0, .ref (sz0 + t))]) [0] rfl ?_
  refine v_aload_n (pc := 0) cx dX7_number_0 rfl 0 rfl ?_
  obtain ⟨k1, h⟩ := h
  refine gq448_X7 (pc := 1) cx dX7_number_1 k1 ?_
  refine v_topi (fun z2 ez2 => ?_)
  replace h := h z2 ez2
  refine v_istore_n (pc := 4) cx dX7_number_4 rfl (Nat.le_of_ble_eq_true rfl) (lv' := [(1, .int z2), (0, .ref (sz0 + t))]) rfl ?_
  refine v_iconst (pc := 5) cx dX7_number_5 ic_0 ?_
  refine v_istore_n (pc := 6) cx dX7_number_6 rfl (Nat.le_of_ble_eq_true rfl) (lv' := [(2, .int (0 : Int32)), (1, .int z2), (0, .ref (sz0 + t))]) rfl ?_
  refine v_sub (lv' := [(0, .ref (sz0 + t)), (1, .int z2), (2, .int (0 : Int32))]) [2, 1, 0] rfl ?_
  obtain ⟨n0, h⟩ := h
  exact w_X7_number_l7 cx n0 ((0 : Int32)) M sh h
/-! LetterHeaps$Reader.sum()LLetterHeaps$Sum; -/
def m_X7_sum_j40 (Fsum : Nat → WM → Nat → Nat → (Option Nat → WM → Prop) → Prop) (Fproduct : Nat → WM → Nat → Nat → (Option Nat → WM → Prop) → Prop) (Ffactor : Nat → WM → Nat → Nat → (Option Nat → WM → Prop) → Prop) (K15 : Nat → WM → Nat → Nat → Prop) (x0 : Nat) (x1 : Nat) (x2 : Nat)  (bc bs : Nat) (Q : Option Nat → WM → Prop) (M : WM) (kc : Nat) (ks : Nat) : Prop := (wk M x0 = 6 ∧ ((kc ≤ bc ∧ ks ≤ bs) ∧ (m_X7_here x0 M (fun (a3 : Int32) => (wk M x0 = 6 ∧ (wk M x0 = 6 ∧ (∀ M6 : WM, M6 = wPI M x0 2 (((wI M x0 2) + (1 : Int32))) → (((kc + 0) + 1 ≤ bc ∧ (ks + 0) + 3 ≤ bs) ∧ (∀ r8, r8 = wn M6 → (∀ M9 : WM, M9 = wNw M6 7 0 → (wk M9 x0 = 6 ∧ (∃ mc11 ms12, ((kc + 0) + 1) + mc11 ≤ bc ∧ ((ks + 0) + 3) + ms12 ≤ bs ∧ (Fproduct x0 M9 mc11 ms12 (fun (a13 : Option Nat) (M14 : WM) => (((((kc + 0) + 1) + mc11) ≤ bc ∧ (((ks + 0) + 3) + ms12) ≤ bs) ∧ (m_X9_init r8 a3 a13 M14 (fun (M17 : WM) => (wk M17 x2 = 7 ∧ (shR x2 2 = none ∧ (∀ M20 : WM, M20 = wPR M17 x2 2 (some r8) → (wk M20 x2 = 7 ∧ (∃ r22, wR M20 x2 2 = some r22 ∧ K15 r22 M20 (((((kc + 0) + 1) + mc11) + 0)) (((((ks + 0) + 3) + ms12) + 0))))))))))))))))))))))))
theorem w_X7_sum_j40 {p : Program} {l : Launch} {e : Env} {s : State} {m : MethodId} {args : Array Value} {below : List Frame} {meth : Method} {c : Code} {D : va_G} {cA : Nat → ClassId} {sz0 : Nat} {H0 : Heap} {d : Nat} {Fsum : Nat → WM → Nat → Nat → (Option Nat → WM → Prop) → Prop} {Fproduct : Nat → WM → Nat → Nat → (Option Nat → WM → Prop) → Prop} {Ffactor : Nat → WM → Nat → Nat → (Option Nat → WM → Prop) → Prop} {K15 : Nat → WM → Nat → Nat → Prop} {x0 : Nat} {x1 : Nat} {x2 : Nat} {bc bs : Nat} {Q : Option Nat → WM → Prop}  (cx : Cx p s m args meth c cX7_sum 4 RX7 (some (.object "LetterHeaps$Sum")) D cA sz0 H0) (hFsum : ∀ (t : Nat) (M : WM) (bc bs : Nat) (Q : Option Nat → WM → Prop) (sh : Shp M), Fsum t M bc bs Q → Met l yX7_sum (ws_ yX7_sum cX7_sum 4 (some (.object "LetterHeaps$Sum"))) ({ frames := 6 + d, cells := bc, slots := bs, locals := 300 + 40 * d } : Room) (PcW D cA sz0 H0 [.ref (sz0 + t)] M) (QW_r D cA sz0 H0 (fun o M' => Q o M' ∧ Shp M')) bc bs (Aw sz0)) (hFproduct : ∀ (t : Nat) (M : WM) (bc bs : Nat) (Q : Option Nat → WM → Prop) (sh : Shp M), Fproduct t M bc bs Q → Met l yX7_product (ws_ yX7_product cX7_product 4 (some (.object "LetterHeaps$Sum"))) ({ frames := 6 + d, cells := bc, slots := bs, locals := 300 + 40 * d } : Room) (PcW D cA sz0 H0 [.ref (sz0 + t)] M) (QW_r D cA sz0 H0 (fun o M' => Q o M' ∧ Shp M')) bc bs (Aw sz0)) (hFfactor : ∀ (t : Nat) (M : WM) (bc bs : Nat) (Q : Option Nat → WM → Prop) (sh : Shp M), Ffactor t M bc bs Q → Met l yX7_factor (ws_ yX7_factor cX7_factor 3 (some (.object "LetterHeaps$Sum"))) ({ frames := 6 + d, cells := bc, slots := bs, locals := 300 + 40 * d } : Room) (PcW D cA sz0 H0 [.ref (sz0 + t)] M) (QW_r D cA sz0 H0 (fun o M' => Q o M' ∧ Shp M')) bc bs (Aw sz0)) (hK15 : ∀ (x2 : Nat)  (M : WM) (sh : Shp M) (kc ks : Nat), K15 x2 M kc ks → V p l e ({ frames := 6 + (d + 1), cells := bc, slots := bs, locals := 300 + 40 * (d + 1) } : Room) s m args below meth c 4 D cA sz0 H0 kc ks (MQ below (QW_r D cA sz0 H0 (fun o M' => Q o M' ∧ Shp M')) args s bc bs (Aw sz0)) 15 [(0, .ref (sz0 + x0)), (1, .ref (sz0 + x1)), (2, .ref (sz0 + x2))] [] M)     (M : WM) (sh : Shp M) (kc ks : Nat) (h : m_X7_sum_j40 Fsum Fproduct Ffactor K15 x0 x1 x2 bc bs Q M kc ks) : V p l e ({ frames := 6 + (d + 1), cells := bc, slots := bs, locals := 300 + 40 * (d + 1) } : Room) s m args below meth c 4 D cA sz0 H0 kc ks (MQ below (QW_r D cA sz0 H0 (fun o M' => Q o M' ∧ Shp M')) args s bc bs (Aw sz0)) 40 [(0, .ref (sz0 + x0)), (1, .ref (sz0 + x1)), (2, .ref (sz0 + x2))] [] M := by
  replace h : (wk M x0 = 6 ∧ ((kc ≤ bc ∧ ks ≤ bs) ∧ (m_X7_here x0 M (fun (a3 : Int32) => (wk M x0 = 6 ∧ (wk M x0 = 6 ∧ (∀ M6 : WM, M6 = wPI M x0 2 (((wI M x0 2) + (1 : Int32))) → (((kc + 0) + 1 ≤ bc ∧ (ks + 0) + 3 ≤ bs) ∧ (∀ r8, r8 = wn M6 → (∀ M9 : WM, M9 = wNw M6 7 0 → (wk M9 x0 = 6 ∧ (∃ mc11 ms12, ((kc + 0) + 1) + mc11 ≤ bc ∧ ((ks + 0) + 3) + ms12 ≤ bs ∧ (Fproduct x0 M9 mc11 ms12 (fun (a13 : Option Nat) (M14 : WM) => (((((kc + 0) + 1) + mc11) ≤ bc ∧ (((ks + 0) + 3) + ms12) ≤ bs) ∧ (m_X9_init r8 a3 a13 M14 (fun (M17 : WM) => (wk M17 x2 = 7 ∧ (shR x2 2 = none ∧ (∀ M20 : WM, M20 = wPR M17 x2 2 (some r8) → (wk M20 x2 = 7 ∧ (∃ r22, wR M20 x2 2 = some r22 ∧ K15 r22 M20 (((((kc + 0) + 1) + mc11) + 0)) (((((ks + 0) + 3) + ms12) + 0)))))))))))))))))))))))) := h
  refine v_aload_n (pc := 40) cx dX7_sum_40 rfl 0 rfl ?_
  obtain ⟨k1, h⟩ := h
  obtain ⟨hb2, h⟩ := h
  refine v_runp_i (pc := 41) cx (kcq480_X7 cx (c_X7_here l D cA sz0 H0 M x0  _ sh h) ⟨by dsimp only; omega, by dsimp only; omega⟩ k1 (As := []) rfl rfl (Nat.le_of_ble_eq_true rfl) dX7_sum_41 ⟨hb2.1, hb2.2⟩) (fun a3 hq => ?_)
  replace h := hq
  refine v_istore_n (pc := 44) cx dX7_sum_44 rfl (Nat.le_of_ble_eq_true rfl) (lv' := [(3, .int a3), (0, .ref (sz0 + x0)), (1, .ref (sz0 + x1)), (2, .ref (sz0 + x2))]) rfl ?_
  refine v_aload_n (pc := 45) cx dX7_sum_45 rfl 1 rfl ?_
  refine v_dup (pc := 46) cx dX7_sum_46 rfl ?_
  obtain ⟨k4, h⟩ := h
  refine gq448_X7 (pc := 47) cx dX7_sum_47 k4 ?_
  refine v_iconst (pc := 50) cx dX7_sum_50 ic_1 ?_
  refine v_iadd (pc := 51) cx dX7_sum_51 ?_
  obtain ⟨k5, h⟩ := h
  refine pq448_X7 (pc := 52) cx dX7_sum_52 k5 ?_
  refine v_wld (fun M6 eM6 => ?_)
  replace h := h M6 eM6
  replace sh : Shp M6 := Shp_PI sh eM6
  refine v_aload_n (pc := 55) cx dX7_sum_55 rfl 3 rfl ?_
  obtain ⟨q7, h⟩ := h
  refine v_new (pc := 56) cx cl_X9 (by decide) in_X9 tyX9 tyX9_ok q492 q493 q130 df_X9 q7.1 q7.2 dX7_sum_56 ?_
  refine v_topr (fun r8 er8 => ?_)
  replace h := h r8 er8
  refine v_wld (fun M9 eM9 => ?_)
  replace h := h M9 eM9
  replace sh : Shp M9 := Shp_Nw sh eM9
  refine v_dup (pc := 59) cx dX7_sum_59 rfl ?_
  refine v_iload_n (pc := 60) cx dX7_sum_60 rfl 0 rfl ?_
  refine v_aload_n (pc := 61) cx dX7_sum_61 rfl 1 rfl ?_
  obtain ⟨k10, h⟩ := h
  obtain ⟨mc11, ms12, hmc, hms, h⟩ := h
  refine v_run_r (pc := 62) cx (kcq494_X7 cx (hFproduct x0 M9 mc11 ms12 _ sh h) ⟨by dsimp only; omega, by dsimp only; omega⟩ k10 (As := []) rfl rfl (Nat.le_of_ble_eq_true rfl) dX7_sum_62 ⟨hmc, hms⟩) (fun a13 M14 hq => ?_)
  obtain ⟨h, sh⟩ := hq
  obtain ⟨hb15, h⟩ := h
  refine v_run_v (pc := 65) cx (kcq628_X7 cx (c_X9_init l D cA sz0 H0 M14 r8 a3 a13  _ sh h) ⟨by dsimp only; omega, by dsimp only; omega⟩ (As := [.int a3, vr sz0 a13]) rfl rfl (Nat.le_of_ble_eq_true rfl) dX7_sum_65 ⟨hb15.1, hb15.2⟩) (fun M17 hq => ?_)
  obtain ⟨h, sh⟩ := hq
  obtain ⟨k18, h⟩ := h
  obtain ⟨q19, h⟩ := h
  refine pq635_X9 (pc := 68) cx (x := some r8) dX7_sum_68 k18 ?_
  refine v_wld (fun M20 eM20 => ?_)
  replace h := h M20 eM20
  replace sh : Shp M20 := Shp_PR sh q19 eM20
  refine v_aload_n (pc := 71) cx dX7_sum_71 rfl 3 rfl ?_
  obtain ⟨k21, h⟩ := h
  obtain ⟨r22, er22, h⟩ := h
  refine gq635_X9 (pc := 72) cx dX7_sum_72 k21 (v_some er22 ?_)
  refine v_astore_n (pc := 75) cx dX7_sum_75 rfl (Nat.le_of_ble_eq_true rfl) (lv' := [(2, .ref (sz0 + r22)), (3, .int a3), (0, .ref (sz0 + x0)), (1, .ref (sz0 + x1))]) rfl ?_
  refine v_goto (pc := 76) cx dX7_sum_76 (tgt := 15) rfl ?_
  refine v_sub (lv' := [(0, .ref (sz0 + x0)), (1, .ref (sz0 + x1)), (2, .ref (sz0 + r22))]) [2, 3, 0] rfl ?_
  exact hK15 r22 M20 sh (((((kc + 0) + 1) + mc11) + 0)) (((((ks + 0) + 3) + ms12) + 0)) h
def m_X7_sum_l15 (Fsum : Nat → WM → Nat → Nat → (Option Nat → WM → Prop) → Prop) (Fproduct : Nat → WM → Nat → Nat → (Option Nat → WM → Prop) → Prop) (Ffactor : Nat → WM → Nat → Nat → (Option Nat → WM → Prop) → Prop)  (x0 : Nat) (x1 : Nat)  (bc bs : Nat) (Q : Option Nat → WM → Prop) : Nat → Nat → WM → Nat → Nat → Prop
  | 0, _, _, _, _ => False
  | n + 1, x2, M, kc, ks => (wk M x0 = 6 ∧ ((kc ≤ bc ∧ ks ≤ bs) ∧ (m_X7_isGood x0 M (fun (a3 : Int32) => ((a3 = 0 → (((kc + 0) ≤ bc ∧ (ks + 0) ≤ bs) ∧ Q (some x1) M)) ∧ (¬ a3 = 0 → (wk M x0 = 6 ∧ (((kc + 0) ≤ bc ∧ (ks + 0) ≤ bs) ∧ (m_X7_here x0 M (fun (a8 : Int32) => ((a8 = (43 : Int32) → m_X7_sum_j40 Fsum Fproduct Ffactor (fun x2' M' c' n' => m_X7_sum_l15 Fsum Fproduct Ffactor x0 x1 bc bs Q n x2' M' c' n') x0 x1 x2 bc bs Q M (((kc + 0) + 0)) (((ks + 0) + 0))) ∧ (¬ a8 = (43 : Int32) → (wk M x0 = 6 ∧ ((((kc + 0) + 0) ≤ bc ∧ ((ks + 0) + 0) ≤ bs) ∧ (m_X7_here x0 M (fun (a12 : Int32) => ((a12 = (45 : Int32) → m_X7_sum_j40 Fsum Fproduct Ffactor (fun x2' M' c' n' => m_X7_sum_l15 Fsum Fproduct Ffactor x0 x1 bc bs Q n x2' M' c' n') x0 x1 x2 bc bs Q M ((((kc + 0) + 0) + 0)) ((((ks + 0) + 0) + 0))) ∧ (¬ a12 = (45 : Int32) → (((((kc + 0) + 0) + 0) ≤ bc ∧ (((ks + 0) + 0) + 0) ≤ bs) ∧ Q (some x1) M)))))))))))))))))))
theorem w_X7_sum_l15 {p : Program} {l : Launch} {e : Env} {s : State} {m : MethodId} {args : Array Value} {below : List Frame} {meth : Method} {c : Code} {D : va_G} {cA : Nat → ClassId} {sz0 : Nat} {H0 : Heap} {d : Nat} {Fsum : Nat → WM → Nat → Nat → (Option Nat → WM → Prop) → Prop} {Fproduct : Nat → WM → Nat → Nat → (Option Nat → WM → Prop) → Prop} {Ffactor : Nat → WM → Nat → Nat → (Option Nat → WM → Prop) → Prop} {x0 : Nat} {x1 : Nat} {bc bs : Nat} {Q : Option Nat → WM → Prop}  (cx : Cx p s m args meth c cX7_sum 4 RX7 (some (.object "LetterHeaps$Sum")) D cA sz0 H0) (hFsum : ∀ (t : Nat) (M : WM) (bc bs : Nat) (Q : Option Nat → WM → Prop) (sh : Shp M), Fsum t M bc bs Q → Met l yX7_sum (ws_ yX7_sum cX7_sum 4 (some (.object "LetterHeaps$Sum"))) ({ frames := 6 + d, cells := bc, slots := bs, locals := 300 + 40 * d } : Room) (PcW D cA sz0 H0 [.ref (sz0 + t)] M) (QW_r D cA sz0 H0 (fun o M' => Q o M' ∧ Shp M')) bc bs (Aw sz0)) (hFproduct : ∀ (t : Nat) (M : WM) (bc bs : Nat) (Q : Option Nat → WM → Prop) (sh : Shp M), Fproduct t M bc bs Q → Met l yX7_product (ws_ yX7_product cX7_product 4 (some (.object "LetterHeaps$Sum"))) ({ frames := 6 + d, cells := bc, slots := bs, locals := 300 + 40 * d } : Room) (PcW D cA sz0 H0 [.ref (sz0 + t)] M) (QW_r D cA sz0 H0 (fun o M' => Q o M' ∧ Shp M')) bc bs (Aw sz0)) (hFfactor : ∀ (t : Nat) (M : WM) (bc bs : Nat) (Q : Option Nat → WM → Prop) (sh : Shp M), Ffactor t M bc bs Q → Met l yX7_factor (ws_ yX7_factor cX7_factor 3 (some (.object "LetterHeaps$Sum"))) ({ frames := 6 + d, cells := bc, slots := bs, locals := 300 + 40 * d } : Room) (PcW D cA sz0 H0 [.ref (sz0 + t)] M) (QW_r D cA sz0 H0 (fun o M' => Q o M' ∧ Shp M')) bc bs (Aw sz0))    : ∀ (n : Nat) (x2 : Nat)  (M : WM) (sh : Shp M) (kc ks : Nat), m_X7_sum_l15 Fsum Fproduct Ffactor x0 x1 bc bs Q n x2 M kc ks → V p l e ({ frames := 6 + (d + 1), cells := bc, slots := bs, locals := 300 + 40 * (d + 1) } : Room) s m args below meth c 4 D cA sz0 H0 kc ks (MQ below (QW_r D cA sz0 H0 (fun o M' => Q o M' ∧ Shp M')) args s bc bs (Aw sz0)) 15 [(0, .ref (sz0 + x0)), (1, .ref (sz0 + x1)), (2, .ref (sz0 + x2))] [] M := by
  intro n
  induction n with
  | zero => intro x2 M sh kc ks h; exact h.elim
  | succ n ih =>
    intro x2 M sh kc ks h
    replace h : (wk M x0 = 6 ∧ ((kc ≤ bc ∧ ks ≤ bs) ∧ (m_X7_isGood x0 M (fun (a3 : Int32) => ((a3 = 0 → (((kc + 0) ≤ bc ∧ (ks + 0) ≤ bs) ∧ Q (some x1) M)) ∧ (¬ a3 = 0 → (wk M x0 = 6 ∧ (((kc + 0) ≤ bc ∧ (ks + 0) ≤ bs) ∧ (m_X7_here x0 M (fun (a8 : Int32) => ((a8 = (43 : Int32) → m_X7_sum_j40 Fsum Fproduct Ffactor (fun x2' M' c' n' => m_X7_sum_l15 Fsum Fproduct Ffactor x0 x1 bc bs Q n x2' M' c' n') x0 x1 x2 bc bs Q M (((kc + 0) + 0)) (((ks + 0) + 0))) ∧ (¬ a8 = (43 : Int32) → (wk M x0 = 6 ∧ ((((kc + 0) + 0) ≤ bc ∧ ((ks + 0) + 0) ≤ bs) ∧ (m_X7_here x0 M (fun (a12 : Int32) => ((a12 = (45 : Int32) → m_X7_sum_j40 Fsum Fproduct Ffactor (fun x2' M' c' n' => m_X7_sum_l15 Fsum Fproduct Ffactor x0 x1 bc bs Q n x2' M' c' n') x0 x1 x2 bc bs Q M ((((kc + 0) + 0) + 0)) ((((ks + 0) + 0) + 0))) ∧ (¬ a12 = (45 : Int32) → (((((kc + 0) + 0) + 0) ≤ bc ∧ (((ks + 0) + 0) + 0) ≤ bs) ∧ Q (some x1) M))))))))))))))))))) := h
    refine v_aload_n (pc := 15) cx dX7_sum_15 rfl 0 rfl ?_
    obtain ⟨k1, h⟩ := h
    obtain ⟨hb2, h⟩ := h
    refine v_runp_i (pc := 16) cx (kcq472_X7 cx (c_X7_isGood l D cA sz0 H0 M x0  _ sh h) ⟨by dsimp only; omega, by dsimp only; omega⟩ k1 (As := []) rfl rfl (Nat.le_of_ble_eq_true rfl) dX7_sum_16 ⟨hb2.1, hb2.2⟩) (fun a3 hq => ?_)
    replace h := hq
    refine v_if_eq (pc := 19) cx dX7_sum_19 (tgt := 79) rfl (fun c4 => ?_) (fun c4 => ?_)
    · replace h := h.1 c4
      refine v_aload_n (pc := 79) cx dX7_sum_79 rfl 1 rfl ?_
      obtain ⟨q5, h⟩ := h
      exact v_aret (o := some x1) cx rfl dX7_sum_80 q5 ⟨h, sh⟩
    · replace h := h.2 c4
      refine v_aload_n (pc := 22) cx dX7_sum_22 rfl 0 rfl ?_
      obtain ⟨k6, h⟩ := h
      obtain ⟨hb7, h⟩ := h
      refine v_runp_i (pc := 23) cx (kcq480_X7 cx (c_X7_here l D cA sz0 H0 M x0  _ sh h) ⟨by dsimp only; omega, by dsimp only; omega⟩ k6 (As := []) rfl rfl (Nat.le_of_ble_eq_true rfl) dX7_sum_23 ⟨hb7.1, hb7.2⟩) (fun a8 hq => ?_)
      replace h := hq
      refine v_bipush (pc := 26) cx dX7_sum_26 bc_43 ?_
      refine v_icmp_eq (pc := 28) cx dX7_sum_28 (tgt := 40) rfl (fun c9 => ?_) (fun c9 => ?_)
      · replace h := h.1 c9
        refine v_sub (lv' := [(0, .ref (sz0 + x0)), (1, .ref (sz0 + x1)), (2, .ref (sz0 + x2))]) [0, 1, 2] rfl ?_
        exact w_X7_sum_j40 cx hFsum hFproduct hFfactor ih M sh (((kc + 0) + 0)) (((ks + 0) + 0)) h
      · replace h := h.2 c9
        refine v_aload_n (pc := 31) cx dX7_sum_31 rfl 0 rfl ?_
        obtain ⟨k10, h⟩ := h
        obtain ⟨hb11, h⟩ := h
        refine v_runp_i (pc := 32) cx (kcq480_X7 cx (c_X7_here l D cA sz0 H0 M x0  _ sh h) ⟨by dsimp only; omega, by dsimp only; omega⟩ k10 (As := []) rfl rfl (Nat.le_of_ble_eq_true rfl) dX7_sum_32 ⟨hb11.1, hb11.2⟩) (fun a12 hq => ?_)
        replace h := hq
        refine v_bipush (pc := 35) cx dX7_sum_35 bc_45 ?_
        refine v_icmp_ne (pc := 37) cx dX7_sum_37 (tgt := 79) rfl (fun c13 => ?_) (fun c13 => ?_)
        · replace h := h.2 c13
          refine v_aload_n (pc := 79) cx dX7_sum_79 rfl 1 rfl ?_
          obtain ⟨q14, h⟩ := h
          exact v_aret (o := some x1) cx rfl dX7_sum_80 q14 ⟨h, sh⟩
        · replace h := h.1 c13
          refine v_sub (lv' := [(0, .ref (sz0 + x0)), (1, .ref (sz0 + x1)), (2, .ref (sz0 + x2))]) [0, 1, 2] rfl ?_
          exact w_X7_sum_j40 cx hFsum hFproduct hFfactor ih M sh ((((kc + 0) + 0) + 0)) ((((ks + 0) + 0) + 0)) h
def b_X7_sum (Fsum : Nat → WM → Nat → Nat → (Option Nat → WM → Prop) → Prop) (Fproduct : Nat → WM → Nat → Nat → (Option Nat → WM → Prop) → Prop) (Ffactor : Nat → WM → Nat → Nat → (Option Nat → WM → Prop) → Prop) (t : Nat) (M : WM) (bc bs : Nat) (Q : Option Nat → WM → Prop) : Prop := ((0 + 1 ≤ bc ∧ 0 + 3 ≤ bs) ∧ (∀ r2, r2 = wn M → (∀ M3 : WM, M3 = wNw M 7 0 → (wk M3 t = 6 ∧ (∃ mc5 ms6, (0 + 1) + mc5 ≤ bc ∧ (0 + 3) + ms6 ≤ bs ∧ (Fproduct t M3 mc5 ms6 (fun (a7 : Option Nat) (M8 : WM) => ((((0 + 1) + mc5) ≤ bc ∧ ((0 + 3) + ms6) ≤ bs) ∧ (m_X9_init r2 ((0 : Int32)) a7 M8 (fun (M11 : WM) => (∃ n0, m_X7_sum_l15 Fsum Fproduct Ffactor t r2 bc bs Q n0 r2 M11 ((((0 + 1) + mc5) + 0)) ((((0 + 3) + ms6) + 0)))))))))))))
theorem cb_X7_sum {l : Launch} {D : va_G} {cA : Nat → ClassId} {sz0 : Nat} {H0 : Heap} {d : Nat} {Fsum : Nat → WM → Nat → Nat → (Option Nat → WM → Prop) → Prop} {Fproduct : Nat → WM → Nat → Nat → (Option Nat → WM → Prop) → Prop} {Ffactor : Nat → WM → Nat → Nat → (Option Nat → WM → Prop) → Prop} (hFsum : ∀ (t : Nat) (M : WM) (bc bs : Nat) (Q : Option Nat → WM → Prop) (sh : Shp M), Fsum t M bc bs Q → Met l yX7_sum (ws_ yX7_sum cX7_sum 4 (some (.object "LetterHeaps$Sum"))) ({ frames := 6 + d, cells := bc, slots := bs, locals := 300 + 40 * d } : Room) (PcW D cA sz0 H0 [.ref (sz0 + t)] M) (QW_r D cA sz0 H0 (fun o M' => Q o M' ∧ Shp M')) bc bs (Aw sz0)) (hFproduct : ∀ (t : Nat) (M : WM) (bc bs : Nat) (Q : Option Nat → WM → Prop) (sh : Shp M), Fproduct t M bc bs Q → Met l yX7_product (ws_ yX7_product cX7_product 4 (some (.object "LetterHeaps$Sum"))) ({ frames := 6 + d, cells := bc, slots := bs, locals := 300 + 40 * d } : Room) (PcW D cA sz0 H0 [.ref (sz0 + t)] M) (QW_r D cA sz0 H0 (fun o M' => Q o M' ∧ Shp M')) bc bs (Aw sz0)) (hFfactor : ∀ (t : Nat) (M : WM) (bc bs : Nat) (Q : Option Nat → WM → Prop) (sh : Shp M), Ffactor t M bc bs Q → Met l yX7_factor (ws_ yX7_factor cX7_factor 3 (some (.object "LetterHeaps$Sum"))) ({ frames := 6 + d, cells := bc, slots := bs, locals := 300 + 40 * d } : Room) (PcW D cA sz0 H0 [.ref (sz0 + t)] M) (QW_r D cA sz0 H0 (fun o M' => Q o M' ∧ Shp M')) bc bs (Aw sz0)) (M : WM) (t : Nat)  (bc bs : Nat) (Q : Option Nat → WM → Prop) (sh : Shp M) (h : b_X7_sum Fsum Fproduct Ffactor t M bc bs Q) : Met l yX7_sum (ws_ yX7_sum cX7_sum 4 (some (.object "LetterHeaps$Sum"))) ({ frames := 6 + (d + 1), cells := bc, slots := bs, locals := 300 + 40 * (d + 1) } : Room) (PcW D cA sz0 H0 [.ref (sz0 + t)] M) (QW_r D cA sz0 H0 (fun o M' => Q o M' ∧ Shp M')) bc bs (Aw sz0) := by
  replace h : ((0 + 1 ≤ bc ∧ 0 + 3 ≤ bs) ∧ (∀ r2, r2 = wn M → (∀ M3 : WM, M3 = wNw M 7 0 → (wk M3 t = 6 ∧ (∃ mc5 ms6, (0 + 1) + mc5 ≤ bc ∧ (0 + 3) + ms6 ≤ bs ∧ (Fproduct t M3 mc5 ms6 (fun (a7 : Option Nat) (M8 : WM) => ((((0 + 1) + mc5) ≤ bc ∧ ((0 + 3) + ms6) ≤ bs) ∧ (m_X9_init r2 ((0 : Int32)) a7 M8 (fun (M11 : WM) => (∃ n0, m_X7_sum_l15 Fsum Fproduct Ffactor t r2 bc bs Q n0 r2 M11 ((((0 + 1) + mc5) + 0)) ((((0 + 3) + ms6) + 0))))))))))))) := h
  refine Met.ofV (by decide +kernel) (Nat.le_of_ble_eq_true rfl) ?_
  intro p e s m args below meth c cx hnm
  replace cx : Cx p s m args meth c cX7_sum 4 RX7 (some (.object "LetterHeaps$Sum")) D cA sz0 H0 := cx
  refine v_sub (lv' := [(0, .ref (sz0 + t))]) [0] rfl ?_
  obtain ⟨q1, h⟩ := h
  refine v_new (pc := 0) cx cl_X9 (by decide) in_X9 tyX9 tyX9_ok q492 q493 q130 df_X9 q1.1 q1.2 dX7_sum_0 ?_
  refine v_topr (fun r2 er2 => ?_)
  replace h := h r2 er2
  refine v_wld (fun M3 eM3 => ?_)
  replace h := h M3 eM3
  replace sh : Shp M3 := Shp_Nw sh eM3
  refine v_dup (pc := 3) cx dX7_sum_3 rfl ?_
  refine v_iconst (pc := 4) cx dX7_sum_4 ic_0 ?_
  refine v_aload_n (pc := 5) cx dX7_sum_5 rfl 0 rfl ?_
  obtain ⟨k4, h⟩ := h
  obtain ⟨mc5, ms6, hmc, hms, h⟩ := h
  refine v_run_r (pc := 6) cx (kcq494_X7 cx (hFproduct t M3 mc5 ms6 _ sh h) ⟨by dsimp only; omega, by dsimp only; omega⟩ k4 (As := []) rfl rfl (Nat.le_of_ble_eq_true rfl) dX7_sum_6 ⟨hmc, hms⟩) (fun a7 M8 hq => ?_)
  obtain ⟨h, sh⟩ := hq
  obtain ⟨hb9, h⟩ := h
  refine v_run_v (pc := 9) cx (kcq628_X7 cx (c_X9_init l D cA sz0 H0 M8 r2 ((0 : Int32)) a7  _ sh h) ⟨by dsimp only; omega, by dsimp only; omega⟩ (As := [.int (0 : Int32), vr sz0 a7]) rfl rfl (Nat.le_of_ble_eq_true rfl) dX7_sum_9 ⟨hb9.1, hb9.2⟩) (fun M11 hq => ?_)
  obtain ⟨h, sh⟩ := hq
  refine v_astore_n (pc := 12) cx dX7_sum_12 rfl (Nat.le_of_ble_eq_true rfl) (lv' := [(1, .ref (sz0 + r2)), (0, .ref (sz0 + t))]) rfl ?_
  refine v_aload_n (pc := 13) cx dX7_sum_13 rfl 0 rfl ?_
  refine v_astore_n (pc := 14) cx dX7_sum_14 rfl (Nat.le_of_ble_eq_true rfl) (lv' := [(2, .ref (sz0 + r2)), (1, .ref (sz0 + r2)), (0, .ref (sz0 + t))]) rfl ?_
  refine v_sub (lv' := [(0, .ref (sz0 + t)), (1, .ref (sz0 + r2)), (2, .ref (sz0 + r2))]) [2, 1, 0] rfl ?_
  obtain ⟨n0, h⟩ := h
  exact w_X7_sum_l15 cx hFsum hFproduct hFfactor n0 r2 M11 sh ((((0 + 1) + mc5) + 0)) ((((0 + 3) + ms6) + 0)) h
/-! LetterHeaps$Reader.product()LLetterHeaps$Sum; -/
def m_X7_product_j49 (Fsum : Nat → WM → Nat → Nat → (Option Nat → WM → Prop) → Prop) (Fproduct : Nat → WM → Nat → Nat → (Option Nat → WM → Prop) → Prop) (Ffactor : Nat → WM → Nat → Nat → (Option Nat → WM → Prop) → Prop) (K15 : Nat → WM → Nat → Nat → Prop) (x0 : Nat) (x1 : Nat) (x2 : Nat)  (bc bs : Nat) (Q : Option Nat → WM → Prop) (M : WM) (kc : Nat) (ks : Nat) : Prop := (wk M x0 = 6 ∧ ((kc ≤ bc ∧ ks ≤ bs) ∧ (m_X7_here x0 M (fun (a3 : Int32) => (wk M x0 = 6 ∧ (wk M x0 = 6 ∧ (∀ M6 : WM, M6 = wPI M x0 2 (((wI M x0 2) + (1 : Int32))) → (((kc + 0) + 1 ≤ bc ∧ (ks + 0) + 3 ≤ bs) ∧ (∀ r8, r8 = wn M6 → (∀ M9 : WM, M9 = wNw M6 7 0 → (wk M9 x0 = 6 ∧ (∃ mc11 ms12, ((kc + 0) + 1) + mc11 ≤ bc ∧ ((ks + 0) + 3) + ms12 ≤ bs ∧ (Ffactor x0 M9 mc11 ms12 (fun (a13 : Option Nat) (M14 : WM) => (((((kc + 0) + 1) + mc11) ≤ bc ∧ (((ks + 0) + 3) + ms12) ≤ bs) ∧ (m_X9_init r8 a3 a13 M14 (fun (M17 : WM) => (wk M17 x2 = 7 ∧ (shR x2 2 = none ∧ (∀ M20 : WM, M20 = wPR M17 x2 2 (some r8) → (wk M20 x2 = 7 ∧ (∃ r22, wR M20 x2 2 = some r22 ∧ K15 r22 M20 (((((kc + 0) + 1) + mc11) + 0)) (((((ks + 0) + 3) + ms12) + 0))))))))))))))))))))))))
theorem w_X7_product_j49 {p : Program} {l : Launch} {e : Env} {s : State} {m : MethodId} {args : Array Value} {below : List Frame} {meth : Method} {c : Code} {D : va_G} {cA : Nat → ClassId} {sz0 : Nat} {H0 : Heap} {d : Nat} {Fsum : Nat → WM → Nat → Nat → (Option Nat → WM → Prop) → Prop} {Fproduct : Nat → WM → Nat → Nat → (Option Nat → WM → Prop) → Prop} {Ffactor : Nat → WM → Nat → Nat → (Option Nat → WM → Prop) → Prop} {K15 : Nat → WM → Nat → Nat → Prop} {x0 : Nat} {x1 : Nat} {x2 : Nat} {bc bs : Nat} {Q : Option Nat → WM → Prop}  (cx : Cx p s m args meth c cX7_product 4 RX7 (some (.object "LetterHeaps$Sum")) D cA sz0 H0) (hFsum : ∀ (t : Nat) (M : WM) (bc bs : Nat) (Q : Option Nat → WM → Prop) (sh : Shp M), Fsum t M bc bs Q → Met l yX7_sum (ws_ yX7_sum cX7_sum 4 (some (.object "LetterHeaps$Sum"))) ({ frames := 6 + d, cells := bc, slots := bs, locals := 300 + 40 * d } : Room) (PcW D cA sz0 H0 [.ref (sz0 + t)] M) (QW_r D cA sz0 H0 (fun o M' => Q o M' ∧ Shp M')) bc bs (Aw sz0)) (hFproduct : ∀ (t : Nat) (M : WM) (bc bs : Nat) (Q : Option Nat → WM → Prop) (sh : Shp M), Fproduct t M bc bs Q → Met l yX7_product (ws_ yX7_product cX7_product 4 (some (.object "LetterHeaps$Sum"))) ({ frames := 6 + d, cells := bc, slots := bs, locals := 300 + 40 * d } : Room) (PcW D cA sz0 H0 [.ref (sz0 + t)] M) (QW_r D cA sz0 H0 (fun o M' => Q o M' ∧ Shp M')) bc bs (Aw sz0)) (hFfactor : ∀ (t : Nat) (M : WM) (bc bs : Nat) (Q : Option Nat → WM → Prop) (sh : Shp M), Ffactor t M bc bs Q → Met l yX7_factor (ws_ yX7_factor cX7_factor 3 (some (.object "LetterHeaps$Sum"))) ({ frames := 6 + d, cells := bc, slots := bs, locals := 300 + 40 * d } : Room) (PcW D cA sz0 H0 [.ref (sz0 + t)] M) (QW_r D cA sz0 H0 (fun o M' => Q o M' ∧ Shp M')) bc bs (Aw sz0)) (hK15 : ∀ (x2 : Nat)  (M : WM) (sh : Shp M) (kc ks : Nat), K15 x2 M kc ks → V p l e ({ frames := 6 + (d + 1), cells := bc, slots := bs, locals := 300 + 40 * (d + 1) } : Room) s m args below meth c 4 D cA sz0 H0 kc ks (MQ below (QW_r D cA sz0 H0 (fun o M' => Q o M' ∧ Shp M')) args s bc bs (Aw sz0)) 15 [(0, .ref (sz0 + x0)), (1, .ref (sz0 + x1)), (2, .ref (sz0 + x2))] [] M)     (M : WM) (sh : Shp M) (kc ks : Nat) (h : m_X7_product_j49 Fsum Fproduct Ffactor K15 x0 x1 x2 bc bs Q M kc ks) : V p l e ({ frames := 6 + (d + 1), cells := bc, slots := bs, locals := 300 + 40 * (d + 1) } : Room) s m args below meth c 4 D cA sz0 H0 kc ks (MQ below (QW_r D cA sz0 H0 (fun o M' => Q o M' ∧ Shp M')) args s bc bs (Aw sz0)) 49 [(0, .ref (sz0 + x0)), (1, .ref (sz0 + x1)), (2, .ref (sz0 + x2))] [] M := by
  replace h : (wk M x0 = 6 ∧ ((kc ≤ bc ∧ ks ≤ bs) ∧ (m_X7_here x0 M (fun (a3 : Int32) => (wk M x0 = 6 ∧ (wk M x0 = 6 ∧ (∀ M6 : WM, M6 = wPI M x0 2 (((wI M x0 2) + (1 : Int32))) → (((kc + 0) + 1 ≤ bc ∧ (ks + 0) + 3 ≤ bs) ∧ (∀ r8, r8 = wn M6 → (∀ M9 : WM, M9 = wNw M6 7 0 → (wk M9 x0 = 6 ∧ (∃ mc11 ms12, ((kc + 0) + 1) + mc11 ≤ bc ∧ ((ks + 0) + 3) + ms12 ≤ bs ∧ (Ffactor x0 M9 mc11 ms12 (fun (a13 : Option Nat) (M14 : WM) => (((((kc + 0) + 1) + mc11) ≤ bc ∧ (((ks + 0) + 3) + ms12) ≤ bs) ∧ (m_X9_init r8 a3 a13 M14 (fun (M17 : WM) => (wk M17 x2 = 7 ∧ (shR x2 2 = none ∧ (∀ M20 : WM, M20 = wPR M17 x2 2 (some r8) → (wk M20 x2 = 7 ∧ (∃ r22, wR M20 x2 2 = some r22 ∧ K15 r22 M20 (((((kc + 0) + 1) + mc11) + 0)) (((((ks + 0) + 3) + ms12) + 0)))))))))))))))))))))))) := h
  refine v_aload_n (pc := 49) cx dX7_product_49 rfl 0 rfl ?_
  obtain ⟨k1, h⟩ := h
  obtain ⟨hb2, h⟩ := h
  refine v_runp_i (pc := 50) cx (kcq480_X7 cx (c_X7_here l D cA sz0 H0 M x0  _ sh h) ⟨by dsimp only; omega, by dsimp only; omega⟩ k1 (As := []) rfl rfl (Nat.le_of_ble_eq_true rfl) dX7_product_50 ⟨hb2.1, hb2.2⟩) (fun a3 hq => ?_)
  replace h := hq
  refine v_istore_n (pc := 53) cx dX7_product_53 rfl (Nat.le_of_ble_eq_true rfl) (lv' := [(3, .int a3), (0, .ref (sz0 + x0)), (1, .ref (sz0 + x1)), (2, .ref (sz0 + x2))]) rfl ?_
  refine v_aload_n (pc := 54) cx dX7_product_54 rfl 1 rfl ?_
  refine v_dup (pc := 55) cx dX7_product_55 rfl ?_
  obtain ⟨k4, h⟩ := h
  refine gq448_X7 (pc := 56) cx dX7_product_56 k4 ?_
  refine v_iconst (pc := 59) cx dX7_product_59 ic_1 ?_
  refine v_iadd (pc := 60) cx dX7_product_60 ?_
  obtain ⟨k5, h⟩ := h
  refine pq448_X7 (pc := 61) cx dX7_product_61 k5 ?_
  refine v_wld (fun M6 eM6 => ?_)
  replace h := h M6 eM6
  replace sh : Shp M6 := Shp_PI sh eM6
  refine v_aload_n (pc := 64) cx dX7_product_64 rfl 3 rfl ?_
  obtain ⟨q7, h⟩ := h
  refine v_new (pc := 65) cx cl_X9 (by decide) in_X9 tyX9 tyX9_ok q492 q493 q130 df_X9 q7.1 q7.2 dX7_product_65 ?_
  refine v_topr (fun r8 er8 => ?_)
  replace h := h r8 er8
  refine v_wld (fun M9 eM9 => ?_)
  replace h := h M9 eM9
  replace sh : Shp M9 := Shp_Nw sh eM9
  refine v_dup (pc := 68) cx dX7_product_68 rfl ?_
  refine v_iload_n (pc := 69) cx dX7_product_69 rfl 0 rfl ?_
  refine v_aload_n (pc := 70) cx dX7_product_70 rfl 1 rfl ?_
  obtain ⟨k10, h⟩ := h
  obtain ⟨mc11, ms12, hmc, hms, h⟩ := h
  refine v_run_r (pc := 71) cx (kcq498_X7 cx (hFfactor x0 M9 mc11 ms12 _ sh h) ⟨by dsimp only; omega, by dsimp only; omega⟩ k10 (As := []) rfl rfl (Nat.le_of_ble_eq_true rfl) dX7_product_71 ⟨hmc, hms⟩) (fun a13 M14 hq => ?_)
  obtain ⟨h, sh⟩ := hq
  obtain ⟨hb15, h⟩ := h
  refine v_run_v (pc := 74) cx (kcq628_X7 cx (c_X9_init l D cA sz0 H0 M14 r8 a3 a13  _ sh h) ⟨by dsimp only; omega, by dsimp only; omega⟩ (As := [.int a3, vr sz0 a13]) rfl rfl (Nat.le_of_ble_eq_true rfl) dX7_product_74 ⟨hb15.1, hb15.2⟩) (fun M17 hq => ?_)
  obtain ⟨h, sh⟩ := hq
  obtain ⟨k18, h⟩ := h
  obtain ⟨q19, h⟩ := h
  refine pq635_X9 (pc := 77) cx (x := some r8) dX7_product_77 k18 ?_
  refine v_wld (fun M20 eM20 => ?_)
  replace h := h M20 eM20
  replace sh : Shp M20 := Shp_PR sh q19 eM20
  refine v_aload_n (pc := 80) cx dX7_product_80 rfl 3 rfl ?_
  obtain ⟨k21, h⟩ := h
  obtain ⟨r22, er22, h⟩ := h
  refine gq635_X9 (pc := 81) cx dX7_product_81 k21 (v_some er22 ?_)
  refine v_astore_n (pc := 84) cx dX7_product_84 rfl (Nat.le_of_ble_eq_true rfl) (lv' := [(2, .ref (sz0 + r22)), (3, .int a3), (0, .ref (sz0 + x0)), (1, .ref (sz0 + x1))]) rfl ?_
  refine v_goto (pc := 85) cx dX7_product_85 (tgt := 15) rfl ?_
  refine v_sub (lv' := [(0, .ref (sz0 + x0)), (1, .ref (sz0 + x1)), (2, .ref (sz0 + r22))]) [2, 3, 0] rfl ?_
  exact hK15 r22 M20 sh (((((kc + 0) + 1) + mc11) + 0)) (((((ks + 0) + 3) + ms12) + 0)) h
def m_X7_product_l15 (Fsum : Nat → WM → Nat → Nat → (Option Nat → WM → Prop) → Prop) (Fproduct : Nat → WM → Nat → Nat → (Option Nat → WM → Prop) → Prop) (Ffactor : Nat → WM → Nat → Nat → (Option Nat → WM → Prop) → Prop)  (x0 : Nat) (x1 : Nat)  (bc bs : Nat) (Q : Option Nat → WM → Prop) : Nat → Nat → WM → Nat → Nat → Prop
  | 0, _, _, _, _ => False
  | n + 1, x2, M, kc, ks => (wk M x0 = 6 ∧ ((kc ≤ bc ∧ ks ≤ bs) ∧ (m_X7_isGood x0 M (fun (a3 : Int32) => ((a3 = 0 → (((kc + 0) ≤ bc ∧ (ks + 0) ≤ bs) ∧ Q (some x1) M)) ∧ (¬ a3 = 0 → (wk M x0 = 6 ∧ (((kc + 0) ≤ bc ∧ (ks + 0) ≤ bs) ∧ (m_X7_here x0 M (fun (a8 : Int32) => ((a8 = (42 : Int32) → m_X7_product_j49 Fsum Fproduct Ffactor (fun x2' M' c' n' => m_X7_product_l15 Fsum Fproduct Ffactor x0 x1 bc bs Q n x2' M' c' n') x0 x1 x2 bc bs Q M (((kc + 0) + 0)) (((ks + 0) + 0))) ∧ (¬ a8 = (42 : Int32) → (wk M x0 = 6 ∧ ((((kc + 0) + 0) ≤ bc ∧ ((ks + 0) + 0) ≤ bs) ∧ (m_X7_here x0 M (fun (a12 : Int32) => ((a12 = (47 : Int32) → m_X7_product_j49 Fsum Fproduct Ffactor (fun x2' M' c' n' => m_X7_product_l15 Fsum Fproduct Ffactor x0 x1 bc bs Q n x2' M' c' n') x0 x1 x2 bc bs Q M ((((kc + 0) + 0) + 0)) ((((ks + 0) + 0) + 0))) ∧ (¬ a12 = (47 : Int32) → (wk M x0 = 6 ∧ (((((kc + 0) + 0) + 0) ≤ bc ∧ (((ks + 0) + 0) + 0) ≤ bs) ∧ (m_X7_here x0 M (fun (a16 : Int32) => ((a16 = (37 : Int32) → m_X7_product_j49 Fsum Fproduct Ffactor (fun x2' M' c' n' => m_X7_product_l15 Fsum Fproduct Ffactor x0 x1 bc bs Q n x2' M' c' n') x0 x1 x2 bc bs Q M (((((kc + 0) + 0) + 0) + 0)) (((((ks + 0) + 0) + 0) + 0))) ∧ (¬ a16 = (37 : Int32) → ((((((kc + 0) + 0) + 0) + 0) ≤ bc ∧ ((((ks + 0) + 0) + 0) + 0) ≤ bs) ∧ Q (some x1) M)))))))))))))))))))))))))
theorem w_X7_product_l15 {p : Program} {l : Launch} {e : Env} {s : State} {m : MethodId} {args : Array Value} {below : List Frame} {meth : Method} {c : Code} {D : va_G} {cA : Nat → ClassId} {sz0 : Nat} {H0 : Heap} {d : Nat} {Fsum : Nat → WM → Nat → Nat → (Option Nat → WM → Prop) → Prop} {Fproduct : Nat → WM → Nat → Nat → (Option Nat → WM → Prop) → Prop} {Ffactor : Nat → WM → Nat → Nat → (Option Nat → WM → Prop) → Prop} {x0 : Nat} {x1 : Nat} {bc bs : Nat} {Q : Option Nat → WM → Prop}  (cx : Cx p s m args meth c cX7_product 4 RX7 (some (.object "LetterHeaps$Sum")) D cA sz0 H0) (hFsum : ∀ (t : Nat) (M : WM) (bc bs : Nat) (Q : Option Nat → WM → Prop) (sh : Shp M), Fsum t M bc bs Q → Met l yX7_sum (ws_ yX7_sum cX7_sum 4 (some (.object "LetterHeaps$Sum"))) ({ frames := 6 + d, cells := bc, slots := bs, locals := 300 + 40 * d } : Room) (PcW D cA sz0 H0 [.ref (sz0 + t)] M) (QW_r D cA sz0 H0 (fun o M' => Q o M' ∧ Shp M')) bc bs (Aw sz0)) (hFproduct : ∀ (t : Nat) (M : WM) (bc bs : Nat) (Q : Option Nat → WM → Prop) (sh : Shp M), Fproduct t M bc bs Q → Met l yX7_product (ws_ yX7_product cX7_product 4 (some (.object "LetterHeaps$Sum"))) ({ frames := 6 + d, cells := bc, slots := bs, locals := 300 + 40 * d } : Room) (PcW D cA sz0 H0 [.ref (sz0 + t)] M) (QW_r D cA sz0 H0 (fun o M' => Q o M' ∧ Shp M')) bc bs (Aw sz0)) (hFfactor : ∀ (t : Nat) (M : WM) (bc bs : Nat) (Q : Option Nat → WM → Prop) (sh : Shp M), Ffactor t M bc bs Q → Met l yX7_factor (ws_ yX7_factor cX7_factor 3 (some (.object "LetterHeaps$Sum"))) ({ frames := 6 + d, cells := bc, slots := bs, locals := 300 + 40 * d } : Room) (PcW D cA sz0 H0 [.ref (sz0 + t)] M) (QW_r D cA sz0 H0 (fun o M' => Q o M' ∧ Shp M')) bc bs (Aw sz0))    : ∀ (n : Nat) (x2 : Nat)  (M : WM) (sh : Shp M) (kc ks : Nat), m_X7_product_l15 Fsum Fproduct Ffactor x0 x1 bc bs Q n x2 M kc ks → V p l e ({ frames := 6 + (d + 1), cells := bc, slots := bs, locals := 300 + 40 * (d + 1) } : Room) s m args below meth c 4 D cA sz0 H0 kc ks (MQ below (QW_r D cA sz0 H0 (fun o M' => Q o M' ∧ Shp M')) args s bc bs (Aw sz0)) 15 [(0, .ref (sz0 + x0)), (1, .ref (sz0 + x1)), (2, .ref (sz0 + x2))] [] M := by
  intro n
  induction n with
  | zero => intro x2 M sh kc ks h; exact h.elim
  | succ n ih =>
    intro x2 M sh kc ks h
    replace h : (wk M x0 = 6 ∧ ((kc ≤ bc ∧ ks ≤ bs) ∧ (m_X7_isGood x0 M (fun (a3 : Int32) => ((a3 = 0 → (((kc + 0) ≤ bc ∧ (ks + 0) ≤ bs) ∧ Q (some x1) M)) ∧ (¬ a3 = 0 → (wk M x0 = 6 ∧ (((kc + 0) ≤ bc ∧ (ks + 0) ≤ bs) ∧ (m_X7_here x0 M (fun (a8 : Int32) => ((a8 = (42 : Int32) → m_X7_product_j49 Fsum Fproduct Ffactor (fun x2' M' c' n' => m_X7_product_l15 Fsum Fproduct Ffactor x0 x1 bc bs Q n x2' M' c' n') x0 x1 x2 bc bs Q M (((kc + 0) + 0)) (((ks + 0) + 0))) ∧ (¬ a8 = (42 : Int32) → (wk M x0 = 6 ∧ ((((kc + 0) + 0) ≤ bc ∧ ((ks + 0) + 0) ≤ bs) ∧ (m_X7_here x0 M (fun (a12 : Int32) => ((a12 = (47 : Int32) → m_X7_product_j49 Fsum Fproduct Ffactor (fun x2' M' c' n' => m_X7_product_l15 Fsum Fproduct Ffactor x0 x1 bc bs Q n x2' M' c' n') x0 x1 x2 bc bs Q M ((((kc + 0) + 0) + 0)) ((((ks + 0) + 0) + 0))) ∧ (¬ a12 = (47 : Int32) → (wk M x0 = 6 ∧ (((((kc + 0) + 0) + 0) ≤ bc ∧ (((ks + 0) + 0) + 0) ≤ bs) ∧ (m_X7_here x0 M (fun (a16 : Int32) => ((a16 = (37 : Int32) → m_X7_product_j49 Fsum Fproduct Ffactor (fun x2' M' c' n' => m_X7_product_l15 Fsum Fproduct Ffactor x0 x1 bc bs Q n x2' M' c' n') x0 x1 x2 bc bs Q M (((((kc + 0) + 0) + 0) + 0)) (((((ks + 0) + 0) + 0) + 0))) ∧ (¬ a16 = (37 : Int32) → ((((((kc + 0) + 0) + 0) + 0) ≤ bc ∧ ((((ks + 0) + 0) + 0) + 0) ≤ bs) ∧ Q (some x1) M))))))))))))))))))))))))) := h
    refine v_aload_n (pc := 15) cx dX7_product_15 rfl 0 rfl ?_
    obtain ⟨k1, h⟩ := h
    obtain ⟨hb2, h⟩ := h
    refine v_runp_i (pc := 16) cx (kcq472_X7 cx (c_X7_isGood l D cA sz0 H0 M x0  _ sh h) ⟨by dsimp only; omega, by dsimp only; omega⟩ k1 (As := []) rfl rfl (Nat.le_of_ble_eq_true rfl) dX7_product_16 ⟨hb2.1, hb2.2⟩) (fun a3 hq => ?_)
    replace h := hq
    refine v_if_eq (pc := 19) cx dX7_product_19 (tgt := 88) rfl (fun c4 => ?_) (fun c4 => ?_)
    · replace h := h.1 c4
      refine v_aload_n (pc := 88) cx dX7_product_88 rfl 1 rfl ?_
      obtain ⟨q5, h⟩ := h
      exact v_aret (o := some x1) cx rfl dX7_product_89 q5 ⟨h, sh⟩
    · replace h := h.2 c4
      refine v_aload_n (pc := 22) cx dX7_product_22 rfl 0 rfl ?_
      obtain ⟨k6, h⟩ := h
      obtain ⟨hb7, h⟩ := h
      refine v_runp_i (pc := 23) cx (kcq480_X7 cx (c_X7_here l D cA sz0 H0 M x0  _ sh h) ⟨by dsimp only; omega, by dsimp only; omega⟩ k6 (As := []) rfl rfl (Nat.le_of_ble_eq_true rfl) dX7_product_23 ⟨hb7.1, hb7.2⟩) (fun a8 hq => ?_)
      replace h := hq
      refine v_bipush (pc := 26) cx dX7_product_26 bc_42 ?_
      refine v_icmp_eq (pc := 28) cx dX7_product_28 (tgt := 49) rfl (fun c9 => ?_) (fun c9 => ?_)
      · replace h := h.1 c9
        refine v_sub (lv' := [(0, .ref (sz0 + x0)), (1, .ref (sz0 + x1)), (2, .ref (sz0 + x2))]) [0, 1, 2] rfl ?_
        exact w_X7_product_j49 cx hFsum hFproduct hFfactor ih M sh (((kc + 0) + 0)) (((ks + 0) + 0)) h
      · replace h := h.2 c9
        refine v_aload_n (pc := 31) cx dX7_product_31 rfl 0 rfl ?_
        obtain ⟨k10, h⟩ := h
        obtain ⟨hb11, h⟩ := h
        refine v_runp_i (pc := 32) cx (kcq480_X7 cx (c_X7_here l D cA sz0 H0 M x0  _ sh h) ⟨by dsimp only; omega, by dsimp only; omega⟩ k10 (As := []) rfl rfl (Nat.le_of_ble_eq_true rfl) dX7_product_32 ⟨hb11.1, hb11.2⟩) (fun a12 hq => ?_)
        replace h := hq
        refine v_bipush (pc := 35) cx dX7_product_35 bc_47 ?_
        refine v_icmp_eq (pc := 37) cx dX7_product_37 (tgt := 49) rfl (fun c13 => ?_) (fun c13 => ?_)
        · replace h := h.1 c13
          refine v_sub (lv' := [(0, .ref (sz0 + x0)), (1, .ref (sz0 + x1)), (2, .ref (sz0 + x2))]) [0, 1, 2] rfl ?_
          exact w_X7_product_j49 cx hFsum hFproduct hFfactor ih M sh ((((kc + 0) + 0) + 0)) ((((ks + 0) + 0) + 0)) h
        · replace h := h.2 c13
          refine v_aload_n (pc := 40) cx dX7_product_40 rfl 0 rfl ?_
          obtain ⟨k14, h⟩ := h
          obtain ⟨hb15, h⟩ := h
          refine v_runp_i (pc := 41) cx (kcq480_X7 cx (c_X7_here l D cA sz0 H0 M x0  _ sh h) ⟨by dsimp only; omega, by dsimp only; omega⟩ k14 (As := []) rfl rfl (Nat.le_of_ble_eq_true rfl) dX7_product_41 ⟨hb15.1, hb15.2⟩) (fun a16 hq => ?_)
          replace h := hq
          refine v_bipush (pc := 44) cx dX7_product_44 bc_37 ?_
          refine v_icmp_ne (pc := 46) cx dX7_product_46 (tgt := 88) rfl (fun c17 => ?_) (fun c17 => ?_)
          · replace h := h.2 c17
            refine v_aload_n (pc := 88) cx dX7_product_88 rfl 1 rfl ?_
            obtain ⟨q18, h⟩ := h
            exact v_aret (o := some x1) cx rfl dX7_product_89 q18 ⟨h, sh⟩
          · replace h := h.1 c17
            refine v_sub (lv' := [(0, .ref (sz0 + x0)), (1, .ref (sz0 + x1)), (2, .ref (sz0 + x2))]) [0, 1, 2] rfl ?_
            exact w_X7_product_j49 cx hFsum hFproduct hFfactor ih M sh (((((kc + 0) + 0) + 0) + 0)) (((((ks + 0) + 0) + 0) + 0)) h
def b_X7_product (Fsum : Nat → WM → Nat → Nat → (Option Nat → WM → Prop) → Prop) (Fproduct : Nat → WM → Nat → Nat → (Option Nat → WM → Prop) → Prop) (Ffactor : Nat → WM → Nat → Nat → (Option Nat → WM → Prop) → Prop) (t : Nat) (M : WM) (bc bs : Nat) (Q : Option Nat → WM → Prop) : Prop := ((0 + 1 ≤ bc ∧ 0 + 3 ≤ bs) ∧ (∀ r2, r2 = wn M → (∀ M3 : WM, M3 = wNw M 7 0 → (wk M3 t = 6 ∧ (∃ mc5 ms6, (0 + 1) + mc5 ≤ bc ∧ (0 + 3) + ms6 ≤ bs ∧ (Ffactor t M3 mc5 ms6 (fun (a7 : Option Nat) (M8 : WM) => ((((0 + 1) + mc5) ≤ bc ∧ ((0 + 3) + ms6) ≤ bs) ∧ (m_X9_init r2 ((0 : Int32)) a7 M8 (fun (M11 : WM) => (∃ n0, m_X7_product_l15 Fsum Fproduct Ffactor t r2 bc bs Q n0 r2 M11 ((((0 + 1) + mc5) + 0)) ((((0 + 3) + ms6) + 0)))))))))))))
theorem cb_X7_product {l : Launch} {D : va_G} {cA : Nat → ClassId} {sz0 : Nat} {H0 : Heap} {d : Nat} {Fsum : Nat → WM → Nat → Nat → (Option Nat → WM → Prop) → Prop} {Fproduct : Nat → WM → Nat → Nat → (Option Nat → WM → Prop) → Prop} {Ffactor : Nat → WM → Nat → Nat → (Option Nat → WM → Prop) → Prop} (hFsum : ∀ (t : Nat) (M : WM) (bc bs : Nat) (Q : Option Nat → WM → Prop) (sh : Shp M), Fsum t M bc bs Q → Met l yX7_sum (ws_ yX7_sum cX7_sum 4 (some (.object "LetterHeaps$Sum"))) ({ frames := 6 + d, cells := bc, slots := bs, locals := 300 + 40 * d } : Room) (PcW D cA sz0 H0 [.ref (sz0 + t)] M) (QW_r D cA sz0 H0 (fun o M' => Q o M' ∧ Shp M')) bc bs (Aw sz0)) (hFproduct : ∀ (t : Nat) (M : WM) (bc bs : Nat) (Q : Option Nat → WM → Prop) (sh : Shp M), Fproduct t M bc bs Q → Met l yX7_product (ws_ yX7_product cX7_product 4 (some (.object "LetterHeaps$Sum"))) ({ frames := 6 + d, cells := bc, slots := bs, locals := 300 + 40 * d } : Room) (PcW D cA sz0 H0 [.ref (sz0 + t)] M) (QW_r D cA sz0 H0 (fun o M' => Q o M' ∧ Shp M')) bc bs (Aw sz0)) (hFfactor : ∀ (t : Nat) (M : WM) (bc bs : Nat) (Q : Option Nat → WM → Prop) (sh : Shp M), Ffactor t M bc bs Q → Met l yX7_factor (ws_ yX7_factor cX7_factor 3 (some (.object "LetterHeaps$Sum"))) ({ frames := 6 + d, cells := bc, slots := bs, locals := 300 + 40 * d } : Room) (PcW D cA sz0 H0 [.ref (sz0 + t)] M) (QW_r D cA sz0 H0 (fun o M' => Q o M' ∧ Shp M')) bc bs (Aw sz0)) (M : WM) (t : Nat)  (bc bs : Nat) (Q : Option Nat → WM → Prop) (sh : Shp M) (h : b_X7_product Fsum Fproduct Ffactor t M bc bs Q) : Met l yX7_product (ws_ yX7_product cX7_product 4 (some (.object "LetterHeaps$Sum"))) ({ frames := 6 + (d + 1), cells := bc, slots := bs, locals := 300 + 40 * (d + 1) } : Room) (PcW D cA sz0 H0 [.ref (sz0 + t)] M) (QW_r D cA sz0 H0 (fun o M' => Q o M' ∧ Shp M')) bc bs (Aw sz0) := by
  replace h : ((0 + 1 ≤ bc ∧ 0 + 3 ≤ bs) ∧ (∀ r2, r2 = wn M → (∀ M3 : WM, M3 = wNw M 7 0 → (wk M3 t = 6 ∧ (∃ mc5 ms6, (0 + 1) + mc5 ≤ bc ∧ (0 + 3) + ms6 ≤ bs ∧ (Ffactor t M3 mc5 ms6 (fun (a7 : Option Nat) (M8 : WM) => ((((0 + 1) + mc5) ≤ bc ∧ ((0 + 3) + ms6) ≤ bs) ∧ (m_X9_init r2 ((0 : Int32)) a7 M8 (fun (M11 : WM) => (∃ n0, m_X7_product_l15 Fsum Fproduct Ffactor t r2 bc bs Q n0 r2 M11 ((((0 + 1) + mc5) + 0)) ((((0 + 3) + ms6) + 0))))))))))))) := h
  refine Met.ofV (by decide +kernel) (Nat.le_of_ble_eq_true rfl) ?_
  intro p e s m args below meth c cx hnm
  replace cx : Cx p s m args meth c cX7_product 4 RX7 (some (.object "LetterHeaps$Sum")) D cA sz0 H0 := cx
  refine v_sub (lv' := [(0, .ref (sz0 + t))]) [0] rfl ?_
  obtain ⟨q1, h⟩ := h
  refine v_new (pc := 0) cx cl_X9 (by decide) in_X9 tyX9 tyX9_ok q492 q493 q130 df_X9 q1.1 q1.2 dX7_product_0 ?_
  refine v_topr (fun r2 er2 => ?_)
  replace h := h r2 er2
  refine v_wld (fun M3 eM3 => ?_)
  replace h := h M3 eM3
  replace sh : Shp M3 := Shp_Nw sh eM3
  refine v_dup (pc := 3) cx dX7_product_3 rfl ?_
  refine v_iconst (pc := 4) cx dX7_product_4 ic_0 ?_
  refine v_aload_n (pc := 5) cx dX7_product_5 rfl 0 rfl ?_
  obtain ⟨k4, h⟩ := h
  obtain ⟨mc5, ms6, hmc, hms, h⟩ := h
  refine v_run_r (pc := 6) cx (kcq498_X7 cx (hFfactor t M3 mc5 ms6 _ sh h) ⟨by dsimp only; omega, by dsimp only; omega⟩ k4 (As := []) rfl rfl (Nat.le_of_ble_eq_true rfl) dX7_product_6 ⟨hmc, hms⟩) (fun a7 M8 hq => ?_)
  obtain ⟨h, sh⟩ := hq
  obtain ⟨hb9, h⟩ := h
  refine v_run_v (pc := 9) cx (kcq628_X7 cx (c_X9_init l D cA sz0 H0 M8 r2 ((0 : Int32)) a7  _ sh h) ⟨by dsimp only; omega, by dsimp only; omega⟩ (As := [.int (0 : Int32), vr sz0 a7]) rfl rfl (Nat.le_of_ble_eq_true rfl) dX7_product_9 ⟨hb9.1, hb9.2⟩) (fun M11 hq => ?_)
  obtain ⟨h, sh⟩ := hq
  refine v_astore_n (pc := 12) cx dX7_product_12 rfl (Nat.le_of_ble_eq_true rfl) (lv' := [(1, .ref (sz0 + r2)), (0, .ref (sz0 + t))]) rfl ?_
  refine v_aload_n (pc := 13) cx dX7_product_13 rfl 0 rfl ?_
  refine v_astore_n (pc := 14) cx dX7_product_14 rfl (Nat.le_of_ble_eq_true rfl) (lv' := [(2, .ref (sz0 + r2)), (1, .ref (sz0 + r2)), (0, .ref (sz0 + t))]) rfl ?_
  refine v_sub (lv' := [(0, .ref (sz0 + t)), (1, .ref (sz0 + r2)), (2, .ref (sz0 + r2))]) [2, 1, 0] rfl ?_
  obtain ⟨n0, h⟩ := h
  exact w_X7_product_l15 cx hFsum hFproduct hFfactor n0 r2 M11 sh ((((0 + 1) + mc5) + 0)) ((((0 + 3) + ms6) + 0)) h
/-! LetterHeaps$Reader.factor()LLetterHeaps$Sum; -/
def m_X7_factor_j97 (Fsum : Nat → WM → Nat → Nat → (Option Nat → WM → Prop) → Prop) (Fproduct : Nat → WM → Nat → Nat → (Option Nat → WM → Prop) → Prop) (Ffactor : Nat → WM → Nat → Nat → (Option Nat → WM → Prop) → Prop)  (x0 : Nat) (x1 : Int32)  (bc bs : Nat) (Q : Option Nat → WM → Prop) (M : WM) (kc : Nat) (ks : Nat) : Prop := (wk M x0 = 6 ∧ (wk M x0 = 6 ∧ (∀ M3 : WM, M3 = wPI M x0 2 (((wI M x0 2) + (1 : Int32))) → ((kc + 1 ≤ bc ∧ ks + 1 ≤ bs) ∧ (∀ r5, r5 = wn M3 → (∀ M6 : WM, M6 = wNw M3 9 0 → (((kc + 1) ≤ bc ∧ (ks + 1) ≤ bs) ∧ (m_X11_init r5 x1 M6 (fun (M9 : WM) => ((((kc + 1) + 0) ≤ bc ∧ ((ks + 1) + 0) ≤ bs) ∧ Q (some r5) M9))))))))))
theorem w_X7_factor_j97 {p : Program} {l : Launch} {e : Env} {s : State} {m : MethodId} {args : Array Value} {below : List Frame} {meth : Method} {c : Code} {D : va_G} {cA : Nat → ClassId} {sz0 : Nat} {H0 : Heap} {d : Nat} {Fsum : Nat → WM → Nat → Nat → (Option Nat → WM → Prop) → Prop} {Fproduct : Nat → WM → Nat → Nat → (Option Nat → WM → Prop) → Prop} {Ffactor : Nat → WM → Nat → Nat → (Option Nat → WM → Prop) → Prop} {x0 : Nat} {x1 : Int32} {bc bs : Nat} {Q : Option Nat → WM → Prop}  (cx : Cx p s m args meth c cX7_factor 3 RX7 (some (.object "LetterHeaps$Sum")) D cA sz0 H0) (hFsum : ∀ (t : Nat) (M : WM) (bc bs : Nat) (Q : Option Nat → WM → Prop) (sh : Shp M), Fsum t M bc bs Q → Met l yX7_sum (ws_ yX7_sum cX7_sum 4 (some (.object "LetterHeaps$Sum"))) ({ frames := 6 + d, cells := bc, slots := bs, locals := 300 + 40 * d } : Room) (PcW D cA sz0 H0 [.ref (sz0 + t)] M) (QW_r D cA sz0 H0 (fun o M' => Q o M' ∧ Shp M')) bc bs (Aw sz0)) (hFproduct : ∀ (t : Nat) (M : WM) (bc bs : Nat) (Q : Option Nat → WM → Prop) (sh : Shp M), Fproduct t M bc bs Q → Met l yX7_product (ws_ yX7_product cX7_product 4 (some (.object "LetterHeaps$Sum"))) ({ frames := 6 + d, cells := bc, slots := bs, locals := 300 + 40 * d } : Room) (PcW D cA sz0 H0 [.ref (sz0 + t)] M) (QW_r D cA sz0 H0 (fun o M' => Q o M' ∧ Shp M')) bc bs (Aw sz0)) (hFfactor : ∀ (t : Nat) (M : WM) (bc bs : Nat) (Q : Option Nat → WM → Prop) (sh : Shp M), Ffactor t M bc bs Q → Met l yX7_factor (ws_ yX7_factor cX7_factor 3 (some (.object "LetterHeaps$Sum"))) ({ frames := 6 + d, cells := bc, slots := bs, locals := 300 + 40 * d } : Room) (PcW D cA sz0 H0 [.ref (sz0 + t)] M) (QW_r D cA sz0 H0 (fun o M' => Q o M' ∧ Shp M')) bc bs (Aw sz0))      (M : WM) (sh : Shp M) (kc ks : Nat) (h : m_X7_factor_j97 Fsum Fproduct Ffactor x0 x1 bc bs Q M kc ks) : V p l e ({ frames := 6 + (d + 1), cells := bc, slots := bs, locals := 300 + 40 * (d + 1) } : Room) s m args below meth c 3 D cA sz0 H0 kc ks (MQ below (QW_r D cA sz0 H0 (fun o M' => Q o M' ∧ Shp M')) args s bc bs (Aw sz0)) 97 [(0, .ref (sz0 + x0)), (1, .int x1)] [] M := by
  replace h : (wk M x0 = 6 ∧ (wk M x0 = 6 ∧ (∀ M3 : WM, M3 = wPI M x0 2 (((wI M x0 2) + (1 : Int32))) → ((kc + 1 ≤ bc ∧ ks + 1 ≤ bs) ∧ (∀ r5, r5 = wn M3 → (∀ M6 : WM, M6 = wNw M3 9 0 → (((kc + 1) ≤ bc ∧ (ks + 1) ≤ bs) ∧ (m_X11_init r5 x1 M6 (fun (M9 : WM) => ((((kc + 1) + 0) ≤ bc ∧ ((ks + 1) + 0) ≤ bs) ∧ Q (some r5) M9)))))))))) := h
  refine v_aload_n (pc := 97) cx dX7_factor_97 rfl 0 rfl ?_
  refine v_dup (pc := 98) cx dX7_factor_98 rfl ?_
  obtain ⟨k1, h⟩ := h
  refine gq448_X7 (pc := 99) cx dX7_factor_99 k1 ?_
  refine v_iconst (pc := 102) cx dX7_factor_102 ic_1 ?_
  refine v_iadd (pc := 103) cx dX7_factor_103 ?_
  obtain ⟨k2, h⟩ := h
  refine pq448_X7 (pc := 104) cx dX7_factor_104 k2 ?_
  refine v_wld (fun M3 eM3 => ?_)
  replace h := h M3 eM3
  replace sh : Shp M3 := Shp_PI sh eM3
  obtain ⟨q4, h⟩ := h
  refine v_new (pc := 107) cx cl_X11 (by decide) in_X11 tyX11 tyX11_ok q618 q619 q138 df_X11 q4.1 q4.2 dX7_factor_107 ?_
  refine v_topr (fun r5 er5 => ?_)
  replace h := h r5 er5
  refine v_wld (fun M6 eM6 => ?_)
  replace h := h M6 eM6
  replace sh : Shp M6 := Shp_Nw sh eM6
  refine v_dup (pc := 110) cx dX7_factor_110 rfl ?_
  refine v_iload_n (pc := 111) cx dX7_factor_111 rfl 1 rfl ?_
  obtain ⟨hb7, h⟩ := h
  refine v_run_v (pc := 112) cx (kcq620_X7 cx (c_X11_init l D cA sz0 H0 M6 r5 x1  _ sh h) ⟨by dsimp only; omega, by dsimp only; omega⟩ (As := [.int x1]) rfl rfl (Nat.le_of_ble_eq_true rfl) dX7_factor_112 ⟨hb7.1, hb7.2⟩) (fun M9 hq => ?_)
  obtain ⟨h, sh⟩ := hq
  obtain ⟨q10, h⟩ := h
  exact v_aret (o := some r5) cx rfl dX7_factor_115 q10 ⟨h, sh⟩
def m_X7_factor_j88 (Fsum : Nat → WM → Nat → Nat → (Option Nat → WM → Prop) → Prop) (Fproduct : Nat → WM → Nat → Nat → (Option Nat → WM → Prop) → Prop) (Ffactor : Nat → WM → Nat → Nat → (Option Nat → WM → Prop) → Prop)  (x0 : Nat) (x1 : Int32)  (bc bs : Nat) (Q : Option Nat → WM → Prop) (M : WM) (kc : Nat) (ks : Nat) : Prop := (wk M x0 = 6 ∧ (wk M x0 = 6 ∧ ((kc ≤ bc ∧ ks ≤ bs) ∧ (m_X7_bad x0 ((1 : Int32)) ((wI M x0 2)) M (fun (M5 : WM) => m_X7_factor_j97 Fsum Fproduct Ffactor x0 x1 bc bs Q M5 ((kc + 0)) ((ks + 0)))))))
theorem w_X7_factor_j88 {p : Program} {l : Launch} {e : Env} {s : State} {m : MethodId} {args : Array Value} {below : List Frame} {meth : Method} {c : Code} {D : va_G} {cA : Nat → ClassId} {sz0 : Nat} {H0 : Heap} {d : Nat} {Fsum : Nat → WM → Nat → Nat → (Option Nat → WM → Prop) → Prop} {Fproduct : Nat → WM → Nat → Nat → (Option Nat → WM → Prop) → Prop} {Ffactor : Nat → WM → Nat → Nat → (Option Nat → WM → Prop) → Prop} {x0 : Nat} {x1 : Int32} {bc bs : Nat} {Q : Option Nat → WM → Prop}  (cx : Cx p s m args meth c cX7_factor 3 RX7 (some (.object "LetterHeaps$Sum")) D cA sz0 H0) (hFsum : ∀ (t : Nat) (M : WM) (bc bs : Nat) (Q : Option Nat → WM → Prop) (sh : Shp M), Fsum t M bc bs Q → Met l yX7_sum (ws_ yX7_sum cX7_sum 4 (some (.object "LetterHeaps$Sum"))) ({ frames := 6 + d, cells := bc, slots := bs, locals := 300 + 40 * d } : Room) (PcW D cA sz0 H0 [.ref (sz0 + t)] M) (QW_r D cA sz0 H0 (fun o M' => Q o M' ∧ Shp M')) bc bs (Aw sz0)) (hFproduct : ∀ (t : Nat) (M : WM) (bc bs : Nat) (Q : Option Nat → WM → Prop) (sh : Shp M), Fproduct t M bc bs Q → Met l yX7_product (ws_ yX7_product cX7_product 4 (some (.object "LetterHeaps$Sum"))) ({ frames := 6 + d, cells := bc, slots := bs, locals := 300 + 40 * d } : Room) (PcW D cA sz0 H0 [.ref (sz0 + t)] M) (QW_r D cA sz0 H0 (fun o M' => Q o M' ∧ Shp M')) bc bs (Aw sz0)) (hFfactor : ∀ (t : Nat) (M : WM) (bc bs : Nat) (Q : Option Nat → WM → Prop) (sh : Shp M), Ffactor t M bc bs Q → Met l yX7_factor (ws_ yX7_factor cX7_factor 3 (some (.object "LetterHeaps$Sum"))) ({ frames := 6 + d, cells := bc, slots := bs, locals := 300 + 40 * d } : Room) (PcW D cA sz0 H0 [.ref (sz0 + t)] M) (QW_r D cA sz0 H0 (fun o M' => Q o M' ∧ Shp M')) bc bs (Aw sz0))      (M : WM) (sh : Shp M) (kc ks : Nat) (h : m_X7_factor_j88 Fsum Fproduct Ffactor x0 x1 bc bs Q M kc ks) : V p l e ({ frames := 6 + (d + 1), cells := bc, slots := bs, locals := 300 + 40 * (d + 1) } : Room) s m args below meth c 3 D cA sz0 H0 kc ks (MQ below (QW_r D cA sz0 H0 (fun o M' => Q o M' ∧ Shp M')) args s bc bs (Aw sz0)) 88 [(0, .ref (sz0 + x0)), (1, .int x1)] [] M := by
  replace h : (wk M x0 = 6 ∧ (wk M x0 = 6 ∧ ((kc ≤ bc ∧ ks ≤ bs) ∧ (m_X7_bad x0 ((1 : Int32)) ((wI M x0 2)) M (fun (M5 : WM) => m_X7_factor_j97 Fsum Fproduct Ffactor x0 x1 bc bs Q M5 ((kc + 0)) ((ks + 0))))))) := h
  refine v_aload_n (pc := 88) cx dX7_factor_88 rfl 0 rfl ?_
  refine v_iconst (pc := 89) cx dX7_factor_89 ic_1 ?_
  refine v_aload_n (pc := 90) cx dX7_factor_90 rfl 0 rfl ?_
  obtain ⟨k1, h⟩ := h
  refine gq448_X7 (pc := 91) cx dX7_factor_91 k1 ?_
  obtain ⟨k2, h⟩ := h
  obtain ⟨hb3, h⟩ := h
  refine v_run_v (pc := 94) cx (kcq484_X7 cx (c_X7_bad l D cA sz0 H0 M x0 ((1 : Int32)) ((wI M x0 2))  _ sh h) ⟨by dsimp only; omega, by dsimp only; omega⟩ k2 (As := [.int (1 : Int32), .int (wI M x0 2)]) rfl rfl (Nat.le_of_ble_eq_true rfl) dX7_factor_94 ⟨hb3.1, hb3.2⟩) (fun M5 hq => ?_)
  obtain ⟨h, sh⟩ := hq
  refine v_sub (lv' := [(0, .ref (sz0 + x0)), (1, .int x1)]) [0, 1] rfl ?_
  exact w_X7_factor_j97 cx hFsum hFproduct hFfactor M5 sh ((kc + 0)) ((ks + 0)) h
def m_X7_factor_j44 (Fsum : Nat → WM → Nat → Nat → (Option Nat → WM → Prop) → Prop) (Fproduct : Nat → WM → Nat → Nat → (Option Nat → WM → Prop) → Prop) (Ffactor : Nat → WM → Nat → Nat → (Option Nat → WM → Prop) → Prop)  (x0 : Nat) (x2 : Option Nat)  (bc bs : Nat) (Q : Option Nat → WM → Prop) (M : WM) (kc : Nat) (ks : Nat) : Prop := (wk M x0 = 6 ∧ (wk M x0 = 6 ∧ (∀ M3 : WM, M3 = wPI M x0 3 (((wI M x0 3) - (1 : Int32))) → ((kc ≤ bc ∧ ks ≤ bs) ∧ Q x2 M3))))
theorem w_X7_factor_j44 {p : Program} {l : Launch} {e : Env} {s : State} {m : MethodId} {args : Array Value} {below : List Frame} {meth : Method} {c : Code} {D : va_G} {cA : Nat → ClassId} {sz0 : Nat} {H0 : Heap} {d : Nat} {Fsum : Nat → WM → Nat → Nat → (Option Nat → WM → Prop) → Prop} {Fproduct : Nat → WM → Nat → Nat → (Option Nat → WM → Prop) → Prop} {Ffactor : Nat → WM → Nat → Nat → (Option Nat → WM → Prop) → Prop} {x0 : Nat} {x2 : Option Nat} {bc bs : Nat} {Q : Option Nat → WM → Prop}  (cx : Cx p s m args meth c cX7_factor 3 RX7 (some (.object "LetterHeaps$Sum")) D cA sz0 H0) (hFsum : ∀ (t : Nat) (M : WM) (bc bs : Nat) (Q : Option Nat → WM → Prop) (sh : Shp M), Fsum t M bc bs Q → Met l yX7_sum (ws_ yX7_sum cX7_sum 4 (some (.object "LetterHeaps$Sum"))) ({ frames := 6 + d, cells := bc, slots := bs, locals := 300 + 40 * d } : Room) (PcW D cA sz0 H0 [.ref (sz0 + t)] M) (QW_r D cA sz0 H0 (fun o M' => Q o M' ∧ Shp M')) bc bs (Aw sz0)) (hFproduct : ∀ (t : Nat) (M : WM) (bc bs : Nat) (Q : Option Nat → WM → Prop) (sh : Shp M), Fproduct t M bc bs Q → Met l yX7_product (ws_ yX7_product cX7_product 4 (some (.object "LetterHeaps$Sum"))) ({ frames := 6 + d, cells := bc, slots := bs, locals := 300 + 40 * d } : Room) (PcW D cA sz0 H0 [.ref (sz0 + t)] M) (QW_r D cA sz0 H0 (fun o M' => Q o M' ∧ Shp M')) bc bs (Aw sz0)) (hFfactor : ∀ (t : Nat) (M : WM) (bc bs : Nat) (Q : Option Nat → WM → Prop) (sh : Shp M), Ffactor t M bc bs Q → Met l yX7_factor (ws_ yX7_factor cX7_factor 3 (some (.object "LetterHeaps$Sum"))) ({ frames := 6 + d, cells := bc, slots := bs, locals := 300 + 40 * d } : Room) (PcW D cA sz0 H0 [.ref (sz0 + t)] M) (QW_r D cA sz0 H0 (fun o M' => Q o M' ∧ Shp M')) bc bs (Aw sz0))      (M : WM) (sh : Shp M) (kc ks : Nat) (h : m_X7_factor_j44 Fsum Fproduct Ffactor x0 x2 bc bs Q M kc ks) : V p l e ({ frames := 6 + (d + 1), cells := bc, slots := bs, locals := 300 + 40 * (d + 1) } : Room) s m args below meth c 3 D cA sz0 H0 kc ks (MQ below (QW_r D cA sz0 H0 (fun o M' => Q o M' ∧ Shp M')) args s bc bs (Aw sz0)) 44 [(0, .ref (sz0 + x0)), (2, vr sz0 x2)] [] M := by
  replace h : (wk M x0 = 6 ∧ (wk M x0 = 6 ∧ (∀ M3 : WM, M3 = wPI M x0 3 (((wI M x0 3) - (1 : Int32))) → ((kc ≤ bc ∧ ks ≤ bs) ∧ Q x2 M3)))) := h
  refine v_aload_n (pc := 44) cx dX7_factor_44 rfl 0 rfl ?_
  refine v_dup (pc := 45) cx dX7_factor_45 rfl ?_
  obtain ⟨k1, h⟩ := h
  refine gq449_X7 (pc := 46) cx dX7_factor_46 k1 ?_
  refine v_iconst (pc := 49) cx dX7_factor_49 ic_1 ?_
  refine v_isub (pc := 50) cx dX7_factor_50 ?_
  obtain ⟨k2, h⟩ := h
  refine pq449_X7 (pc := 51) cx dX7_factor_51 k2 ?_
  refine v_wld (fun M3 eM3 => ?_)
  replace h := h M3 eM3
  replace sh : Shp M3 := Shp_PI sh eM3
  refine v_aload_nQ (pc := 54) cx dX7_factor_54 rfl 1 rfl ?_
  obtain ⟨q4, h⟩ := h
  exact v_aret (o := x2) cx rfl dX7_factor_55 q4 ⟨h, sh⟩
def m_X7_factor_j30 (Fsum : Nat → WM → Nat → Nat → (Option Nat → WM → Prop) → Prop) (Fproduct : Nat → WM → Nat → Nat → (Option Nat → WM → Prop) → Prop) (Ffactor : Nat → WM → Nat → Nat → (Option Nat → WM → Prop) → Prop)  (x0 : Nat) (y0 : Option Nat)  (bc bs : Nat) (Q : Option Nat → WM → Prop) (M : WM) (kc : Nat) (ks : Nat) : Prop := (wk M x0 = 6 ∧ ((kc ≤ bc ∧ ks ≤ bs) ∧ (m_X7_isGood x0 M (fun (a3 : Int32) => ((a3 = 0 → m_X7_factor_j44 Fsum Fproduct Ffactor x0 y0 bc bs Q M ((kc + 0)) ((ks + 0))) ∧ (¬ a3 = 0 → (wk M x0 = 6 ∧ (((kc + 0) ≤ bc ∧ (ks + 0) ≤ bs) ∧ (m_X7_must x0 ((93 : Int32)) M (fun (M8 : WM) => m_X7_factor_j44 Fsum Fproduct Ffactor x0 y0 bc bs Q M8 (((kc + 0) + 0)) (((ks + 0) + 0))))))))))))
theorem w_X7_factor_j30 {p : Program} {l : Launch} {e : Env} {s : State} {m : MethodId} {args : Array Value} {below : List Frame} {meth : Method} {c : Code} {D : va_G} {cA : Nat → ClassId} {sz0 : Nat} {H0 : Heap} {d : Nat} {Fsum : Nat → WM → Nat → Nat → (Option Nat → WM → Prop) → Prop} {Fproduct : Nat → WM → Nat → Nat → (Option Nat → WM → Prop) → Prop} {Ffactor : Nat → WM → Nat → Nat → (Option Nat → WM → Prop) → Prop} {x0 : Nat} {y0 : Option Nat} {bc bs : Nat} {Q : Option Nat → WM → Prop}  (cx : Cx p s m args meth c cX7_factor 3 RX7 (some (.object "LetterHeaps$Sum")) D cA sz0 H0) (hFsum : ∀ (t : Nat) (M : WM) (bc bs : Nat) (Q : Option Nat → WM → Prop) (sh : Shp M), Fsum t M bc bs Q → Met l yX7_sum (ws_ yX7_sum cX7_sum 4 (some (.object "LetterHeaps$Sum"))) ({ frames := 6 + d, cells := bc, slots := bs, locals := 300 + 40 * d } : Room) (PcW D cA sz0 H0 [.ref (sz0 + t)] M) (QW_r D cA sz0 H0 (fun o M' => Q o M' ∧ Shp M')) bc bs (Aw sz0)) (hFproduct : ∀ (t : Nat) (M : WM) (bc bs : Nat) (Q : Option Nat → WM → Prop) (sh : Shp M), Fproduct t M bc bs Q → Met l yX7_product (ws_ yX7_product cX7_product 4 (some (.object "LetterHeaps$Sum"))) ({ frames := 6 + d, cells := bc, slots := bs, locals := 300 + 40 * d } : Room) (PcW D cA sz0 H0 [.ref (sz0 + t)] M) (QW_r D cA sz0 H0 (fun o M' => Q o M' ∧ Shp M')) bc bs (Aw sz0)) (hFfactor : ∀ (t : Nat) (M : WM) (bc bs : Nat) (Q : Option Nat → WM → Prop) (sh : Shp M), Ffactor t M bc bs Q → Met l yX7_factor (ws_ yX7_factor cX7_factor 3 (some (.object "LetterHeaps$Sum"))) ({ frames := 6 + d, cells := bc, slots := bs, locals := 300 + 40 * d } : Room) (PcW D cA sz0 H0 [.ref (sz0 + t)] M) (QW_r D cA sz0 H0 (fun o M' => Q o M' ∧ Shp M')) bc bs (Aw sz0))      (M : WM) (sh : Shp M) (kc ks : Nat) (h : m_X7_factor_j30 Fsum Fproduct Ffactor x0 y0 bc bs Q M kc ks) : V p l e ({ frames := 6 + (d + 1), cells := bc, slots := bs, locals := 300 + 40 * (d + 1) } : Room) s m args below meth c 3 D cA sz0 H0 kc ks (MQ below (QW_r D cA sz0 H0 (fun o M' => Q o M' ∧ Shp M')) args s bc bs (Aw sz0)) 30 [(0, .ref (sz0 + x0))] [vr sz0 y0] M := by
  replace h : (wk M x0 = 6 ∧ ((kc ≤ bc ∧ ks ≤ bs) ∧ (m_X7_isGood x0 M (fun (a3 : Int32) => ((a3 = 0 → m_X7_factor_j44 Fsum Fproduct Ffactor x0 y0 bc bs Q M ((kc + 0)) ((ks + 0))) ∧ (¬ a3 = 0 → (wk M x0 = 6 ∧ (((kc + 0) ≤ bc ∧ (ks + 0) ≤ bs) ∧ (m_X7_must x0 ((93 : Int32)) M (fun (M8 : WM) => m_X7_factor_j44 Fsum Fproduct Ffactor x0 y0 bc bs Q M8 (((kc + 0) + 0)) (((ks + 0) + 0)))))))))))) := h
  refine v_astore_nQ (pc := 30) cx dX7_factor_30 rfl (Nat.le_of_ble_eq_true rfl) (lv' := [(2, vr sz0 y0), (0, .ref (sz0 + x0))]) rfl ?_
  refine v_aload_n (pc := 31) cx dX7_factor_31 rfl 1 rfl ?_
  obtain ⟨k1, h⟩ := h
  obtain ⟨hb2, h⟩ := h
  refine v_runp_i (pc := 32) cx (kcq472_X7 cx (c_X7_isGood l D cA sz0 H0 M x0  _ sh h) ⟨by dsimp only; omega, by dsimp only; omega⟩ k1 (As := []) rfl rfl (Nat.le_of_ble_eq_true rfl) dX7_factor_32 ⟨hb2.1, hb2.2⟩) (fun a3 hq => ?_)
  replace h := hq
  refine v_if_eq (pc := 35) cx dX7_factor_35 (tgt := 44) rfl (fun c4 => ?_) (fun c4 => ?_)
  · replace h := h.1 c4
    refine v_sub (lv' := [(0, .ref (sz0 + x0)), (2, vr sz0 y0)]) [1, 0] rfl ?_
    exact w_X7_factor_j44 cx hFsum hFproduct hFfactor M sh ((kc + 0)) ((ks + 0)) h
  · replace h := h.2 c4
    refine v_aload_n (pc := 38) cx dX7_factor_38 rfl 1 rfl ?_
    refine v_bipush (pc := 39) cx dX7_factor_39 bc_93 ?_
    obtain ⟨k5, h⟩ := h
    obtain ⟨hb6, h⟩ := h
    refine v_run_v (pc := 41) cx (kcq506_X7 cx (c_X7_must l D cA sz0 H0 M x0 ((93 : Int32))  _ sh h) ⟨by dsimp only; omega, by dsimp only; omega⟩ k5 (As := [.int (93 : Int32)]) rfl rfl (Nat.le_of_ble_eq_true rfl) dX7_factor_41 ⟨hb6.1, hb6.2⟩) (fun M8 hq => ?_)
    obtain ⟨h, sh⟩ := hq
    refine v_sub (lv' := [(0, .ref (sz0 + x0)), (2, vr sz0 y0)]) [1, 0] rfl ?_
    exact w_X7_factor_j44 cx hFsum hFproduct hFfactor M8 sh (((kc + 0) + 0)) (((ks + 0) + 0)) h
def b_X7_factor (Fsum : Nat → WM → Nat → Nat → (Option Nat → WM → Prop) → Prop) (Fproduct : Nat → WM → Nat → Nat → (Option Nat → WM → Prop) → Prop) (Ffactor : Nat → WM → Nat → Nat → (Option Nat → WM → Prop) → Prop) (t : Nat) (M : WM) (bc bs : Nat) (Q : Option Nat → WM → Prop) : Prop := (wk M t = 6 ∧ ((0 ≤ bc ∧ 0 ≤ bs) ∧ (m_X7_here t M (fun (a3 : Int32) => ((a3 = (91 : Int32) → (wk M t = 6 ∧ (((0 + 0) ≤ bc ∧ (0 + 0) ≤ bs) ∧ (m_X7_opens t M (fun (M26 : WM) => (wk M26 t = 6 ∧ ((((0 + 0) + 0) ≤ bc ∧ ((0 + 0) + 0) ≤ bs) ∧ (m_X7_isGood t M26 (fun (a29 : Int32) => ((a29 = 0 → m_X7_factor_j30 Fsum Fproduct Ffactor t none bc bs Q M26 ((((0 + 0) + 0) + 0)) ((((0 + 0) + 0) + 0))) ∧ (¬ a29 = 0 → (wk M26 t = 6 ∧ (∃ mc32 ms33, (((0 + 0) + 0) + 0) + mc32 ≤ bc ∧ (((0 + 0) + 0) + 0) + ms33 ≤ bs ∧ (Fsum t M26 mc32 ms33 (fun (a34 : Option Nat) (M35 : WM) => m_X7_factor_j30 Fsum Fproduct Ffactor t a34 bc bs Q M35 (((((0 + 0) + 0) + 0) + mc32)) (((((0 + 0) + 0) + 0) + ms33))))))))))))))))) ∧ (¬ a3 = (91 : Int32) → (wk M t = 6 ∧ (((0 + 0) ≤ bc ∧ (0 + 0) ≤ bs) ∧ (m_X7_seesDigit t M (fun (a7 : Int32) => ((a7 = 0 → ((a3 = 0 → m_X7_factor_j88 Fsum Fproduct Ffactor t a3 bc bs Q M (((0 + 0) + 0)) (((0 + 0) + 0))) ∧ (¬ a3 = 0 → ((((0 + 0) + 0) ≤ bc ∧ ((0 + 0) + 0) ≤ bs) ∧ ((0 ≤ (kio a3) → m_X7_factor_j97 Fsum Fproduct Ffactor t a3 bc bs Q M (((0 + 0) + 0)) (((0 + 0) + 0))) ∧ (¬ 0 ≤ (kio a3) → m_X7_factor_j88 Fsum Fproduct Ffactor t a3 bc bs Q M (((0 + 0) + 0)) (((0 + 0) + 0)))))))) ∧ (¬ a7 = 0 → ((((0 + 0) + 0) + 1 ≤ bc ∧ ((0 + 0) + 0) + 1 ≤ bs) ∧ (∀ r13, r13 = wn M → (∀ M14 : WM, M14 = wNw M 8 0 → (wk M14 t = 6 ∧ (((((0 + 0) + 0) + 1) ≤ bc ∧ (((0 + 0) + 0) + 1) ≤ bs) ∧ (m_X7_number t M14 (fun (a17 : Int32) (M18 : WM) => ((((((0 + 0) + 0) + 1) + 0) ≤ bc ∧ ((((0 + 0) + 0) + 1) + 0) ≤ bs) ∧ (m_X10_init r13 a17 M18 (fun (M21 : WM) => (((((((0 + 0) + 0) + 1) + 0) + 0) ≤ bc ∧ (((((0 + 0) + 0) + 1) + 0) + 0) ≤ bs) ∧ Q (some r13) M21)))))))))))))))))))))))
theorem cb_X7_factor {l : Launch} {D : va_G} {cA : Nat → ClassId} {sz0 : Nat} {H0 : Heap} {d : Nat} {Fsum : Nat → WM → Nat → Nat → (Option Nat → WM → Prop) → Prop} {Fproduct : Nat → WM → Nat → Nat → (Option Nat → WM → Prop) → Prop} {Ffactor : Nat → WM → Nat → Nat → (Option Nat → WM → Prop) → Prop} (hFsum : ∀ (t : Nat) (M : WM) (bc bs : Nat) (Q : Option Nat → WM → Prop) (sh : Shp M), Fsum t M bc bs Q → Met l yX7_sum (ws_ yX7_sum cX7_sum 4 (some (.object "LetterHeaps$Sum"))) ({ frames := 6 + d, cells := bc, slots := bs, locals := 300 + 40 * d } : Room) (PcW D cA sz0 H0 [.ref (sz0 + t)] M) (QW_r D cA sz0 H0 (fun o M' => Q o M' ∧ Shp M')) bc bs (Aw sz0)) (hFproduct : ∀ (t : Nat) (M : WM) (bc bs : Nat) (Q : Option Nat → WM → Prop) (sh : Shp M), Fproduct t M bc bs Q → Met l yX7_product (ws_ yX7_product cX7_product 4 (some (.object "LetterHeaps$Sum"))) ({ frames := 6 + d, cells := bc, slots := bs, locals := 300 + 40 * d } : Room) (PcW D cA sz0 H0 [.ref (sz0 + t)] M) (QW_r D cA sz0 H0 (fun o M' => Q o M' ∧ Shp M')) bc bs (Aw sz0)) (hFfactor : ∀ (t : Nat) (M : WM) (bc bs : Nat) (Q : Option Nat → WM → Prop) (sh : Shp M), Ffactor t M bc bs Q → Met l yX7_factor (ws_ yX7_factor cX7_factor 3 (some (.object "LetterHeaps$Sum"))) ({ frames := 6 + d, cells := bc, slots := bs, locals := 300 + 40 * d } : Room) (PcW D cA sz0 H0 [.ref (sz0 + t)] M) (QW_r D cA sz0 H0 (fun o M' => Q o M' ∧ Shp M')) bc bs (Aw sz0)) (M : WM) (t : Nat)  (bc bs : Nat) (Q : Option Nat → WM → Prop) (sh : Shp M) (h : b_X7_factor Fsum Fproduct Ffactor t M bc bs Q) : Met l yX7_factor (ws_ yX7_factor cX7_factor 3 (some (.object "LetterHeaps$Sum"))) ({ frames := 6 + (d + 1), cells := bc, slots := bs, locals := 300 + 40 * (d + 1) } : Room) (PcW D cA sz0 H0 [.ref (sz0 + t)] M) (QW_r D cA sz0 H0 (fun o M' => Q o M' ∧ Shp M')) bc bs (Aw sz0) := by
  replace h : (wk M t = 6 ∧ ((0 ≤ bc ∧ 0 ≤ bs) ∧ (m_X7_here t M (fun (a3 : Int32) => ((a3 = (91 : Int32) → (wk M t = 6 ∧ (((0 + 0) ≤ bc ∧ (0 + 0) ≤ bs) ∧ (m_X7_opens t M (fun (M26 : WM) => (wk M26 t = 6 ∧ ((((0 + 0) + 0) ≤ bc ∧ ((0 + 0) + 0) ≤ bs) ∧ (m_X7_isGood t M26 (fun (a29 : Int32) => ((a29 = 0 → m_X7_factor_j30 Fsum Fproduct Ffactor t none bc bs Q M26 ((((0 + 0) + 0) + 0)) ((((0 + 0) + 0) + 0))) ∧ (¬ a29 = 0 → (wk M26 t = 6 ∧ (∃ mc32 ms33, (((0 + 0) + 0) + 0) + mc32 ≤ bc ∧ (((0 + 0) + 0) + 0) + ms33 ≤ bs ∧ (Fsum t M26 mc32 ms33 (fun (a34 : Option Nat) (M35 : WM) => m_X7_factor_j30 Fsum Fproduct Ffactor t a34 bc bs Q M35 (((((0 + 0) + 0) + 0) + mc32)) (((((0 + 0) + 0) + 0) + ms33))))))))))))))))) ∧ (¬ a3 = (91 : Int32) → (wk M t = 6 ∧ (((0 + 0) ≤ bc ∧ (0 + 0) ≤ bs) ∧ (m_X7_seesDigit t M (fun (a7 : Int32) => ((a7 = 0 → ((a3 = 0 → m_X7_factor_j88 Fsum Fproduct Ffactor t a3 bc bs Q M (((0 + 0) + 0)) (((0 + 0) + 0))) ∧ (¬ a3 = 0 → ((((0 + 0) + 0) ≤ bc ∧ ((0 + 0) + 0) ≤ bs) ∧ ((0 ≤ (kio a3) → m_X7_factor_j97 Fsum Fproduct Ffactor t a3 bc bs Q M (((0 + 0) + 0)) (((0 + 0) + 0))) ∧ (¬ 0 ≤ (kio a3) → m_X7_factor_j88 Fsum Fproduct Ffactor t a3 bc bs Q M (((0 + 0) + 0)) (((0 + 0) + 0)))))))) ∧ (¬ a7 = 0 → ((((0 + 0) + 0) + 1 ≤ bc ∧ ((0 + 0) + 0) + 1 ≤ bs) ∧ (∀ r13, r13 = wn M → (∀ M14 : WM, M14 = wNw M 8 0 → (wk M14 t = 6 ∧ (((((0 + 0) + 0) + 1) ≤ bc ∧ (((0 + 0) + 0) + 1) ≤ bs) ∧ (m_X7_number t M14 (fun (a17 : Int32) (M18 : WM) => ((((((0 + 0) + 0) + 1) + 0) ≤ bc ∧ ((((0 + 0) + 0) + 1) + 0) ≤ bs) ∧ (m_X10_init r13 a17 M18 (fun (M21 : WM) => (((((((0 + 0) + 0) + 1) + 0) + 0) ≤ bc ∧ (((((0 + 0) + 0) + 1) + 0) + 0) ≤ bs) ∧ Q (some r13) M21))))))))))))))))))))))) := h
  refine Met.ofV (by decide +kernel) (Nat.le_of_ble_eq_true rfl) ?_
  intro p e s m args below meth c cx hnm
  replace cx : Cx p s m args meth c cX7_factor 3 RX7 (some (.object "LetterHeaps$Sum")) D cA sz0 H0 := cx
  refine v_sub (lv' := [(0, .ref (sz0 + t))]) [0] rfl ?_
  refine v_aload_n (pc := 0) cx dX7_factor_0 rfl 0 rfl ?_
  obtain ⟨k1, h⟩ := h
  obtain ⟨hb2, h⟩ := h
  refine v_runp_i (pc := 1) cx (kcq480_X7 cx (c_X7_here l D cA sz0 H0 M t  _ sh h) ⟨by dsimp only; omega, by dsimp only; omega⟩ k1 (As := []) rfl rfl (Nat.le_of_ble_eq_true rfl) dX7_factor_1 ⟨hb2.1, hb2.2⟩) (fun a3 hq => ?_)
  replace h := hq
  refine v_istore_n (pc := 4) cx dX7_factor_4 rfl (Nat.le_of_ble_eq_true rfl) (lv' := [(1, .int a3), (0, .ref (sz0 + t))]) rfl ?_
  refine v_iload_n (pc := 5) cx dX7_factor_5 rfl 0 rfl ?_
  refine v_bipush (pc := 6) cx dX7_factor_6 bc_91 ?_
  refine v_icmp_ne (pc := 8) cx dX7_factor_8 (tgt := 56) rfl (fun c4 => ?_) (fun c4 => ?_)
  · replace h := h.2 c4
    refine v_aload_n (pc := 56) cx dX7_factor_56 rfl 1 rfl ?_
    obtain ⟨k5, h⟩ := h
    obtain ⟨hb6, h⟩ := h
    refine v_runp_i (pc := 57) cx (kcq510_X7 cx (c_X7_seesDigit l D cA sz0 H0 M t  _ sh h) ⟨by dsimp only; omega, by dsimp only; omega⟩ k5 (As := []) rfl rfl (Nat.le_of_ble_eq_true rfl) dX7_factor_57 ⟨hb6.1, hb6.2⟩) (fun a7 hq => ?_)
    replace h := hq
    refine v_if_eq (pc := 60) cx dX7_factor_60 (tgt := 75) rfl (fun c8 => ?_) (fun c8 => ?_)
    · replace h := h.1 c8
      refine v_iload_n (pc := 75) cx dX7_factor_75 rfl 0 rfl ?_
      refine v_if_eq (pc := 76) cx dX7_factor_76 (tgt := 88) rfl (fun c9 => ?_) (fun c9 => ?_)
      · replace h := h.1 c9
        refine v_sub (lv' := [(0, .ref (sz0 + t)), (1, .int a3)]) [1, 0] rfl ?_
        exact w_X7_factor_j88 cx hFsum hFproduct hFfactor M sh (((0 + 0) + 0)) (((0 + 0) + 0)) h
      · replace h := h.2 c9
        obtain ⟨q10, h⟩ := h
        refine v_kio (pc := 79) cx dX7_factor_79 dX7_factor_81 dX7_factor_82 (p4 := 85) rfl rfl rfl q532 (q := 0) rfl (Nat.le_of_ble_eq_true rfl) ⟨by dsimp only; omega, by dsimp only; omega⟩ q10 ?_
        refine v_if_ge (pc := 85) cx dX7_factor_85 (tgt := 97) rfl (fun c11 => ?_) (fun c11 => ?_)
        · replace h := h.1 c11
          refine v_sub (lv' := [(0, .ref (sz0 + t)), (1, .int a3)]) [1, 0] rfl ?_
          exact w_X7_factor_j97 cx hFsum hFproduct hFfactor M sh (((0 + 0) + 0)) (((0 + 0) + 0)) h
        · replace h := h.2 c11
          refine v_sub (lv' := [(0, .ref (sz0 + t)), (1, .int a3)]) [1, 0] rfl ?_
          exact w_X7_factor_j88 cx hFsum hFproduct hFfactor M sh (((0 + 0) + 0)) (((0 + 0) + 0)) h
    · replace h := h.2 c8
      obtain ⟨q12, h⟩ := h
      refine v_new (pc := 63) cx cl_X10 (by decide) in_X10 tyX10 tyX10_ok q514 q515 q131 df_X10 q12.1 q12.2 dX7_factor_63 ?_
      refine v_topr (fun r13 er13 => ?_)
      replace h := h r13 er13
      refine v_wld (fun M14 eM14 => ?_)
      replace h := h M14 eM14
      replace sh : Shp M14 := Shp_Nw sh eM14
      refine v_dup (pc := 66) cx dX7_factor_66 rfl ?_
      refine v_aload_n (pc := 67) cx dX7_factor_67 rfl 1 rfl ?_
      obtain ⟨k15, h⟩ := h
      obtain ⟨hb16, h⟩ := h
      refine v_run_i (pc := 68) cx (kcq516_X7 cx (c_X7_number l D cA sz0 H0 M14 t  _ sh h) ⟨by dsimp only; omega, by dsimp only; omega⟩ k15 (As := []) rfl rfl (Nat.le_of_ble_eq_true rfl) dX7_factor_68 ⟨hb16.1, hb16.2⟩) (fun a17 M18 hq => ?_)
      obtain ⟨h, sh⟩ := hq
      obtain ⟨hb19, h⟩ := h
      refine v_run_v (pc := 71) cx (kcq520_X7 cx (c_X10_init l D cA sz0 H0 M18 r13 a17  _ sh h) ⟨by dsimp only; omega, by dsimp only; omega⟩ (As := [.int a17]) rfl rfl (Nat.le_of_ble_eq_true rfl) dX7_factor_71 ⟨hb19.1, hb19.2⟩) (fun M21 hq => ?_)
      obtain ⟨h, sh⟩ := hq
      obtain ⟨q22, h⟩ := h
      exact v_aret (o := some r13) cx rfl dX7_factor_74 q22 ⟨h, sh⟩
  · replace h := h.1 c4
    refine v_aload_n (pc := 11) cx dX7_factor_11 rfl 1 rfl ?_
    obtain ⟨k23, h⟩ := h
    obtain ⟨hb24, h⟩ := h
    refine v_run_v (pc := 12) cx (kcq502_X7 cx (c_X7_opens l D cA sz0 H0 M t  _ sh h) ⟨by dsimp only; omega, by dsimp only; omega⟩ k23 (As := []) rfl rfl (Nat.le_of_ble_eq_true rfl) dX7_factor_12 ⟨hb24.1, hb24.2⟩) (fun M26 hq => ?_)
    obtain ⟨h, sh⟩ := hq
    refine v_aload_n (pc := 15) cx dX7_factor_15 rfl 1 rfl ?_
    obtain ⟨k27, h⟩ := h
    obtain ⟨hb28, h⟩ := h
    refine v_runp_i (pc := 16) cx (kcq472_X7 cx (c_X7_isGood l D cA sz0 H0 M26 t  _ sh h) ⟨by dsimp only; omega, by dsimp only; omega⟩ k27 (As := []) rfl rfl (Nat.le_of_ble_eq_true rfl) dX7_factor_16 ⟨hb28.1, hb28.2⟩) (fun a29 hq => ?_)
    replace h := hq
    refine v_if_eq (pc := 19) cx dX7_factor_19 (tgt := 29) rfl (fun c30 => ?_) (fun c30 => ?_)
    · replace h := h.1 c30
      refine v_null (pc := 29) cx dX7_factor_29 ?_
      refine v_sub (lv' := [(0, .ref (sz0 + t))]) [1] rfl ?_
      exact w_X7_factor_j30 cx hFsum hFproduct hFfactor M26 sh ((((0 + 0) + 0) + 0)) ((((0 + 0) + 0) + 0)) h
    · replace h := h.2 c30
      refine v_aload_n (pc := 22) cx dX7_factor_22 rfl 1 rfl ?_
      obtain ⟨k31, h⟩ := h
      obtain ⟨mc32, ms33, hmc, hms, h⟩ := h
      refine v_run_r (pc := 23) cx (kcq488_X7 cx (hFsum t M26 mc32 ms33 _ sh h) ⟨by dsimp only; omega, by dsimp only; omega⟩ k31 (As := []) rfl rfl (Nat.le_of_ble_eq_true rfl) dX7_factor_23 ⟨hmc, hms⟩) (fun a34 M35 hq => ?_)
      obtain ⟨h, sh⟩ := hq
      refine v_goto (pc := 26) cx dX7_factor_26 (tgt := 30) rfl ?_
      refine v_sub (lv' := [(0, .ref (sz0 + t))]) [1] rfl ?_
      exact w_X7_factor_j30 cx hFsum hFproduct hFfactor M35 sh (((((0 + 0) + 0) + 0) + mc32)) (((((0 + 0) + 0) + 0) + ms33)) h
def mg_sumg : Nat → (Nat → WM → Nat → Nat → (Option Nat → WM → Prop) → Prop) × (Nat → WM → Nat → Nat → (Option Nat → WM → Prop) → Prop) × (Nat → WM → Nat → Nat → (Option Nat → WM → Prop) → Prop)
  | 0 => (fun _ _ _ _ _ => False, fun _ _ _ _ _ => False, fun _ _ _ _ _ => False)
  | d + 1 => (b_X7_sum (mg_sumg d).1 (mg_sumg d).2.1 (mg_sumg d).2.2, b_X7_product (mg_sumg d).1 (mg_sumg d).2.1 (mg_sumg d).2.2, b_X7_factor (mg_sumg d).1 (mg_sumg d).2.1 (mg_sumg d).2.2)
def m_X7_sum (d : Nat) : Nat → WM → Nat → Nat → (Option Nat → WM → Prop) → Prop := (mg_sumg d).1
def m_X7_product (d : Nat) : Nat → WM → Nat → Nat → (Option Nat → WM → Prop) → Prop := (mg_sumg d).2.1
def m_X7_factor (d : Nat) : Nat → WM → Nat → Nat → (Option Nat → WM → Prop) → Prop := (mg_sumg d).2.2
theorem cg_sumg (l : Launch) (D : va_G) (cA : Nat → ClassId) (sz0 : Nat) (H0 : Heap) : ∀ d : Nat, (∀ (t : Nat) (M : WM) (bc bs : Nat) (Q : Option Nat → WM → Prop) (sh : Shp M), m_X7_sum d t M bc bs Q → Met l yX7_sum (ws_ yX7_sum cX7_sum 4 (some (.object "LetterHeaps$Sum"))) ({ frames := 6 + d, cells := bc, slots := bs, locals := 300 + 40 * d } : Room) (PcW D cA sz0 H0 [.ref (sz0 + t)] M) (QW_r D cA sz0 H0 (fun o M' => Q o M' ∧ Shp M')) bc bs (Aw sz0)) ∧ (∀ (t : Nat) (M : WM) (bc bs : Nat) (Q : Option Nat → WM → Prop) (sh : Shp M), m_X7_product d t M bc bs Q → Met l yX7_product (ws_ yX7_product cX7_product 4 (some (.object "LetterHeaps$Sum"))) ({ frames := 6 + d, cells := bc, slots := bs, locals := 300 + 40 * d } : Room) (PcW D cA sz0 H0 [.ref (sz0 + t)] M) (QW_r D cA sz0 H0 (fun o M' => Q o M' ∧ Shp M')) bc bs (Aw sz0)) ∧ (∀ (t : Nat) (M : WM) (bc bs : Nat) (Q : Option Nat → WM → Prop) (sh : Shp M), m_X7_factor d t M bc bs Q → Met l yX7_factor (ws_ yX7_factor cX7_factor 3 (some (.object "LetterHeaps$Sum"))) ({ frames := 6 + d, cells := bc, slots := bs, locals := 300 + 40 * d } : Room) (PcW D cA sz0 H0 [.ref (sz0 + t)] M) (QW_r D cA sz0 H0 (fun o M' => Q o M' ∧ Shp M')) bc bs (Aw sz0)) := by
  intro d
  induction d with
  | zero => exact ⟨fun t M bc bs Q sh h => h.elim, fun t M bc bs Q sh h => h.elim, fun t M bc bs Q sh h => h.elim⟩
  | succ d ih => exact ⟨fun t M bc bs Q sh h => cb_X7_sum ih.1 ih.2.1 ih.2.2 M t bc bs Q sh h, fun t M bc bs Q sh h => cb_X7_product ih.1 ih.2.1 ih.2.2 M t bc bs Q sh h, fun t M bc bs Q sh h => cb_X7_factor ih.1 ih.2.1 ih.2.2 M t bc bs Q sh h⟩
theorem c_X7_sum (l : Launch) (D : va_G) (cA : Nat → ClassId) (sz0 : Nat) (H0 : Heap) (M : WM) (t : Nat) (d : Nat) (bc bs : Nat) (Q : Option Nat → WM → Prop) (sh : Shp M) (h : m_X7_sum d t M bc bs Q) : Met l yX7_sum (ws_ yX7_sum cX7_sum 4 (some (.object "LetterHeaps$Sum"))) ({ frames := 6 + d, cells := bc, slots := bs, locals := 300 + 40 * d } : Room) (PcW D cA sz0 H0 [.ref (sz0 + t)] M) (QW_r D cA sz0 H0 (fun o M' => Q o M' ∧ Shp M')) bc bs (Aw sz0) := (cg_sumg l D cA sz0 H0 d).1 t M bc bs Q sh h
theorem c_X7_product (l : Launch) (D : va_G) (cA : Nat → ClassId) (sz0 : Nat) (H0 : Heap) (M : WM) (t : Nat) (d : Nat) (bc bs : Nat) (Q : Option Nat → WM → Prop) (sh : Shp M) (h : m_X7_product d t M bc bs Q) : Met l yX7_product (ws_ yX7_product cX7_product 4 (some (.object "LetterHeaps$Sum"))) ({ frames := 6 + d, cells := bc, slots := bs, locals := 300 + 40 * d } : Room) (PcW D cA sz0 H0 [.ref (sz0 + t)] M) (QW_r D cA sz0 H0 (fun o M' => Q o M' ∧ Shp M')) bc bs (Aw sz0) := (cg_sumg l D cA sz0 H0 d).2.1 t M bc bs Q sh h
theorem c_X7_factor (l : Launch) (D : va_G) (cA : Nat → ClassId) (sz0 : Nat) (H0 : Heap) (M : WM) (t : Nat) (d : Nat) (bc bs : Nat) (Q : Option Nat → WM → Prop) (sh : Shp M) (h : m_X7_factor d t M bc bs Q) : Met l yX7_factor (ws_ yX7_factor cX7_factor 3 (some (.object "LetterHeaps$Sum"))) ({ frames := 6 + d, cells := bc, slots := bs, locals := 300 + 40 * d } : Room) (PcW D cA sz0 H0 [.ref (sz0 + t)] M) (QW_r D cA sz0 H0 (fun o M' => Q o M' ∧ Shp M')) bc bs (Aw sz0) := (cg_sumg l D cA sz0 H0 d).2.2 t M bc bs Q sh h
/-! LetterHeaps$Reader.piece()LLetterHeaps$Condition; -/
def m_X7_piece_j129 (Fpiece : Nat → WM → Nat → Nat → (Option Nat → WM → Prop) → Prop) (Fcondition : Nat → WM → Nat → Nat → (Option Nat → WM → Prop) → Prop) (Fpieces : Nat → WM → Nat → Nat → (Option Nat → WM → Prop) → Prop)  (y0 : Option Nat) (y1 : Int32) (y2 : Option Nat) (y3 : Nat) (y4 : Nat)  (bc bs : Nat) (Q : Option Nat → WM → Prop) (M : WM) (kc : Nat) (ks : Nat) : Prop := ((kc ≤ bc ∧ ks ≤ bs) ∧ (m_X15_init y3 y2 y1 y0 M (fun (M3 : WM) => (((kc + 0) ≤ bc ∧ (ks + 0) ≤ bs) ∧ Q (some y4) M3))))
theorem w_X7_piece_j129 {p : Program} {l : Launch} {e : Env} {s : State} {m : MethodId} {args : Array Value} {below : List Frame} {meth : Method} {c : Code} {D : va_G} {cA : Nat → ClassId} {sz0 : Nat} {H0 : Heap} {d : Nat} {Fpiece : Nat → WM → Nat → Nat → (Option Nat → WM → Prop) → Prop} {Fcondition : Nat → WM → Nat → Nat → (Option Nat → WM → Prop) → Prop} {Fpieces : Nat → WM → Nat → Nat → (Option Nat → WM → Prop) → Prop} {y0 : Option Nat} {y1 : Int32} {y2 : Option Nat} {y3 : Nat} {y4 : Nat} {bc bs : Nat} {Q : Option Nat → WM → Prop}  (cx : Cx p s m args meth c cX7_piece 4 RX7 (some (.object "LetterHeaps$Condition")) D cA sz0 H0) (hFpiece : ∀ (t : Nat) (M : WM) (bc bs : Nat) (Q : Option Nat → WM → Prop) (sh : Shp M), Fpiece t M bc bs Q → Met l yX7_piece (ws_ yX7_piece cX7_piece 4 (some (.object "LetterHeaps$Condition"))) ({ frames := 77 + d, cells := bc, slots := bs, locals := 3123 + 40 * d } : Room) (PcW D cA sz0 H0 [.ref (sz0 + t)] M) (QW_r D cA sz0 H0 (fun o M' => Q o M' ∧ Shp M')) bc bs (Aw sz0)) (hFcondition : ∀ (t : Nat) (M : WM) (bc bs : Nat) (Q : Option Nat → WM → Prop) (sh : Shp M), Fcondition t M bc bs Q → Met l yX7_condition (ws_ yX7_condition cX7_condition 3 (some (.object "LetterHeaps$Condition"))) ({ frames := 77 + d, cells := bc, slots := bs, locals := 3123 + 40 * d } : Room) (PcW D cA sz0 H0 [.ref (sz0 + t)] M) (QW_r D cA sz0 H0 (fun o M' => Q o M' ∧ Shp M')) bc bs (Aw sz0)) (hFpieces : ∀ (t : Nat) (M : WM) (bc bs : Nat) (Q : Option Nat → WM → Prop) (sh : Shp M), Fpieces t M bc bs Q → Met l yX7_pieces (ws_ yX7_pieces cX7_pieces 3 (some (.object "LetterHeaps$Condition"))) ({ frames := 77 + d, cells := bc, slots := bs, locals := 3123 + 40 * d } : Room) (PcW D cA sz0 H0 [.ref (sz0 + t)] M) (QW_r D cA sz0 H0 (fun o M' => Q o M' ∧ Shp M')) bc bs (Aw sz0))      (M : WM) (sh : Shp M) (kc ks : Nat) (h : m_X7_piece_j129 Fpiece Fcondition Fpieces y0 y1 y2 y3 y4 bc bs Q M kc ks) : V p l e ({ frames := 77 + (d + 1), cells := bc, slots := bs, locals := 3123 + 40 * (d + 1) } : Room) s m args below meth c 4 D cA sz0 H0 kc ks (MQ below (QW_r D cA sz0 H0 (fun o M' => Q o M' ∧ Shp M')) args s bc bs (Aw sz0)) 129 [] [vr sz0 y0, .int y1, vr sz0 y2, .ref (sz0 + y3), .ref (sz0 + y4)] M := by
  replace h : ((kc ≤ bc ∧ ks ≤ bs) ∧ (m_X15_init y3 y2 y1 y0 M (fun (M3 : WM) => (((kc + 0) ≤ bc ∧ (ks + 0) ≤ bs) ∧ Q (some y4) M3)))) := h
  obtain ⟨hb1, h⟩ := h
  refine v_run_v (pc := 129) cx (kcq672_X7 cx (c_X15_init l D cA sz0 H0 M y3 y2 y1 y0  _ sh h) ⟨by dsimp only; omega, by dsimp only; omega⟩ (As := [vr sz0 y2, .int y1, vr sz0 y0]) rfl rfl (Nat.le_of_ble_eq_true rfl) dX7_piece_129 ⟨hb1.1, hb1.2⟩) (fun M3 hq => ?_)
  obtain ⟨h, sh⟩ := hq
  obtain ⟨q4, h⟩ := h
  exact v_aret (o := some y4) cx rfl dX7_piece_132 q4 ⟨h, sh⟩
def m_X7_piece_j98 (Fpiece : Nat → WM → Nat → Nat → (Option Nat → WM → Prop) → Prop) (Fcondition : Nat → WM → Nat → Nat → (Option Nat → WM → Prop) → Prop) (Fpieces : Nat → WM → Nat → Nat → (Option Nat → WM → Prop) → Prop)  (x0 : Nat) (x2 : Option Nat) (x3 : Int32)  (bc bs : Nat) (Q : Option Nat → WM → Prop) (M : WM) (kc : Nat) (ks : Nat) : Prop := (wk M x0 = 6 ∧ (wk M x0 = 6 ∧ (∀ M3 : WM, M3 = wPI M x0 2 (((wI M x0 2) + (1 : Int32))) → ((kc + 1 ≤ bc ∧ ks + 3 ≤ bs) ∧ (∀ r5, r5 = wn M3 → (∀ M6 : WM, M6 = wNw M3 12 0 → (wk M6 x0 = 6 ∧ (((kc + 1) ≤ bc ∧ (ks + 3) ≤ bs) ∧ (m_X7_isGood x0 M6 (fun (a9 : Int32) => ((a9 = 0 → m_X7_piece_j129 Fpiece Fcondition Fpieces none x3 x2 r5 r5 bc bs Q M6 (((kc + 1) + 0)) (((ks + 3) + 0))) ∧ (¬ a9 = 0 → (wk M6 x0 = 6 ∧ (∃ d0, d0 ≤ 70 ∧ (∃ mc12 ms13, ((kc + 1) + 0) + mc12 ≤ bc ∧ ((ks + 3) + 0) + ms13 ≤ bs ∧ (m_X7_sum d0 x0 M6 mc12 ms13 (fun (a14 : Option Nat) (M15 : WM) => m_X7_piece_j129 Fpiece Fcondition Fpieces a14 x3 x2 r5 r5 bc bs Q M15 ((((kc + 1) + 0) + mc12)) ((((ks + 3) + 0) + ms13)))))))))))))))))))
theorem w_X7_piece_j98 {p : Program} {l : Launch} {e : Env} {s : State} {m : MethodId} {args : Array Value} {below : List Frame} {meth : Method} {c : Code} {D : va_G} {cA : Nat → ClassId} {sz0 : Nat} {H0 : Heap} {d : Nat} {Fpiece : Nat → WM → Nat → Nat → (Option Nat → WM → Prop) → Prop} {Fcondition : Nat → WM → Nat → Nat → (Option Nat → WM → Prop) → Prop} {Fpieces : Nat → WM → Nat → Nat → (Option Nat → WM → Prop) → Prop} {x0 : Nat} {x2 : Option Nat} {x3 : Int32} {bc bs : Nat} {Q : Option Nat → WM → Prop}  (cx : Cx p s m args meth c cX7_piece 4 RX7 (some (.object "LetterHeaps$Condition")) D cA sz0 H0) (hFpiece : ∀ (t : Nat) (M : WM) (bc bs : Nat) (Q : Option Nat → WM → Prop) (sh : Shp M), Fpiece t M bc bs Q → Met l yX7_piece (ws_ yX7_piece cX7_piece 4 (some (.object "LetterHeaps$Condition"))) ({ frames := 77 + d, cells := bc, slots := bs, locals := 3123 + 40 * d } : Room) (PcW D cA sz0 H0 [.ref (sz0 + t)] M) (QW_r D cA sz0 H0 (fun o M' => Q o M' ∧ Shp M')) bc bs (Aw sz0)) (hFcondition : ∀ (t : Nat) (M : WM) (bc bs : Nat) (Q : Option Nat → WM → Prop) (sh : Shp M), Fcondition t M bc bs Q → Met l yX7_condition (ws_ yX7_condition cX7_condition 3 (some (.object "LetterHeaps$Condition"))) ({ frames := 77 + d, cells := bc, slots := bs, locals := 3123 + 40 * d } : Room) (PcW D cA sz0 H0 [.ref (sz0 + t)] M) (QW_r D cA sz0 H0 (fun o M' => Q o M' ∧ Shp M')) bc bs (Aw sz0)) (hFpieces : ∀ (t : Nat) (M : WM) (bc bs : Nat) (Q : Option Nat → WM → Prop) (sh : Shp M), Fpieces t M bc bs Q → Met l yX7_pieces (ws_ yX7_pieces cX7_pieces 3 (some (.object "LetterHeaps$Condition"))) ({ frames := 77 + d, cells := bc, slots := bs, locals := 3123 + 40 * d } : Room) (PcW D cA sz0 H0 [.ref (sz0 + t)] M) (QW_r D cA sz0 H0 (fun o M' => Q o M' ∧ Shp M')) bc bs (Aw sz0))      (M : WM) (sh : Shp M) (kc ks : Nat) (h : m_X7_piece_j98 Fpiece Fcondition Fpieces x0 x2 x3 bc bs Q M kc ks) : V p l e ({ frames := 77 + (d + 1), cells := bc, slots := bs, locals := 3123 + 40 * (d + 1) } : Room) s m args below meth c 4 D cA sz0 H0 kc ks (MQ below (QW_r D cA sz0 H0 (fun o M' => Q o M' ∧ Shp M')) args s bc bs (Aw sz0)) 98 [(0, .ref (sz0 + x0)), (2, vr sz0 x2), (3, .int x3)] [] M := by
  replace h : (wk M x0 = 6 ∧ (wk M x0 = 6 ∧ (∀ M3 : WM, M3 = wPI M x0 2 (((wI M x0 2) + (1 : Int32))) → ((kc + 1 ≤ bc ∧ ks + 3 ≤ bs) ∧ (∀ r5, r5 = wn M3 → (∀ M6 : WM, M6 = wNw M3 12 0 → (wk M6 x0 = 6 ∧ (((kc + 1) ≤ bc ∧ (ks + 3) ≤ bs) ∧ (m_X7_isGood x0 M6 (fun (a9 : Int32) => ((a9 = 0 → m_X7_piece_j129 Fpiece Fcondition Fpieces none x3 x2 r5 r5 bc bs Q M6 (((kc + 1) + 0)) (((ks + 3) + 0))) ∧ (¬ a9 = 0 → (wk M6 x0 = 6 ∧ (∃ d0, d0 ≤ 70 ∧ (∃ mc12 ms13, ((kc + 1) + 0) + mc12 ≤ bc ∧ ((ks + 3) + 0) + ms13 ≤ bs ∧ (m_X7_sum d0 x0 M6 mc12 ms13 (fun (a14 : Option Nat) (M15 : WM) => m_X7_piece_j129 Fpiece Fcondition Fpieces a14 x3 x2 r5 r5 bc bs Q M15 ((((kc + 1) + 0) + mc12)) ((((ks + 3) + 0) + ms13))))))))))))))))))) := h
  refine v_aload_n (pc := 98) cx dX7_piece_98 rfl 0 rfl ?_
  refine v_dup (pc := 99) cx dX7_piece_99 rfl ?_
  obtain ⟨k1, h⟩ := h
  refine gq448_X7 (pc := 100) cx dX7_piece_100 k1 ?_
  refine v_iconst (pc := 103) cx dX7_piece_103 ic_1 ?_
  refine v_iadd (pc := 104) cx dX7_piece_104 ?_
  obtain ⟨k2, h⟩ := h
  refine pq448_X7 (pc := 105) cx dX7_piece_105 k2 ?_
  refine v_wld (fun M3 eM3 => ?_)
  replace h := h M3 eM3
  replace sh : Shp M3 := Shp_PI sh eM3
  obtain ⟨q4, h⟩ := h
  refine v_new (pc := 108) cx cl_X15 (by decide) in_X15 tyX15 tyX15_ok q670 q671 q142 df_X15 q4.1 q4.2 dX7_piece_108 ?_
  refine v_topr (fun r5 er5 => ?_)
  replace h := h r5 er5
  refine v_wld (fun M6 eM6 => ?_)
  replace h := h M6 eM6
  replace sh : Shp M6 := Shp_Nw sh eM6
  refine v_dup (pc := 111) cx dX7_piece_111 rfl ?_
  refine v_aload_nQ (pc := 112) cx dX7_piece_112 rfl 1 rfl ?_
  refine v_iload_n (pc := 113) cx dX7_piece_113 rfl 2 rfl ?_
  refine v_aload_n (pc := 114) cx dX7_piece_114 rfl 0 rfl ?_
  obtain ⟨k7, h⟩ := h
  obtain ⟨hb8, h⟩ := h
  refine v_runp_i (pc := 115) cx (kcq472_X7 cx (c_X7_isGood l D cA sz0 H0 M6 x0  _ sh h) ⟨by dsimp only; omega, by dsimp only; omega⟩ k7 (As := []) rfl rfl (by cases x2 <;> exact Nat.le_of_ble_eq_true rfl) dX7_piece_115 ⟨hb8.1, hb8.2⟩) (fun a9 hq => ?_)
  replace h := hq
  refine v_if_eq (pc := 118) cx dX7_piece_118 (tgt := 128) rfl (fun c10 => ?_) (fun c10 => ?_)
  · replace h := h.1 c10
    refine v_null (pc := 128) cx dX7_piece_128 ?_
    refine v_sub (lv' := []) [] rfl ?_
    exact w_X7_piece_j129 cx hFpiece hFcondition hFpieces M6 sh (((kc + 1) + 0)) (((ks + 3) + 0)) h
  · replace h := h.2 c10
    refine v_aload_n (pc := 121) cx dX7_piece_121 rfl 0 rfl ?_
    obtain ⟨k11, h⟩ := h
    obtain ⟨d0, hd0, h⟩ := h
    obtain ⟨mc12, ms13, hmc, hms, h⟩ := h
    refine v_run_r (pc := 122) cx (kcq488_X7 cx (c_X7_sum l D cA sz0 H0 M6 x0  d0 mc12 ms13 _ sh h) ⟨by dsimp only; omega, by dsimp only; omega⟩ k11 (As := []) rfl rfl (by cases x2 <;> exact Nat.le_of_ble_eq_true rfl) dX7_piece_122 ⟨hmc, hms⟩) (fun a14 M15 hq => ?_)
    obtain ⟨h, sh⟩ := hq
    refine v_goto (pc := 125) cx dX7_piece_125 (tgt := 129) rfl ?_
    refine v_sub (lv' := []) [] rfl ?_
    exact w_X7_piece_j129 cx hFpiece hFcondition hFpieces M15 sh ((((kc + 1) + 0) + mc12)) ((((ks + 3) + 0) + ms13)) h
def m_X7_piece_j30 (Fpiece : Nat → WM → Nat → Nat → (Option Nat → WM → Prop) → Prop) (Fcondition : Nat → WM → Nat → Nat → (Option Nat → WM → Prop) → Prop) (Fpieces : Nat → WM → Nat → Nat → (Option Nat → WM → Prop) → Prop)  (x0 : Nat) (y0 : Option Nat)  (bc bs : Nat) (Q : Option Nat → WM → Prop) (M : WM) (kc : Nat) (ks : Nat) : Prop := (wk M x0 = 6 ∧ (wk M x0 = 6 ∧ (∀ M3 : WM, M3 = wPI M x0 3 (((wI M x0 3) - (1 : Int32))) → ((kc + 1 ≤ bc ∧ ks + 1 ≤ bs) ∧ (∀ r5, r5 = wn M3 → (∀ M6 : WM, M6 = wNw M3 11 0 → (((kc + 1) ≤ bc ∧ (ks + 1) ≤ bs) ∧ (m_X14_init r5 y0 M6 (fun (M9 : WM) => ((((kc + 1) + 0) ≤ bc ∧ ((ks + 1) + 0) ≤ bs) ∧ Q (some r5) M9))))))))))
theorem w_X7_piece_j30 {p : Program} {l : Launch} {e : Env} {s : State} {m : MethodId} {args : Array Value} {below : List Frame} {meth : Method} {c : Code} {D : va_G} {cA : Nat → ClassId} {sz0 : Nat} {H0 : Heap} {d : Nat} {Fpiece : Nat → WM → Nat → Nat → (Option Nat → WM → Prop) → Prop} {Fcondition : Nat → WM → Nat → Nat → (Option Nat → WM → Prop) → Prop} {Fpieces : Nat → WM → Nat → Nat → (Option Nat → WM → Prop) → Prop} {x0 : Nat} {y0 : Option Nat} {bc bs : Nat} {Q : Option Nat → WM → Prop}  (cx : Cx p s m args meth c cX7_piece 4 RX7 (some (.object "LetterHeaps$Condition")) D cA sz0 H0) (hFpiece : ∀ (t : Nat) (M : WM) (bc bs : Nat) (Q : Option Nat → WM → Prop) (sh : Shp M), Fpiece t M bc bs Q → Met l yX7_piece (ws_ yX7_piece cX7_piece 4 (some (.object "LetterHeaps$Condition"))) ({ frames := 77 + d, cells := bc, slots := bs, locals := 3123 + 40 * d } : Room) (PcW D cA sz0 H0 [.ref (sz0 + t)] M) (QW_r D cA sz0 H0 (fun o M' => Q o M' ∧ Shp M')) bc bs (Aw sz0)) (hFcondition : ∀ (t : Nat) (M : WM) (bc bs : Nat) (Q : Option Nat → WM → Prop) (sh : Shp M), Fcondition t M bc bs Q → Met l yX7_condition (ws_ yX7_condition cX7_condition 3 (some (.object "LetterHeaps$Condition"))) ({ frames := 77 + d, cells := bc, slots := bs, locals := 3123 + 40 * d } : Room) (PcW D cA sz0 H0 [.ref (sz0 + t)] M) (QW_r D cA sz0 H0 (fun o M' => Q o M' ∧ Shp M')) bc bs (Aw sz0)) (hFpieces : ∀ (t : Nat) (M : WM) (bc bs : Nat) (Q : Option Nat → WM → Prop) (sh : Shp M), Fpieces t M bc bs Q → Met l yX7_pieces (ws_ yX7_pieces cX7_pieces 3 (some (.object "LetterHeaps$Condition"))) ({ frames := 77 + d, cells := bc, slots := bs, locals := 3123 + 40 * d } : Room) (PcW D cA sz0 H0 [.ref (sz0 + t)] M) (QW_r D cA sz0 H0 (fun o M' => Q o M' ∧ Shp M')) bc bs (Aw sz0))      (M : WM) (sh : Shp M) (kc ks : Nat) (h : m_X7_piece_j30 Fpiece Fcondition Fpieces x0 y0 bc bs Q M kc ks) : V p l e ({ frames := 77 + (d + 1), cells := bc, slots := bs, locals := 3123 + 40 * (d + 1) } : Room) s m args below meth c 4 D cA sz0 H0 kc ks (MQ below (QW_r D cA sz0 H0 (fun o M' => Q o M' ∧ Shp M')) args s bc bs (Aw sz0)) 30 [(0, .ref (sz0 + x0))] [vr sz0 y0] M := by
  replace h : (wk M x0 = 6 ∧ (wk M x0 = 6 ∧ (∀ M3 : WM, M3 = wPI M x0 3 (((wI M x0 3) - (1 : Int32))) → ((kc + 1 ≤ bc ∧ ks + 1 ≤ bs) ∧ (∀ r5, r5 = wn M3 → (∀ M6 : WM, M6 = wNw M3 11 0 → (((kc + 1) ≤ bc ∧ (ks + 1) ≤ bs) ∧ (m_X14_init r5 y0 M6 (fun (M9 : WM) => ((((kc + 1) + 0) ≤ bc ∧ ((ks + 1) + 0) ≤ bs) ∧ Q (some r5) M9)))))))))) := h
  refine v_astore_nQ (pc := 30) cx dX7_piece_30 rfl (Nat.le_of_ble_eq_true rfl) (lv' := [(2, vr sz0 y0), (0, .ref (sz0 + x0))]) rfl ?_
  refine v_aload_n (pc := 31) cx dX7_piece_31 rfl 1 rfl ?_
  refine v_dup (pc := 32) cx dX7_piece_32 rfl ?_
  obtain ⟨k1, h⟩ := h
  refine gq449_X7 (pc := 33) cx dX7_piece_33 k1 ?_
  refine v_iconst (pc := 36) cx dX7_piece_36 ic_1 ?_
  refine v_isub (pc := 37) cx dX7_piece_37 ?_
  obtain ⟨k2, h⟩ := h
  refine pq449_X7 (pc := 38) cx dX7_piece_38 k2 ?_
  refine v_wld (fun M3 eM3 => ?_)
  replace h := h M3 eM3
  replace sh : Shp M3 := Shp_PI sh eM3
  obtain ⟨q4, h⟩ := h
  refine v_new (pc := 41) cx cl_X14 (by decide) in_X14 tyX14 tyX14_ok q657 q658 q141 df_X14 q4.1 q4.2 dX7_piece_41 ?_
  refine v_topr (fun r5 er5 => ?_)
  replace h := h r5 er5
  refine v_wld (fun M6 eM6 => ?_)
  replace h := h M6 eM6
  replace sh : Shp M6 := Shp_Nw sh eM6
  refine v_dup (pc := 44) cx dX7_piece_44 rfl ?_
  refine v_aload_nQ (pc := 45) cx dX7_piece_45 rfl 0 rfl ?_
  obtain ⟨hb7, h⟩ := h
  refine v_run_v (pc := 46) cx (kcq659_X7 cx (c_X14_init l D cA sz0 H0 M6 r5 y0  _ sh h) ⟨by dsimp only; omega, by dsimp only; omega⟩ (As := [vr sz0 y0]) rfl rfl (Nat.le_of_ble_eq_true rfl) dX7_piece_46 ⟨hb7.1, hb7.2⟩) (fun M9 hq => ?_)
  obtain ⟨h, sh⟩ := hq
  obtain ⟨q10, h⟩ := h
  exact v_aret (o := some r5) cx rfl dX7_piece_49 q10 ⟨h, sh⟩
def b_X7_piece (Fpiece : Nat → WM → Nat → Nat → (Option Nat → WM → Prop) → Prop) (Fcondition : Nat → WM → Nat → Nat → (Option Nat → WM → Prop) → Prop) (Fpieces : Nat → WM → Nat → Nat → (Option Nat → WM → Prop) → Prop) (t : Nat) (M : WM) (bc bs : Nat) (Q : Option Nat → WM → Prop) : Prop := (wk M t = 6 ∧ ((0 ≤ bc ∧ 0 ≤ bs) ∧ (m_X7_here t M (fun (a3 : Int32) => ((a3 = (33 : Int32) → (wk M t = 6 ∧ (((0 + 0) ≤ bc ∧ (0 + 0) ≤ bs) ∧ (m_X7_opens t M (fun (M31 : WM) => (wk M31 t = 6 ∧ ((((0 + 0) + 0) ≤ bc ∧ ((0 + 0) + 0) ≤ bs) ∧ (m_X7_isGood t M31 (fun (a34 : Int32) => ((a34 = 0 → m_X7_piece_j30 Fpiece Fcondition Fpieces t none bc bs Q M31 ((((0 + 0) + 0) + 0)) ((((0 + 0) + 0) + 0))) ∧ (¬ a34 = 0 → (wk M31 t = 6 ∧ (∃ mc37 ms38, (((0 + 0) + 0) + 0) + mc37 ≤ bc ∧ (((0 + 0) + 0) + 0) + ms38 ≤ bs ∧ (Fpiece t M31 mc37 ms38 (fun (a39 : Option Nat) (M40 : WM) => m_X7_piece_j30 Fpiece Fcondition Fpieces t a39 bc bs Q M40 (((((0 + 0) + 0) + 0) + mc37)) (((((0 + 0) + 0) + 0) + ms38))))))))))))))))) ∧ (¬ a3 = (33 : Int32) → ((a3 = (40 : Int32) → (wk M t = 6 ∧ (∃ mc23 ms24, (0 + 0) + mc23 ≤ bc ∧ (0 + 0) + ms24 ≤ bs ∧ (Fcondition t M mc23 ms24 (fun (a25 : Option Nat) (M26 : WM) => ((((0 + 0) + mc23) ≤ bc ∧ ((0 + 0) + ms24) ≤ bs) ∧ Q a25 M26)))))) ∧ (¬ a3 = (40 : Int32) → (wk M t = 6 ∧ (∃ d0, d0 ≤ 70 ∧ (∃ mc7 ms8, (0 + 0) + mc7 ≤ bc ∧ (0 + 0) + ms8 ≤ bs ∧ (m_X7_sum d0 t M mc7 ms8 (fun (a9 : Option Nat) (M10 : WM) => (wk M10 t = 6 ∧ ((((0 + 0) + mc7) ≤ bc ∧ ((0 + 0) + ms8) ≤ bs) ∧ (m_X7_here t M10 (fun (a13 : Int32) => ((a13 = (60 : Int32) → m_X7_piece_j98 Fpiece Fcondition Fpieces t a9 a13 bc bs Q M10 ((((0 + 0) + mc7) + 0)) ((((0 + 0) + ms8) + 0))) ∧ (¬ a13 = (60 : Int32) → ((a13 = (62 : Int32) → m_X7_piece_j98 Fpiece Fcondition Fpieces t a9 a13 bc bs Q M10 ((((0 + 0) + mc7) + 0)) ((((0 + 0) + ms8) + 0))) ∧ (¬ a13 = (62 : Int32) → ((a13 = (61 : Int32) → m_X7_piece_j98 Fpiece Fcondition Fpieces t a9 a13 bc bs Q M10 ((((0 + 0) + mc7) + 0)) ((((0 + 0) + ms8) + 0))) ∧ (¬ a13 = (61 : Int32) → (wk M10 t = 6 ∧ (wk M10 t = 6 ∧ (((((0 + 0) + mc7) + 0) ≤ bc ∧ (((0 + 0) + ms8) + 0) ≤ bs) ∧ (m_X7_bad t ((1 : Int32)) ((wI M10 t 2)) M10 (fun (M21 : WM) => m_X7_piece_j98 Fpiece Fcondition Fpieces t a9 a13 bc bs Q M21 (((((0 + 0) + mc7) + 0) + 0)) (((((0 + 0) + ms8) + 0) + 0))))))))))))))))))))))))))))))
theorem cb_X7_piece {l : Launch} {D : va_G} {cA : Nat → ClassId} {sz0 : Nat} {H0 : Heap} {d : Nat} {Fpiece : Nat → WM → Nat → Nat → (Option Nat → WM → Prop) → Prop} {Fcondition : Nat → WM → Nat → Nat → (Option Nat → WM → Prop) → Prop} {Fpieces : Nat → WM → Nat → Nat → (Option Nat → WM → Prop) → Prop} (hFpiece : ∀ (t : Nat) (M : WM) (bc bs : Nat) (Q : Option Nat → WM → Prop) (sh : Shp M), Fpiece t M bc bs Q → Met l yX7_piece (ws_ yX7_piece cX7_piece 4 (some (.object "LetterHeaps$Condition"))) ({ frames := 77 + d, cells := bc, slots := bs, locals := 3123 + 40 * d } : Room) (PcW D cA sz0 H0 [.ref (sz0 + t)] M) (QW_r D cA sz0 H0 (fun o M' => Q o M' ∧ Shp M')) bc bs (Aw sz0)) (hFcondition : ∀ (t : Nat) (M : WM) (bc bs : Nat) (Q : Option Nat → WM → Prop) (sh : Shp M), Fcondition t M bc bs Q → Met l yX7_condition (ws_ yX7_condition cX7_condition 3 (some (.object "LetterHeaps$Condition"))) ({ frames := 77 + d, cells := bc, slots := bs, locals := 3123 + 40 * d } : Room) (PcW D cA sz0 H0 [.ref (sz0 + t)] M) (QW_r D cA sz0 H0 (fun o M' => Q o M' ∧ Shp M')) bc bs (Aw sz0)) (hFpieces : ∀ (t : Nat) (M : WM) (bc bs : Nat) (Q : Option Nat → WM → Prop) (sh : Shp M), Fpieces t M bc bs Q → Met l yX7_pieces (ws_ yX7_pieces cX7_pieces 3 (some (.object "LetterHeaps$Condition"))) ({ frames := 77 + d, cells := bc, slots := bs, locals := 3123 + 40 * d } : Room) (PcW D cA sz0 H0 [.ref (sz0 + t)] M) (QW_r D cA sz0 H0 (fun o M' => Q o M' ∧ Shp M')) bc bs (Aw sz0)) (M : WM) (t : Nat)  (bc bs : Nat) (Q : Option Nat → WM → Prop) (sh : Shp M) (h : b_X7_piece Fpiece Fcondition Fpieces t M bc bs Q) : Met l yX7_piece (ws_ yX7_piece cX7_piece 4 (some (.object "LetterHeaps$Condition"))) ({ frames := 77 + (d + 1), cells := bc, slots := bs, locals := 3123 + 40 * (d + 1) } : Room) (PcW D cA sz0 H0 [.ref (sz0 + t)] M) (QW_r D cA sz0 H0 (fun o M' => Q o M' ∧ Shp M')) bc bs (Aw sz0) := by
  replace h : (wk M t = 6 ∧ ((0 ≤ bc ∧ 0 ≤ bs) ∧ (m_X7_here t M (fun (a3 : Int32) => ((a3 = (33 : Int32) → (wk M t = 6 ∧ (((0 + 0) ≤ bc ∧ (0 + 0) ≤ bs) ∧ (m_X7_opens t M (fun (M31 : WM) => (wk M31 t = 6 ∧ ((((0 + 0) + 0) ≤ bc ∧ ((0 + 0) + 0) ≤ bs) ∧ (m_X7_isGood t M31 (fun (a34 : Int32) => ((a34 = 0 → m_X7_piece_j30 Fpiece Fcondition Fpieces t none bc bs Q M31 ((((0 + 0) + 0) + 0)) ((((0 + 0) + 0) + 0))) ∧ (¬ a34 = 0 → (wk M31 t = 6 ∧ (∃ mc37 ms38, (((0 + 0) + 0) + 0) + mc37 ≤ bc ∧ (((0 + 0) + 0) + 0) + ms38 ≤ bs ∧ (Fpiece t M31 mc37 ms38 (fun (a39 : Option Nat) (M40 : WM) => m_X7_piece_j30 Fpiece Fcondition Fpieces t a39 bc bs Q M40 (((((0 + 0) + 0) + 0) + mc37)) (((((0 + 0) + 0) + 0) + ms38))))))))))))))))) ∧ (¬ a3 = (33 : Int32) → ((a3 = (40 : Int32) → (wk M t = 6 ∧ (∃ mc23 ms24, (0 + 0) + mc23 ≤ bc ∧ (0 + 0) + ms24 ≤ bs ∧ (Fcondition t M mc23 ms24 (fun (a25 : Option Nat) (M26 : WM) => ((((0 + 0) + mc23) ≤ bc ∧ ((0 + 0) + ms24) ≤ bs) ∧ Q a25 M26)))))) ∧ (¬ a3 = (40 : Int32) → (wk M t = 6 ∧ (∃ d0, d0 ≤ 70 ∧ (∃ mc7 ms8, (0 + 0) + mc7 ≤ bc ∧ (0 + 0) + ms8 ≤ bs ∧ (m_X7_sum d0 t M mc7 ms8 (fun (a9 : Option Nat) (M10 : WM) => (wk M10 t = 6 ∧ ((((0 + 0) + mc7) ≤ bc ∧ ((0 + 0) + ms8) ≤ bs) ∧ (m_X7_here t M10 (fun (a13 : Int32) => ((a13 = (60 : Int32) → m_X7_piece_j98 Fpiece Fcondition Fpieces t a9 a13 bc bs Q M10 ((((0 + 0) + mc7) + 0)) ((((0 + 0) + ms8) + 0))) ∧ (¬ a13 = (60 : Int32) → ((a13 = (62 : Int32) → m_X7_piece_j98 Fpiece Fcondition Fpieces t a9 a13 bc bs Q M10 ((((0 + 0) + mc7) + 0)) ((((0 + 0) + ms8) + 0))) ∧ (¬ a13 = (62 : Int32) → ((a13 = (61 : Int32) → m_X7_piece_j98 Fpiece Fcondition Fpieces t a9 a13 bc bs Q M10 ((((0 + 0) + mc7) + 0)) ((((0 + 0) + ms8) + 0))) ∧ (¬ a13 = (61 : Int32) → (wk M10 t = 6 ∧ (wk M10 t = 6 ∧ (((((0 + 0) + mc7) + 0) ≤ bc ∧ (((0 + 0) + ms8) + 0) ≤ bs) ∧ (m_X7_bad t ((1 : Int32)) ((wI M10 t 2)) M10 (fun (M21 : WM) => m_X7_piece_j98 Fpiece Fcondition Fpieces t a9 a13 bc bs Q M21 (((((0 + 0) + mc7) + 0) + 0)) (((((0 + 0) + ms8) + 0) + 0)))))))))))))))))))))))))))))) := h
  refine Met.ofV (by decide +kernel) (Nat.le_of_ble_eq_true rfl) ?_
  intro p e s m args below meth c cx hnm
  replace cx : Cx p s m args meth c cX7_piece 4 RX7 (some (.object "LetterHeaps$Condition")) D cA sz0 H0 := cx
  refine v_sub (lv' := [(0, .ref (sz0 + t))]) [0] rfl ?_
  refine v_aload_n (pc := 0) cx dX7_piece_0 rfl 0 rfl ?_
  obtain ⟨k1, h⟩ := h
  obtain ⟨hb2, h⟩ := h
  refine v_runp_i (pc := 1) cx (kcq480_X7 cx (c_X7_here l D cA sz0 H0 M t  _ sh h) ⟨by dsimp only; omega, by dsimp only; omega⟩ k1 (As := []) rfl rfl (Nat.le_of_ble_eq_true rfl) dX7_piece_1 ⟨hb2.1, hb2.2⟩) (fun a3 hq => ?_)
  replace h := hq
  refine v_istore_n (pc := 4) cx dX7_piece_4 rfl (Nat.le_of_ble_eq_true rfl) (lv' := [(1, .int a3), (0, .ref (sz0 + t))]) rfl ?_
  refine v_iload_n (pc := 5) cx dX7_piece_5 rfl 0 rfl ?_
  refine v_bipush (pc := 6) cx dX7_piece_6 bc_33 ?_
  refine v_icmp_ne (pc := 8) cx dX7_piece_8 (tgt := 50) rfl (fun c4 => ?_) (fun c4 => ?_)
  · replace h := h.2 c4
    refine v_iload_n (pc := 50) cx dX7_piece_50 rfl 0 rfl ?_
    refine v_bipush (pc := 51) cx dX7_piece_51 bc_40 ?_
    refine v_icmp_ne (pc := 53) cx dX7_piece_53 (tgt := 61) rfl (fun c5 => ?_) (fun c5 => ?_)
    · replace h := h.2 c5
      refine v_aload_n (pc := 61) cx dX7_piece_61 rfl 1 rfl ?_
      obtain ⟨k6, h⟩ := h
      obtain ⟨d0, hd0, h⟩ := h
      obtain ⟨mc7, ms8, hmc, hms, h⟩ := h
      refine v_run_r (pc := 62) cx (kcq488_X7 cx (c_X7_sum l D cA sz0 H0 M t  d0 mc7 ms8 _ sh h) ⟨by dsimp only; omega, by dsimp only; omega⟩ k6 (As := []) rfl rfl (Nat.le_of_ble_eq_true rfl) dX7_piece_62 ⟨hmc, hms⟩) (fun a9 M10 hq => ?_)
      obtain ⟨h, sh⟩ := hq
      refine v_astore_nQ (pc := 65) cx dX7_piece_65 rfl (Nat.le_of_ble_eq_true rfl) (lv' := [(2, vr sz0 a9), (1, .int a3), (0, .ref (sz0 + t))]) rfl ?_
      refine v_aload_n (pc := 66) cx dX7_piece_66 rfl 2 rfl ?_
      obtain ⟨k11, h⟩ := h
      obtain ⟨hb12, h⟩ := h
      refine v_runp_i (pc := 67) cx (kcq480_X7 cx (c_X7_here l D cA sz0 H0 M10 t  _ sh h) ⟨by dsimp only; omega, by dsimp only; omega⟩ k11 (As := []) rfl rfl (Nat.le_of_ble_eq_true rfl) dX7_piece_67 ⟨hb12.1, hb12.2⟩) (fun a13 hq => ?_)
      replace h := hq
      refine v_istore_n (pc := 70) cx dX7_piece_70 rfl (Nat.le_of_ble_eq_true rfl) (lv' := [(3, .int a13), (2, vr sz0 a9), (1, .int a3), (0, .ref (sz0 + t))]) (by cases a9 <;> rfl) ?_
      refine v_iload_n (pc := 71) cx dX7_piece_71 rfl 0 rfl ?_
      refine v_bipush (pc := 72) cx dX7_piece_72 bc_60 ?_
      refine v_icmp_eq (pc := 74) cx dX7_piece_74 (tgt := 98) rfl (fun c14 => ?_) (fun c14 => ?_)
      · replace h := h.1 c14
        refine v_sub (lv' := [(0, .ref (sz0 + t)), (2, vr sz0 a9), (3, .int a13)]) [3, 1, 0] rfl ?_
        exact w_X7_piece_j98 cx hFpiece hFcondition hFpieces M10 sh ((((0 + 0) + mc7) + 0)) ((((0 + 0) + ms8) + 0)) h
      · replace h := h.2 c14
        refine v_iload_n (pc := 77) cx dX7_piece_77 rfl 0 rfl ?_
        refine v_bipush (pc := 78) cx dX7_piece_78 bc_62 ?_
        refine v_icmp_eq (pc := 80) cx dX7_piece_80 (tgt := 98) rfl (fun c15 => ?_) (fun c15 => ?_)
        · replace h := h.1 c15
          refine v_sub (lv' := [(0, .ref (sz0 + t)), (2, vr sz0 a9), (3, .int a13)]) [3, 1, 0] rfl ?_
          exact w_X7_piece_j98 cx hFpiece hFcondition hFpieces M10 sh ((((0 + 0) + mc7) + 0)) ((((0 + 0) + ms8) + 0)) h
        · replace h := h.2 c15
          refine v_iload_n (pc := 83) cx dX7_piece_83 rfl 0 rfl ?_
          refine v_bipush (pc := 84) cx dX7_piece_84 bc_61 ?_
          refine v_icmp_eq (pc := 86) cx dX7_piece_86 (tgt := 98) rfl (fun c16 => ?_) (fun c16 => ?_)
          · replace h := h.1 c16
            refine v_sub (lv' := [(0, .ref (sz0 + t)), (2, vr sz0 a9), (3, .int a13)]) [3, 1, 0] rfl ?_
            exact w_X7_piece_j98 cx hFpiece hFcondition hFpieces M10 sh ((((0 + 0) + mc7) + 0)) ((((0 + 0) + ms8) + 0)) h
          · replace h := h.2 c16
            refine v_aload_n (pc := 89) cx dX7_piece_89 rfl 3 rfl ?_
            refine v_iconst (pc := 90) cx dX7_piece_90 ic_1 ?_
            refine v_aload_n (pc := 91) cx dX7_piece_91 rfl 3 rfl ?_
            obtain ⟨k17, h⟩ := h
            refine gq448_X7 (pc := 92) cx dX7_piece_92 k17 ?_
            obtain ⟨k18, h⟩ := h
            obtain ⟨hb19, h⟩ := h
            refine v_run_v (pc := 95) cx (kcq484_X7 cx (c_X7_bad l D cA sz0 H0 M10 t ((1 : Int32)) ((wI M10 t 2))  _ sh h) ⟨by dsimp only; omega, by dsimp only; omega⟩ k18 (As := [.int (1 : Int32), .int (wI M10 t 2)]) rfl rfl (Nat.le_of_ble_eq_true rfl) dX7_piece_95 ⟨hb19.1, hb19.2⟩) (fun M21 hq => ?_)
            obtain ⟨h, sh⟩ := hq
            refine v_sub (lv' := [(0, .ref (sz0 + t)), (2, vr sz0 a9), (3, .int a13)]) [3, 1, 0] rfl ?_
            exact w_X7_piece_j98 cx hFpiece hFcondition hFpieces M21 sh (((((0 + 0) + mc7) + 0) + 0)) (((((0 + 0) + ms8) + 0) + 0)) h
    · replace h := h.1 c5
      refine v_aload_n (pc := 56) cx dX7_piece_56 rfl 1 rfl ?_
      obtain ⟨k22, h⟩ := h
      obtain ⟨mc23, ms24, hmc, hms, h⟩ := h
      refine v_run_r (pc := 57) cx (kcq643_X7 cx (hFcondition t M mc23 ms24 _ sh h) ⟨by dsimp only; omega, by dsimp only; omega⟩ k22 (As := []) rfl rfl (Nat.le_of_ble_eq_true rfl) dX7_piece_57 ⟨hmc, hms⟩) (fun a25 M26 hq => ?_)
      obtain ⟨h, sh⟩ := hq
      obtain ⟨q27, h⟩ := h
      exact v_aret (o := a25) cx rfl dX7_piece_60 q27 ⟨h, sh⟩
  · replace h := h.1 c4
    refine v_aload_n (pc := 11) cx dX7_piece_11 rfl 1 rfl ?_
    obtain ⟨k28, h⟩ := h
    obtain ⟨hb29, h⟩ := h
    refine v_run_v (pc := 12) cx (kcq502_X7 cx (c_X7_opens l D cA sz0 H0 M t  _ sh h) ⟨by dsimp only; omega, by dsimp only; omega⟩ k28 (As := []) rfl rfl (Nat.le_of_ble_eq_true rfl) dX7_piece_12 ⟨hb29.1, hb29.2⟩) (fun M31 hq => ?_)
    obtain ⟨h, sh⟩ := hq
    refine v_aload_n (pc := 15) cx dX7_piece_15 rfl 1 rfl ?_
    obtain ⟨k32, h⟩ := h
    obtain ⟨hb33, h⟩ := h
    refine v_runp_i (pc := 16) cx (kcq472_X7 cx (c_X7_isGood l D cA sz0 H0 M31 t  _ sh h) ⟨by dsimp only; omega, by dsimp only; omega⟩ k32 (As := []) rfl rfl (Nat.le_of_ble_eq_true rfl) dX7_piece_16 ⟨hb33.1, hb33.2⟩) (fun a34 hq => ?_)
    replace h := hq
    refine v_if_eq (pc := 19) cx dX7_piece_19 (tgt := 29) rfl (fun c35 => ?_) (fun c35 => ?_)
    · replace h := h.1 c35
      refine v_null (pc := 29) cx dX7_piece_29 ?_
      refine v_sub (lv' := [(0, .ref (sz0 + t))]) [1] rfl ?_
      exact w_X7_piece_j30 cx hFpiece hFcondition hFpieces M31 sh ((((0 + 0) + 0) + 0)) ((((0 + 0) + 0) + 0)) h
    · replace h := h.2 c35
      refine v_aload_n (pc := 22) cx dX7_piece_22 rfl 1 rfl ?_
      obtain ⟨k36, h⟩ := h
      obtain ⟨mc37, ms38, hmc, hms, h⟩ := h
      refine v_run_r (pc := 23) cx (kcq653_X7 cx (hFpiece t M31 mc37 ms38 _ sh h) ⟨by dsimp only; omega, by dsimp only; omega⟩ k36 (As := []) rfl rfl (Nat.le_of_ble_eq_true rfl) dX7_piece_23 ⟨hmc, hms⟩) (fun a39 M40 hq => ?_)
      obtain ⟨h, sh⟩ := hq
      refine v_goto (pc := 26) cx dX7_piece_26 (tgt := 30) rfl ?_
      refine v_sub (lv' := [(0, .ref (sz0 + t))]) [1] rfl ?_
      exact w_X7_piece_j30 cx hFpiece hFcondition hFpieces M40 sh (((((0 + 0) + 0) + 0) + mc37)) (((((0 + 0) + 0) + 0) + ms38)) h
/-! LetterHeaps$Reader.condition()LLetterHeaps$Condition; -/
def m_X7_condition_j93 (Fpiece : Nat → WM → Nat → Nat → (Option Nat → WM → Prop) → Prop) (Fcondition : Nat → WM → Nat → Nat → (Option Nat → WM → Prop) → Prop) (Fpieces : Nat → WM → Nat → Nat → (Option Nat → WM → Prop) → Prop)  (x0 : Nat) (x1 : Option Nat)  (bc bs : Nat) (Q : Option Nat → WM → Prop) (M : WM) (kc : Nat) (ks : Nat) : Prop := (wk M x0 = 6 ∧ (wk M x0 = 6 ∧ (∀ M3 : WM, M3 = wPI M x0 3 (((wI M x0 3) - (1 : Int32))) → ((kc ≤ bc ∧ ks ≤ bs) ∧ Q x1 M3))))
theorem w_X7_condition_j93 {p : Program} {l : Launch} {e : Env} {s : State} {m : MethodId} {args : Array Value} {below : List Frame} {meth : Method} {c : Code} {D : va_G} {cA : Nat → ClassId} {sz0 : Nat} {H0 : Heap} {d : Nat} {Fpiece : Nat → WM → Nat → Nat → (Option Nat → WM → Prop) → Prop} {Fcondition : Nat → WM → Nat → Nat → (Option Nat → WM → Prop) → Prop} {Fpieces : Nat → WM → Nat → Nat → (Option Nat → WM → Prop) → Prop} {x0 : Nat} {x1 : Option Nat} {bc bs : Nat} {Q : Option Nat → WM → Prop}  (cx : Cx p s m args meth c cX7_condition 3 RX7 (some (.object "LetterHeaps$Condition")) D cA sz0 H0) (hFpiece : ∀ (t : Nat) (M : WM) (bc bs : Nat) (Q : Option Nat → WM → Prop) (sh : Shp M), Fpiece t M bc bs Q → Met l yX7_piece (ws_ yX7_piece cX7_piece 4 (some (.object "LetterHeaps$Condition"))) ({ frames := 77 + d, cells := bc, slots := bs, locals := 3123 + 40 * d } : Room) (PcW D cA sz0 H0 [.ref (sz0 + t)] M) (QW_r D cA sz0 H0 (fun o M' => Q o M' ∧ Shp M')) bc bs (Aw sz0)) (hFcondition : ∀ (t : Nat) (M : WM) (bc bs : Nat) (Q : Option Nat → WM → Prop) (sh : Shp M), Fcondition t M bc bs Q → Met l yX7_condition (ws_ yX7_condition cX7_condition 3 (some (.object "LetterHeaps$Condition"))) ({ frames := 77 + d, cells := bc, slots := bs, locals := 3123 + 40 * d } : Room) (PcW D cA sz0 H0 [.ref (sz0 + t)] M) (QW_r D cA sz0 H0 (fun o M' => Q o M' ∧ Shp M')) bc bs (Aw sz0)) (hFpieces : ∀ (t : Nat) (M : WM) (bc bs : Nat) (Q : Option Nat → WM → Prop) (sh : Shp M), Fpieces t M bc bs Q → Met l yX7_pieces (ws_ yX7_pieces cX7_pieces 3 (some (.object "LetterHeaps$Condition"))) ({ frames := 77 + d, cells := bc, slots := bs, locals := 3123 + 40 * d } : Room) (PcW D cA sz0 H0 [.ref (sz0 + t)] M) (QW_r D cA sz0 H0 (fun o M' => Q o M' ∧ Shp M')) bc bs (Aw sz0))      (M : WM) (sh : Shp M) (kc ks : Nat) (h : m_X7_condition_j93 Fpiece Fcondition Fpieces x0 x1 bc bs Q M kc ks) : V p l e ({ frames := 77 + (d + 1), cells := bc, slots := bs, locals := 3123 + 40 * (d + 1) } : Room) s m args below meth c 3 D cA sz0 H0 kc ks (MQ below (QW_r D cA sz0 H0 (fun o M' => Q o M' ∧ Shp M')) args s bc bs (Aw sz0)) 93 [(0, .ref (sz0 + x0)), (1, vr sz0 x1)] [] M := by
  replace h : (wk M x0 = 6 ∧ (wk M x0 = 6 ∧ (∀ M3 : WM, M3 = wPI M x0 3 (((wI M x0 3) - (1 : Int32))) → ((kc ≤ bc ∧ ks ≤ bs) ∧ Q x1 M3)))) := h
  refine v_aload_n (pc := 93) cx dX7_condition_93 rfl 0 rfl ?_
  refine v_dup (pc := 94) cx dX7_condition_94 rfl ?_
  obtain ⟨k1, h⟩ := h
  refine gq449_X7 (pc := 95) cx dX7_condition_95 k1 ?_
  refine v_iconst (pc := 98) cx dX7_condition_98 ic_1 ?_
  refine v_isub (pc := 99) cx dX7_condition_99 ?_
  obtain ⟨k2, h⟩ := h
  refine pq449_X7 (pc := 100) cx dX7_condition_100 k2 ?_
  refine v_wld (fun M3 eM3 => ?_)
  replace h := h M3 eM3
  replace sh : Shp M3 := Shp_PI sh eM3
  refine v_aload_nQ (pc := 103) cx dX7_condition_103 rfl 1 rfl ?_
  obtain ⟨q4, h⟩ := h
  exact v_aret (o := x1) cx rfl dX7_condition_104 q4 ⟨h, sh⟩
def m_X7_condition_j80 (Fpiece : Nat → WM → Nat → Nat → (Option Nat → WM → Prop) → Prop) (Fcondition : Nat → WM → Nat → Nat → (Option Nat → WM → Prop) → Prop) (Fpieces : Nat → WM → Nat → Nat → (Option Nat → WM → Prop) → Prop)  (x0 : Nat) (x1 : Option Nat)  (bc bs : Nat) (Q : Option Nat → WM → Prop) (M : WM) (kc : Nat) (ks : Nat) : Prop := (wk M x0 = 6 ∧ ((kc ≤ bc ∧ ks ≤ bs) ∧ (m_X7_isGood x0 M (fun (a3 : Int32) => ((a3 = 0 → m_X7_condition_j93 Fpiece Fcondition Fpieces x0 x1 bc bs Q M ((kc + 0)) ((ks + 0))) ∧ (¬ a3 = 0 → (wk M x0 = 6 ∧ (((kc + 0) ≤ bc ∧ (ks + 0) ≤ bs) ∧ (m_X7_must x0 ((41 : Int32)) M (fun (M8 : WM) => m_X7_condition_j93 Fpiece Fcondition Fpieces x0 x1 bc bs Q M8 (((kc + 0) + 0)) (((ks + 0) + 0))))))))))))
theorem w_X7_condition_j80 {p : Program} {l : Launch} {e : Env} {s : State} {m : MethodId} {args : Array Value} {below : List Frame} {meth : Method} {c : Code} {D : va_G} {cA : Nat → ClassId} {sz0 : Nat} {H0 : Heap} {d : Nat} {Fpiece : Nat → WM → Nat → Nat → (Option Nat → WM → Prop) → Prop} {Fcondition : Nat → WM → Nat → Nat → (Option Nat → WM → Prop) → Prop} {Fpieces : Nat → WM → Nat → Nat → (Option Nat → WM → Prop) → Prop} {x0 : Nat} {x1 : Option Nat} {bc bs : Nat} {Q : Option Nat → WM → Prop}  (cx : Cx p s m args meth c cX7_condition 3 RX7 (some (.object "LetterHeaps$Condition")) D cA sz0 H0) (hFpiece : ∀ (t : Nat) (M : WM) (bc bs : Nat) (Q : Option Nat → WM → Prop) (sh : Shp M), Fpiece t M bc bs Q → Met l yX7_piece (ws_ yX7_piece cX7_piece 4 (some (.object "LetterHeaps$Condition"))) ({ frames := 77 + d, cells := bc, slots := bs, locals := 3123 + 40 * d } : Room) (PcW D cA sz0 H0 [.ref (sz0 + t)] M) (QW_r D cA sz0 H0 (fun o M' => Q o M' ∧ Shp M')) bc bs (Aw sz0)) (hFcondition : ∀ (t : Nat) (M : WM) (bc bs : Nat) (Q : Option Nat → WM → Prop) (sh : Shp M), Fcondition t M bc bs Q → Met l yX7_condition (ws_ yX7_condition cX7_condition 3 (some (.object "LetterHeaps$Condition"))) ({ frames := 77 + d, cells := bc, slots := bs, locals := 3123 + 40 * d } : Room) (PcW D cA sz0 H0 [.ref (sz0 + t)] M) (QW_r D cA sz0 H0 (fun o M' => Q o M' ∧ Shp M')) bc bs (Aw sz0)) (hFpieces : ∀ (t : Nat) (M : WM) (bc bs : Nat) (Q : Option Nat → WM → Prop) (sh : Shp M), Fpieces t M bc bs Q → Met l yX7_pieces (ws_ yX7_pieces cX7_pieces 3 (some (.object "LetterHeaps$Condition"))) ({ frames := 77 + d, cells := bc, slots := bs, locals := 3123 + 40 * d } : Room) (PcW D cA sz0 H0 [.ref (sz0 + t)] M) (QW_r D cA sz0 H0 (fun o M' => Q o M' ∧ Shp M')) bc bs (Aw sz0))      (M : WM) (sh : Shp M) (kc ks : Nat) (h : m_X7_condition_j80 Fpiece Fcondition Fpieces x0 x1 bc bs Q M kc ks) : V p l e ({ frames := 77 + (d + 1), cells := bc, slots := bs, locals := 3123 + 40 * (d + 1) } : Room) s m args below meth c 3 D cA sz0 H0 kc ks (MQ below (QW_r D cA sz0 H0 (fun o M' => Q o M' ∧ Shp M')) args s bc bs (Aw sz0)) 80 [(0, .ref (sz0 + x0)), (1, vr sz0 x1)] [] M := by
  replace h : (wk M x0 = 6 ∧ ((kc ≤ bc ∧ ks ≤ bs) ∧ (m_X7_isGood x0 M (fun (a3 : Int32) => ((a3 = 0 → m_X7_condition_j93 Fpiece Fcondition Fpieces x0 x1 bc bs Q M ((kc + 0)) ((ks + 0))) ∧ (¬ a3 = 0 → (wk M x0 = 6 ∧ (((kc + 0) ≤ bc ∧ (ks + 0) ≤ bs) ∧ (m_X7_must x0 ((41 : Int32)) M (fun (M8 : WM) => m_X7_condition_j93 Fpiece Fcondition Fpieces x0 x1 bc bs Q M8 (((kc + 0) + 0)) (((ks + 0) + 0)))))))))))) := h
  refine v_aload_n (pc := 80) cx dX7_condition_80 rfl 0 rfl ?_
  obtain ⟨k1, h⟩ := h
  obtain ⟨hb2, h⟩ := h
  refine v_runp_i (pc := 81) cx (kcq472_X7 cx (c_X7_isGood l D cA sz0 H0 M x0  _ sh h) ⟨by dsimp only; omega, by dsimp only; omega⟩ k1 (As := []) rfl rfl (Nat.le_of_ble_eq_true rfl) dX7_condition_81 ⟨hb2.1, hb2.2⟩) (fun a3 hq => ?_)
  replace h := hq
  refine v_if_eq (pc := 84) cx dX7_condition_84 (tgt := 93) rfl (fun c4 => ?_) (fun c4 => ?_)
  · replace h := h.1 c4
    refine v_sub (lv' := [(0, .ref (sz0 + x0)), (1, vr sz0 x1)]) [0, 1] rfl ?_
    exact w_X7_condition_j93 cx hFpiece hFcondition hFpieces M sh ((kc + 0)) ((ks + 0)) h
  · replace h := h.2 c4
    refine v_aload_n (pc := 87) cx dX7_condition_87 rfl 0 rfl ?_
    refine v_bipush (pc := 88) cx dX7_condition_88 bc_41 ?_
    obtain ⟨k5, h⟩ := h
    obtain ⟨hb6, h⟩ := h
    refine v_run_v (pc := 90) cx (kcq506_X7 cx (c_X7_must l D cA sz0 H0 M x0 ((41 : Int32))  _ sh h) ⟨by dsimp only; omega, by dsimp only; omega⟩ k5 (As := [.int (41 : Int32)]) rfl rfl (Nat.le_of_ble_eq_true rfl) dX7_condition_90 ⟨hb6.1, hb6.2⟩) (fun M8 hq => ?_)
    obtain ⟨h, sh⟩ := hq
    refine v_sub (lv' := [(0, .ref (sz0 + x0)), (1, vr sz0 x1)]) [0, 1] rfl ?_
    exact w_X7_condition_j93 cx hFpiece hFcondition hFpieces M8 sh (((kc + 0) + 0)) (((ks + 0) + 0)) h
def m_X7_condition_l30 (Fpiece : Nat → WM → Nat → Nat → (Option Nat → WM → Prop) → Prop) (Fcondition : Nat → WM → Nat → Nat → (Option Nat → WM → Prop) → Prop) (Fpieces : Nat → WM → Nat → Nat → (Option Nat → WM → Prop) → Prop)  (x0 : Nat) (x1 : Option Nat)  (bc bs : Nat) (Q : Option Nat → WM → Prop) : Nat → Option Nat → WM → Nat → Nat → Prop
  | 0, _, _, _, _ => False
  | n + 1, x2, M, kc, ks => (wk M x0 = 6 ∧ ((kc ≤ bc ∧ ks ≤ bs) ∧ (m_X7_isGood x0 M (fun (a3 : Int32) => ((a3 = 0 → m_X7_condition_j80 Fpiece Fcondition Fpieces x0 x1 bc bs Q M ((kc + 0)) ((ks + 0))) ∧ (¬ a3 = 0 → (wk M x0 = 6 ∧ (((kc + 0) ≤ bc ∧ (ks + 0) ≤ bs) ∧ (m_X7_here x0 M (fun (a7 : Int32) => ((a7 = (124 : Int32) → (wk M x0 = 6 ∧ (wk M x0 = 6 ∧ (∀ M11 : WM, M11 = wPI M x0 2 (((wI M x0 2) + (1 : Int32))) → ((((kc + 0) + 0) + 1 ≤ bc ∧ ((ks + 0) + 0) + 3 ≤ bs) ∧ (∀ r13, r13 = wn M11 → (∀ M14 : WM, M14 = wNw M11 10 0 → (wk M14 x0 = 6 ∧ (∃ mc16 ms17, (((kc + 0) + 0) + 1) + mc16 ≤ bc ∧ (((ks + 0) + 0) + 3) + ms17 ≤ bs ∧ (Fpieces x0 M14 mc16 ms17 (fun (a18 : Option Nat) (M19 : WM) => ((((((kc + 0) + 0) + 1) + mc16) ≤ bc ∧ ((((ks + 0) + 0) + 3) + ms17) ≤ bs) ∧ (m_X13_init r13 a18 ((1 : Int32)) M19 (fun (M22 : WM) => (∃ r23, x2 = some r23 ∧ (wk M22 r23 = 10 ∧ (shR r23 2 = none ∧ (∀ M26 : WM, M26 = wPR M22 r23 2 (some r13) → (wk M26 r23 = 10 ∧ (∃ r28, wR M26 r23 2 = some r28 ∧ m_X7_condition_l30 Fpiece Fcondition Fpieces x0 x1 bc bs Q n (some r28) M26 ((((((kc + 0) + 0) + 1) + mc16) + 0)) ((((((ks + 0) + 0) + 3) + ms17) + 0)))))))))))))))))))))) ∧ (¬ a7 = (124 : Int32) → m_X7_condition_j80 Fpiece Fcondition Fpieces x0 x1 bc bs Q M (((kc + 0) + 0)) (((ks + 0) + 0))))))))))))))
theorem w_X7_condition_l30 {p : Program} {l : Launch} {e : Env} {s : State} {m : MethodId} {args : Array Value} {below : List Frame} {meth : Method} {c : Code} {D : va_G} {cA : Nat → ClassId} {sz0 : Nat} {H0 : Heap} {d : Nat} {Fpiece : Nat → WM → Nat → Nat → (Option Nat → WM → Prop) → Prop} {Fcondition : Nat → WM → Nat → Nat → (Option Nat → WM → Prop) → Prop} {Fpieces : Nat → WM → Nat → Nat → (Option Nat → WM → Prop) → Prop} {x0 : Nat} {x1 : Option Nat} {bc bs : Nat} {Q : Option Nat → WM → Prop}  (cx : Cx p s m args meth c cX7_condition 3 RX7 (some (.object "LetterHeaps$Condition")) D cA sz0 H0) (hFpiece : ∀ (t : Nat) (M : WM) (bc bs : Nat) (Q : Option Nat → WM → Prop) (sh : Shp M), Fpiece t M bc bs Q → Met l yX7_piece (ws_ yX7_piece cX7_piece 4 (some (.object "LetterHeaps$Condition"))) ({ frames := 77 + d, cells := bc, slots := bs, locals := 3123 + 40 * d } : Room) (PcW D cA sz0 H0 [.ref (sz0 + t)] M) (QW_r D cA sz0 H0 (fun o M' => Q o M' ∧ Shp M')) bc bs (Aw sz0)) (hFcondition : ∀ (t : Nat) (M : WM) (bc bs : Nat) (Q : Option Nat → WM → Prop) (sh : Shp M), Fcondition t M bc bs Q → Met l yX7_condition (ws_ yX7_condition cX7_condition 3 (some (.object "LetterHeaps$Condition"))) ({ frames := 77 + d, cells := bc, slots := bs, locals := 3123 + 40 * d } : Room) (PcW D cA sz0 H0 [.ref (sz0 + t)] M) (QW_r D cA sz0 H0 (fun o M' => Q o M' ∧ Shp M')) bc bs (Aw sz0)) (hFpieces : ∀ (t : Nat) (M : WM) (bc bs : Nat) (Q : Option Nat → WM → Prop) (sh : Shp M), Fpieces t M bc bs Q → Met l yX7_pieces (ws_ yX7_pieces cX7_pieces 3 (some (.object "LetterHeaps$Condition"))) ({ frames := 77 + d, cells := bc, slots := bs, locals := 3123 + 40 * d } : Room) (PcW D cA sz0 H0 [.ref (sz0 + t)] M) (QW_r D cA sz0 H0 (fun o M' => Q o M' ∧ Shp M')) bc bs (Aw sz0))    : ∀ (n : Nat) (x2 : Option Nat)  (M : WM) (sh : Shp M) (kc ks : Nat), m_X7_condition_l30 Fpiece Fcondition Fpieces x0 x1 bc bs Q n x2 M kc ks → V p l e ({ frames := 77 + (d + 1), cells := bc, slots := bs, locals := 3123 + 40 * (d + 1) } : Room) s m args below meth c 3 D cA sz0 H0 kc ks (MQ below (QW_r D cA sz0 H0 (fun o M' => Q o M' ∧ Shp M')) args s bc bs (Aw sz0)) 30 [(0, .ref (sz0 + x0)), (1, vr sz0 x1), (2, vr sz0 x2)] [] M := by
  intro n
  induction n with
  | zero => intro x2 M sh kc ks h; exact h.elim
  | succ n ih =>
    intro x2 M sh kc ks h
    replace h : (wk M x0 = 6 ∧ ((kc ≤ bc ∧ ks ≤ bs) ∧ (m_X7_isGood x0 M (fun (a3 : Int32) => ((a3 = 0 → m_X7_condition_j80 Fpiece Fcondition Fpieces x0 x1 bc bs Q M ((kc + 0)) ((ks + 0))) ∧ (¬ a3 = 0 → (wk M x0 = 6 ∧ (((kc + 0) ≤ bc ∧ (ks + 0) ≤ bs) ∧ (m_X7_here x0 M (fun (a7 : Int32) => ((a7 = (124 : Int32) → (wk M x0 = 6 ∧ (wk M x0 = 6 ∧ (∀ M11 : WM, M11 = wPI M x0 2 (((wI M x0 2) + (1 : Int32))) → ((((kc + 0) + 0) + 1 ≤ bc ∧ ((ks + 0) + 0) + 3 ≤ bs) ∧ (∀ r13, r13 = wn M11 → (∀ M14 : WM, M14 = wNw M11 10 0 → (wk M14 x0 = 6 ∧ (∃ mc16 ms17, (((kc + 0) + 0) + 1) + mc16 ≤ bc ∧ (((ks + 0) + 0) + 3) + ms17 ≤ bs ∧ (Fpieces x0 M14 mc16 ms17 (fun (a18 : Option Nat) (M19 : WM) => ((((((kc + 0) + 0) + 1) + mc16) ≤ bc ∧ ((((ks + 0) + 0) + 3) + ms17) ≤ bs) ∧ (m_X13_init r13 a18 ((1 : Int32)) M19 (fun (M22 : WM) => (∃ r23, x2 = some r23 ∧ (wk M22 r23 = 10 ∧ (shR r23 2 = none ∧ (∀ M26 : WM, M26 = wPR M22 r23 2 (some r13) → (wk M26 r23 = 10 ∧ (∃ r28, wR M26 r23 2 = some r28 ∧ m_X7_condition_l30 Fpiece Fcondition Fpieces x0 x1 bc bs Q n (some r28) M26 ((((((kc + 0) + 0) + 1) + mc16) + 0)) ((((((ks + 0) + 0) + 3) + ms17) + 0)))))))))))))))))))))) ∧ (¬ a7 = (124 : Int32) → m_X7_condition_j80 Fpiece Fcondition Fpieces x0 x1 bc bs Q M (((kc + 0) + 0)) (((ks + 0) + 0)))))))))))))) := h
    refine v_aload_n (pc := 30) cx dX7_condition_30 rfl 0 rfl ?_
    obtain ⟨k1, h⟩ := h
    obtain ⟨hb2, h⟩ := h
    refine v_runp_i (pc := 31) cx (kcq472_X7 cx (c_X7_isGood l D cA sz0 H0 M x0  _ sh h) ⟨by dsimp only; omega, by dsimp only; omega⟩ k1 (As := []) rfl rfl (Nat.le_of_ble_eq_true rfl) dX7_condition_31 ⟨hb2.1, hb2.2⟩) (fun a3 hq => ?_)
    replace h := hq
    refine v_if_eq (pc := 34) cx dX7_condition_34 (tgt := 80) rfl (fun c4 => ?_) (fun c4 => ?_)
    · replace h := h.1 c4
      refine v_sub (lv' := [(0, .ref (sz0 + x0)), (1, vr sz0 x1)]) [0, 1] rfl ?_
      exact w_X7_condition_j80 cx hFpiece hFcondition hFpieces M sh ((kc + 0)) ((ks + 0)) h
    · replace h := h.2 c4
      refine v_aload_n (pc := 37) cx dX7_condition_37 rfl 0 rfl ?_
      obtain ⟨k5, h⟩ := h
      obtain ⟨hb6, h⟩ := h
      refine v_runp_i (pc := 38) cx (kcq480_X7 cx (c_X7_here l D cA sz0 H0 M x0  _ sh h) ⟨by dsimp only; omega, by dsimp only; omega⟩ k5 (As := []) rfl rfl (Nat.le_of_ble_eq_true rfl) dX7_condition_38 ⟨hb6.1, hb6.2⟩) (fun a7 hq => ?_)
      replace h := hq
      refine v_bipush (pc := 41) cx dX7_condition_41 bc_124 ?_
      refine v_icmp_ne (pc := 43) cx dX7_condition_43 (tgt := 80) rfl (fun c8 => ?_) (fun c8 => ?_)
      · replace h := h.2 c8
        refine v_sub (lv' := [(0, .ref (sz0 + x0)), (1, vr sz0 x1)]) [0, 1] rfl ?_
        exact w_X7_condition_j80 cx hFpiece hFcondition hFpieces M sh (((kc + 0) + 0)) (((ks + 0) + 0)) h
      · replace h := h.1 c8
        refine v_aload_n (pc := 46) cx dX7_condition_46 rfl 0 rfl ?_
        refine v_dup (pc := 47) cx dX7_condition_47 rfl ?_
        obtain ⟨k9, h⟩ := h
        refine gq448_X7 (pc := 48) cx dX7_condition_48 k9 ?_
        refine v_iconst (pc := 51) cx dX7_condition_51 ic_1 ?_
        refine v_iadd (pc := 52) cx dX7_condition_52 ?_
        obtain ⟨k10, h⟩ := h
        refine pq448_X7 (pc := 53) cx dX7_condition_53 k10 ?_
        refine v_wld (fun M11 eM11 => ?_)
        replace h := h M11 eM11
        replace sh : Shp M11 := Shp_PI sh eM11
        refine v_aload_nQ (pc := 56) cx dX7_condition_56 rfl 2 rfl ?_
        obtain ⟨q12, h⟩ := h
        refine v_new (pc := 57) cx cl_X13 (by decide) in_X13 tyX13 tyX13_ok q647 q648 q140 df_X13 q12.1 q12.2 dX7_condition_57 ?_
        refine v_topr (fun r13 er13 => ?_)
        replace h := h r13 er13
        refine v_wld (fun M14 eM14 => ?_)
        replace h := h M14 eM14
        replace sh : Shp M14 := Shp_Nw sh eM14
        refine v_dup (pc := 60) cx dX7_condition_60 rfl ?_
        refine v_aload_n (pc := 61) cx dX7_condition_61 rfl 0 rfl ?_
        obtain ⟨k15, h⟩ := h
        obtain ⟨mc16, ms17, hmc, hms, h⟩ := h
        refine v_run_r (pc := 62) cx (kcq649_X7 cx (hFpieces x0 M14 mc16 ms17 _ sh h) ⟨by dsimp only; omega, by dsimp only; omega⟩ k15 (As := []) rfl rfl (by cases x2 <;> exact Nat.le_of_ble_eq_true rfl) dX7_condition_62 ⟨hmc, hms⟩) (fun a18 M19 hq => ?_)
        obtain ⟨h, sh⟩ := hq
        refine v_iconst (pc := 65) cx dX7_condition_65 ic_1 ?_
        obtain ⟨hb20, h⟩ := h
        refine v_run_v (pc := 66) cx (kcq686_X7 cx (c_X13_init l D cA sz0 H0 M19 r13 a18 ((1 : Int32))  _ sh h) ⟨by dsimp only; omega, by dsimp only; omega⟩ (As := [vr sz0 a18, .int (1 : Int32)]) rfl rfl (by cases x2 <;> exact Nat.le_of_ble_eq_true rfl) dX7_condition_66 ⟨hb20.1, hb20.2⟩) (fun M22 hq => ?_)
        obtain ⟨h, sh⟩ := hq
        obtain ⟨r23, er23, h⟩ := h
        rw [er23]
        replace h := h
        show V p l e _ s m args below meth c 3 D cA sz0 H0 _ _ _ _ [(0, .ref (sz0 + x0)), (1, vr sz0 x1), (2, .ref (sz0 + r23))] [.ref (sz0 + r13), .ref (sz0 + r23)] _
        obtain ⟨k24, h⟩ := h
        obtain ⟨q25, h⟩ := h
        refine pq693_X13 (pc := 69) cx (x := some r13) dX7_condition_69 k24 ?_
        refine v_wld (fun M26 eM26 => ?_)
        replace h := h M26 eM26
        replace sh : Shp M26 := Shp_PR sh q25 eM26
        refine v_aload_n (pc := 72) cx dX7_condition_72 rfl 2 rfl ?_
        obtain ⟨k27, h⟩ := h
        obtain ⟨r28, er28, h⟩ := h
        refine gq693_X13 (pc := 73) cx dX7_condition_73 k27 (v_some er28 ?_)
        refine v_astore_n (pc := 76) cx dX7_condition_76 rfl (Nat.le_of_ble_eq_true rfl) (lv' := [(2, .ref (sz0 + r28)), (0, .ref (sz0 + x0)), (1, vr sz0 x1)]) (by cases x1 <;> rfl) ?_
        refine v_goto (pc := 77) cx dX7_condition_77 (tgt := 30) rfl ?_
        refine v_sub (lv' := [(0, .ref (sz0 + x0)), (1, vr sz0 x1), (2, vr sz0 (some r28))]) [1, 2, 0] rfl ?_
        exact ih (some r28) M26 sh ((((((kc + 0) + 0) + 1) + mc16) + 0)) ((((((ks + 0) + 0) + 3) + ms17) + 0)) h
def b_X7_condition (Fpiece : Nat → WM → Nat → Nat → (Option Nat → WM → Prop) → Prop) (Fcondition : Nat → WM → Nat → Nat → (Option Nat → WM → Prop) → Prop) (Fpieces : Nat → WM → Nat → Nat → (Option Nat → WM → Prop) → Prop) (t : Nat) (M : WM) (bc bs : Nat) (Q : Option Nat → WM → Prop) : Prop := (wk M t = 6 ∧ ((0 ≤ bc ∧ 0 ≤ bs) ∧ (m_X7_opens t M (fun (M4 : WM) => (wk M4 t = 6 ∧ (((0 + 0) ≤ bc ∧ (0 + 0) ≤ bs) ∧ (m_X7_isGood t M4 (fun (a7 : Int32) => ((a7 = 0 → (∃ n0, m_X7_condition_l30 Fpiece Fcondition Fpieces t none bc bs Q n0 none M4 (((0 + 0) + 0)) (((0 + 0) + 0)))) ∧ (¬ a7 = 0 → ((((0 + 0) + 0) + 1 ≤ bc ∧ ((0 + 0) + 0) + 3 ≤ bs) ∧ (∀ r10, r10 = wn M4 → (∀ M11 : WM, M11 = wNw M4 10 0 → (wk M11 t = 6 ∧ (∃ mc13 ms14, (((0 + 0) + 0) + 1) + mc13 ≤ bc ∧ (((0 + 0) + 0) + 3) + ms14 ≤ bs ∧ (Fpieces t M11 mc13 ms14 (fun (a15 : Option Nat) (M16 : WM) => ((((((0 + 0) + 0) + 1) + mc13) ≤ bc ∧ ((((0 + 0) + 0) + 3) + ms14) ≤ bs) ∧ (m_X13_init r10 a15 ((1 : Int32)) M16 (fun (M19 : WM) => (∃ n0, m_X7_condition_l30 Fpiece Fcondition Fpieces t (some r10) bc bs Q n0 (some r10) M19 ((((((0 + 0) + 0) + 1) + mc13) + 0)) ((((((0 + 0) + 0) + 3) + ms14) + 0)))))))))))))))))))))))
theorem cb_X7_condition {l : Launch} {D : va_G} {cA : Nat → ClassId} {sz0 : Nat} {H0 : Heap} {d : Nat} {Fpiece : Nat → WM → Nat → Nat → (Option Nat → WM → Prop) → Prop} {Fcondition : Nat → WM → Nat → Nat → (Option Nat → WM → Prop) → Prop} {Fpieces : Nat → WM → Nat → Nat → (Option Nat → WM → Prop) → Prop} (hFpiece : ∀ (t : Nat) (M : WM) (bc bs : Nat) (Q : Option Nat → WM → Prop) (sh : Shp M), Fpiece t M bc bs Q → Met l yX7_piece (ws_ yX7_piece cX7_piece 4 (some (.object "LetterHeaps$Condition"))) ({ frames := 77 + d, cells := bc, slots := bs, locals := 3123 + 40 * d } : Room) (PcW D cA sz0 H0 [.ref (sz0 + t)] M) (QW_r D cA sz0 H0 (fun o M' => Q o M' ∧ Shp M')) bc bs (Aw sz0)) (hFcondition : ∀ (t : Nat) (M : WM) (bc bs : Nat) (Q : Option Nat → WM → Prop) (sh : Shp M), Fcondition t M bc bs Q → Met l yX7_condition (ws_ yX7_condition cX7_condition 3 (some (.object "LetterHeaps$Condition"))) ({ frames := 77 + d, cells := bc, slots := bs, locals := 3123 + 40 * d } : Room) (PcW D cA sz0 H0 [.ref (sz0 + t)] M) (QW_r D cA sz0 H0 (fun o M' => Q o M' ∧ Shp M')) bc bs (Aw sz0)) (hFpieces : ∀ (t : Nat) (M : WM) (bc bs : Nat) (Q : Option Nat → WM → Prop) (sh : Shp M), Fpieces t M bc bs Q → Met l yX7_pieces (ws_ yX7_pieces cX7_pieces 3 (some (.object "LetterHeaps$Condition"))) ({ frames := 77 + d, cells := bc, slots := bs, locals := 3123 + 40 * d } : Room) (PcW D cA sz0 H0 [.ref (sz0 + t)] M) (QW_r D cA sz0 H0 (fun o M' => Q o M' ∧ Shp M')) bc bs (Aw sz0)) (M : WM) (t : Nat)  (bc bs : Nat) (Q : Option Nat → WM → Prop) (sh : Shp M) (h : b_X7_condition Fpiece Fcondition Fpieces t M bc bs Q) : Met l yX7_condition (ws_ yX7_condition cX7_condition 3 (some (.object "LetterHeaps$Condition"))) ({ frames := 77 + (d + 1), cells := bc, slots := bs, locals := 3123 + 40 * (d + 1) } : Room) (PcW D cA sz0 H0 [.ref (sz0 + t)] M) (QW_r D cA sz0 H0 (fun o M' => Q o M' ∧ Shp M')) bc bs (Aw sz0) := by
  replace h : (wk M t = 6 ∧ ((0 ≤ bc ∧ 0 ≤ bs) ∧ (m_X7_opens t M (fun (M4 : WM) => (wk M4 t = 6 ∧ (((0 + 0) ≤ bc ∧ (0 + 0) ≤ bs) ∧ (m_X7_isGood t M4 (fun (a7 : Int32) => ((a7 = 0 → (∃ n0, m_X7_condition_l30 Fpiece Fcondition Fpieces t none bc bs Q n0 none M4 (((0 + 0) + 0)) (((0 + 0) + 0)))) ∧ (¬ a7 = 0 → ((((0 + 0) + 0) + 1 ≤ bc ∧ ((0 + 0) + 0) + 3 ≤ bs) ∧ (∀ r10, r10 = wn M4 → (∀ M11 : WM, M11 = wNw M4 10 0 → (wk M11 t = 6 ∧ (∃ mc13 ms14, (((0 + 0) + 0) + 1) + mc13 ≤ bc ∧ (((0 + 0) + 0) + 3) + ms14 ≤ bs ∧ (Fpieces t M11 mc13 ms14 (fun (a15 : Option Nat) (M16 : WM) => ((((((0 + 0) + 0) + 1) + mc13) ≤ bc ∧ ((((0 + 0) + 0) + 3) + ms14) ≤ bs) ∧ (m_X13_init r10 a15 ((1 : Int32)) M16 (fun (M19 : WM) => (∃ n0, m_X7_condition_l30 Fpiece Fcondition Fpieces t (some r10) bc bs Q n0 (some r10) M19 ((((((0 + 0) + 0) + 1) + mc13) + 0)) ((((((0 + 0) + 0) + 3) + ms14) + 0))))))))))))))))))))))) := h
  refine Met.ofV (by decide +kernel) (Nat.le_of_ble_eq_true rfl) ?_
  intro p e s m args below meth c cx hnm
  replace cx : Cx p s m args meth c cX7_condition 3 RX7 (some (.object "LetterHeaps$Condition")) D cA sz0 H0 := cx
  refine v_sub (lv' := [(0, .ref (sz0 + t))]) [0] rfl ?_
  refine v_aload_n (pc := 0) cx dX7_condition_0 rfl 0 rfl ?_
  obtain ⟨k1, h⟩ := h
  obtain ⟨hb2, h⟩ := h
  refine v_run_v (pc := 1) cx (kcq502_X7 cx (c_X7_opens l D cA sz0 H0 M t  _ sh h) ⟨by dsimp only; omega, by dsimp only; omega⟩ k1 (As := []) rfl rfl (Nat.le_of_ble_eq_true rfl) dX7_condition_1 ⟨hb2.1, hb2.2⟩) (fun M4 hq => ?_)
  obtain ⟨h, sh⟩ := hq
  refine v_aload_n (pc := 4) cx dX7_condition_4 rfl 0 rfl ?_
  obtain ⟨k5, h⟩ := h
  obtain ⟨hb6, h⟩ := h
  refine v_runp_i (pc := 5) cx (kcq472_X7 cx (c_X7_isGood l D cA sz0 H0 M4 t  _ sh h) ⟨by dsimp only; omega, by dsimp only; omega⟩ k5 (As := []) rfl rfl (Nat.le_of_ble_eq_true rfl) dX7_condition_5 ⟨hb6.1, hb6.2⟩) (fun a7 hq => ?_)
  replace h := hq
  refine v_if_eq (pc := 8) cx dX7_condition_8 (tgt := 26) rfl (fun c8 => ?_) (fun c8 => ?_)
  · replace h := h.1 c8
    refine v_null (pc := 26) cx dX7_condition_26 ?_
    refine v_astore_nQ (pc := 27) cx dX7_condition_27 rfl (Nat.le_of_ble_eq_true rfl) (lv' := [(1, vr sz0 none), (0, .ref (sz0 + t))]) rfl ?_
    refine v_aload_nQ (pc := 28) cx dX7_condition_28 rfl 0 rfl ?_
    refine v_astore_nQ (pc := 29) cx dX7_condition_29 rfl (Nat.le_of_ble_eq_true rfl) (lv' := [(2, vr sz0 none), (1, vr sz0 none), (0, .ref (sz0 + t))]) rfl ?_
    refine v_sub (lv' := [(0, .ref (sz0 + t)), (1, vr sz0 none), (2, vr sz0 none)]) [2, 1, 0] rfl ?_
    obtain ⟨n0, h⟩ := h
    exact w_X7_condition_l30 cx hFpiece hFcondition hFpieces n0 none M4 sh (((0 + 0) + 0)) (((0 + 0) + 0)) h
  · replace h := h.2 c8
    obtain ⟨q9, h⟩ := h
    refine v_new (pc := 11) cx cl_X13 (by decide) in_X13 tyX13 tyX13_ok q647 q648 q140 df_X13 q9.1 q9.2 dX7_condition_11 ?_
    refine v_topr (fun r10 er10 => ?_)
    replace h := h r10 er10
    refine v_wld (fun M11 eM11 => ?_)
    replace h := h M11 eM11
    replace sh : Shp M11 := Shp_Nw sh eM11
    refine v_dup (pc := 14) cx dX7_condition_14 rfl ?_
    refine v_aload_n (pc := 15) cx dX7_condition_15 rfl 0 rfl ?_
    obtain ⟨k12, h⟩ := h
    obtain ⟨mc13, ms14, hmc, hms, h⟩ := h
    refine v_run_r (pc := 16) cx (kcq649_X7 cx (hFpieces t M11 mc13 ms14 _ sh h) ⟨by dsimp only; omega, by dsimp only; omega⟩ k12 (As := []) rfl rfl (Nat.le_of_ble_eq_true rfl) dX7_condition_16 ⟨hmc, hms⟩) (fun a15 M16 hq => ?_)
    obtain ⟨h, sh⟩ := hq
    refine v_iconst (pc := 19) cx dX7_condition_19 ic_1 ?_
    obtain ⟨hb17, h⟩ := h
    refine v_run_v (pc := 20) cx (kcq686_X7 cx (c_X13_init l D cA sz0 H0 M16 r10 a15 ((1 : Int32))  _ sh h) ⟨by dsimp only; omega, by dsimp only; omega⟩ (As := [vr sz0 a15, .int (1 : Int32)]) rfl rfl (Nat.le_of_ble_eq_true rfl) dX7_condition_20 ⟨hb17.1, hb17.2⟩) (fun M19 hq => ?_)
    obtain ⟨h, sh⟩ := hq
    refine v_goto (pc := 23) cx dX7_condition_23 (tgt := 27) rfl ?_
    refine v_astore_n (pc := 27) cx dX7_condition_27 rfl (Nat.le_of_ble_eq_true rfl) (lv' := [(1, .ref (sz0 + r10)), (0, .ref (sz0 + t))]) rfl ?_
    refine v_aload_n (pc := 28) cx dX7_condition_28 rfl 0 rfl ?_
    refine v_astore_n (pc := 29) cx dX7_condition_29 rfl (Nat.le_of_ble_eq_true rfl) (lv' := [(2, .ref (sz0 + r10)), (1, .ref (sz0 + r10)), (0, .ref (sz0 + t))]) rfl ?_
    refine v_sub (lv' := [(0, .ref (sz0 + t)), (1, vr sz0 (some r10)), (2, vr sz0 (some r10))]) [2, 1, 0] rfl ?_
    obtain ⟨n0, h⟩ := h
    exact w_X7_condition_l30 cx hFpiece hFcondition hFpieces n0 (some r10) M19 sh ((((((0 + 0) + 0) + 1) + mc13) + 0)) ((((((0 + 0) + 0) + 3) + ms14) + 0)) h
/-! LetterHeaps$Reader.pieces()LLetterHeaps$Condition; -/
def m_X7_pieces_l15 (Fpiece : Nat → WM → Nat → Nat → (Option Nat → WM → Prop) → Prop) (Fcondition : Nat → WM → Nat → Nat → (Option Nat → WM → Prop) → Prop) (Fpieces : Nat → WM → Nat → Nat → (Option Nat → WM → Prop) → Prop)  (x0 : Nat) (x1 : Nat)  (bc bs : Nat) (Q : Option Nat → WM → Prop) : Nat → Nat → WM → Nat → Nat → Prop
  | 0, _, _, _, _ => False
  | n + 1, x2, M, kc, ks => (wk M x0 = 6 ∧ ((kc ≤ bc ∧ ks ≤ bs) ∧ (m_X7_isGood x0 M (fun (a3 : Int32) => ((a3 = 0 → (((kc + 0) ≤ bc ∧ (ks + 0) ≤ bs) ∧ Q (some x1) M)) ∧ (¬ a3 = 0 → (wk M x0 = 6 ∧ (((kc + 0) ≤ bc ∧ (ks + 0) ≤ bs) ∧ (m_X7_here x0 M (fun (a8 : Int32) => ((a8 = (38 : Int32) → (wk M x0 = 6 ∧ (wk M x0 = 6 ∧ (∀ M13 : WM, M13 = wPI M x0 2 (((wI M x0 2) + (1 : Int32))) → ((((kc + 0) + 0) + 1 ≤ bc ∧ ((ks + 0) + 0) + 3 ≤ bs) ∧ (∀ r15, r15 = wn M13 → (∀ M16 : WM, M16 = wNw M13 10 0 → (wk M16 x0 = 6 ∧ (∃ mc18 ms19, (((kc + 0) + 0) + 1) + mc18 ≤ bc ∧ (((ks + 0) + 0) + 3) + ms19 ≤ bs ∧ (Fpiece x0 M16 mc18 ms19 (fun (a20 : Option Nat) (M21 : WM) => ((((((kc + 0) + 0) + 1) + mc18) ≤ bc ∧ ((((ks + 0) + 0) + 3) + ms19) ≤ bs) ∧ (m_X13_init r15 a20 ((0 : Int32)) M21 (fun (M24 : WM) => (wk M24 x2 = 10 ∧ (shR x2 2 = none ∧ (∀ M27 : WM, M27 = wPR M24 x2 2 (some r15) → (wk M27 x2 = 10 ∧ (∃ r29, wR M27 x2 2 = some r29 ∧ m_X7_pieces_l15 Fpiece Fcondition Fpieces x0 x1 bc bs Q n r29 M27 ((((((kc + 0) + 0) + 1) + mc18) + 0)) ((((((ks + 0) + 0) + 3) + ms19) + 0))))))))))))))))))))) ∧ (¬ a8 = (38 : Int32) → ((((kc + 0) + 0) ≤ bc ∧ ((ks + 0) + 0) ≤ bs) ∧ Q (some x1) M)))))))))))))
theorem w_X7_pieces_l15 {p : Program} {l : Launch} {e : Env} {s : State} {m : MethodId} {args : Array Value} {below : List Frame} {meth : Method} {c : Code} {D : va_G} {cA : Nat → ClassId} {sz0 : Nat} {H0 : Heap} {d : Nat} {Fpiece : Nat → WM → Nat → Nat → (Option Nat → WM → Prop) → Prop} {Fcondition : Nat → WM → Nat → Nat → (Option Nat → WM → Prop) → Prop} {Fpieces : Nat → WM → Nat → Nat → (Option Nat → WM → Prop) → Prop} {x0 : Nat} {x1 : Nat} {bc bs : Nat} {Q : Option Nat → WM → Prop}  (cx : Cx p s m args meth c cX7_pieces 3 RX7 (some (.object "LetterHeaps$Condition")) D cA sz0 H0) (hFpiece : ∀ (t : Nat) (M : WM) (bc bs : Nat) (Q : Option Nat → WM → Prop) (sh : Shp M), Fpiece t M bc bs Q → Met l yX7_piece (ws_ yX7_piece cX7_piece 4 (some (.object "LetterHeaps$Condition"))) ({ frames := 77 + d, cells := bc, slots := bs, locals := 3123 + 40 * d } : Room) (PcW D cA sz0 H0 [.ref (sz0 + t)] M) (QW_r D cA sz0 H0 (fun o M' => Q o M' ∧ Shp M')) bc bs (Aw sz0)) (hFcondition : ∀ (t : Nat) (M : WM) (bc bs : Nat) (Q : Option Nat → WM → Prop) (sh : Shp M), Fcondition t M bc bs Q → Met l yX7_condition (ws_ yX7_condition cX7_condition 3 (some (.object "LetterHeaps$Condition"))) ({ frames := 77 + d, cells := bc, slots := bs, locals := 3123 + 40 * d } : Room) (PcW D cA sz0 H0 [.ref (sz0 + t)] M) (QW_r D cA sz0 H0 (fun o M' => Q o M' ∧ Shp M')) bc bs (Aw sz0)) (hFpieces : ∀ (t : Nat) (M : WM) (bc bs : Nat) (Q : Option Nat → WM → Prop) (sh : Shp M), Fpieces t M bc bs Q → Met l yX7_pieces (ws_ yX7_pieces cX7_pieces 3 (some (.object "LetterHeaps$Condition"))) ({ frames := 77 + d, cells := bc, slots := bs, locals := 3123 + 40 * d } : Room) (PcW D cA sz0 H0 [.ref (sz0 + t)] M) (QW_r D cA sz0 H0 (fun o M' => Q o M' ∧ Shp M')) bc bs (Aw sz0))    : ∀ (n : Nat) (x2 : Nat)  (M : WM) (sh : Shp M) (kc ks : Nat), m_X7_pieces_l15 Fpiece Fcondition Fpieces x0 x1 bc bs Q n x2 M kc ks → V p l e ({ frames := 77 + (d + 1), cells := bc, slots := bs, locals := 3123 + 40 * (d + 1) } : Room) s m args below meth c 3 D cA sz0 H0 kc ks (MQ below (QW_r D cA sz0 H0 (fun o M' => Q o M' ∧ Shp M')) args s bc bs (Aw sz0)) 15 [(0, .ref (sz0 + x0)), (1, .ref (sz0 + x1)), (2, .ref (sz0 + x2))] [] M := by
  intro n
  induction n with
  | zero => intro x2 M sh kc ks h; exact h.elim
  | succ n ih =>
    intro x2 M sh kc ks h
    replace h : (wk M x0 = 6 ∧ ((kc ≤ bc ∧ ks ≤ bs) ∧ (m_X7_isGood x0 M (fun (a3 : Int32) => ((a3 = 0 → (((kc + 0) ≤ bc ∧ (ks + 0) ≤ bs) ∧ Q (some x1) M)) ∧ (¬ a3 = 0 → (wk M x0 = 6 ∧ (((kc + 0) ≤ bc ∧ (ks + 0) ≤ bs) ∧ (m_X7_here x0 M (fun (a8 : Int32) => ((a8 = (38 : Int32) → (wk M x0 = 6 ∧ (wk M x0 = 6 ∧ (∀ M13 : WM, M13 = wPI M x0 2 (((wI M x0 2) + (1 : Int32))) → ((((kc + 0) + 0) + 1 ≤ bc ∧ ((ks + 0) + 0) + 3 ≤ bs) ∧ (∀ r15, r15 = wn M13 → (∀ M16 : WM, M16 = wNw M13 10 0 → (wk M16 x0 = 6 ∧ (∃ mc18 ms19, (((kc + 0) + 0) + 1) + mc18 ≤ bc ∧ (((ks + 0) + 0) + 3) + ms19 ≤ bs ∧ (Fpiece x0 M16 mc18 ms19 (fun (a20 : Option Nat) (M21 : WM) => ((((((kc + 0) + 0) + 1) + mc18) ≤ bc ∧ ((((ks + 0) + 0) + 3) + ms19) ≤ bs) ∧ (m_X13_init r15 a20 ((0 : Int32)) M21 (fun (M24 : WM) => (wk M24 x2 = 10 ∧ (shR x2 2 = none ∧ (∀ M27 : WM, M27 = wPR M24 x2 2 (some r15) → (wk M27 x2 = 10 ∧ (∃ r29, wR M27 x2 2 = some r29 ∧ m_X7_pieces_l15 Fpiece Fcondition Fpieces x0 x1 bc bs Q n r29 M27 ((((((kc + 0) + 0) + 1) + mc18) + 0)) ((((((ks + 0) + 0) + 3) + ms19) + 0))))))))))))))))))))) ∧ (¬ a8 = (38 : Int32) → ((((kc + 0) + 0) ≤ bc ∧ ((ks + 0) + 0) ≤ bs) ∧ Q (some x1) M))))))))))))) := h
    refine v_aload_n (pc := 15) cx dX7_pieces_15 rfl 0 rfl ?_
    obtain ⟨k1, h⟩ := h
    obtain ⟨hb2, h⟩ := h
    refine v_runp_i (pc := 16) cx (kcq472_X7 cx (c_X7_isGood l D cA sz0 H0 M x0  _ sh h) ⟨by dsimp only; omega, by dsimp only; omega⟩ k1 (As := []) rfl rfl (Nat.le_of_ble_eq_true rfl) dX7_pieces_16 ⟨hb2.1, hb2.2⟩) (fun a3 hq => ?_)
    replace h := hq
    refine v_if_eq (pc := 19) cx dX7_pieces_19 (tgt := 65) rfl (fun c4 => ?_) (fun c4 => ?_)
    · replace h := h.1 c4
      refine v_aload_n (pc := 65) cx dX7_pieces_65 rfl 1 rfl ?_
      obtain ⟨q5, h⟩ := h
      exact v_aret (o := some x1) cx rfl dX7_pieces_66 q5 ⟨h, sh⟩
    · replace h := h.2 c4
      refine v_aload_n (pc := 22) cx dX7_pieces_22 rfl 0 rfl ?_
      obtain ⟨k6, h⟩ := h
      obtain ⟨hb7, h⟩ := h
      refine v_runp_i (pc := 23) cx (kcq480_X7 cx (c_X7_here l D cA sz0 H0 M x0  _ sh h) ⟨by dsimp only; omega, by dsimp only; omega⟩ k6 (As := []) rfl rfl (Nat.le_of_ble_eq_true rfl) dX7_pieces_23 ⟨hb7.1, hb7.2⟩) (fun a8 hq => ?_)
      replace h := hq
      refine v_bipush (pc := 26) cx dX7_pieces_26 bc_38 ?_
      refine v_icmp_ne (pc := 28) cx dX7_pieces_28 (tgt := 65) rfl (fun c9 => ?_) (fun c9 => ?_)
      · replace h := h.2 c9
        refine v_aload_n (pc := 65) cx dX7_pieces_65 rfl 1 rfl ?_
        obtain ⟨q10, h⟩ := h
        exact v_aret (o := some x1) cx rfl dX7_pieces_66 q10 ⟨h, sh⟩
      · replace h := h.1 c9
        refine v_aload_n (pc := 31) cx dX7_pieces_31 rfl 0 rfl ?_
        refine v_dup (pc := 32) cx dX7_pieces_32 rfl ?_
        obtain ⟨k11, h⟩ := h
        refine gq448_X7 (pc := 33) cx dX7_pieces_33 k11 ?_
        refine v_iconst (pc := 36) cx dX7_pieces_36 ic_1 ?_
        refine v_iadd (pc := 37) cx dX7_pieces_37 ?_
        obtain ⟨k12, h⟩ := h
        refine pq448_X7 (pc := 38) cx dX7_pieces_38 k12 ?_
        refine v_wld (fun M13 eM13 => ?_)
        replace h := h M13 eM13
        replace sh : Shp M13 := Shp_PI sh eM13
        refine v_aload_n (pc := 41) cx dX7_pieces_41 rfl 2 rfl ?_
        obtain ⟨q14, h⟩ := h
        refine v_new (pc := 42) cx cl_X13 (by decide) in_X13 tyX13 tyX13_ok q647 q648 q140 df_X13 q14.1 q14.2 dX7_pieces_42 ?_
        refine v_topr (fun r15 er15 => ?_)
        replace h := h r15 er15
        refine v_wld (fun M16 eM16 => ?_)
        replace h := h M16 eM16
        replace sh : Shp M16 := Shp_Nw sh eM16
        refine v_dup (pc := 45) cx dX7_pieces_45 rfl ?_
        refine v_aload_n (pc := 46) cx dX7_pieces_46 rfl 0 rfl ?_
        obtain ⟨k17, h⟩ := h
        obtain ⟨mc18, ms19, hmc, hms, h⟩ := h
        refine v_run_r (pc := 47) cx (kcq653_X7 cx (hFpiece x0 M16 mc18 ms19 _ sh h) ⟨by dsimp only; omega, by dsimp only; omega⟩ k17 (As := []) rfl rfl (Nat.le_of_ble_eq_true rfl) dX7_pieces_47 ⟨hmc, hms⟩) (fun a20 M21 hq => ?_)
        obtain ⟨h, sh⟩ := hq
        refine v_iconst (pc := 50) cx dX7_pieces_50 ic_0 ?_
        obtain ⟨hb22, h⟩ := h
        refine v_run_v (pc := 51) cx (kcq686_X7 cx (c_X13_init l D cA sz0 H0 M21 r15 a20 ((0 : Int32))  _ sh h) ⟨by dsimp only; omega, by dsimp only; omega⟩ (As := [vr sz0 a20, .int (0 : Int32)]) rfl rfl (Nat.le_of_ble_eq_true rfl) dX7_pieces_51 ⟨hb22.1, hb22.2⟩) (fun M24 hq => ?_)
        obtain ⟨h, sh⟩ := hq
        obtain ⟨k25, h⟩ := h
        obtain ⟨q26, h⟩ := h
        refine pq693_X13 (pc := 54) cx (x := some r15) dX7_pieces_54 k25 ?_
        refine v_wld (fun M27 eM27 => ?_)
        replace h := h M27 eM27
        replace sh : Shp M27 := Shp_PR sh q26 eM27
        refine v_aload_n (pc := 57) cx dX7_pieces_57 rfl 2 rfl ?_
        obtain ⟨k28, h⟩ := h
        obtain ⟨r29, er29, h⟩ := h
        refine gq693_X13 (pc := 58) cx dX7_pieces_58 k28 (v_some er29 ?_)
        refine v_astore_n (pc := 61) cx dX7_pieces_61 rfl (Nat.le_of_ble_eq_true rfl) (lv' := [(2, .ref (sz0 + r29)), (0, .ref (sz0 + x0)), (1, .ref (sz0 + x1))]) rfl ?_
        refine v_goto (pc := 62) cx dX7_pieces_62 (tgt := 15) rfl ?_
        refine v_sub (lv' := [(0, .ref (sz0 + x0)), (1, .ref (sz0 + x1)), (2, .ref (sz0 + r29))]) [1, 2, 0] rfl ?_
        exact ih r29 M27 sh ((((((kc + 0) + 0) + 1) + mc18) + 0)) ((((((ks + 0) + 0) + 3) + ms19) + 0)) h
def b_X7_pieces (Fpiece : Nat → WM → Nat → Nat → (Option Nat → WM → Prop) → Prop) (Fcondition : Nat → WM → Nat → Nat → (Option Nat → WM → Prop) → Prop) (Fpieces : Nat → WM → Nat → Nat → (Option Nat → WM → Prop) → Prop) (t : Nat) (M : WM) (bc bs : Nat) (Q : Option Nat → WM → Prop) : Prop := ((0 + 1 ≤ bc ∧ 0 + 3 ≤ bs) ∧ (∀ r2, r2 = wn M → (∀ M3 : WM, M3 = wNw M 10 0 → (wk M3 t = 6 ∧ (∃ mc5 ms6, (0 + 1) + mc5 ≤ bc ∧ (0 + 3) + ms6 ≤ bs ∧ (Fpiece t M3 mc5 ms6 (fun (a7 : Option Nat) (M8 : WM) => ((((0 + 1) + mc5) ≤ bc ∧ ((0 + 3) + ms6) ≤ bs) ∧ (m_X13_init r2 a7 ((0 : Int32)) M8 (fun (M11 : WM) => (∃ n0, m_X7_pieces_l15 Fpiece Fcondition Fpieces t r2 bc bs Q n0 r2 M11 ((((0 + 1) + mc5) + 0)) ((((0 + 3) + ms6) + 0)))))))))))))
theorem cb_X7_pieces {l : Launch} {D : va_G} {cA : Nat → ClassId} {sz0 : Nat} {H0 : Heap} {d : Nat} {Fpiece : Nat → WM → Nat → Nat → (Option Nat → WM → Prop) → Prop} {Fcondition : Nat → WM → Nat → Nat → (Option Nat → WM → Prop) → Prop} {Fpieces : Nat → WM → Nat → Nat → (Option Nat → WM → Prop) → Prop} (hFpiece : ∀ (t : Nat) (M : WM) (bc bs : Nat) (Q : Option Nat → WM → Prop) (sh : Shp M), Fpiece t M bc bs Q → Met l yX7_piece (ws_ yX7_piece cX7_piece 4 (some (.object "LetterHeaps$Condition"))) ({ frames := 77 + d, cells := bc, slots := bs, locals := 3123 + 40 * d } : Room) (PcW D cA sz0 H0 [.ref (sz0 + t)] M) (QW_r D cA sz0 H0 (fun o M' => Q o M' ∧ Shp M')) bc bs (Aw sz0)) (hFcondition : ∀ (t : Nat) (M : WM) (bc bs : Nat) (Q : Option Nat → WM → Prop) (sh : Shp M), Fcondition t M bc bs Q → Met l yX7_condition (ws_ yX7_condition cX7_condition 3 (some (.object "LetterHeaps$Condition"))) ({ frames := 77 + d, cells := bc, slots := bs, locals := 3123 + 40 * d } : Room) (PcW D cA sz0 H0 [.ref (sz0 + t)] M) (QW_r D cA sz0 H0 (fun o M' => Q o M' ∧ Shp M')) bc bs (Aw sz0)) (hFpieces : ∀ (t : Nat) (M : WM) (bc bs : Nat) (Q : Option Nat → WM → Prop) (sh : Shp M), Fpieces t M bc bs Q → Met l yX7_pieces (ws_ yX7_pieces cX7_pieces 3 (some (.object "LetterHeaps$Condition"))) ({ frames := 77 + d, cells := bc, slots := bs, locals := 3123 + 40 * d } : Room) (PcW D cA sz0 H0 [.ref (sz0 + t)] M) (QW_r D cA sz0 H0 (fun o M' => Q o M' ∧ Shp M')) bc bs (Aw sz0)) (M : WM) (t : Nat)  (bc bs : Nat) (Q : Option Nat → WM → Prop) (sh : Shp M) (h : b_X7_pieces Fpiece Fcondition Fpieces t M bc bs Q) : Met l yX7_pieces (ws_ yX7_pieces cX7_pieces 3 (some (.object "LetterHeaps$Condition"))) ({ frames := 77 + (d + 1), cells := bc, slots := bs, locals := 3123 + 40 * (d + 1) } : Room) (PcW D cA sz0 H0 [.ref (sz0 + t)] M) (QW_r D cA sz0 H0 (fun o M' => Q o M' ∧ Shp M')) bc bs (Aw sz0) := by
  replace h : ((0 + 1 ≤ bc ∧ 0 + 3 ≤ bs) ∧ (∀ r2, r2 = wn M → (∀ M3 : WM, M3 = wNw M 10 0 → (wk M3 t = 6 ∧ (∃ mc5 ms6, (0 + 1) + mc5 ≤ bc ∧ (0 + 3) + ms6 ≤ bs ∧ (Fpiece t M3 mc5 ms6 (fun (a7 : Option Nat) (M8 : WM) => ((((0 + 1) + mc5) ≤ bc ∧ ((0 + 3) + ms6) ≤ bs) ∧ (m_X13_init r2 a7 ((0 : Int32)) M8 (fun (M11 : WM) => (∃ n0, m_X7_pieces_l15 Fpiece Fcondition Fpieces t r2 bc bs Q n0 r2 M11 ((((0 + 1) + mc5) + 0)) ((((0 + 3) + ms6) + 0))))))))))))) := h
  refine Met.ofV (by decide +kernel) (Nat.le_of_ble_eq_true rfl) ?_
  intro p e s m args below meth c cx hnm
  replace cx : Cx p s m args meth c cX7_pieces 3 RX7 (some (.object "LetterHeaps$Condition")) D cA sz0 H0 := cx
  refine v_sub (lv' := [(0, .ref (sz0 + t))]) [0] rfl ?_
  obtain ⟨q1, h⟩ := h
  refine v_new (pc := 0) cx cl_X13 (by decide) in_X13 tyX13 tyX13_ok q647 q648 q140 df_X13 q1.1 q1.2 dX7_pieces_0 ?_
  refine v_topr (fun r2 er2 => ?_)
  replace h := h r2 er2
  refine v_wld (fun M3 eM3 => ?_)
  replace h := h M3 eM3
  replace sh : Shp M3 := Shp_Nw sh eM3
  refine v_dup (pc := 3) cx dX7_pieces_3 rfl ?_
  refine v_aload_n (pc := 4) cx dX7_pieces_4 rfl 0 rfl ?_
  obtain ⟨k4, h⟩ := h
  obtain ⟨mc5, ms6, hmc, hms, h⟩ := h
  refine v_run_r (pc := 5) cx (kcq653_X7 cx (hFpiece t M3 mc5 ms6 _ sh h) ⟨by dsimp only; omega, by dsimp only; omega⟩ k4 (As := []) rfl rfl (Nat.le_of_ble_eq_true rfl) dX7_pieces_5 ⟨hmc, hms⟩) (fun a7 M8 hq => ?_)
  obtain ⟨h, sh⟩ := hq
  refine v_iconst (pc := 8) cx dX7_pieces_8 ic_0 ?_
  obtain ⟨hb9, h⟩ := h
  refine v_run_v (pc := 9) cx (kcq686_X7 cx (c_X13_init l D cA sz0 H0 M8 r2 a7 ((0 : Int32))  _ sh h) ⟨by dsimp only; omega, by dsimp only; omega⟩ (As := [vr sz0 a7, .int (0 : Int32)]) rfl rfl (Nat.le_of_ble_eq_true rfl) dX7_pieces_9 ⟨hb9.1, hb9.2⟩) (fun M11 hq => ?_)
  obtain ⟨h, sh⟩ := hq
  refine v_astore_n (pc := 12) cx dX7_pieces_12 rfl (Nat.le_of_ble_eq_true rfl) (lv' := [(1, .ref (sz0 + r2)), (0, .ref (sz0 + t))]) rfl ?_
  refine v_aload_n (pc := 13) cx dX7_pieces_13 rfl 0 rfl ?_
  refine v_astore_n (pc := 14) cx dX7_pieces_14 rfl (Nat.le_of_ble_eq_true rfl) (lv' := [(2, .ref (sz0 + r2)), (1, .ref (sz0 + r2)), (0, .ref (sz0 + t))]) rfl ?_
  refine v_sub (lv' := [(0, .ref (sz0 + t)), (1, .ref (sz0 + r2)), (2, .ref (sz0 + r2))]) [2, 1, 0] rfl ?_
  obtain ⟨n0, h⟩ := h
  exact w_X7_pieces_l15 cx hFpiece hFcondition hFpieces n0 r2 M11 sh ((((0 + 1) + mc5) + 0)) ((((0 + 3) + ms6) + 0)) h
def mg_cong : Nat → (Nat → WM → Nat → Nat → (Option Nat → WM → Prop) → Prop) × (Nat → WM → Nat → Nat → (Option Nat → WM → Prop) → Prop) × (Nat → WM → Nat → Nat → (Option Nat → WM → Prop) → Prop)
  | 0 => (fun _ _ _ _ _ => False, fun _ _ _ _ _ => False, fun _ _ _ _ _ => False)
  | d + 1 => (b_X7_piece (mg_cong d).1 (mg_cong d).2.1 (mg_cong d).2.2, b_X7_condition (mg_cong d).1 (mg_cong d).2.1 (mg_cong d).2.2, b_X7_pieces (mg_cong d).1 (mg_cong d).2.1 (mg_cong d).2.2)
def m_X7_piece (d : Nat) : Nat → WM → Nat → Nat → (Option Nat → WM → Prop) → Prop := (mg_cong d).1
def m_X7_condition (d : Nat) : Nat → WM → Nat → Nat → (Option Nat → WM → Prop) → Prop := (mg_cong d).2.1
def m_X7_pieces (d : Nat) : Nat → WM → Nat → Nat → (Option Nat → WM → Prop) → Prop := (mg_cong d).2.2
theorem cg_cong (l : Launch) (D : va_G) (cA : Nat → ClassId) (sz0 : Nat) (H0 : Heap) : ∀ d : Nat, (∀ (t : Nat) (M : WM) (bc bs : Nat) (Q : Option Nat → WM → Prop) (sh : Shp M), m_X7_piece d t M bc bs Q → Met l yX7_piece (ws_ yX7_piece cX7_piece 4 (some (.object "LetterHeaps$Condition"))) ({ frames := 77 + d, cells := bc, slots := bs, locals := 3123 + 40 * d } : Room) (PcW D cA sz0 H0 [.ref (sz0 + t)] M) (QW_r D cA sz0 H0 (fun o M' => Q o M' ∧ Shp M')) bc bs (Aw sz0)) ∧ (∀ (t : Nat) (M : WM) (bc bs : Nat) (Q : Option Nat → WM → Prop) (sh : Shp M), m_X7_condition d t M bc bs Q → Met l yX7_condition (ws_ yX7_condition cX7_condition 3 (some (.object "LetterHeaps$Condition"))) ({ frames := 77 + d, cells := bc, slots := bs, locals := 3123 + 40 * d } : Room) (PcW D cA sz0 H0 [.ref (sz0 + t)] M) (QW_r D cA sz0 H0 (fun o M' => Q o M' ∧ Shp M')) bc bs (Aw sz0)) ∧ (∀ (t : Nat) (M : WM) (bc bs : Nat) (Q : Option Nat → WM → Prop) (sh : Shp M), m_X7_pieces d t M bc bs Q → Met l yX7_pieces (ws_ yX7_pieces cX7_pieces 3 (some (.object "LetterHeaps$Condition"))) ({ frames := 77 + d, cells := bc, slots := bs, locals := 3123 + 40 * d } : Room) (PcW D cA sz0 H0 [.ref (sz0 + t)] M) (QW_r D cA sz0 H0 (fun o M' => Q o M' ∧ Shp M')) bc bs (Aw sz0)) := by
  intro d
  induction d with
  | zero => exact ⟨fun t M bc bs Q sh h => h.elim, fun t M bc bs Q sh h => h.elim, fun t M bc bs Q sh h => h.elim⟩
  | succ d ih => exact ⟨fun t M bc bs Q sh h => cb_X7_piece ih.1 ih.2.1 ih.2.2 M t bc bs Q sh h, fun t M bc bs Q sh h => cb_X7_condition ih.1 ih.2.1 ih.2.2 M t bc bs Q sh h, fun t M bc bs Q sh h => cb_X7_pieces ih.1 ih.2.1 ih.2.2 M t bc bs Q sh h⟩
theorem c_X7_piece (l : Launch) (D : va_G) (cA : Nat → ClassId) (sz0 : Nat) (H0 : Heap) (M : WM) (t : Nat) (d : Nat) (bc bs : Nat) (Q : Option Nat → WM → Prop) (sh : Shp M) (h : m_X7_piece d t M bc bs Q) : Met l yX7_piece (ws_ yX7_piece cX7_piece 4 (some (.object "LetterHeaps$Condition"))) ({ frames := 77 + d, cells := bc, slots := bs, locals := 3123 + 40 * d } : Room) (PcW D cA sz0 H0 [.ref (sz0 + t)] M) (QW_r D cA sz0 H0 (fun o M' => Q o M' ∧ Shp M')) bc bs (Aw sz0) := (cg_cong l D cA sz0 H0 d).1 t M bc bs Q sh h
theorem c_X7_condition (l : Launch) (D : va_G) (cA : Nat → ClassId) (sz0 : Nat) (H0 : Heap) (M : WM) (t : Nat) (d : Nat) (bc bs : Nat) (Q : Option Nat → WM → Prop) (sh : Shp M) (h : m_X7_condition d t M bc bs Q) : Met l yX7_condition (ws_ yX7_condition cX7_condition 3 (some (.object "LetterHeaps$Condition"))) ({ frames := 77 + d, cells := bc, slots := bs, locals := 3123 + 40 * d } : Room) (PcW D cA sz0 H0 [.ref (sz0 + t)] M) (QW_r D cA sz0 H0 (fun o M' => Q o M' ∧ Shp M')) bc bs (Aw sz0) := (cg_cong l D cA sz0 H0 d).2.1 t M bc bs Q sh h
theorem c_X7_pieces (l : Launch) (D : va_G) (cA : Nat → ClassId) (sz0 : Nat) (H0 : Heap) (M : WM) (t : Nat) (d : Nat) (bc bs : Nat) (Q : Option Nat → WM → Prop) (sh : Shp M) (h : m_X7_pieces d t M bc bs Q) : Met l yX7_pieces (ws_ yX7_pieces cX7_pieces 3 (some (.object "LetterHeaps$Condition"))) ({ frames := 77 + d, cells := bc, slots := bs, locals := 3123 + 40 * d } : Room) (PcW D cA sz0 H0 [.ref (sz0 + t)] M) (QW_r D cA sz0 H0 (fun o M' => Q o M' ∧ Shp M')) bc bs (Aw sz0) := (cg_cong l D cA sz0 H0 d).2.2 t M bc bs Q sh h
/-! LetterHeaps$Reader.clause()V -/
def m_X7_clause_j128   (x0 : Nat) (x1 : Int32) (x2 : Option Nat) (y0 : Option Nat)  (bc bs : Nat) (Q : WM → Prop) (M : WM) (kc : Nat) (ks : Nat) : Prop := (wk M x0 = 6 ∧ (∃ r2, wR M x0 1 = some r2 ∧ (wk M r2 = 1 ∧ (∃ r4, wR M r2 0 = some r4 ∧ (wk M x0 = 6 ∧ (∃ r6, wR M x0 1 = some r6 ∧ (wk M r6 = 1 ∧ (wk M r4 = 100 ∧ (vp_in ((wI M r6 3)) (wl M r4) ∧ (∀ M10 : WM, M10 = wPI M r4 ((wI M r6 3)).toNatClampNeg x1 → (wk M10 x0 = 6 ∧ (∃ r12, wR M10 x0 1 = some r12 ∧ (wk M10 r12 = 1 ∧ (∃ r14, wR M10 r12 1 = some r14 ∧ (wk M10 x0 = 6 ∧ (∃ r16, wR M10 x0 1 = some r16 ∧ (wk M10 r16 = 1 ∧ ((x2 = none → (wk M10 r14 = 108 ∧ (vp_in ((wI M10 r16 3)) (wl M10 r14) ∧ (shR r14 ((wI M10 r16 3)).toNatClampNeg = none ∧ (∀ M22 : WM, M22 = wPR M10 r14 ((wI M10 r16 3)).toNatClampNeg none → (wk M22 x0 = 6 ∧ (∃ r24, wR M22 x0 1 = some r24 ∧ (wk M22 r24 = 1 ∧ (∃ r26, wR M22 r24 2 = some r26 ∧ (wk M22 x0 = 6 ∧ (∃ r28, wR M22 x0 1 = some r28 ∧ (wk M22 r28 = 1 ∧ ((y0 = none → (wk M22 r26 = 109 ∧ (vp_in ((wI M22 r28 3)) (wl M22 r26) ∧ (shR r26 ((wI M22 r28 3)).toNatClampNeg = none ∧ (∀ M34 : WM, M34 = wPR M22 r26 ((wI M22 r28 3)).toNatClampNeg none → (wk M34 x0 = 6 ∧ (∃ r36, wR M34 x0 1 = some r36 ∧ (wk M34 r36 = 1 ∧ (wk M34 r36 = 1 ∧ (∀ M39 : WM, M39 = wPI M34 r36 3 (((wI M34 r36 3) + (1 : Int32))) → ((kc ≤ bc ∧ ks ≤ bs) ∧ Q M39))))))))))) ∧ (∀ r30, y0 = some r30 → (wk M22 r26 = 109 ∧ (vp_in ((wI M22 r28 3)) (wl M22 r26) ∧ (shR r26 ((wI M22 r28 3)).toNatClampNeg = none ∧ (wk M22 r30 = 10 ∧ (∀ M45 : WM, M45 = wPR M22 r26 ((wI M22 r28 3)).toNatClampNeg (some r30) → (wk M45 x0 = 6 ∧ (∃ r47, wR M45 x0 1 = some r47 ∧ (wk M45 r47 = 1 ∧ (wk M45 r47 = 1 ∧ (∀ M50 : WM, M50 = wPI M45 r47 3 (((wI M45 r47 3) + (1 : Int32))) → ((kc ≤ bc ∧ ks ≤ bs) ∧ Q M50))))))))))))))))))))))))) ∧ (∀ r18, x2 = some r18 → (wk M10 r14 = 108 ∧ (vp_in ((wI M10 r16 3)) (wl M10 r14) ∧ (shR r14 ((wI M10 r16 3)).toNatClampNeg = none ∧ (wk M10 r18 = 7 ∧ (∀ M56 : WM, M56 = wPR M10 r14 ((wI M10 r16 3)).toNatClampNeg (some r18) → (wk M56 x0 = 6 ∧ (∃ r58, wR M56 x0 1 = some r58 ∧ (wk M56 r58 = 1 ∧ (∃ r60, wR M56 r58 2 = some r60 ∧ (wk M56 x0 = 6 ∧ (∃ r62, wR M56 x0 1 = some r62 ∧ (wk M56 r62 = 1 ∧ ((y0 = none → (wk M56 r60 = 109 ∧ (vp_in ((wI M56 r62 3)) (wl M56 r60) ∧ (shR r60 ((wI M56 r62 3)).toNatClampNeg = none ∧ (∀ M68 : WM, M68 = wPR M56 r60 ((wI M56 r62 3)).toNatClampNeg none → (wk M68 x0 = 6 ∧ (∃ r70, wR M68 x0 1 = some r70 ∧ (wk M68 r70 = 1 ∧ (wk M68 r70 = 1 ∧ (∀ M73 : WM, M73 = wPI M68 r70 3 (((wI M68 r70 3) + (1 : Int32))) → ((kc ≤ bc ∧ ks ≤ bs) ∧ Q M73))))))))))) ∧ (∀ r64, y0 = some r64 → (wk M56 r60 = 109 ∧ (vp_in ((wI M56 r62 3)) (wl M56 r60) ∧ (shR r60 ((wI M56 r62 3)).toNatClampNeg = none ∧ (wk M56 r64 = 10 ∧ (∀ M79 : WM, M79 = wPR M56 r60 ((wI M56 r62 3)).toNatClampNeg (some r64) → (wk M79 x0 = 6 ∧ (∃ r81, wR M79 x0 1 = some r81 ∧ (wk M79 r81 = 1 ∧ (wk M79 r81 = 1 ∧ (∀ M84 : WM, M84 = wPI M79 r81 3 (((wI M79 r81 3) + (1 : Int32))) → ((kc ≤ bc ∧ ks ≤ bs) ∧ Q M84))))))))))))))))))))))))))))))))))))))))))))
theorem w_X7_clause_j128 {p : Program} {l : Launch} {e : Env} {s : State} {m : MethodId} {args : Array Value} {below : List Frame} {meth : Method} {c : Code} {D : va_G} {cA : Nat → ClassId} {sz0 : Nat} {H0 : Heap}  {x0 : Nat} {x1 : Int32} {x2 : Option Nat} {y0 : Option Nat} {bc bs : Nat} {Q : WM → Prop}  (cx : Cx p s m args meth c cX7_clause 4 RX7 none D cA sz0 H0)       (M : WM) (sh : Shp M) (kc ks : Nat) (h : m_X7_clause_j128 x0 x1 x2 y0 bc bs Q M kc ks) : V p l e ({ frames := 148, cells := bc, slots := bs, locals := 5945 } : Room) s m args below meth c 4 D cA sz0 H0 kc ks (MQ below (QW_v D cA sz0 H0 (fun M' => Q M' ∧ Shp M')) args s bc bs (Aw sz0)) 128 [(0, .ref (sz0 + x0)), (1, .int x1), (2, vr sz0 x2)] [vr sz0 y0] M := by
  replace h : (wk M x0 = 6 ∧ (∃ r2, wR M x0 1 = some r2 ∧ (wk M r2 = 1 ∧ (∃ r4, wR M r2 0 = some r4 ∧ (wk M x0 = 6 ∧ (∃ r6, wR M x0 1 = some r6 ∧ (wk M r6 = 1 ∧ (wk M r4 = 100 ∧ (vp_in ((wI M r6 3)) (wl M r4) ∧ (∀ M10 : WM, M10 = wPI M r4 ((wI M r6 3)).toNatClampNeg x1 → (wk M10 x0 = 6 ∧ (∃ r12, wR M10 x0 1 = some r12 ∧ (wk M10 r12 = 1 ∧ (∃ r14, wR M10 r12 1 = some r14 ∧ (wk M10 x0 = 6 ∧ (∃ r16, wR M10 x0 1 = some r16 ∧ (wk M10 r16 = 1 ∧ ((x2 = none → (wk M10 r14 = 108 ∧ (vp_in ((wI M10 r16 3)) (wl M10 r14) ∧ (shR r14 ((wI M10 r16 3)).toNatClampNeg = none ∧ (∀ M22 : WM, M22 = wPR M10 r14 ((wI M10 r16 3)).toNatClampNeg none → (wk M22 x0 = 6 ∧ (∃ r24, wR M22 x0 1 = some r24 ∧ (wk M22 r24 = 1 ∧ (∃ r26, wR M22 r24 2 = some r26 ∧ (wk M22 x0 = 6 ∧ (∃ r28, wR M22 x0 1 = some r28 ∧ (wk M22 r28 = 1 ∧ ((y0 = none → (wk M22 r26 = 109 ∧ (vp_in ((wI M22 r28 3)) (wl M22 r26) ∧ (shR r26 ((wI M22 r28 3)).toNatClampNeg = none ∧ (∀ M34 : WM, M34 = wPR M22 r26 ((wI M22 r28 3)).toNatClampNeg none → (wk M34 x0 = 6 ∧ (∃ r36, wR M34 x0 1 = some r36 ∧ (wk M34 r36 = 1 ∧ (wk M34 r36 = 1 ∧ (∀ M39 : WM, M39 = wPI M34 r36 3 (((wI M34 r36 3) + (1 : Int32))) → ((kc ≤ bc ∧ ks ≤ bs) ∧ Q M39))))))))))) ∧ (∀ r30, y0 = some r30 → (wk M22 r26 = 109 ∧ (vp_in ((wI M22 r28 3)) (wl M22 r26) ∧ (shR r26 ((wI M22 r28 3)).toNatClampNeg = none ∧ (wk M22 r30 = 10 ∧ (∀ M45 : WM, M45 = wPR M22 r26 ((wI M22 r28 3)).toNatClampNeg (some r30) → (wk M45 x0 = 6 ∧ (∃ r47, wR M45 x0 1 = some r47 ∧ (wk M45 r47 = 1 ∧ (wk M45 r47 = 1 ∧ (∀ M50 : WM, M50 = wPI M45 r47 3 (((wI M45 r47 3) + (1 : Int32))) → ((kc ≤ bc ∧ ks ≤ bs) ∧ Q M50))))))))))))))))))))))))) ∧ (∀ r18, x2 = some r18 → (wk M10 r14 = 108 ∧ (vp_in ((wI M10 r16 3)) (wl M10 r14) ∧ (shR r14 ((wI M10 r16 3)).toNatClampNeg = none ∧ (wk M10 r18 = 7 ∧ (∀ M56 : WM, M56 = wPR M10 r14 ((wI M10 r16 3)).toNatClampNeg (some r18) → (wk M56 x0 = 6 ∧ (∃ r58, wR M56 x0 1 = some r58 ∧ (wk M56 r58 = 1 ∧ (∃ r60, wR M56 r58 2 = some r60 ∧ (wk M56 x0 = 6 ∧ (∃ r62, wR M56 x0 1 = some r62 ∧ (wk M56 r62 = 1 ∧ ((y0 = none → (wk M56 r60 = 109 ∧ (vp_in ((wI M56 r62 3)) (wl M56 r60) ∧ (shR r60 ((wI M56 r62 3)).toNatClampNeg = none ∧ (∀ M68 : WM, M68 = wPR M56 r60 ((wI M56 r62 3)).toNatClampNeg none → (wk M68 x0 = 6 ∧ (∃ r70, wR M68 x0 1 = some r70 ∧ (wk M68 r70 = 1 ∧ (wk M68 r70 = 1 ∧ (∀ M73 : WM, M73 = wPI M68 r70 3 (((wI M68 r70 3) + (1 : Int32))) → ((kc ≤ bc ∧ ks ≤ bs) ∧ Q M73))))))))))) ∧ (∀ r64, y0 = some r64 → (wk M56 r60 = 109 ∧ (vp_in ((wI M56 r62 3)) (wl M56 r60) ∧ (shR r60 ((wI M56 r62 3)).toNatClampNeg = none ∧ (wk M56 r64 = 10 ∧ (∀ M79 : WM, M79 = wPR M56 r60 ((wI M56 r62 3)).toNatClampNeg (some r64) → (wk M79 x0 = 6 ∧ (∃ r81, wR M79 x0 1 = some r81 ∧ (wk M79 r81 = 1 ∧ (wk M79 r81 = 1 ∧ (∀ M84 : WM, M84 = wPI M79 r81 3 (((wI M79 r81 3) + (1 : Int32))) → ((kc ≤ bc ∧ ks ≤ bs) ∧ Q M84)))))))))))))))))))))))))))))))))))))))))))) := h
  refine v_astore_nQ (pc := 128) cx dX7_clause_128 rfl (Nat.le_of_ble_eq_true rfl) (lv' := [(3, vr sz0 y0), (0, .ref (sz0 + x0)), (1, .int x1), (2, vr sz0 x2)]) (by cases x2 <;> rfl) ?_
  refine v_aload_n (pc := 129) cx dX7_clause_129 rfl 1 rfl ?_
  obtain ⟨k1, h⟩ := h
  obtain ⟨r2, er2, h⟩ := h
  refine gq446_X7 (pc := 130) cx dX7_clause_130 k1 (v_some er2 ?_)
  obtain ⟨k3, h⟩ := h
  obtain ⟨r4, er4, h⟩ := h
  refine gq166_X1 (pc := 133) cx dX7_clause_133 k3 (v_some er4 ?_)
  refine v_aload_n (pc := 136) cx dX7_clause_136 rfl 1 rfl ?_
  obtain ⟨k5, h⟩ := h
  obtain ⟨r6, er6, h⟩ := h
  refine gq446_X7 (pc := 137) cx dX7_clause_137 k5 (v_some er6 ?_)
  obtain ⟨k7, h⟩ := h
  refine gq172_X1 (pc := 140) cx dX7_clause_140 k7 ?_
  refine v_iload_n (pc := 143) cx dX7_clause_143 rfl 2 rfl ?_
  obtain ⟨k8, h⟩ := h
  obtain ⟨b9, h⟩ := h
  refine v_iast (pc := 144) cx dX7_clause_144 k8 rfl b9 ?_
  refine v_wld (fun M10 eM10 => ?_)
  replace h := h M10 eM10
  replace sh : Shp M10 := Shp_PI sh eM10
  refine v_aload_n (pc := 145) cx dX7_clause_145 rfl 1 rfl ?_
  obtain ⟨k11, h⟩ := h
  obtain ⟨r12, er12, h⟩ := h
  refine gq446_X7 (pc := 146) cx dX7_clause_146 k11 (v_some er12 ?_)
  obtain ⟨k13, h⟩ := h
  obtain ⟨r14, er14, h⟩ := h
  refine gq168_X1 (pc := 149) cx dX7_clause_149 k13 (v_some er14 ?_)
  refine v_aload_n (pc := 152) cx dX7_clause_152 rfl 1 rfl ?_
  obtain ⟨k15, h⟩ := h
  obtain ⟨r16, er16, h⟩ := h
  refine gq446_X7 (pc := 153) cx dX7_clause_153 k15 (v_some er16 ?_)
  obtain ⟨k17, h⟩ := h
  refine gq172_X1 (pc := 156) cx dX7_clause_156 k17 ?_
  refine v_aload_nQ (pc := 159) cx dX7_clause_159 rfl 3 rfl ?_
  rcases x2 with _ | r18
  · replace h := h.1 rfl
    obtain ⟨k19, h⟩ := h
    obtain ⟨b20, h⟩ := h
    obtain ⟨q21, h⟩ := h
    refine v_aastN (pc := 160) cx (kd := 108) (by decide) (by decide) rfl dX7_clause_160 k19 rfl b20 ?_
    refine v_wld (fun M22 eM22 => ?_)
    replace h := h M22 eM22
    replace sh : Shp M22 := Shp_PR sh q21 eM22
    refine v_aload_n (pc := 161) cx dX7_clause_161 rfl 1 rfl ?_
    obtain ⟨k23, h⟩ := h
    obtain ⟨r24, er24, h⟩ := h
    refine gq446_X7 (pc := 162) cx dX7_clause_162 k23 (v_some er24 ?_)
    obtain ⟨k25, h⟩ := h
    obtain ⟨r26, er26, h⟩ := h
    refine gq170_X1 (pc := 165) cx dX7_clause_165 k25 (v_some er26 ?_)
    refine v_aload_n (pc := 168) cx dX7_clause_168 rfl 1 rfl ?_
    obtain ⟨k27, h⟩ := h
    obtain ⟨r28, er28, h⟩ := h
    refine gq446_X7 (pc := 169) cx dX7_clause_169 k27 (v_some er28 ?_)
    obtain ⟨k29, h⟩ := h
    refine gq172_X1 (pc := 172) cx dX7_clause_172 k29 ?_
    refine v_aload_nQ (pc := 175) cx dX7_clause_175 rfl 0 rfl ?_
    rcases y0 with _ | r30
    · replace h := h.1 rfl
      obtain ⟨k31, h⟩ := h
      obtain ⟨b32, h⟩ := h
      obtain ⟨q33, h⟩ := h
      refine v_aastN (pc := 176) cx (kd := 109) (by decide) (by decide) rfl dX7_clause_176 k31 rfl b32 ?_
      refine v_wld (fun M34 eM34 => ?_)
      replace h := h M34 eM34
      replace sh : Shp M34 := Shp_PR sh q33 eM34
      refine v_aload_n (pc := 177) cx dX7_clause_177 rfl 1 rfl ?_
      obtain ⟨k35, h⟩ := h
      obtain ⟨r36, er36, h⟩ := h
      refine gq446_X7 (pc := 178) cx dX7_clause_178 k35 (v_some er36 ?_)
      refine v_dup (pc := 181) cx dX7_clause_181 rfl ?_
      obtain ⟨k37, h⟩ := h
      refine gq172_X1 (pc := 182) cx dX7_clause_182 k37 ?_
      refine v_iconst (pc := 185) cx dX7_clause_185 ic_1 ?_
      refine v_iadd (pc := 186) cx dX7_clause_186 ?_
      obtain ⟨k38, h⟩ := h
      refine pq172_X1 (pc := 187) cx dX7_clause_187 k38 ?_
      refine v_wld (fun M39 eM39 => ?_)
      replace h := h M39 eM39
      replace sh : Shp M39 := Shp_PI sh eM39
      obtain ⟨q40, h⟩ := h
      exact v_vret cx rfl dX7_clause_190 q40 ⟨h, sh⟩
    · replace h := h.2 r30 rfl
      show V p l e _ s m args below meth c 4 D cA sz0 H0 _ _ _ _ [(3, .ref (sz0 + r30)), (0, .ref (sz0 + x0)), (1, .int x1), (2, vr sz0 none)] [.ref (sz0 + r30), .int (wI M22 r28 3), .ref (sz0 + r26)] _
      obtain ⟨k41, h⟩ := h
      obtain ⟨b42, h⟩ := h
      obtain ⟨q43, h⟩ := h
      obtain ⟨k44, h⟩ := h
      refine v_aast (pc := 176) cx (kd := 109) (by decide) (by decide) rfl cl_X13 (by decide) (Or.inr (nst_in q1603 rfl)) dX7_clause_176 k41 k44 rfl b42 ?_
      refine v_wld (fun M45 eM45 => ?_)
      replace h := h M45 eM45
      replace sh : Shp M45 := Shp_PR sh q43 eM45
      refine v_aload_n (pc := 177) cx dX7_clause_177 rfl 1 rfl ?_
      obtain ⟨k46, h⟩ := h
      obtain ⟨r47, er47, h⟩ := h
      refine gq446_X7 (pc := 178) cx dX7_clause_178 k46 (v_some er47 ?_)
      refine v_dup (pc := 181) cx dX7_clause_181 rfl ?_
      obtain ⟨k48, h⟩ := h
      refine gq172_X1 (pc := 182) cx dX7_clause_182 k48 ?_
      refine v_iconst (pc := 185) cx dX7_clause_185 ic_1 ?_
      refine v_iadd (pc := 186) cx dX7_clause_186 ?_
      obtain ⟨k49, h⟩ := h
      refine pq172_X1 (pc := 187) cx dX7_clause_187 k49 ?_
      refine v_wld (fun M50 eM50 => ?_)
      replace h := h M50 eM50
      replace sh : Shp M50 := Shp_PI sh eM50
      obtain ⟨q51, h⟩ := h
      exact v_vret cx rfl dX7_clause_190 q51 ⟨h, sh⟩
  · replace h := h.2 r18 rfl
    show V p l e _ s m args below meth c 4 D cA sz0 H0 _ _ _ _ [(3, vr sz0 y0), (0, .ref (sz0 + x0)), (1, .int x1), (2, .ref (sz0 + r18))] [.ref (sz0 + r18), .int (wI M10 r16 3), .ref (sz0 + r14)] _
    obtain ⟨k52, h⟩ := h
    obtain ⟨b53, h⟩ := h
    obtain ⟨q54, h⟩ := h
    obtain ⟨k55, h⟩ := h
    refine v_aast (pc := 160) cx (kd := 108) (by decide) (by decide) rfl cl_X9 (by decide) (Or.inr (nst_in q1600 rfl)) dX7_clause_160 k52 k55 rfl b53 ?_
    refine v_wld (fun M56 eM56 => ?_)
    replace h := h M56 eM56
    replace sh : Shp M56 := Shp_PR sh q54 eM56
    refine v_aload_n (pc := 161) cx dX7_clause_161 rfl 1 rfl ?_
    obtain ⟨k57, h⟩ := h
    obtain ⟨r58, er58, h⟩ := h
    refine gq446_X7 (pc := 162) cx dX7_clause_162 k57 (v_some er58 ?_)
    obtain ⟨k59, h⟩ := h
    obtain ⟨r60, er60, h⟩ := h
    refine gq170_X1 (pc := 165) cx dX7_clause_165 k59 (v_some er60 ?_)
    refine v_aload_n (pc := 168) cx dX7_clause_168 rfl 1 rfl ?_
    obtain ⟨k61, h⟩ := h
    obtain ⟨r62, er62, h⟩ := h
    refine gq446_X7 (pc := 169) cx dX7_clause_169 k61 (v_some er62 ?_)
    obtain ⟨k63, h⟩ := h
    refine gq172_X1 (pc := 172) cx dX7_clause_172 k63 ?_
    refine v_aload_nQ (pc := 175) cx dX7_clause_175 rfl 0 rfl ?_
    rcases y0 with _ | r64
    · replace h := h.1 rfl
      obtain ⟨k65, h⟩ := h
      obtain ⟨b66, h⟩ := h
      obtain ⟨q67, h⟩ := h
      refine v_aastN (pc := 176) cx (kd := 109) (by decide) (by decide) rfl dX7_clause_176 k65 rfl b66 ?_
      refine v_wld (fun M68 eM68 => ?_)
      replace h := h M68 eM68
      replace sh : Shp M68 := Shp_PR sh q67 eM68
      refine v_aload_n (pc := 177) cx dX7_clause_177 rfl 1 rfl ?_
      obtain ⟨k69, h⟩ := h
      obtain ⟨r70, er70, h⟩ := h
      refine gq446_X7 (pc := 178) cx dX7_clause_178 k69 (v_some er70 ?_)
      refine v_dup (pc := 181) cx dX7_clause_181 rfl ?_
      obtain ⟨k71, h⟩ := h
      refine gq172_X1 (pc := 182) cx dX7_clause_182 k71 ?_
      refine v_iconst (pc := 185) cx dX7_clause_185 ic_1 ?_
      refine v_iadd (pc := 186) cx dX7_clause_186 ?_
      obtain ⟨k72, h⟩ := h
      refine pq172_X1 (pc := 187) cx dX7_clause_187 k72 ?_
      refine v_wld (fun M73 eM73 => ?_)
      replace h := h M73 eM73
      replace sh : Shp M73 := Shp_PI sh eM73
      obtain ⟨q74, h⟩ := h
      exact v_vret cx rfl dX7_clause_190 q74 ⟨h, sh⟩
    · replace h := h.2 r64 rfl
      show V p l e _ s m args below meth c 4 D cA sz0 H0 _ _ _ _ [(3, .ref (sz0 + r64)), (0, .ref (sz0 + x0)), (1, .int x1), (2, .ref (sz0 + r18))] [.ref (sz0 + r64), .int (wI M56 r62 3), .ref (sz0 + r60)] _
      obtain ⟨k75, h⟩ := h
      obtain ⟨b76, h⟩ := h
      obtain ⟨q77, h⟩ := h
      obtain ⟨k78, h⟩ := h
      refine v_aast (pc := 176) cx (kd := 109) (by decide) (by decide) rfl cl_X13 (by decide) (Or.inr (nst_in q1603 rfl)) dX7_clause_176 k75 k78 rfl b76 ?_
      refine v_wld (fun M79 eM79 => ?_)
      replace h := h M79 eM79
      replace sh : Shp M79 := Shp_PR sh q77 eM79
      refine v_aload_n (pc := 177) cx dX7_clause_177 rfl 1 rfl ?_
      obtain ⟨k80, h⟩ := h
      obtain ⟨r81, er81, h⟩ := h
      refine gq446_X7 (pc := 178) cx dX7_clause_178 k80 (v_some er81 ?_)
      refine v_dup (pc := 181) cx dX7_clause_181 rfl ?_
      obtain ⟨k82, h⟩ := h
      refine gq172_X1 (pc := 182) cx dX7_clause_182 k82 ?_
      refine v_iconst (pc := 185) cx dX7_clause_185 ic_1 ?_
      refine v_iadd (pc := 186) cx dX7_clause_186 ?_
      obtain ⟨k83, h⟩ := h
      refine pq172_X1 (pc := 187) cx dX7_clause_187 k83 ?_
      refine v_wld (fun M84 eM84 => ?_)
      replace h := h M84 eM84
      replace sh : Shp M84 := Shp_PI sh eM84
      obtain ⟨q85, h⟩ := h
      exact v_vret cx rfl dX7_clause_190 q85 ⟨h, sh⟩
def m_X7_clause_j113   (x0 : Nat) (x1 : Int32) (x2 : Option Nat)  (bc bs : Nat) (Q : WM → Prop) (M : WM) (kc : Nat) (ks : Nat) : Prop := (wk M x0 = 6 ∧ ((kc ≤ bc ∧ ks ≤ bs) ∧ (m_X7_isGood x0 M (fun (a3 : Int32) => ((a3 = 0 → m_X7_clause_j128 x0 x1 x2 none bc bs Q M ((kc + 0)) ((ks + 0))) ∧ (¬ a3 = 0 → (wk M x0 = 6 ∧ (∃ d0, d0 ≤ 70 ∧ (∃ mc6 ms7, (kc + 0) + mc6 ≤ bc ∧ (ks + 0) + ms7 ≤ bs ∧ (m_X7_condition d0 x0 M mc6 ms7 (fun (a8 : Option Nat) (M9 : WM) => m_X7_clause_j128 x0 x1 x2 a8 bc bs Q M9 (((kc + 0) + mc6)) (((ks + 0) + ms7)))))))))))))
theorem w_X7_clause_j113 {p : Program} {l : Launch} {e : Env} {s : State} {m : MethodId} {args : Array Value} {below : List Frame} {meth : Method} {c : Code} {D : va_G} {cA : Nat → ClassId} {sz0 : Nat} {H0 : Heap}  {x0 : Nat} {x1 : Int32} {x2 : Option Nat} {bc bs : Nat} {Q : WM → Prop}  (cx : Cx p s m args meth c cX7_clause 4 RX7 none D cA sz0 H0)       (M : WM) (sh : Shp M) (kc ks : Nat) (h : m_X7_clause_j113 x0 x1 x2 bc bs Q M kc ks) : V p l e ({ frames := 148, cells := bc, slots := bs, locals := 5945 } : Room) s m args below meth c 4 D cA sz0 H0 kc ks (MQ below (QW_v D cA sz0 H0 (fun M' => Q M' ∧ Shp M')) args s bc bs (Aw sz0)) 113 [(0, .ref (sz0 + x0)), (1, .int x1), (2, vr sz0 x2)] [] M := by
  replace h : (wk M x0 = 6 ∧ ((kc ≤ bc ∧ ks ≤ bs) ∧ (m_X7_isGood x0 M (fun (a3 : Int32) => ((a3 = 0 → m_X7_clause_j128 x0 x1 x2 none bc bs Q M ((kc + 0)) ((ks + 0))) ∧ (¬ a3 = 0 → (wk M x0 = 6 ∧ (∃ d0, d0 ≤ 70 ∧ (∃ mc6 ms7, (kc + 0) + mc6 ≤ bc ∧ (ks + 0) + ms7 ≤ bs ∧ (m_X7_condition d0 x0 M mc6 ms7 (fun (a8 : Option Nat) (M9 : WM) => m_X7_clause_j128 x0 x1 x2 a8 bc bs Q M9 (((kc + 0) + mc6)) (((ks + 0) + ms7))))))))))))) := h
  refine v_aload_n (pc := 113) cx dX7_clause_113 rfl 0 rfl ?_
  obtain ⟨k1, h⟩ := h
  obtain ⟨hb2, h⟩ := h
  refine v_runp_i (pc := 114) cx (kcq472_X7 cx (c_X7_isGood l D cA sz0 H0 M x0  _ sh h) ⟨Nat.le_of_ble_eq_true rfl, Nat.le_of_ble_eq_true rfl⟩ k1 (As := []) rfl rfl (Nat.le_of_ble_eq_true rfl) dX7_clause_114 ⟨hb2.1, hb2.2⟩) (fun a3 hq => ?_)
  replace h := hq
  refine v_if_eq (pc := 117) cx dX7_clause_117 (tgt := 127) rfl (fun c4 => ?_) (fun c4 => ?_)
  · replace h := h.1 c4
    refine v_null (pc := 127) cx dX7_clause_127 ?_
    refine v_sub (lv' := [(0, .ref (sz0 + x0)), (1, .int x1), (2, vr sz0 x2)]) [0, 1, 2] rfl ?_
    exact w_X7_clause_j128 cx M sh ((kc + 0)) ((ks + 0)) h
  · replace h := h.2 c4
    refine v_aload_n (pc := 120) cx dX7_clause_120 rfl 0 rfl ?_
    obtain ⟨k5, h⟩ := h
    obtain ⟨d0, hd0, h⟩ := h
    obtain ⟨mc6, ms7, hmc, hms, h⟩ := h
    refine v_run_r (pc := 121) cx (kcq643_X7 cx (c_X7_condition l D cA sz0 H0 M x0  d0 mc6 ms7 _ sh h) ⟨by dsimp only; omega, by dsimp only; omega⟩ k5 (As := []) rfl rfl (Nat.le_of_ble_eq_true rfl) dX7_clause_121 ⟨hmc, hms⟩) (fun a8 M9 hq => ?_)
    obtain ⟨h, sh⟩ := hq
    refine v_goto (pc := 124) cx dX7_clause_124 (tgt := 128) rfl ?_
    refine v_sub (lv' := [(0, .ref (sz0 + x0)), (1, .int x1), (2, vr sz0 x2)]) [0, 1, 2] rfl ?_
    exact w_X7_clause_j128 cx M9 sh (((kc + 0) + mc6)) (((ks + 0) + ms7)) h
def m_X7_clause_j87   (x0 : Nat) (x1 : Int32) (y0 : Option Nat)  (bc bs : Nat) (Q : WM → Prop) (M : WM) (kc : Nat) (ks : Nat) : Prop := (wk M x0 = 6 ∧ ((kc ≤ bc ∧ ks ≤ bs) ∧ (m_X7_isGood x0 M (fun (a3 : Int32) => ((a3 = 0 → m_X7_clause_j113 x0 x1 y0 bc bs Q M ((kc + 0)) ((ks + 0))) ∧ (¬ a3 = 0 → (wk M x0 = 6 ∧ (((kc + 0) ≤ bc ∧ (ks + 0) ≤ bs) ∧ (m_X7_here x0 M (fun (a7 : Int32) => ((a7 = (40 : Int32) → m_X7_clause_j113 x0 x1 y0 bc bs Q M (((kc + 0) + 0)) (((ks + 0) + 0))) ∧ (¬ a7 = (40 : Int32) → (wk M x0 = 6 ∧ (wk M x0 = 6 ∧ ((((kc + 0) + 0) ≤ bc ∧ ((ks + 0) + 0) ≤ bs) ∧ (m_X7_bad x0 ((1 : Int32)) ((wI M x0 2)) M (fun (M13 : WM) => m_X7_clause_j113 x0 x1 y0 bc bs Q M13 ((((kc + 0) + 0) + 0)) ((((ks + 0) + 0) + 0)))))))))))))))))))
theorem w_X7_clause_j87 {p : Program} {l : Launch} {e : Env} {s : State} {m : MethodId} {args : Array Value} {below : List Frame} {meth : Method} {c : Code} {D : va_G} {cA : Nat → ClassId} {sz0 : Nat} {H0 : Heap}  {x0 : Nat} {x1 : Int32} {y0 : Option Nat} {bc bs : Nat} {Q : WM → Prop}  (cx : Cx p s m args meth c cX7_clause 4 RX7 none D cA sz0 H0)       (M : WM) (sh : Shp M) (kc ks : Nat) (h : m_X7_clause_j87 x0 x1 y0 bc bs Q M kc ks) : V p l e ({ frames := 148, cells := bc, slots := bs, locals := 5945 } : Room) s m args below meth c 4 D cA sz0 H0 kc ks (MQ below (QW_v D cA sz0 H0 (fun M' => Q M' ∧ Shp M')) args s bc bs (Aw sz0)) 87 [(0, .ref (sz0 + x0)), (1, .int x1)] [vr sz0 y0] M := by
  replace h : (wk M x0 = 6 ∧ ((kc ≤ bc ∧ ks ≤ bs) ∧ (m_X7_isGood x0 M (fun (a3 : Int32) => ((a3 = 0 → m_X7_clause_j113 x0 x1 y0 bc bs Q M ((kc + 0)) ((ks + 0))) ∧ (¬ a3 = 0 → (wk M x0 = 6 ∧ (((kc + 0) ≤ bc ∧ (ks + 0) ≤ bs) ∧ (m_X7_here x0 M (fun (a7 : Int32) => ((a7 = (40 : Int32) → m_X7_clause_j113 x0 x1 y0 bc bs Q M (((kc + 0) + 0)) (((ks + 0) + 0))) ∧ (¬ a7 = (40 : Int32) → (wk M x0 = 6 ∧ (wk M x0 = 6 ∧ ((((kc + 0) + 0) ≤ bc ∧ ((ks + 0) + 0) ≤ bs) ∧ (m_X7_bad x0 ((1 : Int32)) ((wI M x0 2)) M (fun (M13 : WM) => m_X7_clause_j113 x0 x1 y0 bc bs Q M13 ((((kc + 0) + 0) + 0)) ((((ks + 0) + 0) + 0))))))))))))))))))) := h
  refine v_astore_nQ (pc := 87) cx dX7_clause_87 rfl (Nat.le_of_ble_eq_true rfl) (lv' := [(2, vr sz0 y0), (0, .ref (sz0 + x0)), (1, .int x1)]) rfl ?_
  refine v_aload_n (pc := 88) cx dX7_clause_88 rfl 1 rfl ?_
  obtain ⟨k1, h⟩ := h
  obtain ⟨hb2, h⟩ := h
  refine v_runp_i (pc := 89) cx (kcq472_X7 cx (c_X7_isGood l D cA sz0 H0 M x0  _ sh h) ⟨Nat.le_of_ble_eq_true rfl, Nat.le_of_ble_eq_true rfl⟩ k1 (As := []) rfl rfl (Nat.le_of_ble_eq_true rfl) dX7_clause_89 ⟨hb2.1, hb2.2⟩) (fun a3 hq => ?_)
  replace h := hq
  refine v_if_eq (pc := 92) cx dX7_clause_92 (tgt := 113) rfl (fun c4 => ?_) (fun c4 => ?_)
  · replace h := h.1 c4
    refine v_sub (lv' := [(0, .ref (sz0 + x0)), (1, .int x1), (2, vr sz0 y0)]) [1, 2, 0] rfl ?_
    exact w_X7_clause_j113 cx M sh ((kc + 0)) ((ks + 0)) h
  · replace h := h.2 c4
    refine v_aload_n (pc := 95) cx dX7_clause_95 rfl 1 rfl ?_
    obtain ⟨k5, h⟩ := h
    obtain ⟨hb6, h⟩ := h
    refine v_runp_i (pc := 96) cx (kcq480_X7 cx (c_X7_here l D cA sz0 H0 M x0  _ sh h) ⟨Nat.le_of_ble_eq_true rfl, Nat.le_of_ble_eq_true rfl⟩ k5 (As := []) rfl rfl (Nat.le_of_ble_eq_true rfl) dX7_clause_96 ⟨hb6.1, hb6.2⟩) (fun a7 hq => ?_)
    replace h := hq
    refine v_bipush (pc := 99) cx dX7_clause_99 bc_40 ?_
    refine v_icmp_eq (pc := 101) cx dX7_clause_101 (tgt := 113) rfl (fun c8 => ?_) (fun c8 => ?_)
    · replace h := h.1 c8
      refine v_sub (lv' := [(0, .ref (sz0 + x0)), (1, .int x1), (2, vr sz0 y0)]) [1, 2, 0] rfl ?_
      exact w_X7_clause_j113 cx M sh (((kc + 0) + 0)) (((ks + 0) + 0)) h
    · replace h := h.2 c8
      refine v_aload_n (pc := 104) cx dX7_clause_104 rfl 1 rfl ?_
      refine v_iconst (pc := 105) cx dX7_clause_105 ic_1 ?_
      refine v_aload_n (pc := 106) cx dX7_clause_106 rfl 1 rfl ?_
      obtain ⟨k9, h⟩ := h
      refine gq448_X7 (pc := 107) cx dX7_clause_107 k9 ?_
      obtain ⟨k10, h⟩ := h
      obtain ⟨hb11, h⟩ := h
      refine v_run_v (pc := 110) cx (kcq484_X7 cx (c_X7_bad l D cA sz0 H0 M x0 ((1 : Int32)) ((wI M x0 2))  _ sh h) ⟨Nat.le_of_ble_eq_true rfl, Nat.le_of_ble_eq_true rfl⟩ k10 (As := [.int (1 : Int32), .int (wI M x0 2)]) rfl rfl (Nat.le_of_ble_eq_true rfl) dX7_clause_110 ⟨hb11.1, hb11.2⟩) (fun M13 hq => ?_)
      obtain ⟨h, sh⟩ := hq
      refine v_sub (lv' := [(0, .ref (sz0 + x0)), (1, .int x1), (2, vr sz0 y0)]) [1, 2, 0] rfl ?_
      exact w_X7_clause_j113 cx M13 sh ((((kc + 0) + 0) + 0)) ((((ks + 0) + 0) + 0)) h
def m_X7_clause_j50   (x0 : Nat) (x1 : Int32)  (bc bs : Nat) (Q : WM → Prop) (M : WM) (kc : Nat) (ks : Nat) : Prop := (wk M x0 = 6 ∧ ((kc ≤ bc ∧ ks ≤ bs) ∧ (m_X7_isGood x0 M (fun (a3 : Int32) => ((a3 = 0 → (((kc + 0) ≤ bc ∧ (ks + 0) ≤ bs) ∧ Q M)) ∧ (¬ a3 = 0 → (wk M x0 = 6 ∧ (wk M x0 = 6 ∧ (∀ M7 : WM, M7 = wPI M x0 2 (((wI M x0 2) + (1 : Int32))) → (wk M7 x0 = 6 ∧ (∀ M9 : WM, M9 = wPI M7 x0 3 ((0 : Int32)) → ((x1 = (99 : Int32) → (wk M9 x0 = 6 ∧ (∃ d0, d0 ≤ 70 ∧ (∃ mc12 ms13, (kc + 0) + mc12 ≤ bc ∧ (ks + 0) + ms13 ≤ bs ∧ (m_X7_sum d0 x0 M9 mc12 ms13 (fun (a14 : Option Nat) (M15 : WM) => m_X7_clause_j87 x0 x1 a14 bc bs Q M15 (((kc + 0) + mc12)) (((ks + 0) + ms13)))))))) ∧ (¬ x1 = (99 : Int32) → m_X7_clause_j87 x0 x1 none bc bs Q M9 ((kc + 0)) ((ks + 0)))))))))))))))
theorem w_X7_clause_j50 {p : Program} {l : Launch} {e : Env} {s : State} {m : MethodId} {args : Array Value} {below : List Frame} {meth : Method} {c : Code} {D : va_G} {cA : Nat → ClassId} {sz0 : Nat} {H0 : Heap}  {x0 : Nat} {x1 : Int32} {bc bs : Nat} {Q : WM → Prop}  (cx : Cx p s m args meth c cX7_clause 4 RX7 none D cA sz0 H0)       (M : WM) (sh : Shp M) (kc ks : Nat) (h : m_X7_clause_j50 x0 x1 bc bs Q M kc ks) : V p l e ({ frames := 148, cells := bc, slots := bs, locals := 5945 } : Room) s m args below meth c 4 D cA sz0 H0 kc ks (MQ below (QW_v D cA sz0 H0 (fun M' => Q M' ∧ Shp M')) args s bc bs (Aw sz0)) 50 [(0, .ref (sz0 + x0)), (1, .int x1)] [] M := by
  replace h : (wk M x0 = 6 ∧ ((kc ≤ bc ∧ ks ≤ bs) ∧ (m_X7_isGood x0 M (fun (a3 : Int32) => ((a3 = 0 → (((kc + 0) ≤ bc ∧ (ks + 0) ≤ bs) ∧ Q M)) ∧ (¬ a3 = 0 → (wk M x0 = 6 ∧ (wk M x0 = 6 ∧ (∀ M7 : WM, M7 = wPI M x0 2 (((wI M x0 2) + (1 : Int32))) → (wk M7 x0 = 6 ∧ (∀ M9 : WM, M9 = wPI M7 x0 3 ((0 : Int32)) → ((x1 = (99 : Int32) → (wk M9 x0 = 6 ∧ (∃ d0, d0 ≤ 70 ∧ (∃ mc12 ms13, (kc + 0) + mc12 ≤ bc ∧ (ks + 0) + ms13 ≤ bs ∧ (m_X7_sum d0 x0 M9 mc12 ms13 (fun (a14 : Option Nat) (M15 : WM) => m_X7_clause_j87 x0 x1 a14 bc bs Q M15 (((kc + 0) + mc12)) (((ks + 0) + ms13)))))))) ∧ (¬ x1 = (99 : Int32) → m_X7_clause_j87 x0 x1 none bc bs Q M9 ((kc + 0)) ((ks + 0))))))))))))))) := h
  refine v_aload_n (pc := 50) cx dX7_clause_50 rfl 0 rfl ?_
  obtain ⟨k1, h⟩ := h
  obtain ⟨hb2, h⟩ := h
  refine v_runp_i (pc := 51) cx (kcq472_X7 cx (c_X7_isGood l D cA sz0 H0 M x0  _ sh h) ⟨Nat.le_of_ble_eq_true rfl, Nat.le_of_ble_eq_true rfl⟩ k1 (As := []) rfl rfl (Nat.le_of_ble_eq_true rfl) dX7_clause_51 ⟨hb2.1, hb2.2⟩) (fun a3 hq => ?_)
  replace h := hq
  refine v_if_ne (pc := 54) cx dX7_clause_54 (tgt := 58) rfl (fun c4 => ?_) (fun c4 => ?_)
  · replace h := h.2 c4
    refine v_aload_n (pc := 58) cx dX7_clause_58 rfl 0 rfl ?_
    refine v_dup (pc := 59) cx dX7_clause_59 rfl ?_
    obtain ⟨k5, h⟩ := h
    refine gq448_X7 (pc := 60) cx dX7_clause_60 k5 ?_
    refine v_iconst (pc := 63) cx dX7_clause_63 ic_1 ?_
    refine v_iadd (pc := 64) cx dX7_clause_64 ?_
    obtain ⟨k6, h⟩ := h
    refine pq448_X7 (pc := 65) cx dX7_clause_65 k6 ?_
    refine v_wld (fun M7 eM7 => ?_)
    replace h := h M7 eM7
    replace sh : Shp M7 := Shp_PI sh eM7
    refine v_aload_n (pc := 68) cx dX7_clause_68 rfl 0 rfl ?_
    refine v_iconst (pc := 69) cx dX7_clause_69 ic_0 ?_
    obtain ⟨k8, h⟩ := h
    refine pq449_X7 (pc := 70) cx dX7_clause_70 k8 ?_
    refine v_wld (fun M9 eM9 => ?_)
    replace h := h M9 eM9
    replace sh : Shp M9 := Shp_PI sh eM9
    refine v_iload_n (pc := 73) cx dX7_clause_73 rfl 1 rfl ?_
    refine v_bipush (pc := 74) cx dX7_clause_74 bc_99 ?_
    refine v_icmp_ne (pc := 76) cx dX7_clause_76 (tgt := 86) rfl (fun c10 => ?_) (fun c10 => ?_)
    · replace h := h.2 c10
      refine v_null (pc := 86) cx dX7_clause_86 ?_
      refine v_sub (lv' := [(0, .ref (sz0 + x0)), (1, .int x1)]) [0, 1] rfl ?_
      exact w_X7_clause_j87 cx M9 sh ((kc + 0)) ((ks + 0)) h
    · replace h := h.1 c10
      refine v_aload_n (pc := 79) cx dX7_clause_79 rfl 0 rfl ?_
      obtain ⟨k11, h⟩ := h
      obtain ⟨d0, hd0, h⟩ := h
      obtain ⟨mc12, ms13, hmc, hms, h⟩ := h
      refine v_run_r (pc := 80) cx (kcq488_X7 cx (c_X7_sum l D cA sz0 H0 M9 x0  d0 mc12 ms13 _ sh h) ⟨by dsimp only; omega, by dsimp only; omega⟩ k11 (As := []) rfl rfl (Nat.le_of_ble_eq_true rfl) dX7_clause_80 ⟨hmc, hms⟩) (fun a14 M15 hq => ?_)
      obtain ⟨h, sh⟩ := hq
      refine v_goto (pc := 83) cx dX7_clause_83 (tgt := 87) rfl ?_
      refine v_sub (lv' := [(0, .ref (sz0 + x0)), (1, .int x1)]) [0, 1] rfl ?_
      exact w_X7_clause_j87 cx M15 sh (((kc + 0) + mc12)) (((ks + 0) + ms13)) h
  · replace h := h.1 c4
    obtain ⟨q16, h⟩ := h
    exact v_vret cx rfl dX7_clause_57 q16 ⟨h, sh⟩
def m_X7_clause_j29   (x0 : Nat) (x1 : Int32)  (bc bs : Nat) (Q : WM → Prop) (M : WM) (kc : Nat) (ks : Nat) : Prop := (wk M x0 = 6 ∧ (∃ r2, wR M x0 1 = some r2 ∧ (wk M r2 = 1 ∧ (((wI M r2 3) = (12 : Int32) → (wk M x0 = 6 ∧ (wk M x0 = 6 ∧ ((kc ≤ bc ∧ ks ≤ bs) ∧ (m_X7_bad x0 ((4 : Int32)) ((wI M x0 2)) M (fun (M9 : WM) => m_X7_clause_j50 x0 x1 bc bs Q M9 ((kc + 0)) ((ks + 0)))))))) ∧ (¬ (wI M r2 3) = (12 : Int32) → m_X7_clause_j50 x0 x1 bc bs Q M kc ks)))))
theorem w_X7_clause_j29 {p : Program} {l : Launch} {e : Env} {s : State} {m : MethodId} {args : Array Value} {below : List Frame} {meth : Method} {c : Code} {D : va_G} {cA : Nat → ClassId} {sz0 : Nat} {H0 : Heap}  {x0 : Nat} {x1 : Int32} {bc bs : Nat} {Q : WM → Prop}  (cx : Cx p s m args meth c cX7_clause 4 RX7 none D cA sz0 H0)       (M : WM) (sh : Shp M) (kc ks : Nat) (h : m_X7_clause_j29 x0 x1 bc bs Q M kc ks) : V p l e ({ frames := 148, cells := bc, slots := bs, locals := 5945 } : Room) s m args below meth c 4 D cA sz0 H0 kc ks (MQ below (QW_v D cA sz0 H0 (fun M' => Q M' ∧ Shp M')) args s bc bs (Aw sz0)) 29 [(0, .ref (sz0 + x0)), (1, .int x1)] [] M := by
  replace h : (wk M x0 = 6 ∧ (∃ r2, wR M x0 1 = some r2 ∧ (wk M r2 = 1 ∧ (((wI M r2 3) = (12 : Int32) → (wk M x0 = 6 ∧ (wk M x0 = 6 ∧ ((kc ≤ bc ∧ ks ≤ bs) ∧ (m_X7_bad x0 ((4 : Int32)) ((wI M x0 2)) M (fun (M9 : WM) => m_X7_clause_j50 x0 x1 bc bs Q M9 ((kc + 0)) ((ks + 0)))))))) ∧ (¬ (wI M r2 3) = (12 : Int32) → m_X7_clause_j50 x0 x1 bc bs Q M kc ks))))) := h
  refine v_aload_n (pc := 29) cx dX7_clause_29 rfl 0 rfl ?_
  obtain ⟨k1, h⟩ := h
  obtain ⟨r2, er2, h⟩ := h
  refine gq446_X7 (pc := 30) cx dX7_clause_30 k1 (v_some er2 ?_)
  obtain ⟨k3, h⟩ := h
  refine gq172_X1 (pc := 33) cx dX7_clause_33 k3 ?_
  refine v_bipush (pc := 36) cx dX7_clause_36 bc_12 ?_
  refine v_icmp_ne (pc := 38) cx dX7_clause_38 (tgt := 50) rfl (fun c4 => ?_) (fun c4 => ?_)
  · replace h := h.2 c4
    refine v_sub (lv' := [(0, .ref (sz0 + x0)), (1, .int x1)]) [0, 1] rfl ?_
    exact w_X7_clause_j50 cx M sh kc ks h
  · replace h := h.1 c4
    refine v_aload_n (pc := 41) cx dX7_clause_41 rfl 0 rfl ?_
    refine v_iconst (pc := 42) cx dX7_clause_42 ic_4 ?_
    refine v_aload_n (pc := 43) cx dX7_clause_43 rfl 0 rfl ?_
    obtain ⟨k5, h⟩ := h
    refine gq448_X7 (pc := 44) cx dX7_clause_44 k5 ?_
    obtain ⟨k6, h⟩ := h
    obtain ⟨hb7, h⟩ := h
    refine v_run_v (pc := 47) cx (kcq484_X7 cx (c_X7_bad l D cA sz0 H0 M x0 ((4 : Int32)) ((wI M x0 2))  _ sh h) ⟨Nat.le_of_ble_eq_true rfl, Nat.le_of_ble_eq_true rfl⟩ k6 (As := [.int (4 : Int32), .int (wI M x0 2)]) rfl rfl (Nat.le_of_ble_eq_true rfl) dX7_clause_47 ⟨hb7.1, hb7.2⟩) (fun M9 hq => ?_)
    obtain ⟨h, sh⟩ := hq
    refine v_sub (lv' := [(0, .ref (sz0 + x0)), (1, .int x1)]) [0, 1] rfl ?_
    exact w_X7_clause_j50 cx M9 sh ((kc + 0)) ((ks + 0)) h
def m_X7_clause (t : Nat) (M : WM) (bc bs : Nat) (Q : WM → Prop) : Prop := (wk M t = 6 ∧ ((0 ≤ bc ∧ 0 ≤ bs) ∧ (m_X7_here t M (fun (a3 : Int32) => ((a3 = (110 : Int32) → m_X7_clause_j29 t a3 bc bs Q M ((0 + 0)) ((0 + 0))) ∧ (¬ a3 = (110 : Int32) → ((a3 = (99 : Int32) → m_X7_clause_j29 t a3 bc bs Q M ((0 + 0)) ((0 + 0))) ∧ (¬ a3 = (99 : Int32) → (wk M t = 6 ∧ (wk M t = 6 ∧ (((0 + 0) ≤ bc ∧ (0 + 0) ≤ bs) ∧ (m_X7_bad t ((1 : Int32)) ((wI M t 2)) M (fun (M10 : WM) => m_X7_clause_j50 t a3 bc bs Q M10 (((0 + 0) + 0)) (((0 + 0) + 0)))))))))))))))
theorem c_X7_clause (l : Launch) (D : va_G) (cA : Nat → ClassId) (sz0 : Nat) (H0 : Heap) (M : WM) (t : Nat)  (bc bs : Nat) (Q : WM → Prop) (sh : Shp M) (h : m_X7_clause t M bc bs Q) : Met l yX7_clause (ws_ yX7_clause cX7_clause 4 none) ({ frames := 148, cells := bc, slots := bs, locals := 5945 } : Room) (PcW D cA sz0 H0 [.ref (sz0 + t)] M) (QW_v D cA sz0 H0 (fun M' => Q M' ∧ Shp M')) bc bs (Aw sz0) := by
  replace h : (wk M t = 6 ∧ ((0 ≤ bc ∧ 0 ≤ bs) ∧ (m_X7_here t M (fun (a3 : Int32) => ((a3 = (110 : Int32) → m_X7_clause_j29 t a3 bc bs Q M ((0 + 0)) ((0 + 0))) ∧ (¬ a3 = (110 : Int32) → ((a3 = (99 : Int32) → m_X7_clause_j29 t a3 bc bs Q M ((0 + 0)) ((0 + 0))) ∧ (¬ a3 = (99 : Int32) → (wk M t = 6 ∧ (wk M t = 6 ∧ (((0 + 0) ≤ bc ∧ (0 + 0) ≤ bs) ∧ (m_X7_bad t ((1 : Int32)) ((wI M t 2)) M (fun (M10 : WM) => m_X7_clause_j50 t a3 bc bs Q M10 (((0 + 0) + 0)) (((0 + 0) + 0))))))))))))))) := h
  refine Met.ofV (by decide +kernel) (Nat.le_of_ble_eq_true rfl) ?_
  intro p e s m args below meth c cx hnm
  replace cx : Cx p s m args meth c cX7_clause 4 RX7 none D cA sz0 H0 := cx
  refine v_sub (lv' := [(0, .ref (sz0 + t))]) [0] rfl ?_
  refine v_aload_n (pc := 0) cx dX7_clause_0 rfl 0 rfl ?_
  obtain ⟨k1, h⟩ := h
  obtain ⟨hb2, h⟩ := h
  refine v_runp_i (pc := 1) cx (kcq480_X7 cx (c_X7_here l D cA sz0 H0 M t  _ sh h) ⟨Nat.le_of_ble_eq_true rfl, Nat.le_of_ble_eq_true rfl⟩ k1 (As := []) rfl rfl (Nat.le_of_ble_eq_true rfl) dX7_clause_1 ⟨hb2.1, hb2.2⟩) (fun a3 hq => ?_)
  replace h := hq
  refine v_istore_n (pc := 4) cx dX7_clause_4 rfl (Nat.le_of_ble_eq_true rfl) (lv' := [(1, .int a3), (0, .ref (sz0 + t))]) rfl ?_
  refine v_iload_n (pc := 5) cx dX7_clause_5 rfl 0 rfl ?_
  refine v_bipush (pc := 6) cx dX7_clause_6 bc_110 ?_
  refine v_icmp_eq (pc := 8) cx dX7_clause_8 (tgt := 29) rfl (fun c4 => ?_) (fun c4 => ?_)
  · replace h := h.1 c4
    refine v_sub (lv' := [(0, .ref (sz0 + t)), (1, .int a3)]) [1, 0] rfl ?_
    exact w_X7_clause_j29 cx M sh ((0 + 0)) ((0 + 0)) h
  · replace h := h.2 c4
    refine v_iload_n (pc := 11) cx dX7_clause_11 rfl 0 rfl ?_
    refine v_bipush (pc := 12) cx dX7_clause_12 bc_99 ?_
    refine v_icmp_eq (pc := 14) cx dX7_clause_14 (tgt := 29) rfl (fun c5 => ?_) (fun c5 => ?_)
    · replace h := h.1 c5
      refine v_sub (lv' := [(0, .ref (sz0 + t)), (1, .int a3)]) [1, 0] rfl ?_
      exact w_X7_clause_j29 cx M sh ((0 + 0)) ((0 + 0)) h
    · replace h := h.2 c5
      refine v_aload_n (pc := 17) cx dX7_clause_17 rfl 1 rfl ?_
      refine v_iconst (pc := 18) cx dX7_clause_18 ic_1 ?_
      refine v_aload_n (pc := 19) cx dX7_clause_19 rfl 1 rfl ?_
      obtain ⟨k6, h⟩ := h
      refine gq448_X7 (pc := 20) cx dX7_clause_20 k6 ?_
      obtain ⟨k7, h⟩ := h
      obtain ⟨hb8, h⟩ := h
      refine v_run_v (pc := 23) cx (kcq484_X7 cx (c_X7_bad l D cA sz0 H0 M t ((1 : Int32)) ((wI M t 2))  _ sh h) ⟨Nat.le_of_ble_eq_true rfl, Nat.le_of_ble_eq_true rfl⟩ k7 (As := [.int (1 : Int32), .int (wI M t 2)]) rfl rfl (Nat.le_of_ble_eq_true rfl) dX7_clause_23 ⟨hb8.1, hb8.2⟩) (fun M10 hq => ?_)
      obtain ⟨h, sh⟩ := hq
      refine v_goto (pc := 26) cx dX7_clause_26 (tgt := 50) rfl ?_
      refine v_sub (lv' := [(0, .ref (sz0 + t)), (1, .int a3)]) [1, 0] rfl ?_
      exact w_X7_clause_j50 cx M10 sh (((0 + 0) + 0)) (((0 + 0) + 0)) h
/-! LetterHeaps$Reader.read()I -/
def m_X7_read_j54   (x0 : Nat)  (bc bs : Nat) (Q : Int32 → WM → Prop) (M : WM) (kc : Nat) (ks : Nat) : Prop := (wk M x0 = 6 ∧ ((kc ≤ bc ∧ ks ≤ bs) ∧ (m_X7_isGood x0 M (fun (a3 : Int32) => ((a3 = 0 → (wk M x0 = 6 ∧ (wk M x0 = 6 ∧ (((kc + 0) ≤ bc ∧ (ks + 0) ≤ bs) ∧ Q (((((-1000) : Int32) * (wI M x0 4)) - (wI M x0 5))) M)))) ∧ (¬ a3 = 0 → (wk M x0 = 6 ∧ (∃ r9, wR M x0 1 = some r9 ∧ (wk M r9 = 1 ∧ (((kc + 0) ≤ bc ∧ (ks + 0) ≤ bs) ∧ Q ((wI M r9 3)) M))))))))))
theorem w_X7_read_j54 {p : Program} {l : Launch} {e : Env} {s : State} {m : MethodId} {args : Array Value} {below : List Frame} {meth : Method} {c : Code} {D : va_G} {cA : Nat → ClassId} {sz0 : Nat} {H0 : Heap}  {x0 : Nat} {bc bs : Nat} {Q : Int32 → WM → Prop}  (cx : Cx p s m args meth c cX7_read 2 RX7 (some .int) D cA sz0 H0)       (M : WM) (sh : Shp M) (kc ks : Nat) (h : m_X7_read_j54 x0 bc bs Q M kc ks) : V p l e ({ frames := 149, cells := bc, slots := bs, locals := 5968 } : Room) s m args below meth c 2 D cA sz0 H0 kc ks (MQ below (QW_i D cA sz0 H0 (fun r M' => Q r M' ∧ Shp M')) args s bc bs (Aw sz0)) 54 [(0, .ref (sz0 + x0))] [] M := by
  replace h : (wk M x0 = 6 ∧ ((kc ≤ bc ∧ ks ≤ bs) ∧ (m_X7_isGood x0 M (fun (a3 : Int32) => ((a3 = 0 → (wk M x0 = 6 ∧ (wk M x0 = 6 ∧ (((kc + 0) ≤ bc ∧ (ks + 0) ≤ bs) ∧ Q (((((-1000) : Int32) * (wI M x0 4)) - (wI M x0 5))) M)))) ∧ (¬ a3 = 0 → (wk M x0 = 6 ∧ (∃ r9, wR M x0 1 = some r9 ∧ (wk M r9 = 1 ∧ (((kc + 0) ≤ bc ∧ (ks + 0) ≤ bs) ∧ Q ((wI M r9 3)) M)))))))))) := h
  refine v_aload_n (pc := 54) cx dX7_read_54 rfl 0 rfl ?_
  obtain ⟨k1, h⟩ := h
  obtain ⟨hb2, h⟩ := h
  refine v_runp_i (pc := 55) cx (kcq472_X7 cx (c_X7_isGood l D cA sz0 H0 M x0  _ sh h) ⟨Nat.le_of_ble_eq_true rfl, Nat.le_of_ble_eq_true rfl⟩ k1 (As := []) rfl rfl (Nat.le_of_ble_eq_true rfl) dX7_read_55 ⟨hb2.1, hb2.2⟩) (fun a3 hq => ?_)
  replace h := hq
  refine v_if_eq (pc := 58) cx dX7_read_58 (tgt := 71) rfl (fun c4 => ?_) (fun c4 => ?_)
  · replace h := h.1 c4
    refine v_sipush (pc := 71) cx dX7_read_71 sc_m1000 ?_
    refine v_aload_n (pc := 74) cx dX7_read_74 rfl 0 rfl ?_
    obtain ⟨k5, h⟩ := h
    refine gq450_X7 (pc := 75) cx dX7_read_75 k5 ?_
    refine v_imul (pc := 78) cx dX7_read_78 ?_
    refine v_aload_n (pc := 79) cx dX7_read_79 rfl 0 rfl ?_
    obtain ⟨k6, h⟩ := h
    refine gq451_X7 (pc := 80) cx dX7_read_80 k6 ?_
    refine v_isub (pc := 83) cx dX7_read_83 ?_
    obtain ⟨q7, h⟩ := h
    exact v_iret cx rfl dX7_read_84 q7 ⟨h, sh⟩
  · replace h := h.2 c4
    refine v_aload_n (pc := 61) cx dX7_read_61 rfl 0 rfl ?_
    obtain ⟨k8, h⟩ := h
    obtain ⟨r9, er9, h⟩ := h
    refine gq446_X7 (pc := 62) cx dX7_read_62 k8 (v_some er9 ?_)
    obtain ⟨k10, h⟩ := h
    refine gq172_X1 (pc := 65) cx dX7_read_65 k10 ?_
    refine v_goto (pc := 68) cx dX7_read_68 (tgt := 84) rfl ?_
    obtain ⟨q11, h⟩ := h
    exact v_iret cx rfl dX7_read_84 q11 ⟨h, sh⟩
def m_X7_read_j40  (K2 : Int32 → WM → Nat → Nat → Prop) (x0 : Nat) (y0 : Int32)  (bc bs : Nat) (Q : Int32 → WM → Prop) (M : WM) (kc : Nat) (ks : Nat) : Prop := ((y0 = 0 → K2 y0 M kc ks) ∧ (¬ y0 = 0 → (wk M x0 = 6 ∧ ((kc ≤ bc ∧ ks ≤ bs) ∧ (m_X7_must x0 ((59 : Int32)) M (fun (M5 : WM) => K2 y0 M5 ((kc + 0)) ((ks + 0))))))))
theorem w_X7_read_j40 {p : Program} {l : Launch} {e : Env} {s : State} {m : MethodId} {args : Array Value} {below : List Frame} {meth : Method} {c : Code} {D : va_G} {cA : Nat → ClassId} {sz0 : Nat} {H0 : Heap}  {K2 : Int32 → WM → Nat → Nat → Prop} {x0 : Nat} {y0 : Int32} {bc bs : Nat} {Q : Int32 → WM → Prop}  (cx : Cx p s m args meth c cX7_read 2 RX7 (some .int) D cA sz0 H0)  (hK2 : ∀ (x1 : Int32)  (M : WM) (sh : Shp M) (kc ks : Nat), K2 x1 M kc ks → V p l e ({ frames := 149, cells := bc, slots := bs, locals := 5968 } : Room) s m args below meth c 2 D cA sz0 H0 kc ks (MQ below (QW_i D cA sz0 H0 (fun r M' => Q r M' ∧ Shp M')) args s bc bs (Aw sz0)) 2 [(0, .ref (sz0 + x0)), (1, .int x1)] [] M)     (M : WM) (sh : Shp M) (kc ks : Nat) (h : m_X7_read_j40 K2 x0 y0 bc bs Q M kc ks) : V p l e ({ frames := 149, cells := bc, slots := bs, locals := 5968 } : Room) s m args below meth c 2 D cA sz0 H0 kc ks (MQ below (QW_i D cA sz0 H0 (fun r M' => Q r M' ∧ Shp M')) args s bc bs (Aw sz0)) 40 [(0, .ref (sz0 + x0))] [.int y0] M := by
  replace h : ((y0 = 0 → K2 y0 M kc ks) ∧ (¬ y0 = 0 → (wk M x0 = 6 ∧ ((kc ≤ bc ∧ ks ≤ bs) ∧ (m_X7_must x0 ((59 : Int32)) M (fun (M5 : WM) => K2 y0 M5 ((kc + 0)) ((ks + 0)))))))) := h
  refine v_istore_n (pc := 40) cx dX7_read_40 rfl (Nat.le_of_ble_eq_true rfl) (lv' := [(1, .int y0), (0, .ref (sz0 + x0))]) rfl ?_
  refine v_iload_n (pc := 41) cx dX7_read_41 rfl 0 rfl ?_
  refine v_if_eq (pc := 42) cx dX7_read_42 (tgt := 2) rfl (fun c1 => ?_) (fun c1 => ?_)
  · replace h := h.1 c1
    refine v_sub (lv' := [(0, .ref (sz0 + x0)), (1, .int y0)]) [1, 0] rfl ?_
    exact hK2 y0 M sh kc ks h
  · replace h := h.2 c1
    refine v_aload_n (pc := 45) cx dX7_read_45 rfl 1 rfl ?_
    refine v_bipush (pc := 46) cx dX7_read_46 bc_59 ?_
    obtain ⟨k2, h⟩ := h
    obtain ⟨hb3, h⟩ := h
    refine v_run_v (pc := 48) cx (kcq506_X7 cx (c_X7_must l D cA sz0 H0 M x0 ((59 : Int32))  _ sh h) ⟨Nat.le_of_ble_eq_true rfl, Nat.le_of_ble_eq_true rfl⟩ k2 (As := [.int (59 : Int32)]) rfl rfl (Nat.le_of_ble_eq_true rfl) dX7_read_48 ⟨hb3.1, hb3.2⟩) (fun M5 hq => ?_)
    obtain ⟨h, sh⟩ := hq
    refine v_goto (pc := 51) cx dX7_read_51 (tgt := 2) rfl ?_
    refine v_sub (lv' := [(0, .ref (sz0 + x0)), (1, .int y0)]) [1, 0] rfl ?_
    exact hK2 y0 M5 sh ((kc + 0)) ((ks + 0)) h
def m_X7_read_j39  (K2 : Int32 → WM → Nat → Nat → Prop) (x0 : Nat)  (bc bs : Nat) (Q : Int32 → WM → Prop) (M : WM) (kc : Nat) (ks : Nat) : Prop := m_X7_read_j40 K2 x0 ((0 : Int32)) bc bs Q M kc ks
theorem w_X7_read_j39 {p : Program} {l : Launch} {e : Env} {s : State} {m : MethodId} {args : Array Value} {below : List Frame} {meth : Method} {c : Code} {D : va_G} {cA : Nat → ClassId} {sz0 : Nat} {H0 : Heap}  {K2 : Int32 → WM → Nat → Nat → Prop} {x0 : Nat} {bc bs : Nat} {Q : Int32 → WM → Prop}  (cx : Cx p s m args meth c cX7_read 2 RX7 (some .int) D cA sz0 H0)  (hK2 : ∀ (x1 : Int32)  (M : WM) (sh : Shp M) (kc ks : Nat), K2 x1 M kc ks → V p l e ({ frames := 149, cells := bc, slots := bs, locals := 5968 } : Room) s m args below meth c 2 D cA sz0 H0 kc ks (MQ below (QW_i D cA sz0 H0 (fun r M' => Q r M' ∧ Shp M')) args s bc bs (Aw sz0)) 2 [(0, .ref (sz0 + x0)), (1, .int x1)] [] M)     (M : WM) (sh : Shp M) (kc ks : Nat) (h : m_X7_read_j39 K2 x0 bc bs Q M kc ks) : V p l e ({ frames := 149, cells := bc, slots := bs, locals := 5968 } : Room) s m args below meth c 2 D cA sz0 H0 kc ks (MQ below (QW_i D cA sz0 H0 (fun r M' => Q r M' ∧ Shp M')) args s bc bs (Aw sz0)) 39 [(0, .ref (sz0 + x0))] [] M := by
  replace h : m_X7_read_j40 K2 x0 ((0 : Int32)) bc bs Q M kc ks := h
  refine v_iconst (pc := 39) cx dX7_read_39 ic_0 ?_
  refine v_sub (lv' := [(0, .ref (sz0 + x0))]) [0] rfl ?_
  exact w_X7_read_j40 cx hK2 M sh kc ks h
def m_X7_read_l2   (x0 : Nat)  (bc bs : Nat) (Q : Int32 → WM → Prop) : Nat → Int32 → WM → Nat → Nat → Prop
  | 0, _, _, _, _ => False
  | n + 1, x1, M, kc, ks => ((x1 = 0 → m_X7_read_j54 x0 bc bs Q M kc ks) ∧ (¬ x1 = 0 → (wk M x0 = 6 ∧ ((kc ≤ bc ∧ ks ≤ bs) ∧ (m_X7_isGood x0 M (fun (a4 : Int32) => ((a4 = 0 → m_X7_read_j54 x0 bc bs Q M ((kc + 0)) ((ks + 0))) ∧ (¬ a4 = 0 → (wk M x0 = 6 ∧ (∃ mc7 ms8, (kc + 0) + mc7 ≤ bc ∧ (ks + 0) + ms8 ≤ bs ∧ (m_X7_clause x0 M mc7 ms8 (fun (M10 : WM) => (wk M10 x0 = 6 ∧ ((((kc + 0) + mc7) ≤ bc ∧ ((ks + 0) + ms8) ≤ bs) ∧ (m_X7_isGood x0 M10 (fun (a13 : Int32) => ((a13 = 0 → m_X7_read_j39 (fun x1' M' c' n' => m_X7_read_l2 x0 bc bs Q n x1' M' c' n') x0 bc bs Q M10 ((((kc + 0) + mc7) + 0)) ((((ks + 0) + ms8) + 0))) ∧ (¬ a13 = 0 → (wk M10 x0 = 6 ∧ (wk M10 x0 = 6 ∧ (((wI M10 x0 0) ≤ (wI M10 x0 2) → m_X7_read_j39 (fun x1' M' c' n' => m_X7_read_l2 x0 bc bs Q n x1' M' c' n') x0 bc bs Q M10 ((((kc + 0) + mc7) + 0)) ((((ks + 0) + ms8) + 0))) ∧ (¬ (wI M10 x0 0) ≤ (wI M10 x0 2) → m_X7_read_j40 (fun x1' M' c' n' => m_X7_read_l2 x0 bc bs Q n x1' M' c' n') x0 ((1 : Int32)) bc bs Q M10 ((((kc + 0) + mc7) + 0)) ((((ks + 0) + ms8) + 0))))))))))))))))))))))))
theorem w_X7_read_l2 {p : Program} {l : Launch} {e : Env} {s : State} {m : MethodId} {args : Array Value} {below : List Frame} {meth : Method} {c : Code} {D : va_G} {cA : Nat → ClassId} {sz0 : Nat} {H0 : Heap}  {x0 : Nat} {bc bs : Nat} {Q : Int32 → WM → Prop}  (cx : Cx p s m args meth c cX7_read 2 RX7 (some .int) D cA sz0 H0)     : ∀ (n : Nat) (x1 : Int32)  (M : WM) (sh : Shp M) (kc ks : Nat), m_X7_read_l2 x0 bc bs Q n x1 M kc ks → V p l e ({ frames := 149, cells := bc, slots := bs, locals := 5968 } : Room) s m args below meth c 2 D cA sz0 H0 kc ks (MQ below (QW_i D cA sz0 H0 (fun r M' => Q r M' ∧ Shp M')) args s bc bs (Aw sz0)) 2 [(0, .ref (sz0 + x0)), (1, .int x1)] [] M := by
  intro n
  induction n with
  | zero => intro x1 M sh kc ks h; exact h.elim
  | succ n ih =>
    intro x1 M sh kc ks h
    replace h : ((x1 = 0 → m_X7_read_j54 x0 bc bs Q M kc ks) ∧ (¬ x1 = 0 → (wk M x0 = 6 ∧ ((kc ≤ bc ∧ ks ≤ bs) ∧ (m_X7_isGood x0 M (fun (a4 : Int32) => ((a4 = 0 → m_X7_read_j54 x0 bc bs Q M ((kc + 0)) ((ks + 0))) ∧ (¬ a4 = 0 → (wk M x0 = 6 ∧ (∃ mc7 ms8, (kc + 0) + mc7 ≤ bc ∧ (ks + 0) + ms8 ≤ bs ∧ (m_X7_clause x0 M mc7 ms8 (fun (M10 : WM) => (wk M10 x0 = 6 ∧ ((((kc + 0) + mc7) ≤ bc ∧ ((ks + 0) + ms8) ≤ bs) ∧ (m_X7_isGood x0 M10 (fun (a13 : Int32) => ((a13 = 0 → m_X7_read_j39 (fun x1' M' c' n' => m_X7_read_l2 x0 bc bs Q n x1' M' c' n') x0 bc bs Q M10 ((((kc + 0) + mc7) + 0)) ((((ks + 0) + ms8) + 0))) ∧ (¬ a13 = 0 → (wk M10 x0 = 6 ∧ (wk M10 x0 = 6 ∧ (((wI M10 x0 0) ≤ (wI M10 x0 2) → m_X7_read_j39 (fun x1' M' c' n' => m_X7_read_l2 x0 bc bs Q n x1' M' c' n') x0 bc bs Q M10 ((((kc + 0) + mc7) + 0)) ((((ks + 0) + ms8) + 0))) ∧ (¬ (wI M10 x0 0) ≤ (wI M10 x0 2) → m_X7_read_j40 (fun x1' M' c' n' => m_X7_read_l2 x0 bc bs Q n x1' M' c' n') x0 ((1 : Int32)) bc bs Q M10 ((((kc + 0) + mc7) + 0)) ((((ks + 0) + ms8) + 0)))))))))))))))))))))))) := h
    refine v_iload_n (pc := 2) cx dX7_read_2 rfl 1 rfl ?_
    refine v_if_eq (pc := 3) cx dX7_read_3 (tgt := 54) rfl (fun c1 => ?_) (fun c1 => ?_)
    · replace h := h.1 c1
      refine v_sub (lv' := [(0, .ref (sz0 + x0))]) [0] rfl ?_
      exact w_X7_read_j54 cx M sh kc ks h
    · replace h := h.2 c1
      refine v_aload_n (pc := 6) cx dX7_read_6 rfl 0 rfl ?_
      obtain ⟨k2, h⟩ := h
      obtain ⟨hb3, h⟩ := h
      refine v_runp_i (pc := 7) cx (kcq472_X7 cx (c_X7_isGood l D cA sz0 H0 M x0  _ sh h) ⟨Nat.le_of_ble_eq_true rfl, Nat.le_of_ble_eq_true rfl⟩ k2 (As := []) rfl rfl (Nat.le_of_ble_eq_true rfl) dX7_read_7 ⟨hb3.1, hb3.2⟩) (fun a4 hq => ?_)
      replace h := hq
      refine v_if_eq (pc := 10) cx dX7_read_10 (tgt := 54) rfl (fun c5 => ?_) (fun c5 => ?_)
      · replace h := h.1 c5
        refine v_sub (lv' := [(0, .ref (sz0 + x0))]) [0] rfl ?_
        exact w_X7_read_j54 cx M sh ((kc + 0)) ((ks + 0)) h
      · replace h := h.2 c5
        refine v_aload_n (pc := 13) cx dX7_read_13 rfl 0 rfl ?_
        obtain ⟨k6, h⟩ := h
        obtain ⟨mc7, ms8, hmc, hms, h⟩ := h
        refine v_run_v (pc := 14) cx (kcq476_X7 cx (c_X7_clause l D cA sz0 H0 M x0  mc7 ms8 _ sh h) ⟨Nat.le_of_ble_eq_true rfl, Nat.le_of_ble_eq_true rfl⟩ k6 (As := []) rfl rfl (Nat.le_of_ble_eq_true rfl) dX7_read_14 ⟨hmc, hms⟩) (fun M10 hq => ?_)
        obtain ⟨h, sh⟩ := hq
        refine v_aload_n (pc := 17) cx dX7_read_17 rfl 0 rfl ?_
        obtain ⟨k11, h⟩ := h
        obtain ⟨hb12, h⟩ := h
        refine v_runp_i (pc := 18) cx (kcq472_X7 cx (c_X7_isGood l D cA sz0 H0 M10 x0  _ sh h) ⟨Nat.le_of_ble_eq_true rfl, Nat.le_of_ble_eq_true rfl⟩ k11 (As := []) rfl rfl (Nat.le_of_ble_eq_true rfl) dX7_read_18 ⟨hb12.1, hb12.2⟩) (fun a13 hq => ?_)
        replace h := hq
        refine v_if_eq (pc := 21) cx dX7_read_21 (tgt := 39) rfl (fun c14 => ?_) (fun c14 => ?_)
        · replace h := h.1 c14
          refine v_sub (lv' := [(0, .ref (sz0 + x0))]) [0] rfl ?_
          exact w_X7_read_j39 cx ih M10 sh ((((kc + 0) + mc7) + 0)) ((((ks + 0) + ms8) + 0)) h
        · replace h := h.2 c14
          refine v_aload_n (pc := 24) cx dX7_read_24 rfl 0 rfl ?_
          obtain ⟨k15, h⟩ := h
          refine gq448_X7 (pc := 25) cx dX7_read_25 k15 ?_
          refine v_aload_n (pc := 28) cx dX7_read_28 rfl 0 rfl ?_
          obtain ⟨k16, h⟩ := h
          refine gq445_X7 (pc := 29) cx dX7_read_29 k16 ?_
          refine v_icmp_ge (pc := 32) cx dX7_read_32 (tgt := 39) rfl (fun c17 => ?_) (fun c17 => ?_)
          · replace h := h.1 c17
            refine v_sub (lv' := [(0, .ref (sz0 + x0))]) [0] rfl ?_
            exact w_X7_read_j39 cx ih M10 sh ((((kc + 0) + mc7) + 0)) ((((ks + 0) + ms8) + 0)) h
          · replace h := h.2 c17
            refine v_iconst (pc := 35) cx dX7_read_35 ic_1 ?_
            refine v_goto (pc := 36) cx dX7_read_36 (tgt := 40) rfl ?_
            refine v_sub (lv' := [(0, .ref (sz0 + x0))]) [0] rfl ?_
            exact w_X7_read_j40 cx ih M10 sh ((((kc + 0) + mc7) + 0)) ((((ks + 0) + ms8) + 0)) h
def m_X7_read (t : Nat) (M : WM) (bc bs : Nat) (Q : Int32 → WM → Prop) : Prop := (∃ n0, m_X7_read_l2 t bc bs Q n0 ((1 : Int32)) M 0 0)
theorem c_X7_read (l : Launch) (D : va_G) (cA : Nat → ClassId) (sz0 : Nat) (H0 : Heap) (M : WM) (t : Nat)  (bc bs : Nat) (Q : Int32 → WM → Prop) (sh : Shp M) (h : m_X7_read t M bc bs Q) : Met l yX7_read (ws_ yX7_read cX7_read 2 (some .int)) ({ frames := 149, cells := bc, slots := bs, locals := 5968 } : Room) (PcW D cA sz0 H0 [.ref (sz0 + t)] M) (QW_i D cA sz0 H0 (fun r M' => Q r M' ∧ Shp M')) bc bs (Aw sz0) := by
  replace h : (∃ n0, m_X7_read_l2 t bc bs Q n0 ((1 : Int32)) M 0 0) := h
  refine Met.ofV (by decide +kernel) (Nat.le_of_ble_eq_true rfl) ?_
  intro p e s m args below meth c cx hnm
  replace cx : Cx p s m args meth c cX7_read 2 RX7 (some .int) D cA sz0 H0 := cx
  refine v_sub (lv' := [(0, .ref (sz0 + t))]) [0] rfl ?_
  refine v_iconst (pc := 0) cx dX7_read_0 ic_1 ?_
  refine v_istore_n (pc := 1) cx dX7_read_1 rfl (Nat.le_of_ble_eq_true rfl) (lv' := [(1, .int (1 : Int32)), (0, .ref (sz0 + t))]) rfl ?_
  refine v_sub (lv' := [(0, .ref (sz0 + t)), (1, .int (1 : Int32))]) [1, 0] rfl ?_
  obtain ⟨n0, h⟩ := h
  exact w_X7_read_l2 cx n0 ((1 : Int32)) M sh 0 0 h
/-! LetterHeaps.law(I)I -/
def m_X0_law (x1 : Int32) (M : WM) (bc bs : Nat) (Q : Int32 → WM → Prop) : Prop := ((0 ≤ bc ∧ 0 ≤ bs) ∧ (m_X0_within x1 ((1 : Int32)) ((160 : Int32)) (fun (a2 : Int32) => ((a2 = 0 → (((0 + 0) ≤ bc ∧ (0 + 0) ≤ bs) ∧ Q (((-1) : Int32)) M)) ∧ (¬ a2 = 0 → ((x1 ≤ (wI M 0 5) → (∀ M6 : WM, M6 = wPI M 0 5 ((0 : Int32)) → (((0 + 0) + 1 ≤ bc ∧ (0 + 0) + 7 ≤ bs) ∧ (∀ r8, r8 = wn M6 → (∀ M9 : WM, M9 = wNw M6 6 0 → (∃ mc10 ms11, ((0 + 0) + 1) + mc10 ≤ bc ∧ ((0 + 0) + 7) + ms11 ≤ bs ∧ (m_X7_init r8 x1 M9 mc10 ms11 (fun (M13 : WM) => (wk M13 r8 = 6 ∧ (∃ mc15 ms16, (((0 + 0) + 1) + mc10) + mc15 ≤ bc ∧ (((0 + 0) + 7) + ms11) + ms16 ≤ bs ∧ (m_X7_read r8 M13 mc15 ms16 (fun (a17 : Int32) (M18 : WM) => ((0 ≤ a17 → (wk M18 r8 = 6 ∧ (∃ r21, wR M18 r8 1 = some r21 ∧ (∀ M22 : WM, M22 = wPR M18 0 2 (some r21) → (∀ M23 : WM, M23 = wPI M22 0 7 (((wI M22 0 7) + (1 : Int32))) → ((((((0 + 0) + 1) + mc10) + mc15) ≤ bc ∧ ((((0 + 0) + 7) + ms11) + ms16) ≤ bs) ∧ Q a17 M23)))))) ∧ (¬ 0 ≤ a17 → ((((((0 + 0) + 1) + mc10) + mc15) ≤ bc ∧ ((((0 + 0) + 7) + ms11) + ms16) ≤ bs) ∧ Q a17 M18))))))))))))))) ∧ (¬ x1 ≤ (wI M 0 5) → (((0 + 0) ≤ bc ∧ (0 + 0) ≤ bs) ∧ Q (((-1) : Int32)) M))))))))
theorem c_X0_law (l : Launch) (D : va_G) (cA : Nat → ClassId) (sz0 : Nat) (H0 : Heap) (M : WM) (x1 : Int32)  (bc bs : Nat) (Q : Int32 → WM → Prop) (sh : Shp M) (h : m_X0_law x1 M bc bs Q) : Met l yX0_law (ws_ yX0_law cX0_law 4 (some .int)) ({ frames := 150, cells := bc, slots := bs, locals := 5989 } : Room) (PcW D cA sz0 H0 [.ref (sz0 + 0), .int x1] M) (QW_i D cA sz0 H0 (fun r M' => Q r M' ∧ Shp M')) bc bs (Aw sz0) := by
  replace h : ((0 ≤ bc ∧ 0 ≤ bs) ∧ (m_X0_within x1 ((1 : Int32)) ((160 : Int32)) (fun (a2 : Int32) => ((a2 = 0 → (((0 + 0) ≤ bc ∧ (0 + 0) ≤ bs) ∧ Q (((-1) : Int32)) M)) ∧ (¬ a2 = 0 → ((x1 ≤ (wI M 0 5) → (∀ M6 : WM, M6 = wPI M 0 5 ((0 : Int32)) → (((0 + 0) + 1 ≤ bc ∧ (0 + 0) + 7 ≤ bs) ∧ (∀ r8, r8 = wn M6 → (∀ M9 : WM, M9 = wNw M6 6 0 → (∃ mc10 ms11, ((0 + 0) + 1) + mc10 ≤ bc ∧ ((0 + 0) + 7) + ms11 ≤ bs ∧ (m_X7_init r8 x1 M9 mc10 ms11 (fun (M13 : WM) => (wk M13 r8 = 6 ∧ (∃ mc15 ms16, (((0 + 0) + 1) + mc10) + mc15 ≤ bc ∧ (((0 + 0) + 7) + ms11) + ms16 ≤ bs ∧ (m_X7_read r8 M13 mc15 ms16 (fun (a17 : Int32) (M18 : WM) => ((0 ≤ a17 → (wk M18 r8 = 6 ∧ (∃ r21, wR M18 r8 1 = some r21 ∧ (∀ M22 : WM, M22 = wPR M18 0 2 (some r21) → (∀ M23 : WM, M23 = wPI M22 0 7 (((wI M22 0 7) + (1 : Int32))) → ((((((0 + 0) + 1) + mc10) + mc15) ≤ bc ∧ ((((0 + 0) + 7) + ms11) + ms16) ≤ bs) ∧ Q a17 M23)))))) ∧ (¬ 0 ≤ a17 → ((((((0 + 0) + 1) + mc10) + mc15) ≤ bc ∧ ((((0 + 0) + 7) + ms11) + ms16) ≤ bs) ∧ Q a17 M18))))))))))))))) ∧ (¬ x1 ≤ (wI M 0 5) → (((0 + 0) ≤ bc ∧ (0 + 0) ≤ bs) ∧ Q (((-1) : Int32)) M)))))))) := h
  refine Met.ofV (by decide +kernel) (Nat.le_of_ble_eq_true rfl) ?_
  intro p e s m args below meth c cx hnm
  replace cx : Cx p s m args meth c cX0_law 4 RX0 (some .int) D cA sz0 H0 := cx
  refine v_sub (lv' := [(0, .ref (sz0 + 0)), (1, .int x1)]) [0, 1] rfl ?_
  refine v_iload_n (pc := 0) cx dX0_law_0 rfl 1 rfl ?_
  refine v_iconst (pc := 1) cx dX0_law_1 ic_1 ?_
  refine v_sipush (pc := 2) cx dX0_law_2 sc_160 ?_
  obtain ⟨hb1, h⟩ := h
  refine v_runp_i (pc := 5) cx (kcq387_X0 cx (c_X0_within l D cA sz0 H0 M x1 ((1 : Int32)) ((160 : Int32))  _ h) ⟨Nat.le_of_ble_eq_true rfl, Nat.le_of_ble_eq_true rfl⟩ (As := [.int x1, .int (1 : Int32), .int (160 : Int32)]) rfl rfl (Nat.le_of_ble_eq_true rfl) dX0_law_5 ⟨hb1.1, hb1.2⟩) (fun a2 hq => ?_)
  replace h := hq
  refine v_if_eq (pc := 8) cx dX0_law_8 (tgt := 19) rfl (fun c3 => ?_) (fun c3 => ?_)
  · replace h := h.1 c3
    refine v_iconst (pc := 19) cx dX0_law_19 ic_m1 ?_
    obtain ⟨q4, h⟩ := h
    exact v_iret cx rfl dX0_law_20 q4 ⟨h, sh⟩
  · replace h := h.2 c3
    refine v_iload_n (pc := 11) cx dX0_law_11 rfl 1 rfl ?_
    refine v_aload_n (pc := 12) cx dX0_law_12 rfl 0 rfl ?_
    refine gq280_X0 (pc := 13) cx dX0_law_13 (sh.k k_0) ?_
    refine v_icmp_le (pc := 16) cx dX0_law_16 (tgt := 21) rfl (fun c5 => ?_) (fun c5 => ?_)
    · replace h := h.1 c5
      refine v_aload_n (pc := 21) cx dX0_law_21 rfl 0 rfl ?_
      refine v_iconst (pc := 22) cx dX0_law_22 ic_0 ?_
      refine pq280_X0 (pc := 23) cx dX0_law_23 (sh.k k_0) ?_
      refine v_wld (fun M6 eM6 => ?_)
      replace h := h M6 eM6
      replace sh : Shp M6 := Shp_PI sh eM6
      obtain ⟨q7, h⟩ := h
      refine v_new (pc := 26) cx cl_X7 (by decide) in_X7 tyX7 tyX7_ok q437 q438 q128 df_X7 q7.1 q7.2 dX0_law_26 ?_
      refine v_topr (fun r8 er8 => ?_)
      replace h := h r8 er8
      refine v_wld (fun M9 eM9 => ?_)
      replace h := h M9 eM9
      replace sh : Shp M9 := Shp_Nw sh eM9
      refine v_dup (pc := 29) cx dX0_law_29 rfl ?_
      refine v_aload_n (pc := 30) cx dX0_law_30 rfl 0 rfl ?_
      refine v_iload_n (pc := 31) cx dX0_law_31 rfl 1 rfl ?_
      obtain ⟨mc10, ms11, hmc, hms, h⟩ := h
      refine v_run_v (pc := 32) cx (kcq439_X0 cx (c_X7_init l D cA sz0 H0 M9 r8 x1  mc10 ms11 _ sh h) ⟨Nat.le_of_ble_eq_true rfl, Nat.le_of_ble_eq_true rfl⟩ (As := [.ref (sz0 + 0), .int x1]) rfl rfl (Nat.le_of_ble_eq_true rfl) dX0_law_32 ⟨hmc, hms⟩) (fun M13 hq => ?_)
      obtain ⟨h, sh⟩ := hq
      refine v_astore_n (pc := 35) cx dX0_law_35 rfl (Nat.le_of_ble_eq_true rfl) (lv' := [(2, .ref (sz0 + r8)), (0, .ref (sz0 + 0)), (1, .int x1)]) rfl ?_
      refine v_aload_n (pc := 36) cx dX0_law_36 rfl 0 rfl ?_
      obtain ⟨k14, h⟩ := h
      obtain ⟨mc15, ms16, hmc, hms, h⟩ := h
      refine v_run_i (pc := 37) cx (kcq468_X0 cx (c_X7_read l D cA sz0 H0 M13 r8  mc15 ms16 _ sh h) ⟨Nat.le_of_ble_eq_true rfl, Nat.le_of_ble_eq_true rfl⟩ k14 (As := []) rfl rfl (Nat.le_of_ble_eq_true rfl) dX0_law_37 ⟨hmc, hms⟩) (fun a17 M18 hq => ?_)
      obtain ⟨h, sh⟩ := hq
      refine v_istore_n (pc := 40) cx dX0_law_40 rfl (Nat.le_of_ble_eq_true rfl) (lv' := [(3, .int a17), (2, .ref (sz0 + r8)), (0, .ref (sz0 + 0)), (1, .int x1)]) rfl ?_
      refine v_iload_n (pc := 41) cx dX0_law_41 rfl 0 rfl ?_
      refine v_if_ge (pc := 42) cx dX0_law_42 (tgt := 47) rfl (fun c19 => ?_) (fun c19 => ?_)
      · replace h := h.1 c19
        refine v_aload_n (pc := 47) cx dX0_law_47 rfl 2 rfl ?_
        refine v_aload_n (pc := 48) cx dX0_law_48 rfl 1 rfl ?_
        obtain ⟨k20, h⟩ := h
        obtain ⟨r21, er21, h⟩ := h
        refine gq447_X7 (pc := 49) cx dX0_law_49 k20 (v_some er21 ?_)
        refine pq277_X0 (pc := 52) cx (x := some r21) dX0_law_52 (sh.k k_0) ?_
        refine v_wld (fun M22 eM22 => ?_)
        replace h := h M22 eM22
        replace sh : Shp M22 := Shp_PR sh rfl eM22
        refine v_aload_n (pc := 55) cx dX0_law_55 rfl 2 rfl ?_
        refine v_dup (pc := 56) cx dX0_law_56 rfl ?_
        refine gq282_X0 (pc := 57) cx dX0_law_57 (sh.k k_0) ?_
        refine v_iconst (pc := 60) cx dX0_law_60 ic_1 ?_
        refine v_iadd (pc := 61) cx dX0_law_61 ?_
        refine pq282_X0 (pc := 62) cx dX0_law_62 (sh.k k_0) ?_
        refine v_wld (fun M23 eM23 => ?_)
        replace h := h M23 eM23
        replace sh : Shp M23 := Shp_PI sh eM23
        refine v_iload_n (pc := 65) cx dX0_law_65 rfl 0 rfl ?_
        obtain ⟨q24, h⟩ := h
        exact v_iret cx rfl dX0_law_66 q24 ⟨h, sh⟩
      · replace h := h.2 c19
        refine v_iload_n (pc := 45) cx dX0_law_45 rfl 0 rfl ?_
        obtain ⟨q25, h⟩ := h
        exact v_iret cx rfl dX0_law_46 q25 ⟨h, sh⟩
    · replace h := h.2 c5
      refine v_iconst (pc := 19) cx dX0_law_19 ic_m1 ?_
      obtain ⟨q26, h⟩ := h
      exact v_iret cx rfl dX0_law_20 q26 ⟨h, sh⟩
/-! LetterHeaps$Line.<init>()V -/
def m_X2_init (t : Nat) (M : WM) (bc bs : Nat) (Q : WM → Prop) : Prop := ((0 + 1 ≤ bc ∧ 0 + 13 ≤ bs) ∧ (∀ r2, r2 = wn M → (∀ M3 : WM, M3 = wNw M 100 13 → (wk M3 t = 2 ∧ (∀ M5 : WM, M5 = wPR M3 t 0 (some r2) → (((0 + 1) ≤ bc ∧ (0 + 13) ≤ bs) ∧ Q M5))))))
theorem c_X2_init (l : Launch) (D : va_G) (cA : Nat → ClassId) (sz0 : Nat) (H0 : Heap) (M : WM) (t : Nat)  (bc bs : Nat) (Q : WM → Prop)  (h : m_X2_init t M bc bs Q) : Met l yX2_init (ws_ yX2_init cX2_init 1 none) ({ frames := 1, cells := bc, slots := bs, locals := 20 } : Room) (PcW D cA sz0 H0 [.ref (sz0 + t)] M) (QW_v D cA sz0 H0 (fun M' => Q M')) bc bs (Aw sz0) := by
  replace h : ((0 + 1 ≤ bc ∧ 0 + 13 ≤ bs) ∧ (∀ r2, r2 = wn M → (∀ M3 : WM, M3 = wNw M 100 13 → (wk M3 t = 2 ∧ (∀ M5 : WM, M5 = wPR M3 t 0 (some r2) → (((0 + 1) ≤ bc ∧ (0 + 13) ≤ bs) ∧ Q M5)))))) := h
  refine Met.ofV (by decide +kernel) (Nat.le_of_ble_eq_true rfl) ?_
  intro p e s m args below meth c cx hnm
  replace cx : Cx p s m args meth c cX2_init 1 RX2 none D cA sz0 H0 := cx
  refine v_sub (lv' := [(0, .ref (sz0 + t))]) [0] rfl ?_
  refine v_aload_n (pc := 0) cx dX2_init_0 rfl 0 rfl ?_
  refine v_objInit (pc := 1) cx q190 q151 q152 dX2_init_1 ⟨Nat.le_of_ble_eq_true rfl, Nat.le_of_ble_eq_true rfl⟩ ?_
  refine v_aload_n (pc := 4) cx dX2_init_4 rfl 0 rfl ?_
  refine v_bipush (pc := 5) cx dX2_init_5 bc_13 ?_
  obtain ⟨q1, h⟩ := h
  refine v_newa100 (pc := 7) cx (n := 13) (by decide +kernel) (by decide +kernel) q184 (Nat.le_of_ble_eq_true rfl) q1.1 q1.2 dX2_init_7 ?_
  refine v_topr (fun r2 er2 => ?_)
  replace h := h r2 er2
  refine v_wld (fun M3 eM3 => ?_)
  replace h := h M3 eM3
  obtain ⟨k4, h⟩ := h
  refine pq191_X2 (pc := 9) cx (x := some r2) hnm dX2_init_9 k4 ?_
  refine v_wld (fun M5 eM5 => ?_)
  replace h := h M5 eM5
  obtain ⟨q6, h⟩ := h
  exact v_vret cx rfl dX2_init_12 q6 h
/-! LetterHeaps$Asked.<init>()V -/
def m_X3_init (t : Nat)   (Q : Prop) : Prop := Q
theorem c_X3_init (l : Launch) (D : va_G) (cA : Nat → ClassId) (sz0 : Nat) (H0 : Heap) (M : WM) (t : Nat)   (Q : Prop)  (h : m_X3_init t   Q) : Met l yX3_init (ws_ yX3_init cX3_init 1 none) ({ frames := 1, cells := 0, slots := 0, locals := 20 } : Room) (PcW D cA sz0 H0 [.ref (sz0 + t)] M) (QW_v D cA sz0 H0 (fun M' => M' = M ∧ Q)) 0 0 (Aw sz0) := by
  replace h : Q := h
  refine Met.ofV (by decide +kernel) (Nat.le_of_ble_eq_true rfl) ?_
  intro p e s m args below meth c cx hnm
  replace cx : Cx p s m args meth c cX3_init 1 RX3 none D cA sz0 H0 := cx
  refine v_sub (lv' := [(0, .ref (sz0 + t))]) [0] rfl ?_
  refine v_aload_n (pc := 0) cx dX3_init_0 rfl 0 rfl ?_
  refine v_objInit (pc := 1) cx q212 q151 q152 dX3_init_1 ⟨Nat.le_of_ble_eq_true rfl, Nat.le_of_ble_eq_true rfl⟩ ?_
  exact v_vret cx rfl dX3_init_4 ⟨Nat.le_of_ble_eq_true rfl, Nat.le_of_ble_eq_true rfl⟩ ⟨rfl, h⟩
/-! LetterHeaps$Change.<init>(LLetterHeaps;)V -/
def m_X4_init (t : Nat) (x1 : Nat) (M : WM)  (Q : WM → Prop) : Prop := (wk M t = 3 ∧ (∀ M2 : WM, M2 = wPR M t 8 (some x1) → (m_X3_init t (Q M2))))
theorem c_X4_init (l : Launch) (D : va_G) (cA : Nat → ClassId) (sz0 : Nat) (H0 : Heap) (M : WM) (t : Nat) (x1 : Nat)   (Q : WM → Prop)  (h : m_X4_init t x1 M  Q) : Met l yX4_init (ws_ yX4_init cX4_init 2 none) ({ frames := 2, cells := 0, slots := 0, locals := 40 } : Room) (PcW D cA sz0 H0 [.ref (sz0 + t), .ref (sz0 + x1)] M) (QW_v D cA sz0 H0 (fun M' => Q M')) 0 0 (Aw sz0) := by
  replace h : (wk M t = 3 ∧ (∀ M2 : WM, M2 = wPR M t 8 (some x1) → (m_X3_init t (Q M2)))) := h
  refine Met.ofV (by decide +kernel) (Nat.le_of_ble_eq_true rfl) ?_
  intro p e s m args below meth c cx hnm
  replace cx : Cx p s m args meth c cX4_init 2 RX4 none D cA sz0 H0 := cx
  refine v_sub (lv' := [(0, .ref (sz0 + t)), (1, .ref (sz0 + x1))]) [0, 1] rfl ?_
  refine v_aload_n (pc := 0) cx dX4_init_0 rfl 0 rfl ?_
  refine v_aload_n (pc := 1) cx dX4_init_1 rfl 1 rfl ?_
  obtain ⟨k1, h⟩ := h
  refine pq220_X4 (pc := 2) cx (x := some x1) hnm dX4_init_2 k1 ?_
  refine v_wld (fun M2 eM2 => ?_)
  replace h := h M2 eM2
  refine v_aload_n (pc := 5) cx dX4_init_5 rfl 0 rfl ?_
  refine v_runp_v (pc := 6) cx (kcq209_X4 cx (c_X3_init l D cA sz0 H0 M2 t  _ h) ⟨Nat.le_of_ble_eq_true rfl, Nat.le_of_ble_eq_true rfl⟩ (As := []) rfl rfl (Nat.le_of_ble_eq_true rfl) dX4_init_6 ⟨Nat.le_of_ble_eq_true rfl, Nat.le_of_ble_eq_true rfl⟩) (fun hq => ?_)
  replace h := hq
  exact v_vret cx rfl dX4_init_9 ⟨Nat.le_of_ble_eq_true rfl, Nat.le_of_ble_eq_true rfl⟩ h
/-! LetterHeaps$Word.<init>()V -/
def m_X5_init (t : Nat) (M : WM) (bc bs : Nat) (Q : WM → Prop) : Prop := ((0 + 1 ≤ bc ∧ 0 + 2 ≤ bs) ∧ (∀ r2, r2 = wn M → (∀ M3 : WM, M3 = wNw M 2 0 → (∃ mc4 ms5, (0 + 1) + mc4 ≤ bc ∧ (0 + 2) + ms5 ≤ bs ∧ (m_X2_init r2 M3 mc4 ms5 (fun (M7 : WM) => (wk M7 t = 4 ∧ (∀ M9 : WM, M9 = wPR M7 t 0 (some r2) → ((((0 + 1) + mc4) ≤ bc ∧ ((0 + 2) + ms5) ≤ bs) ∧ Q M9)))))))))
theorem c_X5_init (l : Launch) (D : va_G) (cA : Nat → ClassId) (sz0 : Nat) (H0 : Heap) (M : WM) (t : Nat)  (bc bs : Nat) (Q : WM → Prop)  (h : m_X5_init t M bc bs Q) : Met l yX5_init (ws_ yX5_init cX5_init 1 none) ({ frames := 2, cells := bc, slots := bs, locals := 40 } : Room) (PcW D cA sz0 H0 [.ref (sz0 + t)] M) (QW_v D cA sz0 H0 (fun M' => Q M')) bc bs (Aw sz0) := by
  replace h : ((0 + 1 ≤ bc ∧ 0 + 2 ≤ bs) ∧ (∀ r2, r2 = wn M → (∀ M3 : WM, M3 = wNw M 2 0 → (∃ mc4 ms5, (0 + 1) + mc4 ≤ bc ∧ (0 + 2) + ms5 ≤ bs ∧ (m_X2_init r2 M3 mc4 ms5 (fun (M7 : WM) => (wk M7 t = 4 ∧ (∀ M9 : WM, M9 = wPR M7 t 0 (some r2) → ((((0 + 1) + mc4) ≤ bc ∧ ((0 + 2) + ms5) ≤ bs) ∧ Q M9))))))))) := h
  refine Met.ofV (by decide +kernel) (Nat.le_of_ble_eq_true rfl) ?_
  intro p e s m args below meth c cx hnm
  replace cx : Cx p s m args meth c cX5_init 1 RX5 none D cA sz0 H0 := cx
  refine v_sub (lv' := [(0, .ref (sz0 + t))]) [0] rfl ?_
  refine v_aload_n (pc := 0) cx dX5_init_0 rfl 0 rfl ?_
  refine v_objInit (pc := 1) cx q252 q151 q152 dX5_init_1 ⟨Nat.le_of_ble_eq_true rfl, Nat.le_of_ble_eq_true rfl⟩ ?_
  refine v_aload_n (pc := 4) cx dX5_init_4 rfl 0 rfl ?_
  obtain ⟨q1, h⟩ := h
  refine v_new (pc := 5) cx cl_X2 (by decide) in_X2 tyX2 tyX2_ok q253 q186 q123 df_X2 q1.1 q1.2 dX5_init_5 ?_
  refine v_topr (fun r2 er2 => ?_)
  replace h := h r2 er2
  refine v_wld (fun M3 eM3 => ?_)
  replace h := h M3 eM3
  refine v_dup (pc := 8) cx dX5_init_8 rfl ?_
  obtain ⟨mc4, ms5, hmc, hms, h⟩ := h
  refine v_run_v (pc := 9) cx (kcq254_X5 cx (c_X2_init l D cA sz0 H0 M3 r2  mc4 ms5 _ h) ⟨Nat.le_of_ble_eq_true rfl, Nat.le_of_ble_eq_true rfl⟩ (As := []) rfl rfl (Nat.le_of_ble_eq_true rfl) dX5_init_9 ⟨hmc, hms⟩) (fun M7 hq => ?_)
  replace h := hq
  obtain ⟨k8, h⟩ := h
  refine pq255_X5 (pc := 12) cx (x := some r2) hnm dX5_init_12 k8 ?_
  refine v_wld (fun M9 eM9 => ?_)
  replace h := h M9 eM9
  obtain ⟨q10, h⟩ := h
  exact v_vret cx rfl dX5_init_15 q10 h
/-! LetterHeaps.<init>()V -/
def m_X0_init_l246   (x0 : Nat)  (bc bs : Nat) (Q : WM → Prop) : Nat → Int32 → WM → Nat → Nat → Prop
  | 0, _, _, _, _ => False
  | n + 1, x1, M, kc, ks => (((40 : Int32) ≤ x1 → ((kc ≤ bc ∧ ks ≤ bs) ∧ Q M)) ∧ (¬ (40 : Int32) ≤ x1 → (wk M x0 = 0 ∧ (∃ r4, wR M x0 0 = some r4 ∧ ((kc + 1 ≤ bc ∧ ks + 4 ≤ bs) ∧ (∀ r6, r6 = wn M → (∀ M7 : WM, M7 = wNw M 4 0 → (∃ mc8 ms9, (kc + 1) + mc8 ≤ bc ∧ (ks + 4) + ms9 ≤ bs ∧ (m_X5_init r6 M7 mc8 ms9 (fun (M11 : WM) => (wk M11 r4 = 107 ∧ (vp_in x1 (wl M11 r4) ∧ (wk M11 r6 = 4 ∧ (∀ M15 : WM, M15 = wPR M11 r4 x1.toNatClampNeg (some r6) → (∀ z16 : Int32, z16 = x1 + (1 : Int32) → m_X0_init_l246 x0 bc bs Q n z16 M15 (((kc + 1) + mc8)) (((ks + 4) + ms9)))))))))))))))))
theorem w_X0_init_l246 {p : Program} {l : Launch} {e : Env} {s : State} {m : MethodId} {args : Array Value} {below : List Frame} {meth : Method} {c : Code} {D : va_G} {cA : Nat → ClassId} {sz0 : Nat} {H0 : Heap}  {x0 : Nat} {bc bs : Nat} {Q : WM → Prop}  (cx : Cx p s m args meth c cX0_init 2 RX0 none D cA sz0 H0)     : ∀ (n : Nat) (x1 : Int32)  (M : WM) (kc ks : Nat), m_X0_init_l246 x0 bc bs Q n x1 M kc ks → V p l e ({ frames := 3, cells := bc, slots := bs, locals := 61 } : Room) s m args below meth c 2 D cA sz0 H0 kc ks (MQ below (QW_v D cA sz0 H0 (fun M' => Q M')) args s bc bs (Aw sz0)) 246 [(0, .ref (sz0 + x0)), (1, .int x1)] [] M := by
  intro n
  induction n with
  | zero => intro x1 M kc ks h; exact h.elim
  | succ n ih =>
    intro x1 M kc ks h
    replace h : (((40 : Int32) ≤ x1 → ((kc ≤ bc ∧ ks ≤ bs) ∧ Q M)) ∧ (¬ (40 : Int32) ≤ x1 → (wk M x0 = 0 ∧ (∃ r4, wR M x0 0 = some r4 ∧ ((kc + 1 ≤ bc ∧ ks + 4 ≤ bs) ∧ (∀ r6, r6 = wn M → (∀ M7 : WM, M7 = wNw M 4 0 → (∃ mc8 ms9, (kc + 1) + mc8 ≤ bc ∧ (ks + 4) + ms9 ≤ bs ∧ (m_X5_init r6 M7 mc8 ms9 (fun (M11 : WM) => (wk M11 r4 = 107 ∧ (vp_in x1 (wl M11 r4) ∧ (wk M11 r6 = 4 ∧ (∀ M15 : WM, M15 = wPR M11 r4 x1.toNatClampNeg (some r6) → (∀ z16 : Int32, z16 = x1 + (1 : Int32) → m_X0_init_l246 x0 bc bs Q n z16 M15 (((kc + 1) + mc8)) (((ks + 4) + ms9))))))))))))))))) := h
    refine v_iload_n (pc := 246) cx dX0_init_246 rfl 1 rfl ?_
    refine v_bipush (pc := 247) cx dX0_init_247 bc_40 ?_
    refine v_icmp_ge (pc := 249) cx dX0_init_249 (tgt := 271) rfl (fun c1 => ?_) (fun c1 => ?_)
    · replace h := h.1 c1
      obtain ⟨q2, h⟩ := h
      exact v_vret cx rfl dX0_init_271 q2 h
    · replace h := h.2 c1
      refine v_aload_n (pc := 252) cx dX0_init_252 rfl 0 rfl ?_
      obtain ⟨k3, h⟩ := h
      obtain ⟨r4, er4, h⟩ := h
      refine gq273_X0 (pc := 253) cx dX0_init_253 k3 (v_some er4 ?_)
      refine v_iload_n (pc := 256) cx dX0_init_256 rfl 1 rfl ?_
      obtain ⟨q5, h⟩ := h
      refine v_new (pc := 257) cx cl_X5 (by decide) in_X5 tyX5 tyX5_ok q153 q248 q126 df_X5 q5.1 q5.2 dX0_init_257 ?_
      refine v_topr (fun r6 er6 => ?_)
      replace h := h r6 er6
      refine v_wld (fun M7 eM7 => ?_)
      replace h := h M7 eM7
      refine v_dup (pc := 260) cx dX0_init_260 rfl ?_
      obtain ⟨mc8, ms9, hmc, hms, h⟩ := h
      refine v_run_v (pc := 261) cx (kcq249_X0 cx (c_X5_init l D cA sz0 H0 M7 r6  mc8 ms9 _ h) ⟨Nat.le_of_ble_eq_true rfl, Nat.le_of_ble_eq_true rfl⟩ (As := []) rfl rfl (Nat.le_of_ble_eq_true rfl) dX0_init_261 ⟨hmc, hms⟩) (fun M11 hq => ?_)
      replace h := hq
      obtain ⟨k12, h⟩ := h
      obtain ⟨b13, h⟩ := h
      obtain ⟨k14, h⟩ := h
      refine v_aast (pc := 264) cx (kd := 107) (by decide) (by decide) rfl cl_X5 (by decide) (Or.inl rfl) dX0_init_264 k12 k14 rfl b13 ?_
      refine v_wld (fun M15 eM15 => ?_)
      replace h := h M15 eM15
      refine nm_x (x1 + (1 : Int32)) (fun z16 ez16 => ?_)
      replace h := h z16 ez16
      refine v_iinc (pc := 265) cx dX0_init_265 (q := 1) rfl ((ii_1 _).trans ez16.symm) (Nat.le_of_ble_eq_true rfl) (lv' := [(1, .int z16), (0, .ref (sz0 + x0))]) rfl ?_
      refine v_goto (pc := 268) cx dX0_init_268 (tgt := 246) rfl ?_
      refine v_sub (lv' := [(0, .ref (sz0 + x0)), (1, .int z16)]) [1, 0] rfl ?_
      exact ih z16 M15 (((kc + 1) + mc8)) (((ks + 4) + ms9)) h
def m_X0_init (t : Nat) (M : WM) (bc bs : Nat) (Q : WM → Prop) : Prop := ((0 + 1 ≤ bc ∧ 0 + 40 ≤ bs) ∧ (∀ r2, r2 = wn M → (∀ M3 : WM, M3 = wNw M 107 40 → (wk M3 t = 0 ∧ (∀ M5 : WM, M5 = wPR M3 t 0 (some r2) → (((0 + 1) + 1 ≤ bc ∧ (0 + 40) + 200 ≤ bs) ∧ (∀ r7, r7 = wn M5 → (∀ M8 : WM, M8 = wNw M5 102 200 → (wk M8 t = 0 ∧ (∀ M10 : WM, M10 = wPR M8 t 1 (some r7) → ((((0 + 1) + 1) + 1 ≤ bc ∧ ((0 + 40) + 200) + 4 ≤ bs) ∧ (∀ r12, r12 = wn M10 → (∀ M13 : WM, M13 = wNw M10 1 0 → (∃ mc14 ms15, (((0 + 1) + 1) + 1) + mc14 ≤ bc ∧ (((0 + 40) + 200) + 4) + ms15 ≤ bs ∧ (m_X1_init r12 M13 mc14 ms15 (fun (M17 : WM) => (wk M17 t = 0 ∧ (∀ M19 : WM, M19 = wPR M17 t 2 (some r12) → (wk M19 t = 0 ∧ (∀ M21 : WM, M21 = wPI M19 t 4 (((-1) : Int32)) → (wk M21 t = 0 ∧ (∀ M23 : WM, M23 = wPI M21 t 6 ((1 : Int32)) → (wk M23 t = 0 ∧ (∀ M25 : WM, M25 = wPI M23 t 8 (((-1) : Int32)) → ((((((0 + 1) + 1) + 1) + mc14) + 1 ≤ bc ∧ ((((0 + 40) + 200) + 4) + ms15) + 2 ≤ bs) ∧ (∀ r27, r27 = wn M25 → (∀ M28 : WM, M28 = wNw M25 2 0 → (∃ mc29 ms30, (((((0 + 1) + 1) + 1) + mc14) + 1) + mc29 ≤ bc ∧ (((((0 + 40) + 200) + 4) + ms15) + 2) + ms30 ≤ bs ∧ (m_X2_init r27 M28 mc29 ms30 (fun (M32 : WM) => (wk M32 t = 0 ∧ (∀ M34 : WM, M34 = wPR M32 t 9 (some r27) → ((((((((0 + 1) + 1) + 1) + mc14) + 1) + mc29) + (1 + 40) ≤ bc ∧ ((((((0 + 40) + 200) + 4) + ms15) + 2) + ms30) + (40 + 40 * 40) ≤ bs) ∧ (∀ r36, r36 = wn M34 → (∀ M37 : WM, M37 = wGr M34 104 100 40 40 → (wk M37 t = 0 ∧ (∀ M39 : WM, M39 = wPR M37 t 11 (some r36) → (((((((((0 + 1) + 1) + 1) + mc14) + 1) + mc29) + 1 + 40) + (1 + 40) ≤ bc ∧ (((((((0 + 40) + 200) + 4) + ms15) + 2) + ms30) + 40 + 40 * 40) + (40 + 40 * 40) ≤ bs) ∧ (∀ r41, r41 = wn M39 → (∀ M42 : WM, M42 = wGr M39 104 100 40 40 → (wk M42 t = 0 ∧ (∀ M44 : WM, M44 = wPR M42 t 12 (some r41) → ((((((((((0 + 1) + 1) + 1) + mc14) + 1) + mc29) + 1 + 40) + 1 + 40) + (1 + 40) ≤ bc ∧ ((((((((0 + 40) + 200) + 4) + ms15) + 2) + ms30) + 40 + 40 * 40) + 40 + 40 * 40) + (40 + 40 * 40) ≤ bs) ∧ (∀ r46, r46 = wn M44 → (∀ M47 : WM, M47 = wGr M44 104 100 40 40 → (wk M47 t = 0 ∧ (∀ M49 : WM, M49 = wPR M47 t 13 (some r46) → (((((((((((0 + 1) + 1) + 1) + mc14) + 1) + mc29) + 1 + 40) + 1 + 40) + 1 + 40) + (1 + 40) ≤ bc ∧ (((((((((0 + 40) + 200) + 4) + ms15) + 2) + ms30) + 40 + 40 * 40) + 40 + 40 * 40) + 40 + 40 * 40) + (40 + 40 * 40) ≤ bs) ∧ (∀ r51, r51 = wn M49 → (∀ M52 : WM, M52 = wGr M49 104 100 40 40 → (wk M52 t = 0 ∧ (∀ M54 : WM, M54 = wPR M52 t 14 (some r51) → ((((((((((((0 + 1) + 1) + 1) + mc14) + 1) + mc29) + 1 + 40) + 1 + 40) + 1 + 40) + 1 + 40) + 1 ≤ bc ∧ ((((((((((0 + 40) + 200) + 4) + ms15) + 2) + ms30) + 40 + 40 * 40) + 40 + 40 * 40) + 40 + 40 * 40) + 40 + 40 * 40) + 40 ≤ bs) ∧ (∀ r56, r56 = wn M54 → (∀ M57 : WM, M57 = wNw M54 101 40 → (wk M57 t = 0 ∧ (∀ M59 : WM, M59 = wPR M57 t 15 (some r56) → (((((((((((((0 + 1) + 1) + 1) + mc14) + 1) + mc29) + 1 + 40) + 1 + 40) + 1 + 40) + 1 + 40) + 1) + 1 ≤ bc ∧ (((((((((((0 + 40) + 200) + 4) + ms15) + 2) + ms30) + 40 + 40 * 40) + 40 + 40 * 40) + 40 + 40 * 40) + 40 + 40 * 40) + 40) + 9 ≤ bs) ∧ (∀ r61, r61 = wn M59 → (∀ M62 : WM, M62 = wNw M59 3 0 → ((((((((((((((0 + 1) + 1) + 1) + mc14) + 1) + mc29) + 1 + 40) + 1 + 40) + 1 + 40) + 1 + 40) + 1) + 1) ≤ bc ∧ ((((((((((((0 + 40) + 200) + 4) + ms15) + 2) + ms30) + 40 + 40 * 40) + 40 + 40 * 40) + 40 + 40 * 40) + 40 + 40 * 40) + 40) + 9) ≤ bs) ∧ (m_X4_init r61 t M62 (fun (M65 : WM) => (wk M65 t = 0 ∧ (∀ M67 : WM, M67 = wPR M65 t 16 (some r61) → (((((((((((((((0 + 1) + 1) + 1) + mc14) + 1) + mc29) + 1 + 40) + 1 + 40) + 1 + 40) + 1 + 40) + 1) + 1) + 0) + 1 ≤ bc ∧ (((((((((((((0 + 40) + 200) + 4) + ms15) + 2) + ms30) + 40 + 40 * 40) + 40 + 40 * 40) + 40 + 40 * 40) + 40 + 40 * 40) + 40) + 9) + 0) + 40 ≤ bs) ∧ (∀ r69, r69 = wn M67 → (∀ M70 : WM, M70 = wNw M67 101 40 → (wk M70 t = 0 ∧ (∀ M72 : WM, M72 = wPR M70 t 17 (some r69) → ((((((((((((((((0 + 1) + 1) + 1) + mc14) + 1) + mc29) + 1 + 40) + 1 + 40) + 1 + 40) + 1 + 40) + 1) + 1) + 0) + 1) + 1 ≤ bc ∧ ((((((((((((((0 + 40) + 200) + 4) + ms15) + 2) + ms30) + 40 + 40 * 40) + 40 + 40 * 40) + 40 + 40 * 40) + 40 + 40 * 40) + 40) + 9) + 0) + 40) + 40 ≤ bs) ∧ (∀ r74, r74 = wn M72 → (∀ M75 : WM, M75 = wNw M72 103 40 → (wk M75 t = 0 ∧ (∀ M77 : WM, M77 = wPR M75 t 18 (some r74) → (((((((((((((((((0 + 1) + 1) + 1) + mc14) + 1) + mc29) + 1 + 40) + 1 + 40) + 1 + 40) + 1 + 40) + 1) + 1) + 0) + 1) + 1) + 1 ≤ bc ∧ (((((((((((((((0 + 40) + 200) + 4) + ms15) + 2) + ms30) + 40 + 40 * 40) + 40 + 40 * 40) + 40 + 40 * 40) + 40 + 40 * 40) + 40) + 9) + 0) + 40) + 40) + 2 ≤ bs) ∧ (∀ r79, r79 = wn M77 → (∀ M80 : WM, M80 = wNw M77 2 0 → (∃ mc81 ms82, ((((((((((((((((0 + 1) + 1) + 1) + mc14) + 1) + mc29) + 1 + 40) + 1 + 40) + 1 + 40) + 1 + 40) + 1) + 1) + 0) + 1) + 1) + 1) + mc81 ≤ bc ∧ ((((((((((((((((0 + 40) + 200) + 4) + ms15) + 2) + ms30) + 40 + 40 * 40) + 40 + 40 * 40) + 40 + 40 * 40) + 40 + 40 * 40) + 40) + 9) + 0) + 40) + 40) + 2) + ms82 ≤ bs ∧ (m_X2_init r79 M80 mc81 ms82 (fun (M84 : WM) => (wk M84 t = 0 ∧ (∀ M86 : WM, M86 = wPR M84 t 19 (some r79) → (((((((((((((((((((0 + 1) + 1) + 1) + mc14) + 1) + mc29) + 1 + 40) + 1 + 40) + 1 + 40) + 1 + 40) + 1) + 1) + 0) + 1) + 1) + 1) + mc81) + 1 ≤ bc ∧ (((((((((((((((((0 + 40) + 200) + 4) + ms15) + 2) + ms30) + 40 + 40 * 40) + 40 + 40 * 40) + 40 + 40 * 40) + 40 + 40 * 40) + 40) + 9) + 0) + 40) + 40) + 2) + ms82) + 2 ≤ bs) ∧ (∀ r88, r88 = wn M86 → (∀ M89 : WM, M89 = wNw M86 2 0 → (∃ mc90 ms91, ((((((((((((((((((0 + 1) + 1) + 1) + mc14) + 1) + mc29) + 1 + 40) + 1 + 40) + 1 + 40) + 1 + 40) + 1) + 1) + 0) + 1) + 1) + 1) + mc81) + 1) + mc90 ≤ bc ∧ ((((((((((((((((((0 + 40) + 200) + 4) + ms15) + 2) + ms30) + 40 + 40 * 40) + 40 + 40 * 40) + 40 + 40 * 40) + 40 + 40 * 40) + 40) + 9) + 0) + 40) + 40) + 2) + ms82) + 2) + ms91 ≤ bs ∧ (m_X2_init r88 M89 mc90 ms91 (fun (M93 : WM) => (wk M93 t = 0 ∧ (∀ M95 : WM, M95 = wPR M93 t 20 (some r88) → (((((((((((((((((((((0 + 1) + 1) + 1) + mc14) + 1) + mc29) + 1 + 40) + 1 + 40) + 1 + 40) + 1 + 40) + 1) + 1) + 0) + 1) + 1) + 1) + mc81) + 1) + mc90) + (1 + 2) ≤ bc ∧ (((((((((((((((((((0 + 40) + 200) + 4) + ms15) + 2) + ms30) + 40 + 40 * 40) + 40 + 40 * 40) + 40 + 40 * 40) + 40 + 40 * 40) + 40) + 9) + 0) + 40) + 40) + 2) + ms82) + 2) + ms91) + (2 + 2 * 40) ≤ bs) ∧ (∀ r97, r97 = wn M95 → (∀ M98 : WM, M98 = wGr M95 105 101 2 40 → (wk M98 t = 0 ∧ (∀ M100 : WM, M100 = wPR M98 t 23 (some r97) → ((((((((((((((((((((((0 + 1) + 1) + 1) + mc14) + 1) + mc29) + 1 + 40) + 1 + 40) + 1 + 40) + 1 + 40) + 1) + 1) + 0) + 1) + 1) + 1) + mc81) + 1) + mc90) + 1 + 2) + 1 ≤ bc ∧ ((((((((((((((((((((0 + 40) + 200) + 4) + ms15) + 2) + ms30) + 40 + 40 * 40) + 40 + 40 * 40) + 40 + 40 * 40) + 40 + 40 * 40) + 40) + 9) + 0) + 40) + 40) + 2) + ms82) + 2) + ms91) + 2 + 2 * 40) + 14 ≤ bs) ∧ (∀ r102, r102 = wn M100 → (∀ M103 : WM, M103 = wNw M100 100 14 → (wk M103 t = 0 ∧ (∀ M105 : WM, M105 = wPR M103 t 24 (some r102) → (((((((((((((((((((((((0 + 1) + 1) + 1) + mc14) + 1) + mc29) + 1 + 40) + 1 + 40) + 1 + 40) + 1 + 40) + 1) + 1) + 0) + 1) + 1) + 1) + mc81) + 1) + mc90) + 1 + 2) + 1) + (1 + 1024) ≤ bc ∧ (((((((((((((((((((((0 + 40) + 200) + 4) + ms15) + 2) + ms30) + 40 + 40 * 40) + 40 + 40 * 40) + 40 + 40 * 40) + 40 + 40 * 40) + 40) + 9) + 0) + 40) + 40) + 2) + ms82) + 2) + ms91) + 2 + 2 * 40) + 14) + (1024 + 1024 * 10) ≤ bs) ∧ (∀ r107, r107 = wn M105 → (∀ M108 : WM, M108 = wGr M105 104 100 1024 10 → (wk M108 t = 0 ∧ (∀ M110 : WM, M110 = wPR M108 t 26 (some r107) → ((((((((((((((((((((((((0 + 1) + 1) + 1) + mc14) + 1) + mc29) + 1 + 40) + 1 + 40) + 1 + 40) + 1 + 40) + 1) + 1) + 0) + 1) + 1) + 1) + mc81) + 1) + mc90) + 1 + 2) + 1) + 1 + 1024) + (1 + 4096) ≤ bc ∧ ((((((((((((((((((((((0 + 40) + 200) + 4) + ms15) + 2) + ms30) + 40 + 40 * 40) + 40 + 40 * 40) + 40 + 40 * 40) + 40 + 40 * 40) + 40) + 9) + 0) + 40) + 40) + 2) + ms82) + 2) + ms91) + 2 + 2 * 40) + 14) + 1024 + 1024 * 10) + (4096 + 4096 * 12) ≤ bs) ∧ (∀ r112, r112 = wn M110 → (∀ M113 : WM, M113 = wGr M110 106 103 4096 12 → (wk M113 t = 0 ∧ (∀ M115 : WM, M115 = wPR M113 t 27 (some r112) → (((((((((((((((((((((((((0 + 1) + 1) + 1) + mc14) + 1) + mc29) + 1 + 40) + 1 + 40) + 1 + 40) + 1 + 40) + 1) + 1) + 0) + 1) + 1) + 1) + mc81) + 1) + mc90) + 1 + 2) + 1) + 1 + 1024) + 1 + 4096) + (1 + 13) ≤ bc ∧ (((((((((((((((((((((((0 + 40) + 200) + 4) + ms15) + 2) + ms30) + 40 + 40 * 40) + 40 + 40 * 40) + 40 + 40 * 40) + 40 + 40 * 40) + 40) + 9) + 0) + 40) + 40) + 2) + ms82) + 2) + ms91) + 2 + 2 * 40) + 14) + 1024 + 1024 * 10) + 4096 + 4096 * 12) + (13 + 13 * 9) ≤ bs) ∧ (∀ r117, r117 = wn M115 → (∀ M118 : WM, M118 = wGr M115 104 100 13 9 → (wk M118 t = 0 ∧ (∀ M120 : WM, M120 = wPR M118 t 28 (some r117) → ((((((((((((((((((((((((((0 + 1) + 1) + 1) + mc14) + 1) + mc29) + 1 + 40) + 1 + 40) + 1 + 40) + 1 + 40) + 1) + 1) + 0) + 1) + 1) + 1) + mc81) + 1) + mc90) + 1 + 2) + 1) + 1 + 1024) + 1 + 4096) + 1 + 13) + 1 ≤ bc ∧ ((((((((((((((((((((((((0 + 40) + 200) + 4) + ms15) + 2) + ms30) + 40 + 40 * 40) + 40 + 40 * 40) + 40 + 40 * 40) + 40 + 40 * 40) + 40) + 9) + 0) + 40) + 40) + 2) + ms82) + 2) + ms91) + 2 + 2 * 40) + 14) + 1024 + 1024 * 10) + 4096 + 4096 * 12) + 13 + 13 * 9) + 14 ≤ bs) ∧ (∀ r122, r122 = wn M120 → (∀ M123 : WM, M123 = wNw M120 100 14 → (wk M123 t = 0 ∧ (∀ M125 : WM, M125 = wPR M123 t 29 (some r122) → (((((((((((((((((((((((((((0 + 1) + 1) + 1) + mc14) + 1) + mc29) + 1 + 40) + 1 + 40) + 1 + 40) + 1 + 40) + 1) + 1) + 0) + 1) + 1) + 1) + mc81) + 1) + mc90) + 1 + 2) + 1) + 1 + 1024) + 1 + 4096) + 1 + 13) + 1) + 1 ≤ bc ∧ (((((((((((((((((((((((((0 + 40) + 200) + 4) + ms15) + 2) + ms30) + 40 + 40 * 40) + 40 + 40 * 40) + 40 + 40 * 40) + 40 + 40 * 40) + 40) + 9) + 0) + 40) + 40) + 2) + ms82) + 2) + ms91) + 2 + 2 * 40) + 14) + 1024 + 1024 * 10) + 4096 + 4096 * 12) + 13 + 13 * 9) + 14) + 4 ≤ bs) ∧ (∀ r127, r127 = wn M125 → (∀ M128 : WM, M128 = wNw M125 100 4 → (wk M128 t = 0 ∧ (∀ M130 : WM, M130 = wPR M128 t 30 (some r127) → ((((((((((((((((((((((((((((0 + 1) + 1) + 1) + mc14) + 1) + mc29) + 1 + 40) + 1 + 40) + 1 + 40) + 1 + 40) + 1) + 1) + 0) + 1) + 1) + 1) + mc81) + 1) + mc90) + 1 + 2) + 1) + 1 + 1024) + 1 + 4096) + 1 + 13) + 1) + 1) + 1 ≤ bc ∧ ((((((((((((((((((((((((((0 + 40) + 200) + 4) + ms15) + 2) + ms30) + 40 + 40 * 40) + 40 + 40 * 40) + 40 + 40 * 40) + 40 + 40 * 40) + 40) + 9) + 0) + 40) + 40) + 2) + ms82) + 2) + ms91) + 2 + 2 * 40) + 14) + 1024 + 1024 * 10) + 4096 + 4096 * 12) + 13 + 13 * 9) + 14) + 4) + 4 ≤ bs) ∧ (∀ r132, r132 = wn M130 → (∀ M133 : WM, M133 = wNw M130 100 4 → (wk M133 t = 0 ∧ (∀ M135 : WM, M135 = wPR M133 t 31 (some r132) → (∃ n0, m_X0_init_l246 t bc bs Q n0 ((0 : Int32)) M135 ((((((((((((((((((((((((((((0 + 1) + 1) + 1) + mc14) + 1) + mc29) + 1 + 40) + 1 + 40) + 1 + 40) + 1 + 40) + 1) + 1) + 0) + 1) + 1) + 1) + mc81) + 1) + mc90) + 1 + 2) + 1) + 1 + 1024) + 1 + 4096) + 1 + 13) + 1) + 1) + 1)) ((((((((((((((((((((((((((((0 + 40) + 200) + 4) + ms15) + 2) + ms30) + 40 + 40 * 40) + 40 + 40 * 40) + 40 + 40 * 40) + 40 + 40 * 40) + 40) + 9) + 0) + 40) + 40) + 2) + ms82) + 2) + ms91) + 2 + 2 * 40) + 14) + 1024 + 1024 * 10) + 4096 + 4096 * 12) + 13 + 13 * 9) + 14) + 4) + 4))))))))))))))))))))))))))))))))))))))))))))))))))))))))))))))))))))))))))))))))))))))))))))))))))))))))))))))))))))))))))))))))))))))
set_option maxHeartbeats 20000000 in
theorem c_X0_init (l : Launch) (D : va_G) (cA : Nat → ClassId) (sz0 : Nat) (H0 : Heap) (M : WM) (t : Nat)  (bc bs : Nat) (Q : WM → Prop)  (h : m_X0_init t M bc bs Q) : Met l yX0_init (ws_ yX0_init cX0_init 2 none) ({ frames := 3, cells := bc, slots := bs, locals := 61 } : Room) (PcW D cA sz0 H0 [.ref (sz0 + t)] M) (QW_v D cA sz0 H0 (fun M' => Q M')) bc bs (Aw sz0) := by
  replace h : ((0 + 1 ≤ bc ∧ 0 + 40 ≤ bs) ∧ (∀ r2, r2 = wn M → (∀ M3 : WM, M3 = wNw M 107 40 → (wk M3 t = 0 ∧ (∀ M5 : WM, M5 = wPR M3 t 0 (some r2) → (((0 + 1) + 1 ≤ bc ∧ (0 + 40) + 200 ≤ bs) ∧ (∀ r7, r7 = wn M5 → (∀ M8 : WM, M8 = wNw M5 102 200 → (wk M8 t = 0 ∧ (∀ M10 : WM, M10 = wPR M8 t 1 (some r7) → ((((0 + 1) + 1) + 1 ≤ bc ∧ ((0 + 40) + 200) + 4 ≤ bs) ∧ (∀ r12, r12 = wn M10 → (∀ M13 : WM, M13 = wNw M10 1 0 → (∃ mc14 ms15, (((0 + 1) + 1) + 1) + mc14 ≤ bc ∧ (((0 + 40) + 200) + 4) + ms15 ≤ bs ∧ (m_X1_init r12 M13 mc14 ms15 (fun (M17 : WM) => (wk M17 t = 0 ∧ (∀ M19 : WM, M19 = wPR M17 t 2 (some r12) → (wk M19 t = 0 ∧ (∀ M21 : WM, M21 = wPI M19 t 4 (((-1) : Int32)) → (wk M21 t = 0 ∧ (∀ M23 : WM, M23 = wPI M21 t 6 ((1 : Int32)) → (wk M23 t = 0 ∧ (∀ M25 : WM, M25 = wPI M23 t 8 (((-1) : Int32)) → ((((((0 + 1) + 1) + 1) + mc14) + 1 ≤ bc ∧ ((((0 + 40) + 200) + 4) + ms15) + 2 ≤ bs) ∧ (∀ r27, r27 = wn M25 → (∀ M28 : WM, M28 = wNw M25 2 0 → (∃ mc29 ms30, (((((0 + 1) + 1) + 1) + mc14) + 1) + mc29 ≤ bc ∧ (((((0 + 40) + 200) + 4) + ms15) + 2) + ms30 ≤ bs ∧ (m_X2_init r27 M28 mc29 ms30 (fun (M32 : WM) => (wk M32 t = 0 ∧ (∀ M34 : WM, M34 = wPR M32 t 9 (some r27) → ((((((((0 + 1) + 1) + 1) + mc14) + 1) + mc29) + (1 + 40) ≤ bc ∧ ((((((0 + 40) + 200) + 4) + ms15) + 2) + ms30) + (40 + 40 * 40) ≤ bs) ∧ (∀ r36, r36 = wn M34 → (∀ M37 : WM, M37 = wGr M34 104 100 40 40 → (wk M37 t = 0 ∧ (∀ M39 : WM, M39 = wPR M37 t 11 (some r36) → (((((((((0 + 1) + 1) + 1) + mc14) + 1) + mc29) + 1 + 40) + (1 + 40) ≤ bc ∧ (((((((0 + 40) + 200) + 4) + ms15) + 2) + ms30) + 40 + 40 * 40) + (40 + 40 * 40) ≤ bs) ∧ (∀ r41, r41 = wn M39 → (∀ M42 : WM, M42 = wGr M39 104 100 40 40 → (wk M42 t = 0 ∧ (∀ M44 : WM, M44 = wPR M42 t 12 (some r41) → ((((((((((0 + 1) + 1) + 1) + mc14) + 1) + mc29) + 1 + 40) + 1 + 40) + (1 + 40) ≤ bc ∧ ((((((((0 + 40) + 200) + 4) + ms15) + 2) + ms30) + 40 + 40 * 40) + 40 + 40 * 40) + (40 + 40 * 40) ≤ bs) ∧ (∀ r46, r46 = wn M44 → (∀ M47 : WM, M47 = wGr M44 104 100 40 40 → (wk M47 t = 0 ∧ (∀ M49 : WM, M49 = wPR M47 t 13 (some r46) → (((((((((((0 + 1) + 1) + 1) + mc14) + 1) + mc29) + 1 + 40) + 1 + 40) + 1 + 40) + (1 + 40) ≤ bc ∧ (((((((((0 + 40) + 200) + 4) + ms15) + 2) + ms30) + 40 + 40 * 40) + 40 + 40 * 40) + 40 + 40 * 40) + (40 + 40 * 40) ≤ bs) ∧ (∀ r51, r51 = wn M49 → (∀ M52 : WM, M52 = wGr M49 104 100 40 40 → (wk M52 t = 0 ∧ (∀ M54 : WM, M54 = wPR M52 t 14 (some r51) → ((((((((((((0 + 1) + 1) + 1) + mc14) + 1) + mc29) + 1 + 40) + 1 + 40) + 1 + 40) + 1 + 40) + 1 ≤ bc ∧ ((((((((((0 + 40) + 200) + 4) + ms15) + 2) + ms30) + 40 + 40 * 40) + 40 + 40 * 40) + 40 + 40 * 40) + 40 + 40 * 40) + 40 ≤ bs) ∧ (∀ r56, r56 = wn M54 → (∀ M57 : WM, M57 = wNw M54 101 40 → (wk M57 t = 0 ∧ (∀ M59 : WM, M59 = wPR M57 t 15 (some r56) → (((((((((((((0 + 1) + 1) + 1) + mc14) + 1) + mc29) + 1 + 40) + 1 + 40) + 1 + 40) + 1 + 40) + 1) + 1 ≤ bc ∧ (((((((((((0 + 40) + 200) + 4) + ms15) + 2) + ms30) + 40 + 40 * 40) + 40 + 40 * 40) + 40 + 40 * 40) + 40 + 40 * 40) + 40) + 9 ≤ bs) ∧ (∀ r61, r61 = wn M59 → (∀ M62 : WM, M62 = wNw M59 3 0 → ((((((((((((((0 + 1) + 1) + 1) + mc14) + 1) + mc29) + 1 + 40) + 1 + 40) + 1 + 40) + 1 + 40) + 1) + 1) ≤ bc ∧ ((((((((((((0 + 40) + 200) + 4) + ms15) + 2) + ms30) + 40 + 40 * 40) + 40 + 40 * 40) + 40 + 40 * 40) + 40 + 40 * 40) + 40) + 9) ≤ bs) ∧ (m_X4_init r61 t M62 (fun (M65 : WM) => (wk M65 t = 0 ∧ (∀ M67 : WM, M67 = wPR M65 t 16 (some r61) → (((((((((((((((0 + 1) + 1) + 1) + mc14) + 1) + mc29) + 1 + 40) + 1 + 40) + 1 + 40) + 1 + 40) + 1) + 1) + 0) + 1 ≤ bc ∧ (((((((((((((0 + 40) + 200) + 4) + ms15) + 2) + ms30) + 40 + 40 * 40) + 40 + 40 * 40) + 40 + 40 * 40) + 40 + 40 * 40) + 40) + 9) + 0) + 40 ≤ bs) ∧ (∀ r69, r69 = wn M67 → (∀ M70 : WM, M70 = wNw M67 101 40 → (wk M70 t = 0 ∧ (∀ M72 : WM, M72 = wPR M70 t 17 (some r69) → ((((((((((((((((0 + 1) + 1) + 1) + mc14) + 1) + mc29) + 1 + 40) + 1 + 40) + 1 + 40) + 1 + 40) + 1) + 1) + 0) + 1) + 1 ≤ bc ∧ ((((((((((((((0 + 40) + 200) + 4) + ms15) + 2) + ms30) + 40 + 40 * 40) + 40 + 40 * 40) + 40 + 40 * 40) + 40 + 40 * 40) + 40) + 9) + 0) + 40) + 40 ≤ bs) ∧ (∀ r74, r74 = wn M72 → (∀ M75 : WM, M75 = wNw M72 103 40 → (wk M75 t = 0 ∧ (∀ M77 : WM, M77 = wPR M75 t 18 (some r74) → (((((((((((((((((0 + 1) + 1) + 1) + mc14) + 1) + mc29) + 1 + 40) + 1 + 40) + 1 + 40) + 1 + 40) + 1) + 1) + 0) + 1) + 1) + 1 ≤ bc ∧ (((((((((((((((0 + 40) + 200) + 4) + ms15) + 2) + ms30) + 40 + 40 * 40) + 40 + 40 * 40) + 40 + 40 * 40) + 40 + 40 * 40) + 40) + 9) + 0) + 40) + 40) + 2 ≤ bs) ∧ (∀ r79, r79 = wn M77 → (∀ M80 : WM, M80 = wNw M77 2 0 → (∃ mc81 ms82, ((((((((((((((((0 + 1) + 1) + 1) + mc14) + 1) + mc29) + 1 + 40) + 1 + 40) + 1 + 40) + 1 + 40) + 1) + 1) + 0) + 1) + 1) + 1) + mc81 ≤ bc ∧ ((((((((((((((((0 + 40) + 200) + 4) + ms15) + 2) + ms30) + 40 + 40 * 40) + 40 + 40 * 40) + 40 + 40 * 40) + 40 + 40 * 40) + 40) + 9) + 0) + 40) + 40) + 2) + ms82 ≤ bs ∧ (m_X2_init r79 M80 mc81 ms82 (fun (M84 : WM) => (wk M84 t = 0 ∧ (∀ M86 : WM, M86 = wPR M84 t 19 (some r79) → (((((((((((((((((((0 + 1) + 1) + 1) + mc14) + 1) + mc29) + 1 + 40) + 1 + 40) + 1 + 40) + 1 + 40) + 1) + 1) + 0) + 1) + 1) + 1) + mc81) + 1 ≤ bc ∧ (((((((((((((((((0 + 40) + 200) + 4) + ms15) + 2) + ms30) + 40 + 40 * 40) + 40 + 40 * 40) + 40 + 40 * 40) + 40 + 40 * 40) + 40) + 9) + 0) + 40) + 40) + 2) + ms82) + 2 ≤ bs) ∧ (∀ r88, r88 = wn M86 → (∀ M89 : WM, M89 = wNw M86 2 0 → (∃ mc90 ms91, ((((((((((((((((((0 + 1) + 1) + 1) + mc14) + 1) + mc29) + 1 + 40) + 1 + 40) + 1 + 40) + 1 + 40) + 1) + 1) + 0) + 1) + 1) + 1) + mc81) + 1) + mc90 ≤ bc ∧ ((((((((((((((((((0 + 40) + 200) + 4) + ms15) + 2) + ms30) + 40 + 40 * 40) + 40 + 40 * 40) + 40 + 40 * 40) + 40 + 40 * 40) + 40) + 9) + 0) + 40) + 40) + 2) + ms82) + 2) + ms91 ≤ bs ∧ (m_X2_init r88 M89 mc90 ms91 (fun (M93 : WM) => (wk M93 t = 0 ∧ (∀ M95 : WM, M95 = wPR M93 t 20 (some r88) → (((((((((((((((((((((0 + 1) + 1) + 1) + mc14) + 1) + mc29) + 1 + 40) + 1 + 40) + 1 + 40) + 1 + 40) + 1) + 1) + 0) + 1) + 1) + 1) + mc81) + 1) + mc90) + (1 + 2) ≤ bc ∧ (((((((((((((((((((0 + 40) + 200) + 4) + ms15) + 2) + ms30) + 40 + 40 * 40) + 40 + 40 * 40) + 40 + 40 * 40) + 40 + 40 * 40) + 40) + 9) + 0) + 40) + 40) + 2) + ms82) + 2) + ms91) + (2 + 2 * 40) ≤ bs) ∧ (∀ r97, r97 = wn M95 → (∀ M98 : WM, M98 = wGr M95 105 101 2 40 → (wk M98 t = 0 ∧ (∀ M100 : WM, M100 = wPR M98 t 23 (some r97) → ((((((((((((((((((((((0 + 1) + 1) + 1) + mc14) + 1) + mc29) + 1 + 40) + 1 + 40) + 1 + 40) + 1 + 40) + 1) + 1) + 0) + 1) + 1) + 1) + mc81) + 1) + mc90) + 1 + 2) + 1 ≤ bc ∧ ((((((((((((((((((((0 + 40) + 200) + 4) + ms15) + 2) + ms30) + 40 + 40 * 40) + 40 + 40 * 40) + 40 + 40 * 40) + 40 + 40 * 40) + 40) + 9) + 0) + 40) + 40) + 2) + ms82) + 2) + ms91) + 2 + 2 * 40) + 14 ≤ bs) ∧ (∀ r102, r102 = wn M100 → (∀ M103 : WM, M103 = wNw M100 100 14 → (wk M103 t = 0 ∧ (∀ M105 : WM, M105 = wPR M103 t 24 (some r102) → (((((((((((((((((((((((0 + 1) + 1) + 1) + mc14) + 1) + mc29) + 1 + 40) + 1 + 40) + 1 + 40) + 1 + 40) + 1) + 1) + 0) + 1) + 1) + 1) + mc81) + 1) + mc90) + 1 + 2) + 1) + (1 + 1024) ≤ bc ∧ (((((((((((((((((((((0 + 40) + 200) + 4) + ms15) + 2) + ms30) + 40 + 40 * 40) + 40 + 40 * 40) + 40 + 40 * 40) + 40 + 40 * 40) + 40) + 9) + 0) + 40) + 40) + 2) + ms82) + 2) + ms91) + 2 + 2 * 40) + 14) + (1024 + 1024 * 10) ≤ bs) ∧ (∀ r107, r107 = wn M105 → (∀ M108 : WM, M108 = wGr M105 104 100 1024 10 → (wk M108 t = 0 ∧ (∀ M110 : WM, M110 = wPR M108 t 26 (some r107) → ((((((((((((((((((((((((0 + 1) + 1) + 1) + mc14) + 1) + mc29) + 1 + 40) + 1 + 40) + 1 + 40) + 1 + 40) + 1) + 1) + 0) + 1) + 1) + 1) + mc81) + 1) + mc90) + 1 + 2) + 1) + 1 + 1024) + (1 + 4096) ≤ bc ∧ ((((((((((((((((((((((0 + 40) + 200) + 4) + ms15) + 2) + ms30) + 40 + 40 * 40) + 40 + 40 * 40) + 40 + 40 * 40) + 40 + 40 * 40) + 40) + 9) + 0) + 40) + 40) + 2) + ms82) + 2) + ms91) + 2 + 2 * 40) + 14) + 1024 + 1024 * 10) + (4096 + 4096 * 12) ≤ bs) ∧ (∀ r112, r112 = wn M110 → (∀ M113 : WM, M113 = wGr M110 106 103 4096 12 → (wk M113 t = 0 ∧ (∀ M115 : WM, M115 = wPR M113 t 27 (some r112) → (((((((((((((((((((((((((0 + 1) + 1) + 1) + mc14) + 1) + mc29) + 1 + 40) + 1 + 40) + 1 + 40) + 1 + 40) + 1) + 1) + 0) + 1) + 1) + 1) + mc81) + 1) + mc90) + 1 + 2) + 1) + 1 + 1024) + 1 + 4096) + (1 + 13) ≤ bc ∧ (((((((((((((((((((((((0 + 40) + 200) + 4) + ms15) + 2) + ms30) + 40 + 40 * 40) + 40 + 40 * 40) + 40 + 40 * 40) + 40 + 40 * 40) + 40) + 9) + 0) + 40) + 40) + 2) + ms82) + 2) + ms91) + 2 + 2 * 40) + 14) + 1024 + 1024 * 10) + 4096 + 4096 * 12) + (13 + 13 * 9) ≤ bs) ∧ (∀ r117, r117 = wn M115 → (∀ M118 : WM, M118 = wGr M115 104 100 13 9 → (wk M118 t = 0 ∧ (∀ M120 : WM, M120 = wPR M118 t 28 (some r117) → ((((((((((((((((((((((((((0 + 1) + 1) + 1) + mc14) + 1) + mc29) + 1 + 40) + 1 + 40) + 1 + 40) + 1 + 40) + 1) + 1) + 0) + 1) + 1) + 1) + mc81) + 1) + mc90) + 1 + 2) + 1) + 1 + 1024) + 1 + 4096) + 1 + 13) + 1 ≤ bc ∧ ((((((((((((((((((((((((0 + 40) + 200) + 4) + ms15) + 2) + ms30) + 40 + 40 * 40) + 40 + 40 * 40) + 40 + 40 * 40) + 40 + 40 * 40) + 40) + 9) + 0) + 40) + 40) + 2) + ms82) + 2) + ms91) + 2 + 2 * 40) + 14) + 1024 + 1024 * 10) + 4096 + 4096 * 12) + 13 + 13 * 9) + 14 ≤ bs) ∧ (∀ r122, r122 = wn M120 → (∀ M123 : WM, M123 = wNw M120 100 14 → (wk M123 t = 0 ∧ (∀ M125 : WM, M125 = wPR M123 t 29 (some r122) → (((((((((((((((((((((((((((0 + 1) + 1) + 1) + mc14) + 1) + mc29) + 1 + 40) + 1 + 40) + 1 + 40) + 1 + 40) + 1) + 1) + 0) + 1) + 1) + 1) + mc81) + 1) + mc90) + 1 + 2) + 1) + 1 + 1024) + 1 + 4096) + 1 + 13) + 1) + 1 ≤ bc ∧ (((((((((((((((((((((((((0 + 40) + 200) + 4) + ms15) + 2) + ms30) + 40 + 40 * 40) + 40 + 40 * 40) + 40 + 40 * 40) + 40 + 40 * 40) + 40) + 9) + 0) + 40) + 40) + 2) + ms82) + 2) + ms91) + 2 + 2 * 40) + 14) + 1024 + 1024 * 10) + 4096 + 4096 * 12) + 13 + 13 * 9) + 14) + 4 ≤ bs) ∧ (∀ r127, r127 = wn M125 → (∀ M128 : WM, M128 = wNw M125 100 4 → (wk M128 t = 0 ∧ (∀ M130 : WM, M130 = wPR M128 t 30 (some r127) → ((((((((((((((((((((((((((((0 + 1) + 1) + 1) + mc14) + 1) + mc29) + 1 + 40) + 1 + 40) + 1 + 40) + 1 + 40) + 1) + 1) + 0) + 1) + 1) + 1) + mc81) + 1) + mc90) + 1 + 2) + 1) + 1 + 1024) + 1 + 4096) + 1 + 13) + 1) + 1) + 1 ≤ bc ∧ ((((((((((((((((((((((((((0 + 40) + 200) + 4) + ms15) + 2) + ms30) + 40 + 40 * 40) + 40 + 40 * 40) + 40 + 40 * 40) + 40 + 40 * 40) + 40) + 9) + 0) + 40) + 40) + 2) + ms82) + 2) + ms91) + 2 + 2 * 40) + 14) + 1024 + 1024 * 10) + 4096 + 4096 * 12) + 13 + 13 * 9) + 14) + 4) + 4 ≤ bs) ∧ (∀ r132, r132 = wn M130 → (∀ M133 : WM, M133 = wNw M130 100 4 → (wk M133 t = 0 ∧ (∀ M135 : WM, M135 = wPR M133 t 31 (some r132) → (∃ n0, m_X0_init_l246 t bc bs Q n0 ((0 : Int32)) M135 ((((((((((((((((((((((((((((0 + 1) + 1) + 1) + mc14) + 1) + mc29) + 1 + 40) + 1 + 40) + 1 + 40) + 1 + 40) + 1) + 1) + 0) + 1) + 1) + 1) + mc81) + 1) + mc90) + 1 + 2) + 1) + 1 + 1024) + 1 + 4096) + 1 + 13) + 1) + 1) + 1)) ((((((((((((((((((((((((((((0 + 40) + 200) + 4) + ms15) + 2) + ms30) + 40 + 40 * 40) + 40 + 40 * 40) + 40 + 40 * 40) + 40 + 40 * 40) + 40) + 9) + 0) + 40) + 40) + 2) + ms82) + 2) + ms91) + 2 + 2 * 40) + 14) + 1024 + 1024 * 10) + 4096 + 4096 * 12) + 13 + 13 * 9) + 14) + 4) + 4)))))))))))))))))))))))))))))))))))))))))))))))))))))))))))))))))))))))))))))))))))))))))))))))))))))))))))))))))))))))))))))))))))))) := h
  refine Met.ofV (by decide +kernel) (Nat.le_of_ble_eq_true rfl) ?_
  intro p e s m args below meth c cx hnm
  replace cx : Cx p s m args meth c cX0_init 2 RX0 none D cA sz0 H0 := cx
  refine v_sub (lv' := [(0, .ref (sz0 + t))]) [0] rfl ?_
  refine v_aload_n (pc := 0) cx dX0_init_0 rfl 0 rfl ?_
  refine v_objInit (pc := 1) cx q150 q151 q152 dX0_init_1 ⟨Nat.le_of_ble_eq_true rfl, Nat.le_of_ble_eq_true rfl⟩ ?_
  refine v_aload_n (pc := 4) cx dX0_init_4 rfl 0 rfl ?_
  refine v_bipush (pc := 5) cx dX0_init_5 bc_40 ?_
  obtain ⟨q1, h⟩ := h
  refine v_anew (pc := 7) cx (kd := 107) (by decide) (by decide) rfl (n := 40) (by decide +kernel) (by decide +kernel) q153 q154 (Nat.le_of_ble_eq_true rfl) q1.1 q1.2 dX0_init_7 ?_
  refine v_topr (fun r2 er2 => ?_)
  replace h := h r2 er2
  refine v_wld (fun M3 eM3 => ?_)
  replace h := h M3 eM3
  obtain ⟨k4, h⟩ := h
  refine pq273_X0 (pc := 10) cx (x := some r2) hnm dX0_init_10 k4 ?_
  refine v_wld (fun M5 eM5 => ?_)
  replace h := h M5 eM5
  refine v_aload_n (pc := 13) cx dX0_init_13 rfl 0 rfl ?_
  refine v_sipush (pc := 14) cx dX0_init_14 sc_200 ?_
  obtain ⟨q6, h⟩ := h
  refine v_newa102 (pc := 17) cx (n := 200) (by decide +kernel) (by decide +kernel) q183 (Nat.le_of_ble_eq_true rfl) q6.1 q6.2 dX0_init_17 ?_
  refine v_topr (fun r7 er7 => ?_)
  replace h := h r7 er7
  refine v_wld (fun M8 eM8 => ?_)
  replace h := h M8 eM8
  obtain ⟨k9, h⟩ := h
  refine pq275_X0 (pc := 19) cx (x := some r7) hnm dX0_init_19 k9 ?_
  refine v_wld (fun M10 eM10 => ?_)
  replace h := h M10 eM10
  refine v_aload_n (pc := 22) cx dX0_init_22 rfl 0 rfl ?_
  obtain ⟨q11, h⟩ := h
  refine v_new (pc := 23) cx cl_X1 (by decide) in_X1 tyX1 tyX1_ok q155 q156 q122 df_X1 q11.1 q11.2 dX0_init_23 ?_
  refine v_topr (fun r12 er12 => ?_)
  replace h := h r12 er12
  refine v_wld (fun M13 eM13 => ?_)
  replace h := h M13 eM13
  refine v_dup (pc := 26) cx dX0_init_26 rfl ?_
  obtain ⟨mc14, ms15, hmc, hms, h⟩ := h
  refine v_run_v (pc := 27) cx (kcq157_X0 cx (c_X1_init l D cA sz0 H0 M13 r12  mc14 ms15 _ h) ⟨Nat.le_of_ble_eq_true rfl, Nat.le_of_ble_eq_true rfl⟩ (As := []) rfl rfl (Nat.le_of_ble_eq_true rfl) dX0_init_27 ⟨hmc, hms⟩) (fun M17 hq => ?_)
  replace h := hq
  obtain ⟨k18, h⟩ := h
  refine pq277_X0 (pc := 30) cx (x := some r12) dX0_init_30 k18 ?_
  refine v_wld (fun M19 eM19 => ?_)
  replace h := h M19 eM19
  refine v_aload_n (pc := 33) cx dX0_init_33 rfl 0 rfl ?_
  refine v_iconst (pc := 34) cx dX0_init_34 ic_m1 ?_
  obtain ⟨k20, h⟩ := h
  refine pq279_X0 (pc := 35) cx dX0_init_35 k20 ?_
  refine v_wld (fun M21 eM21 => ?_)
  replace h := h M21 eM21
  refine v_aload_n (pc := 38) cx dX0_init_38 rfl 0 rfl ?_
  refine v_iconst (pc := 39) cx dX0_init_39 ic_1 ?_
  obtain ⟨k22, h⟩ := h
  refine pq281_X0 (pc := 40) cx dX0_init_40 k22 ?_
  refine v_wld (fun M23 eM23 => ?_)
  replace h := h M23 eM23
  refine v_aload_n (pc := 43) cx dX0_init_43 rfl 0 rfl ?_
  refine v_iconst (pc := 44) cx dX0_init_44 ic_m1 ?_
  obtain ⟨k24, h⟩ := h
  refine pq283_X0 (pc := 45) cx dX0_init_45 k24 ?_
  refine v_wld (fun M25 eM25 => ?_)
  replace h := h M25 eM25
  refine v_aload_n (pc := 48) cx dX0_init_48 rfl 0 rfl ?_
  obtain ⟨q26, h⟩ := h
  refine v_new (pc := 49) cx cl_X2 (by decide) in_X2 tyX2 tyX2_ok q185 q186 q123 df_X2 q26.1 q26.2 dX0_init_49 ?_
  refine v_topr (fun r27 er27 => ?_)
  replace h := h r27 er27
  refine v_wld (fun M28 eM28 => ?_)
  replace h := h M28 eM28
  refine v_dup (pc := 52) cx dX0_init_52 rfl ?_
  obtain ⟨mc29, ms30, hmc, hms, h⟩ := h
  refine v_run_v (pc := 53) cx (kcq187_X0 cx (c_X2_init l D cA sz0 H0 M28 r27  mc29 ms30 _ h) ⟨Nat.le_of_ble_eq_true rfl, Nat.le_of_ble_eq_true rfl⟩ (As := []) rfl rfl (Nat.le_of_ble_eq_true rfl) dX0_init_53 ⟨hmc, hms⟩) (fun M32 hq => ?_)
  replace h := hq
  obtain ⟨k33, h⟩ := h
  refine pq284_X0 (pc := 56) cx (x := some r27) hnm dX0_init_56 k33 ?_
  refine v_wld (fun M34 eM34 => ?_)
  replace h := h M34 eM34
  refine v_aload_n (pc := 59) cx dX0_init_59 rfl 0 rfl ?_
  refine v_bipush (pc := 60) cx dX0_init_60 bc_40 ?_
  refine v_bipush (pc := 62) cx dX0_init_62 bc_40 ?_
  obtain ⟨q35, h⟩ := h
  refine v_multi (pc := 64) cx (kd := 104) (kd2 := 100) (ty := .int) (n := 40) (k := 40) (by decide) (by decide) rfl rfl (gr_dv100 _ _ _) (by decide +kernel) (by decide +kernel) (by decide +kernel) (by decide +kernel) q202 q203 q184 (Nat.le_of_ble_eq_true rfl) (Nat.le_of_ble_eq_true rfl) (Nat.le_of_ble_eq_true rfl) rfl rfl q35.1 q35.2 dX0_init_64 ?_
  refine v_topr (fun r36 er36 => ?_)
  replace h := h r36 er36
  refine v_wld (fun M37 eM37 => ?_)
  replace h := h M37 eM37
  obtain ⟨k38, h⟩ := h
  refine pq286_X0 (pc := 68) cx (x := some r36) hnm dX0_init_68 k38 ?_
  refine v_wld (fun M39 eM39 => ?_)
  replace h := h M39 eM39
  refine v_aload_n (pc := 71) cx dX0_init_71 rfl 0 rfl ?_
  refine v_bipush (pc := 72) cx dX0_init_72 bc_40 ?_
  refine v_bipush (pc := 74) cx dX0_init_74 bc_40 ?_
  obtain ⟨q40, h⟩ := h
  refine v_multi (pc := 76) cx (kd := 104) (kd2 := 100) (ty := .int) (n := 40) (k := 40) (by decide) (by decide) rfl rfl (gr_dv100 _ _ _) (by decide +kernel) (by decide +kernel) (by decide +kernel) (by decide +kernel) q202 q203 q184 (Nat.le_of_ble_eq_true rfl) (Nat.le_of_ble_eq_true rfl) (Nat.le_of_ble_eq_true rfl) rfl rfl q40.1 q40.2 dX0_init_76 ?_
  refine v_topr (fun r41 er41 => ?_)
  replace h := h r41 er41
  refine v_wld (fun M42 eM42 => ?_)
  replace h := h M42 eM42
  obtain ⟨k43, h⟩ := h
  refine pq287_X0 (pc := 80) cx (x := some r41) hnm dX0_init_80 k43 ?_
  refine v_wld (fun M44 eM44 => ?_)
  replace h := h M44 eM44
  refine v_aload_n (pc := 83) cx dX0_init_83 rfl 0 rfl ?_
  refine v_bipush (pc := 84) cx dX0_init_84 bc_40 ?_
  refine v_bipush (pc := 86) cx dX0_init_86 bc_40 ?_
  obtain ⟨q45, h⟩ := h
  refine v_multi (pc := 88) cx (kd := 104) (kd2 := 100) (ty := .int) (n := 40) (k := 40) (by decide) (by decide) rfl rfl (gr_dv100 _ _ _) (by decide +kernel) (by decide +kernel) (by decide +kernel) (by decide +kernel) q202 q203 q184 (Nat.le_of_ble_eq_true rfl) (Nat.le_of_ble_eq_true rfl) (Nat.le_of_ble_eq_true rfl) rfl rfl q45.1 q45.2 dX0_init_88 ?_
  refine v_topr (fun r46 er46 => ?_)
  replace h := h r46 er46
  refine v_wld (fun M47 eM47 => ?_)
  replace h := h M47 eM47
  obtain ⟨k48, h⟩ := h
  refine pq288_X0 (pc := 92) cx (x := some r46) hnm dX0_init_92 k48 ?_
  refine v_wld (fun M49 eM49 => ?_)
  replace h := h M49 eM49
  refine v_aload_n (pc := 95) cx dX0_init_95 rfl 0 rfl ?_
  refine v_bipush (pc := 96) cx dX0_init_96 bc_40 ?_
  refine v_bipush (pc := 98) cx dX0_init_98 bc_40 ?_
  obtain ⟨q50, h⟩ := h
  refine v_multi (pc := 100) cx (kd := 104) (kd2 := 100) (ty := .int) (n := 40) (k := 40) (by decide) (by decide) rfl rfl (gr_dv100 _ _ _) (by decide +kernel) (by decide +kernel) (by decide +kernel) (by decide +kernel) q202 q203 q184 (Nat.le_of_ble_eq_true rfl) (Nat.le_of_ble_eq_true rfl) (Nat.le_of_ble_eq_true rfl) rfl rfl q50.1 q50.2 dX0_init_100 ?_
  refine v_topr (fun r51 er51 => ?_)
  replace h := h r51 er51
  refine v_wld (fun M52 eM52 => ?_)
  replace h := h M52 eM52
  obtain ⟨k53, h⟩ := h
  refine pq289_X0 (pc := 104) cx (x := some r51) hnm dX0_init_104 k53 ?_
  refine v_wld (fun M54 eM54 => ?_)
  replace h := h M54 eM54
  refine v_aload_n (pc := 107) cx dX0_init_107 rfl 0 rfl ?_
  refine v_bipush (pc := 108) cx dX0_init_108 bc_40 ?_
  obtain ⟨q55, h⟩ := h
  refine v_newa101 (pc := 110) cx (n := 40) (by decide +kernel) (by decide +kernel) q243 (Nat.le_of_ble_eq_true rfl) q55.1 q55.2 dX0_init_110 ?_
  refine v_topr (fun r56 er56 => ?_)
  replace h := h r56 er56
  refine v_wld (fun M57 eM57 => ?_)
  replace h := h M57 eM57
  obtain ⟨k58, h⟩ := h
  refine pq290_X0 (pc := 112) cx (x := some r56) hnm dX0_init_112 k58 ?_
  refine v_wld (fun M59 eM59 => ?_)
  replace h := h M59 eM59
  refine v_aload_n (pc := 115) cx dX0_init_115 rfl 0 rfl ?_
  obtain ⟨q60, h⟩ := h
  refine v_new (pc := 116) cx cl_X4 (by decide) in_X4 tyX4 tyX4_ok q204 q205 q125 df_X4 q60.1 q60.2 dX0_init_116 ?_
  refine v_topr (fun r61 er61 => ?_)
  replace h := h r61 er61
  refine v_wld (fun M62 eM62 => ?_)
  replace h := h M62 eM62
  refine v_dup (pc := 119) cx dX0_init_119 rfl ?_
  refine v_aload_n (pc := 120) cx dX0_init_120 rfl 0 rfl ?_
  obtain ⟨hb63, h⟩ := h
  refine v_run_v (pc := 121) cx (kcq206_X0 cx (c_X4_init l D cA sz0 H0 M62 r61 t  _ h) ⟨Nat.le_of_ble_eq_true rfl, Nat.le_of_ble_eq_true rfl⟩ (As := [.ref (sz0 + t)]) rfl rfl (Nat.le_of_ble_eq_true rfl) dX0_init_121 ⟨hb63.1, hb63.2⟩) (fun M65 hq => ?_)
  replace h := hq
  obtain ⟨k66, h⟩ := h
  refine pq291_X0 (pc := 124) cx (x := some r61) hnm dX0_init_124 k66 ?_
  refine v_wld (fun M67 eM67 => ?_)
  replace h := h M67 eM67
  refine v_aload_n (pc := 127) cx dX0_init_127 rfl 0 rfl ?_
  refine v_bipush (pc := 128) cx dX0_init_128 bc_40 ?_
  obtain ⟨q68, h⟩ := h
  refine v_newa101 (pc := 130) cx (n := 40) (by decide +kernel) (by decide +kernel) q243 (Nat.le_of_ble_eq_true rfl) q68.1 q68.2 dX0_init_130 ?_
  refine v_topr (fun r69 er69 => ?_)
  replace h := h r69 er69
  refine v_wld (fun M70 eM70 => ?_)
  replace h := h M70 eM70
  obtain ⟨k71, h⟩ := h
  refine pq292_X0 (pc := 132) cx (x := some r69) hnm dX0_init_132 k71 ?_
  refine v_wld (fun M72 eM72 => ?_)
  replace h := h M72 eM72
  refine v_aload_n (pc := 135) cx dX0_init_135 rfl 0 rfl ?_
  refine v_bipush (pc := 136) cx dX0_init_136 bc_40 ?_
  obtain ⟨q73, h⟩ := h
  refine v_newa103 (pc := 138) cx (n := 40) (by decide +kernel) (by decide +kernel) q271 (Nat.le_of_ble_eq_true rfl) q73.1 q73.2 dX0_init_138 ?_
  refine v_topr (fun r74 er74 => ?_)
  replace h := h r74 er74
  refine v_wld (fun M75 eM75 => ?_)
  replace h := h M75 eM75
  obtain ⟨k76, h⟩ := h
  refine pq293_X0 (pc := 140) cx (x := some r74) hnm dX0_init_140 k76 ?_
  refine v_wld (fun M77 eM77 => ?_)
  replace h := h M77 eM77
  refine v_aload_n (pc := 143) cx dX0_init_143 rfl 0 rfl ?_
  obtain ⟨q78, h⟩ := h
  refine v_new (pc := 144) cx cl_X2 (by decide) in_X2 tyX2 tyX2_ok q185 q186 q123 df_X2 q78.1 q78.2 dX0_init_144 ?_
  refine v_topr (fun r79 er79 => ?_)
  replace h := h r79 er79
  refine v_wld (fun M80 eM80 => ?_)
  replace h := h M80 eM80
  refine v_dup (pc := 147) cx dX0_init_147 rfl ?_
  obtain ⟨mc81, ms82, hmc, hms, h⟩ := h
  refine v_run_v (pc := 148) cx (kcq187_X0 cx (c_X2_init l D cA sz0 H0 M80 r79  mc81 ms82 _ h) ⟨Nat.le_of_ble_eq_true rfl, Nat.le_of_ble_eq_true rfl⟩ (As := []) rfl rfl (Nat.le_of_ble_eq_true rfl) dX0_init_148 ⟨hmc, hms⟩) (fun M84 hq => ?_)
  replace h := hq
  obtain ⟨k85, h⟩ := h
  refine pq294_X0 (pc := 151) cx (x := some r79) hnm dX0_init_151 k85 ?_
  refine v_wld (fun M86 eM86 => ?_)
  replace h := h M86 eM86
  refine v_aload_n (pc := 154) cx dX0_init_154 rfl 0 rfl ?_
  obtain ⟨q87, h⟩ := h
  refine v_new (pc := 155) cx cl_X2 (by decide) in_X2 tyX2 tyX2_ok q185 q186 q123 df_X2 q87.1 q87.2 dX0_init_155 ?_
  refine v_topr (fun r88 er88 => ?_)
  replace h := h r88 er88
  refine v_wld (fun M89 eM89 => ?_)
  replace h := h M89 eM89
  refine v_dup (pc := 158) cx dX0_init_158 rfl ?_
  obtain ⟨mc90, ms91, hmc, hms, h⟩ := h
  refine v_run_v (pc := 159) cx (kcq187_X0 cx (c_X2_init l D cA sz0 H0 M89 r88  mc90 ms91 _ h) ⟨Nat.le_of_ble_eq_true rfl, Nat.le_of_ble_eq_true rfl⟩ (As := []) rfl rfl (Nat.le_of_ble_eq_true rfl) dX0_init_159 ⟨hmc, hms⟩) (fun M93 hq => ?_)
  replace h := hq
  obtain ⟨k94, h⟩ := h
  refine pq295_X0 (pc := 162) cx (x := some r88) hnm dX0_init_162 k94 ?_
  refine v_wld (fun M95 eM95 => ?_)
  replace h := h M95 eM95
  refine v_aload_n (pc := 165) cx dX0_init_165 rfl 0 rfl ?_
  refine v_iconst (pc := 166) cx dX0_init_166 ic_2 ?_
  refine v_bipush (pc := 167) cx dX0_init_167 bc_40 ?_
  obtain ⟨q96, h⟩ := h
  refine v_multi (pc := 169) cx (kd := 105) (kd2 := 101) (ty := .long) (n := 2) (k := 40) (by decide) (by decide) rfl rfl (gr_dv101 _ _ _) (by decide +kernel) (by decide +kernel) (by decide +kernel) (by decide +kernel) q244 q245 q243 (Nat.le_of_ble_eq_true rfl) (Nat.le_of_ble_eq_true rfl) (Nat.le_of_ble_eq_true rfl) rfl rfl q96.1 q96.2 dX0_init_169 ?_
  refine v_topr (fun r97 er97 => ?_)
  replace h := h r97 er97
  refine v_wld (fun M98 eM98 => ?_)
  replace h := h M98 eM98
  obtain ⟨k99, h⟩ := h
  refine pq298_X0 (pc := 173) cx (x := some r97) hnm dX0_init_173 k99 ?_
  refine v_wld (fun M100 eM100 => ?_)
  replace h := h M100 eM100
  refine v_aload_n (pc := 176) cx dX0_init_176 rfl 0 rfl ?_
  refine v_bipush (pc := 177) cx dX0_init_177 bc_14 ?_
  obtain ⟨q101, h⟩ := h
  refine v_newa100 (pc := 179) cx (n := 14) (by decide +kernel) (by decide +kernel) q184 (Nat.le_of_ble_eq_true rfl) q101.1 q101.2 dX0_init_179 ?_
  refine v_topr (fun r102 er102 => ?_)
  replace h := h r102 er102
  refine v_wld (fun M103 eM103 => ?_)
  replace h := h M103 eM103
  obtain ⟨k104, h⟩ := h
  refine pq299_X0 (pc := 181) cx (x := some r102) hnm dX0_init_181 k104 ?_
  refine v_wld (fun M105 eM105 => ?_)
  replace h := h M105 eM105
  refine v_aload_n (pc := 184) cx dX0_init_184 rfl 0 rfl ?_
  refine v_sipush (pc := 185) cx dX0_init_185 sc_1024 ?_
  refine v_bipush (pc := 188) cx dX0_init_188 bc_10 ?_
  obtain ⟨q106, h⟩ := h
  refine v_multi (pc := 190) cx (kd := 104) (kd2 := 100) (ty := .int) (n := 1024) (k := 10) (by decide) (by decide) rfl rfl (gr_dv100 _ _ _) (by decide +kernel) (by decide +kernel) (by decide +kernel) (by decide +kernel) q202 q203 q184 (Nat.le_of_ble_eq_true rfl) (Nat.le_of_ble_eq_true rfl) (Nat.le_of_ble_eq_true rfl) rfl rfl q106.1 q106.2 dX0_init_190 ?_
  refine v_topr (fun r107 er107 => ?_)
  replace h := h r107 er107
  refine v_wld (fun M108 eM108 => ?_)
  replace h := h M108 eM108
  obtain ⟨k109, h⟩ := h
  refine pq301_X0 (pc := 194) cx (x := some r107) hnm dX0_init_194 k109 ?_
  refine v_wld (fun M110 eM110 => ?_)
  replace h := h M110 eM110
  refine v_aload_n (pc := 197) cx dX0_init_197 rfl 0 rfl ?_
  refine v_sipush (pc := 198) cx dX0_init_198 sc_4096 ?_
  refine v_bipush (pc := 201) cx dX0_init_201 bc_12 ?_
  obtain ⟨q111, h⟩ := h
  refine v_multi (pc := 203) cx (kd := 106) (kd2 := 103) (ty := .boolean) (n := 4096) (k := 12) (by decide) (by decide) rfl rfl (gr_dv103 _ _ _) (by decide +kernel) (by decide +kernel) (by decide +kernel) (by decide +kernel) q246 q247 q271 (Nat.le_of_ble_eq_true rfl) (Nat.le_of_ble_eq_true rfl) (Nat.le_of_ble_eq_true rfl) rfl rfl q111.1 q111.2 dX0_init_203 ?_
  refine v_topr (fun r112 er112 => ?_)
  replace h := h r112 er112
  refine v_wld (fun M113 eM113 => ?_)
  replace h := h M113 eM113
  obtain ⟨k114, h⟩ := h
  refine pq302_X0 (pc := 207) cx (x := some r112) hnm dX0_init_207 k114 ?_
  refine v_wld (fun M115 eM115 => ?_)
  replace h := h M115 eM115
  refine v_aload_n (pc := 210) cx dX0_init_210 rfl 0 rfl ?_
  refine v_bipush (pc := 211) cx dX0_init_211 bc_13 ?_
  refine v_bipush (pc := 213) cx dX0_init_213 bc_9 ?_
  obtain ⟨q116, h⟩ := h
  refine v_multi (pc := 215) cx (kd := 104) (kd2 := 100) (ty := .int) (n := 13) (k := 9) (by decide) (by decide) rfl rfl (gr_dv100 _ _ _) (by decide +kernel) (by decide +kernel) (by decide +kernel) (by decide +kernel) q202 q203 q184 (Nat.le_of_ble_eq_true rfl) (Nat.le_of_ble_eq_true rfl) (Nat.le_of_ble_eq_true rfl) rfl rfl q116.1 q116.2 dX0_init_215 ?_
  refine v_topr (fun r117 er117 => ?_)
  replace h := h r117 er117
  refine v_wld (fun M118 eM118 => ?_)
  replace h := h M118 eM118
  obtain ⟨k119, h⟩ := h
  refine pq303_X0 (pc := 219) cx (x := some r117) hnm dX0_init_219 k119 ?_
  refine v_wld (fun M120 eM120 => ?_)
  replace h := h M120 eM120
  refine v_aload_n (pc := 222) cx dX0_init_222 rfl 0 rfl ?_
  refine v_bipush (pc := 223) cx dX0_init_223 bc_14 ?_
  obtain ⟨q121, h⟩ := h
  refine v_newa100 (pc := 225) cx (n := 14) (by decide +kernel) (by decide +kernel) q184 (Nat.le_of_ble_eq_true rfl) q121.1 q121.2 dX0_init_225 ?_
  refine v_topr (fun r122 er122 => ?_)
  replace h := h r122 er122
  refine v_wld (fun M123 eM123 => ?_)
  replace h := h M123 eM123
  obtain ⟨k124, h⟩ := h
  refine pq304_X0 (pc := 227) cx (x := some r122) hnm dX0_init_227 k124 ?_
  refine v_wld (fun M125 eM125 => ?_)
  replace h := h M125 eM125
  refine v_aload_n (pc := 230) cx dX0_init_230 rfl 0 rfl ?_
  refine v_iconst (pc := 231) cx dX0_init_231 ic_4 ?_
  obtain ⟨q126, h⟩ := h
  refine v_newa100 (pc := 232) cx (n := 4) (by decide +kernel) (by decide +kernel) q184 (Nat.le_of_ble_eq_true rfl) q126.1 q126.2 dX0_init_232 ?_
  refine v_topr (fun r127 er127 => ?_)
  replace h := h r127 er127
  refine v_wld (fun M128 eM128 => ?_)
  replace h := h M128 eM128
  obtain ⟨k129, h⟩ := h
  refine pq305_X0 (pc := 234) cx (x := some r127) hnm dX0_init_234 k129 ?_
  refine v_wld (fun M130 eM130 => ?_)
  replace h := h M130 eM130
  refine v_aload_n (pc := 237) cx dX0_init_237 rfl 0 rfl ?_
  refine v_iconst (pc := 238) cx dX0_init_238 ic_4 ?_
  obtain ⟨q131, h⟩ := h
  refine v_newa100 (pc := 239) cx (n := 4) (by decide +kernel) (by decide +kernel) q184 (Nat.le_of_ble_eq_true rfl) q131.1 q131.2 dX0_init_239 ?_
  refine v_topr (fun r132 er132 => ?_)
  replace h := h r132 er132
  refine v_wld (fun M133 eM133 => ?_)
  replace h := h M133 eM133
  obtain ⟨k134, h⟩ := h
  refine pq306_X0 (pc := 241) cx (x := some r132) hnm dX0_init_241 k134 ?_
  refine v_wld (fun M135 eM135 => ?_)
  replace h := h M135 eM135
  refine v_iconst (pc := 244) cx dX0_init_244 ic_0 ?_
  refine v_istore_n (pc := 245) cx dX0_init_245 rfl (Nat.le_of_ble_eq_true rfl) (lv' := [(1, .int (0 : Int32)), (0, .ref (sz0 + t))]) rfl ?_
  refine v_sub (lv' := [(0, .ref (sz0 + t)), (1, .int (0 : Int32))]) [1, 0] rfl ?_
  obtain ⟨n0, h⟩ := h
  exact w_X0_init_l246 cx n0 ((0 : Int32)) M135 ((((((((((((((((((((((((((((0 + 1) + 1) + 1) + mc14) + 1) + mc29) + 1 + 40) + 1 + 40) + 1 + 40) + 1 + 40) + 1) + 1) + 0) + 1) + 1) + 1) + mc81) + 1) + mc90) + 1 + 2) + 1) + 1 + 1024) + 1 + 4096) + 1 + 13) + 1) + 1) + 1)) ((((((((((((((((((((((((((((0 + 40) + 200) + 4) + ms15) + 2) + ms30) + 40 + 40 * 40) + 40 + 40 * 40) + 40 + 40 * 40) + 40 + 40 * 40) + 40) + 9) + 0) + 40) + 40) + 2) + ms82) + 2) + ms91) + 2 + 2 * 40) + 14) + 1024 + 1024 * 10) + 4096 + 4096 * 12) + 13 + 13 * 9) + 14) + 4) + 4)) h
/-! LetterHeapsModel.<init>()V -/
def m_X6_init (t : Nat) (M : WM) (bc bs : Nat) (Q : WM → Prop) : Prop := ((0 + 1 ≤ bc ∧ 0 + 40 ≤ bs) ∧ (∀ r2, r2 = wn M → (∀ M3 : WM, M3 = wNw M 100 40 → (wk M3 t = 5 ∧ (∀ M5 : WM, M5 = wPR M3 t 3 (some r2) → (((0 + 1) + 1 ≤ bc ∧ (0 + 40) + 320 ≤ bs) ∧ (∀ r7, r7 = wn M5 → (∀ M8 : WM, M8 = wNw M5 100 320 → (wk M8 t = 5 ∧ (∀ M10 : WM, M10 = wPR M8 t 4 (some r7) → ((((0 + 1) + 1) + 1 ≤ bc ∧ ((0 + 40) + 320) + 40 ≤ bs) ∧ (∀ r12, r12 = wn M10 → (∀ M13 : WM, M13 = wNw M10 100 40 → (wk M13 t = 5 ∧ (∀ M15 : WM, M15 = wPR M13 t 5 (some r12) → (((((0 + 1) + 1) + 1) + 1 ≤ bc ∧ (((0 + 40) + 320) + 40) + 40 ≤ bs) ∧ (∀ r17, r17 = wn M15 → (∀ M18 : WM, M18 = wNw M15 100 40 → (wk M18 t = 5 ∧ (∀ M20 : WM, M20 = wPR M18 t 6 (some r17) → ((((((0 + 1) + 1) + 1) + 1) + 1 ≤ bc ∧ ((((0 + 40) + 320) + 40) + 40) + 40 ≤ bs) ∧ (∀ r22, r22 = wn M20 → (∀ M23 : WM, M23 = wNw M20 103 40 → (wk M23 t = 5 ∧ (∀ M25 : WM, M25 = wPR M23 t 7 (some r22) → (((((((0 + 1) + 1) + 1) + 1) + 1) + 1 ≤ bc ∧ (((((0 + 40) + 320) + 40) + 40) + 40) + 12 ≤ bs) ∧ (∀ r27, r27 = wn M25 → (∀ M28 : WM, M28 = wNw M25 100 12 → (wk M28 t = 5 ∧ (∀ M30 : WM, M30 = wPR M28 t 8 (some r27) → ((((((((0 + 1) + 1) + 1) + 1) + 1) + 1) + 1 ≤ bc ∧ ((((((0 + 40) + 320) + 40) + 40) + 40) + 12) + 200 ≤ bs) ∧ (∀ r32, r32 = wn M30 → (∀ M33 : WM, M33 = wNw M30 102 200 → (wk M33 t = 5 ∧ (∀ M35 : WM, M35 = wPR M33 t 10 (some r32) → (((((((((0 + 1) + 1) + 1) + 1) + 1) + 1) + 1) + 1 ≤ bc ∧ (((((((0 + 40) + 320) + 40) + 40) + 40) + 12) + 200) + 180 ≤ bs) ∧ (∀ r37, r37 = wn M35 → (∀ M38 : WM, M38 = wNw M35 100 180 → (wk M38 t = 5 ∧ (∀ M40 : WM, M40 = wPR M38 t 21 (some r37) → ((((((((((0 + 1) + 1) + 1) + 1) + 1) + 1) + 1) + 1) + 1 ≤ bc ∧ ((((((((0 + 40) + 320) + 40) + 40) + 40) + 12) + 200) + 180) + 180 ≤ bs) ∧ (∀ r42, r42 = wn M40 → (∀ M43 : WM, M43 = wNw M40 100 180 → (wk M43 t = 5 ∧ (∀ M45 : WM, M45 = wPR M43 t 22 (some r42) → (((((((((((0 + 1) + 1) + 1) + 1) + 1) + 1) + 1) + 1) + 1) + 1 ≤ bc ∧ (((((((((0 + 40) + 320) + 40) + 40) + 40) + 12) + 200) + 180) + 180) + 12 ≤ bs) ∧ (∀ r47, r47 = wn M45 → (∀ M48 : WM, M48 = wNw M45 100 12 → (wk M48 t = 5 ∧ (∀ M50 : WM, M50 = wPR M48 t 23 (some r47) → ((((((((((((0 + 1) + 1) + 1) + 1) + 1) + 1) + 1) + 1) + 1) + 1) + 1 ≤ bc ∧ ((((((((((0 + 40) + 320) + 40) + 40) + 40) + 12) + 200) + 180) + 180) + 12) + 12 ≤ bs) ∧ (∀ r52, r52 = wn M50 → (∀ M53 : WM, M53 = wNw M50 100 12 → (wk M53 t = 5 ∧ (∀ M55 : WM, M55 = wPR M53 t 24 (some r52) → (((((((((((((0 + 1) + 1) + 1) + 1) + 1) + 1) + 1) + 1) + 1) + 1) + 1) + 1 ≤ bc ∧ (((((((((((0 + 40) + 320) + 40) + 40) + 40) + 12) + 200) + 180) + 180) + 12) + 12) + 12 ≤ bs) ∧ (∀ r57, r57 = wn M55 → (∀ M58 : WM, M58 = wNw M55 100 12 → (wk M58 t = 5 ∧ (∀ M60 : WM, M60 = wPR M58 t 25 (some r57) → ((((((((((((((0 + 1) + 1) + 1) + 1) + 1) + 1) + 1) + 1) + 1) + 1) + 1) + 1) + 1 ≤ bc ∧ ((((((((((((0 + 40) + 320) + 40) + 40) + 40) + 12) + 200) + 180) + 180) + 12) + 12) + 12) + 12 ≤ bs) ∧ (∀ r62, r62 = wn M60 → (∀ M63 : WM, M63 = wNw M60 100 12 → (wk M63 t = 5 ∧ (∀ M65 : WM, M65 = wPR M63 t 26 (some r62) → (((((((((((((((0 + 1) + 1) + 1) + 1) + 1) + 1) + 1) + 1) + 1) + 1) + 1) + 1) + 1) + 1 ≤ bc ∧ (((((((((((((0 + 40) + 320) + 40) + 40) + 40) + 12) + 200) + 180) + 180) + 12) + 12) + 12) + 12) + 180 ≤ bs) ∧ (∀ r67, r67 = wn M65 → (∀ M68 : WM, M68 = wNw M65 100 180 → (wk M68 t = 5 ∧ (∀ M70 : WM, M70 = wPR M68 t 27 (some r67) → ((((((((((((((((0 + 1) + 1) + 1) + 1) + 1) + 1) + 1) + 1) + 1) + 1) + 1) + 1) + 1) + 1) + 1 ≤ bc ∧ ((((((((((((((0 + 40) + 320) + 40) + 40) + 40) + 12) + 200) + 180) + 180) + 12) + 12) + 12) + 12) + 180) + 12 ≤ bs) ∧ (∀ r72, r72 = wn M70 → (∀ M73 : WM, M73 = wNw M70 100 12 → (wk M73 t = 5 ∧ (∀ M75 : WM, M75 = wPR M73 t 28 (some r72) → (((((((((((((((((0 + 1) + 1) + 1) + 1) + 1) + 1) + 1) + 1) + 1) + 1) + 1) + 1) + 1) + 1) + 1) + 1 ≤ bc ∧ (((((((((((((((0 + 40) + 320) + 40) + 40) + 40) + 12) + 200) + 180) + 180) + 12) + 12) + 12) + 12) + 180) + 12) + 12 ≤ bs) ∧ (∀ r77, r77 = wn M75 → (∀ M78 : WM, M78 = wNw M75 100 12 → (wk M78 t = 5 ∧ (∀ M80 : WM, M80 = wPR M78 t 29 (some r77) → ((((((((((((((((((0 + 1) + 1) + 1) + 1) + 1) + 1) + 1) + 1) + 1) + 1) + 1) + 1) + 1) + 1) + 1) + 1) + 1 ≤ bc ∧ ((((((((((((((((0 + 40) + 320) + 40) + 40) + 40) + 12) + 200) + 180) + 180) + 12) + 12) + 12) + 12) + 180) + 12) + 12) + 12 ≤ bs) ∧ (∀ r82, r82 = wn M80 → (∀ M83 : WM, M83 = wNw M80 100 12 → (wk M83 t = 5 ∧ (∀ M85 : WM, M85 = wPR M83 t 30 (some r82) → (((((((((((((((((((0 + 1) + 1) + 1) + 1) + 1) + 1) + 1) + 1) + 1) + 1) + 1) + 1) + 1) + 1) + 1) + 1) + 1) + 1 ≤ bc ∧ (((((((((((((((((0 + 40) + 320) + 40) + 40) + 40) + 12) + 200) + 180) + 180) + 12) + 12) + 12) + 12) + 180) + 12) + 12) + 12) + 12 ≤ bs) ∧ (∀ r87, r87 = wn M85 → (∀ M88 : WM, M88 = wNw M85 100 12 → (wk M88 t = 5 ∧ (∀ M90 : WM, M90 = wPR M88 t 31 (some r87) → ((((((((((((((((((((0 + 1) + 1) + 1) + 1) + 1) + 1) + 1) + 1) + 1) + 1) + 1) + 1) + 1) + 1) + 1) + 1) + 1) + 1) + 1 ≤ bc ∧ ((((((((((((((((((0 + 40) + 320) + 40) + 40) + 40) + 12) + 200) + 180) + 180) + 12) + 12) + 12) + 12) + 180) + 12) + 12) + 12) + 12) + 180 ≤ bs) ∧ (∀ r92, r92 = wn M90 → (∀ M93 : WM, M93 = wNw M90 100 180 → (wk M93 t = 5 ∧ (∀ M95 : WM, M95 = wPR M93 t 32 (some r92) → (((((((((((((((((((((0 + 1) + 1) + 1) + 1) + 1) + 1) + 1) + 1) + 1) + 1) + 1) + 1) + 1) + 1) + 1) + 1) + 1) + 1) + 1) + 1 ≤ bc ∧ (((((((((((((((((((0 + 40) + 320) + 40) + 40) + 40) + 12) + 200) + 180) + 180) + 12) + 12) + 12) + 12) + 180) + 12) + 12) + 12) + 12) + 180) + 9 ≤ bs) ∧ (∀ r97, r97 = wn M95 → (∀ M98 : WM, M98 = wNw M95 100 9 → (wk M98 t = 5 ∧ (∀ M100 : WM, M100 = wPR M98 t 33 (some r97) → ((((((((((((((((((((((0 + 1) + 1) + 1) + 1) + 1) + 1) + 1) + 1) + 1) + 1) + 1) + 1) + 1) + 1) + 1) + 1) + 1) + 1) + 1) + 1) + 1 ≤ bc ∧ ((((((((((((((((((((0 + 40) + 320) + 40) + 40) + 40) + 12) + 200) + 180) + 180) + 12) + 12) + 12) + 12) + 180) + 12) + 12) + 12) + 12) + 180) + 9) + 1600 ≤ bs) ∧ (∀ r102, r102 = wn M100 → (∀ M103 : WM, M103 = wNw M100 100 1600 → (wk M103 t = 5 ∧ (∀ M105 : WM, M105 = wPR M103 t 34 (some r102) → (((((((((((((((((((((((0 + 1) + 1) + 1) + 1) + 1) + 1) + 1) + 1) + 1) + 1) + 1) + 1) + 1) + 1) + 1) + 1) + 1) + 1) + 1) + 1) + 1) + 1 ≤ bc ∧ (((((((((((((((((((((0 + 40) + 320) + 40) + 40) + 40) + 12) + 200) + 180) + 180) + 12) + 12) + 12) + 12) + 180) + 12) + 12) + 12) + 12) + 180) + 9) + 1600) + 1600 ≤ bs) ∧ (∀ r107, r107 = wn M105 → (∀ M108 : WM, M108 = wNw M105 100 1600 → (wk M108 t = 5 ∧ (∀ M110 : WM, M110 = wPR M108 t 35 (some r107) → ((((((((((((((((((((((((0 + 1) + 1) + 1) + 1) + 1) + 1) + 1) + 1) + 1) + 1) + 1) + 1) + 1) + 1) + 1) + 1) + 1) + 1) + 1) + 1) + 1) + 1) + 1 ≤ bc ∧ ((((((((((((((((((((((0 + 40) + 320) + 40) + 40) + 40) + 12) + 200) + 180) + 180) + 12) + 12) + 12) + 12) + 180) + 12) + 12) + 12) + 12) + 180) + 9) + 1600) + 1600) + 1600 ≤ bs) ∧ (∀ r112, r112 = wn M110 → (∀ M113 : WM, M113 = wNw M110 100 1600 → (wk M113 t = 5 ∧ (∀ M115 : WM, M115 = wPR M113 t 36 (some r112) → (((((((((((((((((((((((((0 + 1) + 1) + 1) + 1) + 1) + 1) + 1) + 1) + 1) + 1) + 1) + 1) + 1) + 1) + 1) + 1) + 1) + 1) + 1) + 1) + 1) + 1) + 1) + 1 ≤ bc ∧ (((((((((((((((((((((((0 + 40) + 320) + 40) + 40) + 40) + 12) + 200) + 180) + 180) + 12) + 12) + 12) + 12) + 180) + 12) + 12) + 12) + 12) + 180) + 9) + 1600) + 1600) + 1600) + 1600 ≤ bs) ∧ (∀ r117, r117 = wn M115 → (∀ M118 : WM, M118 = wNw M115 100 1600 → (wk M118 t = 5 ∧ (∀ M120 : WM, M120 = wPR M118 t 37 (some r117) → ((((((((((((((((((((((((((0 + 1) + 1) + 1) + 1) + 1) + 1) + 1) + 1) + 1) + 1) + 1) + 1) + 1) + 1) + 1) + 1) + 1) + 1) + 1) + 1) + 1) + 1) + 1) + 1) + 1 ≤ bc ∧ ((((((((((((((((((((((((0 + 40) + 320) + 40) + 40) + 40) + 12) + 200) + 180) + 180) + 12) + 12) + 12) + 12) + 180) + 12) + 12) + 12) + 12) + 180) + 9) + 1600) + 1600) + 1600) + 1600) + 40 ≤ bs) ∧ (∀ r122, r122 = wn M120 → (∀ M123 : WM, M123 = wNw M120 101 40 → (wk M123 t = 5 ∧ (∀ M125 : WM, M125 = wPR M123 t 38 (some r122) → (((((((((((((((((((((((((((0 + 1) + 1) + 1) + 1) + 1) + 1) + 1) + 1) + 1) + 1) + 1) + 1) + 1) + 1) + 1) + 1) + 1) + 1) + 1) + 1) + 1) + 1) + 1) + 1) + 1) + 1 ≤ bc ∧ (((((((((((((((((((((((((0 + 40) + 320) + 40) + 40) + 40) + 12) + 200) + 180) + 180) + 12) + 12) + 12) + 12) + 180) + 12) + 12) + 12) + 12) + 180) + 9) + 1600) + 1600) + 1600) + 1600) + 40) + 40 ≤ bs) ∧ (∀ r127, r127 = wn M125 → (∀ M128 : WM, M128 = wNw M125 103 40 → (wk M128 t = 5 ∧ (∀ M130 : WM, M130 = wPR M128 t 39 (some r127) → ((((((((((((((((((((((((((((0 + 1) + 1) + 1) + 1) + 1) + 1) + 1) + 1) + 1) + 1) + 1) + 1) + 1) + 1) + 1) + 1) + 1) + 1) + 1) + 1) + 1) + 1) + 1) + 1) + 1) + 1) + 1 ≤ bc ∧ ((((((((((((((((((((((((((0 + 40) + 320) + 40) + 40) + 40) + 12) + 200) + 180) + 180) + 12) + 12) + 12) + 12) + 180) + 12) + 12) + 12) + 12) + 180) + 9) + 1600) + 1600) + 1600) + 1600) + 40) + 40) + 8 ≤ bs) ∧ (∀ r132, r132 = wn M130 → (∀ M133 : WM, M133 = wNw M130 100 8 → (wk M133 t = 5 ∧ (∀ M135 : WM, M135 = wPR M133 t 40 (some r132) → (((((((((((((((((((((((((((((0 + 1) + 1) + 1) + 1) + 1) + 1) + 1) + 1) + 1) + 1) + 1) + 1) + 1) + 1) + 1) + 1) + 1) + 1) + 1) + 1) + 1) + 1) + 1) + 1) + 1) + 1) + 1) + 1 ≤ bc ∧ (((((((((((((((((((((((((((0 + 40) + 320) + 40) + 40) + 40) + 12) + 200) + 180) + 180) + 12) + 12) + 12) + 12) + 180) + 12) + 12) + 12) + 12) + 180) + 9) + 1600) + 1600) + 1600) + 1600) + 40) + 40) + 8) + 40 ≤ bs) ∧ (∀ r137, r137 = wn M135 → (∀ M138 : WM, M138 = wNw M135 100 40 → (wk M138 t = 5 ∧ (∀ M140 : WM, M140 = wPR M138 t 44 (some r137) → ((((((((((((((((((((((((((((((0 + 1) + 1) + 1) + 1) + 1) + 1) + 1) + 1) + 1) + 1) + 1) + 1) + 1) + 1) + 1) + 1) + 1) + 1) + 1) + 1) + 1) + 1) + 1) + 1) + 1) + 1) + 1) + 1) + 1 ≤ bc ∧ ((((((((((((((((((((((((((((0 + 40) + 320) + 40) + 40) + 40) + 12) + 200) + 180) + 180) + 12) + 12) + 12) + 12) + 180) + 12) + 12) + 12) + 12) + 180) + 9) + 1600) + 1600) + 1600) + 1600) + 40) + 40) + 8) + 40) + 40 ≤ bs) ∧ (∀ r142, r142 = wn M140 → (∀ M143 : WM, M143 = wNw M140 101 40 → (wk M143 t = 5 ∧ (∀ M145 : WM, M145 = wPR M143 t 45 (some r142) → (((((((((((((((((((((((((((((((0 + 1) + 1) + 1) + 1) + 1) + 1) + 1) + 1) + 1) + 1) + 1) + 1) + 1) + 1) + 1) + 1) + 1) + 1) + 1) + 1) + 1) + 1) + 1) + 1) + 1) + 1) + 1) + 1) + 1) + 1 ≤ bc ∧ (((((((((((((((((((((((((((((0 + 40) + 320) + 40) + 40) + 40) + 12) + 200) + 180) + 180) + 12) + 12) + 12) + 12) + 180) + 12) + 12) + 12) + 12) + 180) + 9) + 1600) + 1600) + 1600) + 1600) + 40) + 40) + 8) + 40) + 40) + 40 ≤ bs) ∧ (∀ r147, r147 = wn M145 → (∀ M148 : WM, M148 = wNw M145 101 40 → (wk M148 t = 5 ∧ (∀ M150 : WM, M150 = wPR M148 t 46 (some r147) → ((((((((((((((((((((((((((((((((0 + 1) + 1) + 1) + 1) + 1) + 1) + 1) + 1) + 1) + 1) + 1) + 1) + 1) + 1) + 1) + 1) + 1) + 1) + 1) + 1) + 1) + 1) + 1) + 1) + 1) + 1) + 1) + 1) + 1) + 1) + 1 ≤ bc ∧ ((((((((((((((((((((((((((((((0 + 40) + 320) + 40) + 40) + 40) + 12) + 200) + 180) + 180) + 12) + 12) + 12) + 12) + 180) + 12) + 12) + 12) + 12) + 180) + 9) + 1600) + 1600) + 1600) + 1600) + 40) + 40) + 8) + 40) + 40) + 40) + 14 ≤ bs) ∧ (∀ r152, r152 = wn M150 → (∀ M153 : WM, M153 = wNw M150 100 14 → (wk M153 t = 5 ∧ (∀ M155 : WM, M155 = wPR M153 t 47 (some r152) → (((((((((((((((((((((((((((((((((0 + 1) + 1) + 1) + 1) + 1) + 1) + 1) + 1) + 1) + 1) + 1) + 1) + 1) + 1) + 1) + 1) + 1) + 1) + 1) + 1) + 1) + 1) + 1) + 1) + 1) + 1) + 1) + 1) + 1) + 1) + 1) + 1 ≤ bc ∧ (((((((((((((((((((((((((((((((0 + 40) + 320) + 40) + 40) + 40) + 12) + 200) + 180) + 180) + 12) + 12) + 12) + 12) + 180) + 12) + 12) + 12) + 12) + 180) + 9) + 1600) + 1600) + 1600) + 1600) + 40) + 40) + 8) + 40) + 40) + 40) + 14) + 53248 ≤ bs) ∧ (∀ r157, r157 = wn M155 → (∀ M158 : WM, M158 = wNw M155 100 53248 → (wk M158 t = 5 ∧ (∀ M160 : WM, M160 = wPR M158 t 48 (some r157) → ((((((((((((((((((((((((((((((((((0 + 1) + 1) + 1) + 1) + 1) + 1) + 1) + 1) + 1) + 1) + 1) + 1) + 1) + 1) + 1) + 1) + 1) + 1) + 1) + 1) + 1) + 1) + 1) + 1) + 1) + 1) + 1) + 1) + 1) + 1) + 1) + 1) + 1 ≤ bc ∧ ((((((((((((((((((((((((((((((((0 + 40) + 320) + 40) + 40) + 40) + 12) + 200) + 180) + 180) + 12) + 12) + 12) + 12) + 180) + 12) + 12) + 12) + 12) + 180) + 9) + 1600) + 1600) + 1600) + 1600) + 40) + 40) + 8) + 40) + 40) + 40) + 14) + 53248) + 117 ≤ bs) ∧ (∀ r162, r162 = wn M160 → (∀ M163 : WM, M163 = wNw M160 100 117 → (wk M163 t = 5 ∧ (∀ M165 : WM, M165 = wPR M163 t 49 (some r162) → (((((((((((((((((((((((((((((((((((0 + 1) + 1) + 1) + 1) + 1) + 1) + 1) + 1) + 1) + 1) + 1) + 1) + 1) + 1) + 1) + 1) + 1) + 1) + 1) + 1) + 1) + 1) + 1) + 1) + 1) + 1) + 1) + 1) + 1) + 1) + 1) + 1) + 1) + 1 ≤ bc ∧ (((((((((((((((((((((((((((((((((0 + 40) + 320) + 40) + 40) + 40) + 12) + 200) + 180) + 180) + 12) + 12) + 12) + 12) + 180) + 12) + 12) + 12) + 12) + 180) + 9) + 1600) + 1600) + 1600) + 1600) + 40) + 40) + 8) + 40) + 40) + 40) + 14) + 53248) + 117) + 14 ≤ bs) ∧ (∀ r167, r167 = wn M165 → (∀ M168 : WM, M168 = wNw M165 100 14 → (wk M168 t = 5 ∧ (∀ M170 : WM, M170 = wPR M168 t 50 (some r167) → ((((((((((((((((((((((((((((((((((((0 + 1) + 1) + 1) + 1) + 1) + 1) + 1) + 1) + 1) + 1) + 1) + 1) + 1) + 1) + 1) + 1) + 1) + 1) + 1) + 1) + 1) + 1) + 1) + 1) + 1) + 1) + 1) + 1) + 1) + 1) + 1) + 1) + 1) + 1) + 1 ≤ bc ∧ ((((((((((((((((((((((((((((((((((0 + 40) + 320) + 40) + 40) + 40) + 12) + 200) + 180) + 180) + 12) + 12) + 12) + 12) + 180) + 12) + 12) + 12) + 12) + 180) + 9) + 1600) + 1600) + 1600) + 1600) + 40) + 40) + 8) + 40) + 40) + 40) + 14) + 53248) + 117) + 14) + 4 ≤ bs) ∧ (∀ r172, r172 = wn M170 → (∀ M173 : WM, M173 = wNw M170 100 4 → (wk M173 t = 5 ∧ (∀ M175 : WM, M175 = wPR M173 t 51 (some r172) → (((((((((((((((((((((((((((((((((((((0 + 1) + 1) + 1) + 1) + 1) + 1) + 1) + 1) + 1) + 1) + 1) + 1) + 1) + 1) + 1) + 1) + 1) + 1) + 1) + 1) + 1) + 1) + 1) + 1) + 1) + 1) + 1) + 1) + 1) + 1) + 1) + 1) + 1) + 1) + 1) + 1 ≤ bc ∧ (((((((((((((((((((((((((((((((((((0 + 40) + 320) + 40) + 40) + 40) + 12) + 200) + 180) + 180) + 12) + 12) + 12) + 12) + 180) + 12) + 12) + 12) + 12) + 180) + 9) + 1600) + 1600) + 1600) + 1600) + 40) + 40) + 8) + 40) + 40) + 40) + 14) + 53248) + 117) + 14) + 4) + 4 ≤ bs) ∧ (∀ r177, r177 = wn M175 → (∀ M178 : WM, M178 = wNw M175 100 4 → (wk M178 t = 5 ∧ (∀ M180 : WM, M180 = wPR M178 t 52 (some r177) → (wk M180 t = 5 ∧ (∀ M182 : WM, M182 = wPI M180 t 1 ((1 : Int32)) → (wk M182 t = 5 ∧ (∀ M184 : WM, M184 = wPI M182 t 2 (((-1) : Int32)) → ((((((((((((((((((((((((((((((((((((((0 + 1) + 1) + 1) + 1) + 1) + 1) + 1) + 1) + 1) + 1) + 1) + 1) + 1) + 1) + 1) + 1) + 1) + 1) + 1) + 1) + 1) + 1) + 1) + 1) + 1) + 1) + 1) + 1) + 1) + 1) + 1) + 1) + 1) + 1) + 1) + 1) ≤ bc ∧ ((((((((((((((((((((((((((((((((((((0 + 40) + 320) + 40) + 40) + 40) + 12) + 200) + 180) + 180) + 12) + 12) + 12) + 12) + 180) + 12) + 12) + 12) + 12) + 180) + 9) + 1600) + 1600) + 1600) + 1600) + 40) + 40) + 8) + 40) + 40) + 40) + 14) + 53248) + 117) + 14) + 4) + 4) ≤ bs) ∧ Q M184)))))))))))))))))))))))))))))))))))))))))))))))))))))))))))))))))))))))))))))))))))))))))))))))))))))))))))))))))))))))))))))))))))))))))))))))))))))))))))))))))))))))))))))))))))))))))
set_option maxHeartbeats 20000000 in
theorem c_X6_init (l : Launch) (D : va_G) (cA : Nat → ClassId) (sz0 : Nat) (H0 : Heap) (M : WM) (t : Nat)  (bc bs : Nat) (Q : WM → Prop)  (h : m_X6_init t M bc bs Q) : Met l yX6_init (ws_ yX6_init cX6_init 1 none) ({ frames := 1, cells := bc, slots := bs, locals := 20 } : Room) (PcW D cA sz0 H0 [.ref (sz0 + t)] M) (QW_v D cA sz0 H0 (fun M' => Q M')) bc bs (Aw sz0) := by
  replace h : ((0 + 1 ≤ bc ∧ 0 + 40 ≤ bs) ∧ (∀ r2, r2 = wn M → (∀ M3 : WM, M3 = wNw M 100 40 → (wk M3 t = 5 ∧ (∀ M5 : WM, M5 = wPR M3 t 3 (some r2) → (((0 + 1) + 1 ≤ bc ∧ (0 + 40) + 320 ≤ bs) ∧ (∀ r7, r7 = wn M5 → (∀ M8 : WM, M8 = wNw M5 100 320 → (wk M8 t = 5 ∧ (∀ M10 : WM, M10 = wPR M8 t 4 (some r7) → ((((0 + 1) + 1) + 1 ≤ bc ∧ ((0 + 40) + 320) + 40 ≤ bs) ∧ (∀ r12, r12 = wn M10 → (∀ M13 : WM, M13 = wNw M10 100 40 → (wk M13 t = 5 ∧ (∀ M15 : WM, M15 = wPR M13 t 5 (some r12) → (((((0 + 1) + 1) + 1) + 1 ≤ bc ∧ (((0 + 40) + 320) + 40) + 40 ≤ bs) ∧ (∀ r17, r17 = wn M15 → (∀ M18 : WM, M18 = wNw M15 100 40 → (wk M18 t = 5 ∧ (∀ M20 : WM, M20 = wPR M18 t 6 (some r17) → ((((((0 + 1) + 1) + 1) + 1) + 1 ≤ bc ∧ ((((0 + 40) + 320) + 40) + 40) + 40 ≤ bs) ∧ (∀ r22, r22 = wn M20 → (∀ M23 : WM, M23 = wNw M20 103 40 → (wk M23 t = 5 ∧ (∀ M25 : WM, M25 = wPR M23 t 7 (some r22) → (((((((0 + 1) + 1) + 1) + 1) + 1) + 1 ≤ bc ∧ (((((0 + 40) + 320) + 40) + 40) + 40) + 12 ≤ bs) ∧ (∀ r27, r27 = wn M25 → (∀ M28 : WM, M28 = wNw M25 100 12 → (wk M28 t = 5 ∧ (∀ M30 : WM, M30 = wPR M28 t 8 (some r27) → ((((((((0 + 1) + 1) + 1) + 1) + 1) + 1) + 1 ≤ bc ∧ ((((((0 + 40) + 320) + 40) + 40) + 40) + 12) + 200 ≤ bs) ∧ (∀ r32, r32 = wn M30 → (∀ M33 : WM, M33 = wNw M30 102 200 → (wk M33 t = 5 ∧ (∀ M35 : WM, M35 = wPR M33 t 10 (some r32) → (((((((((0 + 1) + 1) + 1) + 1) + 1) + 1) + 1) + 1 ≤ bc ∧ (((((((0 + 40) + 320) + 40) + 40) + 40) + 12) + 200) + 180 ≤ bs) ∧ (∀ r37, r37 = wn M35 → (∀ M38 : WM, M38 = wNw M35 100 180 → (wk M38 t = 5 ∧ (∀ M40 : WM, M40 = wPR M38 t 21 (some r37) → ((((((((((0 + 1) + 1) + 1) + 1) + 1) + 1) + 1) + 1) + 1 ≤ bc ∧ ((((((((0 + 40) + 320) + 40) + 40) + 40) + 12) + 200) + 180) + 180 ≤ bs) ∧ (∀ r42, r42 = wn M40 → (∀ M43 : WM, M43 = wNw M40 100 180 → (wk M43 t = 5 ∧ (∀ M45 : WM, M45 = wPR M43 t 22 (some r42) → (((((((((((0 + 1) + 1) + 1) + 1) + 1) + 1) + 1) + 1) + 1) + 1 ≤ bc ∧ (((((((((0 + 40) + 320) + 40) + 40) + 40) + 12) + 200) + 180) + 180) + 12 ≤ bs) ∧ (∀ r47, r47 = wn M45 → (∀ M48 : WM, M48 = wNw M45 100 12 → (wk M48 t = 5 ∧ (∀ M50 : WM, M50 = wPR M48 t 23 (some r47) → ((((((((((((0 + 1) + 1) + 1) + 1) + 1) + 1) + 1) + 1) + 1) + 1) + 1 ≤ bc ∧ ((((((((((0 + 40) + 320) + 40) + 40) + 40) + 12) + 200) + 180) + 180) + 12) + 12 ≤ bs) ∧ (∀ r52, r52 = wn M50 → (∀ M53 : WM, M53 = wNw M50 100 12 → (wk M53 t = 5 ∧ (∀ M55 : WM, M55 = wPR M53 t 24 (some r52) → (((((((((((((0 + 1) + 1) + 1) + 1) + 1) + 1) + 1) + 1) + 1) + 1) + 1) + 1 ≤ bc ∧ (((((((((((0 + 40) + 320) + 40) + 40) + 40) + 12) + 200) + 180) + 180) + 12) + 12) + 12 ≤ bs) ∧ (∀ r57, r57 = wn M55 → (∀ M58 : WM, M58 = wNw M55 100 12 → (wk M58 t = 5 ∧ (∀ M60 : WM, M60 = wPR M58 t 25 (some r57) → ((((((((((((((0 + 1) + 1) + 1) + 1) + 1) + 1) + 1) + 1) + 1) + 1) + 1) + 1) + 1 ≤ bc ∧ ((((((((((((0 + 40) + 320) + 40) + 40) + 40) + 12) + 200) + 180) + 180) + 12) + 12) + 12) + 12 ≤ bs) ∧ (∀ r62, r62 = wn M60 → (∀ M63 : WM, M63 = wNw M60 100 12 → (wk M63 t = 5 ∧ (∀ M65 : WM, M65 = wPR M63 t 26 (some r62) → (((((((((((((((0 + 1) + 1) + 1) + 1) + 1) + 1) + 1) + 1) + 1) + 1) + 1) + 1) + 1) + 1 ≤ bc ∧ (((((((((((((0 + 40) + 320) + 40) + 40) + 40) + 12) + 200) + 180) + 180) + 12) + 12) + 12) + 12) + 180 ≤ bs) ∧ (∀ r67, r67 = wn M65 → (∀ M68 : WM, M68 = wNw M65 100 180 → (wk M68 t = 5 ∧ (∀ M70 : WM, M70 = wPR M68 t 27 (some r67) → ((((((((((((((((0 + 1) + 1) + 1) + 1) + 1) + 1) + 1) + 1) + 1) + 1) + 1) + 1) + 1) + 1) + 1 ≤ bc ∧ ((((((((((((((0 + 40) + 320) + 40) + 40) + 40) + 12) + 200) + 180) + 180) + 12) + 12) + 12) + 12) + 180) + 12 ≤ bs) ∧ (∀ r72, r72 = wn M70 → (∀ M73 : WM, M73 = wNw M70 100 12 → (wk M73 t = 5 ∧ (∀ M75 : WM, M75 = wPR M73 t 28 (some r72) → (((((((((((((((((0 + 1) + 1) + 1) + 1) + 1) + 1) + 1) + 1) + 1) + 1) + 1) + 1) + 1) + 1) + 1) + 1 ≤ bc ∧ (((((((((((((((0 + 40) + 320) + 40) + 40) + 40) + 12) + 200) + 180) + 180) + 12) + 12) + 12) + 12) + 180) + 12) + 12 ≤ bs) ∧ (∀ r77, r77 = wn M75 → (∀ M78 : WM, M78 = wNw M75 100 12 → (wk M78 t = 5 ∧ (∀ M80 : WM, M80 = wPR M78 t 29 (some r77) → ((((((((((((((((((0 + 1) + 1) + 1) + 1) + 1) + 1) + 1) + 1) + 1) + 1) + 1) + 1) + 1) + 1) + 1) + 1) + 1 ≤ bc ∧ ((((((((((((((((0 + 40) + 320) + 40) + 40) + 40) + 12) + 200) + 180) + 180) + 12) + 12) + 12) + 12) + 180) + 12) + 12) + 12 ≤ bs) ∧ (∀ r82, r82 = wn M80 → (∀ M83 : WM, M83 = wNw M80 100 12 → (wk M83 t = 5 ∧ (∀ M85 : WM, M85 = wPR M83 t 30 (some r82) → (((((((((((((((((((0 + 1) + 1) + 1) + 1) + 1) + 1) + 1) + 1) + 1) + 1) + 1) + 1) + 1) + 1) + 1) + 1) + 1) + 1 ≤ bc ∧ (((((((((((((((((0 + 40) + 320) + 40) + 40) + 40) + 12) + 200) + 180) + 180) + 12) + 12) + 12) + 12) + 180) + 12) + 12) + 12) + 12 ≤ bs) ∧ (∀ r87, r87 = wn M85 → (∀ M88 : WM, M88 = wNw M85 100 12 → (wk M88 t = 5 ∧ (∀ M90 : WM, M90 = wPR M88 t 31 (some r87) → ((((((((((((((((((((0 + 1) + 1) + 1) + 1) + 1) + 1) + 1) + 1) + 1) + 1) + 1) + 1) + 1) + 1) + 1) + 1) + 1) + 1) + 1 ≤ bc ∧ ((((((((((((((((((0 + 40) + 320) + 40) + 40) + 40) + 12) + 200) + 180) + 180) + 12) + 12) + 12) + 12) + 180) + 12) + 12) + 12) + 12) + 180 ≤ bs) ∧ (∀ r92, r92 = wn M90 → (∀ M93 : WM, M93 = wNw M90 100 180 → (wk M93 t = 5 ∧ (∀ M95 : WM, M95 = wPR M93 t 32 (some r92) → (((((((((((((((((((((0 + 1) + 1) + 1) + 1) + 1) + 1) + 1) + 1) + 1) + 1) + 1) + 1) + 1) + 1) + 1) + 1) + 1) + 1) + 1) + 1 ≤ bc ∧ (((((((((((((((((((0 + 40) + 320) + 40) + 40) + 40) + 12) + 200) + 180) + 180) + 12) + 12) + 12) + 12) + 180) + 12) + 12) + 12) + 12) + 180) + 9 ≤ bs) ∧ (∀ r97, r97 = wn M95 → (∀ M98 : WM, M98 = wNw M95 100 9 → (wk M98 t = 5 ∧ (∀ M100 : WM, M100 = wPR M98 t 33 (some r97) → ((((((((((((((((((((((0 + 1) + 1) + 1) + 1) + 1) + 1) + 1) + 1) + 1) + 1) + 1) + 1) + 1) + 1) + 1) + 1) + 1) + 1) + 1) + 1) + 1 ≤ bc ∧ ((((((((((((((((((((0 + 40) + 320) + 40) + 40) + 40) + 12) + 200) + 180) + 180) + 12) + 12) + 12) + 12) + 180) + 12) + 12) + 12) + 12) + 180) + 9) + 1600 ≤ bs) ∧ (∀ r102, r102 = wn M100 → (∀ M103 : WM, M103 = wNw M100 100 1600 → (wk M103 t = 5 ∧ (∀ M105 : WM, M105 = wPR M103 t 34 (some r102) → (((((((((((((((((((((((0 + 1) + 1) + 1) + 1) + 1) + 1) + 1) + 1) + 1) + 1) + 1) + 1) + 1) + 1) + 1) + 1) + 1) + 1) + 1) + 1) + 1) + 1 ≤ bc ∧ (((((((((((((((((((((0 + 40) + 320) + 40) + 40) + 40) + 12) + 200) + 180) + 180) + 12) + 12) + 12) + 12) + 180) + 12) + 12) + 12) + 12) + 180) + 9) + 1600) + 1600 ≤ bs) ∧ (∀ r107, r107 = wn M105 → (∀ M108 : WM, M108 = wNw M105 100 1600 → (wk M108 t = 5 ∧ (∀ M110 : WM, M110 = wPR M108 t 35 (some r107) → ((((((((((((((((((((((((0 + 1) + 1) + 1) + 1) + 1) + 1) + 1) + 1) + 1) + 1) + 1) + 1) + 1) + 1) + 1) + 1) + 1) + 1) + 1) + 1) + 1) + 1) + 1 ≤ bc ∧ ((((((((((((((((((((((0 + 40) + 320) + 40) + 40) + 40) + 12) + 200) + 180) + 180) + 12) + 12) + 12) + 12) + 180) + 12) + 12) + 12) + 12) + 180) + 9) + 1600) + 1600) + 1600 ≤ bs) ∧ (∀ r112, r112 = wn M110 → (∀ M113 : WM, M113 = wNw M110 100 1600 → (wk M113 t = 5 ∧ (∀ M115 : WM, M115 = wPR M113 t 36 (some r112) → (((((((((((((((((((((((((0 + 1) + 1) + 1) + 1) + 1) + 1) + 1) + 1) + 1) + 1) + 1) + 1) + 1) + 1) + 1) + 1) + 1) + 1) + 1) + 1) + 1) + 1) + 1) + 1 ≤ bc ∧ (((((((((((((((((((((((0 + 40) + 320) + 40) + 40) + 40) + 12) + 200) + 180) + 180) + 12) + 12) + 12) + 12) + 180) + 12) + 12) + 12) + 12) + 180) + 9) + 1600) + 1600) + 1600) + 1600 ≤ bs) ∧ (∀ r117, r117 = wn M115 → (∀ M118 : WM, M118 = wNw M115 100 1600 → (wk M118 t = 5 ∧ (∀ M120 : WM, M120 = wPR M118 t 37 (some r117) → ((((((((((((((((((((((((((0 + 1) + 1) + 1) + 1) + 1) + 1) + 1) + 1) + 1) + 1) + 1) + 1) + 1) + 1) + 1) + 1) + 1) + 1) + 1) + 1) + 1) + 1) + 1) + 1) + 1 ≤ bc ∧ ((((((((((((((((((((((((0 + 40) + 320) + 40) + 40) + 40) + 12) + 200) + 180) + 180) + 12) + 12) + 12) + 12) + 180) + 12) + 12) + 12) + 12) + 180) + 9) + 1600) + 1600) + 1600) + 1600) + 40 ≤ bs) ∧ (∀ r122, r122 = wn M120 → (∀ M123 : WM, M123 = wNw M120 101 40 → (wk M123 t = 5 ∧ (∀ M125 : WM, M125 = wPR M123 t 38 (some r122) → (((((((((((((((((((((((((((0 + 1) + 1) + 1) + 1) + 1) + 1) + 1) + 1) + 1) + 1) + 1) + 1) + 1) + 1) + 1) + 1) + 1) + 1) + 1) + 1) + 1) + 1) + 1) + 1) + 1) + 1 ≤ bc ∧ (((((((((((((((((((((((((0 + 40) + 320) + 40) + 40) + 40) + 12) + 200) + 180) + 180) + 12) + 12) + 12) + 12) + 180) + 12) + 12) + 12) + 12) + 180) + 9) + 1600) + 1600) + 1600) + 1600) + 40) + 40 ≤ bs) ∧ (∀ r127, r127 = wn M125 → (∀ M128 : WM, M128 = wNw M125 103 40 → (wk M128 t = 5 ∧ (∀ M130 : WM, M130 = wPR M128 t 39 (some r127) → ((((((((((((((((((((((((((((0 + 1) + 1) + 1) + 1) + 1) + 1) + 1) + 1) + 1) + 1) + 1) + 1) + 1) + 1) + 1) + 1) + 1) + 1) + 1) + 1) + 1) + 1) + 1) + 1) + 1) + 1) + 1 ≤ bc ∧ ((((((((((((((((((((((((((0 + 40) + 320) + 40) + 40) + 40) + 12) + 200) + 180) + 180) + 12) + 12) + 12) + 12) + 180) + 12) + 12) + 12) + 12) + 180) + 9) + 1600) + 1600) + 1600) + 1600) + 40) + 40) + 8 ≤ bs) ∧ (∀ r132, r132 = wn M130 → (∀ M133 : WM, M133 = wNw M130 100 8 → (wk M133 t = 5 ∧ (∀ M135 : WM, M135 = wPR M133 t 40 (some r132) → (((((((((((((((((((((((((((((0 + 1) + 1) + 1) + 1) + 1) + 1) + 1) + 1) + 1) + 1) + 1) + 1) + 1) + 1) + 1) + 1) + 1) + 1) + 1) + 1) + 1) + 1) + 1) + 1) + 1) + 1) + 1) + 1 ≤ bc ∧ (((((((((((((((((((((((((((0 + 40) + 320) + 40) + 40) + 40) + 12) + 200) + 180) + 180) + 12) + 12) + 12) + 12) + 180) + 12) + 12) + 12) + 12) + 180) + 9) + 1600) + 1600) + 1600) + 1600) + 40) + 40) + 8) + 40 ≤ bs) ∧ (∀ r137, r137 = wn M135 → (∀ M138 : WM, M138 = wNw M135 100 40 → (wk M138 t = 5 ∧ (∀ M140 : WM, M140 = wPR M138 t 44 (some r137) → ((((((((((((((((((((((((((((((0 + 1) + 1) + 1) + 1) + 1) + 1) + 1) + 1) + 1) + 1) + 1) + 1) + 1) + 1) + 1) + 1) + 1) + 1) + 1) + 1) + 1) + 1) + 1) + 1) + 1) + 1) + 1) + 1) + 1 ≤ bc ∧ ((((((((((((((((((((((((((((0 + 40) + 320) + 40) + 40) + 40) + 12) + 200) + 180) + 180) + 12) + 12) + 12) + 12) + 180) + 12) + 12) + 12) + 12) + 180) + 9) + 1600) + 1600) + 1600) + 1600) + 40) + 40) + 8) + 40) + 40 ≤ bs) ∧ (∀ r142, r142 = wn M140 → (∀ M143 : WM, M143 = wNw M140 101 40 → (wk M143 t = 5 ∧ (∀ M145 : WM, M145 = wPR M143 t 45 (some r142) → (((((((((((((((((((((((((((((((0 + 1) + 1) + 1) + 1) + 1) + 1) + 1) + 1) + 1) + 1) + 1) + 1) + 1) + 1) + 1) + 1) + 1) + 1) + 1) + 1) + 1) + 1) + 1) + 1) + 1) + 1) + 1) + 1) + 1) + 1 ≤ bc ∧ (((((((((((((((((((((((((((((0 + 40) + 320) + 40) + 40) + 40) + 12) + 200) + 180) + 180) + 12) + 12) + 12) + 12) + 180) + 12) + 12) + 12) + 12) + 180) + 9) + 1600) + 1600) + 1600) + 1600) + 40) + 40) + 8) + 40) + 40) + 40 ≤ bs) ∧ (∀ r147, r147 = wn M145 → (∀ M148 : WM, M148 = wNw M145 101 40 → (wk M148 t = 5 ∧ (∀ M150 : WM, M150 = wPR M148 t 46 (some r147) → ((((((((((((((((((((((((((((((((0 + 1) + 1) + 1) + 1) + 1) + 1) + 1) + 1) + 1) + 1) + 1) + 1) + 1) + 1) + 1) + 1) + 1) + 1) + 1) + 1) + 1) + 1) + 1) + 1) + 1) + 1) + 1) + 1) + 1) + 1) + 1 ≤ bc ∧ ((((((((((((((((((((((((((((((0 + 40) + 320) + 40) + 40) + 40) + 12) + 200) + 180) + 180) + 12) + 12) + 12) + 12) + 180) + 12) + 12) + 12) + 12) + 180) + 9) + 1600) + 1600) + 1600) + 1600) + 40) + 40) + 8) + 40) + 40) + 40) + 14 ≤ bs) ∧ (∀ r152, r152 = wn M150 → (∀ M153 : WM, M153 = wNw M150 100 14 → (wk M153 t = 5 ∧ (∀ M155 : WM, M155 = wPR M153 t 47 (some r152) → (((((((((((((((((((((((((((((((((0 + 1) + 1) + 1) + 1) + 1) + 1) + 1) + 1) + 1) + 1) + 1) + 1) + 1) + 1) + 1) + 1) + 1) + 1) + 1) + 1) + 1) + 1) + 1) + 1) + 1) + 1) + 1) + 1) + 1) + 1) + 1) + 1 ≤ bc ∧ (((((((((((((((((((((((((((((((0 + 40) + 320) + 40) + 40) + 40) + 12) + 200) + 180) + 180) + 12) + 12) + 12) + 12) + 180) + 12) + 12) + 12) + 12) + 180) + 9) + 1600) + 1600) + 1600) + 1600) + 40) + 40) + 8) + 40) + 40) + 40) + 14) + 53248 ≤ bs) ∧ (∀ r157, r157 = wn M155 → (∀ M158 : WM, M158 = wNw M155 100 53248 → (wk M158 t = 5 ∧ (∀ M160 : WM, M160 = wPR M158 t 48 (some r157) → ((((((((((((((((((((((((((((((((((0 + 1) + 1) + 1) + 1) + 1) + 1) + 1) + 1) + 1) + 1) + 1) + 1) + 1) + 1) + 1) + 1) + 1) + 1) + 1) + 1) + 1) + 1) + 1) + 1) + 1) + 1) + 1) + 1) + 1) + 1) + 1) + 1) + 1 ≤ bc ∧ ((((((((((((((((((((((((((((((((0 + 40) + 320) + 40) + 40) + 40) + 12) + 200) + 180) + 180) + 12) + 12) + 12) + 12) + 180) + 12) + 12) + 12) + 12) + 180) + 9) + 1600) + 1600) + 1600) + 1600) + 40) + 40) + 8) + 40) + 40) + 40) + 14) + 53248) + 117 ≤ bs) ∧ (∀ r162, r162 = wn M160 → (∀ M163 : WM, M163 = wNw M160 100 117 → (wk M163 t = 5 ∧ (∀ M165 : WM, M165 = wPR M163 t 49 (some r162) → (((((((((((((((((((((((((((((((((((0 + 1) + 1) + 1) + 1) + 1) + 1) + 1) + 1) + 1) + 1) + 1) + 1) + 1) + 1) + 1) + 1) + 1) + 1) + 1) + 1) + 1) + 1) + 1) + 1) + 1) + 1) + 1) + 1) + 1) + 1) + 1) + 1) + 1) + 1 ≤ bc ∧ (((((((((((((((((((((((((((((((((0 + 40) + 320) + 40) + 40) + 40) + 12) + 200) + 180) + 180) + 12) + 12) + 12) + 12) + 180) + 12) + 12) + 12) + 12) + 180) + 9) + 1600) + 1600) + 1600) + 1600) + 40) + 40) + 8) + 40) + 40) + 40) + 14) + 53248) + 117) + 14 ≤ bs) ∧ (∀ r167, r167 = wn M165 → (∀ M168 : WM, M168 = wNw M165 100 14 → (wk M168 t = 5 ∧ (∀ M170 : WM, M170 = wPR M168 t 50 (some r167) → ((((((((((((((((((((((((((((((((((((0 + 1) + 1) + 1) + 1) + 1) + 1) + 1) + 1) + 1) + 1) + 1) + 1) + 1) + 1) + 1) + 1) + 1) + 1) + 1) + 1) + 1) + 1) + 1) + 1) + 1) + 1) + 1) + 1) + 1) + 1) + 1) + 1) + 1) + 1) + 1 ≤ bc ∧ ((((((((((((((((((((((((((((((((((0 + 40) + 320) + 40) + 40) + 40) + 12) + 200) + 180) + 180) + 12) + 12) + 12) + 12) + 180) + 12) + 12) + 12) + 12) + 180) + 9) + 1600) + 1600) + 1600) + 1600) + 40) + 40) + 8) + 40) + 40) + 40) + 14) + 53248) + 117) + 14) + 4 ≤ bs) ∧ (∀ r172, r172 = wn M170 → (∀ M173 : WM, M173 = wNw M170 100 4 → (wk M173 t = 5 ∧ (∀ M175 : WM, M175 = wPR M173 t 51 (some r172) → (((((((((((((((((((((((((((((((((((((0 + 1) + 1) + 1) + 1) + 1) + 1) + 1) + 1) + 1) + 1) + 1) + 1) + 1) + 1) + 1) + 1) + 1) + 1) + 1) + 1) + 1) + 1) + 1) + 1) + 1) + 1) + 1) + 1) + 1) + 1) + 1) + 1) + 1) + 1) + 1) + 1 ≤ bc ∧ (((((((((((((((((((((((((((((((((((0 + 40) + 320) + 40) + 40) + 40) + 12) + 200) + 180) + 180) + 12) + 12) + 12) + 12) + 180) + 12) + 12) + 12) + 12) + 180) + 9) + 1600) + 1600) + 1600) + 1600) + 40) + 40) + 8) + 40) + 40) + 40) + 14) + 53248) + 117) + 14) + 4) + 4 ≤ bs) ∧ (∀ r177, r177 = wn M175 → (∀ M178 : WM, M178 = wNw M175 100 4 → (wk M178 t = 5 ∧ (∀ M180 : WM, M180 = wPR M178 t 52 (some r177) → (wk M180 t = 5 ∧ (∀ M182 : WM, M182 = wPI M180 t 1 ((1 : Int32)) → (wk M182 t = 5 ∧ (∀ M184 : WM, M184 = wPI M182 t 2 (((-1) : Int32)) → ((((((((((((((((((((((((((((((((((((((0 + 1) + 1) + 1) + 1) + 1) + 1) + 1) + 1) + 1) + 1) + 1) + 1) + 1) + 1) + 1) + 1) + 1) + 1) + 1) + 1) + 1) + 1) + 1) + 1) + 1) + 1) + 1) + 1) + 1) + 1) + 1) + 1) + 1) + 1) + 1) + 1) ≤ bc ∧ ((((((((((((((((((((((((((((((((((((0 + 40) + 320) + 40) + 40) + 40) + 12) + 200) + 180) + 180) + 12) + 12) + 12) + 12) + 180) + 12) + 12) + 12) + 12) + 180) + 9) + 1600) + 1600) + 1600) + 1600) + 40) + 40) + 8) + 40) + 40) + 40) + 14) + 53248) + 117) + 14) + 4) + 4) ≤ bs) ∧ Q M184))))))))))))))))))))))))))))))))))))))))))))))))))))))))))))))))))))))))))))))))))))))))))))))))))))))))))))))))))))))))))))))))))))))))))))))))))))))))))))))))))))))))))))))))))))))))) := h
  refine Met.ofV (by decide +kernel) (Nat.le_of_ble_eq_true rfl) ?_
  intro p e s m args below meth c cx hnm
  replace cx : Cx p s m args meth c cX6_init 1 RX6 none D cA sz0 H0 := cx
  refine v_sub (lv' := [(0, .ref (sz0 + t))]) [0] rfl ?_
  refine v_aload_n (pc := 0) cx dX6_init_0 rfl 0 rfl ?_
  refine v_objInit (pc := 1) cx q1016 q151 q152 dX6_init_1 ⟨Nat.le_of_ble_eq_true rfl, Nat.le_of_ble_eq_true rfl⟩ ?_
  refine v_aload_n (pc := 4) cx dX6_init_4 rfl 0 rfl ?_
  refine v_bipush (pc := 5) cx dX6_init_5 bc_40 ?_
  obtain ⟨q1, h⟩ := h
  refine v_newa100 (pc := 7) cx (n := 40) (by decide +kernel) (by decide +kernel) q184 (Nat.le_of_ble_eq_true rfl) q1.1 q1.2 dX6_init_7 ?_
  refine v_topr (fun r2 er2 => ?_)
  replace h := h r2 er2
  refine v_wld (fun M3 eM3 => ?_)
  replace h := h M3 eM3
  obtain ⟨k4, h⟩ := h
  refine pq1021_X6 (pc := 9) cx (x := some r2) hnm dX6_init_9 k4 ?_
  refine v_wld (fun M5 eM5 => ?_)
  replace h := h M5 eM5
  refine v_aload_n (pc := 12) cx dX6_init_12 rfl 0 rfl ?_
  refine v_sipush (pc := 13) cx dX6_init_13 sc_320 ?_
  obtain ⟨q6, h⟩ := h
  refine v_newa100 (pc := 16) cx (n := 320) (by decide +kernel) (by decide +kernel) q184 (Nat.le_of_ble_eq_true rfl) q6.1 q6.2 dX6_init_16 ?_
  refine v_topr (fun r7 er7 => ?_)
  replace h := h r7 er7
  refine v_wld (fun M8 eM8 => ?_)
  replace h := h M8 eM8
  obtain ⟨k9, h⟩ := h
  refine pq1022_X6 (pc := 18) cx (x := some r7) hnm dX6_init_18 k9 ?_
  refine v_wld (fun M10 eM10 => ?_)
  replace h := h M10 eM10
  refine v_aload_n (pc := 21) cx dX6_init_21 rfl 0 rfl ?_
  refine v_bipush (pc := 22) cx dX6_init_22 bc_40 ?_
  obtain ⟨q11, h⟩ := h
  refine v_newa100 (pc := 24) cx (n := 40) (by decide +kernel) (by decide +kernel) q184 (Nat.le_of_ble_eq_true rfl) q11.1 q11.2 dX6_init_24 ?_
  refine v_topr (fun r12 er12 => ?_)
  replace h := h r12 er12
  refine v_wld (fun M13 eM13 => ?_)
  replace h := h M13 eM13
  obtain ⟨k14, h⟩ := h
  refine pq1023_X6 (pc := 26) cx (x := some r12) hnm dX6_init_26 k14 ?_
  refine v_wld (fun M15 eM15 => ?_)
  replace h := h M15 eM15
  refine v_aload_n (pc := 29) cx dX6_init_29 rfl 0 rfl ?_
  refine v_bipush (pc := 30) cx dX6_init_30 bc_40 ?_
  obtain ⟨q16, h⟩ := h
  refine v_newa100 (pc := 32) cx (n := 40) (by decide +kernel) (by decide +kernel) q184 (Nat.le_of_ble_eq_true rfl) q16.1 q16.2 dX6_init_32 ?_
  refine v_topr (fun r17 er17 => ?_)
  replace h := h r17 er17
  refine v_wld (fun M18 eM18 => ?_)
  replace h := h M18 eM18
  obtain ⟨k19, h⟩ := h
  refine pq1024_X6 (pc := 34) cx (x := some r17) hnm dX6_init_34 k19 ?_
  refine v_wld (fun M20 eM20 => ?_)
  replace h := h M20 eM20
  refine v_aload_n (pc := 37) cx dX6_init_37 rfl 0 rfl ?_
  refine v_bipush (pc := 38) cx dX6_init_38 bc_40 ?_
  obtain ⟨q21, h⟩ := h
  refine v_newa103 (pc := 40) cx (n := 40) (by decide +kernel) (by decide +kernel) q271 (Nat.le_of_ble_eq_true rfl) q21.1 q21.2 dX6_init_40 ?_
  refine v_topr (fun r22 er22 => ?_)
  replace h := h r22 er22
  refine v_wld (fun M23 eM23 => ?_)
  replace h := h M23 eM23
  obtain ⟨k24, h⟩ := h
  refine pq1025_X6 (pc := 42) cx (x := some r22) hnm dX6_init_42 k24 ?_
  refine v_wld (fun M25 eM25 => ?_)
  replace h := h M25 eM25
  refine v_aload_n (pc := 45) cx dX6_init_45 rfl 0 rfl ?_
  refine v_bipush (pc := 46) cx dX6_init_46 bc_12 ?_
  obtain ⟨q26, h⟩ := h
  refine v_newa100 (pc := 48) cx (n := 12) (by decide +kernel) (by decide +kernel) q184 (Nat.le_of_ble_eq_true rfl) q26.1 q26.2 dX6_init_48 ?_
  refine v_topr (fun r27 er27 => ?_)
  replace h := h r27 er27
  refine v_wld (fun M28 eM28 => ?_)
  replace h := h M28 eM28
  obtain ⟨k29, h⟩ := h
  refine pq1026_X6 (pc := 50) cx (x := some r27) hnm dX6_init_50 k29 ?_
  refine v_wld (fun M30 eM30 => ?_)
  replace h := h M30 eM30
  refine v_aload_n (pc := 53) cx dX6_init_53 rfl 0 rfl ?_
  refine v_sipush (pc := 54) cx dX6_init_54 sc_200 ?_
  obtain ⟨q31, h⟩ := h
  refine v_newa102 (pc := 57) cx (n := 200) (by decide +kernel) (by decide +kernel) q183 (Nat.le_of_ble_eq_true rfl) q31.1 q31.2 dX6_init_57 ?_
  refine v_topr (fun r32 er32 => ?_)
  replace h := h r32 er32
  refine v_wld (fun M33 eM33 => ?_)
  replace h := h M33 eM33
  obtain ⟨k34, h⟩ := h
  refine pq1028_X6 (pc := 59) cx (x := some r32) hnm dX6_init_59 k34 ?_
  refine v_wld (fun M35 eM35 => ?_)
  replace h := h M35 eM35
  refine v_aload_n (pc := 62) cx dX6_init_62 rfl 0 rfl ?_
  refine v_sipush (pc := 63) cx dX6_init_63 sc_180 ?_
  obtain ⟨q36, h⟩ := h
  refine v_newa100 (pc := 66) cx (n := 180) (by decide +kernel) (by decide +kernel) q184 (Nat.le_of_ble_eq_true rfl) q36.1 q36.2 dX6_init_66 ?_
  refine v_topr (fun r37 er37 => ?_)
  replace h := h r37 er37
  refine v_wld (fun M38 eM38 => ?_)
  replace h := h M38 eM38
  obtain ⟨k39, h⟩ := h
  refine pq1039_X6 (pc := 68) cx (x := some r37) hnm dX6_init_68 k39 ?_
  refine v_wld (fun M40 eM40 => ?_)
  replace h := h M40 eM40
  refine v_aload_n (pc := 71) cx dX6_init_71 rfl 0 rfl ?_
  refine v_sipush (pc := 72) cx dX6_init_72 sc_180 ?_
  obtain ⟨q41, h⟩ := h
  refine v_newa100 (pc := 75) cx (n := 180) (by decide +kernel) (by decide +kernel) q184 (Nat.le_of_ble_eq_true rfl) q41.1 q41.2 dX6_init_75 ?_
  refine v_topr (fun r42 er42 => ?_)
  replace h := h r42 er42
  refine v_wld (fun M43 eM43 => ?_)
  replace h := h M43 eM43
  obtain ⟨k44, h⟩ := h
  refine pq1040_X6 (pc := 77) cx (x := some r42) hnm dX6_init_77 k44 ?_
  refine v_wld (fun M45 eM45 => ?_)
  replace h := h M45 eM45
  refine v_aload_n (pc := 80) cx dX6_init_80 rfl 0 rfl ?_
  refine v_bipush (pc := 81) cx dX6_init_81 bc_12 ?_
  obtain ⟨q46, h⟩ := h
  refine v_newa100 (pc := 83) cx (n := 12) (by decide +kernel) (by decide +kernel) q184 (Nat.le_of_ble_eq_true rfl) q46.1 q46.2 dX6_init_83 ?_
  refine v_topr (fun r47 er47 => ?_)
  replace h := h r47 er47
  refine v_wld (fun M48 eM48 => ?_)
  replace h := h M48 eM48
  obtain ⟨k49, h⟩ := h
  refine pq1041_X6 (pc := 85) cx (x := some r47) hnm dX6_init_85 k49 ?_
  refine v_wld (fun M50 eM50 => ?_)
  replace h := h M50 eM50
  refine v_aload_n (pc := 88) cx dX6_init_88 rfl 0 rfl ?_
  refine v_bipush (pc := 89) cx dX6_init_89 bc_12 ?_
  obtain ⟨q51, h⟩ := h
  refine v_newa100 (pc := 91) cx (n := 12) (by decide +kernel) (by decide +kernel) q184 (Nat.le_of_ble_eq_true rfl) q51.1 q51.2 dX6_init_91 ?_
  refine v_topr (fun r52 er52 => ?_)
  replace h := h r52 er52
  refine v_wld (fun M53 eM53 => ?_)
  replace h := h M53 eM53
  obtain ⟨k54, h⟩ := h
  refine pq1042_X6 (pc := 93) cx (x := some r52) hnm dX6_init_93 k54 ?_
  refine v_wld (fun M55 eM55 => ?_)
  replace h := h M55 eM55
  refine v_aload_n (pc := 96) cx dX6_init_96 rfl 0 rfl ?_
  refine v_bipush (pc := 97) cx dX6_init_97 bc_12 ?_
  obtain ⟨q56, h⟩ := h
  refine v_newa100 (pc := 99) cx (n := 12) (by decide +kernel) (by decide +kernel) q184 (Nat.le_of_ble_eq_true rfl) q56.1 q56.2 dX6_init_99 ?_
  refine v_topr (fun r57 er57 => ?_)
  replace h := h r57 er57
  refine v_wld (fun M58 eM58 => ?_)
  replace h := h M58 eM58
  obtain ⟨k59, h⟩ := h
  refine pq1043_X6 (pc := 101) cx (x := some r57) hnm dX6_init_101 k59 ?_
  refine v_wld (fun M60 eM60 => ?_)
  replace h := h M60 eM60
  refine v_aload_n (pc := 104) cx dX6_init_104 rfl 0 rfl ?_
  refine v_bipush (pc := 105) cx dX6_init_105 bc_12 ?_
  obtain ⟨q61, h⟩ := h
  refine v_newa100 (pc := 107) cx (n := 12) (by decide +kernel) (by decide +kernel) q184 (Nat.le_of_ble_eq_true rfl) q61.1 q61.2 dX6_init_107 ?_
  refine v_topr (fun r62 er62 => ?_)
  replace h := h r62 er62
  refine v_wld (fun M63 eM63 => ?_)
  replace h := h M63 eM63
  obtain ⟨k64, h⟩ := h
  refine pq1044_X6 (pc := 109) cx (x := some r62) hnm dX6_init_109 k64 ?_
  refine v_wld (fun M65 eM65 => ?_)
  replace h := h M65 eM65
  refine v_aload_n (pc := 112) cx dX6_init_112 rfl 0 rfl ?_
  refine v_sipush (pc := 113) cx dX6_init_113 sc_180 ?_
  obtain ⟨q66, h⟩ := h
  refine v_newa100 (pc := 116) cx (n := 180) (by decide +kernel) (by decide +kernel) q184 (Nat.le_of_ble_eq_true rfl) q66.1 q66.2 dX6_init_116 ?_
  refine v_topr (fun r67 er67 => ?_)
  replace h := h r67 er67
  refine v_wld (fun M68 eM68 => ?_)
  replace h := h M68 eM68
  obtain ⟨k69, h⟩ := h
  refine pq1045_X6 (pc := 118) cx (x := some r67) hnm dX6_init_118 k69 ?_
  refine v_wld (fun M70 eM70 => ?_)
  replace h := h M70 eM70
  refine v_aload_n (pc := 121) cx dX6_init_121 rfl 0 rfl ?_
  refine v_bipush (pc := 122) cx dX6_init_122 bc_12 ?_
  obtain ⟨q71, h⟩ := h
  refine v_newa100 (pc := 124) cx (n := 12) (by decide +kernel) (by decide +kernel) q184 (Nat.le_of_ble_eq_true rfl) q71.1 q71.2 dX6_init_124 ?_
  refine v_topr (fun r72 er72 => ?_)
  replace h := h r72 er72
  refine v_wld (fun M73 eM73 => ?_)
  replace h := h M73 eM73
  obtain ⟨k74, h⟩ := h
  refine pq1046_X6 (pc := 126) cx (x := some r72) hnm dX6_init_126 k74 ?_
  refine v_wld (fun M75 eM75 => ?_)
  replace h := h M75 eM75
  refine v_aload_n (pc := 129) cx dX6_init_129 rfl 0 rfl ?_
  refine v_bipush (pc := 130) cx dX6_init_130 bc_12 ?_
  obtain ⟨q76, h⟩ := h
  refine v_newa100 (pc := 132) cx (n := 12) (by decide +kernel) (by decide +kernel) q184 (Nat.le_of_ble_eq_true rfl) q76.1 q76.2 dX6_init_132 ?_
  refine v_topr (fun r77 er77 => ?_)
  replace h := h r77 er77
  refine v_wld (fun M78 eM78 => ?_)
  replace h := h M78 eM78
  obtain ⟨k79, h⟩ := h
  refine pq1047_X6 (pc := 134) cx (x := some r77) hnm dX6_init_134 k79 ?_
  refine v_wld (fun M80 eM80 => ?_)
  replace h := h M80 eM80
  refine v_aload_n (pc := 137) cx dX6_init_137 rfl 0 rfl ?_
  refine v_bipush (pc := 138) cx dX6_init_138 bc_12 ?_
  obtain ⟨q81, h⟩ := h
  refine v_newa100 (pc := 140) cx (n := 12) (by decide +kernel) (by decide +kernel) q184 (Nat.le_of_ble_eq_true rfl) q81.1 q81.2 dX6_init_140 ?_
  refine v_topr (fun r82 er82 => ?_)
  replace h := h r82 er82
  refine v_wld (fun M83 eM83 => ?_)
  replace h := h M83 eM83
  obtain ⟨k84, h⟩ := h
  refine pq1048_X6 (pc := 142) cx (x := some r82) hnm dX6_init_142 k84 ?_
  refine v_wld (fun M85 eM85 => ?_)
  replace h := h M85 eM85
  refine v_aload_n (pc := 145) cx dX6_init_145 rfl 0 rfl ?_
  refine v_bipush (pc := 146) cx dX6_init_146 bc_12 ?_
  obtain ⟨q86, h⟩ := h
  refine v_newa100 (pc := 148) cx (n := 12) (by decide +kernel) (by decide +kernel) q184 (Nat.le_of_ble_eq_true rfl) q86.1 q86.2 dX6_init_148 ?_
  refine v_topr (fun r87 er87 => ?_)
  replace h := h r87 er87
  refine v_wld (fun M88 eM88 => ?_)
  replace h := h M88 eM88
  obtain ⟨k89, h⟩ := h
  refine pq1049_X6 (pc := 150) cx (x := some r87) hnm dX6_init_150 k89 ?_
  refine v_wld (fun M90 eM90 => ?_)
  replace h := h M90 eM90
  refine v_aload_n (pc := 153) cx dX6_init_153 rfl 0 rfl ?_
  refine v_sipush (pc := 154) cx dX6_init_154 sc_180 ?_
  obtain ⟨q91, h⟩ := h
  refine v_newa100 (pc := 157) cx (n := 180) (by decide +kernel) (by decide +kernel) q184 (Nat.le_of_ble_eq_true rfl) q91.1 q91.2 dX6_init_157 ?_
  refine v_topr (fun r92 er92 => ?_)
  replace h := h r92 er92
  refine v_wld (fun M93 eM93 => ?_)
  replace h := h M93 eM93
  obtain ⟨k94, h⟩ := h
  refine pq1050_X6 (pc := 159) cx (x := some r92) hnm dX6_init_159 k94 ?_
  refine v_wld (fun M95 eM95 => ?_)
  replace h := h M95 eM95
  refine v_aload_n (pc := 162) cx dX6_init_162 rfl 0 rfl ?_
  refine v_bipush (pc := 163) cx dX6_init_163 bc_9 ?_
  obtain ⟨q96, h⟩ := h
  refine v_newa100 (pc := 165) cx (n := 9) (by decide +kernel) (by decide +kernel) q184 (Nat.le_of_ble_eq_true rfl) q96.1 q96.2 dX6_init_165 ?_
  refine v_topr (fun r97 er97 => ?_)
  replace h := h r97 er97
  refine v_wld (fun M98 eM98 => ?_)
  replace h := h M98 eM98
  obtain ⟨k99, h⟩ := h
  refine pq1051_X6 (pc := 167) cx (x := some r97) hnm dX6_init_167 k99 ?_
  refine v_wld (fun M100 eM100 => ?_)
  replace h := h M100 eM100
  refine v_aload_n (pc := 170) cx dX6_init_170 rfl 0 rfl ?_
  refine v_sipush (pc := 171) cx dX6_init_171 sc_1600 ?_
  obtain ⟨q101, h⟩ := h
  refine v_newa100 (pc := 174) cx (n := 1600) (by decide +kernel) (by decide +kernel) q184 (Nat.le_of_ble_eq_true rfl) q101.1 q101.2 dX6_init_174 ?_
  refine v_topr (fun r102 er102 => ?_)
  replace h := h r102 er102
  refine v_wld (fun M103 eM103 => ?_)
  replace h := h M103 eM103
  obtain ⟨k104, h⟩ := h
  refine pq1052_X6 (pc := 176) cx (x := some r102) hnm dX6_init_176 k104 ?_
  refine v_wld (fun M105 eM105 => ?_)
  replace h := h M105 eM105
  refine v_aload_n (pc := 179) cx dX6_init_179 rfl 0 rfl ?_
  refine v_sipush (pc := 180) cx dX6_init_180 sc_1600 ?_
  obtain ⟨q106, h⟩ := h
  refine v_newa100 (pc := 183) cx (n := 1600) (by decide +kernel) (by decide +kernel) q184 (Nat.le_of_ble_eq_true rfl) q106.1 q106.2 dX6_init_183 ?_
  refine v_topr (fun r107 er107 => ?_)
  replace h := h r107 er107
  refine v_wld (fun M108 eM108 => ?_)
  replace h := h M108 eM108
  obtain ⟨k109, h⟩ := h
  refine pq1053_X6 (pc := 185) cx (x := some r107) hnm dX6_init_185 k109 ?_
  refine v_wld (fun M110 eM110 => ?_)
  replace h := h M110 eM110
  refine v_aload_n (pc := 188) cx dX6_init_188 rfl 0 rfl ?_
  refine v_sipush (pc := 189) cx dX6_init_189 sc_1600 ?_
  obtain ⟨q111, h⟩ := h
  refine v_newa100 (pc := 192) cx (n := 1600) (by decide +kernel) (by decide +kernel) q184 (Nat.le_of_ble_eq_true rfl) q111.1 q111.2 dX6_init_192 ?_
  refine v_topr (fun r112 er112 => ?_)
  replace h := h r112 er112
  refine v_wld (fun M113 eM113 => ?_)
  replace h := h M113 eM113
  obtain ⟨k114, h⟩ := h
  refine pq1054_X6 (pc := 194) cx (x := some r112) hnm dX6_init_194 k114 ?_
  refine v_wld (fun M115 eM115 => ?_)
  replace h := h M115 eM115
  refine v_aload_n (pc := 197) cx dX6_init_197 rfl 0 rfl ?_
  refine v_sipush (pc := 198) cx dX6_init_198 sc_1600 ?_
  obtain ⟨q116, h⟩ := h
  refine v_newa100 (pc := 201) cx (n := 1600) (by decide +kernel) (by decide +kernel) q184 (Nat.le_of_ble_eq_true rfl) q116.1 q116.2 dX6_init_201 ?_
  refine v_topr (fun r117 er117 => ?_)
  replace h := h r117 er117
  refine v_wld (fun M118 eM118 => ?_)
  replace h := h M118 eM118
  obtain ⟨k119, h⟩ := h
  refine pq1055_X6 (pc := 203) cx (x := some r117) hnm dX6_init_203 k119 ?_
  refine v_wld (fun M120 eM120 => ?_)
  replace h := h M120 eM120
  refine v_aload_n (pc := 206) cx dX6_init_206 rfl 0 rfl ?_
  refine v_bipush (pc := 207) cx dX6_init_207 bc_40 ?_
  obtain ⟨q121, h⟩ := h
  refine v_newa101 (pc := 209) cx (n := 40) (by decide +kernel) (by decide +kernel) q243 (Nat.le_of_ble_eq_true rfl) q121.1 q121.2 dX6_init_209 ?_
  refine v_topr (fun r122 er122 => ?_)
  replace h := h r122 er122
  refine v_wld (fun M123 eM123 => ?_)
  replace h := h M123 eM123
  obtain ⟨k124, h⟩ := h
  refine pq1056_X6 (pc := 211) cx (x := some r122) hnm dX6_init_211 k124 ?_
  refine v_wld (fun M125 eM125 => ?_)
  replace h := h M125 eM125
  refine v_aload_n (pc := 214) cx dX6_init_214 rfl 0 rfl ?_
  refine v_bipush (pc := 215) cx dX6_init_215 bc_40 ?_
  obtain ⟨q126, h⟩ := h
  refine v_newa103 (pc := 217) cx (n := 40) (by decide +kernel) (by decide +kernel) q271 (Nat.le_of_ble_eq_true rfl) q126.1 q126.2 dX6_init_217 ?_
  refine v_topr (fun r127 er127 => ?_)
  replace h := h r127 er127
  refine v_wld (fun M128 eM128 => ?_)
  replace h := h M128 eM128
  obtain ⟨k129, h⟩ := h
  refine pq1057_X6 (pc := 219) cx (x := some r127) hnm dX6_init_219 k129 ?_
  refine v_wld (fun M130 eM130 => ?_)
  replace h := h M130 eM130
  refine v_aload_n (pc := 222) cx dX6_init_222 rfl 0 rfl ?_
  refine v_bipush (pc := 223) cx dX6_init_223 bc_8 ?_
  obtain ⟨q131, h⟩ := h
  refine v_newa100 (pc := 225) cx (n := 8) (by decide +kernel) (by decide +kernel) q184 (Nat.le_of_ble_eq_true rfl) q131.1 q131.2 dX6_init_225 ?_
  refine v_topr (fun r132 er132 => ?_)
  replace h := h r132 er132
  refine v_wld (fun M133 eM133 => ?_)
  replace h := h M133 eM133
  obtain ⟨k134, h⟩ := h
  refine pq1058_X6 (pc := 227) cx (x := some r132) hnm dX6_init_227 k134 ?_
  refine v_wld (fun M135 eM135 => ?_)
  replace h := h M135 eM135
  refine v_aload_n (pc := 230) cx dX6_init_230 rfl 0 rfl ?_
  refine v_bipush (pc := 231) cx dX6_init_231 bc_40 ?_
  obtain ⟨q136, h⟩ := h
  refine v_newa100 (pc := 233) cx (n := 40) (by decide +kernel) (by decide +kernel) q184 (Nat.le_of_ble_eq_true rfl) q136.1 q136.2 dX6_init_233 ?_
  refine v_topr (fun r137 er137 => ?_)
  replace h := h r137 er137
  refine v_wld (fun M138 eM138 => ?_)
  replace h := h M138 eM138
  obtain ⟨k139, h⟩ := h
  refine pq1062_X6 (pc := 235) cx (x := some r137) hnm dX6_init_235 k139 ?_
  refine v_wld (fun M140 eM140 => ?_)
  replace h := h M140 eM140
  refine v_aload_n (pc := 238) cx dX6_init_238 rfl 0 rfl ?_
  refine v_bipush (pc := 239) cx dX6_init_239 bc_40 ?_
  obtain ⟨q141, h⟩ := h
  refine v_newa101 (pc := 241) cx (n := 40) (by decide +kernel) (by decide +kernel) q243 (Nat.le_of_ble_eq_true rfl) q141.1 q141.2 dX6_init_241 ?_
  refine v_topr (fun r142 er142 => ?_)
  replace h := h r142 er142
  refine v_wld (fun M143 eM143 => ?_)
  replace h := h M143 eM143
  obtain ⟨k144, h⟩ := h
  refine pq1063_X6 (pc := 243) cx (x := some r142) hnm dX6_init_243 k144 ?_
  refine v_wld (fun M145 eM145 => ?_)
  replace h := h M145 eM145
  refine v_aload_n (pc := 246) cx dX6_init_246 rfl 0 rfl ?_
  refine v_bipush (pc := 247) cx dX6_init_247 bc_40 ?_
  obtain ⟨q146, h⟩ := h
  refine v_newa101 (pc := 249) cx (n := 40) (by decide +kernel) (by decide +kernel) q243 (Nat.le_of_ble_eq_true rfl) q146.1 q146.2 dX6_init_249 ?_
  refine v_topr (fun r147 er147 => ?_)
  replace h := h r147 er147
  refine v_wld (fun M148 eM148 => ?_)
  replace h := h M148 eM148
  obtain ⟨k149, h⟩ := h
  refine pq1064_X6 (pc := 251) cx (x := some r147) hnm dX6_init_251 k149 ?_
  refine v_wld (fun M150 eM150 => ?_)
  replace h := h M150 eM150
  refine v_aload_n (pc := 254) cx dX6_init_254 rfl 0 rfl ?_
  refine v_bipush (pc := 255) cx dX6_init_255 bc_14 ?_
  obtain ⟨q151, h⟩ := h
  refine v_newa100 (pc := 257) cx (n := 14) (by decide +kernel) (by decide +kernel) q184 (Nat.le_of_ble_eq_true rfl) q151.1 q151.2 dX6_init_257 ?_
  refine v_topr (fun r152 er152 => ?_)
  replace h := h r152 er152
  refine v_wld (fun M153 eM153 => ?_)
  replace h := h M153 eM153
  obtain ⟨k154, h⟩ := h
  refine pq1065_X6 (pc := 259) cx (x := some r152) hnm dX6_init_259 k154 ?_
  refine v_wld (fun M155 eM155 => ?_)
  replace h := h M155 eM155
  refine v_aload_n (pc := 262) cx dX6_init_262 rfl 0 rfl ?_
  refine v_ldc (pc := 263) cx dX6_init_263 q1017 ?_
  obtain ⟨q156, h⟩ := h
  refine v_newa100 (pc := 265) cx (n := 53248) (by decide +kernel) (by decide +kernel) q184 (Nat.le_of_ble_eq_true rfl) q156.1 q156.2 dX6_init_265 ?_
  refine v_topr (fun r157 er157 => ?_)
  replace h := h r157 er157
  refine v_wld (fun M158 eM158 => ?_)
  replace h := h M158 eM158
  obtain ⟨k159, h⟩ := h
  refine pq1066_X6 (pc := 267) cx (x := some r157) hnm dX6_init_267 k159 ?_
  refine v_wld (fun M160 eM160 => ?_)
  replace h := h M160 eM160
  refine v_aload_n (pc := 270) cx dX6_init_270 rfl 0 rfl ?_
  refine v_bipush (pc := 271) cx dX6_init_271 bc_117 ?_
  obtain ⟨q161, h⟩ := h
  refine v_newa100 (pc := 273) cx (n := 117) (by decide +kernel) (by decide +kernel) q184 (Nat.le_of_ble_eq_true rfl) q161.1 q161.2 dX6_init_273 ?_
  refine v_topr (fun r162 er162 => ?_)
  replace h := h r162 er162
  refine v_wld (fun M163 eM163 => ?_)
  replace h := h M163 eM163
  obtain ⟨k164, h⟩ := h
  refine pq1067_X6 (pc := 275) cx (x := some r162) hnm dX6_init_275 k164 ?_
  refine v_wld (fun M165 eM165 => ?_)
  replace h := h M165 eM165
  refine v_aload_n (pc := 278) cx dX6_init_278 rfl 0 rfl ?_
  refine v_bipush (pc := 279) cx dX6_init_279 bc_14 ?_
  obtain ⟨q166, h⟩ := h
  refine v_newa100 (pc := 281) cx (n := 14) (by decide +kernel) (by decide +kernel) q184 (Nat.le_of_ble_eq_true rfl) q166.1 q166.2 dX6_init_281 ?_
  refine v_topr (fun r167 er167 => ?_)
  replace h := h r167 er167
  refine v_wld (fun M168 eM168 => ?_)
  replace h := h M168 eM168
  obtain ⟨k169, h⟩ := h
  refine pq1068_X6 (pc := 283) cx (x := some r167) hnm dX6_init_283 k169 ?_
  refine v_wld (fun M170 eM170 => ?_)
  replace h := h M170 eM170
  refine v_aload_n (pc := 286) cx dX6_init_286 rfl 0 rfl ?_
  refine v_iconst (pc := 287) cx dX6_init_287 ic_4 ?_
  obtain ⟨q171, h⟩ := h
  refine v_newa100 (pc := 288) cx (n := 4) (by decide +kernel) (by decide +kernel) q184 (Nat.le_of_ble_eq_true rfl) q171.1 q171.2 dX6_init_288 ?_
  refine v_topr (fun r172 er172 => ?_)
  replace h := h r172 er172
  refine v_wld (fun M173 eM173 => ?_)
  replace h := h M173 eM173
  obtain ⟨k174, h⟩ := h
  refine pq1069_X6 (pc := 290) cx (x := some r172) hnm dX6_init_290 k174 ?_
  refine v_wld (fun M175 eM175 => ?_)
  replace h := h M175 eM175
  refine v_aload_n (pc := 293) cx dX6_init_293 rfl 0 rfl ?_
  refine v_iconst (pc := 294) cx dX6_init_294 ic_4 ?_
  obtain ⟨q176, h⟩ := h
  refine v_newa100 (pc := 295) cx (n := 4) (by decide +kernel) (by decide +kernel) q184 (Nat.le_of_ble_eq_true rfl) q176.1 q176.2 dX6_init_295 ?_
  refine v_topr (fun r177 er177 => ?_)
  replace h := h r177 er177
  refine v_wld (fun M178 eM178 => ?_)
  replace h := h M178 eM178
  obtain ⟨k179, h⟩ := h
  refine pq1070_X6 (pc := 297) cx (x := some r177) hnm dX6_init_297 k179 ?_
  refine v_wld (fun M180 eM180 => ?_)
  replace h := h M180 eM180
  refine v_aload_n (pc := 300) cx dX6_init_300 rfl 0 rfl ?_
  refine v_iconst (pc := 301) cx dX6_init_301 ic_1 ?_
  obtain ⟨k181, h⟩ := h
  refine pq1019_X6 (pc := 302) cx dX6_init_302 k181 ?_
  refine v_wld (fun M182 eM182 => ?_)
  replace h := h M182 eM182
  refine v_aload_n (pc := 305) cx dX6_init_305 rfl 0 rfl ?_
  refine v_iconst (pc := 306) cx dX6_init_306 ic_m1 ?_
  obtain ⟨k183, h⟩ := h
  refine pq1020_X6 (pc := 307) cx dX6_init_307 k183 ?_
  refine v_wld (fun M184 eM184 => ?_)
  replace h := h M184 eM184
  obtain ⟨q185, h⟩ := h
  exact v_vret cx rfl dX6_init_310 q185 h
