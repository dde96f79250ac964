set_option maxRecDepth 100000

theorem pq165_X1 {p : Program} {l : Launch} {e : Env} {R : Room} {s : State} {m : MethodId} {args : Array Value} {below : List Frame} {meth : Method} {c : Code} {cells slots : Nat} {Q : State → Prop} {cc : ByteArray} {nL : Nat} {ret : Option FieldType} {D : va_G} {cA : Nat → ClassId} {sz0 : Nat} {H0 : Heap} {pc : Nat} {lv : List (Nat × Value)} {st : List Value} {M : WM} {r : Nat} (cx : Cx p s m args meth c cc nL RX1 ret D cA sz0 H0) {x : Option Nat} (hnm : meth.name = "<init>")  (d : decode cc pc = .ok (.putfield 9, 3)) (hr : wk M r = 1) (kk : V p l e R s m args below meth c nL D cA sz0 H0 cells slots Q (pc + 3) lv st (wPR M r 0 x)) : V p l e R s m args below meth c nL D cA sz0 H0 cells slots Q pc lv (vr sz0 x :: .ref (sz0 + r) :: st) M := v_putFR cx (k := 0) cl_X1 (by decide) in_X1 (by decide) tyX1 tyX1_ok nmX1 q165 rfl rfl hnm rfl (ty := tyX1 0) (tyX1_ok 0 (by decide)) (by cases x <;> rfl) (by cases x <;> rfl) d hr kk
theorem pq167_X1 {p : Program} {l : Launch} {e : Env} {R : Room} {s : State} {m : MethodId} {args : Array Value} {below : List Frame} {meth : Method} {c : Code} {cells slots : Nat} {Q : State → Prop} {cc : ByteArray} {nL : Nat} {ret : Option FieldType} {D : va_G} {cA : Nat → ClassId} {sz0 : Nat} {H0 : Heap} {pc : Nat} {lv : List (Nat × Value)} {st : List Value} {M : WM} {r : Nat} (cx : Cx p s m args meth c cc nL RX1 ret D cA sz0 H0) {x : Option Nat} (hnm : meth.name = "<init>")  (d : decode cc pc = .ok (.putfield 17, 3)) (hr : wk M r = 1) (kk : V p l e R s m args below meth c nL D cA sz0 H0 cells slots Q (pc + 3) lv st (wPR M r 1 x)) : V p l e R s m args below meth c nL D cA sz0 H0 cells slots Q pc lv (vr sz0 x :: .ref (sz0 + r) :: st) M := v_putFR cx (k := 1) cl_X1 (by decide) in_X1 (by decide) tyX1 tyX1_ok nmX1 q167 rfl rfl hnm rfl (ty := tyX1 1) (tyX1_ok 1 (by decide)) (by cases x <;> rfl) (by cases x <;> rfl) d hr kk
theorem pq169_X1 {p : Program} {l : Launch} {e : Env} {R : Room} {s : State} {m : MethodId} {args : Array Value} {below : List Frame} {meth : Method} {c : Code} {cells slots : Nat} {Q : State → Prop} {cc : ByteArray} {nL : Nat} {ret : Option FieldType} {D : va_G} {cA : Nat → ClassId} {sz0 : Nat} {H0 : Heap} {pc : Nat} {lv : List (Nat × Value)} {st : List Value} {M : WM} {r : Nat} (cx : Cx p s m args meth c cc nL RX1 ret D cA sz0 H0) {x : Option Nat} (hnm : meth.name = "<init>")  (d : decode cc pc = .ok (.putfield 23, 3)) (hr : wk M r = 1) (kk : V p l e R s m args below meth c nL D cA sz0 H0 cells slots Q (pc + 3) lv st (wPR M r 2 x)) : V p l e R s m args below meth c nL D cA sz0 H0 cells slots Q pc lv (vr sz0 x :: .ref (sz0 + r) :: st) M := v_putFR cx (k := 2) cl_X1 (by decide) in_X1 (by decide) tyX1 tyX1_ok nmX1 q169 rfl rfl hnm rfl (ty := tyX1 2) (tyX1_ok 2 (by decide)) (by cases x <;> rfl) (by cases x <;> rfl) d hr kk
theorem pq527_X10 {p : Program} {l : Launch} {e : Env} {R : Room} {s : State} {m : MethodId} {args : Array Value} {below : List Frame} {meth : Method} {c : Code} {cells slots : Nat} {Q : State → Prop} {cc : ByteArray} {nL : Nat} {ret : Option FieldType} {D : va_G} {cA : Nat → ClassId} {sz0 : Nat} {H0 : Heap} {pc : Nat} {lv : List (Nat × Value)} {st : List Value} {M : WM} {r : Nat} (cx : Cx p s m args meth c cc nL RX10 ret D cA sz0 H0) {x : Int32} (hnm : meth.name = "<init>")  (d : decode cc pc = .ok (.putfield 7, 3)) (hr : wk M r = 8) (kk : V p l e R s m args below meth c nL D cA sz0 H0 cells slots Q (pc + 3) lv st (wPI M r 0 x)) : V p l e R s m args below meth c nL D cA sz0 H0 cells slots Q pc lv (.int x :: .ref (sz0 + r) :: st) M := v_putFI cx (k := 0) cl_X10 (by decide) in_X10 (by decide) tyX10 tyX10_ok nmX10 q527 rfl rfl hnm rfl (ty := .int) (tyX10_ok 0 (by decide)) rfl rfl d hr kk
theorem pq624_X11 {p : Program} {l : Launch} {e : Env} {R : Room} {s : State} {m : MethodId} {args : Array Value} {below : List Frame} {meth : Method} {c : Code} {cells slots : Nat} {Q : State → Prop} {cc : ByteArray} {nL : Nat} {ret : Option FieldType} {D : va_G} {cA : Nat → ClassId} {sz0 : Nat} {H0 : Heap} {pc : Nat} {lv : List (Nat × Value)} {st : List Value} {M : WM} {r : Nat} (cx : Cx p s m args meth c cc nL RX11 ret D cA sz0 H0) {x : Int32} (hnm : meth.name = "<init>")  (d : decode cc pc = .ok (.putfield 7, 3)) (hr : wk M r = 9) (kk : V p l e R s m args below meth c nL D cA sz0 H0 cells slots Q (pc + 3) lv st (wPI M r 0 x)) : V p l e R s m args below meth c nL D cA sz0 H0 cells slots Q pc lv (.int x :: .ref (sz0 + r) :: st) M := v_putFI cx (k := 0) cl_X11 (by decide) in_X11 (by decide) tyX11 tyX11_ok nmX11 q624 rfl rfl hnm rfl (ty := .int) (tyX11_ok 0 (by decide)) rfl rfl d hr kk
theorem pq632_X9 {p : Program} {l : Launch} {e : Env} {R : Room} {s : State} {m : MethodId} {args : Array Value} {below : List Frame} {meth : Method} {c : Code} {cells slots : Nat} {Q : State → Prop} {cc : ByteArray} {nL : Nat} {ret : Option FieldType} {D : va_G} {cA : Nat → ClassId} {sz0 : Nat} {H0 : Heap} {pc : Nat} {lv : List (Nat × Value)} {st : List Value} {M : WM} {r : Nat} (cx : Cx p s m args meth c cc nL RX9 ret D cA sz0 H0) {x : Int32} (hnm : meth.name = "<init>")  (d : decode cc pc = .ok (.putfield 7, 3)) (hr : wk M r = 7) (kk : V p l e R s m args below meth c nL D cA sz0 H0 cells slots Q (pc + 3) lv st (wPI M r 0 x)) : V p l e R s m args below meth c nL D cA sz0 H0 cells slots Q pc lv (.int x :: .ref (sz0 + r) :: st) M := v_putFI cx (k := 0) cl_X9 (by decide) in_X9 (by decide) tyX9 tyX9_ok nmX9 q632 rfl rfl hnm rfl (ty := .int) (tyX9_ok 0 (by decide)) rfl rfl d hr kk
theorem pq633_X9 {p : Program} {l : Launch} {e : Env} {R : Room} {s : State} {m : MethodId} {args : Array Value} {below : List Frame} {meth : Method} {c : Code} {cells slots : Nat} {Q : State → Prop} {cc : ByteArray} {nL : Nat} {ret : Option FieldType} {D : va_G} {cA : Nat → ClassId} {sz0 : Nat} {H0 : Heap} {pc : Nat} {lv : List (Nat × Value)} {st : List Value} {M : WM} {r : Nat} (cx : Cx p s m args meth c cc nL RX9 ret D cA sz0 H0) {x : Option Nat} (hnm : meth.name = "<init>")  (d : decode cc pc = .ok (.putfield 13, 3)) (hr : wk M r = 7) (kk : V p l e R s m args below meth c nL D cA sz0 H0 cells slots Q (pc + 3) lv st (wPR M r 1 x)) : V p l e R s m args below meth c nL D cA sz0 H0 cells slots Q pc lv (vr sz0 x :: .ref (sz0 + r) :: st) M := v_putFR cx (k := 1) cl_X9 (by decide) in_X9 (by decide) tyX9 tyX9_ok nmX9 q633 rfl rfl hnm rfl (ty := tyX9 1) (tyX9_ok 1 (by decide)) (by cases x <;> rfl) (by cases x <;> rfl) d hr kk
theorem pq666_X14 {p : Program} {l : Launch} {e : Env} {R : Room} {s : State} {m : MethodId} {args : Array Value} {below : List Frame} {meth : Method} {c : Code} {cells slots : Nat} {Q : State → Prop} {cc : ByteArray} {nL : Nat} {ret : Option FieldType} {D : va_G} {cA : Nat → ClassId} {sz0 : Nat} {H0 : Heap} {pc : Nat} {lv : List (Nat × Value)} {st : List Value} {M : WM} {r : Nat} (cx : Cx p s m args meth c cc nL RX14 ret D cA sz0 H0) {x : Option Nat} (hnm : meth.name = "<init>")  (d : decode cc pc = .ok (.putfield 7, 3)) (hr : wk M r = 11) (kk : V p l e R s m args below meth c nL D cA sz0 H0 cells slots Q (pc + 3) lv st (wPR M r 0 x)) : V p l e R s m args below meth c nL D cA sz0 H0 cells slots Q pc lv (vr sz0 x :: .ref (sz0 + r) :: st) M := v_putFR cx (k := 0) cl_X14 (by decide) in_X14 (by decide) tyX14 tyX14_ok nmX14 q666 rfl rfl hnm rfl (ty := tyX14 0) (tyX14_ok 0 (by decide)) (by cases x <;> rfl) (by cases x <;> rfl) d hr kk
theorem pq676_X15 {p : Program} {l : Launch} {e : Env} {R : Room} {s : State} {m : MethodId} {args : Array Value} {below : List Frame} {meth : Method} {c : Code} {cells slots : Nat} {Q : State → Prop} {cc : ByteArray} {nL : Nat} {ret : Option FieldType} {D : va_G} {cA : Nat → ClassId} {sz0 : Nat} {H0 : Heap} {pc : Nat} {lv : List (Nat × Value)} {st : List Value} {M : WM} {r : Nat} (cx : Cx p s m args meth c cc nL RX15 ret D cA sz0 H0) {x : Option Nat} (hnm : meth.name = "<init>")  (d : decode cc pc = .ok (.putfield 7, 3)) (hr : wk M r = 12) (kk : V p l e R s m args below meth c nL D cA sz0 H0 cells slots Q (pc + 3) lv st (wPR M r 0 x)) : V p l e R s m args below meth c nL D cA sz0 H0 cells slots Q pc lv (vr sz0 x :: .ref (sz0 + r) :: st) M := v_putFR cx (k := 0) cl_X15 (by decide) in_X15 (by decide) tyX15 tyX15_ok nmX15 q676 rfl rfl hnm rfl (ty := tyX15 0) (tyX15_ok 0 (by decide)) (by cases x <;> rfl) (by cases x <;> rfl) d hr kk
theorem pq677_X15 {p : Program} {l : Launch} {e : Env} {R : Room} {s : State} {m : MethodId} {args : Array Value} {below : List Frame} {meth : Method} {c : Code} {cells slots : Nat} {Q : State → Prop} {cc : ByteArray} {nL : Nat} {ret : Option FieldType} {D : va_G} {cA : Nat → ClassId} {sz0 : Nat} {H0 : Heap} {pc : Nat} {lv : List (Nat × Value)} {st : List Value} {M : WM} {r : Nat} (cx : Cx p s m args meth c cc nL RX15 ret D cA sz0 H0) {x : Option Nat} (hnm : meth.name = "<init>")  (d : decode cc pc = .ok (.putfield 17, 3)) (hr : wk M r = 12) (kk : V p l e R s m args below meth c nL D cA sz0 H0 cells slots Q (pc + 3) lv st (wPR M r 1 x)) : V p l e R s m args below meth c nL D cA sz0 H0 cells slots Q pc lv (vr sz0 x :: .ref (sz0 + r) :: st) M := v_putFR cx (k := 1) cl_X15 (by decide) in_X15 (by decide) tyX15 tyX15_ok nmX15 q677 rfl rfl hnm rfl (ty := tyX15 1) (tyX15_ok 1 (by decide)) (by cases x <;> rfl) (by cases x <;> rfl) d hr kk
theorem pq678_X15 {p : Program} {l : Launch} {e : Env} {R : Room} {s : State} {m : MethodId} {args : Array Value} {below : List Frame} {meth : Method} {c : Code} {cells slots : Nat} {Q : State → Prop} {cc : ByteArray} {nL : Nat} {ret : Option FieldType} {D : va_G} {cA : Nat → ClassId} {sz0 : Nat} {H0 : Heap} {pc : Nat} {lv : List (Nat × Value)} {st : List Value} {M : WM} {r : Nat} (cx : Cx p s m args meth c cc nL RX15 ret D cA sz0 H0) {x : Int32} (hnm : meth.name = "<init>")  (d : decode cc pc = .ok (.putfield 13, 3)) (hr : wk M r = 12) (kk : V p l e R s m args below meth c nL D cA sz0 H0 cells slots Q (pc + 3) lv st (wPI M r 2 x)) : V p l e R s m args below meth c nL D cA sz0 H0 cells slots Q pc lv (.int x :: .ref (sz0 + r) :: st) M := v_putFI cx (k := 2) cl_X15 (by decide) in_X15 (by decide) tyX15 tyX15_ok nmX15 q678 rfl rfl hnm rfl (ty := .int) (tyX15_ok 2 (by decide)) rfl rfl d hr kk
theorem pq690_X13 {p : Program} {l : Launch} {e : Env} {R : Room} {s : State} {m : MethodId} {args : Array Value} {below : List Frame} {meth : Method} {c : Code} {cells slots : Nat} {Q : State → Prop} {cc : ByteArray} {nL : Nat} {ret : Option FieldType} {D : va_G} {cA : Nat → ClassId} {sz0 : Nat} {H0 : Heap} {pc : Nat} {lv : List (Nat × Value)} {st : List Value} {M : WM} {r : Nat} (cx : Cx p s m args meth c cc nL RX13 ret D cA sz0 H0) {x : Option Nat} (hnm : meth.name = "<init>")  (d : decode cc pc = .ok (.putfield 7, 3)) (hr : wk M r = 10) (kk : V p l e R s m args below meth c nL D cA sz0 H0 cells slots Q (pc + 3) lv st (wPR M r 0 x)) : V p l e R s m args below meth c nL D cA sz0 H0 cells slots Q pc lv (vr sz0 x :: .ref (sz0 + r) :: st) M := v_putFR cx (k := 0) cl_X13 (by decide) in_X13 (by decide) tyX13 tyX13_ok nmX13 q690 rfl rfl hnm rfl (ty := tyX13 0) (tyX13_ok 0 (by decide)) (by cases x <;> rfl) (by cases x <;> rfl) d hr kk
theorem pq691_X13 {p : Program} {l : Launch} {e : Env} {R : Room} {s : State} {m : MethodId} {args : Array Value} {below : List Frame} {meth : Method} {c : Code} {cells slots : Nat} {Q : State → Prop} {cc : ByteArray} {nL : Nat} {ret : Option FieldType} {D : va_G} {cA : Nat → ClassId} {sz0 : Nat} {H0 : Heap} {pc : Nat} {lv : List (Nat × Value)} {st : List Value} {M : WM} {r : Nat} (cx : Cx p s m args meth c cc nL RX13 ret D cA sz0 H0) {x : Int32} (hnm : meth.name = "<init>")  (d : decode cc pc = .ok (.putfield 13, 3)) (hr : wk M r = 10) (kk : V p l e R s m args below meth c nL D cA sz0 H0 cells slots Q (pc + 3) lv st (wPI M r 1 x)) : V p l e R s m args below meth c nL D cA sz0 H0 cells slots Q pc lv (.int x :: .ref (sz0 + r) :: st) M := v_putFI cx (k := 1) cl_X13 (by decide) in_X13 (by decide) tyX13 tyX13_ok nmX13 q691 rfl rfl hnm rfl (ty := .int) (tyX13_ok 1 (by decide)) rfl rfl d hr kk
theorem hd_X8_init : yX8_init.cls ≠ "java/lang/invoke/MethodHandle" ∧ yX8_init.cls ≠ "java/lang/invoke/VarHandle" ∧ (parseMethodDescriptor yX8_init.desc).map (fun d => d.parameters.length) = some 0 := by decide +kernel
theorem kcq523_X10 {p : Program} {l : Launch} {e : Env} {R : Room} {s : State} {m : MethodId} {args : Array Value} {below : List Frame} {meth : Method} {c : Code} {cells slots : Nat}  {cc : ByteArray} {nL : Nat} {ret : Option FieldType} {D : va_G} {cA : Nat → ClassId} {sz0 : Nat} {H0 : Heap} {pc : Nat} {lv : List (Nat × Value)} {st : List Value} {M : WM} {r : Nat} {mc ms fr lo : Nat} {st0 As : List Value} {Qc : Array Value → State → Outcome → State → Prop} (cx : Cx p s m args meth c cc nL RX10 ret D cA sz0 H0) (hM : Met l yX8_init (ws_ yX8_init cX8_init 1 none) ({ frames := fr, cells := mc, slots := ms, locals := lo } : Room) (PcW D cA sz0 H0 (.ref (sz0 + r) :: As) M) Qc mc ms (Aw sz0)) (hR : fr + 1 ≤ R.frames ∧ 8 + (1 + 11) + lo ≤ R.locals) (hn : As.length = 0) (hst : st0 = As.reverse ++ .ref (sz0 + r) :: st) (hcat : (st.map fun v => v.category).sum ≤ 8) (d : decode cc pc = .ok (.invokespecial 1, 3)) (hb : cells + mc ≤ R.cells ∧ slots + ms ≤ R.slots) : ∀ (ls : Array Slot) (H : Heap) (locs : List Loc), lv_has ls nL lv → Wd D cA sz0 H0 M H → va_S (Aw sz0) s.heap H locs → va_Run p l e R s m args below meth c H locs cells slots mc ms (F0 m pc ls st0) st (Qc (Value.ref (sz0 + r) :: As).toArray) (Aw sz0) := r_IN cx hM (nst_in q523 rfl) q524 q129 q525 rfl hd_X8_init hR hn hst hcat d hb
theorem kcq623_X11 {p : Program} {l : Launch} {e : Env} {R : Room} {s : State} {m : MethodId} {args : Array Value} {below : List Frame} {meth : Method} {c : Code} {cells slots : Nat}  {cc : ByteArray} {nL : Nat} {ret : Option FieldType} {D : va_G} {cA : Nat → ClassId} {sz0 : Nat} {H0 : Heap} {pc : Nat} {lv : List (Nat × Value)} {st : List Value} {M : WM} {r : Nat} {mc ms fr lo : Nat} {st0 As : List Value} {Qc : Array Value → State → Outcome → State → Prop} (cx : Cx p s m args meth c cc nL RX11 ret D cA sz0 H0) (hM : Met l yX8_init (ws_ yX8_init cX8_init 1 none) ({ frames := fr, cells := mc, slots := ms, locals := lo } : Room) (PcW D cA sz0 H0 (.ref (sz0 + r) :: As) M) Qc mc ms (Aw sz0)) (hR : fr + 1 ≤ R.frames ∧ 8 + (1 + 11) + lo ≤ R.locals) (hn : As.length = 0) (hst : st0 = As.reverse ++ .ref (sz0 + r) :: st) (hcat : (st.map fun v => v.category).sum ≤ 8) (d : decode cc pc = .ok (.invokespecial 1, 3)) (hb : cells + mc ≤ R.cells ∧ slots + ms ≤ R.slots) : ∀ (ls : Array Slot) (H : Heap) (locs : List Loc), lv_has ls nL lv → Wd D cA sz0 H0 M H → va_S (Aw sz0) s.heap H locs → va_Run p l e R s m args below meth c H locs cells slots mc ms (F0 m pc ls st0) st (Qc (Value.ref (sz0 + r) :: As).toArray) (Aw sz0) := r_IN cx hM (nst_in q623 rfl) q524 q129 q525 rfl hd_X8_init hR hn hst hcat d hb
theorem kcq631_X9 {p : Program} {l : Launch} {e : Env} {R : Room} {s : State} {m : MethodId} {args : Array Value} {below : List Frame} {meth : Method} {c : Code} {cells slots : Nat}  {cc : ByteArray} {nL : Nat} {ret : Option FieldType} {D : va_G} {cA : Nat → ClassId} {sz0 : Nat} {H0 : Heap} {pc : Nat} {lv : List (Nat × Value)} {st : List Value} {M : WM} {r : Nat} {mc ms fr lo : Nat} {st0 As : List Value} {Qc : Array Value → State → Outcome → State → Prop} (cx : Cx p s m args meth c cc nL RX9 ret D cA sz0 H0) (hM : Met l yX8_init (ws_ yX8_init cX8_init 1 none) ({ frames := fr, cells := mc, slots := ms, locals := lo } : Room) (PcW D cA sz0 H0 (.ref (sz0 + r) :: As) M) Qc mc ms (Aw sz0)) (hR : fr + 1 ≤ R.frames ∧ 8 + (1 + 11) + lo ≤ R.locals) (hn : As.length = 0) (hst : st0 = As.reverse ++ .ref (sz0 + r) :: st) (hcat : (st.map fun v => v.category).sum ≤ 8) (d : decode cc pc = .ok (.invokespecial 1, 3)) (hb : cells + mc ≤ R.cells ∧ slots + ms ≤ R.slots) : ∀ (ls : Array Slot) (H : Heap) (locs : List Loc), lv_has ls nL lv → Wd D cA sz0 H0 M H → va_S (Aw sz0) s.heap H locs → va_Run p l e R s m args below meth c H locs cells slots mc ms (F0 m pc ls st0) st (Qc (Value.ref (sz0 + r) :: As).toArray) (Aw sz0) := r_IN cx hM (nst_in q631 rfl) q524 q129 q525 rfl hd_X8_init hR hn hst hcat d hb
theorem hd_X12_init : yX12_init.cls ≠ "java/lang/invoke/MethodHandle" ∧ yX12_init.cls ≠ "java/lang/invoke/VarHandle" ∧ (parseMethodDescriptor yX12_init.desc).map (fun d => d.parameters.length) = some 0 := by decide +kernel
theorem kcq662_X14 {p : Program} {l : Launch} {e : Env} {R : Room} {s : State} {m : MethodId} {args : Array Value} {below : List Frame} {meth : Method} {c : Code} {cells slots : Nat}  {cc : ByteArray} {nL : Nat} {ret : Option FieldType} {D : va_G} {cA : Nat → ClassId} {sz0 : Nat} {H0 : Heap} {pc : Nat} {lv : List (Nat × Value)} {st : List Value} {M : WM} {r : Nat} {mc ms fr lo : Nat} {st0 As : List Value} {Qc : Array Value → State → Outcome → State → Prop} (cx : Cx p s m args meth c cc nL RX14 ret D cA sz0 H0) (hM : Met l yX12_init (ws_ yX12_init cX12_init 1 none) ({ frames := fr, cells := mc, slots := ms, locals := lo } : Room) (PcW D cA sz0 H0 (.ref (sz0 + r) :: As) M) Qc mc ms (Aw sz0)) (hR : fr + 1 ≤ R.frames ∧ 8 + (1 + 11) + lo ≤ R.locals) (hn : As.length = 0) (hst : st0 = As.reverse ++ .ref (sz0 + r) :: st) (hcat : (st.map fun v => v.category).sum ≤ 8) (d : decode cc pc = .ok (.invokespecial 1, 3)) (hb : cells + mc ≤ R.cells ∧ slots + ms ≤ R.slots) : ∀ (ls : Array Slot) (H : Heap) (locs : List Loc), lv_has ls nL lv → Wd D cA sz0 H0 M H → va_S (Aw sz0) s.heap H locs → va_Run p l e R s m args below meth c H locs cells slots mc ms (F0 m pc ls st0) st (Qc (Value.ref (sz0 + r) :: As).toArray) (Aw sz0) := r_IN cx hM (nst_in q662 rfl) q663 q139 q664 rfl hd_X12_init hR hn hst hcat d hb
theorem kcq675_X15 {p : Program} {l : Launch} {e : Env} {R : Room} {s : State} {m : MethodId} {args : Array Value} {below : List Frame} {meth : Method} {c : Code} {cells slots : Nat}  {cc : ByteArray} {nL : Nat} {ret : Option FieldType} {D : va_G} {cA : Nat → ClassId} {sz0 : Nat} {H0 : Heap} {pc : Nat} {lv : List (Nat × Value)} {st : List Value} {M : WM} {r : Nat} {mc ms fr lo : Nat} {st0 As : List Value} {Qc : Array Value → State → Outcome → State → Prop} (cx : Cx p s m args meth c cc nL RX15 ret D cA sz0 H0) (hM : Met l yX12_init (ws_ yX12_init cX12_init 1 none) ({ frames := fr, cells := mc, slots := ms, locals := lo } : Room) (PcW D cA sz0 H0 (.ref (sz0 + r) :: As) M) Qc mc ms (Aw sz0)) (hR : fr + 1 ≤ R.frames ∧ 8 + (1 + 11) + lo ≤ R.locals) (hn : As.length = 0) (hst : st0 = As.reverse ++ .ref (sz0 + r) :: st) (hcat : (st.map fun v => v.category).sum ≤ 8) (d : decode cc pc = .ok (.invokespecial 1, 3)) (hb : cells + mc ≤ R.cells ∧ slots + ms ≤ R.slots) : ∀ (ls : Array Slot) (H : Heap) (locs : List Loc), lv_has ls nL lv → Wd D cA sz0 H0 M H → va_S (Aw sz0) s.heap H locs → va_Run p l e R s m args below meth c H locs cells slots mc ms (F0 m pc ls st0) st (Qc (Value.ref (sz0 + r) :: As).toArray) (Aw sz0) := r_IN cx hM (nst_in q675 rfl) q663 q139 q664 rfl hd_X12_init hR hn hst hcat d hb
theorem kcq689_X13 {p : Program} {l : Launch} {e : Env} {R : Room} {s : State} {m : MethodId} {args : Array Value} {below : List Frame} {meth : Method} {c : Code} {cells slots : Nat}  {cc : ByteArray} {nL : Nat} {ret : Option FieldType} {D : va_G} {cA : Nat → ClassId} {sz0 : Nat} {H0 : Heap} {pc : Nat} {lv : List (Nat × Value)} {st : List Value} {M : WM} {r : Nat} {mc ms fr lo : Nat} {st0 As : List Value} {Qc : Array Value → State → Outcome → State → Prop} (cx : Cx p s m args meth c cc nL RX13 ret D cA sz0 H0) (hM : Met l yX12_init (ws_ yX12_init cX12_init 1 none) ({ frames := fr, cells := mc, slots := ms, locals := lo } : Room) (PcW D cA sz0 H0 (.ref (sz0 + r) :: As) M) Qc mc ms (Aw sz0)) (hR : fr + 1 ≤ R.frames ∧ 8 + (1 + 11) + lo ≤ R.locals) (hn : As.length = 0) (hst : st0 = As.reverse ++ .ref (sz0 + r) :: st) (hcat : (st.map fun v => v.category).sum ≤ 8) (d : decode cc pc = .ok (.invokespecial 1, 3)) (hb : cells + mc ≤ R.cells ∧ slots + ms ≤ R.slots) : ∀ (ls : Array Slot) (H : Heap) (locs : List Loc), lv_has ls nL lv → Wd D cA sz0 H0 M H → va_S (Aw sz0) s.heap H locs → va_Run p l e R s m args below meth c H locs cells slots mc ms (F0 m pc ls st0) st (Qc (Value.ref (sz0 + r) :: As).toArray) (Aw sz0) := r_IN cx hM (nst_in q689 rfl) q663 q139 q664 rfl hd_X12_init hR hn hst hcat d hb
/-! LetterHeaps$Text.<init>()V -/
def m_X1_init (t : Nat) (M : WM) (bc bs : Nat) (Q : WM → Prop) : Prop := ((0 + 1 ≤ bc ∧ 0 + 12 ≤ bs) ∧ (∀ r2, r2 = wn M → (∀ M3 : WM, M3 = wNw M 100 12 → (wk M3 t = 1 ∧ (∀ M5 : WM, M5 = wPR M3 t 0 (some r2) → (((0 + 1) + 1 ≤ bc ∧ (0 + 12) + 12 ≤ bs) ∧ (∀ r7, r7 = wn M5 → (∀ M8 : WM, M8 = wNw M5 108 12 → (wk M8 t = 1 ∧ (∀ M10 : WM, M10 = wPR M8 t 1 (some r7) → ((((0 + 1) + 1) + 1 ≤ bc ∧ ((0 + 12) + 12) + 12 ≤ bs) ∧ (∀ r12, r12 = wn M10 → (∀ M13 : WM, M13 = wNw M10 109 12 → (wk M13 t = 1 ∧ (∀ M15 : WM, M15 = wPR M13 t 2 (some r12) → (((((0 + 1) + 1) + 1) ≤ bc ∧ (((0 + 12) + 12) + 12) ≤ bs) ∧ Q M15))))))))))))))))
theorem c_X1_init (l : Launch) (D : va_G) (cA : Nat → ClassId) (sz0 : Nat) (H0 : Heap) (M : WM) (t : Nat)  (bc bs : Nat) (Q : WM → Prop)  (h : m_X1_init t M bc bs Q) : Met l yX1_init (ws_ yX1_init cX1_init 1 none) ({ frames := 1, cells := bc, slots := bs, locals := 20 } : Room) (PcW D cA sz0 H0 [.ref (sz0 + t)] M) (QW_v D cA sz0 H0 (fun M' => Q M')) bc bs (Aw sz0) := by
  replace h : ((0 + 1 ≤ bc ∧ 0 + 12 ≤ bs) ∧ (∀ r2, r2 = wn M → (∀ M3 : WM, M3 = wNw M 100 12 → (wk M3 t = 1 ∧ (∀ M5 : WM, M5 = wPR M3 t 0 (some r2) → (((0 + 1) + 1 ≤ bc ∧ (0 + 12) + 12 ≤ bs) ∧ (∀ r7, r7 = wn M5 → (∀ M8 : WM, M8 = wNw M5 108 12 → (wk M8 t = 1 ∧ (∀ M10 : WM, M10 = wPR M8 t 1 (some r7) → ((((0 + 1) + 1) + 1 ≤ bc ∧ ((0 + 12) + 12) + 12 ≤ bs) ∧ (∀ r12, r12 = wn M10 → (∀ M13 : WM, M13 = wNw M10 109 12 → (wk M13 t = 1 ∧ (∀ M15 : WM, M15 = wPR M13 t 2 (some r12) → (((((0 + 1) + 1) + 1) ≤ bc ∧ (((0 + 12) + 12) + 12) ≤ bs) ∧ Q M15)))))))))))))))) := h
  refine Met.ofV (by decide +kernel) (Nat.le_of_ble_eq_true rfl) ?_
  intro p e s m args below meth c cx hnm
  replace cx : Cx p s m args meth c cX1_init 1 RX1 none D cA sz0 H0 := cx
  refine v_sub (lv' := [(0, .ref (sz0 + t))]) [0] rfl ?_
  refine v_aload_n (pc := 0) cx dX1_init_0 rfl 0 rfl ?_
  refine v_objInit (pc := 1) cx q160 q151 q152 dX1_init_1 ⟨Nat.le_of_ble_eq_true rfl, Nat.le_of_ble_eq_true rfl⟩ ?_
  refine v_aload_n (pc := 4) cx dX1_init_4 rfl 0 rfl ?_
  refine v_bipush (pc := 5) cx dX1_init_5 bc_12 ?_
  obtain ⟨q1, h⟩ := h
  refine v_newa100 (pc := 7) cx (n := 12) (by decide +kernel) (by decide +kernel) q184 (Nat.le_of_ble_eq_true rfl) q1.1 q1.2 dX1_init_7 ?_
  refine v_topr (fun r2 er2 => ?_)
  replace h := h r2 er2
  refine v_wld (fun M3 eM3 => ?_)
  replace h := h M3 eM3
  obtain ⟨k4, h⟩ := h
  refine pq165_X1 (pc := 9) cx (x := some r2) hnm dX1_init_9 k4 ?_
  refine v_wld (fun M5 eM5 => ?_)
  replace h := h M5 eM5
  refine v_aload_n (pc := 12) cx dX1_init_12 rfl 0 rfl ?_
  refine v_bipush (pc := 13) cx dX1_init_13 bc_12 ?_
  obtain ⟨q6, h⟩ := h
  refine v_anew (pc := 15) cx (kd := 108) (by decide) (by decide) rfl (n := 12) (by decide +kernel) (by decide +kernel) q161 q162 (Nat.le_of_ble_eq_true rfl) q6.1 q6.2 dX1_init_15 ?_
  refine v_topr (fun r7 er7 => ?_)
  replace h := h r7 er7
  refine v_wld (fun M8 eM8 => ?_)
  replace h := h M8 eM8
  obtain ⟨k9, h⟩ := h
  refine pq167_X1 (pc := 18) cx (x := some r7) hnm dX1_init_18 k9 ?_
  refine v_wld (fun M10 eM10 => ?_)
  replace h := h M10 eM10
  refine v_aload_n (pc := 21) cx dX1_init_21 rfl 0 rfl ?_
  refine v_bipush (pc := 22) cx dX1_init_22 bc_12 ?_
  obtain ⟨q11, h⟩ := h
  refine v_anew (pc := 24) cx (kd := 109) (by decide) (by decide) rfl (n := 12) (by decide +kernel) (by decide +kernel) q163 q164 (Nat.le_of_ble_eq_true rfl) q11.1 q11.2 dX1_init_24 ?_
  refine v_topr (fun r12 er12 => ?_)
  replace h := h r12 er12
  refine v_wld (fun M13 eM13 => ?_)
  replace h := h M13 eM13
  obtain ⟨k14, h⟩ := h
  refine pq169_X1 (pc := 27) cx (x := some r12) hnm dX1_init_27 k14 ?_
  refine v_wld (fun M15 eM15 => ?_)
  replace h := h M15 eM15
  obtain ⟨q16, h⟩ := h
  exact v_vret cx rfl dX1_init_30 q16 h
/-! LetterHeaps$Sum.<init>()V -/
def m_X8_init (t : Nat)   (Q : Prop) : Prop := Q
theorem c_X8_init (l : Launch) (D : va_G) (cA : Nat → ClassId) (sz0 : Nat) (H0 : Heap) (M : WM) (t : Nat)   (Q : Prop) (sh : Shp M) (h : m_X8_init t   Q) : Met l yX8_init (ws_ yX8_init cX8_init 1 none) ({ frames := 1, cells := 0, slots := 0, locals := 20 } : Room) (PcW D cA sz0 H0 [.ref (sz0 + t)] M) (QW_v D cA sz0 H0 (fun M' => M' = M ∧ Q)) 0 0 (Aw sz0) := by
  replace h : Q := h
  refine Met.ofV (by decide +kernel) (Nat.le_of_ble_eq_true rfl) ?_
  intro p e s m args below meth c cx hnm
  replace cx : Cx p s m args meth c cX8_init 1 RX8 none D cA sz0 H0 := cx
  refine v_sub (lv' := [(0, .ref (sz0 + t))]) [0] rfl ?_
  refine v_aload_n (pc := 0) cx dX8_init_0 rfl 0 rfl ?_
  refine v_objInit (pc := 1) cx q526 q151 q152 dX8_init_1 ⟨Nat.le_of_ble_eq_true rfl, Nat.le_of_ble_eq_true rfl⟩ ?_
  exact v_vret cx rfl dX8_init_4 ⟨Nat.le_of_ble_eq_true rfl, Nat.le_of_ble_eq_true rfl⟩ ⟨rfl, h⟩
/-! LetterHeaps$Number.<init>(I)V -/
def m_X10_init (t : Nat) (x1 : Int32) (M : WM)  (Q : WM → Prop) : Prop := (m_X8_init t ((wk M t = 8 ∧ (∀ M3 : WM, M3 = wPI M t 0 x1 → Q M3))))
theorem c_X10_init (l : Launch) (D : va_G) (cA : Nat → ClassId) (sz0 : Nat) (H0 : Heap) (M : WM) (t : Nat) (x1 : Int32)   (Q : WM → Prop) (sh : Shp M) (h : m_X10_init t x1 M  Q) : Met l yX10_init (ws_ yX10_init cX10_init 2 none) ({ frames := 2, cells := 0, slots := 0, locals := 40 } : Room) (PcW D cA sz0 H0 [.ref (sz0 + t), .int x1] M) (QW_v D cA sz0 H0 (fun M' => Q M' ∧ Shp M')) 0 0 (Aw sz0) := by
  replace h : (m_X8_init t ((wk M t = 8 ∧ (∀ M3 : WM, M3 = wPI M t 0 x1 → Q M3)))) := h
  refine Met.ofV (by decide +kernel) (Nat.le_of_ble_eq_true rfl) ?_
  intro p e s m args below meth c cx hnm
  replace cx : Cx p s m args meth c cX10_init 2 RX10 none D cA sz0 H0 := cx
  refine v_sub (lv' := [(0, .ref (sz0 + t)), (1, .int x1)]) [0, 1] rfl ?_
  refine v_aload_n (pc := 0) cx dX10_init_0 rfl 0 rfl ?_
  refine v_runp_v (pc := 1) cx (kcq523_X10 cx (c_X8_init l D cA sz0 H0 M t  _ sh h) ⟨Nat.le_of_ble_eq_true rfl, Nat.le_of_ble_eq_true rfl⟩ (As := []) rfl rfl (Nat.le_of_ble_eq_true rfl) dX10_init_1 ⟨Nat.le_of_ble_eq_true rfl, Nat.le_of_ble_eq_true rfl⟩) (fun hq => ?_)
  replace h := hq
  refine v_aload_n (pc := 4) cx dX10_init_4 rfl 0 rfl ?_
  refine v_iload_n (pc := 5) cx dX10_init_5 rfl 1 rfl ?_
  obtain ⟨k2, h⟩ := h
  refine pq527_X10 (pc := 6) cx hnm dX10_init_6 k2 ?_
  refine v_wld (fun M3 eM3 => ?_)
  replace h := h M3 eM3
  replace sh : Shp M3 := Shp_PI sh eM3
  exact v_vret cx rfl dX10_init_9 ⟨Nat.le_of_ble_eq_true rfl, Nat.le_of_ble_eq_true rfl⟩ ⟨h, sh⟩
/-! LetterHeaps$Letter.<init>(I)V -/
def m_X11_init (t : Nat) (x1 : Int32) (M : WM)  (Q : WM → Prop) : Prop := (m_X8_init t ((wk M t = 9 ∧ (∀ M3 : WM, M3 = wPI M t 0 x1 → Q M3))))
theorem c_X11_init (l : Launch) (D : va_G) (cA : Nat → ClassId) (sz0 : Nat) (H0 : Heap) (M : WM) (t : Nat) (x1 : Int32)   (Q : WM → Prop) (sh : Shp M) (h : m_X11_init t x1 M  Q) : Met l yX11_init (ws_ yX11_init cX11_init 2 none) ({ frames := 2, cells := 0, slots := 0, locals := 40 } : Room) (PcW D cA sz0 H0 [.ref (sz0 + t), .int x1] M) (QW_v D cA sz0 H0 (fun M' => Q M' ∧ Shp M')) 0 0 (Aw sz0) := by
  replace h : (m_X8_init t ((wk M t = 9 ∧ (∀ M3 : WM, M3 = wPI M t 0 x1 → Q M3)))) := h
  refine Met.ofV (by decide +kernel) (Nat.le_of_ble_eq_true rfl) ?_
  intro p e s m args below meth c cx hnm
  replace cx : Cx p s m args meth c cX11_init 2 RX11 none D cA sz0 H0 := cx
  refine v_sub (lv' := [(0, .ref (sz0 + t)), (1, .int x1)]) [0, 1] rfl ?_
  refine v_aload_n (pc := 0) cx dX11_init_0 rfl 0 rfl ?_
  refine v_runp_v (pc := 1) cx (kcq623_X11 cx (c_X8_init l D cA sz0 H0 M t  _ sh h) ⟨Nat.le_of_ble_eq_true rfl, Nat.le_of_ble_eq_true rfl⟩ (As := []) rfl rfl (Nat.le_of_ble_eq_true rfl) dX11_init_1 ⟨Nat.le_of_ble_eq_true rfl, Nat.le_of_ble_eq_true rfl⟩) (fun hq => ?_)
  replace h := hq
  refine v_aload_n (pc := 4) cx dX11_init_4 rfl 0 rfl ?_
  refine v_iload_n (pc := 5) cx dX11_init_5 rfl 1 rfl ?_
  obtain ⟨k2, h⟩ := h
  refine pq624_X11 (pc := 6) cx hnm dX11_init_6 k2 ?_
  refine v_wld (fun M3 eM3 => ?_)
  replace h := h M3 eM3
  replace sh : Shp M3 := Shp_PI sh eM3
  exact v_vret cx rfl dX11_init_9 ⟨Nat.le_of_ble_eq_true rfl, Nat.le_of_ble_eq_true rfl⟩ ⟨h, sh⟩
/-! LetterHeaps$Condition.<init>()V -/
def m_X12_init (t : Nat)   (Q : Prop) : Prop := Q
theorem c_X12_init (l : Launch) (D : va_G) (cA : Nat → ClassId) (sz0 : Nat) (H0 : Heap) (M : WM) (t : Nat)   (Q : Prop) (sh : Shp M) (h : m_X12_init t   Q) : Met l yX12_init (ws_ yX12_init cX12_init 1 none) ({ frames := 1, cells := 0, slots := 0, locals := 20 } : Room) (PcW D cA sz0 H0 [.ref (sz0 + t)] M) (QW_v D cA sz0 H0 (fun M' => M' = M ∧ Q)) 0 0 (Aw sz0) := by
  replace h : Q := h
  refine Met.ofV (by decide +kernel) (Nat.le_of_ble_eq_true rfl) ?_
  intro p e s m args below meth c cx hnm
  replace cx : Cx p s m args meth c cX12_init 1 RX12 none D cA sz0 H0 := cx
  refine v_sub (lv' := [(0, .ref (sz0 + t))]) [0] rfl ?_
  refine v_aload_n (pc := 0) cx dX12_init_0 rfl 0 rfl ?_
  refine v_objInit (pc := 1) cx q665 q151 q152 dX12_init_1 ⟨Nat.le_of_ble_eq_true rfl, Nat.le_of_ble_eq_true rfl⟩ ?_
  exact v_vret cx rfl dX12_init_4 ⟨Nat.le_of_ble_eq_true rfl, Nat.le_of_ble_eq_true rfl⟩ ⟨rfl, h⟩
/-! LetterHeaps$Some.<init>(LLetterHeaps$Condition;I)V -/
def m_X13_init (t : Nat) (x1 : Option Nat) (x2 : Int32) (M : WM)  (Q : WM → Prop) : Prop := (m_X12_init t ((wk M t = 10 ∧ (shR t 0 = none ∧ (∀ M4 : WM, M4 = wPR M t 0 x1 → (wk M4 t = 10 ∧ (∀ M6 : WM, M6 = wPI M4 t 1 x2 → Q M6)))))))
theorem c_X13_init (l : Launch) (D : va_G) (cA : Nat → ClassId) (sz0 : Nat) (H0 : Heap) (M : WM) (t : Nat) (x1 : Option Nat) (x2 : Int32)   (Q : WM → Prop) (sh : Shp M) (h : m_X13_init t x1 x2 M  Q) : Met l yX13_init (ws_ yX13_init cX13_init 3 none) ({ frames := 2, cells := 0, slots := 0, locals := 40 } : Room) (PcW D cA sz0 H0 [.ref (sz0 + t), vr sz0 x1, .int x2] M) (QW_v D cA sz0 H0 (fun M' => Q M' ∧ Shp M')) 0 0 (Aw sz0) := by
  replace h : (m_X12_init t ((wk M t = 10 ∧ (shR t 0 = none ∧ (∀ M4 : WM, M4 = wPR M t 0 x1 → (wk M4 t = 10 ∧ (∀ M6 : WM, M6 = wPI M4 t 1 x2 → Q M6))))))) := h
  refine Met.ofV (by decide +kernel) (by rcases x1 with _ | _ <;> exact Nat.le_of_ble_eq_true rfl) ?_
  intro p e s m args below meth c cx hnm
  replace cx : Cx p s m args meth c cX13_init 3 RX13 none D cA sz0 H0 := cx
  refine v_sub (lv' := [(0, .ref (sz0 + t)), (1, vr sz0 x1), (2, .int x2)]) [0, 1, 2] (by rcases x1 with _ | _ <;> rfl) ?_
  refine v_aload_n (pc := 0) cx dX13_init_0 rfl 0 rfl ?_
  refine v_runp_v (pc := 1) cx (kcq689_X13 cx (c_X12_init l D cA sz0 H0 M t  _ sh h) ⟨Nat.le_of_ble_eq_true rfl, Nat.le_of_ble_eq_true rfl⟩ (As := []) rfl rfl (Nat.le_of_ble_eq_true rfl) dX13_init_1 ⟨Nat.le_of_ble_eq_true rfl, Nat.le_of_ble_eq_true rfl⟩) (fun hq => ?_)
  replace h := hq
  refine v_aload_n (pc := 4) cx dX13_init_4 rfl 0 rfl ?_
  refine v_aload_nQ (pc := 5) cx dX13_init_5 rfl 1 rfl ?_
  obtain ⟨k2, h⟩ := h
  obtain ⟨q3, h⟩ := h
  refine pq690_X13 (pc := 6) cx hnm dX13_init_6 k2 ?_
  refine v_wld (fun M4 eM4 => ?_)
  replace h := h M4 eM4
  replace sh : Shp M4 := Shp_PR sh q3 eM4
  refine v_aload_n (pc := 9) cx dX13_init_9 rfl 0 rfl ?_
  refine v_iload_n (pc := 10) cx dX13_init_10 rfl 2 rfl ?_
  obtain ⟨k5, h⟩ := h
  refine pq691_X13 (pc := 11) cx hnm dX13_init_11 k5 ?_
  refine v_wld (fun M6 eM6 => ?_)
  replace h := h M6 eM6
  replace sh : Shp M6 := Shp_PI sh eM6
  exact v_vret cx rfl dX13_init_14 ⟨Nat.le_of_ble_eq_true rfl, Nat.le_of_ble_eq_true rfl⟩ ⟨h, sh⟩
/-! LetterHeaps$Not.<init>(LLetterHeaps$Condition;)V -/
def m_X14_init (t : Nat) (x1 : Option Nat) (M : WM)  (Q : WM → Prop) : Prop := (m_X12_init t ((wk M t = 11 ∧ (shR t 0 = none ∧ (∀ M4 : WM, M4 = wPR M t 0 x1 → Q M4)))))
theorem c_X14_init (l : Launch) (D : va_G) (cA : Nat → ClassId) (sz0 : Nat) (H0 : Heap) (M : WM) (t : Nat) (x1 : Option Nat)   (Q : WM → Prop) (sh : Shp M) (h : m_X14_init t x1 M  Q) : Met l yX14_init (ws_ yX14_init cX14_init 2 none) ({ frames := 2, cells := 0, slots := 0, locals := 40 } : Room) (PcW D cA sz0 H0 [.ref (sz0 + t), vr sz0 x1] M) (QW_v D cA sz0 H0 (fun M' => Q M' ∧ Shp M')) 0 0 (Aw sz0) := by
  replace h : (m_X12_init t ((wk M t = 11 ∧ (shR t 0 = none ∧ (∀ M4 : WM, M4 = wPR M t 0 x1 → Q M4))))) := h
  refine Met.ofV (by decide +kernel) (by rcases x1 with _ | _ <;> exact Nat.le_of_ble_eq_true rfl) ?_
  intro p e s m args below meth c cx hnm
  replace cx : Cx p s m args meth c cX14_init 2 RX14 none D cA sz0 H0 := cx
  refine v_sub (lv' := [(0, .ref (sz0 + t)), (1, vr sz0 x1)]) [0, 1] (by rcases x1 with _ | _ <;> rfl) ?_
  refine v_aload_n (pc := 0) cx dX14_init_0 rfl 0 rfl ?_
  refine v_runp_v (pc := 1) cx (kcq662_X14 cx (c_X12_init l D cA sz0 H0 M t  _ sh h) ⟨Nat.le_of_ble_eq_true rfl, Nat.le_of_ble_eq_true rfl⟩ (As := []) rfl rfl (Nat.le_of_ble_eq_true rfl) dX14_init_1 ⟨Nat.le_of_ble_eq_true rfl, Nat.le_of_ble_eq_true rfl⟩) (fun hq => ?_)
  replace h := hq
  refine v_aload_n (pc := 4) cx dX14_init_4 rfl 0 rfl ?_
  refine v_aload_nQ (pc := 5) cx dX14_init_5 rfl 1 rfl ?_
  obtain ⟨k2, h⟩ := h
  obtain ⟨q3, h⟩ := h
  refine pq666_X14 (pc := 6) cx hnm dX14_init_6 k2 ?_
  refine v_wld (fun M4 eM4 => ?_)
  replace h := h M4 eM4
  replace sh : Shp M4 := Shp_PR sh q3 eM4
  exact v_vret cx rfl dX14_init_9 ⟨Nat.le_of_ble_eq_true rfl, Nat.le_of_ble_eq_true rfl⟩ ⟨h, sh⟩
/-! LetterHeaps$Compared.<init>(LLetterHeaps$Sum;ILLetterHeaps$Sum;)V -/
def m_X15_init (t : Nat) (x1 : Option Nat) (x2 : Int32) (x3 : Option Nat) (M : WM)  (Q : WM → Prop) : Prop := (m_X12_init t ((wk M t = 12 ∧ (shR t 0 = none ∧ (∀ M4 : WM, M4 = wPR M t 0 x1 → (wk M4 t = 12 ∧ (∀ M6 : WM, M6 = wPI M4 t 2 x2 → (wk M6 t = 12 ∧ (shR t 1 = none ∧ (∀ M9 : WM, M9 = wPR M6 t 1 x3 → Q M9))))))))))
theorem c_X15_init (l : Launch) (D : va_G) (cA : Nat → ClassId) (sz0 : Nat) (H0 : Heap) (M : WM) (t : Nat) (x1 : Option Nat) (x2 : Int32) (x3 : Option Nat)   (Q : WM → Prop) (sh : Shp M) (h : m_X15_init t x1 x2 x3 M  Q) : Met l yX15_init (ws_ yX15_init cX15_init 4 none) ({ frames := 2, cells := 0, slots := 0, locals := 40 } : Room) (PcW D cA sz0 H0 [.ref (sz0 + t), vr sz0 x1, .int x2, vr sz0 x3] M) (QW_v D cA sz0 H0 (fun M' => Q M' ∧ Shp M')) 0 0 (Aw sz0) := by
  replace h : (m_X12_init t ((wk M t = 12 ∧ (shR t 0 = none ∧ (∀ M4 : WM, M4 = wPR M t 0 x1 → (wk M4 t = 12 ∧ (∀ M6 : WM, M6 = wPI M4 t 2 x2 → (wk M6 t = 12 ∧ (shR t 1 = none ∧ (∀ M9 : WM, M9 = wPR M6 t 1 x3 → Q M9)))))))))) := h
  refine Met.ofV (by decide +kernel) (by rcases x1 with _ | _ <;> rcases x3 with _ | _ <;> exact Nat.le_of_ble_eq_true rfl) ?_
  intro p e s m args below meth c cx hnm
  replace cx : Cx p s m args meth c cX15_init 4 RX15 none D cA sz0 H0 := cx
  refine v_sub (lv' := [(0, .ref (sz0 + t)), (1, vr sz0 x1), (2, .int x2), (3, vr sz0 x3)]) [0, 1, 2, 3] (by rcases x1 with _ | _ <;> rcases x3 with _ | _ <;> rfl) ?_
  refine v_aload_n (pc := 0) cx dX15_init_0 rfl 0 rfl ?_
  refine v_runp_v (pc := 1) cx (kcq675_X15 cx (c_X12_init l D cA sz0 H0 M t  _ sh h) ⟨Nat.le_of_ble_eq_true rfl, Nat.le_of_ble_eq_true rfl⟩ (As := []) rfl rfl (Nat.le_of_ble_eq_true rfl) dX15_init_1 ⟨Nat.le_of_ble_eq_true rfl, Nat.le_of_ble_eq_true rfl⟩) (fun hq => ?_)
  replace h := hq
  refine v_aload_n (pc := 4) cx dX15_init_4 rfl 0 rfl ?_
  refine v_aload_nQ (pc := 5) cx dX15_init_5 rfl 1 rfl ?_
  obtain ⟨k2, h⟩ := h
  obtain ⟨q3, h⟩ := h
  refine pq676_X15 (pc := 6) cx hnm dX15_init_6 k2 ?_
  refine v_wld (fun M4 eM4 => ?_)
  replace h := h M4 eM4
  replace sh : Shp M4 := Shp_PR sh q3 eM4
  refine v_aload_n (pc := 9) cx dX15_init_9 rfl 0 rfl ?_
  refine v_iload_n (pc := 10) cx dX15_init_10 rfl 2 rfl ?_
  obtain ⟨k5, h⟩ := h
  refine pq678_X15 (pc := 11) cx hnm dX15_init_11 k5 ?_
  refine v_wld (fun M6 eM6 => ?_)
  replace h := h M6 eM6
  replace sh : Shp M6 := Shp_PI sh eM6
  refine v_aload_n (pc := 14) cx dX15_init_14 rfl 0 rfl ?_
  refine v_aload_nQ (pc := 15) cx dX15_init_15 rfl 3 rfl ?_
  obtain ⟨k7, h⟩ := h
  obtain ⟨q8, h⟩ := h
  refine pq677_X15 (pc := 16) cx hnm dX15_init_16 k7 ?_
  refine v_wld (fun M9 eM9 => ?_)
  replace h := h M9 eM9
  replace sh : Shp M9 := Shp_PR sh q8 eM9
  exact v_vret cx rfl dX15_init_19 ⟨Nat.le_of_ble_eq_true rfl, Nat.le_of_ble_eq_true rfl⟩ ⟨h, sh⟩
/-! LetterHeaps$Row.<init>(ILLetterHeaps$Sum;)V -/
def m_X9_init (t : Nat) (x1 : Int32) (x2 : Option Nat) (M : WM)  (Q : WM → Prop) : Prop := (m_X8_init t ((wk M t = 7 ∧ (∀ M3 : WM, M3 = wPI M t 0 x1 → (wk M3 t = 7 ∧ (shR t 1 = none ∧ (∀ M6 : WM, M6 = wPR M3 t 1 x2 → Q M6)))))))
theorem c_X9_init (l : Launch) (D : va_G) (cA : Nat → ClassId) (sz0 : Nat) (H0 : Heap) (M : WM) (t : Nat) (x1 : Int32) (x2 : Option Nat)   (Q : WM → Prop) (sh : Shp M) (h : m_X9_init t x1 x2 M  Q) : Met l yX9_init (ws_ yX9_init cX9_init 3 none) ({ frames := 2, cells := 0, slots := 0, locals := 40 } : Room) (PcW D cA sz0 H0 [.ref (sz0 + t), .int x1, vr sz0 x2] M) (QW_v D cA sz0 H0 (fun M' => Q M' ∧ Shp M')) 0 0 (Aw sz0) := by
  replace h : (m_X8_init t ((wk M t = 7 ∧ (∀ M3 : WM, M3 = wPI M t 0 x1 → (wk M3 t = 7 ∧ (shR t 1 = none ∧ (∀ M6 : WM, M6 = wPR M3 t 1 x2 → Q M6))))))) := h
  refine Met.ofV (by decide +kernel) (by rcases x2 with _ | _ <;> exact Nat.le_of_ble_eq_true rfl) ?_
  intro p e s m args below meth c cx hnm
  replace cx : Cx p s m args meth c cX9_init 3 RX9 none D cA sz0 H0 := cx
  refine v_sub (lv' := [(0, .ref (sz0 + t)), (1, .int x1), (2, vr sz0 x2)]) [0, 1, 2] (by rcases x2 with _ | _ <;> rfl) ?_
  refine v_aload_n (pc := 0) cx dX9_init_0 rfl 0 rfl ?_
  refine v_runp_v (pc := 1) cx (kcq631_X9 cx (c_X8_init l D cA sz0 H0 M t  _ sh h) ⟨Nat.le_of_ble_eq_true rfl, Nat.le_of_ble_eq_true rfl⟩ (As := []) rfl rfl (Nat.le_of_ble_eq_true rfl) dX9_init_1 ⟨Nat.le_of_ble_eq_true rfl, Nat.le_of_ble_eq_true rfl⟩) (fun hq => ?_)
  replace h := hq
  refine v_aload_n (pc := 4) cx dX9_init_4 rfl 0 rfl ?_
  refine v_iload_n (pc := 5) cx dX9_init_5 rfl 1 rfl ?_
  obtain ⟨k2, h⟩ := h
  refine pq632_X9 (pc := 6) cx hnm dX9_init_6 k2 ?_
  refine v_wld (fun M3 eM3 => ?_)
  replace h := h M3 eM3
  replace sh : Shp M3 := Shp_PI sh eM3
  refine v_aload_n (pc := 9) cx dX9_init_9 rfl 0 rfl ?_
  refine v_aload_nQ (pc := 10) cx dX9_init_10 rfl 2 rfl ?_
  obtain ⟨k4, h⟩ := h
  obtain ⟨q5, h⟩ := h
  refine pq633_X9 (pc := 11) cx hnm dX9_init_11 k4 ?_
  refine v_wld (fun M6 eM6 => ?_)
  replace h := h M6 eM6
  replace sh : Shp M6 := Shp_PR sh q5 eM6
  exact v_vret cx rfl dX9_init_14 ⟨Nat.le_of_ble_eq_true rfl, Nat.le_of_ble_eq_true rfl⟩ ⟨h, sh⟩
