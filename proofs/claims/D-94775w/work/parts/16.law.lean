set_option maxRecDepth 100000
theorem bc_31 : (Int8.ofInt 31).toInt32 = (31 : Int32) := by decide
theorem ii_6 (x : Int32) : x + Int32.ofInt 6 = x + (6 : Int32) := by rw [show Int32.ofInt 6 = (6 : Int32) by decide]
theorem hd_X0_count : yX0_count.cls ≠ "java/lang/invoke/MethodHandle" ∧ yX0_count.cls ≠ "java/lang/invoke/VarHandle" ∧ (parseMethodDescriptor yX0_count.desc).map (fun d => d.parameters.length) = some 1 := by decide +kernel
theorem kcq1003_L {p : Program} {l : Launch} {e : Env} {R : Room} {s : State} {m : MethodId} {args : Array Value} {below : List Frame} {meth : Method} {c : Code} {cells slots : Nat}  {cc : ByteArray} {nL : Nat} {ret : Option FieldType} {D : va_G} {cA : Nat → ClassId} {sz0 : Nat} {H0 : Heap} {pc : Nat} {lv : List (Nat × Value)} {st : List Value} {M : WM} {r : Nat} {mc ms fr lo : Nat} {st0 As : List Value} {Qc : Array Value → State → Outcome → State → Prop} (cx : Cx p s m args meth c cc nL RL ret D cA sz0 H0) (hM : Met l yX0_count (ws_ yX0_count cX0_count 2 (some .int)) ({ frames := fr, cells := mc, slots := ms, locals := lo } : Room) (PcW D cA sz0 H0 (.ref (sz0 + r) :: As) M) Qc mc ms (Aw sz0)) (hR : fr + 1 ≤ R.frames ∧ 8 + (2 + 11) + lo ≤ R.locals) (hk : wk M r = 0) (hn : As.length = 1) (hst : st0 = As.reverse ++ .ref (sz0 + r) :: st) (hcat : (st.map fun v => v.category).sum ≤ 8) (d : decode cc pc = .ok (.invokevirtual 132, 3)) (hb : cells + mc ≤ R.cells ∧ slots + ms ≤ R.slots) : ∀ (ls : Array Slot) (H : Heap) (locs : List Loc), lv_has ls nL lv → Wd D cA sz0 H0 M H → va_S (Aw sz0) s.heap H locs → va_Run p l e R s m args below meth c H locs cells slots mc ms (F0 m pc ls st0) st (Qc (Value.ref (sz0 + r) :: As).toArray) (Aw sz0) := r_V cx hM q1003 q1004 q1005 q121 q1006 rfl hd_X0_count hR cl_X0 (by decide) hk hn hst hcat d hb
theorem hd_X6_init : yX6_init.cls ≠ "java/lang/invoke/MethodHandle" ∧ yX6_init.cls ≠ "java/lang/invoke/VarHandle" ∧ (parseMethodDescriptor yX6_init.desc).map (fun d => d.parameters.length) = some 0 := by decide +kernel
theorem kcq1013_L {p : Program} {l : Launch} {e : Env} {R : Room} {s : State} {m : MethodId} {args : Array Value} {below : List Frame} {meth : Method} {c : Code} {cells slots : Nat}  {cc : ByteArray} {nL : Nat} {ret : Option FieldType} {D : va_G} {cA : Nat → ClassId} {sz0 : Nat} {H0 : Heap} {pc : Nat} {lv : List (Nat × Value)} {st : List Value} {M : WM} {r : Nat} {mc ms fr lo : Nat} {st0 As : List Value} {Qc : Array Value → State → Outcome → State → Prop} (cx : Cx p s m args meth c cc nL RL ret D cA sz0 H0) (hM : Met l yX6_init (ws_ yX6_init cX6_init 1 none) ({ frames := fr, cells := mc, slots := ms, locals := lo } : Room) (PcW D cA sz0 H0 (.ref (sz0 + r) :: As) M) Qc mc ms (Aw sz0)) (hR : fr + 1 ≤ R.frames ∧ 8 + (1 + 11) + lo ≤ R.locals) (hn : As.length = 0) (hst : st0 = As.reverse ++ .ref (sz0 + r) :: st) (hcat : (st.map fun v => v.category).sum ≤ 8) (d : decode cc pc = .ok (.invokespecial 12, 3)) (hb : cells + mc ≤ R.cells ∧ slots + ms ≤ R.slots) : ∀ (ls : Array Slot) (H : Heap) (locs : List Loc), lv_has ls nL lv → Wd D cA sz0 H0 M H → va_S (Aw sz0) s.heap H locs → va_Run p l e R s m args below meth c H locs cells slots mc ms (F0 m pc ls st0) st (Qc (Value.ref (sz0 + r) :: As).toArray) (Aw sz0) := r_I cx hM q1013 q1014 q127 q1015 rfl hd_X6_init hR hn hst hcat d hb
theorem hd_X6_word : yX6_word.cls ≠ "java/lang/invoke/MethodHandle" ∧ yX6_word.cls ≠ "java/lang/invoke/VarHandle" ∧ (parseMethodDescriptor yX6_word.desc).map (fun d => d.parameters.length) = some 3 := by decide +kernel
theorem kcq1181_L {p : Program} {l : Launch} {e : Env} {R : Room} {s : State} {m : MethodId} {args : Array Value} {below : List Frame} {meth : Method} {c : Code} {cells slots : Nat}  {cc : ByteArray} {nL : Nat} {ret : Option FieldType} {D : va_G} {cA : Nat → ClassId} {sz0 : Nat} {H0 : Heap} {pc : Nat} {lv : List (Nat × Value)} {st : List Value} {M : WM} {r : Nat} {mc ms fr lo : Nat} {st0 As : List Value} {Qc : Array Value → State → Outcome → State → Prop} (cx : Cx p s m args meth c cc nL RL ret D cA sz0 H0) (hM : Met l yX6_word (ws_ yX6_word cX6_word 5 (some .int)) ({ frames := fr, cells := mc, slots := ms, locals := lo } : Room) (PcW D cA sz0 H0 (.ref (sz0 + r) :: As) M) Qc mc ms (Aw sz0)) (hR : fr + 1 ≤ R.frames ∧ 8 + (5 + 11) + lo ≤ R.locals) (hk : wk M r = 5) (hn : As.length = 3) (hst : st0 = As.reverse ++ .ref (sz0 + r) :: st) (hcat : (st.map fun v => v.category).sum ≤ 8) (d : decode cc pc = .ok (.invokevirtual 22, 3)) (hb : cells + mc ≤ R.cells ∧ slots + ms ≤ R.slots) : ∀ (ls : Array Slot) (H : Heap) (locs : List Loc), lv_has ls nL lv → Wd D cA sz0 H0 M H → va_S (Aw sz0) s.heap H locs → va_Run p l e R s m args below meth c H locs cells slots mc ms (F0 m pc ls st0) st (Qc (Value.ref (sz0 + r) :: As).toArray) (Aw sz0) := r_V cx hM q1181 q1182 q1183 q127 q1184 rfl hd_X6_word hR cl_X6 (by decide) hk hn hst hcat d hb
theorem hd_X6_bar : yX6_bar.cls ≠ "java/lang/invoke/MethodHandle" ∧ yX6_bar.cls ≠ "java/lang/invoke/VarHandle" ∧ (parseMethodDescriptor yX6_bar.desc).map (fun d => d.parameters.length) = some 2 := by decide +kernel
theorem kcq1200_L {p : Program} {l : Launch} {e : Env} {R : Room} {s : State} {m : MethodId} {args : Array Value} {below : List Frame} {meth : Method} {c : Code} {cells slots : Nat}  {cc : ByteArray} {nL : Nat} {ret : Option FieldType} {D : va_G} {cA : Nat → ClassId} {sz0 : Nat} {H0 : Heap} {pc : Nat} {lv : List (Nat × Value)} {st : List Value} {M : WM} {r : Nat} {mc ms fr lo : Nat} {st0 As : List Value} {Qc : Array Value → State → Outcome → State → Prop} (cx : Cx p s m args meth c cc nL RL ret D cA sz0 H0) (hM : Met l yX6_bar (ws_ yX6_bar cX6_bar 3 (some .boolean)) ({ frames := fr, cells := mc, slots := ms, locals := lo } : Room) (PcW D cA sz0 H0 (.ref (sz0 + r) :: As) M) Qc mc ms (Aw sz0)) (hR : fr + 1 ≤ R.frames ∧ 8 + (3 + 11) + lo ≤ R.locals) (hk : wk M r = 5) (hn : As.length = 2) (hst : st0 = As.reverse ++ .ref (sz0 + r) :: st) (hcat : (st.map fun v => v.category).sum ≤ 8) (d : decode cc pc = .ok (.invokevirtual 27, 3)) (hb : cells + mc ≤ R.cells ∧ slots + ms ≤ R.slots) : ∀ (ls : Array Slot) (H : Heap) (locs : List Loc), lv_has ls nL lv → Wd D cA sz0 H0 M H → va_S (Aw sz0) s.heap H locs → va_Run p l e R s m args below meth c H locs cells slots mc ms (F0 m pc ls st0) st (Qc (Value.ref (sz0 + r) :: As).toArray) (Aw sz0) := r_V cx hM q1200 q1201 q1202 q127 q1203 rfl hd_X6_bar hR cl_X6 (by decide) hk hn hst hcat d hb
theorem hd_X6_know : yX6_know.cls ≠ "java/lang/invoke/MethodHandle" ∧ yX6_know.cls ≠ "java/lang/invoke/VarHandle" ∧ (parseMethodDescriptor yX6_know.desc).map (fun d => d.parameters.length) = some 2 := by decide +kernel
theorem kcq1208_L {p : Program} {l : Launch} {e : Env} {R : Room} {s : State} {m : MethodId} {args : Array Value} {below : List Frame} {meth : Method} {c : Code} {cells slots : Nat}  {cc : ByteArray} {nL : Nat} {ret : Option FieldType} {D : va_G} {cA : Nat → ClassId} {sz0 : Nat} {H0 : Heap} {pc : Nat} {lv : List (Nat × Value)} {st : List Value} {M : WM} {r : Nat} {mc ms fr lo : Nat} {st0 As : List Value} {Qc : Array Value → State → Outcome → State → Prop} (cx : Cx p s m args meth c cc nL RL ret D cA sz0 H0) (hM : Met l yX6_know (ws_ yX6_know cX6_know 3 (some .boolean)) ({ frames := fr, cells := mc, slots := ms, locals := lo } : Room) (PcW D cA sz0 H0 (.ref (sz0 + r) :: As) M) Qc mc ms (Aw sz0)) (hR : fr + 1 ≤ R.frames ∧ 8 + (3 + 11) + lo ≤ R.locals) (hk : wk M r = 5) (hn : As.length = 2) (hst : st0 = As.reverse ++ .ref (sz0 + r) :: st) (hcat : (st.map fun v => v.category).sum ≤ 8) (d : decode cc pc = .ok (.invokevirtual 32, 3)) (hb : cells + mc ≤ R.cells ∧ slots + ms ≤ R.slots) : ∀ (ls : Array Slot) (H : Heap) (locs : List Loc), lv_has ls nL lv → Wd D cA sz0 H0 M H → va_S (Aw sz0) s.heap H locs → va_Run p l e R s m args below meth c H locs cells slots mc ms (F0 m pc ls st0) st (Qc (Value.ref (sz0 + r) :: As).toArray) (Aw sz0) := r_V cx hM q1208 q1209 q1210 q127 q1211 rfl hd_X6_know hR cl_X6 (by decide) hk hn hst hcat d hb
theorem hd_X6_speak : yX6_speak.cls ≠ "java/lang/invoke/MethodHandle" ∧ yX6_speak.cls ≠ "java/lang/invoke/VarHandle" ∧ (parseMethodDescriptor yX6_speak.desc).map (fun d => d.parameters.length) = some 1 := by decide +kernel
theorem kcq1212_L {p : Program} {l : Launch} {e : Env} {R : Room} {s : State} {m : MethodId} {args : Array Value} {below : List Frame} {meth : Method} {c : Code} {cells slots : Nat}  {cc : ByteArray} {nL : Nat} {ret : Option FieldType} {D : va_G} {cA : Nat → ClassId} {sz0 : Nat} {H0 : Heap} {pc : Nat} {lv : List (Nat × Value)} {st : List Value} {M : WM} {r : Nat} {mc ms fr lo : Nat} {st0 As : List Value} {Qc : Array Value → State → Outcome → State → Prop} (cx : Cx p s m args meth c cc nL RL ret D cA sz0 H0) (hM : Met l yX6_speak (ws_ yX6_speak cX6_speak 2 (some .boolean)) ({ frames := fr, cells := mc, slots := ms, locals := lo } : Room) (PcW D cA sz0 H0 (.ref (sz0 + r) :: As) M) Qc mc ms (Aw sz0)) (hR : fr + 1 ≤ R.frames ∧ 8 + (2 + 11) + lo ≤ R.locals) (hk : wk M r = 5) (hn : As.length = 1) (hst : st0 = As.reverse ++ .ref (sz0 + r) :: st) (hcat : (st.map fun v => v.category).sum ≤ 8) (d : decode cc pc = .ok (.invokevirtual 37, 3)) (hb : cells + mc ≤ R.cells ∧ slots + ms ≤ R.slots) : ∀ (ls : Array Slot) (H : Heap) (locs : List Loc), lv_has ls nL lv → Wd D cA sz0 H0 M H → va_S (Aw sz0) s.heap H locs → va_Run p l e R s m args below meth c H locs cells slots mc ms (F0 m pc ls st0) st (Qc (Value.ref (sz0 + r) :: As).toArray) (Aw sz0) := r_V cx hM q1212 q1213 q1214 q127 q1215 rfl hd_X6_speak hR cl_X6 (by decide) hk hn hst hcat d hb
theorem hd_X6_off : yX6_off.cls ≠ "java/lang/invoke/MethodHandle" ∧ yX6_off.cls ≠ "java/lang/invoke/VarHandle" ∧ (parseMethodDescriptor yX6_off.desc).map (fun d => d.parameters.length) = some 0 := by decide +kernel
theorem kcq1216_L {p : Program} {l : Launch} {e : Env} {R : Room} {s : State} {m : MethodId} {args : Array Value} {below : List Frame} {meth : Method} {c : Code} {cells slots : Nat}  {cc : ByteArray} {nL : Nat} {ret : Option FieldType} {D : va_G} {cA : Nat → ClassId} {sz0 : Nat} {H0 : Heap} {pc : Nat} {lv : List (Nat × Value)} {st : List Value} {M : WM} {r : Nat} {mc ms fr lo : Nat} {st0 As : List Value} {Qc : Array Value → State → Outcome → State → Prop} (cx : Cx p s m args meth c cc nL RL ret D cA sz0 H0) (hM : Met l yX6_off (ws_ yX6_off cX6_off 1 (some .int)) ({ frames := fr, cells := mc, slots := ms, locals := lo } : Room) (PcW D cA sz0 H0 (.ref (sz0 + r) :: As) M) Qc mc ms (Aw sz0)) (hR : fr + 1 ≤ R.frames ∧ 8 + (1 + 11) + lo ≤ R.locals) (hk : wk M r = 5) (hn : As.length = 0) (hst : st0 = As.reverse ++ .ref (sz0 + r) :: st) (hcat : (st.map fun v => v.category).sum ≤ 8) (d : decode cc pc = .ok (.invokevirtual 127, 3)) (hb : cells + mc ≤ R.cells ∧ slots + ms ≤ R.slots) : ∀ (ls : Array Slot) (H : Heap) (locs : List Loc), lv_has ls nL lv → Wd D cA sz0 H0 M H → va_S (Aw sz0) s.heap H locs → va_Run p l e R s m args below meth c H locs cells slots mc ms (F0 m pc ls st0) st (Qc (Value.ref (sz0 + r) :: As).toArray) (Aw sz0) := r_V cx hM q1216 q1217 q1218 q127 q1219 rfl hd_X6_off hR cl_X6 (by decide) hk hn hst hcat d hb
theorem hd_X6_feed : yX6_feed.cls ≠ "java/lang/invoke/MethodHandle" ∧ yX6_feed.cls ≠ "java/lang/invoke/VarHandle" ∧ (parseMethodDescriptor yX6_feed.desc).map (fun d => d.parameters.length) = some 5 := by decide +kernel
theorem kcq1220_L {p : Program} {l : Launch} {e : Env} {R : Room} {s : State} {m : MethodId} {args : Array Value} {below : List Frame} {meth : Method} {c : Code} {cells slots : Nat}  {cc : ByteArray} {nL : Nat} {ret : Option FieldType} {D : va_G} {cA : Nat → ClassId} {sz0 : Nat} {H0 : Heap} {pc : Nat} {lv : List (Nat × Value)} {st : List Value} {M : WM} {r : Nat} {mc ms fr lo : Nat} {st0 As : List Value} {Qc : Array Value → State → Outcome → State → Prop} (cx : Cx p s m args meth c cc nL RL ret D cA sz0 H0) (hM : Met l yX6_feed (ws_ yX6_feed cX6_feed 6 (some .int)) ({ frames := fr, cells := mc, slots := ms, locals := lo } : Room) (PcW D cA sz0 H0 (.ref (sz0 + r) :: As) M) Qc mc ms (Aw sz0)) (hR : fr + 1 ≤ R.frames ∧ 8 + (6 + 11) + lo ≤ R.locals) (hk : wk M r = 5) (hn : As.length = 5) (hst : st0 = As.reverse ++ .ref (sz0 + r) :: st) (hcat : (st.map fun v => v.category).sum ≤ 8) (d : decode cc pc = .ok (.invokevirtual 17, 3)) (hb : cells + mc ≤ R.cells ∧ slots + ms ≤ R.slots) : ∀ (ls : Array Slot) (H : Heap) (locs : List Loc), lv_has ls nL lv → Wd D cA sz0 H0 M H → va_S (Aw sz0) s.heap H locs → va_Run p l e R s m args below meth c H locs cells slots mc ms (F0 m pc ls st0) st (Qc (Value.ref (sz0 + r) :: As).toArray) (Aw sz0) := r_V cx hM q1220 q1221 q1222 q127 q1223 rfl hd_X6_feed hR cl_X6 (by decide) hk hn hst hcat d hb
theorem hd_X6_law : yX6_law.cls ≠ "java/lang/invoke/MethodHandle" ∧ yX6_law.cls ≠ "java/lang/invoke/VarHandle" ∧ (parseMethodDescriptor yX6_law.desc).map (fun d => d.parameters.length) = some 1 := by decide +kernel
theorem kcq1228_L {p : Program} {l : Launch} {e : Env} {R : Room} {s : State} {m : MethodId} {args : Array Value} {below : List Frame} {meth : Method} {c : Code} {cells slots : Nat}  {cc : ByteArray} {nL : Nat} {ret : Option FieldType} {D : va_G} {cA : Nat → ClassId} {sz0 : Nat} {H0 : Heap} {pc : Nat} {lv : List (Nat × Value)} {st : List Value} {M : WM} {r : Nat} {mc ms fr lo : Nat} {st0 As : List Value} {Qc : Array Value → State → Outcome → State → Prop} (cx : Cx p s m args meth c cc nL RL ret D cA sz0 H0) (hM : Met l yX6_law (ws_ yX6_law cX6_law 4 (some .int)) ({ frames := fr, cells := mc, slots := ms, locals := lo } : Room) (PcW D cA sz0 H0 (.ref (sz0 + r) :: As) M) Qc mc ms (Aw sz0)) (hR : fr + 1 ≤ R.frames ∧ 8 + (4 + 11) + lo ≤ R.locals) (hk : wk M r = 5) (hn : As.length = 1) (hst : st0 = As.reverse ++ .ref (sz0 + r) :: st) (hcat : (st.map fun v => v.category).sum ≤ 8) (d : decode cc pc = .ok (.invokevirtual 42, 3)) (hb : cells + mc ≤ R.cells ∧ slots + ms ≤ R.slots) : ∀ (ls : Array Slot) (H : Heap) (locs : List Loc), lv_has ls nL lv → Wd D cA sz0 H0 M H → va_S (Aw sz0) s.heap H locs → va_Run p l e R s m args below meth c H locs cells slots mc ms (F0 m pc ls st0) st (Qc (Value.ref (sz0 + r) :: As).toArray) (Aw sz0) := r_V cx hM q1228 q1229 q1230 q127 q1231 rfl hd_X6_law hR cl_X6 (by decide) hk hn hst hcat d hb
theorem hd_X6_step : yX6_step.cls ≠ "java/lang/invoke/MethodHandle" ∧ yX6_step.cls ≠ "java/lang/invoke/VarHandle" ∧ (parseMethodDescriptor yX6_step.desc).map (fun d => d.parameters.length) = some 3 := by decide +kernel
theorem kcq1311_L {p : Program} {l : Launch} {e : Env} {R : Room} {s : State} {m : MethodId} {args : Array Value} {below : List Frame} {meth : Method} {c : Code} {cells slots : Nat}  {cc : ByteArray} {nL : Nat} {ret : Option FieldType} {D : va_G} {cA : Nat → ClassId} {sz0 : Nat} {H0 : Heap} {pc : Nat} {lv : List (Nat × Value)} {st : List Value} {M : WM} {r : Nat} {mc ms fr lo : Nat} {st0 As : List Value} {Qc : Array Value → State → Outcome → State → Prop} (cx : Cx p s m args meth c cc nL RL ret D cA sz0 H0) (hM : Met l yX6_step (ws_ yX6_step cX6_step 4 (some .int)) ({ frames := fr, cells := mc, slots := ms, locals := lo } : Room) (PcW D cA sz0 H0 (.ref (sz0 + r) :: As) M) Qc mc ms (Aw sz0)) (hR : fr + 1 ≤ R.frames ∧ 8 + (4 + 11) + lo ≤ R.locals) (hk : wk M r = 5) (hn : As.length = 3) (hst : st0 = As.reverse ++ .ref (sz0 + r) :: st) (hcat : (st.map fun v => v.category).sum ≤ 8) (d : decode cc pc = .ok (.invokevirtual 46, 3)) (hb : cells + mc ≤ R.cells ∧ slots + ms ≤ R.slots) : ∀ (ls : Array Slot) (H : Heap) (locs : List Loc), lv_has ls nL lv → Wd D cA sz0 H0 M H → va_S (Aw sz0) s.heap H locs → va_Run p l e R s m args below meth c H locs cells slots mc ms (F0 m pc ls st0) st (Qc (Value.ref (sz0 + r) :: As).toArray) (Aw sz0) := r_V cx hM q1311 q1312 q1313 q127 q1314 rfl hd_X6_step hR cl_X6 (by decide) hk hn hst hcat d hb
theorem hd_X6_least : yX6_least.cls ≠ "java/lang/invoke/MethodHandle" ∧ yX6_least.cls ≠ "java/lang/invoke/VarHandle" ∧ (parseMethodDescriptor yX6_least.desc).map (fun d => d.parameters.length) = some 3 := by decide +kernel
theorem kcq1367_L {p : Program} {l : Launch} {e : Env} {R : Room} {s : State} {m : MethodId} {args : Array Value} {below : List Frame} {meth : Method} {c : Code} {cells slots : Nat}  {cc : ByteArray} {nL : Nat} {ret : Option FieldType} {D : va_G} {cA : Nat → ClassId} {sz0 : Nat} {H0 : Heap} {pc : Nat} {lv : List (Nat × Value)} {st : List Value} {M : WM} {r : Nat} {mc ms fr lo : Nat} {st0 As : List Value} {Qc : Array Value → State → Outcome → State → Prop} (cx : Cx p s m args meth c cc nL RL ret D cA sz0 H0) (hM : Met l yX6_least (ws_ yX6_least cX6_least 7 (some .int)) ({ frames := fr, cells := mc, slots := ms, locals := lo } : Room) (PcW D cA sz0 H0 (.ref (sz0 + r) :: As) M) Qc mc ms (Aw sz0)) (hR : fr + 1 ≤ R.frames ∧ 8 + (7 + 11) + lo ≤ R.locals) (hk : wk M r = 5) (hn : As.length = 3) (hst : st0 = As.reverse ++ .ref (sz0 + r) :: st) (hcat : (st.map fun v => v.category).sum ≤ 8) (d : decode cc pc = .ok (.invokevirtual 50, 3)) (hb : cells + mc ≤ R.cells ∧ slots + ms ≤ R.slots) : ∀ (ls : Array Slot) (H : Heap) (locs : List Loc), lv_has ls nL lv → Wd D cA sz0 H0 M H → va_S (Aw sz0) s.heap H locs → va_Run p l e R s m args below meth c H locs cells slots mc ms (F0 m pc ls st0) st (Qc (Value.ref (sz0 + r) :: As).toArray) (Aw sz0) := r_V cx hM q1367 q1368 q1369 q127 q1370 rfl hd_X6_least hR cl_X6 (by decide) hk hn hst hcat d hb
theorem hd_X6_howMany : yX6_howMany.cls ≠ "java/lang/invoke/MethodHandle" ∧ yX6_howMany.cls ≠ "java/lang/invoke/VarHandle" ∧ (parseMethodDescriptor yX6_howMany.desc).map (fun d => d.parameters.length) = some 2 := by decide +kernel
theorem kcq1389_L {p : Program} {l : Launch} {e : Env} {R : Room} {s : State} {m : MethodId} {args : Array Value} {below : List Frame} {meth : Method} {c : Code} {cells slots : Nat}  {cc : ByteArray} {nL : Nat} {ret : Option FieldType} {D : va_G} {cA : Nat → ClassId} {sz0 : Nat} {H0 : Heap} {pc : Nat} {lv : List (Nat × Value)} {st : List Value} {M : WM} {r : Nat} {mc ms fr lo : Nat} {st0 As : List Value} {Qc : Array Value → State → Outcome → State → Prop} (cx : Cx p s m args meth c cc nL RL ret D cA sz0 H0) (hM : Met l yX6_howMany (ws_ yX6_howMany cX6_howMany 6 (some .long)) ({ frames := fr, cells := mc, slots := ms, locals := lo } : Room) (PcW D cA sz0 H0 (.ref (sz0 + r) :: As) M) Qc mc ms (Aw sz0)) (hR : fr + 1 ≤ R.frames ∧ 8 + (6 + 11) + lo ≤ R.locals) (hk : wk M r = 5) (hn : As.length = 2) (hst : st0 = As.reverse ++ .ref (sz0 + r) :: st) (hcat : (st.map fun v => v.category).sum ≤ 8) (d : decode cc pc = .ok (.invokevirtual 55, 3)) (hb : cells + mc ≤ R.cells ∧ slots + ms ≤ R.slots) : ∀ (ls : Array Slot) (H : Heap) (locs : List Loc), lv_has ls nL lv → Wd D cA sz0 H0 M H → va_S (Aw sz0) s.heap H locs → va_Run p l e R s m args below meth c H locs cells slots mc ms (F0 m pc ls st0) st (Qc (Value.ref (sz0 + r) :: As).toArray) (Aw sz0) := r_V cx hM q1389 q1390 q1391 q127 q1392 rfl hd_X6_howMany hR cl_X6 (by decide) hk hn hst hcat d hb
theorem hd_X6_without : yX6_without.cls ≠ "java/lang/invoke/MethodHandle" ∧ yX6_without.cls ≠ "java/lang/invoke/VarHandle" ∧ (parseMethodDescriptor yX6_without.desc).map (fun d => d.parameters.length) = some 2 := by decide +kernel
theorem kcq1402_L {p : Program} {l : Launch} {e : Env} {R : Room} {s : State} {m : MethodId} {args : Array Value} {below : List Frame} {meth : Method} {c : Code} {cells slots : Nat}  {cc : ByteArray} {nL : Nat} {ret : Option FieldType} {D : va_G} {cA : Nat → ClassId} {sz0 : Nat} {H0 : Heap} {pc : Nat} {lv : List (Nat × Value)} {st : List Value} {M : WM} {r : Nat} {mc ms fr lo : Nat} {st0 As : List Value} {Qc : Array Value → State → Outcome → State → Prop} (cx : Cx p s m args meth c cc nL RL ret D cA sz0 H0) (hM : Met l yX6_without (ws_ yX6_without cX6_without 6 (some .long)) ({ frames := fr, cells := mc, slots := ms, locals := lo } : Room) (PcW D cA sz0 H0 (.ref (sz0 + r) :: As) M) Qc mc ms (Aw sz0)) (hR : fr + 1 ≤ R.frames ∧ 8 + (6 + 11) + lo ≤ R.locals) (hk : wk M r = 5) (hn : As.length = 2) (hst : st0 = As.reverse ++ .ref (sz0 + r) :: st) (hcat : (st.map fun v => v.category).sum ≤ 8) (d : decode cc pc = .ok (.invokevirtual 59, 3)) (hb : cells + mc ≤ R.cells ∧ slots + ms ≤ R.slots) : ∀ (ls : Array Slot) (H : Heap) (locs : List Loc), lv_has ls nL lv → Wd D cA sz0 H0 M H → va_S (Aw sz0) s.heap H locs → va_Run p l e R s m args below meth c H locs cells slots mc ms (F0 m pc ls st0) st (Qc (Value.ref (sz0 + r) :: As).toArray) (Aw sz0) := r_V cx hM q1402 q1403 q1404 q127 q1405 rfl hd_X6_without hR cl_X6 (by decide) hk hn hst hcat d hb
theorem hd_X6_heap : yX6_heap.cls ≠ "java/lang/invoke/MethodHandle" ∧ yX6_heap.cls ≠ "java/lang/invoke/VarHandle" ∧ (parseMethodDescriptor yX6_heap.desc).map (fun d => d.parameters.length) = some 1 := by decide +kernel
theorem kcq1411_L {p : Program} {l : Launch} {e : Env} {R : Room} {s : State} {m : MethodId} {args : Array Value} {below : List Frame} {meth : Method} {c : Code} {cells slots : Nat}  {cc : ByteArray} {nL : Nat} {ret : Option FieldType} {D : va_G} {cA : Nat → ClassId} {sz0 : Nat} {H0 : Heap} {pc : Nat} {lv : List (Nat × Value)} {st : List Value} {M : WM} {r : Nat} {mc ms fr lo : Nat} {st0 As : List Value} {Qc : Array Value → State → Outcome → State → Prop} (cx : Cx p s m args meth c cc nL RL ret D cA sz0 H0) (hM : Met l yX6_heap (ws_ yX6_heap cX6_heap 2 (some .int)) ({ frames := fr, cells := mc, slots := ms, locals := lo } : Room) (PcW D cA sz0 H0 (.ref (sz0 + r) :: As) M) Qc mc ms (Aw sz0)) (hR : fr + 1 ≤ R.frames ∧ 8 + (2 + 11) + lo ≤ R.locals) (hk : wk M r = 5) (hn : As.length = 1) (hst : st0 = As.reverse ++ .ref (sz0 + r) :: st) (hcat : (st.map fun v => v.category).sum ≤ 8) (d : decode cc pc = .ok (.invokevirtual 63, 3)) (hb : cells + mc ≤ R.cells ∧ slots + ms ≤ R.slots) : ∀ (ls : Array Slot) (H : Heap) (locs : List Loc), lv_has ls nL lv → Wd D cA sz0 H0 M H → va_S (Aw sz0) s.heap H locs → va_Run p l e R s m args below meth c H locs cells slots mc ms (F0 m pc ls st0) st (Qc (Value.ref (sz0 + r) :: As).toArray) (Aw sz0) := r_V cx hM q1411 q1412 q1413 q127 q1414 rfl hd_X6_heap hR cl_X6 (by decide) hk hn hst hcat d hb
theorem hd_X6_heaps : yX6_heaps.cls ≠ "java/lang/invoke/MethodHandle" ∧ yX6_heaps.cls ≠ "java/lang/invoke/VarHandle" ∧ (parseMethodDescriptor yX6_heaps.desc).map (fun d => d.parameters.length) = some 0 := by decide +kernel
theorem kcq1419_L {p : Program} {l : Launch} {e : Env} {R : Room} {s : State} {m : MethodId} {args : Array Value} {below : List Frame} {meth : Method} {c : Code} {cells slots : Nat}  {cc : ByteArray} {nL : Nat} {ret : Option FieldType} {D : va_G} {cA : Nat → ClassId} {sz0 : Nat} {H0 : Heap} {pc : Nat} {lv : List (Nat × Value)} {st : List Value} {M : WM} {r : Nat} {mc ms fr lo : Nat} {st0 As : List Value} {Qc : Array Value → State → Outcome → State → Prop} (cx : Cx p s m args meth c cc nL RL ret D cA sz0 H0) (hM : Met l yX6_heaps (ws_ yX6_heaps cX6_heaps 3 (some .int)) ({ frames := fr, cells := mc, slots := ms, locals := lo } : Room) (PcW D cA sz0 H0 (.ref (sz0 + r) :: As) M) Qc mc ms (Aw sz0)) (hR : fr + 1 ≤ R.frames ∧ 8 + (3 + 11) + lo ≤ R.locals) (hk : wk M r = 5) (hn : As.length = 0) (hst : st0 = As.reverse ++ .ref (sz0 + r) :: st) (hcat : (st.map fun v => v.category).sum ≤ 8) (d : decode cc pc = .ok (.invokevirtual 68, 3)) (hb : cells + mc ≤ R.cells ∧ slots + ms ≤ R.slots) : ∀ (ls : Array Slot) (H : Heap) (locs : List Loc), lv_has ls nL lv → Wd D cA sz0 H0 M H → va_S (Aw sz0) s.heap H locs → va_Run p l e R s m args below meth c H locs cells slots mc ms (F0 m pc ls st0) st (Qc (Value.ref (sz0 + r) :: As).toArray) (Aw sz0) := r_V cx hM q1419 q1420 q1421 q127 q1422 rfl hd_X6_heaps hR cl_X6 (by decide) hk hn hst hcat d hb
theorem hd_X6_far : yX6_far.cls ≠ "java/lang/invoke/MethodHandle" ∧ yX6_far.cls ≠ "java/lang/invoke/VarHandle" ∧ (parseMethodDescriptor yX6_far.desc).map (fun d => d.parameters.length) = some 1 := by decide +kernel
theorem kcq1423_L {p : Program} {l : Launch} {e : Env} {R : Room} {s : State} {m : MethodId} {args : Array Value} {below : List Frame} {meth : Method} {c : Code} {cells slots : Nat}  {cc : ByteArray} {nL : Nat} {ret : Option FieldType} {D : va_G} {cA : Nat → ClassId} {sz0 : Nat} {H0 : Heap} {pc : Nat} {lv : List (Nat × Value)} {st : List Value} {M : WM} {r : Nat} {mc ms fr lo : Nat} {st0 As : List Value} {Qc : Array Value → State → Outcome → State → Prop} (cx : Cx p s m args meth c cc nL RL ret D cA sz0 H0) (hM : Met l yX6_far (ws_ yX6_far cX6_far 7 (some .int)) ({ frames := fr, cells := mc, slots := ms, locals := lo } : Room) (PcW D cA sz0 H0 (.ref (sz0 + r) :: As) M) Qc mc ms (Aw sz0)) (hR : fr + 1 ≤ R.frames ∧ 8 + (7 + 11) + lo ≤ R.locals) (hk : wk M r = 5) (hn : As.length = 1) (hst : st0 = As.reverse ++ .ref (sz0 + r) :: st) (hcat : (st.map fun v => v.category).sum ≤ 8) (d : decode cc pc = .ok (.invokevirtual 72, 3)) (hb : cells + mc ≤ R.cells ∧ slots + ms ≤ R.slots) : ∀ (ls : Array Slot) (H : Heap) (locs : List Loc), lv_has ls nL lv → Wd D cA sz0 H0 M H → va_S (Aw sz0) s.heap H locs → va_Run p l e R s m args below meth c H locs cells slots mc ms (F0 m pc ls st0) st (Qc (Value.ref (sz0 + r) :: As).toArray) (Aw sz0) := r_V cx hM q1423 q1424 q1425 q127 q1426 rfl hd_X6_far hR cl_X6 (by decide) hk hn hst hcat d hb
theorem hd_X6_between : yX6_between.cls ≠ "java/lang/invoke/MethodHandle" ∧ yX6_between.cls ≠ "java/lang/invoke/VarHandle" ∧ (parseMethodDescriptor yX6_between.desc).map (fun d => d.parameters.length) = some 1 := by decide +kernel
theorem kcq1427_L {p : Program} {l : Launch} {e : Env} {R : Room} {s : State} {m : MethodId} {args : Array Value} {below : List Frame} {meth : Method} {c : Code} {cells slots : Nat}  {cc : ByteArray} {nL : Nat} {ret : Option FieldType} {D : va_G} {cA : Nat → ClassId} {sz0 : Nat} {H0 : Heap} {pc : Nat} {lv : List (Nat × Value)} {st : List Value} {M : WM} {r : Nat} {mc ms fr lo : Nat} {st0 As : List Value} {Qc : Array Value → State → Outcome → State → Prop} (cx : Cx p s m args meth c cc nL RL ret D cA sz0 H0) (hM : Met l yX6_between (ws_ yX6_between cX6_between 6 (some .int)) ({ frames := fr, cells := mc, slots := ms, locals := lo } : Room) (PcW D cA sz0 H0 (.ref (sz0 + r) :: As) M) Qc mc ms (Aw sz0)) (hR : fr + 1 ≤ R.frames ∧ 8 + (6 + 11) + lo ≤ R.locals) (hk : wk M r = 5) (hn : As.length = 1) (hst : st0 = As.reverse ++ .ref (sz0 + r) :: st) (hcat : (st.map fun v => v.category).sum ≤ 8) (d : decode cc pc = .ok (.invokevirtual 76, 3)) (hb : cells + mc ≤ R.cells ∧ slots + ms ≤ R.slots) : ∀ (ls : Array Slot) (H : Heap) (locs : List Loc), lv_has ls nL lv → Wd D cA sz0 H0 M H → va_S (Aw sz0) s.heap H locs → va_Run p l e R s m args below meth c H locs cells slots mc ms (F0 m pc ls st0) st (Qc (Value.ref (sz0 + r) :: As).toArray) (Aw sz0) := r_V cx hM q1427 q1428 q1429 q127 q1430 rfl hd_X6_between hR cl_X6 (by decide) hk hn hst hcat d hb
theorem hd_X6_newWord : yX6_newWord.cls ≠ "java/lang/invoke/MethodHandle" ∧ yX6_newWord.cls ≠ "java/lang/invoke/VarHandle" ∧ (parseMethodDescriptor yX6_newWord.desc).map (fun d => d.parameters.length) = some 1 := by decide +kernel
theorem kcq1435_L {p : Program} {l : Launch} {e : Env} {R : Room} {s : State} {m : MethodId} {args : Array Value} {below : List Frame} {meth : Method} {c : Code} {cells slots : Nat}  {cc : ByteArray} {nL : Nat} {ret : Option FieldType} {D : va_G} {cA : Nat → ClassId} {sz0 : Nat} {H0 : Heap} {pc : Nat} {lv : List (Nat × Value)} {st : List Value} {M : WM} {r : Nat} {mc ms fr lo : Nat} {st0 As : List Value} {Qc : Array Value → State → Outcome → State → Prop} (cx : Cx p s m args meth c cc nL RL ret D cA sz0 H0) (hM : Met l yX6_newWord (ws_ yX6_newWord cX6_newWord 3 (some .int)) ({ frames := fr, cells := mc, slots := ms, locals := lo } : Room) (PcW D cA sz0 H0 (.ref (sz0 + r) :: As) M) Qc mc ms (Aw sz0)) (hR : fr + 1 ≤ R.frames ∧ 8 + (3 + 11) + lo ≤ R.locals) (hk : wk M r = 5) (hn : As.length = 1) (hst : st0 = As.reverse ++ .ref (sz0 + r) :: st) (hcat : (st.map fun v => v.category).sum ≤ 8) (d : decode cc pc = .ok (.invokevirtual 80, 3)) (hb : cells + mc ≤ R.cells ∧ slots + ms ≤ R.slots) : ∀ (ls : Array Slot) (H : Heap) (locs : List Loc), lv_has ls nL lv → Wd D cA sz0 H0 M H → va_S (Aw sz0) s.heap H locs → va_Run p l e R s m args below meth c H locs cells slots mc ms (F0 m pc ls st0) st (Qc (Value.ref (sz0 + r) :: As).toArray) (Aw sz0) := r_V cx hM q1435 q1436 q1437 q127 q1438 rfl hd_X6_newWord hR cl_X6 (by decide) hk hn hst hcat d hb
theorem hd_X0_init : yX0_init.cls ≠ "java/lang/invoke/MethodHandle" ∧ yX0_init.cls ≠ "java/lang/invoke/VarHandle" ∧ (parseMethodDescriptor yX0_init.desc).map (fun d => d.parameters.length) = some 0 := by decide +kernel
theorem kcq147_L {p : Program} {l : Launch} {e : Env} {R : Room} {s : State} {m : MethodId} {args : Array Value} {below : List Frame} {meth : Method} {c : Code} {cells slots : Nat}  {cc : ByteArray} {nL : Nat} {ret : Option FieldType} {D : va_G} {cA : Nat → ClassId} {sz0 : Nat} {H0 : Heap} {pc : Nat} {lv : List (Nat × Value)} {st : List Value} {M : WM} {r : Nat} {mc ms fr lo : Nat} {st0 As : List Value} {Qc : Array Value → State → Outcome → State → Prop} (cx : Cx p s m args meth c cc nL RL ret D cA sz0 H0) (hM : Met l yX0_init (ws_ yX0_init cX0_init 2 none) ({ frames := fr, cells := mc, slots := ms, locals := lo } : Room) (PcW D cA sz0 H0 (.ref (sz0 + r) :: As) M) Qc mc ms (Aw sz0)) (hR : fr + 1 ≤ R.frames ∧ 8 + (2 + 11) + lo ≤ R.locals) (hn : As.length = 0) (hst : st0 = As.reverse ++ .ref (sz0 + r) :: st) (hcat : (st.map fun v => v.category).sum ≤ 8) (d : decode cc pc = .ok (.invokespecial 9, 3)) (hb : cells + mc ≤ R.cells ∧ slots + ms ≤ R.slots) : ∀ (ls : Array Slot) (H : Heap) (locs : List Loc), lv_has ls nL lv → Wd D cA sz0 H0 M H → va_S (Aw sz0) s.heap H locs → va_Run p l e R s m args below meth c H locs cells slots mc ms (F0 m pc ls st0) st (Qc (Value.ref (sz0 + r) :: As).toArray) (Aw sz0) := r_I cx hM q147 q148 q121 q149 rfl hd_X0_init hR hn hst hcat d hb
theorem hd_X6_walks : yX6_walks.cls ≠ "java/lang/invoke/MethodHandle" ∧ yX6_walks.cls ≠ "java/lang/invoke/VarHandle" ∧ (parseMethodDescriptor yX6_walks.desc).map (fun d => d.parameters.length) = some 3 := by decide +kernel
theorem kcq1475_L {p : Program} {l : Launch} {e : Env} {R : Room} {s : State} {m : MethodId} {args : Array Value} {below : List Frame} {meth : Method} {c : Code} {cells slots : Nat}  {cc : ByteArray} {nL : Nat} {ret : Option FieldType} {D : va_G} {cA : Nat → ClassId} {sz0 : Nat} {H0 : Heap} {pc : Nat} {lv : List (Nat × Value)} {st : List Value} {M : WM} {r : Nat} {mc ms fr lo : Nat} {st0 As : List Value} {Qc : Array Value → State → Outcome → State → Prop} (cx : Cx p s m args meth c cc nL RL ret D cA sz0 H0) (hM : Met l yX6_walks (ws_ yX6_walks cX6_walks 7 (some .long)) ({ frames := fr, cells := mc, slots := ms, locals := lo } : Room) (PcW D cA sz0 H0 (.ref (sz0 + r) :: As) M) Qc mc ms (Aw sz0)) (hR : fr + 1 ≤ R.frames ∧ 8 + (7 + 11) + lo ≤ R.locals) (hk : wk M r = 5) (hn : As.length = 3) (hst : st0 = As.reverse ++ .ref (sz0 + r) :: st) (hcat : (st.map fun v => v.category).sum ≤ 8) (d : decode cc pc = .ok (.invokevirtual 85, 3)) (hb : cells + mc ≤ R.cells ∧ slots + ms ≤ R.slots) : ∀ (ls : Array Slot) (H : Heap) (locs : List Loc), lv_has ls nL lv → Wd D cA sz0 H0 M H → va_S (Aw sz0) s.heap H locs → va_Run p l e R s m args below meth c H locs cells slots mc ms (F0 m pc ls st0) st (Qc (Value.ref (sz0 + r) :: As).toArray) (Aw sz0) := r_V cx hM q1475 q1476 q1477 q127 q1478 rfl hd_X6_walks hR cl_X6 (by decide) hk hn hst hcat d hb
theorem hd_X6_row : yX6_row.cls ≠ "java/lang/invoke/MethodHandle" ∧ yX6_row.cls ≠ "java/lang/invoke/VarHandle" ∧ (parseMethodDescriptor yX6_row.desc).map (fun d => d.parameters.length) = some 2 := by decide +kernel
theorem kcq1479_L {p : Program} {l : Launch} {e : Env} {R : Room} {s : State} {m : MethodId} {args : Array Value} {below : List Frame} {meth : Method} {c : Code} {cells slots : Nat}  {cc : ByteArray} {nL : Nat} {ret : Option FieldType} {D : va_G} {cA : Nat → ClassId} {sz0 : Nat} {H0 : Heap} {pc : Nat} {lv : List (Nat × Value)} {st : List Value} {M : WM} {r : Nat} {mc ms fr lo : Nat} {st0 As : List Value} {Qc : Array Value → State → Outcome → State → Prop} (cx : Cx p s m args meth c cc nL RL ret D cA sz0 H0) (hM : Met l yX6_row (ws_ yX6_row cX6_row 9 (some .int)) ({ frames := fr, cells := mc, slots := ms, locals := lo } : Room) (PcW D cA sz0 H0 (.ref (sz0 + r) :: As) M) Qc mc ms (Aw sz0)) (hR : fr + 1 ≤ R.frames ∧ 8 + (9 + 11) + lo ≤ R.locals) (hk : wk M r = 5) (hn : As.length = 2) (hst : st0 = As.reverse ++ .ref (sz0 + r) :: st) (hcat : (st.map fun v => v.category).sum ≤ 8) (d : decode cc pc = .ok (.invokevirtual 90, 3)) (hb : cells + mc ≤ R.cells ∧ slots + ms ≤ R.slots) : ∀ (ls : Array Slot) (H : Heap) (locs : List Loc), lv_has ls nL lv → Wd D cA sz0 H0 M H → va_S (Aw sz0) s.heap H locs → va_Run p l e R s m args below meth c H locs cells slots mc ms (F0 m pc ls st0) st (Qc (Value.ref (sz0 + r) :: As).toArray) (Aw sz0) := r_V cx hM q1479 q1480 q1481 q127 q1482 rfl hd_X6_row hR cl_X6 (by decide) hk hn hst hcat d hb
theorem hd_X6_game : yX6_game.cls ≠ "java/lang/invoke/MethodHandle" ∧ yX6_game.cls ≠ "java/lang/invoke/VarHandle" ∧ (parseMethodDescriptor yX6_game.desc).map (fun d => d.parameters.length) = some 2 := by decide +kernel
theorem kcq1503_L {p : Program} {l : Launch} {e : Env} {R : Room} {s : State} {m : MethodId} {args : Array Value} {below : List Frame} {meth : Method} {c : Code} {cells slots : Nat}  {cc : ByteArray} {nL : Nat} {ret : Option FieldType} {D : va_G} {cA : Nat → ClassId} {sz0 : Nat} {H0 : Heap} {pc : Nat} {lv : List (Nat × Value)} {st : List Value} {M : WM} {r : Nat} {mc ms fr lo : Nat} {st0 As : List Value} {Qc : Array Value → State → Outcome → State → Prop} (cx : Cx p s m args meth c cc nL RL ret D cA sz0 H0) (hM : Met l yX6_game (ws_ yX6_game cX6_game 5 (some .int)) ({ frames := fr, cells := mc, slots := ms, locals := lo } : Room) (PcW D cA sz0 H0 (.ref (sz0 + r) :: As) M) Qc mc ms (Aw sz0)) (hR : fr + 1 ≤ R.frames ∧ 8 + (5 + 11) + lo ≤ R.locals) (hk : wk M r = 5) (hn : As.length = 2) (hst : st0 = As.reverse ++ .ref (sz0 + r) :: st) (hcat : (st.map fun v => v.category).sum ≤ 8) (d : decode cc pc = .ok (.invokevirtual 94, 3)) (hb : cells + mc ≤ R.cells ∧ slots + ms ≤ R.slots) : ∀ (ls : Array Slot) (H : Heap) (locs : List Loc), lv_has ls nL lv → Wd D cA sz0 H0 M H → va_S (Aw sz0) s.heap H locs → va_Run p l e R s m args below meth c H locs cells slots mc ms (F0 m pc ls st0) st (Qc (Value.ref (sz0 + r) :: As).toArray) (Aw sz0) := r_V cx hM q1503 q1504 q1505 q127 q1506 rfl hd_X6_game hR cl_X6 (by decide) hk hn hst hcat d hb
theorem hd_X6_farBy : yX6_farBy.cls ≠ "java/lang/invoke/MethodHandle" ∧ yX6_farBy.cls ≠ "java/lang/invoke/VarHandle" ∧ (parseMethodDescriptor yX6_farBy.desc).map (fun d => d.parameters.length) = some 2 := by decide +kernel
theorem kcq1511_L {p : Program} {l : Launch} {e : Env} {R : Room} {s : State} {m : MethodId} {args : Array Value} {below : List Frame} {meth : Method} {c : Code} {cells slots : Nat}  {cc : ByteArray} {nL : Nat} {ret : Option FieldType} {D : va_G} {cA : Nat → ClassId} {sz0 : Nat} {H0 : Heap} {pc : Nat} {lv : List (Nat × Value)} {st : List Value} {M : WM} {r : Nat} {mc ms fr lo : Nat} {st0 As : List Value} {Qc : Array Value → State → Outcome → State → Prop} (cx : Cx p s m args meth c cc nL RL ret D cA sz0 H0) (hM : Met l yX6_farBy (ws_ yX6_farBy cX6_farBy 3 (some .int)) ({ frames := fr, cells := mc, slots := ms, locals := lo } : Room) (PcW D cA sz0 H0 (.ref (sz0 + r) :: As) M) Qc mc ms (Aw sz0)) (hR : fr + 1 ≤ R.frames ∧ 8 + (3 + 11) + lo ≤ R.locals) (hk : wk M r = 5) (hn : As.length = 2) (hst : st0 = As.reverse ++ .ref (sz0 + r) :: st) (hcat : (st.map fun v => v.category).sum ≤ 8) (d : decode cc pc = .ok (.invokevirtual 98, 3)) (hb : cells + mc ≤ R.cells ∧ slots + ms ≤ R.slots) : ∀ (ls : Array Slot) (H : Heap) (locs : List Loc), lv_has ls nL lv → Wd D cA sz0 H0 M H → va_S (Aw sz0) s.heap H locs → va_Run p l e R s m args below meth c H locs cells slots mc ms (F0 m pc ls st0) st (Qc (Value.ref (sz0 + r) :: As).toArray) (Aw sz0) := r_V cx hM q1511 q1512 q1513 q127 q1514 rfl hd_X6_farBy hR cl_X6 (by decide) hk hn hst hcat d hb
theorem hd_X6_near : yX6_near.cls ≠ "java/lang/invoke/MethodHandle" ∧ yX6_near.cls ≠ "java/lang/invoke/VarHandle" ∧ (parseMethodDescriptor yX6_near.desc).map (fun d => d.parameters.length) = some 2 := by decide +kernel
theorem kcq1523_L {p : Program} {l : Launch} {e : Env} {R : Room} {s : State} {m : MethodId} {args : Array Value} {below : List Frame} {meth : Method} {c : Code} {cells slots : Nat}  {cc : ByteArray} {nL : Nat} {ret : Option FieldType} {D : va_G} {cA : Nat → ClassId} {sz0 : Nat} {H0 : Heap} {pc : Nat} {lv : List (Nat × Value)} {st : List Value} {M : WM} {r : Nat} {mc ms fr lo : Nat} {st0 As : List Value} {Qc : Array Value → State → Outcome → State → Prop} (cx : Cx p s m args meth c cc nL RL ret D cA sz0 H0) (hM : Met l yX6_near (ws_ yX6_near cX6_near 8 (some .int)) ({ frames := fr, cells := mc, slots := ms, locals := lo } : Room) (PcW D cA sz0 H0 (.ref (sz0 + r) :: As) M) Qc mc ms (Aw sz0)) (hR : fr + 1 ≤ R.frames ∧ 8 + (8 + 11) + lo ≤ R.locals) (hk : wk M r = 5) (hn : As.length = 2) (hst : st0 = As.reverse ++ .ref (sz0 + r) :: st) (hcat : (st.map fun v => v.category).sum ≤ 8) (d : decode cc pc = .ok (.invokevirtual 102, 3)) (hb : cells + mc ≤ R.cells ∧ slots + ms ≤ R.slots) : ∀ (ls : Array Slot) (H : Heap) (locs : List Loc), lv_has ls nL lv → Wd D cA sz0 H0 M H → va_S (Aw sz0) s.heap H locs → va_Run p l e R s m args below meth c H locs cells slots mc ms (F0 m pc ls st0) st (Qc (Value.ref (sz0 + r) :: As).toArray) (Aw sz0) := r_V cx hM q1523 q1524 q1525 q127 q1526 rfl hd_X6_near hR cl_X6 (by decide) hk hn hst hcat d hb
theorem hd_X6_clear : yX6_clear.cls ≠ "java/lang/invoke/MethodHandle" ∧ yX6_clear.cls ≠ "java/lang/invoke/VarHandle" ∧ (parseMethodDescriptor yX6_clear.desc).map (fun d => d.parameters.length) = some 3 := by decide +kernel
theorem kcq1527_L {p : Program} {l : Launch} {e : Env} {R : Room} {s : State} {m : MethodId} {args : Array Value} {below : List Frame} {meth : Method} {c : Code} {cells slots : Nat}  {cc : ByteArray} {nL : Nat} {ret : Option FieldType} {D : va_G} {cA : Nat → ClassId} {sz0 : Nat} {H0 : Heap} {pc : Nat} {lv : List (Nat × Value)} {st : List Value} {M : WM} {r : Nat} {mc ms fr lo : Nat} {st0 As : List Value} {Qc : Array Value → State → Outcome → State → Prop} (cx : Cx p s m args meth c cc nL RL ret D cA sz0 H0) (hM : Met l yX6_clear (ws_ yX6_clear cX6_clear 6 (some .int)) ({ frames := fr, cells := mc, slots := ms, locals := lo } : Room) (PcW D cA sz0 H0 (.ref (sz0 + r) :: As) M) Qc mc ms (Aw sz0)) (hR : fr + 1 ≤ R.frames ∧ 8 + (6 + 11) + lo ≤ R.locals) (hk : wk M r = 5) (hn : As.length = 3) (hst : st0 = As.reverse ++ .ref (sz0 + r) :: st) (hcat : (st.map fun v => v.category).sum ≤ 8) (d : decode cc pc = .ok (.invokevirtual 106, 3)) (hb : cells + mc ≤ R.cells ∧ slots + ms ≤ R.slots) : ∀ (ls : Array Slot) (H : Heap) (locs : List Loc), lv_has ls nL lv → Wd D cA sz0 H0 M H → va_S (Aw sz0) s.heap H locs → va_Run p l e R s m args below meth c H locs cells slots mc ms (F0 m pc ls st0) st (Qc (Value.ref (sz0 + r) :: As).toArray) (Aw sz0) := r_V cx hM q1527 q1528 q1529 q127 q1530 rfl hd_X6_clear hR cl_X6 (by decide) hk hn hst hcat d hb
theorem hd_X6_rubbed : yX6_rubbed.cls ≠ "java/lang/invoke/MethodHandle" ∧ yX6_rubbed.cls ≠ "java/lang/invoke/VarHandle" ∧ (parseMethodDescriptor yX6_rubbed.desc).map (fun d => d.parameters.length) = some 1 := by decide +kernel
theorem kcq1538_L {p : Program} {l : Launch} {e : Env} {R : Room} {s : State} {m : MethodId} {args : Array Value} {below : List Frame} {meth : Method} {c : Code} {cells slots : Nat}  {cc : ByteArray} {nL : Nat} {ret : Option FieldType} {D : va_G} {cA : Nat → ClassId} {sz0 : Nat} {H0 : Heap} {pc : Nat} {lv : List (Nat × Value)} {st : List Value} {M : WM} {r : Nat} {mc ms fr lo : Nat} {st0 As : List Value} {Qc : Array Value → State → Outcome → State → Prop} (cx : Cx p s m args meth c cc nL RL ret D cA sz0 H0) (hM : Met l yX6_rubbed (ws_ yX6_rubbed cX6_rubbed 5 (some .long)) ({ frames := fr, cells := mc, slots := ms, locals := lo } : Room) (PcW D cA sz0 H0 (.ref (sz0 + r) :: As) M) Qc mc ms (Aw sz0)) (hR : fr + 1 ≤ R.frames ∧ 8 + (5 + 11) + lo ≤ R.locals) (hk : wk M r = 5) (hn : As.length = 1) (hst : st0 = As.reverse ++ .ref (sz0 + r) :: st) (hcat : (st.map fun v => v.category).sum ≤ 8) (d : decode cc pc = .ok (.invokevirtual 111, 3)) (hb : cells + mc ≤ R.cells ∧ slots + ms ≤ R.slots) : ∀ (ls : Array Slot) (H : Heap) (locs : List Loc), lv_has ls nL lv → Wd D cA sz0 H0 M H → va_S (Aw sz0) s.heap H locs → va_Run p l e R s m args below meth c H locs cells slots mc ms (F0 m pc ls st0) st (Qc (Value.ref (sz0 + r) :: As).toArray) (Aw sz0) := r_V cx hM q1538 q1539 q1540 q127 q1541 rfl hd_X6_rubbed hR cl_X6 (by decide) hk hn hst hcat d hb
theorem hd_X6_square : yX6_square.cls ≠ "java/lang/invoke/MethodHandle" ∧ yX6_square.cls ≠ "java/lang/invoke/VarHandle" ∧ (parseMethodDescriptor yX6_square.desc).map (fun d => d.parameters.length) = some 2 := by decide +kernel
theorem kcq1546_L {p : Program} {l : Launch} {e : Env} {R : Room} {s : State} {m : MethodId} {args : Array Value} {below : List Frame} {meth : Method} {c : Code} {cells slots : Nat}  {cc : ByteArray} {nL : Nat} {ret : Option FieldType} {D : va_G} {cA : Nat → ClassId} {sz0 : Nat} {H0 : Heap} {pc : Nat} {lv : List (Nat × Value)} {st : List Value} {M : WM} {r : Nat} {mc ms fr lo : Nat} {st0 As : List Value} {Qc : Array Value → State → Outcome → State → Prop} (cx : Cx p s m args meth c cc nL RL ret D cA sz0 H0) (hM : Met l yX6_square (ws_ yX6_square cX6_square 3 (some .int)) ({ frames := fr, cells := mc, slots := ms, locals := lo } : Room) (PcW D cA sz0 H0 (.ref (sz0 + r) :: As) M) Qc mc ms (Aw sz0)) (hR : fr + 1 ≤ R.frames ∧ 8 + (3 + 11) + lo ≤ R.locals) (hk : wk M r = 5) (hn : As.length = 2) (hst : st0 = As.reverse ++ .ref (sz0 + r) :: st) (hcat : (st.map fun v => v.category).sum ≤ 8) (d : decode cc pc = .ok (.invokevirtual 115, 3)) (hb : cells + mc ≤ R.cells ∧ slots + ms ≤ R.slots) : ∀ (ls : Array Slot) (H : Heap) (locs : List Loc), lv_has ls nL lv → Wd D cA sz0 H0 M H → va_S (Aw sz0) s.heap H locs → va_Run p l e R s m args below meth c H locs cells slots mc ms (F0 m pc ls st0) st (Qc (Value.ref (sz0 + r) :: As).toArray) (Aw sz0) := r_V cx hM q1546 q1547 q1548 q127 q1549 rfl hd_X6_square hR cl_X6 (by decide) hk hn hst hcat d hb
theorem hd_X6_seed : yX6_seed.cls ≠ "java/lang/invoke/MethodHandle" ∧ yX6_seed.cls ≠ "java/lang/invoke/VarHandle" ∧ (parseMethodDescriptor yX6_seed.desc).map (fun d => d.parameters.length) = some 1 := by decide +kernel
theorem kcq1566_L {p : Program} {l : Launch} {e : Env} {R : Room} {s : State} {m : MethodId} {args : Array Value} {below : List Frame} {meth : Method} {c : Code} {cells slots : Nat}  {cc : ByteArray} {nL : Nat} {ret : Option FieldType} {D : va_G} {cA : Nat → ClassId} {sz0 : Nat} {H0 : Heap} {pc : Nat} {lv : List (Nat × Value)} {st : List Value} {M : WM} {r : Nat} {mc ms fr lo : Nat} {st0 As : List Value} {Qc : Array Value → State → Outcome → State → Prop} (cx : Cx p s m args meth c cc nL RL ret D cA sz0 H0) (hM : Met l yX6_seed (ws_ yX6_seed cX6_seed 2 (some .boolean)) ({ frames := fr, cells := mc, slots := ms, locals := lo } : Room) (PcW D cA sz0 H0 (.ref (sz0 + r) :: As) M) Qc mc ms (Aw sz0)) (hR : fr + 1 ≤ R.frames ∧ 8 + (2 + 11) + lo ≤ R.locals) (hk : wk M r = 5) (hn : As.length = 1) (hst : st0 = As.reverse ++ .ref (sz0 + r) :: st) (hcat : (st.map fun v => v.category).sum ≤ 8) (d : decode cc pc = .ok (.invokevirtual 119, 3)) (hb : cells + mc ≤ R.cells ∧ slots + ms ≤ R.slots) : ∀ (ls : Array Slot) (H : Heap) (locs : List Loc), lv_has ls nL lv → Wd D cA sz0 H0 M H → va_S (Aw sz0) s.heap H locs → va_Run p l e R s m args below meth c H locs cells slots mc ms (F0 m pc ls st0) st (Qc (Value.ref (sz0 + r) :: As).toArray) (Aw sz0) := r_V cx hM q1566 q1567 q1568 q127 q1569 rfl hd_X6_seed hR cl_X6 (by decide) hk hn hst hcat d hb
theorem hd_X6_draw : yX6_draw.cls ≠ "java/lang/invoke/MethodHandle" ∧ yX6_draw.cls ≠ "java/lang/invoke/VarHandle" ∧ (parseMethodDescriptor yX6_draw.desc).map (fun d => d.parameters.length) = some 3 := by decide +kernel
theorem kcq1571_L {p : Program} {l : Launch} {e : Env} {R : Room} {s : State} {m : MethodId} {args : Array Value} {below : List Frame} {meth : Method} {c : Code} {cells slots : Nat}  {cc : ByteArray} {nL : Nat} {ret : Option FieldType} {D : va_G} {cA : Nat → ClassId} {sz0 : Nat} {H0 : Heap} {pc : Nat} {lv : List (Nat × Value)} {st : List Value} {M : WM} {r : Nat} {mc ms fr lo : Nat} {st0 As : List Value} {Qc : Array Value → State → Outcome → State → Prop} (cx : Cx p s m args meth c cc nL RL ret D cA sz0 H0) (hM : Met l yX6_draw (ws_ yX6_draw cX6_draw 7 (some .int)) ({ frames := fr, cells := mc, slots := ms, locals := lo } : Room) (PcW D cA sz0 H0 (.ref (sz0 + r) :: As) M) Qc mc ms (Aw sz0)) (hR : fr + 1 ≤ R.frames ∧ 8 + (7 + 11) + lo ≤ R.locals) (hk : wk M r = 5) (hn : As.length = 3) (hst : st0 = As.reverse ++ .ref (sz0 + r) :: st) (hcat : (st.map fun v => v.category).sum ≤ 8) (d : decode cc pc = .ok (.invokevirtual 123, 3)) (hb : cells + mc ≤ R.cells ∧ slots + ms ≤ R.slots) : ∀ (ls : Array Slot) (H : Heap) (locs : List Loc), lv_has ls nL lv → Wd D cA sz0 H0 M H → va_S (Aw sz0) s.heap H locs → va_Run p l e R s m args below meth c H locs cells slots mc ms (F0 m pc ls st0) st (Qc (Value.ref (sz0 + r) :: As).toArray) (Aw sz0) := r_V cx hM q1571 q1572 q1573 q127 q1574 rfl hd_X6_draw hR cl_X6 (by decide) hk hn hst hcat d hb
theorem hd_X6_check : yX6_check.cls ≠ "java/lang/invoke/MethodHandle" ∧ yX6_check.cls ≠ "java/lang/invoke/VarHandle" ∧ (parseMethodDescriptor yX6_check.desc).map (fun d => d.parameters.length) = some 2 := by decide +kernel
theorem kcq1584_L {p : Program} {l : Launch} {e : Env} {R : Room} {s : State} {m : MethodId} {args : Array Value} {below : List Frame} {meth : Method} {c : Code} {cells slots : Nat}  {cc : ByteArray} {nL : Nat} {ret : Option FieldType} {D : va_G} {cA : Nat → ClassId} {sz0 : Nat} {H0 : Heap} {pc : Nat} {lv : List (Nat × Value)} {st : List Value} {M : WM} {r : Nat} {mc ms fr lo : Nat} {st0 As : List Value} {Qc : Array Value → State → Outcome → State → Prop} (cx : Cx p s m args meth c cc nL RL ret D cA sz0 H0) (hM : Met l yX6_check (ws_ yX6_check cX6_check 4 (some .int)) ({ frames := fr, cells := mc, slots := ms, locals := lo } : Room) (PcW D cA sz0 H0 (.ref (sz0 + r) :: As) M) Qc mc ms (Aw sz0)) (hR : fr + 1 ≤ R.frames ∧ 8 + (4 + 11) + lo ≤ R.locals) (hk : wk M r = 5) (hn : As.length = 2) (hst : st0 = As.reverse ++ .ref (sz0 + r) :: st) (hcat : (st.map fun v => v.category).sum ≤ 8) (d : decode cc pc = .ok (.invokevirtual 131, 3)) (hb : cells + mc ≤ R.cells ∧ slots + ms ≤ R.slots) : ∀ (ls : Array Slot) (H : Heap) (locs : List Loc), lv_has ls nL lv → Wd D cA sz0 H0 M H → va_S (Aw sz0) s.heap H locs → va_Run p l e R s m args below meth c H locs cells slots mc ms (F0 m pc ls st0) st (Qc (Value.ref (sz0 + r) :: As).toArray) (Aw sz0) := r_V cx hM q1584 q1585 q1586 q127 q1587 rfl hd_X6_check hR cl_X6 (by decide) hk hn hst hcat d hb
theorem hd_X6_count : yX6_count.cls ≠ "java/lang/invoke/MethodHandle" ∧ yX6_count.cls ≠ "java/lang/invoke/VarHandle" ∧ (parseMethodDescriptor yX6_count.desc).map (fun d => d.parameters.length) = some 1 := by decide +kernel
theorem kcq1592_L {p : Program} {l : Launch} {e : Env} {R : Room} {s : State} {m : MethodId} {args : Array Value} {below : List Frame} {meth : Method} {c : Code} {cells slots : Nat}  {cc : ByteArray} {nL : Nat} {ret : Option FieldType} {D : va_G} {cA : Nat → ClassId} {sz0 : Nat} {H0 : Heap} {pc : Nat} {lv : List (Nat × Value)} {st : List Value} {M : WM} {r : Nat} {mc ms fr lo : Nat} {st0 As : List Value} {Qc : Array Value → State → Outcome → State → Prop} (cx : Cx p s m args meth c cc nL RL ret D cA sz0 H0) (hM : Met l yX6_count (ws_ yX6_count cX6_count 2 (some .int)) ({ frames := fr, cells := mc, slots := ms, locals := lo } : Room) (PcW D cA sz0 H0 (.ref (sz0 + r) :: As) M) Qc mc ms (Aw sz0)) (hR : fr + 1 ≤ R.frames ∧ 8 + (2 + 11) + lo ≤ R.locals) (hk : wk M r = 5) (hn : As.length = 1) (hst : st0 = As.reverse ++ .ref (sz0 + r) :: st) (hcat : (st.map fun v => v.category).sum ≤ 8) (d : decode cc pc = .ok (.invokevirtual 135, 3)) (hb : cells + mc ≤ R.cells ∧ slots + ms ≤ R.slots) : ∀ (ls : Array Slot) (H : Heap) (locs : List Loc), lv_has ls nL lv → Wd D cA sz0 H0 M H → va_S (Aw sz0) s.heap H locs → va_Run p l e R s m args below meth c H locs cells slots mc ms (F0 m pc ls st0) st (Qc (Value.ref (sz0 + r) :: As).toArray) (Aw sz0) := r_V cx hM q1592 q1593 q1594 q127 q1595 rfl hd_X6_count hR cl_X6 (by decide) hk hn hst hcat d hb
theorem hd_X0_feed : yX0_feed.cls ≠ "java/lang/invoke/MethodHandle" ∧ yX0_feed.cls ≠ "java/lang/invoke/VarHandle" ∧ (parseMethodDescriptor yX0_feed.desc).map (fun d => d.parameters.length) = some 5 := by decide +kernel
theorem kcq375_L {p : Program} {l : Launch} {e : Env} {R : Room} {s : State} {m : MethodId} {args : Array Value} {below : List Frame} {meth : Method} {c : Code} {cells slots : Nat}  {cc : ByteArray} {nL : Nat} {ret : Option FieldType} {D : va_G} {cA : Nat → ClassId} {sz0 : Nat} {H0 : Heap} {pc : Nat} {lv : List (Nat × Value)} {st : List Value} {M : WM} {r : Nat} {mc ms fr lo : Nat} {st0 As : List Value} {Qc : Array Value → State → Outcome → State → Prop} (cx : Cx p s m args meth c cc nL RL ret D cA sz0 H0) (hM : Met l yX0_feed (ws_ yX0_feed cX0_feed 6 (some .int)) ({ frames := fr, cells := mc, slots := ms, locals := lo } : Room) (PcW D cA sz0 H0 (.ref (sz0 + r) :: As) M) Qc mc ms (Aw sz0)) (hR : fr + 1 ≤ R.frames ∧ 8 + (6 + 11) + lo ≤ R.locals) (hk : wk M r = 0) (hn : As.length = 5) (hst : st0 = As.reverse ++ .ref (sz0 + r) :: st) (hcat : (st.map fun v => v.category).sum ≤ 8) (d : decode cc pc = .ok (.invokevirtual 13, 3)) (hb : cells + mc ≤ R.cells ∧ slots + ms ≤ R.slots) : ∀ (ls : Array Slot) (H : Heap) (locs : List Loc), lv_has ls nL lv → Wd D cA sz0 H0 M H → va_S (Aw sz0) s.heap H locs → va_Run p l e R s m args below meth c H locs cells slots mc ms (F0 m pc ls st0) st (Qc (Value.ref (sz0 + r) :: As).toArray) (Aw sz0) := r_V cx hM q375 q376 q377 q121 q378 rfl hd_X0_feed hR cl_X0 (by decide) hk hn hst hcat d hb
theorem hd_X0_word : yX0_word.cls ≠ "java/lang/invoke/MethodHandle" ∧ yX0_word.cls ≠ "java/lang/invoke/VarHandle" ∧ (parseMethodDescriptor yX0_word.desc).map (fun d => d.parameters.length) = some 3 := by decide +kernel
theorem kcq383_L {p : Program} {l : Launch} {e : Env} {R : Room} {s : State} {m : MethodId} {args : Array Value} {below : List Frame} {meth : Method} {c : Code} {cells slots : Nat}  {cc : ByteArray} {nL : Nat} {ret : Option FieldType} {D : va_G} {cA : Nat → ClassId} {sz0 : Nat} {H0 : Heap} {pc : Nat} {lv : List (Nat × Value)} {st : List Value} {M : WM} {r : Nat} {mc ms fr lo : Nat} {st0 As : List Value} {Qc : Array Value → State → Outcome → State → Prop} (cx : Cx p s m args meth c cc nL RL ret D cA sz0 H0) (hM : Met l yX0_word (ws_ yX0_word cX0_word 5 (some .int)) ({ frames := fr, cells := mc, slots := ms, locals := lo } : Room) (PcW D cA sz0 H0 (.ref (sz0 + r) :: As) M) Qc mc ms (Aw sz0)) (hR : fr + 1 ≤ R.frames ∧ 8 + (5 + 11) + lo ≤ R.locals) (hk : wk M r = 0) (hn : As.length = 3) (hst : st0 = As.reverse ++ .ref (sz0 + r) :: st) (hcat : (st.map fun v => v.category).sum ≤ 8) (d : decode cc pc = .ok (.invokevirtual 18, 3)) (hb : cells + mc ≤ R.cells ∧ slots + ms ≤ R.slots) : ∀ (ls : Array Slot) (H : Heap) (locs : List Loc), lv_has ls nL lv → Wd D cA sz0 H0 M H → va_S (Aw sz0) s.heap H locs → va_Run p l e R s m args below meth c H locs cells slots mc ms (F0 m pc ls st0) st (Qc (Value.ref (sz0 + r) :: As).toArray) (Aw sz0) := r_V cx hM q383 q384 q385 q121 q386 rfl hd_X0_word hR cl_X0 (by decide) hk hn hst hcat d hb
theorem hd_X0_bar : yX0_bar.cls ≠ "java/lang/invoke/MethodHandle" ∧ yX0_bar.cls ≠ "java/lang/invoke/VarHandle" ∧ (parseMethodDescriptor yX0_bar.desc).map (fun d => d.parameters.length) = some 2 := by decide +kernel
theorem kcq417_L {p : Program} {l : Launch} {e : Env} {R : Room} {s : State} {m : MethodId} {args : Array Value} {below : List Frame} {meth : Method} {c : Code} {cells slots : Nat}  {cc : ByteArray} {nL : Nat} {ret : Option FieldType} {D : va_G} {cA : Nat → ClassId} {sz0 : Nat} {H0 : Heap} {pc : Nat} {lv : List (Nat × Value)} {st : List Value} {M : WM} {r : Nat} {mc ms fr lo : Nat} {st0 As : List Value} {Qc : Array Value → State → Outcome → State → Prop} (cx : Cx p s m args meth c cc nL RL ret D cA sz0 H0) (hM : Met l yX0_bar (ws_ yX0_bar cX0_bar 3 (some .boolean)) ({ frames := fr, cells := mc, slots := ms, locals := lo } : Room) (PcW D cA sz0 H0 (.ref (sz0 + r) :: As) M) Qc mc ms (Aw sz0)) (hR : fr + 1 ≤ R.frames ∧ 8 + (3 + 11) + lo ≤ R.locals) (hk : wk M r = 0) (hn : As.length = 2) (hst : st0 = As.reverse ++ .ref (sz0 + r) :: st) (hcat : (st.map fun v => v.category).sum ≤ 8) (d : decode cc pc = .ok (.invokevirtual 23, 3)) (hb : cells + mc ≤ R.cells ∧ slots + ms ≤ R.slots) : ∀ (ls : Array Slot) (H : Heap) (locs : List Loc), lv_has ls nL lv → Wd D cA sz0 H0 M H → va_S (Aw sz0) s.heap H locs → va_Run p l e R s m args below meth c H locs cells slots mc ms (F0 m pc ls st0) st (Qc (Value.ref (sz0 + r) :: As).toArray) (Aw sz0) := r_V cx hM q417 q418 q419 q121 q420 rfl hd_X0_bar hR cl_X0 (by decide) hk hn hst hcat d hb
theorem hd_X0_know : yX0_know.cls ≠ "java/lang/invoke/MethodHandle" ∧ yX0_know.cls ≠ "java/lang/invoke/VarHandle" ∧ (parseMethodDescriptor yX0_know.desc).map (fun d => d.parameters.length) = some 2 := by decide +kernel
theorem kcq425_L {p : Program} {l : Launch} {e : Env} {R : Room} {s : State} {m : MethodId} {args : Array Value} {below : List Frame} {meth : Method} {c : Code} {cells slots : Nat}  {cc : ByteArray} {nL : Nat} {ret : Option FieldType} {D : va_G} {cA : Nat → ClassId} {sz0 : Nat} {H0 : Heap} {pc : Nat} {lv : List (Nat × Value)} {st : List Value} {M : WM} {r : Nat} {mc ms fr lo : Nat} {st0 As : List Value} {Qc : Array Value → State → Outcome → State → Prop} (cx : Cx p s m args meth c cc nL RL ret D cA sz0 H0) (hM : Met l yX0_know (ws_ yX0_know cX0_know 3 (some .boolean)) ({ frames := fr, cells := mc, slots := ms, locals := lo } : Room) (PcW D cA sz0 H0 (.ref (sz0 + r) :: As) M) Qc mc ms (Aw sz0)) (hR : fr + 1 ≤ R.frames ∧ 8 + (3 + 11) + lo ≤ R.locals) (hk : wk M r = 0) (hn : As.length = 2) (hst : st0 = As.reverse ++ .ref (sz0 + r) :: st) (hcat : (st.map fun v => v.category).sum ≤ 8) (d : decode cc pc = .ok (.invokevirtual 28, 3)) (hb : cells + mc ≤ R.cells ∧ slots + ms ≤ R.slots) : ∀ (ls : Array Slot) (H : Heap) (locs : List Loc), lv_has ls nL lv → Wd D cA sz0 H0 M H → va_S (Aw sz0) s.heap H locs → va_Run p l e R s m args below meth c H locs cells slots mc ms (F0 m pc ls st0) st (Qc (Value.ref (sz0 + r) :: As).toArray) (Aw sz0) := r_V cx hM q425 q426 q427 q121 q428 rfl hd_X0_know hR cl_X0 (by decide) hk hn hst hcat d hb
theorem hd_X0_speak : yX0_speak.cls ≠ "java/lang/invoke/MethodHandle" ∧ yX0_speak.cls ≠ "java/lang/invoke/VarHandle" ∧ (parseMethodDescriptor yX0_speak.desc).map (fun d => d.parameters.length) = some 1 := by decide +kernel
theorem kcq429_L {p : Program} {l : Launch} {e : Env} {R : Room} {s : State} {m : MethodId} {args : Array Value} {below : List Frame} {meth : Method} {c : Code} {cells slots : Nat}  {cc : ByteArray} {nL : Nat} {ret : Option FieldType} {D : va_G} {cA : Nat → ClassId} {sz0 : Nat} {H0 : Heap} {pc : Nat} {lv : List (Nat × Value)} {st : List Value} {M : WM} {r : Nat} {mc ms fr lo : Nat} {st0 As : List Value} {Qc : Array Value → State → Outcome → State → Prop} (cx : Cx p s m args meth c cc nL RL ret D cA sz0 H0) (hM : Met l yX0_speak (ws_ yX0_speak cX0_speak 2 (some .boolean)) ({ frames := fr, cells := mc, slots := ms, locals := lo } : Room) (PcW D cA sz0 H0 (.ref (sz0 + r) :: As) M) Qc mc ms (Aw sz0)) (hR : fr + 1 ≤ R.frames ∧ 8 + (2 + 11) + lo ≤ R.locals) (hk : wk M r = 0) (hn : As.length = 1) (hst : st0 = As.reverse ++ .ref (sz0 + r) :: st) (hcat : (st.map fun v => v.category).sum ≤ 8) (d : decode cc pc = .ok (.invokevirtual 33, 3)) (hb : cells + mc ≤ R.cells ∧ slots + ms ≤ R.slots) : ∀ (ls : Array Slot) (H : Heap) (locs : List Loc), lv_has ls nL lv → Wd D cA sz0 H0 M H → va_S (Aw sz0) s.heap H locs → va_Run p l e R s m args below meth c H locs cells slots mc ms (F0 m pc ls st0) st (Qc (Value.ref (sz0 + r) :: As).toArray) (Aw sz0) := r_V cx hM q429 q430 q431 q121 q432 rfl hd_X0_speak hR cl_X0 (by decide) hk hn hst hcat d hb
theorem hd_X0_law : yX0_law.cls ≠ "java/lang/invoke/MethodHandle" ∧ yX0_law.cls ≠ "java/lang/invoke/VarHandle" ∧ (parseMethodDescriptor yX0_law.desc).map (fun d => d.parameters.length) = some 1 := by decide +kernel
theorem kcq433_L {p : Program} {l : Launch} {e : Env} {R : Room} {s : State} {m : MethodId} {args : Array Value} {below : List Frame} {meth : Method} {c : Code} {cells slots : Nat}  {cc : ByteArray} {nL : Nat} {ret : Option FieldType} {D : va_G} {cA : Nat → ClassId} {sz0 : Nat} {H0 : Heap} {pc : Nat} {lv : List (Nat × Value)} {st : List Value} {M : WM} {r : Nat} {mc ms fr lo : Nat} {st0 As : List Value} {Qc : Array Value → State → Outcome → State → Prop} (cx : Cx p s m args meth c cc nL RL ret D cA sz0 H0) (hM : Met l yX0_law (ws_ yX0_law cX0_law 4 (some .int)) ({ frames := fr, cells := mc, slots := ms, locals := lo } : Room) (PcW D cA sz0 H0 (.ref (sz0 + r) :: As) M) Qc mc ms (Aw sz0)) (hR : fr + 1 ≤ R.frames ∧ 8 + (4 + 11) + lo ≤ R.locals) (hk : wk M r = 0) (hn : As.length = 1) (hst : st0 = As.reverse ++ .ref (sz0 + r) :: st) (hcat : (st.map fun v => v.category).sum ≤ 8) (d : decode cc pc = .ok (.invokevirtual 38, 3)) (hb : cells + mc ≤ R.cells ∧ slots + ms ≤ R.slots) : ∀ (ls : Array Slot) (H : Heap) (locs : List Loc), lv_has ls nL lv → Wd D cA sz0 H0 M H → va_S (Aw sz0) s.heap H locs → va_Run p l e R s m args below meth c H locs cells slots mc ms (F0 m pc ls st0) st (Qc (Value.ref (sz0 + r) :: As).toArray) (Aw sz0) := r_V cx hM q433 q434 q435 q121 q436 rfl hd_X0_law hR cl_X0 (by decide) hk hn hst hcat d hb
theorem hd_X0_step : yX0_step.cls ≠ "java/lang/invoke/MethodHandle" ∧ yX0_step.cls ≠ "java/lang/invoke/VarHandle" ∧ (parseMethodDescriptor yX0_step.desc).map (fun d => d.parameters.length) = some 3 := by decide +kernel
theorem kcq701_L {p : Program} {l : Launch} {e : Env} {R : Room} {s : State} {m : MethodId} {args : Array Value} {below : List Frame} {meth : Method} {c : Code} {cells slots : Nat}  {cc : ByteArray} {nL : Nat} {ret : Option FieldType} {D : va_G} {cA : Nat → ClassId} {sz0 : Nat} {H0 : Heap} {pc : Nat} {lv : List (Nat × Value)} {st : List Value} {M : WM} {r : Nat} {mc ms fr lo : Nat} {st0 As : List Value} {Qc : Array Value → State → Outcome → State → Prop} (cx : Cx p s m args meth c cc nL RL ret D cA sz0 H0) (hM : Met l yX0_step (ws_ yX0_step cX0_step 4 (some .int)) ({ frames := fr, cells := mc, slots := ms, locals := lo } : Room) (PcW D cA sz0 H0 (.ref (sz0 + r) :: As) M) Qc mc ms (Aw sz0)) (hR : fr + 1 ≤ R.frames ∧ 8 + (4 + 11) + lo ≤ R.locals) (hk : wk M r = 0) (hn : As.length = 3) (hst : st0 = As.reverse ++ .ref (sz0 + r) :: st) (hcat : (st.map fun v => v.category).sum ≤ 8) (d : decode cc pc = .ok (.invokevirtual 43, 3)) (hb : cells + mc ≤ R.cells ∧ slots + ms ≤ R.slots) : ∀ (ls : Array Slot) (H : Heap) (locs : List Loc), lv_has ls nL lv → Wd D cA sz0 H0 M H → va_S (Aw sz0) s.heap H locs → va_Run p l e R s m args below meth c H locs cells slots mc ms (F0 m pc ls st0) st (Qc (Value.ref (sz0 + r) :: As).toArray) (Aw sz0) := r_V cx hM q701 q702 q703 q121 q704 rfl hd_X0_step hR cl_X0 (by decide) hk hn hst hcat d hb
theorem hd_X0_least : yX0_least.cls ≠ "java/lang/invoke/MethodHandle" ∧ yX0_least.cls ≠ "java/lang/invoke/VarHandle" ∧ (parseMethodDescriptor yX0_least.desc).map (fun d => d.parameters.length) = some 3 := by decide +kernel
theorem kcq812_L {p : Program} {l : Launch} {e : Env} {R : Room} {s : State} {m : MethodId} {args : Array Value} {below : List Frame} {meth : Method} {c : Code} {cells slots : Nat}  {cc : ByteArray} {nL : Nat} {ret : Option FieldType} {D : va_G} {cA : Nat → ClassId} {sz0 : Nat} {H0 : Heap} {pc : Nat} {lv : List (Nat × Value)} {st : List Value} {M : WM} {r : Nat} {mc ms fr lo : Nat} {st0 As : List Value} {Qc : Array Value → State → Outcome → State → Prop} (cx : Cx p s m args meth c cc nL RL ret D cA sz0 H0) (hM : Met l yX0_least (ws_ yX0_least cX0_least 6 (some .int)) ({ frames := fr, cells := mc, slots := ms, locals := lo } : Room) (PcW D cA sz0 H0 (.ref (sz0 + r) :: As) M) Qc mc ms (Aw sz0)) (hR : fr + 1 ≤ R.frames ∧ 8 + (6 + 11) + lo ≤ R.locals) (hk : wk M r = 0) (hn : As.length = 3) (hst : st0 = As.reverse ++ .ref (sz0 + r) :: st) (hcat : (st.map fun v => v.category).sum ≤ 8) (d : decode cc pc = .ok (.invokevirtual 47, 3)) (hb : cells + mc ≤ R.cells ∧ slots + ms ≤ R.slots) : ∀ (ls : Array Slot) (H : Heap) (locs : List Loc), lv_has ls nL lv → Wd D cA sz0 H0 M H → va_S (Aw sz0) s.heap H locs → va_Run p l e R s m args below meth c H locs cells slots mc ms (F0 m pc ls st0) st (Qc (Value.ref (sz0 + r) :: As).toArray) (Aw sz0) := r_V cx hM q812 q813 q814 q121 q815 rfl hd_X0_least hR cl_X0 (by decide) hk hn hst hcat d hb
theorem hd_X0_howMany : yX0_howMany.cls ≠ "java/lang/invoke/MethodHandle" ∧ yX0_howMany.cls ≠ "java/lang/invoke/VarHandle" ∧ (parseMethodDescriptor yX0_howMany.desc).map (fun d => d.parameters.length) = some 2 := by decide +kernel
theorem kcq824_L {p : Program} {l : Launch} {e : Env} {R : Room} {s : State} {m : MethodId} {args : Array Value} {below : List Frame} {meth : Method} {c : Code} {cells slots : Nat}  {cc : ByteArray} {nL : Nat} {ret : Option FieldType} {D : va_G} {cA : Nat → ClassId} {sz0 : Nat} {H0 : Heap} {pc : Nat} {lv : List (Nat × Value)} {st : List Value} {M : WM} {r : Nat} {mc ms fr lo : Nat} {st0 As : List Value} {Qc : Array Value → State → Outcome → State → Prop} (cx : Cx p s m args meth c cc nL RL ret D cA sz0 H0) (hM : Met l yX0_howMany (ws_ yX0_howMany cX0_howMany 4 (some .long)) ({ frames := fr, cells := mc, slots := ms, locals := lo } : Room) (PcW D cA sz0 H0 (.ref (sz0 + r) :: As) M) Qc mc ms (Aw sz0)) (hR : fr + 1 ≤ R.frames ∧ 8 + (4 + 11) + lo ≤ R.locals) (hk : wk M r = 0) (hn : As.length = 2) (hst : st0 = As.reverse ++ .ref (sz0 + r) :: st) (hcat : (st.map fun v => v.category).sum ≤ 8) (d : decode cc pc = .ok (.invokevirtual 51, 3)) (hb : cells + mc ≤ R.cells ∧ slots + ms ≤ R.slots) : ∀ (ls : Array Slot) (H : Heap) (locs : List Loc), lv_has ls nL lv → Wd D cA sz0 H0 M H → va_S (Aw sz0) s.heap H locs → va_Run p l e R s m args below meth c H locs cells slots mc ms (F0 m pc ls st0) st (Qc (Value.ref (sz0 + r) :: As).toArray) (Aw sz0) := r_V cx hM q824 q825 q826 q121 q827 rfl hd_X0_howMany hR cl_X0 (by decide) hk hn hst hcat d hb
theorem hd_X0_without : yX0_without.cls ≠ "java/lang/invoke/MethodHandle" ∧ yX0_without.cls ≠ "java/lang/invoke/VarHandle" ∧ (parseMethodDescriptor yX0_without.desc).map (fun d => d.parameters.length) = some 2 := by decide +kernel
theorem kcq833_L {p : Program} {l : Launch} {e : Env} {R : Room} {s : State} {m : MethodId} {args : Array Value} {below : List Frame} {meth : Method} {c : Code} {cells slots : Nat}  {cc : ByteArray} {nL : Nat} {ret : Option FieldType} {D : va_G} {cA : Nat → ClassId} {sz0 : Nat} {H0 : Heap} {pc : Nat} {lv : List (Nat × Value)} {st : List Value} {M : WM} {r : Nat} {mc ms fr lo : Nat} {st0 As : List Value} {Qc : Array Value → State → Outcome → State → Prop} (cx : Cx p s m args meth c cc nL RL ret D cA sz0 H0) (hM : Met l yX0_without (ws_ yX0_without cX0_without 6 (some .long)) ({ frames := fr, cells := mc, slots := ms, locals := lo } : Room) (PcW D cA sz0 H0 (.ref (sz0 + r) :: As) M) Qc mc ms (Aw sz0)) (hR : fr + 1 ≤ R.frames ∧ 8 + (6 + 11) + lo ≤ R.locals) (hk : wk M r = 0) (hn : As.length = 2) (hst : st0 = As.reverse ++ .ref (sz0 + r) :: st) (hcat : (st.map fun v => v.category).sum ≤ 8) (d : decode cc pc = .ok (.invokevirtual 56, 3)) (hb : cells + mc ≤ R.cells ∧ slots + ms ≤ R.slots) : ∀ (ls : Array Slot) (H : Heap) (locs : List Loc), lv_has ls nL lv → Wd D cA sz0 H0 M H → va_S (Aw sz0) s.heap H locs → va_Run p l e R s m args below meth c H locs cells slots mc ms (F0 m pc ls st0) st (Qc (Value.ref (sz0 + r) :: As).toArray) (Aw sz0) := r_V cx hM q833 q834 q835 q121 q836 rfl hd_X0_without hR cl_X0 (by decide) hk hn hst hcat d hb
theorem hd_X0_heap : yX0_heap.cls ≠ "java/lang/invoke/MethodHandle" ∧ yX0_heap.cls ≠ "java/lang/invoke/VarHandle" ∧ (parseMethodDescriptor yX0_heap.desc).map (fun d => d.parameters.length) = some 1 := by decide +kernel
theorem kcq842_L {p : Program} {l : Launch} {e : Env} {R : Room} {s : State} {m : MethodId} {args : Array Value} {below : List Frame} {meth : Method} {c : Code} {cells slots : Nat}  {cc : ByteArray} {nL : Nat} {ret : Option FieldType} {D : va_G} {cA : Nat → ClassId} {sz0 : Nat} {H0 : Heap} {pc : Nat} {lv : List (Nat × Value)} {st : List Value} {M : WM} {r : Nat} {mc ms fr lo : Nat} {st0 As : List Value} {Qc : Array Value → State → Outcome → State → Prop} (cx : Cx p s m args meth c cc nL RL ret D cA sz0 H0) (hM : Met l yX0_heap (ws_ yX0_heap cX0_heap 2 (some .int)) ({ frames := fr, cells := mc, slots := ms, locals := lo } : Room) (PcW D cA sz0 H0 (.ref (sz0 + r) :: As) M) Qc mc ms (Aw sz0)) (hR : fr + 1 ≤ R.frames ∧ 8 + (2 + 11) + lo ≤ R.locals) (hk : wk M r = 0) (hn : As.length = 1) (hst : st0 = As.reverse ++ .ref (sz0 + r) :: st) (hcat : (st.map fun v => v.category).sum ≤ 8) (d : decode cc pc = .ok (.invokevirtual 60, 3)) (hb : cells + mc ≤ R.cells ∧ slots + ms ≤ R.slots) : ∀ (ls : Array Slot) (H : Heap) (locs : List Loc), lv_has ls nL lv → Wd D cA sz0 H0 M H → va_S (Aw sz0) s.heap H locs → va_Run p l e R s m args below meth c H locs cells slots mc ms (F0 m pc ls st0) st (Qc (Value.ref (sz0 + r) :: As).toArray) (Aw sz0) := r_V cx hM q842 q843 q844 q121 q845 rfl hd_X0_heap hR cl_X0 (by decide) hk hn hst hcat d hb
theorem hd_X0_heaps : yX0_heaps.cls ≠ "java/lang/invoke/MethodHandle" ∧ yX0_heaps.cls ≠ "java/lang/invoke/VarHandle" ∧ (parseMethodDescriptor yX0_heaps.desc).map (fun d => d.parameters.length) = some 0 := by decide +kernel
theorem kcq850_L {p : Program} {l : Launch} {e : Env} {R : Room} {s : State} {m : MethodId} {args : Array Value} {below : List Frame} {meth : Method} {c : Code} {cells slots : Nat}  {cc : ByteArray} {nL : Nat} {ret : Option FieldType} {D : va_G} {cA : Nat → ClassId} {sz0 : Nat} {H0 : Heap} {pc : Nat} {lv : List (Nat × Value)} {st : List Value} {M : WM} {r : Nat} {mc ms fr lo : Nat} {st0 As : List Value} {Qc : Array Value → State → Outcome → State → Prop} (cx : Cx p s m args meth c cc nL RL ret D cA sz0 H0) (hM : Met l yX0_heaps (ws_ yX0_heaps cX0_heaps 3 (some .int)) ({ frames := fr, cells := mc, slots := ms, locals := lo } : Room) (PcW D cA sz0 H0 (.ref (sz0 + r) :: As) M) Qc mc ms (Aw sz0)) (hR : fr + 1 ≤ R.frames ∧ 8 + (3 + 11) + lo ≤ R.locals) (hk : wk M r = 0) (hn : As.length = 0) (hst : st0 = As.reverse ++ .ref (sz0 + r) :: st) (hcat : (st.map fun v => v.category).sum ≤ 8) (d : decode cc pc = .ok (.invokevirtual 64, 3)) (hb : cells + mc ≤ R.cells ∧ slots + ms ≤ R.slots) : ∀ (ls : Array Slot) (H : Heap) (locs : List Loc), lv_has ls nL lv → Wd D cA sz0 H0 M H → va_S (Aw sz0) s.heap H locs → va_Run p l e R s m args below meth c H locs cells slots mc ms (F0 m pc ls st0) st (Qc (Value.ref (sz0 + r) :: As).toArray) (Aw sz0) := r_V cx hM q850 q851 q852 q121 q853 rfl hd_X0_heaps hR cl_X0 (by decide) hk hn hst hcat d hb
theorem hd_X0_far : yX0_far.cls ≠ "java/lang/invoke/MethodHandle" ∧ yX0_far.cls ≠ "java/lang/invoke/VarHandle" ∧ (parseMethodDescriptor yX0_far.desc).map (fun d => d.parameters.length) = some 1 := by decide +kernel
theorem kcq854_L {p : Program} {l : Launch} {e : Env} {R : Room} {s : State} {m : MethodId} {args : Array Value} {below : List Frame} {meth : Method} {c : Code} {cells slots : Nat}  {cc : ByteArray} {nL : Nat} {ret : Option FieldType} {D : va_G} {cA : Nat → ClassId} {sz0 : Nat} {H0 : Heap} {pc : Nat} {lv : List (Nat × Value)} {st : List Value} {M : WM} {r : Nat} {mc ms fr lo : Nat} {st0 As : List Value} {Qc : Array Value → State → Outcome → State → Prop} (cx : Cx p s m args meth c cc nL RL ret D cA sz0 H0) (hM : Met l yX0_far (ws_ yX0_far cX0_far 7 (some .int)) ({ frames := fr, cells := mc, slots := ms, locals := lo } : Room) (PcW D cA sz0 H0 (.ref (sz0 + r) :: As) M) Qc mc ms (Aw sz0)) (hR : fr + 1 ≤ R.frames ∧ 8 + (7 + 11) + lo ≤ R.locals) (hk : wk M r = 0) (hn : As.length = 1) (hst : st0 = As.reverse ++ .ref (sz0 + r) :: st) (hcat : (st.map fun v => v.category).sum ≤ 8) (d : decode cc pc = .ok (.invokevirtual 69, 3)) (hb : cells + mc ≤ R.cells ∧ slots + ms ≤ R.slots) : ∀ (ls : Array Slot) (H : Heap) (locs : List Loc), lv_has ls nL lv → Wd D cA sz0 H0 M H → va_S (Aw sz0) s.heap H locs → va_Run p l e R s m args below meth c H locs cells slots mc ms (F0 m pc ls st0) st (Qc (Value.ref (sz0 + r) :: As).toArray) (Aw sz0) := r_V cx hM q854 q855 q856 q121 q857 rfl hd_X0_far hR cl_X0 (by decide) hk hn hst hcat d hb
theorem hd_X0_between : yX0_between.cls ≠ "java/lang/invoke/MethodHandle" ∧ yX0_between.cls ≠ "java/lang/invoke/VarHandle" ∧ (parseMethodDescriptor yX0_between.desc).map (fun d => d.parameters.length) = some 1 := by decide +kernel
theorem kcq858_L {p : Program} {l : Launch} {e : Env} {R : Room} {s : State} {m : MethodId} {args : Array Value} {below : List Frame} {meth : Method} {c : Code} {cells slots : Nat}  {cc : ByteArray} {nL : Nat} {ret : Option FieldType} {D : va_G} {cA : Nat → ClassId} {sz0 : Nat} {H0 : Heap} {pc : Nat} {lv : List (Nat × Value)} {st : List Value} {M : WM} {r : Nat} {mc ms fr lo : Nat} {st0 As : List Value} {Qc : Array Value → State → Outcome → State → Prop} (cx : Cx p s m args meth c cc nL RL ret D cA sz0 H0) (hM : Met l yX0_between (ws_ yX0_between cX0_between 5 (some .int)) ({ frames := fr, cells := mc, slots := ms, locals := lo } : Room) (PcW D cA sz0 H0 (.ref (sz0 + r) :: As) M) Qc mc ms (Aw sz0)) (hR : fr + 1 ≤ R.frames ∧ 8 + (5 + 11) + lo ≤ R.locals) (hk : wk M r = 0) (hn : As.length = 1) (hst : st0 = As.reverse ++ .ref (sz0 + r) :: st) (hcat : (st.map fun v => v.category).sum ≤ 8) (d : decode cc pc = .ok (.invokevirtual 73, 3)) (hb : cells + mc ≤ R.cells ∧ slots + ms ≤ R.slots) : ∀ (ls : Array Slot) (H : Heap) (locs : List Loc), lv_has ls nL lv → Wd D cA sz0 H0 M H → va_S (Aw sz0) s.heap H locs → va_Run p l e R s m args below meth c H locs cells slots mc ms (F0 m pc ls st0) st (Qc (Value.ref (sz0 + r) :: As).toArray) (Aw sz0) := r_V cx hM q858 q859 q860 q121 q861 rfl hd_X0_between hR cl_X0 (by decide) hk hn hst hcat d hb
theorem hd_X0_newWord : yX0_newWord.cls ≠ "java/lang/invoke/MethodHandle" ∧ yX0_newWord.cls ≠ "java/lang/invoke/VarHandle" ∧ (parseMethodDescriptor yX0_newWord.desc).map (fun d => d.parameters.length) = some 1 := by decide +kernel
theorem kcq866_L {p : Program} {l : Launch} {e : Env} {R : Room} {s : State} {m : MethodId} {args : Array Value} {below : List Frame} {meth : Method} {c : Code} {cells slots : Nat}  {cc : ByteArray} {nL : Nat} {ret : Option FieldType} {D : va_G} {cA : Nat → ClassId} {sz0 : Nat} {H0 : Heap} {pc : Nat} {lv : List (Nat × Value)} {st : List Value} {M : WM} {r : Nat} {mc ms fr lo : Nat} {st0 As : List Value} {Qc : Array Value → State → Outcome → State → Prop} (cx : Cx p s m args meth c cc nL RL ret D cA sz0 H0) (hM : Met l yX0_newWord (ws_ yX0_newWord cX0_newWord 5 (some .int)) ({ frames := fr, cells := mc, slots := ms, locals := lo } : Room) (PcW D cA sz0 H0 (.ref (sz0 + r) :: As) M) Qc mc ms (Aw sz0)) (hR : fr + 1 ≤ R.frames ∧ 8 + (5 + 11) + lo ≤ R.locals) (hk : wk M r = 0) (hn : As.length = 1) (hst : st0 = As.reverse ++ .ref (sz0 + r) :: st) (hcat : (st.map fun v => v.category).sum ≤ 8) (d : decode cc pc = .ok (.invokevirtual 77, 3)) (hb : cells + mc ≤ R.cells ∧ slots + ms ≤ R.slots) : ∀ (ls : Array Slot) (H : Heap) (locs : List Loc), lv_has ls nL lv → Wd D cA sz0 H0 M H → va_S (Aw sz0) s.heap H locs → va_Run p l e R s m args below meth c H locs cells slots mc ms (F0 m pc ls st0) st (Qc (Value.ref (sz0 + r) :: As).toArray) (Aw sz0) := r_V cx hM q866 q867 q868 q121 q869 rfl hd_X0_newWord hR cl_X0 (by decide) hk hn hst hcat d hb
theorem hd_X0_walks : yX0_walks.cls ≠ "java/lang/invoke/MethodHandle" ∧ yX0_walks.cls ≠ "java/lang/invoke/VarHandle" ∧ (parseMethodDescriptor yX0_walks.desc).map (fun d => d.parameters.length) = some 3 := by decide +kernel
theorem kcq900_L {p : Program} {l : Launch} {e : Env} {R : Room} {s : State} {m : MethodId} {args : Array Value} {below : List Frame} {meth : Method} {c : Code} {cells slots : Nat}  {cc : ByteArray} {nL : Nat} {ret : Option FieldType} {D : va_G} {cA : Nat → ClassId} {sz0 : Nat} {H0 : Heap} {pc : Nat} {lv : List (Nat × Value)} {st : List Value} {M : WM} {r : Nat} {mc ms fr lo : Nat} {st0 As : List Value} {Qc : Array Value → State → Outcome → State → Prop} (cx : Cx p s m args meth c cc nL RL ret D cA sz0 H0) (hM : Met l yX0_walks (ws_ yX0_walks cX0_walks 9 (some .long)) ({ frames := fr, cells := mc, slots := ms, locals := lo } : Room) (PcW D cA sz0 H0 (.ref (sz0 + r) :: As) M) Qc mc ms (Aw sz0)) (hR : fr + 1 ≤ R.frames ∧ 8 + (9 + 11) + lo ≤ R.locals) (hk : wk M r = 0) (hn : As.length = 3) (hst : st0 = As.reverse ++ .ref (sz0 + r) :: st) (hcat : (st.map fun v => v.category).sum ≤ 8) (d : decode cc pc = .ok (.invokevirtual 81, 3)) (hb : cells + mc ≤ R.cells ∧ slots + ms ≤ R.slots) : ∀ (ls : Array Slot) (H : Heap) (locs : List Loc), lv_has ls nL lv → Wd D cA sz0 H0 M H → va_S (Aw sz0) s.heap H locs → va_Run p l e R s m args below meth c H locs cells slots mc ms (F0 m pc ls st0) st (Qc (Value.ref (sz0 + r) :: As).toArray) (Aw sz0) := r_V cx hM q900 q901 q902 q121 q903 rfl hd_X0_walks hR cl_X0 (by decide) hk hn hst hcat d hb
theorem hd_X0_row : yX0_row.cls ≠ "java/lang/invoke/MethodHandle" ∧ yX0_row.cls ≠ "java/lang/invoke/VarHandle" ∧ (parseMethodDescriptor yX0_row.desc).map (fun d => d.parameters.length) = some 2 := by decide +kernel
theorem kcq904_L {p : Program} {l : Launch} {e : Env} {R : Room} {s : State} {m : MethodId} {args : Array Value} {below : List Frame} {meth : Method} {c : Code} {cells slots : Nat}  {cc : ByteArray} {nL : Nat} {ret : Option FieldType} {D : va_G} {cA : Nat → ClassId} {sz0 : Nat} {H0 : Heap} {pc : Nat} {lv : List (Nat × Value)} {st : List Value} {M : WM} {r : Nat} {mc ms fr lo : Nat} {st0 As : List Value} {Qc : Array Value → State → Outcome → State → Prop} (cx : Cx p s m args meth c cc nL RL ret D cA sz0 H0) (hM : Met l yX0_row (ws_ yX0_row cX0_row 10 (some .int)) ({ frames := fr, cells := mc, slots := ms, locals := lo } : Room) (PcW D cA sz0 H0 (.ref (sz0 + r) :: As) M) Qc mc ms (Aw sz0)) (hR : fr + 1 ≤ R.frames ∧ 8 + (10 + 11) + lo ≤ R.locals) (hk : wk M r = 0) (hn : As.length = 2) (hst : st0 = As.reverse ++ .ref (sz0 + r) :: st) (hcat : (st.map fun v => v.category).sum ≤ 8) (d : decode cc pc = .ok (.invokevirtual 86, 3)) (hb : cells + mc ≤ R.cells ∧ slots + ms ≤ R.slots) : ∀ (ls : Array Slot) (H : Heap) (locs : List Loc), lv_has ls nL lv → Wd D cA sz0 H0 M H → va_S (Aw sz0) s.heap H locs → va_Run p l e R s m args below meth c H locs cells slots mc ms (F0 m pc ls st0) st (Qc (Value.ref (sz0 + r) :: As).toArray) (Aw sz0) := r_V cx hM q904 q905 q906 q121 q907 rfl hd_X0_row hR cl_X0 (by decide) hk hn hst hcat d hb
theorem hd_X0_game : yX0_game.cls ≠ "java/lang/invoke/MethodHandle" ∧ yX0_game.cls ≠ "java/lang/invoke/VarHandle" ∧ (parseMethodDescriptor yX0_game.desc).map (fun d => d.parameters.length) = some 2 := by decide +kernel
theorem kcq928_L {p : Program} {l : Launch} {e : Env} {R : Room} {s : State} {m : MethodId} {args : Array Value} {below : List Frame} {meth : Method} {c : Code} {cells slots : Nat}  {cc : ByteArray} {nL : Nat} {ret : Option FieldType} {D : va_G} {cA : Nat → ClassId} {sz0 : Nat} {H0 : Heap} {pc : Nat} {lv : List (Nat × Value)} {st : List Value} {M : WM} {r : Nat} {mc ms fr lo : Nat} {st0 As : List Value} {Qc : Array Value → State → Outcome → State → Prop} (cx : Cx p s m args meth c cc nL RL ret D cA sz0 H0) (hM : Met l yX0_game (ws_ yX0_game cX0_game 6 (some .int)) ({ frames := fr, cells := mc, slots := ms, locals := lo } : Room) (PcW D cA sz0 H0 (.ref (sz0 + r) :: As) M) Qc mc ms (Aw sz0)) (hR : fr + 1 ≤ R.frames ∧ 8 + (6 + 11) + lo ≤ R.locals) (hk : wk M r = 0) (hn : As.length = 2) (hst : st0 = As.reverse ++ .ref (sz0 + r) :: st) (hcat : (st.map fun v => v.category).sum ≤ 8) (d : decode cc pc = .ok (.invokevirtual 91, 3)) (hb : cells + mc ≤ R.cells ∧ slots + ms ≤ R.slots) : ∀ (ls : Array Slot) (H : Heap) (locs : List Loc), lv_has ls nL lv → Wd D cA sz0 H0 M H → va_S (Aw sz0) s.heap H locs → va_Run p l e R s m args below meth c H locs cells slots mc ms (F0 m pc ls st0) st (Qc (Value.ref (sz0 + r) :: As).toArray) (Aw sz0) := r_V cx hM q928 q929 q930 q121 q931 rfl hd_X0_game hR cl_X0 (by decide) hk hn hst hcat d hb
theorem hd_X0_farBy : yX0_farBy.cls ≠ "java/lang/invoke/MethodHandle" ∧ yX0_farBy.cls ≠ "java/lang/invoke/VarHandle" ∧ (parseMethodDescriptor yX0_farBy.desc).map (fun d => d.parameters.length) = some 2 := by decide +kernel
theorem kcq936_L {p : Program} {l : Launch} {e : Env} {R : Room} {s : State} {m : MethodId} {args : Array Value} {below : List Frame} {meth : Method} {c : Code} {cells slots : Nat}  {cc : ByteArray} {nL : Nat} {ret : Option FieldType} {D : va_G} {cA : Nat → ClassId} {sz0 : Nat} {H0 : Heap} {pc : Nat} {lv : List (Nat × Value)} {st : List Value} {M : WM} {r : Nat} {mc ms fr lo : Nat} {st0 As : List Value} {Qc : Array Value → State → Outcome → State → Prop} (cx : Cx p s m args meth c cc nL RL ret D cA sz0 H0) (hM : Met l yX0_farBy (ws_ yX0_farBy cX0_farBy 3 (some .int)) ({ frames := fr, cells := mc, slots := ms, locals := lo } : Room) (PcW D cA sz0 H0 (.ref (sz0 + r) :: As) M) Qc mc ms (Aw sz0)) (hR : fr + 1 ≤ R.frames ∧ 8 + (3 + 11) + lo ≤ R.locals) (hk : wk M r = 0) (hn : As.length = 2) (hst : st0 = As.reverse ++ .ref (sz0 + r) :: st) (hcat : (st.map fun v => v.category).sum ≤ 8) (d : decode cc pc = .ok (.invokevirtual 95, 3)) (hb : cells + mc ≤ R.cells ∧ slots + ms ≤ R.slots) : ∀ (ls : Array Slot) (H : Heap) (locs : List Loc), lv_has ls nL lv → Wd D cA sz0 H0 M H → va_S (Aw sz0) s.heap H locs → va_Run p l e R s m args below meth c H locs cells slots mc ms (F0 m pc ls st0) st (Qc (Value.ref (sz0 + r) :: As).toArray) (Aw sz0) := r_V cx hM q936 q937 q938 q121 q939 rfl hd_X0_farBy hR cl_X0 (by decide) hk hn hst hcat d hb
theorem hd_X0_near : yX0_near.cls ≠ "java/lang/invoke/MethodHandle" ∧ yX0_near.cls ≠ "java/lang/invoke/VarHandle" ∧ (parseMethodDescriptor yX0_near.desc).map (fun d => d.parameters.length) = some 2 := by decide +kernel
theorem kcq944_L {p : Program} {l : Launch} {e : Env} {R : Room} {s : State} {m : MethodId} {args : Array Value} {below : List Frame} {meth : Method} {c : Code} {cells slots : Nat}  {cc : ByteArray} {nL : Nat} {ret : Option FieldType} {D : va_G} {cA : Nat → ClassId} {sz0 : Nat} {H0 : Heap} {pc : Nat} {lv : List (Nat × Value)} {st : List Value} {M : WM} {r : Nat} {mc ms fr lo : Nat} {st0 As : List Value} {Qc : Array Value → State → Outcome → State → Prop} (cx : Cx p s m args meth c cc nL RL ret D cA sz0 H0) (hM : Met l yX0_near (ws_ yX0_near cX0_near 8 (some .int)) ({ frames := fr, cells := mc, slots := ms, locals := lo } : Room) (PcW D cA sz0 H0 (.ref (sz0 + r) :: As) M) Qc mc ms (Aw sz0)) (hR : fr + 1 ≤ R.frames ∧ 8 + (8 + 11) + lo ≤ R.locals) (hk : wk M r = 0) (hn : As.length = 2) (hst : st0 = As.reverse ++ .ref (sz0 + r) :: st) (hcat : (st.map fun v => v.category).sum ≤ 8) (d : decode cc pc = .ok (.invokevirtual 99, 3)) (hb : cells + mc ≤ R.cells ∧ slots + ms ≤ R.slots) : ∀ (ls : Array Slot) (H : Heap) (locs : List Loc), lv_has ls nL lv → Wd D cA sz0 H0 M H → va_S (Aw sz0) s.heap H locs → va_Run p l e R s m args below meth c H locs cells slots mc ms (F0 m pc ls st0) st (Qc (Value.ref (sz0 + r) :: As).toArray) (Aw sz0) := r_V cx hM q944 q945 q946 q121 q947 rfl hd_X0_near hR cl_X0 (by decide) hk hn hst hcat d hb
theorem hd_X0_clear : yX0_clear.cls ≠ "java/lang/invoke/MethodHandle" ∧ yX0_clear.cls ≠ "java/lang/invoke/VarHandle" ∧ (parseMethodDescriptor yX0_clear.desc).map (fun d => d.parameters.length) = some 3 := by decide +kernel
theorem kcq948_L {p : Program} {l : Launch} {e : Env} {R : Room} {s : State} {m : MethodId} {args : Array Value} {below : List Frame} {meth : Method} {c : Code} {cells slots : Nat}  {cc : ByteArray} {nL : Nat} {ret : Option FieldType} {D : va_G} {cA : Nat → ClassId} {sz0 : Nat} {H0 : Heap} {pc : Nat} {lv : List (Nat × Value)} {st : List Value} {M : WM} {r : Nat} {mc ms fr lo : Nat} {st0 As : List Value} {Qc : Array Value → State → Outcome → State → Prop} (cx : Cx p s m args meth c cc nL RL ret D cA sz0 H0) (hM : Met l yX0_clear (ws_ yX0_clear cX0_clear 8 (some .int)) ({ frames := fr, cells := mc, slots := ms, locals := lo } : Room) (PcW D cA sz0 H0 (.ref (sz0 + r) :: As) M) Qc mc ms (Aw sz0)) (hR : fr + 1 ≤ R.frames ∧ 8 + (8 + 11) + lo ≤ R.locals) (hk : wk M r = 0) (hn : As.length = 3) (hst : st0 = As.reverse ++ .ref (sz0 + r) :: st) (hcat : (st.map fun v => v.category).sum ≤ 8) (d : decode cc pc = .ok (.invokevirtual 103, 3)) (hb : cells + mc ≤ R.cells ∧ slots + ms ≤ R.slots) : ∀ (ls : Array Slot) (H : Heap) (locs : List Loc), lv_has ls nL lv → Wd D cA sz0 H0 M H → va_S (Aw sz0) s.heap H locs → va_Run p l e R s m args below meth c H locs cells slots mc ms (F0 m pc ls st0) st (Qc (Value.ref (sz0 + r) :: As).toArray) (Aw sz0) := r_V cx hM q948 q949 q950 q121 q951 rfl hd_X0_clear hR cl_X0 (by decide) hk hn hst hcat d hb
theorem hd_X0_rubbed : yX0_rubbed.cls ≠ "java/lang/invoke/MethodHandle" ∧ yX0_rubbed.cls ≠ "java/lang/invoke/VarHandle" ∧ (parseMethodDescriptor yX0_rubbed.desc).map (fun d => d.parameters.length) = some 1 := by decide +kernel
theorem kcq958_L {p : Program} {l : Launch} {e : Env} {R : Room} {s : State} {m : MethodId} {args : Array Value} {below : List Frame} {meth : Method} {c : Code} {cells slots : Nat}  {cc : ByteArray} {nL : Nat} {ret : Option FieldType} {D : va_G} {cA : Nat → ClassId} {sz0 : Nat} {H0 : Heap} {pc : Nat} {lv : List (Nat × Value)} {st : List Value} {M : WM} {r : Nat} {mc ms fr lo : Nat} {st0 As : List Value} {Qc : Array Value → State → Outcome → State → Prop} (cx : Cx p s m args meth c cc nL RL ret D cA sz0 H0) (hM : Met l yX0_rubbed (ws_ yX0_rubbed cX0_rubbed 8 (some .long)) ({ frames := fr, cells := mc, slots := ms, locals := lo } : Room) (PcW D cA sz0 H0 (.ref (sz0 + r) :: As) M) Qc mc ms (Aw sz0)) (hR : fr + 1 ≤ R.frames ∧ 8 + (8 + 11) + lo ≤ R.locals) (hk : wk M r = 0) (hn : As.length = 1) (hst : st0 = As.reverse ++ .ref (sz0 + r) :: st) (hcat : (st.map fun v => v.category).sum ≤ 8) (d : decode cc pc = .ok (.invokevirtual 107, 3)) (hb : cells + mc ≤ R.cells ∧ slots + ms ≤ R.slots) : ∀ (ls : Array Slot) (H : Heap) (locs : List Loc), lv_has ls nL lv → Wd D cA sz0 H0 M H → va_S (Aw sz0) s.heap H locs → va_Run p l e R s m args below meth c H locs cells slots mc ms (F0 m pc ls st0) st (Qc (Value.ref (sz0 + r) :: As).toArray) (Aw sz0) := r_V cx hM q958 q959 q960 q121 q961 rfl hd_X0_rubbed hR cl_X0 (by decide) hk hn hst hcat d hb
theorem hd_X0_square : yX0_square.cls ≠ "java/lang/invoke/MethodHandle" ∧ yX0_square.cls ≠ "java/lang/invoke/VarHandle" ∧ (parseMethodDescriptor yX0_square.desc).map (fun d => d.parameters.length) = some 2 := by decide +kernel
theorem kcq962_L {p : Program} {l : Launch} {e : Env} {R : Room} {s : State} {m : MethodId} {args : Array Value} {below : List Frame} {meth : Method} {c : Code} {cells slots : Nat}  {cc : ByteArray} {nL : Nat} {ret : Option FieldType} {D : va_G} {cA : Nat → ClassId} {sz0 : Nat} {H0 : Heap} {pc : Nat} {lv : List (Nat × Value)} {st : List Value} {M : WM} {r : Nat} {mc ms fr lo : Nat} {st0 As : List Value} {Qc : Array Value → State → Outcome → State → Prop} (cx : Cx p s m args meth c cc nL RL ret D cA sz0 H0) (hM : Met l yX0_square (ws_ yX0_square cX0_square 3 (some .int)) ({ frames := fr, cells := mc, slots := ms, locals := lo } : Room) (PcW D cA sz0 H0 (.ref (sz0 + r) :: As) M) Qc mc ms (Aw sz0)) (hR : fr + 1 ≤ R.frames ∧ 8 + (3 + 11) + lo ≤ R.locals) (hk : wk M r = 0) (hn : As.length = 2) (hst : st0 = As.reverse ++ .ref (sz0 + r) :: st) (hcat : (st.map fun v => v.category).sum ≤ 8) (d : decode cc pc = .ok (.invokevirtual 112, 3)) (hb : cells + mc ≤ R.cells ∧ slots + ms ≤ R.slots) : ∀ (ls : Array Slot) (H : Heap) (locs : List Loc), lv_has ls nL lv → Wd D cA sz0 H0 M H → va_S (Aw sz0) s.heap H locs → va_Run p l e R s m args below meth c H locs cells slots mc ms (F0 m pc ls st0) st (Qc (Value.ref (sz0 + r) :: As).toArray) (Aw sz0) := r_V cx hM q962 q963 q964 q121 q965 rfl hd_X0_square hR cl_X0 (by decide) hk hn hst hcat d hb
theorem hd_X0_seed : yX0_seed.cls ≠ "java/lang/invoke/MethodHandle" ∧ yX0_seed.cls ≠ "java/lang/invoke/VarHandle" ∧ (parseMethodDescriptor yX0_seed.desc).map (fun d => d.parameters.length) = some 1 := by decide +kernel
theorem kcq974_L {p : Program} {l : Launch} {e : Env} {R : Room} {s : State} {m : MethodId} {args : Array Value} {below : List Frame} {meth : Method} {c : Code} {cells slots : Nat}  {cc : ByteArray} {nL : Nat} {ret : Option FieldType} {D : va_G} {cA : Nat → ClassId} {sz0 : Nat} {H0 : Heap} {pc : Nat} {lv : List (Nat × Value)} {st : List Value} {M : WM} {r : Nat} {mc ms fr lo : Nat} {st0 As : List Value} {Qc : Array Value → State → Outcome → State → Prop} (cx : Cx p s m args meth c cc nL RL ret D cA sz0 H0) (hM : Met l yX0_seed (ws_ yX0_seed cX0_seed 2 (some .boolean)) ({ frames := fr, cells := mc, slots := ms, locals := lo } : Room) (PcW D cA sz0 H0 (.ref (sz0 + r) :: As) M) Qc mc ms (Aw sz0)) (hR : fr + 1 ≤ R.frames ∧ 8 + (2 + 11) + lo ≤ R.locals) (hk : wk M r = 0) (hn : As.length = 1) (hst : st0 = As.reverse ++ .ref (sz0 + r) :: st) (hcat : (st.map fun v => v.category).sum ≤ 8) (d : decode cc pc = .ok (.invokevirtual 116, 3)) (hb : cells + mc ≤ R.cells ∧ slots + ms ≤ R.slots) : ∀ (ls : Array Slot) (H : Heap) (locs : List Loc), lv_has ls nL lv → Wd D cA sz0 H0 M H → va_S (Aw sz0) s.heap H locs → va_Run p l e R s m args below meth c H locs cells slots mc ms (F0 m pc ls st0) st (Qc (Value.ref (sz0 + r) :: As).toArray) (Aw sz0) := r_V cx hM q974 q975 q976 q121 q977 rfl hd_X0_seed hR cl_X0 (by decide) hk hn hst hcat d hb
theorem hd_X0_draw : yX0_draw.cls ≠ "java/lang/invoke/MethodHandle" ∧ yX0_draw.cls ≠ "java/lang/invoke/VarHandle" ∧ (parseMethodDescriptor yX0_draw.desc).map (fun d => d.parameters.length) = some 3 := by decide +kernel
theorem kcq979_L {p : Program} {l : Launch} {e : Env} {R : Room} {s : State} {m : MethodId} {args : Array Value} {below : List Frame} {meth : Method} {c : Code} {cells slots : Nat}  {cc : ByteArray} {nL : Nat} {ret : Option FieldType} {D : va_G} {cA : Nat → ClassId} {sz0 : Nat} {H0 : Heap} {pc : Nat} {lv : List (Nat × Value)} {st : List Value} {M : WM} {r : Nat} {mc ms fr lo : Nat} {st0 As : List Value} {Qc : Array Value → State → Outcome → State → Prop} (cx : Cx p s m args meth c cc nL RL ret D cA sz0 H0) (hM : Met l yX0_draw (ws_ yX0_draw cX0_draw 8 (some .int)) ({ frames := fr, cells := mc, slots := ms, locals := lo } : Room) (PcW D cA sz0 H0 (.ref (sz0 + r) :: As) M) Qc mc ms (Aw sz0)) (hR : fr + 1 ≤ R.frames ∧ 8 + (8 + 11) + lo ≤ R.locals) (hk : wk M r = 0) (hn : As.length = 3) (hst : st0 = As.reverse ++ .ref (sz0 + r) :: st) (hcat : (st.map fun v => v.category).sum ≤ 8) (d : decode cc pc = .ok (.invokevirtual 120, 3)) (hb : cells + mc ≤ R.cells ∧ slots + ms ≤ R.slots) : ∀ (ls : Array Slot) (H : Heap) (locs : List Loc), lv_has ls nL lv → Wd D cA sz0 H0 M H → va_S (Aw sz0) s.heap H locs → va_Run p l e R s m args below meth c H locs cells slots mc ms (F0 m pc ls st0) st (Qc (Value.ref (sz0 + r) :: As).toArray) (Aw sz0) := r_V cx hM q979 q980 q981 q121 q982 rfl hd_X0_draw hR cl_X0 (by decide) hk hn hst hcat d hb
theorem hd_X0_off : yX0_off.cls ≠ "java/lang/invoke/MethodHandle" ∧ yX0_off.cls ≠ "java/lang/invoke/VarHandle" ∧ (parseMethodDescriptor yX0_off.desc).map (fun d => d.parameters.length) = some 0 := by decide +kernel
theorem kcq991_L {p : Program} {l : Launch} {e : Env} {R : Room} {s : State} {m : MethodId} {args : Array Value} {below : List Frame} {meth : Method} {c : Code} {cells slots : Nat}  {cc : ByteArray} {nL : Nat} {ret : Option FieldType} {D : va_G} {cA : Nat → ClassId} {sz0 : Nat} {H0 : Heap} {pc : Nat} {lv : List (Nat × Value)} {st : List Value} {M : WM} {r : Nat} {mc ms fr lo : Nat} {st0 As : List Value} {Qc : Array Value → State → Outcome → State → Prop} (cx : Cx p s m args meth c cc nL RL ret D cA sz0 H0) (hM : Met l yX0_off (ws_ yX0_off cX0_off 1 (some .int)) ({ frames := fr, cells := mc, slots := ms, locals := lo } : Room) (PcW D cA sz0 H0 (.ref (sz0 + r) :: As) M) Qc mc ms (Aw sz0)) (hR : fr + 1 ≤ R.frames ∧ 8 + (1 + 11) + lo ≤ R.locals) (hk : wk M r = 0) (hn : As.length = 0) (hst : st0 = As.reverse ++ .ref (sz0 + r) :: st) (hcat : (st.map fun v => v.category).sum ≤ 8) (d : decode cc pc = .ok (.invokevirtual 124, 3)) (hb : cells + mc ≤ R.cells ∧ slots + ms ≤ R.slots) : ∀ (ls : Array Slot) (H : Heap) (locs : List Loc), lv_has ls nL lv → Wd D cA sz0 H0 M H → va_S (Aw sz0) s.heap H locs → va_Run p l e R s m args below meth c H locs cells slots mc ms (F0 m pc ls st0) st (Qc (Value.ref (sz0 + r) :: As).toArray) (Aw sz0) := r_V cx hM q991 q992 q993 q121 q994 rfl hd_X0_off hR cl_X0 (by decide) hk hn hst hcat d hb
theorem hd_X0_check : yX0_check.cls ≠ "java/lang/invoke/MethodHandle" ∧ yX0_check.cls ≠ "java/lang/invoke/VarHandle" ∧ (parseMethodDescriptor yX0_check.desc).map (fun d => d.parameters.length) = some 2 := by decide +kernel
theorem kcq995_L {p : Program} {l : Launch} {e : Env} {R : Room} {s : State} {m : MethodId} {args : Array Value} {below : List Frame} {meth : Method} {c : Code} {cells slots : Nat}  {cc : ByteArray} {nL : Nat} {ret : Option FieldType} {D : va_G} {cA : Nat → ClassId} {sz0 : Nat} {H0 : Heap} {pc : Nat} {lv : List (Nat × Value)} {st : List Value} {M : WM} {r : Nat} {mc ms fr lo : Nat} {st0 As : List Value} {Qc : Array Value → State → Outcome → State → Prop} (cx : Cx p s m args meth c cc nL RL ret D cA sz0 H0) (hM : Met l yX0_check (ws_ yX0_check cX0_check 5 (some .int)) ({ frames := fr, cells := mc, slots := ms, locals := lo } : Room) (PcW D cA sz0 H0 (.ref (sz0 + r) :: As) M) Qc mc ms (Aw sz0)) (hR : fr + 1 ≤ R.frames ∧ 8 + (5 + 11) + lo ≤ R.locals) (hk : wk M r = 0) (hn : As.length = 2) (hst : st0 = As.reverse ++ .ref (sz0 + r) :: st) (hcat : (st.map fun v => v.category).sum ≤ 8) (d : decode cc pc = .ok (.invokevirtual 128, 3)) (hb : cells + mc ≤ R.cells ∧ slots + ms ≤ R.slots) : ∀ (ls : Array Slot) (H : Heap) (locs : List Loc), lv_has ls nL lv → Wd D cA sz0 H0 M H → va_S (Aw sz0) s.heap H locs → va_Run p l e R s m args below meth c H locs cells slots mc ms (F0 m pc ls st0) st (Qc (Value.ref (sz0 + r) :: As).toArray) (Aw sz0) := r_V cx hM q995 q996 q997 q121 q998 rfl hd_X0_check hR cl_X0 (by decide) hk hn hst hcat d hb
/-! LetterHeapsLaw.law([I)Z -/
def m_L_law_j307 (L0 : Nat) (xs : Nat → Int32) (K18 : Int32 → WM → Nat → Nat → Prop) (x3 : Int32) (y0 : Int32) (y1 : Int32) (y3 : Int32)   (Q : Int32 → WM → Prop) (M : WM) (kc : Nat) (ks : Nat) : Prop := ((kc ≤ 600000 ∧ ks ≤ 7302250) ∧ (m_X6_bar y1 y0 M (fun (a2 : Int32) (M3 : WM) => ((y3 = a2 → (∀ z5 : Int32, z5 = x3 + (6 : Int32) → K18 z5 M3 ((kc + 0)) ((ks + 0)))) ∧ (¬ y3 = a2 → (((kc + 0) ≤ 600000 ∧ (ks + 0) ≤ 7302250) ∧ (0 : Int32) = 1))))))
theorem w_L_law_j307 {p : Program} {l : Launch} {e : Env} {s : State} {m : MethodId} {b0 : Nat} {below : List Frame} {meth : Method} {c : Code} {D : va_G} {cA : Nat → ClassId} {sz0 : Nat} {H0 : Heap}  {L0 : Nat} {xs : Nat → Int32} {K18 : Int32 → WM → Nat → Nat → Prop} {x3 : Int32} {y0 : Int32} {y1 : Int32} {y3 : Int32}  {Q : Int32 → WM → Prop}  (cx : Cx p s m #[Value.ref b0] meth c cL_law 4 RL (some .boolean) D cA sz0 H0) (hL0 : L0 ≤ 384) (hxs : Scr s sz0 b0 L0 xs) (hK18 : ∀ (x3 : Int32)  (M : WM) (sh : Shp M) (kc ks : Nat), K18 x3 M kc ks → V p l e room_1 s m #[Value.ref b0] below meth c 4 D cA sz0 H0 kc ks (lw_Z below #[Value.ref b0] s) 18 [(0, .ref b0), (1, .ref (sz0 + 0)), (2, .ref (sz0 + 5444)), (3, .int x3)] [] M)     (M : WM) (sh : Shp M) (kc ks : Nat) (h : m_L_law_j307 L0 xs K18 x3 y0 y1 y3  Q M kc ks) : V p l e room_1 s m #[Value.ref b0] below meth c 4 D cA sz0 H0 kc ks (lw_Z below #[Value.ref b0] s) 307 [(0, .ref b0), (1, .ref (sz0 + 0)), (2, .ref (sz0 + 5444)), (3, .int x3)] [.int y0, .int y1, .ref (sz0 + 5444), .int y3] M := by
  replace h : ((kc ≤ 600000 ∧ ks ≤ 7302250) ∧ (m_X6_bar y1 y0 M (fun (a2 : Int32) (M3 : WM) => ((y3 = a2 → (∀ z5 : Int32, z5 = x3 + (6 : Int32) → K18 z5 M3 ((kc + 0)) ((ks + 0)))) ∧ (¬ y3 = a2 → (((kc + 0) ≤ 600000 ∧ (ks + 0) ≤ 7302250) ∧ (0 : Int32) = 1)))))) := h
  obtain ⟨hb1, h⟩ := h
  refine v_run_i (pc := 307) cx (kcq1200_L cx (c_X6_bar l D cA sz0 H0 M y1 y0  _ sh h) ⟨Nat.le_of_ble_eq_true rfl, Nat.le_of_ble_eq_true rfl⟩ (sh.k k_5444) (As := [.int y1, .int y0]) rfl rfl (Nat.le_of_ble_eq_true rfl) dL_law_307 ⟨hb1.1, hb1.2⟩) (fun a2 M3 hq => ?_)
  obtain ⟨h, sh⟩ := hq
  refine v_icmp_eq (pc := 310) cx dL_law_310 (tgt := 1064) rfl (fun c4 => ?_) (fun c4 => ?_)
  · replace h := h.1 c4
    refine nm_x (x3 + (6 : Int32)) (fun z5 ez5 => ?_)
    replace h := h z5 ez5
    refine v_iinc (pc := 1064) cx dL_law_1064 (q := 3) rfl ((ii_6 _).trans ez5.symm) (Nat.le_of_ble_eq_true rfl) (lv' := [(3, .int z5), (0, .ref b0), (1, .ref (sz0 + 0)), (2, .ref (sz0 + 5444))]) rfl ?_
    refine v_goto (pc := 1067) cx dL_law_1067 (tgt := 18) rfl ?_
    refine v_sub (lv' := [(0, .ref b0), (1, .ref (sz0 + 0)), (2, .ref (sz0 + 5444)), (3, .int z5)]) [1, 2, 3, 0] rfl ?_
    exact hK18 z5 M3 sh ((kc + 0)) ((ks + 0)) h
  · replace h := h.2 c4
    refine v_iconst (pc := 313) cx dL_law_313 ic_0 ?_
    obtain ⟨q6, h⟩ := h
    exact v_lawret cx hxs.2.2.1 dL_law_314 q6 h
def m_L_law_j285 (L0 : Nat) (xs : Nat → Int32) (K18 : Int32 → WM → Nat → Nat → Prop) (x3 : Int32) (y0 : Int32) (y1 : Int32)   (Q : Int32 → WM → Prop) (M : WM) (kc : Nat) (ks : Nat) : Prop := ((kc ≤ 600000 ∧ ks ≤ 7302250) ∧ (m_X0_bar y1 y0 M (fun (a2 : Int32) (M3 : WM) => (vp_in ((x3 + (1 : Int32))) L0 ∧ (vp_in ((x3 + (2 : Int32))) L0 ∧ (((xs ((x3 + (2 : Int32))).toNatClampNeg) = 0 → m_L_law_j307 L0 xs K18 x3 ((0 : Int32)) ((xs ((x3 + (1 : Int32))).toNatClampNeg)) a2  Q M3 ((kc + 0)) ((ks + 0))) ∧ (¬ (xs ((x3 + (2 : Int32))).toNatClampNeg) = 0 → m_L_law_j307 L0 xs K18 x3 ((1 : Int32)) ((xs ((x3 + (1 : Int32))).toNatClampNeg)) a2  Q M3 ((kc + 0)) ((ks + 0)))))))))
theorem w_L_law_j285 {p : Program} {l : Launch} {e : Env} {s : State} {m : MethodId} {b0 : Nat} {below : List Frame} {meth : Method} {c : Code} {D : va_G} {cA : Nat → ClassId} {sz0 : Nat} {H0 : Heap}  {L0 : Nat} {xs : Nat → Int32} {K18 : Int32 → WM → Nat → Nat → Prop} {x3 : Int32} {y0 : Int32} {y1 : Int32}  {Q : Int32 → WM → Prop}  (cx : Cx p s m #[Value.ref b0] meth c cL_law 4 RL (some .boolean) D cA sz0 H0) (hL0 : L0 ≤ 384) (hxs : Scr s sz0 b0 L0 xs) (hK18 : ∀ (x3 : Int32)  (M : WM) (sh : Shp M) (kc ks : Nat), K18 x3 M kc ks → V p l e room_1 s m #[Value.ref b0] below meth c 4 D cA sz0 H0 kc ks (lw_Z below #[Value.ref b0] s) 18 [(0, .ref b0), (1, .ref (sz0 + 0)), (2, .ref (sz0 + 5444)), (3, .int x3)] [] M)     (M : WM) (sh : Shp M) (kc ks : Nat) (h : m_L_law_j285 L0 xs K18 x3 y0 y1  Q M kc ks) : V p l e room_1 s m #[Value.ref b0] below meth c 4 D cA sz0 H0 kc ks (lw_Z below #[Value.ref b0] s) 285 [(0, .ref b0), (1, .ref (sz0 + 0)), (2, .ref (sz0 + 5444)), (3, .int x3)] [.int y0, .int y1, .ref (sz0 + 0)] M := by
  replace h : ((kc ≤ 600000 ∧ ks ≤ 7302250) ∧ (m_X0_bar y1 y0 M (fun (a2 : Int32) (M3 : WM) => (vp_in ((x3 + (1 : Int32))) L0 ∧ (vp_in ((x3 + (2 : Int32))) L0 ∧ (((xs ((x3 + (2 : Int32))).toNatClampNeg) = 0 → m_L_law_j307 L0 xs K18 x3 ((0 : Int32)) ((xs ((x3 + (1 : Int32))).toNatClampNeg)) a2  Q M3 ((kc + 0)) ((ks + 0))) ∧ (¬ (xs ((x3 + (2 : Int32))).toNatClampNeg) = 0 → m_L_law_j307 L0 xs K18 x3 ((1 : Int32)) ((xs ((x3 + (1 : Int32))).toNatClampNeg)) a2  Q M3 ((kc + 0)) ((ks + 0))))))))) := h
  obtain ⟨hb1, h⟩ := h
  refine v_run_i (pc := 285) cx (kcq417_L cx (c_X0_bar l D cA sz0 H0 M y1 y0  _ sh h) ⟨Nat.le_of_ble_eq_true rfl, Nat.le_of_ble_eq_true rfl⟩ (sh.k k_0) (As := [.int y1, .int y0]) rfl rfl (Nat.le_of_ble_eq_true rfl) dL_law_285 ⟨hb1.1, hb1.2⟩) (fun a2 M3 hq => ?_)
  obtain ⟨h, sh⟩ := hq
  refine v_aload_n (pc := 288) cx dL_law_288 rfl 2 rfl ?_
  refine v_aload_n (pc := 289) cx dL_law_289 rfl 0 rfl ?_
  refine v_iload_n (pc := 290) cx dL_law_290 rfl 3 rfl ?_
  refine v_iconst (pc := 291) cx dL_law_291 ic_1 ?_
  refine v_iadd (pc := 292) cx dL_law_292 ?_
  obtain ⟨b4, h⟩ := h
  refine v_scr (pc := 293) cx dL_law_293 hxs b4 ?_
  refine v_aload_n (pc := 294) cx dL_law_294 rfl 0 rfl ?_
  refine v_iload_n (pc := 295) cx dL_law_295 rfl 3 rfl ?_
  refine v_iconst (pc := 296) cx dL_law_296 ic_2 ?_
  refine v_iadd (pc := 297) cx dL_law_297 ?_
  obtain ⟨b5, h⟩ := h
  refine v_scr (pc := 298) cx dL_law_298 hxs b5 ?_
  refine v_if_eq (pc := 299) cx dL_law_299 (tgt := 306) rfl (fun c6 => ?_) (fun c6 => ?_)
  · replace h := h.1 c6
    refine v_iconst (pc := 306) cx dL_law_306 ic_0 ?_
    refine v_sub (lv' := [(0, .ref b0), (1, .ref (sz0 + 0)), (2, .ref (sz0 + 5444)), (3, .int x3)]) [0, 1, 2, 3] rfl ?_
    exact w_L_law_j307 cx hL0 hxs hK18 M3 sh ((kc + 0)) ((ks + 0)) h
  · replace h := h.2 c6
    refine v_iconst (pc := 302) cx dL_law_302 ic_1 ?_
    refine v_goto (pc := 303) cx dL_law_303 (tgt := 307) rfl ?_
    refine v_sub (lv' := [(0, .ref b0), (1, .ref (sz0 + 0)), (2, .ref (sz0 + 5444)), (3, .int x3)]) [0, 1, 2, 3] rfl ?_
    exact w_L_law_j307 cx hL0 hxs hK18 M3 sh ((kc + 0)) ((ks + 0)) h
def m_L_law_l18 (L0 : Nat) (xs : Nat → Int32)     (Q : Int32 → WM → Prop) : Nat → Int32 → WM → Nat → Nat → Prop
  | 0, _, _, _, _ => False
  | n + 1, x3, M, kc, ks => ((((Int32.ofNat L0) - (6 : Int32)) < x3 → ((kc ≤ 600000 ∧ ks ≤ 7302250) ∧ (1 : Int32) = 1)) ∧ (¬ ((Int32.ofNat L0) - (6 : Int32)) < x3 → (vp_in x3 L0 ∧ (∀ z4 : Int32, z4 = ((xs x3.toNatClampNeg) &&& (31 : Int32)) → ((z4 = (0 : Int32) → (vp_in ((x3 + (1 : Int32))) L0 ∧ (vp_in ((x3 + (2 : Int32))) L0 ∧ (vp_in ((x3 + (3 : Int32))) L0 ∧ (vp_in ((x3 + (4 : Int32))) L0 ∧ (vp_in ((x3 + (5 : Int32))) L0 ∧ ((kc ≤ 600000 ∧ ks ≤ 7302250) ∧ (m_X0_feed ((xs ((x3 + (1 : Int32))).toNatClampNeg)) ((xs ((x3 + (2 : Int32))).toNatClampNeg)) ((xs ((x3 + (3 : Int32))).toNatClampNeg)) ((xs ((x3 + (4 : Int32))).toNatClampNeg)) ((xs ((x3 + (5 : Int32))).toNatClampNeg)) M (fun (a12 : Int32) (M13 : WM) => (vp_in ((x3 + (1 : Int32))) L0 ∧ (vp_in ((x3 + (2 : Int32))) L0 ∧ (vp_in ((x3 + (3 : Int32))) L0 ∧ (vp_in ((x3 + (4 : Int32))) L0 ∧ (vp_in ((x3 + (5 : Int32))) L0 ∧ (((kc + 0) ≤ 600000 ∧ (ks + 0) ≤ 7302250) ∧ (m_X6_feed ((xs ((x3 + (1 : Int32))).toNatClampNeg)) ((xs ((x3 + (2 : Int32))).toNatClampNeg)) ((xs ((x3 + (3 : Int32))).toNatClampNeg)) ((xs ((x3 + (4 : Int32))).toNatClampNeg)) ((xs ((x3 + (5 : Int32))).toNatClampNeg)) M13 (fun (a20 : Int32) (M21 : WM) => ((a12 = a20 → (∀ z23 : Int32, z23 = x3 + (6 : Int32) → m_L_law_l18 L0 xs  Q n z23 M21 (((kc + 0) + 0)) (((ks + 0) + 0)))) ∧ (¬ a12 = a20 → ((((kc + 0) + 0) ≤ 600000 ∧ ((ks + 0) + 0) ≤ 7302250) ∧ (0 : Int32) = 1)))))))))))))))))))) ∧ (¬ z4 = (0 : Int32) → ((z4 = (1 : Int32) → (vp_in ((x3 + (1 : Int32))) L0 ∧ (vp_in ((x3 + (2 : Int32))) L0 ∧ (vp_in ((x3 + (3 : Int32))) L0 ∧ ((kc ≤ 600000 ∧ ks ≤ 7302250) ∧ (m_X0_word ((xs ((x3 + (1 : Int32))).toNatClampNeg)) ((xs ((x3 + (2 : Int32))).toNatClampNeg)) ((xs ((x3 + (3 : Int32))).toNatClampNeg)) M (fun (a30 : Int32) (M31 : WM) => (vp_in ((x3 + (1 : Int32))) L0 ∧ (vp_in ((x3 + (2 : Int32))) L0 ∧ (vp_in ((x3 + (3 : Int32))) L0 ∧ (((kc + 0) ≤ 600000 ∧ (ks + 0) ≤ 7302250) ∧ (m_X6_word ((xs ((x3 + (1 : Int32))).toNatClampNeg)) ((xs ((x3 + (2 : Int32))).toNatClampNeg)) ((xs ((x3 + (3 : Int32))).toNatClampNeg)) M31 (fun (a36 : Int32) (M37 : WM) => ((a30 = a36 → (∀ z39 : Int32, z39 = x3 + (6 : Int32) → m_L_law_l18 L0 xs  Q n z39 M37 (((kc + 0) + 0)) (((ks + 0) + 0)))) ∧ (¬ a30 = a36 → ((((kc + 0) + 0) ≤ 600000 ∧ ((ks + 0) + 0) ≤ 7302250) ∧ (0 : Int32) = 1)))))))))))))))) ∧ (¬ z4 = (1 : Int32) → ((z4 = (2 : Int32) → (vp_in ((x3 + (1 : Int32))) L0 ∧ (vp_in ((x3 + (2 : Int32))) L0 ∧ (((xs ((x3 + (2 : Int32))).toNatClampNeg) = 0 → m_L_law_j285 L0 xs (fun x3' M' c' n' => m_L_law_l18 L0 xs  Q n x3' M' c' n') x3 ((0 : Int32)) ((xs ((x3 + (1 : Int32))).toNatClampNeg))  Q M kc ks) ∧ (¬ (xs ((x3 + (2 : Int32))).toNatClampNeg) = 0 → m_L_law_j285 L0 xs (fun x3' M' c' n' => m_L_law_l18 L0 xs  Q n x3' M' c' n') x3 ((1 : Int32)) ((xs ((x3 + (1 : Int32))).toNatClampNeg))  Q M kc ks))))) ∧ (¬ z4 = (2 : Int32) → ((z4 = (3 : Int32) → (vp_in ((x3 + (1 : Int32))) L0 ∧ (vp_in ((x3 + (2 : Int32))) L0 ∧ ((kc ≤ 600000 ∧ ks ≤ 7302250) ∧ (m_X0_know ((xs ((x3 + (1 : Int32))).toNatClampNeg)) ((xs ((x3 + (2 : Int32))).toNatClampNeg)) M (fun (a49 : Int32) (M50 : WM) => (vp_in ((x3 + (1 : Int32))) L0 ∧ (vp_in ((x3 + (2 : Int32))) L0 ∧ (((kc + 0) ≤ 600000 ∧ (ks + 0) ≤ 7302250) ∧ (m_X6_know ((xs ((x3 + (1 : Int32))).toNatClampNeg)) ((xs ((x3 + (2 : Int32))).toNatClampNeg)) M50 (fun (a54 : Int32) (M55 : WM) => ((a49 = a54 → (∀ z57 : Int32, z57 = x3 + (6 : Int32) → m_L_law_l18 L0 xs  Q n z57 M55 (((kc + 0) + 0)) (((ks + 0) + 0)))) ∧ (¬ a49 = a54 → ((((kc + 0) + 0) ≤ 600000 ∧ ((ks + 0) + 0) ≤ 7302250) ∧ (0 : Int32) = 1)))))))))))))) ∧ (¬ z4 = (3 : Int32) → ((z4 = (4 : Int32) → (vp_in ((x3 + (1 : Int32))) L0 ∧ ((kc ≤ 600000 ∧ ks ≤ 7302250) ∧ (m_X0_speak ((xs ((x3 + (1 : Int32))).toNatClampNeg)) M (fun (a62 : Int32) (M63 : WM) => (vp_in ((x3 + (1 : Int32))) L0 ∧ (((kc + 0) ≤ 600000 ∧ (ks + 0) ≤ 7302250) ∧ (m_X6_speak ((xs ((x3 + (1 : Int32))).toNatClampNeg)) M63 (fun (a66 : Int32) (M67 : WM) => ((a62 = a66 → (∀ z69 : Int32, z69 = x3 + (6 : Int32) → m_L_law_l18 L0 xs  Q n z69 M67 (((kc + 0) + 0)) (((ks + 0) + 0)))) ∧ (¬ a62 = a66 → ((((kc + 0) + 0) ≤ 600000 ∧ ((ks + 0) + 0) ≤ 7302250) ∧ (0 : Int32) = 1)))))))))))) ∧ (¬ z4 = (4 : Int32) → ((z4 = (5 : Int32) → (vp_in ((x3 + (1 : Int32))) L0 ∧ (∃ mc73 ms74, kc + mc73 ≤ 600000 ∧ ks + ms74 ≤ 7302250 ∧ (m_X0_law ((xs ((x3 + (1 : Int32))).toNatClampNeg)) M mc73 ms74 (fun (a75 : Int32) (M76 : WM) => (vp_in ((x3 + (1 : Int32))) L0 ∧ (((kc + mc73) ≤ 600000 ∧ (ks + ms74) ≤ 7302250) ∧ (m_X6_law ((xs ((x3 + (1 : Int32))).toNatClampNeg)) M76 (fun (a79 : Int32) (M80 : WM) => ((a75 = a79 → (∀ z82 : Int32, z82 = x3 + (6 : Int32) → m_L_law_l18 L0 xs  Q n z82 M80 (((kc + mc73) + 0)) (((ks + ms74) + 0)))) ∧ (¬ a75 = a79 → ((((kc + mc73) + 0) ≤ 600000 ∧ ((ks + ms74) + 0) ≤ 7302250) ∧ (0 : Int32) = 1)))))))))))) ∧ (¬ z4 = (5 : Int32) → ((z4 = (6 : Int32) → (vp_in ((x3 + (1 : Int32))) L0 ∧ (vp_in ((x3 + (2 : Int32))) L0 ∧ (vp_in ((x3 + (3 : Int32))) L0 ∧ ((kc ≤ 600000 ∧ ks ≤ 7302250) ∧ (m_X0_step ((xs ((x3 + (1 : Int32))).toNatClampNeg)) ((xs ((x3 + (2 : Int32))).toNatClampNeg)) ((xs ((x3 + (3 : Int32))).toNatClampNeg)) M (fun (a89 : Int32) (M90 : WM) => (vp_in ((x3 + (1 : Int32))) L0 ∧ (vp_in ((x3 + (2 : Int32))) L0 ∧ (vp_in ((x3 + (3 : Int32))) L0 ∧ (((kc + 0) ≤ 600000 ∧ (ks + 0) ≤ 7302250) ∧ (m_X6_step ((xs ((x3 + (1 : Int32))).toNatClampNeg)) ((xs ((x3 + (2 : Int32))).toNatClampNeg)) ((xs ((x3 + (3 : Int32))).toNatClampNeg)) M90 (fun (a95 : Int32) (M96 : WM) => ((a89 = a95 → (∀ z98 : Int32, z98 = x3 + (6 : Int32) → m_L_law_l18 L0 xs  Q n z98 M96 (((kc + 0) + 0)) (((ks + 0) + 0)))) ∧ (¬ a89 = a95 → ((((kc + 0) + 0) ≤ 600000 ∧ ((ks + 0) + 0) ≤ 7302250) ∧ (0 : Int32) = 1)))))))))))))))) ∧ (¬ z4 = (6 : Int32) → ((z4 = (7 : Int32) → (vp_in ((x3 + (1 : Int32))) L0 ∧ (vp_in ((x3 + (2 : Int32))) L0 ∧ (vp_in ((x3 + (3 : Int32))) L0 ∧ ((kc ≤ 600000 ∧ ks ≤ 7302250) ∧ (m_X0_least ((xs ((x3 + (1 : Int32))).toNatClampNeg)) ((xs ((x3 + (2 : Int32))).toNatClampNeg)) ((xs ((x3 + (3 : Int32))).toNatClampNeg)) M (fun (a105 : Int32) (M106 : WM) => (vp_in ((x3 + (1 : Int32))) L0 ∧ (vp_in ((x3 + (2 : Int32))) L0 ∧ (vp_in ((x3 + (3 : Int32))) L0 ∧ (((kc + 0) ≤ 600000 ∧ (ks + 0) ≤ 7302250) ∧ (m_X6_least ((xs ((x3 + (1 : Int32))).toNatClampNeg)) ((xs ((x3 + (2 : Int32))).toNatClampNeg)) ((xs ((x3 + (3 : Int32))).toNatClampNeg)) M106 (fun (a111 : Int32) (M112 : WM) => ((a105 = a111 → (∀ z114 : Int32, z114 = x3 + (6 : Int32) → m_L_law_l18 L0 xs  Q n z114 M112 (((kc + 0) + 0)) (((ks + 0) + 0)))) ∧ (¬ a105 = a111 → ((((kc + 0) + 0) ≤ 600000 ∧ ((ks + 0) + 0) ≤ 7302250) ∧ (0 : Int32) = 1)))))))))))))))) ∧ (¬ z4 = (7 : Int32) → ((z4 = (8 : Int32) → (vp_in ((x3 + (1 : Int32))) L0 ∧ (vp_in ((x3 + (2 : Int32))) L0 ∧ ((kc ≤ 600000 ∧ ks ≤ 7302250) ∧ (m_X0_howMany ((xs ((x3 + (1 : Int32))).toNatClampNeg)) ((xs ((x3 + (2 : Int32))).toNatClampNeg)) M (fun (a120 : Int64) (M121 : WM) => (vp_in ((x3 + (1 : Int32))) L0 ∧ (vp_in ((x3 + (2 : Int32))) L0 ∧ (((kc + 0) ≤ 600000 ∧ (ks + 0) ≤ 7302250) ∧ (m_X6_howMany ((xs ((x3 + (1 : Int32))).toNatClampNeg)) ((xs ((x3 + (2 : Int32))).toNatClampNeg)) M121 (fun (a125 : Int64) (M126 : WM) => (((lg_cmp a120 a125) = 0 → (∀ z128 : Int32, z128 = x3 + (6 : Int32) → m_L_law_l18 L0 xs  Q n z128 M126 (((kc + 0) + 0)) (((ks + 0) + 0)))) ∧ (¬ (lg_cmp a120 a125) = 0 → ((((kc + 0) + 0) ≤ 600000 ∧ ((ks + 0) + 0) ≤ 7302250) ∧ (0 : Int32) = 1)))))))))))))) ∧ (¬ z4 = (8 : Int32) → ((z4 = (9 : Int32) → (vp_in ((x3 + (1 : Int32))) L0 ∧ (vp_in ((x3 + (2 : Int32))) L0 ∧ ((kc ≤ 600000 ∧ ks ≤ 7302250) ∧ (m_X0_without ((xs ((x3 + (1 : Int32))).toNatClampNeg)) ((xs ((x3 + (2 : Int32))).toNatClampNeg)) M (fun (a134 : Int64) (M135 : WM) => (vp_in ((x3 + (1 : Int32))) L0 ∧ (vp_in ((x3 + (2 : Int32))) L0 ∧ (((kc + 0) ≤ 600000 ∧ (ks + 0) ≤ 7302250) ∧ (m_X6_without ((xs ((x3 + (1 : Int32))).toNatClampNeg)) ((xs ((x3 + (2 : Int32))).toNatClampNeg)) M135 (fun (a139 : Int64) (M140 : WM) => (((lg_cmp a134 a139) = 0 → (∀ z142 : Int32, z142 = x3 + (6 : Int32) → m_L_law_l18 L0 xs  Q n z142 M140 (((kc + 0) + 0)) (((ks + 0) + 0)))) ∧ (¬ (lg_cmp a134 a139) = 0 → ((((kc + 0) + 0) ≤ 600000 ∧ ((ks + 0) + 0) ≤ 7302250) ∧ (0 : Int32) = 1)))))))))))))) ∧ (¬ z4 = (9 : Int32) → ((z4 = (10 : Int32) → (vp_in ((x3 + (1 : Int32))) L0 ∧ ((kc ≤ 600000 ∧ ks ≤ 7302250) ∧ (m_X0_heap ((xs ((x3 + (1 : Int32))).toNatClampNeg)) M (fun (a147 : Int32) (M148 : WM) => (vp_in ((x3 + (1 : Int32))) L0 ∧ (((kc + 0) ≤ 600000 ∧ (ks + 0) ≤ 7302250) ∧ (m_X6_heap ((xs ((x3 + (1 : Int32))).toNatClampNeg)) M148 (fun (a151 : Int32) (M152 : WM) => ((a147 = a151 → (∀ z154 : Int32, z154 = x3 + (6 : Int32) → m_L_law_l18 L0 xs  Q n z154 M152 (((kc + 0) + 0)) (((ks + 0) + 0)))) ∧ (¬ a147 = a151 → ((((kc + 0) + 0) ≤ 600000 ∧ ((ks + 0) + 0) ≤ 7302250) ∧ (0 : Int32) = 1)))))))))))) ∧ (¬ z4 = (10 : Int32) → ((z4 = (11 : Int32) → ((kc ≤ 600000 ∧ ks ≤ 7302250) ∧ (m_X0_heaps  M (fun (a158 : Int32) (M159 : WM) => (((kc + 0) ≤ 600000 ∧ (ks + 0) ≤ 7302250) ∧ (m_X6_heaps  M159 (fun (a161 : Int32) (M162 : WM) => ((a158 = a161 → (∀ z164 : Int32, z164 = x3 + (6 : Int32) → m_L_law_l18 L0 xs  Q n z164 M162 (((kc + 0) + 0)) (((ks + 0) + 0)))) ∧ (¬ a158 = a161 → ((((kc + 0) + 0) ≤ 600000 ∧ ((ks + 0) + 0) ≤ 7302250) ∧ (0 : Int32) = 1)))))))))) ∧ (¬ z4 = (11 : Int32) → ((z4 = (12 : Int32) → (vp_in ((x3 + (1 : Int32))) L0 ∧ ((kc ≤ 600000 ∧ ks ≤ 7302250) ∧ (m_X0_far ((xs ((x3 + (1 : Int32))).toNatClampNeg)) M (fun (a169 : Int32) (M170 : WM) => (vp_in ((x3 + (1 : Int32))) L0 ∧ (((kc + 0) ≤ 600000 ∧ (ks + 0) ≤ 7302250) ∧ (m_X6_far ((xs ((x3 + (1 : Int32))).toNatClampNeg)) M170 (fun (a173 : Int32) (M174 : WM) => ((a169 = a173 → (∀ z176 : Int32, z176 = x3 + (6 : Int32) → m_L_law_l18 L0 xs  Q n z176 M174 (((kc + 0) + 0)) (((ks + 0) + 0)))) ∧ (¬ a169 = a173 → ((((kc + 0) + 0) ≤ 600000 ∧ ((ks + 0) + 0) ≤ 7302250) ∧ (0 : Int32) = 1)))))))))))) ∧ (¬ z4 = (12 : Int32) → ((z4 = (13 : Int32) → (vp_in ((x3 + (1 : Int32))) L0 ∧ ((kc ≤ 600000 ∧ ks ≤ 7302250) ∧ (m_X0_between ((xs ((x3 + (1 : Int32))).toNatClampNeg)) M (fun (a181 : Int32) (M182 : WM) => (vp_in ((x3 + (1 : Int32))) L0 ∧ (((kc + 0) ≤ 600000 ∧ (ks + 0) ≤ 7302250) ∧ (m_X6_between ((xs ((x3 + (1 : Int32))).toNatClampNeg)) M182 (fun (a185 : Int32) (M186 : WM) => ((a181 = a185 → (∀ z188 : Int32, z188 = x3 + (6 : Int32) → m_L_law_l18 L0 xs  Q n z188 M186 (((kc + 0) + 0)) (((ks + 0) + 0)))) ∧ (¬ a181 = a185 → ((((kc + 0) + 0) ≤ 600000 ∧ ((ks + 0) + 0) ≤ 7302250) ∧ (0 : Int32) = 1)))))))))))) ∧ (¬ z4 = (13 : Int32) → ((z4 = (14 : Int32) → (vp_in ((x3 + (1 : Int32))) L0 ∧ ((kc ≤ 600000 ∧ ks ≤ 7302250) ∧ (m_X0_newWord ((xs ((x3 + (1 : Int32))).toNatClampNeg)) M (fun (a193 : Int32) (M194 : WM) => (vp_in ((x3 + (1 : Int32))) L0 ∧ (((kc + 0) ≤ 600000 ∧ (ks + 0) ≤ 7302250) ∧ (m_X6_newWord ((xs ((x3 + (1 : Int32))).toNatClampNeg)) M194 (fun (a197 : Int32) (M198 : WM) => ((a193 = a197 → (∀ z200 : Int32, z200 = x3 + (6 : Int32) → m_L_law_l18 L0 xs  Q n z200 M198 (((kc + 0) + 0)) (((ks + 0) + 0)))) ∧ (¬ a193 = a197 → ((((kc + 0) + 0) ≤ 600000 ∧ ((ks + 0) + 0) ≤ 7302250) ∧ (0 : Int32) = 1)))))))))))) ∧ (¬ z4 = (14 : Int32) → ((z4 = (15 : Int32) → (vp_in ((x3 + (1 : Int32))) L0 ∧ (vp_in ((x3 + (2 : Int32))) L0 ∧ (vp_in ((x3 + (3 : Int32))) L0 ∧ ((kc ≤ 600000 ∧ ks ≤ 7302250) ∧ (m_X0_walks ((xs ((x3 + (1 : Int32))).toNatClampNeg)) ((xs ((x3 + (2 : Int32))).toNatClampNeg)) ((xs ((x3 + (3 : Int32))).toNatClampNeg)) M (fun (a207 : Int64) (M208 : WM) => (vp_in ((x3 + (1 : Int32))) L0 ∧ (vp_in ((x3 + (2 : Int32))) L0 ∧ (vp_in ((x3 + (3 : Int32))) L0 ∧ (((kc + 0) ≤ 600000 ∧ (ks + 0) ≤ 7302250) ∧ (m_X6_walks ((xs ((x3 + (1 : Int32))).toNatClampNeg)) ((xs ((x3 + (2 : Int32))).toNatClampNeg)) ((xs ((x3 + (3 : Int32))).toNatClampNeg)) M208 (fun (a213 : Int64) (M214 : WM) => (((lg_cmp a207 a213) = 0 → (∀ z216 : Int32, z216 = x3 + (6 : Int32) → m_L_law_l18 L0 xs  Q n z216 M214 (((kc + 0) + 0)) (((ks + 0) + 0)))) ∧ (¬ (lg_cmp a207 a213) = 0 → ((((kc + 0) + 0) ≤ 600000 ∧ ((ks + 0) + 0) ≤ 7302250) ∧ (0 : Int32) = 1)))))))))))))))) ∧ (¬ z4 = (15 : Int32) → ((z4 = (16 : Int32) → (vp_in ((x3 + (1 : Int32))) L0 ∧ (vp_in ((x3 + (2 : Int32))) L0 ∧ ((kc ≤ 600000 ∧ ks ≤ 7302250) ∧ (m_X0_row ((xs ((x3 + (1 : Int32))).toNatClampNeg)) ((xs ((x3 + (2 : Int32))).toNatClampNeg)) M (fun (a222 : Int32) (M223 : WM) => (vp_in ((x3 + (1 : Int32))) L0 ∧ (vp_in ((x3 + (2 : Int32))) L0 ∧ (((kc + 0) ≤ 600000 ∧ (ks + 0) ≤ 7302250) ∧ (m_X6_row ((xs ((x3 + (1 : Int32))).toNatClampNeg)) ((xs ((x3 + (2 : Int32))).toNatClampNeg)) M223 (fun (a227 : Int32) (M228 : WM) => ((a222 = a227 → (∀ z230 : Int32, z230 = x3 + (6 : Int32) → m_L_law_l18 L0 xs  Q n z230 M228 (((kc + 0) + 0)) (((ks + 0) + 0)))) ∧ (¬ a222 = a227 → ((((kc + 0) + 0) ≤ 600000 ∧ ((ks + 0) + 0) ≤ 7302250) ∧ (0 : Int32) = 1)))))))))))))) ∧ (¬ z4 = (16 : Int32) → ((z4 = (17 : Int32) → (vp_in ((x3 + (1 : Int32))) L0 ∧ (vp_in ((x3 + (2 : Int32))) L0 ∧ ((kc ≤ 600000 ∧ ks ≤ 7302250) ∧ (m_X0_game ((xs ((x3 + (1 : Int32))).toNatClampNeg)) ((xs ((x3 + (2 : Int32))).toNatClampNeg)) M (fun (a236 : Int32) (M237 : WM) => (vp_in ((x3 + (1 : Int32))) L0 ∧ (vp_in ((x3 + (2 : Int32))) L0 ∧ (((kc + 0) ≤ 600000 ∧ (ks + 0) ≤ 7302250) ∧ (m_X6_game ((xs ((x3 + (1 : Int32))).toNatClampNeg)) ((xs ((x3 + (2 : Int32))).toNatClampNeg)) M237 (fun (a241 : Int32) (M242 : WM) => ((a236 = a241 → (∀ z244 : Int32, z244 = x3 + (6 : Int32) → m_L_law_l18 L0 xs  Q n z244 M242 (((kc + 0) + 0)) (((ks + 0) + 0)))) ∧ (¬ a236 = a241 → ((((kc + 0) + 0) ≤ 600000 ∧ ((ks + 0) + 0) ≤ 7302250) ∧ (0 : Int32) = 1)))))))))))))) ∧ (¬ z4 = (17 : Int32) → ((z4 = (18 : Int32) → (vp_in ((x3 + (1 : Int32))) L0 ∧ (vp_in ((x3 + (2 : Int32))) L0 ∧ ((kc ≤ 600000 ∧ ks ≤ 7302250) ∧ (m_X0_farBy ((xs ((x3 + (1 : Int32))).toNatClampNeg)) ((xs ((x3 + (2 : Int32))).toNatClampNeg)) M (fun (a250 : Int32) (M251 : WM) => (vp_in ((x3 + (1 : Int32))) L0 ∧ (vp_in ((x3 + (2 : Int32))) L0 ∧ (((kc + 0) ≤ 600000 ∧ (ks + 0) ≤ 7302250) ∧ (m_X6_farBy ((xs ((x3 + (1 : Int32))).toNatClampNeg)) ((xs ((x3 + (2 : Int32))).toNatClampNeg)) M251 (fun (a255 : Int32) (M256 : WM) => ((a250 = a255 → (∀ z258 : Int32, z258 = x3 + (6 : Int32) → m_L_law_l18 L0 xs  Q n z258 M256 (((kc + 0) + 0)) (((ks + 0) + 0)))) ∧ (¬ a250 = a255 → ((((kc + 0) + 0) ≤ 600000 ∧ ((ks + 0) + 0) ≤ 7302250) ∧ (0 : Int32) = 1)))))))))))))) ∧ (¬ z4 = (18 : Int32) → ((z4 = (19 : Int32) → (vp_in ((x3 + (1 : Int32))) L0 ∧ (vp_in ((x3 + (2 : Int32))) L0 ∧ ((kc ≤ 600000 ∧ ks ≤ 7302250) ∧ (m_X0_near ((xs ((x3 + (1 : Int32))).toNatClampNeg)) ((xs ((x3 + (2 : Int32))).toNatClampNeg)) M (fun (a264 : Int32) (M265 : WM) => (vp_in ((x3 + (1 : Int32))) L0 ∧ (vp_in ((x3 + (2 : Int32))) L0 ∧ (((kc + 0) ≤ 600000 ∧ (ks + 0) ≤ 7302250) ∧ (m_X6_near ((xs ((x3 + (1 : Int32))).toNatClampNeg)) ((xs ((x3 + (2 : Int32))).toNatClampNeg)) M265 (fun (a269 : Int32) (M270 : WM) => ((a264 = a269 → (∀ z272 : Int32, z272 = x3 + (6 : Int32) → m_L_law_l18 L0 xs  Q n z272 M270 (((kc + 0) + 0)) (((ks + 0) + 0)))) ∧ (¬ a264 = a269 → ((((kc + 0) + 0) ≤ 600000 ∧ ((ks + 0) + 0) ≤ 7302250) ∧ (0 : Int32) = 1)))))))))))))) ∧ (¬ z4 = (19 : Int32) → ((z4 = (20 : Int32) → (vp_in ((x3 + (1 : Int32))) L0 ∧ (vp_in ((x3 + (2 : Int32))) L0 ∧ (vp_in ((x3 + (3 : Int32))) L0 ∧ ((kc ≤ 600000 ∧ ks ≤ 7302250) ∧ (m_X0_clear ((xs ((x3 + (1 : Int32))).toNatClampNeg)) ((xs ((x3 + (2 : Int32))).toNatClampNeg)) ((xs ((x3 + (3 : Int32))).toNatClampNeg)) M (fun (a279 : Int32) (M280 : WM) => (vp_in ((x3 + (1 : Int32))) L0 ∧ (vp_in ((x3 + (2 : Int32))) L0 ∧ (vp_in ((x3 + (3 : Int32))) L0 ∧ (((kc + 0) ≤ 600000 ∧ (ks + 0) ≤ 7302250) ∧ (m_X6_clear ((xs ((x3 + (1 : Int32))).toNatClampNeg)) ((xs ((x3 + (2 : Int32))).toNatClampNeg)) ((xs ((x3 + (3 : Int32))).toNatClampNeg)) M280 (fun (a285 : Int32) (M286 : WM) => ((a279 = a285 → (∀ z288 : Int32, z288 = x3 + (6 : Int32) → m_L_law_l18 L0 xs  Q n z288 M286 (((kc + 0) + 0)) (((ks + 0) + 0)))) ∧ (¬ a279 = a285 → ((((kc + 0) + 0) ≤ 600000 ∧ ((ks + 0) + 0) ≤ 7302250) ∧ (0 : Int32) = 1)))))))))))))))) ∧ (¬ z4 = (20 : Int32) → ((z4 = (21 : Int32) → (vp_in ((x3 + (1 : Int32))) L0 ∧ ((kc ≤ 600000 ∧ ks ≤ 7302250) ∧ (m_X0_rubbed ((xs ((x3 + (1 : Int32))).toNatClampNeg)) M (fun (a293 : Int64) (M294 : WM) => (vp_in ((x3 + (1 : Int32))) L0 ∧ (((kc + 0) ≤ 600000 ∧ (ks + 0) ≤ 7302250) ∧ (m_X6_rubbed ((xs ((x3 + (1 : Int32))).toNatClampNeg)) M294 (fun (a297 : Int64) (M298 : WM) => (((lg_cmp a293 a297) = 0 → (∀ z300 : Int32, z300 = x3 + (6 : Int32) → m_L_law_l18 L0 xs  Q n z300 M298 (((kc + 0) + 0)) (((ks + 0) + 0)))) ∧ (¬ (lg_cmp a293 a297) = 0 → ((((kc + 0) + 0) ≤ 600000 ∧ ((ks + 0) + 0) ≤ 7302250) ∧ (0 : Int32) = 1)))))))))))) ∧ (¬ z4 = (21 : Int32) → ((z4 = (22 : Int32) → (vp_in ((x3 + (1 : Int32))) L0 ∧ (vp_in ((x3 + (2 : Int32))) L0 ∧ ((kc ≤ 600000 ∧ ks ≤ 7302250) ∧ (m_X0_square ((xs ((x3 + (1 : Int32))).toNatClampNeg)) ((xs ((x3 + (2 : Int32))).toNatClampNeg)) M (fun (a306 : Int32) (M307 : WM) => (vp_in ((x3 + (1 : Int32))) L0 ∧ (vp_in ((x3 + (2 : Int32))) L0 ∧ (((kc + 0) ≤ 600000 ∧ (ks + 0) ≤ 7302250) ∧ (m_X6_square ((xs ((x3 + (1 : Int32))).toNatClampNeg)) ((xs ((x3 + (2 : Int32))).toNatClampNeg)) M307 (fun (a311 : Int32) (M312 : WM) => ((a306 = a311 → (∀ z314 : Int32, z314 = x3 + (6 : Int32) → m_L_law_l18 L0 xs  Q n z314 M312 (((kc + 0) + 0)) (((ks + 0) + 0)))) ∧ (¬ a306 = a311 → ((((kc + 0) + 0) ≤ 600000 ∧ ((ks + 0) + 0) ≤ 7302250) ∧ (0 : Int32) = 1)))))))))))))) ∧ (¬ z4 = (22 : Int32) → ((z4 = (23 : Int32) → (vp_in ((x3 + (1 : Int32))) L0 ∧ ((kc ≤ 600000 ∧ ks ≤ 7302250) ∧ (m_X0_seed ((xs ((x3 + (1 : Int32))).toNatClampNeg)) M (fun (a319 : Int32) (M320 : WM) => (vp_in ((x3 + (1 : Int32))) L0 ∧ (((kc + 0) ≤ 600000 ∧ (ks + 0) ≤ 7302250) ∧ (m_X6_seed ((xs ((x3 + (1 : Int32))).toNatClampNeg)) M320 (fun (a323 : Int32) (M324 : WM) => ((a319 = a323 → (∀ z326 : Int32, z326 = x3 + (6 : Int32) → m_L_law_l18 L0 xs  Q n z326 M324 (((kc + 0) + 0)) (((ks + 0) + 0)))) ∧ (¬ a319 = a323 → ((((kc + 0) + 0) ≤ 600000 ∧ ((ks + 0) + 0) ≤ 7302250) ∧ (0 : Int32) = 1)))))))))))) ∧ (¬ z4 = (23 : Int32) → ((z4 = (24 : Int32) → (vp_in ((x3 + (1 : Int32))) L0 ∧ (vp_in ((x3 + (2 : Int32))) L0 ∧ (vp_in ((x3 + (3 : Int32))) L0 ∧ ((kc ≤ 600000 ∧ ks ≤ 7302250) ∧ (m_X0_draw ((xs ((x3 + (1 : Int32))).toNatClampNeg)) ((xs ((x3 + (2 : Int32))).toNatClampNeg)) ((xs ((x3 + (3 : Int32))).toNatClampNeg)) M (fun (a333 : Int32) (M334 : WM) => (vp_in ((x3 + (1 : Int32))) L0 ∧ (vp_in ((x3 + (2 : Int32))) L0 ∧ (vp_in ((x3 + (3 : Int32))) L0 ∧ (((kc + 0) ≤ 600000 ∧ (ks + 0) ≤ 7302250) ∧ (m_X6_draw ((xs ((x3 + (1 : Int32))).toNatClampNeg)) ((xs ((x3 + (2 : Int32))).toNatClampNeg)) ((xs ((x3 + (3 : Int32))).toNatClampNeg)) M334 (fun (a339 : Int32) (M340 : WM) => ((a333 = a339 → (∀ z342 : Int32, z342 = x3 + (6 : Int32) → m_L_law_l18 L0 xs  Q n z342 M340 (((kc + 0) + 0)) (((ks + 0) + 0)))) ∧ (¬ a333 = a339 → ((((kc + 0) + 0) ≤ 600000 ∧ ((ks + 0) + 0) ≤ 7302250) ∧ (0 : Int32) = 1)))))))))))))))) ∧ (¬ z4 = (24 : Int32) → ((z4 = (25 : Int32) → ((kc ≤ 600000 ∧ ks ≤ 7302250) ∧ (m_X0_off  M (fun (a346 : Int32) (M347 : WM) => (((kc + 0) ≤ 600000 ∧ (ks + 0) ≤ 7302250) ∧ (m_X6_off  M347 (fun (a349 : Int32) (M350 : WM) => ((a346 = a349 → (∀ z352 : Int32, z352 = x3 + (6 : Int32) → m_L_law_l18 L0 xs  Q n z352 M350 (((kc + 0) + 0)) (((ks + 0) + 0)))) ∧ (¬ a346 = a349 → ((((kc + 0) + 0) ≤ 600000 ∧ ((ks + 0) + 0) ≤ 7302250) ∧ (0 : Int32) = 1)))))))))) ∧ (¬ z4 = (25 : Int32) → ((z4 = (26 : Int32) → (vp_in ((x3 + (1 : Int32))) L0 ∧ (vp_in ((x3 + (2 : Int32))) L0 ∧ ((kc ≤ 600000 ∧ ks ≤ 7302250) ∧ (m_X0_check ((xs ((x3 + (1 : Int32))).toNatClampNeg)) ((xs ((x3 + (2 : Int32))).toNatClampNeg)) M (fun (a358 : Int32) (M359 : WM) => (vp_in ((x3 + (1 : Int32))) L0 ∧ (vp_in ((x3 + (2 : Int32))) L0 ∧ (((kc + 0) ≤ 600000 ∧ (ks + 0) ≤ 7302250) ∧ (m_X6_check ((xs ((x3 + (1 : Int32))).toNatClampNeg)) ((xs ((x3 + (2 : Int32))).toNatClampNeg)) M359 (fun (a363 : Int32) (M364 : WM) => ((a358 = a363 → (∀ z366 : Int32, z366 = x3 + (6 : Int32) → m_L_law_l18 L0 xs  Q n z366 M364 (((kc + 0) + 0)) (((ks + 0) + 0)))) ∧ (¬ a358 = a363 → ((((kc + 0) + 0) ≤ 600000 ∧ ((ks + 0) + 0) ≤ 7302250) ∧ (0 : Int32) = 1)))))))))))))) ∧ (¬ z4 = (26 : Int32) → ((z4 = (27 : Int32) → (vp_in ((x3 + (1 : Int32))) L0 ∧ ((kc ≤ 600000 ∧ ks ≤ 7302250) ∧ (m_X0_count ((xs ((x3 + (1 : Int32))).toNatClampNeg)) M (fun (a371 : Int32) => (vp_in ((x3 + (1 : Int32))) L0 ∧ (((kc + 0) ≤ 600000 ∧ (ks + 0) ≤ 7302250) ∧ (m_X6_count ((xs ((x3 + (1 : Int32))).toNatClampNeg)) M (fun (a374 : Int32) => ((a371 = a374 → (∀ z376 : Int32, z376 = x3 + (6 : Int32) → m_L_law_l18 L0 xs  Q n z376 M (((kc + 0) + 0)) (((ks + 0) + 0)))) ∧ (¬ a371 = a374 → ((((kc + 0) + 0) ≤ 600000 ∧ ((ks + 0) + 0) ≤ 7302250) ∧ (0 : Int32) = 1)))))))))))) ∧ (¬ z4 = (27 : Int32) → (∀ z378 : Int32, z378 = x3 + (6 : Int32) → m_L_law_l18 L0 xs  Q n z378 M kc ks)))))))))))))))))))))))))))))))))))))))))))))))))))))))))))))
theorem w_L_law_l18 {p : Program} {l : Launch} {e : Env} {s : State} {m : MethodId} {b0 : Nat} {below : List Frame} {meth : Method} {c : Code} {D : va_G} {cA : Nat → ClassId} {sz0 : Nat} {H0 : Heap}  {L0 : Nat} {xs : Nat → Int32}  {Q : Int32 → WM → Prop}  (cx : Cx p s m #[Value.ref b0] meth c cL_law 4 RL (some .boolean) D cA sz0 H0) (hL0 : L0 ≤ 384) (hxs : Scr s sz0 b0 L0 xs)    : ∀ (n : Nat) (x3 : Int32)  (M : WM) (sh : Shp M) (kc ks : Nat), m_L_law_l18 L0 xs  Q n x3 M kc ks → V p l e room_1 s m #[Value.ref b0] below meth c 4 D cA sz0 H0 kc ks (lw_Z below #[Value.ref b0] s) 18 [(0, .ref b0), (1, .ref (sz0 + 0)), (2, .ref (sz0 + 5444)), (3, .int x3)] [] M := by
  intro n
  induction n with
  | zero => intro x3 M sh kc ks h; exact h.elim
  | succ n ih =>
    intro x3 M sh kc ks h
    replace h : ((((Int32.ofNat L0) - (6 : Int32)) < x3 → ((kc ≤ 600000 ∧ ks ≤ 7302250) ∧ (1 : Int32) = 1)) ∧ (¬ ((Int32.ofNat L0) - (6 : Int32)) < x3 → (vp_in x3 L0 ∧ (∀ z4 : Int32, z4 = ((xs x3.toNatClampNeg) &&& (31 : Int32)) → ((z4 = (0 : Int32) → (vp_in ((x3 + (1 : Int32))) L0 ∧ (vp_in ((x3 + (2 : Int32))) L0 ∧ (vp_in ((x3 + (3 : Int32))) L0 ∧ (vp_in ((x3 + (4 : Int32))) L0 ∧ (vp_in ((x3 + (5 : Int32))) L0 ∧ ((kc ≤ 600000 ∧ ks ≤ 7302250) ∧ (m_X0_feed ((xs ((x3 + (1 : Int32))).toNatClampNeg)) ((xs ((x3 + (2 : Int32))).toNatClampNeg)) ((xs ((x3 + (3 : Int32))).toNatClampNeg)) ((xs ((x3 + (4 : Int32))).toNatClampNeg)) ((xs ((x3 + (5 : Int32))).toNatClampNeg)) M (fun (a12 : Int32) (M13 : WM) => (vp_in ((x3 + (1 : Int32))) L0 ∧ (vp_in ((x3 + (2 : Int32))) L0 ∧ (vp_in ((x3 + (3 : Int32))) L0 ∧ (vp_in ((x3 + (4 : Int32))) L0 ∧ (vp_in ((x3 + (5 : Int32))) L0 ∧ (((kc + 0) ≤ 600000 ∧ (ks + 0) ≤ 7302250) ∧ (m_X6_feed ((xs ((x3 + (1 : Int32))).toNatClampNeg)) ((xs ((x3 + (2 : Int32))).toNatClampNeg)) ((xs ((x3 + (3 : Int32))).toNatClampNeg)) ((xs ((x3 + (4 : Int32))).toNatClampNeg)) ((xs ((x3 + (5 : Int32))).toNatClampNeg)) M13 (fun (a20 : Int32) (M21 : WM) => ((a12 = a20 → (∀ z23 : Int32, z23 = x3 + (6 : Int32) → m_L_law_l18 L0 xs  Q n z23 M21 (((kc + 0) + 0)) (((ks + 0) + 0)))) ∧ (¬ a12 = a20 → ((((kc + 0) + 0) ≤ 600000 ∧ ((ks + 0) + 0) ≤ 7302250) ∧ (0 : Int32) = 1)))))))))))))))))))) ∧ (¬ z4 = (0 : Int32) → ((z4 = (1 : Int32) → (vp_in ((x3 + (1 : Int32))) L0 ∧ (vp_in ((x3 + (2 : Int32))) L0 ∧ (vp_in ((x3 + (3 : Int32))) L0 ∧ ((kc ≤ 600000 ∧ ks ≤ 7302250) ∧ (m_X0_word ((xs ((x3 + (1 : Int32))).toNatClampNeg)) ((xs ((x3 + (2 : Int32))).toNatClampNeg)) ((xs ((x3 + (3 : Int32))).toNatClampNeg)) M (fun (a30 : Int32) (M31 : WM) => (vp_in ((x3 + (1 : Int32))) L0 ∧ (vp_in ((x3 + (2 : Int32))) L0 ∧ (vp_in ((x3 + (3 : Int32))) L0 ∧ (((kc + 0) ≤ 600000 ∧ (ks + 0) ≤ 7302250) ∧ (m_X6_word ((xs ((x3 + (1 : Int32))).toNatClampNeg)) ((xs ((x3 + (2 : Int32))).toNatClampNeg)) ((xs ((x3 + (3 : Int32))).toNatClampNeg)) M31 (fun (a36 : Int32) (M37 : WM) => ((a30 = a36 → (∀ z39 : Int32, z39 = x3 + (6 : Int32) → m_L_law_l18 L0 xs  Q n z39 M37 (((kc + 0) + 0)) (((ks + 0) + 0)))) ∧ (¬ a30 = a36 → ((((kc + 0) + 0) ≤ 600000 ∧ ((ks + 0) + 0) ≤ 7302250) ∧ (0 : Int32) = 1)))))))))))))))) ∧ (¬ z4 = (1 : Int32) → ((z4 = (2 : Int32) → (vp_in ((x3 + (1 : Int32))) L0 ∧ (vp_in ((x3 + (2 : Int32))) L0 ∧ (((xs ((x3 + (2 : Int32))).toNatClampNeg) = 0 → m_L_law_j285 L0 xs (fun x3' M' c' n' => m_L_law_l18 L0 xs  Q n x3' M' c' n') x3 ((0 : Int32)) ((xs ((x3 + (1 : Int32))).toNatClampNeg))  Q M kc ks) ∧ (¬ (xs ((x3 + (2 : Int32))).toNatClampNeg) = 0 → m_L_law_j285 L0 xs (fun x3' M' c' n' => m_L_law_l18 L0 xs  Q n x3' M' c' n') x3 ((1 : Int32)) ((xs ((x3 + (1 : Int32))).toNatClampNeg))  Q M kc ks))))) ∧ (¬ z4 = (2 : Int32) → ((z4 = (3 : Int32) → (vp_in ((x3 + (1 : Int32))) L0 ∧ (vp_in ((x3 + (2 : Int32))) L0 ∧ ((kc ≤ 600000 ∧ ks ≤ 7302250) ∧ (m_X0_know ((xs ((x3 + (1 : Int32))).toNatClampNeg)) ((xs ((x3 + (2 : Int32))).toNatClampNeg)) M (fun (a49 : Int32) (M50 : WM) => (vp_in ((x3 + (1 : Int32))) L0 ∧ (vp_in ((x3 + (2 : Int32))) L0 ∧ (((kc + 0) ≤ 600000 ∧ (ks + 0) ≤ 7302250) ∧ (m_X6_know ((xs ((x3 + (1 : Int32))).toNatClampNeg)) ((xs ((x3 + (2 : Int32))).toNatClampNeg)) M50 (fun (a54 : Int32) (M55 : WM) => ((a49 = a54 → (∀ z57 : Int32, z57 = x3 + (6 : Int32) → m_L_law_l18 L0 xs  Q n z57 M55 (((kc + 0) + 0)) (((ks + 0) + 0)))) ∧ (¬ a49 = a54 → ((((kc + 0) + 0) ≤ 600000 ∧ ((ks + 0) + 0) ≤ 7302250) ∧ (0 : Int32) = 1)))))))))))))) ∧ (¬ z4 = (3 : Int32) → ((z4 = (4 : Int32) → (vp_in ((x3 + (1 : Int32))) L0 ∧ ((kc ≤ 600000 ∧ ks ≤ 7302250) ∧ (m_X0_speak ((xs ((x3 + (1 : Int32))).toNatClampNeg)) M (fun (a62 : Int32) (M63 : WM) => (vp_in ((x3 + (1 : Int32))) L0 ∧ (((kc + 0) ≤ 600000 ∧ (ks + 0) ≤ 7302250) ∧ (m_X6_speak ((xs ((x3 + (1 : Int32))).toNatClampNeg)) M63 (fun (a66 : Int32) (M67 : WM) => ((a62 = a66 → (∀ z69 : Int32, z69 = x3 + (6 : Int32) → m_L_law_l18 L0 xs  Q n z69 M67 (((kc + 0) + 0)) (((ks + 0) + 0)))) ∧ (¬ a62 = a66 → ((((kc + 0) + 0) ≤ 600000 ∧ ((ks + 0) + 0) ≤ 7302250) ∧ (0 : Int32) = 1)))))))))))) ∧ (¬ z4 = (4 : Int32) → ((z4 = (5 : Int32) → (vp_in ((x3 + (1 : Int32))) L0 ∧ (∃ mc73 ms74, kc + mc73 ≤ 600000 ∧ ks + ms74 ≤ 7302250 ∧ (m_X0_law ((xs ((x3 + (1 : Int32))).toNatClampNeg)) M mc73 ms74 (fun (a75 : Int32) (M76 : WM) => (vp_in ((x3 + (1 : Int32))) L0 ∧ (((kc + mc73) ≤ 600000 ∧ (ks + ms74) ≤ 7302250) ∧ (m_X6_law ((xs ((x3 + (1 : Int32))).toNatClampNeg)) M76 (fun (a79 : Int32) (M80 : WM) => ((a75 = a79 → (∀ z82 : Int32, z82 = x3 + (6 : Int32) → m_L_law_l18 L0 xs  Q n z82 M80 (((kc + mc73) + 0)) (((ks + ms74) + 0)))) ∧ (¬ a75 = a79 → ((((kc + mc73) + 0) ≤ 600000 ∧ ((ks + ms74) + 0) ≤ 7302250) ∧ (0 : Int32) = 1)))))))))))) ∧ (¬ z4 = (5 : Int32) → ((z4 = (6 : Int32) → (vp_in ((x3 + (1 : Int32))) L0 ∧ (vp_in ((x3 + (2 : Int32))) L0 ∧ (vp_in ((x3 + (3 : Int32))) L0 ∧ ((kc ≤ 600000 ∧ ks ≤ 7302250) ∧ (m_X0_step ((xs ((x3 + (1 : Int32))).toNatClampNeg)) ((xs ((x3 + (2 : Int32))).toNatClampNeg)) ((xs ((x3 + (3 : Int32))).toNatClampNeg)) M (fun (a89 : Int32) (M90 : WM) => (vp_in ((x3 + (1 : Int32))) L0 ∧ (vp_in ((x3 + (2 : Int32))) L0 ∧ (vp_in ((x3 + (3 : Int32))) L0 ∧ (((kc + 0) ≤ 600000 ∧ (ks + 0) ≤ 7302250) ∧ (m_X6_step ((xs ((x3 + (1 : Int32))).toNatClampNeg)) ((xs ((x3 + (2 : Int32))).toNatClampNeg)) ((xs ((x3 + (3 : Int32))).toNatClampNeg)) M90 (fun (a95 : Int32) (M96 : WM) => ((a89 = a95 → (∀ z98 : Int32, z98 = x3 + (6 : Int32) → m_L_law_l18 L0 xs  Q n z98 M96 (((kc + 0) + 0)) (((ks + 0) + 0)))) ∧ (¬ a89 = a95 → ((((kc + 0) + 0) ≤ 600000 ∧ ((ks + 0) + 0) ≤ 7302250) ∧ (0 : Int32) = 1)))))))))))))))) ∧ (¬ z4 = (6 : Int32) → ((z4 = (7 : Int32) → (vp_in ((x3 + (1 : Int32))) L0 ∧ (vp_in ((x3 + (2 : Int32))) L0 ∧ (vp_in ((x3 + (3 : Int32))) L0 ∧ ((kc ≤ 600000 ∧ ks ≤ 7302250) ∧ (m_X0_least ((xs ((x3 + (1 : Int32))).toNatClampNeg)) ((xs ((x3 + (2 : Int32))).toNatClampNeg)) ((xs ((x3 + (3 : Int32))).toNatClampNeg)) M (fun (a105 : Int32) (M106 : WM) => (vp_in ((x3 + (1 : Int32))) L0 ∧ (vp_in ((x3 + (2 : Int32))) L0 ∧ (vp_in ((x3 + (3 : Int32))) L0 ∧ (((kc + 0) ≤ 600000 ∧ (ks + 0) ≤ 7302250) ∧ (m_X6_least ((xs ((x3 + (1 : Int32))).toNatClampNeg)) ((xs ((x3 + (2 : Int32))).toNatClampNeg)) ((xs ((x3 + (3 : Int32))).toNatClampNeg)) M106 (fun (a111 : Int32) (M112 : WM) => ((a105 = a111 → (∀ z114 : Int32, z114 = x3 + (6 : Int32) → m_L_law_l18 L0 xs  Q n z114 M112 (((kc + 0) + 0)) (((ks + 0) + 0)))) ∧ (¬ a105 = a111 → ((((kc + 0) + 0) ≤ 600000 ∧ ((ks + 0) + 0) ≤ 7302250) ∧ (0 : Int32) = 1)))))))))))))))) ∧ (¬ z4 = (7 : Int32) → ((z4 = (8 : Int32) → (vp_in ((x3 + (1 : Int32))) L0 ∧ (vp_in ((x3 + (2 : Int32))) L0 ∧ ((kc ≤ 600000 ∧ ks ≤ 7302250) ∧ (m_X0_howMany ((xs ((x3 + (1 : Int32))).toNatClampNeg)) ((xs ((x3 + (2 : Int32))).toNatClampNeg)) M (fun (a120 : Int64) (M121 : WM) => (vp_in ((x3 + (1 : Int32))) L0 ∧ (vp_in ((x3 + (2 : Int32))) L0 ∧ (((kc + 0) ≤ 600000 ∧ (ks + 0) ≤ 7302250) ∧ (m_X6_howMany ((xs ((x3 + (1 : Int32))).toNatClampNeg)) ((xs ((x3 + (2 : Int32))).toNatClampNeg)) M121 (fun (a125 : Int64) (M126 : WM) => (((lg_cmp a120 a125) = 0 → (∀ z128 : Int32, z128 = x3 + (6 : Int32) → m_L_law_l18 L0 xs  Q n z128 M126 (((kc + 0) + 0)) (((ks + 0) + 0)))) ∧ (¬ (lg_cmp a120 a125) = 0 → ((((kc + 0) + 0) ≤ 600000 ∧ ((ks + 0) + 0) ≤ 7302250) ∧ (0 : Int32) = 1)))))))))))))) ∧ (¬ z4 = (8 : Int32) → ((z4 = (9 : Int32) → (vp_in ((x3 + (1 : Int32))) L0 ∧ (vp_in ((x3 + (2 : Int32))) L0 ∧ ((kc ≤ 600000 ∧ ks ≤ 7302250) ∧ (m_X0_without ((xs ((x3 + (1 : Int32))).toNatClampNeg)) ((xs ((x3 + (2 : Int32))).toNatClampNeg)) M (fun (a134 : Int64) (M135 : WM) => (vp_in ((x3 + (1 : Int32))) L0 ∧ (vp_in ((x3 + (2 : Int32))) L0 ∧ (((kc + 0) ≤ 600000 ∧ (ks + 0) ≤ 7302250) ∧ (m_X6_without ((xs ((x3 + (1 : Int32))).toNatClampNeg)) ((xs ((x3 + (2 : Int32))).toNatClampNeg)) M135 (fun (a139 : Int64) (M140 : WM) => (((lg_cmp a134 a139) = 0 → (∀ z142 : Int32, z142 = x3 + (6 : Int32) → m_L_law_l18 L0 xs  Q n z142 M140 (((kc + 0) + 0)) (((ks + 0) + 0)))) ∧ (¬ (lg_cmp a134 a139) = 0 → ((((kc + 0) + 0) ≤ 600000 ∧ ((ks + 0) + 0) ≤ 7302250) ∧ (0 : Int32) = 1)))))))))))))) ∧ (¬ z4 = (9 : Int32) → ((z4 = (10 : Int32) → (vp_in ((x3 + (1 : Int32))) L0 ∧ ((kc ≤ 600000 ∧ ks ≤ 7302250) ∧ (m_X0_heap ((xs ((x3 + (1 : Int32))).toNatClampNeg)) M (fun (a147 : Int32) (M148 : WM) => (vp_in ((x3 + (1 : Int32))) L0 ∧ (((kc + 0) ≤ 600000 ∧ (ks + 0) ≤ 7302250) ∧ (m_X6_heap ((xs ((x3 + (1 : Int32))).toNatClampNeg)) M148 (fun (a151 : Int32) (M152 : WM) => ((a147 = a151 → (∀ z154 : Int32, z154 = x3 + (6 : Int32) → m_L_law_l18 L0 xs  Q n z154 M152 (((kc + 0) + 0)) (((ks + 0) + 0)))) ∧ (¬ a147 = a151 → ((((kc + 0) + 0) ≤ 600000 ∧ ((ks + 0) + 0) ≤ 7302250) ∧ (0 : Int32) = 1)))))))))))) ∧ (¬ z4 = (10 : Int32) → ((z4 = (11 : Int32) → ((kc ≤ 600000 ∧ ks ≤ 7302250) ∧ (m_X0_heaps  M (fun (a158 : Int32) (M159 : WM) => (((kc + 0) ≤ 600000 ∧ (ks + 0) ≤ 7302250) ∧ (m_X6_heaps  M159 (fun (a161 : Int32) (M162 : WM) => ((a158 = a161 → (∀ z164 : Int32, z164 = x3 + (6 : Int32) → m_L_law_l18 L0 xs  Q n z164 M162 (((kc + 0) + 0)) (((ks + 0) + 0)))) ∧ (¬ a158 = a161 → ((((kc + 0) + 0) ≤ 600000 ∧ ((ks + 0) + 0) ≤ 7302250) ∧ (0 : Int32) = 1)))))))))) ∧ (¬ z4 = (11 : Int32) → ((z4 = (12 : Int32) → (vp_in ((x3 + (1 : Int32))) L0 ∧ ((kc ≤ 600000 ∧ ks ≤ 7302250) ∧ (m_X0_far ((xs ((x3 + (1 : Int32))).toNatClampNeg)) M (fun (a169 : Int32) (M170 : WM) => (vp_in ((x3 + (1 : Int32))) L0 ∧ (((kc + 0) ≤ 600000 ∧ (ks + 0) ≤ 7302250) ∧ (m_X6_far ((xs ((x3 + (1 : Int32))).toNatClampNeg)) M170 (fun (a173 : Int32) (M174 : WM) => ((a169 = a173 → (∀ z176 : Int32, z176 = x3 + (6 : Int32) → m_L_law_l18 L0 xs  Q n z176 M174 (((kc + 0) + 0)) (((ks + 0) + 0)))) ∧ (¬ a169 = a173 → ((((kc + 0) + 0) ≤ 600000 ∧ ((ks + 0) + 0) ≤ 7302250) ∧ (0 : Int32) = 1)))))))))))) ∧ (¬ z4 = (12 : Int32) → ((z4 = (13 : Int32) → (vp_in ((x3 + (1 : Int32))) L0 ∧ ((kc ≤ 600000 ∧ ks ≤ 7302250) ∧ (m_X0_between ((xs ((x3 + (1 : Int32))).toNatClampNeg)) M (fun (a181 : Int32) (M182 : WM) => (vp_in ((x3 + (1 : Int32))) L0 ∧ (((kc + 0) ≤ 600000 ∧ (ks + 0) ≤ 7302250) ∧ (m_X6_between ((xs ((x3 + (1 : Int32))).toNatClampNeg)) M182 (fun (a185 : Int32) (M186 : WM) => ((a181 = a185 → (∀ z188 : Int32, z188 = x3 + (6 : Int32) → m_L_law_l18 L0 xs  Q n z188 M186 (((kc + 0) + 0)) (((ks + 0) + 0)))) ∧ (¬ a181 = a185 → ((((kc + 0) + 0) ≤ 600000 ∧ ((ks + 0) + 0) ≤ 7302250) ∧ (0 : Int32) = 1)))))))))))) ∧ (¬ z4 = (13 : Int32) → ((z4 = (14 : Int32) → (vp_in ((x3 + (1 : Int32))) L0 ∧ ((kc ≤ 600000 ∧ ks ≤ 7302250) ∧ (m_X0_newWord ((xs ((x3 + (1 : Int32))).toNatClampNeg)) M (fun (a193 : Int32) (M194 : WM) => (vp_in ((x3 + (1 : Int32))) L0 ∧ (((kc + 0) ≤ 600000 ∧ (ks + 0) ≤ 7302250) ∧ (m_X6_newWord ((xs ((x3 + (1 : Int32))).toNatClampNeg)) M194 (fun (a197 : Int32) (M198 : WM) => ((a193 = a197 → (∀ z200 : Int32, z200 = x3 + (6 : Int32) → m_L_law_l18 L0 xs  Q n z200 M198 (((kc + 0) + 0)) (((ks + 0) + 0)))) ∧ (¬ a193 = a197 → ((((kc + 0) + 0) ≤ 600000 ∧ ((ks + 0) + 0) ≤ 7302250) ∧ (0 : Int32) = 1)))))))))))) ∧ (¬ z4 = (14 : Int32) → ((z4 = (15 : Int32) → (vp_in ((x3 + (1 : Int32))) L0 ∧ (vp_in ((x3 + (2 : Int32))) L0 ∧ (vp_in ((x3 + (3 : Int32))) L0 ∧ ((kc ≤ 600000 ∧ ks ≤ 7302250) ∧ (m_X0_walks ((xs ((x3 + (1 : Int32))).toNatClampNeg)) ((xs ((x3 + (2 : Int32))).toNatClampNeg)) ((xs ((x3 + (3 : Int32))).toNatClampNeg)) M (fun (a207 : Int64) (M208 : WM) => (vp_in ((x3 + (1 : Int32))) L0 ∧ (vp_in ((x3 + (2 : Int32))) L0 ∧ (vp_in ((x3 + (3 : Int32))) L0 ∧ (((kc + 0) ≤ 600000 ∧ (ks + 0) ≤ 7302250) ∧ (m_X6_walks ((xs ((x3 + (1 : Int32))).toNatClampNeg)) ((xs ((x3 + (2 : Int32))).toNatClampNeg)) ((xs ((x3 + (3 : Int32))).toNatClampNeg)) M208 (fun (a213 : Int64) (M214 : WM) => (((lg_cmp a207 a213) = 0 → (∀ z216 : Int32, z216 = x3 + (6 : Int32) → m_L_law_l18 L0 xs  Q n z216 M214 (((kc + 0) + 0)) (((ks + 0) + 0)))) ∧ (¬ (lg_cmp a207 a213) = 0 → ((((kc + 0) + 0) ≤ 600000 ∧ ((ks + 0) + 0) ≤ 7302250) ∧ (0 : Int32) = 1)))))))))))))))) ∧ (¬ z4 = (15 : Int32) → ((z4 = (16 : Int32) → (vp_in ((x3 + (1 : Int32))) L0 ∧ (vp_in ((x3 + (2 : Int32))) L0 ∧ ((kc ≤ 600000 ∧ ks ≤ 7302250) ∧ (m_X0_row ((xs ((x3 + (1 : Int32))).toNatClampNeg)) ((xs ((x3 + (2 : Int32))).toNatClampNeg)) M (fun (a222 : Int32) (M223 : WM) => (vp_in ((x3 + (1 : Int32))) L0 ∧ (vp_in ((x3 + (2 : Int32))) L0 ∧ (((kc + 0) ≤ 600000 ∧ (ks + 0) ≤ 7302250) ∧ (m_X6_row ((xs ((x3 + (1 : Int32))).toNatClampNeg)) ((xs ((x3 + (2 : Int32))).toNatClampNeg)) M223 (fun (a227 : Int32) (M228 : WM) => ((a222 = a227 → (∀ z230 : Int32, z230 = x3 + (6 : Int32) → m_L_law_l18 L0 xs  Q n z230 M228 (((kc + 0) + 0)) (((ks + 0) + 0)))) ∧ (¬ a222 = a227 → ((((kc + 0) + 0) ≤ 600000 ∧ ((ks + 0) + 0) ≤ 7302250) ∧ (0 : Int32) = 1)))))))))))))) ∧ (¬ z4 = (16 : Int32) → ((z4 = (17 : Int32) → (vp_in ((x3 + (1 : Int32))) L0 ∧ (vp_in ((x3 + (2 : Int32))) L0 ∧ ((kc ≤ 600000 ∧ ks ≤ 7302250) ∧ (m_X0_game ((xs ((x3 + (1 : Int32))).toNatClampNeg)) ((xs ((x3 + (2 : Int32))).toNatClampNeg)) M (fun (a236 : Int32) (M237 : WM) => (vp_in ((x3 + (1 : Int32))) L0 ∧ (vp_in ((x3 + (2 : Int32))) L0 ∧ (((kc + 0) ≤ 600000 ∧ (ks + 0) ≤ 7302250) ∧ (m_X6_game ((xs ((x3 + (1 : Int32))).toNatClampNeg)) ((xs ((x3 + (2 : Int32))).toNatClampNeg)) M237 (fun (a241 : Int32) (M242 : WM) => ((a236 = a241 → (∀ z244 : Int32, z244 = x3 + (6 : Int32) → m_L_law_l18 L0 xs  Q n z244 M242 (((kc + 0) + 0)) (((ks + 0) + 0)))) ∧ (¬ a236 = a241 → ((((kc + 0) + 0) ≤ 600000 ∧ ((ks + 0) + 0) ≤ 7302250) ∧ (0 : Int32) = 1)))))))))))))) ∧ (¬ z4 = (17 : Int32) → ((z4 = (18 : Int32) → (vp_in ((x3 + (1 : Int32))) L0 ∧ (vp_in ((x3 + (2 : Int32))) L0 ∧ ((kc ≤ 600000 ∧ ks ≤ 7302250) ∧ (m_X0_farBy ((xs ((x3 + (1 : Int32))).toNatClampNeg)) ((xs ((x3 + (2 : Int32))).toNatClampNeg)) M (fun (a250 : Int32) (M251 : WM) => (vp_in ((x3 + (1 : Int32))) L0 ∧ (vp_in ((x3 + (2 : Int32))) L0 ∧ (((kc + 0) ≤ 600000 ∧ (ks + 0) ≤ 7302250) ∧ (m_X6_farBy ((xs ((x3 + (1 : Int32))).toNatClampNeg)) ((xs ((x3 + (2 : Int32))).toNatClampNeg)) M251 (fun (a255 : Int32) (M256 : WM) => ((a250 = a255 → (∀ z258 : Int32, z258 = x3 + (6 : Int32) → m_L_law_l18 L0 xs  Q n z258 M256 (((kc + 0) + 0)) (((ks + 0) + 0)))) ∧ (¬ a250 = a255 → ((((kc + 0) + 0) ≤ 600000 ∧ ((ks + 0) + 0) ≤ 7302250) ∧ (0 : Int32) = 1)))))))))))))) ∧ (¬ z4 = (18 : Int32) → ((z4 = (19 : Int32) → (vp_in ((x3 + (1 : Int32))) L0 ∧ (vp_in ((x3 + (2 : Int32))) L0 ∧ ((kc ≤ 600000 ∧ ks ≤ 7302250) ∧ (m_X0_near ((xs ((x3 + (1 : Int32))).toNatClampNeg)) ((xs ((x3 + (2 : Int32))).toNatClampNeg)) M (fun (a264 : Int32) (M265 : WM) => (vp_in ((x3 + (1 : Int32))) L0 ∧ (vp_in ((x3 + (2 : Int32))) L0 ∧ (((kc + 0) ≤ 600000 ∧ (ks + 0) ≤ 7302250) ∧ (m_X6_near ((xs ((x3 + (1 : Int32))).toNatClampNeg)) ((xs ((x3 + (2 : Int32))).toNatClampNeg)) M265 (fun (a269 : Int32) (M270 : WM) => ((a264 = a269 → (∀ z272 : Int32, z272 = x3 + (6 : Int32) → m_L_law_l18 L0 xs  Q n z272 M270 (((kc + 0) + 0)) (((ks + 0) + 0)))) ∧ (¬ a264 = a269 → ((((kc + 0) + 0) ≤ 600000 ∧ ((ks + 0) + 0) ≤ 7302250) ∧ (0 : Int32) = 1)))))))))))))) ∧ (¬ z4 = (19 : Int32) → ((z4 = (20 : Int32) → (vp_in ((x3 + (1 : Int32))) L0 ∧ (vp_in ((x3 + (2 : Int32))) L0 ∧ (vp_in ((x3 + (3 : Int32))) L0 ∧ ((kc ≤ 600000 ∧ ks ≤ 7302250) ∧ (m_X0_clear ((xs ((x3 + (1 : Int32))).toNatClampNeg)) ((xs ((x3 + (2 : Int32))).toNatClampNeg)) ((xs ((x3 + (3 : Int32))).toNatClampNeg)) M (fun (a279 : Int32) (M280 : WM) => (vp_in ((x3 + (1 : Int32))) L0 ∧ (vp_in ((x3 + (2 : Int32))) L0 ∧ (vp_in ((x3 + (3 : Int32))) L0 ∧ (((kc + 0) ≤ 600000 ∧ (ks + 0) ≤ 7302250) ∧ (m_X6_clear ((xs ((x3 + (1 : Int32))).toNatClampNeg)) ((xs ((x3 + (2 : Int32))).toNatClampNeg)) ((xs ((x3 + (3 : Int32))).toNatClampNeg)) M280 (fun (a285 : Int32) (M286 : WM) => ((a279 = a285 → (∀ z288 : Int32, z288 = x3 + (6 : Int32) → m_L_law_l18 L0 xs  Q n z288 M286 (((kc + 0) + 0)) (((ks + 0) + 0)))) ∧ (¬ a279 = a285 → ((((kc + 0) + 0) ≤ 600000 ∧ ((ks + 0) + 0) ≤ 7302250) ∧ (0 : Int32) = 1)))))))))))))))) ∧ (¬ z4 = (20 : Int32) → ((z4 = (21 : Int32) → (vp_in ((x3 + (1 : Int32))) L0 ∧ ((kc ≤ 600000 ∧ ks ≤ 7302250) ∧ (m_X0_rubbed ((xs ((x3 + (1 : Int32))).toNatClampNeg)) M (fun (a293 : Int64) (M294 : WM) => (vp_in ((x3 + (1 : Int32))) L0 ∧ (((kc + 0) ≤ 600000 ∧ (ks + 0) ≤ 7302250) ∧ (m_X6_rubbed ((xs ((x3 + (1 : Int32))).toNatClampNeg)) M294 (fun (a297 : Int64) (M298 : WM) => (((lg_cmp a293 a297) = 0 → (∀ z300 : Int32, z300 = x3 + (6 : Int32) → m_L_law_l18 L0 xs  Q n z300 M298 (((kc + 0) + 0)) (((ks + 0) + 0)))) ∧ (¬ (lg_cmp a293 a297) = 0 → ((((kc + 0) + 0) ≤ 600000 ∧ ((ks + 0) + 0) ≤ 7302250) ∧ (0 : Int32) = 1)))))))))))) ∧ (¬ z4 = (21 : Int32) → ((z4 = (22 : Int32) → (vp_in ((x3 + (1 : Int32))) L0 ∧ (vp_in ((x3 + (2 : Int32))) L0 ∧ ((kc ≤ 600000 ∧ ks ≤ 7302250) ∧ (m_X0_square ((xs ((x3 + (1 : Int32))).toNatClampNeg)) ((xs ((x3 + (2 : Int32))).toNatClampNeg)) M (fun (a306 : Int32) (M307 : WM) => (vp_in ((x3 + (1 : Int32))) L0 ∧ (vp_in ((x3 + (2 : Int32))) L0 ∧ (((kc + 0) ≤ 600000 ∧ (ks + 0) ≤ 7302250) ∧ (m_X6_square ((xs ((x3 + (1 : Int32))).toNatClampNeg)) ((xs ((x3 + (2 : Int32))).toNatClampNeg)) M307 (fun (a311 : Int32) (M312 : WM) => ((a306 = a311 → (∀ z314 : Int32, z314 = x3 + (6 : Int32) → m_L_law_l18 L0 xs  Q n z314 M312 (((kc + 0) + 0)) (((ks + 0) + 0)))) ∧ (¬ a306 = a311 → ((((kc + 0) + 0) ≤ 600000 ∧ ((ks + 0) + 0) ≤ 7302250) ∧ (0 : Int32) = 1)))))))))))))) ∧ (¬ z4 = (22 : Int32) → ((z4 = (23 : Int32) → (vp_in ((x3 + (1 : Int32))) L0 ∧ ((kc ≤ 600000 ∧ ks ≤ 7302250) ∧ (m_X0_seed ((xs ((x3 + (1 : Int32))).toNatClampNeg)) M (fun (a319 : Int32) (M320 : WM) => (vp_in ((x3 + (1 : Int32))) L0 ∧ (((kc + 0) ≤ 600000 ∧ (ks + 0) ≤ 7302250) ∧ (m_X6_seed ((xs ((x3 + (1 : Int32))).toNatClampNeg)) M320 (fun (a323 : Int32) (M324 : WM) => ((a319 = a323 → (∀ z326 : Int32, z326 = x3 + (6 : Int32) → m_L_law_l18 L0 xs  Q n z326 M324 (((kc + 0) + 0)) (((ks + 0) + 0)))) ∧ (¬ a319 = a323 → ((((kc + 0) + 0) ≤ 600000 ∧ ((ks + 0) + 0) ≤ 7302250) ∧ (0 : Int32) = 1)))))))))))) ∧ (¬ z4 = (23 : Int32) → ((z4 = (24 : Int32) → (vp_in ((x3 + (1 : Int32))) L0 ∧ (vp_in ((x3 + (2 : Int32))) L0 ∧ (vp_in ((x3 + (3 : Int32))) L0 ∧ ((kc ≤ 600000 ∧ ks ≤ 7302250) ∧ (m_X0_draw ((xs ((x3 + (1 : Int32))).toNatClampNeg)) ((xs ((x3 + (2 : Int32))).toNatClampNeg)) ((xs ((x3 + (3 : Int32))).toNatClampNeg)) M (fun (a333 : Int32) (M334 : WM) => (vp_in ((x3 + (1 : Int32))) L0 ∧ (vp_in ((x3 + (2 : Int32))) L0 ∧ (vp_in ((x3 + (3 : Int32))) L0 ∧ (((kc + 0) ≤ 600000 ∧ (ks + 0) ≤ 7302250) ∧ (m_X6_draw ((xs ((x3 + (1 : Int32))).toNatClampNeg)) ((xs ((x3 + (2 : Int32))).toNatClampNeg)) ((xs ((x3 + (3 : Int32))).toNatClampNeg)) M334 (fun (a339 : Int32) (M340 : WM) => ((a333 = a339 → (∀ z342 : Int32, z342 = x3 + (6 : Int32) → m_L_law_l18 L0 xs  Q n z342 M340 (((kc + 0) + 0)) (((ks + 0) + 0)))) ∧ (¬ a333 = a339 → ((((kc + 0) + 0) ≤ 600000 ∧ ((ks + 0) + 0) ≤ 7302250) ∧ (0 : Int32) = 1)))))))))))))))) ∧ (¬ z4 = (24 : Int32) → ((z4 = (25 : Int32) → ((kc ≤ 600000 ∧ ks ≤ 7302250) ∧ (m_X0_off  M (fun (a346 : Int32) (M347 : WM) => (((kc + 0) ≤ 600000 ∧ (ks + 0) ≤ 7302250) ∧ (m_X6_off  M347 (fun (a349 : Int32) (M350 : WM) => ((a346 = a349 → (∀ z352 : Int32, z352 = x3 + (6 : Int32) → m_L_law_l18 L0 xs  Q n z352 M350 (((kc + 0) + 0)) (((ks + 0) + 0)))) ∧ (¬ a346 = a349 → ((((kc + 0) + 0) ≤ 600000 ∧ ((ks + 0) + 0) ≤ 7302250) ∧ (0 : Int32) = 1)))))))))) ∧ (¬ z4 = (25 : Int32) → ((z4 = (26 : Int32) → (vp_in ((x3 + (1 : Int32))) L0 ∧ (vp_in ((x3 + (2 : Int32))) L0 ∧ ((kc ≤ 600000 ∧ ks ≤ 7302250) ∧ (m_X0_check ((xs ((x3 + (1 : Int32))).toNatClampNeg)) ((xs ((x3 + (2 : Int32))).toNatClampNeg)) M (fun (a358 : Int32) (M359 : WM) => (vp_in ((x3 + (1 : Int32))) L0 ∧ (vp_in ((x3 + (2 : Int32))) L0 ∧ (((kc + 0) ≤ 600000 ∧ (ks + 0) ≤ 7302250) ∧ (m_X6_check ((xs ((x3 + (1 : Int32))).toNatClampNeg)) ((xs ((x3 + (2 : Int32))).toNatClampNeg)) M359 (fun (a363 : Int32) (M364 : WM) => ((a358 = a363 → (∀ z366 : Int32, z366 = x3 + (6 : Int32) → m_L_law_l18 L0 xs  Q n z366 M364 (((kc + 0) + 0)) (((ks + 0) + 0)))) ∧ (¬ a358 = a363 → ((((kc + 0) + 0) ≤ 600000 ∧ ((ks + 0) + 0) ≤ 7302250) ∧ (0 : Int32) = 1)))))))))))))) ∧ (¬ z4 = (26 : Int32) → ((z4 = (27 : Int32) → (vp_in ((x3 + (1 : Int32))) L0 ∧ ((kc ≤ 600000 ∧ ks ≤ 7302250) ∧ (m_X0_count ((xs ((x3 + (1 : Int32))).toNatClampNeg)) M (fun (a371 : Int32) => (vp_in ((x3 + (1 : Int32))) L0 ∧ (((kc + 0) ≤ 600000 ∧ (ks + 0) ≤ 7302250) ∧ (m_X6_count ((xs ((x3 + (1 : Int32))).toNatClampNeg)) M (fun (a374 : Int32) => ((a371 = a374 → (∀ z376 : Int32, z376 = x3 + (6 : Int32) → m_L_law_l18 L0 xs  Q n z376 M (((kc + 0) + 0)) (((ks + 0) + 0)))) ∧ (¬ a371 = a374 → ((((kc + 0) + 0) ≤ 600000 ∧ ((ks + 0) + 0) ≤ 7302250) ∧ (0 : Int32) = 1)))))))))))) ∧ (¬ z4 = (27 : Int32) → (∀ z378 : Int32, z378 = x3 + (6 : Int32) → m_L_law_l18 L0 xs  Q n z378 M kc ks))))))))))))))))))))))))))))))))))))))))))))))))))))))))))))) := h
    refine v_iload_n (pc := 18) cx dL_law_18 rfl 3 rfl ?_
    refine v_aload_n (pc := 19) cx dL_law_19 rfl 0 rfl ?_
    refine v_scrlen (pc := 20) cx dL_law_20 hxs ?_
    refine v_bipush (pc := 21) cx dL_law_21 bc_6 ?_
    refine v_isub (pc := 23) cx dL_law_23 ?_
    refine v_icmp_gt (pc := 24) cx dL_law_24 (tgt := 1070) rfl (fun c1 => ?_) (fun c1 => ?_)
    · replace h := h.1 c1
      refine v_iconst (pc := 1070) cx dL_law_1070 ic_1 ?_
      obtain ⟨q2, h⟩ := h
      exact v_lawret cx hxs.2.2.1 dL_law_1071 q2 h
    · replace h := h.2 c1
      refine v_aload_n (pc := 27) cx dL_law_27 rfl 0 rfl ?_
      refine v_iload_n (pc := 28) cx dL_law_28 rfl 3 rfl ?_
      obtain ⟨b3, h⟩ := h
      refine v_scr (pc := 29) cx dL_law_29 hxs b3 ?_
      refine v_bipush (pc := 30) cx dL_law_30 bc_31 ?_
      refine v_iand (pc := 32) cx dL_law_32 ?_
      refine v_topi (fun z4 ez4 => ?_)
      replace h := h z4 ez4
      by_cases c5 : z4 = (0 : Int32)
      · replace h := h.1 c5
        refine v_tswI cx (0 : Int32) (tgt := 160) dL_law_33 c5 (by decide) (by decide) rfl rfl ?_
        refine v_aload_n (pc := 160) cx dL_law_160 rfl 1 rfl ?_
        refine v_aload_n (pc := 161) cx dL_law_161 rfl 0 rfl ?_
        refine v_iload_n (pc := 162) cx dL_law_162 rfl 3 rfl ?_
        refine v_iconst (pc := 163) cx dL_law_163 ic_1 ?_
        refine v_iadd (pc := 164) cx dL_law_164 ?_
        obtain ⟨b6, h⟩ := h
        refine v_scr (pc := 165) cx dL_law_165 hxs b6 ?_
        refine v_aload_n (pc := 166) cx dL_law_166 rfl 0 rfl ?_
        refine v_iload_n (pc := 167) cx dL_law_167 rfl 3 rfl ?_
        refine v_iconst (pc := 168) cx dL_law_168 ic_2 ?_
        refine v_iadd (pc := 169) cx dL_law_169 ?_
        obtain ⟨b7, h⟩ := h
        refine v_scr (pc := 170) cx dL_law_170 hxs b7 ?_
        refine v_aload_n (pc := 171) cx dL_law_171 rfl 0 rfl ?_
        refine v_iload_n (pc := 172) cx dL_law_172 rfl 3 rfl ?_
        refine v_iconst (pc := 173) cx dL_law_173 ic_3 ?_
        refine v_iadd (pc := 174) cx dL_law_174 ?_
        obtain ⟨b8, h⟩ := h
        refine v_scr (pc := 175) cx dL_law_175 hxs b8 ?_
        refine v_aload_n (pc := 176) cx dL_law_176 rfl 0 rfl ?_
        refine v_iload_n (pc := 177) cx dL_law_177 rfl 3 rfl ?_
        refine v_iconst (pc := 178) cx dL_law_178 ic_4 ?_
        refine v_iadd (pc := 179) cx dL_law_179 ?_
        obtain ⟨b9, h⟩ := h
        refine v_scr (pc := 180) cx dL_law_180 hxs b9 ?_
        refine v_aload_n (pc := 181) cx dL_law_181 rfl 0 rfl ?_
        refine v_iload_n (pc := 182) cx dL_law_182 rfl 3 rfl ?_
        refine v_iconst (pc := 183) cx dL_law_183 ic_5 ?_
        refine v_iadd (pc := 184) cx dL_law_184 ?_
        obtain ⟨b10, h⟩ := h
        refine v_scr (pc := 185) cx dL_law_185 hxs b10 ?_
        obtain ⟨hb11, h⟩ := h
        refine v_run_i (pc := 186) cx (kcq375_L cx (c_X0_feed l D cA sz0 H0 M ((xs ((x3 + (1 : Int32))).toNatClampNeg)) ((xs ((x3 + (2 : Int32))).toNatClampNeg)) ((xs ((x3 + (3 : Int32))).toNatClampNeg)) ((xs ((x3 + (4 : Int32))).toNatClampNeg)) ((xs ((x3 + (5 : Int32))).toNatClampNeg))  _ sh h) ⟨Nat.le_of_ble_eq_true rfl, Nat.le_of_ble_eq_true rfl⟩ (sh.k k_0) (As := [.int (xs ((x3 + (1 : Int32))).toNatClampNeg), .int (xs ((x3 + (2 : Int32))).toNatClampNeg), .int (xs ((x3 + (3 : Int32))).toNatClampNeg), .int (xs ((x3 + (4 : Int32))).toNatClampNeg), .int (xs ((x3 + (5 : Int32))).toNatClampNeg)]) rfl rfl (Nat.le_of_ble_eq_true rfl) dL_law_186 ⟨hb11.1, hb11.2⟩) (fun a12 M13 hq => ?_)
        obtain ⟨h, sh⟩ := hq
        refine v_aload_n (pc := 189) cx dL_law_189 rfl 2 rfl ?_
        refine v_aload_n (pc := 190) cx dL_law_190 rfl 0 rfl ?_
        refine v_iload_n (pc := 191) cx dL_law_191 rfl 3 rfl ?_
        refine v_iconst (pc := 192) cx dL_law_192 ic_1 ?_
        refine v_iadd (pc := 193) cx dL_law_193 ?_
        obtain ⟨b14, h⟩ := h
        refine v_scr (pc := 194) cx dL_law_194 hxs b14 ?_
        refine v_aload_n (pc := 195) cx dL_law_195 rfl 0 rfl ?_
        refine v_iload_n (pc := 196) cx dL_law_196 rfl 3 rfl ?_
        refine v_iconst (pc := 197) cx dL_law_197 ic_2 ?_
        refine v_iadd (pc := 198) cx dL_law_198 ?_
        obtain ⟨b15, h⟩ := h
        refine v_scr (pc := 199) cx dL_law_199 hxs b15 ?_
        refine v_aload_n (pc := 200) cx dL_law_200 rfl 0 rfl ?_
        refine v_iload_n (pc := 201) cx dL_law_201 rfl 3 rfl ?_
        refine v_iconst (pc := 202) cx dL_law_202 ic_3 ?_
        refine v_iadd (pc := 203) cx dL_law_203 ?_
        obtain ⟨b16, h⟩ := h
        refine v_scr (pc := 204) cx dL_law_204 hxs b16 ?_
        refine v_aload_n (pc := 205) cx dL_law_205 rfl 0 rfl ?_
        refine v_iload_n (pc := 206) cx dL_law_206 rfl 3 rfl ?_
        refine v_iconst (pc := 207) cx dL_law_207 ic_4 ?_
        refine v_iadd (pc := 208) cx dL_law_208 ?_
        obtain ⟨b17, h⟩ := h
        refine v_scr (pc := 209) cx dL_law_209 hxs b17 ?_
        refine v_aload_n (pc := 210) cx dL_law_210 rfl 0 rfl ?_
        refine v_iload_n (pc := 211) cx dL_law_211 rfl 3 rfl ?_
        refine v_iconst (pc := 212) cx dL_law_212 ic_5 ?_
        refine v_iadd (pc := 213) cx dL_law_213 ?_
        obtain ⟨b18, h⟩ := h
        refine v_scr (pc := 214) cx dL_law_214 hxs b18 ?_
        obtain ⟨hb19, h⟩ := h
        refine v_run_i (pc := 215) cx (kcq1220_L cx (c_X6_feed l D cA sz0 H0 M13 ((xs ((x3 + (1 : Int32))).toNatClampNeg)) ((xs ((x3 + (2 : Int32))).toNatClampNeg)) ((xs ((x3 + (3 : Int32))).toNatClampNeg)) ((xs ((x3 + (4 : Int32))).toNatClampNeg)) ((xs ((x3 + (5 : Int32))).toNatClampNeg))  _ sh h) ⟨Nat.le_of_ble_eq_true rfl, Nat.le_of_ble_eq_true rfl⟩ (sh.k k_5444) (As := [.int (xs ((x3 + (1 : Int32))).toNatClampNeg), .int (xs ((x3 + (2 : Int32))).toNatClampNeg), .int (xs ((x3 + (3 : Int32))).toNatClampNeg), .int (xs ((x3 + (4 : Int32))).toNatClampNeg), .int (xs ((x3 + (5 : Int32))).toNatClampNeg)]) rfl rfl (Nat.le_of_ble_eq_true rfl) dL_law_215 ⟨hb19.1, hb19.2⟩) (fun a20 M21 hq => ?_)
        obtain ⟨h, sh⟩ := hq
        refine v_icmp_eq (pc := 218) cx dL_law_218 (tgt := 1064) rfl (fun c22 => ?_) (fun c22 => ?_)
        · replace h := h.1 c22
          refine nm_x (x3 + (6 : Int32)) (fun z23 ez23 => ?_)
          replace h := h z23 ez23
          refine v_iinc (pc := 1064) cx dL_law_1064 (q := 3) rfl ((ii_6 _).trans ez23.symm) (Nat.le_of_ble_eq_true rfl) (lv' := [(3, .int z23), (0, .ref b0), (1, .ref (sz0 + 0)), (2, .ref (sz0 + 5444))]) rfl ?_
          refine v_goto (pc := 1067) cx dL_law_1067 (tgt := 18) rfl ?_
          refine v_sub (lv' := [(0, .ref b0), (1, .ref (sz0 + 0)), (2, .ref (sz0 + 5444)), (3, .int z23)]) [1, 2, 3, 0] rfl ?_
          exact ih z23 M21 sh (((kc + 0) + 0)) (((ks + 0) + 0)) h
        · replace h := h.2 c22
          refine v_iconst (pc := 221) cx dL_law_221 ic_0 ?_
          obtain ⟨q24, h⟩ := h
          exact v_lawret cx hxs.2.2.1 dL_law_222 q24 h
      · replace h := h.2 c5
        by_cases c25 : z4 = (1 : Int32)
        · replace h := h.1 c25
          refine v_tswI cx (1 : Int32) (tgt := 223) dL_law_33 c25 (by decide) (by decide) rfl rfl ?_
          refine v_aload_n (pc := 223) cx dL_law_223 rfl 1 rfl ?_
          refine v_aload_n (pc := 224) cx dL_law_224 rfl 0 rfl ?_
          refine v_iload_n (pc := 225) cx dL_law_225 rfl 3 rfl ?_
          refine v_iconst (pc := 226) cx dL_law_226 ic_1 ?_
          refine v_iadd (pc := 227) cx dL_law_227 ?_
          obtain ⟨b26, h⟩ := h
          refine v_scr (pc := 228) cx dL_law_228 hxs b26 ?_
          refine v_aload_n (pc := 229) cx dL_law_229 rfl 0 rfl ?_
          refine v_iload_n (pc := 230) cx dL_law_230 rfl 3 rfl ?_
          refine v_iconst (pc := 231) cx dL_law_231 ic_2 ?_
          refine v_iadd (pc := 232) cx dL_law_232 ?_
          obtain ⟨b27, h⟩ := h
          refine v_scr (pc := 233) cx dL_law_233 hxs b27 ?_
          refine v_aload_n (pc := 234) cx dL_law_234 rfl 0 rfl ?_
          refine v_iload_n (pc := 235) cx dL_law_235 rfl 3 rfl ?_
          refine v_iconst (pc := 236) cx dL_law_236 ic_3 ?_
          refine v_iadd (pc := 237) cx dL_law_237 ?_
          obtain ⟨b28, h⟩ := h
          refine v_scr (pc := 238) cx dL_law_238 hxs b28 ?_
          obtain ⟨hb29, h⟩ := h
          refine v_run_i (pc := 239) cx (kcq383_L cx (c_X0_word l D cA sz0 H0 M ((xs ((x3 + (1 : Int32))).toNatClampNeg)) ((xs ((x3 + (2 : Int32))).toNatClampNeg)) ((xs ((x3 + (3 : Int32))).toNatClampNeg))  _ sh h) ⟨Nat.le_of_ble_eq_true rfl, Nat.le_of_ble_eq_true rfl⟩ (sh.k k_0) (As := [.int (xs ((x3 + (1 : Int32))).toNatClampNeg), .int (xs ((x3 + (2 : Int32))).toNatClampNeg), .int (xs ((x3 + (3 : Int32))).toNatClampNeg)]) rfl rfl (Nat.le_of_ble_eq_true rfl) dL_law_239 ⟨hb29.1, hb29.2⟩) (fun a30 M31 hq => ?_)
          obtain ⟨h, sh⟩ := hq
          refine v_aload_n (pc := 242) cx dL_law_242 rfl 2 rfl ?_
          refine v_aload_n (pc := 243) cx dL_law_243 rfl 0 rfl ?_
          refine v_iload_n (pc := 244) cx dL_law_244 rfl 3 rfl ?_
          refine v_iconst (pc := 245) cx dL_law_245 ic_1 ?_
          refine v_iadd (pc := 246) cx dL_law_246 ?_
          obtain ⟨b32, h⟩ := h
          refine v_scr (pc := 247) cx dL_law_247 hxs b32 ?_
          refine v_aload_n (pc := 248) cx dL_law_248 rfl 0 rfl ?_
          refine v_iload_n (pc := 249) cx dL_law_249 rfl 3 rfl ?_
          refine v_iconst (pc := 250) cx dL_law_250 ic_2 ?_
          refine v_iadd (pc := 251) cx dL_law_251 ?_
          obtain ⟨b33, h⟩ := h
          refine v_scr (pc := 252) cx dL_law_252 hxs b33 ?_
          refine v_aload_n (pc := 253) cx dL_law_253 rfl 0 rfl ?_
          refine v_iload_n (pc := 254) cx dL_law_254 rfl 3 rfl ?_
          refine v_iconst (pc := 255) cx dL_law_255 ic_3 ?_
          refine v_iadd (pc := 256) cx dL_law_256 ?_
          obtain ⟨b34, h⟩ := h
          refine v_scr (pc := 257) cx dL_law_257 hxs b34 ?_
          obtain ⟨hb35, h⟩ := h
          refine v_run_i (pc := 258) cx (kcq1181_L cx (c_X6_word l D cA sz0 H0 M31 ((xs ((x3 + (1 : Int32))).toNatClampNeg)) ((xs ((x3 + (2 : Int32))).toNatClampNeg)) ((xs ((x3 + (3 : Int32))).toNatClampNeg))  _ sh h) ⟨Nat.le_of_ble_eq_true rfl, Nat.le_of_ble_eq_true rfl⟩ (sh.k k_5444) (As := [.int (xs ((x3 + (1 : Int32))).toNatClampNeg), .int (xs ((x3 + (2 : Int32))).toNatClampNeg), .int (xs ((x3 + (3 : Int32))).toNatClampNeg)]) rfl rfl (Nat.le_of_ble_eq_true rfl) dL_law_258 ⟨hb35.1, hb35.2⟩) (fun a36 M37 hq => ?_)
          obtain ⟨h, sh⟩ := hq
          refine v_icmp_eq (pc := 261) cx dL_law_261 (tgt := 1064) rfl (fun c38 => ?_) (fun c38 => ?_)
          · replace h := h.1 c38
            refine nm_x (x3 + (6 : Int32)) (fun z39 ez39 => ?_)
            replace h := h z39 ez39
            refine v_iinc (pc := 1064) cx dL_law_1064 (q := 3) rfl ((ii_6 _).trans ez39.symm) (Nat.le_of_ble_eq_true rfl) (lv' := [(3, .int z39), (0, .ref b0), (1, .ref (sz0 + 0)), (2, .ref (sz0 + 5444))]) rfl ?_
            refine v_goto (pc := 1067) cx dL_law_1067 (tgt := 18) rfl ?_
            refine v_sub (lv' := [(0, .ref b0), (1, .ref (sz0 + 0)), (2, .ref (sz0 + 5444)), (3, .int z39)]) [1, 2, 3, 0] rfl ?_
            exact ih z39 M37 sh (((kc + 0) + 0)) (((ks + 0) + 0)) h
          · replace h := h.2 c38
            refine v_iconst (pc := 264) cx dL_law_264 ic_0 ?_
            obtain ⟨q40, h⟩ := h
            exact v_lawret cx hxs.2.2.1 dL_law_265 q40 h
        · replace h := h.2 c25
          by_cases c41 : z4 = (2 : Int32)
          · replace h := h.1 c41
            refine v_tswI cx (2 : Int32) (tgt := 266) dL_law_33 c41 (by decide) (by decide) rfl rfl ?_
            refine v_aload_n (pc := 266) cx dL_law_266 rfl 1 rfl ?_
            refine v_aload_n (pc := 267) cx dL_law_267 rfl 0 rfl ?_
            refine v_iload_n (pc := 268) cx dL_law_268 rfl 3 rfl ?_
            refine v_iconst (pc := 269) cx dL_law_269 ic_1 ?_
            refine v_iadd (pc := 270) cx dL_law_270 ?_
            obtain ⟨b42, h⟩ := h
            refine v_scr (pc := 271) cx dL_law_271 hxs b42 ?_
            refine v_aload_n (pc := 272) cx dL_law_272 rfl 0 rfl ?_
            refine v_iload_n (pc := 273) cx dL_law_273 rfl 3 rfl ?_
            refine v_iconst (pc := 274) cx dL_law_274 ic_2 ?_
            refine v_iadd (pc := 275) cx dL_law_275 ?_
            obtain ⟨b43, h⟩ := h
            refine v_scr (pc := 276) cx dL_law_276 hxs b43 ?_
            refine v_if_eq (pc := 277) cx dL_law_277 (tgt := 284) rfl (fun c44 => ?_) (fun c44 => ?_)
            · replace h := h.1 c44
              refine v_iconst (pc := 284) cx dL_law_284 ic_0 ?_
              refine v_sub (lv' := [(0, .ref b0), (1, .ref (sz0 + 0)), (2, .ref (sz0 + 5444)), (3, .int x3)]) [0, 1, 2, 3] rfl ?_
              exact w_L_law_j285 cx hL0 hxs ih M sh kc ks h
            · replace h := h.2 c44
              refine v_iconst (pc := 280) cx dL_law_280 ic_1 ?_
              refine v_goto (pc := 281) cx dL_law_281 (tgt := 285) rfl ?_
              refine v_sub (lv' := [(0, .ref b0), (1, .ref (sz0 + 0)), (2, .ref (sz0 + 5444)), (3, .int x3)]) [0, 1, 2, 3] rfl ?_
              exact w_L_law_j285 cx hL0 hxs ih M sh kc ks h
          · replace h := h.2 c41
            by_cases c45 : z4 = (3 : Int32)
            · replace h := h.1 c45
              refine v_tswI cx (3 : Int32) (tgt := 315) dL_law_33 c45 (by decide) (by decide) rfl rfl ?_
              refine v_aload_n (pc := 315) cx dL_law_315 rfl 1 rfl ?_
              refine v_aload_n (pc := 316) cx dL_law_316 rfl 0 rfl ?_
              refine v_iload_n (pc := 317) cx dL_law_317 rfl 3 rfl ?_
              refine v_iconst (pc := 318) cx dL_law_318 ic_1 ?_
              refine v_iadd (pc := 319) cx dL_law_319 ?_
              obtain ⟨b46, h⟩ := h
              refine v_scr (pc := 320) cx dL_law_320 hxs b46 ?_
              refine v_aload_n (pc := 321) cx dL_law_321 rfl 0 rfl ?_
              refine v_iload_n (pc := 322) cx dL_law_322 rfl 3 rfl ?_
              refine v_iconst (pc := 323) cx dL_law_323 ic_2 ?_
              refine v_iadd (pc := 324) cx dL_law_324 ?_
              obtain ⟨b47, h⟩ := h
              refine v_scr (pc := 325) cx dL_law_325 hxs b47 ?_
              obtain ⟨hb48, h⟩ := h
              refine v_run_i (pc := 326) cx (kcq425_L cx (c_X0_know l D cA sz0 H0 M ((xs ((x3 + (1 : Int32))).toNatClampNeg)) ((xs ((x3 + (2 : Int32))).toNatClampNeg))  _ sh h) ⟨Nat.le_of_ble_eq_true rfl, Nat.le_of_ble_eq_true rfl⟩ (sh.k k_0) (As := [.int (xs ((x3 + (1 : Int32))).toNatClampNeg), .int (xs ((x3 + (2 : Int32))).toNatClampNeg)]) rfl rfl (Nat.le_of_ble_eq_true rfl) dL_law_326 ⟨hb48.1, hb48.2⟩) (fun a49 M50 hq => ?_)
              obtain ⟨h, sh⟩ := hq
              refine v_aload_n (pc := 329) cx dL_law_329 rfl 2 rfl ?_
              refine v_aload_n (pc := 330) cx dL_law_330 rfl 0 rfl ?_
              refine v_iload_n (pc := 331) cx dL_law_331 rfl 3 rfl ?_
              refine v_iconst (pc := 332) cx dL_law_332 ic_1 ?_
              refine v_iadd (pc := 333) cx dL_law_333 ?_
              obtain ⟨b51, h⟩ := h
              refine v_scr (pc := 334) cx dL_law_334 hxs b51 ?_
              refine v_aload_n (pc := 335) cx dL_law_335 rfl 0 rfl ?_
              refine v_iload_n (pc := 336) cx dL_law_336 rfl 3 rfl ?_
              refine v_iconst (pc := 337) cx dL_law_337 ic_2 ?_
              refine v_iadd (pc := 338) cx dL_law_338 ?_
              obtain ⟨b52, h⟩ := h
              refine v_scr (pc := 339) cx dL_law_339 hxs b52 ?_
              obtain ⟨hb53, h⟩ := h
              refine v_run_i (pc := 340) cx (kcq1208_L cx (c_X6_know l D cA sz0 H0 M50 ((xs ((x3 + (1 : Int32))).toNatClampNeg)) ((xs ((x3 + (2 : Int32))).toNatClampNeg))  _ sh h) ⟨Nat.le_of_ble_eq_true rfl, Nat.le_of_ble_eq_true rfl⟩ (sh.k k_5444) (As := [.int (xs ((x3 + (1 : Int32))).toNatClampNeg), .int (xs ((x3 + (2 : Int32))).toNatClampNeg)]) rfl rfl (Nat.le_of_ble_eq_true rfl) dL_law_340 ⟨hb53.1, hb53.2⟩) (fun a54 M55 hq => ?_)
              obtain ⟨h, sh⟩ := hq
              refine v_icmp_eq (pc := 343) cx dL_law_343 (tgt := 1064) rfl (fun c56 => ?_) (fun c56 => ?_)
              · replace h := h.1 c56
                refine nm_x (x3 + (6 : Int32)) (fun z57 ez57 => ?_)
                replace h := h z57 ez57
                refine v_iinc (pc := 1064) cx dL_law_1064 (q := 3) rfl ((ii_6 _).trans ez57.symm) (Nat.le_of_ble_eq_true rfl) (lv' := [(3, .int z57), (0, .ref b0), (1, .ref (sz0 + 0)), (2, .ref (sz0 + 5444))]) rfl ?_
                refine v_goto (pc := 1067) cx dL_law_1067 (tgt := 18) rfl ?_
                refine v_sub (lv' := [(0, .ref b0), (1, .ref (sz0 + 0)), (2, .ref (sz0 + 5444)), (3, .int z57)]) [1, 2, 3, 0] rfl ?_
                exact ih z57 M55 sh (((kc + 0) + 0)) (((ks + 0) + 0)) h
              · replace h := h.2 c56
                refine v_iconst (pc := 346) cx dL_law_346 ic_0 ?_
                obtain ⟨q58, h⟩ := h
                exact v_lawret cx hxs.2.2.1 dL_law_347 q58 h
            · replace h := h.2 c45
              by_cases c59 : z4 = (4 : Int32)
              · replace h := h.1 c59
                refine v_tswI cx (4 : Int32) (tgt := 348) dL_law_33 c59 (by decide) (by decide) rfl rfl ?_
                refine v_aload_n (pc := 348) cx dL_law_348 rfl 1 rfl ?_
                refine v_aload_n (pc := 349) cx dL_law_349 rfl 0 rfl ?_
                refine v_iload_n (pc := 350) cx dL_law_350 rfl 3 rfl ?_
                refine v_iconst (pc := 351) cx dL_law_351 ic_1 ?_
                refine v_iadd (pc := 352) cx dL_law_352 ?_
                obtain ⟨b60, h⟩ := h
                refine v_scr (pc := 353) cx dL_law_353 hxs b60 ?_
                obtain ⟨hb61, h⟩ := h
                refine v_run_i (pc := 354) cx (kcq429_L cx (c_X0_speak l D cA sz0 H0 M ((xs ((x3 + (1 : Int32))).toNatClampNeg))  _ sh h) ⟨Nat.le_of_ble_eq_true rfl, Nat.le_of_ble_eq_true rfl⟩ (sh.k k_0) (As := [.int (xs ((x3 + (1 : Int32))).toNatClampNeg)]) rfl rfl (Nat.le_of_ble_eq_true rfl) dL_law_354 ⟨hb61.1, hb61.2⟩) (fun a62 M63 hq => ?_)
                obtain ⟨h, sh⟩ := hq
                refine v_aload_n (pc := 357) cx dL_law_357 rfl 2 rfl ?_
                refine v_aload_n (pc := 358) cx dL_law_358 rfl 0 rfl ?_
                refine v_iload_n (pc := 359) cx dL_law_359 rfl 3 rfl ?_
                refine v_iconst (pc := 360) cx dL_law_360 ic_1 ?_
                refine v_iadd (pc := 361) cx dL_law_361 ?_
                obtain ⟨b64, h⟩ := h
                refine v_scr (pc := 362) cx dL_law_362 hxs b64 ?_
                obtain ⟨hb65, h⟩ := h
                refine v_run_i (pc := 363) cx (kcq1212_L cx (c_X6_speak l D cA sz0 H0 M63 ((xs ((x3 + (1 : Int32))).toNatClampNeg))  _ sh h) ⟨Nat.le_of_ble_eq_true rfl, Nat.le_of_ble_eq_true rfl⟩ (sh.k k_5444) (As := [.int (xs ((x3 + (1 : Int32))).toNatClampNeg)]) rfl rfl (Nat.le_of_ble_eq_true rfl) dL_law_363 ⟨hb65.1, hb65.2⟩) (fun a66 M67 hq => ?_)
                obtain ⟨h, sh⟩ := hq
                refine v_icmp_eq (pc := 366) cx dL_law_366 (tgt := 1064) rfl (fun c68 => ?_) (fun c68 => ?_)
                · replace h := h.1 c68
                  refine nm_x (x3 + (6 : Int32)) (fun z69 ez69 => ?_)
                  replace h := h z69 ez69
                  refine v_iinc (pc := 1064) cx dL_law_1064 (q := 3) rfl ((ii_6 _).trans ez69.symm) (Nat.le_of_ble_eq_true rfl) (lv' := [(3, .int z69), (0, .ref b0), (1, .ref (sz0 + 0)), (2, .ref (sz0 + 5444))]) rfl ?_
                  refine v_goto (pc := 1067) cx dL_law_1067 (tgt := 18) rfl ?_
                  refine v_sub (lv' := [(0, .ref b0), (1, .ref (sz0 + 0)), (2, .ref (sz0 + 5444)), (3, .int z69)]) [1, 2, 3, 0] rfl ?_
                  exact ih z69 M67 sh (((kc + 0) + 0)) (((ks + 0) + 0)) h
                · replace h := h.2 c68
                  refine v_iconst (pc := 369) cx dL_law_369 ic_0 ?_
                  obtain ⟨q70, h⟩ := h
                  exact v_lawret cx hxs.2.2.1 dL_law_370 q70 h
              · replace h := h.2 c59
                by_cases c71 : z4 = (5 : Int32)
                · replace h := h.1 c71
                  refine v_tswI cx (5 : Int32) (tgt := 371) dL_law_33 c71 (by decide) (by decide) rfl rfl ?_
                  refine v_aload_n (pc := 371) cx dL_law_371 rfl 1 rfl ?_
                  refine v_aload_n (pc := 372) cx dL_law_372 rfl 0 rfl ?_
                  refine v_iload_n (pc := 373) cx dL_law_373 rfl 3 rfl ?_
                  refine v_iconst (pc := 374) cx dL_law_374 ic_1 ?_
                  refine v_iadd (pc := 375) cx dL_law_375 ?_
                  obtain ⟨b72, h⟩ := h
                  refine v_scr (pc := 376) cx dL_law_376 hxs b72 ?_
                  obtain ⟨mc73, ms74, hmc, hms, h⟩ := h
                  refine v_run_i (pc := 377) cx (kcq433_L cx (c_X0_law l D cA sz0 H0 M ((xs ((x3 + (1 : Int32))).toNatClampNeg))  mc73 ms74 _ sh h) ⟨Nat.le_of_ble_eq_true rfl, Nat.le_of_ble_eq_true rfl⟩ (sh.k k_0) (As := [.int (xs ((x3 + (1 : Int32))).toNatClampNeg)]) rfl rfl (Nat.le_of_ble_eq_true rfl) dL_law_377 ⟨hmc, hms⟩) (fun a75 M76 hq => ?_)
                  obtain ⟨h, sh⟩ := hq
                  refine v_aload_n (pc := 380) cx dL_law_380 rfl 2 rfl ?_
                  refine v_aload_n (pc := 381) cx dL_law_381 rfl 0 rfl ?_
                  refine v_iload_n (pc := 382) cx dL_law_382 rfl 3 rfl ?_
                  refine v_iconst (pc := 383) cx dL_law_383 ic_1 ?_
                  refine v_iadd (pc := 384) cx dL_law_384 ?_
                  obtain ⟨b77, h⟩ := h
                  refine v_scr (pc := 385) cx dL_law_385 hxs b77 ?_
                  obtain ⟨hb78, h⟩ := h
                  refine v_run_i (pc := 386) cx (kcq1228_L cx (c_X6_law l D cA sz0 H0 M76 ((xs ((x3 + (1 : Int32))).toNatClampNeg))  _ sh h) ⟨Nat.le_of_ble_eq_true rfl, Nat.le_of_ble_eq_true rfl⟩ (sh.k k_5444) (As := [.int (xs ((x3 + (1 : Int32))).toNatClampNeg)]) rfl rfl (Nat.le_of_ble_eq_true rfl) dL_law_386 ⟨hb78.1, hb78.2⟩) (fun a79 M80 hq => ?_)
                  obtain ⟨h, sh⟩ := hq
                  refine v_icmp_eq (pc := 389) cx dL_law_389 (tgt := 1064) rfl (fun c81 => ?_) (fun c81 => ?_)
                  · replace h := h.1 c81
                    refine nm_x (x3 + (6 : Int32)) (fun z82 ez82 => ?_)
                    replace h := h z82 ez82
                    refine v_iinc (pc := 1064) cx dL_law_1064 (q := 3) rfl ((ii_6 _).trans ez82.symm) (Nat.le_of_ble_eq_true rfl) (lv' := [(3, .int z82), (0, .ref b0), (1, .ref (sz0 + 0)), (2, .ref (sz0 + 5444))]) rfl ?_
                    refine v_goto (pc := 1067) cx dL_law_1067 (tgt := 18) rfl ?_
                    refine v_sub (lv' := [(0, .ref b0), (1, .ref (sz0 + 0)), (2, .ref (sz0 + 5444)), (3, .int z82)]) [1, 2, 3, 0] rfl ?_
                    exact ih z82 M80 sh (((kc + mc73) + 0)) (((ks + ms74) + 0)) h
                  · replace h := h.2 c81
                    refine v_iconst (pc := 392) cx dL_law_392 ic_0 ?_
                    obtain ⟨q83, h⟩ := h
                    exact v_lawret cx hxs.2.2.1 dL_law_393 q83 h
                · replace h := h.2 c71
                  by_cases c84 : z4 = (6 : Int32)
                  · replace h := h.1 c84
                    refine v_tswI cx (6 : Int32) (tgt := 394) dL_law_33 c84 (by decide) (by decide) rfl rfl ?_
                    refine v_aload_n (pc := 394) cx dL_law_394 rfl 1 rfl ?_
                    refine v_aload_n (pc := 395) cx dL_law_395 rfl 0 rfl ?_
                    refine v_iload_n (pc := 396) cx dL_law_396 rfl 3 rfl ?_
                    refine v_iconst (pc := 397) cx dL_law_397 ic_1 ?_
                    refine v_iadd (pc := 398) cx dL_law_398 ?_
                    obtain ⟨b85, h⟩ := h
                    refine v_scr (pc := 399) cx dL_law_399 hxs b85 ?_
                    refine v_aload_n (pc := 400) cx dL_law_400 rfl 0 rfl ?_
                    refine v_iload_n (pc := 401) cx dL_law_401 rfl 3 rfl ?_
                    refine v_iconst (pc := 402) cx dL_law_402 ic_2 ?_
                    refine v_iadd (pc := 403) cx dL_law_403 ?_
                    obtain ⟨b86, h⟩ := h
                    refine v_scr (pc := 404) cx dL_law_404 hxs b86 ?_
                    refine v_aload_n (pc := 405) cx dL_law_405 rfl 0 rfl ?_
                    refine v_iload_n (pc := 406) cx dL_law_406 rfl 3 rfl ?_
                    refine v_iconst (pc := 407) cx dL_law_407 ic_3 ?_
                    refine v_iadd (pc := 408) cx dL_law_408 ?_
                    obtain ⟨b87, h⟩ := h
                    refine v_scr (pc := 409) cx dL_law_409 hxs b87 ?_
                    obtain ⟨hb88, h⟩ := h
                    refine v_run_i (pc := 410) cx (kcq701_L cx (c_X0_step l D cA sz0 H0 M ((xs ((x3 + (1 : Int32))).toNatClampNeg)) ((xs ((x3 + (2 : Int32))).toNatClampNeg)) ((xs ((x3 + (3 : Int32))).toNatClampNeg))  _ sh h) ⟨Nat.le_of_ble_eq_true rfl, Nat.le_of_ble_eq_true rfl⟩ (sh.k k_0) (As := [.int (xs ((x3 + (1 : Int32))).toNatClampNeg), .int (xs ((x3 + (2 : Int32))).toNatClampNeg), .int (xs ((x3 + (3 : Int32))).toNatClampNeg)]) rfl rfl (Nat.le_of_ble_eq_true rfl) dL_law_410 ⟨hb88.1, hb88.2⟩) (fun a89 M90 hq => ?_)
                    obtain ⟨h, sh⟩ := hq
                    refine v_aload_n (pc := 413) cx dL_law_413 rfl 2 rfl ?_
                    refine v_aload_n (pc := 414) cx dL_law_414 rfl 0 rfl ?_
                    refine v_iload_n (pc := 415) cx dL_law_415 rfl 3 rfl ?_
                    refine v_iconst (pc := 416) cx dL_law_416 ic_1 ?_
                    refine v_iadd (pc := 417) cx dL_law_417 ?_
                    obtain ⟨b91, h⟩ := h
                    refine v_scr (pc := 418) cx dL_law_418 hxs b91 ?_
                    refine v_aload_n (pc := 419) cx dL_law_419 rfl 0 rfl ?_
                    refine v_iload_n (pc := 420) cx dL_law_420 rfl 3 rfl ?_
                    refine v_iconst (pc := 421) cx dL_law_421 ic_2 ?_
                    refine v_iadd (pc := 422) cx dL_law_422 ?_
                    obtain ⟨b92, h⟩ := h
                    refine v_scr (pc := 423) cx dL_law_423 hxs b92 ?_
                    refine v_aload_n (pc := 424) cx dL_law_424 rfl 0 rfl ?_
                    refine v_iload_n (pc := 425) cx dL_law_425 rfl 3 rfl ?_
                    refine v_iconst (pc := 426) cx dL_law_426 ic_3 ?_
                    refine v_iadd (pc := 427) cx dL_law_427 ?_
                    obtain ⟨b93, h⟩ := h
                    refine v_scr (pc := 428) cx dL_law_428 hxs b93 ?_
                    obtain ⟨hb94, h⟩ := h
                    refine v_run_i (pc := 429) cx (kcq1311_L cx (c_X6_step l D cA sz0 H0 M90 ((xs ((x3 + (1 : Int32))).toNatClampNeg)) ((xs ((x3 + (2 : Int32))).toNatClampNeg)) ((xs ((x3 + (3 : Int32))).toNatClampNeg))  _ sh h) ⟨Nat.le_of_ble_eq_true rfl, Nat.le_of_ble_eq_true rfl⟩ (sh.k k_5444) (As := [.int (xs ((x3 + (1 : Int32))).toNatClampNeg), .int (xs ((x3 + (2 : Int32))).toNatClampNeg), .int (xs ((x3 + (3 : Int32))).toNatClampNeg)]) rfl rfl (Nat.le_of_ble_eq_true rfl) dL_law_429 ⟨hb94.1, hb94.2⟩) (fun a95 M96 hq => ?_)
                    obtain ⟨h, sh⟩ := hq
                    refine v_icmp_eq (pc := 432) cx dL_law_432 (tgt := 1064) rfl (fun c97 => ?_) (fun c97 => ?_)
                    · replace h := h.1 c97
                      refine nm_x (x3 + (6 : Int32)) (fun z98 ez98 => ?_)
                      replace h := h z98 ez98
                      refine v_iinc (pc := 1064) cx dL_law_1064 (q := 3) rfl ((ii_6 _).trans ez98.symm) (Nat.le_of_ble_eq_true rfl) (lv' := [(3, .int z98), (0, .ref b0), (1, .ref (sz0 + 0)), (2, .ref (sz0 + 5444))]) rfl ?_
                      refine v_goto (pc := 1067) cx dL_law_1067 (tgt := 18) rfl ?_
                      refine v_sub (lv' := [(0, .ref b0), (1, .ref (sz0 + 0)), (2, .ref (sz0 + 5444)), (3, .int z98)]) [1, 2, 3, 0] rfl ?_
                      exact ih z98 M96 sh (((kc + 0) + 0)) (((ks + 0) + 0)) h
                    · replace h := h.2 c97
                      refine v_iconst (pc := 435) cx dL_law_435 ic_0 ?_
                      obtain ⟨q99, h⟩ := h
                      exact v_lawret cx hxs.2.2.1 dL_law_436 q99 h
                  · replace h := h.2 c84
                    by_cases c100 : z4 = (7 : Int32)
                    · replace h := h.1 c100
                      refine v_tswI cx (7 : Int32) (tgt := 437) dL_law_33 c100 (by decide) (by decide) rfl rfl ?_
                      refine v_aload_n (pc := 437) cx dL_law_437 rfl 1 rfl ?_
                      refine v_aload_n (pc := 438) cx dL_law_438 rfl 0 rfl ?_
                      refine v_iload_n (pc := 439) cx dL_law_439 rfl 3 rfl ?_
                      refine v_iconst (pc := 440) cx dL_law_440 ic_1 ?_
                      refine v_iadd (pc := 441) cx dL_law_441 ?_
                      obtain ⟨b101, h⟩ := h
                      refine v_scr (pc := 442) cx dL_law_442 hxs b101 ?_
                      refine v_aload_n (pc := 443) cx dL_law_443 rfl 0 rfl ?_
                      refine v_iload_n (pc := 444) cx dL_law_444 rfl 3 rfl ?_
                      refine v_iconst (pc := 445) cx dL_law_445 ic_2 ?_
                      refine v_iadd (pc := 446) cx dL_law_446 ?_
                      obtain ⟨b102, h⟩ := h
                      refine v_scr (pc := 447) cx dL_law_447 hxs b102 ?_
                      refine v_aload_n (pc := 448) cx dL_law_448 rfl 0 rfl ?_
                      refine v_iload_n (pc := 449) cx dL_law_449 rfl 3 rfl ?_
                      refine v_iconst (pc := 450) cx dL_law_450 ic_3 ?_
                      refine v_iadd (pc := 451) cx dL_law_451 ?_
                      obtain ⟨b103, h⟩ := h
                      refine v_scr (pc := 452) cx dL_law_452 hxs b103 ?_
                      obtain ⟨hb104, h⟩ := h
                      refine v_run_i (pc := 453) cx (kcq812_L cx (c_X0_least l D cA sz0 H0 M ((xs ((x3 + (1 : Int32))).toNatClampNeg)) ((xs ((x3 + (2 : Int32))).toNatClampNeg)) ((xs ((x3 + (3 : Int32))).toNatClampNeg))  _ sh h) ⟨Nat.le_of_ble_eq_true rfl, Nat.le_of_ble_eq_true rfl⟩ (sh.k k_0) (As := [.int (xs ((x3 + (1 : Int32))).toNatClampNeg), .int (xs ((x3 + (2 : Int32))).toNatClampNeg), .int (xs ((x3 + (3 : Int32))).toNatClampNeg)]) rfl rfl (Nat.le_of_ble_eq_true rfl) dL_law_453 ⟨hb104.1, hb104.2⟩) (fun a105 M106 hq => ?_)
                      obtain ⟨h, sh⟩ := hq
                      refine v_aload_n (pc := 456) cx dL_law_456 rfl 2 rfl ?_
                      refine v_aload_n (pc := 457) cx dL_law_457 rfl 0 rfl ?_
                      refine v_iload_n (pc := 458) cx dL_law_458 rfl 3 rfl ?_
                      refine v_iconst (pc := 459) cx dL_law_459 ic_1 ?_
                      refine v_iadd (pc := 460) cx dL_law_460 ?_
                      obtain ⟨b107, h⟩ := h
                      refine v_scr (pc := 461) cx dL_law_461 hxs b107 ?_
                      refine v_aload_n (pc := 462) cx dL_law_462 rfl 0 rfl ?_
                      refine v_iload_n (pc := 463) cx dL_law_463 rfl 3 rfl ?_
                      refine v_iconst (pc := 464) cx dL_law_464 ic_2 ?_
                      refine v_iadd (pc := 465) cx dL_law_465 ?_
                      obtain ⟨b108, h⟩ := h
                      refine v_scr (pc := 466) cx dL_law_466 hxs b108 ?_
                      refine v_aload_n (pc := 467) cx dL_law_467 rfl 0 rfl ?_
                      refine v_iload_n (pc := 468) cx dL_law_468 rfl 3 rfl ?_
                      refine v_iconst (pc := 469) cx dL_law_469 ic_3 ?_
                      refine v_iadd (pc := 470) cx dL_law_470 ?_
                      obtain ⟨b109, h⟩ := h
                      refine v_scr (pc := 471) cx dL_law_471 hxs b109 ?_
                      obtain ⟨hb110, h⟩ := h
                      refine v_run_i (pc := 472) cx (kcq1367_L cx (c_X6_least l D cA sz0 H0 M106 ((xs ((x3 + (1 : Int32))).toNatClampNeg)) ((xs ((x3 + (2 : Int32))).toNatClampNeg)) ((xs ((x3 + (3 : Int32))).toNatClampNeg))  _ sh h) ⟨Nat.le_of_ble_eq_true rfl, Nat.le_of_ble_eq_true rfl⟩ (sh.k k_5444) (As := [.int (xs ((x3 + (1 : Int32))).toNatClampNeg), .int (xs ((x3 + (2 : Int32))).toNatClampNeg), .int (xs ((x3 + (3 : Int32))).toNatClampNeg)]) rfl rfl (Nat.le_of_ble_eq_true rfl) dL_law_472 ⟨hb110.1, hb110.2⟩) (fun a111 M112 hq => ?_)
                      obtain ⟨h, sh⟩ := hq
                      refine v_icmp_eq (pc := 475) cx dL_law_475 (tgt := 1064) rfl (fun c113 => ?_) (fun c113 => ?_)
                      · replace h := h.1 c113
                        refine nm_x (x3 + (6 : Int32)) (fun z114 ez114 => ?_)
                        replace h := h z114 ez114
                        refine v_iinc (pc := 1064) cx dL_law_1064 (q := 3) rfl ((ii_6 _).trans ez114.symm) (Nat.le_of_ble_eq_true rfl) (lv' := [(3, .int z114), (0, .ref b0), (1, .ref (sz0 + 0)), (2, .ref (sz0 + 5444))]) rfl ?_
                        refine v_goto (pc := 1067) cx dL_law_1067 (tgt := 18) rfl ?_
                        refine v_sub (lv' := [(0, .ref b0), (1, .ref (sz0 + 0)), (2, .ref (sz0 + 5444)), (3, .int z114)]) [1, 2, 3, 0] rfl ?_
                        exact ih z114 M112 sh (((kc + 0) + 0)) (((ks + 0) + 0)) h
                      · replace h := h.2 c113
                        refine v_iconst (pc := 478) cx dL_law_478 ic_0 ?_
                        obtain ⟨q115, h⟩ := h
                        exact v_lawret cx hxs.2.2.1 dL_law_479 q115 h
                    · replace h := h.2 c100
                      by_cases c116 : z4 = (8 : Int32)
                      · replace h := h.1 c116
                        refine v_tswI cx (8 : Int32) (tgt := 480) dL_law_33 c116 (by decide) (by decide) rfl rfl ?_
                        refine v_aload_n (pc := 480) cx dL_law_480 rfl 1 rfl ?_
                        refine v_aload_n (pc := 481) cx dL_law_481 rfl 0 rfl ?_
                        refine v_iload_n (pc := 482) cx dL_law_482 rfl 3 rfl ?_
                        refine v_iconst (pc := 483) cx dL_law_483 ic_1 ?_
                        refine v_iadd (pc := 484) cx dL_law_484 ?_
                        obtain ⟨b117, h⟩ := h
                        refine v_scr (pc := 485) cx dL_law_485 hxs b117 ?_
                        refine v_aload_n (pc := 486) cx dL_law_486 rfl 0 rfl ?_
                        refine v_iload_n (pc := 487) cx dL_law_487 rfl 3 rfl ?_
                        refine v_iconst (pc := 488) cx dL_law_488 ic_2 ?_
                        refine v_iadd (pc := 489) cx dL_law_489 ?_
                        obtain ⟨b118, h⟩ := h
                        refine v_scr (pc := 490) cx dL_law_490 hxs b118 ?_
                        obtain ⟨hb119, h⟩ := h
                        refine v_run_l (pc := 491) cx (kcq824_L cx (c_X0_howMany l D cA sz0 H0 M ((xs ((x3 + (1 : Int32))).toNatClampNeg)) ((xs ((x3 + (2 : Int32))).toNatClampNeg))  _ sh h) ⟨Nat.le_of_ble_eq_true rfl, Nat.le_of_ble_eq_true rfl⟩ (sh.k k_0) (As := [.int (xs ((x3 + (1 : Int32))).toNatClampNeg), .int (xs ((x3 + (2 : Int32))).toNatClampNeg)]) rfl rfl (Nat.le_of_ble_eq_true rfl) dL_law_491 ⟨hb119.1, hb119.2⟩) (fun a120 M121 hq => ?_)
                        obtain ⟨h, sh⟩ := hq
                        refine v_aload_n (pc := 494) cx dL_law_494 rfl 2 rfl ?_
                        refine v_aload_n (pc := 495) cx dL_law_495 rfl 0 rfl ?_
                        refine v_iload_n (pc := 496) cx dL_law_496 rfl 3 rfl ?_
                        refine v_iconst (pc := 497) cx dL_law_497 ic_1 ?_
                        refine v_iadd (pc := 498) cx dL_law_498 ?_
                        obtain ⟨b122, h⟩ := h
                        refine v_scr (pc := 499) cx dL_law_499 hxs b122 ?_
                        refine v_aload_n (pc := 500) cx dL_law_500 rfl 0 rfl ?_
                        refine v_iload_n (pc := 501) cx dL_law_501 rfl 3 rfl ?_
                        refine v_iconst (pc := 502) cx dL_law_502 ic_2 ?_
                        refine v_iadd (pc := 503) cx dL_law_503 ?_
                        obtain ⟨b123, h⟩ := h
                        refine v_scr (pc := 504) cx dL_law_504 hxs b123 ?_
                        obtain ⟨hb124, h⟩ := h
                        refine v_run_l (pc := 505) cx (kcq1389_L cx (c_X6_howMany l D cA sz0 H0 M121 ((xs ((x3 + (1 : Int32))).toNatClampNeg)) ((xs ((x3 + (2 : Int32))).toNatClampNeg))  _ sh h) ⟨Nat.le_of_ble_eq_true rfl, Nat.le_of_ble_eq_true rfl⟩ (sh.k k_5444) (As := [.int (xs ((x3 + (1 : Int32))).toNatClampNeg), .int (xs ((x3 + (2 : Int32))).toNatClampNeg)]) rfl rfl (Nat.le_of_ble_eq_true rfl) dL_law_505 ⟨hb124.1, hb124.2⟩) (fun a125 M126 hq => ?_)
                        obtain ⟨h, sh⟩ := hq
                        refine v_lcmp (pc := 508) cx dL_law_508 ?_
                        refine v_if_eq (pc := 509) cx dL_law_509 (tgt := 1064) rfl (fun c127 => ?_) (fun c127 => ?_)
                        · replace h := h.1 c127
                          refine nm_x (x3 + (6 : Int32)) (fun z128 ez128 => ?_)
                          replace h := h z128 ez128
                          refine v_iinc (pc := 1064) cx dL_law_1064 (q := 3) rfl ((ii_6 _).trans ez128.symm) (Nat.le_of_ble_eq_true rfl) (lv' := [(3, .int z128), (0, .ref b0), (1, .ref (sz0 + 0)), (2, .ref (sz0 + 5444))]) rfl ?_
                          refine v_goto (pc := 1067) cx dL_law_1067 (tgt := 18) rfl ?_
                          refine v_sub (lv' := [(0, .ref b0), (1, .ref (sz0 + 0)), (2, .ref (sz0 + 5444)), (3, .int z128)]) [1, 2, 3, 0] rfl ?_
                          exact ih z128 M126 sh (((kc + 0) + 0)) (((ks + 0) + 0)) h
                        · replace h := h.2 c127
                          refine v_iconst (pc := 512) cx dL_law_512 ic_0 ?_
                          obtain ⟨q129, h⟩ := h
                          exact v_lawret cx hxs.2.2.1 dL_law_513 q129 h
                      · replace h := h.2 c116
                        by_cases c130 : z4 = (9 : Int32)
                        · replace h := h.1 c130
                          refine v_tswI cx (9 : Int32) (tgt := 514) dL_law_33 c130 (by decide) (by decide) rfl rfl ?_
                          refine v_aload_n (pc := 514) cx dL_law_514 rfl 1 rfl ?_
                          refine v_aload_n (pc := 515) cx dL_law_515 rfl 0 rfl ?_
                          refine v_iload_n (pc := 516) cx dL_law_516 rfl 3 rfl ?_
                          refine v_iconst (pc := 517) cx dL_law_517 ic_1 ?_
                          refine v_iadd (pc := 518) cx dL_law_518 ?_
                          obtain ⟨b131, h⟩ := h
                          refine v_scr (pc := 519) cx dL_law_519 hxs b131 ?_
                          refine v_aload_n (pc := 520) cx dL_law_520 rfl 0 rfl ?_
                          refine v_iload_n (pc := 521) cx dL_law_521 rfl 3 rfl ?_
                          refine v_iconst (pc := 522) cx dL_law_522 ic_2 ?_
                          refine v_iadd (pc := 523) cx dL_law_523 ?_
                          obtain ⟨b132, h⟩ := h
                          refine v_scr (pc := 524) cx dL_law_524 hxs b132 ?_
                          obtain ⟨hb133, h⟩ := h
                          refine v_run_l (pc := 525) cx (kcq833_L cx (c_X0_without l D cA sz0 H0 M ((xs ((x3 + (1 : Int32))).toNatClampNeg)) ((xs ((x3 + (2 : Int32))).toNatClampNeg))  _ sh h) ⟨Nat.le_of_ble_eq_true rfl, Nat.le_of_ble_eq_true rfl⟩ (sh.k k_0) (As := [.int (xs ((x3 + (1 : Int32))).toNatClampNeg), .int (xs ((x3 + (2 : Int32))).toNatClampNeg)]) rfl rfl (Nat.le_of_ble_eq_true rfl) dL_law_525 ⟨hb133.1, hb133.2⟩) (fun a134 M135 hq => ?_)
                          obtain ⟨h, sh⟩ := hq
                          refine v_aload_n (pc := 528) cx dL_law_528 rfl 2 rfl ?_
                          refine v_aload_n (pc := 529) cx dL_law_529 rfl 0 rfl ?_
                          refine v_iload_n (pc := 530) cx dL_law_530 rfl 3 rfl ?_
                          refine v_iconst (pc := 531) cx dL_law_531 ic_1 ?_
                          refine v_iadd (pc := 532) cx dL_law_532 ?_
                          obtain ⟨b136, h⟩ := h
                          refine v_scr (pc := 533) cx dL_law_533 hxs b136 ?_
                          refine v_aload_n (pc := 534) cx dL_law_534 rfl 0 rfl ?_
                          refine v_iload_n (pc := 535) cx dL_law_535 rfl 3 rfl ?_
                          refine v_iconst (pc := 536) cx dL_law_536 ic_2 ?_
                          refine v_iadd (pc := 537) cx dL_law_537 ?_
                          obtain ⟨b137, h⟩ := h
                          refine v_scr (pc := 538) cx dL_law_538 hxs b137 ?_
                          obtain ⟨hb138, h⟩ := h
                          refine v_run_l (pc := 539) cx (kcq1402_L cx (c_X6_without l D cA sz0 H0 M135 ((xs ((x3 + (1 : Int32))).toNatClampNeg)) ((xs ((x3 + (2 : Int32))).toNatClampNeg))  _ sh h) ⟨Nat.le_of_ble_eq_true rfl, Nat.le_of_ble_eq_true rfl⟩ (sh.k k_5444) (As := [.int (xs ((x3 + (1 : Int32))).toNatClampNeg), .int (xs ((x3 + (2 : Int32))).toNatClampNeg)]) rfl rfl (Nat.le_of_ble_eq_true rfl) dL_law_539 ⟨hb138.1, hb138.2⟩) (fun a139 M140 hq => ?_)
                          obtain ⟨h, sh⟩ := hq
                          refine v_lcmp (pc := 542) cx dL_law_542 ?_
                          refine v_if_eq (pc := 543) cx dL_law_543 (tgt := 1064) rfl (fun c141 => ?_) (fun c141 => ?_)
                          · replace h := h.1 c141
                            refine nm_x (x3 + (6 : Int32)) (fun z142 ez142 => ?_)
                            replace h := h z142 ez142
                            refine v_iinc (pc := 1064) cx dL_law_1064 (q := 3) rfl ((ii_6 _).trans ez142.symm) (Nat.le_of_ble_eq_true rfl) (lv' := [(3, .int z142), (0, .ref b0), (1, .ref (sz0 + 0)), (2, .ref (sz0 + 5444))]) rfl ?_
                            refine v_goto (pc := 1067) cx dL_law_1067 (tgt := 18) rfl ?_
                            refine v_sub (lv' := [(0, .ref b0), (1, .ref (sz0 + 0)), (2, .ref (sz0 + 5444)), (3, .int z142)]) [1, 2, 3, 0] rfl ?_
                            exact ih z142 M140 sh (((kc + 0) + 0)) (((ks + 0) + 0)) h
                          · replace h := h.2 c141
                            refine v_iconst (pc := 546) cx dL_law_546 ic_0 ?_
                            obtain ⟨q143, h⟩ := h
                            exact v_lawret cx hxs.2.2.1 dL_law_547 q143 h
                        · replace h := h.2 c130
                          by_cases c144 : z4 = (10 : Int32)
                          · replace h := h.1 c144
                            refine v_tswI cx (10 : Int32) (tgt := 548) dL_law_33 c144 (by decide) (by decide) rfl rfl ?_
                            refine v_aload_n (pc := 548) cx dL_law_548 rfl 1 rfl ?_
                            refine v_aload_n (pc := 549) cx dL_law_549 rfl 0 rfl ?_
                            refine v_iload_n (pc := 550) cx dL_law_550 rfl 3 rfl ?_
                            refine v_iconst (pc := 551) cx dL_law_551 ic_1 ?_
                            refine v_iadd (pc := 552) cx dL_law_552 ?_
                            obtain ⟨b145, h⟩ := h
                            refine v_scr (pc := 553) cx dL_law_553 hxs b145 ?_
                            obtain ⟨hb146, h⟩ := h
                            refine v_run_i (pc := 554) cx (kcq842_L cx (c_X0_heap l D cA sz0 H0 M ((xs ((x3 + (1 : Int32))).toNatClampNeg))  _ sh h) ⟨Nat.le_of_ble_eq_true rfl, Nat.le_of_ble_eq_true rfl⟩ (sh.k k_0) (As := [.int (xs ((x3 + (1 : Int32))).toNatClampNeg)]) rfl rfl (Nat.le_of_ble_eq_true rfl) dL_law_554 ⟨hb146.1, hb146.2⟩) (fun a147 M148 hq => ?_)
                            obtain ⟨h, sh⟩ := hq
                            refine v_aload_n (pc := 557) cx dL_law_557 rfl 2 rfl ?_
                            refine v_aload_n (pc := 558) cx dL_law_558 rfl 0 rfl ?_
                            refine v_iload_n (pc := 559) cx dL_law_559 rfl 3 rfl ?_
                            refine v_iconst (pc := 560) cx dL_law_560 ic_1 ?_
                            refine v_iadd (pc := 561) cx dL_law_561 ?_
                            obtain ⟨b149, h⟩ := h
                            refine v_scr (pc := 562) cx dL_law_562 hxs b149 ?_
                            obtain ⟨hb150, h⟩ := h
                            refine v_run_i (pc := 563) cx (kcq1411_L cx (c_X6_heap l D cA sz0 H0 M148 ((xs ((x3 + (1 : Int32))).toNatClampNeg))  _ sh h) ⟨Nat.le_of_ble_eq_true rfl, Nat.le_of_ble_eq_true rfl⟩ (sh.k k_5444) (As := [.int (xs ((x3 + (1 : Int32))).toNatClampNeg)]) rfl rfl (Nat.le_of_ble_eq_true rfl) dL_law_563 ⟨hb150.1, hb150.2⟩) (fun a151 M152 hq => ?_)
                            obtain ⟨h, sh⟩ := hq
                            refine v_icmp_eq (pc := 566) cx dL_law_566 (tgt := 1064) rfl (fun c153 => ?_) (fun c153 => ?_)
                            · replace h := h.1 c153
                              refine nm_x (x3 + (6 : Int32)) (fun z154 ez154 => ?_)
                              replace h := h z154 ez154
                              refine v_iinc (pc := 1064) cx dL_law_1064 (q := 3) rfl ((ii_6 _).trans ez154.symm) (Nat.le_of_ble_eq_true rfl) (lv' := [(3, .int z154), (0, .ref b0), (1, .ref (sz0 + 0)), (2, .ref (sz0 + 5444))]) rfl ?_
                              refine v_goto (pc := 1067) cx dL_law_1067 (tgt := 18) rfl ?_
                              refine v_sub (lv' := [(0, .ref b0), (1, .ref (sz0 + 0)), (2, .ref (sz0 + 5444)), (3, .int z154)]) [1, 2, 3, 0] rfl ?_
                              exact ih z154 M152 sh (((kc + 0) + 0)) (((ks + 0) + 0)) h
                            · replace h := h.2 c153
                              refine v_iconst (pc := 569) cx dL_law_569 ic_0 ?_
                              obtain ⟨q155, h⟩ := h
                              exact v_lawret cx hxs.2.2.1 dL_law_570 q155 h
                          · replace h := h.2 c144
                            by_cases c156 : z4 = (11 : Int32)
                            · replace h := h.1 c156
                              refine v_tswI cx (11 : Int32) (tgt := 571) dL_law_33 c156 (by decide) (by decide) rfl rfl ?_
                              refine v_aload_n (pc := 571) cx dL_law_571 rfl 1 rfl ?_
                              obtain ⟨hb157, h⟩ := h
                              refine v_run_i (pc := 572) cx (kcq850_L cx (c_X0_heaps l D cA sz0 H0 M   _ sh h) ⟨Nat.le_of_ble_eq_true rfl, Nat.le_of_ble_eq_true rfl⟩ (sh.k k_0) (As := []) rfl rfl (Nat.le_of_ble_eq_true rfl) dL_law_572 ⟨hb157.1, hb157.2⟩) (fun a158 M159 hq => ?_)
                              obtain ⟨h, sh⟩ := hq
                              refine v_aload_n (pc := 575) cx dL_law_575 rfl 2 rfl ?_
                              obtain ⟨hb160, h⟩ := h
                              refine v_run_i (pc := 576) cx (kcq1419_L cx (c_X6_heaps l D cA sz0 H0 M159   _ sh h) ⟨Nat.le_of_ble_eq_true rfl, Nat.le_of_ble_eq_true rfl⟩ (sh.k k_5444) (As := []) rfl rfl (Nat.le_of_ble_eq_true rfl) dL_law_576 ⟨hb160.1, hb160.2⟩) (fun a161 M162 hq => ?_)
                              obtain ⟨h, sh⟩ := hq
                              refine v_icmp_eq (pc := 579) cx dL_law_579 (tgt := 1064) rfl (fun c163 => ?_) (fun c163 => ?_)
                              · replace h := h.1 c163
                                refine nm_x (x3 + (6 : Int32)) (fun z164 ez164 => ?_)
                                replace h := h z164 ez164
                                refine v_iinc (pc := 1064) cx dL_law_1064 (q := 3) rfl ((ii_6 _).trans ez164.symm) (Nat.le_of_ble_eq_true rfl) (lv' := [(3, .int z164), (0, .ref b0), (1, .ref (sz0 + 0)), (2, .ref (sz0 + 5444))]) rfl ?_
                                refine v_goto (pc := 1067) cx dL_law_1067 (tgt := 18) rfl ?_
                                refine v_sub (lv' := [(0, .ref b0), (1, .ref (sz0 + 0)), (2, .ref (sz0 + 5444)), (3, .int z164)]) [1, 2, 3, 0] rfl ?_
                                exact ih z164 M162 sh (((kc + 0) + 0)) (((ks + 0) + 0)) h
                              · replace h := h.2 c163
                                refine v_iconst (pc := 582) cx dL_law_582 ic_0 ?_
                                obtain ⟨q165, h⟩ := h
                                exact v_lawret cx hxs.2.2.1 dL_law_583 q165 h
                            · replace h := h.2 c156
                              by_cases c166 : z4 = (12 : Int32)
                              · replace h := h.1 c166
                                refine v_tswI cx (12 : Int32) (tgt := 584) dL_law_33 c166 (by decide) (by decide) rfl rfl ?_
                                refine v_aload_n (pc := 584) cx dL_law_584 rfl 1 rfl ?_
                                refine v_aload_n (pc := 585) cx dL_law_585 rfl 0 rfl ?_
                                refine v_iload_n (pc := 586) cx dL_law_586 rfl 3 rfl ?_
                                refine v_iconst (pc := 587) cx dL_law_587 ic_1 ?_
                                refine v_iadd (pc := 588) cx dL_law_588 ?_
                                obtain ⟨b167, h⟩ := h
                                refine v_scr (pc := 589) cx dL_law_589 hxs b167 ?_
                                obtain ⟨hb168, h⟩ := h
                                refine v_run_i (pc := 590) cx (kcq854_L cx (c_X0_far l D cA sz0 H0 M ((xs ((x3 + (1 : Int32))).toNatClampNeg))  _ sh h) ⟨Nat.le_of_ble_eq_true rfl, Nat.le_of_ble_eq_true rfl⟩ (sh.k k_0) (As := [.int (xs ((x3 + (1 : Int32))).toNatClampNeg)]) rfl rfl (Nat.le_of_ble_eq_true rfl) dL_law_590 ⟨hb168.1, hb168.2⟩) (fun a169 M170 hq => ?_)
                                obtain ⟨h, sh⟩ := hq
                                refine v_aload_n (pc := 593) cx dL_law_593 rfl 2 rfl ?_
                                refine v_aload_n (pc := 594) cx dL_law_594 rfl 0 rfl ?_
                                refine v_iload_n (pc := 595) cx dL_law_595 rfl 3 rfl ?_
                                refine v_iconst (pc := 596) cx dL_law_596 ic_1 ?_
                                refine v_iadd (pc := 597) cx dL_law_597 ?_
                                obtain ⟨b171, h⟩ := h
                                refine v_scr (pc := 598) cx dL_law_598 hxs b171 ?_
                                obtain ⟨hb172, h⟩ := h
                                refine v_run_i (pc := 599) cx (kcq1423_L cx (c_X6_far l D cA sz0 H0 M170 ((xs ((x3 + (1 : Int32))).toNatClampNeg))  _ sh h) ⟨Nat.le_of_ble_eq_true rfl, Nat.le_of_ble_eq_true rfl⟩ (sh.k k_5444) (As := [.int (xs ((x3 + (1 : Int32))).toNatClampNeg)]) rfl rfl (Nat.le_of_ble_eq_true rfl) dL_law_599 ⟨hb172.1, hb172.2⟩) (fun a173 M174 hq => ?_)
                                obtain ⟨h, sh⟩ := hq
                                refine v_icmp_eq (pc := 602) cx dL_law_602 (tgt := 1064) rfl (fun c175 => ?_) (fun c175 => ?_)
                                · replace h := h.1 c175
                                  refine nm_x (x3 + (6 : Int32)) (fun z176 ez176 => ?_)
                                  replace h := h z176 ez176
                                  refine v_iinc (pc := 1064) cx dL_law_1064 (q := 3) rfl ((ii_6 _).trans ez176.symm) (Nat.le_of_ble_eq_true rfl) (lv' := [(3, .int z176), (0, .ref b0), (1, .ref (sz0 + 0)), (2, .ref (sz0 + 5444))]) rfl ?_
                                  refine v_goto (pc := 1067) cx dL_law_1067 (tgt := 18) rfl ?_
                                  refine v_sub (lv' := [(0, .ref b0), (1, .ref (sz0 + 0)), (2, .ref (sz0 + 5444)), (3, .int z176)]) [1, 2, 3, 0] rfl ?_
                                  exact ih z176 M174 sh (((kc + 0) + 0)) (((ks + 0) + 0)) h
                                · replace h := h.2 c175
                                  refine v_iconst (pc := 605) cx dL_law_605 ic_0 ?_
                                  obtain ⟨q177, h⟩ := h
                                  exact v_lawret cx hxs.2.2.1 dL_law_606 q177 h
                              · replace h := h.2 c166
                                by_cases c178 : z4 = (13 : Int32)
                                · replace h := h.1 c178
                                  refine v_tswI cx (13 : Int32) (tgt := 607) dL_law_33 c178 (by decide) (by decide) rfl rfl ?_
                                  refine v_aload_n (pc := 607) cx dL_law_607 rfl 1 rfl ?_
                                  refine v_aload_n (pc := 608) cx dL_law_608 rfl 0 rfl ?_
                                  refine v_iload_n (pc := 609) cx dL_law_609 rfl 3 rfl ?_
                                  refine v_iconst (pc := 610) cx dL_law_610 ic_1 ?_
                                  refine v_iadd (pc := 611) cx dL_law_611 ?_
                                  obtain ⟨b179, h⟩ := h
                                  refine v_scr (pc := 612) cx dL_law_612 hxs b179 ?_
                                  obtain ⟨hb180, h⟩ := h
                                  refine v_run_i (pc := 613) cx (kcq858_L cx (c_X0_between l D cA sz0 H0 M ((xs ((x3 + (1 : Int32))).toNatClampNeg))  _ sh h) ⟨Nat.le_of_ble_eq_true rfl, Nat.le_of_ble_eq_true rfl⟩ (sh.k k_0) (As := [.int (xs ((x3 + (1 : Int32))).toNatClampNeg)]) rfl rfl (Nat.le_of_ble_eq_true rfl) dL_law_613 ⟨hb180.1, hb180.2⟩) (fun a181 M182 hq => ?_)
                                  obtain ⟨h, sh⟩ := hq
                                  refine v_aload_n (pc := 616) cx dL_law_616 rfl 2 rfl ?_
                                  refine v_aload_n (pc := 617) cx dL_law_617 rfl 0 rfl ?_
                                  refine v_iload_n (pc := 618) cx dL_law_618 rfl 3 rfl ?_
                                  refine v_iconst (pc := 619) cx dL_law_619 ic_1 ?_
                                  refine v_iadd (pc := 620) cx dL_law_620 ?_
                                  obtain ⟨b183, h⟩ := h
                                  refine v_scr (pc := 621) cx dL_law_621 hxs b183 ?_
                                  obtain ⟨hb184, h⟩ := h
                                  refine v_run_i (pc := 622) cx (kcq1427_L cx (c_X6_between l D cA sz0 H0 M182 ((xs ((x3 + (1 : Int32))).toNatClampNeg))  _ sh h) ⟨Nat.le_of_ble_eq_true rfl, Nat.le_of_ble_eq_true rfl⟩ (sh.k k_5444) (As := [.int (xs ((x3 + (1 : Int32))).toNatClampNeg)]) rfl rfl (Nat.le_of_ble_eq_true rfl) dL_law_622 ⟨hb184.1, hb184.2⟩) (fun a185 M186 hq => ?_)
                                  obtain ⟨h, sh⟩ := hq
                                  refine v_icmp_eq (pc := 625) cx dL_law_625 (tgt := 1064) rfl (fun c187 => ?_) (fun c187 => ?_)
                                  · replace h := h.1 c187
                                    refine nm_x (x3 + (6 : Int32)) (fun z188 ez188 => ?_)
                                    replace h := h z188 ez188
                                    refine v_iinc (pc := 1064) cx dL_law_1064 (q := 3) rfl ((ii_6 _).trans ez188.symm) (Nat.le_of_ble_eq_true rfl) (lv' := [(3, .int z188), (0, .ref b0), (1, .ref (sz0 + 0)), (2, .ref (sz0 + 5444))]) rfl ?_
                                    refine v_goto (pc := 1067) cx dL_law_1067 (tgt := 18) rfl ?_
                                    refine v_sub (lv' := [(0, .ref b0), (1, .ref (sz0 + 0)), (2, .ref (sz0 + 5444)), (3, .int z188)]) [1, 2, 3, 0] rfl ?_
                                    exact ih z188 M186 sh (((kc + 0) + 0)) (((ks + 0) + 0)) h
                                  · replace h := h.2 c187
                                    refine v_iconst (pc := 628) cx dL_law_628 ic_0 ?_
                                    obtain ⟨q189, h⟩ := h
                                    exact v_lawret cx hxs.2.2.1 dL_law_629 q189 h
                                · replace h := h.2 c178
                                  by_cases c190 : z4 = (14 : Int32)
                                  · replace h := h.1 c190
                                    refine v_tswI cx (14 : Int32) (tgt := 630) dL_law_33 c190 (by decide) (by decide) rfl rfl ?_
                                    refine v_aload_n (pc := 630) cx dL_law_630 rfl 1 rfl ?_
                                    refine v_aload_n (pc := 631) cx dL_law_631 rfl 0 rfl ?_
                                    refine v_iload_n (pc := 632) cx dL_law_632 rfl 3 rfl ?_
                                    refine v_iconst (pc := 633) cx dL_law_633 ic_1 ?_
                                    refine v_iadd (pc := 634) cx dL_law_634 ?_
                                    obtain ⟨b191, h⟩ := h
                                    refine v_scr (pc := 635) cx dL_law_635 hxs b191 ?_
                                    obtain ⟨hb192, h⟩ := h
                                    refine v_run_i (pc := 636) cx (kcq866_L cx (c_X0_newWord l D cA sz0 H0 M ((xs ((x3 + (1 : Int32))).toNatClampNeg))  _ sh h) ⟨Nat.le_of_ble_eq_true rfl, Nat.le_of_ble_eq_true rfl⟩ (sh.k k_0) (As := [.int (xs ((x3 + (1 : Int32))).toNatClampNeg)]) rfl rfl (Nat.le_of_ble_eq_true rfl) dL_law_636 ⟨hb192.1, hb192.2⟩) (fun a193 M194 hq => ?_)
                                    obtain ⟨h, sh⟩ := hq
                                    refine v_aload_n (pc := 639) cx dL_law_639 rfl 2 rfl ?_
                                    refine v_aload_n (pc := 640) cx dL_law_640 rfl 0 rfl ?_
                                    refine v_iload_n (pc := 641) cx dL_law_641 rfl 3 rfl ?_
                                    refine v_iconst (pc := 642) cx dL_law_642 ic_1 ?_
                                    refine v_iadd (pc := 643) cx dL_law_643 ?_
                                    obtain ⟨b195, h⟩ := h
                                    refine v_scr (pc := 644) cx dL_law_644 hxs b195 ?_
                                    obtain ⟨hb196, h⟩ := h
                                    refine v_run_i (pc := 645) cx (kcq1435_L cx (c_X6_newWord l D cA sz0 H0 M194 ((xs ((x3 + (1 : Int32))).toNatClampNeg))  _ sh h) ⟨Nat.le_of_ble_eq_true rfl, Nat.le_of_ble_eq_true rfl⟩ (sh.k k_5444) (As := [.int (xs ((x3 + (1 : Int32))).toNatClampNeg)]) rfl rfl (Nat.le_of_ble_eq_true rfl) dL_law_645 ⟨hb196.1, hb196.2⟩) (fun a197 M198 hq => ?_)
                                    obtain ⟨h, sh⟩ := hq
                                    refine v_icmp_eq (pc := 648) cx dL_law_648 (tgt := 1064) rfl (fun c199 => ?_) (fun c199 => ?_)
                                    · replace h := h.1 c199
                                      refine nm_x (x3 + (6 : Int32)) (fun z200 ez200 => ?_)
                                      replace h := h z200 ez200
                                      refine v_iinc (pc := 1064) cx dL_law_1064 (q := 3) rfl ((ii_6 _).trans ez200.symm) (Nat.le_of_ble_eq_true rfl) (lv' := [(3, .int z200), (0, .ref b0), (1, .ref (sz0 + 0)), (2, .ref (sz0 + 5444))]) rfl ?_
                                      refine v_goto (pc := 1067) cx dL_law_1067 (tgt := 18) rfl ?_
                                      refine v_sub (lv' := [(0, .ref b0), (1, .ref (sz0 + 0)), (2, .ref (sz0 + 5444)), (3, .int z200)]) [1, 2, 3, 0] rfl ?_
                                      exact ih z200 M198 sh (((kc + 0) + 0)) (((ks + 0) + 0)) h
                                    · replace h := h.2 c199
                                      refine v_iconst (pc := 651) cx dL_law_651 ic_0 ?_
                                      obtain ⟨q201, h⟩ := h
                                      exact v_lawret cx hxs.2.2.1 dL_law_652 q201 h
                                  · replace h := h.2 c190
                                    by_cases c202 : z4 = (15 : Int32)
                                    · replace h := h.1 c202
                                      refine v_tswI cx (15 : Int32) (tgt := 653) dL_law_33 c202 (by decide) (by decide) rfl rfl ?_
                                      refine v_aload_n (pc := 653) cx dL_law_653 rfl 1 rfl ?_
                                      refine v_aload_n (pc := 654) cx dL_law_654 rfl 0 rfl ?_
                                      refine v_iload_n (pc := 655) cx dL_law_655 rfl 3 rfl ?_
                                      refine v_iconst (pc := 656) cx dL_law_656 ic_1 ?_
                                      refine v_iadd (pc := 657) cx dL_law_657 ?_
                                      obtain ⟨b203, h⟩ := h
                                      refine v_scr (pc := 658) cx dL_law_658 hxs b203 ?_
                                      refine v_aload_n (pc := 659) cx dL_law_659 rfl 0 rfl ?_
                                      refine v_iload_n (pc := 660) cx dL_law_660 rfl 3 rfl ?_
                                      refine v_iconst (pc := 661) cx dL_law_661 ic_2 ?_
                                      refine v_iadd (pc := 662) cx dL_law_662 ?_
                                      obtain ⟨b204, h⟩ := h
                                      refine v_scr (pc := 663) cx dL_law_663 hxs b204 ?_
                                      refine v_aload_n (pc := 664) cx dL_law_664 rfl 0 rfl ?_
                                      refine v_iload_n (pc := 665) cx dL_law_665 rfl 3 rfl ?_
                                      refine v_iconst (pc := 666) cx dL_law_666 ic_3 ?_
                                      refine v_iadd (pc := 667) cx dL_law_667 ?_
                                      obtain ⟨b205, h⟩ := h
                                      refine v_scr (pc := 668) cx dL_law_668 hxs b205 ?_
                                      obtain ⟨hb206, h⟩ := h
                                      refine v_run_l (pc := 669) cx (kcq900_L cx (c_X0_walks l D cA sz0 H0 M ((xs ((x3 + (1 : Int32))).toNatClampNeg)) ((xs ((x3 + (2 : Int32))).toNatClampNeg)) ((xs ((x3 + (3 : Int32))).toNatClampNeg))  _ sh h) ⟨Nat.le_of_ble_eq_true rfl, Nat.le_of_ble_eq_true rfl⟩ (sh.k k_0) (As := [.int (xs ((x3 + (1 : Int32))).toNatClampNeg), .int (xs ((x3 + (2 : Int32))).toNatClampNeg), .int (xs ((x3 + (3 : Int32))).toNatClampNeg)]) rfl rfl (Nat.le_of_ble_eq_true rfl) dL_law_669 ⟨hb206.1, hb206.2⟩) (fun a207 M208 hq => ?_)
                                      obtain ⟨h, sh⟩ := hq
                                      refine v_aload_n (pc := 672) cx dL_law_672 rfl 2 rfl ?_
                                      refine v_aload_n (pc := 673) cx dL_law_673 rfl 0 rfl ?_
                                      refine v_iload_n (pc := 674) cx dL_law_674 rfl 3 rfl ?_
                                      refine v_iconst (pc := 675) cx dL_law_675 ic_1 ?_
                                      refine v_iadd (pc := 676) cx dL_law_676 ?_
                                      obtain ⟨b209, h⟩ := h
                                      refine v_scr (pc := 677) cx dL_law_677 hxs b209 ?_
                                      refine v_aload_n (pc := 678) cx dL_law_678 rfl 0 rfl ?_
                                      refine v_iload_n (pc := 679) cx dL_law_679 rfl 3 rfl ?_
                                      refine v_iconst (pc := 680) cx dL_law_680 ic_2 ?_
                                      refine v_iadd (pc := 681) cx dL_law_681 ?_
                                      obtain ⟨b210, h⟩ := h
                                      refine v_scr (pc := 682) cx dL_law_682 hxs b210 ?_
                                      refine v_aload_n (pc := 683) cx dL_law_683 rfl 0 rfl ?_
                                      refine v_iload_n (pc := 684) cx dL_law_684 rfl 3 rfl ?_
                                      refine v_iconst (pc := 685) cx dL_law_685 ic_3 ?_
                                      refine v_iadd (pc := 686) cx dL_law_686 ?_
                                      obtain ⟨b211, h⟩ := h
                                      refine v_scr (pc := 687) cx dL_law_687 hxs b211 ?_
                                      obtain ⟨hb212, h⟩ := h
                                      refine v_run_l (pc := 688) cx (kcq1475_L cx (c_X6_walks l D cA sz0 H0 M208 ((xs ((x3 + (1 : Int32))).toNatClampNeg)) ((xs ((x3 + (2 : Int32))).toNatClampNeg)) ((xs ((x3 + (3 : Int32))).toNatClampNeg))  _ sh h) ⟨Nat.le_of_ble_eq_true rfl, Nat.le_of_ble_eq_true rfl⟩ (sh.k k_5444) (As := [.int (xs ((x3 + (1 : Int32))).toNatClampNeg), .int (xs ((x3 + (2 : Int32))).toNatClampNeg), .int (xs ((x3 + (3 : Int32))).toNatClampNeg)]) rfl rfl (Nat.le_of_ble_eq_true rfl) dL_law_688 ⟨hb212.1, hb212.2⟩) (fun a213 M214 hq => ?_)
                                      obtain ⟨h, sh⟩ := hq
                                      refine v_lcmp (pc := 691) cx dL_law_691 ?_
                                      refine v_if_eq (pc := 692) cx dL_law_692 (tgt := 1064) rfl (fun c215 => ?_) (fun c215 => ?_)
                                      · replace h := h.1 c215
                                        refine nm_x (x3 + (6 : Int32)) (fun z216 ez216 => ?_)
                                        replace h := h z216 ez216
                                        refine v_iinc (pc := 1064) cx dL_law_1064 (q := 3) rfl ((ii_6 _).trans ez216.symm) (Nat.le_of_ble_eq_true rfl) (lv' := [(3, .int z216), (0, .ref b0), (1, .ref (sz0 + 0)), (2, .ref (sz0 + 5444))]) rfl ?_
                                        refine v_goto (pc := 1067) cx dL_law_1067 (tgt := 18) rfl ?_
                                        refine v_sub (lv' := [(0, .ref b0), (1, .ref (sz0 + 0)), (2, .ref (sz0 + 5444)), (3, .int z216)]) [1, 2, 3, 0] rfl ?_
                                        exact ih z216 M214 sh (((kc + 0) + 0)) (((ks + 0) + 0)) h
                                      · replace h := h.2 c215
                                        refine v_iconst (pc := 695) cx dL_law_695 ic_0 ?_
                                        obtain ⟨q217, h⟩ := h
                                        exact v_lawret cx hxs.2.2.1 dL_law_696 q217 h
                                    · replace h := h.2 c202
                                      by_cases c218 : z4 = (16 : Int32)
                                      · replace h := h.1 c218
                                        refine v_tswI cx (16 : Int32) (tgt := 697) dL_law_33 c218 (by decide) (by decide) rfl rfl ?_
                                        refine v_aload_n (pc := 697) cx dL_law_697 rfl 1 rfl ?_
                                        refine v_aload_n (pc := 698) cx dL_law_698 rfl 0 rfl ?_
                                        refine v_iload_n (pc := 699) cx dL_law_699 rfl 3 rfl ?_
                                        refine v_iconst (pc := 700) cx dL_law_700 ic_1 ?_
                                        refine v_iadd (pc := 701) cx dL_law_701 ?_
                                        obtain ⟨b219, h⟩ := h
                                        refine v_scr (pc := 702) cx dL_law_702 hxs b219 ?_
                                        refine v_aload_n (pc := 703) cx dL_law_703 rfl 0 rfl ?_
                                        refine v_iload_n (pc := 704) cx dL_law_704 rfl 3 rfl ?_
                                        refine v_iconst (pc := 705) cx dL_law_705 ic_2 ?_
                                        refine v_iadd (pc := 706) cx dL_law_706 ?_
                                        obtain ⟨b220, h⟩ := h
                                        refine v_scr (pc := 707) cx dL_law_707 hxs b220 ?_
                                        obtain ⟨hb221, h⟩ := h
                                        refine v_run_i (pc := 708) cx (kcq904_L cx (c_X0_row l D cA sz0 H0 M ((xs ((x3 + (1 : Int32))).toNatClampNeg)) ((xs ((x3 + (2 : Int32))).toNatClampNeg))  _ sh h) ⟨Nat.le_of_ble_eq_true rfl, Nat.le_of_ble_eq_true rfl⟩ (sh.k k_0) (As := [.int (xs ((x3 + (1 : Int32))).toNatClampNeg), .int (xs ((x3 + (2 : Int32))).toNatClampNeg)]) rfl rfl (Nat.le_of_ble_eq_true rfl) dL_law_708 ⟨hb221.1, hb221.2⟩) (fun a222 M223 hq => ?_)
                                        obtain ⟨h, sh⟩ := hq
                                        refine v_aload_n (pc := 711) cx dL_law_711 rfl 2 rfl ?_
                                        refine v_aload_n (pc := 712) cx dL_law_712 rfl 0 rfl ?_
                                        refine v_iload_n (pc := 713) cx dL_law_713 rfl 3 rfl ?_
                                        refine v_iconst (pc := 714) cx dL_law_714 ic_1 ?_
                                        refine v_iadd (pc := 715) cx dL_law_715 ?_
                                        obtain ⟨b224, h⟩ := h
                                        refine v_scr (pc := 716) cx dL_law_716 hxs b224 ?_
                                        refine v_aload_n (pc := 717) cx dL_law_717 rfl 0 rfl ?_
                                        refine v_iload_n (pc := 718) cx dL_law_718 rfl 3 rfl ?_
                                        refine v_iconst (pc := 719) cx dL_law_719 ic_2 ?_
                                        refine v_iadd (pc := 720) cx dL_law_720 ?_
                                        obtain ⟨b225, h⟩ := h
                                        refine v_scr (pc := 721) cx dL_law_721 hxs b225 ?_
                                        obtain ⟨hb226, h⟩ := h
                                        refine v_run_i (pc := 722) cx (kcq1479_L cx (c_X6_row l D cA sz0 H0 M223 ((xs ((x3 + (1 : Int32))).toNatClampNeg)) ((xs ((x3 + (2 : Int32))).toNatClampNeg))  _ sh h) ⟨Nat.le_of_ble_eq_true rfl, Nat.le_of_ble_eq_true rfl⟩ (sh.k k_5444) (As := [.int (xs ((x3 + (1 : Int32))).toNatClampNeg), .int (xs ((x3 + (2 : Int32))).toNatClampNeg)]) rfl rfl (Nat.le_of_ble_eq_true rfl) dL_law_722 ⟨hb226.1, hb226.2⟩) (fun a227 M228 hq => ?_)
                                        obtain ⟨h, sh⟩ := hq
                                        refine v_icmp_eq (pc := 725) cx dL_law_725 (tgt := 1064) rfl (fun c229 => ?_) (fun c229 => ?_)
                                        · replace h := h.1 c229
                                          refine nm_x (x3 + (6 : Int32)) (fun z230 ez230 => ?_)
                                          replace h := h z230 ez230
                                          refine v_iinc (pc := 1064) cx dL_law_1064 (q := 3) rfl ((ii_6 _).trans ez230.symm) (Nat.le_of_ble_eq_true rfl) (lv' := [(3, .int z230), (0, .ref b0), (1, .ref (sz0 + 0)), (2, .ref (sz0 + 5444))]) rfl ?_
                                          refine v_goto (pc := 1067) cx dL_law_1067 (tgt := 18) rfl ?_
                                          refine v_sub (lv' := [(0, .ref b0), (1, .ref (sz0 + 0)), (2, .ref (sz0 + 5444)), (3, .int z230)]) [1, 2, 3, 0] rfl ?_
                                          exact ih z230 M228 sh (((kc + 0) + 0)) (((ks + 0) + 0)) h
                                        · replace h := h.2 c229
                                          refine v_iconst (pc := 728) cx dL_law_728 ic_0 ?_
                                          obtain ⟨q231, h⟩ := h
                                          exact v_lawret cx hxs.2.2.1 dL_law_729 q231 h
                                      · replace h := h.2 c218
                                        by_cases c232 : z4 = (17 : Int32)
                                        · replace h := h.1 c232
                                          refine v_tswI cx (17 : Int32) (tgt := 730) dL_law_33 c232 (by decide) (by decide) rfl rfl ?_
                                          refine v_aload_n (pc := 730) cx dL_law_730 rfl 1 rfl ?_
                                          refine v_aload_n (pc := 731) cx dL_law_731 rfl 0 rfl ?_
                                          refine v_iload_n (pc := 732) cx dL_law_732 rfl 3 rfl ?_
                                          refine v_iconst (pc := 733) cx dL_law_733 ic_1 ?_
                                          refine v_iadd (pc := 734) cx dL_law_734 ?_
                                          obtain ⟨b233, h⟩ := h
                                          refine v_scr (pc := 735) cx dL_law_735 hxs b233 ?_
                                          refine v_aload_n (pc := 736) cx dL_law_736 rfl 0 rfl ?_
                                          refine v_iload_n (pc := 737) cx dL_law_737 rfl 3 rfl ?_
                                          refine v_iconst (pc := 738) cx dL_law_738 ic_2 ?_
                                          refine v_iadd (pc := 739) cx dL_law_739 ?_
                                          obtain ⟨b234, h⟩ := h
                                          refine v_scr (pc := 740) cx dL_law_740 hxs b234 ?_
                                          obtain ⟨hb235, h⟩ := h
                                          refine v_run_i (pc := 741) cx (kcq928_L cx (c_X0_game l D cA sz0 H0 M ((xs ((x3 + (1 : Int32))).toNatClampNeg)) ((xs ((x3 + (2 : Int32))).toNatClampNeg))  _ sh h) ⟨Nat.le_of_ble_eq_true rfl, Nat.le_of_ble_eq_true rfl⟩ (sh.k k_0) (As := [.int (xs ((x3 + (1 : Int32))).toNatClampNeg), .int (xs ((x3 + (2 : Int32))).toNatClampNeg)]) rfl rfl (Nat.le_of_ble_eq_true rfl) dL_law_741 ⟨hb235.1, hb235.2⟩) (fun a236 M237 hq => ?_)
                                          obtain ⟨h, sh⟩ := hq
                                          refine v_aload_n (pc := 744) cx dL_law_744 rfl 2 rfl ?_
                                          refine v_aload_n (pc := 745) cx dL_law_745 rfl 0 rfl ?_
                                          refine v_iload_n (pc := 746) cx dL_law_746 rfl 3 rfl ?_
                                          refine v_iconst (pc := 747) cx dL_law_747 ic_1 ?_
                                          refine v_iadd (pc := 748) cx dL_law_748 ?_
                                          obtain ⟨b238, h⟩ := h
                                          refine v_scr (pc := 749) cx dL_law_749 hxs b238 ?_
                                          refine v_aload_n (pc := 750) cx dL_law_750 rfl 0 rfl ?_
                                          refine v_iload_n (pc := 751) cx dL_law_751 rfl 3 rfl ?_
                                          refine v_iconst (pc := 752) cx dL_law_752 ic_2 ?_
                                          refine v_iadd (pc := 753) cx dL_law_753 ?_
                                          obtain ⟨b239, h⟩ := h
                                          refine v_scr (pc := 754) cx dL_law_754 hxs b239 ?_
                                          obtain ⟨hb240, h⟩ := h
                                          refine v_run_i (pc := 755) cx (kcq1503_L cx (c_X6_game l D cA sz0 H0 M237 ((xs ((x3 + (1 : Int32))).toNatClampNeg)) ((xs ((x3 + (2 : Int32))).toNatClampNeg))  _ sh h) ⟨Nat.le_of_ble_eq_true rfl, Nat.le_of_ble_eq_true rfl⟩ (sh.k k_5444) (As := [.int (xs ((x3 + (1 : Int32))).toNatClampNeg), .int (xs ((x3 + (2 : Int32))).toNatClampNeg)]) rfl rfl (Nat.le_of_ble_eq_true rfl) dL_law_755 ⟨hb240.1, hb240.2⟩) (fun a241 M242 hq => ?_)
                                          obtain ⟨h, sh⟩ := hq
                                          refine v_icmp_eq (pc := 758) cx dL_law_758 (tgt := 1064) rfl (fun c243 => ?_) (fun c243 => ?_)
                                          · replace h := h.1 c243
                                            refine nm_x (x3 + (6 : Int32)) (fun z244 ez244 => ?_)
                                            replace h := h z244 ez244
                                            refine v_iinc (pc := 1064) cx dL_law_1064 (q := 3) rfl ((ii_6 _).trans ez244.symm) (Nat.le_of_ble_eq_true rfl) (lv' := [(3, .int z244), (0, .ref b0), (1, .ref (sz0 + 0)), (2, .ref (sz0 + 5444))]) rfl ?_
                                            refine v_goto (pc := 1067) cx dL_law_1067 (tgt := 18) rfl ?_
                                            refine v_sub (lv' := [(0, .ref b0), (1, .ref (sz0 + 0)), (2, .ref (sz0 + 5444)), (3, .int z244)]) [1, 2, 3, 0] rfl ?_
                                            exact ih z244 M242 sh (((kc + 0) + 0)) (((ks + 0) + 0)) h
                                          · replace h := h.2 c243
                                            refine v_iconst (pc := 761) cx dL_law_761 ic_0 ?_
                                            obtain ⟨q245, h⟩ := h
                                            exact v_lawret cx hxs.2.2.1 dL_law_762 q245 h
                                        · replace h := h.2 c232
                                          by_cases c246 : z4 = (18 : Int32)
                                          · replace h := h.1 c246
                                            refine v_tswI cx (18 : Int32) (tgt := 763) dL_law_33 c246 (by decide) (by decide) rfl rfl ?_
                                            refine v_aload_n (pc := 763) cx dL_law_763 rfl 1 rfl ?_
                                            refine v_aload_n (pc := 764) cx dL_law_764 rfl 0 rfl ?_
                                            refine v_iload_n (pc := 765) cx dL_law_765 rfl 3 rfl ?_
                                            refine v_iconst (pc := 766) cx dL_law_766 ic_1 ?_
                                            refine v_iadd (pc := 767) cx dL_law_767 ?_
                                            obtain ⟨b247, h⟩ := h
                                            refine v_scr (pc := 768) cx dL_law_768 hxs b247 ?_
                                            refine v_aload_n (pc := 769) cx dL_law_769 rfl 0 rfl ?_
                                            refine v_iload_n (pc := 770) cx dL_law_770 rfl 3 rfl ?_
                                            refine v_iconst (pc := 771) cx dL_law_771 ic_2 ?_
                                            refine v_iadd (pc := 772) cx dL_law_772 ?_
                                            obtain ⟨b248, h⟩ := h
                                            refine v_scr (pc := 773) cx dL_law_773 hxs b248 ?_
                                            obtain ⟨hb249, h⟩ := h
                                            refine v_run_i (pc := 774) cx (kcq936_L cx (c_X0_farBy l D cA sz0 H0 M ((xs ((x3 + (1 : Int32))).toNatClampNeg)) ((xs ((x3 + (2 : Int32))).toNatClampNeg))  _ sh h) ⟨Nat.le_of_ble_eq_true rfl, Nat.le_of_ble_eq_true rfl⟩ (sh.k k_0) (As := [.int (xs ((x3 + (1 : Int32))).toNatClampNeg), .int (xs ((x3 + (2 : Int32))).toNatClampNeg)]) rfl rfl (Nat.le_of_ble_eq_true rfl) dL_law_774 ⟨hb249.1, hb249.2⟩) (fun a250 M251 hq => ?_)
                                            obtain ⟨h, sh⟩ := hq
                                            refine v_aload_n (pc := 777) cx dL_law_777 rfl 2 rfl ?_
                                            refine v_aload_n (pc := 778) cx dL_law_778 rfl 0 rfl ?_
                                            refine v_iload_n (pc := 779) cx dL_law_779 rfl 3 rfl ?_
                                            refine v_iconst (pc := 780) cx dL_law_780 ic_1 ?_
                                            refine v_iadd (pc := 781) cx dL_law_781 ?_
                                            obtain ⟨b252, h⟩ := h
                                            refine v_scr (pc := 782) cx dL_law_782 hxs b252 ?_
                                            refine v_aload_n (pc := 783) cx dL_law_783 rfl 0 rfl ?_
                                            refine v_iload_n (pc := 784) cx dL_law_784 rfl 3 rfl ?_
                                            refine v_iconst (pc := 785) cx dL_law_785 ic_2 ?_
                                            refine v_iadd (pc := 786) cx dL_law_786 ?_
                                            obtain ⟨b253, h⟩ := h
                                            refine v_scr (pc := 787) cx dL_law_787 hxs b253 ?_
                                            obtain ⟨hb254, h⟩ := h
                                            refine v_run_i (pc := 788) cx (kcq1511_L cx (c_X6_farBy l D cA sz0 H0 M251 ((xs ((x3 + (1 : Int32))).toNatClampNeg)) ((xs ((x3 + (2 : Int32))).toNatClampNeg))  _ sh h) ⟨Nat.le_of_ble_eq_true rfl, Nat.le_of_ble_eq_true rfl⟩ (sh.k k_5444) (As := [.int (xs ((x3 + (1 : Int32))).toNatClampNeg), .int (xs ((x3 + (2 : Int32))).toNatClampNeg)]) rfl rfl (Nat.le_of_ble_eq_true rfl) dL_law_788 ⟨hb254.1, hb254.2⟩) (fun a255 M256 hq => ?_)
                                            obtain ⟨h, sh⟩ := hq
                                            refine v_icmp_eq (pc := 791) cx dL_law_791 (tgt := 1064) rfl (fun c257 => ?_) (fun c257 => ?_)
                                            · replace h := h.1 c257
                                              refine nm_x (x3 + (6 : Int32)) (fun z258 ez258 => ?_)
                                              replace h := h z258 ez258
                                              refine v_iinc (pc := 1064) cx dL_law_1064 (q := 3) rfl ((ii_6 _).trans ez258.symm) (Nat.le_of_ble_eq_true rfl) (lv' := [(3, .int z258), (0, .ref b0), (1, .ref (sz0 + 0)), (2, .ref (sz0 + 5444))]) rfl ?_
                                              refine v_goto (pc := 1067) cx dL_law_1067 (tgt := 18) rfl ?_
                                              refine v_sub (lv' := [(0, .ref b0), (1, .ref (sz0 + 0)), (2, .ref (sz0 + 5444)), (3, .int z258)]) [1, 2, 3, 0] rfl ?_
                                              exact ih z258 M256 sh (((kc + 0) + 0)) (((ks + 0) + 0)) h
                                            · replace h := h.2 c257
                                              refine v_iconst (pc := 794) cx dL_law_794 ic_0 ?_
                                              obtain ⟨q259, h⟩ := h
                                              exact v_lawret cx hxs.2.2.1 dL_law_795 q259 h
                                          · replace h := h.2 c246
                                            by_cases c260 : z4 = (19 : Int32)
                                            · replace h := h.1 c260
                                              refine v_tswI cx (19 : Int32) (tgt := 796) dL_law_33 c260 (by decide) (by decide) rfl rfl ?_
                                              refine v_aload_n (pc := 796) cx dL_law_796 rfl 1 rfl ?_
                                              refine v_aload_n (pc := 797) cx dL_law_797 rfl 0 rfl ?_
                                              refine v_iload_n (pc := 798) cx dL_law_798 rfl 3 rfl ?_
                                              refine v_iconst (pc := 799) cx dL_law_799 ic_1 ?_
                                              refine v_iadd (pc := 800) cx dL_law_800 ?_
                                              obtain ⟨b261, h⟩ := h
                                              refine v_scr (pc := 801) cx dL_law_801 hxs b261 ?_
                                              refine v_aload_n (pc := 802) cx dL_law_802 rfl 0 rfl ?_
                                              refine v_iload_n (pc := 803) cx dL_law_803 rfl 3 rfl ?_
                                              refine v_iconst (pc := 804) cx dL_law_804 ic_2 ?_
                                              refine v_iadd (pc := 805) cx dL_law_805 ?_
                                              obtain ⟨b262, h⟩ := h
                                              refine v_scr (pc := 806) cx dL_law_806 hxs b262 ?_
                                              obtain ⟨hb263, h⟩ := h
                                              refine v_run_i (pc := 807) cx (kcq944_L cx (c_X0_near l D cA sz0 H0 M ((xs ((x3 + (1 : Int32))).toNatClampNeg)) ((xs ((x3 + (2 : Int32))).toNatClampNeg))  _ sh h) ⟨Nat.le_of_ble_eq_true rfl, Nat.le_of_ble_eq_true rfl⟩ (sh.k k_0) (As := [.int (xs ((x3 + (1 : Int32))).toNatClampNeg), .int (xs ((x3 + (2 : Int32))).toNatClampNeg)]) rfl rfl (Nat.le_of_ble_eq_true rfl) dL_law_807 ⟨hb263.1, hb263.2⟩) (fun a264 M265 hq => ?_)
                                              obtain ⟨h, sh⟩ := hq
                                              refine v_aload_n (pc := 810) cx dL_law_810 rfl 2 rfl ?_
                                              refine v_aload_n (pc := 811) cx dL_law_811 rfl 0 rfl ?_
                                              refine v_iload_n (pc := 812) cx dL_law_812 rfl 3 rfl ?_
                                              refine v_iconst (pc := 813) cx dL_law_813 ic_1 ?_
                                              refine v_iadd (pc := 814) cx dL_law_814 ?_
                                              obtain ⟨b266, h⟩ := h
                                              refine v_scr (pc := 815) cx dL_law_815 hxs b266 ?_
                                              refine v_aload_n (pc := 816) cx dL_law_816 rfl 0 rfl ?_
                                              refine v_iload_n (pc := 817) cx dL_law_817 rfl 3 rfl ?_
                                              refine v_iconst (pc := 818) cx dL_law_818 ic_2 ?_
                                              refine v_iadd (pc := 819) cx dL_law_819 ?_
                                              obtain ⟨b267, h⟩ := h
                                              refine v_scr (pc := 820) cx dL_law_820 hxs b267 ?_
                                              obtain ⟨hb268, h⟩ := h
                                              refine v_run_i (pc := 821) cx (kcq1523_L cx (c_X6_near l D cA sz0 H0 M265 ((xs ((x3 + (1 : Int32))).toNatClampNeg)) ((xs ((x3 + (2 : Int32))).toNatClampNeg))  _ sh h) ⟨Nat.le_of_ble_eq_true rfl, Nat.le_of_ble_eq_true rfl⟩ (sh.k k_5444) (As := [.int (xs ((x3 + (1 : Int32))).toNatClampNeg), .int (xs ((x3 + (2 : Int32))).toNatClampNeg)]) rfl rfl (Nat.le_of_ble_eq_true rfl) dL_law_821 ⟨hb268.1, hb268.2⟩) (fun a269 M270 hq => ?_)
                                              obtain ⟨h, sh⟩ := hq
                                              refine v_icmp_eq (pc := 824) cx dL_law_824 (tgt := 1064) rfl (fun c271 => ?_) (fun c271 => ?_)
                                              · replace h := h.1 c271
                                                refine nm_x (x3 + (6 : Int32)) (fun z272 ez272 => ?_)
                                                replace h := h z272 ez272
                                                refine v_iinc (pc := 1064) cx dL_law_1064 (q := 3) rfl ((ii_6 _).trans ez272.symm) (Nat.le_of_ble_eq_true rfl) (lv' := [(3, .int z272), (0, .ref b0), (1, .ref (sz0 + 0)), (2, .ref (sz0 + 5444))]) rfl ?_
                                                refine v_goto (pc := 1067) cx dL_law_1067 (tgt := 18) rfl ?_
                                                refine v_sub (lv' := [(0, .ref b0), (1, .ref (sz0 + 0)), (2, .ref (sz0 + 5444)), (3, .int z272)]) [1, 2, 3, 0] rfl ?_
                                                exact ih z272 M270 sh (((kc + 0) + 0)) (((ks + 0) + 0)) h
                                              · replace h := h.2 c271
                                                refine v_iconst (pc := 827) cx dL_law_827 ic_0 ?_
                                                obtain ⟨q273, h⟩ := h
                                                exact v_lawret cx hxs.2.2.1 dL_law_828 q273 h
                                            · replace h := h.2 c260
                                              by_cases c274 : z4 = (20 : Int32)
                                              · replace h := h.1 c274
                                                refine v_tswI cx (20 : Int32) (tgt := 829) dL_law_33 c274 (by decide) (by decide) rfl rfl ?_
                                                refine v_aload_n (pc := 829) cx dL_law_829 rfl 1 rfl ?_
                                                refine v_aload_n (pc := 830) cx dL_law_830 rfl 0 rfl ?_
                                                refine v_iload_n (pc := 831) cx dL_law_831 rfl 3 rfl ?_
                                                refine v_iconst (pc := 832) cx dL_law_832 ic_1 ?_
                                                refine v_iadd (pc := 833) cx dL_law_833 ?_
                                                obtain ⟨b275, h⟩ := h
                                                refine v_scr (pc := 834) cx dL_law_834 hxs b275 ?_
                                                refine v_aload_n (pc := 835) cx dL_law_835 rfl 0 rfl ?_
                                                refine v_iload_n (pc := 836) cx dL_law_836 rfl 3 rfl ?_
                                                refine v_iconst (pc := 837) cx dL_law_837 ic_2 ?_
                                                refine v_iadd (pc := 838) cx dL_law_838 ?_
                                                obtain ⟨b276, h⟩ := h
                                                refine v_scr (pc := 839) cx dL_law_839 hxs b276 ?_
                                                refine v_aload_n (pc := 840) cx dL_law_840 rfl 0 rfl ?_
                                                refine v_iload_n (pc := 841) cx dL_law_841 rfl 3 rfl ?_
                                                refine v_iconst (pc := 842) cx dL_law_842 ic_3 ?_
                                                refine v_iadd (pc := 843) cx dL_law_843 ?_
                                                obtain ⟨b277, h⟩ := h
                                                refine v_scr (pc := 844) cx dL_law_844 hxs b277 ?_
                                                obtain ⟨hb278, h⟩ := h
                                                refine v_run_i (pc := 845) cx (kcq948_L cx (c_X0_clear l D cA sz0 H0 M ((xs ((x3 + (1 : Int32))).toNatClampNeg)) ((xs ((x3 + (2 : Int32))).toNatClampNeg)) ((xs ((x3 + (3 : Int32))).toNatClampNeg))  _ sh h) ⟨Nat.le_of_ble_eq_true rfl, Nat.le_of_ble_eq_true rfl⟩ (sh.k k_0) (As := [.int (xs ((x3 + (1 : Int32))).toNatClampNeg), .int (xs ((x3 + (2 : Int32))).toNatClampNeg), .int (xs ((x3 + (3 : Int32))).toNatClampNeg)]) rfl rfl (Nat.le_of_ble_eq_true rfl) dL_law_845 ⟨hb278.1, hb278.2⟩) (fun a279 M280 hq => ?_)
                                                obtain ⟨h, sh⟩ := hq
                                                refine v_aload_n (pc := 848) cx dL_law_848 rfl 2 rfl ?_
                                                refine v_aload_n (pc := 849) cx dL_law_849 rfl 0 rfl ?_
                                                refine v_iload_n (pc := 850) cx dL_law_850 rfl 3 rfl ?_
                                                refine v_iconst (pc := 851) cx dL_law_851 ic_1 ?_
                                                refine v_iadd (pc := 852) cx dL_law_852 ?_
                                                obtain ⟨b281, h⟩ := h
                                                refine v_scr (pc := 853) cx dL_law_853 hxs b281 ?_
                                                refine v_aload_n (pc := 854) cx dL_law_854 rfl 0 rfl ?_
                                                refine v_iload_n (pc := 855) cx dL_law_855 rfl 3 rfl ?_
                                                refine v_iconst (pc := 856) cx dL_law_856 ic_2 ?_
                                                refine v_iadd (pc := 857) cx dL_law_857 ?_
                                                obtain ⟨b282, h⟩ := h
                                                refine v_scr (pc := 858) cx dL_law_858 hxs b282 ?_
                                                refine v_aload_n (pc := 859) cx dL_law_859 rfl 0 rfl ?_
                                                refine v_iload_n (pc := 860) cx dL_law_860 rfl 3 rfl ?_
                                                refine v_iconst (pc := 861) cx dL_law_861 ic_3 ?_
                                                refine v_iadd (pc := 862) cx dL_law_862 ?_
                                                obtain ⟨b283, h⟩ := h
                                                refine v_scr (pc := 863) cx dL_law_863 hxs b283 ?_
                                                obtain ⟨hb284, h⟩ := h
                                                refine v_run_i (pc := 864) cx (kcq1527_L cx (c_X6_clear l D cA sz0 H0 M280 ((xs ((x3 + (1 : Int32))).toNatClampNeg)) ((xs ((x3 + (2 : Int32))).toNatClampNeg)) ((xs ((x3 + (3 : Int32))).toNatClampNeg))  _ sh h) ⟨Nat.le_of_ble_eq_true rfl, Nat.le_of_ble_eq_true rfl⟩ (sh.k k_5444) (As := [.int (xs ((x3 + (1 : Int32))).toNatClampNeg), .int (xs ((x3 + (2 : Int32))).toNatClampNeg), .int (xs ((x3 + (3 : Int32))).toNatClampNeg)]) rfl rfl (Nat.le_of_ble_eq_true rfl) dL_law_864 ⟨hb284.1, hb284.2⟩) (fun a285 M286 hq => ?_)
                                                obtain ⟨h, sh⟩ := hq
                                                refine v_icmp_eq (pc := 867) cx dL_law_867 (tgt := 1064) rfl (fun c287 => ?_) (fun c287 => ?_)
                                                · replace h := h.1 c287
                                                  refine nm_x (x3 + (6 : Int32)) (fun z288 ez288 => ?_)
                                                  replace h := h z288 ez288
                                                  refine v_iinc (pc := 1064) cx dL_law_1064 (q := 3) rfl ((ii_6 _).trans ez288.symm) (Nat.le_of_ble_eq_true rfl) (lv' := [(3, .int z288), (0, .ref b0), (1, .ref (sz0 + 0)), (2, .ref (sz0 + 5444))]) rfl ?_
                                                  refine v_goto (pc := 1067) cx dL_law_1067 (tgt := 18) rfl ?_
                                                  refine v_sub (lv' := [(0, .ref b0), (1, .ref (sz0 + 0)), (2, .ref (sz0 + 5444)), (3, .int z288)]) [1, 2, 3, 0] rfl ?_
                                                  exact ih z288 M286 sh (((kc + 0) + 0)) (((ks + 0) + 0)) h
                                                · replace h := h.2 c287
                                                  refine v_iconst (pc := 870) cx dL_law_870 ic_0 ?_
                                                  obtain ⟨q289, h⟩ := h
                                                  exact v_lawret cx hxs.2.2.1 dL_law_871 q289 h
                                              · replace h := h.2 c274
                                                by_cases c290 : z4 = (21 : Int32)
                                                · replace h := h.1 c290
                                                  refine v_tswI cx (21 : Int32) (tgt := 872) dL_law_33 c290 (by decide) (by decide) rfl rfl ?_
                                                  refine v_aload_n (pc := 872) cx dL_law_872 rfl 1 rfl ?_
                                                  refine v_aload_n (pc := 873) cx dL_law_873 rfl 0 rfl ?_
                                                  refine v_iload_n (pc := 874) cx dL_law_874 rfl 3 rfl ?_
                                                  refine v_iconst (pc := 875) cx dL_law_875 ic_1 ?_
                                                  refine v_iadd (pc := 876) cx dL_law_876 ?_
                                                  obtain ⟨b291, h⟩ := h
                                                  refine v_scr (pc := 877) cx dL_law_877 hxs b291 ?_
                                                  obtain ⟨hb292, h⟩ := h
                                                  refine v_run_l (pc := 878) cx (kcq958_L cx (c_X0_rubbed l D cA sz0 H0 M ((xs ((x3 + (1 : Int32))).toNatClampNeg))  _ sh h) ⟨Nat.le_of_ble_eq_true rfl, Nat.le_of_ble_eq_true rfl⟩ (sh.k k_0) (As := [.int (xs ((x3 + (1 : Int32))).toNatClampNeg)]) rfl rfl (Nat.le_of_ble_eq_true rfl) dL_law_878 ⟨hb292.1, hb292.2⟩) (fun a293 M294 hq => ?_)
                                                  obtain ⟨h, sh⟩ := hq
                                                  refine v_aload_n (pc := 881) cx dL_law_881 rfl 2 rfl ?_
                                                  refine v_aload_n (pc := 882) cx dL_law_882 rfl 0 rfl ?_
                                                  refine v_iload_n (pc := 883) cx dL_law_883 rfl 3 rfl ?_
                                                  refine v_iconst (pc := 884) cx dL_law_884 ic_1 ?_
                                                  refine v_iadd (pc := 885) cx dL_law_885 ?_
                                                  obtain ⟨b295, h⟩ := h
                                                  refine v_scr (pc := 886) cx dL_law_886 hxs b295 ?_
                                                  obtain ⟨hb296, h⟩ := h
                                                  refine v_run_l (pc := 887) cx (kcq1538_L cx (c_X6_rubbed l D cA sz0 H0 M294 ((xs ((x3 + (1 : Int32))).toNatClampNeg))  _ sh h) ⟨Nat.le_of_ble_eq_true rfl, Nat.le_of_ble_eq_true rfl⟩ (sh.k k_5444) (As := [.int (xs ((x3 + (1 : Int32))).toNatClampNeg)]) rfl rfl (Nat.le_of_ble_eq_true rfl) dL_law_887 ⟨hb296.1, hb296.2⟩) (fun a297 M298 hq => ?_)
                                                  obtain ⟨h, sh⟩ := hq
                                                  refine v_lcmp (pc := 890) cx dL_law_890 ?_
                                                  refine v_if_eq (pc := 891) cx dL_law_891 (tgt := 1064) rfl (fun c299 => ?_) (fun c299 => ?_)
                                                  · replace h := h.1 c299
                                                    refine nm_x (x3 + (6 : Int32)) (fun z300 ez300 => ?_)
                                                    replace h := h z300 ez300
                                                    refine v_iinc (pc := 1064) cx dL_law_1064 (q := 3) rfl ((ii_6 _).trans ez300.symm) (Nat.le_of_ble_eq_true rfl) (lv' := [(3, .int z300), (0, .ref b0), (1, .ref (sz0 + 0)), (2, .ref (sz0 + 5444))]) rfl ?_
                                                    refine v_goto (pc := 1067) cx dL_law_1067 (tgt := 18) rfl ?_
                                                    refine v_sub (lv' := [(0, .ref b0), (1, .ref (sz0 + 0)), (2, .ref (sz0 + 5444)), (3, .int z300)]) [1, 2, 3, 0] rfl ?_
                                                    exact ih z300 M298 sh (((kc + 0) + 0)) (((ks + 0) + 0)) h
                                                  · replace h := h.2 c299
                                                    refine v_iconst (pc := 894) cx dL_law_894 ic_0 ?_
                                                    obtain ⟨q301, h⟩ := h
                                                    exact v_lawret cx hxs.2.2.1 dL_law_895 q301 h
                                                · replace h := h.2 c290
                                                  by_cases c302 : z4 = (22 : Int32)
                                                  · replace h := h.1 c302
                                                    refine v_tswI cx (22 : Int32) (tgt := 896) dL_law_33 c302 (by decide) (by decide) rfl rfl ?_
                                                    refine v_aload_n (pc := 896) cx dL_law_896 rfl 1 rfl ?_
                                                    refine v_aload_n (pc := 897) cx dL_law_897 rfl 0 rfl ?_
                                                    refine v_iload_n (pc := 898) cx dL_law_898 rfl 3 rfl ?_
                                                    refine v_iconst (pc := 899) cx dL_law_899 ic_1 ?_
                                                    refine v_iadd (pc := 900) cx dL_law_900 ?_
                                                    obtain ⟨b303, h⟩ := h
                                                    refine v_scr (pc := 901) cx dL_law_901 hxs b303 ?_
                                                    refine v_aload_n (pc := 902) cx dL_law_902 rfl 0 rfl ?_
                                                    refine v_iload_n (pc := 903) cx dL_law_903 rfl 3 rfl ?_
                                                    refine v_iconst (pc := 904) cx dL_law_904 ic_2 ?_
                                                    refine v_iadd (pc := 905) cx dL_law_905 ?_
                                                    obtain ⟨b304, h⟩ := h
                                                    refine v_scr (pc := 906) cx dL_law_906 hxs b304 ?_
                                                    obtain ⟨hb305, h⟩ := h
                                                    refine v_run_i (pc := 907) cx (kcq962_L cx (c_X0_square l D cA sz0 H0 M ((xs ((x3 + (1 : Int32))).toNatClampNeg)) ((xs ((x3 + (2 : Int32))).toNatClampNeg))  _ sh h) ⟨Nat.le_of_ble_eq_true rfl, Nat.le_of_ble_eq_true rfl⟩ (sh.k k_0) (As := [.int (xs ((x3 + (1 : Int32))).toNatClampNeg), .int (xs ((x3 + (2 : Int32))).toNatClampNeg)]) rfl rfl (Nat.le_of_ble_eq_true rfl) dL_law_907 ⟨hb305.1, hb305.2⟩) (fun a306 M307 hq => ?_)
                                                    obtain ⟨h, sh⟩ := hq
                                                    refine v_aload_n (pc := 910) cx dL_law_910 rfl 2 rfl ?_
                                                    refine v_aload_n (pc := 911) cx dL_law_911 rfl 0 rfl ?_
                                                    refine v_iload_n (pc := 912) cx dL_law_912 rfl 3 rfl ?_
                                                    refine v_iconst (pc := 913) cx dL_law_913 ic_1 ?_
                                                    refine v_iadd (pc := 914) cx dL_law_914 ?_
                                                    obtain ⟨b308, h⟩ := h
                                                    refine v_scr (pc := 915) cx dL_law_915 hxs b308 ?_
                                                    refine v_aload_n (pc := 916) cx dL_law_916 rfl 0 rfl ?_
                                                    refine v_iload_n (pc := 917) cx dL_law_917 rfl 3 rfl ?_
                                                    refine v_iconst (pc := 918) cx dL_law_918 ic_2 ?_
                                                    refine v_iadd (pc := 919) cx dL_law_919 ?_
                                                    obtain ⟨b309, h⟩ := h
                                                    refine v_scr (pc := 920) cx dL_law_920 hxs b309 ?_
                                                    obtain ⟨hb310, h⟩ := h
                                                    refine v_run_i (pc := 921) cx (kcq1546_L cx (c_X6_square l D cA sz0 H0 M307 ((xs ((x3 + (1 : Int32))).toNatClampNeg)) ((xs ((x3 + (2 : Int32))).toNatClampNeg))  _ sh h) ⟨Nat.le_of_ble_eq_true rfl, Nat.le_of_ble_eq_true rfl⟩ (sh.k k_5444) (As := [.int (xs ((x3 + (1 : Int32))).toNatClampNeg), .int (xs ((x3 + (2 : Int32))).toNatClampNeg)]) rfl rfl (Nat.le_of_ble_eq_true rfl) dL_law_921 ⟨hb310.1, hb310.2⟩) (fun a311 M312 hq => ?_)
                                                    obtain ⟨h, sh⟩ := hq
                                                    refine v_icmp_eq (pc := 924) cx dL_law_924 (tgt := 1064) rfl (fun c313 => ?_) (fun c313 => ?_)
                                                    · replace h := h.1 c313
                                                      refine nm_x (x3 + (6 : Int32)) (fun z314 ez314 => ?_)
                                                      replace h := h z314 ez314
                                                      refine v_iinc (pc := 1064) cx dL_law_1064 (q := 3) rfl ((ii_6 _).trans ez314.symm) (Nat.le_of_ble_eq_true rfl) (lv' := [(3, .int z314), (0, .ref b0), (1, .ref (sz0 + 0)), (2, .ref (sz0 + 5444))]) rfl ?_
                                                      refine v_goto (pc := 1067) cx dL_law_1067 (tgt := 18) rfl ?_
                                                      refine v_sub (lv' := [(0, .ref b0), (1, .ref (sz0 + 0)), (2, .ref (sz0 + 5444)), (3, .int z314)]) [1, 2, 3, 0] rfl ?_
                                                      exact ih z314 M312 sh (((kc + 0) + 0)) (((ks + 0) + 0)) h
                                                    · replace h := h.2 c313
                                                      refine v_iconst (pc := 927) cx dL_law_927 ic_0 ?_
                                                      obtain ⟨q315, h⟩ := h
                                                      exact v_lawret cx hxs.2.2.1 dL_law_928 q315 h
                                                  · replace h := h.2 c302
                                                    by_cases c316 : z4 = (23 : Int32)
                                                    · replace h := h.1 c316
                                                      refine v_tswI cx (23 : Int32) (tgt := 929) dL_law_33 c316 (by decide) (by decide) rfl rfl ?_
                                                      refine v_aload_n (pc := 929) cx dL_law_929 rfl 1 rfl ?_
                                                      refine v_aload_n (pc := 930) cx dL_law_930 rfl 0 rfl ?_
                                                      refine v_iload_n (pc := 931) cx dL_law_931 rfl 3 rfl ?_
                                                      refine v_iconst (pc := 932) cx dL_law_932 ic_1 ?_
                                                      refine v_iadd (pc := 933) cx dL_law_933 ?_
                                                      obtain ⟨b317, h⟩ := h
                                                      refine v_scr (pc := 934) cx dL_law_934 hxs b317 ?_
                                                      obtain ⟨hb318, h⟩ := h
                                                      refine v_run_i (pc := 935) cx (kcq974_L cx (c_X0_seed l D cA sz0 H0 M ((xs ((x3 + (1 : Int32))).toNatClampNeg))  _ sh h) ⟨Nat.le_of_ble_eq_true rfl, Nat.le_of_ble_eq_true rfl⟩ (sh.k k_0) (As := [.int (xs ((x3 + (1 : Int32))).toNatClampNeg)]) rfl rfl (Nat.le_of_ble_eq_true rfl) dL_law_935 ⟨hb318.1, hb318.2⟩) (fun a319 M320 hq => ?_)
                                                      obtain ⟨h, sh⟩ := hq
                                                      refine v_aload_n (pc := 938) cx dL_law_938 rfl 2 rfl ?_
                                                      refine v_aload_n (pc := 939) cx dL_law_939 rfl 0 rfl ?_
                                                      refine v_iload_n (pc := 940) cx dL_law_940 rfl 3 rfl ?_
                                                      refine v_iconst (pc := 941) cx dL_law_941 ic_1 ?_
                                                      refine v_iadd (pc := 942) cx dL_law_942 ?_
                                                      obtain ⟨b321, h⟩ := h
                                                      refine v_scr (pc := 943) cx dL_law_943 hxs b321 ?_
                                                      obtain ⟨hb322, h⟩ := h
                                                      refine v_run_i (pc := 944) cx (kcq1566_L cx (c_X6_seed l D cA sz0 H0 M320 ((xs ((x3 + (1 : Int32))).toNatClampNeg))  _ sh h) ⟨Nat.le_of_ble_eq_true rfl, Nat.le_of_ble_eq_true rfl⟩ (sh.k k_5444) (As := [.int (xs ((x3 + (1 : Int32))).toNatClampNeg)]) rfl rfl (Nat.le_of_ble_eq_true rfl) dL_law_944 ⟨hb322.1, hb322.2⟩) (fun a323 M324 hq => ?_)
                                                      obtain ⟨h, sh⟩ := hq
                                                      refine v_icmp_eq (pc := 947) cx dL_law_947 (tgt := 1064) rfl (fun c325 => ?_) (fun c325 => ?_)
                                                      · replace h := h.1 c325
                                                        refine nm_x (x3 + (6 : Int32)) (fun z326 ez326 => ?_)
                                                        replace h := h z326 ez326
                                                        refine v_iinc (pc := 1064) cx dL_law_1064 (q := 3) rfl ((ii_6 _).trans ez326.symm) (Nat.le_of_ble_eq_true rfl) (lv' := [(3, .int z326), (0, .ref b0), (1, .ref (sz0 + 0)), (2, .ref (sz0 + 5444))]) rfl ?_
                                                        refine v_goto (pc := 1067) cx dL_law_1067 (tgt := 18) rfl ?_
                                                        refine v_sub (lv' := [(0, .ref b0), (1, .ref (sz0 + 0)), (2, .ref (sz0 + 5444)), (3, .int z326)]) [1, 2, 3, 0] rfl ?_
                                                        exact ih z326 M324 sh (((kc + 0) + 0)) (((ks + 0) + 0)) h
                                                      · replace h := h.2 c325
                                                        refine v_iconst (pc := 950) cx dL_law_950 ic_0 ?_
                                                        obtain ⟨q327, h⟩ := h
                                                        exact v_lawret cx hxs.2.2.1 dL_law_951 q327 h
                                                    · replace h := h.2 c316
                                                      by_cases c328 : z4 = (24 : Int32)
                                                      · replace h := h.1 c328
                                                        refine v_tswI cx (24 : Int32) (tgt := 952) dL_law_33 c328 (by decide) (by decide) rfl rfl ?_
                                                        refine v_aload_n (pc := 952) cx dL_law_952 rfl 1 rfl ?_
                                                        refine v_aload_n (pc := 953) cx dL_law_953 rfl 0 rfl ?_
                                                        refine v_iload_n (pc := 954) cx dL_law_954 rfl 3 rfl ?_
                                                        refine v_iconst (pc := 955) cx dL_law_955 ic_1 ?_
                                                        refine v_iadd (pc := 956) cx dL_law_956 ?_
                                                        obtain ⟨b329, h⟩ := h
                                                        refine v_scr (pc := 957) cx dL_law_957 hxs b329 ?_
                                                        refine v_aload_n (pc := 958) cx dL_law_958 rfl 0 rfl ?_
                                                        refine v_iload_n (pc := 959) cx dL_law_959 rfl 3 rfl ?_
                                                        refine v_iconst (pc := 960) cx dL_law_960 ic_2 ?_
                                                        refine v_iadd (pc := 961) cx dL_law_961 ?_
                                                        obtain ⟨b330, h⟩ := h
                                                        refine v_scr (pc := 962) cx dL_law_962 hxs b330 ?_
                                                        refine v_aload_n (pc := 963) cx dL_law_963 rfl 0 rfl ?_
                                                        refine v_iload_n (pc := 964) cx dL_law_964 rfl 3 rfl ?_
                                                        refine v_iconst (pc := 965) cx dL_law_965 ic_3 ?_
                                                        refine v_iadd (pc := 966) cx dL_law_966 ?_
                                                        obtain ⟨b331, h⟩ := h
                                                        refine v_scr (pc := 967) cx dL_law_967 hxs b331 ?_
                                                        obtain ⟨hb332, h⟩ := h
                                                        refine v_run_i (pc := 968) cx (kcq979_L cx (c_X0_draw l D cA sz0 H0 M ((xs ((x3 + (1 : Int32))).toNatClampNeg)) ((xs ((x3 + (2 : Int32))).toNatClampNeg)) ((xs ((x3 + (3 : Int32))).toNatClampNeg))  _ sh h) ⟨Nat.le_of_ble_eq_true rfl, Nat.le_of_ble_eq_true rfl⟩ (sh.k k_0) (As := [.int (xs ((x3 + (1 : Int32))).toNatClampNeg), .int (xs ((x3 + (2 : Int32))).toNatClampNeg), .int (xs ((x3 + (3 : Int32))).toNatClampNeg)]) rfl rfl (Nat.le_of_ble_eq_true rfl) dL_law_968 ⟨hb332.1, hb332.2⟩) (fun a333 M334 hq => ?_)
                                                        obtain ⟨h, sh⟩ := hq
                                                        refine v_aload_n (pc := 971) cx dL_law_971 rfl 2 rfl ?_
                                                        refine v_aload_n (pc := 972) cx dL_law_972 rfl 0 rfl ?_
                                                        refine v_iload_n (pc := 973) cx dL_law_973 rfl 3 rfl ?_
                                                        refine v_iconst (pc := 974) cx dL_law_974 ic_1 ?_
                                                        refine v_iadd (pc := 975) cx dL_law_975 ?_
                                                        obtain ⟨b335, h⟩ := h
                                                        refine v_scr (pc := 976) cx dL_law_976 hxs b335 ?_
                                                        refine v_aload_n (pc := 977) cx dL_law_977 rfl 0 rfl ?_
                                                        refine v_iload_n (pc := 978) cx dL_law_978 rfl 3 rfl ?_
                                                        refine v_iconst (pc := 979) cx dL_law_979 ic_2 ?_
                                                        refine v_iadd (pc := 980) cx dL_law_980 ?_
                                                        obtain ⟨b336, h⟩ := h
                                                        refine v_scr (pc := 981) cx dL_law_981 hxs b336 ?_
                                                        refine v_aload_n (pc := 982) cx dL_law_982 rfl 0 rfl ?_
                                                        refine v_iload_n (pc := 983) cx dL_law_983 rfl 3 rfl ?_
                                                        refine v_iconst (pc := 984) cx dL_law_984 ic_3 ?_
                                                        refine v_iadd (pc := 985) cx dL_law_985 ?_
                                                        obtain ⟨b337, h⟩ := h
                                                        refine v_scr (pc := 986) cx dL_law_986 hxs b337 ?_
                                                        obtain ⟨hb338, h⟩ := h
                                                        refine v_run_i (pc := 987) cx (kcq1571_L cx (c_X6_draw l D cA sz0 H0 M334 ((xs ((x3 + (1 : Int32))).toNatClampNeg)) ((xs ((x3 + (2 : Int32))).toNatClampNeg)) ((xs ((x3 + (3 : Int32))).toNatClampNeg))  _ sh h) ⟨Nat.le_of_ble_eq_true rfl, Nat.le_of_ble_eq_true rfl⟩ (sh.k k_5444) (As := [.int (xs ((x3 + (1 : Int32))).toNatClampNeg), .int (xs ((x3 + (2 : Int32))).toNatClampNeg), .int (xs ((x3 + (3 : Int32))).toNatClampNeg)]) rfl rfl (Nat.le_of_ble_eq_true rfl) dL_law_987 ⟨hb338.1, hb338.2⟩) (fun a339 M340 hq => ?_)
                                                        obtain ⟨h, sh⟩ := hq
                                                        refine v_icmp_eq (pc := 990) cx dL_law_990 (tgt := 1064) rfl (fun c341 => ?_) (fun c341 => ?_)
                                                        · replace h := h.1 c341
                                                          refine nm_x (x3 + (6 : Int32)) (fun z342 ez342 => ?_)
                                                          replace h := h z342 ez342
                                                          refine v_iinc (pc := 1064) cx dL_law_1064 (q := 3) rfl ((ii_6 _).trans ez342.symm) (Nat.le_of_ble_eq_true rfl) (lv' := [(3, .int z342), (0, .ref b0), (1, .ref (sz0 + 0)), (2, .ref (sz0 + 5444))]) rfl ?_
                                                          refine v_goto (pc := 1067) cx dL_law_1067 (tgt := 18) rfl ?_
                                                          refine v_sub (lv' := [(0, .ref b0), (1, .ref (sz0 + 0)), (2, .ref (sz0 + 5444)), (3, .int z342)]) [1, 2, 3, 0] rfl ?_
                                                          exact ih z342 M340 sh (((kc + 0) + 0)) (((ks + 0) + 0)) h
                                                        · replace h := h.2 c341
                                                          refine v_iconst (pc := 993) cx dL_law_993 ic_0 ?_
                                                          obtain ⟨q343, h⟩ := h
                                                          exact v_lawret cx hxs.2.2.1 dL_law_994 q343 h
                                                      · replace h := h.2 c328
                                                        by_cases c344 : z4 = (25 : Int32)
                                                        · replace h := h.1 c344
                                                          refine v_tswI cx (25 : Int32) (tgt := 995) dL_law_33 c344 (by decide) (by decide) rfl rfl ?_
                                                          refine v_aload_n (pc := 995) cx dL_law_995 rfl 1 rfl ?_
                                                          obtain ⟨hb345, h⟩ := h
                                                          refine v_run_i (pc := 996) cx (kcq991_L cx (c_X0_off l D cA sz0 H0 M   _ sh h) ⟨Nat.le_of_ble_eq_true rfl, Nat.le_of_ble_eq_true rfl⟩ (sh.k k_0) (As := []) rfl rfl (Nat.le_of_ble_eq_true rfl) dL_law_996 ⟨hb345.1, hb345.2⟩) (fun a346 M347 hq => ?_)
                                                          obtain ⟨h, sh⟩ := hq
                                                          refine v_aload_n (pc := 999) cx dL_law_999 rfl 2 rfl ?_
                                                          obtain ⟨hb348, h⟩ := h
                                                          refine v_run_i (pc := 1000) cx (kcq1216_L cx (c_X6_off l D cA sz0 H0 M347   _ sh h) ⟨Nat.le_of_ble_eq_true rfl, Nat.le_of_ble_eq_true rfl⟩ (sh.k k_5444) (As := []) rfl rfl (Nat.le_of_ble_eq_true rfl) dL_law_1000 ⟨hb348.1, hb348.2⟩) (fun a349 M350 hq => ?_)
                                                          obtain ⟨h, sh⟩ := hq
                                                          refine v_icmp_eq (pc := 1003) cx dL_law_1003 (tgt := 1064) rfl (fun c351 => ?_) (fun c351 => ?_)
                                                          · replace h := h.1 c351
                                                            refine nm_x (x3 + (6 : Int32)) (fun z352 ez352 => ?_)
                                                            replace h := h z352 ez352
                                                            refine v_iinc (pc := 1064) cx dL_law_1064 (q := 3) rfl ((ii_6 _).trans ez352.symm) (Nat.le_of_ble_eq_true rfl) (lv' := [(3, .int z352), (0, .ref b0), (1, .ref (sz0 + 0)), (2, .ref (sz0 + 5444))]) rfl ?_
                                                            refine v_goto (pc := 1067) cx dL_law_1067 (tgt := 18) rfl ?_
                                                            refine v_sub (lv' := [(0, .ref b0), (1, .ref (sz0 + 0)), (2, .ref (sz0 + 5444)), (3, .int z352)]) [1, 2, 3, 0] rfl ?_
                                                            exact ih z352 M350 sh (((kc + 0) + 0)) (((ks + 0) + 0)) h
                                                          · replace h := h.2 c351
                                                            refine v_iconst (pc := 1006) cx dL_law_1006 ic_0 ?_
                                                            obtain ⟨q353, h⟩ := h
                                                            exact v_lawret cx hxs.2.2.1 dL_law_1007 q353 h
                                                        · replace h := h.2 c344
                                                          by_cases c354 : z4 = (26 : Int32)
                                                          · replace h := h.1 c354
                                                            refine v_tswI cx (26 : Int32) (tgt := 1008) dL_law_33 c354 (by decide) (by decide) rfl rfl ?_
                                                            refine v_aload_n (pc := 1008) cx dL_law_1008 rfl 1 rfl ?_
                                                            refine v_aload_n (pc := 1009) cx dL_law_1009 rfl 0 rfl ?_
                                                            refine v_iload_n (pc := 1010) cx dL_law_1010 rfl 3 rfl ?_
                                                            refine v_iconst (pc := 1011) cx dL_law_1011 ic_1 ?_
                                                            refine v_iadd (pc := 1012) cx dL_law_1012 ?_
                                                            obtain ⟨b355, h⟩ := h
                                                            refine v_scr (pc := 1013) cx dL_law_1013 hxs b355 ?_
                                                            refine v_aload_n (pc := 1014) cx dL_law_1014 rfl 0 rfl ?_
                                                            refine v_iload_n (pc := 1015) cx dL_law_1015 rfl 3 rfl ?_
                                                            refine v_iconst (pc := 1016) cx dL_law_1016 ic_2 ?_
                                                            refine v_iadd (pc := 1017) cx dL_law_1017 ?_
                                                            obtain ⟨b356, h⟩ := h
                                                            refine v_scr (pc := 1018) cx dL_law_1018 hxs b356 ?_
                                                            obtain ⟨hb357, h⟩ := h
                                                            refine v_run_i (pc := 1019) cx (kcq995_L cx (c_X0_check l D cA sz0 H0 M ((xs ((x3 + (1 : Int32))).toNatClampNeg)) ((xs ((x3 + (2 : Int32))).toNatClampNeg))  _ sh h) ⟨Nat.le_of_ble_eq_true rfl, Nat.le_of_ble_eq_true rfl⟩ (sh.k k_0) (As := [.int (xs ((x3 + (1 : Int32))).toNatClampNeg), .int (xs ((x3 + (2 : Int32))).toNatClampNeg)]) rfl rfl (Nat.le_of_ble_eq_true rfl) dL_law_1019 ⟨hb357.1, hb357.2⟩) (fun a358 M359 hq => ?_)
                                                            obtain ⟨h, sh⟩ := hq
                                                            refine v_aload_n (pc := 1022) cx dL_law_1022 rfl 2 rfl ?_
                                                            refine v_aload_n (pc := 1023) cx dL_law_1023 rfl 0 rfl ?_
                                                            refine v_iload_n (pc := 1024) cx dL_law_1024 rfl 3 rfl ?_
                                                            refine v_iconst (pc := 1025) cx dL_law_1025 ic_1 ?_
                                                            refine v_iadd (pc := 1026) cx dL_law_1026 ?_
                                                            obtain ⟨b360, h⟩ := h
                                                            refine v_scr (pc := 1027) cx dL_law_1027 hxs b360 ?_
                                                            refine v_aload_n (pc := 1028) cx dL_law_1028 rfl 0 rfl ?_
                                                            refine v_iload_n (pc := 1029) cx dL_law_1029 rfl 3 rfl ?_
                                                            refine v_iconst (pc := 1030) cx dL_law_1030 ic_2 ?_
                                                            refine v_iadd (pc := 1031) cx dL_law_1031 ?_
                                                            obtain ⟨b361, h⟩ := h
                                                            refine v_scr (pc := 1032) cx dL_law_1032 hxs b361 ?_
                                                            obtain ⟨hb362, h⟩ := h
                                                            refine v_run_i (pc := 1033) cx (kcq1584_L cx (c_X6_check l D cA sz0 H0 M359 ((xs ((x3 + (1 : Int32))).toNatClampNeg)) ((xs ((x3 + (2 : Int32))).toNatClampNeg))  _ sh h) ⟨Nat.le_of_ble_eq_true rfl, Nat.le_of_ble_eq_true rfl⟩ (sh.k k_5444) (As := [.int (xs ((x3 + (1 : Int32))).toNatClampNeg), .int (xs ((x3 + (2 : Int32))).toNatClampNeg)]) rfl rfl (Nat.le_of_ble_eq_true rfl) dL_law_1033 ⟨hb362.1, hb362.2⟩) (fun a363 M364 hq => ?_)
                                                            obtain ⟨h, sh⟩ := hq
                                                            refine v_icmp_eq (pc := 1036) cx dL_law_1036 (tgt := 1064) rfl (fun c365 => ?_) (fun c365 => ?_)
                                                            · replace h := h.1 c365
                                                              refine nm_x (x3 + (6 : Int32)) (fun z366 ez366 => ?_)
                                                              replace h := h z366 ez366
                                                              refine v_iinc (pc := 1064) cx dL_law_1064 (q := 3) rfl ((ii_6 _).trans ez366.symm) (Nat.le_of_ble_eq_true rfl) (lv' := [(3, .int z366), (0, .ref b0), (1, .ref (sz0 + 0)), (2, .ref (sz0 + 5444))]) rfl ?_
                                                              refine v_goto (pc := 1067) cx dL_law_1067 (tgt := 18) rfl ?_
                                                              refine v_sub (lv' := [(0, .ref b0), (1, .ref (sz0 + 0)), (2, .ref (sz0 + 5444)), (3, .int z366)]) [1, 2, 3, 0] rfl ?_
                                                              exact ih z366 M364 sh (((kc + 0) + 0)) (((ks + 0) + 0)) h
                                                            · replace h := h.2 c365
                                                              refine v_iconst (pc := 1039) cx dL_law_1039 ic_0 ?_
                                                              obtain ⟨q367, h⟩ := h
                                                              exact v_lawret cx hxs.2.2.1 dL_law_1040 q367 h
                                                          · replace h := h.2 c354
                                                            by_cases c368 : z4 = (27 : Int32)
                                                            · replace h := h.1 c368
                                                              refine v_tswI cx (27 : Int32) (tgt := 1041) dL_law_33 c368 (by decide) (by decide) rfl rfl ?_
                                                              refine v_aload_n (pc := 1041) cx dL_law_1041 rfl 1 rfl ?_
                                                              refine v_aload_n (pc := 1042) cx dL_law_1042 rfl 0 rfl ?_
                                                              refine v_iload_n (pc := 1043) cx dL_law_1043 rfl 3 rfl ?_
                                                              refine v_iconst (pc := 1044) cx dL_law_1044 ic_1 ?_
                                                              refine v_iadd (pc := 1045) cx dL_law_1045 ?_
                                                              obtain ⟨b369, h⟩ := h
                                                              refine v_scr (pc := 1046) cx dL_law_1046 hxs b369 ?_
                                                              obtain ⟨hb370, h⟩ := h
                                                              refine v_runp_i (pc := 1047) cx (kcq1003_L cx (c_X0_count l D cA sz0 H0 M ((xs ((x3 + (1 : Int32))).toNatClampNeg))  _ sh h) ⟨Nat.le_of_ble_eq_true rfl, Nat.le_of_ble_eq_true rfl⟩ (sh.k k_0) (As := [.int (xs ((x3 + (1 : Int32))).toNatClampNeg)]) rfl rfl (Nat.le_of_ble_eq_true rfl) dL_law_1047 ⟨hb370.1, hb370.2⟩) (fun a371 hq => ?_)
                                                              replace h := hq
                                                              refine v_aload_n (pc := 1050) cx dL_law_1050 rfl 2 rfl ?_
                                                              refine v_aload_n (pc := 1051) cx dL_law_1051 rfl 0 rfl ?_
                                                              refine v_iload_n (pc := 1052) cx dL_law_1052 rfl 3 rfl ?_
                                                              refine v_iconst (pc := 1053) cx dL_law_1053 ic_1 ?_
                                                              refine v_iadd (pc := 1054) cx dL_law_1054 ?_
                                                              obtain ⟨b372, h⟩ := h
                                                              refine v_scr (pc := 1055) cx dL_law_1055 hxs b372 ?_
                                                              obtain ⟨hb373, h⟩ := h
                                                              refine v_runp_i (pc := 1056) cx (kcq1592_L cx (c_X6_count l D cA sz0 H0 M ((xs ((x3 + (1 : Int32))).toNatClampNeg))  _ sh h) ⟨Nat.le_of_ble_eq_true rfl, Nat.le_of_ble_eq_true rfl⟩ (sh.k k_5444) (As := [.int (xs ((x3 + (1 : Int32))).toNatClampNeg)]) rfl rfl (Nat.le_of_ble_eq_true rfl) dL_law_1056 ⟨hb373.1, hb373.2⟩) (fun a374 hq => ?_)
                                                              replace h := hq
                                                              refine v_icmp_eq (pc := 1059) cx dL_law_1059 (tgt := 1064) rfl (fun c375 => ?_) (fun c375 => ?_)
                                                              · replace h := h.1 c375
                                                                refine nm_x (x3 + (6 : Int32)) (fun z376 ez376 => ?_)
                                                                replace h := h z376 ez376
                                                                refine v_iinc (pc := 1064) cx dL_law_1064 (q := 3) rfl ((ii_6 _).trans ez376.symm) (Nat.le_of_ble_eq_true rfl) (lv' := [(3, .int z376), (0, .ref b0), (1, .ref (sz0 + 0)), (2, .ref (sz0 + 5444))]) rfl ?_
                                                                refine v_goto (pc := 1067) cx dL_law_1067 (tgt := 18) rfl ?_
                                                                refine v_sub (lv' := [(0, .ref b0), (1, .ref (sz0 + 0)), (2, .ref (sz0 + 5444)), (3, .int z376)]) [1, 2, 3, 0] rfl ?_
                                                                exact ih z376 M sh (((kc + 0) + 0)) (((ks + 0) + 0)) h
                                                              · replace h := h.2 c375
                                                                refine v_iconst (pc := 1062) cx dL_law_1062 ic_0 ?_
                                                                obtain ⟨q377, h⟩ := h
                                                                exact v_lawret cx hxs.2.2.1 dL_law_1063 q377 h
                                                            · replace h := h.2 c368
                                                              refine v_tswD cx (vals := [(0 : Int32), (1 : Int32), (2 : Int32), (3 : Int32), (4 : Int32), (5 : Int32), (6 : Int32), (7 : Int32), (8 : Int32), (9 : Int32), (10 : Int32), (11 : Int32), (12 : Int32), (13 : Int32), (14 : Int32), (15 : Int32), (16 : Int32), (17 : Int32), (18 : Int32), (19 : Int32), (20 : Int32), (21 : Int32), (22 : Int32), (23 : Int32), (24 : Int32), (25 : Int32), (26 : Int32), (27 : Int32)]) (tgt := 1064) dL_law_33 (List.forall_mem_cons.mpr ⟨c5, List.forall_mem_cons.mpr ⟨c25, List.forall_mem_cons.mpr ⟨c41, List.forall_mem_cons.mpr ⟨c45, List.forall_mem_cons.mpr ⟨c59, List.forall_mem_cons.mpr ⟨c71, List.forall_mem_cons.mpr ⟨c84, List.forall_mem_cons.mpr ⟨c100, List.forall_mem_cons.mpr ⟨c116, List.forall_mem_cons.mpr ⟨c130, List.forall_mem_cons.mpr ⟨c144, List.forall_mem_cons.mpr ⟨c156, List.forall_mem_cons.mpr ⟨c166, List.forall_mem_cons.mpr ⟨c178, List.forall_mem_cons.mpr ⟨c190, List.forall_mem_cons.mpr ⟨c202, List.forall_mem_cons.mpr ⟨c218, List.forall_mem_cons.mpr ⟨c232, List.forall_mem_cons.mpr ⟨c246, List.forall_mem_cons.mpr ⟨c260, List.forall_mem_cons.mpr ⟨c274, List.forall_mem_cons.mpr ⟨c290, List.forall_mem_cons.mpr ⟨c302, List.forall_mem_cons.mpr ⟨c316, List.forall_mem_cons.mpr ⟨c328, List.forall_mem_cons.mpr ⟨c344, List.forall_mem_cons.mpr ⟨c354, List.forall_mem_cons.mpr ⟨c368, fun _ h9 => absurd h9 List.not_mem_nil⟩⟩⟩⟩⟩⟩⟩⟩⟩⟩⟩⟩⟩⟩⟩⟩⟩⟩⟩⟩⟩⟩⟩⟩⟩⟩⟩⟩) (by decide +kernel) ⟨by decide, by decide⟩ rfl ?_
                                                              refine nm_x (x3 + (6 : Int32)) (fun z378 ez378 => ?_)
                                                              replace h := h z378 ez378
                                                              refine v_iinc (pc := 1064) cx dL_law_1064 (q := 3) rfl ((ii_6 _).trans ez378.symm) (Nat.le_of_ble_eq_true rfl) (lv' := [(3, .int z378), (0, .ref b0), (1, .ref (sz0 + 0)), (2, .ref (sz0 + 5444))]) rfl ?_
                                                              refine v_goto (pc := 1067) cx dL_law_1067 (tgt := 18) rfl ?_
                                                              refine v_sub (lv' := [(0, .ref b0), (1, .ref (sz0 + 0)), (2, .ref (sz0 + 5444)), (3, .int z378)]) [1, 2, 3, 0] rfl ?_
                                                              exact ih z378 M sh kc ks h
def m_L_law (L0 : Nat) (xs : Nat → Int32) (M : WM) (Q : Int32 → WM → Prop) : Prop := ((0 + 1 ≤ 600000 ∧ 0 + 33 ≤ 7302250) ∧ (∀ r2, r2 = wn M → (∀ M3 : WM, M3 = wNw M 0 0 → (∃ mc4 ms5, (0 + 1) + mc4 ≤ 600000 ∧ (0 + 33) + ms5 ≤ 7302250 ∧ (m_X0_init r2 M3 mc4 ms5 (fun (M7 : WM) => ((((0 + 1) + mc4) + 1 ≤ 600000 ∧ ((0 + 33) + ms5) + 54 ≤ 7302250) ∧ (∀ r9, r9 = wn M7 → (∀ M10 : WM, M10 = wNw M7 5 0 → (∃ mc11 ms12, (((0 + 1) + mc4) + 1) + mc11 ≤ 600000 ∧ (((0 + 33) + ms5) + 54) + ms12 ≤ 7302250 ∧ (m_X6_init r9 M10 mc11 ms12 (fun (M14 : WM) => (r2 = 0 ∧ r9 = 5444 ∧ Shp M14 ∧ (∃ n0, m_L_law_l18 L0 xs  Q n0 ((0 : Int32)) M14 (((((0 + 1) + mc4) + 1) + mc11)) (((((0 + 33) + ms5) + 54) + ms12))))))))))))))))
set_option maxHeartbeats 20000000 in
theorem w_L_law {p : Program} {l : Launch} {e : Env} {s : State} {m : MethodId} {b0 : Nat} {below : List Frame} {meth : Method} {c : Code} {D : va_G} {cA : Nat → ClassId} {sz0 : Nat} {H0 : Heap} {L0 : Nat} {xs : Nat → Int32} {Q : Int32 → WM → Prop} (cx : Cx p s m #[Value.ref b0] meth c cL_law 4 RL (some .boolean) D cA sz0 H0) (hL0 : L0 ≤ 384) (hxs : Scr s sz0 b0 L0 xs) (M : WM) (h : m_L_law L0 xs M Q) : V p l e room_1 s m #[Value.ref b0] below meth c 4 D cA sz0 H0 0 0 (lw_Z below #[Value.ref b0] s) 0 [(0, .ref b0)] [] M := by
  replace h : ((0 + 1 ≤ 600000 ∧ 0 + 33 ≤ 7302250) ∧ (∀ r2, r2 = wn M → (∀ M3 : WM, M3 = wNw M 0 0 → (∃ mc4 ms5, (0 + 1) + mc4 ≤ 600000 ∧ (0 + 33) + ms5 ≤ 7302250 ∧ (m_X0_init r2 M3 mc4 ms5 (fun (M7 : WM) => ((((0 + 1) + mc4) + 1 ≤ 600000 ∧ ((0 + 33) + ms5) + 54 ≤ 7302250) ∧ (∀ r9, r9 = wn M7 → (∀ M10 : WM, M10 = wNw M7 5 0 → (∃ mc11 ms12, (((0 + 1) + mc4) + 1) + mc11 ≤ 600000 ∧ (((0 + 33) + ms5) + 54) + ms12 ≤ 7302250 ∧ (m_X6_init r9 M10 mc11 ms12 (fun (M14 : WM) => (r2 = 0 ∧ r9 = 5444 ∧ Shp M14 ∧ (∃ n0, m_L_law_l18 L0 xs  Q n0 ((0 : Int32)) M14 (((((0 + 1) + mc4) + 1) + mc11)) (((((0 + 33) + ms5) + 54) + ms12)))))))))))))))) := h
  obtain ⟨q1, h⟩ := h
  refine v_new (pc := 0) cx cl_X0 (by decide) in_X0 tyX0 tyX0_ok q145 q146 q121 df_X0 q1.1 q1.2 dL_law_0 ?_
  refine v_topr (fun r2 er2 => ?_)
  replace h := h r2 er2
  refine v_wld (fun M3 eM3 => ?_)
  replace h := h M3 eM3
  refine v_dup (pc := 3) cx dL_law_3 rfl ?_
  obtain ⟨mc4, ms5, hmc, hms, h⟩ := h
  refine v_run_v (pc := 4) cx (kcq147_L cx (c_X0_init l D cA sz0 H0 M3 r2  mc4 ms5 _ h) ⟨Nat.le_of_ble_eq_true rfl, Nat.le_of_ble_eq_true rfl⟩ (As := []) rfl rfl (Nat.le_of_ble_eq_true rfl) dL_law_4 ⟨hmc, hms⟩) (fun M7 hq => ?_)
  replace h := hq
  refine v_astore_n (pc := 7) cx dL_law_7 rfl (Nat.le_of_ble_eq_true rfl) (lv' := [(1, .ref (sz0 + r2)), (0, .ref b0)]) rfl ?_
  obtain ⟨q8, h⟩ := h
  refine v_new (pc := 8) cx cl_X6 (by decide) in_X6 tyX6 tyX6_ok q1011 q1012 q127 df_X6 q8.1 q8.2 dL_law_8 ?_
  refine v_topr (fun r9 er9 => ?_)
  replace h := h r9 er9
  refine v_wld (fun M10 eM10 => ?_)
  replace h := h M10 eM10
  refine v_dup (pc := 11) cx dL_law_11 rfl ?_
  obtain ⟨mc11, ms12, hmc, hms, h⟩ := h
  refine v_run_v (pc := 12) cx (kcq1013_L cx (c_X6_init l D cA sz0 H0 M10 r9  mc11 ms12 _ h) ⟨Nat.le_of_ble_eq_true rfl, Nat.le_of_ble_eq_true rfl⟩ (As := []) rfl rfl (Nat.le_of_ble_eq_true rfl) dL_law_12 ⟨hmc, hms⟩) (fun M14 hq => ?_)
  replace h := hq
  refine v_astore_n (pc := 15) cx dL_law_15 rfl (Nat.le_of_ble_eq_true rfl) (lv' := [(2, .ref (sz0 + r9)), (1, .ref (sz0 + r2)), (0, .ref b0)]) rfl ?_
  refine v_iconst (pc := 16) cx dL_law_16 ic_0 ?_
  refine v_istore_n (pc := 17) cx dL_law_17 rfl (Nat.le_of_ble_eq_true rfl) (lv' := [(3, .int (0 : Int32)), (2, .ref (sz0 + r9)), (1, .ref (sz0 + r2)), (0, .ref b0)]) rfl ?_
  obtain ⟨g1, g2, sh, h⟩ := h
  subst g1
  subst g2
  refine v_sub (lv' := [(0, .ref b0), (1, .ref (sz0 + 0)), (2, .ref (sz0 + 5444)), (3, .int (0 : Int32))]) [3, 2, 1, 0] rfl ?_
  obtain ⟨n0, h⟩ := h
  exact w_L_law_l18 cx hL0 hxs n0 ((0 : Int32)) M14 sh (((((0 + 1) + mc4) + 1) + mc11)) (((((0 + 33) + ms5) + 54) + ms12)) h
