set_option maxRecDepth 100000
theorem ic_m1 : Int32.ofInt (-1) = ((-1) : Int32) := by decide
theorem ic_0 : Int32.ofInt 0 = (0 : Int32) := by decide
theorem ic_1 : Int32.ofInt 1 = (1 : Int32) := by decide
theorem ii_1 (x : Int32) : x + Int32.ofInt 1 = x + (1 : Int32) := by rw [show Int32.ofInt 1 = (1 : Int32) by decide]
theorem sc_255 : (Int16.ofInt 255).toInt32 = (255 : Int32) := by decide
theorem hd_J0_indexOf_2 : yJ0_indexOf_2.cls ≠ "java/lang/invoke/MethodHandle" ∧ yJ0_indexOf_2.cls ≠ "java/lang/invoke/VarHandle" ∧ (parseMethodDescriptor yJ0_indexOf_2.desc).map (fun d => d.parameters.length) = some 2 := by decide +kernel
theorem kcq536_J0 {p : Program} {l : Launch} {e : Env} {R : Room} {s : State} {m : MethodId} {args : Array Value} {below : List Frame} {meth : Method} {c : Code} {cells slots : Nat}  {cc : ByteArray} {nL : Nat} {ret : Option FieldType} {D : va_G} {cA : Nat → ClassId} {sz0 : Nat} {H0 : Heap} {pc : Nat} {lv : List (Nat × Value)} {st : List Value} {M : WM}  {mc ms fr lo : Nat} {st0 As : List Value} {Qc : Array Value → State → Outcome → State → Prop} (cx : Cx p s m args meth c cc nL RJ0 ret D cA sz0 H0) (hM : Met l yJ0_indexOf_2 (ws_ yJ0_indexOf_2 cJ0_indexOf_2 3 (some .int)) ({ frames := fr, cells := mc, slots := ms, locals := lo } : Room) (PcW D cA sz0 H0 (.ref (aS D) :: As) M) Qc mc ms (Aw sz0)) (hR : fr + 1 ≤ R.frames ∧ 8 + (3 + 11) + lo ≤ R.locals) (hn : As.length = 2) (hst : st0 = As.reverse ++ .ref (aS D) :: st) (hcat : (st.map fun v => v.category).sum ≤ 8) (d : decode cc pc = .ok (.invokevirtual 633, 3)) (hb : cells + mc ≤ R.cells ∧ slots + ms ≤ R.slots) : ∀ (ls : Array Slot) (H : Heap) (locs : List Loc), lv_has ls nL lv → Wd D cA sz0 H0 M H → va_S (Aw sz0) s.heap H locs → va_Run p l e R s m args below meth c H locs cells slots mc ms (F0 m pc ls st0) st (Qc (Value.ref (aS D) :: As).toArray) (Aw sz0) := r_VS cx hM q536 q537 q538 q132 q539 rfl hd_J0_indexOf_2 hR hn hst hcat d hb
theorem hd_J0_isLatin1 : yJ0_isLatin1.cls ≠ "java/lang/invoke/MethodHandle" ∧ yJ0_isLatin1.cls ≠ "java/lang/invoke/VarHandle" ∧ (parseMethodDescriptor yJ0_isLatin1.desc).map (fun d => d.parameters.length) = some 0 := by decide +kernel
theorem kcq540_J0 {p : Program} {l : Launch} {e : Env} {R : Room} {s : State} {m : MethodId} {args : Array Value} {below : List Frame} {meth : Method} {c : Code} {cells slots : Nat}  {cc : ByteArray} {nL : Nat} {ret : Option FieldType} {D : va_G} {cA : Nat → ClassId} {sz0 : Nat} {H0 : Heap} {pc : Nat} {lv : List (Nat × Value)} {st : List Value} {M : WM}  {mc ms fr lo : Nat} {st0 As : List Value} {Qc : Array Value → State → Outcome → State → Prop} (cx : Cx p s m args meth c cc nL RJ0 ret D cA sz0 H0) (hM : Met l yJ0_isLatin1 (ws_ yJ0_isLatin1 cJ0_isLatin1 1 (some .boolean)) ({ frames := fr, cells := mc, slots := ms, locals := lo } : Room) (PcW D cA sz0 H0 (.ref (aS D) :: As) M) Qc mc ms (Aw sz0)) (hR : fr + 1 ≤ R.frames ∧ 8 + (1 + 11) + lo ≤ R.locals) (hn : As.length = 0) (hst : st0 = As.reverse ++ .ref (aS D) :: st) (hcat : (st.map fun v => v.category).sum ≤ 8) (d : decode cc pc = .ok (.invokevirtual 492, 3)) (hb : cells + mc ≤ R.cells ∧ slots + ms ≤ R.slots) : ∀ (ls : Array Slot) (H : Heap) (locs : List Loc), lv_has ls nL lv → Wd D cA sz0 H0 M H → va_S (Aw sz0) s.heap H locs → va_Run p l e R s m args below meth c H locs cells slots mc ms (F0 m pc ls st0) st (Qc (Value.ref (aS D) :: As).toArray) (Aw sz0) := r_VS cx hM q540 q541 q542 q132 q543 rfl hd_J0_isLatin1 hR hn hst hcat d hb
theorem hd_J0_length : yJ0_length.cls ≠ "java/lang/invoke/MethodHandle" ∧ yJ0_length.cls ≠ "java/lang/invoke/VarHandle" ∧ (parseMethodDescriptor yJ0_length.desc).map (fun d => d.parameters.length) = some 0 := by decide +kernel
theorem kcq546_J0 {p : Program} {l : Launch} {e : Env} {R : Room} {s : State} {m : MethodId} {args : Array Value} {below : List Frame} {meth : Method} {c : Code} {cells slots : Nat}  {cc : ByteArray} {nL : Nat} {ret : Option FieldType} {D : va_G} {cA : Nat → ClassId} {sz0 : Nat} {H0 : Heap} {pc : Nat} {lv : List (Nat × Value)} {st : List Value} {M : WM}  {mc ms fr lo : Nat} {st0 As : List Value} {Qc : Array Value → State → Outcome → State → Prop} (cx : Cx p s m args meth c cc nL RJ0 ret D cA sz0 H0) (hM : Met l yJ0_length (ws_ yJ0_length cJ0_length 1 (some .int)) ({ frames := fr, cells := mc, slots := ms, locals := lo } : Room) (PcW D cA sz0 H0 (.ref (aS D) :: As) M) Qc mc ms (Aw sz0)) (hR : fr + 1 ≤ R.frames ∧ 8 + (1 + 11) + lo ≤ R.locals) (hn : As.length = 0) (hst : st0 = As.reverse ++ .ref (aS D) :: st) (hcat : (st.map fun v => v.category).sum ≤ 8) (d : decode cc pc = .ok (.invokevirtual 505, 3)) (hb : cells + mc ≤ R.cells ∧ slots + ms ≤ R.slots) : ∀ (ls : Array Slot) (H : Heap) (locs : List Loc), lv_has ls nL lv → Wd D cA sz0 H0 M H → va_S (Aw sz0) s.heap H locs → va_Run p l e R s m args below meth c H locs cells slots mc ms (F0 m pc ls st0) st (Qc (Value.ref (aS D) :: As).toArray) (Aw sz0) := r_VS cx hM q546 q547 q548 q132 q549 rfl hd_J0_length hR hn hst hcat d hb
theorem hd_J0_coder : yJ0_coder.cls ≠ "java/lang/invoke/MethodHandle" ∧ yJ0_coder.cls ≠ "java/lang/invoke/VarHandle" ∧ (parseMethodDescriptor yJ0_coder.desc).map (fun d => d.parameters.length) = some 0 := by decide +kernel
theorem kcq550_J0 {p : Program} {l : Launch} {e : Env} {R : Room} {s : State} {m : MethodId} {args : Array Value} {below : List Frame} {meth : Method} {c : Code} {cells slots : Nat}  {cc : ByteArray} {nL : Nat} {ret : Option FieldType} {D : va_G} {cA : Nat → ClassId} {sz0 : Nat} {H0 : Heap} {pc : Nat} {lv : List (Nat × Value)} {st : List Value} {M : WM}  {mc ms fr lo : Nat} {st0 As : List Value} {Qc : Array Value → State → Outcome → State → Prop} (cx : Cx p s m args meth c cc nL RJ0 ret D cA sz0 H0) (hM : Met l yJ0_coder (ws_ yJ0_coder cJ0_coder 1 (some .byte)) ({ frames := fr, cells := mc, slots := ms, locals := lo } : Room) (PcW D cA sz0 H0 (.ref (aS D) :: As) M) Qc mc ms (Aw sz0)) (hR : fr + 1 ≤ R.frames ∧ 8 + (1 + 11) + lo ≤ R.locals) (hn : As.length = 0) (hst : st0 = As.reverse ++ .ref (aS D) :: st) (hcat : (st.map fun v => v.category).sum ≤ 8) (d : decode cc pc = .ok (.invokevirtual 335, 3)) (hb : cells + mc ≤ R.cells ∧ slots + ms ≤ R.slots) : ∀ (ls : Array Slot) (H : Heap) (locs : List Loc), lv_has ls nL lv → Wd D cA sz0 H0 M H → va_S (Aw sz0) s.heap H locs → va_Run p l e R s m args below meth c H locs cells slots mc ms (F0 m pc ls st0) st (Qc (Value.ref (aS D) :: As).toArray) (Aw sz0) := r_VS cx hM q550 q551 q552 q132 q553 rfl hd_J0_coder hR hn hst hcat d hb
theorem hd_J1_indexOf : yJ1_indexOf.cls ≠ "java/lang/invoke/MethodHandle" ∧ yJ1_indexOf.cls ≠ "java/lang/invoke/VarHandle" ∧ (parseMethodDescriptor yJ1_indexOf.desc).map (fun d => d.parameters.length) = some 4 := by decide +kernel
theorem kcq554_J0 {p : Program} {l : Launch} {e : Env} {R : Room} {s : State} {m : MethodId} {args : Array Value} {below : List Frame} {meth : Method} {c : Code} {cells slots : Nat}  {cc : ByteArray} {nL : Nat} {ret : Option FieldType} {D : va_G} {cA : Nat → ClassId} {sz0 : Nat} {H0 : Heap} {pc : Nat} {lv : List (Nat × Value)} {st : List Value} {M : WM}  {mc ms fr lo : Nat} {st0 As : List Value} {Qc : Array Value → State → Outcome → State → Prop} (cx : Cx p s m args meth c cc nL RJ0 ret D cA sz0 H0) (hM : Met l yJ1_indexOf (ws_ yJ1_indexOf cJ1_indexOf 4 (some .int)) ({ frames := fr, cells := mc, slots := ms, locals := lo } : Room) (PcW D cA sz0 H0 As M) Qc mc ms (Aw sz0)) (hR : fr + 1 ≤ R.frames ∧ 8 + (4 + 11) + lo ≤ R.locals) (hn : As.length = 4) (hst : st0 = As.reverse ++ st) (hcat : (st.map fun v => v.category).sum ≤ 8) (d : decode cc pc = .ok (.invokestatic 637, 3)) (hb : cells + mc ≤ R.cells ∧ slots + ms ≤ R.slots) : ∀ (ls : Array Slot) (H : Heap) (locs : List Loc), lv_has ls nL lv → Wd D cA sz0 H0 M H → va_S (Aw sz0) s.heap H locs → va_Run p l e R s m args below meth c H locs cells slots mc ms (F0 m pc ls st0) st (Qc As.toArray) (Aw sz0) := r_S cx hM q554 q555 q133 q556 hd_J1_indexOf hR hn hst hcat d hb
theorem hd_J1_canEncode : yJ1_canEncode.cls ≠ "java/lang/invoke/MethodHandle" ∧ yJ1_canEncode.cls ≠ "java/lang/invoke/VarHandle" ∧ (parseMethodDescriptor yJ1_canEncode.desc).map (fun d => d.parameters.length) = some 1 := by decide +kernel
theorem kcq557_J1 {p : Program} {l : Launch} {e : Env} {R : Room} {s : State} {m : MethodId} {args : Array Value} {below : List Frame} {meth : Method} {c : Code} {cells slots : Nat}  {cc : ByteArray} {nL : Nat} {ret : Option FieldType} {D : va_G} {cA : Nat → ClassId} {sz0 : Nat} {H0 : Heap} {pc : Nat} {lv : List (Nat × Value)} {st : List Value} {M : WM}  {mc ms fr lo : Nat} {st0 As : List Value} {Qc : Array Value → State → Outcome → State → Prop} (cx : Cx p s m args meth c cc nL RJ1 ret D cA sz0 H0) (hM : Met l yJ1_canEncode (ws_ yJ1_canEncode cJ1_canEncode 1 (some .boolean)) ({ frames := fr, cells := mc, slots := ms, locals := lo } : Room) (PcW D cA sz0 H0 As M) Qc mc ms (Aw sz0)) (hR : fr + 1 ≤ R.frames ∧ 8 + (1 + 11) + lo ≤ R.locals) (hn : As.length = 1) (hst : st0 = As.reverse ++ st) (hcat : (st.map fun v => v.category).sum ≤ 8) (d : decode cc pc = .ok (.invokestatic 88, 3)) (hb : cells + mc ≤ R.cells ∧ slots + ms ≤ R.slots) : ∀ (ls : Array Slot) (H : Heap) (locs : List Loc), lv_has ls nL lv → Wd D cA sz0 H0 M H → va_S (Aw sz0) s.heap H locs → va_Run p l e R s m args below meth c H locs cells slots mc ms (F0 m pc ls st0) st (Qc As.toArray) (Aw sz0) := r_S cx hM q557 q558 q133 q559 hd_J1_canEncode hR hn hst hcat d hb
theorem hd_J1_indexOfChar : yJ1_indexOfChar.cls ≠ "java/lang/invoke/MethodHandle" ∧ yJ1_indexOfChar.cls ≠ "java/lang/invoke/VarHandle" ∧ (parseMethodDescriptor yJ1_indexOfChar.desc).map (fun d => d.parameters.length) = some 4 := by decide +kernel
theorem kcq566_J1 {p : Program} {l : Launch} {e : Env} {R : Room} {s : State} {m : MethodId} {args : Array Value} {below : List Frame} {meth : Method} {c : Code} {cells slots : Nat}  {cc : ByteArray} {nL : Nat} {ret : Option FieldType} {D : va_G} {cA : Nat → ClassId} {sz0 : Nat} {H0 : Heap} {pc : Nat} {lv : List (Nat × Value)} {st : List Value} {M : WM}  {mc ms fr lo : Nat} {st0 As : List Value} {Qc : Array Value → State → Outcome → State → Prop} (cx : Cx p s m args meth c cc nL RJ1 ret D cA sz0 H0) (hM : Met l yJ1_indexOfChar (ws_ yJ1_indexOfChar cJ1_indexOfChar 6 (some .int)) ({ frames := fr, cells := mc, slots := ms, locals := lo } : Room) (PcW D cA sz0 H0 As M) Qc mc ms (Aw sz0)) (hR : fr + 1 ≤ R.frames ∧ 8 + (6 + 11) + lo ≤ R.locals) (hn : As.length = 4) (hst : st0 = As.reverse ++ st) (hcat : (st.map fun v => v.category).sum ≤ 8) (d : decode cc pc = .ok (.invokestatic 95, 3)) (hb : cells + mc ≤ R.cells ∧ slots + ms ≤ R.slots) : ∀ (ls : Array Slot) (H : Heap) (locs : List Loc), lv_has ls nL lv → Wd D cA sz0 H0 M H → va_S (Aw sz0) s.heap H locs → va_Run p l e R s m args below meth c H locs cells slots mc ms (F0 m pc ls st0) st (Qc As.toArray) (Aw sz0) := r_S cx hM q566 q567 q133 q568 hd_J1_indexOfChar hR hn hst hcat d hb
/-! java/lang/String.isLatin1()Z -/
def m_J0_isLatin1    (Q : Int32 → Prop) : Prop := (((1 : Int32) = 0 → Q ((0 : Int32))) ∧ (¬ (1 : Int32) = 0 → (((0 : Int32) = 0 → Q ((1 : Int32))) ∧ (¬ (0 : Int32) = 0 → Q ((0 : Int32))))))
theorem c_J0_isLatin1 (l : Launch) (D : va_G) (cA : Nat → ClassId) (sz0 : Nat) (H0 : Heap) (M : WM)    (Q : Int32 → Prop)  (h : m_J0_isLatin1    Q) : Met l yJ0_isLatin1 (ws_ yJ0_isLatin1 cJ0_isLatin1 1 (some .boolean)) ({ frames := 0, cells := 0, slots := 0, locals := 0 } : Room) (PcW D cA sz0 H0 [.ref (aS D)] M) (QW_i D cA sz0 H0 (fun r M' => M' = M ∧ Q r)) 0 0 (Aw sz0) := by
  replace h : (((1 : Int32) = 0 → Q ((0 : Int32))) ∧ (¬ (1 : Int32) = 0 → (((0 : Int32) = 0 → Q ((1 : Int32))) ∧ (¬ (0 : Int32) = 0 → Q ((0 : Int32)))))) := h
  refine Met.ofV (by decide +kernel) (Nat.le_of_ble_eq_true rfl) ?_
  intro p e s m args below meth c cx hnm
  replace cx : Cx p s m args meth c cJ0_isLatin1 1 RJ0 (some .boolean) D cA sz0 H0 := cx
  refine v_sub (lv' := [(0, .ref (aS D))]) [0] rfl ?_
  refine v_sComp (pc := 0) cx q544 dJ0_isLatin1_0 ?_
  refine v_if_eq (pc := 3) cx dJ0_isLatin1_3 (tgt := 17) rfl (fun c1 => ?_) (fun c1 => ?_)
  · replace h := h.1 c1
    refine v_iconst (pc := 17) cx dJ0_isLatin1_17 ic_0 ?_
    exact v_zret cx rfl (Or.inl rfl) dJ0_isLatin1_18 ⟨Nat.le_of_ble_eq_true rfl, Nat.le_of_ble_eq_true rfl⟩ ⟨rfl, h⟩
  · replace h := h.2 c1
    refine v_aload_n (pc := 6) cx dJ0_isLatin1_6 rfl 0 rfl ?_
    refine v_sCoder (pc := 7) cx q1606 dJ0_isLatin1_7 ?_
    refine v_if_ne (pc := 10) cx dJ0_isLatin1_10 (tgt := 17) rfl (fun c2 => ?_) (fun c2 => ?_)
    · replace h := h.2 c2
      refine v_iconst (pc := 17) cx dJ0_isLatin1_17 ic_0 ?_
      exact v_zret cx rfl (Or.inl rfl) dJ0_isLatin1_18 ⟨Nat.le_of_ble_eq_true rfl, Nat.le_of_ble_eq_true rfl⟩ ⟨rfl, h⟩
    · replace h := h.1 c2
      refine v_iconst (pc := 13) cx dJ0_isLatin1_13 ic_1 ?_
      refine v_goto (pc := 14) cx dJ0_isLatin1_14 (tgt := 18) rfl ?_
      exact v_zret cx rfl (Or.inr rfl) dJ0_isLatin1_18 ⟨Nat.le_of_ble_eq_true rfl, Nat.le_of_ble_eq_true rfl⟩ ⟨rfl, h⟩
/-! java/lang/String.coder()B -/
def m_J0_coder    (Q : Int32 → Prop) : Prop := (((1 : Int32) = 0 → Q ((1 : Int32))) ∧ (¬ (1 : Int32) = 0 → Q ((0 : Int32))))
theorem c_J0_coder (l : Launch) (D : va_G) (cA : Nat → ClassId) (sz0 : Nat) (H0 : Heap) (M : WM)    (Q : Int32 → Prop)  (h : m_J0_coder    Q) : Met l yJ0_coder (ws_ yJ0_coder cJ0_coder 1 (some .byte)) ({ frames := 0, cells := 0, slots := 0, locals := 0 } : Room) (PcW D cA sz0 H0 [.ref (aS D)] M) (QW_i D cA sz0 H0 (fun r M' => M' = M ∧ Q r)) 0 0 (Aw sz0) := by
  replace h : (((1 : Int32) = 0 → Q ((1 : Int32))) ∧ (¬ (1 : Int32) = 0 → Q ((0 : Int32)))) := h
  refine Met.ofV (by decide +kernel) (Nat.le_of_ble_eq_true rfl) ?_
  intro p e s m args below meth c cx hnm
  replace cx : Cx p s m args meth c cJ0_coder 1 RJ0 (some .byte) D cA sz0 H0 := cx
  refine v_sub (lv' := [(0, .ref (aS D))]) [0] rfl ?_
  refine v_sComp (pc := 0) cx q544 dJ0_coder_0 ?_
  refine v_if_eq (pc := 3) cx dJ0_coder_3 (tgt := 13) rfl (fun c1 => ?_) (fun c1 => ?_)
  · replace h := h.1 c1
    refine v_iconst (pc := 13) cx dJ0_coder_13 ic_1 ?_
    exact v_nret cx rfl rfl dJ0_coder_14 ⟨Nat.le_of_ble_eq_true rfl, Nat.le_of_ble_eq_true rfl⟩ ⟨rfl, h⟩
  · replace h := h.2 c1
    refine v_aload_n (pc := 6) cx dJ0_coder_6 rfl 0 rfl ?_
    refine v_sCoder (pc := 7) cx q1606 dJ0_coder_7 ?_
    refine v_goto (pc := 10) cx dJ0_coder_10 (tgt := 14) rfl ?_
    exact v_nret cx rfl rfl dJ0_coder_14 ⟨Nat.le_of_ble_eq_true rfl, Nat.le_of_ble_eq_true rfl⟩ ⟨rfl, h⟩
/-! java/lang/String.length()I -/
def m_J0_length    (Q : Int32 → Prop) : Prop := (m_J0_coder  (fun (a1 : Int32) => Q (((9 : Int32) >>> (a1 &&& 31)))))
theorem c_J0_length (l : Launch) (D : va_G) (cA : Nat → ClassId) (sz0 : Nat) (H0 : Heap) (M : WM)    (Q : Int32 → Prop)  (h : m_J0_length    Q) : Met l yJ0_length (ws_ yJ0_length cJ0_length 1 (some .int)) ({ frames := 1, cells := 0, slots := 0, locals := 20 } : Room) (PcW D cA sz0 H0 [.ref (aS D)] M) (QW_i D cA sz0 H0 (fun r M' => M' = M ∧ Q r)) 0 0 (Aw sz0) := by
  replace h : (m_J0_coder  (fun (a1 : Int32) => Q (((9 : Int32) >>> (a1 &&& 31))))) := h
  refine Met.ofV (by decide +kernel) (Nat.le_of_ble_eq_true rfl) ?_
  intro p e s m args below meth c cx hnm
  replace cx : Cx p s m args meth c cJ0_length 1 RJ0 (some .int) D cA sz0 H0 := cx
  refine v_sub (lv' := [(0, .ref (aS D))]) [0] rfl ?_
  refine v_aload_n (pc := 0) cx dJ0_length_0 rfl 0 rfl ?_
  refine v_sValue (pc := 1) cx q1607 dJ0_length_1 ?_
  refine v_sLen (pc := 4) cx dJ0_length_4 ?_
  refine v_aload_n (pc := 5) cx dJ0_length_5 rfl 0 rfl ?_
  refine v_runp_i (pc := 6) cx (kcq550_J0 cx (c_J0_coder l D cA sz0 H0 M   _ h) ⟨Nat.le_of_ble_eq_true rfl, Nat.le_of_ble_eq_true rfl⟩ (As := []) rfl rfl (Nat.le_of_ble_eq_true rfl) dJ0_length_6 ⟨Nat.le_of_ble_eq_true rfl, Nat.le_of_ble_eq_true rfl⟩) (fun a1 hq => ?_)
  replace h := hq
  refine v_ishr (pc := 9) cx dJ0_length_9 ?_
  exact v_iret cx rfl dJ0_length_10 ⟨Nat.le_of_ble_eq_true rfl, Nat.le_of_ble_eq_true rfl⟩ ⟨rfl, h⟩
/-! java/lang/StringLatin1.canEncode(I)Z -/
def m_J1_canEncode (x0 : Int32)   (Q : Int32 → Prop) : Prop := ((x0 < 0 → Q ((0 : Int32))) ∧ (¬ x0 < 0 → (((255 : Int32) < x0 → Q ((0 : Int32))) ∧ (¬ (255 : Int32) < x0 → Q ((1 : Int32))))))
theorem c_J1_canEncode (l : Launch) (D : va_G) (cA : Nat → ClassId) (sz0 : Nat) (H0 : Heap) (M : WM) (x0 : Int32)   (Q : Int32 → Prop)  (h : m_J1_canEncode x0   Q) : Met l yJ1_canEncode (ws_ yJ1_canEncode cJ1_canEncode 1 (some .boolean)) ({ frames := 0, cells := 0, slots := 0, locals := 0 } : Room) (PcW D cA sz0 H0 [.int x0] M) (QW_i D cA sz0 H0 (fun r M' => M' = M ∧ Q r)) 0 0 (Aw sz0) := by
  replace h : ((x0 < 0 → Q ((0 : Int32))) ∧ (¬ x0 < 0 → (((255 : Int32) < x0 → Q ((0 : Int32))) ∧ (¬ (255 : Int32) < x0 → Q ((1 : Int32)))))) := h
  refine Met.ofV (by decide +kernel) (Nat.le_of_ble_eq_true rfl) ?_
  intro p e s m args below meth c cx hnm
  replace cx : Cx p s m args meth c cJ1_canEncode 1 RJ1 (some .boolean) D cA sz0 H0 := cx
  refine v_sub (lv' := [(0, .int x0)]) [0] rfl ?_
  refine v_iload_n (pc := 0) cx dJ1_canEncode_0 rfl 0 rfl ?_
  refine v_if_lt (pc := 1) cx dJ1_canEncode_1 (tgt := 15) rfl (fun c1 => ?_) (fun c1 => ?_)
  · replace h := h.1 c1
    refine v_iconst (pc := 15) cx dJ1_canEncode_15 ic_0 ?_
    exact v_zret cx rfl (Or.inl rfl) dJ1_canEncode_16 ⟨Nat.le_of_ble_eq_true rfl, Nat.le_of_ble_eq_true rfl⟩ ⟨rfl, h⟩
  · replace h := h.2 c1
    refine v_iload_n (pc := 4) cx dJ1_canEncode_4 rfl 0 rfl ?_
    refine v_sipush (pc := 5) cx dJ1_canEncode_5 sc_255 ?_
    refine v_icmp_gt (pc := 8) cx dJ1_canEncode_8 (tgt := 15) rfl (fun c2 => ?_) (fun c2 => ?_)
    · replace h := h.1 c2
      refine v_iconst (pc := 15) cx dJ1_canEncode_15 ic_0 ?_
      exact v_zret cx rfl (Or.inl rfl) dJ1_canEncode_16 ⟨Nat.le_of_ble_eq_true rfl, Nat.le_of_ble_eq_true rfl⟩ ⟨rfl, h⟩
    · replace h := h.2 c2
      refine v_iconst (pc := 11) cx dJ1_canEncode_11 ic_1 ?_
      refine v_goto (pc := 12) cx dJ1_canEncode_12 (tgt := 16) rfl ?_
      exact v_zret cx rfl (Or.inr rfl) dJ1_canEncode_16 ⟨Nat.le_of_ble_eq_true rfl, Nat.le_of_ble_eq_true rfl⟩ ⟨rfl, h⟩
/-! java/lang/StringLatin1.indexOfChar([BIII)I -/
def m_J1_indexOfChar_l7   (x3 : Int32) (x4 : Int32)   (Q : Int32 → Prop) : Nat → Int32 → Prop
  | 0, _ => False
  | n + 1, x5 => ((x3 ≤ x5 → Q (((-1) : Int32))) ∧ (¬ x3 ≤ x5 → (vp_in x5 9 ∧ (((sB x5.toNatClampNeg) = x4 → Q x5) ∧ (¬ (sB x5.toNatClampNeg) = x4 → (∀ z4 : Int32, z4 = x5 + (1 : Int32) → m_J1_indexOfChar_l7 x3 x4 Q n z4))))))
theorem w_J1_indexOfChar_l7 {p : Program} {l : Launch} {e : Env} {s : State} {m : MethodId} {args : Array Value} {below : List Frame} {meth : Method} {c : Code} {D : va_G} {cA : Nat → ClassId} {sz0 : Nat} {H0 : Heap}  {x3 : Int32} {x4 : Int32} {M : WM} {Q : Int32 → Prop}  (cx : Cx p s m args meth c cJ1_indexOfChar 6 RJ1 (some .int) D cA sz0 H0)     : ∀ (n : Nat) (x5 : Int32) , m_J1_indexOfChar_l7 x3 x4 Q n x5 → V p l e ({ frames := 0, cells := 0, slots := 0, locals := 0 } : Room) s m args below meth c 6 D cA sz0 H0 0 0 (MQ below (QW_i D cA sz0 H0 (fun r M' => M' = M ∧ Q r)) args s 0 0 (Aw sz0)) 7 [(0, .ref (aV D)), (3, .int x3), (4, .int x4), (5, .int x5)] [] M := by
  intro n
  induction n with
  | zero => intro x5 h; exact h.elim
  | succ n ih =>
    intro x5 h
    replace h : ((x3 ≤ x5 → Q (((-1) : Int32))) ∧ (¬ x3 ≤ x5 → (vp_in x5 9 ∧ (((sB x5.toNatClampNeg) = x4 → Q x5) ∧ (¬ (sB x5.toNatClampNeg) = x4 → (∀ z4 : Int32, z4 = x5 + (1 : Int32) → m_J1_indexOfChar_l7 x3 x4 Q n z4)))))) := h
    refine v_iload (pc := 7) cx dJ1_indexOfChar_7 3 rfl ?_
    refine v_iload_n (pc := 9) cx dJ1_indexOfChar_9 rfl 1 rfl ?_
    refine v_icmp_ge (pc := 10) cx dJ1_indexOfChar_10 (tgt := 31) rfl (fun c1 => ?_) (fun c1 => ?_)
    · replace h := h.1 c1
      refine v_iconst (pc := 31) cx dJ1_indexOfChar_31 ic_m1 ?_
      exact v_iret cx rfl dJ1_indexOfChar_32 ⟨Nat.le_of_ble_eq_true rfl, Nat.le_of_ble_eq_true rfl⟩ ⟨rfl, h⟩
    · replace h := h.2 c1
      refine v_aload_n (pc := 13) cx dJ1_indexOfChar_13 rfl 0 rfl ?_
      refine v_iload (pc := 14) cx dJ1_indexOfChar_14 3 rfl ?_
      obtain ⟨b2, h⟩ := h
      refine v_sBald (pc := 16) cx dJ1_indexOfChar_16 b2 ?_
      refine v_iload (pc := 17) cx dJ1_indexOfChar_17 2 rfl ?_
      refine v_icmp_ne (pc := 19) cx dJ1_indexOfChar_19 (tgt := 25) rfl (fun c3 => ?_) (fun c3 => ?_)
      · replace h := h.2 c3
        refine nm_x (x5 + (1 : Int32)) (fun z4 ez4 => ?_)
        replace h := h z4 ez4
        refine v_iinc (pc := 25) cx dJ1_indexOfChar_25 (q := 3) rfl ((ii_1 _).trans ez4.symm) (Nat.le_of_ble_eq_true rfl) (lv' := [(5, .int z4), (0, .ref (aV D)), (3, .int x3), (4, .int x4)]) rfl ?_
        refine v_goto (pc := 28) cx dJ1_indexOfChar_28 (tgt := 7) rfl ?_
        refine v_sub (lv' := [(0, .ref (aV D)), (3, .int x3), (4, .int x4), (5, .int z4)]) [1, 2, 3, 0] rfl ?_
        exact ih z4 h
      · replace h := h.1 c3
        refine v_iload (pc := 22) cx dJ1_indexOfChar_22 3 rfl ?_
        exact v_iret cx rfl dJ1_indexOfChar_24 ⟨Nat.le_of_ble_eq_true rfl, Nat.le_of_ble_eq_true rfl⟩ ⟨rfl, h⟩
def m_J1_indexOfChar (x1 : Int32) (x2 : Int32) (x3 : Int32)   (Q : Int32 → Prop) : Prop := (∀ z1 : Int32, z1 = x1.toInt8.toInt32 → (∃ n0, m_J1_indexOfChar_l7 x3 z1 Q n0 x2))
theorem c_J1_indexOfChar (l : Launch) (D : va_G) (cA : Nat → ClassId) (sz0 : Nat) (H0 : Heap) (M : WM) (x1 : Int32) (x2 : Int32) (x3 : Int32)   (Q : Int32 → Prop)  (h : m_J1_indexOfChar x1 x2 x3   Q) : Met l yJ1_indexOfChar (ws_ yJ1_indexOfChar cJ1_indexOfChar 6 (some .int)) ({ frames := 0, cells := 0, slots := 0, locals := 0 } : Room) (PcW D cA sz0 H0 [.ref (aV D), .int x1, .int x2, .int x3] M) (QW_i D cA sz0 H0 (fun r M' => M' = M ∧ Q r)) 0 0 (Aw sz0) := by
  replace h : (∀ z1 : Int32, z1 = x1.toInt8.toInt32 → (∃ n0, m_J1_indexOfChar_l7 x3 z1 Q n0 x2)) := h
  refine Met.ofV (by decide +kernel) (Nat.le_of_ble_eq_true rfl) ?_
  intro p e s m args below meth c cx hnm
  replace cx : Cx p s m args meth c cJ1_indexOfChar 6 RJ1 (some .int) D cA sz0 H0 := cx
  refine v_sub (lv' := [(0, .ref (aV D)), (1, .int x1), (2, .int x2), (3, .int x3)]) [0, 1, 2, 3] rfl ?_
  refine v_iload_n (pc := 0) cx dJ1_indexOfChar_0 rfl 1 rfl ?_
  refine v_i2b (pc := 1) cx dJ1_indexOfChar_1 ?_
  refine v_topi (fun z1 ez1 => ?_)
  replace h := h z1 ez1
  refine v_istore (pc := 2) cx dJ1_indexOfChar_2 (Nat.le_of_ble_eq_true rfl) (lv' := [(4, .int z1), (0, .ref (aV D)), (1, .int x1), (2, .int x2), (3, .int x3)]) rfl ?_
  refine v_iload_n (pc := 4) cx dJ1_indexOfChar_4 rfl 3 rfl ?_
  refine v_istore (pc := 5) cx dJ1_indexOfChar_5 (Nat.le_of_ble_eq_true rfl) (lv' := [(5, .int x2), (4, .int z1), (0, .ref (aV D)), (1, .int x1), (2, .int x2), (3, .int x3)]) rfl ?_
  refine v_sub (lv' := [(0, .ref (aV D)), (3, .int x3), (4, .int z1), (5, .int x2)]) [2, 5, 1, 0] rfl ?_
  obtain ⟨n0, h⟩ := h
  exact w_J1_indexOfChar_l7 cx n0 x2 h
/-! java/lang/StringLatin1.indexOf([BIII)I -/
def m_J1_indexOf (x1 : Int32) (x2 : Int32) (x3 : Int32)   (Q : Int32 → Prop) : Prop := (m_J1_canEncode x1 (fun (a1 : Int32) => ((a1 = 0 → Q (((-1) : Int32))) ∧ (¬ a1 = 0 → (∀ z3 : Int32, z3 = (if x2 < (0 : Int32) then (0 : Int32) else x2) → (∀ z4 : Int32, z4 = (if (9 : Int32) < x3 then (9 : Int32) else x3) → ((z3 < z4 → (m_J1_indexOfChar x1 z3 z4 (fun (a6 : Int32) => Q a6))) ∧ (¬ z3 < z4 → Q (((-1) : Int32))))))))))
theorem c_J1_indexOf (l : Launch) (D : va_G) (cA : Nat → ClassId) (sz0 : Nat) (H0 : Heap) (M : WM) (x1 : Int32) (x2 : Int32) (x3 : Int32)   (Q : Int32 → Prop)  (h : m_J1_indexOf x1 x2 x3   Q) : Met l yJ1_indexOf (ws_ yJ1_indexOf cJ1_indexOf 4 (some .int)) ({ frames := 1, cells := 0, slots := 0, locals := 25 } : Room) (PcW D cA sz0 H0 [.ref (aV D), .int x1, .int x2, .int x3] M) (QW_i D cA sz0 H0 (fun r M' => M' = M ∧ Q r)) 0 0 (Aw sz0) := by
  replace h : (m_J1_canEncode x1 (fun (a1 : Int32) => ((a1 = 0 → Q (((-1) : Int32))) ∧ (¬ a1 = 0 → (∀ z3 : Int32, z3 = (if x2 < (0 : Int32) then (0 : Int32) else x2) → (∀ z4 : Int32, z4 = (if (9 : Int32) < x3 then (9 : Int32) else x3) → ((z3 < z4 → (m_J1_indexOfChar x1 z3 z4 (fun (a6 : Int32) => Q a6))) ∧ (¬ z3 < z4 → Q (((-1) : Int32)))))))))) := h
  refine Met.ofV (by decide +kernel) (Nat.le_of_ble_eq_true rfl) ?_
  intro p e s m args below meth c cx hnm
  replace cx : Cx p s m args meth c cJ1_indexOf 4 RJ1 (some .int) D cA sz0 H0 := cx
  refine v_sub (lv' := [(0, .ref (aV D)), (1, .int x1), (2, .int x2), (3, .int x3)]) [0, 1, 2, 3] rfl ?_
  refine v_iload_n (pc := 0) cx dJ1_indexOf_0 rfl 1 rfl ?_
  refine v_runp_i (pc := 1) cx (kcq557_J1 cx (c_J1_canEncode l D cA sz0 H0 M x1  _ h) ⟨Nat.le_of_ble_eq_true rfl, Nat.le_of_ble_eq_true rfl⟩ (As := [.int x1]) rfl rfl (Nat.le_of_ble_eq_true rfl) dJ1_indexOf_1 ⟨Nat.le_of_ble_eq_true rfl, Nat.le_of_ble_eq_true rfl⟩) (fun a1 hq => ?_)
  replace h := hq
  refine v_if_ne (pc := 4) cx dJ1_indexOf_4 (tgt := 9) rfl (fun c2 => ?_) (fun c2 => ?_)
  · replace h := h.2 c2
    refine v_iload_n (pc := 9) cx dJ1_indexOf_9 rfl 2 rfl ?_
    refine v_iconst (pc := 10) cx dJ1_indexOf_10 ic_0 ?_
    refine v_mmax (pc := 11) cx q560 q561 q134 q562 dJ1_indexOf_11 ⟨Nat.le_of_ble_eq_true rfl, Nat.le_of_ble_eq_true rfl, Nat.le_of_ble_eq_true rfl, Nat.le_of_ble_eq_true rfl⟩ ?_
    refine v_topi (fun z3 ez3 => ?_)
    replace h := h z3 ez3
    refine v_istore_n (pc := 14) cx dJ1_indexOf_14 rfl (Nat.le_of_ble_eq_true rfl) (lv' := [(2, .int z3), (0, .ref (aV D)), (1, .int x1), (3, .int x3)]) rfl ?_
    refine v_iload_n (pc := 15) cx dJ1_indexOf_15 rfl 3 rfl ?_
    refine v_aload_n (pc := 16) cx dJ1_indexOf_16 rfl 1 rfl ?_
    refine v_sLen (pc := 17) cx dJ1_indexOf_17 ?_
    refine v_mmin (pc := 18) cx q563 q564 q134 q565 dJ1_indexOf_18 ⟨Nat.le_of_ble_eq_true rfl, Nat.le_of_ble_eq_true rfl, Nat.le_of_ble_eq_true rfl, Nat.le_of_ble_eq_true rfl⟩ ?_
    refine v_topi (fun z4 ez4 => ?_)
    replace h := h z4 ez4
    refine v_istore_n (pc := 21) cx dJ1_indexOf_21 rfl (Nat.le_of_ble_eq_true rfl) (lv' := [(3, .int z4), (2, .int z3), (0, .ref (aV D)), (1, .int x1)]) rfl ?_
    refine v_iload_n (pc := 22) cx dJ1_indexOf_22 rfl 1 rfl ?_
    refine v_iload_n (pc := 23) cx dJ1_indexOf_23 rfl 0 rfl ?_
    refine v_icmp_lt (pc := 24) cx dJ1_indexOf_24 (tgt := 29) rfl (fun c5 => ?_) (fun c5 => ?_)
    · replace h := h.1 c5
      refine v_aload_n (pc := 29) cx dJ1_indexOf_29 rfl 2 rfl ?_
      refine v_iload_n (pc := 30) cx dJ1_indexOf_30 rfl 3 rfl ?_
      refine v_iload_n (pc := 31) cx dJ1_indexOf_31 rfl 1 rfl ?_
      refine v_iload_n (pc := 32) cx dJ1_indexOf_32 rfl 0 rfl ?_
      refine v_runp_i (pc := 33) cx (kcq566_J1 cx (c_J1_indexOfChar l D cA sz0 H0 M x1 z3 z4  _ h) ⟨Nat.le_of_ble_eq_true rfl, Nat.le_of_ble_eq_true rfl⟩ (As := [.ref (aV D), .int x1, .int z3, .int z4]) rfl rfl (Nat.le_of_ble_eq_true rfl) dJ1_indexOf_33 ⟨Nat.le_of_ble_eq_true rfl, Nat.le_of_ble_eq_true rfl⟩) (fun a6 hq => ?_)
      replace h := hq
      exact v_iret cx rfl dJ1_indexOf_36 ⟨Nat.le_of_ble_eq_true rfl, Nat.le_of_ble_eq_true rfl⟩ ⟨rfl, h⟩
    · replace h := h.2 c5
      refine v_iconst (pc := 27) cx dJ1_indexOf_27 ic_m1 ?_
      exact v_iret cx rfl dJ1_indexOf_28 ⟨Nat.le_of_ble_eq_true rfl, Nat.le_of_ble_eq_true rfl⟩ ⟨rfl, h⟩
  · replace h := h.1 c2
    refine v_iconst (pc := 7) cx dJ1_indexOf_7 ic_m1 ?_
    exact v_iret cx rfl dJ1_indexOf_8 ⟨Nat.le_of_ble_eq_true rfl, Nat.le_of_ble_eq_true rfl⟩ ⟨rfl, h⟩
/-! java/lang/String.indexOf(II)I -/
def m_J0_indexOf_2 (x1 : Int32) (x2 : Int32)   (Q : Int32 → Prop) : Prop := (m_J0_isLatin1  (fun (a1 : Int32) => ((a1 = 0 → (m_J0_length  (fun (a3 : Int32) => False))) ∧ (¬ a1 = 0 → (m_J0_length  (fun (a4 : Int32) => (m_J1_indexOf x1 x2 a4 (fun (a5 : Int32) => Q a5))))))))
theorem c_J0_indexOf_2 (l : Launch) (D : va_G) (cA : Nat → ClassId) (sz0 : Nat) (H0 : Heap) (M : WM) (x1 : Int32) (x2 : Int32)   (Q : Int32 → Prop)  (h : m_J0_indexOf_2 x1 x2   Q) : Met l yJ0_indexOf_2 (ws_ yJ0_indexOf_2 cJ0_indexOf_2 3 (some .int)) ({ frames := 2, cells := 0, slots := 0, locals := 48 } : Room) (PcW D cA sz0 H0 [.ref (aS D), .int x1, .int x2] M) (QW_i D cA sz0 H0 (fun r M' => M' = M ∧ Q r)) 0 0 (Aw sz0) := by
  replace h : (m_J0_isLatin1  (fun (a1 : Int32) => ((a1 = 0 → (m_J0_length  (fun (a3 : Int32) => False))) ∧ (¬ a1 = 0 → (m_J0_length  (fun (a4 : Int32) => (m_J1_indexOf x1 x2 a4 (fun (a5 : Int32) => Q a5)))))))) := h
  refine Met.ofV (by decide +kernel) (Nat.le_of_ble_eq_true rfl) ?_
  intro p e s m args below meth c cx hnm
  replace cx : Cx p s m args meth c cJ0_indexOf_2 3 RJ0 (some .int) D cA sz0 H0 := cx
  refine v_sub (lv' := [(0, .ref (aS D)), (1, .int x1), (2, .int x2)]) [0, 1, 2] rfl ?_
  refine v_aload_n (pc := 0) cx dJ0_indexOf_2_0 rfl 0 rfl ?_
  refine v_runp_i (pc := 1) cx (kcq540_J0 cx (c_J0_isLatin1 l D cA sz0 H0 M   _ h) ⟨Nat.le_of_ble_eq_true rfl, Nat.le_of_ble_eq_true rfl⟩ (As := []) rfl rfl (Nat.le_of_ble_eq_true rfl) dJ0_indexOf_2_1 ⟨Nat.le_of_ble_eq_true rfl, Nat.le_of_ble_eq_true rfl⟩) (fun a1 hq => ?_)
  replace h := hq
  refine v_if_eq (pc := 4) cx dJ0_indexOf_2_4 (tgt := 23) rfl (fun c2 => ?_) (fun c2 => ?_)
  · replace h := h.1 c2
    refine v_aload_n (pc := 23) cx dJ0_indexOf_2_23 rfl 0 rfl ?_
    refine v_sValue (pc := 24) cx q1607 dJ0_indexOf_2_24 ?_
    refine v_iload_n (pc := 27) cx dJ0_indexOf_2_27 rfl 1 rfl ?_
    refine v_iload_n (pc := 28) cx dJ0_indexOf_2_28 rfl 2 rfl ?_
    refine v_aload_n (pc := 29) cx dJ0_indexOf_2_29 rfl 0 rfl ?_
    refine v_runp_i (pc := 30) cx (kcq546_J0 cx (c_J0_length l D cA sz0 H0 M   _ h) ⟨Nat.le_of_ble_eq_true rfl, Nat.le_of_ble_eq_true rfl⟩ (As := []) rfl rfl (Nat.le_of_ble_eq_true rfl) dJ0_indexOf_2_30 ⟨Nat.le_of_ble_eq_true rfl, Nat.le_of_ble_eq_true rfl⟩) (fun a3 hq => ?_)
    replace h := hq
    exact h.elim
  · replace h := h.2 c2
    refine v_aload_n (pc := 7) cx dJ0_indexOf_2_7 rfl 0 rfl ?_
    refine v_sValue (pc := 8) cx q1607 dJ0_indexOf_2_8 ?_
    refine v_iload_n (pc := 11) cx dJ0_indexOf_2_11 rfl 1 rfl ?_
    refine v_iload_n (pc := 12) cx dJ0_indexOf_2_12 rfl 2 rfl ?_
    refine v_aload_n (pc := 13) cx dJ0_indexOf_2_13 rfl 0 rfl ?_
    refine v_runp_i (pc := 14) cx (kcq546_J0 cx (c_J0_length l D cA sz0 H0 M   _ h) ⟨Nat.le_of_ble_eq_true rfl, Nat.le_of_ble_eq_true rfl⟩ (As := []) rfl rfl (Nat.le_of_ble_eq_true rfl) dJ0_indexOf_2_14 ⟨Nat.le_of_ble_eq_true rfl, Nat.le_of_ble_eq_true rfl⟩) (fun a4 hq => ?_)
    replace h := hq
    refine v_runp_i (pc := 17) cx (kcq554_J0 cx (c_J1_indexOf l D cA sz0 H0 M x1 x2 a4  _ h) ⟨Nat.le_of_ble_eq_true rfl, Nat.le_of_ble_eq_true rfl⟩ (As := [.ref (aV D), .int x1, .int x2, .int a4]) rfl rfl (Nat.le_of_ble_eq_true rfl) dJ0_indexOf_2_17 ⟨Nat.le_of_ble_eq_true rfl, Nat.le_of_ble_eq_true rfl⟩) (fun a5 hq => ?_)
    replace h := hq
    refine v_goto (pc := 20) cx dJ0_indexOf_2_20 (tgt := 36) rfl ?_
    exact v_iret cx rfl dJ0_indexOf_2_36 ⟨Nat.le_of_ble_eq_true rfl, Nat.le_of_ble_eq_true rfl⟩ ⟨rfl, h⟩
/-! java/lang/String.indexOf(I)I -/
def m_J0_indexOf (x1 : Int32)   (Q : Int32 → Prop) : Prop := (m_J0_indexOf_2 x1 ((0 : Int32)) (fun (a1 : Int32) => Q a1))
theorem c_J0_indexOf (l : Launch) (D : va_G) (cA : Nat → ClassId) (sz0 : Nat) (H0 : Heap) (M : WM) (x1 : Int32)   (Q : Int32 → Prop)  (h : m_J0_indexOf x1   Q) : Met l yJ0_indexOf (ws_ yJ0_indexOf cJ0_indexOf 2 (some .int)) ({ frames := 3, cells := 0, slots := 0, locals := 70 } : Room) (PcW D cA sz0 H0 [.ref (aS D), .int x1] M) (QW_i D cA sz0 H0 (fun r M' => M' = M ∧ Q r)) 0 0 (Aw sz0) := by
  replace h : (m_J0_indexOf_2 x1 ((0 : Int32)) (fun (a1 : Int32) => Q a1)) := h
  refine Met.ofV (by decide +kernel) (Nat.le_of_ble_eq_true rfl) ?_
  intro p e s m args below meth c cx hnm
  replace cx : Cx p s m args meth c cJ0_indexOf 2 RJ0 (some .int) D cA sz0 H0 := cx
  refine v_sub (lv' := [(0, .ref (aS D)), (1, .int x1)]) [0, 1] rfl ?_
  refine v_aload_n (pc := 0) cx dJ0_indexOf_0 rfl 0 rfl ?_
  refine v_iload_n (pc := 1) cx dJ0_indexOf_1 rfl 1 rfl ?_
  refine v_iconst (pc := 2) cx dJ0_indexOf_2 ic_0 ?_
  refine v_runp_i (pc := 3) cx (kcq536_J0 cx (c_J0_indexOf_2 l D cA sz0 H0 M x1 ((0 : Int32))  _ h) ⟨Nat.le_of_ble_eq_true rfl, Nat.le_of_ble_eq_true rfl⟩ (As := [.int x1, .int (0 : Int32)]) rfl rfl (Nat.le_of_ble_eq_true rfl) dJ0_indexOf_3 ⟨Nat.le_of_ble_eq_true rfl, Nat.le_of_ble_eq_true rfl⟩) (fun a1 hq => ?_)
  replace h := hq
  exact v_iret cx rfl dJ0_indexOf_6 ⟨Nat.le_of_ble_eq_true rfl, Nat.le_of_ble_eq_true rfl⟩ ⟨rfl, h⟩
