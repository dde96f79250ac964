/-! ROWS about the one text constant -/
def sB (j : Nat) : Int32 := ([107, 105, 111, 112, 108, 102, 103, 97, 98] : List Int32).getD j 0
section VT
variable {p : Program} {l : Launch} {e : Env} {R : Room} {s : State} {m : MethodId} {args : Array Value} {below : List Frame} {meth : Method} {c : Code} {cells slots : Nat} {Q : State → Prop}
variable {cc : ByteArray} {nL : Nat} {own : String} {ret : Option FieldType} {D : va_G} {cA : Nat → ClassId} {sz0 : Nat} {H0 : Heap} {pc : Nat} {lv lv' : List (Nat × Value)} {st st0 : List Value} {M : WM}
theorem v_sCoder (cx : Cx p s m args meth c cc nL own ret D cA sz0 H0) {idx : Nat} (hl : Cond.fieldLink own idx "java/lang/String" "coder" "B" ∈ lw_all) (d : decode cc pc = .ok (.getfield idx, 3)) (kk : V p l e R s m args below meth c nL D cA sz0 H0 cells slots Q (pc + 3) lv (.int 0 :: st) M) : V p l e R s m args below meth c nL D cA sz0 H0 cells slots Q pc lv (.ref (aS D) :: st) M := fun ls H locs h1 h2 h3 => by
  obtain ⟨hx, hb, -, hown, hts, -, -, hKK⟩ := cx
  obtain ⟨cf, k, fi, f, cell, f1, f2, f3, f4, f5, f6⟩ := (hKK.2.2.2.2.1.1 0 (by omega)).2.1
  exact W.getf hx hb hown (hts _ hl) f1 f2 (by rw [h2.2.2 _ (Nat.not_le.mp f6)]; exact f3) f4 (v := .int 0) f5 rfl rfl d (kk ls H locs h1 h2 h3)
theorem v_sValue (cx : Cx p s m args meth c cc nL own ret D cA sz0 H0) {idx : Nat} (hl : Cond.fieldLink own idx "java/lang/String" "value" "[B" ∈ lw_all) (d : decode cc pc = .ok (.getfield idx, 3)) (kk : V p l e R s m args below meth c nL D cA sz0 H0 cells slots Q (pc + 3) lv (.ref (aV D) :: st) M) : V p l e R s m args below meth c nL D cA sz0 H0 cells slots Q pc lv (.ref (aS D) :: st) M := fun ls H locs h1 h2 h3 => by
  obtain ⟨hx, hb, -, hown, hts, -, -, hKK⟩ := cx
  obtain ⟨cf, k, fi, f, cell, f1, f2, f3, f4, f5, f6⟩ := (hKK.2.2.2.2.1.1 0 (by omega)).2.2.1
  exact W.getf hx hb hown (hts _ hl) f1 f2 (by rw [h2.2.2 _ (Nat.not_le.mp f6)]; exact f3) f4 (v := .ref (aV D)) f5 rfl rfl d (kk ls H locs h1 h2 h3)
theorem v_sComp (cx : Cx p s m args meth c cc nL own ret D cA sz0 H0) {idx : Nat} (hl : Cond.fieldLink own idx "java/lang/String" "COMPACT_STRINGS" "Z" ∈ lw_all) (d : decode cc pc = .ok (.getstatic idx, 3)) (kk : V p l e R s m args below meth c nL D cA sz0 H0 cells slots Q (pc + 3) lv (.int 1 :: st) M) : V p l e R s m args below meth c nL D cA sz0 H0 cells slots Q pc lv st M := fun ls H locs a1 a2 a3 => by
  obtain ⟨hx, hb, -, hown, hts, -, -, hKK⟩ := cx
  obtain ⟨cf, kf, fi, f, a, cell, h1, h2, h3, h4, h5, h6, h7, h8⟩ := hKK.2.2.2.2.2
  exact W.gets hx hb hown (hts _ hl) h1 h2 h3 h4 (by rw [a2.2.2 _ (Nat.not_le.mp h8)]; exact h5) (fun e => by rw [e] at h6; cases h6) h7 rfl d (kk ls H locs a1 a2 a3)
theorem v_sLen (cx : Cx p s m args meth c cc nL own ret D cA sz0 H0) (d : decode cc pc = .ok (.arraylength, 1)) (kk : V p l e R s m args below meth c nL D cA sz0 H0 cells slots Q (pc + 1) lv (.int 9 :: st) M) : V p l e R s m args below meth c nL D cA sz0 H0 cells slots Q pc lv (.ref (aV D) :: st) M := fun ls H locs h1 h2 h3 => by
  obtain ⟨hx, hb, -, hown, hts, -, -, hKK⟩ := cx
  obtain ⟨cell, f1, f2, f3, f4, f5, f6, f7⟩ := (hKK.2.2.2.2.1.1 0 (by omega)).2.2.2
  exact W.alen hx hb (by rw [h2.2.2 _ (Nat.not_le.mp f7)]; exact f1) f2 (n := 9) f5 rfl rfl d (kk ls H locs h1 h2 h3)
theorem v_sBald (cx : Cx p s m args meth c cc nL own ret D cA sz0 H0) {i : Int32} (d : decode cc pc = .ok (.baload, 1)) (hin : vp_in i 9) (kk : V p l e R s m args below meth c nL D cA sz0 H0 cells slots Q (pc + 1) lv (.int (sB i.toNatClampNeg) :: st) M) : V p l e R s m args below meth c nL D cA sz0 H0 cells slots Q pc lv (.int i :: .ref (aV D) :: st) M := fun ls H locs h1 h2 h3 => by
  obtain ⟨hx, hb, -, hown, hts, -, -, hKK⟩ := cx
  obtain ⟨cell, f1, f2, f3, f4, f5, f6, f7⟩ := (hKK.2.2.2.2.1.1 0 (by omega)).2.2.2
  have f4' : 9 ≤ cell.slots.size := f4
  have hlt : i.toNatClampNeg < 9 := lt_in hin
  exact W.bald (v := .int (sB i.toNatClampNeg)) hx hb (by rw [h2.2.2 _ (Nat.not_le.mp f7)]; exact f1) f2 f3 (fun q => by rcases q with q | q; exact hin (Or.inl q); omega) (f6 _ hlt) rfl rfl d (kk ls H locs h1 h2 h3)
theorem r_VS (cx : Cx p s m args meth c cc nL own ret D cA sz0 H0) {y : MethodName} {b : ByteArray} {L idx n mc ms fr lo : Nat} {rt : Option FieldType} {As : List Value} {Qc : Array Value → State → Outcome → State → Prop} (hM : Met l y (ws_ y b L rt) ({ frames := fr, cells := mc, slots := ms, locals := lo } : Room) (PcW D cA sz0 H0 (.ref (aS D) :: As) M) Qc mc ms (Aw sz0)) (hl : Cond.methodLink own idx y ∈ lw_all) (hi : Cond.instanceMethod y ∈ lw_all) (hsel : Cond.selects "java/lang/String" y y ∈ lw_all) (hini : Cond.initialized "java/lang/String" ∈ lw_all) (hco : Cond.code y b L rt ∈ lw_all) (hC : y.cls = "java/lang/String") (hd : y.cls ≠ "java/lang/invoke/MethodHandle" ∧ y.cls ≠ "java/lang/invoke/VarHandle" ∧ (parseMethodDescriptor y.desc).map (fun d => d.parameters.length) = some n) (hR : fr + 1 ≤ R.frames ∧ 8 + (L + 11) + lo ≤ R.locals) (hn : As.length = n) (hst : st0 = As.reverse ++ .ref (aS D) :: st) (hcat : (st.map fun v => v.category).sum ≤ 8) (d : decode cc pc = .ok (.invokevirtual idx, 3)) (hb : cells + mc ≤ R.cells ∧ slots + ms ≤ R.slots) : ∀ (ls : Array Slot) (H : Heap) (locs : List Loc), lv_has ls nL lv → Wd D cA sz0 H0 M H → va_S (Aw sz0) s.heap H locs → va_Run p l e R s m args below meth c H locs cells slots mc ms (F0 m pc ls st0) st (Qc (Value.ref (aS D) :: As).toArray) (Aw sz0) := fun ls H locs h1 h2 h3 => by
  obtain ⟨cell, g1, g2, g3, g4⟩ := (cx.2.2.2.2.2.2.2.2.2.2.2.1.1 0 (by omega)).1
  exact va_runV ⟨cx.1, cx.2.1, cx.2.2.1, cx.2.2.2.1, cx.2.2.2.2.1⟩ hM (cwV n cx.2.2.2.2.1 (lw_V hl hi hsel hini hco) rfl rfl rfl ⟨hC, hd⟩ hR) ⟨blindW, ⟨cell, by rw [h2.2.2 _ (Nat.not_le.mp g4)]; exact g1, g2, g3⟩, preW cx.2.2.2.2.2.2.2 h2⟩ rfl hn h1.1 hst (lv_room hcat) d hb
theorem v_nret (cx : Cx p s m args meth c cc nL own ret D cA sz0 H0) {v : Int32} {mc ms : Nat} {ty : FieldType} {post : Int32 → WM → Prop} (hret : ret = some ty) (hv : narrow ty (.int v) = .int v) (d : decode cc pc = .ok (.ireturn, 1)) (hm : cells ≤ mc ∧ slots ≤ ms) (hp : post v M) : V p l e R s m args below meth c nL D cA sz0 H0 cells slots (MQ below (QW_i D cA sz0 H0 post) args s mc ms (Aw sz0)) pc lv [.int v] M := fun ls H locs h1 h2 h3 => by
  have hrt := cx.2.2.2.2.2.1.trans hret
  have hlocks := cx.2.2.2.2.2.2.1
  refine W.widen (k := mc) (n := ms) hm.1 hm.2 ?_
  exact W.zret (v := v) cx.1 cx.2.1 hrt hv (fun t ht hW => ⟨⟨v, M, rfl, hp, by show Wd D cA sz0 H0 M t.heap; rw [ht]; exact h2⟩, h3.F ht⟩) h3.2.2 d
theorem v_ldcS (cx : Cx p s m args meth c cc nL RX7 ret D cA sz0 H0) (d : decode cc pc = .ok (.ldc 75, 2)) (kk : V p l e R s m args below meth c nL D cA sz0 H0 cells slots Q (pc + 2) lv (.ref (aS D) :: st) M) : V p l e R s m args below meth c nL D cA sz0 H0 cells slots Q pc lv st M := fun ls H locs h1 h2 h3 =>
  va_ldcS cx.1 cx.2.1 cx.2.2.2.1 cx.2.2.2.2.2.2.2.2.2.2.1 d (kk ls H locs h1 h2 h3)
end VT
