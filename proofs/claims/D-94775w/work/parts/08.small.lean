/-! SMALL ROWS that the printed walks use -/
theorem met_mono {l : Launch} {y : MethodName} {ws : List Cond} {rm : Room} {Pc : Array Value → State → Prop} {Q1 Q2 : Array Value → State → Outcome → State → Prop} {mc ms : Nat} {free : Addr → Prop} (h : Met l y ws rm Pc Q1 mc ms free) (k : ∀ a st o t, Q1 a st o t → Q2 a st o t) : Met l y ws rm Pc Q2 mc ms free := by
  intro p e a b c s m args below h1 h2 h3 h4
  obtain ⟨n, o, q1, q2, q3, q4⟩ := h p e a b c s m args below h1 h2 h3 h4
  exact ⟨n, o, q1, q2, q3, ⟨k _ _ _ _ q4.1, q4.2⟩⟩
theorem lw_U {own : String} {idx : Nat} {C : String} {owner : String} {x y : MethodName} {b : ByteArray} {L : Nat} {r : Option FieldType} (h1 : Cond.methodLink own idx x ∈ lw_all) (h2 : Cond.sameMethod x.cls owner x.name x.desc ∈ lw_all) (h3 : Cond.selects C x y ∈ lw_all) (h4 : Cond.instanceMethod y ∈ lw_all) (h5 : Cond.initialized y.cls ∈ lw_all) (h6 : Cond.code y b L r ∈ lw_all) : GoodIn lw_all (va_wsU own idx C owner x y (ws_ y b L r)) := by
  unfold va_wsU
  refine lw_app (fun w hw => ?_) (lw_meth h6)
  simp only [List.mem_cons, List.not_mem_nil, or_false] at hw
  rcases hw with rfl | rfl | rfl | rfl | rfl <;> assumption
section VS
variable {p : Program} {l : Launch} {e : Env} {R : Room} {s : State} {m : MethodId} {args : Array Value} {below : List Frame} {meth : Method} {c : Code} {cells slots : Nat} {Q : State → Prop}
variable {cc : ByteArray} {nL : Nat} {own : String} {ret : Option FieldType} {D : va_G} {cA : Nat → ClassId} {sz0 : Nat} {H0 : Heap} {pc : Nat} {lv lv' : List (Nat × Value)} {st st0 : List Value} {M : WM}
theorem nm_x {α : Sort _} {P : Prop} (a : α) (k : ∀ x, x = a → P) : P := k a rfl
theorem v_topo {o : Option Nat} (k : ∀ x : Option Nat, x = o → V p l e R s m args below meth c nL D cA sz0 H0 cells slots Q pc lv (vr sz0 x :: st) M) : V p l e R s m args below meth c nL D cA sz0 H0 cells slots Q pc lv (vr sz0 o :: st) M := k o rfl
theorem v_topr {o : Nat} (k : ∀ x : Nat, x = o → V p l e R s m args below meth c nL D cA sz0 H0 cells slots Q pc lv (.ref (sz0 + x) :: st) M) : V p l e R s m args below meth c nL D cA sz0 H0 cells slots Q pc lv (.ref (sz0 + o) :: st) M := k o rfl
theorem vr_cat (o : Option Nat) : (vr sz0 o).category = 1 := by cases o <;> rfl
def zb (x : Int32) : Int32 := vp_nar .boolean x
theorem zb_nar (x : Int32) : narrow .boolean (.int x) = .int (zb x) := rfl
theorem v_runp_i (cx : Cx p s m args meth c cc nL own ret D cA sz0 H0) {mc ms : Nat} {a : Array Value} {q : Int32 → Prop} (hr : ∀ (ls : Array Slot) (H : Heap) (locs : List Loc), lv_has ls nL lv → Wd D cA sz0 H0 M H → va_S (Aw sz0) s.heap H locs → va_Run p l e R s m args below meth c H locs cells slots mc ms (F0 m pc ls st0) st (QW_i D cA sz0 H0 (fun r M' => M' = M ∧ q r) a) (Aw sz0)) (kk : ∀ r : Int32, q r → V p l e R s m args below meth c nL D cA sz0 H0 (cells + mc) (slots + ms) Q (pc + 3) lv (.int r :: st) M) : V p l e R s m args below meth c nL D cA sz0 H0 cells slots Q pc lv st0 M := v_run_i cx hr (fun r M' h => by obtain ⟨rfl, h⟩ := h; exact kk r h)
theorem v_runp_l (cx : Cx p s m args meth c cc nL own ret D cA sz0 H0) {mc ms : Nat} {a : Array Value} {q : Int64 → Prop} (hr : ∀ (ls : Array Slot) (H : Heap) (locs : List Loc), lv_has ls nL lv → Wd D cA sz0 H0 M H → va_S (Aw sz0) s.heap H locs → va_Run p l e R s m args below meth c H locs cells slots mc ms (F0 m pc ls st0) st (QW_l D cA sz0 H0 (fun r M' => M' = M ∧ q r) a) (Aw sz0)) (kk : ∀ r : Int64, q r → V p l e R s m args below meth c nL D cA sz0 H0 (cells + mc) (slots + ms) Q (pc + 3) lv (.long r :: st) M) : V p l e R s m args below meth c nL D cA sz0 H0 cells slots Q pc lv st0 M := v_run_l cx hr (fun r M' h => by obtain ⟨rfl, h⟩ := h; exact kk r h)
theorem v_runp_v (cx : Cx p s m args meth c cc nL own ret D cA sz0 H0) {mc ms : Nat} {a : Array Value} {q : Prop} (hr : ∀ (ls : Array Slot) (H : Heap) (locs : List Loc), lv_has ls nL lv → Wd D cA sz0 H0 M H → va_S (Aw sz0) s.heap H locs → va_Run p l e R s m args below meth c H locs cells slots mc ms (F0 m pc ls st0) st (QW_v D cA sz0 H0 (fun M' => M' = M ∧ q) a) (Aw sz0)) (kk : q → V p l e R s m args below meth c nL D cA sz0 H0 (cells + mc) (slots + ms) Q (pc + 3) lv st M) : V p l e R s m args below meth c nL D cA sz0 H0 cells slots Q pc lv st0 M := v_run_v cx hr (fun M' h => by obtain ⟨rfl, h⟩ := h; exact kk h)
theorem v_tswI (cx : Cx p s m args meth c cc nL own ret D cA sz0 H0) {dflt lo hi : Int} {offs : Array Int} {len : Nat} {x : Int32} {off : Int} {tgt : Nat} (v : Int32) (d : decode cc pc = .ok (.tableswitch dflt lo hi offs, len)) (hx : x = v) (h1 : ¬ v.toInt < lo) (h2 : ¬ hi < v.toInt) (ho : offs[(v.toInt - lo).toNat]? = some off) (ht : (pc : Int) + off = (tgt : Int)) (k : V p l e R s m args below meth c nL D cA sz0 H0 cells slots Q tgt lv st M) : V p l e R s m args below meth c nL D cA sz0 H0 cells slots Q pc lv (.int x :: st) M := by
  subst hx
  exact fun ls H locs a1 a2 a3 => lv_tableIn cx.1 cx.2.1 d h1 h2 ho ht (k ls H locs a1 a2 a3)
theorem v_tswD (cx : Cx p s m args meth c cc nL own ret D cA sz0 H0) {dflt lo hi : Int} {offs : Array Int} {len : Nat} {x : Int32} {tgt : Nat} {vals : List Int32} (d : decode cc pc = .ok (.tableswitch dflt lo hi offs, len)) (hx : ∀ v ∈ vals, ¬ x = v) (hall : ∀ n : Nat, n < (hi - lo + 1).toNat → Int32.ofInt (lo + n) ∈ vals ∨ offs[n]? = some dflt) (hlo : -2147483648 ≤ lo ∧ hi < 2147483648) (ht : (pc : Int) + dflt = (tgt : Int)) (k : V p l e R s m args below meth c nL D cA sz0 H0 cells slots Q tgt lv st M) : V p l e R s m args below meth c nL D cA sz0 H0 cells slots Q pc lv (.int x :: st) M := by
  by_cases ho : x.toInt < lo ∨ hi < x.toInt
  · exact fun ls H locs a1 a2 a3 => lv_tableOut cx.1 cx.2.1 d ho ht (k ls H locs a1 a2 a3)
  · have e1 : x = Int32.ofInt (lo + ((x.toInt - lo).toNat : Int)) := by
      have : lo + ((x.toInt - lo).toNat : Int) = x.toInt := by omega
      rw [this]; exact (Int32.ofInt_toInt x).symm
    rcases hall (x.toInt - lo).toNat (by omega) with h | h
    · exact absurd e1 (hx _ h)
    · exact fun ls H locs a1 a2 a3 => lv_tableIn cx.1 cx.2.1 d (by omega) (by omega) h ht (k ls H locs a1 a2 a3)
theorem r_A (cx : Cx p s m args meth c cc nL own ret D cA sz0 H0) {y : MethodName} {b : ByteArray} {L idx n mc ms fr lo : Nat} {rt : Option FieldType} {As : List Value} {Qc : Array Value → State → Outcome → State → Prop} {C owner : String} {x : MethodName} {T : u_T} {N ci r : Nat} (hM : Met l y (ws_ y b L rt) ({ frames := fr, cells := mc, slots := ms, locals := lo } : Room) (PcW D cA sz0 H0 (.ref (sz0 + r) :: As) M) Qc mc ms (Aw sz0)) (hG : GoodIn lw_all (va_wsU own idx C owner x y (ws_ y b L rt))) (hz : Cond.declares ⟨owner, x.name, x.desc⟩ ∈ lw_nst) (hd : owner ≠ "java/lang/invoke/MethodHandle" ∧ owner ≠ "java/lang/invoke/VarHandle" ∧ (parseMethodDescriptor x.desc).map (fun d => d.parameters.length) = some n) (hR : fr + 1 ≤ R.frames ∧ 8 + (L + 11) + lo ≤ R.locals) (hc : CL[ci]? = some (C, T, N)) (hci : ci < 13) (hk : wk M r = ci) (hn : As.length = n) (hst : st0 = As.reverse ++ .ref (sz0 + r) :: st) (hcat : (st.map fun v => v.category).sum ≤ 8) (d : decode cc pc = .ok (.invokevirtual idx, 3)) (hb : cells + mc ≤ R.cells ∧ slots + ms ≤ R.slots) : ∀ (ls : Array Slot) (H : Heap) (locs : List Loc), lv_has ls nL lv → Wd D cA sz0 H0 M H → va_S (Aw sz0) s.heap H locs → va_Run p l e R s m args below meth c H locs cells slots mc ms (F0 m pc ls st0) st (Qc (Value.ref (sz0 + r) :: As).toArray) (Aw sz0) := fun ls H locs h1 h2 h3 => by
  obtain ⟨cell, q1, q2, q3, -⟩ := wAt_obj h2 hk hci
  exact va_runU ⟨cx.1, cx.2.1, cx.2.2.1, cx.2.2.2.1, cx.2.2.2.2.1⟩ hM (va_cwA n cx.2.2.2.2.1 hG rfl rfl rfl (cx.2.2.2.2.2.2.2.2.1 _ hz) hd hR) ⟨blindW, ⟨cell, q1, by rw [q3]; rfl, by rw [q2]; exact (cx.2.2.2.2.2.2.2.1.1 ci _ hc).2.1⟩, preW cx.2.2.2.2.2.2.2 h2⟩ rfl hn h1.1 hst (lv_room hcat) d hb
theorem met_pure {y : MethodName} {ws : List Cond} {rm : Room} {vs : List Value} {Q : Int32 → WM → Prop} {mc ms : Nat} (h : Met l y ws rm (PcW D cA sz0 H0 vs M) (QW_i D cA sz0 H0 (fun r M' => M' = M ∧ Q r M)) mc ms (Aw sz0)) (sh : Shp M) : Met l y ws rm (PcW D cA sz0 H0 vs M) (QW_i D cA sz0 H0 (fun r M' => Q r M' ∧ Shp M')) mc ms (Aw sz0) := by
  refine met_mono h fun a st o t hq => ?_
  obtain ⟨⟨r, M', h1, ⟨h2, h3⟩, h4⟩, h5⟩ := hq
  subst h2
  exact ⟨⟨r, M', h1, ⟨h3, sh⟩, h4⟩, h5⟩
end VS
theorem cl_X0 : CL[0]? = some (RX0, TX0, 33) := rfl
theorem cl_X1 : CL[1]? = some (RX1, TX1, 4) := rfl
theorem cl_X2 : CL[2]? = some (RX2, TX2, 2) := rfl
theorem cl_X4 : CL[3]? = some (RX4, TX4, 9) := rfl
theorem cl_X5 : CL[4]? = some (RX5, TX5, 4) := rfl
theorem cl_X6 : CL[5]? = some (RX6, TX6, 54) := rfl
theorem cl_X7 : CL[6]? = some (RX7, TX7, 7) := rfl
theorem cl_X9 : CL[7]? = some (RX9, TX9, 3) := rfl
theorem cl_X10 : CL[8]? = some (RX10, TX10, 1) := rfl
theorem cl_X11 : CL[9]? = some (RX11, TX11, 1) := rfl
theorem cl_X13 : CL[10]? = some (RX13, TX13, 3) := rfl
theorem cl_X14 : CL[11]? = some (RX14, TX14, 1) := rfl
theorem cl_X15 : CL[12]? = some (RX15, TX15, 3) := rfl
