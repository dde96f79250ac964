/-! NEW GRIDS, the script, the law's end, the text constant's indexOf -/
section VG
variable {p : Program} {l : Launch} {e : Env} {R : Room} {s : State} {m : MethodId} {args : Array Value} {below : List Frame} {meth : Method} {c : Code} {cells slots : Nat} {Q : State → Prop}
variable {cc : ByteArray} {nL : Nat} {own : String} {ret : Option FieldType} {D : va_G} {cA : Nat → ClassId} {sz0 : Nat} {H0 : Heap} {pc : Nat} {lv lv' : List (Nat × Value)} {st st0 : List Value} {M : WM}
theorem arrV_ext {cI : ClassId} {N : Nat} {f g : Nat → Value} (h : ∀ j, j < N → f j = g j) : arrV cI N f = arrV cI N g := by
  unfold arrV
  congr 1
  apply Array.ext
  · simp
  · intro i h1 h2
    simp at h1 h2 ⊢
    exact h i h1
theorem outerC_arrV (cI : ClassId) (N h0 : Nat) : ∀ i, Jvm.Free.Multi.outerC cI N h0 i = arrV cI N (fun j => if j < i then .ref (h0 + 1 + j) else .null) := by
  intro i
  induction i with
  | zero =>
    show ({ cls := cI, slots := Array.replicate N .null, vm := .none } : Cell) = _
    rw [arrV_new]
    rfl
  | succ i ih =>
    show (Jvm.Free.Multi.outerC cI N h0 i).setSlot i (.ref (h0 + 1 + i)) = _
    rw [ih, arrV_store]
    refine congrArg (arrV cI N) (funext fun j => ?_)
    unfold updV
    by_cases h : j = i
    · subst h; simp
    · by_cases h2 : j < i
      · simp [h, h2, show j < i + 1 by omega]
      · simp [h, h2, show ¬ j < i + 1 by omega]
theorem wk_Gr (M : WM) (kd kd2 n k x : Nat) : wk (wGr M kd kd2 n k) x = if x = wn M then kd else if wn M < x ∧ x < wn M + 1 + n then kd2 else wk M x := rfl
theorem wl_Gr (M : WM) (kd kd2 n k x : Nat) : wl (wGr M kd kd2 n k) x = if x = wn M then n else if wn M < x ∧ x < wn M + 1 + n then k else wl M x := rfl
theorem wI_Gr (M : WM) (kd kd2 n k x j : Nat) : wI (wGr M kd kd2 n k) x j = if wn M ≤ x ∧ x < wn M + 1 + n then 0 else wI M x j := rfl
theorem wJ_Gr (M : WM) (kd kd2 n k x j : Nat) : wJ (wGr M kd kd2 n k) x j = if wn M ≤ x ∧ x < wn M + 1 + n then 0 else wJ M x j := rfl
theorem wR_Gr (M : WM) (kd kd2 n k x j : Nat) : wR (wGr M kd kd2 n k) x j = if x = wn M then (if j < n then some (wn M + 1 + j) else none) else if wn M < x ∧ x < wn M + 1 + n then none else wR M x j := rfl
theorem wn_Gr (M : WM) (kd kd2 n k : Nat) : wn (wGr M kd kd2 n k) = wn M + 1 + n := rfl
theorem v_multi (cx : Cx p s m args meth c cc nL own ret D cA sz0 H0) {idx n k kd kd2 : Nat} {ty : FieldType} {x y : Int32} (hkd : 104 ≤ kd ∧ kd < 107) (hkd2 : 100 ≤ kd2 ∧ kd2 < 104) (hty : aTy kd = .array ty) (hty2 : aTy kd2 = ty) (hdv : ∀ j r, av sz0 (wGr M kd kd2 n k) kd2 r j = defaultValue ty ∨ ¬ (wn M < r ∧ r < wn M + 1 + n)) (hx : ¬ x < 0) (hy : ¬ y < 0) (hn : x.toNatClampNeg = n) (hk : y.toNatClampNeg = k) (hcl : Cond.classLink own idx ("[" ++ (FieldType.array ty).toString) ∈ lw_all) (hov : Cond.arrayOver (.array ty) ∈ lw_tbl) (harr : Cond.arrayClass ty ∈ lw_all) (hb1 : n * 4 ≤ 536870912) (hb2 : k * componentBytes ty ≤ 536870912) (hb3 : k ≤ 536870912) (hdf : fits ty (defaultValue ty) = true) (hdd : (defaultValue ty).isDefault = true)
    (hcells : cells + (1 + n) ≤ R.cells) (hslots : slots + (n + n * k) ≤ R.slots) (d : decode cc pc = .ok (.multianewarray idx 2, 4)) (kk : V p l e R s m args below meth c nL D cA sz0 H0 (cells + 1 + n) (slots + n + n * k) Q (pc + 4) lv (.ref (sz0 + wn M) :: st) (wGr M kd kd2 n k)) : V p l e R s m args below meth c nL D cA sz0 H0 cells slots Q pc lv (.int y :: .int x :: st) M := fun ls H locs h1 h2 h3 => by
  intro T hT X
  obtain ⟨hx0, hb, -, hown, hts, -, -, hKK⟩ := cx
  subst hn; subst hk
  obtain ⟨vm₁, cA', comp, hW1, hfA, hfC, -, -, X1, step⟩ := X.multianewarray2F hx0 (own := own) (index := idx) (ty := ty) hown (hts _ hcl) (hKK.2.2.1 _ hov _) (hts _ harr) (g := F0 m pc ls (.int y :: .int x :: st)) rfl (by rw [hb]; exact d) (n := x) (k := y) (rest := st) rfl hx hy hb1 hb2 hb3 hdf hdd hcells hslots
  obtain ⟨f1, f2, f3, f4⟩ := Jvm.Free.Multi.fill_facts (T.setVm vm₁) cA' comp x.toNatClampNeg y.toNatClampNeg (defaultValue ty) x.toNatClampNeg
  obtain ⟨o1, o2, o3⟩ := Jvm.Free.Multi.outerC_facts cA' x.toNatClampNeg (T.setVm vm₁).heap.size x.toNatClampNeg
  have hz : H.size = sz0 + wn M := h2.1
  have hsz : (T.setVm vm₁).heap.size = sz0 + wn M := by show T.heap.size = _; rw [hT, hz]
  have hTh : T.heap.size = sz0 + wn M := by rw [hT, hz]
  have hTh' : (T.setVm vm₁).heap.size = sz0 + wn M := hsz
  have hold : ∀ q, q < H.size → (Jvm.Free.Multi.fill (T.setVm vm₁) cA' comp x.toNatClampNeg y.toNatClampNeg (defaultValue ty) x.toNatClampNeg).heap[q]? = H[q]? := fun q hq => by
    rw [Jvm.Free.Multi.fill_old (T.setVm vm₁) cA' comp _ _ _ (by rw [hsz, ← hz]; exact hq)]
    show T.heap[q]? = _
    rw [hT]
  have hA := (arr_of hKK (kd := kd) (by omega) (by omega)).2
  have hA2 := (arr_of hKK (kd := kd2) (by omega) (by omega)).2
  rw [hty] at hA
  have hcA : cA' = cA kd := Option.some.inj (hfA.symm.trans hA)
  have hcomp : comp = cA kd2 := by
    have h9 : s.vm.findClass ("[" ++ (aTy kd2).toString) = some (cA kd2) := by
      have : aTy kd2 = .int ∨ aTy kd2 = .long ∨ aTy kd2 = .byte ∨ aTy kd2 = .boolean := by
        obtain ⟨a1, a2⟩ := hkd2
        have : kd2 = 100 ∨ kd2 = 101 ∨ kd2 = 102 ∨ kd2 = 103 := by omega
        rcases this with rfl | rfl | rfl | rfl
        · exact Or.inl rfl
        · exact Or.inr (Or.inl rfl)
        · exact Or.inr (Or.inr (Or.inl rfl))
        · exact Or.inr (Or.inr (Or.inr rfl))
      rcases this with e | e | e | e <;> rw [e] at hA2 ⊢ <;> exact hA2
    rw [hty2] at h9
    exact Option.some.inj (hfC.symm.trans h9)
  have hWd : Wd D cA sz0 H0 (wGr M kd kd2 x.toNatClampNeg y.toNatClampNeg) (Jvm.Free.Multi.fill (T.setVm vm₁) cA' comp x.toNatClampNeg y.toNatClampNeg (defaultValue ty) x.toNatClampNeg).heap := by
    refine ⟨by rw [f1, hsz, wn_Gr]; omega, fun r hr => ?_, fun q hq => by rw [hold q (by omega)]; exact h2.2.2 q hq⟩
    by_cases c1 : r = wn M
    · subst c1
      unfold wAt
      rw [wk_Gr, if_pos rfl, if_neg (by omega), wl_Gr, if_pos rfl]
      refine ⟨by omega, ?_⟩
      rw [← hsz, f2]
      rw [outerC_arrV, hcA]
      refine congrArg some (arrV_ext fun j hj => ?_)
      rw [if_pos hj]
      unfold av
      rw [if_neg (by omega), if_neg (by omega), wR_Gr, if_pos rfl, if_pos hj]
      show Value.ref ((T.setVm vm₁).heap.size + 1 + j) = Value.ref (sz0 + (wn M + 1 + j))
      rw [hTh']
      have e9 : sz0 + wn M + 1 + j = sz0 + (wn M + 1 + j) := by omega
      exact congrArg Value.ref e9
    · by_cases c2 : wn M < r ∧ r < wn M + 1 + x.toNatClampNeg
      · unfold wAt
        rw [wk_Gr, if_neg c1, if_pos c2, if_neg (by omega), wl_Gr, if_neg c1, if_pos c2]
        refine ⟨by omega, ?_⟩
        have hj : r - wn M - 1 < x.toNatClampNeg := by omega
        have hin := Jvm.Free.Multi.fill_inner (T.setVm vm₁) cA' comp x.toNatClampNeg y.toNatClampNeg (defaultValue ty) x.toNatClampNeg (r - wn M - 1) hj
        rw [hsz] at hin
        rw [show sz0 + r = sz0 + wn M + 1 + (r - wn M - 1) by omega, hin]
        refine congrArg some ?_
        unfold Jvm.Free.Multi.innerC
        rw [arrV_new, hcomp]
        refine congrArg (arrV (cA kd2) _) (funext fun j => ?_)
        rcases hdv j r with h9 | h9
        · exact h9.symm
        · exact absurd c2 h9
      · have e1 : wk (wGr M kd kd2 x.toNatClampNeg y.toNatClampNeg) r = wk M r := by rw [wk_Gr, if_neg c1, if_neg c2]
        rw [e1] at hr
        have hh := h2.2.1 r hr
        have hlt : sz0 + r < H.size := by
          unfold wAt at hh
          split at hh
          · obtain ⟨-, cell, q, -⟩ := hh
            exact (Array.getElem?_eq_some_iff.mp q).1
          · exact (Array.getElem?_eq_some_iff.mp hh.2).1
        have c3 : ¬ (wn M ≤ r ∧ r < wn M + 1 + x.toNatClampNeg) := by omega
        exact wAt_same hh (hold _ hlt) e1 (by rw [wl_Gr, if_neg c1, if_neg c2]) (fun j => by rw [wI_Gr, if_neg c3]) (fun j => by rw [wJ_Gr, if_neg c3]) (fun j => by rw [wR_Gr, if_neg c1, if_neg c2])
  have hS : va_S (Aw sz0) s.heap (Jvm.Free.Multi.fill (T.setVm vm₁) cA' comp x.toNatClampNeg y.toNatClampNeg (defaultValue ty) x.toNatClampNeg).heap locs := ⟨Nat.le_trans h3.1 (by rw [f1, hsz, hz]; omega), fun q a1 a2 => (hold q (Nat.lt_of_lt_of_le a1 h3.1)).trans (h3.2.1 q a1 a2), h3.2.2⟩
  obtain ⟨t, a1, b1⟩ := kk ls _ locs h1 hWd hS _ rfl X1
  refine ⟨t, step t ?_, b1⟩
  rw [hTh]
  exact a1
def Scr (s : State) (sz0 : Nat) (b0 L0 : Nat) (xs : Nat → Int32) : Prop := va_X b0 L0 xs s s.heap ∧ b0 < s.heap.size ∧ sz0 = s.heap.size ∧ L0 ≤ 384
theorem v_scr {b0 L0 : Nat} {xs : Nat → Int32} {i : Int32} (cx : Cx p s m args meth c cc nL own ret D cA sz0 H0) (d : decode cc pc = .ok (.iaload, 1)) (h : Scr s sz0 b0 L0 xs) (hin : vp_in i L0) (kk : V p l e R s m args below meth c nL D cA sz0 H0 cells slots Q (pc + 1) lv (.int (xs i.toNatClampNeg) :: st) M) : V p l e R s m args below meth c nL D cA sz0 H0 cells slots Q pc lv (.int i :: .ref b0 :: st) M := fun ls H locs h1 h2 h3 =>
  va_sld cx.1 cx.2.1 h.1 h.2.1 (show ¬ sz0 ≤ b0 by rw [h.2.2.1]; exact Nat.not_le.mpr h.2.1) h3 hin d (kk ls H locs h1 h2 h3)
theorem v_scrlen {b0 L0 : Nat} {xs : Nat → Int32} (cx : Cx p s m args meth c cc nL own ret D cA sz0 H0) (d : decode cc pc = .ok (.arraylength, 1)) (h : Scr s sz0 b0 L0 xs) (kk : V p l e R s m args below meth c nL D cA sz0 H0 cells slots Q (pc + 1) lv (.int (Int32.ofNat L0) :: st) M) : V p l e R s m args below meth c nL D cA sz0 H0 cells slots Q pc lv (.ref b0 :: st) M := fun ls H locs h1 h2 h3 =>
  va_slen cx.1 cx.2.1 h.1 h.2.1 (show ¬ sz0 ≤ b0 by rw [h.2.2.1]; exact Nat.not_le.mpr h.2.1) h3 d (kk ls H locs h1 h2 h3)
end VG
theorem gr_dv100 {sz0 : Nat} (M : WM) (n k : Nat) : ∀ j r, av sz0 (wGr M 104 100 n k) 100 r j = defaultValue .int ∨ ¬ (wn M < r ∧ r < wn M + 1 + n) := fun j r => by
  by_cases h : wn M < r ∧ r < wn M + 1 + n
  · left; unfold av; rw [if_neg (by decide), if_pos (by decide), wI_Gr, if_pos (by omega)]; rfl
  · exact Or.inr h
theorem gr_dv101 {sz0 : Nat} (M : WM) (n k : Nat) : ∀ j r, av sz0 (wGr M 105 101 n k) 101 r j = defaultValue .long ∨ ¬ (wn M < r ∧ r < wn M + 1 + n) := fun j r => by
  by_cases h : wn M < r ∧ r < wn M + 1 + n
  · left; unfold av; rw [if_pos rfl, wJ_Gr, if_pos (by omega)]; rfl
  · exact Or.inr h
theorem gr_dv103 {sz0 : Nat} (M : WM) (n k : Nat) : ∀ j r, av sz0 (wGr M 106 103 n k) 103 r j = defaultValue .boolean ∨ ¬ (wn M < r ∧ r < wn M + 1 + n) := fun j r => by
  by_cases h : wn M < r ∧ r < wn M + 1 + n
  · left; unfold av; rw [if_neg (by decide), if_pos (by decide), wI_Gr, if_pos (by omega)]; rfl
  · exact Or.inr h
def RL : String := "LetterHeapsLaw"
theorem df_X0 : ∀ j, j < 33 → defaultValue (tyX0 j) = (if isRF 0 j = true then Value.null else .int 0) := by decide +kernel
theorem df_X1 : ∀ j, j < 4 → defaultValue (tyX1 j) = (if isRF 1 j = true then Value.null else .int 0) := by decide +kernel
theorem df_X2 : ∀ j, j < 2 → defaultValue (tyX2 j) = (if isRF 2 j = true then Value.null else .int 0) := by decide +kernel
theorem df_X4 : ∀ j, j < 9 → defaultValue (tyX4 j) = (if isRF 3 j = true then Value.null else .int 0) := by decide +kernel
theorem df_X5 : ∀ j, j < 4 → defaultValue (tyX5 j) = (if isRF 4 j = true then Value.null else .int 0) := by decide +kernel
theorem df_X6 : ∀ j, j < 54 → defaultValue (tyX6 j) = (if isRF 5 j = true then Value.null else .int 0) := by decide +kernel
theorem df_X7 : ∀ j, j < 7 → defaultValue (tyX7 j) = (if isRF 6 j = true then Value.null else .int 0) := by decide +kernel
theorem df_X9 : ∀ j, j < 3 → defaultValue (tyX9 j) = (if isRF 7 j = true then Value.null else .int 0) := by decide +kernel
theorem df_X10 : ∀ j, j < 1 → defaultValue (tyX10 j) = (if isRF 8 j = true then Value.null else .int 0) := by decide +kernel
theorem df_X11 : ∀ j, j < 1 → defaultValue (tyX11 j) = (if isRF 9 j = true then Value.null else .int 0) := by decide +kernel
theorem df_X13 : ∀ j, j < 3 → defaultValue (tyX13 j) = (if isRF 10 j = true then Value.null else .int 0) := by decide +kernel
theorem df_X14 : ∀ j, j < 1 → defaultValue (tyX14 j) = (if isRF 11 j = true then Value.null else .int 0) := by decide +kernel
theorem df_X15 : ∀ j, j < 3 → defaultValue (tyX15 j) = (if isRF 12 j = true then Value.null else .int 0) := by decide +kernel
/-- indexOf in the one text constant -/
def kio (c : Int32) : Int32 := if c = 107 then 0 else if c = 105 then 1 else if c = 111 then 2 else if c = 112 then 3 else if c = 108 then 4 else if c = 102 then 5 else if c = 103 then 6 else if c = 97 then 7 else if c = 98 then 8 else -1

