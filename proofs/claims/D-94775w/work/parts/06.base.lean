/-! THE TYPED WORLD: region r lies at the address sz0 + r; kinds: below 100 a class by its place in CL, 100 .. arrays, 999 none -/
abbrev WM : Type := Nat × (Nat → Nat) × (Nat → Nat) × (Nat → Nat → Int32) × (Nat → Nat → Int64) × (Nat → Nat → Option Nat)
def wn (M : WM) : Nat := M.1
def wk (M : WM) (r : Nat) : Nat := M.2.1 r
def wl (M : WM) (r : Nat) : Nat := M.2.2.1 r
def wI (M : WM) (r k : Nat) : Int32 := M.2.2.2.1 r k
def wJ (M : WM) (r k : Nat) : Int64 := M.2.2.2.2.1 r k
def wR (M : WM) (r k : Nat) : Option Nat := M.2.2.2.2.2 r k
def up1 {α : Type} (f : Nat → α) (r : Nat) (v : α) : Nat → α := fun x => if x = r then v else f x
def up2 {α : Type} (f : Nat → Nat → α) (r k : Nat) (v : α) : Nat → Nat → α := fun x j => if x = r ∧ j = k then v else f x j
def wPI (M : WM) (r k : Nat) (v : Int32) : WM := (M.1, M.2.1, M.2.2.1, up2 M.2.2.2.1 r k v, M.2.2.2.2.1, M.2.2.2.2.2)
def wPJ (M : WM) (r k : Nat) (v : Int64) : WM := (M.1, M.2.1, M.2.2.1, M.2.2.2.1, up2 M.2.2.2.2.1 r k v, M.2.2.2.2.2)
def wPR (M : WM) (r k : Nat) (v : Option Nat) : WM := (M.1, M.2.1, M.2.2.1, M.2.2.2.1, M.2.2.2.2.1, up2 M.2.2.2.2.2 r k v)
/-- a new cell of a kind, of a length (an object: 0) -/
def wNw (M : WM) (kd len : Nat) : WM := (M.1 + 1, up1 M.2.1 M.1 kd, up1 M.2.2.1 M.1 len, up1 M.2.2.2.1 M.1 (fun _ => 0), up1 M.2.2.2.2.1 M.1 (fun _ => 0), up1 M.2.2.2.2.2 M.1 (fun _ => none))
/-- a new array of n new arrays of m -/
def wGr (M : WM) (kd kd2 n m : Nat) : WM := (M.1 + 1 + n, (fun x => if x = M.1 then kd else if M.1 < x ∧ x < M.1 + 1 + n then kd2 else M.2.1 x), (fun x => if x = M.1 then n else if M.1 < x ∧ x < M.1 + 1 + n then m else M.2.2.1 x), (fun x j => if M.1 ≤ x ∧ x < M.1 + 1 + n then 0 else M.2.2.2.1 x j), (fun x j => if M.1 ≤ x ∧ x < M.1 + 1 + n then 0 else M.2.2.2.2.1 x j), (fun x j => if x = M.1 then (if j < n then some (M.1 + 1 + j) else none) else if M.1 < x ∧ x < M.1 + 1 + n then none else M.2.2.2.2.2 x j))
theorem wI_PI (M : WM) (r k : Nat) (v : Int32) (x j : Nat) : wI (wPI M r k v) x j = if x = r ∧ j = k then v else wI M x j := rfl
theorem wJ_PJ (M : WM) (r k : Nat) (v : Int64) (x j : Nat) : wJ (wPJ M r k v) x j = if x = r ∧ j = k then v else wJ M x j := rfl
theorem wR_PR (M : WM) (r k : Nat) (v : Option Nat) (x j : Nat) : wR (wPR M r k v) x j = if x = r ∧ j = k then v else wR M x j := rfl
theorem wI_PJ (M : WM) (r k : Nat) (v : Int64) (x j : Nat) : wI (wPJ M r k v) x j = wI M x j := rfl
theorem wI_PR (M : WM) (r k : Nat) (v : Option Nat) (x j : Nat) : wI (wPR M r k v) x j = wI M x j := rfl
theorem wJ_PI (M : WM) (r k : Nat) (v : Int32) (x j : Nat) : wJ (wPI M r k v) x j = wJ M x j := rfl
theorem wJ_PR (M : WM) (r k : Nat) (v : Option Nat) (x j : Nat) : wJ (wPR M r k v) x j = wJ M x j := rfl
theorem wR_PI (M : WM) (r k : Nat) (v : Int32) (x j : Nat) : wR (wPI M r k v) x j = wR M x j := rfl
theorem wR_PJ (M : WM) (r k : Nat) (v : Int64) (x j : Nat) : wR (wPJ M r k v) x j = wR M x j := rfl
theorem wk_PI (M : WM) (r k : Nat) (v : Int32) (x : Nat) : wk (wPI M r k v) x = wk M x := rfl
theorem wk_PJ (M : WM) (r k : Nat) (v : Int64) (x : Nat) : wk (wPJ M r k v) x = wk M x := rfl
theorem wk_PR (M : WM) (r k : Nat) (v : Option Nat) (x : Nat) : wk (wPR M r k v) x = wk M x := rfl
theorem wl_PI (M : WM) (r k : Nat) (v : Int32) (x : Nat) : wl (wPI M r k v) x = wl M x := rfl
theorem wl_PJ (M : WM) (r k : Nat) (v : Int64) (x : Nat) : wl (wPJ M r k v) x = wl M x := rfl
theorem wl_PR (M : WM) (r k : Nat) (v : Option Nat) (x : Nat) : wl (wPR M r k v) x = wl M x := rfl
theorem wn_PI (M : WM) (r k : Nat) (v : Int32) : wn (wPI M r k v) = wn M := rfl
theorem wn_PJ (M : WM) (r k : Nat) (v : Int64) : wn (wPJ M r k v) = wn M := rfl
theorem wn_PR (M : WM) (r k : Nat) (v : Option Nat) : wn (wPR M r k v) = wn M := rfl
theorem wn_Nw (M : WM) (kd len : Nat) : wn (wNw M kd len) = wn M + 1 := rfl
theorem wk_Nw (M : WM) (kd len x : Nat) : wk (wNw M kd len) x = if x = wn M then kd else wk M x := rfl
theorem wl_Nw (M : WM) (kd len x : Nat) : wl (wNw M kd len) x = if x = wn M then len else wl M x := rfl
theorem wI_Nw (M : WM) (kd len x j : Nat) : wI (wNw M kd len) x j = if x = wn M then 0 else wI M x j := by
  show (if x = M.1 then (fun _ => (0 : Int32)) else M.2.2.2.1 x) j = _
  by_cases h : x = M.1 <;> simp [wn, wI, h]
theorem wJ_Nw (M : WM) (kd len x j : Nat) : wJ (wNw M kd len) x j = if x = wn M then 0 else wJ M x j := by
  show (if x = M.1 then (fun _ => (0 : Int64)) else M.2.2.2.2.1 x) j = _
  by_cases h : x = M.1 <;> simp [wn, wJ, h]
theorem wR_Nw (M : WM) (kd len x j : Nat) : wR (wNw M kd len) x j = if x = wn M then none else wR M x j := by
  show (if x = M.1 then (fun _ => (none : Option Nat)) else M.2.2.2.2.2 x) j = _
  by_cases h : x = M.1 <;> simp [wn, wR, h]
/-! classes -/
abbrev CL : List vw_C := [(RX0, TX0, 33), (RX1, TX1, 4), (RX2, TX2, 2), (RX4, TX4, 9), (RX5, TX5, 4), (RX6, TX6, 54), (RX7, TX7, 7), (RX9, TX9, 3), (RX10, TX10, 1), (RX11, TX11, 1), (RX13, TX13, 3), (RX14, TX14, 1), (RX15, TX15, 3)]
def fTy (ci k : Nat) : FieldType := match ci with
  | 0 => tyX0 k
  | 1 => tyX1 k
  | 2 => tyX2 k
  | 3 => tyX4 k
  | 4 => tyX5 k
  | 5 => tyX6 k
  | 6 => tyX7 k
  | 7 => tyX9 k
  | 8 => tyX10 k
  | 9 => tyX11 k
  | 10 => tyX13 k
  | 11 => tyX14 k
  | _ => tyX15 k
def nF (ci : Nat) : Nat := match ci with
  | 0 => 33
  | 1 => 4
  | 2 => 2
  | 3 => 9
  | 4 => 4
  | 5 => 54
  | 6 => 7
  | 7 => 3
  | 8 => 1
  | 9 => 1
  | 10 => 3
  | 11 => 1
  | _ => 3
def isRF (ci k : Nat) : Bool := match fTy ci k with
  | .int => false
  | .boolean => false
  | _ => true
/-- array kinds: 100 int, 101 long, 102 byte, 103 boolean, 104 int[][], 105 long[][], 106 boolean[][], 107 Word[], 108 Sum[], 109 Condition[] -/
def aTy (k : Nat) : FieldType := match k with
  | 100 => .int
  | 101 => .long
  | 102 => .byte
  | 103 => .boolean
  | 104 => .array .int
  | 105 => .array .long
  | 106 => .array .boolean
  | 107 => .object "LetterHeaps$Word"
  | 108 => .object "LetterHeaps$Sum"
  | _ => .object "LetterHeaps$Condition"
def TYS (cA : Nat → ClassId) : List (ClassId × FieldType) := (List.range 10).map (fun i => (cA (100 + i), aTy (100 + i)))
def vr (sz0 : Nat) (o : Option Nat) : Value := va_rf (o.map (fun r => sz0 + r))
def fv (sz0 : Nat) (M : WM) (ci r k : Nat) : Value := if isRF ci k = true then vr sz0 (wR M r k) else .int (wI M r k)
def av (sz0 : Nat) (M : WM) (kd r j : Nat) : Value := if kd = 101 then .long (wJ M r j) else if kd ≤ 103 then .int (wI M r j) else vr sz0 (wR M r j)
/-- the cell of a region -/
def wAt (D : va_G) (cA : Nat → ClassId) (sz0 : Nat) (M : WM) (H : Heap) (r : Nat) : Prop :=
  if wk M r < 100 then wk M r < 13 ∧ t_OB (sz0 + r) (D.1 (wk M r)) (nF (wk M r)) (D.2 (wk M r)) H (fv sz0 M (wk M r) r)
  else wk M r < 110 ∧ H[sz0 + r]? = some (arrV (cA (wk M r)) (wl M r) (av sz0 M (wk M r) r))
def Wd (D : va_G) (cA : Nat → ClassId) (sz0 : Nat) (H0 : Heap) (M : WM) (H : Heap) : Prop := H.size = sz0 + wn M ∧ (∀ r, wk M r ≠ 999 → wAt D cA sz0 M H r) ∧ ∀ q, q < sz0 → H[q]? = H0[q]?
theorem wAt_obj {H0 : Heap} {D : va_G} {cA : Nat → ClassId} {sz0 : Nat} {M : WM} {H : Heap} {r ci : Nat} (h : Wd D cA sz0 H0 M H) (hk : wk M r = ci) (hc : ci < 13) : t_OB (sz0 + r) (D.1 ci) (nF ci) (D.2 ci) H (fv sz0 M ci r) := by
  have h1 := h.2.1 r (by omega)
  unfold wAt at h1
  rw [hk, if_pos (by omega)] at h1
  exact h1.2
theorem wAt_arr {H0 : Heap} {D : va_G} {cA : Nat → ClassId} {sz0 : Nat} {M : WM} {H : Heap} {r kd : Nat} (h : Wd D cA sz0 H0 M H) (hk : wk M r = kd) (hc : 100 ≤ kd) (hc2 : kd < 110) : H[sz0 + r]? = some (arrV (cA kd) (wl M r) (av sz0 M kd r)) := by
  have h1 := h.2.1 r (by omega)
  unfold wAt at h1
  rw [hk, if_neg (by omega)] at h1
  exact h1.2
theorem CL_nF : ∀ ci, ci < 13 → ∀ q, CL[ci]? = some q → q.2.2 = nF ci := by
  intro ci h q hq
  match ci, h, hq with
  | 0, _, hq => cases hq; rfl
  | 1, _, hq => cases hq; rfl
  | 2, _, hq => cases hq; rfl
  | 3, _, hq => cases hq; rfl
  | 4, _, hq => cases hq; rfl
  | 5, _, hq => cases hq; rfl
  | 6, _, hq => cases hq; rfl
  | 7, _, hq => cases hq; rfl
  | 8, _, hq => cases hq; rfl
  | 9, _, hq => cases hq; rfl
  | 10, _, hq => cases hq; rfl
  | 11, _, hq => cases hq; rfl
  | 12, _, hq => cases hq; rfl
  | n + 13, h, _ => omega
/-- all of M' but region r as in M -/
def wBut (M M' : WM) (r : Nat) : Prop := wn M' = wn M ∧ (∀ x, wk M' x = wk M x) ∧ (∀ x, wl M' x = wl M x) ∧ ∀ x, x ≠ r → (∀ j, wI M' x j = wI M x j) ∧ (∀ j, wJ M' x j = wJ M x j) ∧ ∀ j, wR M' x j = wR M x j
theorem wBut_PI (M : WM) (r k : Nat) (v : Int32) : wBut M (wPI M r k v) r := ⟨rfl, fun _ => rfl, fun _ => rfl, fun x hx => ⟨fun j => by rw [wI_PI, if_neg (fun h => hx h.1)], fun _ => rfl, fun _ => rfl⟩⟩
theorem wBut_PJ (M : WM) (r k : Nat) (v : Int64) : wBut M (wPJ M r k v) r := ⟨rfl, fun _ => rfl, fun _ => rfl, fun x hx => ⟨fun _ => rfl, fun j => by rw [wJ_PJ, if_neg (fun h => hx h.1)], fun _ => rfl⟩⟩
theorem wBut_PR (M : WM) (r k : Nat) (v : Option Nat) : wBut M (wPR M r k v) r := ⟨rfl, fun _ => rfl, fun _ => rfl, fun x hx => ⟨fun _ => rfl, fun _ => rfl, fun j => by rw [wR_PR, if_neg (fun h => hx h.1)]⟩⟩
theorem wAt_same {D : va_G} {cA : Nat → ClassId} {sz0 : Nat} {M M' : WM} {H H' : Heap} {r : Nat} (h : wAt D cA sz0 M H r) (hq : H'[sz0 + r]? = H[sz0 + r]?) (h1 : wk M' r = wk M r) (h2 : wl M' r = wl M r) (h3 : ∀ j, wI M' r j = wI M r j) (h4 : ∀ j, wJ M' r j = wJ M r j) (h5 : ∀ j, wR M' r j = wR M r j) : wAt D cA sz0 M' H' r := by
  unfold wAt at h ⊢
  have ef : ∀ ci, fv sz0 M' ci r = fv sz0 M ci r := fun ci => by funext k; unfold fv; rw [h3, h5]
  have ea : ∀ kd, av sz0 M' kd r = av sz0 M kd r := fun kd => by funext k; unfold av; rw [h3, h4, h5]
  rw [h1, h2, ef, ea, hq]
  split at h
  · rename_i hc
    rw [if_pos hc]
    exact ⟨h.1, h.2.kept hq⟩
  · rename_i hc
    rw [if_neg hc]
    exact h
/-- a field is put -/
theorem Wd.field {H0 : Heap} {D : va_G} {cA : Nat → ClassId} {sz0 : Nat} {M M' : WM} {H H' : Heap} {r ci k : Nat} {v : Value} (h : Wd D cA sz0 H0 M H) (hk : wk M r = ci) (hc : ci < 13) (hkn : k < nF ci) (hap : ∀ x y, x < nF ci → y < nF ci → x ≠ y → D.2 ci x ≠ D.2 ci y) {cell : Cell} (c2 : cell.cls = D.1 ci) (c3 : cell.vm = .none) (c4 : ∀ j, j < nF ci → cell.slots[D.2 ci j]? = some (fv sz0 M ci r j)) (e1 : H'[sz0 + r]? = some (cell.setSlot (D.2 ci k) v)) (e2 : H'.size = H.size) (e3 : ∀ q, q ≠ sz0 + r → H'[q]? = H[q]?) (hB : wBut M M' r) (hv : ∀ j, updV (fv sz0 M ci r) k v j = fv sz0 M' ci r j) : Wd D cA sz0 H0 M' H' := by
  refine ⟨by rw [e2, h.1, hB.1], fun x hx => ?_, fun q hq => by rw [e3 q (by omega)]; exact h.2.2 q hq⟩
  rw [hB.2.1] at hx
  by_cases hxr : x = r
  · subst hxr
    unfold wAt
    rw [hB.2.1, hk, if_pos (by omega)]
    exact ⟨hc, t_OB.to (V := updV (fv sz0 M ci x) k v) ⟨_, e1, c2, c3, t_set c4 hap hkn v⟩ (fun j _ => hv j)⟩
  · exact wAt_same (h.2.1 x hx) (e3 _ (by omega)) (hB.2.1 x) (hB.2.2.1 x) (hB.2.2.2 x hxr).1 (hB.2.2.2 x hxr).2.1 (hB.2.2.2 x hxr).2.2
/-- an element is put -/
theorem Wd.elem {H0 : Heap} {D : va_G} {cA : Nat → ClassId} {sz0 : Nat} {M M' : WM} {H H' : Heap} {r kd k : Nat} {v : Value} (h : Wd D cA sz0 H0 M H) (hk : wk M r = kd) (hc : 100 ≤ kd) (hc2 : kd < 110) (e1 : H'[sz0 + r]? = some ((arrV (cA kd) (wl M r) (av sz0 M kd r)).setSlot k v)) (e2 : H'.size = H.size) (e3 : ∀ q, q ≠ sz0 + r → H'[q]? = H[q]?) (hB : wBut M M' r) (hv : ∀ j, updV (av sz0 M kd r) k v j = av sz0 M' kd r j) : Wd D cA sz0 H0 M' H' := by
  refine ⟨by rw [e2, h.1, hB.1], fun x hx => ?_, fun q hq => by rw [e3 q (by omega)]; exact h.2.2 q hq⟩
  rw [hB.2.1] at hx
  by_cases hxr : x = r
  · subst hxr
    unfold wAt
    rw [hB.2.1, hB.2.2.1, hk, if_neg (by omega), e1, arrV_store]
    exact ⟨hc2, by rw [show updV (av sz0 M kd x) k v = av sz0 M' kd x from funext hv]⟩
  · exact wAt_same (h.2.1 x hx) (e3 _ (by omega)) (hB.2.1 x) (hB.2.2.1 x) (hB.2.2.2 x hxr).1 (hB.2.2.2 x hxr).2.1 (hB.2.2.2 x hxr).2.2
theorem fv_PI {sz0 : Nat} {M : WM} {ci r k : Nat} {v : Int32} (hf : isRF ci k = false) (j : Nat) : updV (fv sz0 M ci r) k (.int v) j = fv sz0 (wPI M r k v) ci r j := by
  unfold updV fv
  rw [wI_PI, wR_PI]
  by_cases h : j = k
  · subst h; simp [hf]
  · simp [h]
theorem fv_PR {sz0 : Nat} {M : WM} {ci r k : Nat} {v : Option Nat} (hf : isRF ci k = true) (j : Nat) : updV (fv sz0 M ci r) k (vr sz0 v) j = fv sz0 (wPR M r k v) ci r j := by
  unfold updV fv
  rw [wI_PR, wR_PR]
  by_cases h : j = k
  · subst h; simp [hf]
  · simp [h]
theorem av_PI {sz0 : Nat} {M : WM} {kd r k : Nat} {v : Int32} (h1 : kd ≠ 101) (h2 : kd ≤ 103) (j : Nat) : updV (av sz0 M kd r) k (.int v) j = av sz0 (wPI M r k v) kd r j := by
  unfold updV av
  rw [wI_PI, wR_PI, wJ_PI]
  by_cases h : j = k
  · subst h; simp [h1, h2]
  · simp [h]
theorem av_PJ {sz0 : Nat} {M : WM} {r k : Nat} {v : Int64} (j : Nat) : updV (av sz0 M 101 r) k (.long v) j = av sz0 (wPJ M r k v) 101 r j := by
  unfold updV av
  rw [wI_PJ, wR_PJ, wJ_PJ]
  by_cases h : j = k
  · subst h; simp
  · simp [h]
theorem av_PR {sz0 : Nat} {M : WM} {kd r k : Nat} {v : Option Nat} (h1 : 103 < kd) (j : Nat) : updV (av sz0 M kd r) k (vr sz0 v) j = av sz0 (wPR M r k v) kd r j := by
  unfold updV av
  rw [wI_PR, wR_PR, wJ_PR]
  by_cases h : j = k
  · subst h; simp [show kd ≠ 101 by omega, show ¬ kd ≤ 103 by omega]
  · simp [h]
/-! WHAT STANDS IN EVERY FRAME, and the walking judgement V -/
def Aw (sz0 : Nat) : Nat → Prop := fun q => sz0 ≤ q
def isNst (w : Cond) : Bool := match w with
  | .fieldLinkNest _ _ _ _ _ _ => true
  | .methodLinkNest _ _ _ _ => true
  | .castable _ _ => true
  | .declares _ => true
  | _ => false
def lw_nst : List Cond := lw_tbl.filter isNst
theorem nst_in {w : Cond} (h : w ∈ lw_tbl) (g : isNst w = true) : w ∈ lw_nst := List.mem_filter.mpr ⟨h, g⟩
theorem nst_tab {w : Cond} (h : w ∈ lw_nst) : w.onTables = true := by
  have g := (List.mem_filter.mp h).2
  cases w <;> first | rfl | cases g
theorem nst_same {u U : State} (h : u.vm = U.vm) (k : ∀ w ∈ lw_nst, va_Nw w u) : ∀ w ∈ lw_nst, va_Nw w U := fun w hw => (k w hw).same (nst_tab hw) h
theorem nst_warm {s U : State} (h : s.WarmedH U.vm) (k : ∀ w ∈ lw_nst, va_Nw w s) : ∀ w ∈ lw_nst, va_Nw w U := by
  intro w hw
  have g := (List.mem_filter.mp hw).2
  have z := k w hw
  cases w with
  | fieldLinkNest a b c d e f => exact z.warmF h
  | methodLinkNest a b c d => exact z.warmM h
  | castable a b => exact z.warmC h
  | declares a => exact z.warmD h
  | _ => cases g
/-- the one text constant, and that strings are compact, as the law's start has them -/
def aS (D : va_G) : Nat := D.2 999 0
def aV (D : va_G) : Nat := D.2 999 1
def KS (D : va_G) (sz0 : Nat) (H0 : Heap) (U : State) : Prop := vk_R "LetterHeaps$Reader" 75 "kioplfgab" (aS D) U ∧ vk_S 1 [9] [[107, 105, 111, 112, 108, 102, 103, 97, 98]] (fun _ => aS D) (fun _ => aV D) (Aw sz0) U H0 ∧ va_Z "java/lang/String" "COMPACT_STRINGS" "Z" (.int 1) (Aw sz0) U H0
theorem KS.same {D : va_G} {sz0 : Nat} {H0 : Heap} {u U : State} (hv : U.vm = u.vm) (h : KS D sz0 H0 u) : KS D sz0 H0 U := by
  obtain ⟨h1, h2, h3⟩ := h
  have ha : u.vm.Alike U.vm := by rw [hv]; exact Vm.Alike.refl u.vm
  exact ⟨h1.same hv, h2.moved ha, h3.moved ha⟩
theorem KS.warm {D : va_G} {sz0 : Nat} {H0 : Heap} {s U : State} (hW : s.WarmedH U.vm) (h : KS D sz0 H0 s) : KS D sz0 H0 U := by
  obtain ⟨h1, h2, h3⟩ := h
  exact ⟨h1.warm hW, h2.moved hW.alike, h3.moved hW.alike⟩
def KK (D : va_G) (cA : Nat → ClassId) (sz0 : Nat) (H0 : Heap) (U : State) : Prop := va_K D CL (TYS cA) U ∧ (∀ w ∈ lw_nst, va_Nw w U) ∧ (∀ ty, Cond.arrayOver ty ∈ lw_tbl → ∀ a : Array Value, (Cond.arrayOver ty).before a U = true) ∧ KS D sz0 H0 U
theorem KK.calling {D : va_G} {cA : Nat → ClassId} {sz0 : Nat} {H0 : Heap} {U : State} {g : JFrame} {mk : MethodId} {a : Array Value} (h : KK D cA sz0 H0 U) : KK D cA sz0 H0 (U.calling g mk a) := ⟨va_K.moved (u := U) (U := U.calling g mk a) (Vm.Alike.refl U.vm) h.1, nst_same (u := U) (U := U.calling g mk a) rfl h.2.1, fun ty hy a' => h.2.2.1 ty hy a', h.2.2.2.same (U := U.calling g mk a) rfl⟩
theorem KK.warm {D : va_G} {cA : Nat → ClassId} {sz0 : Nat} {H0 : Heap} {s U : State} (hW : s.WarmedH U.vm) (h : KK D cA sz0 H0 s) : KK D cA sz0 H0 U := ⟨va_K.moved hW.alike h.1, nst_warm hW h.2.1, fun ty hy a => (Cond.arrayOver_setVmC (args := a) hW.alike ty).trans (h.2.2.1 ty hy a), h.2.2.2.warm hW⟩
/-- the frame's facts -/
def Cx (p : Program) (s : State) (m : MethodId) (args : Array Value) (meth : Method) (c : Code) (cc : ByteArray) (nL : Nat) (own : String) (ret : Option FieldType) (D : va_G) (cA : Nat → ClassId) (sz0 : Nat) (H0 : Heap) : Prop :=
  p.tables.exec = Jvm.exec ∧ c.code = cc ∧ c.maxLocals = nL ∧ s.vm.findClass own = some m.cls ∧ (∀ w ∈ lw_all, w.before args s = true) ∧ meth.sig.returnType = ret ∧ meth.locks = false ∧ KK D cA sz0 H0 s
section VV
variable {p : Program} {l : Launch} {e : Env} {R : Room} {s : State} {m : MethodId} {args : Array Value} {below : List Frame} {meth : Method} {c : Code} {cells slots : Nat} {Q : State → Prop}
variable {cc : ByteArray} {nL : Nat} {own : String} {ret : Option FieldType} {D : va_G} {cA : Nat → ClassId} {sz0 : Nat} {H0 : Heap} {pc : Nat} {lv lv' : List (Nat × Value)} {st : List Value} {M : WM}
def V (p : Program) (l : Launch) (e : Env) (R : Room) (s : State) (m : MethodId) (args : Array Value) (below : List Frame) (meth : Method) (c : Code) (nL : Nat) (D : va_G) (cA : Nat → ClassId) (sz0 : Nat) (H0 : Heap) (cells slots : Nat) (Q : State → Prop) (pc : Nat) (lv : List (Nat × Value)) (st : List Value) (M : WM) : Prop :=
  ∀ (ls : Array Slot) (H : Heap) (locs : List Loc), lv_has ls nL lv → Wd D cA sz0 H0 M H → va_S (Aw sz0) s.heap H locs → W p l e R s m args below meth c H locs cells slots Q (F0 m pc ls st)
theorem v_sub (ks : List Nat) (hl : lv_pick lv ks = lv') (k : V p l e R s m args below meth c nL D cA sz0 H0 cells slots Q pc lv' st M) : V p l e R s m args below meth c nL D cA sz0 H0 cells slots Q pc lv st M := fun ls H locs h1 h2 h3 => k ls H locs (lv_sub h1 ks hl) h2 h3
theorem v_topi {x : Int32} (k : ∀ y : Int32, y = x → V p l e R s m args below meth c nL D cA sz0 H0 cells slots Q pc lv (.int y :: st) M) : V p l e R s m args below meth c nL D cA sz0 H0 cells slots Q pc lv (.int x :: st) M := k x rfl
theorem v_topl {x : Int64} (k : ∀ y : Int64, y = x → V p l e R s m args below meth c nL D cA sz0 H0 cells slots Q pc lv (.long y :: st) M) : V p l e R s m args below meth c nL D cA sz0 H0 cells slots Q pc lv (.long x :: st) M := k x rfl
theorem v_wld (k : ∀ M' : WM, M' = M → V p l e R s m args below meth c nL D cA sz0 H0 cells slots Q pc lv st M') : V p l e R s m args below meth c nL D cA sz0 H0 cells slots Q pc lv st M := k M rfl
theorem v_iconst (cx : Cx p s m args meth c cc nL own ret D cA sz0 H0) {n : Int} {v : Int32} (d : decode cc pc = .ok (.iconst n, 1)) (hv : Int32.ofInt n = v) (k : V p l e R s m args below meth c nL D cA sz0 H0 cells slots Q (pc + 1) lv (.int v :: st) M) : V p l e R s m args below meth c nL D cA sz0 H0 cells slots Q pc lv st M := fun ls H locs h1 h2 h3 => lv_iconst cx.1 cx.2.1 d hv (k ls H locs h1 h2 h3)
theorem v_bipush (cx : Cx p s m args meth c cc nL own ret D cA sz0 H0) {n : Int} {v : Int32} (d : decode cc pc = .ok (.bipush n, 2)) (hv : (Int8.ofInt n).toInt32 = v) (k : V p l e R s m args below meth c nL D cA sz0 H0 cells slots Q (pc + 2) lv (.int v :: st) M) : V p l e R s m args below meth c nL D cA sz0 H0 cells slots Q pc lv st M := fun ls H locs h1 h2 h3 => lv_bipush cx.1 cx.2.1 d hv (k ls H locs h1 h2 h3)
theorem v_sipush (cx : Cx p s m args meth c cc nL own ret D cA sz0 H0) {n : Int} {v : Int32} (d : decode cc pc = .ok (.sipush n, 3)) (hv : (Int16.ofInt n).toInt32 = v) (k : V p l e R s m args below meth c nL D cA sz0 H0 cells slots Q (pc + 3) lv (.int v :: st) M) : V p l e R s m args below meth c nL D cA sz0 H0 cells slots Q pc lv st M := fun ls H locs h1 h2 h3 => lv_sipush cx.1 cx.2.1 d hv (k ls H locs h1 h2 h3)
theorem v_lconst (cx : Cx p s m args meth c cc nL own ret D cA sz0 H0) {n : Fin 2} {v : Int64} (d : decode cc pc = .ok (.lconst n, 1)) (hv : Int64.ofNat (n : Nat) = v) (k : V p l e R s m args below meth c nL D cA sz0 H0 cells slots Q (pc + 1) lv (.long v :: st) M) : V p l e R s m args below meth c nL D cA sz0 H0 cells slots Q pc lv st M := fun ls H locs h1 h2 h3 => lv_lconst cx.1 cx.2.1 d hv (k ls H locs h1 h2 h3)
theorem v_null (cx : Cx p s m args meth c cc nL own ret D cA sz0 H0)  (d : decode cc pc = .ok (.aconst_null, 1))  (k : V p l e R s m args below meth c nL D cA sz0 H0 cells slots Q (pc + 1) lv (vr sz0 none :: st) M) : V p l e R s m args below meth c nL D cA sz0 H0 cells slots Q pc lv st M := fun ls H locs h1 h2 h3 => lv_null cx.1 cx.2.1 d  (k ls H locs h1 h2 h3)
theorem v_iload_n (cx : Cx p s m args meth c cc nL own ret D cA sz0 H0) {k : Fin 4} {i : Nat} {x : Int32} (d : decode cc pc = .ok (.iload_n k, 1)) (hi : (k : Nat) = i) (q : Nat) (hq : lv[q]? = some (i, .int x)) (k : V p l e R s m args below meth c nL D cA sz0 H0 cells slots Q (pc + 1) lv (.int x :: st) M) : V p l e R s m args below meth c nL D cA sz0 H0 cells slots Q pc lv st M := fun ls H locs h1 h2 h3 => lv_iload_n cx.1 cx.2.1 d hi (lv_at h1 q hq) (k ls H locs h1 h2 h3)
theorem v_iload (cx : Cx p s m args meth c cc nL own ret D cA sz0 H0) {i : Nat} {x : Int32} (d : decode cc pc = .ok (.iload i, 2)) (q : Nat) (hq : lv[q]? = some (i, .int x)) (k : V p l e R s m args below meth c nL D cA sz0 H0 cells slots Q (pc + 2) lv (.int x :: st) M) : V p l e R s m args below meth c nL D cA sz0 H0 cells slots Q pc lv st M := fun ls H locs h1 h2 h3 => lv_iload cx.1 cx.2.1 d (lv_at h1 q hq) (k ls H locs h1 h2 h3)
theorem v_lload_n (cx : Cx p s m args meth c cc nL own ret D cA sz0 H0) {k : Fin 4} {i : Nat} {x : Int64} (d : decode cc pc = .ok (.lload_n k, 1)) (hi : (k : Nat) = i) (q : Nat) (hq : lv[q]? = some (i, .long x)) (k : V p l e R s m args below meth c nL D cA sz0 H0 cells slots Q (pc + 1) lv (.long x :: st) M) : V p l e R s m args below meth c nL D cA sz0 H0 cells slots Q pc lv st M := fun ls H locs h1 h2 h3 => lv_lload_n cx.1 cx.2.1 d hi (lv_at h1 q hq) (k ls H locs h1 h2 h3)
theorem v_lload (cx : Cx p s m args meth c cc nL own ret D cA sz0 H0) {i : Nat} {x : Int64} (d : decode cc pc = .ok (.lload i, 2)) (q : Nat) (hq : lv[q]? = some (i, .long x)) (k : V p l e R s m args below meth c nL D cA sz0 H0 cells slots Q (pc + 2) lv (.long x :: st) M) : V p l e R s m args below meth c nL D cA sz0 H0 cells slots Q pc lv st M := fun ls H locs h1 h2 h3 => lv_lload cx.1 cx.2.1 d (lv_at h1 q hq) (k ls H locs h1 h2 h3)
theorem v_aload_n (cx : Cx p s m args meth c cc nL own ret D cA sz0 H0) {k : Fin 4} {i : Nat} {x : Nat} (d : decode cc pc = .ok (.aload_n k, 1)) (hi : (k : Nat) = i) (q : Nat) (hq : lv[q]? = some (i, .ref x)) (k : V p l e R s m args below meth c nL D cA sz0 H0 cells slots Q (pc + 1) lv (.ref x :: st) M) : V p l e R s m args below meth c nL D cA sz0 H0 cells slots Q pc lv st M := fun ls H locs h1 h2 h3 => lv_aload_n cx.1 cx.2.1 d hi (lv_at h1 q hq) (k ls H locs h1 h2 h3)
theorem v_aload (cx : Cx p s m args meth c cc nL own ret D cA sz0 H0) {i : Nat} {x : Nat} (d : decode cc pc = .ok (.aload i, 2)) (q : Nat) (hq : lv[q]? = some (i, .ref x)) (k : V p l e R s m args below meth c nL D cA sz0 H0 cells slots Q (pc + 2) lv (.ref x :: st) M) : V p l e R s m args below meth c nL D cA sz0 H0 cells slots Q pc lv st M := fun ls H locs h1 h2 h3 => lv_aload cx.1 cx.2.1 d (lv_at h1 q hq) (k ls H locs h1 h2 h3)
theorem v_aload_nQ (cx : Cx p s m args meth c cc nL own ret D cA sz0 H0) {k : Fin 4} {i : Nat} {o : Option Nat} (d : decode cc pc = .ok (.aload_n k, 1)) (hi : (k : Nat) = i) (q : Nat) (hq : lv[q]? = some (i, vr sz0 o)) (kk : V p l e R s m args below meth c nL D cA sz0 H0 cells slots Q (pc + 1) lv (vr sz0 o :: st) M) : V p l e R s m args below meth c nL D cA sz0 H0 cells slots Q pc lv st M := fun ls H locs h1 h2 h3 => by
  cases o with
  | none => exact lv_aload_nN cx.1 cx.2.1 d hi (lv_at h1 q hq) (kk ls H locs h1 h2 h3)
  | some x => exact lv_aload_n cx.1 cx.2.1 d hi (lv_at h1 q hq) (kk ls H locs h1 h2 h3)
theorem v_aloadQ (cx : Cx p s m args meth c cc nL own ret D cA sz0 H0)  {i : Nat} {o : Option Nat} (d : decode cc pc = .ok (.aload i, 2))  (q : Nat) (hq : lv[q]? = some (i, vr sz0 o)) (kk : V p l e R s m args below meth c nL D cA sz0 H0 cells slots Q (pc + 2) lv (vr sz0 o :: st) M) : V p l e R s m args below meth c nL D cA sz0 H0 cells slots Q pc lv st M := fun ls H locs h1 h2 h3 => by
  cases o with
  | none => exact lv_aloadN cx.1 cx.2.1 d  (lv_at h1 q hq) (kk ls H locs h1 h2 h3)
  | some x => exact lv_aload cx.1 cx.2.1 d  (lv_at h1 q hq) (kk ls H locs h1 h2 h3)
theorem v_istore_n (cx : Cx p s m args meth c cc nL own ret D cA sz0 H0) {k : Fin 4} {i : Nat} {x : Int32} (d : decode cc pc = .ok (.istore_n k, 1)) (hi : (k : Nat) = i) (hn : i < nL) (hl : (i, Value.int x) :: lv.filter (fun q => !(q.1 == i) && !(q.1 + 1 == i && q.2.category == 2)) = lv') (k : V p l e R s m args below meth c nL D cA sz0 H0 cells slots Q (pc + 1) lv' st M) : V p l e R s m args below meth c nL D cA sz0 H0 cells slots Q pc lv (.int x :: st) M := fun ls H locs h1 h2 h3 => lv_istore_n cx.1 cx.2.1 d hi h1 hn hl (fun ls' h1' => k ls' H locs h1' h2 h3)
theorem v_istore (cx : Cx p s m args meth c cc nL own ret D cA sz0 H0) {i : Nat} {x : Int32} (d : decode cc pc = .ok (.istore i, 2))  (hn : i < nL) (hl : (i, Value.int x) :: lv.filter (fun q => !(q.1 == i) && !(q.1 + 1 == i && q.2.category == 2)) = lv') (k : V p l e R s m args below meth c nL D cA sz0 H0 cells slots Q (pc + 2) lv' st M) : V p l e R s m args below meth c nL D cA sz0 H0 cells slots Q pc lv (.int x :: st) M := fun ls H locs h1 h2 h3 => lv_istore cx.1 cx.2.1 d  h1 hn hl (fun ls' h1' => k ls' H locs h1' h2 h3)
theorem v_lstore_n (cx : Cx p s m args meth c cc nL own ret D cA sz0 H0) {k : Fin 4} {i : Nat} {x : Int64} (d : decode cc pc = .ok (.lstore_n k, 1)) (hi : (k : Nat) = i) (hn : i + 1 < nL) (hl : (i, Value.long x) :: lv.filter (fun q => !(q.1 == i) && (!(q.1 == i + 1) && !(q.1 + 1 == i && q.2.category == 2))) = lv') (k : V p l e R s m args below meth c nL D cA sz0 H0 cells slots Q (pc + 1) lv' st M) : V p l e R s m args below meth c nL D cA sz0 H0 cells slots Q pc lv (.long x :: st) M := fun ls H locs h1 h2 h3 => lv_lstore_n cx.1 cx.2.1 d hi h1 hn hl (fun ls' h1' => k ls' H locs h1' h2 h3)
theorem v_lstore (cx : Cx p s m args meth c cc nL own ret D cA sz0 H0) {i : Nat} {x : Int64} (d : decode cc pc = .ok (.lstore i, 2))  (hn : i + 1 < nL) (hl : (i, Value.long x) :: lv.filter (fun q => !(q.1 == i) && (!(q.1 == i + 1) && !(q.1 + 1 == i && q.2.category == 2))) = lv') (k : V p l e R s m args below meth c nL D cA sz0 H0 cells slots Q (pc + 2) lv' st M) : V p l e R s m args below meth c nL D cA sz0 H0 cells slots Q pc lv (.long x :: st) M := fun ls H locs h1 h2 h3 => lv_lstore cx.1 cx.2.1 d  h1 hn hl (fun ls' h1' => k ls' H locs h1' h2 h3)
theorem v_astore_n (cx : Cx p s m args meth c cc nL own ret D cA sz0 H0) {k : Fin 4} {i : Nat} {x : Nat} (d : decode cc pc = .ok (.astore_n k, 1)) (hi : (k : Nat) = i) (hn : i < nL) (hl : (i, Value.ref x) :: lv.filter (fun q => !(q.1 == i) && !(q.1 + 1 == i && q.2.category == 2)) = lv') (k : V p l e R s m args below meth c nL D cA sz0 H0 cells slots Q (pc + 1) lv' st M) : V p l e R s m args below meth c nL D cA sz0 H0 cells slots Q pc lv (.ref x :: st) M := fun ls H locs h1 h2 h3 => lv_astore_n cx.1 cx.2.1 d hi h1 hn hl (fun ls' h1' => k ls' H locs h1' h2 h3)
theorem v_astore (cx : Cx p s m args meth c cc nL own ret D cA sz0 H0) {i : Nat} {x : Nat} (d : decode cc pc = .ok (.astore i, 2))  (hn : i < nL) (hl : (i, Value.ref x) :: lv.filter (fun q => !(q.1 == i) && !(q.1 + 1 == i && q.2.category == 2)) = lv') (k : V p l e R s m args below meth c nL D cA sz0 H0 cells slots Q (pc + 2) lv' st M) : V p l e R s m args below meth c nL D cA sz0 H0 cells slots Q pc lv (.ref x :: st) M := fun ls H locs h1 h2 h3 => lv_astore cx.1 cx.2.1 d  h1 hn hl (fun ls' h1' => k ls' H locs h1' h2 h3)
theorem v_astore_nQ (cx : Cx p s m args meth c cc nL own ret D cA sz0 H0) {k : Fin 4} {i : Nat} {o : Option Nat} (d : decode cc pc = .ok (.astore_n k, 1)) (hi : (k : Nat) = i) (hn : i < nL) (hl : (i, vr sz0 o) :: lv.filter (fun q => !(q.1 == i) && !(q.1 + 1 == i && q.2.category == 2)) = lv') (kk : V p l e R s m args below meth c nL D cA sz0 H0 cells slots Q (pc + 1) lv' st M) : V p l e R s m args below meth c nL D cA sz0 H0 cells slots Q pc lv (vr sz0 o :: st) M := fun ls H locs h1 h2 h3 => by
  cases o with
  | none => exact lv_astore_nN cx.1 cx.2.1 d hi h1 hn hl (fun ls' h1' => kk ls' H locs h1' h2 h3)
  | some x => exact lv_astore_n cx.1 cx.2.1 d hi h1 hn hl (fun ls' h1' => kk ls' H locs h1' h2 h3)
theorem v_astoreQ (cx : Cx p s m args meth c cc nL own ret D cA sz0 H0)  {i : Nat} {o : Option Nat} (d : decode cc pc = .ok (.astore i, 2))  (hn : i < nL) (hl : (i, vr sz0 o) :: lv.filter (fun q => !(q.1 == i) && !(q.1 + 1 == i && q.2.category == 2)) = lv') (kk : V p l e R s m args below meth c nL D cA sz0 H0 cells slots Q (pc + 2) lv' st M) : V p l e R s m args below meth c nL D cA sz0 H0 cells slots Q pc lv (vr sz0 o :: st) M := fun ls H locs h1 h2 h3 => by
  cases o with
  | none => exact lv_astoreN cx.1 cx.2.1 d  h1 hn hl (fun ls' h1' => kk ls' H locs h1' h2 h3)
  | some x => exact lv_astore cx.1 cx.2.1 d  h1 hn hl (fun ls' h1' => kk ls' H locs h1' h2 h3)
theorem v_iinc (cx : Cx p s m args meth c cc nL own ret D cA sz0 H0) {i q : Nat} {n : Int} {x v : Int32} (d : decode cc pc = .ok (.iinc i n, 3)) (hq : lv[q]? = some (i, .int x)) (hv : x + Int32.ofInt n = v) (hn : i < nL) (hl : (i, Value.int v) :: lv.filter (fun q => !(q.1 == i) && !(q.1 + 1 == i && q.2.category == 2)) = lv') (k : V p l e R s m args below meth c nL D cA sz0 H0 cells slots Q (pc + 3) lv' st M) : V p l e R s m args below meth c nL D cA sz0 H0 cells slots Q pc lv st M := fun ls H locs h1 h2 h3 => lv_iinc cx.1 cx.2.1 d h1 hq hv hn hl (fun ls' h1' => k ls' H locs h1' h2 h3)
theorem v_iadd (cx : Cx p s m args meth c cc nL own ret D cA sz0 H0) {x y : Int32} (d : decode cc pc = .ok (.iadd, 1))  (k : V p l e R s m args below meth c nL D cA sz0 H0 cells slots Q (pc + 1) lv (.int (x + y) :: st) M) : V p l e R s m args below meth c nL D cA sz0 H0 cells slots Q pc lv (.int y :: .int x :: st) M := fun ls H locs h1 h2 h3 => lv_iadd cx.1 cx.2.1 d  (k ls H locs h1 h2 h3)
theorem v_isub (cx : Cx p s m args meth c cc nL own ret D cA sz0 H0) {x y : Int32} (d : decode cc pc = .ok (.isub, 1))  (k : V p l e R s m args below meth c nL D cA sz0 H0 cells slots Q (pc + 1) lv (.int (x - y) :: st) M) : V p l e R s m args below meth c nL D cA sz0 H0 cells slots Q pc lv (.int y :: .int x :: st) M := fun ls H locs h1 h2 h3 => lv_isub cx.1 cx.2.1 d  (k ls H locs h1 h2 h3)
theorem v_imul (cx : Cx p s m args meth c cc nL own ret D cA sz0 H0) {x y : Int32} (d : decode cc pc = .ok (.imul, 1))  (k : V p l e R s m args below meth c nL D cA sz0 H0 cells slots Q (pc + 1) lv (.int (x * y) :: st) M) : V p l e R s m args below meth c nL D cA sz0 H0 cells slots Q pc lv (.int y :: .int x :: st) M := fun ls H locs h1 h2 h3 => lv_imul cx.1 cx.2.1 d  (k ls H locs h1 h2 h3)
theorem v_iand (cx : Cx p s m args meth c cc nL own ret D cA sz0 H0) {x y : Int32} (d : decode cc pc = .ok (.iand, 1))  (k : V p l e R s m args below meth c nL D cA sz0 H0 cells slots Q (pc + 1) lv (.int (x &&& y) :: st) M) : V p l e R s m args below meth c nL D cA sz0 H0 cells slots Q pc lv (.int y :: .int x :: st) M := fun ls H locs h1 h2 h3 => lv_iand cx.1 cx.2.1 d  (k ls H locs h1 h2 h3)
theorem v_ior (cx : Cx p s m args meth c cc nL own ret D cA sz0 H0) {x y : Int32} (d : decode cc pc = .ok (.ior, 1))  (k : V p l e R s m args below meth c nL D cA sz0 H0 cells slots Q (pc + 1) lv (.int (x ||| y) :: st) M) : V p l e R s m args below meth c nL D cA sz0 H0 cells slots Q pc lv (.int y :: .int x :: st) M := fun ls H locs h1 h2 h3 => lv_ior cx.1 cx.2.1 d  (k ls H locs h1 h2 h3)
theorem v_ishl (cx : Cx p s m args meth c cc nL own ret D cA sz0 H0) {x y : Int32} (d : decode cc pc = .ok (.ishl, 1))  (k : V p l e R s m args below meth c nL D cA sz0 H0 cells slots Q (pc + 1) lv (.int (x <<< (y &&& 31)) :: st) M) : V p l e R s m args below meth c nL D cA sz0 H0 cells slots Q pc lv (.int y :: .int x :: st) M := fun ls H locs h1 h2 h3 => lv_ishl cx.1 cx.2.1 d  (k ls H locs h1 h2 h3)
theorem v_ishr (cx : Cx p s m args meth c cc nL own ret D cA sz0 H0) {x y : Int32} (d : decode cc pc = .ok (.ishr, 1))  (k : V p l e R s m args below meth c nL D cA sz0 H0 cells slots Q (pc + 1) lv (.int (x >>> (y &&& 31)) :: st) M) : V p l e R s m args below meth c nL D cA sz0 H0 cells slots Q pc lv (.int y :: .int x :: st) M := fun ls H locs h1 h2 h3 => lv_ishr cx.1 cx.2.1 d  (k ls H locs h1 h2 h3)
theorem v_idiv (cx : Cx p s m args meth c cc nL own ret D cA sz0 H0) {x y : Int32} (d : decode cc pc = .ok (.idiv, 1)) (hne : ¬ y = 0) (k : V p l e R s m args below meth c nL D cA sz0 H0 cells slots Q (pc + 1) lv (.int (x / y) :: st) M) : V p l e R s m args below meth c nL D cA sz0 H0 cells slots Q pc lv (.int y :: .int x :: st) M := fun ls H locs h1 h2 h3 => lv_idiv cx.1 cx.2.1 d hne (k ls H locs h1 h2 h3)
theorem v_irem (cx : Cx p s m args meth c cc nL own ret D cA sz0 H0) {x y : Int32} (d : decode cc pc = .ok (.irem, 1)) (hne : ¬ y = 0) (k : V p l e R s m args below meth c nL D cA sz0 H0 cells slots Q (pc + 1) lv (.int (x - x / y * y) :: st) M) : V p l e R s m args below meth c nL D cA sz0 H0 cells slots Q pc lv (.int y :: .int x :: st) M := fun ls H locs h1 h2 h3 => lv_irem cx.1 cx.2.1 d hne (k ls H locs h1 h2 h3)
theorem v_iushr (cx : Cx p s m args meth c cc nL own ret D cA sz0 H0) {x y : Int32} (d : decode cc pc = .ok (.iushr, 1))  (k : V p l e R s m args below meth c nL D cA sz0 H0 cells slots Q (pc + 1) lv (.int ((x.toUInt32 >>> (y.toUInt32 &&& Int32.toUInt32 31)).toInt32) :: st) M) : V p l e R s m args below meth c nL D cA sz0 H0 cells slots Q pc lv (.int y :: .int x :: st) M := fun ls H locs h1 h2 h3 => lv_iushr cx.1 cx.2.1 d rfl (k ls H locs h1 h2 h3)
theorem v_ladd (cx : Cx p s m args meth c cc nL own ret D cA sz0 H0) {x y : Int64} (d : decode cc pc = .ok (.ladd, 1))  (k : V p l e R s m args below meth c nL D cA sz0 H0 cells slots Q (pc + 1) lv (.long (x + y) :: st) M) : V p l e R s m args below meth c nL D cA sz0 H0 cells slots Q pc lv (.long y :: .long x :: st) M := fun ls H locs h1 h2 h3 => lv_ladd cx.1 cx.2.1 d  (k ls H locs h1 h2 h3)
theorem v_lsub (cx : Cx p s m args meth c cc nL own ret D cA sz0 H0) {x y : Int64} (d : decode cc pc = .ok (.lsub, 1))  (k : V p l e R s m args below meth c nL D cA sz0 H0 cells slots Q (pc + 1) lv (.long (x - y) :: st) M) : V p l e R s m args below meth c nL D cA sz0 H0 cells slots Q pc lv (.long y :: .long x :: st) M := fun ls H locs h1 h2 h3 => lv_lsub cx.1 cx.2.1 d  (k ls H locs h1 h2 h3)
theorem v_land (cx : Cx p s m args meth c cc nL own ret D cA sz0 H0) {x y : Int64} (d : decode cc pc = .ok (.land, 1))  (k : V p l e R s m args below meth c nL D cA sz0 H0 cells slots Q (pc + 1) lv (.long (x &&& y) :: st) M) : V p l e R s m args below meth c nL D cA sz0 H0 cells slots Q pc lv (.long y :: .long x :: st) M := fun ls H locs h1 h2 h3 => lv_land cx.1 cx.2.1 d  (k ls H locs h1 h2 h3)
theorem v_lor (cx : Cx p s m args meth c cc nL own ret D cA sz0 H0) {x y : Int64} (d : decode cc pc = .ok (.lor, 1))  (k : V p l e R s m args below meth c nL D cA sz0 H0 cells slots Q (pc + 1) lv (.long (x ||| y) :: st) M) : V p l e R s m args below meth c nL D cA sz0 H0 cells slots Q pc lv (.long y :: .long x :: st) M := fun ls H locs h1 h2 h3 => lv_lor cx.1 cx.2.1 d  (k ls H locs h1 h2 h3)
theorem v_lshl (cx : Cx p s m args meth c cc nL own ret D cA sz0 H0) {x : Int64} {y : Int32} (d : decode cc pc = .ok (.lshl, 1)) (k : V p l e R s m args below meth c nL D cA sz0 H0 cells slots Q (pc + 1) lv (.long (x <<< (y.toInt64 &&& 63)) :: st) M) : V p l e R s m args below meth c nL D cA sz0 H0 cells slots Q pc lv (.int y :: .long x :: st) M := fun ls H locs h1 h2 h3 => lv_lshl cx.1 cx.2.1 d rfl (k ls H locs h1 h2 h3)
theorem v_lshr (cx : Cx p s m args meth c cc nL own ret D cA sz0 H0) {x : Int64} {y : Int32} (d : decode cc pc = .ok (.lshr, 1)) (k : V p l e R s m args below meth c nL D cA sz0 H0 cells slots Q (pc + 1) lv (.long (x >>> (y.toInt64 &&& 63)) :: st) M) : V p l e R s m args below meth c nL D cA sz0 H0 cells slots Q pc lv (.int y :: .long x :: st) M := fun ls H locs h1 h2 h3 => lv_lshr cx.1 cx.2.1 d rfl (k ls H locs h1 h2 h3)
theorem v_lushr (cx : Cx p s m args meth c cc nL own ret D cA sz0 H0) {x : Int64} {y : Int32} (d : decode cc pc = .ok (.lushr, 1)) (k : V p l e R s m args below meth c nL D cA sz0 H0 cells slots Q (pc + 1) lv (.long ((x.toUInt64 >>> (y.toInt64.toUInt64 &&& Int64.toUInt64 63)).toInt64) :: st) M) : V p l e R s m args below meth c nL D cA sz0 H0 cells slots Q pc lv (.int y :: .long x :: st) M := fun ls H locs h1 h2 h3 => lv_lushr cx.1 cx.2.1 d rfl (k ls H locs h1 h2 h3)
theorem v_i2l (cx : Cx p s m args meth c cc nL own ret D cA sz0 H0) {x : Int32} (d : decode cc pc = .ok (.i2l, 1)) (k : V p l e R s m args below meth c nL D cA sz0 H0 cells slots Q (pc + 1) lv (.long (x.toInt64) :: st) M) : V p l e R s m args below meth c nL D cA sz0 H0 cells slots Q pc lv (.int x :: st) M := fun ls H locs h1 h2 h3 => lv_i2l cx.1 cx.2.1 d rfl (k ls H locs h1 h2 h3)
theorem v_l2i (cx : Cx p s m args meth c cc nL own ret D cA sz0 H0) {x : Int64} (d : decode cc pc = .ok (.l2i, 1)) (k : V p l e R s m args below meth c nL D cA sz0 H0 cells slots Q (pc + 1) lv (.int (x.toInt32) :: st) M) : V p l e R s m args below meth c nL D cA sz0 H0 cells slots Q pc lv (.long x :: st) M := fun ls H locs h1 h2 h3 => lv_l2i cx.1 cx.2.1 d rfl (k ls H locs h1 h2 h3)
theorem v_i2b (cx : Cx p s m args meth c cc nL own ret D cA sz0 H0) {x : Int32} (d : decode cc pc = .ok (.i2b, 1)) (k : V p l e R s m args below meth c nL D cA sz0 H0 cells slots Q (pc + 1) lv (.int (x.toInt8.toInt32) :: st) M) : V p l e R s m args below meth c nL D cA sz0 H0 cells slots Q pc lv (.int x :: st) M := fun ls H locs h1 h2 h3 => lv_i2b cx.1 cx.2.1 d rfl (k ls H locs h1 h2 h3)
theorem v_if_eq (cx : Cx p s m args meth c cc nL own ret D cA sz0 H0) {x : Int32} {off : Int} {tgt : Nat} (d : decode cc pc = .ok (.ifCond .eq off, 3)) (ht : (pc : Int) + off = (tgt : Int)) (kt : x = 0 → V p l e R s m args below meth c nL D cA sz0 H0 cells slots Q tgt lv st M) (kf : ¬ x = 0 → V p l e R s m args below meth c nL D cA sz0 H0 cells slots Q (pc + 3) lv st M) : V p l e R s m args below meth c nL D cA sz0 H0 cells slots Q pc lv (.int x :: st) M := fun ls H locs h1 h2 h3 => lv_if_eq cx.1 cx.2.1 d ht (fun z => kt z ls H locs h1 h2 h3) (fun z => kf z ls H locs h1 h2 h3)
theorem v_icmp_eq (cx : Cx p s m args meth c cc nL own ret D cA sz0 H0) {x y : Int32} {off : Int} {tgt : Nat} (d : decode cc pc = .ok (.if_icmp .eq off, 3)) (ht : (pc : Int) + off = (tgt : Int)) (kt : x = y → V p l e R s m args below meth c nL D cA sz0 H0 cells slots Q tgt lv st M) (kf : ¬ x = y → V p l e R s m args below meth c nL D cA sz0 H0 cells slots Q (pc + 3) lv st M) : V p l e R s m args below meth c nL D cA sz0 H0 cells slots Q pc lv (.int y :: .int x :: st) M := fun ls H locs h1 h2 h3 => lv_icmp_eq cx.1 cx.2.1 d ht (fun z => kt z ls H locs h1 h2 h3) (fun z => kf z ls H locs h1 h2 h3)
theorem v_if_ne (cx : Cx p s m args meth c cc nL own ret D cA sz0 H0) {x : Int32} {off : Int} {tgt : Nat} (d : decode cc pc = .ok (.ifCond .ne off, 3)) (ht : (pc : Int) + off = (tgt : Int)) (kt : ¬ x = 0 → V p l e R s m args below meth c nL D cA sz0 H0 cells slots Q tgt lv st M) (kf : x = 0 → V p l e R s m args below meth c nL D cA sz0 H0 cells slots Q (pc + 3) lv st M) : V p l e R s m args below meth c nL D cA sz0 H0 cells slots Q pc lv (.int x :: st) M := fun ls H locs h1 h2 h3 => lv_if_ne cx.1 cx.2.1 d ht (fun z => kt z ls H locs h1 h2 h3) (fun z => kf z ls H locs h1 h2 h3)
theorem v_icmp_ne (cx : Cx p s m args meth c cc nL own ret D cA sz0 H0) {x y : Int32} {off : Int} {tgt : Nat} (d : decode cc pc = .ok (.if_icmp .ne off, 3)) (ht : (pc : Int) + off = (tgt : Int)) (kt : ¬ x = y → V p l e R s m args below meth c nL D cA sz0 H0 cells slots Q tgt lv st M) (kf : x = y → V p l e R s m args below meth c nL D cA sz0 H0 cells slots Q (pc + 3) lv st M) : V p l e R s m args below meth c nL D cA sz0 H0 cells slots Q pc lv (.int y :: .int x :: st) M := fun ls H locs h1 h2 h3 => lv_icmp_ne cx.1 cx.2.1 d ht (fun z => kt z ls H locs h1 h2 h3) (fun z => kf z ls H locs h1 h2 h3)
theorem v_if_lt (cx : Cx p s m args meth c cc nL own ret D cA sz0 H0) {x : Int32} {off : Int} {tgt : Nat} (d : decode cc pc = .ok (.ifCond .lt off, 3)) (ht : (pc : Int) + off = (tgt : Int)) (kt : x < 0 → V p l e R s m args below meth c nL D cA sz0 H0 cells slots Q tgt lv st M) (kf : ¬ x < 0 → V p l e R s m args below meth c nL D cA sz0 H0 cells slots Q (pc + 3) lv st M) : V p l e R s m args below meth c nL D cA sz0 H0 cells slots Q pc lv (.int x :: st) M := fun ls H locs h1 h2 h3 => lv_if_lt cx.1 cx.2.1 d ht (fun z => kt z ls H locs h1 h2 h3) (fun z => kf z ls H locs h1 h2 h3)
theorem v_icmp_lt (cx : Cx p s m args meth c cc nL own ret D cA sz0 H0) {x y : Int32} {off : Int} {tgt : Nat} (d : decode cc pc = .ok (.if_icmp .lt off, 3)) (ht : (pc : Int) + off = (tgt : Int)) (kt : x < y → V p l e R s m args below meth c nL D cA sz0 H0 cells slots Q tgt lv st M) (kf : ¬ x < y → V p l e R s m args below meth c nL D cA sz0 H0 cells slots Q (pc + 3) lv st M) : V p l e R s m args below meth c nL D cA sz0 H0 cells slots Q pc lv (.int y :: .int x :: st) M := fun ls H locs h1 h2 h3 => lv_icmp_lt cx.1 cx.2.1 d ht (fun z => kt z ls H locs h1 h2 h3) (fun z => kf z ls H locs h1 h2 h3)
theorem v_if_ge (cx : Cx p s m args meth c cc nL own ret D cA sz0 H0) {x : Int32} {off : Int} {tgt : Nat} (d : decode cc pc = .ok (.ifCond .ge off, 3)) (ht : (pc : Int) + off = (tgt : Int)) (kt : 0 ≤ x → V p l e R s m args below meth c nL D cA sz0 H0 cells slots Q tgt lv st M) (kf : ¬ 0 ≤ x → V p l e R s m args below meth c nL D cA sz0 H0 cells slots Q (pc + 3) lv st M) : V p l e R s m args below meth c nL D cA sz0 H0 cells slots Q pc lv (.int x :: st) M := fun ls H locs h1 h2 h3 => lv_if_ge cx.1 cx.2.1 d ht (fun z => kt z ls H locs h1 h2 h3) (fun z => kf z ls H locs h1 h2 h3)
theorem v_icmp_ge (cx : Cx p s m args meth c cc nL own ret D cA sz0 H0) {x y : Int32} {off : Int} {tgt : Nat} (d : decode cc pc = .ok (.if_icmp .ge off, 3)) (ht : (pc : Int) + off = (tgt : Int)) (kt : y ≤ x → V p l e R s m args below meth c nL D cA sz0 H0 cells slots Q tgt lv st M) (kf : ¬ y ≤ x → V p l e R s m args below meth c nL D cA sz0 H0 cells slots Q (pc + 3) lv st M) : V p l e R s m args below meth c nL D cA sz0 H0 cells slots Q pc lv (.int y :: .int x :: st) M := fun ls H locs h1 h2 h3 => lv_icmp_ge cx.1 cx.2.1 d ht (fun z => kt z ls H locs h1 h2 h3) (fun z => kf z ls H locs h1 h2 h3)
theorem v_if_gt (cx : Cx p s m args meth c cc nL own ret D cA sz0 H0) {x : Int32} {off : Int} {tgt : Nat} (d : decode cc pc = .ok (.ifCond .gt off, 3)) (ht : (pc : Int) + off = (tgt : Int)) (kt : 0 < x → V p l e R s m args below meth c nL D cA sz0 H0 cells slots Q tgt lv st M) (kf : ¬ 0 < x → V p l e R s m args below meth c nL D cA sz0 H0 cells slots Q (pc + 3) lv st M) : V p l e R s m args below meth c nL D cA sz0 H0 cells slots Q pc lv (.int x :: st) M := fun ls H locs h1 h2 h3 => lv_if_gt cx.1 cx.2.1 d ht (fun z => kt z ls H locs h1 h2 h3) (fun z => kf z ls H locs h1 h2 h3)
theorem v_icmp_gt (cx : Cx p s m args meth c cc nL own ret D cA sz0 H0) {x y : Int32} {off : Int} {tgt : Nat} (d : decode cc pc = .ok (.if_icmp .gt off, 3)) (ht : (pc : Int) + off = (tgt : Int)) (kt : y < x → V p l e R s m args below meth c nL D cA sz0 H0 cells slots Q tgt lv st M) (kf : ¬ y < x → V p l e R s m args below meth c nL D cA sz0 H0 cells slots Q (pc + 3) lv st M) : V p l e R s m args below meth c nL D cA sz0 H0 cells slots Q pc lv (.int y :: .int x :: st) M := fun ls H locs h1 h2 h3 => lv_icmp_gt cx.1 cx.2.1 d ht (fun z => kt z ls H locs h1 h2 h3) (fun z => kf z ls H locs h1 h2 h3)
theorem v_if_le (cx : Cx p s m args meth c cc nL own ret D cA sz0 H0) {x : Int32} {off : Int} {tgt : Nat} (d : decode cc pc = .ok (.ifCond .le off, 3)) (ht : (pc : Int) + off = (tgt : Int)) (kt : x ≤ 0 → V p l e R s m args below meth c nL D cA sz0 H0 cells slots Q tgt lv st M) (kf : ¬ x ≤ 0 → V p l e R s m args below meth c nL D cA sz0 H0 cells slots Q (pc + 3) lv st M) : V p l e R s m args below meth c nL D cA sz0 H0 cells slots Q pc lv (.int x :: st) M := fun ls H locs h1 h2 h3 => lv_if_le cx.1 cx.2.1 d ht (fun z => kt z ls H locs h1 h2 h3) (fun z => kf z ls H locs h1 h2 h3)
theorem v_icmp_le (cx : Cx p s m args meth c cc nL own ret D cA sz0 H0) {x y : Int32} {off : Int} {tgt : Nat} (d : decode cc pc = .ok (.if_icmp .le off, 3)) (ht : (pc : Int) + off = (tgt : Int)) (kt : x ≤ y → V p l e R s m args below meth c nL D cA sz0 H0 cells slots Q tgt lv st M) (kf : ¬ x ≤ y → V p l e R s m args below meth c nL D cA sz0 H0 cells slots Q (pc + 3) lv st M) : V p l e R s m args below meth c nL D cA sz0 H0 cells slots Q pc lv (.int y :: .int x :: st) M := fun ls H locs h1 h2 h3 => lv_icmp_le cx.1 cx.2.1 d ht (fun z => kt z ls H locs h1 h2 h3) (fun z => kf z ls H locs h1 h2 h3)
theorem v_goto (cx : Cx p s m args meth c cc nL own ret D cA sz0 H0) {off : Int} {tgt : Nat} (d : decode cc pc = .ok (.goto off, 3)) (ht : (pc : Int) + off = (tgt : Int)) (k : V p l e R s m args below meth c nL D cA sz0 H0 cells slots Q tgt lv st M) : V p l e R s m args below meth c nL D cA sz0 H0 cells slots Q pc lv st M := fun ls H locs h1 h2 h3 => lv_goto cx.1 cx.2.1 d ht (k ls H locs h1 h2 h3)
theorem v_ifnull (cx : Cx p s m args meth c cc nL own ret D cA sz0 H0) {o : Option Nat} {off : Int} {tgt : Nat} (d : decode cc pc = .ok (.ifnull off, 3)) (ht : (pc : Int) + off = (tgt : Int)) (kt : o = none → V p l e R s m args below meth c nL D cA sz0 H0 cells slots Q tgt lv st M) (kf : ∀ x, o = some x → V p l e R s m args below meth c nL D cA sz0 H0 cells slots Q (pc + 3) lv st M) : V p l e R s m args below meth c nL D cA sz0 H0 cells slots Q pc lv (vr sz0 o :: st) M := fun ls H locs h1 h2 h3 => by
  cases o with
  | none => exact lv_ifnullN cx.1 cx.2.1 d ht (kt rfl ls H locs h1 h2 h3)
  | some x => exact lv_ifnull cx.1 cx.2.1 d (kf x rfl ls H locs h1 h2 h3)
theorem v_ifnonnull (cx : Cx p s m args meth c cc nL own ret D cA sz0 H0) {o : Option Nat} {off : Int} {tgt : Nat} (d : decode cc pc = .ok (.ifnonnull off, 3)) (ht : (pc : Int) + off = (tgt : Int)) (kt : o = none → V p l e R s m args below meth c nL D cA sz0 H0 cells slots Q (pc + 3) lv st M) (kf : ∀ x, o = some x → V p l e R s m args below meth c nL D cA sz0 H0 cells slots Q tgt lv st M) : V p l e R s m args below meth c nL D cA sz0 H0 cells slots Q pc lv (vr sz0 o :: st) M := fun ls H locs h1 h2 h3 => by
  cases o with
  | none => exact lv_ifnonnullN cx.1 cx.2.1 d (kt rfl ls H locs h1 h2 h3)
  | some x => exact lv_ifnonnull cx.1 cx.2.1 d ht (kf x rfl ls H locs h1 h2 h3)
theorem v_dup (cx : Cx p s m args meth c cc nL own ret D cA sz0 H0) {va : Value} (d : decode cc pc = .ok (.dup, 1)) (hva : va.category = 1) (k : V p l e R s m args below meth c nL D cA sz0 H0 cells slots Q (pc + 1) lv (va :: va :: st) M) : V p l e R s m args below meth c nL D cA sz0 H0 cells slots Q pc lv (va :: st) M := fun ls H locs h1 h2 h3 => lv_dup cx.1 cx.2.1 d hva (k ls H locs h1 h2 h3)
theorem v_dup2 (cx : Cx p s m args meth c cc nL own ret D cA sz0 H0) {va vb : Value} (d : decode cc pc = .ok (.dup2, 1)) (hva : va.category = 1) (hvb : vb.category = 1) (k : V p l e R s m args below meth c nL D cA sz0 H0 cells slots Q (pc + 1) lv (va :: vb :: va :: vb :: st) M) : V p l e R s m args below meth c nL D cA sz0 H0 cells slots Q pc lv (va :: vb :: st) M := fun ls H locs h1 h2 h3 => lv_dup2_11 cx.1 cx.2.1 d hva hvb (k ls H locs h1 h2 h3)
theorem v_ldc (cx : Cx p s m args meth c cc nL own ret D cA sz0 H0) {i : Nat} {v : Int32} (d : decode cc pc = .ok (.ldc i, 2)) (hw : Cond.constant own i v ∈ lw_all) (k : V p l e R s m args below meth c nL D cA sz0 H0 cells slots Q (pc + 2) lv (.int v :: st) M) : V p l e R s m args below meth c nL D cA sz0 H0 cells slots Q pc lv st M := fun ls H locs h1 h2 h3 => lv_ldc cx.1 cx.2.1 cx.2.2.2.1 (cx.2.2.2.2.1 _ hw) d (k ls H locs h1 h2 h3)
theorem v_ldcw (cx : Cx p s m args meth c cc nL own ret D cA sz0 H0) {i : Nat} {v : Int32} (d : decode cc pc = .ok (.ldc_w i, 3)) (hw : Cond.constant own i v ∈ lw_all) (k : V p l e R s m args below meth c nL D cA sz0 H0 cells slots Q (pc + 3) lv (.int v :: st) M) : V p l e R s m args below meth c nL D cA sz0 H0 cells slots Q pc lv st M := fun ls H locs h1 h2 h3 => lv_ldcw cx.1 cx.2.1 cx.2.2.2.1 (cx.2.2.2.2.1 _ hw) d (k ls H locs h1 h2 h3)
theorem v_ldc2 (cx : Cx p s m args meth c cc nL own ret D cA sz0 H0) {i : Nat} {v : Int64} (d : decode cc pc = .ok (.ldc2_w i, 3)) (hw : Cond.constantLong own i v ∈ lw_all) (k : V p l e R s m args below meth c nL D cA sz0 H0 cells slots Q (pc + 3) lv (.long v :: st) M) : V p l e R s m args below meth c nL D cA sz0 H0 cells slots Q pc lv st M := fun ls H locs h1 h2 h3 => lv_ldc2 cx.1 cx.2.1 cx.2.2.2.1 (cx.2.2.2.2.1 _ hw) d (k ls H locs h1 h2 h3)
theorem v_lcmp (cx : Cx p s m args meth c cc nL own ret D cA sz0 H0) {x y : Int64} (d : decode cc pc = .ok (.lcmp, 1)) (k : V p l e R s m args below meth c nL D cA sz0 H0 cells slots Q (pc + 1) lv (.int (lg_cmp x y) :: st) M) : V p l e R s m args below meth c nL D cA sz0 H0 cells slots Q pc lv (.long y :: .long x :: st) M := fun ls H locs h1 h2 h3 => W.lcmp cx.1 cx.2.1 d (k ls H locs h1 h2 h3)
theorem v_getI (cx : Cx p s m args meth c cc nL own ret D cA sz0 H0) {ci idx : Nat} {C : String} {T : u_T} {N : Nat} {r k : Nat} (hc : CL[ci]? = some (C, T, N)) (hci : ci < 13) (hin : ∀ w ∈ u_ws C T N, w ∈ lw_all) (hk : k < N) (hl : Cond.fieldLink own idx (T k).1 (T k).2.1 (T k).2.2.1 ∈ lw_all) (hf : isRF ci k = false) (d : decode cc pc = .ok (.getfield idx, 3)) (hr : wk M r = ci) (kk : V p l e R s m args below meth c nL D cA sz0 H0 cells slots Q (pc + 3) lv (.int (wI M r k) :: st) M) : V p l e R s m args below meth c nL D cA sz0 H0 cells slots Q pc lv (.ref (sz0 + r) :: st) M := fun ls H locs h1 h2 h3 => by
  obtain ⟨hx, hb, -, hown, hts, -, -, hKK⟩ := cx
  have hN : N = nF ci := CL_nF ci hci _ hc
  obtain ⟨cell, q1, q2, q3, q4⟩ := wAt_obj h2 hr hci
  obtain ⟨hS, hfc, kC, hkC, hkind⟩ := hKK.1.1 ci _ hc
  obtain ⟨cf, kf, fi, f, hi, hsl⟩ := hS k hk
  refine W.getf hx hb hown (hts _ hl) hi (u_facts hfc hkC (u_lays hts hin hk) hi).1 q1 (by rw [q3]; exact fun h => by cases h) (v := .int (wI M r k)) ?_ rfl rfl d (kk ls H locs h1 h2 h3)
  rw [hsl, q4 k (by rw [← hN]; exact hk)]
  simp [fv, hf]
theorem v_getR (cx : Cx p s m args meth c cc nL own ret D cA sz0 H0) {ci idx : Nat} {C : String} {T : u_T} {N : Nat} {r k : Nat} (hc : CL[ci]? = some (C, T, N)) (hci : ci < 13) (hin : ∀ w ∈ u_ws C T N, w ∈ lw_all) (hk : k < N) (hl : Cond.fieldLink own idx (T k).1 (T k).2.1 (T k).2.2.1 ∈ lw_all) (hf : isRF ci k = true) (d : decode cc pc = .ok (.getfield idx, 3)) (hr : wk M r = ci) (kk : V p l e R s m args below meth c nL D cA sz0 H0 cells slots Q (pc + 3) lv (vr sz0 (wR M r k) :: st) M) : V p l e R s m args below meth c nL D cA sz0 H0 cells slots Q pc lv (.ref (sz0 + r) :: st) M := fun ls H locs h1 h2 h3 => by
  obtain ⟨hx, hb, -, hown, hts, -, -, hKK⟩ := cx
  have hN : N = nF ci := CL_nF ci hci _ hc
  obtain ⟨cell, q1, q2, q3, q4⟩ := wAt_obj h2 hr hci
  obtain ⟨hS, hfc, kC, hkC, hkind⟩ := hKK.1.1 ci _ hc
  obtain ⟨cf, kf, fi, f, hi, hsl⟩ := hS k hk
  refine W.getf hx hb hown (hts _ hl) hi (u_facts hfc hkC (u_lays hts hin hk) hi).1 q1 (by rw [q3]; exact fun h => by cases h) (v := vr sz0 (wR M r k)) ?_ rfl rfl d (kk ls H locs h1 h2 h3)
  rw [hsl, q4 k (by rw [← hN]; exact hk)]
  simp [fv, hf]
theorem v_getIN (cx : Cx p s m args meth c cc nL own ret D cA sz0 H0) {ci idx : Nat} {C : String} {T : u_T} {N : Nat} {r k : Nat} (hc : CL[ci]? = some (C, T, N)) (hci : ci < 13) (hin : ∀ w ∈ u_ws C T N, w ∈ lw_all) (hk : k < N) {host : String} (hl : Cond.fieldLinkNest own idx (T k).1 (T k).2.1 (T k).2.2.1 host ∈ lw_nst) (hf : isRF ci k = false) (d : decode cc pc = .ok (.getfield idx, 3)) (hr : wk M r = ci) (kk : V p l e R s m args below meth c nL D cA sz0 H0 cells slots Q (pc + 3) lv (.int (wI M r k) :: st) M) : V p l e R s m args below meth c nL D cA sz0 H0 cells slots Q pc lv (.ref (sz0 + r) :: st) M := fun ls H locs h1 h2 h3 => by
  obtain ⟨hx, hb, -, hown, hts, -, -, hKK⟩ := cx
  have hN : N = nF ci := CL_nF ci hci _ hc
  obtain ⟨cell, q1, q2, q3, q4⟩ := wAt_obj h2 hr hci
  obtain ⟨hS, hfc, kC, hkC, hkind⟩ := hKK.1.1 ci _ hc
  obtain ⟨cf, kf, fi, f, hi, hsl⟩ := hS k hk
  refine va_Wgetf hx hb hown (va_Nw.use (nst_tab hl) (hKK.2.1 _ hl)) hi (u_facts hfc hkC (u_lays hts hin hk) hi).1 q1 (by rw [q3]; exact fun h => by cases h) (v := .int (wI M r k)) ?_ rfl rfl d (kk ls H locs h1 h2 h3)
  rw [hsl, q4 k (by rw [← hN]; exact hk)]
  simp [fv, hf]
theorem v_getRN (cx : Cx p s m args meth c cc nL own ret D cA sz0 H0) {ci idx : Nat} {C : String} {T : u_T} {N : Nat} {r k : Nat} (hc : CL[ci]? = some (C, T, N)) (hci : ci < 13) (hin : ∀ w ∈ u_ws C T N, w ∈ lw_all) (hk : k < N) {host : String} (hl : Cond.fieldLinkNest own idx (T k).1 (T k).2.1 (T k).2.2.1 host ∈ lw_nst) (hf : isRF ci k = true) (d : decode cc pc = .ok (.getfield idx, 3)) (hr : wk M r = ci) (kk : V p l e R s m args below meth c nL D cA sz0 H0 cells slots Q (pc + 3) lv (vr sz0 (wR M r k) :: st) M) : V p l e R s m args below meth c nL D cA sz0 H0 cells slots Q pc lv (.ref (sz0 + r) :: st) M := fun ls H locs h1 h2 h3 => by
  obtain ⟨hx, hb, -, hown, hts, -, -, hKK⟩ := cx
  have hN : N = nF ci := CL_nF ci hci _ hc
  obtain ⟨cell, q1, q2, q3, q4⟩ := wAt_obj h2 hr hci
  obtain ⟨hS, hfc, kC, hkC, hkind⟩ := hKK.1.1 ci _ hc
  obtain ⟨cf, kf, fi, f, hi, hsl⟩ := hS k hk
  refine va_Wgetf hx hb hown (va_Nw.use (nst_tab hl) (hKK.2.1 _ hl)) hi (u_facts hfc hkC (u_lays hts hin hk) hi).1 q1 (by rw [q3]; exact fun h => by cases h) (v := vr sz0 (wR M r k)) ?_ rfl rfl d (kk ls H locs h1 h2 h3)
  rw [hsl, q4 k (by rw [← hN]; exact hk)]
  simp [fv, hf]
theorem v_putI (cx : Cx p s m args meth c cc nL own ret D cA sz0 H0) {ci idx : Nat} {C : String} {T : u_T} {N : Nat} {r k : Nat} (hc : CL[ci]? = some (C, T, N)) (hci : ci < 13) (hin : ∀ w ∈ u_ws C T N, w ∈ lw_all) (hk : k < N) (ty0 : Nat → FieldType) (hty : ∀ k, k < N → parseFieldDescriptor (T k).2.2.1 = some (ty0 k)) (hnm : ∀ a, a < N → ∀ b, b < N → a ≠ b → (T a).2.1 ≠ (T b).2.1) (hl : Cond.fieldLink own idx (T k).1 (T k).2.1 (T k).2.2.1 ∈ lw_all) (hfin : (T k).2.2.2 = false) (hf : isRF ci k = false) {x : Int32} {ty : FieldType} (hd : parseFieldDescriptor (T k).2.2.1 = some ty) (hn : narrow ty (.int x) = .int x) (hv : fits ty (.int x) = true) (d : decode cc pc = .ok (.putfield idx, 3)) (hr : wk M r = ci) (kk : V p l e R s m args below meth c nL D cA sz0 H0 cells slots Q (pc + 3) lv st (wPI M r k x)) : V p l e R s m args below meth c nL D cA sz0 H0 cells slots Q pc lv (.int x :: .ref (sz0 + r) :: st) M := fun ls H locs h1 h2 h3 => by
  obtain ⟨hx, hb, -, hown, hts, -, -, hKK⟩ := cx
  have hN : N = nF ci := CL_nF ci hci _ hc
  have hap := va_apart (own := own) hts hin ty0 hty hnm hKK.1 hc
  obtain ⟨cell, q1, q2, q3, q4⟩ := wAt_obj h2 hr hci
  obtain ⟨hS, hfc, kC, hkC, hkind⟩ := hKK.1.1 ci _ hc
  obtain ⟨cf, kf, fi, f, hi, hsl⟩ := hS k hk
  have hlay := hts _ (hin _ (u_in_lay hk))
  unfold u_lay at hlay
  rw [if_neg (by rw [hfin]; decide)] at hlay
  have hst := (u_facts hfc hkC (u_lays hts hin hk) hi).1
  have h6 := u_store hfc hkC hkind hlay hi hd hn hv
  refine W.putK hx hb (f := f) ⟨hown, hts _ hl, ⟨_, _, _, hi⟩, hst⟩ (by rw [q2]; exact h6) q1 q3 (by rw [hsl]; exact k2_hasslot (q4 k (by rw [← hN]; exact hk))) rfl rfl d fun H' e1 e2 e3 => ?_
  rw [hsl] at e1 ⊢
  exact kk ls H' _ h1 (h2.field hr hci (by rw [← hN]; exact hk) (by rw [← hN]; exact hap) q2 q3 q4 e1 e2 e3 (wBut_PI M r k _) (fv_PI hf)) (h3.put e2 e3 (Nat.le_add_right sz0 r))
theorem v_putR (cx : Cx p s m args meth c cc nL own ret D cA sz0 H0) {ci idx : Nat} {C : String} {T : u_T} {N : Nat} {r k : Nat} (hc : CL[ci]? = some (C, T, N)) (hci : ci < 13) (hin : ∀ w ∈ u_ws C T N, w ∈ lw_all) (hk : k < N) (ty0 : Nat → FieldType) (hty : ∀ k, k < N → parseFieldDescriptor (T k).2.2.1 = some (ty0 k)) (hnm : ∀ a, a < N → ∀ b, b < N → a ≠ b → (T a).2.1 ≠ (T b).2.1) (hl : Cond.fieldLink own idx (T k).1 (T k).2.1 (T k).2.2.1 ∈ lw_all) (hfin : (T k).2.2.2 = false) (hf : isRF ci k = true) {x : Option Nat} {ty : FieldType} (hd : parseFieldDescriptor (T k).2.2.1 = some ty) (hn : narrow ty (vr sz0 x) = vr sz0 x) (hv : fits ty (vr sz0 x) = true) (d : decode cc pc = .ok (.putfield idx, 3)) (hr : wk M r = ci) (kk : V p l e R s m args below meth c nL D cA sz0 H0 cells slots Q (pc + 3) lv st (wPR M r k x)) : V p l e R s m args below meth c nL D cA sz0 H0 cells slots Q pc lv (vr sz0 x :: .ref (sz0 + r) :: st) M := fun ls H locs h1 h2 h3 => by
  obtain ⟨hx, hb, -, hown, hts, -, -, hKK⟩ := cx
  have hN : N = nF ci := CL_nF ci hci _ hc
  have hap := va_apart (own := own) hts hin ty0 hty hnm hKK.1 hc
  obtain ⟨cell, q1, q2, q3, q4⟩ := wAt_obj h2 hr hci
  obtain ⟨hS, hfc, kC, hkC, hkind⟩ := hKK.1.1 ci _ hc
  obtain ⟨cf, kf, fi, f, hi, hsl⟩ := hS k hk
  have hlay := hts _ (hin _ (u_in_lay hk))
  unfold u_lay at hlay
  rw [if_neg (by rw [hfin]; decide)] at hlay
  have hst := (u_facts hfc hkC (u_lays hts hin hk) hi).1
  have h6 := u_store hfc hkC hkind hlay hi hd hn hv
  refine W.putK hx hb (f := f) ⟨hown, hts _ hl, ⟨_, _, _, hi⟩, hst⟩ (by rw [q2]; exact h6) q1 q3 (by rw [hsl]; exact k2_hasslot (q4 k (by rw [← hN]; exact hk))) rfl rfl d fun H' e1 e2 e3 => ?_
  rw [hsl] at e1 ⊢
  exact kk ls H' _ h1 (h2.field hr hci (by rw [← hN]; exact hk) (by rw [← hN]; exact hap) q2 q3 q4 e1 e2 e3 (wBut_PR M r k _) (fv_PR hf)) (h3.put e2 e3 (Nat.le_add_right sz0 r))
theorem v_putIN (cx : Cx p s m args meth c cc nL own ret D cA sz0 H0) {ci idx : Nat} {C : String} {T : u_T} {N : Nat} {r k : Nat} (hc : CL[ci]? = some (C, T, N)) (hci : ci < 13) (hin : ∀ w ∈ u_ws C T N, w ∈ lw_all) (hk : k < N) (ty0 : Nat → FieldType) (hty : ∀ k, k < N → parseFieldDescriptor (T k).2.2.1 = some (ty0 k)) (hnm : ∀ a, a < N → ∀ b, b < N → a ≠ b → (T a).2.1 ≠ (T b).2.1) {host : String} (hl : Cond.fieldLinkNest own idx (T k).1 (T k).2.1 (T k).2.2.1 host ∈ lw_nst) (hfin : (T k).2.2.2 = false) (hf : isRF ci k = false) {x : Int32} {ty : FieldType} (hd : parseFieldDescriptor (T k).2.2.1 = some ty) (hn : narrow ty (.int x) = .int x) (hv : fits ty (.int x) = true) (d : decode cc pc = .ok (.putfield idx, 3)) (hr : wk M r = ci) (kk : V p l e R s m args below meth c nL D cA sz0 H0 cells slots Q (pc + 3) lv st (wPI M r k x)) : V p l e R s m args below meth c nL D cA sz0 H0 cells slots Q pc lv (.int x :: .ref (sz0 + r) :: st) M := fun ls H locs h1 h2 h3 => by
  obtain ⟨hx, hb, -, hown, hts, -, -, hKK⟩ := cx
  have hN : N = nF ci := CL_nF ci hci _ hc
  have hap := va_apart (own := own) hts hin ty0 hty hnm hKK.1 hc
  obtain ⟨cell, q1, q2, q3, q4⟩ := wAt_obj h2 hr hci
  obtain ⟨hS, hfc, kC, hkC, hkind⟩ := hKK.1.1 ci _ hc
  obtain ⟨cf, kf, fi, f, hi, hsl⟩ := hS k hk
  have hlay := hts _ (hin _ (u_in_lay hk))
  unfold u_lay at hlay
  rw [if_neg (by rw [hfin]; decide)] at hlay
  have hst := (u_facts hfc hkC (u_lays hts hin hk) hi).1
  have h6 := u_store hfc hkC hkind hlay hi hd hn hv
  refine va_WputK hx hb (f := f) hown (va_Nw.use (nst_tab hl) (hKK.2.1 _ hl)) hi hst (by rw [q2]; exact h6) q1 q3 (by rw [hsl]; exact k2_hasslot (q4 k (by rw [← hN]; exact hk))) rfl rfl d fun H' e1 e2 e3 => ?_
  rw [hsl] at e1 ⊢
  exact kk ls H' _ h1 (h2.field hr hci (by rw [← hN]; exact hk) (by rw [← hN]; exact hap) q2 q3 q4 e1 e2 e3 (wBut_PI M r k _) (fv_PI hf)) (h3.put e2 e3 (Nat.le_add_right sz0 r))
theorem v_putRN (cx : Cx p s m args meth c cc nL own ret D cA sz0 H0) {ci idx : Nat} {C : String} {T : u_T} {N : Nat} {r k : Nat} (hc : CL[ci]? = some (C, T, N)) (hci : ci < 13) (hin : ∀ w ∈ u_ws C T N, w ∈ lw_all) (hk : k < N) (ty0 : Nat → FieldType) (hty : ∀ k, k < N → parseFieldDescriptor (T k).2.2.1 = some (ty0 k)) (hnm : ∀ a, a < N → ∀ b, b < N → a ≠ b → (T a).2.1 ≠ (T b).2.1) {host : String} (hl : Cond.fieldLinkNest own idx (T k).1 (T k).2.1 (T k).2.2.1 host ∈ lw_nst) (hfin : (T k).2.2.2 = false) (hf : isRF ci k = true) {x : Option Nat} {ty : FieldType} (hd : parseFieldDescriptor (T k).2.2.1 = some ty) (hn : narrow ty (vr sz0 x) = vr sz0 x) (hv : fits ty (vr sz0 x) = true) (d : decode cc pc = .ok (.putfield idx, 3)) (hr : wk M r = ci) (kk : V p l e R s m args below meth c nL D cA sz0 H0 cells slots Q (pc + 3) lv st (wPR M r k x)) : V p l e R s m args below meth c nL D cA sz0 H0 cells slots Q pc lv (vr sz0 x :: .ref (sz0 + r) :: st) M := fun ls H locs h1 h2 h3 => by
  obtain ⟨hx, hb, -, hown, hts, -, -, hKK⟩ := cx
  have hN : N = nF ci := CL_nF ci hci _ hc
  have hap := va_apart (own := own) hts hin ty0 hty hnm hKK.1 hc
  obtain ⟨cell, q1, q2, q3, q4⟩ := wAt_obj h2 hr hci
  obtain ⟨hS, hfc, kC, hkC, hkind⟩ := hKK.1.1 ci _ hc
  obtain ⟨cf, kf, fi, f, hi, hsl⟩ := hS k hk
  have hlay := hts _ (hin _ (u_in_lay hk))
  unfold u_lay at hlay
  rw [if_neg (by rw [hfin]; decide)] at hlay
  have hst := (u_facts hfc hkC (u_lays hts hin hk) hi).1
  have h6 := u_store hfc hkC hkind hlay hi hd hn hv
  refine va_WputK hx hb (f := f) hown (va_Nw.use (nst_tab hl) (hKK.2.1 _ hl)) hi hst (by rw [q2]; exact h6) q1 q3 (by rw [hsl]; exact k2_hasslot (q4 k (by rw [← hN]; exact hk))) rfl rfl d fun H' e1 e2 e3 => ?_
  rw [hsl] at e1 ⊢
  exact kk ls H' _ h1 (h2.field hr hci (by rw [← hN]; exact hk) (by rw [← hN]; exact hap) q2 q3 q4 e1 e2 e3 (wBut_PR M r k _) (fv_PR hf)) (h3.put e2 e3 (Nat.le_add_right sz0 r))
theorem v_putFI (cx : Cx p s m args meth c cc nL own ret D cA sz0 H0) {ci idx : Nat} {C : String} {T : u_T} {N : Nat} {r k : Nat} (hc : CL[ci]? = some (C, T, N)) (hci : ci < 13) (hin : ∀ w ∈ u_ws C T N, w ∈ lw_all) (hk : k < N) (ty0 : Nat → FieldType) (hty : ∀ k, k < N → parseFieldDescriptor (T k).2.2.1 = some (ty0 k)) (hnm : ∀ a, a < N → ∀ b, b < N → a ≠ b → (T a).2.1 ≠ (T b).2.1) (hl : Cond.fieldLink own idx (T k).1 (T k).2.1 (T k).2.2.1 ∈ lw_all) (hfin : (T k).2.2.2 = true) (hdecl : (T k).1 = own) (hin2 : meth.name = "<init>") (hf : isRF ci k = false) {x : Int32} {ty : FieldType} (hd : parseFieldDescriptor (T k).2.2.1 = some ty) (hn : narrow ty (.int x) = .int x) (hv : fits ty (.int x) = true) (d : decode cc pc = .ok (.putfield idx, 3)) (hr : wk M r = ci) (kk : V p l e R s m args below meth c nL D cA sz0 H0 cells slots Q (pc + 3) lv st (wPI M r k x)) : V p l e R s m args below meth c nL D cA sz0 H0 cells slots Q pc lv (.int x :: .ref (sz0 + r) :: st) M := fun ls H locs h1 h2 h3 => by
  obtain ⟨hx, hb, -, hown, hts, -, -, hKK⟩ := cx
  have hN : N = nF ci := CL_nF ci hci _ hc
  have hap := va_apart (own := own) hts hin ty0 hty hnm hKK.1 hc
  obtain ⟨cell, q1, q2, q3, q4⟩ := wAt_obj h2 hr hci
  obtain ⟨hS, hfc, kC, hkC, hkind⟩ := hKK.1.1 ci _ hc
  obtain ⟨cf, kf, fi, f, hi, hsl⟩ := hS k hk
  have hlay := hts _ (hin _ (u_in_lay hk))
  unfold u_lay at hlay
  rw [if_pos hfin] at hlay
  have hst := (u_facts hfc hkC (u_lays hts hin hk) hi).1
  have hcf : m.cls = cf := by
    obtain ⟨_, _, c', _, _, _, -, -, hf', -, -, -, hown2, -⟩ := Cond.laysFinal_spec hlay
    have e1 : c' = cf := by have := hi.symm.trans hf'; simp at this; exact this.1.symm
    rw [hdecl] at hown2
    rw [← e1]; exact Option.some.inj (hown.symm.trans hown2)
  have h6 := u_fits hfc hkC hkind (Or.inr hlay) hi hd hn hv
  refine W.putFinK hx hb hown (hts _ hl) hi hst hcf hin2 (by rw [q2]; exact h6) q1 q3 (by rw [hsl]; exact k2_hasslot (q4 k (by rw [← hN]; exact hk))) rfl rfl d fun H' e1 e2 e3 => ?_
  rw [hsl] at e1 ⊢
  exact kk ls H' _ h1 (h2.field hr hci (by rw [← hN]; exact hk) (by rw [← hN]; exact hap) q2 q3 q4 e1 e2 e3 (wBut_PI M r k _) (fv_PI hf)) (h3.put e2 e3 (Nat.le_add_right sz0 r))
theorem v_putFR (cx : Cx p s m args meth c cc nL own ret D cA sz0 H0) {ci idx : Nat} {C : String} {T : u_T} {N : Nat} {r k : Nat} (hc : CL[ci]? = some (C, T, N)) (hci : ci < 13) (hin : ∀ w ∈ u_ws C T N, w ∈ lw_all) (hk : k < N) (ty0 : Nat → FieldType) (hty : ∀ k, k < N → parseFieldDescriptor (T k).2.2.1 = some (ty0 k)) (hnm : ∀ a, a < N → ∀ b, b < N → a ≠ b → (T a).2.1 ≠ (T b).2.1) (hl : Cond.fieldLink own idx (T k).1 (T k).2.1 (T k).2.2.1 ∈ lw_all) (hfin : (T k).2.2.2 = true) (hdecl : (T k).1 = own) (hin2 : meth.name = "<init>") (hf : isRF ci k = true) {x : Option Nat} {ty : FieldType} (hd : parseFieldDescriptor (T k).2.2.1 = some ty) (hn : narrow ty (vr sz0 x) = vr sz0 x) (hv : fits ty (vr sz0 x) = true) (d : decode cc pc = .ok (.putfield idx, 3)) (hr : wk M r = ci) (kk : V p l e R s m args below meth c nL D cA sz0 H0 cells slots Q (pc + 3) lv st (wPR M r k x)) : V p l e R s m args below meth c nL D cA sz0 H0 cells slots Q pc lv (vr sz0 x :: .ref (sz0 + r) :: st) M := fun ls H locs h1 h2 h3 => by
  obtain ⟨hx, hb, -, hown, hts, -, -, hKK⟩ := cx
  have hN : N = nF ci := CL_nF ci hci _ hc
  have hap := va_apart (own := own) hts hin ty0 hty hnm hKK.1 hc
  obtain ⟨cell, q1, q2, q3, q4⟩ := wAt_obj h2 hr hci
  obtain ⟨hS, hfc, kC, hkC, hkind⟩ := hKK.1.1 ci _ hc
  obtain ⟨cf, kf, fi, f, hi, hsl⟩ := hS k hk
  have hlay := hts _ (hin _ (u_in_lay hk))
  unfold u_lay at hlay
  rw [if_pos hfin] at hlay
  have hst := (u_facts hfc hkC (u_lays hts hin hk) hi).1
  have hcf : m.cls = cf := by
    obtain ⟨_, _, c', _, _, _, -, -, hf', -, -, -, hown2, -⟩ := Cond.laysFinal_spec hlay
    have e1 : c' = cf := by have := hi.symm.trans hf'; simp at this; exact this.1.symm
    rw [hdecl] at hown2
    rw [← e1]; exact Option.some.inj (hown.symm.trans hown2)
  have h6 := u_fits hfc hkC hkind (Or.inr hlay) hi hd hn hv
  refine W.putFinK hx hb hown (hts _ hl) hi hst hcf hin2 (by rw [q2]; exact h6) q1 q3 (by rw [hsl]; exact k2_hasslot (q4 k (by rw [← hN]; exact hk))) rfl rfl d fun H' e1 e2 e3 => ?_
  rw [hsl] at e1 ⊢
  exact kk ls H' _ h1 (h2.field hr hci (by rw [← hN]; exact hk) (by rw [← hN]; exact hap) q2 q3 q4 e1 e2 e3 (wBut_PR M r k _) (fv_PR hf)) (h3.put e2 e3 (Nat.le_add_right sz0 r))
theorem tys_at {cA : Nat → ClassId} (kd : Nat) (h : 100 ≤ kd) (h2 : kd < 110) : (TYS cA)[kd - 100]? = some (cA kd, aTy kd) := by
  unfold TYS
  rw [List.getElem?_map, List.getElem?_range (by omega)]
  simp [show 100 + (kd - 100) = kd by omega]
theorem arr_of {D : va_G} {cA : Nat → ClassId} {sz0 : Nat} {H0 : Heap} {s : State} (h : KK D cA sz0 H0 s) {kd : Nat} (h1 : 100 ≤ kd) (h2 : kd < 110) : ArrOfT s (cA kd) (aTy kd) ∧ va_RA s (cA kd) (aTy kd) := h.1.2 _ _ (tys_at kd h1 h2)
theorem v_iald (cx : Cx p s m args meth c cc nL own ret D cA sz0 H0) {r n : Nat} {i : Int32} (d : decode cc pc = .ok (.iaload, 1)) (hr : wk M r = 100) (hl : wl M r = n) (hin : vp_in i n) (kk : V p l e R s m args below meth c nL D cA sz0 H0 cells slots Q (pc + 1) lv (.int (wI M r i.toNatClampNeg) :: st) M) : V p l e R s m args below meth c nL D cA sz0 H0 cells slots Q pc lv (.int i :: .ref (sz0 + r) :: st) M := fun ls H locs h1 h2 h3 => by
  obtain ⟨hx, hb, -, -, -, -, -, hKK⟩ := cx
  have hlt : i.toNatClampNeg < wl M r := Nat.not_le.mp fun q => hin (Or.inr (by rw [← hl]; exact q))
  have hA := arr_of hKK (kd := 100) (by omega) (by omega)
  exact W.iald (v := .int (wI M r i.toNatClampNeg))  hx hb (wAt_arr h2 hr (by omega) (by omega)) (hA.1 _ _)  (fun q => by cases q) (by show ¬ (i < 0 ∨ (arrV _ _ _).slots.size ≤ _); rw [arrV_size, hl]; exact hin) (by show (arrV _ _ _).slots[_]? = _; rw [arrV_read _ _ hlt]; rfl) rfl rfl d (kk ls H locs h1 h2 h3)
theorem v_lald (cx : Cx p s m args meth c cc nL own ret D cA sz0 H0) {r n : Nat} {i : Int32} (d : decode cc pc = .ok (.laload, 1)) (hr : wk M r = 101) (hl : wl M r = n) (hin : vp_in i n) (kk : V p l e R s m args below meth c nL D cA sz0 H0 cells slots Q (pc + 1) lv (.long (wJ M r i.toNatClampNeg) :: st) M) : V p l e R s m args below meth c nL D cA sz0 H0 cells slots Q pc lv (.int i :: .ref (sz0 + r) :: st) M := fun ls H locs h1 h2 h3 => by
  obtain ⟨hx, hb, -, -, -, -, -, hKK⟩ := cx
  have hlt : i.toNatClampNeg < wl M r := Nat.not_le.mp fun q => hin (Or.inr (by rw [← hl]; exact q))
  have hA := arr_of hKK (kd := 101) (by omega) (by omega)
  exact W.lald (v := .long (wJ M r i.toNatClampNeg))  hx hb (wAt_arr h2 hr (by omega) (by omega)) (hA.1 _ _)  (fun q => by cases q) (by show ¬ (i < 0 ∨ (arrV _ _ _).slots.size ≤ _); rw [arrV_size, hl]; exact hin) (by show (arrV _ _ _).slots[_]? = _; rw [arrV_read _ _ hlt]; rfl) rfl rfl d (kk ls H locs h1 h2 h3)
theorem v_bald (cx : Cx p s m args meth c cc nL own ret D cA sz0 H0) {r n : Nat} {i : Int32} (d : decode cc pc = .ok (.baload, 1)) (hr : wk M r = 102) (hl : wl M r = n) (hin : vp_in i n) (kk : V p l e R s m args below meth c nL D cA sz0 H0 cells slots Q (pc + 1) lv (.int (wI M r i.toNatClampNeg) :: st) M) : V p l e R s m args below meth c nL D cA sz0 H0 cells slots Q pc lv (.int i :: .ref (sz0 + r) :: st) M := fun ls H locs h1 h2 h3 => by
  obtain ⟨hx, hb, -, -, -, -, -, hKK⟩ := cx
  have hlt : i.toNatClampNeg < wl M r := Nat.not_le.mp fun q => hin (Or.inr (by rw [← hl]; exact q))
  have hA := arr_of hKK (kd := 102) (by omega) (by omega)
  exact W.bald (v := .int (wI M r i.toNatClampNeg))  hx hb (wAt_arr h2 hr (by omega) (by omega)) (hA.1 _ _)  (fun q => by cases q) (by show ¬ (i < 0 ∨ (arrV _ _ _).slots.size ≤ _); rw [arrV_size, hl]; exact hin) (by show (arrV _ _ _).slots[_]? = _; rw [arrV_read _ _ hlt]; rfl) rfl rfl d (kk ls H locs h1 h2 h3)
theorem v_zald (cx : Cx p s m args meth c cc nL own ret D cA sz0 H0) {r n : Nat} {i : Int32} (d : decode cc pc = .ok (.baload, 1)) (hr : wk M r = 103) (hl : wl M r = n) (hin : vp_in i n) (kk : V p l e R s m args below meth c nL D cA sz0 H0 cells slots Q (pc + 1) lv (.int (wI M r i.toNatClampNeg) :: st) M) : V p l e R s m args below meth c nL D cA sz0 H0 cells slots Q pc lv (.int i :: .ref (sz0 + r) :: st) M := fun ls H locs h1 h2 h3 => by
  obtain ⟨hx, hb, -, -, -, -, -, hKK⟩ := cx
  have hlt : i.toNatClampNeg < wl M r := Nat.not_le.mp fun q => hin (Or.inr (by rw [← hl]; exact q))
  have hA := arr_of hKK (kd := 103) (by omega) (by omega)
  exact W.zald (v := .int (wI M r i.toNatClampNeg))  hx hb (wAt_arr h2 hr (by omega) (by omega)) (hA.1 _ _)  (fun q => by cases q) (by show ¬ (i < 0 ∨ (arrV _ _ _).slots.size ≤ _); rw [arrV_size, hl]; exact hin) (by show (arrV _ _ _).slots[_]? = _; rw [arrV_read _ _ hlt]; rfl) rfl rfl d (kk ls H locs h1 h2 h3)
theorem v_aald104 (cx : Cx p s m args meth c cc nL own ret D cA sz0 H0) {r n : Nat} {i : Int32} (d : decode cc pc = .ok (.aaload, 1)) (hr : wk M r = 104) (hl : wl M r = n) (hin : vp_in i n) (kk : V p l e R s m args below meth c nL D cA sz0 H0 cells slots Q (pc + 1) lv (vr sz0 (wR M r i.toNatClampNeg) :: st) M) : V p l e R s m args below meth c nL D cA sz0 H0 cells slots Q pc lv (.int i :: .ref (sz0 + r) :: st) M := fun ls H locs h1 h2 h3 => by
  obtain ⟨hx, hb, -, -, -, -, -, hKK⟩ := cx
  have hlt : i.toNatClampNeg < wl M r := Nat.not_le.mp fun q => hin (Or.inr (by rw [← hl]; exact q))
  have hA := arr_of hKK (kd := 104) (by omega) (by omega)
  exact W.aald (v := vr sz0 (wR M r i.toNatClampNeg)) (ty := .array .int) hx hb (wAt_arr h2 hr (by omega) (by omega)) (hA.1 _ _) rfl (fun q => by cases q) (by show ¬ (i < 0 ∨ (arrV _ _ _).slots.size ≤ _); rw [arrV_size, hl]; exact hin) (by show (arrV _ _ _).slots[_]? = _; rw [arrV_read _ _ hlt]; rfl) rfl rfl d (kk ls H locs h1 h2 h3)
theorem v_aald105 (cx : Cx p s m args meth c cc nL own ret D cA sz0 H0) {r n : Nat} {i : Int32} (d : decode cc pc = .ok (.aaload, 1)) (hr : wk M r = 105) (hl : wl M r = n) (hin : vp_in i n) (kk : V p l e R s m args below meth c nL D cA sz0 H0 cells slots Q (pc + 1) lv (vr sz0 (wR M r i.toNatClampNeg) :: st) M) : V p l e R s m args below meth c nL D cA sz0 H0 cells slots Q pc lv (.int i :: .ref (sz0 + r) :: st) M := fun ls H locs h1 h2 h3 => by
  obtain ⟨hx, hb, -, -, -, -, -, hKK⟩ := cx
  have hlt : i.toNatClampNeg < wl M r := Nat.not_le.mp fun q => hin (Or.inr (by rw [← hl]; exact q))
  have hA := arr_of hKK (kd := 105) (by omega) (by omega)
  exact W.aald (v := vr sz0 (wR M r i.toNatClampNeg)) (ty := .array .long) hx hb (wAt_arr h2 hr (by omega) (by omega)) (hA.1 _ _) rfl (fun q => by cases q) (by show ¬ (i < 0 ∨ (arrV _ _ _).slots.size ≤ _); rw [arrV_size, hl]; exact hin) (by show (arrV _ _ _).slots[_]? = _; rw [arrV_read _ _ hlt]; rfl) rfl rfl d (kk ls H locs h1 h2 h3)
theorem v_aald106 (cx : Cx p s m args meth c cc nL own ret D cA sz0 H0) {r n : Nat} {i : Int32} (d : decode cc pc = .ok (.aaload, 1)) (hr : wk M r = 106) (hl : wl M r = n) (hin : vp_in i n) (kk : V p l e R s m args below meth c nL D cA sz0 H0 cells slots Q (pc + 1) lv (vr sz0 (wR M r i.toNatClampNeg) :: st) M) : V p l e R s m args below meth c nL D cA sz0 H0 cells slots Q pc lv (.int i :: .ref (sz0 + r) :: st) M := fun ls H locs h1 h2 h3 => by
  obtain ⟨hx, hb, -, -, -, -, -, hKK⟩ := cx
  have hlt : i.toNatClampNeg < wl M r := Nat.not_le.mp fun q => hin (Or.inr (by rw [← hl]; exact q))
  have hA := arr_of hKK (kd := 106) (by omega) (by omega)
  exact W.aald (v := vr sz0 (wR M r i.toNatClampNeg)) (ty := .array .boolean) hx hb (wAt_arr h2 hr (by omega) (by omega)) (hA.1 _ _) rfl (fun q => by cases q) (by show ¬ (i < 0 ∨ (arrV _ _ _).slots.size ≤ _); rw [arrV_size, hl]; exact hin) (by show (arrV _ _ _).slots[_]? = _; rw [arrV_read _ _ hlt]; rfl) rfl rfl d (kk ls H locs h1 h2 h3)
theorem v_aald107 (cx : Cx p s m args meth c cc nL own ret D cA sz0 H0) {r n : Nat} {i : Int32} (d : decode cc pc = .ok (.aaload, 1)) (hr : wk M r = 107) (hl : wl M r = n) (hin : vp_in i n) (kk : V p l e R s m args below meth c nL D cA sz0 H0 cells slots Q (pc + 1) lv (vr sz0 (wR M r i.toNatClampNeg) :: st) M) : V p l e R s m args below meth c nL D cA sz0 H0 cells slots Q pc lv (.int i :: .ref (sz0 + r) :: st) M := fun ls H locs h1 h2 h3 => by
  obtain ⟨hx, hb, -, -, -, -, -, hKK⟩ := cx
  have hlt : i.toNatClampNeg < wl M r := Nat.not_le.mp fun q => hin (Or.inr (by rw [← hl]; exact q))
  have hA := arr_of hKK (kd := 107) (by omega) (by omega)
  exact W.aald (v := vr sz0 (wR M r i.toNatClampNeg)) (ty := .object "LetterHeaps$Word") hx hb (wAt_arr h2 hr (by omega) (by omega)) (hA.1 _ _) rfl (fun q => by cases q) (by show ¬ (i < 0 ∨ (arrV _ _ _).slots.size ≤ _); rw [arrV_size, hl]; exact hin) (by show (arrV _ _ _).slots[_]? = _; rw [arrV_read _ _ hlt]; rfl) rfl rfl d (kk ls H locs h1 h2 h3)
theorem v_aald108 (cx : Cx p s m args meth c cc nL own ret D cA sz0 H0) {r n : Nat} {i : Int32} (d : decode cc pc = .ok (.aaload, 1)) (hr : wk M r = 108) (hl : wl M r = n) (hin : vp_in i n) (kk : V p l e R s m args below meth c nL D cA sz0 H0 cells slots Q (pc + 1) lv (vr sz0 (wR M r i.toNatClampNeg) :: st) M) : V p l e R s m args below meth c nL D cA sz0 H0 cells slots Q pc lv (.int i :: .ref (sz0 + r) :: st) M := fun ls H locs h1 h2 h3 => by
  obtain ⟨hx, hb, -, -, -, -, -, hKK⟩ := cx
  have hlt : i.toNatClampNeg < wl M r := Nat.not_le.mp fun q => hin (Or.inr (by rw [← hl]; exact q))
  have hA := arr_of hKK (kd := 108) (by omega) (by omega)
  exact W.aald (v := vr sz0 (wR M r i.toNatClampNeg)) (ty := .object "LetterHeaps$Sum") hx hb (wAt_arr h2 hr (by omega) (by omega)) (hA.1 _ _) rfl (fun q => by cases q) (by show ¬ (i < 0 ∨ (arrV _ _ _).slots.size ≤ _); rw [arrV_size, hl]; exact hin) (by show (arrV _ _ _).slots[_]? = _; rw [arrV_read _ _ hlt]; rfl) rfl rfl d (kk ls H locs h1 h2 h3)
theorem v_aald109 (cx : Cx p s m args meth c cc nL own ret D cA sz0 H0) {r n : Nat} {i : Int32} (d : decode cc pc = .ok (.aaload, 1)) (hr : wk M r = 109) (hl : wl M r = n) (hin : vp_in i n) (kk : V p l e R s m args below meth c nL D cA sz0 H0 cells slots Q (pc + 1) lv (vr sz0 (wR M r i.toNatClampNeg) :: st) M) : V p l e R s m args below meth c nL D cA sz0 H0 cells slots Q pc lv (.int i :: .ref (sz0 + r) :: st) M := fun ls H locs h1 h2 h3 => by
  obtain ⟨hx, hb, -, -, -, -, -, hKK⟩ := cx
  have hlt : i.toNatClampNeg < wl M r := Nat.not_le.mp fun q => hin (Or.inr (by rw [← hl]; exact q))
  have hA := arr_of hKK (kd := 109) (by omega) (by omega)
  exact W.aald (v := vr sz0 (wR M r i.toNatClampNeg)) (ty := .object "LetterHeaps$Condition") hx hb (wAt_arr h2 hr (by omega) (by omega)) (hA.1 _ _) rfl (fun q => by cases q) (by show ¬ (i < 0 ∨ (arrV _ _ _).slots.size ≤ _); rw [arrV_size, hl]; exact hin) (by show (arrV _ _ _).slots[_]? = _; rw [arrV_read _ _ hlt]; rfl) rfl rfl d (kk ls H locs h1 h2 h3)
theorem v_iast (cx : Cx p s m args meth c cc nL own ret D cA sz0 H0) {r n : Nat} {i : Int32} {x : Int32} (d : decode cc pc = .ok (.iastore, 1)) (hr : wk M r = 100) (hl : wl M r = n) (hin : vp_in i n)  (kk : V p l e R s m args below meth c nL D cA sz0 H0 cells slots Q (pc + 1) lv st (wPI M r i.toNatClampNeg x)) : V p l e R s m args below meth c nL D cA sz0 H0 cells slots Q pc lv (.int x :: .int i :: .ref (sz0 + r) :: st) M := fun ls H locs h1 h2 h3 => by
  obtain ⟨hx, hb, -, -, -, -, -, hKK⟩ := cx
  have hA := arr_of hKK (kd := 100) (by omega) (by omega)
  refine W.iast hx hb (wAt_arr h2 hr (by omega) (by omega)) (hA.1 _ _) (fun q => by cases q) (by show ¬ (i < 0 ∨ (arrV _ _ _).slots.size ≤ _); rw [arrV_size, hl]; exact hin) rfl rfl d fun H' e1 e2 e3 => ?_
  skip
  exact kk ls H' _ h1 (h2.elem hr (by omega) (by omega) e1 e2 e3 (wBut_PI M r _ _) (av_PI (by omega) (by omega))) (h3.put e2 e3 (Nat.le_add_right sz0 r))
theorem v_last (cx : Cx p s m args meth c cc nL own ret D cA sz0 H0) {r n : Nat} {i : Int32} {x : Int64} (d : decode cc pc = .ok (.lastore, 1)) (hr : wk M r = 101) (hl : wl M r = n) (hin : vp_in i n)  (kk : V p l e R s m args below meth c nL D cA sz0 H0 cells slots Q (pc + 1) lv st (wPJ M r i.toNatClampNeg x)) : V p l e R s m args below meth c nL D cA sz0 H0 cells slots Q pc lv (.long x :: .int i :: .ref (sz0 + r) :: st) M := fun ls H locs h1 h2 h3 => by
  obtain ⟨hx, hb, -, -, -, -, -, hKK⟩ := cx
  have hA := arr_of hKK (kd := 101) (by omega) (by omega)
  refine W.last hx hb (wAt_arr h2 hr (by omega) (by omega)) (hA.1 _ _) (fun q => by cases q) (by show ¬ (i < 0 ∨ (arrV _ _ _).slots.size ≤ _); rw [arrV_size, hl]; exact hin) rfl rfl d fun H' e1 e2 e3 => ?_
  skip
  exact kk ls H' _ h1 (h2.elem hr (by omega) (by omega) e1 e2 e3 (wBut_PJ M r _ _) av_PJ) (h3.put e2 e3 (Nat.le_add_right sz0 r))
theorem v_bast (cx : Cx p s m args meth c cc nL own ret D cA sz0 H0) {r n : Nat} {i : Int32} {x y : Int32} (d : decode cc pc = .ok (.bastore, 1)) (hr : wk M r = 102) (hl : wl M r = n) (hin : vp_in i n) (hnar : narrow .byte (.int x) = .int y) (kk : V p l e R s m args below meth c nL D cA sz0 H0 cells slots Q (pc + 1) lv st (wPI M r i.toNatClampNeg y)) : V p l e R s m args below meth c nL D cA sz0 H0 cells slots Q pc lv (.int x :: .int i :: .ref (sz0 + r) :: st) M := fun ls H locs h1 h2 h3 => by
  obtain ⟨hx, hb, -, -, -, -, -, hKK⟩ := cx
  have hA := arr_of hKK (kd := 102) (by omega) (by omega)
  refine W.bast hx hb (wAt_arr h2 hr (by omega) (by omega)) (hA.1 _ _) (fun q => by cases q) (by show ¬ (i < 0 ∨ (arrV _ _ _).slots.size ≤ _); rw [arrV_size, hl]; exact hin) rfl rfl d fun H' e1 e2 e3 => ?_
  rw [hnar] at e1
  exact kk ls H' _ h1 (h2.elem hr (by omega) (by omega) e1 e2 e3 (wBut_PI M r _ _) (av_PI (by omega) (by omega))) (h3.put e2 e3 (Nat.le_add_right sz0 r))
theorem v_zast (cx : Cx p s m args meth c cc nL own ret D cA sz0 H0) {r n : Nat} {i : Int32} {x y : Int32} (d : decode cc pc = .ok (.bastore, 1)) (hr : wk M r = 103) (hl : wl M r = n) (hin : vp_in i n) (hnar : narrow .boolean (.int x) = .int y) (kk : V p l e R s m args below meth c nL D cA sz0 H0 cells slots Q (pc + 1) lv st (wPI M r i.toNatClampNeg y)) : V p l e R s m args below meth c nL D cA sz0 H0 cells slots Q pc lv (.int x :: .int i :: .ref (sz0 + r) :: st) M := fun ls H locs h1 h2 h3 => by
  obtain ⟨hx, hb, -, -, -, -, -, hKK⟩ := cx
  have hA := arr_of hKK (kd := 103) (by omega) (by omega)
  refine W.zast hx hb (wAt_arr h2 hr (by omega) (by omega)) (hA.1 _ _) (fun q => by cases q) (by show ¬ (i < 0 ∨ (arrV _ _ _).slots.size ≤ _); rw [arrV_size, hl]; exact hin) rfl rfl d fun H' e1 e2 e3 => ?_
  rw [hnar] at e1
  exact kk ls H' _ h1 (h2.elem hr (by omega) (by omega) e1 e2 e3 (wBut_PI M r _ _) (av_PI (by omega) (by omega))) (h3.put e2 e3 (Nat.le_add_right sz0 r))
theorem v_aast (cx : Cx p s m args meth c cc nL own ret D cA sz0 H0) {r n : Nat} {i : Int32} {kd ci v : Nat} {C E : String} {T : u_T} {N : Nat} (hkd : 107 ≤ kd) (hkd2 : kd < 110) (hE : aTy kd = .object E) (hc : CL[ci]? = some (C, T, N)) (hci : ci < 13) (hcast : C = E ∨ Cond.castable C E ∈ lw_nst) (d : decode cc pc = .ok (.aastore, 1)) (hr : wk M r = kd) (hv : wk M v = ci) (hl : wl M r = n) (hin : vp_in i n) (kk : V p l e R s m args below meth c nL D cA sz0 H0 cells slots Q (pc + 1) lv st (wPR M r i.toNatClampNeg (some v))) : V p l e R s m args below meth c nL D cA sz0 H0 cells slots Q pc lv (.ref (sz0 + v) :: .int i :: .ref (sz0 + r) :: st) M := fun ls H locs h1 h2 h3 => by
  obtain ⟨hx, hb, -, -, -, -, -, hKK⟩ := cx
  have hA := arr_of hKK (kd := kd) (by omega) (by omega)
  have hlt : i.toNatClampNeg < wl M r := Nat.not_le.mp fun q => hin (Or.inr (by rw [← hl]; exact q))
  have h0 : ¬ i < 0 := fun q => hin (Or.inl q)
  obtain ⟨cellV, g1, g2, g3, -⟩ := wAt_obj h2 hv hci
  have hcls := (hKK.1.1 ci _ hc).2
  rw [hE] at hA
  obtain ⟨kA, comp, k1, k2, k3, -⟩ := hA.2
  obtain ⟨kC, hkC, -⟩ := hcls.2
  obtain ⟨kcomp, hkc, -⟩ := Vm.findClass_spec k3
  have hasg : s.vm.assignable (D.1 ci) comp = true := by
    rcases hcast with hE2 | hca
    · rw [← hE2] at k3
      exact vb_asgS comp (D.1 ci) k3 hcls.1
    · exact vb_asgC (hKK.2.1 _ hca) comp (D.1 ci) k3 hcls.1
  refine W.aast hx hb (wAt_arr h2 hr (by omega) (by omega)) (fun q h => by cases h) (fun h => by cases h) k1 k2 rfl hkc ⟨h0, by show _ < (arrV _ _ _).slots.size; rw [arrV_size]; exact hlt⟩ g1 (fun q h => by rw [g3] at h; cases h) (by rw [g2]; exact hkC) (by rw [g2]; exact hasg) rfl rfl d fun H' e1 e2 e3 => ?_
  exact kk ls H' _ h1 (h2.elem hr (by omega) (by omega) e1 e2 e3 (wBut_PR M r _ _) (av_PR (v := some v) (by omega))) (h3.put e2 e3 (Nat.le_add_right sz0 r))
theorem v_aastN (cx : Cx p s m args meth c cc nL own ret D cA sz0 H0) {r n : Nat} {i : Int32} {kd : Nat} {E : String} (hkd : 107 ≤ kd) (hkd2 : kd < 110) (hE : aTy kd = .object E) (d : decode cc pc = .ok (.aastore, 1)) (hr : wk M r = kd) (hl : wl M r = n) (hin : vp_in i n) (kk : V p l e R s m args below meth c nL D cA sz0 H0 cells slots Q (pc + 1) lv st (wPR M r i.toNatClampNeg none)) : V p l e R s m args below meth c nL D cA sz0 H0 cells slots Q pc lv (vr sz0 none :: .int i :: .ref (sz0 + r) :: st) M := fun ls H locs h1 h2 h3 => by
  obtain ⟨hx, hb, -, -, -, -, -, hKK⟩ := cx
  have hA := arr_of hKK (kd := kd) (by omega) (by omega)
  rw [hE] at hA
  refine va_WaastN hx hb (wAt_arr h2 hr (by omega) (by omega)) (hA.1 _ _) (fun q => by cases q) (by show ¬ (i < 0 ∨ (arrV _ _ _).slots.size ≤ _); rw [arrV_size, hl]; exact hin) rfl rfl d fun H' e1 e2 e3 => ?_
  exact kk ls H' _ h1 (h2.elem hr (by omega) (by omega) e1 e2 e3 (wBut_PR M r _ _) (av_PR (v := none) (by omega))) (h3.put e2 e3 (Nat.le_add_right sz0 r))
theorem Wd.born {D : va_G} {cA : Nat → ClassId} {sz0 : Nat} {H0 : Heap} {M : WM} {H H' : Heap} {kd n : Nat} (h : Wd D cA sz0 H0 M H) (z : H'.size = H.size + 1) (o : ∀ q, q < H.size → H'[q]? = H[q]?) (hn : wAt D cA sz0 (wNw M kd n) H' (wn M)) : Wd D cA sz0 H0 (wNw M kd n) H' := by
  refine ⟨by rw [z, h.1, wn_Nw]; omega, fun x hx => ?_, fun q hq => by rw [o q (by rw [h.1]; omega)]; exact h.2.2 q hq⟩
  by_cases hxn : x = wn M
  · subst hxn; exact hn
  · have e : wk (wNw M kd n) x = wk M x := by rw [wk_Nw, if_neg hxn]
    rw [e] at hx
    have hh := h.2.1 x hx
    have hlt : sz0 + x < H.size := by
      unfold wAt at hh
      split at hh
      · obtain ⟨-, cell, q, -⟩ := hh
        exact (Array.getElem?_eq_some_iff.mp q).1
      · exact (Array.getElem?_eq_some_iff.mp hh.2).1
    exact wAt_same hh (o _ hlt) e (by rw [wl_Nw, if_neg hxn]) (fun j => by rw [wI_Nw, if_neg hxn]) (fun j => by rw [wJ_Nw, if_neg hxn]) (fun j => by rw [wR_Nw, if_neg hxn])
theorem va_S.born {A : Nat → Prop} {H0 H H1 : Heap} {locs : List Loc} (h : va_S A H0 H locs) (z : H1.size = H.size + 1) (o : ∀ q, q < H.size → H1[q]? = H[q]?) : va_S A H0 H1 locs := ⟨Nat.le_trans h.1 (by omega), fun x h1 h2 => (o x (Nat.lt_of_lt_of_le h1 h.1)).trans (h.2.1 x h1 h2), h.2.2⟩
theorem v_new (cx : Cx p s m args meth c cc nL own ret D cA sz0 H0) {ci idx : Nat} {C : String} {T : u_T} {N : Nat} (hc : CL[ci]? = some (C, T, N)) (hci : ci < 13) (hin : ∀ w ∈ u_ws C T N, w ∈ lw_all) (ty : Nat → FieldType) (hty : ∀ k, k < N → parseFieldDescriptor (T k).2.2.1 = some (ty k)) (hl : Cond.classLink own idx C ∈ lw_all) (hi : Cond.instantiable C N ∈ lw_all) (hini : Cond.initialized C ∈ lw_all) (hdf : ∀ j, j < N → defaultValue (ty j) = (if isRF ci j = true then Value.null else .int 0)) (hcells : cells + 1 ≤ R.cells) (hslots : slots + N ≤ R.slots) (d : decode cc pc = .ok (.new idx, 3)) (kk : V p l e R s m args below meth c nL D cA sz0 H0 (cells + 1) (slots + N) Q (pc + 3) lv (.ref (sz0 + wn M) :: st) (wNw M ci 0)) : V p l e R s m args below meth c nL D cA sz0 H0 cells slots Q pc lv st M := fun ls H locs h1 h2 h3 => by
  obtain ⟨hx, hb, -, hown, hts, -, -, hKK⟩ := cx
  have hN : N = nF ci := CL_nF ci hci _ hc
  have hKn := hKK.1.1 ci _ hc
  refine W.newcK hx hb hown (hts _ hl) (hts _ hi) (hts _ hini) rfl d hcells hslots hKn.2.1 rfl fun H1 kC hkC e1 z1 o1 => ?_
  have hz : H.size = sz0 + wn M := h2.1
  rw [hz]
  refine kk ls H1 locs h1 (h2.born z1 o1 ?_) (h3.born z1 o1)
  unfold wAt
  rw [wk_Nw, if_pos rfl, if_pos (by omega)]
  refine ⟨hci, ?_⟩
  rw [← hN, ← hz]
  refine (u_born ty hts hin hKn hkC e1 hty).to fun j hj => ?_
  rw [hdf j hj]
  unfold fv
  rw [wI_Nw, wR_Nw, if_pos rfl, if_pos rfl]
  rfl
theorem v_newa100 (cx : Cx p s m args meth c cc nL own ret D cA sz0 H0) {i : Int32} {n : Nat} (hn : ¬ i < 0) (hN : i.toNatClampNeg = n) (hw : Cond.arrayClass .int ∈ lw_all) (hb9 : n * 8 ≤ 536870912) (hcells : cells + 1 ≤ R.cells) (hslots : slots + n ≤ R.slots) (d : decode cc pc = .ok (.newarray .int, 2)) (kk : V p l e R s m args below meth c nL D cA sz0 H0 (cells + 1) (slots + n) Q (pc + 2) lv (.ref (sz0 + wn M) :: st) (wNw M 100 n)) : V p l e R s m args below meth c nL D cA sz0 H0 cells slots Q pc lv (.int i :: st) M := fun ls H locs h1 h2 h3 => by
  obtain ⟨hx, hb, -, hown, hts, -, -, hKK⟩ := cx
  refine va_newaK hx hb (atype := .int) (hts _ hw) rfl d rfl hn hN (by show n * componentBytes .int ≤ _; simp [componentBytes]; omega) hcells hslots rfl fun H1 cA' e1 z1 o1 hAr hNm => ?_
  have hz : H.size = sz0 + wn M := h2.1
  have hA := (arr_of hKK (kd := 100) (by omega) (by omega)).2
  have hcA : cA' = cA 100 := Option.some.inj (hNm.symm.trans hA)
  rw [hz]
  refine kk ls H1 locs h1 (h2.born z1 o1 ?_) (h3.born z1 o1)
  unfold wAt
  rw [wk_Nw, if_pos rfl, if_neg (by omega), wl_Nw, if_pos rfl]
  refine ⟨by omega, ?_⟩
  rw [← hz, e1, hcA]
  refine congrArg some (congrArg (arrV (cA 100) n) (funext fun j => ?_))
  unfold av
  simp [wI_Nw, wJ_Nw, newarray.typeOf, defaultValue]
theorem v_newa101 (cx : Cx p s m args meth c cc nL own ret D cA sz0 H0) {i : Int32} {n : Nat} (hn : ¬ i < 0) (hN : i.toNatClampNeg = n) (hw : Cond.arrayClass .long ∈ lw_all) (hb9 : n * 8 ≤ 536870912) (hcells : cells + 1 ≤ R.cells) (hslots : slots + n ≤ R.slots) (d : decode cc pc = .ok (.newarray .long, 2)) (kk : V p l e R s m args below meth c nL D cA sz0 H0 (cells + 1) (slots + n) Q (pc + 2) lv (.ref (sz0 + wn M) :: st) (wNw M 101 n)) : V p l e R s m args below meth c nL D cA sz0 H0 cells slots Q pc lv (.int i :: st) M := fun ls H locs h1 h2 h3 => by
  obtain ⟨hx, hb, -, hown, hts, -, -, hKK⟩ := cx
  refine va_newaK hx hb (atype := .long) (hts _ hw) rfl d rfl hn hN (by show n * componentBytes .long ≤ _; simp [componentBytes]; omega) hcells hslots rfl fun H1 cA' e1 z1 o1 hAr hNm => ?_
  have hz : H.size = sz0 + wn M := h2.1
  have hA := (arr_of hKK (kd := 101) (by omega) (by omega)).2
  have hcA : cA' = cA 101 := Option.some.inj (hNm.symm.trans hA)
  rw [hz]
  refine kk ls H1 locs h1 (h2.born z1 o1 ?_) (h3.born z1 o1)
  unfold wAt
  rw [wk_Nw, if_pos rfl, if_neg (by omega), wl_Nw, if_pos rfl]
  refine ⟨by omega, ?_⟩
  rw [← hz, e1, hcA]
  refine congrArg some (congrArg (arrV (cA 101) n) (funext fun j => ?_))
  unfold av
  simp [wI_Nw, wJ_Nw, newarray.typeOf, defaultValue]
theorem v_newa102 (cx : Cx p s m args meth c cc nL own ret D cA sz0 H0) {i : Int32} {n : Nat} (hn : ¬ i < 0) (hN : i.toNatClampNeg = n) (hw : Cond.arrayClass .byte ∈ lw_all) (hb9 : n * 8 ≤ 536870912) (hcells : cells + 1 ≤ R.cells) (hslots : slots + n ≤ R.slots) (d : decode cc pc = .ok (.newarray .byte, 2)) (kk : V p l e R s m args below meth c nL D cA sz0 H0 (cells + 1) (slots + n) Q (pc + 2) lv (.ref (sz0 + wn M) :: st) (wNw M 102 n)) : V p l e R s m args below meth c nL D cA sz0 H0 cells slots Q pc lv (.int i :: st) M := fun ls H locs h1 h2 h3 => by
  obtain ⟨hx, hb, -, hown, hts, -, -, hKK⟩ := cx
  refine va_newaK hx hb (atype := .byte) (hts _ hw) rfl d rfl hn hN (by show n * componentBytes .byte ≤ _; simp [componentBytes]; omega) hcells hslots rfl fun H1 cA' e1 z1 o1 hAr hNm => ?_
  have hz : H.size = sz0 + wn M := h2.1
  have hA := (arr_of hKK (kd := 102) (by omega) (by omega)).2
  have hcA : cA' = cA 102 := Option.some.inj (hNm.symm.trans hA)
  rw [hz]
  refine kk ls H1 locs h1 (h2.born z1 o1 ?_) (h3.born z1 o1)
  unfold wAt
  rw [wk_Nw, if_pos rfl, if_neg (by omega), wl_Nw, if_pos rfl]
  refine ⟨by omega, ?_⟩
  rw [← hz, e1, hcA]
  refine congrArg some (congrArg (arrV (cA 102) n) (funext fun j => ?_))
  unfold av
  simp [wI_Nw, wJ_Nw, newarray.typeOf, defaultValue]
theorem v_newa103 (cx : Cx p s m args meth c cc nL own ret D cA sz0 H0) {i : Int32} {n : Nat} (hn : ¬ i < 0) (hN : i.toNatClampNeg = n) (hw : Cond.arrayClass .boolean ∈ lw_all) (hb9 : n * 8 ≤ 536870912) (hcells : cells + 1 ≤ R.cells) (hslots : slots + n ≤ R.slots) (d : decode cc pc = .ok (.newarray .boolean, 2)) (kk : V p l e R s m args below meth c nL D cA sz0 H0 (cells + 1) (slots + n) Q (pc + 2) lv (.ref (sz0 + wn M) :: st) (wNw M 103 n)) : V p l e R s m args below meth c nL D cA sz0 H0 cells slots Q pc lv (.int i :: st) M := fun ls H locs h1 h2 h3 => by
  obtain ⟨hx, hb, -, hown, hts, -, -, hKK⟩ := cx
  refine va_newaK hx hb (atype := .boolean) (hts _ hw) rfl d rfl hn hN (by show n * componentBytes .boolean ≤ _; simp [componentBytes]; omega) hcells hslots rfl fun H1 cA' e1 z1 o1 hAr hNm => ?_
  have hz : H.size = sz0 + wn M := h2.1
  have hA := (arr_of hKK (kd := 103) (by omega) (by omega)).2
  have hcA : cA' = cA 103 := Option.some.inj (hNm.symm.trans hA)
  rw [hz]
  refine kk ls H1 locs h1 (h2.born z1 o1 ?_) (h3.born z1 o1)
  unfold wAt
  rw [wk_Nw, if_pos rfl, if_neg (by omega), wl_Nw, if_pos rfl]
  refine ⟨by omega, ?_⟩
  rw [← hz, e1, hcA]
  refine congrArg some (congrArg (arrV (cA 103) n) (funext fun j => ?_))
  unfold av
  simp [wI_Nw, wJ_Nw, newarray.typeOf, defaultValue]
theorem v_anew (cx : Cx p s m args meth c cc nL own ret D cA sz0 H0) {i : Int32} {n kd idx : Nat} {E : String} (hkd : 107 ≤ kd) (hkd2 : kd < 110) (hE : aTy kd = .object E) (hn : ¬ i < 0) (hN : i.toNatClampNeg = n) (hl : Cond.classLink own idx E ∈ lw_all) (hw : Cond.arrayOver (.object E) ∈ lw_tbl) (hb9 : n * 4 ≤ 536870912) (hcells : cells + 1 ≤ R.cells) (hslots : slots + n ≤ R.slots) (d : decode cc pc = .ok (.anewarray idx, 3)) (kk : V p l e R s m args below meth c nL D cA sz0 H0 (cells + 1) (slots + n) Q (pc + 3) lv (.ref (sz0 + wn M) :: st) (wNw M kd n)) : V p l e R s m args below meth c nL D cA sz0 H0 cells slots Q pc lv (.int i :: st) M := fun ls H locs h1 h2 h3 => by
  obtain ⟨hx, hb, -, hown, hts, -, -, hKK⟩ := cx
  subst hN
  refine W.anew hx hb hown (hts _ hl) (hKK.2.2.1 _ hw _) rfl d rfl hn hb9 hcells hslots fun cA' kA comp f1 f2 f3 f4 => ?_
  generalize hH1 : H.push ({ cls := cA', slots := Array.replicate i.toNatClampNeg .null, vm := .none } : Cell) = H1
  have z1 : H1.size = H.size + 1 := by rw [← hH1, Array.size_push]
  have e1 : H1[H.size]? = some (arrV cA' i.toNatClampNeg (fun _ => .null)) := by rw [← hH1, Array.getElem?_push_size, ← arrV_new]
  have o1 : ∀ q : Nat, q < H.size → H1[q]? = H[q]? := fun q hq => by rw [← hH1, Array.getElem?_push, if_neg (Nat.ne_of_lt hq)]
  have hz : H.size = sz0 + wn M := h2.1
  have hA := (arr_of hKK (kd := kd) (by omega) (by omega)).2
  rw [hE] at hA
  obtain ⟨kA', comp', k1, k2, k3, k4⟩ := hA
  have hcA : cA' = cA kd := Option.some.inj (f1.symm.trans k4)
  rw [hz]
  refine kk ls H1 locs h1 (h2.born z1 o1 ?_) (h3.born z1 o1)
  unfold wAt
  rw [wk_Nw, if_pos rfl, if_neg (by omega), wl_Nw, if_pos rfl]
  refine ⟨by omega, ?_⟩
  rw [← hz, e1, hcA]
  refine congrArg some (congrArg (arrV (cA kd) _) (funext fun j => ?_))
  unfold av
  simp [wR_Nw, show kd ≠ 101 by omega, show ¬ kd ≤ 103 by omega, vr, va_rf]
end VV
/-! RETURNS AND CALLS -/
section VC
variable {p : Program} {l : Launch} {e : Env} {R : Room} {s : State} {m : MethodId} {args : Array Value} {below : List Frame} {meth : Method} {c : Code} {cells slots : Nat} {Q : State → Prop}
variable {cc : ByteArray} {nL : Nat} {own : String} {ret : Option FieldType} {D : va_G} {cA : Nat → ClassId} {sz0 : Nat} {H0 : Heap} {pc : Nat} {lv lv' : List (Nat × Value)} {st st0 : List Value} {M : WM}
def BW (D : va_G) (cA : Nat → ClassId) (sz0 : Nat) (H0 : Heap) (M : WM) (t : State) : Prop := Wd D cA sz0 H0 M t.heap
def PcW (D : va_G) (cA : Nat → ClassId) (sz0 : Nat) (H0 : Heap) (vs : List Value) (M : WM) : Array Value → State → Prop := va_Pc vs (fun U => Wd D cA sz0 H0 M U.heap ∧ KK D cA sz0 H0 U)
abbrev QW_i (D : va_G) (cA : Nat → ClassId) (sz0 : Nat) (H0 : Heap) (post : Int32 → WM → Prop) : Array Value → State → Outcome → State → Prop := va_Qi post (BW D cA sz0 H0) (Aw sz0)
abbrev QW_l (D : va_G) (cA : Nat → ClassId) (sz0 : Nat) (H0 : Heap) (post : Int64 → WM → Prop) : Array Value → State → Outcome → State → Prop := va_Ql post (BW D cA sz0 H0) (Aw sz0)
abbrev QW_v (D : va_G) (cA : Nat → ClassId) (sz0 : Nat) (H0 : Heap) (post : WM → Prop) : Array Value → State → Outcome → State → Prop := va_Qv post (BW D cA sz0 H0) (Aw sz0)
abbrev QW_r (D : va_G) (cA : Nat → ClassId) (sz0 : Nat) (H0 : Heap) (post : Option Nat → WM → Prop) : Array Value → State → Outcome → State → Prop := va_Qq (fun x M' => ∃ o : Option Nat, x = o.map (fun r => sz0 + r) ∧ post o M') (BW D cA sz0 H0) (Aw sz0)
theorem blindW {vs : List Value} : FrameBlind (PcW D cA sz0 H0 vs M) := fun a U g mk q => by
  obtain ⟨q0, q1, q2⟩ := q
  exact ⟨q0, q1, q2.calling⟩
theorem preW {vs : List Value} {H : Heap} (hK : KK D cA sz0 H0 s) (h2 : Wd D cA sz0 H0 M H) : ∀ U : State, U.heap = H → s.WarmedH U.vm → PcW D cA sz0 H0 vs M vs.toArray U := fun U hU hW => ⟨rfl, by rw [hU]; exact h2, hK.warm hW⟩
theorem v_run_i (cx : Cx p s m args meth c cc nL own ret D cA sz0 H0) {mc ms : Nat} {a : Array Value} {post : Int32 → WM → Prop} (hr : ∀ (ls : Array Slot) (H : Heap) (locs : List Loc), lv_has ls nL lv → Wd D cA sz0 H0 M H → va_S (Aw sz0) s.heap H locs → va_Run p l e R s m args below meth c H locs cells slots mc ms (F0 m pc ls st0) st (QW_i D cA sz0 H0 post a) (Aw sz0)) (kk : ∀ (r : Int32) (M' : WM), post r M' → V p l e R s m args below meth c nL D cA sz0 H0 (cells + mc) (slots + ms) Q (pc + 3) lv (.int r :: st) M') : V p l e R s m args below meth c nL D cA sz0 H0 cells slots Q pc lv st0 M := fun ls H locs h1 h2 h3 =>
  va_calli (hr ls H locs h1 h2 h3) h3 (fun q _ h => h) (fun q h => h) (fun r u t H1 locs1 ht hvm hp hB hz hk hS => kk r u hp ls H1 locs1 h1 (ht ▸ hB) hS)
theorem v_run_l (cx : Cx p s m args meth c cc nL own ret D cA sz0 H0) {mc ms : Nat} {a : Array Value} {post : Int64 → WM → Prop} (hr : ∀ (ls : Array Slot) (H : Heap) (locs : List Loc), lv_has ls nL lv → Wd D cA sz0 H0 M H → va_S (Aw sz0) s.heap H locs → va_Run p l e R s m args below meth c H locs cells slots mc ms (F0 m pc ls st0) st (QW_l D cA sz0 H0 post a) (Aw sz0)) (kk : ∀ (r : Int64) (M' : WM), post r M' → V p l e R s m args below meth c nL D cA sz0 H0 (cells + mc) (slots + ms) Q (pc + 3) lv (.long r :: st) M') : V p l e R s m args below meth c nL D cA sz0 H0 cells slots Q pc lv st0 M := fun ls H locs h1 h2 h3 =>
  va_calll (hr ls H locs h1 h2 h3) h3 (fun q _ h => h) (fun q h => h) (fun r u t H1 locs1 ht hvm hp hB hz hk hS => kk r u hp ls H1 locs1 h1 (ht ▸ hB) hS)
theorem v_run_v (cx : Cx p s m args meth c cc nL own ret D cA sz0 H0) {mc ms : Nat} {a : Array Value} {post : WM → Prop} (hr : ∀ (ls : Array Slot) (H : Heap) (locs : List Loc), lv_has ls nL lv → Wd D cA sz0 H0 M H → va_S (Aw sz0) s.heap H locs → va_Run p l e R s m args below meth c H locs cells slots mc ms (F0 m pc ls st0) st (QW_v D cA sz0 H0 post a) (Aw sz0)) (kk : ∀ (M' : WM), post M' → V p l e R s m args below meth c nL D cA sz0 H0 (cells + mc) (slots + ms) Q (pc + 3) lv st M') : V p l e R s m args below meth c nL D cA sz0 H0 cells slots Q pc lv st0 M := fun ls H locs h1 h2 h3 =>
  va_callv (hr ls H locs h1 h2 h3) h3 (fun q _ h => h) (fun q h => h) (fun u t H1 locs1 ht hvm hp hB hz hk hS => kk u hp ls H1 locs1 h1 (ht ▸ hB) hS)
theorem v_run_r (cx : Cx p s m args meth c cc nL own ret D cA sz0 H0) {mc ms : Nat} {a : Array Value} {post : Option Nat → WM → Prop} (hr : ∀ (ls : Array Slot) (H : Heap) (locs : List Loc), lv_has ls nL lv → Wd D cA sz0 H0 M H → va_S (Aw sz0) s.heap H locs → va_Run p l e R s m args below meth c H locs cells slots mc ms (F0 m pc ls st0) st (QW_r D cA sz0 H0 post a) (Aw sz0)) (kk : ∀ (o : Option Nat) (M' : WM), post o M' → V p l e R s m args below meth c nL D cA sz0 H0 (cells + mc) (slots + ms) Q (pc + 3) lv (vr sz0 o :: st) M') : V p l e R s m args below meth c nL D cA sz0 H0 cells slots Q pc lv st0 M := fun ls H locs h1 h2 h3 =>
  va_callq (hr ls H locs h1 h2 h3) h3 (fun q _ h => h) (fun q h => h) (fun r u t H1 locs1 ht hvm hp hB hz hk hS => by
    obtain ⟨o, rfl, hp⟩ := hp
    exact kk o u hp ls H1 locs1 h1 (ht ▸ hB) hS)
theorem r_V (cx : Cx p s m args meth c cc nL own ret D cA sz0 H0) {y : MethodName} {b : ByteArray} {L idx n mc ms fr lo : Nat} {rt : Option FieldType} {As : List Value} {Qc : Array Value → State → Outcome → State → Prop} {C : String} {T : u_T} {N ci r : Nat} (hM : Met l y (ws_ y b L rt) ({ frames := fr, cells := mc, slots := ms, locals := lo } : Room) (PcW D cA sz0 H0 (.ref (sz0 + r) :: As) M) Qc mc ms (Aw sz0)) (hl : Cond.methodLink own idx y ∈ lw_all) (hi : Cond.instanceMethod y ∈ lw_all) (hsel : Cond.selects C y y ∈ lw_all) (hini : Cond.initialized C ∈ lw_all) (hco : Cond.code y b L rt ∈ lw_all) (hC : y.cls = C) (hd : y.cls ≠ "java/lang/invoke/MethodHandle" ∧ y.cls ≠ "java/lang/invoke/VarHandle" ∧ (parseMethodDescriptor y.desc).map (fun d => d.parameters.length) = some n) (hR : fr + 1 ≤ R.frames ∧ 8 + (L + 11) + lo ≤ R.locals) (hc : CL[ci]? = some (C, T, N)) (hci : ci < 13) (hk : wk M r = ci) (hn : As.length = n) (hst : st0 = As.reverse ++ .ref (sz0 + r) :: st) (hcat : (st.map fun v => v.category).sum ≤ 8) (d : decode cc pc = .ok (.invokevirtual idx, 3)) (hb : cells + mc ≤ R.cells ∧ slots + ms ≤ R.slots) : ∀ (ls : Array Slot) (H : Heap) (locs : List Loc), lv_has ls nL lv → Wd D cA sz0 H0 M H → va_S (Aw sz0) s.heap H locs → va_Run p l e R s m args below meth c H locs cells slots mc ms (F0 m pc ls st0) st (Qc (Value.ref (sz0 + r) :: As).toArray) (Aw sz0) := fun ls H locs h1 h2 h3 => by
  obtain ⟨cell, q1, q2, q3, -⟩ := wAt_obj h2 hk hci
  exact va_runV ⟨cx.1, cx.2.1, cx.2.2.1, cx.2.2.2.1, cx.2.2.2.2.1⟩ hM (cwV n cx.2.2.2.2.1 (lw_V hl hi hsel hini hco) rfl rfl rfl ⟨hC, hd⟩ hR) ⟨blindW, ⟨cell, q1, by rw [q3]; rfl, by rw [q2]; exact (cx.2.2.2.2.2.2.2.1.1 ci _ hc).2.1⟩, preW cx.2.2.2.2.2.2.2 h2⟩ rfl hn h1.1 hst (lv_room hcat) d hb
theorem r_S (cx : Cx p s m args meth c cc nL own ret D cA sz0 H0) {y : MethodName} {b : ByteArray} {L idx n mc ms fr lo : Nat} {rt : Option FieldType} {As : List Value} {Qc : Array Value → State → Outcome → State → Prop} (hM : Met l y (ws_ y b L rt) ({ frames := fr, cells := mc, slots := ms, locals := lo } : Room) (PcW D cA sz0 H0 As M) Qc mc ms (Aw sz0)) (hl : Cond.methodLink own idx y ∈ lw_all) (hs : Cond.static y ∈ lw_all) (hini : Cond.initialized y.cls ∈ lw_all) (hco : Cond.code y b L rt ∈ lw_all) (hd : y.cls ≠ "java/lang/invoke/MethodHandle" ∧ y.cls ≠ "java/lang/invoke/VarHandle" ∧ (parseMethodDescriptor y.desc).map (fun d => d.parameters.length) = some n) (hR : fr + 1 ≤ R.frames ∧ 8 + (L + 11) + lo ≤ R.locals) (hn : As.length = n) (hst : st0 = As.reverse ++ st) (hcat : (st.map fun v => v.category).sum ≤ 8) (d : decode cc pc = .ok (.invokestatic idx, 3)) (hb : cells + mc ≤ R.cells ∧ slots + ms ≤ R.slots) : ∀ (ls : Array Slot) (H : Heap) (locs : List Loc), lv_has ls nL lv → Wd D cA sz0 H0 M H → va_S (Aw sz0) s.heap H locs → va_Run p l e R s m args below meth c H locs cells slots mc ms (F0 m pc ls st0) st (Qc As.toArray) (Aw sz0) := fun ls H locs h1 h2 h3 =>
  va_runS ⟨cx.1, cx.2.1, cx.2.2.1, cx.2.2.2.1, cx.2.2.2.2.1⟩ hM (va_cwS n cx.2.2.2.2.1 (lw_S hl hs hini hco) rfl rfl rfl hd hR) ⟨blindW, preW cx.2.2.2.2.2.2.2 h2⟩ rfl hn h1.1 hst (lv_room hcat) d hb
theorem r_I (cx : Cx p s m args meth c cc nL own ret D cA sz0 H0) {y : MethodName} {b : ByteArray} {L idx n mc ms fr lo r : Nat} {As : List Value} {Qc : Array Value → State → Outcome → State → Prop} (hM : Met l y (ws_ y b L none) ({ frames := fr, cells := mc, slots := ms, locals := lo } : Room) (PcW D cA sz0 H0 (.ref (sz0 + r) :: As) M) Qc mc ms (Aw sz0)) (hl : Cond.methodLink own idx y ∈ lw_all) (hi : Cond.instanceMethod y ∈ lw_all) (hini : Cond.initialized y.cls ∈ lw_all) (hco : Cond.code y b L none ∈ lw_all) (hy : y.name = "<init>") (hd : y.cls ≠ "java/lang/invoke/MethodHandle" ∧ y.cls ≠ "java/lang/invoke/VarHandle" ∧ (parseMethodDescriptor y.desc).map (fun d => d.parameters.length) = some n) (hR : fr + 1 ≤ R.frames ∧ 8 + (L + 11) + lo ≤ R.locals) (hn : As.length = n) (hst : st0 = As.reverse ++ .ref (sz0 + r) :: st) (hcat : (st.map fun v => v.category).sum ≤ 8) (d : decode cc pc = .ok (.invokespecial idx, 3)) (hb : cells + mc ≤ R.cells ∧ slots + ms ≤ R.slots) : ∀ (ls : Array Slot) (H : Heap) (locs : List Loc), lv_has ls nL lv → Wd D cA sz0 H0 M H → va_S (Aw sz0) s.heap H locs → va_Run p l e R s m args below meth c H locs cells slots mc ms (F0 m pc ls st0) st (Qc (Value.ref (sz0 + r) :: As).toArray) (Aw sz0) := fun ls H locs h1 h2 h3 =>
  va_runI ⟨cx.1, cx.2.1, cx.2.2.1, cx.2.2.2.1, cx.2.2.2.2.1⟩ hM (cwI n cx.2.2.2.2.1 (lw_meth hco) rfl rfl rfl (cx.2.2.2.2.1 _ hini) (cx.2.2.2.2.1 _ hl) (cx.2.2.2.2.1 _ hi) hy hd hR) ⟨blindW, preW cx.2.2.2.2.2.2.2 h2⟩ rfl hn h1.1 hst (lv_room hcat) d hb
theorem r_IN (cx : Cx p s m args meth c cc nL own ret D cA sz0 H0) {host : String} {y : MethodName} {b : ByteArray} {L idx n mc ms fr lo r : Nat} {As : List Value} {Qc : Array Value → State → Outcome → State → Prop} (hM : Met l y (ws_ y b L none) ({ frames := fr, cells := mc, slots := ms, locals := lo } : Room) (PcW D cA sz0 H0 (.ref (sz0 + r) :: As) M) Qc mc ms (Aw sz0)) (hl : Cond.methodLinkNest own idx y host ∈ lw_nst) (hi : Cond.instanceMethod y ∈ lw_all) (hini : Cond.initialized y.cls ∈ lw_all) (hco : Cond.code y b L none ∈ lw_all) (hy : y.name = "<init>") (hd : y.cls ≠ "java/lang/invoke/MethodHandle" ∧ y.cls ≠ "java/lang/invoke/VarHandle" ∧ (parseMethodDescriptor y.desc).map (fun d => d.parameters.length) = some n) (hR : fr + 1 ≤ R.frames ∧ 8 + (L + 11) + lo ≤ R.locals) (hn : As.length = n) (hst : st0 = As.reverse ++ .ref (sz0 + r) :: st) (hcat : (st.map fun v => v.category).sum ≤ 8) (d : decode cc pc = .ok (.invokespecial idx, 3)) (hb : cells + mc ≤ R.cells ∧ slots + ms ≤ R.slots) : ∀ (ls : Array Slot) (H : Heap) (locs : List Loc), lv_has ls nL lv → Wd D cA sz0 H0 M H → va_S (Aw sz0) s.heap H locs → va_Run p l e R s m args below meth c H locs cells slots mc ms (F0 m pc ls st0) st (Qc (Value.ref (sz0 + r) :: As).toArray) (Aw sz0) := fun ls H locs h1 h2 h3 =>
  va_runIN ⟨cx.1, cx.2.1, cx.2.2.1, cx.2.2.2.1, cx.2.2.2.2.1⟩ hM ⟨va_cnB n cx.2.2.2.2.1 (lw_meth hco) rfl rfl rfl (cx.2.2.2.2.2.2.2.2.1 _ hl) (cx.2.2.2.2.1 _ hini) hd hR, hy, cx.2.2.2.2.1 _ hi⟩ ⟨blindW, preW cx.2.2.2.2.2.2.2 h2⟩ rfl hn h1.1 hst (lv_room hcat) d hb
theorem r_U (cx : Cx p s m args meth c cc nL own ret D cA sz0 H0) {y : MethodName} {b : ByteArray} {L idx n mc ms fr lo : Nat} {rt : Option FieldType} {As : List Value} {Qc : Array Value → State → Outcome → State → Prop} {C owner : String} {x : MethodName} {T : u_T} {N ci r : Nat} (hM : Met l y (ws_ y b L rt) ({ frames := fr, cells := mc, slots := ms, locals := lo } : Room) (PcW D cA sz0 H0 (.ref (sz0 + r) :: As) M) Qc mc ms (Aw sz0)) (hG : GoodIn lw_all (va_wsU own idx C owner x y (ws_ y b L rt))) (hyx : y = ⟨owner, x.name, x.desc⟩) (hd : owner ≠ "java/lang/invoke/MethodHandle" ∧ owner ≠ "java/lang/invoke/VarHandle" ∧ (parseMethodDescriptor x.desc).map (fun d => d.parameters.length) = some n) (hR : fr + 1 ≤ R.frames ∧ 8 + (L + 11) + lo ≤ R.locals) (hc : CL[ci]? = some (C, T, N)) (hci : ci < 13) (hk : wk M r = ci) (hn : As.length = n) (hst : st0 = As.reverse ++ .ref (sz0 + r) :: st) (hcat : (st.map fun v => v.category).sum ≤ 8) (d : decode cc pc = .ok (.invokevirtual idx, 3)) (hb : cells + mc ≤ R.cells ∧ slots + ms ≤ R.slots) : ∀ (ls : Array Slot) (H : Heap) (locs : List Loc), lv_has ls nL lv → Wd D cA sz0 H0 M H → va_S (Aw sz0) s.heap H locs → va_Run p l e R s m args below meth c H locs cells slots mc ms (F0 m pc ls st0) st (Qc (Value.ref (sz0 + r) :: As).toArray) (Aw sz0) := fun ls H locs h1 h2 h3 => by
  obtain ⟨cell, q1, q2, q3, -⟩ := wAt_obj h2 hk hci
  exact va_runU ⟨cx.1, cx.2.1, cx.2.2.1, cx.2.2.2.1, cx.2.2.2.2.1⟩ hM (va_cwU n cx.2.2.2.2.1 hG rfl rfl rfl hyx hd hR) ⟨blindW, ⟨cell, q1, by rw [q3]; rfl, by rw [q2]; exact (cx.2.2.2.2.2.2.2.1.1 ci _ hc).2.1⟩, preW cx.2.2.2.2.2.2.2 h2⟩ rfl hn h1.1 hst (lv_room hcat) d hb
theorem v_objInit (cx : Cx p s m args meth c cc nL own ret D cA sz0 H0) {idx r : Nat} (hl : Cond.methodLink own idx objectInit ∈ lw_all) (hi : Cond.instanceMethod objectInit ∈ lw_all) (hco : Cond.code objectInit ⟨#[0xb1]⟩ 1 none ∈ lw_all) (d : decode cc pc = .ok (.invokespecial idx, 3)) (hR : 1 ≤ R.frames ∧ (st.map fun v => v.category).sum + 12 ≤ R.locals) (k : V p l e R s m args below meth c nL D cA sz0 H0 cells slots Q (pc + 3) lv st M) : V p l e R s m args below meth c nL D cA sz0 H0 cells slots Q pc lv (.ref (sz0 + r) :: st) M := fun ls H locs h1 h2 h3 =>
  W.objInit cx.1 cx.2.1 cx.2.2.2.1 (cx.2.2.2.2.1 _ hl) (cx.2.2.2.2.1 _ hi) (cx.2.2.2.2.1 _ hco) rfl (by rw [cx.2.2.1]; exact h1.1) rfl d hR.1 (by show 2 * 0 + _ + 12 ≤ _; omega) (k ls H locs h1 h2 h3)
theorem v_mmin (cx : Cx p s m args meth c cc nL own ret D cA sz0 H0) {idx : Nat} {x y : Int32} (hl : Cond.methodLink own idx Lib.Math.min.name ∈ lw_all) (hs : Cond.static Lib.Math.min.name ∈ lw_all) (hini : Cond.initialized "java/lang/Math" ∈ lw_all) (hco : Cond.code Lib.Math.min.name Lib.Math.min.code 2 (some .int) ∈ lw_all) (d : decode cc pc = .ok (.invokestatic idx, 3)) (hR : 1 ≤ R.frames ∧ (st.map fun v => v.category).sum + 13 ≤ R.locals ∧ cells ≤ R.cells ∧ slots ≤ R.slots) (k : V p l e R s m args below meth c nL D cA sz0 H0 cells slots Q (pc + 3) lv (.int (if y < x then y else x) :: st) M) : V p l e R s m args below meth c nL D cA sz0 H0 cells slots Q pc lv (.int y :: .int x :: st) M := fun ls H locs h1 h2 h3 =>
  va_mmin cx.1 cx.2.1 (cx.2.2.1.trans h1.1.symm) cx.2.2.2.1 (cx.2.2.2.2.1 _ hl) (cx.2.2.2.2.1 _ hs) (cx.2.2.2.2.1 _ hini) (cx.2.2.2.2.1 _ hco) hR.1 hR.2.1 hR.2.2.1 hR.2.2.2 d (k ls H locs h1 h2 h3)
theorem v_mmax (cx : Cx p s m args meth c cc nL own ret D cA sz0 H0) {idx : Nat} {x y : Int32} (hl : Cond.methodLink own idx Lib.Math.max.name ∈ lw_all) (hs : Cond.static Lib.Math.max.name ∈ lw_all) (hini : Cond.initialized "java/lang/Math" ∈ lw_all) (hco : Cond.code Lib.Math.max.name Lib.Math.max.code 2 (some .int) ∈ lw_all) (d : decode cc pc = .ok (.invokestatic idx, 3)) (hR : 1 ≤ R.frames ∧ (st.map fun v => v.category).sum + 13 ≤ R.locals ∧ cells ≤ R.cells ∧ slots ≤ R.slots) (k : V p l e R s m args below meth c nL D cA sz0 H0 cells slots Q (pc + 3) lv (.int (if x < y then y else x) :: st) M) : V p l e R s m args below meth c nL D cA sz0 H0 cells slots Q pc lv (.int y :: .int x :: st) M := fun ls H locs h1 h2 h3 =>
  va_mmax cx.1 cx.2.1 (cx.2.2.1.trans h1.1.symm) cx.2.2.2.1 (cx.2.2.2.2.1 _ hl) (cx.2.2.2.2.1 _ hs) (cx.2.2.2.2.1 _ hini) (cx.2.2.2.2.1 _ hco) hR.1 hR.2.1 hR.2.2.1 hR.2.2.2 d (k ls H locs h1 h2 h3)
theorem v_iret (cx : Cx p s m args meth c cc nL own ret D cA sz0 H0) {v : Int32} {mc ms : Nat} {post : Int32 → WM → Prop} (hret : ret = some .int) (d : decode cc pc = .ok (.ireturn, 1)) (hm : cells ≤ mc ∧ slots ≤ ms) (hp : post v M) : V p l e R s m args below meth c nL D cA sz0 H0 cells slots (MQ below (QW_i D cA sz0 H0 post) args s mc ms (Aw sz0)) pc lv [.int v] M := fun ls H locs h1 h2 h3 => by
  have hrt := cx.2.2.2.2.2.1.trans hret
  have hlocks := cx.2.2.2.2.2.2.1
  refine W.widen (k := mc) (n := ms) hm.1 hm.2 ?_
  exact W.iret (v := v) cx.1 cx.2.1 hrt (fun t ht hW => ⟨⟨v, M, rfl, hp, by show Wd D cA sz0 H0 M t.heap; rw [ht]; exact h2⟩, h3.F ht⟩) h3.2.2 d
theorem v_lret (cx : Cx p s m args meth c cc nL own ret D cA sz0 H0) {v : Int64} {mc ms : Nat} {post : Int64 → WM → Prop} (hret : ret = some .long) (d : decode cc pc = .ok (.lreturn, 1)) (hm : cells ≤ mc ∧ slots ≤ ms) (hp : post v M) : V p l e R s m args below meth c nL D cA sz0 H0 cells slots (MQ below (QW_l D cA sz0 H0 post) args s mc ms (Aw sz0)) pc lv [.long v] M := fun ls H locs h1 h2 h3 => by
  have hrt := cx.2.2.2.2.2.1.trans hret
  have hlocks := cx.2.2.2.2.2.2.1
  refine W.widen (k := mc) (n := ms) hm.1 hm.2 ?_
  exact W.lret (v := v) cx.1 cx.2.1 hrt (fun t ht hW => ⟨⟨v, M, rfl, hp, by show Wd D cA sz0 H0 M t.heap; rw [ht]; exact h2⟩, h3.F ht⟩) h3.2.2 d
theorem v_zret (cx : Cx p s m args meth c cc nL own ret D cA sz0 H0) {v : Int32} {mc ms : Nat} {post : Int32 → WM → Prop} (hret : ret = some .boolean) (hv : v = 0 ∨ v = 1) (d : decode cc pc = .ok (.ireturn, 1)) (hm : cells ≤ mc ∧ slots ≤ ms) (hp : post v M) : V p l e R s m args below meth c nL D cA sz0 H0 cells slots (MQ below (QW_i D cA sz0 H0 post) args s mc ms (Aw sz0)) pc lv [.int v] M := fun ls H locs h1 h2 h3 => by
  have hrt := cx.2.2.2.2.2.1.trans hret
  have hlocks := cx.2.2.2.2.2.2.1
  refine W.widen (k := mc) (n := ms) hm.1 hm.2 ?_
  exact W.zret (v := v) cx.1 cx.2.1 hrt (by rcases hv with rfl | rfl <;> rfl) (fun t ht hW => ⟨⟨v, M, rfl, hp, by show Wd D cA sz0 H0 M t.heap; rw [ht]; exact h2⟩, h3.F ht⟩) h3.2.2 d
theorem v_vret (cx : Cx p s m args meth c cc nL own ret D cA sz0 H0) {mc ms : Nat} {post : WM → Prop} (hret : ret = none) (d : decode cc pc = .ok (.return_, 1)) (hm : cells ≤ mc ∧ slots ≤ ms) (hp : post M) : V p l e R s m args below meth c nL D cA sz0 H0 cells slots (MQ below (QW_v D cA sz0 H0 post) args s mc ms (Aw sz0)) pc lv [] M := fun ls H locs h1 h2 h3 => by
  have hrt := cx.2.2.2.2.2.1.trans hret
  have hlocks := cx.2.2.2.2.2.2.1
  refine W.widen (k := mc) (n := ms) hm.1 hm.2 ?_
  exact W.vret cx.1 cx.2.1 hrt (fun t ht hW => ⟨⟨M, rfl, hp, by show Wd D cA sz0 H0 M t.heap; rw [ht]; exact h2⟩, h3.F ht⟩) h3.2.2 d
theorem v_aret (cx : Cx p s m args meth c cc nL own ret D cA sz0 H0) {o : Option Nat} {mc ms : Nat} {C : String} {post : Option Nat → WM → Prop} (hret : ret = some (.object C)) (d : decode cc pc = .ok (.areturn, 1)) (hm : cells ≤ mc ∧ slots ≤ ms) (hp : post o M) : V p l e R s m args below meth c nL D cA sz0 H0 cells slots (MQ below (QW_r D cA sz0 H0 post) args s mc ms (Aw sz0)) pc lv [vr sz0 o] M := fun ls H locs h1 h2 h3 => by
  have hrt := cx.2.2.2.2.2.1.trans hret
  have hlocks := cx.2.2.2.2.2.2.1
  refine W.widen (k := mc) (n := ms) hm.1 hm.2 ?_
  exact W.aret (v := vr sz0 o) cx.1 cx.2.1 hrt (Or.inl ⟨C, rfl⟩) (by cases o with | none => exact Or.inl rfl | some x => exact Or.inr ⟨_, rfl⟩) (fun t ht hW => ⟨⟨o.map (fun r => sz0 + r), M, rfl, ⟨o, rfl, hp⟩, by show Wd D cA sz0 H0 M t.heap; rw [ht]; exact h2⟩, h3.F ht⟩) h3.2.2 d
theorem v_some {o : Option Nat} {x : Nat} (h : o = some x) (k : V p l e R s m args below meth c nL D cA sz0 H0 cells slots Q pc lv (.ref (sz0 + x) :: st) M) : V p l e R s m args below meth c nL D cA sz0 H0 cells slots Q pc lv (vr sz0 o :: st) M := by subst h; exact k
/-- a method's walk from its entry -/
theorem Met.ofV {y : MethodName} {vs : List Value} {rm : Room} {Qc : Array Value → State → Outcome → State → Prop} {mc ms : Nat} (hy : plainName y.cls = true) (hsz : (lg_sl vs).length ≤ nL)
    (body : ∀ (p : Program) (e : Env) (s : State) (m : MethodId) (args : Array Value) (below : List Frame) (meth : Method) (c : Code), Cx p s m args meth c cc nL y.cls ret D cA sz0 H0 → meth.name = y.name → V p l e rm s m args below meth c nL D cA sz0 H0 0 0 (MQ below Qc args s mc ms (Aw sz0)) 0 (lv_args 0 vs) [] M) :
    Met l y (ws_ y cc nL ret) rm (PcW D cA sz0 H0 vs M) Qc mc ms (Aw sz0) := by
  refine Met.ofW (cc := cc) (maxL := nL) (ret := ret) hy rfl ?_
  intro p e s m args below meth c s₁ B hml hv
  obtain ⟨rfl, hWd, hK⟩ := hv
  have hts := atoms_spec (ws := ws_ y cc nL ret) B.pre
  have hts : ∀ w ∈ lw_all, w.before _ s = true := fun w h => hts w (List.mem_cons_of_mem _ h)
  have hl := lv_entry vs (n := nL) hsz
  rw [lg_entry_eq]
  exact body p e s m _ below meth c ⟨B.exec, B.bytes, hml, findClass_of_methodNamed B.named, hts, B.returns, B.notSynchronized, hK⟩ (name_of_methodNamed B.named B.method).1 _ _ _ hl hWd va_S.rf
end VC
