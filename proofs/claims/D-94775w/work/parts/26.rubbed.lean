/-! sets of words as longs -/
def bitL (k : Nat) : Int64 := (1 : Int64) <<< ((nI k).toInt64 &&& 63)
def setOf (p : Nat → Bool) : Nat → Int64
  | 0 => 0
  | n + 1 => if p n = true then setOf p n ||| bitL n else setOf p n
theorem setOf_t {p : Nat → Bool} {n : Nat} (h : p n = true) : setOf p (n + 1) = setOf p n ||| bitL n := by rw [setOf, if_pos h]
theorem setOf_f {p : Nat → Bool} {n : Nat} (h : p n = false) : setOf p (n + 1) = setOf p n := by rw [setOf, h]; rfl
theorem setOf_cg {p q : Nat → Bool} : ∀ {n : Nat}, (∀ k, k < n → p k = q k) → setOf p n = setOf q n
  | 0, _ => rfl
  | n + 1, h => by rw [setOf, setOf, setOf_cg fun k hk => h k (by omega), h n (by omega)]
def allB (p : Nat → Bool) : Nat → Bool
  | 0 => true
  | n + 1 => allB p n && p n
theorem allB_iff (p : Nat → Bool) : ∀ n, allB p n = true ↔ ∀ k, k < n → p k = true
  | 0 => ⟨fun _ k hk => absurd hk (by omega), fun _ => rfl⟩
  | n + 1 => by
    rw [allB, Bool.and_eq_true, allB_iff p n]
    constructor
    · intro ⟨h1, h2⟩ k hk
      by_cases e : k = n
      · rw [e]; exact h2
      · exact h1 k (by omega)
    · intro h
      exact ⟨fun k hk => h k (by omega), h n (by omega)⟩
theorem allB_no {p : Nat → Bool} {i n : Nat} (h : allB p i = false) (hi : i ≤ n) : allB p n = false := by
  cases e : allB p n with
  | false => rfl
  | true =>
    have : allB p i = true := (allB_iff p i).mpr fun k hk => (allB_iff p n).mp e k (by omega)
    rw [this] at h; cases h
/-! rubbed -/
def VR (t : Nat) (n : Int32) : Prop := (1 ≤ n.toInt ∧ n.toInt ≤ 8) ∧ n.toInt ≤ t
def okR (tp : Nat → Int32) (n : Nat) : Prop := ∀ k, k < n → tp k = 63 ∨ isL (tp k)
def rubK (σ : WS) (tp : Nat → Int32) (w k : Nat) : Bool := decide (tp k = 63) || decide (tp k - 97 = nI (sLet σ w k))
def rubP (σ : WS) (tp : Nat → Int32) (n w : Nat) : Bool := used σ w && decide (sLen σ w = n) && allB (rubK σ tp w) n
theorem s_rub0 {K : Int64 → Int32 → WM → Prop} {n x5 : Nat} {x2 : Int64} {x4 : Int32} {M : WM} {Q : Int64 → WM → Prop} (h : m_X0_rubbed_j183 K (nI n) x2 x4 0 Q M) : ∃ n0, m_X0_rubbed_l126 K (nI n) x2 x4 x5 Q n0 0 0 M := ⟨1, fun _ => h, fun _ => ⟨fun _ => h, fun z => absurd rfl z⟩⟩
theorem s_rub1 {K : Int64 → Int32 → WM → Prop} {σ : WS} {tp : Nat → Int32} {n w : Nat} {x2 : Int64} {x4 : Int32} {M : WM} {Q : Int64 → WM → Prop} (hW : WC σ M) (hw : w < sN σ) (hl : sLen σ w = n) (hn : n ≤ 8) (hT : ∀ j, wI M 2 j = tp j) (h : m_X0_rubbed_j183 K (nI n) x2 x4 (b2i (allB (rubK σ tp w) n)) Q M) : ∃ n0, m_X0_rubbed_l126 K (nI n) x2 x4 (5325 + 3 * w) Q n0 1 0 M := by
  refine pk_loop (fun k i (s : Bool) => m_X0_rubbed_l126 K (nI n) x2 x4 (5325 + 3 * w) Q k (b2i s) (nI i) M) (fun i s => s = allB (rubK σ tp w) i) n 0 true (by omega) rfl ?_ ?_
  · intro k s e
    rw [e]
    exact ⟨fun _ => h, fun z => absurd (Int32.le_refl _) z⟩
  · intro k i s hi e ih
    refine ⟨fun z => absurd z (nI_ge hi (by omega)), fun _ => bcs (fun e1 => ?_) (fun e1 => ?_)⟩
    · rw [nI_clamp (by omega), hT]
      rw [e1] at e
      have nxt : ∀ b, rubK σ tp w i = b → b = allB (rubK σ tp w) (i + 1) := fun b hb => by rw [allB, ← e, hb]; rfl
      refine ⟨vin (by omega), fun c z ez => ?_, fun c => ⟨vin (by omega), vin (by omega), fun c2 z ez => ?_, fun c2 z ez => ?_⟩⟩
      · rw [ez, nI_1]
        exact ih true (nxt true (by unfold rubK; rw [decide_eq_true c]; rfl))
      · rw [s_X0_letter_in hW hw (by omega)] at c2
        rw [ez, nI_1]
        exact ih true (nxt true (by unfold rubK; rw [decide_eq_true c2, Bool.or_true]))
      · rw [s_X0_letter_in hW hw (by omega)] at c2
        rw [ez, nI_1]
        exact ih false (nxt false (by unfold rubK; rw [decide_eq_false c2, decide_eq_false c]; rfl))
    · rw [e1] at e
      rw [allB_no e.symm (Nat.le_of_lt hi)] at h
      rw [e1]
      exact h
theorem s_X0_rubbed {σ : WS} {tp : Nat → Int32} {t : Nat} {M : WM} {x : Int32} {Q : Int64 → WM → Prop} (hW : WC σ M) (ok : wsOK σ) (hT : TC tp t M) (ht : t ≤ 200) (hb : bOK tp) (h0 : ¬ VR t x → Q (-1) M) (h1 : ∀ n, x = nI n → VR t x → ¬ okR tp n → Q (-2) (wPI M 0 5 0)) (h2 : ∀ n, x = nI n → VR t x → okR tp n → Q (setOf (rubP σ tp n) (sN σ)) (wPI M 0 5 0)) : m_X0_rubbed x M Q := by
  have hn := ok.1
  refine s_X0_within (bdc (fun e => ?_) (fun e => h0 fun z => e z.1))
  have e : 1 ≤ x.toInt ∧ x.toInt ≤ 8 := e
  obtain ⟨n, hm, rfl, em⟩ := nI_ex (x := x) (by omega)
  rw [hT.2]
  refine pk_le n t (fun e3 => ?_) (fun e3 => h0 fun z => by have := z.2; omega) rfl rfl
  have hV : VR t (nI n) := ⟨e, by omega⟩
  intro M6 e6
  have h1 := h1 n rfl hV
  have h2 := h2 n rfl hV
  rw [← e6] at h1 h2
  have f6 : Fr STC M M6 := by rw [e6]; exact Fr.rf.PI (Or.inr ⟨rfl, rfl⟩)
  have w6 : WC σ M6 := hW.fr ok f6 (by unfold STC PWC; omega)
  have t6 : ∀ j, wI M6 2 j = tp j := fun j => by rw [e6, wI_n _ _ (by omega)]; exact hT.1 j
  refine pk_loop (fun k i (s : Unit) => m_X0_rubbed_l29 (nI n) Q k (nI i) M6) (fun i _ => okR tp i) n 0 () (by omega) (fun j hj => absurd hj (by omega)) ?_ ?_
  · intro k _ hI
    refine ⟨fun _ => ?_, fun z => absurd (Int32.le_refl _) z⟩
    have h2 := h2 hI
    refine pk_loop (fun k i (s : Unit) => m_X0_rubbed_l77 (nI n) Q k (setOf (rubP σ tp n) i) (nI i) M6) (fun i _ => True) (sN σ) 0 () (by omega) trivial ?_ ?_
    · intro k _ _
      unfold m_X0_rubbed_l77
      rw [w6.1]
      exact ⟨fun _ => h2, fun z => absurd (Int32.le_refl _) z⟩
    · intro k i _ hi _ ih
      unfold m_X0_rubbed_l77
      rw [w6.1]
      have ih := ih () trivial
      have fin : ∀ b, rubP σ tp n i = b → m_X0_rubbed_j183 (fun x2' x4' M' => m_X0_rubbed_l77 (nI n) Q k x2' x4' M') (nI n) (setOf (rubP σ tp n) i) (nI i) (b2i b) Q M6 := fun b hb => by
        refine bcs (fun e z ez y ey => ?_) (fun e y ey => ?_)
        · rw [setOf_t (hb.trans e)] at ih
          rw [ez, ey, nI_1]; exact ih
        · rw [setOf_f (hb.trans e)] at ih
          rw [ey, nI_1]; exact ih
      refine ⟨fun z => absurd z (nI_ge hi (by omega)), fun _ => ⟨vin (by omega), s_X0_isUsed w6 ok hi (bcs (fun e7 => ?_) (fun e7 => ?_))⟩⟩
      · rw [nI_clamp (by omega), (w6.line hi).1]
        have := (ok.2.1 i hi).2.1
        refine pk_eq (sLen σ i) n (fun c => ?_) (fun c => ?_) rfl rfl
        · exact s_rub1 w6 hi c (by omega) t6 (fin _ (by unfold rubP; rw [e7, decide_eq_true c]; rfl))
        · exact s_rub0 (fin false (by unfold rubP; rw [e7, decide_eq_false c]; rfl))
      · exact s_rub0 (fin false (by unfold rubP; rw [e7]; rfl))
  · intro k i _ hi hI ih
    have nxt : (tp i = 63 ∨ isL (tp i)) → m_X0_rubbed_l29 (nI n) Q k (nI (i + 1)) M6 := fun hh => ih () fun j hj => by
      by_cases e9 : j = i
      · rw [e9]; exact hh
      · exact hI j (by omega)
    unfold m_X0_rubbed_l29
    rw [nI_clamp (by omega), t6]
    refine ⟨fun z => absurd z (nI_ge hi (by omega)), fun _ => ⟨vin (by omega), fun c z ez => ?_, fun c => ⟨vin (by omega), s_X0_in ?_⟩⟩⟩
    · rw [ez, nI_1]; exact nxt (Or.inl c)
    · rw [sub97 (hb i).1 (hb i).2, show (26 : Int32).toInt = 26 by decide]
      refine bdc (fun c2 z ez => ?_) (fun c2 => ?_)
      · rw [ez, nI_1]; exact nxt (Or.inr (by unfold isL; omega))
      · refine h1 fun hh => ?_
        rcases hh i hi with q | q
        · exact c q
        · unfold isL at q; exact c2 (by omega)
theorem s_X6_isRubbed {σ : WS} {tp : Nat → Int32} {n w : Nat} {M : WM} {Q : Int32 → Prop} (hW : WT σ M) (ok : wsOK σ) (hw : w < sN σ) (hn : n ≤ 8) (hT : ∀ j, wI M 5451 j = tp j) (h : Q (b2i (decide (sLen σ w = n) && allB (rubK σ tp w) n))) : m_X6_isRubbed (nI w) (nI n) M Q := by
  have h1 := ok.1
  unfold m_X6_isRubbed
  have := (ok.2.1 w hw).2.1
  rw [nI_clamp (by omega), (hW.2.1 w hw).1]
  refine ⟨vin (by omega), pk_eq (sLen σ w) n (fun c => ?_) (fun c => ?_) rfl rfl⟩
  · rw [decide_eq_true c, Bool.true_and] at h
    refine pk_loop (fun k i (s : Unit) => m_X6_isRubbed_l14 (nI w) (nI n) M Q k (nI i)) (fun i _ => allB (rubK σ tp w) i = true) n 0 () (by omega) rfl ?_ ?_
    · intro k _ e
      rw [e] at h
      exact ⟨fun _ => h, fun z => absurd (Int32.le_refl _) z⟩
    · intro k i _ hi e ih
      unfold m_X6_isRubbed_l14
      rw [nI_clamp (by omega), hT]
      have nxt : rubK σ tp w i = true → m_X6_isRubbed_l14 (nI w) (nI n) M Q k (nI (i + 1)) := fun hb => ih () (by rw [allB, e, hb]; rfl)
      refine ⟨fun z => absurd z (nI_ge hi (by omega)), fun _ => ⟨vin (by omega), fun c z ez => ?_, fun c => ⟨vin (by omega), s_X6_letter hW ok hw (by omega) ⟨fun c2 z ez => ?_, fun c2 => ?_⟩⟩⟩⟩
      · rw [ez, nI_1]
        exact nxt (by unfold rubK; rw [decide_eq_true c]; rfl)
      · rw [ez, nI_1]
        exact nxt (by unfold rubK; rw [decide_eq_true c2, Bool.or_true])
      · have e3 : allB (rubK σ tp w) (i + 1) = false := by
          rw [allB]; unfold rubK; rw [decide_eq_false c2, decide_eq_false c]; simp
        rw [allB_no e3 hi] at h
        exact h
  · rw [decide_eq_false c, Bool.false_and] at h; exact h
theorem s_X6_rubbed {σ : WS} {tp : Nat → Int32} {t : Nat} {M : WM} {x : Int32} {Q : Int64 → WM → Prop} (hW : WT σ M) (ok : wsOK σ) (hT : TT tp t M) (ht : t ≤ 200) (hb : bOK tp) (h0 : ¬ VR t x → Q (-1) M) (h1 : ∀ n, x = nI n → VR t x → ¬ okR tp n → Q (-2) (wPI M 5444 11 0)) (h2 : ∀ n, x = nI n → VR t x → okR tp n → Q (setOf (rubP σ tp n) (sN σ)) (wPI M 5444 11 0)) : m_X6_rubbed x M Q := by
  have hn := ok.1
  refine s_X6_in (bdc (fun e => ?_) (fun e => h0 fun z => e z.1))
  have e : 1 ≤ x.toInt ∧ x.toInt ≤ 8 := e
  obtain ⟨n, hm, rfl, em⟩ := nI_ex (x := x) (by omega)
  rw [hT.2]
  refine pk_le n t (fun e3 => ?_) (fun e3 => h0 fun z => by have := z.2; omega) rfl rfl
  have hV : VR t (nI n) := ⟨e, by omega⟩
  intro M6 e6
  have h1 := h1 n rfl hV
  have h2 := h2 n rfl hV
  rw [← e6] at h1 h2
  have f6 : Fr STT M M6 := by rw [e6]; exact Fr.rf.PI (Or.inr ⟨rfl, rfl⟩)
  have w6 : WT σ M6 := hW.fr f6 (by unfold STT PWT; omega)
  have t6 : ∀ j, wI M6 5451 j = tp j := fun j => by rw [e6, wI_n _ _ (by omega)]; exact hT.1 j
  refine pk_loop (fun k i (s : Unit) => m_X6_rubbed_l29 (nI n) Q k (nI i) M6) (fun i _ => okR tp i) n 0 () (by omega) (fun j hj => absurd hj (by omega)) ?_ ?_
  · intro k _ hI
    refine ⟨fun _ => ?_, fun z => absurd (Int32.le_refl _) z⟩
    have h2 := h2 hI
    refine pk_loop (fun k i (s : Unit) => m_X6_rubbed_l76 (nI n) Q k (setOf (rubP σ tp n) i) (nI i) M6) (fun i _ => True) (sN σ) 0 () (by omega) trivial ?_ ?_
    · intro k _ _
      unfold m_X6_rubbed_l76
      rw [w6.1]
      exact ⟨fun _ => h2, fun z => absurd (Int32.le_refl _) z⟩
    · intro k i _ hi _ ih
      unfold m_X6_rubbed_l76
      rw [w6.1]
      have ih := ih () trivial
      have skip : rubP σ tp n i = false → ∀ z : Int32, z = nI i + 1 → m_X6_rubbed_l76 (nI n) Q k (setOf (rubP σ tp n) i) z M6 := fun e y ey => by
        rw [setOf_f e] at ih
        rw [ey, nI_1]; exact ih
      refine ⟨fun z => absurd z (nI_ge hi (by omega)), fun _ => s_X6_isUsed w6 ok hi (bcs (fun e7 => ?_) (fun e7 => ?_))⟩
      · refine s_X6_isRubbed w6 ok hi (by omega) t6 (bcs (fun e8 z ez y ey => ?_) (fun e8 => skip ?_))
        · rw [setOf_t (show rubP σ tp n i = true by unfold rubP; rw [e7, Bool.true_and]; exact e8)] at ih
          rw [ez, ey, nI_1]; exact ih
        · unfold rubP; rw [e7, Bool.true_and]; exact e8
      · exact skip (by unfold rubP; rw [e7]; rfl)
  · intro k i _ hi hI ih
    have nxt : (tp i = 63 ∨ isL (tp i)) → m_X6_rubbed_l29 (nI n) Q k (nI (i + 1)) M6 := fun hh => ih () fun j hj => by
      by_cases e9 : j = i
      · rw [e9]; exact hh
      · exact hI j (by omega)
    unfold m_X6_rubbed_l29
    rw [nI_clamp (by omega), t6]
    refine ⟨fun z => absurd z (nI_ge hi (by omega)), fun _ => ⟨vin (by omega), fun c z ez => ?_, fun c => ⟨vin (by omega), s_X6_in ?_⟩⟩⟩
    · rw [ez, nI_1]; exact nxt (Or.inl c)
    · rw [show (97 : Int32).toInt = 97 by decide, show (122 : Int32).toInt = 122 by decide]
      refine bdc (fun c2 z ez => ?_) (fun c2 => ?_)
      · rw [ez, nI_1]; exact nxt (Or.inr c2)
      · refine h1 fun hh => ?_
        rcases hh i hi with q | q
        · exact c q
        · exact c2 q
