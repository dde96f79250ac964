/-! far: the dearest of all least ways -/
abbrev Fst : Type := Option (Nat × Nat × Nat)
def fst1 (σ : WS) (lm : Lam) (a b : Nat) (s : Fst) : Fst := if a = b then s else match way σ lm a b with
  | none => s
  | some (C, _) => match s with
    | none => some (C, a, b)
    | some (m, f, t) => if m < C then some (C, a, b) else some (m, f, t)
def fB (σ : WS) (lm : Lam) (a : Nat) : Nat → Fst → Fst
  | 0, s => s
  | j + 1, s => fst1 σ lm a j (fB σ lm a j s)
def fA (σ : WS) (lm : Lam) : Nat → Fst
  | 0 => none
  | i + 1 => fB σ lm i (sN σ) (fA σ lm i)
def ftM (z : Int32) (s : Fst) : Int32 := match s with
  | none => z
  | some (m, _, _) => nI m
def ftF (z : Int32) (s : Fst) : Int32 := match s with
  | none => z
  | some (_, f, _) => nI f
def ftT (z : Int32) (s : Fst) : Int32 := match s with
  | none => z
  | some (_, _, t) => nI t
def fOK (s : Fst) : Prop := ∀ m f t, s = some (m, f, t) → m ≤ 3960
theorem fst1_ok {σ : WS} {lm : Lam} (ok : wsOK σ) (lo : lamOK lm) {a b : Nat} {s : Fst} (h : fOK s) : fOK (fst1 σ lm a b s) := fun m f t e => by
  unfold fst1 at e
  split at e
  · exact h m f t e
  · cases e1 : way σ lm a b with
    | none => rw [e1] at e; exact h m f t e
    | some q =>
      obtain ⟨C, S⟩ := q
      obtain ⟨-, g, -, -⟩ := way_s ok lo e1
      rw [e1] at e
      cases es : s with
      | none => rw [es] at e; cases e; exact g
      | some q =>
        obtain ⟨m0, f0, t0⟩ := q
        rw [es] at e
        have e : (if m0 < C then some (C, a, b) else some (m0, f0, t0)) = some (m, f, t) := e
        split at e
        · cases e; exact g
        · cases e; exact h _ _ _ es
def farV (s : Fst) (z : Int32) : Int32 := if z = 0 then ftM (-2) s else if z = 1 then ftF (-2) s else ftT (-2) s
def VFa (z : Int32) : Prop := 0 ≤ z.toInt ∧ z.toInt < 3
theorem m2_lt (C : Nat) (h : C < 2 ^ 31) : (-2 : Int32) < nI C := by rw [i_lt, nI_toInt h]; show (-2 : Int) < C; omega
theorem m1_lt (C : Nat) (h : C < 2 ^ 31) : (-1 : Int32) < nI C := by rw [i_lt, nI_toInt h]; show (-1 : Int) < C; omega
theorem s_X0_far {σ : WS} {lm : Lam} {M : WM} {z : Int32} {Q : Int32 → WM → Prop} (hW : WC σ M) (ok : wsOK σ) (hl : LawC lm M) (lo : lamOK lm) (hC : wI M 0 8 = wI M 0 7 → Laid σ lm M) (h0 : ¬ VFa z → Q (-1) M) (h1 : VFa z → ∀ M', Laid σ lm M' → Fr SLay M M' → Q (farV (fA σ lm (sN σ)) z) M') : m_X0_far z M Q := by
  have hs := ok.1
  refine s_X0_in (bdc (fun e => ?_) (fun e => h0 e))
  refine s_X0_lays hW ok hl lo hC fun M4 L4 _ f4 => ?_
  have hh := h1 e M4 L4 f4
  have w4 : WC σ M4 := hW.fr ok f4 (by unfold SLay PWC; omega)
  refine pk_loop (fun k i (s : Fst) => m_X0_far_l27 z Q k (ftF (-2) s) (ftT (-2) s) (ftM (-2) s) (nI i) M4) (fun i s => s = fA σ lm i ∧ fOK s) (sN σ) 0 none (by omega) ⟨rfl, fun m f t e => by cases e⟩ ?_ ?_
  · intro k s ⟨es, _⟩
    subst es
    unfold m_X0_far_l27
    rw [w4.1]
    refine ⟨fun _ => ⟨fun q => ?_, fun q => ⟨fun q2 => ?_, fun q2 => ?_⟩⟩, fun z => absurd (Int32.le_refl _) z⟩
    · unfold farV at hh; rw [if_pos q] at hh; exact hh
    · unfold farV at hh; rw [if_neg q, if_pos q2] at hh; exact hh
    · unfold farV at hh; rw [if_neg q, if_neg q2] at hh; exact hh
  · intro k i s hi ⟨es, os⟩ ih
    unfold m_X0_far_l27
    rw [w4.1]
    refine ⟨fun z => absurd z (nI_ge hi (by omega)), fun _ => ?_⟩
    refine pk_loop (fun k' j (s' : Fst) => m_X0_far_l39 (fun x2' x3' x4' x5' M' => m_X0_far_l27 z Q k x2' x3' x4' x5' M') z (nI i) Q k' (ftF (-2) s') (ftT (-2) s') (ftM (-2) s') (nI j) M4) (fun j s' => s' = fB σ lm i j s ∧ fOK s') (sN σ) 0 s (by omega) ⟨rfl, os⟩ ?_ ?_
    · intro k' s' ⟨e', o'⟩
      unfold m_X0_far_l39
      rw [w4.1]
      refine ⟨fun _ y ey => ?_, fun z => absurd (Int32.le_refl _) z⟩
      rw [ey, nI_1]
      exact ih s' ⟨by rw [e', es]; rfl, o'⟩
    · intro k' j s' hj ⟨e', o'⟩ ih2
      have o2 : fOK (fst1 σ lm i j s') := fst1_ok ok lo o'
      have ih3 := ih2 (fst1 σ lm i j s') ⟨by rw [e']; rfl, o2⟩
      unfold m_X0_far_l39
      rw [w4.1, nI_clamp (show i < 2 ^ 31 by omega), nI_clamp (show j < 2 ^ 31 by omega)]
      refine ⟨fun z => absurd z (nI_ge hj (by omega)), fun _ => pk_eq i j (fun c y ey => ?_) (fun c => ⟨vin (by omega), vin (by omega), ?_⟩) rfl rfl⟩
      · unfold fst1 at ih3; rw [if_pos c] at ih3; rw [ey, nI_1]; exact ih3
      · rcases rdC L4.2.1 ok lo hi hj with ⟨e1, e2⟩ | ⟨C, S, e1, c1, c2, e2⟩
        · unfold fst1 at ih3; rw [if_neg c, e1] at ih3
          rw [e2]; exact ⟨fun _ y ey => by rw [ey, nI_1]; exact ih3, fun z => absurd rfl z⟩
        · unfold fst1 at ih3; rw [if_neg c, e1] at ih3
          rw [e2]
          refine pk_eq (100 * C + S) 268435456 (fun z => absurd z (by omega)) (fun _ => s_X0_costOf L4.2.1 ok lo hi hj e1 ?_) rfl rfl
          cases s' with
          | none =>
            refine ⟨fun _ => s_X0_costOf L4.2.1 ok lo hi hj e1 fun y ey => ?_, fun z => absurd (m2_lt C (by omega)) z⟩
            rw [ey, nI_1]; exact ih3
          | some q =>
            obtain ⟨m, f, t⟩ := q
            have hm := o' m f t rfl
            have ih3 : m_X0_far_l39 (fun x2' x3' x4' x5' M' => m_X0_far_l27 z Q k x2' x3' x4' x5' M') z (nI i) Q k' (ftF (-2) (if m < C then some (C, i, j) else some (m, f, t))) (ftT (-2) (if m < C then some (C, i, j) else some (m, f, t))) (ftM (-2) (if m < C then some (C, i, j) else some (m, f, t))) (nI (j + 1)) M4 := ih3
            refine pk_lt m C (fun q => s_X0_costOf L4.2.1 ok lo hi hj e1 fun y ey => ?_) (fun q y ey => ?_) rfl rfl
            · rw [if_pos q] at ih3; rw [ey, nI_1]; exact ih3
            · rw [if_neg (by omega)] at ih3; rw [ey, nI_1]; exact ih3
theorem s_X6_far {σ : WS} {lm : Lam} {M : WM} {z : Int32} {Q : Int32 → WM → Prop} (hW : WT σ M) (ok : wsOK σ) (hl : LawT lm M) (lo : lamOK lm) (h0 : ¬ VFa z → Q (-1) M) (h1 : VFa z → ∀ M', Fr SWW M M' → Q (farV (fA σ lm (sN σ)) z) M') : m_X6_far z M Q := by
  have hs := ok.1
  refine s_X6_in (bdc (fun e => ?_) (fun e => h0 fun q => e ⟨q.1, by have := q.2; show z.toInt ≤ 2; omega⟩))
  have e : 0 ≤ z.toInt ∧ z.toInt ≤ 2 := e
  refine s_X6_laysWays hW ok hl lo fun M4 _ A4 f4 => ?_
  have hh := h1 ⟨e.1, by omega⟩ M4 f4
  have w4 : WT σ M4 := hW.fr f4 (by unfold SWW STA SWyT PWT; omega)
  refine pk_loop (fun k i (s : Fst) => m_X6_far_l25 z Q k (ftM (-1) s) (ftF (-1) s) (ftT (-1) s) (nI i) M4) (fun i s => s = fA σ lm i ∧ fOK s) (sN σ) 0 none (by omega) ⟨rfl, fun m f t e => by cases e⟩ ?_ ?_
  · intro k s ⟨es, os⟩
    subst es
    unfold m_X6_far_l25
    rw [w4.1]
    refine ⟨fun _ => ?_, fun z => absurd (Int32.le_refl _) z⟩
    cases ea : fA σ lm (sN σ) with
    | none =>
      refine ⟨fun _ => ?_, fun z => absurd rfl z⟩
      rw [ea] at hh
      unfold farV at hh
      split at hh
      · exact hh
      · split at hh <;> exact hh
    | some q =>
      obtain ⟨m, f, t⟩ := q
      have hm := os m f t ea
      rw [ea] at hh
      refine ⟨fun q => absurd q ?_, fun _ => ⟨fun q => ?_, fun q => ⟨fun q2 => ?_, fun q2 => ?_⟩⟩⟩
      · show ¬ nI m = -1
        rw [i_eq, nI_toInt (by omega)]; intro z; have : (m : Int) = -1 := z; omega
      · unfold farV at hh; rw [if_pos q] at hh; exact hh
      · unfold farV at hh; rw [if_neg q, if_pos q2] at hh; exact hh
      · unfold farV at hh; rw [if_neg q, if_neg q2] at hh; exact hh
  · intro k i s hi ⟨es, os⟩ ih
    unfold m_X6_far_l25
    rw [w4.1]
    refine ⟨fun z => absurd z (nI_ge hi (by omega)), fun _ => ?_⟩
    refine pk_loop (fun k' j (s' : Fst) => m_X6_far_l37 (fun x2' x3' x4' x5' M' => m_X6_far_l25 z Q k x2' x3' x4' x5' M') z (nI i) Q k' (ftM (-1) s') (ftF (-1) s') (ftT (-1) s') (nI j) M4) (fun j s' => s' = fB σ lm i j s ∧ fOK s') (sN σ) 0 s (by omega) ⟨rfl, os⟩ ?_ ?_
    · intro k' s' ⟨e', o'⟩
      unfold m_X6_far_l37
      rw [w4.1]
      refine ⟨fun _ y ey => ?_, fun z => absurd (Int32.le_refl _) z⟩
      rw [ey, nI_1]
      exact ih s' ⟨by rw [e', es]; rfl, o'⟩
    · intro k' j s' hj ⟨e', o'⟩ ih2
      have o2 : fOK (fst1 σ lm i j s') := fst1_ok ok lo o'
      have ih3 := ih2 (fst1 σ lm i j s') ⟨by rw [e']; rfl, o2⟩
      unfold m_X6_far_l37
      rw [w4.1, show (40 : Int32) = nI 40 from rfl, pk_mul, nI_add, nI_clamp (show 40 * i + j < 2 ^ 31 by omega)]
      refine ⟨fun z => absurd z (nI_ge hj (by omega)), fun _ => pk_eq i j (fun c y ey => ?_) (fun c => ⟨vin (by omega), ?_⟩) rfl rfl⟩
      · unfold fst1 at ih3; rw [if_pos c] at ih3; rw [ey, nI_1]; exact ih3
      · rcases rdT A4 ok lo hi hj with ⟨e1, e2⟩ | ⟨C, S, e1, c1, c2, e2⟩
        · unfold fst1 at ih3; rw [if_neg c, e1] at ih3
          rw [e2]; exact ⟨fun _ y ey => by rw [ey, nI_1]; exact ih3, fun z => absurd (Int32.le_refl _) z⟩
        · unfold fst1 at ih3; rw [if_neg c, e1] at ih3
          rw [e2]
          have lo2 : ∀ {R : Int32 → Prop}, R (nI C) → m_X6_leastOf (nI i) (nI j) M4 R := fun h => s_X6_leastOf A4 ok lo hi hj (by rw [e1]; exact h)
          refine pk_le 1000000000 (64 * C + S) (fun z => absurd z (by omega)) (fun _ => lo2 ?_) rfl rfl
          cases s' with
          | none =>
            refine ⟨fun _ => lo2 fun y ey => ?_, fun z => absurd (m1_lt C (by omega)) z⟩
            rw [ey, nI_1]; exact ih3
          | some q =>
            obtain ⟨m, f, t⟩ := q
            have hm := o' m f t rfl
            have ih3 : m_X6_far_l37 (fun x2' x3' x4' x5' M' => m_X6_far_l25 z Q k x2' x3' x4' x5' M') z (nI i) Q k' (ftM (-1) (if m < C then some (C, i, j) else some (m, f, t))) (ftF (-1) (if m < C then some (C, i, j) else some (m, f, t))) (ftT (-1) (if m < C then some (C, i, j) else some (m, f, t))) (nI (j + 1)) M4 := ih3
            refine pk_lt m C (fun q => lo2 fun y ey => ?_) (fun q y ey => ?_) rfl rfl
            · rw [if_pos q] at ih3; rw [ey, nI_1]; exact ih3
            · rw [if_neg (by omega)] at ih3; rw [ey, nI_1]; exact ih3
