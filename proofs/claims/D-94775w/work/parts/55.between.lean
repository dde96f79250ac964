/-! between: the word that most least ways go by -/
def tb (σ : WS) (lm : Lam) (w a b : Nat) : Bool := !decide (a = b) && (!decide (a = w) && (!decide (b = w) && (match way σ lm a w, way σ lm w b, way σ lm a b with
  | some (C1, _), some (C2, _), some (C, _) => decide (C1 + C2 = C)
  | _, _, _ => false)))
def cn2 (p : Nat → Nat → Bool) (N : Nat) : Nat → Nat
  | 0 => 0
  | i + 1 => cn2 p N i + cnt (p i) N
theorem cn2_le (p : Nat → Nat → Bool) (N : Nat) : ∀ i, cn2 p N i ≤ i * N
  | 0 => by unfold cn2; omega
  | i + 1 => by have := cn2_le p N i; have := cnt_le (p i) N; rw [cn2, Nat.succ_mul]; omega
def two (σ : WS) (lm : Lam) (w : Nat) : Nat := cn2 (tb σ lm w) (sN σ) (sN σ)
theorem two_le {σ : WS} {lm : Lam} (ok : wsOK σ) (w : Nat) : two σ lm w ≤ 1600 := by
  have h1 := cn2_le (tb σ lm w) (sN σ) (sN σ)
  have h2 : sN σ * sN σ ≤ 40 * 40 := Nat.mul_le_mul ok.1 ok.1
  unfold two; omega
theorem tb_no {σ : WS} {lm : Lam} {w a b : Nat} (h : a = b ∨ a = w ∨ b = w ∨ way σ lm a w = none ∨ way σ lm w b = none ∨ way σ lm a b = none) : tb σ lm w a b = false := by
  unfold tb
  by_cases h1 : a = b
  · rw [decide_eq_true h1]; rfl
  by_cases h2 : a = w
  · rw [decide_eq_true h2, Bool.and_comm]; rfl
  by_cases h3 : b = w
  · rw [decide_eq_true h3, decide_eq_false h1, decide_eq_false h2]; rfl
  rw [decide_eq_false h1, decide_eq_false h2, decide_eq_false h3]
  rcases h with h | h | h | h | h | h
  · exact absurd h h1
  · exact absurd h h2
  · exact absurd h h3
  · rw [h]; rfl
  · rw [h]; cases way σ lm a w <;> rfl
  · rw [h]; cases way σ lm a w <;> cases way σ lm w b <;> rfl
theorem tb_is {σ : WS} {lm : Lam} {w a b C1 S1 C2 S2 C S : Nat} (h1 : ¬ a = b) (h2 : ¬ a = w) (h3 : ¬ b = w) (e1 : way σ lm a w = some (C1, S1)) (e2 : way σ lm w b = some (C2, S2)) (e3 : way σ lm a b = some (C, S)) : tb σ lm w a b = decide (C1 + C2 = C) := by
  unfold tb
  rw [decide_eq_false h1, decide_eq_false h2, decide_eq_false h3, e1, e2, e3]; rfl
theorem s_X0_costOf0 {σ : WS} {lm : Lam} {M : WM} {a b : Nat} {Q : Int32 → Prop} (hA : WaC (sN σ) (dEnd σ lm 100) M) (ok : wsOK σ) (lo : lamOK lm) (ha : a < sN σ) (hb : b < sN σ) (hw : way σ lm a b = none) (h : Q (nI 2684354)) : m_X0_costOf (nI a) (nI b) M Q := by
  have hs := ok.1
  unfold m_X0_costOf
  rw [nI_clamp (show a < 2 ^ 31 by omega), nI_clamp (show b < 2 ^ 31 by omega)]
  refine ⟨vin (by omega), vin (by omega), ?_⟩
  rcases rdC hA ok lo ha hb with ⟨e1, e2⟩ | ⟨C', S', e1, h1, h2, e2⟩
  · rw [e2, show (100 : Int32) = nI 100 from rfl, pk_div (by omega) (by omega) (by omega)]
    exact h
  · rw [e1] at hw; cases hw
theorem s_X0_twosBy {σ : WS} {lm : Lam} {M : WM} {w : Nat} {Q : Int32 → Prop} (hW : WC σ M) (hA : WaC (sN σ) (dEnd σ lm 100) M) (ok : wsOK σ) (lo : lamOK lm) (hw : w < sN σ) (h : Q (nI (two σ lm w))) : m_X0_twosBy (nI w) M Q := by
  have hs := ok.1
  refine pk_loop (fun k i (s : Nat) => m_X0_twosBy_l4 (nI w) M Q k (nI s) (nI i)) (fun i s => s = cn2 (tb σ lm w) (sN σ) i) (sN σ) 0 0 (by omega) rfl ?_ ?_
  · intro k s es
    subst es
    unfold m_X0_twosBy_l4
    rw [hW.1]
    exact ⟨fun _ => h, fun z => absurd (Int32.le_refl _) z⟩
  · intro k i s hi es ih
    unfold m_X0_twosBy_l4
    rw [hW.1]
    refine ⟨fun z => absurd z (nI_ge hi (by omega)), fun _ => ?_⟩
    refine pk_loop (fun k' j (s' : Nat) => m_X0_twosBy_l15 (fun x2' x3' => m_X0_twosBy_l4 (nI w) M Q k x2' x3') (nI w) (nI i) M Q k' (nI s') (nI j)) (fun j s' => s' = s + cnt (tb σ lm w i) j) (sN σ) 0 s (by omega) rfl ?_ ?_
    · intro k' s' e'
      unfold m_X0_twosBy_l15
      rw [hW.1]
      refine ⟨fun _ y ey => ?_, fun z => absurd (Int32.le_refl _) z⟩
      rw [ey, nI_1]
      exact ih s' (by rw [e', es]; rfl)
    · intro k' j s' hj e' ih2
      have no : tb σ lm w i j = false → ∀ y : Int32, y = nI j + 1 → m_X0_twosBy_l15 (fun x2' x3' => m_X0_twosBy_l4 (nI w) M Q k x2' x3') (nI w) (nI i) M Q k' (nI s') y := fun q y ey => by
        rw [ey, nI_1]; exact ih2 s' (by rw [cnt_f q]; exact e')
      unfold m_X0_twosBy_l15
      rw [hW.1, nI_clamp (show i < 2 ^ 31 by omega), nI_clamp (show j < 2 ^ 31 by omega), nI_clamp (show w < 2 ^ 31 by omega)]
      refine ⟨fun z => absurd z (nI_ge hj (by omega)), fun _ => pk_eq i j (fun c => no (tb_no (Or.inl c))) (fun c1 => pk_eq i w (fun c => no (tb_no (Or.inr (Or.inl c)))) (fun c2 => pk_eq j w (fun c => no (tb_no (Or.inr (Or.inr (Or.inl c))))) (fun c3 => ⟨vin (by omega), vin (by omega), ?_⟩) rfl rfl) rfl rfl) rfl rfl⟩
      rcases rdC hA ok lo hi hw with ⟨e1, e2⟩ | ⟨C1, S1, e1, b1, b2, e2⟩
      · rw [e2]; exact ⟨fun _ => no (tb_no (Or.inr (Or.inr (Or.inr (Or.inl e1))))), fun z => absurd rfl z⟩
      rw [e2]
      refine pk_eq (100 * C1 + S1) 268435456 (fun z => absurd z (by omega)) (fun _ => ⟨vin (by omega), vin (by omega), ?_⟩) rfl rfl
      rcases rdC hA ok lo hw hj with ⟨e3, e4⟩ | ⟨C2, S2, e3, b3, b4, e4⟩
      · rw [e4]; exact ⟨fun _ => no (tb_no (Or.inr (Or.inr (Or.inr (Or.inr (Or.inl e3)))))), fun z => absurd rfl z⟩
      rw [e4]
      refine pk_eq (100 * C2 + S2) 268435456 (fun z => absurd z (by omega)) (fun _ => s_X0_costOf hA ok lo hi hw e1 (s_X0_costOf hA ok lo hw hj e3 ?_)) rfl rfl
      have end0 : tb σ lm w i j = false → ∀ z20 : Int32, z20 = nI s' + 0 → ∀ z21 : Int32, z21 = nI j + 1 → m_X0_twosBy_l15 (fun x2' x3' => m_X0_twosBy_l4 (nI w) M Q k x2' x3') (nI w) (nI i) M Q k' z20 z21 := fun q z ez y ey => by
        rw [ez, show nI s' + 0 = nI s' from Int32.add_zero _]; exact no q y ey
      rcases rdC hA ok lo hi hj with ⟨e5, e6⟩ | ⟨C, S, e5, b5, b6, e6⟩
      · refine s_X0_costOf0 hA ok lo hi hj e5 (pk_eq (C1 + C2) 2684354 (fun z => absurd z (by omega)) (fun _ => end0 (tb_no (Or.inr (Or.inr (Or.inr (Or.inr (Or.inr e5))))))) (nI_add _ _) rfl)
      · refine s_X0_costOf hA ok lo hi hj e5 (pk_eq (C1 + C2) C (fun q z ez y ey => ?_) (fun q => end0 ?_) (nI_add _ _) rfl)
        · rw [ez, ey, nI_1, nI_1]
          exact ih2 (s' + 1) (by rw [cnt_t (by rw [tb_is c1 c2 c3 e1 e3 e5]; exact decide_eq_true q), e']; rfl)
        · rw [tb_is c1 c2 c3 e1 e3 e5]; exact decide_eq_false q
theorem s_X6_sumS {o1 o2 : Option (Nat × Nat)} {Q : Int32 → Prop} (h1 : ∀ C S, o1 = some (C, S) → C ≤ 4100) (h2 : ∀ C S, o2 = some (C, S) → C ≤ 4100) (hs : ∀ C1 S1 C2 S2, o1 = some (C1, S1) → o2 = some (C2, S2) → Q (nI (C1 + C2))) (hn : o1 = none ∨ o2 = none → Q (nI 1000000000)) : m_X6_sum (lwI o1) (lwI o2) Q := by
  cases e1 : o1 with
  | none =>
    cases e2 : o2 with
    | none => exact s_X6_sum (q := none) (r := none) (fun x e => by cases e) (fun x e => by cases e) (hn (Or.inl e1))
    | some q =>
      obtain ⟨C2, S2⟩ := q
      have b2 := h2 _ _ e2
      exact s_X6_sum (q := none) (r := some C2) (fun x e => by cases e) (fun x e => by cases e; omega) (hn (Or.inl e1))
  | some q =>
    obtain ⟨C1, S1⟩ := q
    have b1 := h1 _ _ e1
    cases e2 : o2 with
    | none => exact s_X6_sum (q := some C1) (r := none) (fun x e => by cases e; omega) (fun x e => by cases e) (hn (Or.inr e2))
    | some q =>
      obtain ⟨C2, S2⟩ := q
      have b2 := h2 _ _ e2
      exact s_X6_sum (q := some C1) (r := some C2) (fun x e => by cases e; omega) (fun x e => by cases e; omega) (hs _ _ _ _ e1 e2)
theorem s_X6_twosBy {σ : WS} {lm : Lam} {M : WM} {w : Nat} {Q : Int32 → Prop} (hW : WT σ M) (hA : WaT (sN σ) (dEnd σ lm 64) M) (ok : wsOK σ) (lo : lamOK lm) (hw : w < sN σ) (h : Q (nI (two σ lm w))) : m_X6_twosBy (nI w) M Q := by
  have hs := ok.1
  refine pk_loop (fun k i (s : Nat) => m_X6_twosBy_l4 (nI w) M Q k (nI s) (nI i)) (fun i s => s = cn2 (tb σ lm w) (sN σ) i) (sN σ) 0 0 (by omega) rfl ?_ ?_
  · intro k s es
    subst es
    unfold m_X6_twosBy_l4
    rw [hW.1]
    exact ⟨fun _ => h, fun z => absurd (Int32.le_refl _) z⟩
  · intro k i s hi es ih
    unfold m_X6_twosBy_l4
    rw [hW.1]
    refine ⟨fun z => absurd z (nI_ge hi (by omega)), fun _ => ?_⟩
    refine pk_loop (fun k' j (s' : Nat) => m_X6_twosBy_l15 (fun x2' x3' => m_X6_twosBy_l4 (nI w) M Q k x2' x3') (nI w) (nI i) M Q k' (nI s') (nI j)) (fun j s' => s' = s + cnt (tb σ lm w i) j) (sN σ) 0 s (by omega) rfl ?_ ?_
    · intro k' s' e'
      unfold m_X6_twosBy_l15
      rw [hW.1]
      refine ⟨fun _ y ey => ?_, fun z => absurd (Int32.le_refl _) z⟩
      rw [ey, nI_1]
      exact ih s' (by rw [e', es]; rfl)
    · intro k' j s' hj e' ih2
      have no : tb σ lm w i j = false → ∀ y : Int32, y = nI j + 1 → m_X6_twosBy_l15 (fun x2' x3' => m_X6_twosBy_l4 (nI w) M Q k x2' x3') (nI w) (nI i) M Q k' (nI s') y := fun q y ey => by
        rw [ey, nI_1]; exact ih2 s' (by rw [cnt_f q]; exact e')
      have bd : ∀ {a b C S}, way σ lm a b = some (C, S) → C ≤ 4100 := fun e => by have := (way_s ok lo e).2.1; omega
      unfold m_X6_twosBy_l15
      rw [hW.1]
      refine ⟨fun z => absurd z (nI_ge hj (by omega)), fun _ => pk_eq i j (fun c => no (tb_no (Or.inl c))) (fun c1 => pk_eq i w (fun c => no (tb_no (Or.inr (Or.inl c)))) (fun c2 => pk_eq j w (fun c => no (tb_no (Or.inr (Or.inr (Or.inl c))))) (fun c3 => s_X6_leastOf hA ok lo hi hj ?_) rfl rfl) rfl rfl) rfl rfl⟩
      cases e5 : way σ lm i j with
      | none => exact ⟨fun _ => no (tb_no (Or.inr (Or.inr (Or.inr (Or.inr (Or.inr e5)))))), fun z => absurd (Int32.le_refl _) z⟩
      | some q =>
        obtain ⟨C, S⟩ := q
        have b5 := bd e5
        refine pk_le 1000000000 C (fun z => absurd z (by omega)) (fun _ => s_X6_leastOf hA ok lo hi hw (s_X6_leastOf hA ok lo hw hj (s_X6_sumS (fun C S e => bd e) (fun C S e => bd e) (fun C1 S1 C2 S2 e1 e3 => s_X6_leastOf hA ok lo hi hj ?_) (fun hn => s_X6_leastOf hA ok lo hi hj ?_)))) rfl rfl
        · rw [e5]
          have := bd e1
          have := bd e3
          refine pk_eq (C1 + C2) C (fun q z ez y ey => ?_) (fun q => no ?_) rfl rfl
          · rw [ez, ey, nI_1, nI_1]
            exact ih2 (s' + 1) (by rw [cnt_t (by rw [tb_is c1 c2 c3 e1 e3 e5]; exact decide_eq_true q), e']; rfl)
          · rw [tb_is c1 c2 c3 e1 e3 e5]; exact decide_eq_false q
        · rw [e5]
          refine pk_eq 1000000000 C (fun z => absurd z (by omega)) (fun _ => no (tb_no ?_)) rfl rfl
          rcases hn with q | q
          · exact Or.inr (Or.inr (Or.inr (Or.inl q)))
          · exact Or.inr (Or.inr (Or.inr (Or.inr (Or.inl q))))
def bt1 (σ : WS) (lm : Lam) (w : Nat) (s : Option (Nat × Nat)) : Option (Nat × Nat) := if used σ w = true then (match s with
  | none => some (w, two σ lm w)
  | some (b, m) => if m < two σ lm w then some (w, two σ lm w) else some (b, m)) else s
def btS (σ : WS) (lm : Lam) : Nat → Option (Nat × Nat)
  | 0 => none
  | i + 1 => bt1 σ lm i (btS σ lm i)
def bB (s : Option (Nat × Nat)) : Int32 := match s with
  | none => -2
  | some (b, _) => nI b
def bM (s : Option (Nat × Nat)) : Int32 := match s with
  | none => -2
  | some (_, m) => nI m
def betV (s : Option (Nat × Nat)) (z : Int32) : Int32 := if z = 0 then bB s else bM s
def VB (z : Int32) : Prop := 0 ≤ z.toInt ∧ z.toInt < 2
def bOK2 (s : Option (Nat × Nat)) : Prop := ∀ b m, s = some (b, m) → b < 40 ∧ m ≤ 1600
theorem bt1_ok {σ : WS} {lm : Lam} (ok : wsOK σ) {w : Nat} (hw : w < sN σ) {s : Option (Nat × Nat)} (h : bOK2 s) : bOK2 (bt1 σ lm w s) := fun b m e => by
  have hs := ok.1
  have h2 := two_le (lm := lm) ok w
  unfold bt1 at e
  split at e
  · cases es : s with
    | none => rw [es] at e; cases e; exact ⟨by omega, h2⟩
    | some q =>
      obtain ⟨b0, m0⟩ := q
      rw [es] at e
      have e : (if m0 < two σ lm w then some (w, two σ lm w) else some (b0, m0)) = some (b, m) := e
      split at e
      · cases e; exact ⟨by omega, h2⟩
      · cases e; exact h _ _ es
  · exact h b m e
theorem s_X0_between {σ : WS} {lm : Lam} {M : WM} {z : Int32} {Q : Int32 → WM → Prop} (hW : WC σ M) (ok : wsOK σ) (hl : LawC lm M) (lo : lamOK lm) (hC : wI M 0 8 = wI M 0 7 → Laid σ lm M) (h0 : ¬ VB z → Q (-1) M) (h1 : VB z → ∀ M', Laid σ lm M' → Fr SLay M M' → Q (betV (btS σ lm (sN σ)) z) M') : m_X0_between z M Q := by
  have hs := ok.1
  refine s_X0_in (bdc (fun e => ?_) (fun e => h0 e))
  refine s_X0_lays hW ok hl lo hC fun M4 L4 _ f4 => ?_
  have hh := h1 e M4 L4 f4
  have w4 : WC σ M4 := hW.fr ok f4 (by unfold SLay PWC; omega)
  refine pk_loop (fun k i (s : Option (Nat × Nat)) => m_X0_between_l23 z Q k (bB s) (bM s) (nI i) M4) (fun i s => s = btS σ lm i ∧ bOK2 s) (sN σ) 0 none (by omega) ⟨rfl, fun b m e => by cases e⟩ ?_ ?_
  · intro k s ⟨es, _⟩
    subst es
    unfold m_X0_between_l23
    rw [w4.1]
    refine ⟨fun _ => ⟨fun q => ?_, fun q => ?_⟩, fun z => absurd (Int32.le_refl _) z⟩
    · unfold betV at hh; rw [if_pos q] at hh; exact hh
    · unfold betV at hh; rw [if_neg q] at hh; exact hh
  · intro k i s hi ⟨es, os⟩ ih
    have ih3 := ih (bt1 σ lm i s) ⟨by rw [es]; rfl, bt1_ok ok hi os⟩
    have b2 := two_le (lm := lm) ok i
    unfold m_X0_between_l23
    rw [w4.1]
    have tw : ∀ {R : Int32 → Prop}, R (nI (two σ lm i)) → m_X0_twosBy (nI i) M4 R := fun h => s_X0_twosBy w4 L4.2.1 ok lo hi h
    refine ⟨fun z => absurd z (nI_ge hi (by omega)), fun _ => s_X0_isUsed w4 ok hi (bcs (fun q => tw ?_) (fun q y ey => ?_))⟩
    · unfold bt1 at ih3
      rw [if_pos q] at ih3
      cases s with
      | none => exact ⟨fun _ => tw fun y ey => by rw [ey, nI_1]; exact ih3, fun z => absurd (m2_lt _ (by omega)) z⟩
      | some r =>
        obtain ⟨b, m⟩ := r
        have hm := os b m rfl
        have ih3 : m_X0_between_l23 z Q k (bB (if m < two σ lm i then some (i, two σ lm i) else some (b, m))) (bM (if m < two σ lm i then some (i, two σ lm i) else some (b, m))) (nI (i + 1)) M4 := ih3
        refine pk_lt m (two σ lm i) (fun c => tw fun y ey => ?_) (fun c y ey => ?_) rfl rfl
        · rw [if_pos c] at ih3; rw [ey, nI_1]; exact ih3
        · rw [if_neg (by omega)] at ih3; rw [ey, nI_1]; exact ih3
    · unfold bt1 at ih3
      rw [q] at ih3
      rw [ey, nI_1]; exact ih3
theorem s_X6_between {σ : WS} {lm : Lam} {M : WM} {z : Int32} {Q : Int32 → WM → Prop} (hW : WT σ M) (ok : wsOK σ) (hl : LawT lm M) (lo : lamOK lm) (h0 : ¬ VB z → Q (-1) M) (h1 : VB z → ∀ M', Fr SWW M M' → Q (betV (btS σ lm (sN σ)) z) M') : m_X6_between z M Q := by
  have hs := ok.1
  refine s_X6_in (bdc (fun e => ?_) (fun e => h0 fun q => e ⟨q.1, by have := q.2; show z.toInt ≤ 1; omega⟩))
  have e : 0 ≤ z.toInt ∧ z.toInt ≤ 1 := e
  refine s_X6_laysWays hW ok hl lo fun M4 _ A4 f4 => ?_
  have hh := h1 ⟨e.1, by omega⟩ M4 f4
  have w4 : WT σ M4 := hW.fr f4 (by unfold SWW STA SWyT PWT; omega)
  refine pk_loop (fun k i (s : Option (Nat × Nat)) => m_X6_between_l24 z Q k (bB s) (bM s) (nI i) M4) (fun i s => s = btS σ lm i ∧ bOK2 s) (sN σ) 0 none (by omega) ⟨rfl, fun b m e => by cases e⟩ ?_ ?_
  · intro k s ⟨es, _⟩
    subst es
    unfold m_X6_between_l24
    rw [w4.1]
    refine ⟨fun _ => ⟨fun q => ?_, fun q => ?_⟩, fun z => absurd (Int32.le_refl _) z⟩
    · unfold betV at hh; rw [if_pos q] at hh; exact hh
    · unfold betV at hh; rw [if_neg q] at hh; exact hh
  · intro k i s hi ⟨es, os⟩ ih
    have ih3 := ih (bt1 σ lm i s) ⟨by rw [es]; rfl, bt1_ok ok hi os⟩
    have b2 := two_le (lm := lm) ok i
    unfold m_X6_between_l24
    rw [w4.1]
    have tw : ∀ {R : Int32 → Prop}, R (nI (two σ lm i)) → m_X6_twosBy (nI i) M4 R := fun h => s_X6_twosBy w4 A4 ok lo hi h
    refine ⟨fun z => absurd z (nI_ge hi (by omega)), fun _ => s_X6_isUsed w4 ok hi (bcs (fun q => tw ?_) (fun q y ey => ?_))⟩
    · unfold bt1 at ih3
      rw [if_pos q] at ih3
      cases s with
      | none => exact ⟨fun _ y ey => by rw [ey, nI_1]; exact ih3, fun z => absurd rfl z⟩
      | some r =>
        obtain ⟨b, m⟩ := r
        have hm := os b m rfl
        have ih3 : m_X6_between_l24 z Q k (bB (if m < two σ lm i then some (i, two σ lm i) else some (b, m))) (bM (if m < two σ lm i then some (i, two σ lm i) else some (b, m))) (nI (i + 1)) M4 := ih3
        refine ⟨fun q => absurd q ?_, fun _ => pk_lt m (two σ lm i) (fun c y ey => ?_) (fun c y ey => ?_) rfl rfl⟩
        · show ¬ nI b = -2
          rw [i_eq, nI_toInt (by omega)]; intro z; have : (b : Int) = -2 := z; omega
        · rw [if_pos c] at ih3; rw [ey, nI_1]; exact ih3
        · rw [if_neg (by omega)] at ih3; rw [ey, nI_1]; exact ih3
    · unfold bt1 at ih3
      rw [q] at ih3
      rw [ey, nI_1]; exact ih3
