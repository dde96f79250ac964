/-! a new word: LetterHeaps' tries -/
theorem cnt_tail {p : Nat → Bool} {n : Nat} : ∀ {n' : Nat}, n ≤ n' → (∀ k, n ≤ k → k < n' → p k = false) → cnt p n' = cnt p n
  | 0, h, _ => by rw [show n = 0 by omega]
  | n' + 1, h, hp => by
    by_cases e : n = n' + 1
    · rw [e]
    · rw [cnt_f (hp n' (by omega) (by omega))]
      exact cnt_tail (by omega) fun k h1 h2 => hp k h1 (by omega)
theorem s_J6L {j : Int64} {Q : Int32 → Prop} (h : Q (nI (cnt (lb j) 64))) : m_J6_bitCount j Q := by
  have hx : j.toBitVec.toNat < 2 ^ 64 := j.toBitVec.isLt
  have e : j = lN j.toBitVec.toNat := by
    rw [← Int64.toBitVec_inj]
    show j.toBitVec = BitVec.ofNat 64 j.toBitVec.toNat
    rw [BitVec.ofNat_toNat, BitVec.setWidth_eq]
  rw [e]
  exact s_J6 hx h
def NwC (σ : WS) (lm : Lam) (s : Option Rw) (M : WM) : Prop := match s with
  | none => wI M 0 21 = 0 ∧ wI M 0 22 = 0 ∧ wI M 179 1 = 0
  | some r => wI M 0 21 = nI (hh σ lm r) ∧ wI M 0 22 = nI (nn σ r) ∧ LineIs 179 M r.1 r.2 ∧ r.1 ≤ 8 ∧ l26 r ∧ ¬ hh σ lm r = 0
theorem NwC.fr {σ : WS} {lm : Lam} {s : Option Rw} {M M' : WM} {S : Nat → Nat → Prop} (h : NwC σ lm s M) (f : Fr S M M') (hS : ∀ r k, S r k → ¬ ((r = 0 ∧ (k = 21 ∨ k = 22)) ∨ r = 179 ∨ r = 180)) : NwC σ lm s M' := by
  have k1 : wI M' 0 21 = wI M 0 21 := f.I fun z => hS _ _ z (by omega)
  have k2 : wI M' 0 22 = wI M 0 22 := f.I fun z => hS _ _ z (by omega)
  cases s with
  | none => exact ⟨k1.trans h.1, k2.trans h.2.1, (f.I fun z => hS _ _ z (by omega)).trans h.2.2⟩
  | some r =>
    obtain ⟨h1, h2, h3, h4⟩ := h
    exact ⟨k1.trans h1, k2.trans h2, h3.fr f (fun z => hS _ _ z (by omega)) (fun k z => hS _ _ z (by omega)), h4⟩
def SNw (r k : Nat) : Prop := (r = 0 ∧ (k = 10 ∨ k = 21 ∨ k = 22)) ∨ (177 ≤ r ∧ r ≤ 180)
theorem s_X2_isAhead {t x m m2 : Nat} {f g : Nat → Nat} {M : WM} {Q : Int32 → Prop} (ht : LineIs t M m f) (hx : LineIs x M m2 g) (hm : m ≤ 12) (hm2 : m2 ≤ 12) (hf : ∀ k, k < m → f k < 26) (hg : ∀ k, k < m2 → g k < 26) (h : Q (b2i (if m = m2 then lxB f g m else decide (m < m2)))) : m_X2_isAhead t x M Q := by
  unfold m_X2_isAhead
  rw [ht.1, hx.1]
  refine pk_eq m m2 (fun c => ?_) (fun c => ?_) rfl rfl
  · subst c
    rw [if_pos rfl] at h
    refine pk_loop (fun k i (_ : Unit) => m_X2_isAhead_l30 t x M Q k (nI i)) (fun i _ => ∀ k, k < i → df f g k = false) m 0 () (by omega) (fun k h => absurd h (by omega)) ?_ ?_
    · intro k _ hI
      unfold m_X2_isAhead_l30
      rw [ht.1]
      have e : lst (df f g) m = m := lst_eq hI (Nat.le_refl _) (fun z => absurd z (by omega))
      unfold lxB at h
      rw [decide_eq_false (fun z => by omega)] at h
      exact ⟨fun _ => h, fun z => absurd (Int32.le_refl _) z⟩
    · intro k i _ hi hI ih
      unfold m_X2_isAhead_l30
      have b1 := hf i hi
      have b2 := hg i hi
      rw [ht.1, nI_clamp (show i < 2 ^ 31 by omega), ht.2 i hi, hx.2 i hi]
      refine ⟨fun z => absurd z (nI_ge hi (by omega)), fun _ => ⟨vin (by omega), vin (by omega), pk_eq (f i) (g i) (fun c z ez => ?_) (fun c => ⟨vin (by omega), vin (by omega), ?_⟩) rfl rfl⟩⟩
      · rw [ez, nI_1]
        refine ih () fun j hj => ?_
        by_cases e : j = i
        · rw [e]; unfold df; exact decide_eq_false fun z => z c
        · exact hI j (by omega)
      · have e : lst (df f g) m = i := lst_eq hI (by omega) (fun _ => df_t.mpr c)
        unfold lxB at h
        rw [e] at h
        refine pk_le (g i) (f i) (fun q => ?_) (fun q => ?_) rfl rfl
        · rw [decide_eq_false (fun z => by omega)] at h; exact h
        · rw [decide_eq_true ⟨hi, q⟩] at h; exact h
  · rw [if_neg c] at h
    refine pk_le m2 m (fun q => ?_) (fun q => ?_) rfl rfl
    · rw [decide_eq_false (by omega)] at h; exact h
    · rw [decide_eq_true q] at h; exact h
theorem ah_iff {r s : Rw} (h1 : l26 r) (h2 : l26 s) : (if r.1 = s.1 then lxB r.2 s.2 r.1 else decide (r.1 < s.1)) = true ↔ ahd r s := by
  unfold ahd
  by_cases e : r.1 = s.1
  · rw [if_pos e, lxB_iff h1 (fun k hk => h2 k (by omega)), ← e]
    exact ⟨fun z => Or.inr ⟨rfl, z⟩, fun z => by rcases z with z | z <;> omega⟩
  · rw [if_neg e, decide_eq_true_iff]
    exact ⟨fun z => Or.inl z, fun z => by rcases z with z | z <;> omega⟩
theorem s_X0_triesNew {σ : WS} {lm : Lam} {M : WM} {r : Rw} {s : Option Rw} {Q : WM → Prop} (hW : WC σ M) (hL : Laid σ lm M) (ok : wsOK σ) (hT : LineIs 177 M r.1 r.2) (hm : r.1 ≤ 10) (hr : l26 r) (hN : NwC σ lm s M) (h : ∀ s' M', Tr1 σ lm r s s' → NwC σ lm s' M' → Fr SNw M M' → Q M') : m_X0_triesNew M Q := by
  have hs := ok.1
  unfold m_X0_triesNew
  rw [hT.1]
  refine s_X0_within ?_
  rw [nI_toInt (by omega), show (1 : Int32).toInt = 1 by decide, show (8 : Int32).toInt = 8 by decide]
  refine bdc (fun e => ?_) (fun e => h s M (Or.inr ⟨Or.inl fun z => e (by have := z.1; omega), rfl⟩) hN Fr.rf)
  refine s_X0_wordOf hW ok hT (by omega) hr (fun w hw hsame => ?_) (fun hno => ⟨fun _ => ?_, fun z => absurd rfl z⟩)
  · refine ⟨fun q => absurd q ?_, fun _ => h s M (Or.inr ⟨Or.inl fun z => z.2.1 ⟨w, hw, hsame⟩, rfl⟩) hN Fr.rf⟩
    rw [i_eq, nI_toInt (by omega)]; intro z; have : (w : Int) = -1 := z; omega
  have hnw : ¬ isW σ r := fun ⟨w, hw, hsame⟩ => hno w hw hsame
  refine pk_loop (fun k i (t : Int64 × Nat × WM) => m_X0_triesNew_l36 Q k t.1 (nI t.2.1) (nI i) t.2.2) (fun i t => t.1 = jn σ lm r i ∧ t.2.1 = cnt (fun w => used σ w && nb σ r.1 r.2 w) i ∧ Fr S010 M t.2.2) (sN σ) 0 (0, 0, M) (by omega) ⟨rfl, rfl, Fr.rf⟩ ?_ ?_
  · intro k ⟨j, n, M1⟩ ⟨q1, q2, q3⟩
    dsimp only at q1 q2 q3 ⊢
    have w1 : WC σ M1 := hW.fr ok q3 (by unfold S010 PWC; omega)
    have N1 : NwC σ lm s M1 := hN.fr q3 (by unfold S010; omega)
    have T1 : LineIs 177 M1 r.1 r.2 := hT.fr q3 (by unfold S010; omega) (by unfold S010; omega)
    have F1 : Fr SNw M M1 := q3.mono fun r k q => by unfold S010 at q; unfold SNw; omega
    unfold m_X0_triesNew_l36
    rw [w1.1]
    refine ⟨fun _ => s_J6L ?_, fun z => absurd (Int32.le_refl _) z⟩
    have hc : cnt (lb j) 64 = hh σ lm r := by
      rw [q1]; exact cnt_tail (by omega) fun k h1 h2 => jn_lt ok r (sN σ) (Nat.le_refl _) k h2 h1
    have hn : n = nn σ r := q2
    rw [hc, hn]
    have b1 := hh_le (lm := lm) ok r
    have b2 := nn_le ok r
    have skip : (¬ vld σ lm r ∨ ∃ r0, s = some r0 ∧ ¬ btr σ lm r r0) → Q M1 := fun q => h s M1 (Or.inr ⟨q, rfl⟩) N1 F1
    have take : ¬ hh σ lm r = 0 → (∀ r0, s = some r0 → btr σ lm r r0) → m_X0_triesNew_j153 (nI (nn σ r)) (nI (hh σ lm r)) Q M1 := fun q0 q M2 e2 M3 e3 => by
      have f3 : Fr SNw M1 M3 := by rw [e3, e2]; exact (Fr.rf.PI (Or.inl ⟨rfl, Or.inr (Or.inl rfl)⟩)).PI (Or.inl ⟨rfl, Or.inr (Or.inr rfl)⟩)
      have T3 : LineIs 177 M3 r.1 r.2 := ⟨by rw [e3, wI_n _ _ (by omega), e2, wI_n _ _ (by omega)]; exact T1.1, fun k hk => by rw [e3, wI_n _ _ (by omega), e2, wI_n _ _ (by omega)]; exact T1.2 k hk⟩
      refine s_X2_takes T3 (by omega) (by omega) (by omega) (by omega) fun M4 L4 f4 => ?_
      refine h (some r) M4 (Or.inl ⟨⟨by omega, hnw, q0⟩, q, rfl⟩) ⟨?_, ?_, L4, by omega, hr, q0⟩ (F1.tr (f3.tr (f4.mono fun r k q => by unfold SL at q; unfold SNw; omega)))
      · rw [f4.I (by unfold SL; omega), e3, wI_n _ _ (by omega), e2, wI_s]
      · rw [f4.I (by unfold SL; omega), e3, wI_s]
    cases s with
    | none =>
      obtain ⟨n1, n2, n3⟩ := N1
      rw [n1, n2]
      refine ⟨fun z => absurd z (nI_pos (by omega)), fun _ => pk_eq (hh σ lm r) 0 (fun c => ?_) (fun c => take c fun r0 z => by cases z) rfl rfl⟩
      have n0 : nn σ r = 0 := hh_nn ok r c
      rw [n0]
      refine ⟨fun z => absurd z (by decide), fun _ => ⟨fun _ => ?_, fun z => absurd rfl z⟩⟩
      refine s_X2_isAhead T1 (⟨n3, fun k hk => absurd hk (by omega)⟩ : LineIs 179 M1 0 (fun _ => 0)) (by omega) (by omega) hr (fun k hk => absurd hk (by omega)) ?_
      rw [if_neg (by omega), decide_eq_false (by omega)]
      exact ie0 (skip (Or.inl fun z => z.2.2 c))
    | some r0 =>
      obtain ⟨n1, n2, n3, n4, n5, n6⟩ := N1
      have b3 := hh_le (lm := lm) ok r0
      have b4 := nn_le ok r0
      have no : ¬ btr σ lm r r0 → Q M1 := fun q => skip (Or.inr ⟨r0, rfl, q⟩)
      rw [n1, n2]
      by_cases hz : hh σ lm r = 0
      · have n0 : nn σ r = 0 := hh_nn ok r hz
        have sk : Q M1 := skip (Or.inl fun z => z.2.2 hz)
        exact pk_lt (hh σ lm r) (hh σ lm r0) (fun _ => sk) (fun c => absurd c (by omega)) rfl rfl
      · have tk : btr σ lm r r0 → m_X0_triesNew_j153 (nI (nn σ r)) (nI (hh σ lm r)) Q M1 := fun q => take hz fun r1 z => by cases z; exact q
        refine pk_lt (hh σ lm r) (hh σ lm r0) (fun c => no (by unfold btr; omega)) (fun c => pk_eq (hh σ lm r) (hh σ lm r0) (fun c2 => ?_) (fun c2 => tk (by unfold btr; omega)) rfl rfl) rfl rfl
        refine pk_lt (nn σ r) (nn σ r0) (fun c3 => no (by unfold btr; omega)) (fun c3 => pk_eq (nn σ r) (nn σ r0) (fun c4 => ?_) (fun c4 => tk (by unfold btr; omega)) rfl rfl) rfl rfl
        refine s_X2_isAhead T1 n3 (by omega) (by omega) hr n5 (bcs (fun q => tk ?_) (fun q => no fun z => ?_))
        · exact Or.inr ⟨c2, Or.inr ⟨c4, (ah_iff hr n5).mp q⟩⟩
        · have : ahd r r0 := by
            rcases z with z | ⟨_, z | ⟨_, z⟩⟩
            · omega
            · omega
            · exact z
          rw [(ah_iff hr n5).mpr this] at q; cases q
  · intro k i ⟨j, n, M1⟩ hi ⟨q1, q2, q3⟩ ih
    dsimp only at q1 q2 q3 ⊢
    have w1 : WC σ M1 := hW.fr ok q3 (by unfold S010 PWC; omega)
    have T1 : LineIs 177 M1 r.1 r.2 := hT.fr q3 (by unfold S010; omega) (by unfold S010; omega)
    unfold m_X0_triesNew_l36
    rw [w1.1, nI_clamp (show i < 2 ^ 31 by omega)]
    have no : ∀ M2, Fr S010 M M2 → (used σ i && nb σ r.1 r.2 i) = false → ∀ y : Int32, y = nI i + 1 → m_X0_triesNew_l36 Q k j (nI n) y M2 := fun M2 f2 q y ey => by
      rw [ey, nI_1]
      exact ih (j, n, M2) ⟨by show j = jn σ lm r (i + 1); rw [jn, q, q1]; rfl, by show n = cnt _ (i + 1); rw [cnt_f q, q2], f2⟩
    refine ⟨fun z => absurd z (nI_ge hi (by omega)), fun _ => s_X0_isUsed w1 ok hi (bcs (fun hu => ⟨vin (by omega), s_X0_areOneOff w1 ok hi T1 (by omega) (by omega) hr fun M2 f2 => bcs (fun hn => ?_) (fun hn => no M2 (q3.tr f2) (by rw [hu, hn]; rfl))⟩) (fun hu => no M1 q3 (by rw [hu]; rfl)))⟩
    have L2 : Laid σ lm M2 := hL.fr ok (q3.tr f2) (by unfold S010; omega)
    refine s_X0_heapOf L2.2.2 ok hi hu fun z ez y ey y2 ey2 => ?_
    have hb : (used σ i && nb σ r.1 r.2 i) = true := by rw [hu, hn]; rfl
    rw [ez, ey, ey2, nI_1, nI_1, show (1 : Int64) <<< ((nI (hpO σ lm i)).toInt64 &&& 63) = bitL (hpO σ lm i) from rfl]
    exact ih (j ||| bitL (hpO σ lm i), n + 1, M2) ⟨by show _ = jn σ lm r (i + 1); rw [jn, if_pos hb, q1], by show n + 1 = cnt _ (i + 1); rw [cnt_t hb, q2], q3.tr f2⟩
/-! the rows made of a word, LetterHeaps' side -/
def rowE (σ : WS) (w k c e : Nat) : Rw := (sLen σ w + e, fun j => if j = k then c else sLet σ w (if e = 1 ∧ k < j then j - 1 else j))
theorem rowE_1 (σ : WS) (w k c : Nat) : rowE σ w k c 1 = putF σ w k c := by
  unfold rowE putF
  refine Prod.ext rfl (funext fun j => ?_)
  show (if j = k then c else sLet σ w (if 1 = 1 ∧ k < j then j - 1 else j)) = if j = k then c else if j < k then sLet σ w j else sLet σ w (j - 1)
  by_cases h1 : j = k
  · rw [if_pos h1, if_pos h1]
  · rw [if_neg h1, if_neg h1]
    by_cases h2 : j < k
    · rw [if_pos h2, if_neg (by omega)]
    · rw [if_neg h2, if_pos (by omega)]
theorem rowE_0 (σ : WS) (w k c : Nat) : rowE σ w k c 0 = repF σ w k c := by
  unfold rowE repF
  refine Prod.ext rfl (funext fun j => ?_)
  show (if j = k then c else sLet σ w (if 0 = 1 ∧ k < j then j - 1 else j)) = if j = k then c else sLet σ w j
  rw [if_neg (show ¬ (0 = 1 ∧ k < j) by omega)]
def EN (σ : WS) (lm : Lam) (P : Rw → Prop) (M : WM) : Prop := ∃ s, Bst σ lm P s ∧ NwC σ lm s M
theorem s_X0_tryOne {σ : WS} {lm : Lam} {M : WM} {r : Rw} {P : Rw → Prop} {Q : WM → Prop} (hW : WC σ M) (hL : Laid σ lm M) (ok : wsOK σ) (hT : LineIs 177 M r.1 r.2) (hm : r.1 ≤ 10) (hr : l26 r) (hN : EN σ lm P M) (h : ∀ M', EN σ lm (fun q => P q ∨ q = r) M' → Fr SNw M M' → Q M') : m_X0_triesNew M Q := by
  obtain ⟨s, b, n⟩ := hN
  exact s_X0_triesNew hW hL ok hT hm hr n fun s' M' t n' f' => h M' ⟨s', b.add hr t, n'⟩ f'
theorem EN.fr {σ : WS} {lm : Lam} {P : Rw → Prop} {M M' : WM} {S : Nat → Nat → Prop} (h : EN σ lm P M) (f : Fr S M M') (hS : ∀ r k, S r k → ¬ ((r = 0 ∧ (k = 21 ∨ k = 22)) ∨ r = 179 ∨ r = 180)) : EN σ lm P M' := by
  obtain ⟨s, b, n⟩ := h
  exact ⟨s, b, n.fr f hS⟩
theorem EN.cg {σ : WS} {lm : Lam} {P P' : Rw → Prop} {M : WM} (h : EN σ lm P M) (e : ∀ r, P r ↔ P' r) : EN σ lm P' M := by
  obtain ⟨s, b, n⟩ := h
  exact ⟨s, b.cg e, n⟩
theorem NwWC {σ : WS} {M M' : WM} (hW : WC σ M) (ok : wsOK σ) (f : Fr SNw M M') : WC σ M' := hW.fr ok f (by unfold SNw PWC; omega)
theorem NwL {σ : WS} {lm : Lam} {M M' : WM} (hL : Laid σ lm M) (ok : wsOK σ) (f : Fr SNw M M') : Laid σ lm M' := hL.fr ok f (by unfold SNw; omega)
theorem s_X0_triesLetters {σ : WS} {lm : Lam} {M : WM} {w p e : Nat} {P : Rw → Prop} {Q : WM → Prop} (hW : WC σ M) (hL : Laid σ lm M) (ok : wsOK σ) (hw : w < sN σ) (hp : p < sLen σ w + e) (he : e ≤ 1) (hN : EN σ lm P M) (h : ∀ M', EN σ lm (fun q => P q ∨ ∃ c, c < 26 ∧ q = rowE σ w p c e) M' → Fr SNw M M' → Q M') : m_X0_triesLetters (5325 + 3 * w) (nI p) (nI e) M Q := by
  have hs := ok.1
  obtain ⟨a1, a2, a3, -⟩ := ok.2.1 w hw
  refine pk_loop (fun k c M' => m_X0_triesLetters_l3 (5325 + 3 * w) (nI p) (nI e) Q k (nI c) M') (fun c M' => Fr SNw M M' ∧ EN σ lm (fun q => P q ∨ ∃ c', c' < c ∧ q = rowE σ w p c' e) M') 26 0 M (by omega) ⟨Fr.rf, hN.cg fun q => ⟨Or.inl, fun z => z.elim id fun z => absurd z ex_0⟩⟩ ?_ ?_
  · intro k M' ⟨q1, q2⟩
    exact ⟨fun _ => h M' q2 q1, fun z => absurd (Int32.le_refl _) z⟩
  · intro k c M' hc ⟨q1, q2⟩ ih
    refine ⟨fun z => absurd z (nI_ge (b := 26) hc (by omega)), fun _ => s_X2_clears fun M3 L3 f3 => ?_⟩
    have F3 : Fr SNw M M3 := q1.tr (f3.mono fun r k q => by unfold SL at q; unfold SNw; omega)
    have N3 := q2.fr f3 (by unfold SL; omega)
    have lF : l26 (rowE σ w p c e) := fun j hj => by
      have hj : j < sLen σ w + e := hj
      show (if j = p then c else sLet σ w (if e = 1 ∧ p < j then j - 1 else j)) < 26
      split
      · exact hc
      · exact a3 _ (by split <;> omega)
    refine pk_loop (fun k' i M4 => m_X0_triesLetters_l20 (fun x4' M' => m_X0_triesLetters_l3 (5325 + 3 * w) (nI p) (nI e) Q k x4' M') (5325 + 3 * w) (nI p) (nI e) (nI c) Q k' (nI i) M4) (fun i M4 => Fr SNw M M4 ∧ EN σ lm (fun q => P q ∨ ∃ c', c' < c ∧ q = rowE σ w p c' e) M4 ∧ LineIs 177 M4 i (rowE σ w p c e).2) (sLen σ w + e) 0 M3 (by omega) ⟨F3, N3, L3.cg fun j hj => absurd hj (by omega)⟩ ?_ ?_
    · intro k' M4 ⟨p1, p2, p3⟩
      have w4 := NwWC hW ok p1
      have j35 : m_X0_triesLetters_j35 (fun x4' M' => m_X0_triesLetters_l3 (5325 + 3 * w) (nI p) (nI e) Q k x4' M') (fun x5' M' => m_X0_triesLetters_l20 (fun x4' M' => m_X0_triesLetters_l3 (5325 + 3 * w) (nI p) (nI e) Q k x4' M') (5325 + 3 * w) (nI p) (nI e) (nI c) Q k' x5' M') (5325 + 3 * w) (nI p) (nI e) (nI c) (nI (sLen σ w + e)) (nI e) (wI M4 (5325 + 3 * w) 1) (nI (sLen σ w + e)) Q M4 := by
        unfold m_X0_triesLetters_j35
        rw [(w4.line hw).1, nI_add]
        refine ⟨fun _ => s_X0_tryOne (r := rowE σ w p c e) w4 (NwL hL ok p1) ok p3 (by show sLen σ w + e ≤ 10; omega) lF p2 fun M5 N5 f5 z ez => ?_, fun z => absurd (Int32.le_refl _) z⟩
        rw [ez, nI_1]
        refine ih M5 ⟨p1.tr f5, N5.cg fun q => ?_⟩
        rw [ex_s (P := fun c' => q = rowE σ w p c' e), or_assoc]
      unfold m_X0_triesLetters_l20
      refine pk_eq e 0 (fun q => ?_) (fun q => ?_) rfl rfl
      · subst q; exact j35
      · have : e = 1 := by omega
        subst this; exact j35
    · intro k' i M4 hi ⟨p1, p2, p3⟩ ih2
      have w4 := NwWC hW ok p1
      have add : ∀ v, v = (rowE σ w p c e).2 i → m_X0_triesLetters_j78 (fun x4' M' => m_X0_triesLetters_l3 (5325 + 3 * w) (nI p) (nI e) Q k x4' M') (fun x5' M' => m_X0_triesLetters_l20 (fun x4' M' => m_X0_triesLetters_l3 (5325 + 3 * w) (nI p) (nI e) Q k x4' M') (5325 + 3 * w) (nI p) (nI e) (nI c) Q k' x5' M') (5325 + 3 * w) (nI p) (nI e) (nI c) (nI i) (nI v) Q M4 := fun v ev => by
        refine s_X2_adds p3 (by omega) fun M5 L5 f5 z ez => ?_
        rw [ez, nI_1]
        refine ih2 M5 ⟨p1.tr (f5.mono fun r k q => by unfold SL at q; unfold SNw; omega), p2.fr f5 (by unfold SL; omega), L5.cg fun j hj => ?_⟩
        unfold up1
        by_cases e1 : j = i
        · rw [if_pos e1, ev, e1]
        · rw [if_neg e1]
      have let1 : ∀ q, q < sLen σ w → sLet σ w q = (rowE σ w p c e).2 i → m_X0_triesLetters_j77 (fun x4' M' => m_X0_triesLetters_l3 (5325 + 3 * w) (nI p) (nI e) Q k x4' M') (fun x5' M' => m_X0_triesLetters_l20 (fun x4' M' => m_X0_triesLetters_l3 (5325 + 3 * w) (nI p) (nI e) Q k x4' M') (5325 + 3 * w) (nI p) (nI e) (nI c) Q k' x5' M') (5325 + 3 * w) (nI p) (nI e) (nI c) (nI i) (nI q) (5325 + 3 * w + 1) Q M4 := fun q hq eq => by
        unfold m_X0_triesLetters_j77
        rw [nI_clamp (show q < 2 ^ 31 by omega), s_X0_letter_in w4 hw hq]
        exact ⟨vin (by omega), add _ eq⟩
      have j35 : m_X0_triesLetters_j35 (fun x4' M' => m_X0_triesLetters_l3 (5325 + 3 * w) (nI p) (nI e) Q k x4' M') (fun x5' M' => m_X0_triesLetters_l20 (fun x4' M' => m_X0_triesLetters_l3 (5325 + 3 * w) (nI p) (nI e) Q k x4' M') (5325 + 3 * w) (nI p) (nI e) (nI c) Q k' x5' M') (5325 + 3 * w) (nI p) (nI e) (nI c) (nI i) (nI e) (wI M4 (5325 + 3 * w) 1) (nI i) Q M4 := by
        unfold m_X0_triesLetters_j35
        rw [(w4.line hw).1, nI_add]
        refine ⟨fun z => absurd z (nI_ge hi (by omega)), fun _ => pk_eq i p (fun q => add c ?_) (fun q => pk_eq e 0 (fun q2 => ?_) (fun q2 => ?_) rfl rfl) rfl rfl⟩
        · show c = if i = p then c else _
          rw [if_pos q]
        · refine let1 i (by omega) ?_
          show sLet σ w i = if i = p then c else sLet σ w (if e = 1 ∧ p < i then i - 1 else i)
          rw [if_neg q, if_neg (by omega)]
        · refine pk_le i p (fun q3 => let1 i (by omega) ?_) (fun q3 => ?_) rfl rfl
          · show sLet σ w i = if i = p then c else sLet σ w (if e = 1 ∧ p < i then i - 1 else i)
            rw [if_neg q, if_neg (by omega)]
          · rw [show (1 : Int32) = nI 1 from rfl, pk_sub (by omega)]
            refine let1 (i - 1) (by omega) ?_
            show sLet σ w (i - 1) = if i = p then c else sLet σ w (if e = 1 ∧ p < i then i - 1 else i)
            rw [if_neg q, if_pos (by omega)]
      unfold m_X0_triesLetters_l20
      refine pk_eq e 0 (fun q => ?_) (fun q => ?_) rfl rfl
      · subst q; exact j35
      · have : e = 1 := by omega
        subst this; exact j35
theorem s_X0_triesFewer {σ : WS} {lm : Lam} {M : WM} {w p : Nat} {P : Rw → Prop} {Q : WM → Prop} (hW : WC σ M) (hL : Laid σ lm M) (ok : wsOK σ) (hw : w < sN σ) (hp : p < sLen σ w) (hN : EN σ lm P M) (h : ∀ M', EN σ lm (fun q => P q ∨ q = remF σ w p) M' → Fr SNw M M' → Q M') : m_X0_triesFewer (5325 + 3 * w) (nI p) M Q := by
  have hs := ok.1
  obtain ⟨a1, a2, a3, -⟩ := ok.2.1 w hw
  refine s_X2_clears fun M2 L2 f2 => ?_
  refine pk_loop (fun k i M' => m_X0_triesFewer_l9 (5325 + 3 * w) (nI p) Q k (nI i) M') (fun i M' => Fr SNw M M' ∧ EN σ lm P M' ∧ LineIs 177 M' (if i ≤ p then i else i - 1) (remF σ w p).2) (sLen σ w) 0 M2 (by omega) ⟨f2.mono fun r k q => by unfold SL at q; unfold SNw; omega, hN.fr f2 (by unfold SL; omega), by rw [if_pos (by omega)]; exact L2.cg fun j hj => absurd hj (by omega)⟩ ?_ ?_
  · intro k M' ⟨q1, q2, q3⟩
    unfold m_X0_triesFewer_l9
    rw [((NwWC hW ok q1).line hw).1]
    rw [if_neg (by omega)] at q3
    refine ⟨fun _ => s_X0_tryOne (r := remF σ w p) (NwWC hW ok q1) (NwL hL ok q1) ok q3 (by show sLen σ w - 1 ≤ 10; omega) (remF_l ok hw) q2 fun M5 N5 f5 => h M5 N5 (q1.tr f5), fun z => absurd (Int32.le_refl _) z⟩
  · intro k i M' hi ⟨q1, q2, q3⟩ ih
    unfold m_X0_triesFewer_l9
    rw [((NwWC hW ok q1).line hw).1, nI_clamp (show i < 2 ^ 31 by omega), s_X0_letter_in (NwWC hW ok q1) hw hi]
    refine ⟨fun z => absurd z (nI_ge hi (by omega)), fun _ => pk_eq i p (fun c z ez => ?_) (fun c => ⟨vin (by omega), ?_⟩) rfl rfl⟩
    · rw [ez, nI_1]
      refine ih M' ⟨q1, q2, ?_⟩
      rw [if_pos (by omega)] at q3
      rw [if_neg (by omega)]
      exact q3
    · refine s_X2_adds q3 (by split <;> omega) fun M5 L5 f5 z ez => ?_
      rw [ez, nI_1]
      refine ih M5 ⟨q1.tr (f5.mono fun r k q => by unfold SL at q; unfold SNw; omega), q2.fr f5 (by unfold SL; omega), ?_⟩
      have e1 : (if i + 1 ≤ p then i + 1 else i + 1 - 1) = (if i ≤ p then i else i - 1) + 1 := by
        by_cases e : i ≤ p
        · rw [if_pos e, if_pos (by omega)]
        · rw [if_neg e, if_neg (by omega)]; omega
      rw [e1]
      refine L5.cg fun j hj => ?_
      unfold up1
      by_cases e2 : j = if i ≤ p then i else i - 1
      · rw [if_pos e2]
        show sLet σ w i = sLet σ w (if j < p then j else j + 1)
        by_cases e : i ≤ p
        · rw [if_pos e] at e2; rw [if_pos (by omega), e2]
        · rw [if_neg e] at e2; rw [if_neg (by omega)]; congr 1; omega
      · rw [if_neg e2]
def S178 (r _k : Nat) : Prop := r = 178
theorem s_X0_triesAbout {σ : WS} {lm : Lam} {M : WM} {w p : Nat} {P : Rw → Prop} {Q : WM → Prop} (hW : WC σ M) (hL : Laid σ lm M) (ok : wsOK σ) (hw : w < sN σ) (hp : p + 1 < sLen σ w) (hN : EN σ lm P M) (h : ∀ M', EN σ lm (fun q => P q ∨ q = swF σ w p) M' → Fr SNw M M' → Q M') : m_X0_triesAbout (5325 + 3 * w) (nI p) M Q := by
  have hs := ok.1
  obtain ⟨a1, a2, a3, -⟩ := ok.2.1 w hw
  refine s_X2_takes (hW.line hw) (by omega) (by omega) (by omega) (by omega) fun M2 L2 f2 => ?_
  rw [nI_1, nI_clamp (show p < 2 ^ 31 by omega), nI_clamp (show p + 1 < 2 ^ 31 by omega)]
  have F2 : Fr SNw M M2 := f2.mono fun r k q => by unfold SL at q; unfold SNw; omega
  have w2 := NwWC hW ok F2
  refine ⟨vin (by omega), vin (by omega), fun M5 e5 => ⟨vin (by omega), vin (by omega), fun M8 e8 => ?_⟩⟩
  have f5 : Fr SNw M2 M5 := by rw [e5]; exact Fr.rf.PI (Or.inr (by omega))
  have w5 := NwWC w2 ok f5
  have f8 : Fr SNw M2 M8 := by rw [e8]; exact f5.PI (Or.inr (by omega))
  rw [s_X0_letter_in w2 hw hp] at e5
  rw [s_X0_letter_in w5 hw (show p < sLen σ w by omega)] at e8
  have N8 : EN σ lm P M8 := (hN.fr f2 (by unfold SL; omega)).fr (S := S178) (by rw [e8, e5]; exact (Fr.rf.PI (S := S178) rfl).PI (S := S178) rfl) (by unfold S178; omega)
  refine s_X0_tryOne (r := swF σ w p) (NwWC w2 ok f8) (NwL hL ok (F2.tr f8)) ok ⟨?_, fun j hj => ?_⟩ (by show sLen σ w ≤ 10; omega) (swF_l ok hw hp) N8 fun M9 N9 f9 => h M9 N9 (F2.tr (f8.tr f9))
  · rw [e8, wI_n _ _ (by omega), e5, wI_n _ _ (by omega)]; exact L2.1
  · have hj : j < sLen σ w := hj
    show wI M8 178 j = nI (if j = p + 1 then sLet σ w p else if j = p then sLet σ w (p + 1) else sLet σ w j)
    rw [e8, wI_PI, e5, wI_PI]
    by_cases c1 : j = p + 1
    · rw [if_pos ⟨rfl, c1⟩, if_pos c1]
    · rw [if_neg (fun z => c1 z.2), if_neg c1]
      by_cases c2 : j = p
      · rw [if_pos ⟨rfl, c2⟩, if_pos c2]
      · rw [if_neg (fun z => c2 z.2), if_neg c2]; exact L2.2 j hj
