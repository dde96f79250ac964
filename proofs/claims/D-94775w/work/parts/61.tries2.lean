/-! a new word: the model's tries -/
theorem and1 (x : Int64) : x &&& 1 = 0 ∨ x &&& 1 = 1 := by
  have key : ∀ i, i < 64 → (x &&& 1 : Int64).toBitVec.getLsbD i = (decide (i = 0) && x.toBitVec.getLsbD 0) := fun i hi => by
    rw [Int64.toBitVec_and, BitVec.getLsbD_and]
    show (x.toBitVec.getLsbD i && (1#64 : BitVec 64).getLsbD i) = _
    rw [BitVec.getLsbD_one]
    by_cases e : i = 0
    · subst e; simp
    · rw [decide_eq_false e]; simp [e]
  cases h : x.toBitVec.getLsbD 0 with
  | false =>
    left
    rw [← Int64.toBitVec_inj]
    refine BitVec.eq_of_getLsbD_eq fun i hi => ?_
    rw [key i hi, h, Bool.and_false]
    show false = (0#64 : BitVec 64).getLsbD i
    simp
  | true =>
    right
    rw [← Int64.toBitVec_inj]
    refine BitVec.eq_of_getLsbD_eq fun i hi => ?_
    rw [key i hi, h, Bool.and_true]
    show _ = (1#64 : BitVec 64).getLsbD i
    rw [BitVec.getLsbD_one]
    simp
theorem bitI {s : Int64} {k : Nat} (hk : k < 64) : ((s >>> ((nI k).toInt64 &&& 63)) &&& 1).toInt32 = b2i (lb s k) := by
  have h := has_bit (s := s) hk
  cases e : lb s k with
  | true => rw [e] at h; rw [h.mpr rfl]; decide
  | false =>
    rcases and1 (s >>> ((nI k).toInt64 &&& 63)) with z | z
    · rw [z]; decide
    · rw [h.mp z] at e; cases e
def NwT (σ : WS) (lm : Lam) (s : Option Rw) (M : WM) : Prop := match s with
  | none => wI M 5444 41 = 0 ∧ wI M 5444 42 = 0
  | some r => wI M 5444 41 = nI (hh σ lm r) ∧ wI M 5444 42 = nI (nn σ r) ∧ wI M 5444 43 = nI r.1 ∧ (∀ k, k < r.1 → wI M 5471 k = nI (r.2 k)) ∧ r.1 ≤ 8 ∧ l26 r ∧ ¬ hh σ lm r = 0
theorem NwT.fr {σ : WS} {lm : Lam} {s : Option Rw} {M M' : WM} {S : Nat → Nat → Prop} (h : NwT σ lm s M) (f : Fr S M M') (hS : ∀ r k, S r k → ¬ ((r = 5444 ∧ (k = 41 ∨ k = 42 ∨ k = 43)) ∨ r = 5471)) : NwT σ lm s M' := by
  have k1 : wI M' 5444 41 = wI M 5444 41 := f.I fun z => hS _ _ z (by omega)
  have k2 : wI M' 5444 42 = wI M 5444 42 := f.I fun z => hS _ _ z (by omega)
  have k3 : wI M' 5444 43 = wI M 5444 43 := f.I fun z => hS _ _ z (by omega)
  cases s with
  | none => exact ⟨k1.trans h.1, k2.trans h.2⟩
  | some r =>
    obtain ⟨h1, h2, h3, h4, h5⟩ := h
    exact ⟨k1.trans h1, k2.trans h2, k3.trans h3, fun k hk => (f.I fun z => hS _ _ z (by omega)).trans (h4 k hk), h5⟩
def SNt (r k : Nat) : Prop := (r = 5444 ∧ (k = 9 ∨ k = 41 ∨ k = 42 ∨ k = 43)) ∨ r = 5450 ∨ r = 5471
def HpT (σ : WS) (lm : Lam) (M : WM) : Prop := ∀ w, w < sN σ → used σ w = true → wI M 5472 w = nI (hpO σ lm w)
theorem s_X6_aheadAny {m : Nat} {f : Nat → Nat} {M : WM} {Q : Int32 → Prop} (hR : RowIs M m f) (hm : m ≤ 8) (h0 : Q 0) (h1 : Q 1) : m_X6_isAheadOfNew M Q := by
  unfold m_X6_isAheadOfNew
  rw [hR.1]
  refine ⟨fun _ => ?_, fun _ => ⟨fun _ => h0, fun _ => h1⟩⟩
  refine pk_loop (fun k i (_ : Unit) => m_X6_isAheadOfNew_l30 M Q k (nI i)) (fun i _ => True) m 0 () (by omega) trivial ?_ ?_
  · intro k _ _
    unfold m_X6_isAheadOfNew_l30
    rw [hR.1]
    exact ⟨fun _ => h0, fun z => absurd (Int32.le_refl _) z⟩
  · intro k i _ hi _ ih
    unfold m_X6_isAheadOfNew_l30
    rw [hR.1]
    refine ⟨fun z => absurd z (nI_ge hi (by omega)), fun _ => ⟨vin (by omega), vin (by omega), fun _ z ez => ?_, fun _ => ⟨vin (by omega), vin (by omega), fun _ => h0, fun _ => h1⟩⟩⟩
    rw [ez, nI_1]; exact ih () trivial
theorem s_X6_ahead {m m2 : Nat} {f g : Nat → Nat} {M : WM} {Q : Int32 → Prop} (hR : RowIs M m f) (hn : wI M 5444 43 = nI m2) (hg2 : ∀ k, k < m2 → wI M 5471 k = nI (g k)) (hm : m ≤ 8) (hm2 : m2 ≤ 8) (hf : ∀ k, k < m → f k < 26) (hg : ∀ k, k < m2 → g k < 26) (h : Q (b2i (if m = m2 then lxB f g m else decide (m < m2)))) : m_X6_isAheadOfNew M Q := by
  unfold m_X6_isAheadOfNew
  rw [hR.1, hn]
  refine pk_eq m m2 (fun c => ?_) (fun c => ?_) rfl rfl
  · subst c
    rw [if_pos rfl] at h
    refine pk_loop (fun k i (_ : Unit) => m_X6_isAheadOfNew_l30 M Q k (nI i)) (fun i _ => ∀ k, k < i → df f g k = false) m 0 () (by omega) (fun k h => absurd h (by omega)) ?_ ?_
    · intro k _ hI
      unfold m_X6_isAheadOfNew_l30
      rw [hR.1]
      have e : lst (df f g) m = m := lst_eq hI (Nat.le_refl _) (fun z => absurd z (by omega))
      unfold lxB at h
      rw [decide_eq_false (fun z => by omega)] at h
      exact ⟨fun _ => h, fun z => absurd (Int32.le_refl _) z⟩
    · intro k i _ hi hI ih
      unfold m_X6_isAheadOfNew_l30
      have b1 := hf i hi
      have b2 := hg i hi
      rw [hR.1, nI_clamp (show i < 2 ^ 31 by omega), hR.2 i hi, hg2 i hi]
      refine ⟨fun z => absurd z (nI_ge hi (by omega)), fun _ => ⟨vin (by omega), vin (by omega), pk_eq (f i) (g i) (fun c z ez => ?_) (fun c => ⟨vin (by omega), vin (by omega), ?_⟩) rfl rfl⟩⟩
      · rw [ez, nI_1]
        refine ih () fun j hj => ?_
        by_cases e : j = i
        · rw [e]; unfold df; exact decide_eq_false fun z => z c
        · exact hI j (by omega)
      · have e : lst (df f g) m = i := lst_eq hI (by omega) (fun _ => df_t.mpr c)
        unfold lxB at h
        rw [e] at h
        refine pk_le (g i) (f i) (fun q => ?_) (fun q => ?_) rfl rfl
        · rw [decide_eq_false (fun z => by omega)] at h; exact h
        · rw [decide_eq_true ⟨hi, q⟩] at h; exact h
  · rw [if_neg c] at h
    refine pk_le m2 m (fun q => ?_) (fun q => ?_) rfl rfl
    · rw [decide_eq_false (by omega)] at h; exact h
    · rw [decide_eq_true q] at h; exact h
theorem s_X6_triesNew {σ : WS} {lm : Lam} {M : WM} {r : Rw} {s : Option Rw} {Q : WM → Prop} (hW : WT σ M) (hH : HpT σ lm M) (ok : wsOK σ) (hR : RowIs M r.1 r.2) (hm : r.1 ≤ 10) (hr : l26 r) (hN : NwT σ lm s M) (h : ∀ s' M', Tr1 σ lm r s s' → NwT σ lm s' M' → Fr SNt M M' → Q M') : m_X6_triesNew M Q := by
  have hs := ok.1
  have skip : (¬ vld σ lm r ∨ ∃ r0, s = some r0 ∧ ¬ btr σ lm r r0) → Q M := fun q => h s M (Or.inr ⟨q, rfl⟩) hN Fr.rf
  unfold m_X6_triesNew
  rw [hR.1]
  refine pk_lt r.1 1 (fun c => skip (Or.inl fun z => by have := z.1; omega)) (fun c => pk_lt 8 r.1 (fun c2 => skip (Or.inl fun z => by have := z.1; omega)) (fun c2 => ?_) rfl rfl) rfl rfl
  refine s_X6_isRowWord hW ok hR (by omega) hr (fun w hw hsame => ie1 (skip (Or.inl fun z => z.2.1 ⟨w, hw, hsame⟩))) (fun hno => ie0 ?_)
  have hnw : ¬ isW σ r := fun ⟨w, hw, hsame⟩ => hno w hw hsame
  refine pk_loop (fun k i (t : Int64 × Nat) => m_X6_triesNew_l32 Q k t.1 (nI t.2) (nI i) M) (fun i t => t.1 = jn σ lm r i ∧ t.2 = cnt (fun w => used σ w && nb σ r.1 r.2 w) i) (sN σ) 0 (0, 0) (by omega) ⟨rfl, rfl⟩ ?_ ?_
  · intro k ⟨j, n⟩ ⟨q1, q2⟩
    dsimp only at q1 q2 ⊢
    unfold m_X6_triesNew_l32
    rw [hW.1]
    refine ⟨fun _ => ?_, fun z => absurd (Int32.le_refl _) z⟩
    have hn : n = nn σ r := q2
    rw [hn]
    refine pk_loop (fun k' i (c : Nat) => m_X6_triesNew_l90 j (nI (nn σ r)) Q k' (nI c) (nI i) M) (fun i c => c = cnt (lb j) i) (sN σ) 0 0 (by omega) rfl ?_ ?_
    · intro k' c ec
      have hc : c = hh σ lm r := by rw [ec, q1]; rfl
      unfold m_X6_triesNew_l90
      rw [hW.1, hc]
      refine ⟨fun _ => ?_, fun z => absurd (Int32.le_refl _) z⟩
      have b1 := hh_le (lm := lm) ok r
      have b2 := nn_le ok r
      have takeN : ∀ s', (∀ M', NwT σ lm (some r) M' → Fr SNt M M' → NwT σ lm s' M') → ¬ hh σ lm r = 0 → Tr1 σ lm r s s' → m_X6_triesNew_j159 (nI (nn σ r)) (nI (hh σ lm r)) Q M := fun s' hs' q0 q M1 e1 M2 e2 M3 e3 => by
        have f3 : Fr SNt M M3 := by rw [e3, e2, e1]; exact ((Fr.rf.PI (Or.inl ⟨rfl, by omega⟩)).PI (Or.inl ⟨rfl, by omega⟩)).PI (Or.inl ⟨rfl, by omega⟩)
        have g9 : wI M2 5444 9 = nI r.1 := by rw [e2, wI_n _ _ (by omega), e1, wI_n _ _ (by omega)]; exact hR.1
        rw [g9] at e3
        refine pk_loop (fun k2 i M4 => m_X6_triesNew_l181 Q k2 (nI i) M4) (fun i M4 => Fr SNt M M4 ∧ wI M4 5444 41 = nI (hh σ lm r) ∧ wI M4 5444 42 = nI (nn σ r) ∧ wI M4 5444 43 = nI r.1 ∧ RowIs M4 r.1 r.2 ∧ ∀ k, k < i → wI M4 5471 k = nI (r.2 k)) r.1 0 M3 (by omega) ⟨f3, by rw [e3, wI_n _ _ (by omega), e2, wI_n _ _ (by omega), e1, wI_s], by rw [e3, wI_n _ _ (by omega), e2, wI_s], by rw [e3, wI_s], ⟨by rw [e3, wI_n _ _ (by omega)]; exact g9, fun k hk => by rw [e3, wI_n _ _ (by omega), e2, wI_n _ _ (by omega), e1, wI_n _ _ (by omega)]; exact hR.2 k hk⟩, fun k hk => absurd hk (by omega)⟩ ?_ ?_
        · intro k2 M4 ⟨p1, p2, p3, p4, p5, p6⟩
          unfold m_X6_triesNew_l181
          rw [p5.1]
          exact ⟨fun _ => h s' M4 q (hs' M4 ⟨p2, p3, p4, p6, by omega, hr, q0⟩ p1) p1, fun z => absurd (Int32.le_refl _) z⟩
        · intro k2 i M4 hi ⟨p1, p2, p3, p4, p5, p6⟩ ih
          unfold m_X6_triesNew_l181
          rw [p5.1, nI_clamp (show i < 2 ^ 31 by omega), p5.2 i hi]
          refine ⟨fun z => absurd z (nI_ge hi (by omega)), fun _ => ⟨vin (by omega), vin (by omega), fun M5 e5 z ez => ?_⟩⟩
          rw [ez, nI_1]
          refine ih M5 ⟨by rw [e5]; exact p1.PI (Or.inr (Or.inr rfl)), by rw [e5, wI_n _ _ (by omega)]; exact p2, by rw [e5, wI_n _ _ (by omega)]; exact p3, by rw [e5, wI_n _ _ (by omega)]; exact p4, ⟨by rw [e5, wI_n _ _ (by omega)]; exact p5.1, fun k hk => by rw [e5, wI_n _ _ (by omega)]; exact p5.2 k hk⟩, fun k hk => ?_⟩
          rw [e5, wI_PI]
          by_cases e : k = i
          · rw [if_pos ⟨rfl, e⟩, e]
          · rw [if_neg (fun z => e z.2)]; exact p6 k (by omega)
      have take : ¬ hh σ lm r = 0 → (∀ r0, s = some r0 → btr σ lm r r0) → m_X6_triesNew_j159 (nI (nn σ r)) (nI (hh σ lm r)) Q M := fun q0 q => takeN (some r) (fun M' n' _ => n') q0 (Or.inl ⟨⟨by omega, hnw, q0⟩, q, rfl⟩)
      cases s with
      | none =>
        obtain ⟨n1, n2⟩ := hN
        rw [n1, n2]
        refine ⟨fun z => absurd z (nI_pos (by omega)), fun _ => pk_eq (hh σ lm r) 0 (fun c => ?_) (fun c => take c fun r0 z => by cases z) rfl rfl⟩
        have n0 : nn σ r = 0 := hh_nn ok r c
        rw [n0]
        refine ⟨fun z => absurd z (by decide), fun _ => ⟨fun _ => ?_, fun z => absurd rfl z⟩⟩
        refine s_X6_aheadAny hR (by omega) (ie0 (skip (Or.inl fun z => z.2.2 c))) (ie1 ?_)
        intro M1 e1 M2 e2 M3 e3
        have f3 : Fr SNt M M3 := by rw [e3, e2, e1]; exact ((Fr.rf.PI (Or.inl ⟨rfl, by omega⟩)).PI (Or.inl ⟨rfl, by omega⟩)).PI (Or.inl ⟨rfl, by omega⟩)
        have g9 : wI M2 5444 9 = nI r.1 := by rw [e2, wI_n _ _ (by omega), e1, wI_n _ _ (by omega)]; exact hR.1
        rw [c] at e1
        refine pk_loop (fun k2 i M4 => m_X6_triesNew_l181 Q k2 (nI i) M4) (fun i M4 => Fr SNt M M4 ∧ wI M4 5444 41 = 0 ∧ wI M4 5444 42 = 0 ∧ wI M4 5444 9 = nI r.1) r.1 0 M3 (by omega) ⟨f3, by rw [e3, wI_n _ _ (by omega), e2, wI_n _ _ (by omega), e1, wI_s]; rfl, by rw [e3, wI_n _ _ (by omega), e2, wI_s]; rfl, by rw [e3, wI_n _ _ (by omega)]; exact g9⟩ ?_ ?_
        · intro k2 M4 ⟨p1, p2, p3, p4⟩
          unfold m_X6_triesNew_l181
          rw [p4]
          exact ⟨fun _ => h none M4 (Or.inr ⟨Or.inl fun z => z.2.2 c, rfl⟩) ⟨p2, p3⟩ p1, fun z => absurd (Int32.le_refl _) z⟩
        · intro k2 i M4 hi ⟨p1, p2, p3, p4⟩ ih
          unfold m_X6_triesNew_l181
          rw [p4]
          refine ⟨fun z => absurd z (nI_ge hi (by omega)), fun _ => ⟨vin (by omega), vin (by omega), fun M5 e5 z ez => ?_⟩⟩
          rw [ez, nI_1]
          exact ih M5 ⟨by rw [e5]; exact p1.PI (Or.inr (Or.inr rfl)), by rw [e5, wI_n _ _ (by omega)]; exact p2, by rw [e5, wI_n _ _ (by omega)]; exact p3, by rw [e5, wI_n _ _ (by omega)]; exact p4⟩
      | some r0 =>
        obtain ⟨n1, n2, n3, n4, n5, n6, n7⟩ := hN
        have b3 := hh_le (lm := lm) ok r0
        have b4 := nn_le ok r0
        have no : ¬ btr σ lm r r0 → Q M := fun q => skip (Or.inr ⟨r0, rfl, q⟩)
        rw [n1, n2]
        by_cases hz : hh σ lm r = 0
        · exact pk_lt (hh σ lm r) (hh σ lm r0) (fun _ => skip (Or.inl fun z => z.2.2 hz)) (fun c => absurd c (by omega)) rfl rfl
        · have tk : btr σ lm r r0 → m_X6_triesNew_j159 (nI (nn σ r)) (nI (hh σ lm r)) Q M := fun q => take hz fun r1 z => by cases z; exact q
          refine pk_lt (hh σ lm r) (hh σ lm r0) (fun c => no (by unfold btr; omega)) (fun c => pk_eq (hh σ lm r) (hh σ lm r0) (fun c2 => ?_) (fun c2 => tk (by unfold btr; omega)) rfl rfl) rfl rfl
          refine pk_lt (nn σ r) (nn σ r0) (fun c3 => no (by unfold btr; omega)) (fun c3 => pk_eq (nn σ r) (nn σ r0) (fun c4 => ?_) (fun c4 => tk (by unfold btr; omega)) rfl rfl) rfl rfl
          refine s_X6_ahead hR n3 n4 (by omega) (by omega) hr n6 (bcs (fun q => tk ?_) (fun q => no fun z => ?_))
          · exact Or.inr ⟨c2, Or.inr ⟨c4, (ah_iff hr n6).mp q⟩⟩
          · have : ahd r r0 := by
              rcases z with z | ⟨_, z | ⟨_, z⟩⟩
              · omega
              · omega
              · exact z
            rw [(ah_iff hr n6).mpr this] at q; cases q
    · intro k' i c hi ec ih
      unfold m_X6_triesNew_l90
      rw [hW.1, bitI (by omega)]
      refine ⟨fun z => absurd z (nI_ge hi (by omega)), fun _ z ez y ey => ?_⟩
      rw [ez, ey, nI_1]
      cases e : lb j i with
      | true =>
        show m_X6_triesNew_l90 j (nI (nn σ r)) Q k' (nI c + 1) (nI (i + 1)) M
        rw [nI_1]; exact ih (c + 1) (by rw [cnt_t e, ec])
      | false =>
        show m_X6_triesNew_l90 j (nI (nn σ r)) Q k' (nI c + 0) (nI (i + 1)) M
        rw [show nI c + 0 = nI c from Int32.add_zero _]; exact ih c (by rw [cnt_f e, ec])
  · intro k i ⟨j, n⟩ hi ⟨q1, q2⟩ ih
    dsimp only at q1 q2 ⊢
    unfold m_X6_triesNew_l32
    rw [hW.1, nI_clamp (show i < 2 ^ 31 by omega)]
    have no : (used σ i && nb σ r.1 r.2 i) = false → ∀ y : Int32, y = nI i + 1 → m_X6_triesNew_l32 Q k j (nI n) y M := fun q y ey => by
      rw [ey, nI_1]
      exact ih (j, n) ⟨by show j = jn σ lm r (i + 1); rw [jn, q, q1]; rfl, by show n = cnt _ (i + 1); rw [cnt_f q, q2]⟩
    refine ⟨fun z => absurd z (nI_ge hi (by omega)), fun _ => s_X6_isUsed hW ok hi (bcs (fun hu => s_X6_isNear hW ok hi hR (by omega) (by omega) hr (bcs (fun hn => ?_) (fun hn => no (by rw [hu, hn]; rfl)))) (fun hu => no (by rw [hu]; rfl)))⟩
    have hb : (used σ i && nb σ r.1 r.2 i) = true := by rw [hu, hn]; rfl
    refine fun z ez => ⟨vin (by omega), fun y ey y2 ey2 => ?_⟩
    rw [ez, ey, ey2, nI_1, nI_1, hH i hi hu, show (1 : Int64) <<< ((nI (hpO σ lm i)).toInt64 &&& 63) = bitL (hpO σ lm i) from rfl]
    exact ih (j ||| bitL (hpO σ lm i), n + 1) ⟨by show _ = jn σ lm r (i + 1); rw [jn, if_pos hb, q1], by show n + 1 = cnt _ (i + 1); rw [cnt_t hb, q2]⟩
