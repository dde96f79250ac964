/-! a new word, both sides -/
def VW (σ : WS) (t : Nat) (n k g : Int32) : Prop := (1 ≤ n.toInt ∧ n.toInt ≤ 8) ∧ (0 ≤ k.toInt ∧ k.toInt < 100) ∧ (1 ≤ g.toInt ∧ g.toInt ≤ 15) ∧ sN σ ≠ 40 ∧ n.toInt ≤ t
def ltr (tp : Nat → Int32) : Nat → Nat := fun j => lcv (tp j)
def allL (tp : Nat → Int32) (n : Nat) : Prop := ∀ k, k < n → isL (tp k)
def SB (r k : Nat) : Prop := (r = 0 ∧ k = 5) ∨ SL 7 r k
def SW2 (r k : Nat) : Prop := (r = 0 ∧ (k = 3 ∨ k = 5 ∨ k = 7)) ∨ SL 7 r k ∨ (5324 ≤ r ∧ r < 5444)
theorem s_X0_word {σ : WS} {tp : Nat → Int32} {t : Nat} {M : WM} {n k g : Int32} {Q : Int32 → WM → Prop} (hW : WC σ M) (ok : wsOK σ) (hT : TC tp t M) (ht : t ≤ 200) (hb : bOK tp) (hA : ¬ VW σ t n k g → Q (-1) M)
    (hB : ∀ m, n = nI m → VW σ t n k g → (¬ allL tp m ∨ ∃ w, w < sN σ ∧ same σ w m (ltr tp)) → ∀ M', TC tp 0 M' → WC σ M' → Fr SB M M' → Q (-2) M')
    (hC : ∀ m kk gg, n = nI m → k = nI kk → g = nI gg → VW σ t n k g → allL tp m → (∀ w, w < sN σ → ¬ same σ w m (ltr tp)) → ∀ M', TC tp 0 M' → WC (addW σ m (ltr tp) kk gg) M' → wI M' 0 7 = wI M 0 7 + 1 → Fr SW2 M M' → Q (nI (sN σ)) M') : m_X0_word n k g M Q := by
  have hn := ok.1
  refine s_X0_within ?_
  rw [show (1 : Int32).toInt = 1 by decide, show (8 : Int32).toInt = 8 by decide]
  rcases (Classical.em (1 ≤ n.toInt ∧ n.toInt ≤ 8)).symm with c1 | c1
  · rw [decide_eq_false c1]; exact ⟨fun _ => hA fun z => c1 z.1, fun z => absurd rfl z⟩
  rw [decide_eq_true c1]
  refine ⟨fun z => absurd z (by decide), fun _ => s_X0_in ?_⟩
  rw [show (100 : Int32).toInt = 100 by decide]
  rcases (Classical.em (0 ≤ k.toInt ∧ k.toInt < 100)).symm with c2 | c2
  · rw [decide_eq_false c2]; exact ⟨fun _ => hA fun z => c2 z.2.1, fun z => absurd rfl z⟩
  rw [decide_eq_true c2]
  refine ⟨fun z => absurd z (by decide), fun _ => s_X0_within ?_⟩
  rw [show (1 : Int32).toInt = 1 by decide, show (15 : Int32).toInt = 15 by decide]
  rcases (Classical.em (1 ≤ g.toInt ∧ g.toInt ≤ 15)).symm with c3 | c3
  · rw [decide_eq_false c3]; exact ⟨fun _ => hA fun z => c3 z.2.2.1, fun z => absurd rfl z⟩
  rw [decide_eq_true c3, hW.1, hT.2]
  refine ⟨fun z => absurd z (by decide), fun _ => pk_eq (sN σ) 40 (fun z => hA fun y => y.2.2.2.1 z) (fun c4 => ?_) rfl rfl⟩
  obtain ⟨m, hm, rfl, em⟩ := nI_ex (x := n) (by omega)
  obtain ⟨kk, hk, rfl, ek⟩ := nI_ex (x := k) (by omega)
  obtain ⟨gg, hg, rfl, eg⟩ := nI_ex (x := g) (by omega)
  refine pk_le m t (fun c5 => ?_) (fun c5 => hA fun y => by have := y.2.2.2.2; omega) rfl rfl
  have hV : VW σ t (nI m) (nI kk) (nI gg) := ⟨c1, c2, c3, c4, by omega⟩
  intro M9 e9
  have f9 : Fr SB M M9 := by rw [e9]; exact Fr.rf.PI (Or.inl ⟨rfl, rfl⟩)
  have t9 : ∀ j, wI M9 2 j = tp j := fun j => by rw [f9.I (by unfold SB SL; omega)]; exact hT.1 j
  have t5 : wI M9 0 5 = 0 := by rw [e9, wI_s]
  have fSL : ∀ {M'}, Fr (SL 7) M9 M' → Fr SB M M' := fun h => f9.tr (h.mono fun r k q => Or.inr q)
  have tc' : ∀ {M'}, Fr (SL 7) M9 M' → TC tp 0 M' := fun h => ⟨fun j => by rw [h.I (by unfold SL; omega)]; exact t9 j, by rw [h.I (by unfold SL; omega)]; exact t5⟩
  have wc' : ∀ {M'}, Fr (SL 7) M9 M' → WC σ M' := fun h => hW.fr ok (fSL h) (by unfold SB SL PWC; omega)
  refine s_X0_readsLine t9 hb (by omega) (by decide) (by decide) (fun hall M11 hl f11 => ?_) (fun hall M11 f11 => ?_)
  rotate_left
  · exact ⟨fun _ => hB m rfl hV (Or.inl hall) M11 (tc' f11) (wc' f11) (fSL f11), fun z => absurd rfl z⟩
  refine ⟨fun z => absurd z (by decide), fun _ => ?_⟩
  refine s_X0_wordOf (wc' f11) ok hl (by omega) (fun j hj => lcv_lt (hall j hj)) (fun w hw hs => ?_) (fun hs => ?_)
  · refine ⟨fun z => absurd z ?_, fun _ => hB m rfl hV (Or.inr ⟨w, hw, hs⟩) M11 (tc' f11) (wc' f11) (fSL f11)⟩
    rw [i_eq, nI_toInt (by omega), show ((-1 : Int32)).toInt = -1 by decide]; omega
  · refine ⟨fun _ => ?_, fun z => absurd rfl z⟩
    have n11 : wI M11 0 3 = nI (sN σ) := (wc' f11).1
    rw [n11, nI_clamp (by omega)]
    refine ⟨pk_in (sN σ) 40 (by omega), ?_⟩
    refine s_X2_takes hl (by omega) (by omega) (by omega) (by omega) fun M17 hl17 f17 => ?_
    intro M18 e18 M19 e19 M20 e20 M21 e21 M22 e22
    have g17 : Fr SW2 M M17 := ((fSL f11).mono fun r k q => by unfold SB SL at q; unfold SW2 SL; omega).tr (f17.mono fun r k q => by unfold SL at q; unfold SW2; omega)
    have w17 : ∀ {r j}, r ≠ 5325 + 3 * sN σ → r ≠ 5325 + 3 * sN σ + 1 → wI M17 r j = wI M11 r j := fun h1 h2 => f17.I (by unfold SL; omega)
    have e21' : wI M20 0 3 = nI (sN σ) := by
      rw [e20, wI_n _ _ (by omega), e19, wI_n _ _ (by omega), e18, wI_n _ _ (by omega), w17 (by omega) (by omega)]; exact n11
    rw [e21', show (1 : Int32) = nI 1 from rfl, nI_add] at e21
    have e22' : wI M21 0 7 = wI M 0 7 := by
      rw [e21, wI_n _ _ (by omega), e20, wI_n _ _ (by omega), e19, wI_n _ _ (by omega), e18, wI_n _ _ (by omega), w17 (by omega) (by omega), f11.I (by unfold SL; omega), e9, wI_n _ _ (by omega)]
    rw [e22'] at e22
    have rd : ∀ {r j}, ¬ (r = 5324 + 3 * sN σ) → ¬ (r = 0 ∧ (j = 3 ∨ j = 7)) → wI M22 r j = wI M17 r j := fun h1 h2 => by
      rw [e22, wI_n _ _ (by omega), e21, wI_n _ _ (by omega), e20, wI_n _ _ (by omega), e19, wI_n _ _ (by omega), e18, wI_n _ _ (by omega)]
    have g22 : Fr SW2 M M22 := by
      rw [e22, e21, e20, e19, e18]
      exact ((((g17.PI (Or.inr (Or.inr (by omega)))).PI (Or.inr (Or.inr (by omega)))).PI (Or.inr (Or.inr (by omega)))).PI (Or.inl ⟨rfl, Or.inl rfl⟩)).PI (Or.inl ⟨rfl, Or.inr (Or.inr rfl)⟩)
    have n22 : wI M22 0 3 = nI (sN σ + 1) := by rw [e22, wI_n _ _ (by omega), e21, wI_s]
    have er : wI M22 0 3 - 1 = nI (sN σ) := by rw [n22]; exact nI_pred _
    rw [er]
    refine hC m kk gg rfl rfl rfl hV hall hs M22 ⟨fun j => ?_, ?_⟩ ⟨n22, fun w hw => ?_, ?_⟩ (by rw [e22, wI_s]) g22
    · rw [rd (by omega) (by omega), w17 (by omega) (by omega)]; exact (tc' f11).1 j
    · rw [rd (by omega) (by omega), w17 (by omega) (by omega)]; exact (tc' f11).2
    · have hw : w < sN σ + 1 := hw
      by_cases e : w = sN σ
      · subst e
        refine ⟨?_, fun j hj => ?_, ?_, ?_, ?_⟩
        · rw [rd (by omega) (by omega), hl17.1]; exact congrArg nI (if_pos rfl).symm
        · have e1 : sLen (addW σ m (ltr tp) kk gg) (sN σ) = m := if_pos rfl
          have e2 : sLet (addW σ m (ltr tp) kk gg) (sN σ) = ltr tp := if_pos rfl
          rw [e1] at hj
          rw [e2, rd (by omega) (by omega), show 5326 + 3 * sN σ = 5325 + 3 * sN σ + 1 by omega]
          exact hl17.2 j hj
        · rw [e22, wI_n _ _ (by omega), e21, wI_n _ _ (by omega), e20, wI_n _ _ (by omega), e19, wI_n _ _ (by omega), e18, wI_s]; exact congrArg nI (if_pos rfl).symm
        · rw [e22, wI_n _ _ (by omega), e21, wI_n _ _ (by omega), e20, wI_n _ _ (by omega), e19, wI_s]; exact congrArg nI (if_pos rfl).symm
        · rw [e22, wI_n _ _ (by omega), e21, wI_n _ _ (by omega), e20, wI_s]; exact ((b2i_0 _).mpr (show sBar (addW σ m (ltr tp) kk gg) (sN σ) = false from if_pos rfl)).symm
      · obtain ⟨p1, p2, p3, p4, p5⟩ := (wc' f11).2.1 w (by omega)
        have e1 : sLen (addW σ m (ltr tp) kk gg) w = sLen σ w := if_neg e
        have e2 : sLet (addW σ m (ltr tp) kk gg) w = sLet σ w := if_neg e
        have e3 : sKn (addW σ m (ltr tp) kk gg) w = sKn σ w := if_neg e
        have e4 : sTg (addW σ m (ltr tp) kk gg) w = sTg σ w := if_neg e
        have e5 : sBar (addW σ m (ltr tp) kk gg) w = sBar σ w := if_neg e
        rw [e1, e2, e3, e4, e5]
        refine ⟨?_, fun j hj => ?_, ?_, ?_, ?_⟩
        · rw [rd (by omega) (by omega), w17 (by omega) (by omega)]; exact p1
        · rw [rd (by omega) (by omega), w17 (by omega) (by omega)]; exact p2 j hj
        · rw [rd (by omega) (by omega), w17 (by omega) (by omega)]; exact p3
        · rw [rd (by omega) (by omega), w17 (by omega) (by omega)]; exact p4
        · rw [rd (by omega) (by omega), w17 (by omega) (by omega)]; exact p5
    · rw [rd (by omega) (by omega), w17 (by omega) (by omega)]; exact (wc' f11).2.2
def STW (r k : Nat) : Prop := (r = 5444 ∧ (k = 0 ∨ k = 2 ∨ k = 9 ∨ k = 11)) ∨ (5445 ≤ r ∧ r ≤ 5450)
theorem s_X6_word {σ : WS} {tp : Nat → Int32} {t : Nat} {M : WM} {n k g : Int32} {Q : Int32 → WM → Prop} (hW : WT σ M) (ok : wsOK σ) (hT : TT tp t M) (ht : t ≤ 200) (hb : bOK tp) (hA : ¬ VW σ t n k g → Q (-1) M)
    (hB : ∀ m, n = nI m → VW σ t n k g → (¬ allL tp m ∨ ∃ w, w < sN σ ∧ same σ w m (ltr tp)) → ∀ M', TT tp 0 M' → WT σ M' → Fr SRow M M' → Q (-2) M')
    (hC : ∀ m kk gg, n = nI m → k = nI kk → g = nI gg → VW σ t n k g → allL tp m → (∀ w, w < sN σ → ¬ same σ w m (ltr tp)) → ∀ M', TT tp 0 M' → WT (addW σ m (ltr tp) kk gg) M' → Fr STW M M' → Q (nI (sN σ)) M') : m_X6_word n k g M Q := by
  have hn := ok.1
  refine s_X6_in ?_
  rw [show (1 : Int32).toInt = 1 by decide, show (8 : Int32).toInt = 8 by decide]
  rcases (Classical.em (1 ≤ n.toInt ∧ n.toInt ≤ 8)).symm with c1 | c1
  · rw [decide_eq_false c1]; exact ⟨fun _ => hA fun z => c1 z.1, fun z => absurd rfl z⟩
  rw [decide_eq_true c1]
  refine ⟨fun z => absurd z (by decide), fun _ => s_X6_in ?_⟩
  rw [show (99 : Int32).toInt = 99 by decide, show (0 : Int32).toInt = 0 by decide]
  rcases (Classical.em (0 ≤ k.toInt ∧ k.toInt ≤ 99)).symm with c2 | c2
  · rw [decide_eq_false c2]; exact ⟨fun _ => hA fun z => c2 (by have := z.2.1; omega), fun z => absurd rfl z⟩
  rw [decide_eq_true c2]
  refine ⟨fun z => absurd z (by decide), fun _ => s_X6_in ?_⟩
  rw [show (1 : Int32).toInt = 1 by decide, show (15 : Int32).toInt = 15 by decide]
  rcases (Classical.em (1 ≤ g.toInt ∧ g.toInt ≤ 15)).symm with c3 | c3
  · rw [decide_eq_false c3]; exact ⟨fun _ => hA fun z => c3 z.2.2.1, fun z => absurd rfl z⟩
  rw [decide_eq_true c3, hW.1, hT.2]
  refine ⟨fun z => absurd z (by decide), fun _ => pk_eq (sN σ) 40 (fun z => hA fun y => y.2.2.2.1 z) (fun c4 => ?_) rfl rfl⟩
  obtain ⟨m, hm, rfl, em⟩ := nI_ex (x := n) (by omega)
  obtain ⟨kk, hk, rfl, ek⟩ := nI_ex (x := k) (by omega)
  obtain ⟨gg, hg, rfl, eg⟩ := nI_ex (x := g) (by omega)
  refine pk_le m t (fun c5 => ?_) (fun c5 => hA fun y => by have := y.2.2.2.2; omega) rfl rfl
  have hV : VW σ t (nI m) (nI kk) (nI gg) := ⟨c1, ⟨c2.1, by omega⟩, c3, c4, by omega⟩
  have wt' : ∀ {M'}, Fr SRow M M' → WT σ M' := fun h => hW.fr h (by unfold SRow PWT; omega)
  have tt' : ∀ {M'}, Fr SRow M M' → wI M' 5444 11 = 0 → TT tp 0 M' := fun h h0 => ⟨fun j => by rw [h.I (by unfold SRow; omega)]; exact hT.1 j, h0⟩
  refine s_X6_takesLetters hT.1 hb (by omega) (fun hall M10 hr h0 f10 => ?_) (fun hall M10 h0 f10 => ?_)
  rotate_left
  · exact ⟨fun _ => hB m rfl hV (Or.inl hall) M10 (tt' f10 h0) (wt' f10) f10, fun z => absurd rfl z⟩
  refine ⟨fun z => absurd z (by decide), fun _ => ?_⟩
  refine s_X6_isRowWord (wt' f10) ok hr (by omega) (fun j hj => lcv_lt (hall j hj)) (fun w hw hs => ?_) (fun hs => ?_)
  · exact ⟨fun z => absurd z (by decide), fun _ => hB m rfl hV (Or.inr ⟨w, hw, hs⟩) M10 (tt' f10 h0) (wt' f10) f10⟩
  refine ⟨fun _ => ?_, fun z => absurd rfl z⟩
  have S0 := f10.mono (T := STW) fun r k q => by unfold SRow at q; unfold STW; omega
  refine pk_loop (fun j i M' => m_X6_word_l70 (nI m) (nI kk) (nI gg) Q j (nI i) M') (fun i M' => Fr STW M M' ∧ (∀ r j, ¬ (r = 5446) → wI M' r j = wI M10 r j) ∧ (∀ r j, (∀ k, k < m → j ≠ 8 * sN σ + k) → wI M' r j = wI M10 r j) ∧ ∀ k, k < i → wI M' 5446 (8 * sN σ + k) = nI (ltr tp k)) m 0 M10 (by omega) ⟨S0, fun _ _ _ => rfl, fun _ _ _ => rfl, fun k hk => absurd hk (by omega)⟩ ?_ ?_
  · intro j M' ⟨q1, q2, q3, q4⟩
    have n' : wI M' 5444 0 = nI (sN σ) := by rw [q2 _ _ (by omega)]; exact (wt' f10).1
    refine ⟨fun _ => ?_, fun z => absurd (Int32.le_refl _) z⟩
    rw [n', nI_clamp (by omega)]
    refine ⟨pk_in (sN σ) 40 (by omega), fun M3 e3 => ?_⟩
    have n3 : wI M3 5444 0 = nI (sN σ) := by rw [e3, wI_n _ _ (by omega)]; exact n'
    rw [n3, nI_clamp (by omega)]
    refine ⟨pk_in (sN σ) 40 (by omega), fun M5 e5 => ?_⟩
    have n5 : wI M5 5444 0 = nI (sN σ) := by rw [e5, wI_n _ _ (by omega)]; exact n3
    rw [n5, nI_clamp (by omega)]
    refine ⟨pk_in (sN σ) 40 (by omega), fun M7 e7 => ?_⟩
    have n7 : wI M7 5444 0 = nI (sN σ) := by rw [e7, wI_n _ _ (by omega)]; exact n5
    rw [n7, nI_clamp (by omega), zb_0]
    refine ⟨pk_in (sN σ) 40 (by omega), fun M9 e9 M22 e22 => ?_⟩
    have n9 : wI M9 5444 0 = nI (sN σ) := by rw [e9, wI_n _ _ (by omega)]; exact n7
    rw [n9, show (1 : Int32) = nI 1 from rfl, nI_add] at e22
    have n22 : wI M22 5444 0 = nI (sN σ + 1) := by rw [e22, wI_s]
    have er : wI M22 5444 0 - 1 = nI (sN σ) := by rw [n22]; exact nI_pred _
    rw [er]
    have rd : ∀ {r j}, ¬ (r = 5445) → ¬ (r = 5447) → ¬ (r = 5448) → ¬ (r = 5449) → ¬ (r = 5444 ∧ j = 0) → wI M22 r j = wI M' r j := fun h1 h2 h3 h4 h5 => by
      rw [e22, wI_n _ _ (by omega), e9, wI_n _ _ (by omega), e7, wI_n _ _ (by omega), e5, wI_n _ _ (by omega), e3, wI_n _ _ (by omega)]
    have rw_ : ∀ {r j}, j ≠ sN σ → ¬ (r = 5444) → wI M22 r j = wI M' r j := fun h1 h2 => by
      rw [e22, wI_n _ _ (by omega), e9, wI_n _ _ (by omega), e7, wI_n _ _ (by omega), e5, wI_n _ _ (by omega), e3, wI_n _ _ (by omega)]
    have g22 : Fr STW M M22 := by
      rw [e22, e9, e7, e5, e3]
      exact ((((q1.PI (Or.inr (by omega))).PI (Or.inr (by omega))).PI (Or.inr (by omega))).PI (Or.inr (by omega))).PI (Or.inl ⟨rfl, Or.inl rfl⟩)
    refine hC m kk gg rfl rfl rfl hV hall hs M22 ⟨fun j => ?_, ?_⟩ ⟨n22, fun w hw => ?_, ?_⟩ g22
    · rw [rd (by omega) (by omega) (by omega) (by omega) (by omega), q2 _ _ (by omega)]; exact (tt' f10 h0).1 j
    · rw [rd (by omega) (by omega) (by omega) (by omega) (by omega), q2 _ _ (by omega)]; exact h0
    · have hw : w < sN σ + 1 := hw
      by_cases e : w = sN σ
      · subst e
        refine ⟨?_, fun j hj => ?_, ?_, ?_, ?_⟩
        · rw [e22, wI_n _ _ (by omega), e9, wI_n _ _ (by omega), e7, wI_n _ _ (by omega), e5, wI_n _ _ (by omega), e3, wI_s]; exact congrArg nI (if_pos rfl).symm
        · have e1 : sLen (addW σ m (ltr tp) kk gg) (sN σ) = m := if_pos rfl
          have e2 : sLet (addW σ m (ltr tp) kk gg) (sN σ) = ltr tp := if_pos rfl
          rw [e1] at hj
          rw [e2, rd (by omega) (by omega) (by omega) (by omega) (by omega)]
          exact q4 j hj
        · rw [e22, wI_n _ _ (by omega), e9, wI_n _ _ (by omega), e7, wI_n _ _ (by omega), e5, wI_s]; exact congrArg nI (if_pos rfl).symm
        · rw [e22, wI_n _ _ (by omega), e9, wI_n _ _ (by omega), e7, wI_s]; exact congrArg nI (if_pos rfl).symm
        · rw [e22, wI_n _ _ (by omega), e9, wI_s]; exact ((b2i_0 _).mpr (show sBar (addW σ m (ltr tp) kk gg) (sN σ) = false from if_pos rfl)).symm
      · obtain ⟨p1, p2, p3, p4, p5⟩ := (wt' f10).2.1 w (by omega)
        have e1 : sLen (addW σ m (ltr tp) kk gg) w = sLen σ w := if_neg e
        have e2 : sLet (addW σ m (ltr tp) kk gg) w = sLet σ w := if_neg e
        have e3 : sKn (addW σ m (ltr tp) kk gg) w = sKn σ w := if_neg e
        have e4 : sTg (addW σ m (ltr tp) kk gg) w = sTg σ w := if_neg e
        have e5 : sBar (addW σ m (ltr tp) kk gg) w = sBar σ w := if_neg e
        rw [e1, e2, e3, e4, e5]
        refine ⟨?_, fun j hj => ?_, ?_, ?_, ?_⟩
        · rw [rw_ e (by omega), q2 _ _ (by omega)]; exact p1
        · have := (ok.2.1 w (by omega)).2.1
          rw [rd (by omega) (by omega) (by omega) (by omega) (by omega), q3 _ _ (fun k hk => by omega)]; exact p2 j hj
        · rw [rw_ e (by omega), q2 _ _ (by omega)]; exact p3
        · rw [rw_ e (by omega), q2 _ _ (by omega)]; exact p4
        · rw [rw_ e (by omega), q2 _ _ (by omega)]; exact p5
    · rw [rd (by omega) (by omega) (by omega) (by omega) (by omega), q2 _ _ (by omega)]; exact (wt' f10).2.2
  · intro j i M' hi ⟨q1, q2, q3, q4⟩ ih
    have n' : wI M' 5444 0 = nI (sN σ) := by rw [q2 _ _ (by omega)]; exact (wt' f10).1
    have e8 : (8 : Int32) * nI (sN σ) + nI i = nI (8 * sN σ + i) := by rw [nl, pk_mul, nI_add]
    refine ⟨fun z => absurd z (nI_ge hi (by omega)), fun _ => ⟨pk_in i 12 (by omega), ?_⟩⟩
    rw [n', e8, nI_clamp (by omega), nI_clamp (by omega), q2 _ _ (by omega), hr.2 i hi]
    refine ⟨pk_in (8 * sN σ + i) 320 (by omega), fun M13 e13 z ez => ?_⟩
    subst ez
    rw [nI_1]
    refine ih M13 ⟨by rw [e13]; exact q1.PI (Or.inr (by omega)), fun r j hr2 => by rw [e13, wI_n _ _ (by omega)]; exact q2 r j hr2, fun r j hj => by rw [e13, wI_n _ _ (by intro z; exact hj i hi z.2)]; exact q3 r j hj, fun k hk => ?_⟩
    rw [e13, wI_PI]
    by_cases e : k = i
    · rw [if_pos ⟨rfl, by rw [e]⟩, e]; rfl
    · rw [if_neg (by omega)]; exact q4 k (by omega)
