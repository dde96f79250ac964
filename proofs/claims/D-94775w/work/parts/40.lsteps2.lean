/-! all steps, the model's side -/
def StT (s : Stt) (a b : Nat) (M : WM) : Prop := wI M 5465 (40 * a + b) = stc 1000000000 s ∧ (∀ c k i, s = some (c, k, i) → c < 100 ∧ wI M 5466 (40 * a + b) = nI k ∧ wI M 5467 (40 * a + b) = nI i)
def STS (a b r k : Nat) : Prop := r = 5463 ∨ r = 5464 ∨ ((r = 5465 ∨ r = 5466 ∨ r = 5467) ∧ k = 40 * a + b)
def stK (σ : WS) (lm : Lam) (a b : Nat) : Nat → Stt
  | 0 => none
  | m + 1 => stI σ lm a b m 9 (stK σ lm a b m)
theorem stK_4 (σ : WS) (lm : Lam) (a b : Nat) : stK σ lm a b 4 = stP σ lm a b := rfl
theorem s_X6_laysStep {σ : WS} {lm : Lam} {M : WM} {a b : Nat} {Q : WM → Prop} (hW : WT σ M) (ok : wsOK σ) (hl : LawT lm M) (lo : lamOK lm) (ha : a < sN σ) (hb : b < sN σ) (h : ∀ M', StT (stP σ lm a b) a b M' → Fr (STS a b) M M' → Q M') : m_X6_laysStep (nI a) (nI b) M Q := by
  have hs := ok.1
  intro z1 e1
  rw [show (40 : Int32) = nI 40 from rfl, pk_mul, nI_add] at e1
  subst e1
  refine ⟨vin (by omega), fun M3 e3 => ?_⟩
  rw [nI_clamp (by omega)] at e3
  have f3 : Fr (STS a b) M M3 := by rw [e3]; exact Fr.rf.PI (Or.inr (Or.inr ⟨Or.inl rfl, rfl⟩))
  have S3 : StT none a b M3 := ⟨by rw [e3, wI_s]; rfl, fun c k i e => by cases e⟩
  refine pk_loop (fun k m M' => m_X6_laysStep_l18 (nI a) (nI b) (nI (40 * a + b)) Q k (nI m) M') (fun m M' => Fr (STS a b) M M' ∧ StT (stK σ lm a b m) a b M') 4 0 M3 (by omega) ⟨f3, S3⟩ ?_ ?_
  · intro k M' ⟨q1, q2⟩
    exact ⟨fun _ => h M' q2 q1, fun z => absurd (Int32.le_refl _) z⟩
  · intro k m M' hm ⟨q1, q2⟩ ih
    refine ⟨fun z => absurd z (nI_ge (b := 4) hm (by omega)), fun _ => ?_⟩
    refine pk_loop (fun k' i M2 => m_X6_laysStep_l27 (fun x4' M' => m_X6_laysStep_l18 (nI a) (nI b) (nI (40 * a + b)) Q k x4' M') (nI a) (nI b) (nI (40 * a + b)) (nI m) Q k' (nI i) M2) (fun i M2 => Fr (STS a b) M M2 ∧ StT (stI σ lm a b m i (stK σ lm a b m)) a b M2) 9 0 M' (by omega) ⟨q1, q2⟩ ?_ ?_
    · intro k' M2 ⟨p1, p2⟩
      refine ⟨fun _ z ez => ?_, fun z => absurd (Int32.le_refl _) z⟩
      rw [ez, nI_1]
      exact ih M2 ⟨p1, p2⟩
    · intro k' i M2 hi ⟨p1, p2⟩ ih2
      have w2 : WT σ M2 := hW.fr p1 (by unfold STS PWT; omega)
      refine ⟨fun z => absurd z (nI_ge (b := 9) hi (by omega)), fun _ => s_X6_isChange w2 ok ha hb hm hi (bcs (fun hc => ?_) (fun hc z ez => ?_))⟩
      · obtain ⟨c1, c2, c3⟩ := chg_in hc hm
        refine s_X6_feels w2 ok ha hb hm c1 c2 c3 fun M6 h6 f6 => ?_
        have l6 : LawT lm M6 := hl.mv ((p1.lt (by unfold STS; omega)).tr (f6.lt (by omega)))
        refine l6 M6 ⟨rfl, fun _ _ _ => rfl⟩ _ h6 _ fun M8 f8 => ⟨vin (by omega), ?_⟩
        have F8 : Fr (STS a b) M M8 := (p1.tr (f6.mono fun r k q => Or.inr (Or.inl q))).tr (f8.mono fun r k q => Or.inl q)
        have P8 : StT (stI σ lm a b m i (stK σ lm a b m)) a b M8 := ⟨by rw [f8.I (by omega), f6.I (by omega)]; exact p2.1, fun c k i e => by
          obtain ⟨x, y, z⟩ := p2.2 c k i e
          exact ⟨x, by rw [f8.I (by omega), f6.I (by omega)]; exact y, by rw [f8.I (by omega), f6.I (by omega)]; exact z⟩⟩
        have ih2 := fun M9 (g : Fr (STS a b) M M9 ∧ StT (tr lm (fct σ a b m i) m i (stI σ lm a b m i (stK σ lm a b m))) a b M9) => ih2 M9 (by rw [stI, if_pos hc]; exact g)
        generalize stI σ lm a b m i (stK σ lm a b m) = s at P8 ih2
        rw [nI_clamp (by omega), P8.1]
        cases el : lm (fct σ a b m i) with
        | none =>
          have et : tr lm (fct σ a b m i) m i s = s := by unfold tr; rw [el]
          rw [et] at ih2
          refine ⟨fun z => ?_, fun _ z ez => by rw [ez, nI_1]; exact ih2 M8 ⟨F8, P8⟩⟩
          cases es : s with
          | none => rw [es] at z; exact absurd z (by decide)
          | some q =>
            obtain ⟨c0, k0, i0⟩ := q
            have := (P8.2 c0 k0 i0 es).1
            rw [es] at z
            exact absurd z (nI_nlt (a := 1000000000) (b := c0) (by omega) (by omega))
        | some c =>
          obtain ⟨d1, d2⟩ := lo _ _ el
          have put : tr lm (fct σ a b m i) m i s = some (c, m, i) → (vp_in (nI (40 * a + b)) 1600 ∧ (∀ M12 : WM, M12 = wPI M8 5465 (40 * a + b) (nI c) → (vp_in (nI (40 * a + b)) 1600 ∧ (∀ M14 : WM, M14 = wPI M12 5466 (40 * a + b) (nI m) → (vp_in (nI (40 * a + b)) 1600 ∧ (∀ M16 : WM, M16 = wPI M14 5467 (40 * a + b) (nI i) → (∀ z17 : Int32, z17 = nI i + (1 : Int32) → m_X6_laysStep_l27 (fun x4' M' => m_X6_laysStep_l18 (nI a) (nI b) (nI (40 * a + b)) Q k x4' M') (nI a) (nI b) (nI (40 * a + b)) (nI m) Q k' z17 M16))))))) := fun et => by
            refine ⟨vin (by omega), fun M12 e12 => ⟨vin (by omega), fun M14 e14 => ⟨vin (by omega), fun M16 e16 z ez => ?_⟩⟩⟩
            rw [et] at ih2
            rw [ez, nI_1]
            refine ih2 M16 ⟨by rw [e16, e14, e12]; exact ((F8.PI (Or.inr (Or.inr ⟨Or.inl rfl, rfl⟩))).PI (Or.inr (Or.inr ⟨Or.inr (Or.inl rfl), rfl⟩))).PI (Or.inr (Or.inr ⟨Or.inr (Or.inr rfl), rfl⟩)), by rw [e16, wI_n _ _ (by omega), e14, wI_n _ _ (by omega), e12, wI_s]; rfl, fun c' k' i' e => ?_⟩
            cases e
            exact ⟨by omega, by rw [e16, wI_n _ _ (by omega), e14, wI_s], by rw [e16, wI_s]⟩
          cases es : s with
          | none => exact ⟨fun _ => put (by unfold tr; rw [el, es]), fun z => absurd (nI_lt (a := c) (b := 1000000000) (by omega) (by omega)) z⟩
          | some q =>
            obtain ⟨c0, k0, i0⟩ := q
            have := (P8.2 c0 k0 i0 es).1
            have et : tr lm (fct σ a b m i) m i s = if c < c0 then some (c, m, i) else some (c0, k0, i0) := by unfold tr; rw [el, es]
            refine pk_lt c c0 (fun q => put (by rw [et, if_pos q])) (fun q z ez => ?_) rfl rfl
            rw [et, if_neg (by omega), ← es] at ih2
            rw [ez, nI_1]; exact ih2 M8 ⟨F8, P8⟩
      · rw [ez, nI_1]
        exact ih2 M2 ⟨p1, by rw [stI, hc, if_neg (by decide)]; exact p2⟩
def StA (σ : WS) (lm : Lam) (M : WM) : Prop := ∀ a b, a < sN σ → b < sN σ → StT (stp σ lm a b) a b M
def STA (r _k : Nat) : Prop := 5463 ≤ r ∧ r ≤ 5467
theorem StT.fr {S : Nat → Nat → Prop} {s : Stt} {a b : Nat} {M M' : WM} (g : StT s a b M) (f : Fr S M M') (hS : ∀ r k, S r k → ¬ ((r = 5465 ∨ r = 5466 ∨ r = 5467) ∧ k = 40 * a + b)) : StT s a b M' := ⟨by rw [f.I fun z => hS _ _ z ⟨Or.inl rfl, rfl⟩]; exact g.1, fun c k i e => by
  obtain ⟨x, y, z⟩ := g.2 c k i e
  exact ⟨x, by rw [f.I fun z => hS _ _ z ⟨Or.inr (Or.inl rfl), rfl⟩]; exact y, by rw [f.I fun z => hS _ _ z ⟨Or.inr (Or.inr rfl), rfl⟩]; exact z⟩⟩
theorem stP_no {σ : WS} {lm : Lam} {a b : Nat} (h : sLen σ a + 1 < sLen σ b ∨ sLen σ b + 1 < sLen σ a) : stP σ lm a b = none := by
  unfold stP
  rw [stI_no (kind := 3) fun i _ => bno fun q => by have := (chg3.mp q).1; omega, stI_no (kind := 2) fun i _ => bno fun q => by have := (chg2.mp q).1; omega, stI_no (kind := 1) fun i _ => bno fun q => by have := (chg1.mp q).1; omega, stI_no (kind := 0) fun i _ => bno fun q => by have := (chg0.mp q).1; omega]
theorem s_X6_mayNear {σ : WS} {M : WM} {a b : Nat} {Q : Int32 → Prop} (hW : WT σ M) (ok : wsOK σ) (ha : a < sN σ) (hb : b < sN σ) (h1 : Q 1) (h0 : (sLen σ a + 1 < sLen σ b ∨ sLen σ b + 1 < sLen σ a) → Q 0) : m_X6_mayNear (nI a) (nI b) M Q := by
  have hs := ok.1
  have a2 := (ok.2.1 a ha).2.1
  have b2 := (ok.2.1 b hb).2.1
  unfold m_X6_mayNear
  rw [nI_clamp (by omega), nI_clamp (by omega), (hW.2.1 a ha).1, (hW.2.1 b hb).1, i_le, i_le, pk_sub_toInt (by omega) (by omega), pk_sub_toInt (by omega) (by omega), show (2 : Int32).toInt = 2 by decide]
  exact ⟨vin (by omega), vin (by omega), fun c => h0 (by omega), fun c => ⟨vin (by omega), vin (by omega), fun c2 => h0 (by omega), fun _ => h1⟩⟩
theorem s_X6_laysSteps {σ : WS} {lm : Lam} {M : WM} {Q : WM → Prop} (hW : WT σ M) (ok : wsOK σ) (hl : LawT lm M) (lo : lamOK lm) (h : ∀ M', StA σ lm M' → Fr STA M M' → Q M') : m_X6_laysSteps M Q := by
  have hs := ok.1
  refine pk_loop (fun k i M' => m_X6_laysSteps_l2 Q k (nI i) M') (fun i M' => Fr STA M M' ∧ ∀ a b, a < i → b < sN σ → StT (stp σ lm a b) a b M') (sN σ) 0 M (by omega) ⟨Fr.rf, fun a b h => absurd h (by omega)⟩ ?_ ?_
  · intro k M' ⟨q1, q2⟩
    unfold m_X6_laysSteps_l2
    rw [(hW.fr q1 (by unfold STA PWT; omega)).1]
    exact ⟨fun _ => h M' q2 q1, fun z => absurd (Int32.le_refl _) z⟩
  · intro k i M' hi ⟨q1, q2⟩ ih
    unfold m_X6_laysSteps_l2
    rw [(hW.fr q1 (by unfold STA PWT; omega)).1]
    refine ⟨fun z => absurd z (nI_ge hi (by omega)), fun _ => ?_⟩
    refine pk_loop (fun k' j M2 => m_X6_laysSteps_l12 (fun x1' M' => m_X6_laysSteps_l2 Q k x1' M') (nI i) Q k' (nI j) M2) (fun j M2 => Fr STA M M2 ∧ (∀ a b, a < i → b < sN σ → StT (stp σ lm a b) a b M2) ∧ ∀ b, b < j → StT (stp σ lm i b) i b M2) (sN σ) 0 M' (by omega) ⟨q1, q2, fun b h => absurd h (by omega)⟩ ?_ ?_
    · intro k' M2 ⟨p1, p2, p3⟩
      unfold m_X6_laysSteps_l12
      rw [(hW.fr p1 (by unfold STA PWT; omega)).1]
      refine ⟨fun _ z ez => ?_, fun z => absurd (Int32.le_refl _) z⟩
      rw [ez, nI_1]
      refine ih M2 ⟨p1, fun a b h1 h2 => ?_⟩
      by_cases e : a = i
      · rw [e]; exact p3 b h2
      · exact p2 a b (by omega) h2
    · intro k' j M2 hj ⟨p1, p2, p3⟩ ih2
      unfold m_X6_laysSteps_l12
      rw [(hW.fr p1 (by unfold STA PWT; omega)).1, show (40 : Int32) = nI 40 from rfl, pk_mul, nI_add, nI_clamp (by omega)]
      refine ⟨fun z => absurd z (nI_ge hj (by omega)), fun _ => ⟨vin (by omega), fun M4 e4 => ?_⟩⟩
      have f24 : Fr (STS i j) M2 M4 := by rw [e4]; exact Fr.rf.PI (Or.inr (Or.inr ⟨Or.inl rfl, rfl⟩))
      have S4 : StT none i j M4 := ⟨by rw [e4, wI_s]; rfl, fun c k i e => by cases e⟩
      have up : ∀ {A B : WM}, Fr (STS i j) A B → Fr STA A B := fun f => f.mono fun r k q => by unfold STS at q; unfold STA; omega
      have w4 : WT σ M4 := hW.fr (p1.tr (up f24)) (by unfold STA PWT; omega)
      have fin : ∀ M5, Fr (STS i j) M2 M5 → StT (stp σ lm i j) i j M5 → ∀ z : Int32, z = nI j + 1 → m_X6_laysSteps_l12 (fun x1' M' => m_X6_laysSteps_l2 Q k x1' M') (nI i) Q k' z M5 := fun M5 f5 S5 z ez => by
        rw [ez, nI_1]
        refine ih2 M5 ⟨p1.tr (up f5), fun a b h1 h2 => (p2 a b h1 h2).fr f5 (by unfold STS; omega), fun b hb => ?_⟩
        by_cases e : b = j
        · rw [e]; exact S5
        · exact (p3 b (by omega)).fr f5 (by unfold STS; omega)
      have no : ¬ isU2 σ i j → ∀ z : Int32, z = nI j + 1 → m_X6_laysSteps_l12 (fun x1' M' => m_X6_laysSteps_l2 Q k x1' M') (nI i) Q k' z M4 := fun q => fin M4 f24 (by rw [stp, if_neg q]; exact S4)
      refine pk_eq i j (fun c => no fun q => q.1 c) (fun c => s_X6_isUsed w4 ok hi (bcs (fun e5 => s_X6_isUsed w4 ok hj (bcs (fun e6 => ?_) (fun e6 => no fun q => by rw [q.2.2] at e6; cases e6))) (fun e5 => no fun q => by rw [q.2.1] at e5; cases e5))) rfl rfl
      have hu : isU2 σ i j := ⟨c, e5, e6⟩
      refine s_X6_mayNear w4 ok hi hj (ie1 ?_) (fun q => ie0 (fin M4 f24 (by rw [stp, if_pos hu, stP_no q]; exact S4)))
      refine s_X6_laysStep w4 ok (hl.mv ((p1.tr (up f24)).lt (by unfold STA; omega))) lo hi hj fun M5 S5 f5 => ?_
      exact fin M5 (f24.tr f5) (by rw [stp, if_pos hu]; exact S5)
