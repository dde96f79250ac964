/-! LetterHeaps' side: all steps laid out -/
def StB (σ : WS) (lm : Lam) (M : WM) : Prop := ∀ a b, a < sN σ → b < sN σ → StC (stp σ lm a b) a b M
def SLA (r k : Nat) : Prop := (10 ≤ r ∧ r < 133) ∨ r = 174 ∨ (r = 0 ∧ k = 10)
theorem StC.fr {S : Nat → Nat → Prop} {s : Stt} {a b : Nat} {M M' : WM} (g : StC s a b M) (f : Fr S M M') (hS : ∀ r k, S r k → ¬ ((r = 10 + a ∨ r = 51 + a ∨ r = 92 + a) ∧ k = b)) : StC s a b M' := ⟨by rw [f.I fun z => hS _ _ z ⟨Or.inl rfl, rfl⟩]; exact g.1, fun c k i e => by
  obtain ⟨x, y, z⟩ := g.2 c k i e
  exact ⟨x, by rw [f.I fun z => hS _ _ z ⟨Or.inr (Or.inl rfl), rfl⟩]; exact y, by rw [f.I fun z => hS _ _ z ⟨Or.inr (Or.inr rfl), rfl⟩]; exact z⟩⟩
theorem s_X0_lays22 {σ : WS} {lm : Lam} {M : WM} {Q : WM → Prop} (hW : WC σ M) (ok : wsOK σ) (hl : LawC lm M) (lo : lamOK lm) (h : ∀ M', StB σ lm M' → Fr SLA M M' → ∃ n0, m_X0_lays_l60 Q n0 0 M') : ∃ n0, m_X0_lays_l22 Q n0 0 M := by
  have hs := ok.1
  refine pk_loop (fun k i M' => m_X0_lays_l22 Q k (nI i) M') (fun i M' => Fr SLA M M' ∧ ∀ a b, a < i → b < sN σ → StC (stp σ lm a b) a b M') (sN σ) 0 M (by omega) ⟨Fr.rf, fun a b h => absurd h (by omega)⟩ ?_ ?_
  · intro k M' ⟨q1, q2⟩
    unfold m_X0_lays_l22
    rw [(hW.fr ok q1 (by unfold SLA PWC; omega)).1]
    exact ⟨fun _ => h M' q2 q1, fun z => absurd (Int32.le_refl _) z⟩
  · intro k i M' hi ⟨q1, q2⟩ ih
    unfold m_X0_lays_l22
    rw [(hW.fr ok q1 (by unfold SLA PWC; omega)).1]
    refine ⟨fun z => absurd z (nI_ge hi (by omega)), fun _ => ?_⟩
    refine pk_loop (fun k' j M2 => m_X0_lays_l32 (fun x1' M' => m_X0_lays_l22 Q k x1' M') (nI i) Q k' (nI j) M2) (fun j M2 => Fr SLA M M2 ∧ (∀ a b, a < i → b < sN σ → StC (stp σ lm a b) a b M2) ∧ ∀ b, b < j → StC (stp σ lm i b) i b M2) (sN σ) 0 M' (by omega) ⟨q1, q2, fun b h => absurd h (by omega)⟩ ?_ ?_
    · intro k' M2 ⟨p1, p2, p3⟩
      unfold m_X0_lays_l32
      rw [(hW.fr ok p1 (by unfold SLA PWC; omega)).1]
      refine ⟨fun _ z ez => ?_, fun z => absurd (Int32.le_refl _) z⟩
      rw [ez, nI_1]
      refine ih M2 ⟨p1, fun a b h1 h2 => ?_⟩
      by_cases e : a = i
      · rw [e]; exact p3 b h2
      · exact p2 a b (by omega) h2
    · intro k' j M2 hj ⟨p1, p2, p3⟩ ih2
      have w2 : WC σ M2 := hW.fr ok p1 (by unfold SLA PWC; omega)
      unfold m_X0_lays_l32
      rw [w2.1]
      refine ⟨fun z => absurd z (nI_ge hj (by omega)), fun _ => s_X0_laysStep w2 ok (hl.mv (p1.law (by unfold SLA LR; omega))) lo hi hj fun M4 S4 f4 z ez => ?_⟩
      rw [ez, nI_1]
      refine ih2 M4 ⟨p1.tr (f4.mono fun r k q => by unfold SLS STR at q; unfold SLA; omega), fun a b h1 h2 => (p2 a b h1 h2).fr f4 (by unfold SLS STR; omega), fun b hb => ?_⟩
      by_cases e : b = j
      · rw [e]; exact S4
      · exact (p3 b (by omega)).fr f4 (by unfold SLS STR; omega)
