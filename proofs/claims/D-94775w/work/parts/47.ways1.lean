/-! LetterHeaps' side: the first matrix, who is reached at once -/
def RcI (σ : WS) (a : Nat) (M : WM) : Prop := wJ M 173 a = if used σ a = true then bitL a else 0
def SW0 (r _k : Nat) : Prop := 133 ≤ r ∧ r ≤ 173
theorem s_X0_lays60 {σ : WS} {lm : Lam} {M : WM} {Q : WM → Prop} (hW : WC σ M) (ok : wsOK σ) (hS : StB σ lm M) (h : ∀ M', WaC (sN σ) (dmx (wgt σ lm 100) (used σ) 0) M' → (∀ a, a < sN σ → RcI σ a M') → Fr SW0 M M' → ∃ n0, m_X0_lays_l169 Q n0 0 M') : ∃ n0, m_X0_lays_l60 Q n0 0 M := by
  have hs := ok.1
  have sb : ∀ {M'}, Fr SW0 M M' → StB σ lm M' := fun f a b h1 h2 => (hS a b h1 h2).fr f (by unfold SW0; omega)
  refine pk_loop (fun k a M' => m_X0_lays_l60 Q k (nI a) M') (fun a M' => Fr SW0 M M' ∧ (∀ a' b, a' < a → b < sN σ → wI M' (133 + a') b = fI 268435456 (dmx (wgt σ lm 100) (used σ) 0 a' b)) ∧ ∀ a', a' < a → RcI σ a' M') (sN σ) 0 M (by omega) ⟨Fr.rf, fun a b h => absurd h (by omega), fun a h => absurd h (by omega)⟩ ?_ ?_
  · intro k M' ⟨q1, q2, q3⟩
    unfold m_X0_lays_l60
    rw [(hW.fr ok q1 (by unfold SW0 PWC; omega)).1]
    exact ⟨fun _ => h M' q2 q3 q1, fun z => absurd (Int32.le_refl _) z⟩
  · intro k a M' ha ⟨q1, q2, q3⟩ ih
    have w' : WC σ M' := hW.fr ok q1 (by unfold SW0 PWC; omega)
    unfold m_X0_lays_l60
    rw [w'.1]
    have go : ∀ M5, (∃ v, M5 = wPJ M' 173 a v ∧ v = if used σ a = true then bitL a else 0) → ∃ n0, m_X0_lays_l91 (fun x1' M' => m_X0_lays_l60 Q k x1' M') (nI a) Q n0 0 M5 := fun M5 ⟨v, e5, ev⟩ => by
      have f5 : Fr SW0 M M5 := by rw [e5]; exact q1.PJ (by unfold SW0; omega)
      have i5 : ∀ r j, wI M5 r j = wI M' r j := fun r j => by rw [e5]; rfl
      have r5 : ∀ a', a' < a + 1 → RcI σ a' M5 := fun a' h1 => by
        unfold RcI
        rw [e5, wJ_PJ]
        by_cases e : a' = a
        · rw [if_pos ⟨rfl, e⟩, ev, e]
        · rw [if_neg (fun z => e z.2)]; exact q3 a' (by omega)
      refine pk_loop (fun k' b M3 => m_X0_lays_l91 (fun x1' M' => m_X0_lays_l60 Q k x1' M') (nI a) Q k' (nI b) M3) (fun b M3 => Fr SW0 M M3 ∧ (∀ a' b, a' < a → b < sN σ → wI M3 (133 + a') b = fI 268435456 (dmx (wgt σ lm 100) (used σ) 0 a' b)) ∧ (∀ b', b' < b → wI M3 (133 + a) b' = fI 268435456 (dmx (wgt σ lm 100) (used σ) 0 a b')) ∧ ∀ a', a' < a + 1 → RcI σ a' M3) (sN σ) 0 M5 (by omega) ⟨f5, fun a' b h1 h2 => by rw [i5]; exact q2 a' b h1 h2, fun b h => absurd h (by omega), r5⟩ ?_ ?_
      · intro k' M3 ⟨p1, p2, p3, p4⟩
        unfold m_X0_lays_l91
        rw [(hW.fr ok p1 (by unfold SW0 PWC; omega)).1]
        refine ⟨fun _ z ez => ?_, fun z => absurd (Int32.le_refl _) z⟩
        rw [ez, nI_1]
        refine ih M3 ⟨p1, fun a' b h1 h2 => ?_, p4⟩
        by_cases e : a' = a
        · rw [e]; exact p3 b h2
        · exact p2 a' b (by omega) h2
      · intro k' b M3 hb ⟨p1, p2, p3, p4⟩ ih2
        have w3 : WC σ M3 := hW.fr ok p1 (by unfold SW0 PWC; omega)
        have S3 := sb p1 a b ha hb
        have fin : ∀ v, v = fI 268435456 (if a = b ∧ used σ a = true then some 0 else wgt σ lm 100 a b) → ∀ M7, M7 = wPI M3 (133 + a) b v → ∀ z : Int32, z = nI b + 1 → m_X0_lays_l91 (fun x1' M' => m_X0_lays_l60 Q k x1' M') (nI a) Q k' z M7 := fun v ev M7 e7 z ez => by
          rw [ez, nI_1]
          refine ih2 M7 ⟨by rw [e7]; exact p1.PI (by unfold SW0; omega), fun a' b' h1 h2 => by rw [e7, wI_n _ _ (by omega)]; exact p2 a' b' h1 h2, fun b' hb' => ?_, fun a' h1 => by have := p4 a' h1; unfold RcI at this ⊢; rw [e7]; exact this⟩
          rw [e7]
          by_cases e : b' = b
          · rw [e, wI_s, ev]; rfl
          · rw [wI_n _ _ (by omega)]; exact p3 b' (by omega)
        unfold m_X0_lays_l91
        rw [w3.1, nI_clamp (show a < 2 ^ 31 by omega)]
        have j123 : ¬ (a = b ∧ used σ a = true) → m_X0_lays_j123 (fun x1' M' => m_X0_lays_l60 Q k x1' M') (fun x2' M' => m_X0_lays_l91 (fun x1' M' => m_X0_lays_l60 Q k x1' M') (nI a) Q k' x2' M') (nI a) (nI b) (nI b) (133 + a) Q M3 := fun hn => by
          unfold m_X0_lays_j123
          rw [nI_clamp (show a < 2 ^ 31 by omega), nI_clamp (show b < 2 ^ 31 by omega), S3.1]
          refine ⟨vin (by omega), vin (by omega), ?_⟩
          cases e : stp σ lm a b with
          | none =>
            have hw : wgt σ lm 100 a b = none := by unfold wgt; rw [if_pos ⟨ha, hb⟩, e]
            exact ⟨fun _ => ⟨vin (by omega), fin _ (by rw [if_neg hn, hw]; rfl)⟩, fun z => absurd rfl z⟩
          | some q =>
            obtain ⟨c, kk, i⟩ := q
            have hc := (S3.2 c kk i e).1
            have hw : wgt σ lm 100 a b = some (100 * c + 1) := by unfold wgt; rw [if_pos ⟨ha, hb⟩, e]
            refine pk_eq c 268435456 (fun z => absurd z (by omega)) (fun _ => ⟨vin (by omega), vin (by omega), vin (by omega), fun z7 e7 => fin _ ?_⟩) rfl rfl
            rw [e7, if_neg hn, hw]
            show (100 : Int32) * nI c + 1 = _
            rw [show (100 : Int32) = nI 100 from rfl, pk_mul, nI_1]; rfl
        refine ⟨fun z => absurd z (nI_ge hb (by omega)), fun _ => ⟨vin (by omega), pk_eq a b (fun c => s_X0_isUsed w3 ok ha (bcs (fun e => ⟨vin (by omega), fun M7 e7 => ?_⟩) (fun e => j123 fun q => by rw [q.2] at e; cases e))) (fun c => j123 fun q => c q.1) rfl rfl⟩⟩
        rw [nI_clamp (by omega)] at e7
        exact fin 0 (by rw [if_pos ⟨c, e⟩]; rfl) M7 e7
    refine ⟨fun z => absurd z (nI_ge ha (by omega)), fun _ => s_X0_isUsed w' ok ha (bcs (fun e => ⟨vin (by omega), fun M7 e7 => go M7 ?_⟩) (fun e => ⟨vin (by omega), fun M5 e5 => go M5 ?_⟩))⟩
    · rw [nI_clamp (by omega)] at e7
      exact ⟨_, e7, by rw [if_pos e]; rfl⟩
    · rw [nI_clamp (by omega)] at e5
      exact ⟨_, e5, by rw [e]; rfl⟩
