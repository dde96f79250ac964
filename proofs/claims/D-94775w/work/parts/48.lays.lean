/-! LetterHeaps' side: all laid out, once a version -/
abbrev dEnd (σ : WS) (lm : Lam) (K : Nat) : Nat → Nat → Option Nat := dmx (wgt σ lm K) (used σ) (sN σ)
def RcC (σ : WS) (lm : Lam) (M : WM) : Prop := ∀ a, a < sN σ → ∀ x, x < 64 → lb (wJ M 173 a) x = (decide (x < sN σ) && (dEnd σ lm 100 a x).isSome)
def Laid (σ : WS) (lm : Lam) (M : WM) : Prop := StB σ lm M ∧ WaC (sN σ) (dEnd σ lm 100) M ∧ RcC σ lm M
def S173 (r _k : Nat) : Prop := r = 173
def rcA (σ : WS) (lm : Lam) (a b x : Nat) : Bool := (decide (x < b) && (dEnd σ lm 100 a x).isSome) || (decide (x = a) && used σ a)
theorem s_X0_lays258 {σ : WS} {lm : Lam} {M : WM} {Q : WM → Prop} (hW : WC σ M) (ok : wsOK σ) (lo : lamOK lm) (hA : WaC (sN σ) (dEnd σ lm 100) M) (hR : ∀ a, a < sN σ → RcI σ a M) (h : ∀ M', RcC σ lm M' → Fr S173 M M' → Q M') : ∃ n0, m_X0_lays_l258 Q n0 0 M := by
  have hs := ok.1
  have fx : ∀ {M'}, Fr S173 M M' → WC σ M' ∧ WaC (sN σ) (dEnd σ lm 100) M' := fun f => ⟨hW.fr ok f (by unfold S173 PWC; omega), fun a b h1 h2 => by rw [f.I (by unfold S173; omega)]; exact hA a b h1 h2⟩
  have ini : ∀ a, a < sN σ → ∀ x, x < 64 → ∀ M', RcI σ a M' → lb (wJ M' 173 a) x = rcA σ lm a 0 x := fun a ha x hx M' hr => by
    unfold RcI at hr
    unfold rcA
    rw [hr, decide_eq_false (show ¬ x < 0 by omega), Bool.false_and, Bool.false_or]
    cases used σ a with
    | true => rw [if_pos rfl, lb_bitL (by omega) hx, Bool.and_true]; exact decide_eq_decide.mpr ⟨fun z => z.symm, fun z => z.symm⟩
    | false => rw [if_neg (by decide), lb_0, Bool.and_false]
  have fini : ∀ a, a < sN σ → ∀ x, rcA σ lm a (sN σ) x = (decide (x < sN σ) && (dEnd σ lm 100 a x).isSome) := fun a ha x => by
    unfold rcA
    by_cases e : x = a
    · subst e
      cases hu : used σ x with
      | false => rw [Bool.and_false, Bool.or_false]
      | true =>
        have : dEnd σ lm 100 x x = some 0 := (dmx_ok (wgt σ lm 100) (used σ) (sN σ) x x).1 ⟨rfl, hu⟩
        rw [this, decide_eq_true ha]; rfl
    · rw [decide_eq_false e, Bool.false_and, Bool.or_false]
  refine pk_loop (fun k a M' => m_X0_lays_l258 Q k (nI a) M') (fun a M' => Fr S173 M M' ∧ (∀ a', a' < a → ∀ x, x < 64 → lb (wJ M' 173 a') x = rcA σ lm a' (sN σ) x) ∧ ∀ a', a ≤ a' → a' < sN σ → RcI σ a' M') (sN σ) 0 M (by omega) ⟨Fr.rf, fun a h => absurd h (by omega), fun a' _ h => hR a' h⟩ ?_ ?_
  · intro k M' ⟨q1, q2, q3⟩
    unfold m_X0_lays_l258
    rw [(fx q1).1.1]
    exact ⟨fun _ => h M' (fun a ha x hx => by rw [q2 a ha x hx]; exact fini a ha x) q1, fun z => absurd (Int32.le_refl _) z⟩
  · intro k a M' ha ⟨q1, q2, q3⟩ ih
    unfold m_X0_lays_l258
    rw [(fx q1).1.1]
    refine ⟨fun z => absurd z (nI_ge ha (by omega)), fun _ => ?_⟩
    refine pk_loop (fun k' b M3 => m_X0_lays_l268 (fun x1' M' => m_X0_lays_l258 Q k x1' M') (nI a) Q k' (nI b) M3) (fun b M3 => Fr S173 M M3 ∧ (∀ a', a' < a → ∀ x, x < 64 → lb (wJ M3 173 a') x = rcA σ lm a' (sN σ) x) ∧ (∀ a', a + 1 ≤ a' → a' < sN σ → RcI σ a' M3) ∧ ∀ x, x < 64 → lb (wJ M3 173 a) x = rcA σ lm a b x) (sN σ) 0 M' (by omega) ⟨q1, q2, fun a' h1 h2 => q3 a' (by omega) h2, fun x hx => ini a ha x hx M' (q3 a (Nat.le_refl _) ha)⟩ ?_ ?_
    · intro k' M3 ⟨p1, p2, p3, p4⟩
      unfold m_X0_lays_l268
      rw [(fx p1).1.1]
      refine ⟨fun _ z ez => ?_, fun z => absurd (Int32.le_refl _) z⟩
      rw [ez, nI_1]
      refine ih M3 ⟨p1, fun a' h1 x hx => ?_, p3⟩
      by_cases e : a' = a
      · rw [e]; exact p4 x hx
      · exact p2 a' (by omega) x hx
    · intro k' b M3 hb ⟨p1, p2, p3, p4⟩ ih2
      unfold m_X0_lays_l268
      rw [(fx p1).1.1, nI_clamp (show a < 2 ^ 31 by omega), nI_clamp (show b < 2 ^ 31 by omega), (fx p1).2 a b ha hb]
      have stp : ∀ v, (dEnd σ lm 100 a b).isSome = v → ∀ x, rcA σ lm a (b + 1) x = (rcA σ lm a b x || (decide (x = b) && v)) := fun v hv x => by
        unfold rcA
        by_cases e : x = b
        · subst e
          rw [hv, decide_eq_true (show x < x + 1 by omega), decide_eq_false (show ¬ x < x by omega), decide_eq_true (show x = x from rfl)]
          cases v <;> simp
        · rw [decide_eq_false e, show decide (x < b + 1) = decide (x < b) from decide_eq_decide.mpr (by omega)]; simp
      refine ⟨fun z => absurd z (nI_ge hb (by omega)), fun _ => ⟨vin (by omega), vin (by omega), ?_⟩⟩
      cases e : dEnd σ lm 100 a b with
      | none =>
        refine ⟨fun _ z ez => ?_, fun z => absurd (Int32.le_refl _) z⟩
        rw [ez, nI_1]
        exact ih2 M3 ⟨p1, p2, p3, fun x hx => by rw [stp false (by rw [e]; rfl) x, Bool.and_false, Bool.or_false]; exact p4 x hx⟩
      | some y =>
        have hy := dmx_b wgt_ok hs (wgt_B lo (K := 100) (by omega)) e
        refine pk_le 268435456 y (fun c => absurd c (by omega)) (fun _ => ⟨vin (by omega), vin (by omega), fun M9 e9 z ez => ?_⟩) rfl rfl
        rw [ez, nI_1]
        refine ih2 M9 ⟨by rw [e9]; exact p1.PJ rfl, fun a' h1 x hx => ?_, fun a' h1 h2 => ?_, fun x hx => ?_⟩
        · rw [e9, wJ_PJ, if_neg (by omega)]; exact p2 a' h1 x hx
        · have := p3 a' h1 h2
          unfold RcI at this ⊢
          rw [e9, wJ_PJ, if_neg (by omega)]; exact this
        · rw [e9, wJ_PJ, if_pos ⟨rfl, rfl⟩, stp true (by rw [e]; rfl) x, show (1 : Int64) <<< ((nI b).toInt64 &&& 63) = bitL b from rfl, lb_or, p4 x hx, lb_bitL (by omega) hx, Bool.and_true]
          congr 1; exact decide_eq_decide.mpr ⟨fun z => z.symm, fun z => z.symm⟩
