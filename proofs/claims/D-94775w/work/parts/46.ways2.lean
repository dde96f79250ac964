/-! the model's ways, laid out -/
def wgt (σ : WS) (lm : Lam) (K : Nat) : EW := fun a b => if a < sN σ ∧ b < sN σ then (match stp σ lm a b with
  | none => none
  | some (c, _, _) => some (K * c + 1)) else none
def stOK (s : Stt) : Prop := ∀ c k i, s = some (c, k, i) → 1 ≤ c ∧ c ≤ 99
theorem tr_ok {lm : Lam} (lo : lamOK lm) {F : Nat → Int32} {kind i : Nat} {s : Stt} (h : stOK s) : stOK (tr lm F kind i s) := fun c k j e => by
  unfold tr at e
  cases el : lm F with
  | none => rw [el] at e; exact h c k j e
  | some c1 =>
    rw [el] at e
    have hc := lo _ _ el
    cases es : s with
    | none => rw [es] at e; cases e; exact hc
    | some q =>
      obtain ⟨c0, k0, i0⟩ := q
      rw [es] at e
      have e : (if c1 < c0 then some (c1, kind, i) else some (c0, k0, i0)) = some (c, k, j) := e
      split at e
      · cases e; exact hc
      · cases e; exact h _ _ _ es
theorem stI_ok {σ : WS} {lm : Lam} (lo : lamOK lm) {a b kind : Nat} {s : Stt} (h : stOK s) : ∀ n, stOK (stI σ lm a b kind n s)
  | 0 => h
  | n + 1 => by
    rw [stI]
    split
    · exact tr_ok lo (stI_ok lo h n)
    · exact stI_ok lo h n
theorem stp_ok {σ : WS} {lm : Lam} (lo : lamOK lm) (a b : Nat) : stOK (stp σ lm a b) := by
  unfold stp
  split
  · exact stI_ok lo (stI_ok lo (stI_ok lo (stI_ok lo (fun c k i e => by cases e) 9) 9) 9) 9
  · intro c k i e; cases e
theorem stp_u {σ : WS} {lm : Lam} {a b : Nat} {q : Nat × Nat × Nat} (h : stp σ lm a b = some q) : isU2 σ a b := by
  unfold stp at h
  split at h
  · assumption
  · cases h
theorem wgt_of {σ : WS} {lm : Lam} {K a b x : Nat} (h : wgt σ lm K a b = some x) : a < sN σ ∧ b < sN σ ∧ ∃ c k i, stp σ lm a b = some (c, k, i) ∧ x = K * c + 1 := by
  unfold wgt at h
  split at h
  · rename_i hh
    cases e : stp σ lm a b with
    | none => rw [e] at h; cases h
    | some q =>
      obtain ⟨c, k, i⟩ := q
      rw [e] at h
      exact ⟨hh.1, hh.2, c, k, i, rfl, by cases h; rfl⟩
  · cases h
theorem wgt_ok {σ : WS} {lm : Lam} {K : Nat} : EWok (wgt σ lm K) (used σ) (sN σ) := fun a b x h => by
  obtain ⟨h1, h2, c, k, i, h3, h4⟩ := wgt_of h
  obtain ⟨u1, u2, u3⟩ := stp_u h3
  exact ⟨h1, h2, u2, u3, u1, by omega⟩
theorem wgt_B {σ : WS} {lm : Lam} (lo : lamOK lm) {K : Nat} (hK : K ≤ 100) : ∀ a b x, wgt σ lm K a b = some x → x ≤ 10000 := fun a b x h => by
  obtain ⟨h1, h2, c, k, i, h3, h4⟩ := wgt_of h
  have := (stp_ok lo a b c k i h3).2
  have : K * c ≤ 100 * 99 := Nat.mul_le_mul hK this
  omega
theorem s_X6_isStep {σ : WS} {lm : Lam} {M : WM} {a b : Nat} {Q : Int32 → Prop} (hS : StA σ lm M) (hN : sN σ ≤ 40) (ha : a < sN σ) (hb : b < sN σ) (h : Q (b2i (stp σ lm a b).isSome)) : m_X6_isStep (nI a) (nI b) M Q := by
  have g := hS a b ha hb
  unfold m_X6_isStep
  rw [show (40 : Int32) = nI 40 from rfl, pk_mul, nI_add, nI_clamp (by omega), g.1]
  refine ⟨vin (by omega), ?_⟩
  cases e : stp σ lm a b with
  | none => rw [e] at h; exact ⟨fun _ => h, fun z => absurd (Int32.le_refl _) z⟩
  | some q =>
    obtain ⟨c, k, i⟩ := q
    have := (g.2 c k i e).1
    rw [e] at h
    exact pk_le 1000000000 c (fun c => absurd c (by omega)) (fun _ => h) rfl rfl
theorem s_X6_stepWay {σ : WS} {lm : Lam} {M : WM} {a b : Nat} {Q : Int32 → Prop} (hS : StA σ lm M) (hN : sN σ ≤ 40) (ha : a < sN σ) (hb : b < sN σ) (h : Q (fI 1000000000 (wgt σ lm 64 a b))) : m_X6_stepWay (nI a) (nI b) M Q := by
  have g := hS a b ha hb
  unfold wgt at h
  rw [if_pos ⟨ha, hb⟩] at h
  refine s_X6_isStep hS hN ha hb ?_
  cases e : stp σ lm a b with
  | none => rw [e] at h; exact ie0 h
  | some q =>
    obtain ⟨c, k, i⟩ := q
    rw [e] at h
    refine ie1 ?_
    rw [show (40 : Int32) = nI 40 from rfl, pk_mul, nI_add, nI_clamp (by omega), g.1, e]
    refine ⟨vin (by omega), ?_⟩
    show Q ((64 : Int32) * nI c + 1)
    rw [show (64 : Int32) = nI 64 from rfl, pk_mul, nI_1]; exact h
def SWW (r k : Nat) : Prop := STA r k ∨ SWyT r k
theorem s_X6_laysWays {σ : WS} {lm : Lam} {M : WM} {Q : WM → Prop} (hW : WT σ M) (ok : wsOK σ) (hl : LawT lm M) (lo : lamOK lm) (h : ∀ M', StA σ lm M' → WaT (sN σ) (dmx (wgt σ lm 64) (used σ) (sN σ)) M' → Fr SWW M M' → Q M') : m_X6_laysWays M Q := by
  have hs := ok.1
  refine s_X6_laysSteps hW ok hl lo fun M2 S2 f2 => ?_
  have w2 : WT σ M2 := hW.fr f2 (by unfold STA PWT; omega)
  have sa : ∀ {M'}, Fr SWyT M2 M' → StA σ lm M' := fun f a b h1 h2 => (S2 a b h1 h2).fr f (by unfold SWyT; omega)
  refine pk_loop (fun k a M' => m_X6_laysWays_l6 Q k (nI a) M') (fun a M' => Fr SWyT M2 M' ∧ ∀ a' b, a' < a → b < sN σ → wI M' 5468 (40 * a' + b) = fI 1000000000 (dmx (wgt σ lm 64) (used σ) 0 a' b)) (sN σ) 0 M2 (by omega) ⟨Fr.rf, fun a b h => absurd h (by omega)⟩ ?_ ?_
  · intro k M' ⟨q1, q2⟩
    have w' : WT σ M' := w2.fr q1 (by unfold SWyT PWT; omega)
    unfold m_X6_laysWays_l6
    rw [w'.1]
    exact ⟨fun _ => s_X6_fw w' ok wgt_ok (wgt_B lo (by omega)) q2 fun M5 W5 f5 => h M5 (sa (q1.tr f5)) W5 ((f2.mono fun r k q => Or.inl q).tr ((q1.tr f5).mono fun r k q => Or.inr q)), fun z => absurd (Int32.le_refl _) z⟩
  · intro k a M' ha ⟨q1, q2⟩ ih
    unfold m_X6_laysWays_l6
    rw [(w2.fr q1 (by unfold SWyT PWT; omega)).1]
    refine ⟨fun z => absurd z (nI_ge ha (by omega)), fun _ => ?_⟩
    refine pk_loop (fun k' b M3 => m_X6_laysWays_l16 (fun x1' M' => m_X6_laysWays_l6 Q k x1' M') (nI a) Q k' (nI b) M3) (fun b M3 => Fr SWyT M2 M3 ∧ (∀ a' b, a' < a → b < sN σ → wI M3 5468 (40 * a' + b) = fI 1000000000 (dmx (wgt σ lm 64) (used σ) 0 a' b)) ∧ ∀ b', b' < b → wI M3 5468 (40 * a + b') = fI 1000000000 (dmx (wgt σ lm 64) (used σ) 0 a b')) (sN σ) 0 M' (by omega) ⟨q1, q2, fun b h => absurd h (by omega)⟩ ?_ ?_
    · intro k' M3 ⟨p1, p2, p3⟩
      unfold m_X6_laysWays_l16
      rw [(w2.fr p1 (by unfold SWyT PWT; omega)).1]
      refine ⟨fun _ z ez => ?_, fun z => absurd (Int32.le_refl _) z⟩
      rw [ez, nI_1]
      refine ih M3 ⟨p1, fun a' b h1 h2 => ?_⟩
      by_cases e : a' = a
      · rw [e]; exact p3 b h2
      · exact p2 a' b (by omega) h2
    · intro k' b M3 hb ⟨p1, p2, p3⟩ ih2
      have w3 : WT σ M3 := w2.fr p1 (by unfold SWyT PWT; omega)
      have fin : ∀ v, v = fI 1000000000 (dmx (wgt σ lm 64) (used σ) 0 a b) → ∀ M7, M7 = wPI M3 5468 (40 * a + b) v → ∀ z : Int32, z = nI b + 1 → m_X6_laysWays_l16 (fun x1' M' => m_X6_laysWays_l6 Q k x1' M') (nI a) Q k' z M7 := fun v ev M7 e7 z ez => by
        rw [ez, nI_1]
        refine ih2 M7 ⟨by rw [e7]; exact p1.PI rfl, fun a' b' h1 h2 => by rw [e7, wI_n _ _ (by omega)]; exact p2 a' b' h1 h2, fun b' hb' => ?_⟩
        rw [e7]
        by_cases e : b' = b
        · rw [e, wI_s, ev]
        · rw [wI_n _ _ (by omega)]; exact p3 b' (by omega)
      unfold m_X6_laysWays_l16
      rw [w3.1, show (40 : Int32) = nI 40 from rfl, pk_mul, nI_add]
      have j51 : ¬ (a = b ∧ used σ a = true) → m_X6_laysWays_j51 (fun x1' M' => m_X6_laysWays_l6 Q k x1' M') (fun x2' M' => m_X6_laysWays_l16 (fun x1' M' => m_X6_laysWays_l6 Q k x1' M') (nI a) Q k' x2' M') (nI a) (nI b) (nI (40 * a + b)) Q M3 := fun hn => by
        refine s_X6_stepWay (sa p1) hs ha hb ⟨vin (by omega), fun M7 e7 => ?_⟩
        rw [nI_clamp (by omega)] at e7
        exact fin _ (by show _ = fI 1000000000 (if a = b ∧ used σ a = true then some 0 else wgt σ lm 64 a b); rw [if_neg hn]) M7 e7
      refine ⟨fun z => absurd z (nI_ge hb (by omega)), fun _ => pk_eq a b (fun c => s_X6_isUsed w3 ok ha (bcs (fun e => ⟨vin (by omega), fun M7 e7 => ?_⟩) (fun e => j51 fun q => by rw [q.2] at e; cases e))) (fun c => j51 fun q => c q.1) rfl rfl⟩
      rw [nI_clamp (by omega)] at e7
      exact fin 0 (by show _ = fI 1000000000 (if a = b ∧ used σ a = true then some 0 else wgt σ lm 64 a b); rw [if_pos ⟨c, e⟩]; rfl) M7 e7
