/-! LEAST WAYS, abstract: cost and steps of a least way, alike on both sides -/
def cst (σ : WS) (lm : Lam) : EW := fun a b => if a < sN σ ∧ b < sN σ then (match stp σ lm a b with
  | none => none
  | some (c, _, _) => some c) else none
theorem wgt_cst {σ : WS} {lm : Lam} {K a b x : Nat} : wgt σ lm K a b = some x ↔ ∃ c, cst σ lm a b = some c ∧ x = K * c + 1 := by
  unfold wgt cst
  split
  · cases e : stp σ lm a b with
    | none => exact ⟨fun h => (by cases h), fun ⟨c, h, _⟩ => (by cases h)⟩
    | some q =>
      obtain ⟨c, k, i⟩ := q
      exact ⟨fun h => ⟨c, rfl, by cases h; rfl⟩, fun ⟨c', h, g⟩ => by cases h; rw [g]⟩
  · exact ⟨fun h => (by cases h), fun ⟨c, h, _⟩ => (by cases h)⟩
theorem wk_cst {σ : WS} {lm : Lam} {K m : Nat} : ∀ {n a b x}, wk' (wgt σ lm K) m n a b x ↔ ∃ C, wk' (cst σ lm) m n a b C ∧ x = K * C + (n + 1)
  | 0, a, b, x => wgt_cst
  | n + 1, a, b, x => by
    constructor
    · intro ⟨v, c, y, h1, h2, h3, h4⟩
      obtain ⟨c1, g1, g2⟩ := wgt_cst.mp h2
      obtain ⟨C, g3, g4⟩ := wk_cst.mp h3
      exact ⟨c1 + C, ⟨v, c1, C, h1, g1, g3, rfl⟩, by rw [Nat.mul_add]; omega⟩
    · intro ⟨C, ⟨v, c, y, h1, h2, h3, h4⟩, h5⟩
      exact ⟨v, _, _, h1, wgt_cst.mpr ⟨c, h2, rfl⟩, wk_cst.mpr ⟨y, h3, rfl⟩, by rw [h5, h4, Nat.mul_add]; omega⟩
theorem cst_b {σ : WS} {lm : Lam} (lo : lamOK lm) {a b c : Nat} (h : cst σ lm a b = some c) : 1 ≤ c ∧ c ≤ 99 ∧ a < sN σ ∧ b < sN σ := by
  unfold cst at h
  split at h
  · rename_i hh
    cases e : stp σ lm a b with
    | none => rw [e] at h; cases h
    | some q =>
      obtain ⟨c', k, i⟩ := q
      rw [e] at h
      cases h
      obtain ⟨h1, h2⟩ := stp_ok lo a b _ _ _ e
      exact ⟨h1, h2, hh⟩
  · cases h
theorem dEnd_of {σ : WS} {lm : Lam} (ok : wsOK σ) (lo : lamOK lm) {K : Nat} (hK : K ≤ 100) {a b x : Nat} (h : dEnd σ lm K a b = some x) (hn : ¬ (a = b ∧ used σ a = true)) : ∃ n C, n + 2 ≤ 40 ∧ wk' (cst σ lm) (sN σ) n a b C ∧ x = K * C + (n + 1) ∧ C ≤ 3960 := by
  have hs := ok.1
  obtain ⟨n0, g0⟩ := ((dmx_ok (wgt σ lm K) (used σ) (sN σ) a b).2 hn).1 x h
  have hu := (wk_pos wgt_ok g0).2.2.2.1
  rcases dst_bd (wgt_ok (K := K)) (wgt_B lo hK) (dmx_ok (wgt σ lm K) (used σ) (sN σ)) h with ⟨h1, _⟩ | ⟨n, h1, h2, h3, h4⟩
  · exact absurd ⟨h1, hu⟩ hn
  · obtain ⟨C, g1, g2⟩ := wk_cst.mp h2
    have h5 : C ≤ (n + 1) * 99 := wk_le (B := 99) (fun a b c q => (cst_b lo q).2.1) g1
    exact ⟨n, C, by omega, g1, g2, by omega⟩
theorem dEnd_two {σ : WS} {lm : Lam} (ok : wsOK σ) (lo : lamOK lm) (a b : Nat) : (dEnd σ lm 100 a b = none ∧ dEnd σ lm 64 a b = none) ∨ ∃ C S, S ≤ 39 ∧ C ≤ 3960 ∧ dEnd σ lm 100 a b = some (100 * C + S) ∧ dEnd σ lm 64 a b = some (64 * C + S) := by
  by_cases hn : a = b ∧ used σ a = true
  · exact Or.inr ⟨0, 0, by omega, by omega, (dmx_ok _ _ _ a b).1 hn, (dmx_ok _ _ _ a b).1 hn⟩
  have lo1 : ∀ {K n C : Nat}, wk' (cst σ lm) (sN σ) n a b C → ∃ y, dEnd σ lm K a b = some y ∧ y ≤ K * C + (n + 1) := fun {K n C} g => dst_lo (dmx_ok (wgt σ lm K) (used σ) (sN σ) a b) (wk_cst.mpr ⟨C, g, rfl⟩)
  cases e : dEnd σ lm 100 a b with
  | none =>
    cases e2 : dEnd σ lm 64 a b with
    | none => exact Or.inl ⟨rfl, rfl⟩
    | some y =>
      obtain ⟨n, C, _, g, _⟩ := dEnd_of ok lo (K := 64) (by omega) e2 hn
      obtain ⟨z, q, _⟩ := lo1 (K := 100) g
      rw [q] at e; cases e
  | some x =>
    obtain ⟨n, C, h1, h2, h3, h4⟩ := dEnd_of ok lo (K := 100) (by omega) e hn
    obtain ⟨y, g1, g2⟩ := lo1 (K := 64) h2
    obtain ⟨n', C', k1, k2, k3, k4⟩ := dEnd_of ok lo (K := 64) (by omega) g1 hn
    obtain ⟨x', l1, l2⟩ := lo1 (K := 100) k2
    rw [e] at l1
    cases l1
    have hC : C = C' := by omega
    exact Or.inr ⟨C, n + 1, by omega, h4, by rw [h3], by rw [g1, k3, hC]; congr 1; omega⟩
def way (σ : WS) (lm : Lam) (a b : Nat) : Option (Nat × Nat) := match dEnd σ lm 100 a b with
  | none => none
  | some x => some (x / 100, x % 100)
theorem way_n {σ : WS} {lm : Lam} (ok : wsOK σ) (lo : lamOK lm) {a b : Nat} (h : way σ lm a b = none) : dEnd σ lm 100 a b = none ∧ dEnd σ lm 64 a b = none := by
  rcases dEnd_two ok lo a b with g | ⟨C, S, h1, h2, h3, h4⟩
  · exact g
  · unfold way at h; rw [h3] at h; cases h
theorem way_s {σ : WS} {lm : Lam} (ok : wsOK σ) (lo : lamOK lm) {a b C S : Nat} (h : way σ lm a b = some (C, S)) : S ≤ 39 ∧ C ≤ 3960 ∧ dEnd σ lm 100 a b = some (100 * C + S) ∧ dEnd σ lm 64 a b = some (64 * C + S) := by
  rcases dEnd_two ok lo a b with g | ⟨C', S', h1, h2, h3, h4⟩
  · unfold way at h; rw [g.1] at h; cases h
  · unfold way at h; rw [h3] at h
    have h : some ((100 * C' + S') / 100, (100 * C' + S') % 100) = some (C, S) := h
    rw [show (100 * C' + S') / 100 = C' by omega, show (100 * C' + S') % 100 = S' by omega] at h
    cases h
    exact ⟨h1, h2, h3, h4⟩
theorem way_i {σ : WS} {lm : Lam} (a b : Nat) : (dEnd σ lm 100 a b).isSome = (way σ lm a b).isSome := by
  unfold way
  cases dEnd σ lm 100 a b <;> rfl
theorem way_0 {σ : WS} {lm : Lam} {a : Nat} (hu : used σ a = true) : way σ lm a a = some (0, 0) := by
  have : dEnd σ lm 100 a a = some 0 := (dmx_ok (wgt σ lm 100) (used σ) (sN σ) a a).1 ⟨rfl, hu⟩
  unfold way
  rw [this]
/-- who is far is not used -/
theorem way_u {σ : WS} {lm : Lam} (ok : wsOK σ) (lo : lamOK lm) {a b : Nat} {q : Nat × Nat} (h : way σ lm a b = some q) : used σ a = true ∧ used σ b = true := by
  obtain ⟨C, S⟩ := q
  obtain ⟨_, _, h3, _⟩ := way_s ok lo h
  by_cases hn : a = b ∧ used σ a = true
  · exact ⟨hn.2, by rw [← hn.1]; exact hn.2⟩
  · obtain ⟨n, g⟩ := ((dmx_ok (wgt σ lm 100) (used σ) (sN σ) a b).2 hn).1 _ h3
    obtain ⟨k1, k2, k3, k4, k5⟩ := wk_pos wgt_ok g
    exact ⟨k4, k5⟩
theorem dst_first {w : EW} {U : Nat → Bool} {N m : Nat} {d : Nat → Nat → Option Nat} (hw : EWok w U N) (h : ∀ a b, dst w U m a b (d a b)) {a b x : Nat} (e : d a b = some x) (hn : ¬ (a = b ∧ U a = true)) : ∃ v c y, w a v = some c ∧ d v b = some y ∧ x = c + y := by
  obtain ⟨n, g⟩ := ((h a b).2 hn).1 x e
  cases n with
  | zero =>
    obtain ⟨k1, k2, k3, k4, k5⟩ := wk_pos hw g
    exact ⟨b, x, 0, g, (h b b).1 ⟨rfl, k5⟩, rfl⟩
  | succ n =>
    obtain ⟨v, c, y, h1, h2, h3, h4⟩ := g
    obtain ⟨g1, g2, g3, g4, g5, g6⟩ := hw _ _ _ h2
    obtain ⟨k1, k2, k3, k4, k5⟩ := wk_pos hw h3
    have lo : ∀ n x', wk' w m n a b x' → x ≤ x' := fun n x' q => by
      obtain ⟨z, z1, z2⟩ := dst_lo (h a b) q
      rw [e] at z1; cases z1; exact z2
    have hv : ¬ v = b := fun z => by
      have := lo 0 c (by rw [← z]; exact h2)
      omega
    obtain ⟨z, z1, z2⟩ := dst_lo (h v b) h3
    obtain ⟨n', q⟩ := ((h v b).2 (fun q => hv q.1)).1 z z1
    have := lo (n' + 1) (c + z) ⟨v, c, z, h1, h2, q, rfl⟩
    exact ⟨v, c, z, h2, z1, by omega⟩
/-- a first step of a least way -/
def nx (σ : WS) (lm : Lam) (a b w : Nat) : Bool := match cst σ lm a w, way σ lm w b, way σ lm a b with
  | some c, some (C1, S1), some (C, S) => decide (c + C1 = C ∧ 1 + S1 = S)
  | _, _, _ => false
theorem nx_t {σ : WS} {lm : Lam} {a b w : Nat} (h : nx σ lm a b w = true) : ∃ c C1 S1, cst σ lm a w = some c ∧ way σ lm w b = some (C1, S1) ∧ way σ lm a b = some (c + C1, 1 + S1) := by
  unfold nx at h
  cases e1 : cst σ lm a w with
  | none => rw [e1] at h; cases h
  | some c =>
    cases e2 : way σ lm w b with
    | none => rw [e1, e2] at h; cases h
    | some q =>
      obtain ⟨C1, S1⟩ := q
      cases e3 : way σ lm a b with
      | none => rw [e1, e2, e3] at h; cases h
      | some q =>
        obtain ⟨C, S⟩ := q
        rw [e1, e2, e3] at h
        have h : decide (c + C1 = C ∧ 1 + S1 = S) = true := h
        obtain ⟨h1, h2⟩ := of_decide_eq_true h
        exact ⟨c, C1, S1, rfl, rfl, by rw [h1, h2]⟩
theorem nx_ex {σ : WS} {lm : Lam} (ok : wsOK σ) (lo : lamOK lm) {a b C S : Nat} (h : way σ lm a b = some (C, S)) (hn : ¬ a = b) : ∃ w, w < sN σ ∧ nx σ lm a b w = true := by
  obtain ⟨h1, h2, h3, h4⟩ := way_s ok lo h
  obtain ⟨v, c, y, g1, g2, g3⟩ := dst_first wgt_ok (dmx_ok (wgt σ lm 100) (used σ) (sN σ)) h3 (fun z => hn z.1)
  have g2 : dEnd σ lm 100 v b = some y := g2
  obtain ⟨c', k1, k2⟩ := wgt_cst.mp g1
  obtain ⟨b1, b2, b3, b4⟩ := cst_b lo k1
  refine ⟨v, b4, ?_⟩
  unfold nx
  rw [k1, h]
  cases e : way σ lm v b with
  | none => have := (way_n ok lo e).1; rw [g2] at this; cases this
  | some q =>
    obtain ⟨C1, S1⟩ := q
    obtain ⟨l1, l2, l3, l4⟩ := way_s ok lo e
    rw [g2] at l3
    cases l3
    exact decide_eq_true (show c' + C1 = C ∧ 1 + S1 = S by omega)
theorem way_p {σ : WS} {lm : Lam} (ok : wsOK σ) (lo : lamOK lm) {a b C S : Nat} (h : way σ lm a b = some (C, S)) : (a = b ∧ C = 0 ∧ S = 0) ∨ (¬ a = b ∧ 1 ≤ C ∧ 1 ≤ S) := by
  by_cases hn : a = b
  · have := way_0 (σ := σ) (lm := lm) (way_u ok lo h).1
    rw [← hn] at h
    rw [this] at h; cases h
    exact Or.inl ⟨hn, rfl, rfl⟩
  · obtain ⟨w, _, g⟩ := nx_ex ok lo h hn
    obtain ⟨c, C1, S1, g1, g2, g3⟩ := nx_t g
    rw [h] at g3; cases g3
    have := cst_b lo g1
    exact Or.inr ⟨hn, by omega, by omega⟩
