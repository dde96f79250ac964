/-! what is read off the matrices; step -/
theorem stp_cst {σ : WS} {lm : Lam} {a b : Nat} (ha : a < sN σ) (hb : b < sN σ) : (stp σ lm a b = none ∧ cst σ lm a b = none) ∨ ∃ c k i, stp σ lm a b = some (c, k, i) ∧ cst σ lm a b = some c := by
  unfold cst
  rw [if_pos ⟨ha, hb⟩]
  cases stp σ lm a b with
  | none => exact Or.inl ⟨rfl, rfl⟩
  | some q => obtain ⟨c, k, i⟩ := q; exact Or.inr ⟨c, k, i, rfl, rfl⟩
theorem rdS {σ : WS} {lm : Lam} {M : WM} (hS : StB σ lm M) (lo : lamOK lm) {a b : Nat} (ha : a < sN σ) (hb : b < sN σ) : (cst σ lm a b = none ∧ wI M (10 + a) b = nI 268435456) ∨ ∃ c, cst σ lm a b = some c ∧ 1 ≤ c ∧ c ≤ 99 ∧ wI M (10 + a) b = nI c := by
  have g := (hS a b ha hb).1
  rcases stp_cst (σ := σ) (lm := lm) ha hb with ⟨e1, e2⟩ | ⟨c, k, i, e1, e2⟩
  · rw [e1] at g; exact Or.inl ⟨e2, g⟩
  · rw [e1] at g; have h := cst_b lo e2; exact Or.inr ⟨c, e2, h.1, h.2.1, g⟩
theorem rdU {σ : WS} {lm : Lam} {M : WM} (hS : StA σ lm M) (lo : lamOK lm) {a b : Nat} (ha : a < sN σ) (hb : b < sN σ) : (cst σ lm a b = none ∧ wI M 5465 (40 * a + b) = nI 1000000000) ∨ ∃ c, cst σ lm a b = some c ∧ 1 ≤ c ∧ c ≤ 99 ∧ wI M 5465 (40 * a + b) = nI c := by
  have g := (hS a b ha hb).1
  rcases stp_cst (σ := σ) (lm := lm) ha hb with ⟨e1, e2⟩ | ⟨c, k, i, e1, e2⟩
  · rw [e1] at g; exact Or.inl ⟨e2, g⟩
  · rw [e1] at g; have h := cst_b lo e2; exact Or.inr ⟨c, e2, h.1, h.2.1, g⟩
theorem rdC {σ : WS} {lm : Lam} {M : WM} (hA : WaC (sN σ) (dEnd σ lm 100) M) (ok : wsOK σ) (lo : lamOK lm) {a b : Nat} (ha : a < sN σ) (hb : b < sN σ) : (way σ lm a b = none ∧ wI M (133 + a) b = nI 268435456) ∨ ∃ C S, way σ lm a b = some (C, S) ∧ S ≤ 39 ∧ C ≤ 3960 ∧ wI M (133 + a) b = nI (100 * C + S) := by
  rw [hA a b ha hb]
  cases e : way σ lm a b with
  | none => rw [(way_n ok lo e).1]; exact Or.inl ⟨rfl, rfl⟩
  | some q =>
    obtain ⟨C, S⟩ := q
    obtain ⟨h1, h2, h3, h4⟩ := way_s ok lo e
    rw [h3]; exact Or.inr ⟨C, S, rfl, h1, h2, rfl⟩
theorem rdT {σ : WS} {lm : Lam} {M : WM} (hA : WaT (sN σ) (dEnd σ lm 64) M) (ok : wsOK σ) (lo : lamOK lm) {a b : Nat} (ha : a < sN σ) (hb : b < sN σ) : (way σ lm a b = none ∧ wI M 5468 (40 * a + b) = nI 1000000000) ∨ ∃ C S, way σ lm a b = some (C, S) ∧ S ≤ 39 ∧ C ≤ 3960 ∧ wI M 5468 (40 * a + b) = nI (64 * C + S) := by
  rw [hA a b ha hb]
  cases e : way σ lm a b with
  | none => rw [(way_n ok lo e).2]; exact Or.inl ⟨rfl, rfl⟩
  | some q =>
    obtain ⟨C, S⟩ := q
    obtain ⟨h1, h2, h3, h4⟩ := way_s ok lo e
    rw [h4]; exact Or.inr ⟨C, S, rfl, h1, h2, rfl⟩
theorem s_X0_isStep {σ : WS} {lm : Lam} {M : WM} {a b : Nat} {Q : Int32 → Prop} (hS : StB σ lm M) (ok : wsOK σ) (lo : lamOK lm) (ha : a < sN σ) (hb : b < sN σ) (h : Q (b2i (cst σ lm a b).isSome)) : m_X0_isStep (nI a) (nI b) M Q := by
  have hs := ok.1
  unfold m_X0_isStep
  rw [nI_clamp (show a < 2 ^ 31 by omega), nI_clamp (show b < 2 ^ 31 by omega)]
  refine ⟨vin (by omega), vin (by omega), ?_⟩
  rcases rdS hS lo ha hb with ⟨e1, e2⟩ | ⟨c, e1, h1, h2, e2⟩
  · rw [e1] at h; rw [e2]; exact ⟨fun _ => h, fun z => absurd (Int32.le_refl _) z⟩
  · rw [e1] at h
    exact pk_le 268435456 c (fun z => absurd z (by omega)) (fun _ => h) rfl e2
theorem s_X6_isStep2 {σ : WS} {lm : Lam} {M : WM} {a b : Nat} {Q : Int32 → Prop} (hS : StA σ lm M) (ok : wsOK σ) (ha : a < sN σ) (hb : b < sN σ) (h : Q (b2i (cst σ lm a b).isSome)) : m_X6_isStep (nI a) (nI b) M Q := by
  refine s_X6_isStep hS ok.1 ha hb ?_
  rcases stp_cst (σ := σ) (lm := lm) ha hb with ⟨e1, e2⟩ | ⟨c, k, i, e1, e2⟩
  · rw [e1]; rw [e2] at h; exact h
  · rw [e1]; rw [e2] at h; exact h
theorem s_X0_costOf {σ : WS} {lm : Lam} {M : WM} {a b C S : Nat} {Q : Int32 → Prop} (hA : WaC (sN σ) (dEnd σ lm 100) M) (ok : wsOK σ) (lo : lamOK lm) (ha : a < sN σ) (hb : b < sN σ) (hw : way σ lm a b = some (C, S)) (h : Q (nI C)) : m_X0_costOf (nI a) (nI b) M Q := by
  have hs := ok.1
  unfold m_X0_costOf
  rw [nI_clamp (show a < 2 ^ 31 by omega), nI_clamp (show b < 2 ^ 31 by omega)]
  refine ⟨vin (by omega), vin (by omega), ?_⟩
  rcases rdC hA ok lo ha hb with ⟨e1, e2⟩ | ⟨C', S', e1, h1, h2, e2⟩
  · rw [e1] at hw; cases hw
  · rw [e1] at hw; cases hw
    rw [e2, show (100 : Int32) = nI 100 from rfl, pk_div (by omega) (by omega) (by omega), show (100 * C + S) / 100 = C by omega]
    exact h
def lwI (o : Option (Nat × Nat)) : Int32 := match o with
  | none => nI 1000000000
  | some (C, _) => nI C
theorem s_X6_leastOf {σ : WS} {lm : Lam} {M : WM} {a b : Nat} {Q : Int32 → Prop} (hA : WaT (sN σ) (dEnd σ lm 64) M) (ok : wsOK σ) (lo : lamOK lm) (ha : a < sN σ) (hb : b < sN σ) (h : Q (lwI (way σ lm a b))) : m_X6_leastOf (nI a) (nI b) M Q := by
  have hs := ok.1
  unfold m_X6_leastOf
  rw [show (40 : Int32) = nI 40 from rfl, pk_mul, nI_add, nI_clamp (by omega)]
  refine ⟨vin (by omega), ?_⟩
  rcases rdT hA ok lo ha hb with ⟨e1, e2⟩ | ⟨C, S, e1, h1, h2, e2⟩
  · rw [e1] at h; rw [e2]; exact ⟨fun z => absurd z (nI_nlt (a := 1000000000) (b := 1000000000) (by omega) (by omega)), fun _ => h⟩
  · rw [e1] at h; rw [e2]
    refine pk_lt (64 * C + S) 1000000000 (fun _ => ⟨vin (by omega), ?_⟩) (fun z => absurd z (by omega)) rfl rfl
    rw [show (64 : Int32) = nI 64 from rfl, pk_div (by omega) (by omega) (by omega), show (64 * C + S) / 64 = C by omega]
    exact h
/-! step -/
def VSt (σ : WS) (x y z : Int32) : Prop := VF σ x y ∧ 0 ≤ z.toInt ∧ z.toInt < 3
def stepV (s : Stt) (z : Int32) : Int32 := match s with
  | none => -2
  | some (c, k, i) => if z = 0 then nI c else if z = 1 then nI k else nI i
theorem s_X0_step {σ : WS} {lm : Lam} {M : WM} {x y z : Int32} {Q : Int32 → WM → Prop} (hW : WC σ M) (ok : wsOK σ) (hl : LawC lm M) (lo : lamOK lm) (hC : wI M 0 8 = wI M 0 7 → Laid σ lm M) (h0 : ¬ VSt σ x y z → Q (-1) M) (h1 : ∀ a b, x = nI a → y = nI b → VSt σ x y z → ∀ M', Laid σ lm M' → Fr SLay M M' → Q (stepV (stp σ lm a b) z) M') : m_X0_step x y z M Q := by
  have hs := ok.1
  refine s_X0_areTwo hW ok (fun e => ie0 (h0 fun q => e q.1)) (fun a b ha hb ex ey hV => ie1 (s_X0_in (bdc (fun e => ?_) (fun e => h0 fun q => e q.2))))
  have hh := h1 a b ex ey ⟨hV, e⟩
  subst ex ey
  refine s_X0_lays hW ok hl lo hC fun M6 L6 _ f6 => s_X0_isStep L6.1 ok lo ha hb (bcs (fun e2 => ?_) (fun e2 => ?_))
  · have hh := hh M6 L6 f6
    have g := L6.1 a b ha hb
    rw [nI_clamp (show a < 2 ^ 31 by omega), nI_clamp (show b < 2 ^ 31 by omega)]
    rcases stp_cst (σ := σ) (lm := lm) ha hb with ⟨e3, e4⟩ | ⟨c, k, i, e3, e4⟩
    · rw [e4] at e2; cases e2
    · rw [e3] at g hh
      have hh : Q (if z = 0 then nI c else if z = 1 then nI k else nI i) M6 := hh
      obtain ⟨-, g2, g3⟩ := g.2 c k i rfl
      refine ⟨fun q => ⟨vin (by omega), vin (by omega), ?_⟩, fun q => ⟨fun q2 => ⟨vin (by omega), vin (by omega), ?_⟩, fun q2 => ⟨vin (by omega), vin (by omega), ?_⟩⟩⟩
      · rw [g.1]; rw [if_pos q] at hh; exact hh
      · rw [g2]; rw [if_neg q, if_pos q2] at hh; exact hh
      · rw [g3]; rw [if_neg q, if_neg q2] at hh; exact hh
  · have hh := hh M6 L6 f6
    rcases stp_cst (σ := σ) (lm := lm) ha hb with ⟨e3, e4⟩ | ⟨c, k, i, e3, e4⟩
    · rw [e3] at hh; exact hh
    · rw [e4] at e2; cases e2
theorem s_X6_two {σ : WS} {M : WM} {x y : Int32} {Q : Int32 → WM → Prop} {R : Prop} (hW : WT σ M) (ok : wsOK σ) (h0 : ¬ VF σ x y → Q (-1) M) (h1 : ∀ a b, a < sN σ → b < sN σ → x = nI a → y = nI b → VF σ x y → R) : m_X6_isWord x M (fun (a1 : Int32) => ((a1 = 0 → Q (((-1) : Int32)) M) ∧ (¬ a1 = 0 → (m_X6_isWord y M (fun (a3 : Int32) => ((a3 = 0 → Q (((-1) : Int32)) M) ∧ (¬ a3 = 0 → R))))))) := by
  have hs := ok.1
  refine s_X6_isWord hW ok (bdc (fun e => ?_) (fun e => h0 fun q => e q.1))
  refine s_X6_isWord hW ok (bdc (fun e2 => ?_) (fun e2 => h0 fun q => e2 q.2))
  obtain ⟨v, hv, rfl, ev⟩ := nI_ex e.1
  obtain ⟨w, hw, rfl, ew⟩ := nI_ex e2.1
  exact h1 v w (by omega) (by omega) rfl rfl ⟨e, e2⟩
theorem s_X6_twoJ {σ : WS} {M : WM} {x y : Int32} {Q : Int64 → WM → Prop} {R : Prop} (hW : WT σ M) (ok : wsOK σ) (h0 : ¬ VF σ x y → Q (-1) M) (h1 : ∀ a b, a < sN σ → b < sN σ → x = nI a → y = nI b → VF σ x y → R) : m_X6_isWord x M (fun (a1 : Int32) => ((a1 = 0 → Q (((-1) : Int64)) M) ∧ (¬ a1 = 0 → (m_X6_isWord y M (fun (a3 : Int32) => ((a3 = 0 → Q (((-1) : Int64)) M) ∧ (¬ a3 = 0 → R))))))) := by
  have hs := ok.1
  refine s_X6_isWord hW ok (bdc (fun e => ?_) (fun e => h0 fun q => e q.1))
  refine s_X6_isWord hW ok (bdc (fun e2 => ?_) (fun e2 => h0 fun q => e2 q.2))
  obtain ⟨v, hv, rfl, ev⟩ := nI_ex e.1
  obtain ⟨w, hw, rfl, ew⟩ := nI_ex e2.1
  exact h1 v w (by omega) (by omega) rfl rfl ⟨e, e2⟩
theorem s_X6_step {σ : WS} {lm : Lam} {M : WM} {x y z : Int32} {Q : Int32 → WM → Prop} (hW : WT σ M) (ok : wsOK σ) (hl : LawT lm M) (lo : lamOK lm) (h0 : ¬ VSt σ x y z → Q (-1) M) (h1 : ∀ a b, x = nI a → y = nI b → VSt σ x y z → ∀ M', Fr STA M M' → Q (stepV (stp σ lm a b) z) M') : m_X6_step x y z M Q := by
  have hs := ok.1
  refine s_X6_two hW ok (fun e => h0 fun q => e q.1) (fun a b ha hb ex ey hV => s_X6_in (bdc (fun e => ?_) (fun e => h0 fun q => e ⟨q.2.1, by have := q.2.2; show z.toInt ≤ 2; omega⟩)))
  have e : 0 ≤ z.toInt ∧ z.toInt ≤ 2 := e
  have hh := h1 a b ex ey ⟨hV, e.1, by omega⟩
  subst ex ey
  refine s_X6_laysSteps hW ok hl lo fun M6 L6 f6 => s_X6_isStep2 L6 ok ha hb (bcs (fun e2 => ?_) (fun e2 => ?_))
  · have hh := hh M6 f6
    have g := L6 a b ha hb
    rw [show (40 : Int32) = nI 40 from rfl, pk_mul, nI_add, nI_clamp (by omega)]
    rcases stp_cst (σ := σ) (lm := lm) ha hb with ⟨e3, e4⟩ | ⟨c, k, i, e3, e4⟩
    · rw [e4] at e2; cases e2
    · rw [e3] at g hh
      have hh : Q (if z = 0 then nI c else if z = 1 then nI k else nI i) M6 := hh
      obtain ⟨-, g2, g3⟩ := g.2 c k i rfl
      refine ⟨fun q => ⟨vin (by omega), ?_⟩, fun q => ⟨fun q2 => ⟨vin (by omega), ?_⟩, fun q2 => ⟨vin (by omega), ?_⟩⟩⟩
      · rw [g.1]; rw [if_pos q] at hh; exact hh
      · rw [g2]; rw [if_neg q, if_pos q2] at hh; exact hh
      · rw [g3]; rw [if_neg q, if_neg q2] at hh; exact hh
  · have hh := hh M6 f6
    rcases stp_cst (σ := σ) (lm := lm) ha hb with ⟨e3, e4⟩ | ⟨c, k, i, e3, e4⟩
    · rw [e3] at hh; exact hh
    · rw [e4] at e2; cases e2
