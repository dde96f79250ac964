/-! the step between two words, the model's side -/
theorem s_X6_isWithout {σ : WS} {M : WM} {w i v : Nat} {Q : Int32 → Prop} (hW : WT σ M) (ok : wsOK σ) (hw : w < sN σ) (hv : v < sN σ) (hl : sLen σ w = sLen σ v + 1) (hi : i < 12) (h : Q (b2i (allB (wtK (sLet σ w) (sLet σ v) i) (sLen σ v)))) : m_X6_isWithout (nI w) (nI i) (nI v) M Q := by
  have hs := ok.1
  obtain ⟨a1, a2, a3, -⟩ := ok.2.1 w hw
  obtain ⟨b1, b2, b3, -⟩ := ok.2.1 v hv
  refine pk_loop (fun k j (_ : Unit) => m_X6_isWithout_l3 (nI w) (nI i) (nI v) M Q k (nI j)) (fun j _ => allB (wtK (sLet σ w) (sLet σ v) i) j = true) (sLen σ v) 0 () (by omega) rfl ?_ ?_
  · intro k _ e
    unfold m_X6_isWithout_l3
    rw [nI_clamp (by omega), (hW.2.1 v hv).1]
    rw [e] at h
    exact ⟨vin (by omega), fun _ => h, fun z => absurd (Int32.le_refl _) z⟩
  · intro k j _ hj e ih
    unfold m_X6_isWithout_l3
    rw [nI_clamp (by omega), (hW.2.1 v hv).1]
    have j38 : ∀ q, q = (if j < i then j else j + 1) → m_X6_isWithout_j38 (fun x4' => m_X6_isWithout_l3 (nI w) (nI i) (nI v) M Q k x4') (nI w) (nI i) (nI v) (nI j) (nI q) (nI w) (nI (sLet σ v j)) M Q := fun q hq => by
      have hq8 : q < sLen σ w := by rw [hq]; split <;> omega
      have c1 := b3 j hj
      have c2 := a3 q hq8
      refine s_X6_letter hW ok hw hq8 (pk_eq (sLet σ v j) (sLet σ w q) (fun c z ez => ?_) (fun c => ?_) rfl rfl)
      · rw [ez, nI_1]
        exact ih () (by rw [allB, e]; unfold wtK; rw [← hq, decide_eq_true c]; rfl)
      · have e3 : allB (wtK (sLet σ w) (sLet σ v) i) (j + 1) = false := by rw [allB]; unfold wtK; rw [← hq, decide_eq_false c, Bool.and_false]
        rw [allB_no e3 hj] at h; exact h
    refine ⟨vin (by omega), fun z => absurd z (nI_ge hj (by omega)), fun _ => s_X6_letter hW ok hv hj (pk_le i j (fun c => ?_) (fun c => ?_) rfl rfl)⟩
    · rw [nI_1]; exact j38 (j + 1) (if_neg (by omega)).symm
    · exact j38 j (if_pos c).symm
theorem s_X6_areAlikeBut {σ : WS} {M : WM} {a b p m : Nat} {Q : Int32 → Prop} (hW : WT σ M) (ok : wsOK σ) (ha : a < sN σ) (hb : b < sN σ) (hl : sLen σ b = sLen σ a) (hp : p < 12) (hm : m < 12) (h : Q (b2i (allB (alK (sLet σ a) (sLet σ b) p m) (sLen σ a)))) : m_X6_areAlikeBut (nI a) (nI b) (nI p) (nI m) M Q := by
  have hs := ok.1
  obtain ⟨a1, a2, a3, -⟩ := ok.2.1 a ha
  obtain ⟨b1, b2, b3, -⟩ := ok.2.1 b hb
  refine pk_loop (fun k j (_ : Unit) => m_X6_areAlikeBut_l3 (nI a) (nI b) (nI p) (nI m) M Q k (nI j)) (fun j _ => allB (alK (sLet σ a) (sLet σ b) p m) j = true) (sLen σ a) 0 () (by omega) rfl ?_ ?_
  · intro k _ e
    unfold m_X6_areAlikeBut_l3
    rw [nI_clamp (by omega), (hW.2.1 a ha).1]
    rw [e] at h
    exact ⟨vin (by omega), fun _ => h, fun z => absurd (Int32.le_refl _) z⟩
  · intro k j _ hj e ih
    unfold m_X6_areAlikeBut_l3
    rw [nI_clamp (by omega), (hW.2.1 a ha).1, nI_add]
    have nxt : alK (sLet σ a) (sLet σ b) p m j = true → ∀ z : Int32, z = nI j + 1 → m_X6_areAlikeBut_l3 (nI a) (nI b) (nI p) (nI m) M Q k z := fun hh z ez => by
      rw [ez, nI_1]; exact ih () (by rw [allB, e, hh]; rfl)
    have j29 : ¬ (p ≤ j ∧ j < p + m) → m_X6_areAlikeBut_j29 (fun x5' => m_X6_areAlikeBut_l3 (nI a) (nI b) (nI p) (nI m) M Q k x5') (nI a) (nI b) (nI p) (nI m) (nI j) M Q := fun hn => by
      have c1 := a3 j hj
      have c2 := b3 j (by omega)
      refine s_X6_letter hW ok ha hj (s_X6_letter hW ok hb (by omega) (pk_eq (sLet σ a j) (sLet σ b j) (fun c => nxt ?_) (fun c => ?_) rfl rfl))
      · unfold alK; rw [decide_eq_true c, Bool.or_true]
      · have e3 : allB (alK (sLet σ a) (sLet σ b) p m) (j + 1) = false := by rw [allB]; unfold alK; rw [decide_eq_false c, decide_eq_false hn, Bool.false_or, Bool.and_false]
        rw [allB_no e3 hj] at h; exact h
    refine ⟨vin (by omega), fun z => absurd z (nI_ge hj (by omega)), fun _ => pk_lt j p (fun c => j29 (by omega)) (fun c => pk_lt j (p + m) (fun c2 => nxt ?_) (fun c2 => j29 (by omega)) rfl rfl) rfl rfl⟩
    unfold alK; rw [decide_eq_true ⟨c, c2⟩]; rfl
theorem s_X6_isChange {σ : WS} {M : WM} {a b kind i : Nat} {Q : Int32 → Prop} (hW : WT σ M) (ok : wsOK σ) (ha : a < sN σ) (hb : b < sN σ) (hk : kind < 4) (hi : i < 9) (h : Q (b2i (chg σ a b kind i))) : m_X6_isChange (nI a) (nI b) (nI kind) (nI i) M Q := by
  have hs := ok.1
  obtain ⟨a1, a2, a3, -⟩ := ok.2.1 a ha
  obtain ⟨b1, b2, b3, -⟩ := ok.2.1 b hb
  have no : ¬ chg σ a b kind i = true → Q 0 := fun q => by rw [bno q] at h; exact h
  have yes : ∀ x : Bool, (x = true ↔ chg σ a b kind i = true) → (b2i x = 0 → Q 0) ∧ (¬ b2i x = 0 → Q 1) := fun x hx => bcs (fun e => by rw [hx.mp e] at h; exact h) (fun e => no fun q => by rw [hx.mpr q] at e; cases e)
  unfold m_X6_isChange
  rw [nI_clamp (by omega), nI_clamp (by omega), (hW.2.1 a ha).1, (hW.2.1 b hb).1]
  refine ⟨vin (by omega), vin (by omega), fun z3 ez => ?_⟩
  have t3 : z3.toInt = (sLen σ b : Int) - sLen σ a := by rw [ez]; exact pk_sub_toInt (by omega) (by omega)
  have q0 : (z3 = 0) = (sLen σ b = sLen σ a) := by
    rw [i_eq, t3]; show ((sLen σ b : Int) - sLen σ a = 0) = _; exact propext (by omega)
  have q1 : (z3 = 1) = (sLen σ b = sLen σ a + 1) := by
    rw [i_eq, t3]; show ((sLen σ b : Int) - sLen σ a = 1) = _; exact propext (by omega)
  have q2 : (z3 = -1) = (sLen σ a = sLen σ b + 1) := by
    rw [i_eq, t3]; show ((sLen σ b : Int) - sLen σ a = -1) = _; exact propext (by omega)
  rw [q0, q1, q2]
  refine pk_eq kind 0 (fun c => ?_) (fun c => pk_eq kind 1 (fun c1 => ?_) (fun c1 => pk_eq kind 2 (fun c2 => ?_) (fun c2 => ?_) rfl rfl) rfl rfl) rfl rfl
  · subst c
    have ch := chg0_iff (f := sLet σ a) (g := sLet σ b) (n := sLen σ a) (i := i)
    refine ⟨fun e => ⟨vin (by omega), pk_le (sLen σ a) i (fun g => no fun q => ?_) (fun g => s_X6_letter hW ok ha g (s_X6_letter hW ok hb (by omega) (pk_eq (sLet σ a i) (sLet σ b i) (fun d => no fun q => ?_) (fun d => ?_) rfl rfl (by have := a3 i g; omega) (by have := b3 i (by omega); omega)))) rfl rfl⟩, fun e => no fun q => e (chg0.mp q).1⟩
    · have := (ch.mpr (chg0.mp q).2).1; omega
    · exact (ch.mpr (chg0.mp q).2).2.1 d
    · exact s_X6_areAlikeBut (m := 1) hW ok ha hb e (by omega) (by omega) (yes _ ⟨fun x => chg0.mpr ⟨e, ch.mp ⟨g, d, x⟩⟩, fun x => (ch.mpr (chg0.mp x).2).2.2⟩)
  · subst c1
    refine ⟨fun e => ⟨vin (by omega), pk_lt (sLen σ a) i (fun g => no fun q => by have := (chg1.mp q).1; omega) (fun g => s_X6_isWithout hW ok hb ha e (by omega) (yes _ ⟨fun x => chg1.mpr ⟨⟨e, g⟩, x⟩, fun x => (chg1.mp x).2⟩)) rfl rfl⟩, fun e => no fun q => e (chg1.mp q).1.1⟩
  · subst c2
    refine ⟨fun e => ⟨vin (by omega), pk_le (sLen σ a) i (fun g => no fun q => by have := (chg2.mp q).1; omega) (fun g => s_X6_isWithout hW ok ha hb e (by omega) (yes _ ⟨fun x => chg2.mpr ⟨⟨e, g⟩, x⟩, fun x => (chg2.mp x).2⟩)) rfl rfl⟩, fun e => no fun q => e (chg2.mp q).1.1⟩
  · have hk3 : kind = 3 := by omega
    subst hk3
    have ch := chg3_iff (f := sLet σ a) (g := sLet σ b) (n := sLen σ a) (i := i)
    refine ⟨fun e => ⟨vin (by omega), ?_⟩, fun e => no fun q => e (chg3.mp q).1⟩
    rw [nI_1]
    refine pk_le (sLen σ a) (i + 1) (fun g => no fun q => by have := (ch.mpr (chg3.mp q).2).1; omega) (fun g => ?_) rfl rfl
    have x1 := a3 i (by omega)
    have x2 := a3 (i + 1) g
    have x3 := b3 i (by omega)
    have x4 := b3 (i + 1) (by omega)
    refine s_X6_letter hW ok ha (by omega) (s_X6_letter hW ok ha g (pk_eq (sLet σ a i) (sLet σ a (i + 1)) (fun d => no fun q => (ch.mpr (chg3.mp q).2).2.1.1 d) (fun d => s_X6_letter hW ok ha (by omega) (s_X6_letter hW ok hb (by omega) (pk_eq (sLet σ a i) (sLet σ b (i + 1)) (fun d2 => s_X6_letter hW ok ha g (s_X6_letter hW ok hb (by omega) (pk_eq (sLet σ a (i + 1)) (sLet σ b i) (fun d3 => ?_) (fun d3 => no fun q => d3 (ch.mpr (chg3.mp q).2).2.1.2.2) rfl rfl))) (fun d2 => no fun q => d2 (ch.mpr (chg3.mp q).2).2.1.2.1) rfl rfl))) rfl rfl))
    exact s_X6_areAlikeBut (m := 2) hW ok ha hb e (by omega) (by omega) (yes _ ⟨fun x => chg3.mpr ⟨e, ch.mp ⟨g, ⟨d, d2, d3⟩, x⟩⟩, fun x => (ch.mpr (chg3.mp x).2).2.2⟩)
theorem chg_in {σ : WS} {a b kind i : Nat} (h : chg σ a b kind i = true) (hk : kind < 4) : (kind ≠ 1 → i < sLen σ a) ∧ (kind = 3 → i + 1 < sLen σ a) ∧ (kind = 0 ∨ kind = 1 → i < sLen σ b) := by
  have hc : kind = 0 ∨ kind = 1 ∨ kind = 2 ∨ kind = 3 := by omega
  rcases hc with rfl | rfl | rfl | rfl
  · have q := (chg0_iff).mpr (chg0.mp h).2
    have := (chg0.mp h).1
    exact ⟨fun _ => q.1, fun z => absurd z (by decide), fun _ => by omega⟩
  · have q := (chg1.mp h).1
    exact ⟨fun z => absurd rfl z, fun z => absurd z (by decide), fun _ => by omega⟩
  · have q := (chg2.mp h).1
    exact ⟨fun _ => q.2, fun z => absurd z (by decide), fun z => absurd z (by decide)⟩
  · have q := (chg3.mp h).2.2.2.1
    exact ⟨fun _ => by omega, fun _ => q, fun z => absurd z (by decide)⟩
theorem s_X6_feels {σ : WS} {M : WM} {a b kind i : Nat} {Q : WM → Prop} (hW : WT σ M) (ok : wsOK σ) (ha : a < sN σ) (hb : b < sN σ) (hk : kind < 4) (h1 : kind ≠ 1 → i < sLen σ a) (h3 : kind = 3 → i + 1 < sLen σ a) (h0 : kind = 0 ∨ kind = 1 → i < sLen σ b) (h : ∀ M', (∀ k, k < 9 → wI M' 5464 k = fct σ a b kind i k) → Fr (fun r _ => r = 5464) M M' → Q M') : m_X6_feels (nI a) (nI b) (nI kind) (nI i) M Q := by
  have hs := ok.1
  refine ⟨vin (n := 0) (by omega), fun M2 e2 => ⟨vin (n := 1) (by omega), fun M4 e4 => ?_⟩⟩
  have e2 : M2 = wPI M 5464 0 (nI kind) := e2
  have e4 : M4 = wPI M2 5464 1 (nI i) := e4
  have f4 : Fr (fun r _ => r = 5464) M M4 := by
    have f2 : Fr (fun r _ => r = 5464) M M2 := by rw [e2]; exact Fr.rf.PI rfl
    rw [e4]; exact f2.PI rfl
  have w4 : WT σ M4 := hW.fr f4 (by unfold PWT; omega)
  have j77 : ∀ M5, M5 = wPI M4 5464 2 (fct σ a b kind i 2) → ∀ y, y = fct σ a b kind i 3 → m_X6_feels_j77 (nI a) (nI b) y 3 Q M5 := fun M5 e5 y ey => by
    have f5 : Fr (fun r _ => r = 5464) M M5 := by rw [e5]; exact f4.PI rfl
    refine ⟨vin (n := 3) (by omega), fun N1 d1 => ⟨vin (by omega), vin (n := 4) (by omega), fun N2 d2 => ⟨vin (by omega), vin (n := 5) (by omega), fun N3 d3 => ⟨vin (by omega), vin (n := 6) (by omega), fun N4 d4 => ⟨vin (n := 7) (by omega), fun N5 d5 => ⟨vin (n := 8) (by omega), fun N6 d6 => ?_⟩⟩⟩⟩⟩⟩
    have g1 : Fr (fun r _ => r = 5464) M N1 := by rw [d1]; exact f5.PI rfl
    have g2 : Fr (fun r _ => r = 5464) M N2 := by rw [d2]; exact g1.PI rfl
    have g3 : Fr (fun r _ => r = 5464) M N3 := by rw [d3]; exact g2.PI rfl
    have g4 : Fr (fun r _ => r = 5464) M N4 := by rw [d4]; exact g3.PI rfl
    have g5 : Fr (fun r _ => r = 5464) M N5 := by rw [d5]; exact g4.PI rfl
    rw [nI_clamp (by omega), g1.I (by omega), (hW.2.1 a ha).1] at d2
    rw [nI_clamp (by omega), g2.I (by omega), (hW.2.1 a ha).2.2.1] at d3
    rw [nI_clamp (by omega), g3.I (by omega), (hW.2.1 b hb).2.2.1] at d4
    have d1 : N1 = wPI M5 5464 3 y := d1
    have d2 : N2 = wPI N1 5464 4 (nI (sLen σ a)) := d2
    have d3 : N3 = wPI N2 5464 5 (nI (sKn σ a)) := d3
    have d4 : N4 = wPI N3 5464 6 (nI (sKn σ b)) := d4
    have d5 : N5 = wPI N4 5464 7 (nI a) := d5
    have d6 : N6 = wPI N5 5464 8 (nI b) := d6
    refine h N6 (fun k hk9 => ?_) (by rw [d6]; exact g5.PI rfl)
    have hc : k = 0 ∨ k = 1 ∨ k = 2 ∨ k = 3 ∨ k = 4 ∨ k = 5 ∨ k = 6 ∨ k = 7 ∨ k = 8 := by omega
    rw [d6, wI_PI, d5, wI_PI, d4, wI_PI, d3, wI_PI, d2, wI_PI, d1, wI_PI, e5, wI_PI, e4, wI_PI, e2, wI_PI, ey]
    rcases hc with rfl | rfl | rfl | rfl | rfl | rfl | rfl | rfl | rfl <;> rfl
  have j37 : ∀ y, y = fct σ a b kind i 2 → m_X6_feels_j37 (nI a) (nI b) (nI kind) (nI i) y 2 Q M4 := fun y ey => by
    refine ⟨vin (n := 2) (by omega), fun M5 e5 => ?_⟩
    have e5 : M5 = wPI M4 5464 2 (fct σ a b kind i 2) := by rw [← ey]; exact e5
    have w5 : WT σ M5 := w4.fr (S := fun r _ => r = 5464) (by rw [e5]; exact Fr.rf.PI rfl) (by unfold PWT; omega)
    refine pk_eq kind 2 (fun c => j77 M5 e5 _ ?_) (fun c => pk_eq kind 3 (fun c3 => ?_) (fun c3 => ?_) rfl rfl) rfl rfl
    · rw [fct_3, if_pos c]
    · rw [nI_1]
      exact s_X6_letter w5 ok ha (h3 c3) (j77 M5 e5 _ (by rw [fct_3, if_neg c, if_pos c3]))
    · exact s_X6_letter w5 ok hb (h0 (by omega)) (j77 M5 e5 _ (by rw [fct_3, if_neg c, if_neg c3]))
  refine pk_eq kind 1 (fun c => j37 _ (by rw [fct_2, if_pos c])) (fun c => s_X6_letter w4 ok ha (h1 c) (j37 _ (by rw [fct_2, if_neg c]))) rfl rfl
