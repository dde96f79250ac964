/-! the step between two words -/
def stI (σ : WS) (lm : Lam) (a b kind : Nat) : Nat → Stt → Stt
  | 0, s => s
  | i + 1, s => if chg σ a b kind i = true then tr lm (fct σ a b kind i) kind i (stI σ lm a b kind i s) else stI σ lm a b kind i s
theorem stI_no {σ : WS} {lm : Lam} {a b kind : Nat} {s : Stt} : ∀ {n : Nat}, (∀ i, i < n → chg σ a b kind i = false) → stI σ lm a b kind n s = s
  | 0, _ => rfl
  | n + 1, h => by rw [stI, h n (by omega), if_neg (by decide), stI_no fun i hi => h i (by omega)]
theorem stI_cut {σ : WS} {lm : Lam} {a b kind : Nat} {s : Stt} {m : Nat} : ∀ {n : Nat}, m ≤ n → (∀ i, m ≤ i → i < n → chg σ a b kind i = false) → stI σ lm a b kind n s = stI σ lm a b kind m s
  | 0, hm, _ => by have : m = 0 := by omega
                   rw [this]
  | n + 1, hm, h => by
    by_cases e : m = n + 1
    · rw [e]
    · rw [stI, h n (by omega) (by omega), if_neg (by decide), stI_cut (n := n) (by omega) fun i h1 h2 => h i h1 (by omega)]
theorem stI_one {σ : WS} {lm : Lam} {a b kind u : Nat} {s : Stt} {n : Nat} (hu : u < n) (hc : chg σ a b kind u = true) (h : ∀ i, i < n → ¬ i = u → chg σ a b kind i = false) : stI σ lm a b kind n s = tr lm (fct σ a b kind u) kind u s := by
  rw [stI_cut (m := u + 1) (by omega) (fun i h1 h2 => h i h2 (by omega)), stI, if_pos hc, stI_no fun i hi => h i (by omega) (by omega)]
def stP (σ : WS) (lm : Lam) (a b : Nat) : Stt := stI σ lm a b 3 9 (stI σ lm a b 2 9 (stI σ lm a b 1 9 (stI σ lm a b 0 9 none)))
abbrev isU2 (σ : WS) (a b : Nat) : Prop := ¬ a = b ∧ used σ a = true ∧ used σ b = true
def stp (σ : WS) (lm : Lam) (a b : Nat) : Stt := if isU2 σ a b then stP σ lm a b else none
theorem chg0 {σ : WS} {a b i : Nat} : chg σ a b 0 i = true ↔ sLen σ b = sLen σ a ∧ cnt (df (sLet σ a) (sLet σ b)) (sLen σ a) = 1 ∧ i = lst (df (sLet σ a) (sLet σ b)) (sLen σ a) := by
  rw [← chg0_iff, chg, Bool.and_eq_true, decide_eq_true_iff]
  exact ⟨fun ⟨⟨h1, h2, h3⟩, h4⟩ => ⟨h1, h2, h3, h4⟩, fun ⟨h1, h2, h3, h4⟩ => ⟨⟨h1, h2, h3⟩, h4⟩⟩
theorem chg1 {σ : WS} {a b i : Nat} : chg σ a b 1 i = true ↔ (sLen σ b = sLen σ a + 1 ∧ i ≤ sLen σ a) ∧ allB (wtK (sLet σ b) (sLet σ a) i) (sLen σ a) = true := by
  rw [chg, Bool.and_eq_true, decide_eq_true_iff]
theorem chg2 {σ : WS} {a b i : Nat} : chg σ a b 2 i = true ↔ (sLen σ a = sLen σ b + 1 ∧ i < sLen σ a) ∧ allB (wtK (sLet σ a) (sLet σ b) i) (sLen σ b) = true := by
  rw [chg, Bool.and_eq_true, decide_eq_true_iff]
theorem chg3 {σ : WS} {a b i : Nat} : chg σ a b 3 i = true ↔ sLen σ b = sLen σ a ∧ cnt (df (sLet σ a) (sLet σ b)) (sLen σ a) = 2 ∧ i = lst (df (sLet σ a) (sLet σ b)) (sLen σ a) ∧ i + 1 < sLen σ a ∧ swp (sLet σ a) (sLet σ b) i := by
  rw [← chg3_iff, chg, Bool.and_eq_true, decide_eq_true_iff]
  · exact ⟨fun ⟨⟨h1, h2, h3⟩, h4⟩ => ⟨h1, h2, h3, h4⟩, fun ⟨h1, h2, h3, h4⟩ => ⟨⟨h1, h2, h3⟩, h4⟩⟩
  · intro z; cases z
  · intro z; cases z
  · intro z; cases z
theorem bno {b : Bool} (h : ¬ b = true) : b = false := ts_nt' h
def SLS (a b r k : Nat) : Prop := STR a b r k ∨ (r = 0 ∧ k = 10)
theorem s_ls167 {σ : WS} {lm : Lam} {M : WM} {a b : Nat} {s : Stt} {Q : WM → Prop} (hW : WC σ M) (ok : wsOK σ) (hl : LawC lm M) (lo : lamOK lm) (ha : a < sN σ) (hb : b < sN σ) (hS : StC s a b M) (h : ∀ M', StC (stI σ lm a b 2 (sLen σ a) s) a b M' → Fr (STR a b) M M' → Q M') : ∃ n0, m_X0_laysStep_l167 (nI a) (nI b) (5325 + 3 * a) (5325 + 3 * b) Q n0 0 M := by
  have hs := ok.1
  obtain ⟨a1, a2, a3, -⟩ := ok.2.1 a ha
  obtain ⟨b1, b2, b3, -⟩ := ok.2.1 b hb
  refine pk_loop (fun k i M' => m_X0_laysStep_l167 (nI a) (nI b) (5325 + 3 * a) (5325 + 3 * b) Q k (nI i) M') (fun i M' => Fr (STR a b) M M' ∧ StC (stI σ lm a b 2 i s) a b M') (sLen σ a) 0 M (by omega) ⟨Fr.rf, hS⟩ ?_ ?_
  · intro k M' ⟨q1, q2⟩
    have w' : WC σ M' := hW.fr ok q1 (by unfold STR PWC; omega)
    unfold m_X0_laysStep_l167
    rw [(w'.line ha).1]
    exact ⟨fun _ => h M' q2 q1, fun z => absurd (Int32.le_refl _) z⟩
  · intro k i M' hi ⟨q1, q2⟩ ih
    have w' : WC σ M' := hW.fr ok q1 (by unfold STR PWC; omega)
    unfold m_X0_laysStep_l167
    rw [(w'.line ha).1]
    refine ⟨fun z => absurd z (nI_ge hi (by omega)), fun _ => s_X2_isWithout (w'.line ha) (w'.line hb) a1 (by omega) b2 (by omega) a3 b3 (fun c1 c2 => ie1 ?_) (fun c => ie0 fun z ez => ?_)⟩
    · have hc : chg σ a b 2 i = true := chg2.mpr ⟨⟨c1, hi⟩, c2⟩
      refine s_X0_tries (kind := 2) w' ok (hl.mv (q1.law (by unfold STR LR; omega))) lo ha hb (by omega) (by omega) (fun _ => hi) (fun z => absurd z (by decide)) (fun z => absurd z (by decide)) q2 fun M6 S6 f6 z ez => ?_
      rw [ez, nI_1]
      exact ih M6 ⟨q1.tr f6, by rw [stI, if_pos hc]; exact S6⟩
    · have hc : chg σ a b 2 i = false := bno fun q => c ⟨(chg2.mp q).1.1, (chg2.mp q).2⟩
      rw [ez, nI_1]
      exact ih M' ⟨q1, by rw [stI, hc, if_neg (by decide)]; exact q2⟩
theorem s_ls128 {σ : WS} {lm : Lam} {M : WM} {a b : Nat} {s : Stt} {Q : WM → Prop} (hW : WC σ M) (ok : wsOK σ) (hl : LawC lm M) (lo : lamOK lm) (ha : a < sN σ) (hb : b < sN σ) (hS : StC s a b M) (h : ∀ M', StC (stI σ lm a b 2 (sLen σ a) (stI σ lm a b 1 (sLen σ b) s)) a b M' → Fr (STR a b) M M' → Q M') : ∃ n0, m_X0_laysStep_l128 (nI a) (nI b) (5325 + 3 * a) (5325 + 3 * b) Q n0 0 M := by
  have hs := ok.1
  obtain ⟨a1, a2, a3, -⟩ := ok.2.1 a ha
  obtain ⟨b1, b2, b3, -⟩ := ok.2.1 b hb
  refine pk_loop (fun k i M' => m_X0_laysStep_l128 (nI a) (nI b) (5325 + 3 * a) (5325 + 3 * b) Q k (nI i) M') (fun i M' => Fr (STR a b) M M' ∧ StC (stI σ lm a b 1 i s) a b M') (sLen σ b) 0 M (by omega) ⟨Fr.rf, hS⟩ ?_ ?_
  · intro k M' ⟨q1, q2⟩
    have w' : WC σ M' := hW.fr ok q1 (by unfold STR PWC; omega)
    unfold m_X0_laysStep_l128
    rw [(w'.line hb).1]
    exact ⟨fun _ => s_ls167 w' ok (hl.mv (q1.law (by unfold STR LR; omega))) lo ha hb q2 fun M2 S2 f2 => h M2 S2 (q1.tr f2), fun z => absurd (Int32.le_refl _) z⟩
  · intro k i M' hi ⟨q1, q2⟩ ih
    have w' : WC σ M' := hW.fr ok q1 (by unfold STR PWC; omega)
    unfold m_X0_laysStep_l128
    rw [(w'.line hb).1]
    refine ⟨fun z => absurd z (nI_ge hi (by omega)), fun _ => s_X2_isWithout (w'.line hb) (w'.line ha) b1 (by omega) a2 (by omega) b3 a3 (fun c1 c2 => ie1 ?_) (fun c => ie0 fun z ez => ?_)⟩
    · have hc : chg σ a b 1 i = true := chg1.mpr ⟨⟨c1, by omega⟩, c2⟩
      refine s_X0_tries (kind := 1) w' ok (hl.mv (q1.law (by unfold STR LR; omega))) lo ha hb (by omega) (by omega) (fun z => absurd rfl z) (fun z => absurd z (by decide)) (fun _ => hi) q2 fun M6 S6 f6 z ez => ?_
      rw [ez, nI_1]
      exact ih M6 ⟨q1.tr f6, by rw [stI, if_pos hc]; exact S6⟩
    · have hc : chg σ a b 1 i = false := bno fun q => c ⟨(chg1.mp q).1.1, (chg1.mp q).2⟩
      rw [ez, nI_1]
      exact ih M' ⟨q1, by rw [stI, hc, if_neg (by decide)]; exact q2⟩
theorem s_X0_laysStep {σ : WS} {lm : Lam} {M : WM} {a b : Nat} {Q : WM → Prop} (hW : WC σ M) (ok : wsOK σ) (hl : LawC lm M) (lo : lamOK lm) (ha : a < sN σ) (hb : b < sN σ) (h : ∀ M', StC (stp σ lm a b) a b M' → Fr (SLS a b) M M' → Q M') : m_X0_laysStep (nI a) (nI b) M Q := by
  have hs := ok.1
  obtain ⟨a1, a2, a3, -⟩ := ok.2.1 a ha
  obtain ⟨b1, b2, b3, -⟩ := ok.2.1 b hb
  refine ⟨vin (by omega), vin (by omega), fun M3 e3 => ?_⟩
  rw [nI_clamp (by omega), nI_clamp (by omega)] at e3
  have f3 : Fr (SLS a b) M M3 := by rw [e3]; exact Fr.rf.PI (Or.inl (Or.inr ⟨Or.inl rfl, rfl⟩))
  have w3 : WC σ M3 := hW.fr ok f3 (by unfold SLS STR PWC; omega)
  have S3 : StC none a b M3 := ⟨by rw [e3, wI_s]; rfl, fun c k i e => by cases e⟩
  have no : ¬ isU2 σ a b → Q M3 := fun q => h M3 (by rw [stp, if_neg q]; exact S3) f3
  refine pk_eq a b (fun c => no fun q => q.1 c) (fun c => s_X0_isUsed w3 ok ha (bcs (fun e5 => s_X0_isUsed w3 ok hb (bcs (fun e6 => ⟨vin (by omega), vin (by omega), ?_⟩) (fun e6 => no fun q => by rw [q.2.2] at e6; cases e6))) (fun e5 => no fun q => by rw [q.2.1] at e5; cases e5))) rfl rfl
  have hu : isU2 σ a b := ⟨c, e5, e6⟩
  rw [stp, if_pos hu] at h
  rw [nI_clamp (by omega), nI_clamp (by omega), (w3.line ha).1, (w3.line hb).1]
  have n8 : ∀ k, k ≤ 9 → ∀ i, 9 ≤ i → i < k → chg σ a b 0 i = false := fun k hk i h1 h2 => absurd h1 (by omega)
  have tail : ∀ (s : Stt) (M4 : WM), Fr (SLS a b) M M4 → StC s a b M4 → stI σ lm a b 3 9 (stI σ lm a b 2 9 (stI σ lm a b 1 9 (stI σ lm a b 0 9 none))) = stI σ lm a b 2 (sLen σ a) (stI σ lm a b 1 (sLen σ b) s) → ∃ n0, m_X0_laysStep_l128 (nI a) (nI b) (5325 + 3 * a) (5325 + 3 * b) Q n0 0 M4 := fun s M4 f4 S4 e => by
    refine s_ls128 (hW.fr ok f4 (by unfold SLS STR PWC; omega)) ok (hl.mv (f4.law (by unfold SLS STR LR; omega))) lo ha hb S4 fun M' S' f' => h M' ?_ (f4.tr (f'.mono fun r k q => Or.inl q))
    unfold stP
    rw [e]; exact S'
  have k1 : ∀ s, stI σ lm a b 1 9 s = stI σ lm a b 1 (sLen σ b) s := fun s => stI_cut (by omega) fun i h1 _ => bno fun q => by have := (chg1.mp q).1; omega
  have k2 : ∀ s, stI σ lm a b 2 9 s = stI σ lm a b 2 (sLen σ a) s := fun s => stI_cut (by omega) fun i h1 _ => bno fun q => by have := (chg2.mp q).1; omega
  refine pk_eq (sLen σ a) (sLen σ b) (fun ce => ?_) (fun ce => tail none M3 f3 S3 ?_) rfl rfl
  · have z1 : ∀ n s, stI σ lm a b 1 n s = s := fun n s => stI_no fun i _ => bno fun q => by have := (chg1.mp q).1; omega
    have z2 : ∀ n s, stI σ lm a b 2 n s = s := fun n s => stI_no fun i _ => bno fun q => by have := (chg2.mp q).1; omega
    have lb' : LineIs (5325 + 3 * b) M3 (sLen σ a) (sLet σ b) := by rw [ce]; exact w3.line hb
    have b3' : ∀ k, k < sLen σ a → sLet σ b k < 26 := by rw [ce]; exact b3
    refine s_X0_unlikeMany (w3.line ha) lb' (by omega) (by omega) (by omega) a3 b3' fun M13 f13 hu13 => ?_
    have F13 : Fr (SLS a b) M M13 := f3.tr (f13.mono fun r k q => Or.inr q)
    have w13 : WC σ M13 := hW.fr ok F13 (by unfold SLS STR PWC; omega)
    have l13 : LawC lm M13 := hl.mv (F13.law (by unfold SLS STR LR; omega))
    have S13 : StC none a b M13 := ⟨by rw [f13.I (by unfold S010; omega)]; exact S3.1, fun c k i e => by cases e⟩
    have cl := cnt_le (df (sLet σ a) (sLet σ b)) (sLen σ a)
    have ll : 0 < cnt (df (sLet σ a) (sLet σ b)) (sLen σ a) → lst (df (sLet σ a) (sLet σ b)) (sLen σ a) < sLen σ a := fun hp => by
      rcases Nat.lt_or_ge (lst (df (sLet σ a) (sLet σ b)) (sLen σ a)) (sLen σ a) with q | q
      · exact q
      · have : cnt (df (sLet σ a) (sLet σ b)) (sLen σ a) = 0 := cnt_0.mpr fun k hk => lst_lo (df (sLet σ a) (sLet σ b)) (sLen σ a) k (by omega)
        omega
    refine pk_eq (cnt (df (sLet σ a) (sLet σ b)) (sLen σ a)) 1 (fun c1 => ?_) (fun c1 => pk_eq (cnt (df (sLet σ a) (sLet σ b)) (sLen σ a)) 2 (fun c2 => ?_) (fun c2 => ?_) rfl rfl) rfl rfl
    · rw [hu13 (by omega)]
      have ll := ll (by omega)
      refine s_X0_tries (kind := 0) w13 ok l13 lo ha hb (by omega) (by omega) (fun _ => ll) (fun z => absurd z (by decide)) (fun _ => by omega) S13 fun M21 S21 f21 => tail _ M21 (F13.tr (f21.mono fun r k q => Or.inl q)) S21 ?_
      rw [z1, z1, z2, z2, stI_no (kind := 3) fun i _ => bno fun q => by have := (chg3.mp q).2.1; omega]
      exact stI_one (by omega) (chg0.mpr ⟨ce.symm, c1, rfl⟩) fun i _ hn => bno fun q => hn (chg0.mp q).2.2
    · rw [hu13 (by omega)]
      have ll := ll (by omega)
      have z0 : stI σ lm a b 0 9 none = none := stI_no fun i _ => bno fun q => by have := (chg0.mp q).2.1; omega
      refine s_X0_areChanged (w13.line ha) (by rw [ce]; exact w13.line hb) (by omega) (by omega) a3 b3' (fun g1 g2 => ie1 ?_) (fun g => ie0 (tail none M13 F13 S13 ?_))
      · refine s_X0_tries (kind := 3) w13 ok l13 lo ha hb (by omega) (by omega) (fun _ => ll) (fun _ => g1) (fun z => absurd z (by decide)) S13 fun M21 S21 f21 => tail _ M21 (F13.tr (f21.mono fun r k q => Or.inl q)) S21 ?_
        rw [z1, z1, z2, z2, z0]
        exact stI_one (by omega) (chg3.mpr ⟨ce.symm, c2, rfl, g1, g2⟩) fun i _ hn => bno fun q => hn (chg3.mp q).2.2.1
      · rw [z1, z1, z2, z2, z0]
        exact stI_no fun i _ => bno fun q => by
          obtain ⟨-, -, q2, q3, q4⟩ := chg3.mp q
          rw [q2] at q3 q4
          exact g ⟨q3, q4⟩
    · refine tail none M13 F13 S13 ?_
      rw [z1, z1, z2, z2, stI_no (kind := 3) fun i _ => bno fun q => by have := (chg3.mp q).2.1; omega]
      exact stI_no fun i _ => bno fun q => by have := (chg0.mp q).2.1; omega
  · rw [k1, k2, stI_no (kind := 3) fun i _ => bno fun q => by have := (chg3.mp q).1; omega, stI_no (kind := 0) fun i _ => bno fun q => by have := (chg0.mp q).1; omega]
