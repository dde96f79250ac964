/-! squares, the model's side -/
def sm (f : Nat → Nat) (N : Nat) : Nat → Nat
  | 0 => 1
  | m + 1 => sm f N m + f (N - (m + 1)) + 1
def sqS (σ : WS) (n : Nat) : Nat → (Nat → Nat) → Nat
  | 0, _ => 0
  | d + 1, p => sm (fun w => if okRow σ n (n - (d + 1)) p w = true then sqS σ n d (up1 p (n - (d + 1)) w) else 0) (sN σ) (sN σ)
def sqH (σ : WS) (n d : Nat) (p : Nat → Nat) (w : Nat) : Nat := if okRow σ n (n - (d + 1)) p w = true then sqS σ n d (up1 p (n - (d + 1)) w) else 0
theorem sqS_s (σ : WS) (n d : Nat) (p : Nat → Nat) : sqS σ n (d + 1) p = sm (sqH σ n d p) (sN σ) (sN σ) := rfl
theorem s_lays0 {K : Int32 → WM → Prop} {n : Nat} {x : Int32} {p : Nat → Nat} {a : SqA} {M : WM} {Q : WM → Prop} (hn : n ≤ 4) (hM : ∀ k, k < n → wI M 5479 k = nI (p k)) (hA : SqT a n M) (hb : a.1 + 1 < 2 ^ 31) (h : ∀ M', SqT (a.1 + 1, if a.1 = 0 then p else a.2) n M' → (∀ k, k < n → wI M' 5479 k = nI (p k)) → Fr SQT M M' → K x M') : ∃ n0, m_X6_laysSquares_l103 K (nI n) x Q n0 0 M := by
  have j37 : ∀ M', Fr SQT M M' → (∀ k, k < n → wI M' 5479 k = nI (p k)) → wI M' 5444 53 = nI a.1 → (∀ k, k < n → wI M' 5480 k = nI ((if a.1 = 0 then p else a.2) k)) → m_X6_laysSquares_j133 K (nI n) x Q M' := fun M' f g1 g2 g3 M1 e1 => by
    rw [g2, nI_1] at e1
    refine h M1 ⟨by rw [e1, wI_s], fun _ k hk => ?_⟩ (fun k hk => ?_) (by rw [e1]; exact f.PI (Or.inr (Or.inr ⟨rfl, rfl⟩)))
    · rw [e1, wI_n _ _ (by omega)]; exact g3 k hk
    · rw [e1, wI_n _ _ (by omega)]; exact g1 k hk
  by_cases hz : a.1 = 0
  · refine pk_loop (fun k i M' => m_X6_laysSquares_l103 K (nI n) x Q k (nI i) M') (fun i M' => Fr (fun r _ => r = 5480) M M' ∧ ∀ k, k < i → wI M' 5480 k = nI (p k)) n 0 M (by omega) ⟨Fr.rf, fun k hk => absurd hk (by omega)⟩ ?_ ?_
    · intro k M' ⟨q1, q2⟩
      refine ⟨fun _ => j37 M' (q1.mono fun r k q => Or.inr (Or.inl q)) (fun k hk => by rw [q1.I (by omega)]; exact hM k hk) (by rw [q1.I (by omega)]; exact hA.1) (fun k hk => by rw [if_pos hz]; exact q2 k hk), fun z => absurd (Int32.le_refl _) z⟩
    · intro k i M' hi ⟨q1, q2⟩ ih
      refine ⟨fun z => absurd z (nI_ge hi (by omega)), fun _ => ⟨fun _ => ⟨vin (by omega), vin (by omega), fun M5 e5 z ez => ?_⟩, fun z => ?_⟩⟩
      · rw [nI_clamp (by omega), q1.I (by omega), hM i hi] at e5
        rw [ez, nI_1]
        refine ih M5 ⟨by rw [e5]; exact q1.PI rfl, fun k hk => ?_⟩
        by_cases ek : k = i
        · rw [ek, e5, wI_s]
        · rw [e5, wI_n _ _ (by omega)]; exact q2 k (by omega)
      · rw [q1.I (by omega), hA.1, hz] at z; exact absurd rfl z
  · have jj := j37 M Fr.rf hM hA.1 (fun k hk => by rw [if_neg hz]; exact hA.2 (by omega) k hk)
    refine ⟨1, fun _ => jj, fun _ => ⟨fun z => ?_, fun _ => jj⟩⟩
    rw [hA.1] at z
    exact absurd z (nI_ne0 (by omega) (by omega))
theorem s_lays {σ : WS} (ok : wsOK σ) {n : Nat} (hn : n ≤ 4) {Q : WM → Prop} : ∀ (e r : Nat) (p : Nat → Nat) (m : Nat) (a : SqA) (M : WM) (k : Nat), r + (e + 1) = n → m ≤ sN σ → SqR σ n r p → (∀ k, k < r → wI M 5479 k = nI (p k)) → wI M 5479 r = nI (sN σ - m) - 1 → WT σ M → SqT a n M → (fw (sqG σ n e p) (sN σ) m a).1 < 2 ^ 31 → (∀ M', SqT (fw (sqG σ n e p) (sN σ) m a) n M' → (∀ k, k < r → wI M' 5479 k = nI (p k)) → Fr SQT M M' → m_X6_laysSquares_l14 (nI n) Q k (nI r - 1) M') → m_X6_laysSquares_l14 (nI n) Q (k + sm (sqH σ n e p) (sN σ) m) (nI r) M := by
  have hs := ok.1
  intro e
  refine Nat.strongRecOn e ?_
  intro e ihe r p m
  induction m with
  | zero =>
    intro a M k hr hm hR hM hw hW hA hb h
    refine ⟨fun z => absurd z (nI_pos (by omega)), fun _ => ⟨vin (by omega), vin (by omega), fun M4 e4 => ⟨vin (by omega), ?_⟩⟩⟩
    rw [nI_clamp (by omega), hw, Int32.sub_add_cancel] at e4
    have f4 : Fr SQT M M4 := by rw [e4]; exact Fr.rf.PI (Or.inl rfl)
    have w4 : WT σ M4 := hW.fr f4 (by unfold SQT PWT; omega)
    rw [nI_clamp (by omega), show wI M4 5479 r = nI (sN σ - 0) by rw [e4, wI_s], w4.1]
    refine ⟨fun c => absurd c (nI_nlt (by omega) (by omega)), fun _ z ez => ?_⟩
    rw [ez]
    exact h M4 ⟨by rw [e4, wI_n _ _ (by omega)]; exact hA.1, fun z k hk => by rw [e4, wI_n _ _ (by omega)]; exact hA.2 z k hk⟩ (fun k hk => by rw [e4, wI_n _ _ (by omega)]; exact hM k hk) f4
  | succ m ihm =>
    intro a M k hr hm hR hM hw hW hA hb h
    have hwN : sN σ - (m + 1) < sN σ := by omega
    have hw1 : sN σ - m = sN σ - (m + 1) + 1 := by omega
    rw [fw] at hb h
    have ihm := fun (b : SqA) (M2 : WM) => ihm b M2 k hr (by omega) hR
    rw [hw1] at ihm
    show m_X6_laysSquares_l14 (nI n) Q (k + (sm (sqH σ n e p) (sN σ) m + sqH σ n e p (sN σ - (m + 1))) + 1) (nI r) M
    rw [← Nat.add_assoc]
    generalize sN σ - (m + 1) = w at *
    have gb : (sqG σ n e p w a).1 < 2 ^ 31 := by
      have := fw_ge (N := sN σ) (sqG_ge σ n e p) m (sqG σ n e p w a)
      omega
    have hre : n - (e + 1) = r := by omega
    refine ⟨fun z => absurd z (nI_pos (by omega)), fun _ => ⟨vin (by omega), vin (by omega), fun M4 e4 => ⟨vin (by omega), ?_⟩⟩⟩
    rw [nI_clamp (by omega), hw, Int32.sub_add_cancel] at e4
    have f4 : Fr SQT M M4 := by rw [e4]; exact Fr.rf.PI (Or.inl rfl)
    have w4 : WT σ M4 := hW.fr f4 (by unfold SQT PWT; omega)
    have c4 : SqT a n M4 := ⟨by rw [e4, wI_n _ _ (by omega)]; exact hA.1, fun z k hk => by rw [e4, wI_n _ _ (by omega)]; exact hA.2 z k hk⟩
    have m4 : ∀ k, k < r → wI M4 5479 k = nI (p k) := fun k hk => by rw [e4, wI_n _ _ (by omega)]; exact hM k hk
    have r4 : wI M4 5479 r = nI w := by rw [e4, wI_s]
    rw [nI_clamp (by omega), r4, w4.1]
    refine ⟨fun _ => ⟨vin (by omega), ?_⟩, fun c => absurd (nI_lt hwN (by omega)) c⟩
    have go : ∀ M5, Fr SQT M4 M5 → SqT (sqG σ n e p w a) n M5 → (∀ k, k < r → wI M5 5479 k = nI (p k)) → wI M5 5479 r = nI w → m_X6_laysSquares_l14 (nI n) Q (k + sm (sqH σ n e p) (sN σ) m) (nI r) M5 := fun M5 f5 c5 m5 r5 => by
      refine ihm _ M5 m5 (by rw [r5]; exact (nI_pred w).symm) (w4.fr f5 (by unfold SQT PWT; omega)) c5 hb (fun M' a1 a2 a3 => h M' a1 a2 ((f4.tr f5).tr a3))
    have stay : okRow σ n r p w = false → m_X6_laysSquares_l14 (nI n) Q (k + sm (sqH σ n e p) (sN σ) m + sqH σ n e p w) (nI r) M4 := fun q => by
      have e1 : sqH σ n e p w = 0 := by unfold sqH; rw [hre, q]; rfl
      have e2 : sqG σ n e p w a = a := by unfold sqG; rw [hre, q]; rfl
      rw [e1]
      exact go M4 Fr.rf (by rw [e2]; exact c4) m4 r4
    refine s_X6_isOf w4 ok hwN (by omega) (bcs (fun e7 => ?_) (fun e7 => stay (by unfold okRow; rw [e7]; rfl)))
    have ce : sLen σ w = n := of_decide_eq_true ((Bool.and_eq_true _ _).mp e7).2
    have g8 : ∀ k, k < r + 1 → wI M4 5479 k = nI (up1 p r w k) := fun k hk => by
      unfold up1
      by_cases ek : k = r
      · rw [if_pos ek, ek]; exact r4
      · rw [if_neg ek]; exact m4 k (by omega)
    have R8 : SqR σ n (r + 1) (up1 p r w) := fun k hk => by
      unfold up1
      by_cases ek : k = r
      · rw [if_pos ek]; exact ⟨hwN, ce⟩
      · rw [if_neg ek]; exact hR k (by omega)
    have eok : okRow σ n r p w = allB (fun c => canCol σ n (r + 1) (up1 p r w) c) n := by unfold okRow; rw [e7]; rfl
    rw [nI_1]
    refine s_X6_canRows w4 ok hn (by omega) R8 g8 (bcs (fun e8 => ?_) (fun e8 => stay (eok.trans e8)))
    have hok := eok.trans e8
    have e1 : sqH σ n e p w = sqS σ n e (up1 p r w) := by unfold sqH; rw [hre, hok]; rfl
    have e2 : sqG σ n e p w a = sqE σ n e (up1 p r w) a := by unfold sqG; rw [hre, hok]; rfl
    have back : ∀ M5, (∀ k, k < r + 1 → wI M5 5479 k = nI (up1 p r w k)) → (∀ k, k < r → wI M5 5479 k = nI (p k)) ∧ wI M5 5479 r = nI w := fun M5 g => by
      refine ⟨fun k hk => ?_, ?_⟩
      · have := g k (by omega)
        unfold up1 at this
        rw [if_neg (by omega)] at this; exact this
      · have := g r (by omega)
        unfold up1 at this
        rw [if_pos rfl] at this; exact this
    refine pk_le n (r + 1) (fun c => ?_) (fun c z ez => ?_) rfl rfl
    · have h0 : e = 0 := by omega
      subst h0
      have hrn : r + 1 = n := by omega
      rw [e1, show sqS σ n 0 (up1 p r w) = 0 from rfl]
      rw [e2] at gb
      refine s_lays0 hn (p := up1 p r w) (a := a) (by rw [← hrn]; exact g8) c4 gb fun M5 c5 m5 f5 => ?_
      obtain ⟨b1, b2⟩ := back M5 (by rw [hrn]; exact m5)
      exact go M5 f5 (by rw [e2]; exact c5) b1 b2
    · obtain ⟨e', rfl⟩ : ∃ e', e = e' + 1 := ⟨e - 1, by omega⟩
      rw [ez]
      refine ⟨vin (by omega), fun M15 e15 => ?_⟩
      rw [nI_clamp (by omega)] at e15
      have f15 : Fr SQT M4 M15 := by rw [e15]; exact Fr.rf.PI (Or.inl rfl)
      rw [e1, sqS_s]
      rw [e2, sqE_s] at gb
      refine ihe e' (by omega) (r + 1) (up1 p r w) (sN σ) a M15 _ (by omega) (Nat.le_refl _) R8 (fun k hk => by rw [e15, wI_n _ _ (by omega)]; exact g8 k hk) (by rw [e15, wI_s, Nat.sub_self]; rfl) (w4.fr f15 (by unfold SQT PWT; omega)) ⟨by rw [e15, wI_n _ _ (by omega)]; exact c4.1, fun z k hk => by rw [e15, wI_n _ _ (by omega)]; exact c4.2 z k hk⟩ gb fun M5 c5 m5 f5 => ?_
      obtain ⟨b1, b2⟩ := back M5 m5
      rw [nI_pred]
      exact go M5 (f15.tr f5) (by rw [e2, sqE_s]; exact c5) b1 b2
theorem s_X6_square {σ : WS} {M : WM} {x y : Int32} {Q : Int32 → WM → Prop} (hW : WT σ M) (ok : wsOK σ) (h0 : ¬ VS x y → Q (-1) M) (h1 : ∀ n, x = nI n → VS x y → ∀ M', Fr SQT M M' → Q (sqV σ n y) M') : m_X6_square x y M Q := by
  refine s_X6_in (bdc (fun e => ?_) (fun e => h0 fun z => e z.1))
  have e : 2 ≤ x.toInt ∧ x.toInt ≤ 4 := e
  obtain ⟨n, hn, rfl, en⟩ := nI_ex (x := x) (by omega)
  have em : (nI n - 1).toInt = (n : Int) - 1 := pk_sub_toInt (b := 1) (by omega) (by omega)
  refine s_X6_in ?_
  rw [em]
  refine bdc (fun e2 => ?_) (fun e2 => h0 fun z => e2 ⟨z.2.1, by have := z.2.2; omega⟩)
  have e2 : -1 ≤ y.toInt ∧ y.toInt ≤ (n : Int) - 1 := e2
  have h1 := h1 n rfl ⟨e, e2.1, by omega⟩
  intro M5 e5
  refine ⟨vin (n := 0) (by omega), fun M6 e6 => ⟨1 + sm (sqH σ n (n - 1) (fun _ => 0)) (sN σ) (sN σ), ?_⟩⟩
  have e6 : M6 = wPI M5 5479 0 (-1) := e6
  have f6 : Fr SQT M M6 := by rw [e6, e5]; exact (Fr.rf.PI (Or.inr (Or.inr ⟨rfl, rfl⟩))).PI (Or.inl rfl)
  have tp := sq_top ok (n := n) (by omega) (fun _ => 0) (fun _ => 0)
  have en1 : sqE σ n n (fun _ => 0) (0, fun _ => 0) = fw (sqG σ n (n - 1) (fun _ => 0)) (sN σ) (sN σ) (0, fun _ => 0) := by
    rw [← sqE_s, show n - 1 + 1 = n by omega]
  unfold sqV at h1
  rw [en1] at h1 tp
  refine s_lays ok (n := n) (by omega) (n - 1) 0 (fun _ => 0) (sN σ) (0, fun _ => 0) M6 1 (by omega) (Nat.le_refl _) (fun k hk => absurd hk (by omega)) (fun k hk => absurd hk (by omega)) (by rw [e6, wI_s, Nat.sub_self]; rfl) (hW.fr f6 (by unfold SQT PWT; omega)) ⟨by rw [e6, wI_n _ _ (by omega), e5, wI_s]; rfl, fun z => absurd z (by show ¬ 0 < 0; omega)⟩ tp fun M7 c7 _ f7 => ?_
  refine ⟨fun _ => ?_, fun z => absurd (show nI 0 - 1 < 0 by decide) z⟩
  have h1 := h1 M7 (f6.tr f7)
  dsimp only
  rw [c7.1]
  refine ⟨fun z => ?_, fun z => pk_eq _ 0 (fun z2 => ?_) (fun z2 => ?_) rfl rfl (by omega) (by omega)⟩
  · rw [if_pos z] at h1; exact h1
  · rw [if_neg z, if_pos z2] at h1; exact h1
  · rw [if_neg z, if_neg z2] at h1
    rw [i_eq, show ((-1 : Int32)).toInt = -1 by decide] at z
    obtain ⟨m, hm, rfl, e9⟩ := nI_ex (x := y) (by omega)
    rw [nI_clamp (by omega), c7.2 (by omega) m (by omega)]
    rw [e9] at h1
    exact ⟨vin (by omega), h1⟩
