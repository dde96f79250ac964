/-! squares: all of them, one after the other -/
abbrev SqA : Type := Nat × (Nat → Nat)
def fw {α : Type} (g : Nat → α → α) (N : Nat) : Nat → α → α
  | 0, a => a
  | m + 1, a => fw g N m (g (N - (m + 1)) a)
def sqE (σ : WS) (n : Nat) : Nat → (Nat → Nat) → SqA → SqA
  | 0, p, a => (a.1 + 1, if a.1 = 0 then p else a.2)
  | d + 1, p, a => fw (fun w b => if okRow σ n (n - (d + 1)) p w = true then sqE σ n d (up1 p (n - (d + 1)) w) b else b) (sN σ) (sN σ) a
def sqG (σ : WS) (n d : Nat) (p : Nat → Nat) (w : Nat) (b : SqA) : SqA := if okRow σ n (n - (d + 1)) p w = true then sqE σ n d (up1 p (n - (d + 1)) w) b else b
theorem sqE_s (σ : WS) (n d : Nat) (p : Nat → Nat) (a : SqA) : sqE σ n (d + 1) p a = fw (sqG σ n d p) (sN σ) (sN σ) a := rfl
theorem fw_ge {g : Nat → SqA → SqA} {N : Nat} (h : ∀ w a, a.1 ≤ (g w a).1) : ∀ m a, a.1 ≤ (fw g N m a).1
  | 0, _ => Nat.le_refl _
  | m + 1, a => Nat.le_trans (h _ a) (fw_ge h m _)
theorem fw_le {g : Nat → SqA → SqA} {N B : Nat} (h : ∀ w a, (g w a).1 ≤ a.1 + B) : ∀ m a, (fw g N m a).1 ≤ a.1 + m * B
  | 0, a => by rw [fw]; omega
  | m + 1, a => by
    have h1 := fw_le (N := N) h m (g (N - (m + 1)) a)
    have h2 := h (N - (m + 1)) a
    rw [fw, Nat.succ_mul]; omega
theorem sqE_ge (σ : WS) (n : Nat) : ∀ d p a, a.1 ≤ (sqE σ n d p a).1
  | 0, _, a => Nat.le_succ _
  | d + 1, p, a => fw_ge (fun w b => by split; exact sqE_ge σ n d _ b; exact Nat.le_refl _) _ a
theorem sqG_ge (σ : WS) (n d : Nat) (p : Nat → Nat) (w : Nat) (b : SqA) : b.1 ≤ (sqG σ n d p w b).1 := by
  unfold sqG; split; exact sqE_ge σ n d _ b; exact Nat.le_refl _
theorem sqE_le (σ : WS) (n : Nat) (hN : sN σ ≤ 40) : ∀ d p a, (sqE σ n d p a).1 ≤ a.1 + 40 ^ d
  | 0, _, a => Nat.le_refl _
  | d + 1, p, a => by
    have h1 := fw_le (g := sqG σ n d p) (N := sN σ) (B := 40 ^ d) (fun w b => by unfold sqG; split; exact sqE_le σ n hN d _ b; exact Nat.le_add_right _ _) (sN σ) a
    have h2 := Nat.mul_le_mul_right (40 ^ d) hN
    rw [sqE_s, Nat.pow_succ]; omega
def SqC (a : SqA) (n : Nat) (M : WM) : Prop := wI M 0 32 = nI a.1 ∧ (0 < a.1 → ∀ k, k < n → wI M 5323 k = nI (a.2 k))
def SQC (r k : Nat) : Prop := r = 5322 ∨ r = 5323 ∨ (r = 0 ∧ k = 32)
def SqT (a : SqA) (n : Nat) (M : WM) : Prop := wI M 5444 53 = nI a.1 ∧ (0 < a.1 → ∀ k, k < n → wI M 5480 k = nI (a.2 k))
def SQT (r k : Nat) : Prop := r = 5479 ∨ r = 5480 ∨ (r = 5444 ∧ k = 53)
theorem s_fills0 {F : Int32 → Int32 → WM → (WM → Prop) → Prop} {n : Nat} {p : Nat → Nat} {a : SqA} {M : WM} {Q : WM → Prop} (hn : n ≤ 4) (hM : ∀ k, k < n → wI M 5322 k = nI (p k)) (hA : SqC a n M) (hb : a.1 + 1 < 2 ^ 31) (h : ∀ M', SqC (a.1 + 1, if a.1 = 0 then p else a.2) n M' → (∀ k, k < n → wI M' 5322 k = nI (p k)) → Fr SQC M M' → Q M') : ∃ n0, m_X0_fills_l7 F (nI n) Q n0 0 M := by
  have j37 : ∀ M', Fr SQC M M' → (∀ k, k < n → wI M' 5322 k = nI (p k)) → wI M' 0 32 = nI a.1 → (∀ k, k < n → wI M' 5323 k = nI ((if a.1 = 0 then p else a.2) k)) → m_X0_fills_j37 F Q M' := fun M' f g1 g2 g3 M1 e1 => by
    rw [g2, nI_1] at e1
    refine h M1 ⟨by rw [e1, wI_s], fun _ k hk => ?_⟩ (fun k hk => ?_) (by rw [e1]; exact f.PI (Or.inr (Or.inr ⟨rfl, rfl⟩)))
    · rw [e1, wI_n _ _ (by omega)]; exact g3 k hk
    · rw [e1, wI_n _ _ (by omega)]; exact g1 k hk
  by_cases hz : a.1 = 0
  · refine pk_loop (fun k i M' => m_X0_fills_l7 F (nI n) Q k (nI i) M') (fun i M' => Fr (fun r _ => r = 5323) M M' ∧ ∀ k, k < i → wI M' 5323 k = nI (p k)) n 0 M (by omega) ⟨Fr.rf, fun k hk => absurd hk (by omega)⟩ ?_ ?_
    · intro k M' ⟨q1, q2⟩
      refine ⟨fun _ => j37 M' (q1.mono fun r k q => Or.inr (Or.inl q)) (fun k hk => by rw [q1.I (by omega)]; exact hM k hk) (by rw [q1.I (by omega)]; exact hA.1) (fun k hk => by rw [if_pos hz]; exact q2 k hk), fun z => absurd (Int32.le_refl _) z⟩
    · intro k i M' hi ⟨q1, q2⟩ ih
      refine ⟨fun z => absurd z (nI_ge hi (by omega)), fun _ => ⟨fun _ => ⟨vin (by omega), vin (by omega), fun M5 e5 z ez => ?_⟩, fun z => ?_⟩⟩
      · rw [nI_clamp (by omega), q1.I (by omega), hM i hi] at e5
        rw [ez, nI_1]
        refine ih M5 ⟨by rw [e5]; exact q1.PI rfl, fun k hk => ?_⟩
        by_cases ek : k = i
        · rw [ek, e5, wI_s]
        · rw [e5, wI_n _ _ (by omega)]; exact q2 k (by omega)
      · rw [q1.I (by omega), hA.1, hz] at z; exact absurd rfl z
  · have jj := j37 M Fr.rf hM hA.1 (fun k hk => by rw [if_neg hz]; exact hA.2 (by omega) k hk)
    refine ⟨1, fun _ => jj, fun _ => ⟨fun z => ?_, fun _ => jj⟩⟩
    rw [hA.1] at z
    exact absurd z (nI_ne0 (by omega) (by omega))
theorem s_fills {σ : WS} (ok : wsOK σ) {n : Nat} (hn : n ≤ 4) : ∀ (e D r : Nat) (p : Nat → Nat) (a : SqA) (M : WM) (Q : WM → Prop), r + e = n → e < D → SqR σ n r p → (∀ k, k < r → wI M 5322 k = nI (p k)) → WC σ M → SqC a n M → (sqE σ n e p a).1 < 2 ^ 31 → (∀ M', SqC (sqE σ n e p a) n M' → (∀ k, k < r → wI M' 5322 k = nI (p k)) → Fr SQC M M' → Q M') → m_X0_fills D (nI n) (nI r) M Q := by
  intro e
  induction e with
  | zero =>
    intro D r p a M Q hr hD hR hM hW hA hb h
    obtain ⟨D, rfl⟩ : ∃ d, D = d + 1 := ⟨D - 1, by omega⟩
    have hr : r = n := by omega
    subst hr
    exact pk_eq r r (fun _ => s_fills0 hn hM hA hb h) (fun z => absurd rfl z) rfl rfl
  | succ e ihe =>
    intro D r p a M Q hr hD hR hM hW hA hb h
    obtain ⟨D, rfl⟩ : ∃ d, D = d + 1 := ⟨D - 1, by omega⟩
    have hs := ok.1
    refine pk_eq r n (fun z => absurd z (by omega)) (fun _ => ?_) rfl rfl
    rw [sqE_s] at hb h
    refine pk_loop (fun k i M' => m_X0_fills_l50 (m_X0_fills D) (nI n) (nI r) Q k (nI i) M') (fun i M' => Fr SQC M M' ∧ (∀ k, k < r → wI M' 5322 k = nI (p k)) ∧ ∃ b, SqC b n M' ∧ fw (sqG σ n e p) (sN σ) (sN σ - i) b = fw (sqG σ n e p) (sN σ) (sN σ) a) (sN σ) 0 M (by omega) ⟨Fr.rf, hM, a, hA, rfl⟩ ?_ ?_
    · intro k M' ⟨q1, q2, b, q3, q4⟩
      have w' : WC σ M' := hW.fr ok q1 (by unfold SQC PWC; omega)
      unfold m_X0_fills_l50
      rw [w'.1]
      rw [Nat.sub_self, fw] at q4
      exact ⟨fun _ => h M' (by rw [← q4]; exact q3) q2 q1, fun z => absurd (Int32.le_refl _) z⟩
    · intro k i M' hi ⟨q1, q2, b, q3, q4⟩ ih
      have w' : WC σ M' := hW.fr ok q1 (by unfold SQC PWC; omega)
      unfold m_X0_fills_l50
      rw [w'.1]
      have e4 : sN σ - i = (sN σ - (i + 1)) + 1 := by omega
      rw [e4, fw, show sN σ - (sN σ - (i + 1) + 1) = i by omega] at q4
      have gb : (sqG σ n e p i b).1 < 2 ^ 31 := by
        have := fw_ge (N := sN σ) (sqG_ge σ n e p) (sN σ - (i + 1)) (sqG σ n e p i b)
        rw [q4] at this; omega
      have hre : n - (e + 1) = r := by omega
      have skip : ∀ M4, Fr SQC M' M4 → (∀ k, k < r → wI M4 5322 k = nI (p k)) → SqC (sqG σ n e p i b) n M4 → ∀ y : Int32, y = nI i + 1 → m_X0_fills_l50 (m_X0_fills D) (nI n) (nI r) Q k y M4 := fun M4 f4 g4 c4 y ey => by
        rw [ey, nI_1]
        exact ih M4 ⟨q1.tr f4, g4, _, c4, q4⟩
      have stay : okRow σ n r p i = false → sqG σ n e p i b = b := fun q => by unfold sqG; rw [hre, q]; rfl
      refine ⟨fun z => absurd z (nI_ge hi (by omega)), fun _ => s_X0_isUsed w' ok hi (bcs (fun e7 => ⟨vin (by omega), ?_⟩) (fun e7 => skip M' Fr.rf q2 (by rw [stay (by unfold okRow; rw [e7]; rfl)]; exact q3)))⟩
      have l8 := (ok.2.1 i hi).2.1
      rw [nI_clamp (by omega), (w'.line hi).1]
      refine pk_eq (sLen σ i) n (fun ce => ⟨vin (by omega), fun M8 e8 => ?_⟩) (fun ce => skip M' Fr.rf q2 (by rw [stay (by unfold okRow; rw [e7, decide_eq_false ce]; rfl)]; exact q3)) rfl rfl
      rw [nI_clamp (by omega)] at e8
      have f8 : Fr SQC M' M8 := by rw [e8]; exact Fr.rf.PI (Or.inl rfl)
      have w8 : WC σ M8 := w'.fr ok f8 (by unfold SQC PWC; omega)
      have g8 : ∀ k, k < r + 1 → wI M8 5322 k = nI (up1 p r i k) := fun k hk => by
        unfold up1
        by_cases ek : k = r
        · rw [if_pos ek, ek, e8, wI_s]
        · rw [if_neg ek, e8, wI_n _ _ (by omega)]; exact q2 k (by omega)
      have g8' : ∀ k, k < r → wI M8 5322 k = nI (p k) := fun k hk => by rw [e8, wI_n _ _ (by omega)]; exact q2 k hk
      have c8 : SqC b n M8 := ⟨by rw [e8, wI_n _ _ (by omega)]; exact q3.1, fun z k hk => by rw [e8, wI_n _ _ (by omega)]; exact q3.2 z k hk⟩
      have R8 : SqR σ n (r + 1) (up1 p r i) := fun k hk => by
        unfold up1
        by_cases ek : k = r
        · rw [if_pos ek]; exact ⟨hi, ce⟩
        · rw [if_neg ek]; exact hR k (by omega)
      have eok : okRow σ n r p i = allB (fun c => canCol σ n (r + 1) (up1 p r i) c) n := by unfold okRow; rw [e7, decide_eq_true ce]; rfl
      have j127 : ∀ x, okRow σ n r p i = x → m_X0_fills_j127 (m_X0_fills D) (fun x3' M' => m_X0_fills_l50 (m_X0_fills D) (nI n) (nI r) Q k x3' M') (nI n) (nI r) (nI i) (b2i x) Q M8 := fun x hx => bcs (fun ex => by
          have eg : sqG σ n e p i b = sqE σ n e (up1 p r i) b := by unfold sqG; rw [hre, hx, ex]; rfl
          rw [nI_1]
          refine ihe D (r + 1) (up1 p r i) b M8 _ (by omega) (by omega) R8 g8 w8 c8 (by rw [← eg]; exact gb) fun M4 c4 g4 f4 => ?_
          refine skip M4 (f8.tr f4) (fun k hk => ?_) (by rw [eg]; exact c4)
          have := g4 k (by omega)
          unfold up1 at this
          rw [if_neg (by omega)] at this; exact this) (fun ex => skip M8 f8 g8' (by rw [stay (hx.trans ex)]; exact c8))
      refine pk_loop (fun k' j (x : Bool) => m_X0_fills_l98 (m_X0_fills D) (fun x3' M' => m_X0_fills_l50 (m_X0_fills D) (nI n) (nI r) Q k x3' M') (nI n) (nI r) (nI i) Q k' (b2i x) (nI j) M8) (fun j x => x = allB (fun c => canCol σ n (r + 1) (up1 p r i) c) j) n 0 true (by omega) rfl ?_ ?_
      · intro k' x ex
        exact ⟨fun _ => j127 x (eok.trans ex.symm), fun z => absurd (Int32.le_refl _) z⟩
      · intro k' j x hj ex ih2
        refine ⟨fun z => absurd z (nI_ge hj (by omega)), fun _ => bcs (fun e1 => ?_) (fun e1 => ?_)⟩
        · rw [e1] at ex
          rw [nI_1]
          refine s_X0_canColumn w8 ok hn (by omega) hj R8 g8 fun z ez => ?_
          rw [ez, nI_1]
          exact ih2 _ (by rw [allB, ← ex, Bool.true_and])
        · rw [e1] at ex
          rw [e1]
          exact j127 false (eok.trans (allB_no ex.symm (Nat.le_of_lt hj)))
def VS (n x : Int32) : Prop := (2 ≤ n.toInt ∧ n.toInt ≤ 4) ∧ -1 ≤ x.toInt ∧ x.toInt ≤ n.toInt - 1
def sqV (σ : WS) (n : Nat) (x : Int32) : Int32 := if x = -1 then nI (sqE σ n n (fun _ => 0) (0, fun _ => 0)).1 else if (sqE σ n n (fun _ => 0) (0, fun _ => 0)).1 = 0 then -2 else nI ((sqE σ n n (fun _ => 0) (0, fun _ => 0)).2 x.toInt.toNat)
theorem sq_top {σ : WS} (ok : wsOK σ) {n : Nat} (hn : n ≤ 4) (p : Nat → Nat) (f : Nat → Nat) : (sqE σ n n p (0, f)).1 < 2 ^ 31 := by
  have h1 := sqE_le σ n ok.1 n p (0, f)
  have h2 : 40 ^ n ≤ 40 ^ 4 := Nat.pow_le_pow_right (by omega) hn
  have h1 : (sqE σ n n p (0, f)).1 ≤ 0 + 40 ^ n := h1
  omega
theorem s_X0_square {σ : WS} {M : WM} {x y : Int32} {Q : Int32 → WM → Prop} (hW : WC σ M) (ok : wsOK σ) (h0 : ¬ VS x y → Q (-1) M) (h1 : ∀ n, x = nI n → VS x y → ∀ M', Fr SQC M M' → Q (sqV σ n y) M') : m_X0_square x y M Q := by
  refine s_X0_within (bdc (fun e => ?_) (fun e => h0 fun z => e z.1))
  have e : 2 ≤ x.toInt ∧ x.toInt ≤ 4 := e
  obtain ⟨n, hn, rfl, en⟩ := nI_ex (x := x) (by omega)
  have em : (nI n - 1).toInt = (n : Int) - 1 := pk_sub_toInt (b := 1) (by omega) (by omega)
  refine s_X0_within ?_
  rw [em]
  refine bdc (fun e2 => ?_) (fun e2 => h0 fun z => e2 ⟨z.2.1, by have := z.2.2; omega⟩)
  have e2 : -1 ≤ y.toInt ∧ y.toInt ≤ (n : Int) - 1 := e2
  have h1 := h1 n rfl ⟨e, e2.1, by omega⟩
  intro M5 e5
  have f5 : Fr SQC M M5 := by rw [e5]; exact Fr.rf.PI (Or.inr (Or.inr ⟨rfl, rfl⟩))
  refine ⟨8, by omega, s_fills ok (n := n) (by omega) n 8 0 (fun _ => 0) (0, fun _ => 0) M5 _ (by omega) (by omega) (fun k hk => absurd hk (by omega)) (fun k hk => absurd hk (by omega)) (hW.fr ok f5 (by unfold SQC PWC; omega)) ⟨by rw [e5, wI_s]; rfl, fun z => absurd z (by show ¬ 0 < 0; omega)⟩ (sq_top ok (by omega) _ _) fun M7 c7 _ f7 => ?_⟩
  have h1 := h1 M7 (f5.tr f7)
  have tp := sq_top ok (n := n) (by omega) (fun _ => 0) (fun _ => 0)
  unfold sqV at h1
  rw [c7.1]
  refine ⟨fun z => ?_, fun z => pk_eq _ 0 (fun z2 => ?_) (fun z2 => ?_) rfl rfl (by omega) (by omega)⟩
  · rw [if_pos z] at h1; exact h1
  · rw [if_neg z, if_pos z2] at h1; exact h1
  · rw [if_neg z, if_neg z2] at h1
    rw [i_eq, show ((-1 : Int32)).toInt = -1 by decide] at z
    obtain ⟨m, hm, rfl, e9⟩ := nI_ex (x := y) (by omega)
    rw [nI_clamp (by omega), c7.2 (by omega) m (by omega)]
    rw [e9] at h1
    exact ⟨vin (by omega), h1⟩
