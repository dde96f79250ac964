/-! which changes make one word of another -/
theorem cnt_0 {p : Nat → Bool} : ∀ {n : Nat}, cnt p n = 0 ↔ ∀ k, k < n → p k = false
  | 0 => ⟨fun _ k hk => absurd hk (by omega), fun _ => rfl⟩
  | n + 1 => by
    rw [cnt]
    constructor
    · intro h k hk
      cases e : p n with
      | true => rw [e, if_pos rfl] at h; omega
      | false =>
        rw [e, if_neg (by decide)] at h
        by_cases ek : k = n
        · rw [ek]; exact e
        · exact (cnt_0 (n := n)).mp h k (by omega)
    · intro h
      rw [h n (by omega), if_neg (by decide), (cnt_0 (n := n)).mpr fun k hk => h k (by omega)]
def dlt (p : Nat → Bool) (u k : Nat) : Bool := p k && decide (¬ k = u)
theorem cnt_del {p : Nat → Bool} {u : Nat} (hp : p u = true) : ∀ {n : Nat}, u < n → cnt p n = 1 + cnt (dlt p u) n
  | 0, h => absurd h (by omega)
  | n + 1, h => by
    rw [cnt, cnt]
    by_cases e : u = n
    · subst e
      have e1 : cnt (dlt p u) u = cnt p u := cnt_cg fun k hk => by unfold dlt; rw [decide_eq_true (show ¬ k = u by omega), Bool.and_true]
      have e2 : dlt p u u = false := by unfold dlt; rw [decide_eq_false (fun z => z rfl), Bool.and_false]
      rw [e1, e2, hp, if_pos rfl, if_neg (by decide)]; omega
    · have e2 : dlt p u n = p n := by unfold dlt; rw [decide_eq_true (show ¬ n = u by omega), Bool.and_true]
      rw [cnt_del hp (n := n) (by omega), e2]; omega
theorem cnt_1 {p : Nat → Bool} {u n : Nat} (hp : p u = true) (hu : u < n) : cnt p n = 1 ↔ ∀ k, k < n → ¬ k = u → p k = false := by
  rw [cnt_del hp hu, show (1 + cnt (dlt p u) n = 1) ↔ cnt (dlt p u) n = 0 by omega, cnt_0]
  refine ⟨fun h k hk hn => ?_, fun h k hk => ?_⟩
  · have := h k hk
    unfold dlt at this
    rw [decide_eq_true hn, Bool.and_true] at this; exact this
  · unfold dlt
    by_cases e : k = u
    · rw [decide_eq_false (fun z => z e), Bool.and_false]
    · rw [h k hk e]; rfl
theorem cnt_2 {p : Nat → Bool} {u v n : Nat} (hp : p u = true) (hq : p v = true) (hu : u < n) (hv : v < n) (hn : ¬ u = v) : cnt p n = 2 ↔ ∀ k, k < n → ¬ k = u → ¬ k = v → p k = false := by
  have e : dlt p u v = true := by unfold dlt; rw [hq, decide_eq_true (show ¬ v = u from fun z => hn z.symm)]; rfl
  rw [cnt_del hp hu, show (1 + cnt (dlt p u) n = 2) ↔ cnt (dlt p u) n = 1 by omega, cnt_1 e hv]
  refine ⟨fun h k hk h1 h2 => ?_, fun h k hk h2 => ?_⟩
  · have := h k hk h2
    unfold dlt at this
    rw [decide_eq_true h1, Bool.and_true] at this; exact this
  · unfold dlt
    by_cases e : k = u
    · rw [decide_eq_false (fun z => z e), Bool.and_false]
    · rw [h k hk e h2]; rfl
def df (f g : Nat → Nat) (k : Nat) : Bool := decide (¬ f k = g k)
def wtK (g f : Nat → Nat) (i k : Nat) : Bool := decide (f k = g (if k < i then k else k + 1))
def alK (f g : Nat → Nat) (p m k : Nat) : Bool := decide (p ≤ k ∧ k < p + m) || decide (f k = g k)
def swp (f g : Nat → Nat) (i : Nat) : Prop := f i = g (i + 1) ∧ f (i + 1) = g i
def chg (σ : WS) (a b : Nat) : Nat → Nat → Bool
  | 0, i => decide (sLen σ b = sLen σ a ∧ i < sLen σ a ∧ ¬ sLet σ a i = sLet σ b i) && allB (alK (sLet σ a) (sLet σ b) i 1) (sLen σ a)
  | 1, i => decide (sLen σ b = sLen σ a + 1 ∧ i ≤ sLen σ a) && allB (wtK (sLet σ b) (sLet σ a) i) (sLen σ a)
  | 2, i => decide (sLen σ a = sLen σ b + 1 ∧ i < sLen σ a) && allB (wtK (sLet σ a) (sLet σ b) i) (sLen σ b)
  | _, i => decide (sLen σ b = sLen σ a ∧ i + 1 < sLen σ a ∧ ¬ sLet σ a i = sLet σ a (i + 1) ∧ sLet σ a i = sLet σ b (i + 1) ∧ sLet σ a (i + 1) = sLet σ b i) && allB (alK (sLet σ a) (sLet σ b) i 2) (sLen σ a)
theorem alK_iff (f g : Nat → Nat) (p m n : Nat) : allB (alK f g p m) n = true ↔ ∀ k, k < n → ¬ (p ≤ k ∧ k < p + m) → df f g k = false := by
  rw [allB_iff]
  refine ⟨fun h k hk hn => ?_, fun h k hk => ?_⟩
  · have := h k hk
    unfold alK at this
    rw [decide_eq_false hn, Bool.false_or] at this
    unfold df
    exact decide_eq_false fun z => z (of_decide_eq_true this)
  · unfold alK
    by_cases e : p ≤ k ∧ k < p + m
    · rw [decide_eq_true e]; rfl
    · have := h k hk e
      unfold df at this
      have h2 : f k = g k := Classical.not_not.mp (of_decide_eq_false this)
      rw [decide_eq_true h2, Bool.or_true]
theorem df_t {f g : Nat → Nat} {k : Nat} : df f g k = true ↔ ¬ f k = g k := by unfold df; exact decide_eq_true_iff
/-- another letter at a place: the one place where they are unlike -/
theorem chg0_iff {f g : Nat → Nat} {n i : Nat} : (i < n ∧ ¬ f i = g i ∧ allB (alK f g i 1) n = true) ↔ (cnt (df f g) n = 1 ∧ i = lst (df f g) n) := by
  rw [alK_iff]
  refine ⟨fun ⟨h1, h2, h3⟩ => ?_, fun ⟨h1, h2⟩ => ?_⟩
  · have hd : df f g i = true := df_t.mpr h2
    refine ⟨(cnt_1 hd h1).mpr fun k hk hn => h3 k hk (by omega), (lst_eq (fun j hj => h3 j (by omega) (by omega)) (by omega) (fun _ => hd)).symm⟩
  · have hl : i < n := by
      rcases Nat.lt_or_ge i n with c | c
      · exact c
      · have e0 : cnt (df f g) n = 0 := cnt_0.mpr fun k hk => lst_lo (df f g) n k (by omega)
        omega
    have hd : df f g i = true := by rw [h2]; exact lst_hit (df f g) n (by omega)
    exact ⟨hl, df_t.mp hd, fun k hk hn => (cnt_1 hd hl).mp h1 k hk (by omega)⟩
/-- two letters about: the two places where they are unlike -/
theorem chg3_iff {f g : Nat → Nat} {n i : Nat} : (i + 1 < n ∧ (¬ f i = f (i + 1) ∧ f i = g (i + 1) ∧ f (i + 1) = g i) ∧ allB (alK f g i 2) n = true) ↔ (cnt (df f g) n = 2 ∧ i = lst (df f g) n ∧ i + 1 < n ∧ swp f g i) := by
  rw [alK_iff]
  refine ⟨fun ⟨h1, ⟨h2, h3, h4⟩, h5⟩ => ?_, fun ⟨h1, h2, h3, h4⟩ => ?_⟩
  · have hd : df f g i = true := df_t.mpr (by rw [← h4]; exact h2)
    have hd2 : df f g (i + 1) = true := df_t.mpr (by rw [← h3]; exact fun z => h2 z.symm)
    refine ⟨(cnt_2 hd hd2 (by omega) h1 (by omega)).mpr fun k hk a b => h5 k hk (by omega), (lst_eq (fun j hj => h5 j (by omega) (by omega)) (by omega) (fun _ => hd)).symm, h1, h3, h4⟩
  · have hd : df f g i = true := by
      have := lst_hit (df f g) n (by omega)
      rw [← h2] at this; exact this
    have hne := df_t.mp hd
    have hd2 : df f g (i + 1) = true := df_t.mpr (by rw [h4.2, ← h4.1]; exact fun z => hne z.symm)
    exact ⟨h3, ⟨by rw [h4.2]; exact hne, h4.1, h4.2⟩, fun k hk hn => (cnt_2 hd hd2 (by omega) h3 (by omega)).mp h1 k hk (by omega) (by omega)⟩
/-! LetterHeaps' side: rows of letters -/
def S010 (r k : Nat) : Prop := r = 0 ∧ k = 10
theorem s_X0_unlikeMany {x y m : Nat} {f g : Nat → Nat} {M : WM} {Q : Int32 → WM → Prop} (hx : LineIs x M m f) (hy : LineIs y M m g) (hm : m ≤ 12) (d1 : x ≠ 0) (d2 : y ≠ 0) (hf : ∀ k, k < m → f k < 26) (hg : ∀ k, k < m → g k < 26) (h : ∀ M', Fr S010 M M' → (0 < cnt (df f g) m → wI M' 0 10 = nI (lst (df f g) m)) → Q (nI (cnt (df f g) m)) M') : m_X0_unlikeMany x y M Q := by
  intro z1 e1
  rw [hx.1] at e1
  refine ⟨m + 1, ?_⟩
  rw [e1]
  refine pk_loopD (fun k i (s : Nat × WM) => m_X0_unlikeMany_l10 x y Q k (nI s.1) (nI i - 1) s.2) (fun i s => i ≤ m ∧ Fr S010 M s.2 ∧ s.1 + cnt (df f g) i = cnt (df f g) m ∧ (0 < s.1 → ∃ u, u < m ∧ wI s.2 0 10 = nI u ∧ df f g u = true ∧ ∀ k, i ≤ k → k < u → df f g k = false)) ?_ ?_ m (0, M) ⟨Nat.le_refl _, Fr.rf, Nat.zero_add _, fun z => absurd z (by show ¬ 0 < 0; omega)⟩
  · intro k ⟨s, M'⟩ ⟨q0, q1, q2, q3⟩
    refine ⟨fun _ => ?_, fun z => absurd (show nI 0 - 1 < 0 by decide) z⟩
    dsimp only at q1 q2 q3 ⊢
    have q2 : s + 0 = cnt (df f g) m := q2
    rw [show s = cnt (df f g) m by omega]
    refine h M' q1 fun hp => ?_
    obtain ⟨u, u1, u2, u3, u4⟩ := q3 (by omega)
    rw [u2, lst_eq (fun j hj => u4 j (by omega) hj) (by omega) (fun _ => u3)]
  · intro k i ⟨s, M'⟩ ⟨q0, q1, q2, q3⟩ ih
    dsimp only at q1 q2 q3 ⊢
    rw [nI_pred]
    have st : nI i + (-1 : Int32) = nI i - 1 := (Int32.sub_eq_add_neg _ _).symm
    have lx : wI M' (x + 1) i = nI (f i) := by rw [q1.I (by unfold S010; omega)]; exact hx.2 i (by omega)
    have ly : wI M' (y + 1) i = nI (g i) := by rw [q1.I (by unfold S010; omega)]; exact hy.2 i (by omega)
    refine ⟨fun z => absurd z (nI_pos (by omega)), fun _ => ⟨vin (by omega), vin (by omega), ?_⟩⟩
    rw [nI_clamp (by omega), lx, ly]
    have b1 := hf i (by omega)
    have b2 := hg i (by omega)
    refine pk_eq (f i) (g i) (fun c z ez => ?_) (fun c z5 e5 M6 e6 z7 e7 => ?_) rfl rfl
    · have hd : df f g i = false := by unfold df; exact decide_eq_false fun z => z c
      rw [ez, st]
      rw [cnt_f hd] at q2
      refine ih (s, M') ⟨by omega, q1, q2, fun hp => ?_⟩
      obtain ⟨u, u1, u2, u3, u4⟩ := q3 hp
      refine ⟨u, u1, u2, u3, fun k hk hku => ?_⟩
      by_cases e : k = i
      · rw [e]; exact hd
      · exact u4 k (by omega) hku
    · have hd : df f g i = true := df_t.mpr c
      rw [nI_1] at e5
      rw [e7, st, e5]
      rw [cnt_t hd] at q2
      exact ih (s + 1, M6) ⟨by omega, by rw [e6]; exact q1.PI ⟨rfl, rfl⟩, by show s + 1 + _ = _; omega, fun _ => ⟨i, by omega, by show wI M6 0 10 = _; rw [e6, wI_s], hd, fun k hk hku => absurd hku (by omega)⟩⟩
theorem s_X0_areChanged {x y m i : Nat} {f g : Nat → Nat} {M : WM} {Q : Int32 → Prop} (hx : LineIs x M m f) (hy : LineIs y M m g) (hm : m ≤ 12) (hi : i < 12) (hf : ∀ k, k < m → f k < 26) (hg : ∀ k, k < m → g k < 26) (h1 : i + 1 < m → swp f g i → Q 1) (h0 : ¬ (i + 1 < m ∧ swp f g i) → Q 0) : m_X0_areChanged x y (nI i) M Q := by
  unfold m_X0_areChanged
  rw [hx.1, nI_1]
  refine pk_le m (i + 1) (fun c => h0 fun z => by omega) (fun c => ⟨vin (by omega), vin (by omega), ?_⟩) rfl rfl
  rw [nI_clamp (by omega), nI_clamp (by omega), hx.2 i (by omega), hy.2 (i + 1) c, hx.2 (i + 1) c, hy.2 i (by omega)]
  have a1 := hf i (by omega)
  have a2 := hf (i + 1) c
  have a3 := hg i (by omega)
  have a4 := hg (i + 1) c
  exact pk_eq (f i) (g (i + 1)) (fun c1 => ⟨vin (by omega), vin (by omega), pk_eq (f (i + 1)) (g i) (fun c2 => h1 c ⟨c1, c2⟩) (fun c2 => h0 fun z => c2 z.2.2) rfl rfl⟩) (fun c1 => h0 fun z => c1 z.2.1) rfl rfl
theorem s_X2_isWithout {t x m m2 i : Nat} {f g : Nat → Nat} {M : WM} {Q : Int32 → Prop} (ht : LineIs t M m f) (hx : LineIs x M m2 g) (h1m : 1 ≤ m) (hm : m ≤ 12) (hm2 : m2 ≤ 8) (hi : i < 12) (hf : ∀ k, k < m → f k < 26) (hg : ∀ k, k < m2 → g k < 26) (h1 : m = m2 + 1 → allB (wtK f g i) m2 = true → Q 1) (h0 : ¬ (m = m2 + 1 ∧ allB (wtK f g i) m2 = true) → Q 0) : m_X2_isWithout t (nI i) x M Q := by
  refine pk_loop (fun k j (_ : Unit) => m_X2_isWithout_l2 t (nI i) x M Q k (nI j)) (fun j _ => m = m2 + 1 → allB (wtK f g i) j = true) m2 0 () (by omega) (fun _ => rfl) ?_ ?_
  · intro k _ hI
    unfold m_X2_isWithout_l2
    rw [hx.1, ht.1, show (1 : Int32) = nI 1 from rfl, pk_sub h1m]
    exact ⟨fun _ => pk_eq m2 (m - 1) (fun c => h1 (by omega) (hI (by omega))) (fun c => h0 fun z => by omega) rfl rfl, fun z => absurd (Int32.le_refl _) z⟩
  · intro k j _ hj hI ih
    unfold m_X2_isWithout_l2
    rw [hx.1, nI_clamp (by omega), hx.2 j hj]
    have j32 : ∀ q, q = (if j < i then j else j + 1) → m_X2_isWithout_j32 (fun x3' => m_X2_isWithout_l2 t (nI i) x M Q k x3') t (nI i) x (nI j) (nI q) (t + 1) (nI (g j)) M Q := fun q hq => by
      have hq8 : q ≤ j + 1 := by rw [hq]; split <;> omega
      unfold m_X2_isWithout_j32
      rw [nI_clamp (by omega)]
      refine ⟨vin (by omega), fun c z ez => ?_, fun c => h0 fun z => ?_⟩
      · rw [ez, nI_1]
        refine ih () fun hmm => ?_
        rw [allB, hI hmm]
        rw [ht.2 q (by omega)] at c
        have a1 := hf q (by omega)
        have a2 := hg j hj
        rw [nI_eq (by omega) (by omega)] at c
        unfold wtK
        rw [← hq, decide_eq_true c]; rfl
      · have := (allB_iff _ _).mp z.2 j hj
        unfold wtK at this
        rw [← hq] at this
        rw [ht.2 q (by omega), of_decide_eq_true this] at c
        exact c rfl
    refine ⟨fun z => absurd z (nI_ge hj (by omega)), fun _ => ⟨vin (by omega), pk_le i j (fun c => ?_) (fun c => ?_) rfl rfl⟩⟩
    · rw [nI_1]; exact j32 (j + 1) (if_neg (by omega)).symm
    · exact j32 j (if_pos c).symm
