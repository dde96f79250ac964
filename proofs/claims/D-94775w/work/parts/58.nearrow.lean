/-! a new word: whether a row is one change from a word -/
def nb0 (m : Nat) (f g : Nat → Nat) : Bool := decide (cnt (df f g) m = 1) || (decide (cnt (df f g) m = 2) && decide (lst (df f g) m + 1 < m ∧ f (lst (df f g) m) = g (lst (df f g) m + 1) ∧ f (lst (df f g) m + 1) = g (lst (df f g) m)))
def nb (σ : WS) (m : Nat) (f : Nat → Nat) (w : Nat) : Bool := if m = sLen σ w then nb0 m f (sLet σ w) else if sLen σ w = m + 1 then anyB (fun p => allB (wtK (sLet σ w) f p) m) (sLen σ w) else if m = sLen σ w + 1 then anyB (fun p => allB (wtK f (sLet σ w) p) (sLen σ w)) m else false
theorem nb0_1 {m : Nat} {f g : Nat → Nat} (h : cnt (df f g) m = 1) : nb0 m f g = true := by unfold nb0; rw [decide_eq_true h]; rfl
theorem nb0_2 {m : Nat} {f g : Nat → Nat} (h1 : ¬ cnt (df f g) m = 1) (h : cnt (df f g) m = 2) : nb0 m f g = decide (lst (df f g) m + 1 < m ∧ f (lst (df f g) m) = g (lst (df f g) m + 1) ∧ f (lst (df f g) m + 1) = g (lst (df f g) m)) := by unfold nb0; rw [decide_eq_false h1, decide_eq_true h]; rfl
theorem nb0_n {m : Nat} {f g : Nat → Nat} (h1 : ¬ cnt (df f g) m = 1) (h : ¬ cnt (df f g) m = 2) : nb0 m f g = false := by unfold nb0; rw [decide_eq_false h1, decide_eq_false h]; rfl
theorem s_X0_oneOffL {t x m m2 : Nat} {f g : Nat → Nat} {M : WM} {Q : Int32 → WM → Prop} (ht : LineIs t M m f) (hx : LineIs x M m2 g) (h1m : 1 ≤ m) (hm : m ≤ 12) (hm2 : m2 ≤ 8) (hf : ∀ k, k < m → f k < 26) (hg : ∀ k, k < m2 → g k < 26) (h : Q (b2i (decide (m = m2 + 1) && anyB (fun p => allB (wtK f g p) m2) m)) M) : ∃ n0, m_X0_areOneOff_l85 t x Q n0 0 M := by
  refine pk_loop (fun k i (_ : Unit) => m_X0_areOneOff_l85 t x Q k (nI i) M) (fun i _ => m = m2 + 1 → ∀ p, p < i → allB (wtK f g p) m2 = false) m 0 () (by omega) (fun _ p h => absurd h (by omega)) ?_ ?_
  · intro k _ hI
    unfold m_X0_areOneOff_l85
    rw [ht.1]
    refine ⟨fun _ => ?_, fun z => absurd (Int32.le_refl _) z⟩
    by_cases e : m = m2 + 1
    · rw [anyB_no (hI e), Bool.and_false] at h; exact h
    · rw [decide_eq_false e] at h; exact h
  · intro k i _ hi hI ih
    unfold m_X0_areOneOff_l85
    rw [ht.1]
    refine ⟨fun z => absurd z (nI_ge hi (by omega)), fun _ => s_X2_isWithout ht hx h1m hm hm2 (by omega) hf hg (fun e1 e2 => ie1 ?_) (fun e => ie0 fun z ez => ?_)⟩
    · rw [decide_eq_true e1, anyB_hit (p := fun p => allB (wtK f g p) m2) hi e2] at h; exact h
    · rw [ez, nI_1]
      refine ih () fun e1 p hp => ?_
      by_cases e3 : p = i
      · rw [e3]; exact ts_nt' fun z => e ⟨e1, z⟩
      · exact hI e1 p (by omega)
theorem s_X0_areOneOff {σ : WS} {m w : Nat} {f : Nat → Nat} {M : WM} {Q : Int32 → WM → Prop} (hW : WC σ M) (ok : wsOK σ) (hw : w < sN σ) (hL : LineIs 177 M m f) (h1m : 1 ≤ m) (hm : m ≤ 8) (hf : ∀ k, k < m → f k < 26) (h : ∀ M', Fr S010 M M' → Q (b2i (nb σ m f w)) M') : m_X0_areOneOff 177 (5325 + 3 * w) M Q := by
  have hs := ok.1
  obtain ⟨a1, a2, a3, -⟩ := ok.2.1 w hw
  have hx := hW.line hw
  unfold m_X0_areOneOff
  rw [hL.1, hx.1]
  refine pk_eq m (sLen σ w) (fun c => ?_) (fun c => ?_) rfl rfl
  · have e0 : ∀ M', Fr S010 M M' → Q (b2i (nb0 m f (sLet σ w))) M' := fun M' f' => by have := h M' f'; unfold nb at this; rw [if_pos c] at this; exact this
    have hx' : LineIs (5325 + 3 * w) M m (sLet σ w) := by rw [c]; exact hx
    refine s_X0_unlikeMany hL hx' (by omega) (by omega) (by omega) hf (fun k hk => a3 k (by omega)) fun M4 f4 u4 => ?_
    have e0 := e0 M4 f4
    have hcn := cnt_le (df f (sLet σ w)) m
    refine pk_eq (cnt (df f (sLet σ w)) m) 1 (fun q => ?_) (fun q => pk_eq (cnt (df f (sLet σ w)) m) 2 (fun q2 => ?_) (fun q2 => ?_) rfl rfl) rfl rfl
    · rw [nb0_1 q] at e0; exact e0
    · rw [nb0_2 q q2] at e0
      rw [u4 (by omega)]
      have hl := lst_le (df f (sLet σ w)) m
      refine s_X0_areChanged (hL.fr f4 (by unfold S010; omega) (by unfold S010; omega)) (hx'.fr f4 (by unfold S010; omega) (by unfold S010; omega)) (by omega) (by omega) hf (fun k hk => a3 k (by omega)) (fun e1 e2 => ie1 ?_) (fun e => ie0 ?_)
      · rw [decide_eq_true ⟨e1, e2⟩] at e0; exact e0
      · rw [decide_eq_false (fun z => e ⟨z.1, z.2⟩)] at e0; exact e0
    · rw [nb0_n q q2] at e0; exact e0
  · have e0 := h M Fr.rf
    unfold nb at e0
    rw [if_neg c] at e0
    unfold m_X0_areOneOff_j63
    rw [hL.1, hx.1]
    refine pk_le m (sLen σ w) (fun q => ⟨fun _ => ?_, fun z => absurd (nI_le q (by omega)) z⟩) (fun q => ⟨fun z => absurd z (nI_ge q (by omega)), fun _ => ?_⟩) rfl rfl
    · refine s_X0_oneOffL hx hL a1 (by omega) (by omega) a3 hf ?_
      by_cases e : sLen σ w = m + 1
      · rw [if_pos e] at e0; rw [decide_eq_true e]; exact e0
      · rw [if_neg e, if_neg (by omega)] at e0; rw [decide_eq_false e]; exact e0
    · refine s_X0_oneOffL hL hx h1m (by omega) (by omega) hf a3 ?_
      by_cases e : m = sLen σ w + 1
      · rw [if_neg (by omega), if_pos e] at e0; rw [decide_eq_true e]; exact e0
      · rw [if_neg (by omega), if_neg e] at e0; rw [decide_eq_false e]; exact e0
/-! the model's side -/
theorem s_X6_rowW1 {σ : WS} {m w p : Nat} {f : Nat → Nat} {M : WM} {Q : Int32 → Prop} (hW : WT σ M) (ok : wsOK σ) (hw : w < sN σ) (hR : RowIs M m f) (hf : ∀ k, k < m → f k < 26) (hp : p < 12) (hl : sLen σ w = m + 1) (h : Q (b2i (allB (wtK (sLet σ w) f p) m))) : m_X6_isRowWithout (nI w) (nI p) 1 M Q := by
  have hs := ok.1
  obtain ⟨a1, a2, a3, -⟩ := ok.2.1 w hw
  refine ie1 fun z4 e4 => ?_
  rw [e4, hR.1]
  refine pk_loop (fun k j (_ : Unit) => m_X6_isRowWithout_l22 (nI w) (nI p) 1 (nI m) M Q k (nI j)) (fun j _ => allB (wtK (sLet σ w) f p) j = true) m 0 () (by omega) rfl ?_ ?_
  · intro k _ e
    rw [e] at h
    exact ⟨fun _ => h, fun z => absurd (Int32.le_refl _) z⟩
  · intro k j _ hj e ih
    have j44 : ∀ q, q = (if j < p then j else j + 1) → m_X6_isRowWithout_j44 (fun x5' => m_X6_isRowWithout_l22 (nI w) (nI p) 1 (nI m) M Q k x5') (nI w) (nI p) 1 (nI m) (nI j) (nI q) M Q := fun q hq => by
      have hq8 : q < sLen σ w := by rw [hq]; split <;> omega
      have c1 := hf j hj
      have c2 := a3 q hq8
      refine ie1 ⟨vin (by omega), s_X6_letter hW ok hw hq8 ?_⟩
      rw [nI_clamp (by omega), hR.2 j hj]
      refine pk_eq (f j) (sLet σ w q) (fun c z ez => ?_) (fun c => ?_) rfl rfl
      · rw [ez, nI_1]
        exact ih () (by rw [allB, e]; unfold wtK; rw [← hq, decide_eq_true c]; rfl)
      · have e3 : allB (wtK (sLet σ w) f p) (j + 1) = false := by rw [allB]; unfold wtK; rw [← hq, decide_eq_false c, Bool.and_false]
        rw [allB_no e3 hj] at h; exact h
    refine ⟨fun z => absurd z (nI_ge hj (by omega)), fun _ => pk_le p j (fun c => ?_) (fun c => ?_) rfl rfl⟩
    · rw [nI_1]; exact j44 (j + 1) (if_neg (by omega)).symm
    · exact j44 j (if_pos c).symm
theorem s_X6_rowW0 {σ : WS} {m w p : Nat} {f : Nat → Nat} {M : WM} {Q : Int32 → Prop} (hW : WT σ M) (ok : wsOK σ) (hw : w < sN σ) (hR : RowIs M m f) (hf : ∀ k, k < m → f k < 26) (hp : p < 12) (hl : m = sLen σ w + 1) (h : Q (b2i (allB (wtK f (sLet σ w) p) (sLen σ w)))) : m_X6_isRowWithout (nI w) (nI p) 0 M Q := by
  have hs := ok.1
  obtain ⟨a1, a2, a3, -⟩ := ok.2.1 w hw
  refine ie0 ⟨vin (by omega), fun z4 e4 => ?_⟩
  rw [e4, nI_clamp (by omega), (hW.2.1 w hw).1]
  refine pk_loop (fun k j (_ : Unit) => m_X6_isRowWithout_l22 (nI w) (nI p) 0 (nI (sLen σ w)) M Q k (nI j)) (fun j _ => allB (wtK f (sLet σ w) p) j = true) (sLen σ w) 0 () (by omega) rfl ?_ ?_
  · intro k _ e
    rw [e] at h
    exact ⟨fun _ => h, fun z => absurd (Int32.le_refl _) z⟩
  · intro k j _ hj e ih
    have j44 : ∀ q, q = (if j < p then j else j + 1) → m_X6_isRowWithout_j44 (fun x5' => m_X6_isRowWithout_l22 (nI w) (nI p) 0 (nI (sLen σ w)) M Q k x5') (nI w) (nI p) 0 (nI (sLen σ w)) (nI j) (nI q) M Q := fun q hq => by
      have hq8 : q < m := by rw [hq]; split <;> omega
      have c1 := hf q hq8
      have c2 := a3 j hj
      refine ie0 ⟨vin (by omega), s_X6_letter hW ok hw hj ?_⟩
      rw [nI_clamp (by omega), hR.2 q hq8]
      refine pk_eq (f q) (sLet σ w j) (fun c z ez => ?_) (fun c => ?_) rfl rfl
      · rw [ez, nI_1]
        exact ih () (by rw [allB, e]; unfold wtK; rw [← hq, decide_eq_true c.symm]; rfl)
      · have e3 : allB (wtK f (sLet σ w) p) (j + 1) = false := by rw [allB]; unfold wtK; rw [← hq, decide_eq_false (fun z => c z.symm), Bool.and_false]
        rw [allB_no e3 hj] at h; exact h
    refine ⟨fun z => absurd z (nI_ge hj (by omega)), fun _ => pk_le p j (fun c => ?_) (fun c => ?_) rfl rfl⟩
    · rw [nI_1]; exact j44 (j + 1) (if_neg (by omega)).symm
    · exact j44 j (if_pos c).symm
/-- the first and the last place that are unlike -/
def fl (f g : Nat → Nat) (i : Nat) (s : Option (Nat × Nat)) : Prop := match s with
  | none => cnt (df f g) i = 0
  | some (u, v) => u ≤ v ∧ v < i ∧ df f g u = true ∧ df f g v = true ∧ (∀ k, k < u → df f g k = false) ∧ ∀ k, v < k → k < i → df f g k = false
def flI (s : Option (Nat × Nat)) : Int32 := match s with
  | none => -1
  | some (u, _) => nI u
def laI (s : Option (Nat × Nat)) : Int32 := match s with
  | none => -1
  | some (_, v) => nI v
theorem s_X6_isNearAlike {σ : WS} {m w : Nat} {f : Nat → Nat} {M : WM} {Q : Int32 → Prop} (hW : WT σ M) (ok : wsOK σ) (hw : w < sN σ) (hR : RowIs M m f) (hm : m ≤ 8) (hf : ∀ k, k < m → f k < 26) (hl : m = sLen σ w) (h : Q (b2i (nb0 m f (sLet σ w)))) : m_X6_isNearAlike (nI w) M Q := by
  have hs := ok.1
  obtain ⟨a1, a2, a3, -⟩ := ok.2.1 w hw
  refine pk_loop (fun k i (s : Option (Nat × Nat)) => m_X6_isNearAlike_l10 (nI w) M Q k (nI (cnt (df f (sLet σ w)) i)) (flI s) (laI s) (nI i)) (fun i s => fl f (sLet σ w) i s) m 0 none (by omega) rfl ?_ ?_
  · intro k s hI
    unfold m_X6_isNearAlike_l10
    rw [hR.1]
    refine ⟨fun _ => ?_, fun z => absurd (Int32.le_refl _) z⟩
    have hcn := cnt_le (df f (sLet σ w)) m
    refine pk_eq (cnt (df f (sLet σ w)) m) 1 (fun q => ?_) (fun q => pk_eq (cnt (df f (sLet σ w)) m) 2 (fun q2 => ?_) (fun q2 => ?_) rfl rfl) rfl rfl
    · rw [nb0_1 q] at h; exact h
    · rw [nb0_2 q q2] at h
      cases s with
      | none =>
        have hI : cnt (df f (sLet σ w)) m = 0 := hI
        omega
      | some r =>
        obtain ⟨u, v⟩ := r
        obtain ⟨i1, i2, i3, i4, i5, i6⟩ := hI
        have eu : lst (df f (sLet σ w)) m = u := lst_eq i5 (by omega) (fun _ => i3)
        rw [eu] at h
        show (nI v = nI u + 1 → _) ∧ (¬ nI v = nI u + 1 → _)
        rw [nI_1]
        have swap : (u + 1 < m ∧ f u = sLet σ w (u + 1) ∧ f (u + 1) = sLet σ w u) → v = u + 1 := fun ⟨z1, z2, z3⟩ => by
          have hne := df_t.mp i3
          have hd2 : df f (sLet σ w) (u + 1) = true := df_t.mpr (by rw [z3, ← z2]; exact fun z => hne z.symm)
          have := (cnt_2 i3 hd2 (by omega) z1 (by omega)).mp q2 v i2
          by_cases e1 : v = u + 1
          · exact e1
          · by_cases e2 : v = u
            · rw [e2] at i6; have := i6 (u + 1) (by omega) z1; rw [hd2] at this; cases this
            · rw [this e2 e1] at i4; cases i4
        refine pk_eq v (u + 1) (fun c => ?_) (fun c => ?_) rfl rfl
        · subst c
          have b1 := hf u (by omega)
          have b2 := a3 (u + 1) (by omega)
          have b3 := hf (u + 1) (by omega)
          have b4 := a3 u (by omega)
          rw [show flI (some (u, u + 1)) = nI u from rfl, show laI (some (u, u + 1)) = nI (u + 1) from rfl]
          refine ⟨vin (by omega), s_X6_letter hW ok hw (by omega) ?_⟩
          rw [nI_clamp (show u < 2 ^ 31 by omega), hR.2 u (by omega)]
          refine pk_eq (f u) (sLet σ w (u + 1)) (fun c1 => ⟨vin (by omega), s_X6_letter hW ok hw (by omega) ?_⟩) (fun c1 => ?_) rfl rfl
          · rw [nI_clamp (show u + 1 < 2 ^ 31 by omega), hR.2 (u + 1) (by omega)]
            refine pk_eq (f (u + 1)) (sLet σ w u) (fun c2 => ?_) (fun c2 => ?_) rfl rfl
            · rw [decide_eq_true ⟨by omega, c1, c2⟩] at h; exact h
            · rw [decide_eq_false (fun z => c2 z.2.2)] at h; exact h
          · rw [decide_eq_false (fun z => c1 z.2.1)] at h; exact h
        · rw [decide_eq_false (fun z => c (swap z))] at h; exact h
    · rw [nb0_n q q2] at h; exact h
  · intro k i s hi hI ih
    unfold m_X6_isNearAlike_l10
    rw [hR.1, nI_clamp (show i < 2 ^ 31 by omega), hR.2 i hi]
    have b1 := hf i hi
    have b2 := a3 i (by omega)
    refine ⟨fun z => absurd z (nI_ge hi (by omega)), fun _ => ⟨vin (by omega), s_X6_letter hW ok hw (by omega) ?_⟩⟩
    refine pk_eq (f i) (sLet σ w i) (fun c z ez => ?_) (fun c z ez => ?_) rfl rfl
    · have hd : df f (sLet σ w) i = false := by unfold df; exact decide_eq_false fun z => z c
      rw [ez, nI_1]
      have ih := ih s
      rw [cnt_f hd] at ih
      refine ih ?_
      cases s with
      | none => show cnt _ (i + 1) = 0; rw [cnt_f hd]; exact hI
      | some r =>
        obtain ⟨u, v⟩ := r
        obtain ⟨i1, i2, i3, i4, i5, i6⟩ := hI
        refine ⟨i1, by omega, i3, i4, i5, fun j h1 h2 => ?_⟩
        by_cases e : j = i
        · rw [e]; exact hd
        · exact i6 j h1 (by omega)
    · have hd : df f (sLet σ w) i = true := df_t.mpr c
      rw [nI_1] at ez
      cases s with
      | none =>
        refine ⟨fun _ y ey => ?_, fun z => absurd rfl z⟩
        rw [ey, ez, nI_1]
        have ih := ih (some (i, i))
        rw [cnt_t hd] at ih
        have hI : cnt (df f (sLet σ w)) i = 0 := hI
        exact ih ⟨Nat.le_refl _, by omega, hd, hd, fun j hj => cnt_0.mp hI j hj, fun j h1 h2 => absurd h1 (by omega)⟩
      | some r =>
        obtain ⟨u, v⟩ := r
        obtain ⟨i1, i2, i3, i4, i5, i6⟩ := hI
        refine ⟨fun q => absurd q ?_, fun _ y ey => ?_⟩
        · show ¬ nI u = -1
          rw [i_eq, nI_toInt (by omega)]; intro z; have : (u : Int) = -1 := z; omega
        · rw [ey, ez, nI_1]
          have ih := ih (some (u, i))
          rw [cnt_t hd] at ih
          exact ih ⟨by omega, by omega, i3, hd, i5, fun j h1 h2 => absurd h1 (by omega)⟩
theorem s_X6_isNear {σ : WS} {m w : Nat} {f : Nat → Nat} {M : WM} {Q : Int32 → Prop} (hW : WT σ M) (ok : wsOK σ) (hw : w < sN σ) (hR : RowIs M m f) (h1m : 1 ≤ m) (hm : m ≤ 8) (hf : ∀ k, k < m → f k < 26) (h : Q (b2i (nb σ m f w))) : m_X6_isNear (nI w) M Q := by
  have hs := ok.1
  obtain ⟨a1, a2, a3, -⟩ := ok.2.1 w hw
  refine ⟨vin (by omega), fun z2 e2 => ?_⟩
  rw [nI_clamp (by omega), (hW.2.1 w hw).1, hR.1] at e2
  have ez : z2.toInt = (sLen σ w : Int) - m := by rw [e2, pk_sub_toInt (by omega) (by omega)]
  unfold nb at h
  refine ⟨fun q => ?_, fun q => ?_⟩
  · have : z2.toInt = 0 := by rw [q]; rfl
    rw [if_pos (by omega)] at h
    exact s_X6_isNearAlike hW ok hw hR hm hf (by omega) ⟨b2i_01 _, h⟩
  · have q0 : ¬ m = sLen σ w := fun z => q (by rw [i_eq]; show z2.toInt = 0; omega)
    rw [if_neg q0] at h
    refine ⟨fun q1 => ?_, fun q1 => ⟨fun q2 => ?_, fun q2 => ?_⟩⟩
    · have e1 : z2.toInt = 1 := by rw [q1]; rfl
      rw [if_pos (by omega)] at h
      refine ⟨fun _ => ⟨vin (by omega), fun z4 e4 => ?_⟩, fun z => absurd q1 z⟩
      rw [e4, nI_clamp (by omega), (hW.2.1 w hw).1, q1]
      refine pk_loop (fun k i (_ : Unit) => m_X6_isNear_l56 (nI w) 1 (nI (sLen σ w)) M Q k (nI i)) (fun i _ => ∀ p, p < i → allB (wtK (sLet σ w) f p) m = false) (sLen σ w) 0 () (by omega) (fun p h => absurd h (by omega)) ?_ ?_
      · intro k _ hI
        rw [anyB_no hI] at h
        exact ⟨fun _ => h, fun z => absurd (Int32.le_refl _) z⟩
      · intro k i _ hi hI ih
        refine ⟨fun z => absurd z (nI_ge hi (by omega)), fun _ => ⟨fun _ => s_X6_rowW1 hW ok hw hR hf (by omega) (by omega) (bcs (fun c => ?_) (fun c z ez => ?_)), fun z => absurd rfl z⟩⟩
        · rw [anyB_hit (p := fun p => allB (wtK (sLet σ w) f p) m) hi c] at h; exact h
        · rw [ez, nI_1]
          refine ih () fun p hp => ?_
          by_cases e : p = i
          · rw [e]; exact c
          · exact hI p (by omega)
    · have e1 : z2.toInt = -1 := by rw [q2]; rfl
      rw [if_neg (by omega), if_pos (by omega)] at h
      refine ⟨fun z => absurd z q1, fun _ z4 e4 => ?_⟩
      rw [e4, hR.1, q2]
      refine pk_loop (fun k i (_ : Unit) => m_X6_isNear_l56 (nI w) (-1) (nI m) M Q k (nI i)) (fun i _ => ∀ p, p < i → allB (wtK f (sLet σ w) p) (sLen σ w) = false) m 0 () (by omega) (fun p h => absurd h (by omega)) ?_ ?_
      · intro k _ hI
        rw [anyB_no hI] at h
        exact ⟨fun _ => h, fun z => absurd (Int32.le_refl _) z⟩
      · intro k i _ hi hI ih
        refine ⟨fun z => absurd z (nI_ge hi (by omega)), fun _ => ⟨fun z => absurd z (by decide), fun _ => s_X6_rowW0 hW ok hw hR hf (by omega) (by omega) (bcs (fun c => ?_) (fun c z ez => ?_))⟩⟩
        · rw [anyB_hit (p := fun p => allB (wtK f (sLet σ w) p) (sLen σ w)) hi c] at h; exact h
        · rw [ez, nI_1]
          refine ih () fun p hp => ?_
          by_cases e : p = i
          · rw [e]; exact c
          · exact hI p (by omega)
    · rw [if_neg (fun z => q1 (by rw [i_eq]; show z2.toInt = 1; omega)), if_neg (fun z => q2 (by rw [i_eq]; show z2.toInt = -1; omega))] at h
      exact h
