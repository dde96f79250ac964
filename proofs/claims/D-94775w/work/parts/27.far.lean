/-! how far rows are from one another -/
def ed (f g : Nat → Nat) : Nat → Nat → Nat
  | 0, j => j
  | i + 1, 0 => i + 1
  | i + 1, j + 1 => min (ed f g i j + if f i = g j then 0 else 1) (1 + min (ed f g i (j + 1)) (ed f g (i + 1) j))
theorem ed_le (f g : Nat → Nat) : ∀ i j, ed f g i j ≤ i + j
  | 0, j => by rw [ed]; omega
  | i + 1, 0 => by rw [ed]; omega
  | i + 1, j + 1 => by
    have := ed_le f g i (j + 1)
    rw [ed]; omega
theorem ed_j0 (f g : Nat → Nat) (i : Nat) : ed f g i 0 = i := by cases i <;> rw [ed]
theorem ed_cg {f f' g g' : Nat → Nat} : ∀ i j, (∀ k, k < i → f k = f' k) → (∀ k, k < j → g k = g' k) → ed f g i j = ed f' g' i j
  | 0, j, _, _ => by rw [ed, ed]
  | i + 1, 0, _, _ => by rw [ed, ed]
  | i + 1, j + 1, hf, hg => by
    rw [ed, ed, ed_cg i j (fun k hk => hf k (by omega)) (fun k hk => hg k (by omega)), ed_cg i (j + 1) (fun k hk => hf k (by omega)) hg, ed_cg (i + 1) j hf (fun k hk => hg k (by omega)), hf i (by omega), hg j (by omega)]
theorem min_nI {a b : Nat} (ha : a < 2 ^ 31) (hb : b < 2 ^ 31) : (if nI a < nI b then nI a else nI b) = nI (min a b) := by
  by_cases c : a < b
  · rw [if_pos ((nI_ltI ha hb).mpr c), Nat.min_eq_left (by omega)]
  · rw [if_neg (fun z => c ((nI_ltI ha hb).mp z)), Nat.min_eq_right (by omega)]
theorem s_X6_min {a b : Nat} {Q : Int32 → Prop} (ha : a < 2 ^ 31) (hb : b < 2 ^ 31) (h : Q (nI (min a b))) : m_X6_min (nI a) (nI b) Q := by
  refine pk_le b a (fun c => ?_) (fun c => ?_) rfl rfl
  · rw [Nat.min_eq_right c] at h; exact h
  · rw [Nat.min_eq_left (by omega)] at h; exact h
def SFC (r _k : Nat) : Prop := 5308 ≤ r ∧ r < 5321
def edI (f g : Nat → Nat) (i m2 : Nat) (M : WM) : Prop := ∀ j, j ≤ m2 → wI M (5308 + i) j = nI (ed f g i j)
theorem s_X0_farOf {a b m m2 : Nat} {f g : Nat → Nat} {M : WM} {Q : Int32 → WM → Prop} (ha : LineIs a M m f) (hb : LineIs b M m2 g) (hm : m ≤ 12) (hm2 : m2 ≤ 8) (da : a + 1 < 5308 ∨ 5321 ≤ a) (db : b + 1 < 5308 ∨ 5321 ≤ b) (hf : ∀ k, k < m → f k < 26) (hg : ∀ k, k < m2 → g k < 26) (h : ∀ M', Fr SFC M M' → Q (nI (ed f g m m2)) M') : m_X0_farOf a b M Q := by
  refine pk_loop (fun k i M' => m_X0_farOf_l2 a b Q k (nI i) M') (fun i M' => Fr SFC M M' ∧ ∀ i', i' < i → edI f g i' m2 M') (m + 1) 0 M (by omega) ⟨Fr.rf, fun i' hi => absurd hi (by omega)⟩ ?_ ?_
  · intro k M' ⟨q1, q2⟩
    have la : LineIs a M' m f := ha.fr q1 (by unfold SFC; omega) (by unfold SFC; omega)
    have lb : LineIs b M' m2 g := hb.fr q1 (by unfold SFC; omega) (by unfold SFC; omega)
    unfold m_X0_farOf_l2
    rw [la.1, lb.1, nI_clamp (by omega), nI_clamp (by omega), q2 m (by omega) m2 (Nat.le_refl _)]
    exact ⟨fun _ => ⟨vin (by omega), vin (by omega), h M' q1⟩, fun z => absurd (nI_lt (by omega) (by omega)) z⟩
  · intro k i M' hi ⟨q1, q2⟩ ih
    have la : LineIs a M' m f := ha.fr q1 (by unfold SFC; omega) (by unfold SFC; omega)
    unfold m_X0_farOf_l2
    rw [la.1]
    refine ⟨fun z => absurd z (nI_nlt (by omega) (by omega)), fun _ => ?_⟩
    refine pk_loop (fun n j M2 => m_X0_farOf_l13 (fun x3' M' => m_X0_farOf_l2 a b Q k x3' M') a b (nI i) Q n (nI j) M2) (fun j M2 => Fr SFC M M2 ∧ (∀ i', i' < i → edI f g i' m2 M2) ∧ ∀ j', j' < j → wI M2 (5308 + i) j' = nI (ed f g i j')) (m2 + 1) 0 M' (by omega) ⟨q1, q2, fun j' hj => absurd hj (by omega)⟩ ?_ ?_
    · intro n M2 ⟨p1, p2, p3⟩
      have lb : LineIs b M2 m2 g := hb.fr p1 (by unfold SFC; omega) (by unfold SFC; omega)
      unfold m_X0_farOf_l13
      rw [lb.1]
      refine ⟨fun _ z ez => ?_, fun z => absurd (nI_lt (by omega) (by omega)) z⟩
      rw [ez, nI_1]
      refine ih M2 ⟨p1, fun i' hi' => ?_⟩
      by_cases e : i' = i
      · rw [e]; exact fun j hj => p3 j (by omega)
      · exact p2 i' (by omega)
    · intro n j M2 hj ⟨p1, p2, p3⟩ ih2
      have la : LineIs a M2 m f := ha.fr p1 (by unfold SFC; omega) (by unfold SFC; omega)
      have lb : LineIs b M2 m2 g := hb.fr p1 (by unfold SFC; omega) (by unfold SFC; omega)
      have fin : ∀ z, z = nI (ed f g i j) → ∀ M9, M9 = wPI M2 (5308 + i) j z → ∀ y, y = nI j + 1 → m_X0_farOf_l13 (fun x3' M' => m_X0_farOf_l2 a b Q k x3' M') a b (nI i) Q n y M9 := fun z ez M9 e9 y ey => by
        rw [ey, nI_1]
        refine ih2 M9 ⟨by rw [e9]; exact p1.PI (by unfold SFC; omega), fun i' hi' j' hj' => ?_, fun j' hj' => ?_⟩
        · rw [e9, wI_n _ _ (by omega)]; exact p2 i' hi' j' hj'
        · rw [e9]
          by_cases e : j' = j
          · rw [e, wI_s, ez]
          · rw [wI_n _ _ (by omega)]; exact p3 j' (by omega)
      have j31 : i = 0 ∨ j = 0 → m_X0_farOf_j31 (fun x3' M' => m_X0_farOf_l2 a b Q k x3' M') (fun x4' M' => m_X0_farOf_l13 (fun x3' M' => m_X0_farOf_l2 a b Q k x3' M') a b (nI i) Q n x4' M') a b (nI i) (nI j) Q M2 := fun hz => by
        refine ⟨vin (by omega), vin (by omega), fun M3 e3 y ey => ?_⟩
        rw [nI_clamp (by omega), nI_clamp (by omega), nI_add] at e3
        refine fin _ ?_ M3 e3 y ey
        rcases hz with e | e
        · rw [e, ed, Nat.zero_add]
        · rw [e, ed_j0, Nat.add_zero]
      unfold m_X0_farOf_l13
      rw [lb.1]
      refine ⟨fun z => absurd z (nI_nlt (by omega) (by omega)), fun _ => pk_eq i 0 (fun c => j31 (Or.inl c)) (fun c => pk_eq j 0 (fun c2 => j31 (Or.inr c2)) (fun c2 => ?_) rfl rfl) rfl rfl⟩
      obtain ⟨i, rfl⟩ : ∃ i', i = i' + 1 := ⟨i - 1, by omega⟩
      obtain ⟨j, rfl⟩ : ∃ j', j = j' + 1 := ⟨j - 1, by omega⟩
      rw [nI_pred, nI_pred, nI_clamp (show i < 2 ^ 31 by omega), nI_clamp (show j < 2 ^ 31 by omega)]
      have e1 : wI M2 (5308 + i) j = nI (ed f g i j) := p2 i (by omega) j (by omega)
      have e2 : wI M2 (5308 + i) (j + 1) = nI (ed f g i (j + 1)) := p2 i (by omega) (j + 1) (by omega)
      have e3 : wI M2 (5308 + (i + 1)) j = nI (ed f g (i + 1) j) := p3 j (by omega)
      have b1 := ed_le f g i j
      have b2 := ed_le f g i (j + 1)
      have b3 := ed_le f g (i + 1) j
      have j85 : ∀ y, y = nI (if f i = g j then 0 else 1) → m_X0_farOf_j85 (fun x3' M' => m_X0_farOf_l2 a b Q k x3' M') (fun x4' M' => m_X0_farOf_l13 (fun x3' M' => m_X0_farOf_l2 a b Q k x3' M') a b (nI (i + 1)) Q n x4' M') a b (nI (i + 1)) (nI (j + 1)) y (wI M2 (5308 + i) j) Q M2 := fun y ey => by
        intro z1 ez1
        rw [e1, ey, nI_add] at ez1
        refine ⟨vin (by omega), by rw [nI_pred]; exact vin (by omega), vin (by omega), vin (by omega), by rw [nI_pred]; exact vin (by omega), vin (by omega), fun z8 e8 M9 e9 => ?_⟩
        rw [nI_pred, nI_pred, nI_clamp (show i < 2 ^ 31 by omega), nI_clamp (show j < 2 ^ 31 by omega), nI_clamp (show i + 1 < 2 ^ 31 by omega), nI_clamp (show j + 1 < 2 ^ 31 by omega), e2, e3, ez1, min_nI (by omega) (by omega), show (1 : Int32) = nI 1 from rfl, nI_add] at e8
        rw [min_nI (by omega) (by split <;> omega)] at e8
        rw [nI_clamp (by omega), nI_clamp (by omega)] at e9
        refine fin z8 ?_ M9 e9
        rw [e8, ed, Nat.min_comm, Nat.min_comm (ed f g (i + 1) j)]
      refine ⟨vin (by omega), vin (by omega), vin (by omega), vin (by omega), ?_⟩
      rw [la.2 i (by omega), lb.2 j (by omega)]
      have h1 := hf i (by omega)
      have h2 := hg j (by omega)
      refine pk_eq (f i) (g j) (fun c3 => j85 0 ?_) (fun c3 => j85 1 ?_) rfl rfl
      · rw [if_pos c3]; rfl
      · rw [if_neg c3]; rfl
def SFT (r _k : Nat) : Prop := r = 5477
theorem s_X6_farFromRow {σ : WS} {w m : Nat} {f : Nat → Nat} {M : WM} {Q : Int32 → WM → Prop} (hW : WT σ M) (ok : wsOK σ) (hw : w < sN σ) (hR : RowIs M m f) (hm : m ≤ 12) (hf : ∀ k, k < m → f k < 26) (h : ∀ M', Fr SFT M M' → Q (nI (ed f (sLet σ w) m (sLen σ w))) M') : m_X6_farFromRow (nI w) M Q := by
  have hn := ok.1
  obtain ⟨-, hl, hg, -⟩ := ok.2.1 w hw
  refine pk_loop (fun k i M' => m_X6_farFromRow_l2 (nI w) Q k (nI i) M') (fun i M' => Fr SFT M M' ∧ ∀ i', i' < i → ∀ j, j ≤ sLen σ w → wI M' 5477 (9 * i' + j) = nI (ed f (sLet σ w) i' j)) (m + 1) 0 M (by omega) ⟨Fr.rf, fun i' hi => absurd hi (by omega)⟩ ?_ ?_
  · intro k M' ⟨q1, q2⟩
    have wt : WT σ M' := hW.fr q1 (by unfold SFT PWT; omega)
    unfold m_X6_farFromRow_l2
    rw [q1.I (by unfold SFT; omega), hR.1, nI_clamp (show w < 2 ^ 31 by omega), (wt.2.1 w hw).1, show (9 : Int32) = nI 9 from rfl, pk_mul, nI_add, nI_clamp (by omega), q2 m (by omega) _ (Nat.le_refl _)]
    exact ⟨fun _ => ⟨vin (by omega), vin (by omega), h M' q1⟩, fun z => absurd (nI_lt (by omega) (by omega)) z⟩
  · intro k i M' hi ⟨q1, q2⟩ ih
    unfold m_X6_farFromRow_l2
    rw [q1.I (by unfold SFT; omega), hR.1]
    refine ⟨fun z => absurd z (nI_nlt (by omega) (by omega)), fun _ => ?_⟩
    refine pk_loop (fun n j M2 => m_X6_farFromRow_l12 (fun x2' M' => m_X6_farFromRow_l2 (nI w) Q k x2' M') (nI w) (nI i) Q n (nI j) M2) (fun j M2 => Fr SFT M M2 ∧ (∀ i', i' < i → ∀ j, j ≤ sLen σ w → wI M2 5477 (9 * i' + j) = nI (ed f (sLet σ w) i' j)) ∧ ∀ j', j' < j → wI M2 5477 (9 * i + j') = nI (ed f (sLet σ w) i j')) (sLen σ w + 1) 0 M' (by omega) ⟨q1, q2, fun j' hj => absurd hj (by omega)⟩ ?_ ?_
    · intro n M2 ⟨p1, p2, p3⟩
      have wt : WT σ M2 := hW.fr p1 (by unfold SFT PWT; omega)
      unfold m_X6_farFromRow_l12
      rw [nI_clamp (show w < 2 ^ 31 by omega), (wt.2.1 w hw).1]
      refine ⟨vin (by omega), fun _ z ez => ?_, fun z => absurd (nI_lt (by omega) (by omega)) z⟩
      rw [ez, nI_1]
      refine ih M2 ⟨p1, fun i' hi' => ?_⟩
      by_cases e : i' = i
      · rw [e]; exact fun j hj => p3 j (by omega)
      · exact p2 i' (by omega)
    · intro n j M2 hj ⟨p1, p2, p3⟩ ih2
      have wt : WT σ M2 := hW.fr p1 (by unfold SFT PWT; omega)
      have fin : ∀ z, z = nI (ed f (sLet σ w) i j) → m_X6_farFromRow_j126 (fun x2' M' => m_X6_farFromRow_l2 (nI w) Q k x2' M') (fun x3' M' => m_X6_farFromRow_l12 (fun x2' M' => m_X6_farFromRow_l2 (nI w) Q k x2' M') (nI w) (nI i) Q n x3' M') (nI w) (nI i) (nI j) z Q M2 := fun z ez => by
        unfold m_X6_farFromRow_j126
        rw [show (9 : Int32) = nI 9 from rfl, pk_mul, nI_add, nI_clamp (by omega)]
        refine ⟨vin (by omega), fun M9 e9 y ey => ?_⟩
        rw [ey, nI_1]
        refine ih2 M9 ⟨by rw [e9]; exact p1.PI rfl, fun i' hi' j' hj' => ?_, fun j' hj' => ?_⟩
        · rw [e9, wI_n _ _ (by omega)]; exact p2 i' hi' j' hj'
        · rw [e9]
          by_cases e : j' = j
          · rw [e, wI_s, ez]
          · rw [wI_n _ _ (by omega)]; exact p3 j' (by omega)
      have j78 : ∀ z, i = 0 ∨ j = 0 → z = nI (ed f (sLet σ w) i j) → m_X6_farFromRow_j78 (fun x2' M' => m_X6_farFromRow_l2 (nI w) Q k x2' M') (fun x3' M' => m_X6_farFromRow_l12 (fun x2' M' => m_X6_farFromRow_l2 (nI w) Q k x2' M') (nI w) (nI i) Q n x3' M') (nI w) (nI i) (nI j) z Q M2 := fun z hz ez => by
        refine pk_le i 0 (fun _ => fin z ez) (fun c => pk_le j 0 (fun _ => fin z ez) (fun c2 => absurd hz (by omega)) rfl rfl) rfl rfl
      unfold m_X6_farFromRow_l12
      rw [nI_clamp (show w < 2 ^ 31 by omega), (wt.2.1 w hw).1]
      refine ⟨vin (by omega), fun z => absurd z (nI_nlt (by omega) (by omega)), fun _ => pk_eq i 0 (fun c => j78 _ (Or.inl c) (by rw [c, ed])) (fun c => pk_eq j 0 (fun c2 => j78 _ (Or.inr c2) (by rw [c2, ed_j0])) (fun c2 => ?_) rfl rfl) rfl rfl⟩
      obtain ⟨i, rfl⟩ : ∃ i', i = i' + 1 := ⟨i - 1, by omega⟩
      obtain ⟨j, rfl⟩ : ∃ j', j = j' + 1 := ⟨j - 1, by omega⟩
      have e1 : wI M2 5477 (9 * i + j) = nI (ed f (sLet σ w) i j) := p2 i (by omega) j (by omega)
      have e2 : wI M2 5477 (9 * i + (j + 1)) = nI (ed f (sLet σ w) i (j + 1)) := p2 i (by omega) (j + 1) (by omega)
      have e3 : wI M2 5477 (9 * (i + 1) + j) = nI (ed f (sLet σ w) (i + 1) j) := p3 j (by omega)
      have b1 := ed_le f (sLet σ w) i j
      have b2 := ed_le f (sLet σ w) i (j + 1)
      have b3 := ed_le f (sLet σ w) (i + 1) j
      rw [nI_pred, nI_pred, show (9 : Int32) = nI 9 from rfl, pk_mul, nI_add, ← Nat.add_assoc (9 * i) j 1, nI_pred, nI_clamp (show 9 * i + j < 2 ^ 31 by omega), nI_clamp (show i < 2 ^ 31 by omega), e1, p1.I (by unfold SFT; omega), hR.2 i (by omega)]
      have j77 : ∀ y, y = nI (if f i = sLet σ w j then 0 else 1) → m_X6_farFromRow_j77 (fun x2' M' => m_X6_farFromRow_l2 (nI w) Q k x2' M') (fun x3' M' => m_X6_farFromRow_l12 (fun x2' M' => m_X6_farFromRow_l2 (nI w) Q k x2' M') (nI w) (nI (i + 1)) Q n x3' M') (nI w) (nI (i + 1)) (nI (j + 1)) y (nI (ed f (sLet σ w) i j)) Q M2 := fun y ey => by
        unfold m_X6_farFromRow_j77 m_X6_farFromRow_j78
        rw [ey, nI_add]
        refine pk_le (i + 1) 0 (fun c => absurd c (by omega)) (fun _ => pk_le (j + 1) 0 (fun c => absurd c (by omega)) (fun _ => ?_) rfl rfl) rfl rfl
        rw [nI_pred, show (9 : Int32) = nI 9 from rfl, pk_mul, pk_mul, nI_add, nI_add, ← Nat.add_assoc (9 * (i + 1)) j 1, nI_pred, nI_clamp (by omega), nI_clamp (by omega), e2, e3]
        refine ⟨vin (by omega), vin (by omega), s_X6_min (by omega) (by omega) ?_⟩
        rw [show (1 : Int32) = nI 1 from rfl, nI_add]
        exact s_X6_min (by split <;> omega) (by omega) (fin _ (by rw [ed]))
      refine ⟨vin (by omega), vin (by omega), s_X6_letter wt ok hw (by omega) ?_⟩
      have h1 := hf i (by omega)
      have h2 := hg j (by omega)
      refine pk_eq (f i) (sLet σ w j) (fun c3 => j77 0 ?_) (fun c3 => j77 1 ?_) rfl rfl
      · rw [if_pos c3]; rfl
      · rw [if_neg c3]; rfl
def SLR (r k : Nat) : Prop := (r = 5444 ∧ k = 9) ∨ r = 5450
theorem s_X6_laysRow {σ : WS} {w : Nat} {M : WM} {Q : WM → Prop} (hW : WT σ M) (ok : wsOK σ) (hw : w < sN σ) (h : ∀ M', RowIs M' (sLen σ w) (sLet σ w) → Fr SLR M M' → Q M') : m_X6_laysRow (nI w) M Q := by
  have hn := ok.1
  obtain ⟨-, hl, hg, -⟩ := ok.2.1 w hw
  unfold m_X6_laysRow
  rw [nI_clamp (by omega), (hW.2.1 w hw).1]
  refine ⟨vin (by omega), fun M2 e2 => ?_⟩
  have f2 : Fr SLR M M2 := by rw [e2]; exact Fr.rf.PI (Or.inl ⟨rfl, rfl⟩)
  refine pk_loop (fun k i M' => m_X6_laysRow_l12 (nI w) Q k (nI i) M') (fun i M' => Fr SLR M M' ∧ wI M' 5444 9 = nI (sLen σ w) ∧ ∀ k, k < i → wI M' 5450 k = nI (sLet σ w k)) (sLen σ w) 0 M2 (by omega) ⟨f2, by rw [e2, wI_s], fun k hk => absurd hk (by omega)⟩ ?_ ?_
  · intro k M' ⟨q1, q2, q3⟩
    unfold m_X6_laysRow_l12
    rw [q2]
    exact ⟨fun _ => h M' ⟨q2, q3⟩ q1, fun z => absurd (Int32.le_refl _) z⟩
  · intro k i M' hi ⟨q1, q2, q3⟩ ih
    unfold m_X6_laysRow_l12
    rw [q2]
    refine ⟨fun z => absurd z (nI_ge hi (by omega)), fun _ => s_X6_letter (hW.fr q1 (by unfold SLR PWT; omega)) ok hw hi ⟨vin (by omega), fun M4 e4 z ez => ?_⟩⟩
    rw [nI_clamp (by omega)] at e4
    rw [ez, nI_1]
    refine ih M4 ⟨by rw [e4]; exact q1.PI (Or.inr rfl), by rw [e4, wI_n _ _ (by omega)]; exact q2, fun j hj => ?_⟩
    rw [e4]
    by_cases e : j = i
    · rw [e, wI_s]
    · rw [wI_n _ _ (by omega)]; exact q3 j (by omega)
def SFB (r k : Nat) : Prop := SLR r k ∨ SFT r k
def edW (σ : WS) (v w : Nat) : Nat := ed (sLet σ v) (sLet σ w) (sLen σ v) (sLen σ w)
theorem s_X6_farBetween {σ : WS} {v w : Nat} {M : WM} {Q : Int32 → WM → Prop} (hW : WT σ M) (ok : wsOK σ) (hv : v < sN σ) (hw : w < sN σ) (h : ∀ M', Fr SFB M M' → Q (nI (edW σ v w)) M') : m_X6_farBetween (nI v) (nI w) M Q := by
  obtain ⟨-, hl, hg, -⟩ := ok.2.1 v hv
  refine s_X6_laysRow hW ok hv fun M2 hR f2 => ?_
  refine s_X6_farFromRow (hW.fr f2 (by unfold SLR PWT; omega)) ok hw hR (by omega) hg fun M' f' => ?_
  exact h M' ((f2.mono fun r k z => Or.inl z).tr (f'.mono fun r k z => Or.inr z))
theorem s_X0_farW {σ : WS} {v w : Nat} {M : WM} {Q : Int32 → WM → Prop} (hW : WC σ M) (ok : wsOK σ) (hv : v < sN σ) (hw : w < sN σ) (h : ∀ M', Fr SFC M M' → Q (nI (edW σ v w)) M') : m_X0_farOf (5325 + 3 * v) (5325 + 3 * w) M Q := by
  obtain ⟨-, hl, hg, -⟩ := ok.2.1 v hv
  obtain ⟨-, hl2, hg2, -⟩ := ok.2.1 w hw
  exact s_X0_farOf (hW.line hv) (hW.line hw) (by omega) (by omega) (by omega) (by omega) hg hg2 h
def VF (σ : WS) (x y : Int32) : Prop := (0 ≤ x.toInt ∧ x.toInt < sN σ) ∧ 0 ≤ y.toInt ∧ y.toInt < sN σ
theorem s_X0_areTwo {σ : WS} {M : WM} {x y : Int32} {Q : Int32 → Prop} (hW : WC σ M) (ok : wsOK σ) (h0 : ¬ VF σ x y → Q 0) (h1 : ∀ v w, v < sN σ → w < sN σ → x = nI v → y = nI w → VF σ x y → Q 1) : m_X0_areTwo x y M Q := by
  have hn := ok.1
  refine s_X0_isWord hW ok (bdc (fun e => ?_) (fun e => h0 fun z => e z.1))
  refine s_X0_isWord hW ok (bdc (fun e2 => ?_) (fun e2 => h0 fun z => e2 z.2))
  obtain ⟨v, hv, rfl, ev⟩ := nI_ex e.1
  obtain ⟨w, hw, rfl, ew⟩ := nI_ex e2.1
  exact h1 v w (by omega) (by omega) rfl rfl ⟨e, e2⟩
theorem s_X0_farBy {σ : WS} {M : WM} {x y : Int32} {Q : Int32 → WM → Prop} (hW : WC σ M) (ok : wsOK σ) (h0 : ¬ VF σ x y → Q (-1) M) (h1 : ∀ v w, x = nI v → y = nI w → VF σ x y → ∀ M', Fr SFC M M' → Q (nI (edW σ v w)) M') : m_X0_farBy x y M Q := by
  have hn := ok.1
  refine s_X0_areTwo hW ok (fun e => ie0 (h0 e)) (fun v w hv hw ex ey hV => ie1 ?_)
  subst ex ey
  rw [nI_clamp (by omega), nI_clamp (by omega)]
  exact ⟨vin (by omega), vin (by omega), s_X0_farW hW ok hv hw (h1 v w rfl rfl hV)⟩
theorem s_X6_farBy {σ : WS} {M : WM} {x y : Int32} {Q : Int32 → WM → Prop} (hW : WT σ M) (ok : wsOK σ) (h0 : ¬ VF σ x y → Q (-1) M) (h1 : ∀ v w, x = nI v → y = nI w → VF σ x y → ∀ M', Fr SFB M M' → Q (nI (edW σ v w)) M') : m_X6_farBy x y M Q := by
  have hn := ok.1
  refine s_X6_isWord hW ok (bdc (fun e => ?_) (fun e => h0 fun z => e z.1))
  refine s_X6_isWord hW ok (bdc (fun e2 => ?_) (fun e2 => h0 fun z => e2 z.2))
  obtain ⟨v, hv, rfl, ev⟩ := nI_ex e.1
  obtain ⟨w, hw, rfl, ew⟩ := nI_ex e2.1
  exact s_X6_farBetween hW ok (by omega) (by omega) (h1 v w rfl rfl ⟨e, e2⟩)
