/-! small helps: booleans asked, the first of some, how many -/
theorem vin {n N : Nat} (h : n < N) (hN : n < 2 ^ 31 := by omega) : vp_in (nI n) N := (vi_nI hN).mpr h
theorem bcs {b : Bool} {A B : Prop} (h1 : b = true → B) (h0 : b = false → A) : (b2i b = 0 → A) ∧ (¬ b2i b = 0 → B) := by
  rw [b2i_0]
  exact ⟨h0, fun z => h1 (ts_nf z)⟩
theorem bdc {p : Prop} [Decidable p] {A B : Prop} (h1 : p → B) (h0 : ¬ p → A) : (b2i (decide p) = 0 → A) ∧ (¬ b2i (decide p) = 0 → B) := by
  rw [b2i_0]
  exact ⟨fun z => h0 (of_decide_eq_false z), fun z => h1 (of_decide_eq_true (ts_nf z))⟩
theorem ie0 {A B : Prop} (h : A) : ((0 : Int32) = 0 → A) ∧ (¬ (0 : Int32) = 0 → B) := ⟨fun _ => h, fun z => absurd rfl z⟩
theorem ie1 {A B : Prop} (h : B) : ((1 : Int32) = 0 → A) ∧ (¬ (1 : Int32) = 0 → B) := ⟨fun z => absurd z (by decide), fun _ => h⟩
def lst (p : Nat → Bool) : Nat → Nat
  | 0 => 0
  | n + 1 => if lst p n < n then lst p n else if p n = true then n else n + 1
theorem lst_le (p : Nat → Bool) : ∀ n, lst p n ≤ n
  | 0 => Nat.le_refl _
  | n + 1 => by
    have := lst_le p n
    unfold lst
    split
    · omega
    · split <;> omega
theorem lst_hit (p : Nat → Bool) : ∀ n, lst p n < n → p (lst p n) = true
  | 0 => fun h => absurd h (by omega)
  | n + 1 => by
    unfold lst
    split
    · exact fun _ => lst_hit p n (by assumption)
    · split
      · exact fun _ => by assumption
      · intro h; omega
theorem lst_lo (p : Nat → Bool) : ∀ n j, j < lst p n → p j = false
  | 0 => fun j h => absurd h (by unfold lst; omega)
  | n + 1 => by
    unfold lst
    intro j
    have h1 := lst_lo p n j
    have h2 := lst_le p n
    split
    · exact h1
    · rename_i h3
      have h4 : lst p n = n := by omega
      split
      · intro h; exact h1 (by omega)
      · rename_i h5
        intro h
        by_cases e : j = n
        · rw [e]; exact ts_nt' h5
        · exact h1 (by omega)
theorem lst_eq {p : Nat → Bool} {n k : Nat} (h0 : ∀ j, j < k → p j = false) (hk : k ≤ n) (h1 : k < n → p k = true) : lst p n = k := by
  rcases Nat.lt_trichotomy (lst p n) k with h | h | h
  · have := lst_hit p n (by omega)
    rw [h0 _ h] at this; cases this
  · exact h
  · have := lst_lo p n k h
    have := lst_le p n
    rw [h1 (by omega)] at *; contradiction
theorem lst_cg {p q : Nat → Bool} {n : Nat} (h : ∀ k, k < n → p k = q k) : lst p n = lst q n := by
  refine lst_eq (fun j hj => ?_) (lst_le q n) (fun hk => ?_)
  · rw [h j (by have := lst_le q n; omega)]; exact lst_lo q n j hj
  · rw [h _ hk]; exact lst_hit q n hk
def cnt (p : Nat → Bool) : Nat → Nat
  | 0 => 0
  | n + 1 => cnt p n + if p n = true then 1 else 0
theorem cnt_le (p : Nat → Bool) : ∀ n, cnt p n ≤ n
  | 0 => Nat.le_refl _
  | n + 1 => by
    have := cnt_le p n
    unfold cnt
    split <;> omega
theorem cnt_t {p : Nat → Bool} {n : Nat} (h : p n = true) : cnt p (n + 1) = cnt p n + 1 := by rw [cnt, if_pos h]
theorem cnt_f {p : Nat → Bool} {n : Nat} (h : p n = false) : cnt p (n + 1) = cnt p n := by rw [cnt, h]; rfl
theorem cnt_cg {p q : Nat → Bool} : ∀ {n : Nat}, (∀ k, k < n → p k = q k) → cnt p n = cnt q n
  | 0, _ => rfl
  | n + 1, h => by rw [cnt, cnt, cnt_cg fun k hk => h k (by omega), h n (by omega)]
/-! how many are used -/
theorem s_X0_usedMany {σ : WS} {M : WM} {Q : Int32 → Prop} (hW : WC σ M) (ok : wsOK σ) (h : Q (nI (cnt (used σ) (sN σ)))) : m_X0_usedMany M Q := by
  have hn := ok.1
  unfold m_X0_usedMany
  refine pk_loop (fun k i (s : Unit) => m_X0_usedMany_l4 M Q k (nI (cnt (used σ) i)) (nI i)) (fun _ _ => True) (sN σ) 0 () (by omega) trivial ?_ ?_
  · intro k _ _
    unfold m_X0_usedMany_l4
    rw [hW.1]
    exact ⟨fun _ => h, fun z => absurd (Int32.le_refl _) z⟩
  · intro k i _ hi _ ih
    unfold m_X0_usedMany_l4
    rw [hW.1]
    refine ⟨fun z => absurd z (nI_ge hi (by omega)), fun _ => s_X0_isUsed hW ok hi (bcs (fun e z ez y ey => ?_) (fun e z ez y ey => ?_))⟩
    · have := ih () trivial
      rw [cnt_t e] at this
      rw [ez, ey, nI_1, nI_1]; exact this
    · have := ih () trivial
      rw [cnt_f e] at this
      rw [ez, ey, nI_1, Int32.add_zero]; exact this
theorem s_X6_usedMany {σ : WS} {M : WM} {Q : Int32 → Prop} (hW : WT σ M) (ok : wsOK σ) (h : Q (nI (cnt (used σ) (sN σ)))) : m_X6_usedMany M Q := by
  have hn := ok.1
  unfold m_X6_usedMany
  refine pk_loop (fun k i (s : Unit) => m_X6_usedMany_l4 M Q k (nI (cnt (used σ) i)) (nI i)) (fun _ _ => True) (sN σ) 0 () (by omega) trivial ?_ ?_
  · intro k _ _
    unfold m_X6_usedMany_l4
    rw [hW.1]
    exact ⟨fun _ => h, fun z => absurd (Int32.le_refl _) z⟩
  · intro k i _ hi _ ih
    unfold m_X6_usedMany_l4
    rw [hW.1]
    refine ⟨fun z => absurd z (nI_ge hi (by omega)), fun _ => s_X6_isUsed hW ok hi (bcs (fun e z ez y ey => ?_) (fun e z ez y ey => ?_))⟩
    · have := ih () trivial
      rw [cnt_t e] at this
      rw [ez, ey, nI_1, nI_1]; exact this
    · have := ih () trivial
      rw [cnt_f e] at this
      rw [ez, ey, nI_1, Int32.add_zero]; exact this
/-! count -/
theorem subN {x : Int32} {c n : Nat} (hc : c ≤ 200) (hn : n ≤ 100) : (0 ≤ (x - nI c).toInt ∧ (x - nI c).toInt < n) ↔ ((c : Int) ≤ x.toInt ∧ x.toInt < c + n) := by
  have h1 := Int32.le_toInt x
  have h2 := Int32.toInt_lt x
  rw [Int32.toInt_sub, nI_toInt (by omega)]
  have h3 : Int.bmod (x.toInt - c) (2 ^ 32) = if x.toInt - c < -2147483648 then x.toInt - c + 4294967296 else x.toInt - c := by
    unfold Int.bmod
    show (if (x.toInt - c) % 4294967296 < (4294967296 + 1) / 2 then (x.toInt - c) % 4294967296 else (x.toInt - c) % 4294967296 - 4294967296) = _
    split <;> split <;> omega
  rw [h3]
  split <;> omega
theorem subE {x : Int32} {c n : Nat} (hc : c ≤ 200) (hn : n ≤ 100) (h : (c : Int) ≤ x.toInt ∧ x.toInt < c + n) : x - nI c = nI (x.toInt.toNat - c) ∧ x.toInt.toNat - c < n := by
  obtain ⟨w, hw, rfl, e⟩ := nI_ex (x := x) (by omega)
  rw [e] at h
  rw [e, pk_sub (by omega)]
  exact ⟨rfl, by omega⟩
def LM (c : Nat) (M : WM) : Prop := ∃ r, wR M 0 2 = some r ∧ wk M r = 1 ∧ wI M r 3 = nI c
def countV (σ : WS) (c t x : Nat) (w : Int32) : Int32 :=
  if w = 0 then nI (sN σ) else if w = 1 then nI (cnt (used σ) (sN σ)) else if w = 2 then nI c else if w = 3 then nI t else if w = 4 then nI x else if w = 5 then spI (sSp σ)
  else if 20 ≤ w.toInt ∧ w.toInt < 20 + sN σ then nI (sLen σ (w.toInt.toNat - 20)) else if 60 ≤ w.toInt ∧ w.toInt < 60 + sN σ then nI (sKn σ (w.toInt.toNat - 60)) else if 100 ≤ w.toInt ∧ w.toInt < 100 + sN σ then b2i (used σ (w.toInt.toNat - 100)) else -1
theorem cv_hi {σ : WS} {c t x : Nat} {w : Int32} (h : 20 ≤ w.toInt) : countV σ c t x w = if 20 ≤ w.toInt ∧ w.toInt < 20 + sN σ then nI (sLen σ (w.toInt.toNat - 20)) else if 60 ≤ w.toInt ∧ w.toInt < 60 + sN σ then nI (sKn σ (w.toInt.toNat - 60)) else if 100 ≤ w.toInt ∧ w.toInt < 100 + sN σ then b2i (used σ (w.toInt.toNat - 100)) else -1 := by
  have ne : ∀ k : Int32, k.toInt < 20 → ¬ w = k := fun k hk e => by rw [e] at h; omega
  unfold countV
  rw [if_neg (ne 0 (by decide)), if_neg (ne 1 (by decide)), if_neg (ne 2 (by decide)), if_neg (ne 3 (by decide)), if_neg (ne 4 (by decide)), if_neg (ne 5 (by decide))]
theorem s_X0_count {σ : WS} {c t x : Nat} {M : WM} {w : Int32} {Q : Int32 → Prop} (hW : WC σ M) (ok : wsOK σ) (hl : LM c M) (ht : wI M 0 5 = nI t) (hx : wI M 0 6 = nI x) (h : Q (countV σ c t x w)) : m_X0_count w M Q := by
  have hn := ok.1
  unfold m_X0_count
  refine s_X0_isWord hW ok ?_
  rw [show (20 : Int32) = nI 20 from rfl, show (60 : Int32) = nI 60 from rfl, show (100 : Int32) = nI 100 from rfl]
  refine bdc (fun e => ?_) (fun e => s_X0_isWord hW ok (bdc (fun e2 => ?_) (fun e2 => s_X0_isWord hW ok (bdc (fun e3 => ?_) (fun e3 => ?_)))))
  · rw [subN (by omega) (by omega)] at e
    obtain ⟨e1, e2⟩ := subE (by omega) (by omega) e
    rw [cv_hi (by omega), if_pos (by omega)] at h
    rw [e1, nI_clamp (by omega), (hW.2.1 _ e2).1]
    exact ⟨vin (by omega), h⟩
  · rw [subN (by omega) (by omega)] at e e2
    obtain ⟨e1, e3⟩ := subE (by omega) (by omega) e2
    rw [cv_hi (by omega), if_neg (by omega), if_pos (by omega)] at h
    rw [e1, nI_clamp (by omega), (hW.2.1 _ e3).2.2.1]
    exact ⟨vin (by omega), h⟩
  · rw [subN (by omega) (by omega)] at e e2 e3
    obtain ⟨e1, e4⟩ := subE (by omega) (by omega) e3
    rw [cv_hi (by omega), if_neg (by omega), if_neg (by omega), if_pos (by omega)] at h
    rw [e1]
    refine s_X0_isUsed hW ok e4 (bcs (fun e5 => ?_) (fun e5 => ?_))
    · rw [e5] at h; exact h
    · rw [e5] at h; exact h
  · rw [subN (by omega) (by omega)] at e e2 e3
    unfold countV at h
    refine ⟨fun q => ?_, fun q => ⟨fun q1 => ?_, fun q1 => ⟨fun q2 => ?_, fun q2 => ⟨fun q3 => ?_, fun q3 => ⟨fun q4 => ?_, fun q4 => ⟨fun q5 => ?_, fun q5 => ?_⟩⟩⟩⟩⟩⟩
    · rw [if_pos q] at h; rw [hW.1]; exact h
    · rw [if_neg q, if_pos q1] at h; exact s_X0_usedMany hW ok h
    · rw [if_neg q, if_neg q1, if_pos q2] at h
      obtain ⟨r, l1, l2, l3⟩ := hl
      exact ⟨r, l1, l2, by rw [l3]; exact h⟩
    · rw [if_neg q, if_neg q1, if_neg q2, if_pos q3] at h; rw [ht]; exact h
    · rw [if_neg q, if_neg q1, if_neg q2, if_neg q3, if_pos q4] at h; rw [hx]; exact h
    · rw [if_neg q, if_neg q1, if_neg q2, if_neg q3, if_neg q4, if_pos q5] at h; rw [hW.2.2]; exact h
    · rw [if_neg q, if_neg q1, if_neg q2, if_neg q3, if_neg q4, if_neg q5, if_neg (by omega), if_neg (by omega), if_neg (by omega)] at h; exact h
theorem s_X6_count {σ : WS} {c t x : Nat} {M : WM} {w : Int32} {Q : Int32 → Prop} (hW : WT σ M) (ok : wsOK σ) (hl : wI M 5444 20 = nI c) (ht : wI M 5444 11 = nI t) (hx : wI M 5444 1 = nI x) (h : Q (countV σ c t x w)) : m_X6_count w M Q := by
  have hn := ok.1
  unfold m_X6_count
  have bd : ∀ k : Nat, k ≤ 100 → (nI k + nI (sN σ)).toInt = (k + sN σ : Nat) := fun k hk => by rw [nI_add, nI_toInt (by omega)]
  unfold countV at h
  refine ⟨fun q => ?_, fun q => ⟨fun q1 => ?_, fun q1 => ⟨fun q2 => ?_, fun q2 => ⟨fun q3 => ?_, fun q3 => ⟨fun q4 => ?_, fun q4 => ⟨fun q5 => ?_, fun q5 => ?_⟩⟩⟩⟩⟩⟩
  · rw [if_pos q] at h; rw [hW.1]; exact h
  · rw [if_neg q, if_pos q1] at h; exact s_X6_usedMany hW ok h
  · rw [if_neg q, if_neg q1, if_pos q2] at h
    rw [hl]; exact h
  · rw [if_neg q, if_neg q1, if_neg q2, if_pos q3] at h; rw [ht]; exact h
  · rw [if_neg q, if_neg q1, if_neg q2, if_neg q3, if_pos q4] at h; rw [hx]; exact h
  · rw [if_neg q, if_neg q1, if_neg q2, if_neg q3, if_neg q4, if_pos q5] at h; rw [hW.2.2]; exact h
  rw [if_neg q, if_neg q1, if_neg q2, if_neg q3, if_neg q4, if_neg q5] at h
  rw [hW.1, show (19 : Int32) = nI 19 from rfl, show (59 : Int32) = nI 59 from rfl, show (99 : Int32) = nI 99 from rfl]
  refine s_X6_in ?_
  rw [bd 19 (by omega), show (20 : Int32).toInt = 20 by decide]
  refine bdc (fun e => ?_) (fun e => s_X6_in ?_)
  · rw [if_pos (by omega)] at h
    obtain ⟨e1, e2⟩ := subE (x := w) (c := 20) (n := sN σ) (by omega) (by omega) (by omega)
    rw [show (20 : Int32) = nI 20 from rfl, e1, nI_clamp (by omega), (hW.2.1 _ e2).1]
    exact ⟨vin (by omega), h⟩
  rw [if_neg (by omega)] at h
  rw [bd 59 (by omega), show (60 : Int32).toInt = 60 by decide]
  refine bdc (fun e => ?_) (fun e => s_X6_in ?_)
  · rw [if_pos (by omega)] at h
    obtain ⟨e1, e2⟩ := subE (x := w) (c := 60) (n := sN σ) (by omega) (by omega) (by omega)
    rw [show (60 : Int32) = nI 60 from rfl, e1, nI_clamp (by omega), (hW.2.1 _ e2).2.2.1]
    exact ⟨vin (by omega), h⟩
  rw [if_neg (by omega)] at h
  rw [bd 99 (by omega), show (100 : Int32).toInt = 100 by decide]
  refine bdc (fun e => ?_) (fun e => ?_)
  · rw [if_pos (by omega)] at h
    obtain ⟨e1, e2⟩ := subE (x := w) (c := 100) (n := sN σ) (by omega) (by omega) (by omega)
    rw [show (100 : Int32) = nI 100 from rfl, e1]
    refine s_X6_isUsed hW ok e2 (bcs (fun e5 => ?_) (fun e5 => ?_))
    · rw [e5] at h; exact h
    · rw [e5] at h; exact h
  · rw [if_neg (by omega)] at h; exact h
/-! check -/
def num4 (tp : Nat → Int32) (k : Nat) : Int32 :=
  ((((((((0 : Int32) <<< ((8 : Int32) &&& 31)) ||| (tp (4 * k) &&& 255)) <<< ((8 : Int32) &&& 31)) ||| (tp (4 * k + 1) &&& 255)) <<< ((8 : Int32) &&& 31)) ||| (tp (4 * k + 2) &&& 255)) <<< ((8 : Int32) &&& 31)) ||| (tp (4 * k + 3) &&& 255)
theorem s_X0_numberAt {tp : Nat → Int32} {k : Nat} {M : WM} {Q : Int32 → Prop} (hT : ∀ j, wI M 2 j = tp j) (hk : k < 50) (h : Q (num4 tp k)) : m_X0_numberAt (nI k) M Q := by
  have ix : ∀ i, (4 : Int32) * nI k + nI i = nI (4 * k + i) := fun i => by rw [show (4 : Int32) = nI 4 from rfl, pk_mul, nI_add]
  refine ⟨5, ?_⟩
  have stp : ∀ n i v, i < 4 → m_X0_numberAt_l4 (nI k) M Q n ((v <<< ((8 : Int32) &&& 31)) ||| (tp (4 * k + i) &&& 255)) (nI (i + 1)) → m_X0_numberAt_l4 (nI k) M Q (n + 1) v (nI i) := fun n i v hi hh => by
    refine ⟨fun z => absurd z (nI_ge (b := 4) hi (by omega)), fun _ => ?_⟩
    rw [ix, nI_clamp (by omega), hT]
    exact ⟨vin (by omega), fun z ez y ey => by rw [ez, ey, nI_1]; exact hh⟩
  exact stp 4 0 0 (by omega) (stp 3 1 _ (by omega) (stp 2 2 _ (by omega) (stp 1 3 _ (by omega) ⟨fun _ => h, fun z => absurd (Int32.le_refl _) z⟩)))
theorem s_X6_tapeNumber {tp : Nat → Int32} {k : Nat} {M : WM} {Q : Int32 → Prop} (hT : ∀ j, wI M 5451 j = tp j) (hk : k < 50) (h : Q (num4 tp k)) : m_X6_tapeNumber (nI k) M Q := by
  have ix : ∀ i, (4 : Int32) * nI k + nI i = nI (4 * k + i) := fun i => by rw [show (4 : Int32) = nI 4 from rfl, pk_mul, nI_add]
  intro z1 e1
  refine ⟨5, ?_⟩
  have e2 : z1 = nI (4 * k + 0) := by rw [e1, show (4 : Int32) = nI 4 from rfl, pk_mul]; rfl
  have stp : ∀ n i v, i < 4 → m_X6_tapeNumber_l6 (nI k) M Q n ((v <<< ((8 : Int32) &&& 31)) ||| (tp (4 * k + i) &&& 255)) (nI (4 * k + (i + 1))) → m_X6_tapeNumber_l6 (nI k) M Q (n + 1) v (nI (4 * k + i)) := fun n i v hi hh => by
    refine ⟨fun z => ?_, fun _ => ?_⟩
    · have ix4 : (4 : Int32) * nI k + 4 = nI (4 * k + 4) := ix 4
      rw [ix4] at z; exact absurd z (nI_ge (by omega) (by omega))
    rw [nI_clamp (by omega), hT]
    exact ⟨vin (by omega), fun z ez y ey => by rw [ez, ey, nI_1]; exact hh⟩
  rw [e2]
  exact stp 4 0 0 (by omega) (stp 3 1 _ (by omega) (stp 2 2 _ (by omega) (stp 1 3 _ (by omega) ⟨fun _ => h, fun z => absurd (by rw [show (4 : Int32) * nI k + 4 = nI (4 * k + 4) from ix 4]; exact Int32.le_refl _) z⟩)))
def chkB (σ : WS) (tp : Nat → Int32) (w n k : Nat) : Bool := decide (k = n) || decide (¬ num4 tp k = nI (sLet σ w k))
def chkV (σ : WS) (tp : Nat → Int32) (w n : Nat) : Int32 :=
  if lst (chkB σ tp w n) (sLen σ w) < sLen σ w then nI (lst (chkB σ tp w n) (sLen σ w)) else if n = sLen σ w then -1 else nI (sLen σ w)
def VK (σ : WS) (t : Nat) (x n : Int32) : Prop := (0 ≤ x.toInt ∧ x.toInt < sN σ) ∧ (0 ≤ n.toInt ∧ n.toInt ≤ 8) ∧ n.toInt ≤ (t / 4 : Nat)
theorem s_X0_letter_in {σ : WS} {M : WM} (hW : WC σ M) {w k : Nat} (hw : w < sN σ) (hk : k < sLen σ w) : wI M (5325 + 3 * w + 1) k = nI (sLet σ w k) := by
  rw [show 5325 + 3 * w + 1 = 5326 + 3 * w by omega]; exact (hW.2.1 w hw).2.1 k hk
theorem s_X6_letter {σ : WS} {w k : Nat} {M : WM} {Q : Int32 → Prop} (hW : WT σ M) (ok : wsOK σ) (hw : w < sN σ) (hk : k < sLen σ w) (h : Q (nI (sLet σ w k))) : m_X6_letter (nI w) (nI k) M Q := by
  have h1 := ok.1
  have h2 := (ok.2.1 w hw).2.1
  unfold m_X6_letter
  rw [show (8 : Int32) = nI 8 from rfl, pk_mul, nI_add, nI_clamp (by omega), (hW.2.1 w hw).2.1 k hk]
  exact ⟨vin (by omega), h⟩
theorem s_X0_check {σ : WS} {tp : Nat → Int32} {t : Nat} {M : WM} {x n : Int32} {Q : Int32 → WM → Prop} (hW : WC σ M) (ok : wsOK σ) (hT : TC tp t M) (ht : t ≤ 200) (h0 : ¬ VK σ t x n → Q (-2) M) (h1 : ∀ w m, x = nI w → n = nI m → VK σ t x n → Q (chkV σ tp w m) (wPI M 0 5 0)) : m_X0_check x n M Q := by
  have hn := ok.1
  refine s_X0_isWord hW ok (bdc (fun e => ?_) (fun e => h0 fun z => e z.1))
  refine s_X0_within (bdc (fun e2 => ?_) (fun e2 => h0 fun z => e2 z.2.1))
  have e2 : 0 ≤ n.toInt ∧ n.toInt ≤ 8 := e2
  obtain ⟨w, hw, rfl, ew⟩ := nI_ex e.1
  obtain ⟨m, hm, rfl, em⟩ := nI_ex e2.1
  have hw : w < sN σ := by omega
  obtain ⟨l1, l2, -, -⟩ := ok.2.1 w hw
  rw [hT.2]
  refine pk_le m (t / 4) (fun e3 => ?_) (fun e3 => h0 fun z => by have := z.2.2; omega) rfl (pk_div (a := t) (d := 4) (by omega) (by omega) (by omega))
  have hV : VK σ t (nI w) (nI m) := ⟨e, e2, by omega⟩
  intro M6 e6
  refine ⟨vin (by omega), ?_⟩
  rw [nI_clamp (by omega)]
  have hh := h1 w m rfl rfl hV
  rw [← e6] at hh
  have f6 : Fr STC M M6 := by rw [e6]; exact Fr.rf.PI (Or.inr ⟨rfl, rfl⟩)
  have w6 : WC σ M6 := hW.fr ok f6 (by unfold STC PWC; omega)
  have t6 : ∀ j, wI M6 2 j = tp j := fun j => by rw [e6, wI_n _ _ (by omega)]; exact hT.1 j
  refine pk_loop (fun k i (s : Unit) => m_X0_check_l49 (nI m) (5325 + 3 * w) Q k (nI i) M6) (fun i _ => ∀ j, j < i → chkB σ tp w m j = false) (sLen σ w) 0 () (by omega) (fun j hj => absurd hj (by omega)) ?_ ?_
  · intro k _ hI
    have e7 : lst (chkB σ tp w m) (sLen σ w) = sLen σ w := lst_eq hI (Nat.le_refl _) (fun z => absurd z (by omega))
    unfold chkV at hh
    rw [e7, if_neg (by omega)] at hh
    unfold m_X0_check_l49
    rw [(w6.line hw).1]
    refine ⟨fun _ => pk_eq m (sLen σ w) (fun c => ?_) (fun c => ?_) rfl rfl, fun z => absurd (Int32.le_refl _) z⟩
    · rw [if_pos c] at hh; exact hh
    · rw [if_neg c] at hh; exact hh
  · intro k i _ hi hI ih
    unfold m_X0_check_l49
    rw [(w6.line hw).1]
    have hit : chkB σ tp w m i = true → Q (nI i) M6 := fun e7 => by
      have e8 : lst (chkB σ tp w m) (sLen σ w) = i := lst_eq hI (by omega) (fun _ => e7)
      unfold chkV at hh
      rw [e8, if_pos hi] at hh; exact hh
    refine ⟨fun z => absurd z (nI_ge hi (by omega)), fun _ => pk_eq i m (fun c => ?_) (fun c => ?_) rfl rfl⟩
    · rw [← c]; exact hit (by unfold chkB; rw [decide_eq_true c]; rfl)
    · refine s_X0_numberAt t6 (by omega) ?_
      rw [nI_clamp (by omega), s_X0_letter_in w6 hw hi]
      refine ⟨vin (by omega), fun c2 z ez => ?_, fun c2 => hit (by unfold chkB; rw [decide_eq_true c2, Bool.or_true])⟩
      rw [ez, nI_1]
      refine ih () fun j hj => ?_
      by_cases e9 : j = i
      · rw [e9]; unfold chkB; rw [decide_eq_false c, decide_eq_false (fun z => z c2)]; rfl
      · exact hI j (by omega)
theorem s_X6_check {σ : WS} {tp : Nat → Int32} {t : Nat} {M : WM} {x n : Int32} {Q : Int32 → WM → Prop} (hW : WT σ M) (ok : wsOK σ) (hT : TT tp t M) (ht : t ≤ 200) (h0 : ¬ VK σ t x n → Q (-2) M) (h1 : ∀ w m, x = nI w → n = nI m → VK σ t x n → Q (chkV σ tp w m) (wPI M 5444 11 0)) : m_X6_check x n M Q := by
  have hn := ok.1
  refine s_X6_isWord hW ok (bdc (fun e => ?_) (fun e => h0 fun z => e z.1))
  refine s_X6_in (bdc (fun e2 => ?_) (fun e2 => h0 fun z => e2 z.2.1))
  have e2 : 0 ≤ n.toInt ∧ n.toInt ≤ 8 := e2
  obtain ⟨w, hw, rfl, ew⟩ := nI_ex e.1
  obtain ⟨m, hm, rfl, em⟩ := nI_ex e2.1
  have hw : w < sN σ := by omega
  obtain ⟨l1, l2, -, -⟩ := ok.2.1 w hw
  rw [hT.2]
  refine pk_le m (t / 4) (fun e3 => ?_) (fun e3 => h0 fun z => by have := z.2.2; omega) rfl (pk_div (a := t) (d := 4) (by omega) (by omega) (by omega))
  have hV : VK σ t (nI w) (nI m) := ⟨e, e2, by omega⟩
  intro M6 e6
  have hh := h1 w m rfl rfl hV
  rw [← e6] at hh
  have f6 : Fr STT M M6 := by rw [e6]; exact Fr.rf.PI (Or.inr ⟨rfl, rfl⟩)
  have w6 : WT σ M6 := hW.fr f6 (by unfold STT PWT; omega)
  have t6 : ∀ j, wI M6 5451 j = tp j := fun j => by rw [e6, wI_n _ _ (by omega)]; exact hT.1 j
  refine pk_loop (fun k i (s : Unit) => m_X6_check_l38 (nI w) (nI m) Q k (nI i) M6) (fun i _ => ∀ j, j < i → chkB σ tp w m j = false) (sLen σ w) 0 () (by omega) (fun j hj => absurd hj (by omega)) ?_ ?_
  · intro k _ hI
    have e7 : lst (chkB σ tp w m) (sLen σ w) = sLen σ w := lst_eq hI (Nat.le_refl _) (fun z => absurd z (by omega))
    unfold chkV at hh
    rw [e7, if_neg (by omega)] at hh
    unfold m_X6_check_l38
    rw [nI_clamp (by omega), (w6.2.1 w hw).1]
    have mge : sLen σ w ≤ m := by
      rcases Nat.lt_or_ge m (sLen σ w) with c | c
      · have := hI m c
        unfold chkB at this
        rw [decide_eq_true rfl] at this; cases this
      · exact c
    refine ⟨vin (by omega), fun _ => ⟨vin (by omega), pk_le m (sLen σ w) (fun c => ?_) (fun c => ⟨vin (by omega), ?_⟩) rfl rfl⟩, fun z => absurd (Int32.le_refl _) z⟩
    · rw [if_pos (by omega)] at hh; exact hh
    · rw [if_neg (by omega)] at hh; exact hh
  · intro k i _ hi hI ih
    unfold m_X6_check_l38
    rw [nI_clamp (by omega), (w6.2.1 w hw).1]
    have hit : chkB σ tp w m i = true → Q (nI i) M6 := fun e7 => by
      have e8 : lst (chkB σ tp w m) (sLen σ w) = i := lst_eq hI (by omega) (fun _ => e7)
      unfold chkV at hh
      rw [e8, if_pos hi] at hh; exact hh
    refine ⟨vin (by omega), fun z => absurd z (nI_ge hi (by omega)), fun _ => pk_eq i m (fun c => ?_) (fun c => ?_) rfl rfl⟩
    · exact hit (by unfold chkB; rw [decide_eq_true c]; rfl)
    · refine s_X6_tapeNumber t6 (by omega) (s_X6_letter w6 ok hw hi ?_)
      refine ⟨fun c2 z ez => ?_, fun c2 => hit (by unfold chkB; rw [decide_eq_true c2, Bool.or_true])⟩
      rw [ez, nI_1]
      refine ih () fun j hj => ?_
      by_cases e9 : j = i
      · rw [e9]; unfold chkB; rw [decide_eq_false c, decide_eq_false (fun z => z c2)]; rfl
      · exact hI j (by omega)
