/-! LINES of letters -/
def LineIs (L : Nat) (M : WM) (m : Nat) (f : Nat → Nat) : Prop := wI M L 1 = nI m ∧ ∀ k, k < m → wI M (L + 1) k = nI (f k)
def SL (L r k : Nat) : Prop := (r = L ∧ k = 1) ∨ r = L + 1
theorem LineIs.fr {L m : Nat} {f : Nat → Nat} {M M' : WM} {S : Nat → Nat → Prop} (h : LineIs L M m f) (fr : Fr S M M') (h1 : ¬ S L 1) (h2 : ∀ k, ¬ S (L + 1) k) : LineIs L M' m f := ⟨by rw [fr.I h1]; exact h.1, fun k hk => by rw [fr.I (h2 k)]; exact h.2 k hk⟩
theorem LineIs.cg {L m : Nat} {f g : Nat → Nat} {M : WM} (h : LineIs L M m f) (e : ∀ k, k < m → f k = g k) : LineIs L M m g := ⟨h.1, fun k hk => by rw [← e k hk]; exact h.2 k hk⟩
theorem s_X2_clears {L : Nat} {M : WM} {Q : WM → Prop} (h : ∀ M', LineIs L M' 0 (fun _ => 0) → Fr (SL L) M M' → Q M') : m_X2_clears L M Q := by
  intro M1 e1
  subst e1
  exact h _ ⟨wI_s _ _ _ _, fun k hk => absurd hk (by omega)⟩ (Fr.rf.PI (Or.inl ⟨rfl, rfl⟩))
theorem s_X2_adds {L m v : Nat} {f : Nat → Nat} {M : WM} {Q : WM → Prop} (hL : LineIs L M m f) (hm : m < 13) (h : ∀ M', LineIs L M' (m + 1) (up1 f m v) → Fr (SL L) M M' → Q M') : m_X2_adds L (nI v) M Q := by
  unfold m_X2_adds
  rw [hL.1, nI_clamp (by omega)]
  refine ⟨pk_in m 13 hm, ?_⟩
  intro M2 e2 M3 e3
  have f2 : Fr (SL L) M M2 := by rw [e2]; exact Fr.rf.PI (Or.inr rfl)
  have f3 : Fr (SL L) M M3 := by rw [e3]; exact f2.PI (Or.inl ⟨rfl, rfl⟩)
  refine h M3 ⟨?_, fun k hk => ?_⟩ f3
  · rw [e3, wI_s, e2, wI_n _ _ (by omega), hL.1, nl, nI_add]
  · rw [e3, wI_n _ _ (by omega), e2, wI_PI]
    by_cases hk2 : k = m
    · rw [if_pos ⟨rfl, hk2⟩, hk2]; unfold up1; rw [if_pos rfl]
    · rw [if_neg (fun z => hk2 z.2), hL.2 k (by omega)]; unfold up1; rw [if_neg hk2]
theorem s_X2_takes {t x m : Nat} {f : Nat → Nat} {M : WM} {Q : WM → Prop} (hx : LineIs x M m f) (hm : m ≤ 13) (d1 : x ≠ t) (d2 : x + 1 ≠ t) (d3 : x ≠ t + 1) (h : ∀ M', LineIs t M' m f → Fr (SL t) M M' → Q M') : m_X2_takes t x M Q := by
  intro M1 e1
  have f1 : Fr (SL t) M M1 := by rw [e1]; exact Fr.rf.PI (Or.inl ⟨rfl, rfl⟩)
  have a1 : wI M1 t 1 = nI m := by rw [e1, wI_s]; exact hx.1
  refine pk_loop (fun n i M' => m_X2_takes_l10 t x Q n (nI i) M') (fun i M' => Fr (SL t) M M' ∧ wI M' t 1 = nI m ∧ ∀ k, k < i → wI M' (t + 1) k = nI (f k)) m 0 M1 (by omega) ⟨f1, a1, fun k hk => absurd hk (by omega)⟩ ?_ ?_
  · intro n M' ⟨q1, q2, q3⟩
    refine ⟨fun _ => h M' ⟨q2, q3⟩ q1, fun c => absurd (by rw [q2]; exact Int32.le_refl _) c⟩
  · intro n i M' hi ⟨q1, q2, q3⟩ ih
    refine ⟨fun c => absurd c (by rw [q2]; exact nI_ge hi (by omega)), fun _ => ⟨pk_in i 13 (by omega), pk_in i 13 (by omega), ?_⟩⟩
    rw [nI_clamp (by omega)]
    intro M4 e4 z ez
    subst ez
    rw [nI_1]
    have ev : wI M' (x + 1) i = nI (f i) := by
      rw [q1.I (by unfold SL; omega)]; exact hx.2 i hi
    refine ih M4 ⟨by rw [e4]; exact q1.PI (Or.inr rfl), by rw [e4, wI_n _ _ (by omega)]; exact q2, fun k hk => ?_⟩
    rw [e4, wI_PI]
    by_cases hk2 : k = i
    · rw [if_pos ⟨rfl, hk2⟩, ev, hk2]
    · rw [if_neg (fun z => hk2 z.2)]; exact q3 k (by omega)
theorem s_X2_isLike {t x m m2 : Nat} {f g : Nat → Nat} {M : WM} {Q : Int32 → Prop} (ht : LineIs t M m f) (hx : LineIs x M m2 g) (hm : m ≤ 13) (hm2 : m2 ≤ 13) (hf : ∀ k, k < m → f k < 26) (hg : ∀ k, k < m2 → g k < 26) (h1 : m = m2 ∧ (∀ k, k < m → f k = g k) → Q 1) (h0 : ¬ (m = m2 ∧ ∀ k, k < m → f k = g k) → Q 0) : m_X2_isLike t x M Q := by
  unfold m_X2_isLike
  rw [ht.1, hx.1, nI_eq (by omega) (by omega)]
  refine ⟨fun c => ?_, fun c => h0 fun z => c z.1⟩
  refine pk_loop (fun n i (_ : Unit) => m_X2_isLike_l15 t x M Q n (nI i)) (fun i _ => ∀ k, k < i → f k = g k) m 0 () (by omega) (fun k hk => absurd hk (by omega)) ?_ ?_
  · intro n _ q
    exact ⟨fun _ => h1 ⟨c, q⟩, fun z => absurd (by rw [ht.1]; exact Int32.le_refl _) z⟩
  · intro n i _ hi q ih
    refine ⟨fun z => absurd z (by rw [ht.1]; exact nI_ge hi (by omega)), fun _ => ⟨pk_in i 13 (by omega), pk_in i 13 (by omega), ?_⟩⟩
    have b1 := hf i hi
    have b2 := hg i (by omega)
    rw [nI_clamp (by omega), ht.2 i hi, hx.2 i (by omega), nI_eq (by omega) (by omega)]
    refine ⟨fun e z ez => ?_, fun e => h0 fun z => e (z.2 i hi)⟩
    subst ez
    rw [nI_1]
    exact ih () (lt_s q e)
/-- word w is the row f of m letters -/
def same (σ : WS) (w m : Nat) (f : Nat → Nat) : Prop := sLen σ w = m ∧ ∀ k, k < m → sLet σ w k = f k
theorem WC.line {σ : WS} {M : WM} (h : WC σ M) {w : Nat} (hw : w < sN σ) : LineIs (5325 + 3 * w) M (sLen σ w) (sLet σ w) := ⟨(h.2.1 w hw).1, fun k hk => by rw [show 5325 + 3 * w + 1 = 5326 + 3 * w by omega]; exact (h.2.1 w hw).2.1 k hk⟩
theorem s_X0_wordOf {σ : WS} {L m : Nat} {f : Nat → Nat} {M : WM} {Q : Int32 → Prop} (hW : WC σ M) (ok : wsOK σ) (hL : LineIs L M m f) (hm : m ≤ 13) (hf : ∀ k, k < m → f k < 26) (h1 : ∀ w, w < sN σ → same σ w m f → Q (nI w)) (h0 : (∀ w, w < sN σ → ¬ same σ w m f) → Q (-1)) : m_X0_wordOf L M Q := by
  have hn := ok.1
  refine pk_loop (fun n i (_ : Unit) => m_X0_wordOf_l2 L M Q n (nI i)) (fun i _ => ∀ w, w < i → ¬ same σ w m f) (sN σ) 0 () (by omega) (fun k hk => absurd hk (by omega)) ?_ ?_
  · intro n _ q
    exact ⟨fun _ => h0 q, fun z => absurd (by rw [hW.1]; exact Int32.le_refl _) z⟩
  · intro n i _ hi q ih
    refine ⟨fun z => absurd z (by rw [hW.1]; exact nI_ge hi (by omega)), fun _ => ⟨pk_in i 40 (by omega), ?_⟩⟩
    rw [nI_clamp (by omega)]
    obtain ⟨a1, a2, a3, -⟩ := ok.2.1 i hi
    refine s_X2_isLike (hW.line hi) hL (by omega) hm a3 hf (fun c => ?_) (fun c => ?_)
    · refine ⟨fun z => absurd z (by decide), fun _ => h1 i hi ⟨c.1, fun k hk => c.2 k (by omega)⟩⟩
    · refine ⟨fun _ z ez => ?_, fun z => absurd rfl z⟩
      subst ez
      rw [nI_1]
      exact ih () (lt_s q fun z => c ⟨z.1, fun k hk => z.2 k (by have := z.1; omega)⟩)
/-! rows of LetterHeapsModel -/
def RowIs (M : WM) (m : Nat) (f : Nat → Nat) : Prop := wI M 5444 9 = nI m ∧ ∀ k, k < m → wI M 5450 k = nI (f k)
theorem s_X6_isRow {σ : WS} {w m : Nat} {f : Nat → Nat} {M : WM} {Q : Int32 → Prop} (hW : WT σ M) (ok : wsOK σ) (hw : w < sN σ) (hR : RowIs M m f) (hm : m ≤ 12) (hf : ∀ k, k < m → f k < 26) (h1 : same σ w m f → Q 1) (h0 : ¬ same σ w m f → Q 0) : m_X6_isRow (nI w) M Q := by
  have hn := ok.1
  obtain ⟨a1, a2, a3, -⟩ := ok.2.1 w hw
  unfold m_X6_isRow
  refine ⟨pk_in w 40 (by omega), ?_⟩
  obtain ⟨e1, e2, -⟩ := hW.2.1 w hw
  rw [nI_clamp (by omega), e1, hR.1, nI_eq (by omega) (by omega)]
  refine ⟨fun c => ?_, fun c => h0 fun z => c z.1⟩
  refine pk_loop (fun n i (_ : Unit) => m_X6_isRow_l17 (nI w) M Q n (nI i)) (fun i _ => ∀ k, k < i → sLet σ w k = f k) m 0 () (by omega) (fun k hk => absurd hk (by omega)) ?_ ?_
  · intro n _ q
    exact ⟨fun _ => h1 ⟨c, q⟩, fun z => absurd (by rw [hR.1]; exact Int32.le_refl _) z⟩
  · intro n i _ hi q ih
    have e8 : (8 : Int32) * nI w + nI i = nI (8 * w + i) := by rw [nl, pk_mul, nI_add]
    refine ⟨fun z => absurd z (by rw [hR.1]; exact nI_ge hi (by omega)), fun _ => ?_⟩
    rw [e8]
    refine ⟨pk_in (8 * w + i) 320 (by omega), pk_in i 12 (by omega), ?_⟩
    have b1 := a3 i (by omega)
    have b2 := hf i hi
    rw [nI_clamp (by omega), nI_clamp (by omega), e2 i (by omega), hR.2 i hi, nI_eq (by omega) (by omega)]
    refine ⟨fun e z ez => ?_, fun e => h0 fun z => e (z.2 i hi)⟩
    subst ez
    rw [nI_1]
    exact ih () (lt_s q e)
theorem s_X6_isRowWord {σ : WS} {m : Nat} {f : Nat → Nat} {M : WM} {Q : Int32 → Prop} (hW : WT σ M) (ok : wsOK σ) (hR : RowIs M m f) (hm : m ≤ 12) (hf : ∀ k, k < m → f k < 26) (h1 : ∀ w, w < sN σ → same σ w m f → Q 1) (h0 : (∀ w, w < sN σ → ¬ same σ w m f) → Q 0) : m_X6_isRowWord M Q := by
  have hn := ok.1
  refine pk_loop (fun n i (_ : Unit) => m_X6_isRowWord_l2 M Q n (nI i)) (fun i _ => ∀ w, w < i → ¬ same σ w m f) (sN σ) 0 () (by omega) (fun k hk => absurd hk (by omega)) ?_ ?_
  · intro n _ q
    exact ⟨fun _ => h0 q, fun z => absurd (by rw [hW.1]; exact Int32.le_refl _) z⟩
  · intro n i _ hi q ih
    refine ⟨fun z => absurd z (by rw [hW.1]; exact nI_ge hi (by omega)), fun _ => ?_⟩
    refine s_X6_isRow hW ok hi hR hm hf (fun c => ?_) (fun c => ?_)
    · exact ⟨fun z => absurd z (by decide), fun _ => h1 i hi c⟩
    · refine ⟨fun _ z ez => ?_, fun z => absurd rfl z⟩
      subst ez
      rw [nI_1]
      exact ih () (lt_s q c)
/-! letters off the tape -/
def isL (b : Int32) : Prop := 97 ≤ b.toInt ∧ b.toInt ≤ 122
def lcv (b : Int32) : Nat := (b.toInt - 97).toNat
def bOK (tp : Nat → Int32) : Prop := ∀ k, -128 ≤ (tp k).toInt ∧ (tp k).toInt ≤ 127
theorem lcv_lt {b : Int32} (h : isL b) : lcv b < 26 := by unfold lcv; have h1 := h.1; have h2 := h.2; omega
theorem sub97 {b : Int32} (h1 : -128 ≤ b.toInt) (h2 : b.toInt ≤ 127) : (b - 97).toInt = b.toInt - 97 := by
  rw [Int32.toInt_sub]
  show Int.bmod (b.toInt - 97) 4294967296 = _
  rw [Int.bmod_eq_of_le (by omega) (by omega)]
theorem lcv_eq {b : Int32} (h : isL b) : b - 97 = nI (lcv b) := by
  have h1 := h.1; have h2 := h.2
  rw [i_eq, sub97 (by omega) (by omega), nI_toInt (by have := lcv_lt h; omega)]
  unfold lcv; omega
theorem s_X0_readsLine {L n : Nat} {tp : Nat → Int32} {M : WM} {Q : Int32 → WM → Prop} (ht : ∀ k, wI M 2 k = tp k) (hb : bOK tp) (hn : n ≤ 12) (hL2 : L ≠ 2) (hL1 : L ≠ 1) (h1 : (∀ k, k < n → isL (tp k)) → ∀ M', LineIs L M' n (fun k => lcv (tp k)) → Fr (SL L) M M' → Q 1 M') (h0 : ¬ (∀ k, k < n → isL (tp k)) → ∀ M', Fr (SL L) M M' → Q 0 M') : m_X0_readsLine L (nI n) M Q := by
  unfold m_X0_readsLine
  refine s_X2_clears fun M1 hl1 f1 => ?_
  refine pk_loop (fun k i M' => m_X0_readsLine_l6 L (nI n) Q k (nI i) M') (fun i M' => Fr (SL L) M M' ∧ LineIs L M' i (fun k => lcv (tp k)) ∧ ∀ k, k < i → isL (tp k)) n 0 M1 (by omega) ⟨f1, ⟨hl1.1, fun k hk => absurd hk (by omega)⟩, fun k hk => absurd hk (by omega)⟩ ?_ ?_
  · intro k M' ⟨q1, q2, q3⟩
    exact ⟨fun _ => h1 q3 M' q2 q1, fun z => absurd (Int32.le_refl _) z⟩
  · intro k i M' hi ⟨q1, q2, q3⟩ ih
    refine ⟨fun z => absurd z (nI_ge hi (by omega)), fun _ => ⟨pk_in i 200 (by omega), ?_⟩⟩
    have et : wI M' 2 i = tp i := by rw [q1.I (by unfold SL; omega)]; exact ht i
    rw [nI_clamp (by omega), et]
    obtain ⟨b1, b2⟩ := hb i
    refine s_X0_in ?_
    rw [sub97 b1 b2, show (26 : Int32).toInt = 26 by decide]
    by_cases hc : isL (tp i)
    · rw [decide_eq_true (by have := hc.1; have := hc.2; omega)]
      refine ⟨fun z => absurd z (by decide), fun _ => ⟨pk_in i 200 (by omega), ?_⟩⟩
      rw [lcv_eq hc]
      refine s_X2_adds q2 (by omega) fun M2 hl2 f2 z ez => ?_
      subst ez
      rw [nI_1]
      refine ih M2 ⟨q1.tr f2, hl2.cg fun k hk => ?_, lt_s q3 hc⟩
      unfold up1
      by_cases e : k = i
      · rw [if_pos e, e]
      · rw [if_neg e]
    · rw [decide_eq_false (by intro z; exact hc ⟨by omega, by omega⟩)]
      exact ⟨fun _ => h0 (fun z => hc (z i hi)) M' q1, fun z => absurd rfl z⟩
def SRow (r k : Nat) : Prop := (r = 5444 ∧ (k = 9 ∨ k = 11)) ∨ r = 5450
theorem s_X6_takesLetters {n : Nat} {tp : Nat → Int32} {M : WM} {Q : Int32 → WM → Prop} (ht : ∀ k, wI M 5451 k = tp k) (hb : bOK tp) (hn : n ≤ 12) (h1 : (∀ k, k < n → isL (tp k)) → ∀ M', RowIs M' n (fun k => lcv (tp k)) → wI M' 5444 11 = 0 → Fr SRow M M' → Q 1 M') (h0 : ¬ (∀ k, k < n → isL (tp k)) → ∀ M', wI M' 5444 11 = 0 → Fr SRow M M' → Q 0 M') : m_X6_takesLetters (nI n) M Q := by
  intro M1 e1 M2 e2
  have f2 : Fr SRow M M2 := by rw [e2, e1]; exact (Fr.rf.PI (Or.inl ⟨rfl, Or.inr rfl⟩)).PI (Or.inl ⟨rfl, Or.inl rfl⟩)
  have a9 : wI M2 5444 9 = nI n := by rw [e2, wI_s]
  have a11 : wI M2 5444 11 = 0 := by rw [e2, wI_n _ _ (by omega), e1, wI_s]
  refine pk_loop (fun k i M' => m_X6_takesLetters_l12 (nI n) Q k (nI i) M') (fun i M' => Fr SRow M M' ∧ RowIs M' n (fun k => lcv (tp k)) ∧ wI M' 5444 11 = 0 ∧ (∀ k, k < i → isL (tp k)) ∨ (Fr SRow M M' ∧ wI M' 5444 9 = nI n ∧ wI M' 5444 11 = 0 ∧ (∀ k, k < i → wI M' 5450 k = nI (lcv (tp k))) ∧ ∀ k, k < i → isL (tp k))) n 0 M2 (by omega) (Or.inr ⟨f2, a9, a11, fun k hk => absurd hk (by omega), fun k hk => absurd hk (by omega)⟩) ?_ ?_
  · intro k M' q
    rcases q with ⟨q1, q2, q3, q4⟩ | ⟨q1, q2, q3, q4, q5⟩
    · exact ⟨fun _ => h1 q4 M' q2 q3 q1, fun z => absurd (Int32.le_refl _) z⟩
    · exact ⟨fun _ => h1 q5 M' ⟨q2, q4⟩ q3 q1, fun z => absurd (Int32.le_refl _) z⟩
  · intro k i M' hi q ih
    have q : Fr SRow M M' ∧ wI M' 5444 9 = nI n ∧ wI M' 5444 11 = 0 ∧ (∀ k, k < i → wI M' 5450 k = nI (lcv (tp k))) ∧ ∀ k, k < i → isL (tp k) := by
      rcases q with ⟨q1, q2, q3, q4⟩ | q
      · exact ⟨q1, q2.1, q3, fun k hk => q2.2 k (by omega), q4⟩
      · exact q
    obtain ⟨q1, q2, q3, q4, q5⟩ := q
    refine ⟨fun z => absurd z (nI_ge hi (by omega)), fun _ => ⟨pk_in i 200 (by omega), ?_⟩⟩
    have et : wI M' 5451 i = tp i := by rw [q1.I (by unfold SRow; omega)]; exact ht i
    rw [nI_clamp (by omega), et]
    refine s_X6_in ?_
    rw [show (97 : Int32).toInt = 97 by decide, show (122 : Int32).toInt = 122 by decide]
    by_cases hc : isL (tp i)
    · rw [decide_eq_true (show 97 ≤ (tp i).toInt ∧ (tp i).toInt ≤ 122 from hc)]
      refine ⟨fun z => absurd z (by decide), fun _ => ⟨pk_in i 200 (by omega), pk_in i 12 (by omega), ?_⟩⟩
      intro M4 e4 z ez
      subst ez
      rw [nI_1]
      refine ih M4 (Or.inr ⟨by rw [e4]; exact q1.PI (Or.inr rfl), by rw [e4, wI_n _ _ (by omega)]; exact q2, by rw [e4, wI_n _ _ (by omega)]; exact q3, fun k hk => ?_, lt_s q5 hc⟩)
      rw [e4, wI_PI, lcv_eq hc]
      by_cases e : k = i
      · rw [if_pos ⟨rfl, e⟩, e]
      · rw [if_neg (fun z => e z.2)]; exact q4 k (by omega)
    · rw [decide_eq_false (show ¬ (97 ≤ (tp i).toInt ∧ (tp i).toInt ≤ 122) from hc)]
      exact ⟨fun _ => h0 (fun z => hc (z i hi)) M' q3 q1, fun z => absurd rfl z⟩
