/-! told words -/
def td (tp : Nat → Int32) (k : Nat) : Nat := (tp k).toInt.toNat
def okW (σ : WS) (tp : Nat → Int32) (n : Nat) : Prop := ∀ k, k < n → (0 ≤ (tp k).toInt ∧ (tp k).toInt < sN σ) ∧ ∀ j, j < k → ¬ tp j = tp k
theorem okW_td {σ : WS} {tp : Nat → Int32} {n k : Nat} (ok : wsOK σ) (h : okW σ tp n) (hk : k < n) : tp k = nI (td tp k) ∧ td tp k < sN σ := by
  have hn := ok.1
  obtain ⟨h1, h2⟩ := (h k hk).1
  have h3 : td tp k < sN σ := by unfold td; omega
  refine ⟨?_, h3⟩
  rw [i_eq, nI_toInt (by omega)]; unfold td; omega
theorem okW_inj {σ : WS} {tp : Nat → Int32} {n j k : Nat} (ok : wsOK σ) (h : okW σ tp n) (hj : j < n) (hk : k < n) (e : td tp j = td tp k) : j = k := by
  have e1 := (okW_td ok h hj).1
  have e2 := (okW_td ok h hk).1
  rcases Nat.lt_trichotomy j k with c | c | c
  · exact absurd (by rw [e1, e2, e]) ((h k hk).2 j c)
  · exact c
  · exact absurd (by rw [e1, e2, e]) ((h j hj).2 k c)
def SWC (r k : Nat) : Prop := (r = 0 ∧ (k = 5 ∨ k = 25)) ∨ r = 184
def SWM (r k : Nat) : Prop := (r = 5444 ∧ k = 11) ∨ r = 5475
def TdC (tp : Nat → Int32) (n : Nat) (M : WM) : Prop := ∀ k, k < n → wI M 184 k = nI (td tp k)
def TdT (tp : Nat → Int32) (n : Nat) (M : WM) : Prop := ∀ k, k < n → wI M 5475 k = nI (td tp k)
theorem s_X0_takesWords {σ : WS} {tp : Nat → Int32} {t n : Nat} {M : WM} {Q : Int32 → WM → Prop} (hW : WC σ M) (ok : wsOK σ) (hT : TC tp t M) (hn : n ≤ 14) (h1 : okW σ tp n → ∀ M', TdC tp n M' → wI M' 0 25 = nI n → TC tp 0 M' → Fr SWC M M' → Q 1 M') (h0 : ¬ okW σ tp n → ∀ M', TC tp 0 M' → Fr SWC M M' → Q 0 M') : m_X0_takesWords (nI n) M Q := by
  have hs := ok.1
  intro M1 e1 M2 e2
  have f2 : Fr SWC M M2 := by rw [e2, e1]; exact (Fr.rf.PI (Or.inl ⟨rfl, Or.inl rfl⟩)).PI (Or.inl ⟨rfl, Or.inr rfl⟩)
  have t2 : ∀ {M'}, Fr (fun r _ => r = 184) M2 M' → TC tp 0 M' ∧ WC σ M' ∧ wI M' 0 25 = nI n ∧ Fr SWC M M' := fun f => by
    have f' := f2.tr (f.mono (T := SWC) fun r k z => Or.inr z)
    refine ⟨⟨fun j => ?_, ?_⟩, hW.fr ok f' (by unfold SWC PWC; omega), ?_, f'⟩
    · rw [f.I (by omega), e2, wI_n _ _ (by omega), e1, wI_n _ _ (by omega)]; exact hT.1 j
    · rw [f.I (by omega), e2, wI_n _ _ (by omega), e1, wI_s]; rfl
    · rw [f.I (by omega), e2, wI_s]
  refine pk_loop (fun k i (s : Int64 × WM) => m_X0_takesWords_l15 (nI n) Q k s.1 (nI i) s.2) (fun i s => Fr (fun r _ => r = 184) M2 s.2 ∧ okW σ tp i ∧ (∀ k, k < i → wI s.2 184 k = nI (td tp k)) ∧ ∀ v, v < 64 → lb s.1 v = decide (∃ j, j < i ∧ td tp j = v)) n 0 (0, M2) (by omega) ⟨Fr.rf, fun k hk => absurd hk (by omega), fun k hk => absurd hk (by omega), fun v hv => by rw [lb_0]; exact (decide_eq_false fun ⟨j, hj, _⟩ => absurd hj (by omega)).symm⟩ ?_ ?_
  · intro k ⟨s, M'⟩ ⟨q1, q2, q3, q4⟩
    obtain ⟨a, b, c, d⟩ := t2 q1
    exact ⟨fun _ => h1 q2 M' q3 c a d, fun z => absurd (Int32.le_refl _) z⟩
  · intro k i ⟨s, M'⟩ hi ⟨q1, q2, q3, q4⟩ ih
    dsimp only at q1 q3 q4 ⊢
    unfold m_X0_takesWords_l15
    refine ⟨fun z => absurd z (nI_ge hi (by omega)), fun _ => ⟨vin (by omega), vin (by omega), fun M4 e4 => ⟨vin (by omega), ?_⟩⟩⟩
    rw [nI_clamp (by omega), (t2 q1).1.1] at e4
    have f4 : Fr (fun r _ => r = 184) M2 M4 := by rw [e4]; exact q1.PI rfl
    obtain ⟨a, b, c, d⟩ := t2 f4
    rw [nI_clamp (by omega), show wI M4 184 i = tp i by rw [e4, wI_s]]
    refine s_X0_isWord b ok (bdc (fun e => ⟨vin (by omega), ?_⟩) (fun e => h0 (fun z => e (z i hi).1) M4 a d))
    obtain ⟨v, hv, ev, ev2⟩ := nI_ex e.1
    have etd : td tp i = v := by unfold td; omega
    rw [ev]
    refine s_X0_has (by omega) (bcs (fun e5 => ?_) (fun e5 => ⟨vin (by omega), fun z ez y ey => ?_⟩))
    · rw [q4 v (by omega)] at e5
      obtain ⟨j, hj, ej⟩ := of_decide_eq_true e5
      refine h0 (fun z => ?_) M4 a d
      exact absurd (okW_inj ok z (by omega) hi (by omega)) (show ¬ j = i by omega)
    · rw [q4 v (by omega)] at e5
      have ne := of_decide_eq_false e5
      rw [ey, nI_1]
      refine ih (z, M4) ⟨f4, fun k hk => ?_, fun k hk => ?_, fun u hu => ?_⟩
      · by_cases ek : k = i
        · rw [ek]
          refine ⟨e, fun j hj ej => ne ⟨j, hj, ?_⟩⟩
          unfold td at etd ⊢; rw [ej]; exact etd
        · exact q2 k (by omega)
      · show wI M4 184 k = _
        by_cases ek : k = i
        · rw [ek, e4, wI_s, ev, etd]
        · rw [e4, wI_n _ _ (by omega)]; exact q3 k (by omega)
      · show lb z u = _
        rw [ez, show (1 : Int64) <<< ((nI v).toInt64 &&& 63) = bitL v from rfl, lb_or, lb_bitL (by omega) hu, q4 u hu, ← Bool.decide_or]
        refine decide_eq_decide.mpr ⟨fun w => ?_, fun ⟨j, hj, ej⟩ => ?_⟩
        · rcases w with ⟨j, hj, ej⟩ | w
          · exact ⟨j, by omega, ej⟩
          · exact ⟨i, by omega, by rw [etd, w]⟩
        · by_cases ek : j = i
          · exact Or.inr (by rw [ek, etd] at ej; exact ej)
          · exact Or.inl ⟨j, by omega, ej⟩
theorem s_X6_takesWords {σ : WS} {tp : Nat → Int32} {t n : Nat} {M : WM} {Q : Int32 → WM → Prop} (hW : WT σ M) (ok : wsOK σ) (hT : TT tp t M) (hn : n ≤ 14) (h1 : okW σ tp n → ∀ M', TdT tp n M' → TT tp 0 M' → Fr SWM M M' → Q 1 M') (h0 : ¬ okW σ tp n → ∀ M', TT tp 0 M' → Fr SWM M M' → Q 0 M') : m_X6_takesWords (nI n) M Q := by
  have hs := ok.1
  intro M2 e2
  have f2 : Fr SWM M M2 := by rw [e2]; exact Fr.rf.PI (Or.inl ⟨rfl, rfl⟩)
  have t2 : ∀ {M'}, Fr (fun r _ => r = 5475) M2 M' → TT tp 0 M' ∧ WT σ M' ∧ Fr SWM M M' := fun f => by
    have f' := f2.tr (f.mono (T := SWM) fun r k z => Or.inr z)
    refine ⟨⟨fun j => ?_, ?_⟩, hW.fr f' (by unfold SWM PWT; omega), f'⟩
    · rw [f.I (by omega), e2, wI_n _ _ (by omega)]; exact hT.1 j
    · rw [f.I (by omega), e2, wI_s]; rfl
  refine pk_loop (fun k i M' => m_X6_takesWords_l7 (nI n) Q k (nI i) M') (fun i M' => Fr (fun r _ => r = 5475) M2 M' ∧ okW σ tp i ∧ (∀ k, k < i → wI M' 5475 k = nI (td tp k))) n 0 M2 (by omega) ⟨Fr.rf, fun k hk => absurd hk (by omega), fun k hk => absurd hk (by omega)⟩ ?_ ?_
  · intro k M' ⟨q1, q2, q3⟩
    obtain ⟨a, b, d⟩ := t2 q1
    exact ⟨fun _ => h1 q2 M' q3 a d, fun z => absurd (Int32.le_refl _) z⟩
  · intro k i M' hi ⟨q1, q2, q3⟩ ih
    unfold m_X6_takesWords_l7
    refine ⟨fun z => absurd z (nI_ge hi (by omega)), fun _ => ⟨vin (by omega), vin (by omega), fun M4 e4 => ⟨vin (by omega), ?_⟩⟩⟩
    rw [nI_clamp (by omega), (t2 q1).1.1] at e4
    have f4 : Fr (fun r _ => r = 5475) M2 M4 := by rw [e4]; exact q1.PI rfl
    obtain ⟨a, b, d⟩ := t2 f4
    rw [nI_clamp (by omega), show wI M4 5475 i = tp i by rw [e4, wI_s]]
    refine s_X6_isWord b ok (bdc (fun e => ?_) (fun e => h0 (fun z => e (z i hi).1) M4 a d))
    obtain ⟨v, hv, ev, ev2⟩ := nI_ex e.1
    have etd : td tp i = v := by unfold td; omega
    have q3' : ∀ k, k < i + 1 → wI M4 5475 k = nI (td tp k) := fun k hk => by
      by_cases ek : k = i
      · rw [ek, e4, wI_s, ev, etd]
      · rw [e4, wI_n _ _ (by omega)]; exact q3 k (by omega)
    have tj : ∀ j, j < i → td tp j < sN σ := fun j hj => (okW_td ok q2 hj).2
    refine pk_loop (fun n0 j (_ : Unit) => m_X6_takesWords_l41 (fun x2' M' => m_X6_takesWords_l7 (nI n) Q k x2' M') (nI n) (nI i) Q n0 (nI j) M4) (fun j _ => ∀ j', j' < j → ¬ td tp j' = v) i 0 () (by omega) (fun j hj => absurd hj (by omega)) ?_ ?_
    · intro n0 _ hI
      refine ⟨fun _ z ez => ?_, fun z => absurd (Int32.le_refl _) z⟩
      rw [ez, nI_1]
      refine ih M4 ⟨f4, fun k hk => ?_, q3'⟩
      by_cases ek : k = i
      · rw [ek]
        refine ⟨e, fun j hj ej => hI j hj ?_⟩
        unfold td at etd ⊢; rw [ej]; exact etd
      · exact q2 k (by omega)
    · intro n0 j _ hj hI ih2
      unfold m_X6_takesWords_l41
      rw [nI_clamp (by omega), nI_clamp (by omega), q3' j (by omega), q3' i (by omega), etd]
      have := tj j hj
      refine ⟨fun z => absurd z (nI_ge hj (by omega)), fun _ => ⟨vin (by omega), vin (by omega), pk_eq (td tp j) v (fun c => ?_) (fun c z ez => ?_) rfl rfl⟩⟩
      · refine h0 (fun z => ?_) M4 a d
        exact absurd (okW_inj ok z (by omega) hi (by omega)) (show ¬ j = i by omega)
      · rw [ez, nI_1]
        refine ih2 () fun j' hj' => ?_
        by_cases ek : j' = j
        · rw [ek]; exact c
        · exact hI j' (by omega)
def okU (σ : WS) (tp : Nat → Int32) (n : Nat) : Prop := okW σ tp n ∧ ∀ k, k < n → used σ (td tp k) = true
theorem s_X0_takesUsed {σ : WS} {tp : Nat → Int32} {t n : Nat} {M : WM} {Q : Int32 → WM → Prop} (hW : WC σ M) (ok : wsOK σ) (hT : TC tp t M) (hn : n ≤ 14) (h1 : okU σ tp n → ∀ M', TdC tp n M' → wI M' 0 25 = nI n → TC tp 0 M' → Fr SWC M M' → Q 1 M') (h0 : ¬ okU σ tp n → ∀ M', TC tp 0 M' → Fr SWC M M' → Q 0 M') : m_X0_takesUsed (nI n) M Q := by
  refine s_X0_takesWords hW ok hT hn (fun hw M' a b c d => ie1 ?_) (fun hw M' c d => ie0 (h0 (fun z => hw z.1) M' c d))
  refine pk_loop (fun k i (_ : Unit) => m_X0_takesUsed_l12 (nI n) Q k (nI i) M') (fun i _ => ∀ k, k < i → used σ (td tp k) = true) n 0 () (by omega) (fun j hj => absurd hj (by omega)) ?_ ?_
  · intro k _ hI
    exact ⟨fun _ => h1 ⟨hw, hI⟩ M' a b c d, fun z => absurd (Int32.le_refl _) z⟩
  · intro k i _ hi hI ih
    unfold m_X0_takesUsed_l12
    rw [nI_clamp (by omega), a i hi]
    refine ⟨fun z => absurd z (nI_ge hi (by omega)), fun _ => ⟨vin (by omega), s_X0_isUsed (hW.fr ok d (by unfold SWC PWC; omega)) ok (okW_td ok hw hi).2 (bcs (fun e z ez => ?_) (fun e => ?_))⟩⟩
    · rw [ez, nI_1]
      refine ih () fun j hj => ?_
      by_cases ek : j = i
      · rw [ek]; exact e
      · exact hI j (by omega)
    · exact h0 (fun z => by rw [z.2 i hi] at e; cases e) M' c d
theorem s_X6_areUsed {σ : WS} {tp : Nat → Int32} {n : Nat} {M : WM} {Q : Int32 → Prop} (hW : WT σ M) (ok : wsOK σ) (hd : TdT tp n M) (hw : okW σ tp n) (hn : n ≤ 14) (h1 : okU σ tp n → Q 1) (h0 : ¬ okU σ tp n → Q 0) : m_X6_areUsed (nI n) M Q := by
  refine pk_loop (fun k i (_ : Unit) => m_X6_areUsed_l2 (nI n) M Q k (nI i)) (fun i _ => ∀ k, k < i → used σ (td tp k) = true) n 0 () (by omega) (fun j hj => absurd hj (by omega)) ?_ ?_
  · intro k _ hI
    exact ⟨fun _ => h1 ⟨hw, hI⟩, fun z => absurd (Int32.le_refl _) z⟩
  · intro k i _ hi hI ih
    unfold m_X6_areUsed_l2
    rw [nI_clamp (by omega), hd i hi]
    refine ⟨fun z => absurd z (nI_ge hi (by omega)), fun _ => ⟨vin (by omega), s_X6_isUsed hW ok (okW_td ok hw hi).2 (bcs (fun e z ez => ?_) (fun e => ?_))⟩⟩
    · rw [ez, nI_1]
      refine ih () fun j hj => ?_
      by_cases ek : j = i
      · rw [ek]; exact e
      · exact hI j (by omega)
    · exact h0 (fun z => by rw [z.2 i hi] at e; cases e)
