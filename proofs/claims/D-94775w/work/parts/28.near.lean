/-! near: the nearest used words to a row of letters -/
def nrS (σ : WS) (f : Nat → Nat) (m : Nat) : Nat → Option (Nat × Nat × Nat)
  | 0 => none
  | w + 1 => if used σ w = true then match nrS σ f m w with
    | none => some (ed f (sLet σ w) m (sLen σ w), w, 1)
    | some (l, b, c) => if ed f (sLet σ w) m (sLen σ w) < l then some (ed f (sLet σ w) m (sLen σ w), w, 1) else some (l, b, if ed f (sLet σ w) m (sLen σ w) = l then c + 1 else c)
    else nrS σ f m w
theorem nrS_f {σ : WS} {f : Nat → Nat} {m w : Nat} (h : used σ w = false) : nrS σ f m (w + 1) = nrS σ f m w := by rw [nrS, h]; rfl
theorem nrS_b {σ : WS} {f : Nat → Nat} {m : Nat} (hm : m ≤ 12) : ∀ {w l b c : Nat}, (∀ v, v < w → sLen σ v ≤ 8) → nrS σ f m w = some (l, b, c) → l ≤ 20 ∧ b < w ∧ c ≤ w
  | 0, l, b, c, _, h => by cases h
  | w + 1, l, b, c, hl, h => by
    have h8 := hl w (by omega)
    have he := ed_le f (sLet σ w) m (sLen σ w)
    have ih := fun l b c => nrS_b (σ := σ) (f := f) hm (w := w) (l := l) (b := b) (c := c) (fun v hv => hl v (by omega))
    rw [nrS] at h
    split at h
    · cases e : nrS σ f m w with
      | none => rw [e] at h; cases h; omega
      | some q =>
        obtain ⟨l1, b1, c1⟩ := q
        rw [e] at h
        have ih := ih l1 b1 c1 e
        have h : (if ed f (sLet σ w) m (sLen σ w) < l1 then some (ed f (sLet σ w) m (sLen σ w), w, 1) else some (l1, b1, if ed f (sLet σ w) m (sLen σ w) = l1 then c1 + 1 else c1)) = some (l, b, c) := h
        split at h
        · cases h; omega
        · cases h; refine ⟨by omega, by omega, ?_⟩
          split <;> omega
    · have := ih l b c h; omega
def nrV (o : Option (Nat × Nat × Nat)) (x : Int32) : Int32 := match o with
  | none => -2
  | some (l, b, c) => if x = 0 then nI l else if x = 1 then nI b else nI c
def VN (t : Nat) (n x : Int32) : Prop := (1 ≤ n.toInt ∧ n.toInt ≤ 12) ∧ (0 ≤ x.toInt ∧ x.toInt < 3) ∧ n.toInt ≤ t
def nrL (o : Option (Nat × Nat × Nat)) (z : Int32) : Int32 := match o with
  | none => z
  | some (l, _, _) => nI l
def nrB (o : Option (Nat × Nat × Nat)) (z : Int32) : Int32 := match o with
  | none => z
  | some (_, b, _) => nI b
def nrM (o : Option (Nat × Nat × Nat)) : Int32 := match o with
  | none => 0
  | some (_, _, c) => nI c
def SNC (r k : Nat) : Prop := (r = 0 ∧ k = 5) ∨ SL 7 r k ∨ SFC r k
theorem s_X0_near {σ : WS} {tp : Nat → Int32} {t : Nat} {M : WM} {n x : Int32} {Q : Int32 → WM → Prop} (hW : WC σ M) (ok : wsOK σ) (hT : TC tp t M) (ht : t ≤ 200) (hb : bOK tp) (h0 : ¬ VN t n x → Q (-1) M) (h1 : ∀ m, n = nI m → VN t n x → ¬ allL tp m → ∀ M', TC tp 0 M' → Fr SNC M M' → Q (-2) M') (h2 : ∀ m, n = nI m → VN t n x → allL tp m → ∀ M', TC tp 0 M' → Fr SNC M M' → Q (nrV (nrS σ (ltr tp) m (sN σ)) x) M') : m_X0_near n x M Q := by
  have hn := ok.1
  refine s_X0_within (bdc (fun e => ?_) (fun e => h0 fun z => e z.1))
  have e : 1 ≤ n.toInt ∧ n.toInt ≤ 12 := e
  refine s_X0_in (bdc (fun e2 => ?_) (fun e2 => h0 fun z => e2 z.2.1))
  obtain ⟨m, hm, rfl, em⟩ := nI_ex (x := n) (by omega)
  rw [hT.2]
  refine pk_le m t (fun e3 => ?_) (fun e3 => h0 fun z => by have := z.2.2; omega) rfl rfl
  have hV : VN t (nI m) x := ⟨e, e2, by omega⟩
  have h1 := h1 m rfl hV
  have h2 := h2 m rfl hV
  intro M6 e6
  have f6 : Fr SNC M M6 := by rw [e6]; exact Fr.rf.PI (Or.inl ⟨rfl, rfl⟩)
  have t6 : TC tp 0 M6 := ⟨fun j => by rw [e6, wI_n _ _ (by omega)]; exact hT.1 j, by rw [e6, wI_s]; rfl⟩
  have tcf : ∀ {S : Nat → Nat → Prop} {M1 M2 : WM}, TC tp 0 M1 → Fr S M1 M2 → (∀ r k, S r k → SL 7 r k ∨ SFC r k) → TC tp 0 M2 := fun h f hs => ⟨fun j => by rw [f.I fun z => by have := hs _ _ z; unfold SL SFC at this; omega]; exact h.1 j, by rw [f.I fun z => by have := hs _ _ z; unfold SL SFC at this; omega]; exact h.2⟩
  refine s_X0_readsLine t6.1 hb (by omega) (by decide) (by decide) (fun hall M8 hl f8 => ?_) (fun hall M8 f8 => ?_)
  · refine ie1 ?_
    have hl : LineIs 7 M8 m (ltr tp) := hl
    have t8 := tcf t6 f8 (fun r k z => Or.inl z)
    have f8 : Fr SNC M M8 := f6.tr (f8.mono fun r k z => Or.inr (Or.inl z))
    have h2 := h2 hall
    refine pk_loop (fun k i (s : Int32 × Int32 × Int32 × WM) => m_X0_near_l61 x Q k s.1 s.2.1 s.2.2.1 (nI i) s.2.2.2) (fun i s => s.1 = nrB (nrS σ (ltr tp) m i) (-2) ∧ s.2.1 = nrL (nrS σ (ltr tp) m i) 268435456 ∧ s.2.2.1 = nrM (nrS σ (ltr tp) m i) ∧ Fr SFC M8 s.2.2.2) (sN σ) 0 (-2, 268435456, 0, M8) (by omega) ⟨rfl, rfl, rfl, Fr.rf⟩ ?_ ?_
    · intro k ⟨s1, s2, s3, M9⟩ ⟨q1, q2, q3, q4⟩
      have g9 := f8.tr (q4.mono fun r k z => Or.inr (Or.inr z))
      have h2 := h2 M9 (tcf t8 q4 (fun r k z => Or.inr z)) g9
      unfold m_X0_near_l61
      have w9 : WC σ M9 := hW.fr ok g9 (by unfold SNC SL SFC PWC; omega)
      dsimp only at q1 q2 q3 ⊢
      rw [w9.1]
      refine ⟨fun _ => ?_, fun z => absurd (Int32.le_refl _) z⟩
      rw [q1, q2, q3]
      cases eo : nrS σ (ltr tp) m (sN σ) with
      | none => rw [eo] at h2; exact ⟨fun _ => h2, fun z => absurd rfl z⟩
      | some o =>
        obtain ⟨l, b, c⟩ := o
        rw [eo] at h2
        have hbd := nrS_b (by omega) (fun v hv => (ok.2.1 v hv).2.1) eo
        refine ⟨fun z => ?_, fun _ => ⟨fun z => ?_, fun z => ⟨fun z1 => ?_, fun z1 => ?_⟩⟩⟩
        · have z : nI b = -2 := z
          rw [i_eq, nI_toInt (by omega), show ((-2 : Int32)).toInt = -2 by decide] at z; omega
        · have h2 : Q (if x = 0 then nI l else if x = 1 then nI b else nI c) M9 := h2
          rw [if_pos z] at h2; exact h2
        · have h2 : Q (if x = 0 then nI l else if x = 1 then nI b else nI c) M9 := h2
          rw [if_neg z, if_pos z1] at h2; exact h2
        · have h2 : Q (if x = 0 then nI l else if x = 1 then nI b else nI c) M9 := h2
          rw [if_neg z, if_neg z1] at h2; exact h2
    · intro k i ⟨s1, s2, s3, M9⟩ hi ⟨q1, q2, q3, q4⟩ ih
      have g9 := f8.tr (q4.mono fun r k z => Or.inr (Or.inr z))
      have w9 : WC σ M9 := hW.fr ok g9 (by unfold SNC SL SFC PWC; omega)
      unfold m_X0_near_l61
      dsimp only at q1 q2 q3 q4 ⊢
      rw [w9.1]
      refine ⟨fun z => absurd z (nI_ge hi (by omega)), fun _ => s_X0_isUsed w9 ok hi (bcs (fun e7 => ?_) (fun e7 z ez => ?_))⟩
      · obtain ⟨-, hl8, hg8, -⟩ := ok.2.1 i hi
        refine ⟨vin (by omega), ?_⟩
        rw [nI_clamp (by omega)]
        refine s_X0_farOf (hl.fr q4 (by unfold SFC; omega) (by unfold SFC; omega)) (w9.line hi) (by omega) (by omega) (by omega) (by omega) (fun j hj => lcv_lt (hall j hj)) hg8 fun M10 f10 => ?_
        have he := ed_le (ltr tp) (sLet σ i) m (sLen σ i)
        show (s2 ≤ nI (ed (ltr tp) (sLet σ i) m (sLen σ i)) → _) ∧ (¬ s2 ≤ nI (ed (ltr tp) (sLet σ i) m (sLen σ i)) → _)
        have en : ∀ b c l, nrS σ (ltr tp) m i = some (l, b, c) → nrS σ (ltr tp) m (i + 1) = if ed (ltr tp) (sLet σ i) m (sLen σ i) < l then some (ed (ltr tp) (sLet σ i) m (sLen σ i), i, 1) else some (l, b, if ed (ltr tp) (sLet σ i) m (sLen σ i) = l then c + 1 else c) := fun b c l h => by rw [nrS, if_pos e7, h]
        have en0 : nrS σ (ltr tp) m i = none → nrS σ (ltr tp) m (i + 1) = some (ed (ltr tp) (sLet σ i) m (sLen σ i), i, 1) := fun h => by rw [nrS, if_pos e7, h]
        generalize ed (ltr tp) (sLet σ i) m (sLen σ i) = d at he en en0 ⊢
        have fin : ∀ o, nrS σ (ltr tp) m (i + 1) = o → ∀ a b c : Int32, a = nrB o (-2) → b = nrL o 268435456 → c = nrM o → ∀ y : Int32, y = nI i + 1 → m_X0_near_l61 x Q k a b c y M10 := fun o eo a b c ea eb ec y ey => by
          rw [ey, nI_1]
          exact ih (a, b, c, M10) ⟨by rw [eo]; exact ea, by rw [eo]; exact eb, by rw [eo]; exact ec, q4.tr f10⟩
        cases eo : nrS σ (ltr tp) m i with
        | none =>
          rw [eo] at q1 q2 q3
          refine pk_le 268435456 d (fun c => absurd c (by omega)) (fun _ => ?_) q2 rfl
          refine pk_le 268435456 d (fun c => absurd c (by omega)) (fun _ z1 ez1 => ?_) q2 rfl
          refine fin _ (en0 eo) _ _ _ rfl ?_ rfl
          rw [ez1, if_pos (by rw [q2]; exact nI_lt (a := d) (b := 268435456) (by omega) (by omega))]; rfl
        | some o =>
          obtain ⟨l, b, c⟩ := o
          have hbd := nrS_b (by omega) (fun v hv => (ok.2.1 v (by omega)).2.1) eo
          rw [eo] at q1 q2 q3
          have q2 : s2 = nI l := q2
          have en := en b c l eo
          refine pk_le l d (fun c1 => ?_) (fun c1 => ?_) q2 rfl
          · rw [if_neg (by omega)] at en
            refine pk_eq d l (fun c2 => ?_) (fun c2 => ?_) rfl q2
            · refine pk_le l d (fun _ z1 ez1 => ?_) (fun c => absurd c (by omega)) q2 rfl
              rw [if_pos c2] at en
              refine fin _ en _ _ _ q1 ?_ (by rw [q3]; exact nI_1 c)
              rw [ez1, q2, if_neg (nI_nlt c1 (by omega))]; rfl
            · refine pk_le l d (fun _ z1 ez1 => ?_) (fun c => absurd c (by omega)) q2 rfl
              rw [if_neg c2] at en
              refine fin _ en _ _ _ q1 ?_ (by rw [q3]; exact Int32.add_zero _)
              rw [ez1, q2, if_neg (nI_nlt c1 (by omega))]; rfl
          · rw [if_pos c1] at en
            refine pk_le l d (fun c => absurd c (by omega)) (fun _ z1 ez1 => ?_) q2 rfl
            refine fin _ en _ _ _ rfl ?_ rfl
            rw [ez1, q2, if_pos (nI_lt c1 (by omega))]; rfl
      · rw [ez, nI_1]
        exact ih (s1, s2, s3, M9) ⟨by rw [nrS_f e7]; exact q1, by rw [nrS_f e7]; exact q2, by rw [nrS_f e7]; exact q3, q4⟩
  · exact ie0 (h1 hall M8 (tcf t6 f8 (fun r k z => Or.inl z)) (f6.tr (f8.mono fun r k z => Or.inr (Or.inl z))))
def SNT (r k : Nat) : Prop := SRow r k ∨ SFT r k
theorem s_X6_near {σ : WS} {tp : Nat → Int32} {t : Nat} {M : WM} {n x : Int32} {Q : Int32 → WM → Prop} (hW : WT σ M) (ok : wsOK σ) (hT : TT tp t M) (ht : t ≤ 200) (hb : bOK tp) (h0 : ¬ VN t n x → Q (-1) M) (h1 : ∀ m, n = nI m → VN t n x → ¬ allL tp m → ∀ M', TT tp 0 M' → Fr SNT M M' → Q (-2) M') (h2 : ∀ m, n = nI m → VN t n x → allL tp m → ∀ M', TT tp 0 M' → Fr SNT M M' → Q (nrV (nrS σ (ltr tp) m (sN σ)) x) M') : m_X6_near n x M Q := by
  have hn := ok.1
  refine s_X6_in (bdc (fun e => ?_) (fun e => h0 fun z => e z.1))
  have e : 1 ≤ n.toInt ∧ n.toInt ≤ 12 := e
  refine s_X6_in (bdc (fun e2 => ?_) (fun e2 => h0 fun z => e2 ⟨z.2.1.1, by have := z.2.1.2; show x.toInt ≤ 2; omega⟩))
  have e2 : 0 ≤ x.toInt ∧ x.toInt ≤ 2 := e2
  obtain ⟨m, hm, rfl, em⟩ := nI_ex (x := n) (by omega)
  rw [hT.2]
  refine pk_le m t (fun e3 => ?_) (fun e3 => h0 fun z => by have := z.2.2; omega) rfl rfl
  have hV : VN t (nI m) x := ⟨e, ⟨e2.1, by omega⟩, by omega⟩
  have h1 := h1 m rfl hV
  have h2 := h2 m rfl hV
  refine s_X6_takesLetters hT.1 hb (by omega) (fun hall M8 hl z8 f8 => ?_) (fun hall M8 z8 f8 => ?_)
  · refine ie1 ?_
    have hl : RowIs M8 m (ltr tp) := hl
    have t8 : TT tp 0 M8 := ⟨fun j => by rw [f8.I (by unfold SRow; omega)]; exact hT.1 j, z8⟩
    have f8 : Fr SNT M M8 := f8.mono fun r k z => Or.inl z
    have h2 := h2 hall
    refine pk_loop (fun k i (s : Int32 × Int32 × Int32 × WM) => m_X6_near_l52 x Q k s.2.1 s.1 s.2.2.1 (nI i) s.2.2.2) (fun i s => s.1 = nrB (nrS σ (ltr tp) m i) (-1) ∧ s.2.1 = nrL (nrS σ (ltr tp) m i) 1000000000 ∧ s.2.2.1 = nrM (nrS σ (ltr tp) m i) ∧ Fr SFT M8 s.2.2.2) (sN σ) 0 (-1, 1000000000, 0, M8) (by omega) ⟨rfl, rfl, rfl, Fr.rf⟩ ?_ ?_
    · intro k ⟨s1, s2, s3, M9⟩ ⟨q1, q2, q3, q4⟩
      have g9 := f8.tr (q4.mono fun r k z => Or.inr z)
      have t9 : TT tp 0 M9 := ⟨fun j => by rw [q4.I (by unfold SFT; omega)]; exact t8.1 j, by rw [q4.I (by unfold SFT; omega)]; exact t8.2⟩
      have h2 := h2 M9 t9 g9
      unfold m_X6_near_l52
      have w9 : WT σ M9 := hW.fr g9 (by unfold SNT SRow SFT PWT; omega)
      dsimp only at q1 q2 q3 ⊢
      rw [w9.1]
      refine ⟨fun _ => ?_, fun z => absurd (Int32.le_refl _) z⟩
      rw [q1, q2, q3]
      cases eo : nrS σ (ltr tp) m (sN σ) with
      | none => rw [eo] at h2; exact ⟨fun _ => h2, fun z => absurd rfl z⟩
      | some o =>
        obtain ⟨l, b, c⟩ := o
        rw [eo] at h2
        have hbd := nrS_b (by omega) (fun v hv => (ok.2.1 v hv).2.1) eo
        refine ⟨fun z => ?_, fun _ => ⟨fun z => ?_, fun z => ⟨fun z1 => ?_, fun z1 => ?_⟩⟩⟩
        · have z : nI b = -1 := z
          rw [i_eq, nI_toInt (by omega), show ((-1 : Int32)).toInt = -1 by decide] at z; omega
        · have h2 : Q (if x = 0 then nI l else if x = 1 then nI b else nI c) M9 := h2
          rw [if_pos z] at h2; exact h2
        · have h2 : Q (if x = 0 then nI l else if x = 1 then nI b else nI c) M9 := h2
          rw [if_neg z, if_pos z1] at h2; exact h2
        · have h2 : Q (if x = 0 then nI l else if x = 1 then nI b else nI c) M9 := h2
          rw [if_neg z, if_neg z1] at h2; exact h2
    · intro k i ⟨s1, s2, s3, M9⟩ hi ⟨q1, q2, q3, q4⟩ ih
      have g9 := f8.tr (q4.mono fun r k z => Or.inr z)
      have w9 : WT σ M9 := hW.fr g9 (by unfold SNT SRow SFT PWT; omega)
      unfold m_X6_near_l52
      dsimp only at q1 q2 q3 q4 ⊢
      rw [w9.1]
      refine ⟨fun z => absurd z (nI_ge hi (by omega)), fun _ => s_X6_isUsed w9 ok hi (bcs (fun e7 => ?_) (fun e7 z ez => ?_))⟩
      · obtain ⟨-, hl8, hg8, -⟩ := ok.2.1 i hi
        refine s_X6_farFromRow (f := ltr tp) (m := m) w9 ok hi ⟨by rw [q4.I (by unfold SFT; omega)]; exact hl.1, fun j hj => by rw [q4.I (by unfold SFT; omega)]; exact hl.2 j hj⟩ (by omega) (fun j hj => lcv_lt (hall j hj)) fun M10 f10 => ?_
        have he := ed_le (ltr tp) (sLet σ i) m (sLen σ i)
        show (s2 ≤ nI (ed (ltr tp) (sLet σ i) m (sLen σ i)) → _) ∧ (¬ s2 ≤ nI (ed (ltr tp) (sLet σ i) m (sLen σ i)) → _)
        have en : ∀ b c l, nrS σ (ltr tp) m i = some (l, b, c) → nrS σ (ltr tp) m (i + 1) = if ed (ltr tp) (sLet σ i) m (sLen σ i) < l then some (ed (ltr tp) (sLet σ i) m (sLen σ i), i, 1) else some (l, b, if ed (ltr tp) (sLet σ i) m (sLen σ i) = l then c + 1 else c) := fun b c l h => by rw [nrS, if_pos e7, h]
        have en0 : nrS σ (ltr tp) m i = none → nrS σ (ltr tp) m (i + 1) = some (ed (ltr tp) (sLet σ i) m (sLen σ i), i, 1) := fun h => by rw [nrS, if_pos e7, h]
        generalize ed (ltr tp) (sLet σ i) m (sLen σ i) = d at he en en0 ⊢
        have fin : ∀ o, nrS σ (ltr tp) m (i + 1) = o → ∀ a b c : Int32, a = nrB o (-1) → b = nrL o 1000000000 → c = nrM o → ∀ y : Int32, y = nI i + 1 → m_X6_near_l52 x Q k b a c y M10 := fun o eo a b c ea eb ec y ey => by
          rw [ey, nI_1]
          exact ih (a, b, c, M10) ⟨by rw [eo]; exact ea, by rw [eo]; exact eb, by rw [eo]; exact ec, q4.tr f10⟩
        cases eo : nrS σ (ltr tp) m i with
        | none =>
          rw [eo] at q1 q2 q3
          have q2 : s2 = nI 1000000000 := q2
          refine pk_le 1000000000 d (fun c => absurd c (by omega)) (fun _ => ?_) q2 rfl
          refine pk_le 1000000000 d (fun c => absurd c (by omega)) (fun _ => ?_) q2 rfl
          unfold m_X6_near_j121
          rw [q2]
          refine s_X6_min (by omega) (by omega) (fin _ (en0 eo) _ _ _ rfl ?_ rfl)
          rw [Nat.min_eq_right (by omega)]; rfl
        | some o =>
          obtain ⟨l, b, c⟩ := o
          have hbd := nrS_b (by omega) (fun v hv => (ok.2.1 v (by omega)).2.1) eo
          rw [eo] at q1 q2 q3
          have q2 : s2 = nI l := q2
          have en := en b c l eo
          subst q2
          refine pk_le l d (fun c1 => ?_) (fun c1 => ?_) rfl rfl
          · rw [if_neg (by omega)] at en
            refine pk_eq d l (fun c2 => ?_) (fun c2 => ?_) rfl rfl
            · refine pk_le l d (fun _ => s_X6_min (by omega) (by omega) ?_) (fun c => absurd c (by omega)) rfl rfl
              rw [if_pos c2] at en
              refine fin _ en _ _ _ q1 ?_ (by rw [q3]; exact nI_1 c)
              rw [Nat.min_eq_left (by omega)]; rfl
            · refine pk_le l d (fun _ => s_X6_min (by omega) (by omega) ?_) (fun c => absurd c (by omega)) rfl rfl
              rw [if_neg c2] at en
              refine fin _ en _ _ _ q1 ?_ q3
              rw [Nat.min_eq_left (by omega)]; rfl
          · rw [if_pos c1] at en
            refine pk_le l d (fun c => absurd c (by omega)) (fun _ => s_X6_min (by omega) (by omega) ?_) rfl rfl
            refine fin _ en _ _ _ rfl ?_ rfl
            rw [Nat.min_eq_right (by omega)]; rfl
      · rw [ez, nI_1]
        exact ih (s1, s2, s3, M9) ⟨by rw [nrS_f e7]; exact q1, by rw [nrS_f e7]; exact q2, by rw [nrS_f e7]; exact q3, q4⟩
  · refine ie0 (h1 hall M8 ⟨fun j => by rw [f8.I (by unfold SRow; omega)]; exact hT.1 j, z8⟩ (f8.mono fun r k z => Or.inl z))
