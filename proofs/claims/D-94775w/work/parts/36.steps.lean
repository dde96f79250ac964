/-! steps: the law as one function of nine facts -/
abbrev Lam : Type := (Nat → Int32) → Option Nat
def lamOK (lm : Lam) : Prop := ∀ F c, lm F = some c → 1 ≤ c ∧ c ≤ 99
def fct (σ : WS) (a b kind i : Nat) : Nat → Int32
  | 0 => nI kind
  | 1 => nI i
  | 2 => if kind = 1 then 26 else nI (sLet σ a i)
  | 3 => if kind = 2 then 26 else if kind = 3 then nI (sLet σ a (i + 1)) else nI (sLet σ b i)
  | 4 => nI (sLen σ a)
  | 5 => nI (sKn σ a)
  | 6 => nI (sKn σ b)
  | 7 => nI a
  | _ => nI b
theorem fct_2 (σ : WS) (a b kind i : Nat) : fct σ a b kind i 2 = if kind = 1 then 26 else nI (sLet σ a i) := rfl
theorem fct_3 (σ : WS) (a b kind i : Nat) : fct σ a b kind i 3 = if kind = 2 then 26 else if kind = 3 then nI (sLet σ a (i + 1)) else nI (sLet σ b i) := rfl
def LR (r : Nat) : Prop := (3 ≤ r ∧ r ≤ 6) ∨ 5481 ≤ r
def sameLaw (M M' : WM) : Prop := wn M ≤ wn M' ∧ wR M' 0 2 = wR M 0 2 ∧ ∀ x, x < wn M → LR x → wk M' x = wk M x ∧ wl M' x = wl M x ∧ (∀ k, wR M' x k = wR M x k) ∧ ∀ k, wI M' x k = wI M x k
theorem sameLaw.rf {M : WM} : sameLaw M M := ⟨Nat.le_refl _, rfl, fun _ _ _ => ⟨rfl, rfl, fun _ => rfl, fun _ => rfl⟩⟩
theorem sameLaw.tr {M M' M'' : WM} (h : sameLaw M M') (g : sameLaw M' M'') : sameLaw M M'' := ⟨Nat.le_trans h.1 g.1, g.2.1.trans h.2.1, fun x hx hr => by
  obtain ⟨a, b, c, d⟩ := h.2.2 x hx hr
  obtain ⟨a', b', c', d'⟩ := g.2.2 x (Nat.lt_of_lt_of_le hx h.1) hr
  exact ⟨a'.trans a, b'.trans b, fun k => (c' k).trans (c k), fun k => (d' k).trans (d k)⟩⟩
theorem Fr.law {S : Nat → Nat → Prop} {M M' : WM} (h : Fr S M M') (hS : ∀ r k, S r k → ¬ LR r) : sameLaw M M' := ⟨by rw [h.1.1]; exact Nat.le_refl _, h.1.2.2.2 0 2, fun x _ hr => ⟨h.1.2.1 x, h.1.2.2.1 x, h.1.2.2.2 x, fun k => h.I fun z => hS _ _ z hr⟩⟩
def Feels (F : Nat → Int32) (M : WM) : Prop := wI M 174 3 = F 0 ∧ wI M 174 4 = F 1 ∧ wI M 174 5 = F 2 ∧ wI M 174 6 = F 3 ∧ wI M 174 7 = F 4 ∧ (vp_in (wI M 174 1) 40 ∧ wI M (5324 + 3 * (wI M 174 1).toNatClampNeg) 1 = F 5) ∧ (vp_in (wI M 174 2) 40 ∧ wI M (5324 + 3 * (wI M 174 2).toNatClampNeg) 1 = F 6) ∧ wI M 174 1 = F 7 ∧ wI M 174 2 = F 8
def S174 (r k : Nat) : Prop := r = 174 ∧ k = 0
def LawC (lm : Lam) (M : WM) : Prop := ∀ M', sameLaw M M' → ∀ F, Feels F M' → (∀ Q : Int32 → WM → Prop, (∀ M'', Fr S174 M' M'' → Q (b2i (lm F).isSome) M'') → m_X4_may M' Q) ∧ ∀ (Q : Int32 → WM → Prop) c, lm F = some c → (∀ M'', Fr S174 M' M'' → Q (nI c) M'') → m_X4_costs M' Q
theorem LawC.mv {lm : Lam} {M M' : WM} (h : LawC lm M) (s : sameLaw M M') : LawC lm M' := fun M2 s2 => h M2 (s.tr s2)
def sameLT (M M' : WM) : Prop := wI M' 5444 20 = wI M 5444 20 ∧ ∀ r k, 5458 ≤ r ∧ r ≤ 5462 → wI M' r k = wI M r k
theorem sameLT.tr {M M' M'' : WM} (h : sameLT M M') (g : sameLT M' M'') : sameLT M M'' := ⟨g.1.trans h.1, fun r k hr => (g.2 r k hr).trans (h.2 r k hr)⟩
theorem Fr.lt {S : Nat → Nat → Prop} {M M' : WM} (h : Fr S M M') (hS : ∀ r k, S r k → ¬ ((r = 5444 ∧ k = 20) ∨ (5458 ≤ r ∧ r ≤ 5462))) : sameLT M M' := ⟨h.I fun z => hS _ _ z (Or.inl ⟨rfl, rfl⟩), fun r k hr => h.I fun z => hS _ _ z (Or.inr hr)⟩
def lamI (o : Option Nat) : Int32 := match o with
  | none => 1000000000
  | some c => nI c
def LawT (lm : Lam) (M : WM) : Prop := ∀ M', sameLT M M' → ∀ F, (∀ k, k < 9 → wI M' 5464 k = F k) → ∀ Q : Int32 → WM → Prop, (∀ M'', Fr (fun r _ => r = 5463) M' M'' → Q (lamI (lm F)) M'') → m_X6_costOf M' Q
theorem LawT.mv {lm : Lam} {M M' : WM} (h : LawT lm M) (s : sameLT M M') : LawT lm M' := fun M2 s2 => h M2 (s.tr s2)
/-! the change that is felt -/
def S174a (r k : Nat) : Prop := r = 174 ∧ 1 ≤ k
theorem s_X4_of {σ : WS} {M : WM} {a b kind i : Nat} {Q : WM → Prop} (hW : WC σ M) (ok : wsOK σ) (ha : a < sN σ) (hb : b < sN σ) (hi : i < 12) (hk : kind < 4) (h1 : kind ≠ 1 → i < sLen σ a) (h3 : kind = 3 → i + 1 < sLen σ a) (h0 : kind = 0 ∨ kind = 1 → i < sLen σ b) (h : ∀ M', Feels (fct σ a b kind i) M' → Fr S174a M M' → Q M') : m_X4_of (nI a) (nI b) (nI kind) (nI i) M Q := by
  have hs := ok.1
  refine ⟨vin (by omega), vin (by omega), fun M3 e3 M4 e4 M5 e5 M6 e6 M7 e7 => ?_⟩
  have f7 : Fr S174a M M7 := by
    rw [e7, e6, e5, e4, e3]
    exact ((((Fr.rf.PI ⟨rfl, by omega⟩).PI ⟨rfl, by omega⟩).PI ⟨rfl, by omega⟩).PI ⟨rfl, by omega⟩).PI ⟨rfl, by omega⟩
  have f6 : Fr S174a M M6 := by
    rw [e6, e5, e4, e3]
    exact (((Fr.rf.PI ⟨rfl, by omega⟩).PI ⟨rfl, by omega⟩).PI ⟨rfl, by omega⟩).PI ⟨rfl, by omega⟩
  rw [nI_clamp (by omega), ((hW.fr ok f6 (by unfold S174a PWC; omega)).line ha).1] at e7
  have w7 : WC σ M7 := hW.fr ok f7 (by unfold S174a PWC; omega)
  rw [nI_clamp (show a < 2 ^ 31 by omega), nI_clamp (show b < 2 ^ 31 by omega)]
  have p1 : wI M7 174 1 = nI a := by rw [e7, wI_n _ _ (by omega), e6, wI_n _ _ (by omega), e5, wI_n _ _ (by omega), e4, wI_n _ _ (by omega), e3, wI_s]
  have p2 : wI M7 174 2 = nI b := by rw [e7, wI_n _ _ (by omega), e6, wI_n _ _ (by omega), e5, wI_n _ _ (by omega), e4, wI_s]
  have p3 : wI M7 174 3 = nI kind := by rw [e7, wI_n _ _ (by omega), e6, wI_n _ _ (by omega), e5, wI_s]
  have p4 : wI M7 174 4 = nI i := by rw [e7, wI_n _ _ (by omega), e6, wI_s]
  have p7 : wI M7 174 7 = nI (sLen σ a) := by rw [e7, wI_s]
  have fin : ∀ M1 z, M1 = wPI M7 174 5 (fct σ a b kind i 2) → z = fct σ a b kind i 3 → ∀ M8, M8 = wPI M1 174 6 z → Q M8 := fun M1 z e1 ez M8 e8 => by
    have f8 : Fr S174a M M8 := by rw [e8, e1]; exact (f7.PI ⟨rfl, by omega⟩).PI ⟨rfl, by omega⟩
    have w8 : WC σ M8 := hW.fr ok f8 (by unfold S174a PWC; omega)
    have g : ∀ k, k ≠ 5 → k ≠ 6 → wI M8 174 k = wI M7 174 k := fun k h5 h6 => by rw [e8, wI_n _ _ (by omega), e1, wI_n _ _ (by omega)]
    have g1 := (g 1 (by omega) (by omega)).trans p1
    have g2 := (g 2 (by omega) (by omega)).trans p2
    refine h M8 ⟨(g 3 (by omega) (by omega)).trans p3, (g 4 (by omega) (by omega)).trans p4, by rw [e8, wI_n _ _ (by omega), e1, wI_s], by rw [e8, wI_s, ez], (g 7 (by omega) (by omega)).trans p7, ⟨?_, ?_⟩, ⟨?_, ?_⟩, g1, g2⟩ f8
    · rw [g1]; exact vin (by omega)
    · rw [g1, nI_clamp (by omega)]; exact (w8.2.1 a ha).2.2.1
    · rw [g2]; exact vin (by omega)
    · rw [g2, nI_clamp (by omega)]; exact (w8.2.1 b hb).2.2.1
  have j77 : ∀ y, y = fct σ a b kind i 2 → m_X4_of_j77 (nI kind) (nI i) (5325 + 3 * a) (5325 + 3 * b) y Q M7 := fun y ey M1 e1 => by
    rw [ey] at e1
    have w1 : WC σ M1 := w7.fr ok (S := S174a) (by rw [e1]; exact Fr.rf.PI ⟨rfl, by omega⟩) (by unfold S174a PWC; omega)
    refine pk_eq kind 2 (fun c M8 e8 => fin M1 _ e1 ?_ M8 e8) (fun c => pk_eq kind 3 (fun c3 => ⟨?_, fun M8 e8 => fin M1 _ e1 ?_ M8 e8⟩) (fun c3 => ⟨vin (by omega), fun M8 e8 => fin M1 _ e1 ?_ M8 e8⟩) rfl rfl) rfl rfl
    · rw [fct_3, if_pos c]
    · rw [nI_1]; exact vin (by omega)
    · have := h3 c3
      rw [fct_3, if_neg c, if_pos c3, nI_1, nI_clamp (by omega), s_X0_letter_in w1 ha (by omega)]
    · rw [fct_3, if_neg c, if_neg c3, nI_clamp (by omega), s_X0_letter_in w1 hb (h0 (by omega))]
  refine pk_eq kind 1 (fun c => j77 _ ?_) (fun c => ⟨vin (by omega), j77 _ ?_⟩) rfl rfl
  · rw [fct_2, if_pos c]
  · rw [fct_2, if_neg c, nI_clamp (by omega), s_X0_letter_in w7 ha (h1 c)]
abbrev Stt : Type := Option (Nat × Nat × Nat)
def tr (lm : Lam) (F : Nat → Int32) (kind i : Nat) (s : Stt) : Stt := match lm F with
  | none => s
  | some c => match s with
    | none => some (c, kind, i)
    | some (c0, k0, i0) => if c < c0 then some (c, kind, i) else some (c0, k0, i0)
def stc (z : Int32) (s : Stt) : Int32 := match s with
  | none => z
  | some (c, _, _) => nI c
def StC (s : Stt) (a b : Nat) (M : WM) : Prop := wI M (10 + a) b = stc 268435456 s ∧ (∀ c k i, s = some (c, k, i) → c < 100 ∧ wI M (51 + a) b = nI k ∧ wI M (92 + a) b = nI i)
def STR (a b r k : Nat) : Prop := r = 174 ∨ ((r = 10 + a ∨ r = 51 + a ∨ r = 92 + a) ∧ k = b)
theorem s_X0_tries {σ : WS} {lm : Lam} {M : WM} {a b kind i : Nat} {s : Stt} {Q : WM → Prop} (hW : WC σ M) (ok : wsOK σ) (hl : LawC lm M) (lo : lamOK lm) (ha : a < sN σ) (hb : b < sN σ) (hi : i < 12) (hk : kind < 4) (h1 : kind ≠ 1 → i < sLen σ a) (h3 : kind = 3 → i + 1 < sLen σ a) (h0 : kind = 0 ∨ kind = 1 → i < sLen σ b) (hS : StC s a b M) (h : ∀ M', StC (tr lm (fct σ a b kind i) kind i s) a b M' → Fr (STR a b) M M' → Q M') : m_X0_tries (nI a) (nI b) (nI kind) (nI i) M Q := by
  have hs := ok.1
  have kp : ∀ {S : Nat → Nat → Prop} {M1 M2 : WM} {s}, StC s a b M1 → Fr S M1 M2 → (∀ r k, S r k → r = 174) → StC s a b M2 := fun g f hr => ⟨by rw [f.I fun z => by have := hr _ _ z; omega]; exact g.1, fun c k i e => by
    obtain ⟨x, y, z⟩ := g.2 c k i e
    exact ⟨x, by rw [f.I fun z => by have := hr _ _ z; omega]; exact y, by rw [f.I fun z => by have := hr _ _ z; omega]; exact z⟩⟩
  refine s_X4_of hW ok ha hb hi hk h1 h3 h0 fun M2 hF f2 => ?_
  have fe : ∀ M4, Fr S174 M2 M4 → Feels (fct σ a b kind i) M4 := fun M4 f4 => by
    obtain ⟨g0, g1, g2, g3, g4, g5, g6, g7, g8⟩ := hF
    have n : ∀ k, 1 ≤ k → wI M4 174 k = wI M2 174 k := fun k hk => f4.I (by unfold S174; omega)
    refine ⟨(n 3 (by omega)).trans g0, (n 4 (by omega)).trans g1, (n 5 (by omega)).trans g2, (n 6 (by omega)).trans g3, (n 7 (by omega)).trans g4, ?_, ?_, (n 1 (by omega)).trans g7, (n 2 (by omega)).trans g8⟩
    · rw [n 1 (by omega)]; exact ⟨g5.1, by rw [f4.I (by unfold S174; omega)]; exact g5.2⟩
    · rw [n 2 (by omega)]; exact ⟨g6.1, by rw [f4.I (by unfold S174; omega)]; exact g6.2⟩
  have nl : ∀ r k, S174 r k → ¬ LR r := by unfold S174 LR; omega
  have l2 : sameLaw M M2 := f2.law (by unfold S174a LR; omega)
  refine (hl M2 l2 _ hF).1 _ fun M4 f4 => ?_
  have F2 : Fr (STR a b) M M2 := f2.mono fun r k q => Or.inl q.1
  have F4 : Fr (STR a b) M M4 := F2.tr (f4.mono fun r k q => Or.inl q.1)
  have S4 : StC s a b M4 := kp (kp hS f2 fun r k q => q.1) f4 fun r k q => q.1
  cases el : lm (fct σ a b kind i) with
  | none =>
    refine ie0 (h M4 ?_ F4)
    unfold tr; rw [el]; exact S4
  | some c =>
    obtain ⟨c1, c2⟩ := lo _ _ el
    refine ie1 ((hl M4 (l2.tr (f4.law nl)) _ (fe M4 f4)).2 _ c el fun M7 f7 => ?_)
    have S7 : StC s a b M7 := kp S4 f7 fun r k q => q.1
    have F7 : Fr (STR a b) M M7 := F4.tr (f7.mono fun r k q => Or.inl q.1)
    have f47 : Fr S174 M2 M7 := f4.tr f7
    rw [nI_clamp (show a < 2 ^ 31 by omega), nI_clamp (show b < 2 ^ 31 by omega)]
    refine ⟨vin (by omega), vin (by omega), ?_⟩
    rw [S7.1]
    have put : tr lm (fct σ a b kind i) kind i s = some (c, kind, i) → (vp_in (nI a) 40 ∧ m_X4_costs M7 (fun (a12 : Int32) (M13 : WM) => (vp_in (nI b) 40 ∧ (∀ M15 : WM, M15 = wPI M13 (10 + a) b a12 → (vp_in (nI a) 40 ∧ (vp_in (nI b) 40 ∧ (∀ M18 : WM, M18 = wPI M15 (51 + a) b (nI kind) → (vp_in (nI a) 40 ∧ (vp_in (nI b) 40 ∧ (∀ M21 : WM, M21 = wPI M18 (92 + a) b (nI i) → Q M21)))))))))) := fun et => by
      refine ⟨vin (by omega), (hl M7 (l2.tr (f47.law nl)) _ (fe M7 f47)).2 _ c el fun M13 f13 => ⟨vin (by omega), fun M15 e15 => ⟨vin (by omega), vin (by omega), fun M18 e18 => ⟨vin (by omega), vin (by omega), fun M21 e21 => ?_⟩⟩⟩⟩
      have F13 : Fr (STR a b) M M13 := F7.tr (f13.mono fun r k q => Or.inl q.1)
      refine h M21 ?_ (by rw [e21, e18, e15]; exact ((F13.PI (Or.inr ⟨Or.inl rfl, rfl⟩)).PI (Or.inr ⟨Or.inr (Or.inl rfl), rfl⟩)).PI (Or.inr ⟨Or.inr (Or.inr rfl), rfl⟩))
      rw [et]
      refine ⟨by rw [e21, wI_n _ _ (by omega), e18, wI_n _ _ (by omega), e15, wI_s]; rfl, fun c' k' i' e => ?_⟩
      cases e
      exact ⟨by omega, by rw [e21, wI_n _ _ (by omega), e18, wI_s], by rw [e21, wI_s]⟩
    cases es : s with
    | none =>
      refine ⟨fun _ => put (by unfold tr; rw [el, es]), fun z => absurd (nI_lt (a := c) (b := 268435456) (by omega) (by omega)) z⟩
    | some q =>
      obtain ⟨c0, k0, i0⟩ := q
      have := (S7.2 c0 k0 i0 es).1
      have et : tr lm (fct σ a b kind i) kind i s = if c < c0 then some (c, kind, i) else some (c0, k0, i0) := by unfold tr; rw [el, es]
      refine pk_lt c c0 (fun q => put (by rw [et, if_pos q])) (fun q => h M7 ?_ F7) rfl rfl
      rw [et, if_neg (by omega), ← es]; exact S7
