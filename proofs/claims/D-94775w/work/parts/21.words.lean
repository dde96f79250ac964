/-! WORDS: their picture on both sides; who is a word, who is used -/
abbrev WS : Type := Nat × (Nat → Nat) × (Nat → Nat → Nat) × (Nat → Nat) × (Nat → Nat) × (Nat → Bool) × Option Nat
def sN (σ : WS) : Nat := σ.1
def sLen (σ : WS) : Nat → Nat := σ.2.1
def sLet (σ : WS) : Nat → Nat → Nat := σ.2.2.1
def sKn (σ : WS) : Nat → Nat := σ.2.2.2.1
def sTg (σ : WS) : Nat → Nat := σ.2.2.2.2.1
def sBar (σ : WS) : Nat → Bool := σ.2.2.2.2.2.1
def sSp (σ : WS) : Option Nat := σ.2.2.2.2.2.2
def spI (o : Option Nat) : Int32 := match o with
  | none => -1
  | some t => nI t
def wsOK (σ : WS) : Prop := sN σ ≤ 40 ∧ (∀ w, w < sN σ → 1 ≤ sLen σ w ∧ sLen σ w ≤ 8 ∧ (∀ k, k < sLen σ w → sLet σ w k < 26) ∧ sKn σ w < 100 ∧ sTg σ w < 16) ∧ ∀ t, sSp σ = some t → t < 4
def WC (σ : WS) (M : WM) : Prop := wI M 0 3 = nI (sN σ) ∧ (∀ w, w < sN σ → wI M (5325 + 3 * w) 1 = nI (sLen σ w) ∧ (∀ k, k < sLen σ w → wI M (5326 + 3 * w) k = nI (sLet σ w k)) ∧ wI M (5324 + 3 * w) 1 = nI (sKn σ w) ∧ wI M (5324 + 3 * w) 2 = nI (sTg σ w) ∧ wI M (5324 + 3 * w) 3 = b2i (sBar σ w)) ∧ wI M 0 4 = spI (sSp σ)
def WT (σ : WS) (M : WM) : Prop := wI M 5444 0 = nI (sN σ) ∧ (∀ w, w < sN σ → wI M 5445 w = nI (sLen σ w) ∧ (∀ k, k < sLen σ w → wI M 5446 (8 * w + k) = nI (sLet σ w k)) ∧ wI M 5447 w = nI (sKn σ w) ∧ wI M 5448 w = nI (sTg σ w) ∧ wI M 5449 w = b2i (sBar σ w)) ∧ wI M 5444 2 = spI (sSp σ)
def used (σ : WS) (w : Nat) : Bool := !(sBar σ w) && (match sSp σ with
  | none => true
  | some t => (sTg σ w).testBit t)
/-- what holds of the words may rest on these places alone -/
def PWC (r k : Nat) : Prop := (r = 0 ∧ (k = 3 ∨ k = 4)) ∨ (5324 ≤ r ∧ r < 5444)
def PWT (r k : Nat) : Prop := (r = 5444 ∧ (k = 0 ∨ k = 2)) ∨ (5445 ≤ r ∧ r ≤ 5449)
theorem WC.fr {σ : WS} {S : Nat → Nat → Prop} {M M' : WM} (h : WC σ M) (ok : wsOK σ) (f : Fr S M M') (hS : ∀ r k, S r k → ¬ PWC r k) : WC σ M' := by
  have hn := ok.1
  obtain ⟨h1, h2, h3⟩ := h
  have key : ∀ r k, PWC r k → wI M' r k = wI M r k := fun r k hp => f.I fun z => hS r k z hp
  refine ⟨by rw [key _ _ (Or.inl ⟨rfl, Or.inl rfl⟩)]; exact h1, fun w hw => ?_, by rw [key _ _ (Or.inl ⟨rfl, Or.inr rfl⟩)]; exact h3⟩
  obtain ⟨a, b, c, d, e⟩ := h2 w hw
  exact ⟨by rw [key _ _ (Or.inr (by omega))]; exact a, fun k hk => by rw [key _ _ (Or.inr (by omega))]; exact b k hk, by rw [key _ _ (Or.inr (by omega))]; exact c, by rw [key _ _ (Or.inr (by omega))]; exact d, by rw [key _ _ (Or.inr (by omega))]; exact e⟩
theorem WT.fr {σ : WS} {S : Nat → Nat → Prop} {M M' : WM} (h : WT σ M) (f : Fr S M M') (hS : ∀ r k, S r k → ¬ PWT r k) : WT σ M' := by
  obtain ⟨h1, h2, h3⟩ := h
  have key : ∀ r k, PWT r k → wI M' r k = wI M r k := fun r k hp => f.I fun z => hS r k z hp
  refine ⟨by rw [key _ _ (Or.inl ⟨rfl, Or.inl rfl⟩)]; exact h1, fun w hw => ?_, by rw [key _ _ (Or.inl ⟨rfl, Or.inr rfl⟩)]; exact h3⟩
  obtain ⟨a, b, c, d, e⟩ := h2 w hw
  exact ⟨by rw [key _ _ (Or.inr (by omega))]; exact a, fun k hk => by rw [key _ _ (Or.inr (by omega))]; exact b k hk, by rw [key _ _ (Or.inr (by omega))]; exact c, by rw [key _ _ (Or.inr (by omega))]; exact d, by rw [key _ _ (Or.inr (by omega))]; exact e⟩
/-! sets of bits -/
def lb (s : Int64) (k : Nat) : Bool := s.toBitVec.getLsbD k
theorem has_bit {s : Int64} {k : Nat} (hk : k < 64) : ((s >>> ((nI k).toInt64 &&& 63)) &&& 1 = 1) = (lb s k = true) := by
  have e1 : ((nI k).toInt64 &&& 63 : Int64) = Int64.ofNat k := by
    have : ∀ k, k < 64 → ((nI k).toInt64 &&& 63 : Int64) = Int64.ofNat k := by decide +kernel
    exact this k hk
  have e2 : ∀ k, k < 64 → (BitVec.smod (Int64.ofNat k).toBitVec 64) = BitVec.ofNat 64 k := by decide +kernel
  rw [e1, ← Int64.toBitVec_inj]
  have e3 : ((s >>> Int64.ofNat k) &&& 1 : Int64).toBitVec = (s.toBitVec.sshiftRight k) &&& 1#64 := by
    rw [Int64.toBitVec_and, Int64.toBitVec_shiftRight]
    have : (Int64.ofNat k).toBitVec.smod 64 = BitVec.ofNat 64 k := e2 k hk
    rw [this]
    show BitVec.sshiftRight' _ _ &&& _ = _
    unfold BitVec.sshiftRight'
    rw [BitVec.toNat_ofNat, Nat.mod_eq_of_lt (by omega)]
    rfl
  rw [e3]
  show (_ = 1#64) = _
  unfold lb
  apply propext
  constructor
  · intro h
    have := congrArg (fun z : BitVec 64 => z.getLsbD 0) h
    simp only [BitVec.getLsbD_and, BitVec.getLsbD_sshiftRight] at this
    simpa [hk] using this
  · intro h
    apply BitVec.eq_of_getLsbD_eq
    intro i hi
    rw [BitVec.getLsbD_and]
    rcases Nat.eq_zero_or_pos i with rfl | hp
    · simp [BitVec.getLsbD_sshiftRight, hk, h]
    · have : (1#64 : BitVec 64).getLsbD i = false := by
        rw [BitVec.getLsbD_one]; simp; omega
      simp [this]
theorem s_X0_has {s : Int64} {k : Nat} {Q : Int32 → Prop} (hk : k < 64) (h : Q (b2i (lb s k))) : m_X0_has s (nI k) Q := by
  unfold m_X0_has
  rw [lg_cmp_eq, has_bit hk]
  refine ⟨fun c => ?_, fun c => ?_⟩
  · rw [c] at h; exact h
  · rw [ts_nt' c] at h; exact h
theorem tg_bit {g t : Nat} (hg : g < 16) (ht : t < 4) : lb (nI g).toInt64 t = g.testBit t := by
  have : ∀ g, g < 16 → ∀ t, t < 4 → lb (nI g).toInt64 t = g.testBit t := by decide +kernel
  exact this g hg t ht
theorem tg_bitT {g t : Nat} (hg : g < 16) (ht : t < 4) : ((nI g >>> (nI t &&& 31)) &&& 1 = 1) = (g.testBit t = true) := by
  have : ∀ g, g < 16 → ∀ t, t < 4 → (((nI g >>> (nI t &&& 31)) &&& 1 = 1) ↔ (g.testBit t = true)) := by decide +kernel
  exact propext (this g hg t ht)
theorem s_X0_isWord {σ : WS} {M : WM} {x : Int32} {Q : Int32 → Prop} (hW : WC σ M) (ok : wsOK σ) (h : Q (b2i (decide (0 ≤ x.toInt ∧ x.toInt < sN σ)))) : m_X0_isWord x M Q := by
  unfold m_X0_isWord
  have hn := ok.1
  refine s_X0_in ⟨b2i_01 _, ?_⟩
  rw [hW.1, nI_toInt (by omega)]
  exact h
theorem s_X6_isWord {σ : WS} {M : WM} {x : Int32} {Q : Int32 → Prop} (hW : WT σ M) (ok : wsOK σ) (h : Q (b2i (decide (0 ≤ x.toInt ∧ x.toInt < sN σ)))) : m_X6_isWord x M Q := by
  unfold m_X6_isWord
  have hn := ok.1
  rw [hW.1]
  simp only [i_lt, i_le, nI_toInt (show sN σ < 2 ^ 31 by omega)]
  refine ⟨fun c => ?_, fun c => ⟨fun c2 => ?_, fun c2 => ?_⟩⟩
  · rw [decide_eq_false (by intro z; have : x.toInt < 0 := c; omega)] at h; exact h
  · rw [decide_eq_false (by omega)] at h; exact h
  · rw [decide_eq_true (by have : ¬ x.toInt < 0 := c; omega)] at h; exact h
theorem s_X0_isUsed {σ : WS} {M : WM} {w : Nat} {Q : Int32 → Prop} (hW : WC σ M) (ok : wsOK σ) (hw : w < sN σ) (h : Q (b2i (used σ w))) : m_X0_isUsed (nI w) M Q := by
  unfold m_X0_isUsed
  have hn := ok.1
  obtain ⟨-, -, -, -, htg⟩ := ok.2.1 w hw
  refine s_X0_isWord hW ok ?_
  rw [nI_toInt (by omega), decide_eq_true (by omega), nI_clamp (by omega)]
  refine ⟨fun c => absurd c (by decide), fun _ => ⟨pk_in w 40 (by omega), ?_⟩⟩
  obtain ⟨-, -, -, e2, e3⟩ := hW.2.1 w hw
  rw [e3, e2, hW.2.2, b2i_0]
  unfold used at h
  refine ⟨fun c => ?_, fun c => ?_⟩
  · rw [c] at h
    cases hs : sSp σ with
    | none =>
      rw [hs] at h
      exact ⟨fun _ => h, fun z => absurd rfl z⟩
    | some t =>
      rw [hs] at h
      have ht := ok.2.2 t hs
      refine ⟨fun z => absurd z ?_, fun _ => ⟨pk_in w 40 (by omega), ?_⟩⟩
      · show ¬ nI t = -1
        rw [i_eq, nI_toInt (by omega)]; intro z; have : (t : Int) = -1 := z; omega
      · show m_X0_has _ (nI t) _
        refine s_X0_has (by omega) ?_
        rw [tg_bit htg ht, b2i_0]
        refine ⟨fun c2 => ?_, fun c2 => ?_⟩
        · have h : Q (b2i (!false && (sTg σ w).testBit t)) := h
          rw [c2] at h; exact h
        · have h : Q (b2i (!false && (sTg σ w).testBit t)) := h
          rw [ts_nf c2] at h; exact h
  · rw [ts_nf c] at h; exact h
theorem s_X6_isUsed {σ : WS} {M : WM} {w : Nat} {Q : Int32 → Prop} (hW : WT σ M) (ok : wsOK σ) (hw : w < sN σ) (h : Q (b2i (used σ w))) : m_X6_isUsed (nI w) M Q := by
  unfold m_X6_isUsed
  have hn := ok.1
  obtain ⟨-, -, -, -, htg⟩ := ok.2.1 w hw
  rw [nI_clamp (show w < 2 ^ 31 by omega)]
  refine ⟨pk_in w 40 (by omega), ?_⟩
  obtain ⟨-, -, -, e2, e3⟩ := hW.2.1 w hw
  rw [e3, e2, hW.2.2, b2i_0]
  unfold used at h
  refine ⟨fun c => ?_, fun c => ?_⟩
  · rw [c] at h
    cases hs : sSp σ with
    | none =>
      rw [hs] at h
      exact ⟨fun _ => h, fun z => absurd rfl z⟩
    | some t =>
      rw [hs] at h
      have ht := ok.2.2 t hs
      refine ⟨fun z => absurd z ?_, fun _ => ⟨pk_in w 40 (by omega), ?_⟩⟩
      · show ¬ nI t = -1
        rw [i_eq, nI_toInt (by omega)]; intro z; have : (t : Int) = -1 := z; omega
      · have h : Q (b2i (!false && (sTg σ w).testBit t)) := h
        show ((nI (sTg σ w) >>> (nI t &&& 31)) &&& 1 = 1 → _) ∧ (¬ (nI (sTg σ w) >>> (nI t &&& 31)) &&& 1 = 1 → _)
        rw [tg_bitT htg ht]
        refine ⟨fun c2 => ?_, fun c2 => ?_⟩
        · rw [c2] at h; exact h
        · rw [ts_nt' c2] at h; exact h
  · rw [ts_nf c] at h; exact h
