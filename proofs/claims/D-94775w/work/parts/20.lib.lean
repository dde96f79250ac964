/-! PLAIN LAW, the common rows: booleans as ints, numbers, frames -/
def b2i (b : Bool) : Int32 := if b = true then 1 else 0
theorem b2i_t : b2i true = 1 := rfl
theorem b2i_f : b2i false = 0 := rfl
theorem b2i_0 (b : Bool) : (b2i b = 0) = (b = false) := by cases b <;> decide
theorem b2i_1 (b : Bool) : (b2i b = 1) = (b = true) := by cases b <;> decide
theorem b2i_01 (b : Bool) : b2i b = 0 ∨ b2i b = 1 := by cases b <;> decide
theorem b2i_inj {a b : Bool} : (b2i a = b2i b) = (a = b) := by cases a <;> cases b <;> decide
theorem zb_b2i (b : Bool) : zb (b2i b) = b2i b := by cases b <;> decide
theorem zb_0 : zb 0 = 0 := by decide
theorem zb_1 : zb 1 = 1 := by decide
theorem nl (n : Nat) : (OfNat.ofNat n : Int32) = nI n := rfl
theorem vi_nI {a N : Nat} (ha : a < 2 ^ 31) : vp_in (nI a) N ↔ a < N := by
  constructor
  · intro h; have := lt_in h; rwa [nI_clamp ha] at this
  · intro h; exact fun z => by
      rcases z with z | z
      · exact nI_pos ha z
      · rw [nI_clamp ha] at z; omega
theorem vi_of {x : Int32} {N : Nat} (h0 : 0 ≤ x.toInt) (h1 : x.toInt < N) : vp_in x N := vp_in_iff.mpr ⟨h0, h1⟩
theorem i_lt (x y : Int32) : (x < y) = (x.toInt < y.toInt) := propext Int32.lt_iff_toInt_lt
theorem i_le (x y : Int32) : (x ≤ y) = (x.toInt ≤ y.toInt) := propext Int32.le_iff_toInt_le
theorem i_eq (x y : Int32) : (x = y) = (x.toInt = y.toInt) := propext Int32.toInt_inj.symm
theorem nI_ex {x : Int32} (h : 0 ≤ x.toInt) : ∃ n, n < 2 ^ 31 ∧ x = nI n ∧ x.toInt = n := by
  obtain ⟨n, h1, rfl⟩ := nI_of (x := x) (by rw [i_lt]; show ¬ x.toInt < 0; omega)
  exact ⟨n, h1, rfl, nI_toInt h1⟩
/-! frames: only places of S may have changed -/
def Fr (S : Nat → Nat → Prop) (M M' : WM) : Prop := (wn M' = wn M ∧ (∀ x, wk M' x = wk M x) ∧ (∀ x, wl M' x = wl M x) ∧ ∀ r k, wR M' r k = wR M r k) ∧ (∀ r k, ¬ S r k → wI M' r k = wI M r k) ∧ ∀ r k, ¬ S r k → wJ M' r k = wJ M r k
theorem Fr.rf {S : Nat → Nat → Prop} {M : WM} : Fr S M M := ⟨⟨rfl, fun _ => rfl, fun _ => rfl, fun _ _ => rfl⟩, fun _ _ _ => rfl, fun _ _ _ => rfl⟩
theorem Fr.tr {S : Nat → Nat → Prop} {M M' M'' : WM} (h : Fr S M M') (h2 : Fr S M' M'') : Fr S M M'' := ⟨⟨h2.1.1.trans h.1.1, fun x => (h2.1.2.1 x).trans (h.1.2.1 x), fun x => (h2.1.2.2.1 x).trans (h.1.2.2.1 x), fun r k => (h2.1.2.2.2 r k).trans (h.1.2.2.2 r k)⟩, fun r k hs => (h2.2.1 r k hs).trans (h.2.1 r k hs), fun r k hs => (h2.2.2 r k hs).trans (h.2.2 r k hs)⟩
theorem Fr.mono {S T : Nat → Nat → Prop} {M M' : WM} (h : Fr S M M') (hs : ∀ r k, S r k → T r k) : Fr T M M' := ⟨h.1, fun r k ht => h.2.1 r k (fun z => ht (hs r k z)), fun r k ht => h.2.2 r k (fun z => ht (hs r k z))⟩
theorem Fr.PI {S : Nat → Nat → Prop} {M M' : WM} (h : Fr S M M') {r k : Nat} {v : Int32} (hs : S r k) : Fr S M (wPI M' r k v) := h.tr ⟨⟨rfl, fun _ => rfl, fun _ => rfl, fun _ _ => rfl⟩, fun a b hn => by rw [wI_PI, if_neg (fun z => hn (by rw [z.1, z.2]; exact hs))], fun _ _ _ => rfl⟩
theorem Fr.PJ {S : Nat → Nat → Prop} {M M' : WM} (h : Fr S M M') {r k : Nat} {v : Int64} (hs : S r k) : Fr S M (wPJ M' r k v) := h.tr ⟨⟨rfl, fun _ => rfl, fun _ => rfl, fun _ _ => rfl⟩, fun _ _ _ => rfl, fun a b hn => by rw [wJ_PJ, if_neg (fun z => hn (by rw [z.1, z.2]; exact hs))]⟩
theorem Fr.I {S : Nat → Nat → Prop} {M M' : WM} (h : Fr S M M') {r k : Nat} (hs : ¬ S r k) : wI M' r k = wI M r k := h.2.1 r k hs
theorem Fr.J {S : Nat → Nat → Prop} {M M' : WM} (h : Fr S M M') {r k : Nat} (hs : ¬ S r k) : wJ M' r k = wJ M r k := h.2.2 r k hs
theorem Fr.shp {S : Nat → Nat → Prop} {M M' : WM} (h : Fr S M M') (sh : Shp M) : Shp M' := by
  obtain ⟨⟨h1, h2, h3, h4⟩, -⟩ := h
  refine ⟨by rw [h1]; exact sh.1, fun r kd e => ?_, fun r k x e => by rw [h4]; exact sh.2.2 r k x e⟩
  rw [h2, h3]; exact sh.2.1 r kd e
/-- the places of LetterHeaps, of LetterHeapsModel -/
def SC (r _k : Nat) : Prop := r < 5444 ∨ 5481 ≤ r
def ST (r _k : Nat) : Prop := 5444 ≤ r ∧ r < 5481
theorem wI_s (M : WM) (r k : Nat) (v : Int32) : wI (wPI M r k v) r k = v := by rw [wI_PI, if_pos ⟨rfl, rfl⟩]
theorem wI_n (M : WM) {r k x j : Nat} (v : Int32) (h : ¬ (x = r ∧ j = k)) : wI (wPI M r k v) x j = wI M x j := by rw [wI_PI, if_neg h]
/-! level-0 methods -/
theorem s_X0_in {x n : Int32} {Q : Int32 → Prop} (h : Q (b2i (decide (0 ≤ x.toInt ∧ x.toInt < n.toInt)))) : m_X0_in x n Q := by
  unfold m_X0_in
  simp only [i_lt, i_le]
  refine ⟨fun c => ?_, fun c => ⟨fun c2 => ?_, fun c2 => ?_⟩⟩
  · rw [decide_eq_false (by intro z; have : x.toInt < 0 := c; omega)] at h; exact h
  · rw [decide_eq_false (by omega)] at h; exact h
  · rw [decide_eq_true (by have : ¬ x.toInt < 0 := c; omega)] at h; exact h
theorem s_X0_within {x a b : Int32} {Q : Int32 → Prop} (h : Q (b2i (decide (a.toInt ≤ x.toInt ∧ x.toInt ≤ b.toInt)))) : m_X0_within x a b Q := by
  unfold m_X0_within
  simp only [i_lt]
  refine ⟨fun c => ?_, fun c => ⟨fun c2 => ?_, fun c2 => ?_⟩⟩
  · rw [decide_eq_false (by omega)] at h; exact h
  · rw [decide_eq_false (by omega)] at h; exact h
  · rw [decide_eq_true (by omega)] at h; exact h
theorem s_X6_in {x a b : Int32} {Q : Int32 → Prop} (h : Q (b2i (decide (a.toInt ≤ x.toInt ∧ x.toInt ≤ b.toInt)))) : m_X6_in x a b Q := by
  unfold m_X6_in
  simp only [i_lt]
  refine ⟨fun c => ?_, fun c => ⟨fun c2 => ?_, fun c2 => ?_⟩⟩
  · rw [decide_eq_false (by omega)] at h; exact h
  · rw [decide_eq_false (by omega)] at h; exact h
  · rw [decide_eq_true (by omega)] at h; exact h
theorem ts_nf {x : Bool} (h : ¬ x = false) : x = true := by cases x; exact absurd rfl h; rfl
theorem ts_nt' {x : Bool} (h : ¬ x = true) : x = false := by cases x; rfl; exact absurd rfl h
