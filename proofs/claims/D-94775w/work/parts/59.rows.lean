/-! a new word: rows, their order, the best of them -/
abbrev Rw : Type := Nat × (Nat → Nat)
def rnum (f : Nat → Nat) : Nat → Nat
  | 0 => 0
  | k + 1 => 26 * rnum f k + f k
theorem rnum_cg {f g : Nat → Nat} : ∀ {m : Nat}, (∀ k, k < m → f k = g k) → rnum f m = rnum g m
  | 0, _ => rfl
  | m + 1, h => by rw [rnum, rnum, rnum_cg (f := f) (g := g) fun k hk => h k (by omega), h m (by omega)]
theorem rnum_lt {f g : Nat → Nat} {u : Nat} (h : ∀ k, k < u → f k = g k) (hu : f u < g u) : ∀ (m : Nat), u < m → (∀ k, k < m → f k < 26) → rnum f m < rnum g m
  | 0, hm, _ => absurd hm (by omega)
  | m + 1, hm, hf => by
    rw [rnum, rnum]
    have fm := hf m (by omega)
    by_cases e : u = m
    · subst e
      rw [rnum_cg h]; omega
    · have := rnum_lt h hu m (by omega) (fun k hk => hf k (by omega))
      omega
def lxB (f g : Nat → Nat) (m : Nat) : Bool := decide (lst (df f g) m < m ∧ f (lst (df f g) m) < g (lst (df f g) m))
theorem df_lo {f g : Nat → Nat} {m j : Nat} (h : j < lst (df f g) m) : f j = g j := by
  have := lst_lo (df f g) m j h
  unfold df at this
  exact Classical.not_not.mp (of_decide_eq_false this)
theorem lxB_iff {f g : Nat → Nat} {m : Nat} (hf : ∀ k, k < m → f k < 26) (hg : ∀ k, k < m → g k < 26) : lxB f g m = true ↔ rnum f m < rnum g m := by
  unfold lxB
  have hl := lst_le (df f g) m
  by_cases e : lst (df f g) m < m
  · have hne := df_t.mp (lst_hit (df f g) m e)
    rw [decide_eq_true_iff]
    constructor
    · intro ⟨_, h⟩; exact rnum_lt (fun k hk => df_lo hk) h m e hf
    · intro h
      refine ⟨e, ?_⟩
      rcases Nat.lt_or_ge (f (lst (df f g) m)) (g (lst (df f g) m)) with c | c
      · exact c
      · have := rnum_lt (f := g) (g := f) (u := lst (df f g) m) (fun k hk => (df_lo hk).symm) (by omega) m e hg
        omega
  · rw [decide_eq_false (fun z => e z.1)]
    have := rnum_cg (f := f) (g := g) (m := m) (fun k hk => df_lo (m := m) (by omega))
    exact ⟨fun z => (by cases z), fun z => absurd z (by omega)⟩
theorem rnum_eq {f g : Nat → Nat} {m : Nat} (hf : ∀ k, k < m → f k < 26) (hg : ∀ k, k < m → g k < 26) (h : rnum f m = rnum g m) : ∀ k, k < m → f k = g k := by
  have hl := lst_le (df f g) m
  by_cases e : lst (df f g) m < m
  · have hne := df_t.mp (lst_hit (df f g) m e)
    rcases Nat.lt_or_ge (f (lst (df f g) m)) (g (lst (df f g) m)) with c | c
    · have := rnum_lt (f := f) (g := g) (u := lst (df f g) m) (fun k hk => df_lo hk) c m e hf; omega
    · have := rnum_lt (f := g) (g := f) (u := lst (df f g) m) (fun k hk => (df_lo hk).symm) (by omega) m e hg
      omega
  · intro k hk; exact df_lo (m := m) (by omega)
/-- its heaps as a set, how many they are, how many words are near -/
def jn (σ : WS) (lm : Lam) (r : Rw) : Nat → Int64
  | 0 => 0
  | i + 1 => if (used σ i && nb σ r.1 r.2 i) = true then jn σ lm r i ||| bitL (hpO σ lm i) else jn σ lm r i
def hh (σ : WS) (lm : Lam) (r : Rw) : Nat := cnt (lb (jn σ lm r (sN σ))) (sN σ)
def nn (σ : WS) (r : Rw) : Nat := cnt (fun w => used σ w && nb σ r.1 r.2 w) (sN σ)
theorem jn_lt {σ : WS} {lm : Lam} (ok : wsOK σ) (r : Rw) : ∀ i, i ≤ sN σ → ∀ x, x < 64 → sN σ ≤ x → lb (jn σ lm r i) x = false
  | 0, _, x, _, _ => lb_0 x
  | i + 1, hi, x, hx, hn => by
    have hs := ok.1
    rw [jn]
    have ih := jn_lt (lm := lm) ok r i (by omega) x hx hn
    split
    · rename_i hc
      rw [Bool.and_eq_true] at hc
      have := (hp_ex (lm := lm) (show i < sN σ by omega) hc.1).1
      rw [lb_or, ih, lb_bitL (by omega) hx, decide_eq_false (by omega)]; rfl
    · exact ih
theorem jn_mo {σ : WS} {lm : Lam} (r : Rw) {w : Nat} (h : (used σ w && nb σ r.1 r.2 w) = true) : ∀ i, w < i → lb (jn σ lm r i) (hpO σ lm w) = true ∨ 64 ≤ hpO σ lm w
  | 0, hi => absurd hi (by omega)
  | i + 1, hi => by
    rw [jn]
    by_cases e : w = i
    · rw [← e, if_pos h, lb_or]
      rcases Nat.lt_or_ge (hpO σ lm w) 64 with c | c
      · left; rw [lb_bitL c c, decide_eq_true rfl, Bool.or_true]
      · exact Or.inr c
    · rcases jn_mo (lm := lm) r h i (by omega) with g | g
      · left
        split
        · rw [lb_or, g]; rfl
        · exact g
      · exact Or.inr g
theorem hh_nn {σ : WS} {lm : Lam} (ok : wsOK σ) (r : Rw) : (hh σ lm r = 0 → nn σ r = 0) := fun h => by
  have hs := ok.1
  refine cnt_0.mpr fun w hw => ?_
  cases e : (used σ w && nb σ r.1 r.2 w) with
  | false => rfl
  | true =>
    have e2 := e
    rw [Bool.and_eq_true] at e2
    have hl := (hp_ex (lm := lm) hw e2.1).1
    rcases jn_mo (lm := lm) r e (sN σ) hw with g | g
    · have := cnt_0.mp h _ hl
      rw [g] at this; cases this
    · omega
theorem nn_hh {σ : WS} {lm : Lam} (r : Rw) (h : nn σ r = 0) : jn σ lm r (sN σ) = 0 := by
  have : ∀ i, i ≤ sN σ → jn σ lm r i = 0 := fun i => by
    induction i with
    | zero => intro _; rfl
    | succ i ih =>
      intro hi
      have := cnt_0.mp h i (by omega)
      rw [jn, this]; exact ih (by omega)
  exact this _ (Nat.le_refl _)
theorem hh_le {σ : WS} {lm : Lam} (ok : wsOK σ) (r : Rw) : hh σ lm r ≤ 40 := by have := ok.1; have : hh σ lm r ≤ sN σ := cnt_le _ _; omega
theorem nn_le {σ : WS} (ok : wsOK σ) (r : Rw) : nn σ r ≤ 40 := by have := ok.1; have : nn σ r ≤ sN σ := cnt_le _ _; omega
def isW (σ : WS) (r : Rw) : Prop := ∃ w, w < sN σ ∧ same σ w r.1 r.2
def l26 (r : Rw) : Prop := ∀ k, k < r.1 → r.2 k < 26
def vld (σ : WS) (lm : Lam) (r : Rw) : Prop := (1 ≤ r.1 ∧ r.1 ≤ 8) ∧ ¬ isW σ r ∧ ¬ hh σ lm r = 0
def ahd (r s : Rw) : Prop := r.1 < s.1 ∨ (r.1 = s.1 ∧ rnum r.2 r.1 < rnum s.2 s.1)
def btr (σ : WS) (lm : Lam) (r s : Rw) : Prop := hh σ lm s < hh σ lm r ∨ (hh σ lm r = hh σ lm s ∧ (nn σ s < nn σ r ∨ (nn σ r = nn σ s ∧ ahd r s)))
theorem btr_tr {σ : WS} {lm : Lam} {a b c : Rw} (h : btr σ lm a b) (g : btr σ lm b c) : btr σ lm a c := by
  unfold btr ahd at *
  omega
def Bst (σ : WS) (lm : Lam) (P : Rw → Prop) (s : Option Rw) : Prop := match s with
  | none => ∀ r, P r → ¬ vld σ lm r
  | some r => P r ∧ vld σ lm r ∧ l26 r ∧ ∀ r', P r' → vld σ lm r' → ¬ btr σ lm r' r
theorem Bst.cg {σ : WS} {lm : Lam} {P P' : Rw → Prop} {s : Option Rw} (h : Bst σ lm P s) (e : ∀ r, P r ↔ P' r) : Bst σ lm P' s := by
  have : P = P' := funext fun r => propext (e r)
  rw [← this]; exact h
/-- one more row is tried -/
def Tr1 (σ : WS) (lm : Lam) (r : Rw) (s s' : Option Rw) : Prop := (vld σ lm r ∧ (∀ r0, s = some r0 → btr σ lm r r0) ∧ s' = some r) ∨ ((¬ vld σ lm r ∨ ∃ r0, s = some r0 ∧ ¬ btr σ lm r r0) ∧ s' = s)
theorem Bst.add {σ : WS} {lm : Lam} {P : Rw → Prop} {s s' : Option Rw} {r : Rw} (h : Bst σ lm P s) (hr : l26 r) (t : Tr1 σ lm r s s') : Bst σ lm (fun q => P q ∨ q = r) s' := by
  rcases t with ⟨v, b, rfl⟩ | ⟨n, rfl⟩
  · refine ⟨Or.inr rfl, v, hr, fun r' hr' v' z => ?_⟩
    have irr : ¬ btr σ lm r r := by unfold btr ahd; omega
    rcases hr' with hr' | rfl
    · cases s with
      | none => exact h r' hr' v'
      | some r0 => exact h.2.2.2 r' hr' v' (btr_tr z (b r0 rfl))
    · exact irr z
  · cases s' with
    | none =>
      intro q hq v
      rcases hq with hq | rfl
      · exact h q hq v
      · rcases n with n | ⟨r0, e, _⟩
        · exact n v
        · cases e
    | some r0 =>
      obtain ⟨h1, h2, h3, h4⟩ := h
      refine ⟨Or.inl h1, h2, h3, fun r' hr' v' z => ?_⟩
      rcases hr' with hr' | rfl
      · exact h4 r' hr' v' z
      · rcases n with n | ⟨r1, e, g⟩
        · exact n v'
        · cases e; exact g z
theorem Bst.uq {σ : WS} {lm : Lam} {P : Rw → Prop} {s t : Option Rw} (h : Bst σ lm P s) (g : Bst σ lm P t) : (s = none ∧ t = none) ∨ ∃ r q, s = some r ∧ t = some q ∧ hh σ lm r = hh σ lm q ∧ nn σ r = nn σ q ∧ r.1 = q.1 ∧ ∀ k, k < r.1 → r.2 k = q.2 k := by
  cases s with
  | none =>
    cases t with
    | none => exact Or.inl ⟨rfl, rfl⟩
    | some q => exact absurd g.2.1 (h q g.1)
  | some r =>
    cases t with
    | none => exact absurd h.2.1 (g r h.1)
    | some q =>
      obtain ⟨h1, h2, h3, h4⟩ := h
      obtain ⟨g1, g2, g3, g4⟩ := g
      have k1 := h4 q g1 g2
      have k2 := g4 r h1 h2
      have e : hh σ lm r = hh σ lm q ∧ nn σ r = nn σ q ∧ r.1 = q.1 ∧ rnum r.2 r.1 = rnum q.2 q.1 := by unfold btr ahd at k1 k2; omega
      obtain ⟨e1, e2, e3, e4⟩ := e
      refine Or.inr ⟨r, q, rfl, rfl, e1, e2, e3, rnum_eq h3 (fun k hk => g3 k (by omega)) ?_⟩
      rw [e4, e3]
/-- the rows that are made of a word -/
def putF (σ : WS) (w k c : Nat) : Rw := (sLen σ w + 1, fun j => if j = k then c else if j < k then sLet σ w j else sLet σ w (j - 1))
def repF (σ : WS) (w k c : Nat) : Rw := (sLen σ w, fun j => if j = k then c else sLet σ w j)
def remF (σ : WS) (w k : Nat) : Rw := (sLen σ w - 1, fun j => sLet σ w (if j < k then j else j + 1))
def swF (σ : WS) (w k : Nat) : Rw := (sLen σ w, fun j => if j = k + 1 then sLet σ w k else if j = k then sLet σ w (k + 1) else sLet σ w j)
theorem putF_l {σ : WS} (ok : wsOK σ) {w k c : Nat} (hw : w < sN σ) (hc : c < 26) (hk : k ≤ sLen σ w) : l26 (putF σ w k c) := fun j hj => by
  have h := (ok.2.1 w hw).2.2.1
  have hj : j < sLen σ w + 1 := hj
  show (if j = k then c else if j < k then sLet σ w j else sLet σ w (j - 1)) < 26
  split
  · exact hc
  · split
    · exact h j (by omega)
    · exact h (j - 1) (by omega)
theorem repF_l {σ : WS} (ok : wsOK σ) {w k c : Nat} (hw : w < sN σ) (hc : c < 26) : l26 (repF σ w k c) := fun j hj => by
  have h := (ok.2.1 w hw).2.2.1
  show (if j = k then c else sLet σ w j) < 26
  split
  · exact hc
  · exact h j hj
theorem remF_l {σ : WS} (ok : wsOK σ) {w k : Nat} (hw : w < sN σ) : l26 (remF σ w k) := fun j hj => by
  have h := (ok.2.1 w hw).2.2.1
  have hj : j < sLen σ w - 1 := hj
  show sLet σ w (if j < k then j else j + 1) < 26
  exact h _ (by split <;> omega)
theorem swF_l {σ : WS} (ok : wsOK σ) {w k : Nat} (hw : w < sN σ) (hk : k + 1 < sLen σ w) : l26 (swF σ w k) := fun j hj => by
  have h := (ok.2.1 w hw).2.2.1
  show (if j = k + 1 then sLet σ w k else if j = k then sLet σ w (k + 1) else sLet σ w j) < 26
  split
  · exact h k (by omega)
  · split
    · exact h (k + 1) hk
    · exact h j hj
/-- all rows that are made of words up to i -/
def mdW (σ : WS) (w : Nat) (r : Rw) : Prop := ∃ k, k ≤ sLen σ w ∧ ((∃ c, c < 26 ∧ r = putF σ w k c) ∨ (k < sLen σ w ∧ ∃ c, c < 26 ∧ r = repF σ w k c) ∨ (k < sLen σ w ∧ r = remF σ w k) ∨ (k + 1 < sLen σ w ∧ r = swF σ w k))
def mdA (σ : WS) (i : Nat) (r : Rw) : Prop := ∃ w, w < i ∧ used σ w = true ∧ mdW σ w r
theorem ex_s {P : Nat → Prop} {i : Nat} : (∃ c, c < i + 1 ∧ P c) ↔ ((∃ c, c < i ∧ P c) ∨ P i) := by
  constructor
  · intro ⟨c, h1, h2⟩
    by_cases e : c = i
    · rw [e] at h2; exact Or.inr h2
    · exact Or.inl ⟨c, by omega, h2⟩
  · intro h
    rcases h with ⟨c, h1, h2⟩ | h
    · exact ⟨c, by omega, h2⟩
    · exact ⟨i, by omega, h⟩
theorem ex_0 {P : Nat → Prop} : ¬ ∃ c, c < 0 ∧ P c := fun ⟨c, h, _⟩ => absurd h (by omega)
