/-! a row of told words, pure -/
def mnO (p : Nat → Option Nat) : Nat → Option Nat
  | 0 => none
  | n + 1 => omin (mnO p n) (p n)
theorem mnO_at {p : Nat → Option Nat} : ∀ {n x : Nat}, mnO p n = some x → ∃ i, i < n ∧ p i = some x
  | 0, _, h => by cases h
  | n + 1, x, h => by
    rcases omin_of h with g | g
    · obtain ⟨i, h1, h2⟩ := mnO_at g
      exact ⟨i, by omega, h2⟩
    · exact ⟨n, by omega, g⟩
theorem mnO_lo {p : Nat → Option Nat} : ∀ {n i x : Nat}, i < n → p i = some x → ∃ y, mnO p n = some y ∧ y ≤ x
  | 0, _, _, h, _ => absurd h (by omega)
  | n + 1, i, x, h, g => by
    refine omin_le ?_
    by_cases e : i = n
    · rw [e] at g; exact Or.inr ⟨x, g, Nat.le_refl _⟩
    · exact Or.inl (mnO_lo (by omega) g)
theorem mnO_eq {p q : Nat → Option Nat} {n : Nat} (h1 : ∀ i, i < n → ∃ j, j < n ∧ p i = q j) (h2 : ∀ j, j < n → ∃ i, i < n ∧ p i = q j) : mnO p n = mnO q n := by
  cases e : mnO p n with
  | none =>
    cases e2 : mnO q n with
    | none => rfl
    | some y =>
      obtain ⟨j, hj, g⟩ := mnO_at e2
      obtain ⟨i, hi, g2⟩ := h2 j hj
      obtain ⟨z, k1, _⟩ := mnO_lo hi (g2.trans g)
      rw [e] at k1; cases k1
  | some x =>
    obtain ⟨i, hi, g⟩ := mnO_at e
    obtain ⟨j, hj, g2⟩ := h1 i hi
    obtain ⟨y, k1, k2⟩ := mnO_lo hj (g2.symm.trans g)
    obtain ⟨j', hj', g'⟩ := mnO_at k1
    obtain ⟨i', hi', g2'⟩ := h2 j' hj'
    obtain ⟨z, k3, k4⟩ := mnO_lo hi' (g2'.trans g')
    rw [e] at k3; cases k3
    rw [k1]; congr 1; omega
theorem mnO_cg {p q : Nat → Option Nat} : ∀ {n : Nat}, (∀ k, k < n → p k = q k) → mnO p n = mnO q n
  | 0, _ => rfl
  | n + 1, h => by rw [mnO, mnO, mnO_cg (p := p) (q := q) fun k hk => h k (by omega), h n (by omega)]
def ecR (σ : WS) (lm : Lam) (g : Nat → Nat) (l : Option Nat) (k : Nat) : Option Nat := match l with
  | none => some 0
  | some i => cst σ lm (g i) (g k)
def rR (σ : WS) (lm : Lam) (g : Nat → Nat) (n : Nat) : Nat → Nat → Option Nat → Option Nat
  | 0, _, _ => some 0
  | f + 1, S, l => mnO (fun k => if S.testBit k = true then none else oadd (ecR σ lm g l k) (rR σ lm g n f (S ||| 2 ^ k) (some k))) n
def lft (n S : Nat) : Nat := cnt (fun k => !(S.testBit k)) n
def Dr (σ : WS) (lm : Lam) (g : Nat → Nat) (n S : Nat) (l : Option Nat) : Option Nat := rR σ lm g n (lft n S) S l
def byR (σ : WS) (lm : Lam) (g : Nat → Nat) (n S : Nat) (l : Option Nat) (k : Nat) : Option Nat := if S.testBit k = true then none else oadd (ecR σ lm g l k) (Dr σ lm g n (S ||| 2 ^ k) (some k))
theorem lft_s {n S k : Nat} (hk : k < n) (h : S.testBit k = false) : lft n S = lft n (S ||| 2 ^ k) + 1 := by
  unfold lft
  rw [cnt_del (p := fun j => !(S.testBit j)) (u := k) (by show (!(S.testBit k)) = true; rw [h]; rfl) hk, Nat.add_comm]
  congr 1
  refine cnt_cg fun j _ => ?_
  unfold dlt
  show ((!(S.testBit j)) && decide (¬ j = k)) = !((S ||| 2 ^ k).testBit j)
  rw [Nat.testBit_or, Nat.testBit_two_pow]
  by_cases e : j = k
  · rw [decide_eq_false (fun z => z e), decide_eq_true e.symm]; simp
  · rw [decide_eq_true e, decide_eq_false (fun z => e z.symm)]; simp
theorem Dr_eq {σ : WS} {lm : Lam} {g : Nat → Nat} {n S : Nat} (l : Option Nat) (h : ¬ lft n S = 0) : Dr σ lm g n S l = mnO (byR σ lm g n S l) n := by
  obtain ⟨f, hf⟩ : ∃ f, lft n S = f + 1 := ⟨lft n S - 1, by omega⟩
  unfold Dr
  rw [hf, rR]
  refine mnO_cg fun k hk => ?_
  unfold byR
  cases e : S.testBit k with
  | true => rfl
  | false =>
    have := lft_s hk e
    unfold Dr
    rw [show lft n (S ||| 2 ^ k) = f by omega]
theorem Dr_0 {σ : WS} {lm : Lam} {g : Nat → Nat} {n S : Nat} (l : Option Nat) (h : lft n S = 0) : Dr σ lm g n S l = some 0 := by unfold Dr; rw [h]; rfl
theorem rR_b {σ : WS} {lm : Lam} (lo : lamOK lm) {g : Nat → Nat} {n : Nat} : ∀ {f S : Nat} {l : Option Nat} {x : Nat}, rR σ lm g n f S l = some x → x ≤ 99 * f
  | 0, _, _, _, h => by cases h; omega
  | f + 1, S, l, x, h => by
    obtain ⟨k, hk, e⟩ := mnO_at h
    split at e
    · cases e
    · obtain ⟨x1, x2, e1, e2, e3⟩ := oadd_of e
      have b2 := rR_b lo e2
      have b1 : x1 ≤ 99 := by
        cases l with
        | none => cases e1; omega
        | some i => exact (cst_b lo e1).2.1
      omega
theorem lft_le (n S : Nat) : lft n S ≤ n := cnt_le _ _
theorem Dr_b {σ : WS} {lm : Lam} (lo : lamOK lm) {g : Nat → Nat} {n S : Nat} {l : Option Nat} {x : Nat} (h : Dr σ lm g n S l = some x) : x ≤ 99 * n := by
  have := rR_b lo h
  have := lft_le n S
  omega
theorem ec_b {σ : WS} {lm : Lam} (lo : lamOK lm) {g : Nat → Nat} {l : Option Nat} {k x : Nat} (h : ecR σ lm g l k = some x) : x ≤ 99 := by
  cases l with
  | none => cases h; omega
  | some i => exact (cst_b lo h).2.1
/-- the least word by which a least row goes on -/
def amW (p : Nat → Bool) (g : Nat → Nat) : Nat → Option Nat
  | 0 => none
  | i + 1 => if p i = true then (match amW p g i with
    | none => some i
    | some b => if g i < g b then some i else some b) else amW p g i
theorem amW_ok {p : Nat → Bool} {g : Nat → Nat} : ∀ {n : Nat}, (amW p g n = none → ∀ i, i < n → p i = false) ∧ ∀ k, amW p g n = some k → k < n ∧ p k = true ∧ ∀ i, i < n → p i = true → g k ≤ g i
  | 0 => ⟨fun _ i h => absurd h (by omega), fun k h => by cases h⟩
  | n + 1 => by
    obtain ⟨h1, h2⟩ := amW_ok (p := p) (g := g) (n := n)
    unfold amW
    by_cases c : p n = true
    · rw [if_pos c]
      cases e : amW p g n with
      | none =>
        refine ⟨fun z => (by cases z), fun k hk => ?_⟩
        cases hk
        refine ⟨by omega, c, fun i hi hp => ?_⟩
        by_cases ei : i = n
        · rw [ei]; exact Nat.le_refl _
        · have := h1 e i (by omega); rw [hp] at this; cases this
      | some b =>
        obtain ⟨b1, b2, b3⟩ := h2 b e
        refine ⟨fun z => ?_, fun k hk => ?_⟩
        · have z : (if g n < g b then some n else some b) = none := z
          split at z <;> cases z
        · have hk : (if g n < g b then some n else some b) = some k := hk
          by_cases c2 : g n < g b
          · rw [if_pos c2] at hk; cases hk
            refine ⟨by omega, c, fun i hi hp => ?_⟩
            by_cases ei : i = n
            · rw [ei]; exact Nat.le_refl _
            · have := b3 i (by omega) hp; omega
          · rw [if_neg c2] at hk; cases hk
            refine ⟨by omega, b2, fun i hi hp => ?_⟩
            by_cases ei : i = n
            · rw [ei]; omega
            · exact b3 i (by omega) hp
    · rw [if_neg c]
      refine ⟨fun z i hi => ?_, fun k hk => ?_⟩
      · by_cases ei : i = n
        · rw [ei]; exact ts_nt' c
        · exact h1 z i (by omega)
      · obtain ⟨b1, b2, b3⟩ := h2 k hk
        refine ⟨by omega, b2, fun i hi hp => ?_⟩
        by_cases ei : i = n
        · rw [ei] at hp; exact absurd hp c
        · exact b3 i (by omega) hp
def opR (σ : WS) (lm : Lam) (g : Nat → Nat) (n S : Nat) (l : Option Nat) (k : Nat) : Bool := !(S.testBit k) && decide (byR σ lm g n S l k = Dr σ lm g n S l)
def pth (σ : WS) (lm : Lam) (g : Nat → Nat) (n : Nat) : Nat → Nat × Option Nat
  | 0 => (0, none)
  | k + 1 => match amW (opR σ lm g n (pth σ lm g n k).1 (pth σ lm g n k).2) g n with
    | none => (pth σ lm g n k)
    | some c => ((pth σ lm g n k).1 ||| 2 ^ c, some c)
/-- one step of it: the row goes on as long as some are left -/
theorem am_ex {σ : WS} {lm : Lam} {g : Nat → Nat} {n S x : Nat} {l : Option Nat} (h : ¬ lft n S = 0) (hx : Dr σ lm g n S l = some x) : ∃ c y, amW (opR σ lm g n S l) g n = some c ∧ c < n ∧ S.testBit c = false ∧ byR σ lm g n S l c = some x ∧ Dr σ lm g n (S ||| 2 ^ c) (some c) = some y ∧ lft n S = lft n (S ||| 2 ^ c) + 1 := by
  have he := Dr_eq (σ := σ) (lm := lm) (g := g) l h
  rw [hx] at he
  obtain ⟨i, hi, e⟩ := mnO_at he.symm
  have hp : opR σ lm g n S l i = true := by
    unfold opR
    have : S.testBit i = false := by
      cases e2 : S.testBit i with
      | false => rfl
      | true => unfold byR at e; rw [if_pos e2] at e; cases e
    rw [this, decide_eq_true (e.trans hx.symm)]; rfl
  cases ea : amW (opR σ lm g n S l) g n with
  | none => have := (amW_ok (p := opR σ lm g n S l) (g := g) (n := n)).1 ea i hi; rw [hp] at this; cases this
  | some c =>
    obtain ⟨c1, c2, c3⟩ := (amW_ok (p := opR σ lm g n S l) (g := g) (n := n)).2 c ea
    unfold opR at c2
    rw [Bool.and_eq_true] at c2
    have cb : S.testBit c = false := by
      cases e2 : S.testBit c with
      | false => rfl
      | true => rw [e2] at c2; cases c2.1
    have cv := (of_decide_eq_true c2.2).trans hx
    have cv2 := cv
    unfold byR at cv2
    rw [if_neg (by rw [cb]; decide)] at cv2
    obtain ⟨x1, x2, _, e2, _⟩ := oadd_of cv2
    exact ⟨c, x2, rfl, c1, cb, cv, e2, lft_s c1 cb⟩
theorem pth_ok {σ : WS} {lm : Lam} {g : Nat → Nat} {n x : Nat} (hx : Dr σ lm g n 0 none = some x) : ∀ k, k ≤ n → lft n (pth σ lm g n k).1 + k = n ∧ (∃ y, Dr σ lm g n (pth σ lm g n k).1 (pth σ lm g n k).2 = some y) ∧ (pth σ lm g n k).1 < 2 ^ n ∧ (0 < k → ∃ c, (pth σ lm g n k).2 = some c ∧ c < n ∧ (pth σ lm g n k).1.testBit c = true) ∧ (k = 0 → (pth σ lm g n k).2 = none ∧ (pth σ lm g n k).1 = 0)
  | 0, _ => by
    refine ⟨?_, ⟨x, hx⟩, Nat.two_pow_pos n, fun h => absurd h (by omega), fun _ => ⟨rfl, rfl⟩⟩
    show cnt (fun k => !(Nat.testBit 0 k)) n + 0 = n
    have : ∀ m, cnt (fun k => !(Nat.testBit 0 k)) m = m := fun m => by
      induction m with
      | zero => rfl
      | succ m ih => rw [cnt_t (by show (!(Nat.testBit 0 m)) = true; rw [Nat.zero_testBit]; rfl), ih]
    rw [this]
    rfl
  | k + 1, hk => by
    obtain ⟨h1, ⟨y, h2⟩, h3, h4, h5⟩ := pth_ok hx k (by omega)
    obtain ⟨c, z, a1, a2, a3, a4, a5, a6⟩ := am_ex (by omega) h2
    have e : pth σ lm g n (k + 1) = ((pth σ lm g n k).1 ||| 2 ^ c, some c) := by rw [pth, a1]
    rw [e]
    refine ⟨by show lft n ((pth σ lm g n k).1 ||| 2 ^ c) + (k + 1) = n; omega, ⟨z, a5⟩, or_bd h3 a2, fun _ => ⟨c, rfl, a2, ?_⟩, fun z => absurd z (by omega)⟩
    show ((pth σ lm g n k).1 ||| 2 ^ c).testBit c = true
    rw [Nat.testBit_or, Nat.testBit_two_pow_self, Bool.or_true]
def rowV (σ : WS) (lm : Lam) (g : Nat → Nat) (n : Nat) (z : Int32) : Int32 := match Dr σ lm g n 0 none with
  | none => -2
  | some x => if z = -1 then nI x else (match (pth σ lm g n (z.toInt.toNat + 1)).2 with
    | none => -2
    | some c => nI (g c))
/-! two orders of the same words -/
def Pm (n : Nat) (g h : Nat → Nat) : Prop := (∀ i, i < n → ∃ j, j < n ∧ g i = h j) ∧ (∀ j, j < n → ∃ i, i < n ∧ g i = h j) ∧ (∀ i j, i < n → j < n → g i = g j → i = j) ∧ ∀ i j, i < n → j < n → h i = h j → i = j
def mS (n : Nat) (g h : Nat → Nat) (S T : Nat) : Prop := ∀ i j, i < n → j < n → g i = h j → S.testBit i = T.testBit j
def mL (g h : Nat → Nat) (n : Nat) (l l' : Option Nat) : Prop := (l = none ∧ l' = none) ∨ ∃ i j, i < n ∧ j < n ∧ l = some i ∧ l' = some j ∧ g i = h j
theorem mS_or {n : Nat} {g h : Nat → Nat} (p : Pm n g h) {S T i j : Nat} (m : mS n g h S T) (hi : i < n) (hj : j < n) (e : g i = h j) : mS n g h (S ||| 2 ^ i) (T ||| 2 ^ j) := fun a b ha hb eab => by
  rw [Nat.testBit_or, Nat.testBit_or, m a b ha hb eab, Nat.testBit_two_pow, Nat.testBit_two_pow]
  congr 1
  refine decide_eq_decide.mpr ⟨fun q => ?_, fun q => ?_⟩
  · rw [← q] at eab; exact p.2.2.2 j b hj hb (e.symm.trans eab)
  · rw [← q] at eab; exact p.2.2.1 i a hi ha (e.trans eab.symm)
theorem ec_m {σ : WS} {lm : Lam} {n : Nat} {g h : Nat → Nat} {l l' : Option Nat} (m : mL g h n l l') {i j : Nat} (e : g i = h j) : ecR σ lm g l i = ecR σ lm h l' j := by
  rcases m with ⟨rfl, rfl⟩ | ⟨a, b, _, _, rfl, rfl, eab⟩
  · rfl
  · show cst σ lm (g a) (g i) = cst σ lm (h b) (h j)
    rw [e, eab]
theorem rR_m {σ : WS} {lm : Lam} {n : Nat} {g h : Nat → Nat} (p : Pm n g h) : ∀ (f S T : Nat) (l l' : Option Nat), mS n g h S T → mL g h n l l' → rR σ lm g n f S l = rR σ lm h n f T l'
  | 0, _, _, _, _, _, _ => rfl
  | f + 1, S, T, l, l', m, ml => by
    have key : ∀ i j, i < n → j < n → g i = h j → (if S.testBit i = true then none else oadd (ecR σ lm g l i) (rR σ lm g n f (S ||| 2 ^ i) (some i))) = (if T.testBit j = true then none else oadd (ecR σ lm h l' j) (rR σ lm h n f (T ||| 2 ^ j) (some j))) := fun i j hi hj e => by
      rw [m i j hi hj e, ec_m ml e, rR_m p f (S ||| 2 ^ i) (T ||| 2 ^ j) (some i) (some j) (mS_or p m hi hj e) (Or.inr ⟨i, j, hi, hj, rfl, rfl, e⟩)]
    rw [rR, rR]
    refine mnO_eq (fun i hi => ?_) (fun j hj => ?_)
    · obtain ⟨j, hj, e⟩ := p.1 i hi
      exact ⟨j, hj, key i j hi hj e⟩
    · obtain ⟨i, hi, e⟩ := p.2.1 j hj
      exact ⟨i, hi, key i j hi hj e⟩
theorem Dr_m {σ : WS} {lm : Lam} {n : Nat} {g h : Nat → Nat} (p : Pm n g h) {S T : Nat} {l l' : Option Nat} (m : mS n g h S T) (ml : mL g h n l l') (e : lft n S = lft n T) : Dr σ lm g n S l = Dr σ lm h n T l' := by
  unfold Dr; rw [e]; exact rR_m p _ _ _ _ _ m ml
theorem op_m {σ : WS} {lm : Lam} {n : Nat} {g h : Nat → Nat} (p : Pm n g h) {S T : Nat} {l l' : Option Nat} (m : mS n g h S T) (ml : mL g h n l l') (e : lft n S = lft n T) {i j : Nat} (hi : i < n) (hj : j < n) (eij : g i = h j) : opR σ lm g n S l i = opR σ lm h n T l' j := by
  unfold opR
  rw [← Dr_m p m ml e]
  have hb := m i j hi hj eij
  unfold byR
  rw [hb]
  cases c : T.testBit j with
  | true => rfl
  | false =>
    rw [c] at hb
    have e1 := lft_s hi hb
    have e2 := lft_s hj c
    rw [if_neg (by decide), if_neg (by decide), ec_m ml eij, Dr_m p (mS_or p m hi hj eij) (Or.inr ⟨i, j, hi, hj, rfl, rfl, eij⟩) (by omega)]
theorem pth_m {σ : WS} {lm : Lam} {n x : Nat} {g h : Nat → Nat} (p : Pm n g h) (hx : Dr σ lm g n 0 none = some x) (hx2 : Dr σ lm h n 0 none = some x) : ∀ k, k ≤ n → mS n g h (pth σ lm g n k).1 (pth σ lm h n k).1 ∧ mL g h n (pth σ lm g n k).2 (pth σ lm h n k).2
  | 0, _ => ⟨fun i j _ _ _ => by show Nat.testBit 0 i = Nat.testBit 0 j; rw [Nat.zero_testBit, Nat.zero_testBit], Or.inl ⟨rfl, rfl⟩⟩
  | k + 1, hk => by
    obtain ⟨m, ml⟩ := pth_m p hx hx2 k (by omega)
    obtain ⟨g1, ⟨y, g2⟩, _⟩ := pth_ok hx k (by omega)
    obtain ⟨k1, ⟨y', k2⟩, _⟩ := pth_ok hx2 k (by omega)
    obtain ⟨c, _, a1, a2, _⟩ := am_ex (by omega) g2
    obtain ⟨d, _, b1, b2, _⟩ := am_ex (by omega) k2
    have hl : lft n (pth σ lm g n k).1 = lft n (pth σ lm h n k).1 := by omega
    obtain ⟨_, c2, c3⟩ := amW_ok.2 c a1
    obtain ⟨_, d2, d3⟩ := amW_ok.2 d b1
    obtain ⟨j, hj, ej⟩ := p.1 c a2
    obtain ⟨i, hi, ei⟩ := p.2.1 d b2
    have o1 := op_m (σ := σ) (lm := lm) p m ml hl a2 hj ej
    have o2 := op_m (σ := σ) (lm := lm) p m ml hl hi b2 ei
    have le1 := d3 j hj (by rw [← o1]; exact c2)
    have le2 := c3 i hi (by rw [o2]; exact d2)
    have ecd : g c = h d := by omega
    have e1 : pth σ lm g n (k + 1) = ((pth σ lm g n k).1 ||| 2 ^ c, some c) := by rw [pth, a1]
    have e2 : pth σ lm h n (k + 1) = ((pth σ lm h n k).1 ||| 2 ^ d, some d) := by rw [pth, b1]
    rw [e1, e2]
    exact ⟨mS_or p m a2 b2 ecd, Or.inr ⟨c, d, a2, b2, rfl, rfl, ecd⟩⟩
theorem rowV_m {σ : WS} {lm : Lam} {n : Nat} {g h : Nat → Nat} (p : Pm n g h) {z : Int32} (hz : z.toInt < n) : rowV σ lm g n z = rowV σ lm h n z := by
  have e0 : Dr σ lm g n 0 none = Dr σ lm h n 0 none := Dr_m p (fun i j _ _ _ => by rw [Nat.zero_testBit, Nat.zero_testBit]) (Or.inl ⟨rfl, rfl⟩) rfl
  unfold rowV
  rw [← e0]
  cases e : Dr σ lm g n 0 none with
  | none => rfl
  | some x =>
    dsimp only
    by_cases c : z = -1
    · rw [if_pos c, if_pos c]
    · rw [if_neg c, if_neg c]
      by_cases hn : n = 0
      · subst hn
        have : z.toInt.toNat = 0 := by omega
        rw [this]
        have f1 : ∀ g', (pth σ lm g' 0 1).2 = none := fun g' => rfl
        rw [f1, f1]
      · rcases (pth_m p e (e0 ▸ e) (z.toInt.toNat + 1) (by omega)).2 with ⟨e1, e2⟩ | ⟨i, j, _, _, e1, e2, e3⟩
        · rw [e1, e2]
        · rw [e1, e2]; dsimp only; rw [e3]
