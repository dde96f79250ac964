/-! THE LAW'S TEXT: one reading of it, with codes and with meaning -/
abbrev TX : Type := (Nat → Nat) × Nat
abbrev Cd : Type := List (Nat × Nat)
abbrev Sev : Type := (Nat → Int32) → Option Int32
abbrev Cev : Type := (Nat → Int32) → Option Bool
abbrev SR : Type := Cd × Sev × Nat
abbrev CR : Type := Cd × Cev × Nat
abbrev Rs (α : Type) : Type := Except (Nat × Nat) α
def ch (X : TX) (p : Nat) : Nat := if p < X.2 then X.1 p else 0
theorem ch_lt {X : TX} {p : Nat} (h : ¬ ch X p = 0) : p < X.2 := by
  unfold ch at h
  split at h
  · assumption
  · exact absurd rfl h
def dig (c : Nat) : Bool := decide (48 ≤ c) && decide (c ≤ 57)
def pNum (X : TX) : Nat → Nat → Nat → Rs (Nat × Nat)
  | 0, p, v => if dig (ch X p) = true then .error (2, p) else .ok (v, p)
  | k + 1, p, v => if dig (ch X p) = true then pNum X k (p + 1) (10 * v + (ch X p - 48)) else .ok (v, p)
def ltrO (c : Nat) : Option Nat := if c = 107 then some 0 else if c = 105 then some 1 else if c = 111 then some 2 else if c = 112 then some 3 else if c = 108 then some 4 else if c = 102 then some 5 else if c = 103 then some 6 else if c = 97 then some 7 else if c = 98 then some 8 else none
def mulS (c : Nat) : Option Nat := if c = 42 then some 4 else if c = 47 then some 5 else if c = 37 then some 6 else none
def addS (c : Nat) : Option Nat := if c = 43 then some 2 else if c = 45 then some 3 else none
def cmpS (c : Nat) : Option Nat := if c = 60 then some 7 else if c = 62 then some 8 else if c = 61 then some 9 else none
def reck (o : Nat) (x y : Int32) : Option Int32 := if o = 2 then some (x + y) else if o = 3 then some (x - y) else if o = 4 then some (x * y) else if y = 0 then none else if o = 5 then some (x / y) else some (x - x / y * y)
def bi (o : Nat) (f g : Sev) : Sev := fun F => match f F, g F with
  | some x, some y => reck o x y
  | _, _ => none
def cmb (o : Nat) (a b : SR) : SR := (a.1 ++ b.1 ++ [(o, 0)], bi o a.2.1 b.2.1, b.2.2)
def pCh (X : TX) (sg : Nat → Option Nat) (it : Nat → Rs SR) : Nat → SR → Rs SR
  | 0, a => .ok a
  | k + 1, a => match sg (ch X a.2.2) with
    | none => .ok a
    | some o => match it (a.2.2 + 1) with
      | .error e => .error e
      | .ok b => pCh X sg it k (cmb o a b)
def pFac (X : TX) (S : Nat → Nat → Rs SR) (op p : Nat) : Rs SR :=
  if ch X p = 91 then (if op = 6 then .error (5, p) else match S (op + 1) (p + 1) with
    | .error e => .error e
    | .ok a => if ch X a.2.2 = 93 then .ok (a.1, a.2.1, a.2.2 + 1) else .error (1, a.2.2))
  else if dig (ch X p) = true then (match pNum X 5 p 0 with
    | .error e => .error e
    | .ok q => .ok ([(0, q.1)], fun _ => some (nI q.1), q.2))
  else match ltrO (ch X p) with
    | some i => .ok ([(1, i)], fun F => some (F i), p + 1)
    | none => .error (1, p)
def pPrd (X : TX) (S : Nat → Nat → Rs SR) (op p : Nat) : Rs SR := match pFac X S op p with
  | .error e => .error e
  | .ok a => pCh X mulS (pFac X S op) X.2 a
def pSum (X : TX) : Nat → Nat → Nat → Rs SR
  | 0, _, _ => .error (0, 0)
  | d + 1, op, p => match pPrd X (pSum X d) op p with
    | .error e => .error e
    | .ok a => pCh X addS (pPrd X (pSum X d) op) X.2 a
def cmpV (o : Nat) (x y : Int32) : Bool := if o = 7 then decide (x < y) else if o = 8 then decide (y < x) else decide (x = y)
def bc (o : Nat) (f g : Sev) : Cev := fun F => match f F, g F with
  | some x, some y => some (cmpV o x y)
  | _, _ => none
def pCmp (X : TX) (op p : Nat) : Rs CR := match pSum X 7 op p with
  | .error e => .error e
  | .ok a => match cmpS (ch X a.2.2) with
    | none => .error (1, a.2.2)
    | some o => match pSum X 7 op (a.2.2 + 1) with
      | .error e => .error e
      | .ok b => .ok (a.1 ++ b.1 ++ [(o, 0)], bc o a.2.1 b.2.1, b.2.2)
def jev (o : Nat) (f g : Cev) : Cev := fun F => match f F with
  | none => none
  | some x => if x = decide (o = 12) then some x else g F
def jmb (o a : Nat) (r b : CR) : CR := (r.1 ++ [(o, a + r.1.length + 1 + b.1.length)] ++ b.1, jev o r.2.1 b.2.1, b.2.2)
def pJ (X : TX) (c o : Nat) (it : Nat → Nat → Rs CR) (a : Nat) : Nat → CR → Rs CR
  | 0, r => .ok r
  | k + 1, r => if ch X r.2.2 = c then (match it (a + r.1.length + 1) (r.2.2 + 1) with
    | .error e => .error e
    | .ok b => pJ X c o it a k (jmb o a r b)) else .ok r
def pPcs (X : TX) (P : Nat → Nat → Nat → Rs CR) (a op p : Nat) : Rs CR := match P a op p with
  | .error e => .error e
  | .ok r => pJ X 38 11 (fun a' p' => P a' op p') a X.2 r
def pPar (X : TX) (P : Nat → Nat → Nat → Rs CR) (a op p : Nat) : Rs CR := if op = 6 then .error (5, p) else match pPcs X P a (op + 1) (p + 1) with
  | .error e => .error e
  | .ok r0 => match pJ X 124 12 (fun a' p' => pPcs X P a' (op + 1) p') a X.2 r0 with
    | .error e => .error e
    | .ok r => if ch X r.2.2 = 41 then .ok (r.1, r.2.1, r.2.2 + 1) else .error (1, r.2.2)
def pPie (X : TX) : Nat → Nat → Nat → Nat → Rs CR
  | 0, _, _, _ => .error (0, 0)
  | d + 1, a, op, p => if ch X p = 33 then (if op = 6 then .error (5, p) else match pPie X d a (op + 1) (p + 1) with
      | .error e => .error e
      | .ok r => .ok (r.1 ++ [(10, 0)], fun F => (r.2.1 F).map (fun b => !b), r.2.2))
    else if ch X p = 40 then pPar X (pPie X d) a op p
    else pCmp X op p
/-- a clause: its letter, its sum's codes and meaning, its condition's -/
abbrev Cls : Type := Nat × (Cd × Sev) × (Cd × Cev)
def pHalf (X : TX) (c p : Nat) : Rs SR := if c = 99 then pSum X 7 0 p else .ok ([], fun _ => some 0, p)
def pCl (X : TX) (a many p : Nat) : Rs (Cls × Nat) :=
  if ¬ ch X p = 110 ∧ ¬ ch X p = 99 then .error (1, p) else if many = 12 then .error (4, p) else match pHalf X (ch X p) (p + 1) with
    | .error e => .error e
    | .ok s => if ¬ ch X s.2.2 = 40 then .error (1, s.2.2) else match pPar X (pPie X 7) (a + s.1.length) 0 s.2.2 with
      | .error e => .error e
      | .ok r => .ok ((ch X p, (s.1, s.2.1), (r.1, r.2.1)), r.2.2)
def clL (q : Cls) : Nat := q.2.1.1.length + q.2.2.1.length
def pLaw (X : TX) : Nat → List Cls → Nat → Nat → Rs (List Cls)
  | 0, _, _, _ => .error (0, 0)
  | k + 1, L, a, p => match pCl X a L.length p with
    | .error e => .error e
    | .ok q => if q.2 < X.2 then (if ch X q.2 = 59 then pLaw X k (L ++ [q.1]) (a + clL q.1) (q.2 + 1) else .error (1, q.2)) else .ok (L ++ [q.1])
/-! what is read goes on, and codes are no more than letters -/
def sOK (X : TX) (p : Nat) (r : SR) : Prop := p < r.2.2 ∧ r.2.2 ≤ X.2 ∧ r.1.length + p ≤ r.2.2
def cOK (X : TX) (p : Nat) (r : CR) : Prop := p < r.2.2 ∧ r.2.2 ≤ X.2 ∧ r.1.length + p ≤ r.2.2
theorem pNum_ok {X : TX} : ∀ {k p v : Nat} {q : Nat × Nat}, pNum X k p v = .ok q → p ≤ X.2 → p ≤ q.2 ∧ q.2 ≤ X.2 ∧ (dig (ch X p) = true → p < q.2)
  | 0, p, v, q, h, hp => by
    unfold pNum at h
    split at h
    · cases h
    · rename_i hd
      cases h; exact ⟨Nat.le_refl _, hp, fun z => absurd z hd⟩
  | k + 1, p, v, q, h, hp => by
    unfold pNum at h
    split at h
    · rename_i hd
      have hp2 : p < X.2 := ch_lt fun z => by rw [z] at hd; cases hd
      obtain ⟨h1, h2, _⟩ := pNum_ok h (by omega)
      exact ⟨by omega, h2, fun _ => by omega⟩
    · rename_i hd
      cases h; exact ⟨Nat.le_refl _, hp, fun z => absurd z hd⟩
theorem pNum_v {X : TX} : ∀ {k p v : Nat} {q : Nat × Nat}, pNum X k p v = .ok q → q.1 < (v + 1) * 10 ^ k
  | 0, p, v, q, h => by
    unfold pNum at h
    split at h
    · cases h
    · cases h; show v < (v + 1) * 1; omega
  | k + 1, p, v, q, h => by
    unfold pNum at h
    split at h
    · rename_i hd
      have h1 := pNum_v h
      have h2 : ch X p - 48 ≤ 9 := by
        unfold dig at hd
        rw [Bool.and_eq_true] at hd
        have := of_decide_eq_true hd.2
        omega
      have h3 : (10 * v + (ch X p - 48) + 1) * 10 ^ k ≤ ((v + 1) * 10) * 10 ^ k := Nat.mul_le_mul_right _ (by omega)
      rw [Nat.pow_succ, Nat.mul_comm (10 ^ k) 10, ← Nat.mul_assoc]
      omega
    · cases h
      have : 0 < 10 ^ (k + 1) := Nat.pow_pos (by omega)
      have : (v + 1) * 1 ≤ (v + 1) * 10 ^ (k + 1) := Nat.mul_le_mul_left _ this
      show v < _
      omega
theorem pCh_ok {X : TX} {sg : Nat → Option Nat} {it : Nat → Rs SR} (h0 : sg 0 = none) (hi : ∀ p r, it p = .ok r → p < X.2 + 1 → sOK X p r) : ∀ {k : Nat} {a r : SR} {p : Nat}, sOK X p a → pCh X sg it k a = .ok r → sOK X p r
  | 0, a, r, p, ha, h => by cases h; exact ha
  | k + 1, a, r, p, ha, h => by
    unfold pCh at h
    cases e : sg (ch X a.2.2) with
    | none => rw [e] at h; cases h; exact ha
    | some o =>
      rw [e] at h
      have hp : a.2.2 < X.2 := ch_lt fun z => by rw [z, h0] at e; cases e
      cases e2 : it (a.2.2 + 1) with
      | error x => rw [e2] at h; cases h
      | ok b =>
        rw [e2] at h
        obtain ⟨b1, b2, b3⟩ := hi _ _ e2 (by omega)
        obtain ⟨a1, a2, a3⟩ := ha
        refine pCh_ok h0 hi (a := cmb o a b) ⟨?_, ?_, ?_⟩ h
        · show p < b.2.2; omega
        · exact b2
        · show (a.1 ++ b.1 ++ [(o, 0)]).length + p ≤ b.2.2
          rw [List.length_append, List.length_append]
          show a.1.length + b.1.length + 1 + p ≤ b.2.2
          omega
theorem pFac_ok {X : TX} {S : Nat → Nat → Rs SR} {op : Nat} (hS : ∀ p r, S (op + 1) p = .ok r → p ≤ X.2 → sOK X p r) {p : Nat} {r : SR} (h : pFac X S op p = .ok r) : sOK X p r := by
  unfold pFac at h
  split at h
  · rename_i hc
    have hp : p < X.2 := ch_lt fun z => by omega
    split at h
    · cases h
    · cases e : S (op + 1) (p + 1) with
      | error x => rw [e] at h; cases h
      | ok a =>
        rw [e] at h
        obtain ⟨a1, a2, a3⟩ := hS _ _ e (by omega)
        have h : (if ch X a.2.2 = 93 then Except.ok (a.1, a.2.1, a.2.2 + 1) else Except.error (1, a.2.2) : Rs SR) = .ok r := h
        split at h
        · rename_i h9
          have := ch_lt (X := X) (p := a.2.2) fun z => by omega
          cases h
          exact ⟨by show p < a.2.2 + 1; omega, this, by show a.1.length + p ≤ a.2.2 + 1; omega⟩
        · cases h
  · split at h
    · rename_i hd
      have hp : p < X.2 := ch_lt fun z => by rw [z] at hd; cases hd
      cases e : pNum X 5 p 0 with
      | error x => rw [e] at h; cases h
      | ok q =>
        rw [e] at h; cases h
        obtain ⟨h1, h2, h3⟩ := pNum_ok e (by omega)
        have := h3 hd
        exact ⟨this, h2, by show 1 + p ≤ q.2; omega⟩
    · cases e : ltrO (ch X p) with
      | none => rw [e] at h; cases h
      | some i =>
        rw [e] at h; cases h
        have hp : p < X.2 := ch_lt fun z => by rw [z] at e; cases e
        exact ⟨by show p < p + 1; omega, hp, by show 1 + p ≤ p + 1; omega⟩
theorem pPrd_ok {X : TX} {S : Nat → Nat → Rs SR} {op : Nat} (hS : ∀ p r, S (op + 1) p = .ok r → p ≤ X.2 → sOK X p r) {p : Nat} {r : SR} (h : pPrd X S op p = .ok r) : sOK X p r := by
  unfold pPrd at h
  cases e : pFac X S op p with
  | error x => rw [e] at h; cases h
  | ok a => rw [e] at h; exact pCh_ok rfl (fun p r e _ => pFac_ok hS e) (pFac_ok hS e) h
theorem pSum_ok {X : TX} : ∀ {d op p : Nat} {r : SR}, pSum X d op p = .ok r → sOK X p r
  | 0, _, _, _, h => by cases h
  | d + 1, op, p, r, h => by
    unfold pSum at h
    have hS : ∀ p r, pSum X d (op + 1) p = .ok r → p ≤ X.2 → sOK X p r := fun p r e _ => pSum_ok e
    cases e : pPrd X (pSum X d) op p with
    | error x => rw [e] at h; cases h
    | ok a => rw [e] at h; exact pCh_ok rfl (fun p r e _ => pPrd_ok hS e) (pPrd_ok hS e) h
theorem pCmp_ok {X : TX} {op p : Nat} {r : CR} (h : pCmp X op p = .ok r) : cOK X p r := by
  unfold pCmp at h
  cases e : pSum X 7 op p with
  | error x => rw [e] at h; cases h
  | ok a =>
    rw [e] at h
    obtain ⟨a1, a2, a3⟩ := pSum_ok e
    have h : (match cmpS (ch X a.2.2) with
      | none => Except.error (1, a.2.2)
      | some o => match pSum X 7 op (a.2.2 + 1) with
        | .error e => .error e
        | .ok b => .ok (a.1 ++ b.1 ++ [(o, 0)], bc o a.2.1 b.2.1, b.2.2) : Rs CR) = .ok r := h
    cases e2 : cmpS (ch X a.2.2) with
    | none => rw [e2] at h; cases h
    | some o =>
      rw [e2] at h
      cases e3 : pSum X 7 op (a.2.2 + 1) with
      | error x => rw [e3] at h; cases h
      | ok b =>
        rw [e3] at h
        obtain ⟨b1, b2, b3⟩ := pSum_ok e3
        cases h
        refine ⟨by show p < b.2.2; omega, b2, ?_⟩
        show (a.1 ++ b.1 ++ [(o, 0)]).length + p ≤ b.2.2
        rw [List.length_append, List.length_append]
        show a.1.length + b.1.length + 1 + p ≤ b.2.2
        omega
theorem pJ_ok {X : TX} {c o a : Nat} {it : Nat → Nat → Rs CR} (hc : ¬ c = 0) (hi : ∀ a p r, it a p = .ok r → cOK X p r) : ∀ {k : Nat} {r r' : CR} {p : Nat}, cOK X p r → pJ X c o it a k r = .ok r' → cOK X p r'
  | 0, r, r', p, hr, h => by cases h; exact hr
  | k + 1, r, r', p, hr, h => by
    unfold pJ at h
    split at h
    · cases e : it (a + r.1.length + 1) (r.2.2 + 1) with
      | error x => rw [e] at h; cases h
      | ok b =>
        rw [e] at h
        obtain ⟨b1, b2, b3⟩ := hi _ _ _ e
        obtain ⟨a1, a2, a3⟩ := hr
        refine pJ_ok hc hi (r := jmb o a r b) ⟨?_, b2, ?_⟩ h
        · show p < b.2.2; omega
        · show (r.1 ++ [(o, a + r.1.length + 1 + b.1.length)] ++ b.1).length + p ≤ b.2.2
          rw [List.length_append, List.length_append]
          show r.1.length + 1 + b.1.length + p ≤ b.2.2
          omega
    · cases h; exact hr
theorem pPcs_ok {X : TX} {P : Nat → Nat → Nat → Rs CR} {op : Nat} (hP : ∀ a p r, P a op p = .ok r → cOK X p r) {a p : Nat} {r : CR} (h : pPcs X P a op p = .ok r) : cOK X p r := by
  unfold pPcs at h
  cases e : P a op p with
  | error x => rw [e] at h; cases h
  | ok q => rw [e] at h; exact pJ_ok (by decide) (fun a p r e => hP a p r e) (hP _ _ _ e) h
theorem pPar_ok {X : TX} {P : Nat → Nat → Nat → Rs CR} {op : Nat} (hP : ∀ a p r, P a (op + 1) p = .ok r → cOK X p r) {a p : Nat} {r : CR} (h : pPar X P a op p = .ok r) : cOK X p r := by
  unfold pPar at h
  split at h
  · cases h
  · cases e : pPcs X P a (op + 1) (p + 1) with
    | error x => rw [e] at h; cases h
    | ok r0 =>
      rw [e] at h
      have h : (match pJ X 124 12 (fun a' p' => pPcs X P a' (op + 1) p') a X.2 r0 with
        | .error e => .error e
        | .ok r => if ch X r.2.2 = 41 then .ok (r.1, r.2.1, r.2.2 + 1) else .error (1, r.2.2) : Rs CR) = .ok r := h
      cases e2 : pJ X 124 12 (fun a' p' => pPcs X P a' (op + 1) p') a X.2 r0 with
      | error x => rw [e2] at h; cases h
      | ok r1 =>
        rw [e2] at h
        have h : (if ch X r1.2.2 = 41 then .ok (r1.1, r1.2.1, r1.2.2 + 1) else .error (1, r1.2.2) : Rs CR) = .ok r := h
        obtain ⟨b1, b2, b3⟩ := pJ_ok (by decide) (fun a p r e => pPcs_ok hP e) (pPcs_ok hP e) e2
        split at h
        · rename_i h9
          have := ch_lt (X := X) (p := r1.2.2) fun z => by omega
          cases h
          exact ⟨by show p < r1.2.2 + 1; omega, this, by show r1.1.length + p ≤ r1.2.2 + 1; omega⟩
        · cases h
theorem pPie_ok {X : TX} : ∀ {d a op p : Nat} {r : CR}, pPie X d a op p = .ok r → cOK X p r
  | 0, _, _, _, _, h => by cases h
  | d + 1, a, op, p, r, h => by
    unfold pPie at h
    split at h
    · split at h
      · cases h
      · cases e : pPie X d a (op + 1) (p + 1) with
        | error x => rw [e] at h; cases h
        | ok q =>
          rw [e] at h; cases h
          obtain ⟨b1, b2, b3⟩ := pPie_ok e
          refine ⟨by show p < q.2.2; omega, b2, ?_⟩
          show (q.1 ++ [(10, 0)]).length + p ≤ q.2.2
          rw [List.length_append]
          show q.1.length + 1 + p ≤ q.2.2
          omega
    · split at h
      · exact pPar_ok (fun a p r e => pPie_ok e) h
      · exact pCmp_ok h
theorem pHalf_ok {X : TX} {c p : Nat} {s : SR} (h : pHalf X c p = .ok s) (hp : p ≤ X.2) : p ≤ s.2.2 ∧ s.2.2 ≤ X.2 ∧ s.1.length + p ≤ s.2.2 := by
  unfold pHalf at h
  split at h
  · obtain ⟨b1, b2, b3⟩ := pSum_ok h
    exact ⟨by omega, b2, b3⟩
  · cases h; exact ⟨Nat.le_refl _, hp, by show 0 + p ≤ p; omega⟩
theorem pCl_ok {X : TX} {a many p : Nat} {q : Cls × Nat} (h : pCl X a many p = .ok q) : p < q.2 ∧ q.2 ≤ X.2 ∧ clL q.1 + p < q.2 ∧ ¬ many = 12 := by
  unfold pCl at h
  split at h
  · cases h
  · rename_i hc
    have hp : p < X.2 := ch_lt fun z => by omega
    split at h
    · cases h
    · rename_i hm
      cases e : pHalf X (ch X p) (p + 1) with
      | error x => rw [e] at h; cases h
      | ok s =>
        rw [e] at h
        obtain ⟨s1, s2, s3⟩ := pHalf_ok e (by omega)
        have h : (if ¬ ch X s.2.2 = 40 then .error (1, s.2.2) else match pPar X (pPie X 7) (a + s.1.length) 0 s.2.2 with
          | .error e => .error e
          | .ok r => .ok ((ch X p, (s.1, s.2.1), (r.1, r.2.1)), r.2.2) : Rs (Cls × Nat)) = .ok q := h
        split at h
        · cases h
        · cases e2 : pPar X (pPie X 7) (a + s.1.length) 0 s.2.2 with
          | error x => rw [e2] at h; cases h
          | ok r =>
            rw [e2] at h
            obtain ⟨r1, r2, r3⟩ := pPar_ok (fun a p r e => pPie_ok e) e2
            cases h
            refine ⟨by show p < r.2.2; omega, r2, ?_, hm⟩
            show s.1.length + r.1.length + p < r.2.2
            omega
