/-! least ways, pure: walks whose inner places are below a bound -/
abbrev EW : Type := Nat → Nat → Option Nat
def wk' (w : EW) (m : Nat) : Nat → Nat → Nat → Nat → Prop
  | 0, a, b, x => w a b = some x
  | n + 1, a, b, x => ∃ v c y, v < m ∧ w a v = some c ∧ wk' w m n v b y ∧ x = c + y
theorem wk_mono {w : EW} {m m' : Nat} (hm : m ≤ m') : ∀ {n a b x}, wk' w m n a b x → wk' w m' n a b x
  | 0, _, _, _, h => h
  | _ + 1, _, _, _, ⟨v, c, y, h1, h2, h3, h4⟩ => ⟨v, c, y, by omega, h2, wk_mono hm h3, h4⟩
theorem wk_cat {w : EW} {m v b n' y : Nat} (hv : v < m) (h2 : wk' w m n' v b y) : ∀ {n a x}, wk' w m n a v x → wk' w m (n' + n + 1) a b (x + y)
  | 0, _, x, h => ⟨v, x, y, hv, h, h2, rfl⟩
  | n + 1, _, _, ⟨u, c, z, h1, h3, h4, h5⟩ => ⟨u, c, z + y, h1, h3, wk_cat hv h2 h4, by omega⟩
theorem wk_split {w : EW} {m b : Nat} : ∀ {n a x}, wk' w (m + 1) n a b x → (∃ n' x', x' ≤ x ∧ wk' w m n' a b x') ∨ ∃ n1 x1 n2 x2, wk' w m n1 a m x1 ∧ wk' w m n2 m b x2 ∧ x1 + x2 ≤ x
  | 0, _, x, h => Or.inl ⟨0, x, Nat.le_refl _, h⟩
  | n + 1, a, x, ⟨v, c, y, h1, h2, h3, h4⟩ => by
    by_cases e : v = m
    · subst e
      rcases wk_split h3 with ⟨n', x', g1, g2⟩ | ⟨n1, x1, n2, x2, g1, g2, g3⟩
      · exact Or.inr ⟨0, c, n', x', h2, g2, by omega⟩
      · exact Or.inr ⟨0, c, n2, x2, h2, g2, by omega⟩
    · rcases wk_split h3 with ⟨n', x', g1, g2⟩ | ⟨n1, x1, n2, x2, g1, g2, g3⟩
      · exact Or.inl ⟨n' + 1, c + x', by omega, v, c, x', by omega, h2, g2, rfl⟩
      · exact Or.inr ⟨n1 + 1, c + x1, n2, x2, ⟨v, c, x1, by omega, h2, g1, rfl⟩, g2, by omega⟩
def dst (w : EW) (U : Nat → Bool) (m a b : Nat) (o : Option Nat) : Prop := (a = b ∧ U a = true → o = some 0) ∧ (¬ (a = b ∧ U a = true) → (∀ y, o = some y → ∃ n, wk' w m n a b y) ∧ ∀ n x, wk' w m n a b x → ∃ y, o = some y ∧ y ≤ x)
theorem dst_lo {w : EW} {U : Nat → Bool} {m a b n x : Nat} {o : Option Nat} (h : dst w U m a b o) (g : wk' w m n a b x) : ∃ y, o = some y ∧ y ≤ x := by
  by_cases e : a = b ∧ U a = true
  · exact ⟨0, h.1 e, Nat.zero_le _⟩
  · exact (h.2 e).2 n x g
def oadd (p q : Option Nat) : Option Nat := match p, q with
  | some x, some y => some (x + y)
  | _, _ => none
def omin (p q : Option Nat) : Option Nat := match p, q with
  | some x, some y => some (min x y)
  | some x, none => some x
  | none, q => q
theorem omin_le {p q : Option Nat} {x : Nat} (h : (∃ y, p = some y ∧ y ≤ x) ∨ ∃ y, q = some y ∧ y ≤ x) : ∃ y, omin p q = some y ∧ y ≤ x := by
  cases p with
  | none =>
    rcases h with ⟨y, e, _⟩ | ⟨y, e, g⟩
    · cases e
    · exact ⟨y, e, g⟩
  | some a =>
    cases q with
    | none =>
      rcases h with ⟨y, e, g⟩ | ⟨y, e, _⟩
      · cases e; exact ⟨a, rfl, g⟩
      · cases e
    | some b =>
      refine ⟨min a b, rfl, ?_⟩
      rcases h with ⟨y, e, g⟩ | ⟨y, e, g⟩
      · cases e; omega
      · cases e; omega
theorem omin_of {p q : Option Nat} {y : Nat} (h : omin p q = some y) : p = some y ∨ q = some y := by
  cases p with
  | none => exact Or.inr h
  | some a =>
    cases q with
    | none => exact Or.inl h
    | some b =>
      have h : some (min a b) = some y := h
      have h : min a b = y := by cases h; rfl
      rcases Nat.le_total a b with c | c
      · left; rw [← h, Nat.min_eq_left c]
      · right; rw [← h, Nat.min_eq_right c]
theorem oadd_of {p q : Option Nat} {y : Nat} (h : oadd p q = some y) : ∃ x1 x2, p = some x1 ∧ q = some x2 ∧ y = x1 + x2 := by
  cases p with
  | none => cases h
  | some a =>
    cases q with
    | none => cases h
    | some b => exact ⟨a, b, rfl, rfl, by cases h; rfl⟩
theorem dst_0 {w : EW} {U : Nat → Bool} {a b : Nat} : dst w U 0 a b (if a = b ∧ U a = true then some 0 else w a b) := by
  refine ⟨fun e => if_pos e, fun e => ?_⟩
  rw [if_neg e]
  refine ⟨fun y h => ⟨0, h⟩, fun n x h => ?_⟩
  cases n with
  | zero => exact ⟨x, h, Nat.le_refl _⟩
  | succ n => obtain ⟨v, c, y, h1, _⟩ := h; exact absurd h1 (by omega)
theorem dst_step {w : EW} {U : Nat → Bool} {m : Nat} {d : Nat → Nat → Option Nat} (h : ∀ a b, dst w U m a b (d a b)) (a b : Nat) : dst w U (m + 1) a b (omin (d a b) (oadd (d a m) (d m b))) := by
  refine ⟨fun e => ?_, fun e => ⟨fun y hy => ?_, fun n x hx => ?_⟩⟩
  · rw [(h a b).1 e]
    cases oadd (d a m) (d m b) with
    | none => rfl
    | some z => show some (min 0 z) = _; rw [Nat.zero_min]
  · have old : d a b = some y → ∃ n, wk' w (m + 1) n a b y := fun g => by
      obtain ⟨n, g⟩ := ((h a b).2 e).1 y g
      exact ⟨n, wk_mono (by omega) g⟩
    rcases omin_of hy with g | g
    · exact old g
    · obtain ⟨x1, x2, g1, g2, g3⟩ := oadd_of g
      by_cases e1 : a = m ∧ U a = true
      · have := (h a m).1 e1
        rw [this] at g1
        cases g1
        rw [← e1.1] at g2
        exact old (by rw [g2, g3, Nat.zero_add])
      · by_cases e2 : m = b ∧ U m = true
        · have := (h m b).1 e2
          rw [this] at g2
          cases g2
          rw [e2.1] at g1
          exact old (by rw [g1, g3, Nat.add_zero])
        · obtain ⟨n1, k1⟩ := ((h a m).2 e1).1 _ g1
          obtain ⟨n2, k2⟩ := ((h m b).2 e2).1 _ g2
          exact ⟨_, by rw [g3]; exact wk_cat (by omega) (wk_mono (by omega) k2) (wk_mono (by omega) k1)⟩
  · rcases wk_split hx with ⟨n', x', g1, g2⟩ | ⟨n1, x1, n2, x2, g1, g2, g3⟩
    · obtain ⟨y, k1, k2⟩ := dst_lo (h a b) g2
      exact omin_le (Or.inl ⟨y, k1, by omega⟩)
    · obtain ⟨y1, k1, k2⟩ := dst_lo (h a m) g1
      obtain ⟨y2, l1, l2⟩ := dst_lo (h m b) g2
      exact omin_le (Or.inr ⟨y1 + y2, by rw [k1, l1]; rfl, by omega⟩)
theorem cnt_mono {p q : Nat → Bool} : ∀ {n : Nat}, (∀ k, k < n → p k = true → q k = true) → cnt p n ≤ cnt q n
  | 0, _ => Nat.le_refl _
  | n + 1, h => by
    have ih := cnt_mono (p := p) (q := q) (n := n) fun k hk => h k (by omega)
    rw [cnt, cnt]
    cases e : p n with
    | false => rw [if_neg (by decide)]; omega
    | true => rw [if_pos rfl, h n (by omega) e, if_pos rfl]; omega
def ole (o : Option Nat) (y : Nat) : Bool := match o with
  | none => false
  | some z => decide (z ≤ y)
/-- of a graph: edges run between different used places below N, and weigh something -/
def EWok (w : EW) (U : Nat → Bool) (N : Nat) : Prop := ∀ a b c, w a b = some c → a < N ∧ b < N ∧ U a = true ∧ U b = true ∧ ¬ a = b ∧ 1 ≤ c
theorem wk_pos {w : EW} {U : Nat → Bool} {N m : Nat} (hw : EWok w U N) : ∀ {n a b x}, wk' w m n a b x → 1 ≤ x ∧ a < N ∧ b < N ∧ U a = true ∧ U b = true
  | 0, _, _, _, h => by obtain ⟨h1, h2, h3, h4, h5, h6⟩ := hw _ _ _ h; exact ⟨h6, h1, h2, h3, h4⟩
  | _ + 1, _, _, _, ⟨v, c, y, h1, h2, h3, h4⟩ => by
    obtain ⟨g1, g2, g3, g4, g5, g6⟩ := hw _ _ _ h2
    obtain ⟨k1, k2, k3, k4, k5⟩ := wk_pos hw h3
    exact ⟨by omega, g1, k3, g3, k5⟩
theorem wk_len {w : EW} {U : Nat → Bool} {N m b : Nat} {d : Nat → Nat → Option Nat} (hw : EWok w U N) (h : ∀ a b, dst w U m a b (d a b)) : ∀ {n a y}, ¬ a = b → wk' w m n a b y → d a b = some y → n + 2 ≤ cnt (fun v => ole (d v b) y) N
  | 0, a, y, hn, g, e => by
    obtain ⟨k1, k2, k3, k4, k5⟩ := wk_pos hw g
    have hb : d b b = some 0 := (h b b).1 ⟨rfl, k5⟩
    have pa : ole (d a b) y = true := by rw [e]; exact decide_eq_true (Nat.le_refl _)
    have pb : ole (d b b) y = true := by rw [hb]; exact decide_eq_true (Nat.zero_le y)
    rw [cnt_del (p := fun v => ole (d v b) y) (u := a) pa k2]
    have pb2 : dlt (fun v => ole (d v b) y) a b = true := by unfold dlt; rw [decide_eq_true (show ¬ b = a from fun z => hn z.symm)]; show (ole (d b b) y && true) = true; rw [pb]; rfl
    rw [cnt_del pb2 k3]; omega
  | n + 1, a, y, hn, ⟨v, c, y', h1, h2, h3, h4⟩, e => by
    obtain ⟨g1, g2, g3, g4, g5, g6⟩ := hw _ _ _ h2
    obtain ⟨k1, k2, k3, k4, k5⟩ := wk_pos hw h3
    have lo : ∀ n x, wk' w m n a b x → y ≤ x := fun n x q => by
      obtain ⟨z, z1, z2⟩ := dst_lo (h a b) q
      rw [e] at z1; cases z1; exact z2
    have hv : ¬ v = b := fun z => by
      have := lo 0 c (by rw [← z]; exact h2)
      omega
    obtain ⟨z, z1, z2⟩ := dst_lo (h v b) h3
    have hz : d v b = some y' := by
      obtain ⟨n', q⟩ := ((h v b).2 (fun q => hv q.1)).1 z z1
      have := lo (n' + 1) (c + z) ⟨v, c, z, h1, h2, q, rfl⟩
      rw [z1, show z = y' by omega]
    have ih := wk_len hw h hv h3 hz
    have pa : ole (d a b) y = true := by rw [e]; exact decide_eq_true (Nat.le_refl _)
    rw [cnt_del (p := fun v => ole (d v b) y) (u := a) pa g1]
    have mo : cnt (fun v => ole (d v b) y') N ≤ cnt (dlt (fun v => ole (d v b) y) a) N := cnt_mono fun k hk hp => by
      have hp : ole (d k b) y' = true := hp
      unfold dlt
      cases ek : d k b with
      | none => rw [ek] at hp; cases hp
      | some t =>
        rw [ek] at hp
        have ht : t ≤ y' := of_decide_eq_true hp
        have nk : ¬ k = a := fun q => by rw [q, e] at ek; cases ek; omega
        show (ole (d k b) y && decide (¬ k = a)) = true
        rw [ek, decide_eq_true nk]
        show (decide (t ≤ y) && true) = true
        rw [decide_eq_true (by omega)]; rfl
    omega
