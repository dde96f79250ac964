/-! least ways: bounds, the matrix as ints -/
theorem wk_le {w : EW} {B m : Nat} (hB : ∀ a b c, w a b = some c → c ≤ B) : ∀ {n a b x}, wk' w m n a b x → x ≤ (n + 1) * B
  | 0, _, _, _, h => by have := hB _ _ _ h; omega
  | n + 1, _, _, _, ⟨_, c, y, _, h2, h3, h4⟩ => by
    have h1 := hB _ _ _ h2
    have h5 := wk_le hB h3
    rw [Nat.succ_mul]; omega
theorem dst_bd {w : EW} {U : Nat → Bool} {N B m : Nat} {d : Nat → Nat → Option Nat} (hw : EWok w U N) (hB : ∀ a b c, w a b = some c → c ≤ B) (h : ∀ a b, dst w U m a b (d a b)) {a b x : Nat} (e : d a b = some x) : (a = b ∧ x = 0) ∨ ∃ n, n + 2 ≤ N ∧ wk' w m n a b x ∧ x ≤ N * B ∧ ¬ a = b := by
  by_cases hc : a = b ∧ U a = true
  · have := (h a b).1 hc
    rw [e] at this; cases this
    exact Or.inl ⟨hc.1, rfl⟩
  · obtain ⟨n, g⟩ := ((h a b).2 hc).1 x e
    obtain ⟨k1, k2, k3, k4, k5⟩ := wk_pos hw g
    have hn : ¬ a = b := fun z => hc ⟨z, k4⟩
    have h1 := wk_len hw h hn g e
    have h2 := cnt_le (fun v => ole (d v b) x) N
    have h3 := wk_le hB g
    have h4 : (n + 1) * B ≤ N * B := Nat.mul_le_mul_right B (by omega)
    exact Or.inr ⟨n, by omega, g, by omega, hn⟩
theorem dst_mid {w : EW} {U : Nat → Bool} {N m : Nat} {d : Nat → Nat → Option Nat} (hw : EWok w U N) (h : ∀ a b, dst w U m a b (d a b)) (a : Nat) : omin (d a m) (oadd (d a m) (d m m)) = d a m ∧ omin (d m a) (oadd (d m m) (d m a)) = d m a := by
  cases hu : U m with
  | true =>
    rw [(h m m).1 ⟨rfl, hu⟩]
    constructor
    · cases d a m with
      | none => rfl
      | some x => show some (min x (x + 0)) = _; rw [Nat.add_zero, Nat.min_self]
    · cases d m a with
      | none => rfl
      | some x => show some (min x (0 + x)) = _; rw [Nat.zero_add, Nat.min_self]
  | false =>
    have hn : d m m = none := by
      cases e : d m m with
      | none => rfl
      | some x =>
        obtain ⟨n, g⟩ := ((h m m).2 (fun q => by rw [q.2] at hu; cases hu)).1 x e
        have := (wk_pos hw g).2.2.2.1
        rw [this] at hu; cases hu
    rw [hn]
    constructor
    · cases d a m with
      | none => rfl
      | some x => rfl
    · cases d m a with
      | none => rfl
      | some x => rfl
def fI (z : Nat) (o : Option Nat) : Int32 := match o with
  | none => nI z
  | some x => nI x
def fwS (d : Nat → Nat → Option Nat) (m a b : Nat) : Option Nat := omin (d a b) (oadd (d a m) (d m b))
/-- far once, or a sum of two that are not -/
theorem fw_c {p q r : Option Nat} (hp : ∀ x, p = some x → x < 100000000) (hq : ∀ x, q = some x → x < 100000000) (hr : ∀ x, r = some x → x < 100000000) : (if (if (fI 268435456 q + fI 268435456 r) < nI 268435456 then (fI 268435456 q + fI 268435456 r) else nI 268435456) < fI 268435456 p then (if (fI 268435456 q + fI 268435456 r) < nI 268435456 then (fI 268435456 q + fI 268435456 r) else nI 268435456) else fI 268435456 p) = fI 268435456 (omin p (oadd q r)) := by
  have F : ∀ o : Option Nat, (∀ x, o = some x → x < 100000000) → ∃ n, fI 268435456 o = nI n ∧ n ≤ 268435456 ∧ ((o = none ∧ n = 268435456) ∨ (o = some n ∧ n < 100000000)) := fun o ho => by
    cases o with
    | none => exact ⟨268435456, rfl, Nat.le_refl _, Or.inl ⟨rfl, rfl⟩⟩
    | some x => exact ⟨x, rfl, by have := ho x rfl; omega, Or.inr ⟨rfl, ho x rfl⟩⟩
  obtain ⟨a, ea, ba, ca⟩ := F p hp
  obtain ⟨b, eb, bb, cb⟩ := F q hq
  obtain ⟨c, ec, bc, cc⟩ := F r hr
  rw [ea, eb, ec, nI_add, min_nI (by omega) (by omega), min_nI (by omega) (by omega)]
  rcases cb with ⟨rfl, e2⟩ | ⟨rfl, e2⟩
  · have : oadd none r = none := rfl
    rw [this, show min (min (b + c) 268435456) a = a by omega]
    rcases ca with ⟨rfl, e1⟩ | ⟨rfl, e1⟩
    · rw [e1]; rfl
    · rfl
  · rcases cc with ⟨rfl, e3⟩ | ⟨rfl, e3⟩
    · have : oadd (some b) none = none := rfl
      rw [this, show min (min (b + c) 268435456) a = a by omega]
      rcases ca with ⟨rfl, e1⟩ | ⟨rfl, e1⟩
      · rw [e1]; rfl
      · rfl
    · have : oadd (some b) (some c) = some (b + c) := rfl
      rw [this]
      rcases ca with ⟨rfl, e1⟩ | ⟨rfl, e1⟩
      · show _ = nI (b + c)
        rw [show min (min (b + c) 268435456) a = b + c by omega]
      · show _ = nI (min a (b + c))
        rw [show min (min (b + c) 268435456) a = min a (b + c) by omega]
