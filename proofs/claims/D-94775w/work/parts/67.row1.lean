/-! a row of told words: LetterHeaps, in the order of the words -/
def srt (n : Nat) (g : Nat → Nat) : Prop := ∀ a b, a < b → b < n → g a < g b
def swq (g : Nat → Nat) (j k : Nat) : Nat := if k = j then g (j + 1) else if k = j + 1 then g j else g k
theorem Pm_sw {n : Nat} {g h : Nat → Nat} (p : Pm n g h) {j : Nat} (hj : j + 1 < n) : Pm n (swq g j) h := by
  have sw : ∀ i, i < n → ∃ i', i' < n ∧ swq g j i = g i' ∧ swq g j i' = g i := fun i hi => by
    by_cases e1 : i = j
    · refine ⟨j + 1, hj, ?_, ?_⟩
      · unfold swq; rw [if_pos e1]
      · unfold swq; rw [if_neg (by omega), if_pos rfl, e1]
    · by_cases e2 : i = j + 1
      · refine ⟨j, by omega, ?_, ?_⟩
        · unfold swq; rw [if_neg e1, if_pos e2]
        · unfold swq; rw [if_pos rfl, e2]
      · refine ⟨i, hi, ?_, ?_⟩ <;> (unfold swq; rw [if_neg e1, if_neg e2])
  obtain ⟨p1, p2, p3, p4⟩ := p
  refine ⟨fun i hi => ?_, fun k hk => ?_, fun a b ha hb e => ?_, p4⟩
  · obtain ⟨i', h1, h2, _⟩ := sw i hi
    obtain ⟨k, h3, h4⟩ := p1 i' h1
    exact ⟨k, h3, h2.trans h4⟩
  · obtain ⟨i, h1, h2⟩ := p2 k hk
    obtain ⟨i', h3, _, h4⟩ := sw i h1
    exact ⟨i', h3, h4.trans h2⟩
  · unfold swq at e
    by_cases a1 : a = j
    · rw [if_pos a1] at e
      by_cases b1 : b = j
      · omega
      · rw [if_neg b1] at e
        by_cases b2 : b = j + 1
        · rw [if_pos b2] at e; have := p3 _ _ hj (by omega) e; omega
        · rw [if_neg b2] at e; have := p3 _ _ hj hb e; omega
    · rw [if_neg a1] at e
      by_cases a2 : a = j + 1
      · rw [if_pos a2] at e
        by_cases b1 : b = j
        · rw [if_pos b1] at e; have := p3 _ _ (by omega) hj e; omega
        · rw [if_neg b1] at e
          by_cases b2 : b = j + 1
          · omega
          · rw [if_neg b2] at e; have := p3 _ _ (by omega) hb e; omega
      · rw [if_neg a2] at e
        by_cases b1 : b = j
        · rw [if_pos b1] at e; have := p3 _ _ ha hj e; omega
        · rw [if_neg b1] at e
          by_cases b2 : b = j + 1
          · rw [if_pos b2] at e; have := p3 _ _ ha (by omega) e; omega
          · rw [if_neg b2] at e; exact p3 _ _ ha hb e
def S184 (r _k : Nat) : Prop := r = 184
def GdC (g : Nat → Nat) (n : Nat) (M : WM) : Prop := ∀ k, k < n → wI M 184 k = nI (g k)
theorem s_X0_sorts {σ : WS} {tp : Nat → Int32} {n : Nat} {M : WM} {Q : WM → Prop} (ok : wsOK σ) (hd : TdC tp n M) (hu : okW σ tp n) (hn : n ≤ 14) (h1n : 1 ≤ n) (h25 : wI M 0 25 = nI n) (h : ∀ g M', Pm n g (td tp) → srt n g → GdC g n M' → Fr S184 M M' → Q M') : m_X0_sorts M Q := by
  have hs := ok.1
  have P0 : Pm n (td tp) (td tp) := ⟨fun i hi => ⟨i, hi, rfl⟩, fun i hi => ⟨i, hi, rfl⟩, fun i j hi hj e => okW_inj ok hu hi hj e, fun i j hi hj e => okW_inj ok hu hi hj e⟩
  have lt40 : ∀ {g}, Pm n g (td tp) → ∀ k, k < n → g k < 40 := fun p k hk => by
    obtain ⟨j, hj, e⟩ := p.1 k hk
    have := (okW_td ok hu hj).2
    omega
  have k25 : ∀ {M'}, Fr S184 M M' → wI M' 0 25 = nI n := fun f => by rw [f.I (by unfold S184; omega)]; exact h25
  refine pk_loop (fun k i M' => m_X0_sorts_l2 Q k (nI i) M') (fun i M' => Fr S184 M M' ∧ ∃ g, Pm n g (td tp) ∧ srt i g ∧ GdC g n M') n 1 M h1n ⟨Fr.rf, td tp, P0, fun a b h1 h2 => by omega, hd⟩ ?_ ?_
  · intro k M' ⟨q1, g, q2, q3, q4⟩
    unfold m_X0_sorts_l2
    rw [k25 q1]
    exact ⟨fun _ => h g M' q2 q3 q4 q1, fun z => absurd (Int32.le_refl _) z⟩
  · intro k i M' hi ⟨q1, g, q2, q3, q4⟩ ih
    unfold m_X0_sorts_l2
    rw [k25 q1]
    refine ⟨fun z => absurd z (nI_ge hi (by omega)), fun _ => ?_⟩
    refine ⟨_, pk_loopD (fun k' j M2 => m_X0_sorts_l12 (fun x1' M' => m_X0_sorts_l2 Q k x1' M') (nI i) Q k' (nI j) M2) (fun j M2 => j ≤ i ∧ Fr S184 M M2 ∧ ∃ g, Pm n g (td tp) ∧ GdC g n M2 ∧ (∀ a b, a < b → b ≤ i → ¬ a = j → ¬ b = j → g a < g b) ∧ ∀ b, j < b → b ≤ i → g j < g b) ?_ ?_ i M' ⟨Nat.le_refl _, q1, g, q2, q4, fun a b h1 h2 _ h4 => q3 a b h1 (by omega), fun b h1 h2 => absurd h1 (by omega)⟩⟩
    · intro k' M2 ⟨_, p1, g2, p2, p3, p4, p5⟩
      refine ⟨fun _ y ey => ?_, fun z => absurd (Int32.le_refl _) z⟩
      rw [ey, nI_1]
      refine ih M2 ⟨p1, g2, p2, fun a b h1 h2 => ?_, p3⟩
      by_cases e : a = 0
      · rw [e]; exact p5 b (by omega) (by omega)
      · exact p4 a b h1 (by omega) e (by omega)
    · intro k' j M2 ⟨p0, p1, g2, p2, p3, p4, p5⟩ ih2
      have b1 := lt40 p2 j (by omega)
      have b2 := lt40 p2 (j + 1) (by omega)
      refine ⟨fun z => absurd z (nI_nle (by omega) (by omega)), fun _ => ?_⟩
      rw [show nI (j + 1) - 1 = nI j from nI_pred j, nI_clamp (show j < 2 ^ 31 by omega), nI_clamp (show j + 1 < 2 ^ 31 by omega), p3 j (by omega), p3 (j + 1) (by omega)]
      refine ⟨vin (by omega), vin (by omega), pk_le (g2 j) (g2 (j + 1)) (fun c y ey => ?_) (fun c => ⟨vin (by omega), fun z8 e8 => ⟨vin (by omega), vin (by omega), fun M11 e11 => ⟨vin (by omega), fun M13 e13 y ey => ?_⟩⟩⟩) rfl rfl⟩
      · have hne : g2 j < g2 (j + 1) := by
          rcases Nat.lt_or_eq_of_le c with q | q
          · exact q
          · have := p2.2.2.1 j (j + 1) (by omega) (by omega) q; omega
        rw [ey, nI_1]
        refine ih M2 ⟨p1, g2, p2, fun a b h1 h2 => ?_, p3⟩
        by_cases ea : a = j + 1
        · rw [ea]; exact p5 b (by omega) (by omega)
        · by_cases eb : b = j + 1
          · rw [eb]
            by_cases ea2 : a = j
            · rw [ea2]; exact hne
            · have := p4 a j (by omega) (by omega) (by omega) (by omega); omega
          · exact p4 a b h1 (by omega) ea eb
      · rw [ey, pk_m1]
        rw [e8] at e13
        refine ih2 M13 ⟨by omega, by rw [e13, e11]; exact (p1.PI (show S184 184 _ from rfl)).PI (show S184 184 _ from rfl), swq g2 j, Pm_sw p2 (by omega), fun q hq => ?_, fun a b h1 h2 h3 h4 => ?_, fun b h1 h2 => ?_⟩
        · rw [e13, wI_PI, e11, wI_PI]
          unfold swq
          by_cases e1 : q = j
          · rw [if_pos ⟨rfl, e1⟩, if_pos e1]
          · rw [if_neg (fun z => e1 z.2), if_neg e1]
            by_cases e2 : q = j + 1
            · rw [if_pos ⟨rfl, e2⟩, if_pos e2]
            · rw [if_neg (fun z => e2 z.2), if_neg e2]; exact p3 q hq
        · unfold swq
          rw [if_neg h3, if_neg h4]
          by_cases ea : a = j + 1
          · rw [if_pos ea, if_neg (by omega)]; exact p4 j b (by omega) h2 (by omega) (by omega)
          · rw [if_neg ea]
            by_cases eb : b = j + 1
            · rw [if_pos eb]; exact p4 a j (by omega) (by omega) ea (by omega)
            · rw [if_neg eb]; exact p4 a b h1 h2 ea eb
        · unfold swq
          rw [if_pos rfl, if_neg (by omega)]
          by_cases eb : b = j + 1
          · rw [if_pos eb]; omega
          · rw [if_neg eb]; exact p5 b (by omega) h2
def VRo (t : Nat) (n z : Int32) : Prop := (2 ≤ n.toInt ∧ n.toInt ≤ 10) ∧ (-1 ≤ z.toInt ∧ z.toInt ≤ n.toInt - 1) ∧ n.toInt ≤ t
theorem p10 {n : Nat} (h : n ≤ 10) : 2 ^ n ≤ 1024 := Nat.pow_le_pow_right (by omega) h
def SRt (r _k : Nat) : Prop := 186 ≤ r ∧ r < 1211
def RC0 (σ : WS) (lm : Lam) (g : Nat → Nat) (n S : Nat) (M : WM) : Prop := ∀ a, a < n → S.testBit a = true → wI M (186 + S) a = fI 268435456 (Dr σ lm g n S (some a))
theorem min_far {p q : Option Nat} (hp : ∀ x, p = some x → x < 100000000) (hq : ∀ x, q = some x → x < 100000000) : (if (fI 268435456 p + fI 268435456 q) < (268435456 : Int32) then (fI 268435456 p + fI 268435456 q) else 268435456) = fI 268435456 (oadd p q) := by
  have F : ∀ o : Option Nat, (∀ x, o = some x → x < 100000000) → ∃ n, fI 268435456 o = nI n ∧ n ≤ 268435456 ∧ ((o = none ∧ n = 268435456) ∨ (o = some n ∧ n < 100000000)) := fun o ho => by
    cases o with
    | none => exact ⟨268435456, rfl, Nat.le_refl _, Or.inl ⟨rfl, rfl⟩⟩
    | some x => exact ⟨x, rfl, by have := ho x rfl; omega, Or.inr ⟨rfl, ho x rfl⟩⟩
  obtain ⟨b, eb, bb, cb⟩ := F p hp
  obtain ⟨c, ec, bc, cc⟩ := F q hq
  rw [eb, ec, nI_add, show (268435456 : Int32) = nI 268435456 from rfl, min_nI (by omega) (by omega)]
  rcases cb with ⟨rfl, e2⟩ | ⟨rfl, e2⟩
  · rw [show oadd none q = none from rfl, show min (b + c) 268435456 = 268435456 by omega]; rfl
  · rcases cc with ⟨rfl, e3⟩ | ⟨rfl, e3⟩
    · rw [show oadd (some b) none = none from rfl, show min (b + c) 268435456 = 268435456 by omega]; rfl
    · rw [show oadd (some b) (some c) = some (b + c) from rfl, show min (b + c) 268435456 = b + c by omega]; rfl
theorem min_fI {p q : Option Nat} (hp : ∀ x, p = some x → x < 100000000) (hq : ∀ x, q = some x → x < 100000000) : (if fI 268435456 q < fI 268435456 p then fI 268435456 q else fI 268435456 p) = fI 268435456 (omin p q) := by
  cases p with
  | none =>
    cases q with
    | none => show (if nI 268435456 < nI 268435456 then nI 268435456 else nI 268435456) = nI 268435456; split <;> rfl
    | some y =>
      have := hq y rfl
      show (if nI y < nI 268435456 then nI y else nI 268435456) = nI y
      rw [min_nI (by omega) (by omega), show min y 268435456 = y by omega]
  | some x =>
    have := hp x rfl
    cases q with
    | none =>
      show (if nI 268435456 < nI x then nI 268435456 else nI x) = nI x
      rw [min_nI (by omega) (by omega), show min 268435456 x = x by omega]
    | some y =>
      have := hq y rfl
      show (if nI y < nI x then nI y else nI x) = nI (min x y)
      rw [min_nI (by omega) (by omega), Nat.min_comm]
/-- the last word as LetterHeaps keeps it: of none the first place -/
def lsI (S : Nat) (l : Option Nat) (i : Nat) : Prop := (S = 0 ∧ l = none ∧ i = 0) ∨ (¬ S = 0 ∧ l = some i)
theorem by_b {σ : WS} {lm : Lam} (lo : lamOK lm) {g : Nat → Nat} {n S : Nat} (hn : n ≤ 14) {l : Option Nat} {k x : Nat} (h : byR σ lm g n S l k = some x) : x < 10000 := by
  unfold byR at h
  split at h
  · cases h
  · obtain ⟨x1, x2, e1, e2, e3⟩ := oadd_of h
    have := ec_b lo e1
    have := Dr_b lo e2
    omega
theorem mnO_b {p : Nat → Option Nat} {n : Nat} (h : ∀ k x, p k = some x → x < 10000) {x : Nat} (e : mnO p n = some x) : x < 10000 := by
  obtain ⟨i, _, g⟩ := mnO_at e
  exact h i x g
theorem s_X0_restBy {σ : WS} {lm : Lam} {g : Nat → Nat} {n S i k : Nat} {l : Option Nat} {M : WM} {Q : Int32 → Prop} (hS : StB σ lm M) (ok : wsOK σ) (lo : lamOK lm) (hd : GdC g n M) (hg : ∀ k, k < n → g k < sN σ) (hn : n ≤ 10) (h0 : S < 2 ^ n) (hi : i < n) (hl : lsI S l i) (hk : k < n) (hb : S.testBit k = false) (hG : ∀ T, S < T → T < 2 ^ n → RC0 σ lm g n T M) (h : Q (fI 268435456 (byR σ lm g n S l k))) : m_X0_restBy (nI S) (nI i) (nI k) M Q := by
  have hs := ok.1
  have h10 := p10 hn
  have hb2 := or_bd h0 hk
  have hup := or_up hb
  have eb : byR σ lm g n S l k = oadd (ecR σ lm g l k) (Dr σ lm g n (S ||| 2 ^ k) (some k)) := by unfold byR; rw [if_neg (by rw [hb]; decide)]
  rw [eb] at h
  have j26 : m_X0_restBy_j26 (nI S) (nI k) (fI 268435456 (ecR σ lm g l k)) M Q := by
    unfold m_X0_restBy_j26
    rw [bit32 (by omega), nI_or, nI_clamp (show S ||| 2 ^ k < 2 ^ 31 by omega), nI_clamp (show k < 2 ^ 31 by omega), hG _ hup hb2 k hk (by rw [Nat.testBit_or, Nat.testBit_two_pow_self, Bool.or_true]), min_far (fun x e => by have := ec_b lo e; omega) (fun x e => by have := Dr_b lo e; omega)]
    exact ⟨vin (by omega), vin (by omega), h⟩
  unfold m_X0_restBy
  refine pk_eq S 0 (fun c => ?_) (fun c => ?_) rfl rfl
  · rcases hl with ⟨_, rfl, _⟩ | ⟨q, _⟩
    · exact j26
    · exact absurd c q
  · rcases hl with ⟨q, _, _⟩ | ⟨_, rfl⟩
    · exact absurd q c
    · have gi := hg i hi
      have gk := hg k hk
      rw [nI_clamp (show i < 2 ^ 31 by omega), nI_clamp (show k < 2 ^ 31 by omega), hd i hi, hd k hk, nI_clamp (show g i < 2 ^ 31 by omega), nI_clamp (show g k < 2 ^ 31 by omega)]
      have e1 : wI M (10 + g i) (g k) = fI 268435456 (ecR σ lm g (some i) k) := by
        show _ = fI 268435456 (cst σ lm (g i) (g k))
        rcases rdS hS lo gi gk with ⟨e1, e2⟩ | ⟨c, e1, _, _, e2⟩ <;> rw [e1, e2] <;> rfl
      rw [e1]
      exact ⟨vin (by omega), vin (by omega), vin (by omega), vin (by omega), j26⟩
theorem s_X0_leastRest {σ : WS} {lm : Lam} {g : Nat → Nat} {n S i : Nat} {l : Option Nat} {M : WM} {Q : Int32 → Prop} (hS : StB σ lm M) (ok : wsOK σ) (lo : lamOK lm) (hd : GdC g n M) (hg : ∀ k, k < n → g k < sN σ) (hn : n ≤ 10) (h25 : wI M 0 25 = nI n) (h0 : S < 2 ^ n) (hi : i < n) (hl : lsI S l i) (hG : ∀ T, S < T → T < 2 ^ n → RC0 σ lm g n T M) (h : Q (fI 268435456 (mnO (byR σ lm g n S l) n))) : m_X0_leastRest (nI S) (nI i) M Q := by
  have h10 := p10 hn
  have bb : ∀ j x, mnO (byR σ lm g n S l) j = some x → x < 100000000 := fun j x e => by have := mnO_b (fun k x e => by_b lo (by omega) e) e; omega
  refine pk_loop (fun k j (s : Int32) => m_X0_leastRest_l6 (nI S) (nI i) M Q k s (nI j)) (fun j s => s = fI 268435456 (mnO (byR σ lm g n S l) j)) n 0 268435456 (by omega) rfl ?_ ?_
  · intro k s es
    subst es
    unfold m_X0_leastRest_l6
    rw [h25]
    exact ⟨fun _ => h, fun z => absurd (Int32.le_refl _) z⟩
  · intro k j s hj es ih
    unfold m_X0_leastRest_l6
    rw [h25]
    refine ⟨fun z => absurd z (nI_ge hj (by omega)), fun _ => s_X0_has (by omega) ?_⟩
    rw [lb_nI (by omega) (by omega)]
    refine bcs (fun c y ey => ?_) (fun c => s_X0_restBy hS ok lo hd hg hn h0 hi hl hj c hG fun z6 e6 y ey => ?_)
    · rw [ey, nI_1]
      refine ih s ?_
      rw [es, mnO, show byR σ lm g n S l j = none from if_pos c]
      cases mnO (byR σ lm g n S l) j <;> rfl
    · rw [ey, nI_1]
      refine ih z6 ?_
      rw [e6, es, min_fI (fun x e => bb j x e) (fun x e => by have := by_b lo (n := n) (by omega) e; omega)]; rfl
