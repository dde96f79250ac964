/-! a row of told words, whole -/
theorem lft_all {n S : Nat} (hS : S < 2 ^ n) : lft n S = 0 ↔ S = 2 ^ n - 1 := by
  unfold lft
  rw [cnt_0]
  constructor
  · intro h
    refine Nat.eq_of_testBit_eq fun i => ?_
    rw [Nat.testBit_two_pow_sub_one]
    by_cases c : i < n
    · have := h i c
      rw [decide_eq_true c]
      cases e : S.testBit i with
      | true => rfl
      | false => rw [e] at this; cases this
    · rw [decide_eq_false c]
      exact Nat.testBit_lt_two_pow (Nat.lt_of_lt_of_le hS (Nat.pow_le_pow_right (by omega) (by omega)))
  · intro h k hk
    rw [h, Nat.testBit_two_pow_sub_one, decide_eq_true hk]; rfl
theorem am_srt {p : Nat → Bool} {g : Nat → Nat} {n c : Nat} (hs : srt n g) (h : amW p g n = some c) : lst p n = c := by
  obtain ⟨c1, c2, c3⟩ := amW_ok.2 c h
  refine lst_eq (fun j hj => ?_) (by omega) (fun _ => c2)
  cases e : p j with
  | false => rfl
  | true =>
    have := c3 j (by omega) e
    have := hs j c hj c1
    omega
theorem fI_inj {z : Nat} {p q : Option Nat} (hz : z < 2 ^ 31) (hp : ∀ x, p = some x → x < z) (hq : ∀ x, q = some x → x < z) : fI z p = fI z q ↔ p = q := by
  cases p with
  | none =>
    cases q with
    | none => exact ⟨fun _ => rfl, fun _ => rfl⟩
    | some y => have := hq y rfl; exact ⟨fun e => absurd ((nI_eq hz (by omega)).mp e) (by omega), fun e => by cases e⟩
  | some x =>
    have := hp x rfl
    cases q with
    | none => exact ⟨fun e => absurd ((nI_eq (by omega) hz).mp e) (by omega), fun e => by cases e⟩
    | some y => have := hq y rfl; exact ⟨fun e => by rw [(nI_eq (by omega) (by omega)).mp e], fun e => by cases e; rfl⟩
def SRwC (r k : Nat) : Prop := SWC r k ∨ SLay r k ∨ SRt r k
theorem s_X0_row {σ : WS} {lm : Lam} {tp : Nat → Int32} {t : Nat} {M : WM} {x z : Int32} {Q : Int32 → WM → Prop} (hW : WC σ M) (ok : wsOK σ) (hl : LawC lm M) (lo : lamOK lm) (hC : wI M 0 8 = wI M 0 7 → Laid σ lm M) (hT : TC tp t M) (ht : t ≤ 200) (h0 : ¬ VRo t x z → Q (-1) M) (h2 : ∀ n, x = nI n → VRo t x z → ¬ okU σ tp n → ∀ M', TC tp 0 M' → Fr SWC M M' → Q (-3) M') (h1 : ∀ n, x = nI n → VRo t x z → okU σ tp n → ∀ M', TC tp 0 M' → Laid σ lm M' → Fr SRwC M M' → Q (rowV σ lm (td tp) n z) M') : m_X0_row x z M Q := by
  have hs := ok.1
  refine s_X0_within (bdc (fun e => ?_) (fun e => h0 fun q => e q.1))
  have e : 2 ≤ x.toInt ∧ x.toInt ≤ 10 := e
  obtain ⟨n, hn, ex, en⟩ := nI_ex (x := x) (by omega)
  subst ex
  refine s_X0_within ?_
  rw [show nI n - (1 : Int32) = nI (n - 1) from pk_sub (b := 1) (by omega), nI_toInt (show n - 1 < 2 ^ 31 by omega), show (-1 : Int32).toInt = -1 by decide]
  refine bdc (fun e2 => ?_) (fun e2 => h0 fun q => by have := q.2.1; omega)
  rw [hT.2]
  refine pk_le n t (fun e3 => ?_) (fun e3 => h0 fun q => by have := q.2.2; omega) rfl rfl
  have hV : VRo t (nI n) z := ⟨e, by omega, by omega⟩
  have h10 := p10 (n := n) (by omega)
  refine s_X0_takesUsed hW ok hT (by omega) (fun hu M7 d7 n7 t7 f7 => ie1 ?_) (fun hu M7 t7 f7 => ie0 (h2 n rfl hV hu M7 t7 f7))
  have w7 : WC σ M7 := hW.fr ok f7 (by unfold SWC PWC; omega)
  have hC7 : wI M7 0 8 = wI M7 0 7 → Laid σ lm M7 := fun q => (hC (by rw [f7.I (by unfold SWC; omega), f7.I (by unfold SWC; omega)] at q; exact q)).fr ok f7 (by unfold SWC; omega)
  refine s_X0_lays w7 ok (hl.mv (f7.law (by unfold SWC LR; omega))) lo hC7 fun M10 L10 _ f10 => ?_
  have d10 : TdC tp n M10 := fun k hk => by rw [f10.I (by unfold SLay; omega)]; exact d7 k hk
  refine s_X0_sorts ok d10 hu.1 (by omega) (by omega) (by rw [f10.I (by unfold SLay; omega)]; exact n7) fun g M12 pm sg d12 f12 z13 e13 => ?_
  have L12 : Laid σ lm M12 := L10.fr ok f12 (by unfold S184; omega)
  have F12 : Fr SRwC M M12 := (f7.mono fun r k q => Or.inl q).tr ((f10.mono fun r k q => Or.inr (Or.inl q)).tr (f12.mono fun r k q => Or.inl (Or.inr q)))
  have t12 : TC tp 0 M12 := ⟨fun k => by rw [f12.I (by unfold S184; omega), f10.I (by unfold SLay; omega)]; exact t7.1 k, by rw [f12.I (by unfold S184; omega), f10.I (by unfold SLay; omega)]; exact t7.2⟩
  have n12 : wI M12 0 25 = nI n := by rw [f12.I (by unfold S184; omega), f10.I (by unfold SLay; omega)]; exact n7
  have hg : ∀ k, k < n → g k < sN σ := fun k hk => by
    obtain ⟨j, hj, ej⟩ := pm.1 k hk
    rw [ej]; exact (okW_td ok hu.1 hj).2
  have fx : ∀ {M'}, Fr SRt M12 M' → Laid σ lm M' ∧ GdC g n M' ∧ wI M' 0 25 = nI n ∧ TC tp 0 M' ∧ Fr SRwC M M' := fun f => ⟨L12.fr ok f (by unfold SRt; omega), fun k hk => by rw [f.I (by unfold SRt; omega)]; exact d12 k hk, by rw [f.I (by unfold SRt; omega)]; exact n12, ⟨fun k => by rw [f.I (by unfold SRt; omega)]; exact t12.1 k, by rw [f.I (by unfold SRt; omega)]; exact t12.2⟩, F12.tr (f.mono fun r k q => Or.inr (Or.inr q))⟩
  have hh : ∀ M', TC tp 0 M' → Laid σ lm M' → Fr SRwC M M' → Q (rowV σ lm g n z) M' := fun M' t' L' f' => by
    rw [rowV_m pm (by omega)]; exact h1 n rfl hV hu M' t' L' f'
  have p1 : 1 < 2 ^ n := by
    have : 2 ^ 1 ≤ 2 ^ n := Nat.pow_le_pow_right (by omega) (by omega)
    omega
  have ez : z13 = nI (2 ^ n - 1) := by rw [e13, bit32 (by omega)]; exact pk_sub (b := 1) (by omega)
  have Dbd : ∀ S l x, Dr σ lm g n S l = some x → x < 10000 := fun S l x e => by have := Dr_b lo e; omega
  rw [ez]
  refine ⟨_, pk_loopD (fun k S M' => m_X0_row_l59 (nI n) z (nI (2 ^ n - 1)) Q k (nI S) M') (fun S M' => S < 2 ^ n ∧ Fr SRt M12 M' ∧ ∀ T, S < T → T < 2 ^ n → RC0 σ lm g n T M') ?_ ?_ (2 ^ n - 1) M12 ⟨by omega, Fr.rf, fun T h1 h2 => absurd h1 (by omega)⟩⟩
  · intro k M' ⟨_, q2, q3⟩
    obtain ⟨L', d', n', t', F'⟩ := fx q2
    have hh := hh M' t' L' F'
    refine ⟨fun _ => s_X0_leastRest (S := 0) (i := 0) (l := none) L'.1 ok lo d' hg (by omega) n' (by omega) (by omega) (Or.inl ⟨rfl, rfl, rfl⟩) q3 ?_, fun z => absurd (Int32.le_refl _) z⟩
    rw [← Dr_eq none (fun q => by have := (lft_all (S := 0) (by omega)).mp q; omega)]
    unfold rowV at hh
    cases e5 : Dr σ lm g n 0 none with
    | none => rw [e5] at hh; exact ⟨fun _ => hh, fun z => absurd rfl z⟩
    | some y =>
      have yb := Dbd _ _ _ e5
      rw [e5] at hh
      have hh : Q (if z = -1 then nI y else (match (pth σ lm g n (z.toInt.toNat + 1)).2 with
        | none => -2
        | some c => nI (g c))) M' := hh
      refine pk_eq y 268435456 (fun q => absurd q (by omega)) (fun _ => ⟨fun c => ?_, fun c => ?_⟩) rfl rfl
      · rw [if_pos c] at hh; exact hh
      · rw [if_neg c] at hh
        obtain ⟨m, hm, rfl, em⟩ := nI_ex (x := z) (by
          rcases Int.lt_or_le z.toInt 0 with w | w
          · exact absurd (by rw [i_eq]; show z.toInt = -1; omega) c
          · exact w)
        rw [em, Int.toNat_natCast] at hh
        refine pk_loop (fun k' i (s : Nat × Nat) => m_X0_row_l159 (nI m) Q k' (nI s.1) (nI s.2) (nI i) M') (fun i s => s.1 = (pth σ lm g n i).1 ∧ s.2 < n ∧ lsI s.1 (pth σ lm g n i).2 s.2 ∧ (0 < i → (pth σ lm g n i).2 = some s.2)) (m + 1) 0 (0, 0) (by omega) ⟨rfl, by show 0 < n; omega, Or.inl ⟨rfl, rfl, rfl⟩, fun h => absurd h (by omega)⟩ ?_ ?_
        · intro k' ⟨S, i⟩ ⟨r1, r2, r3, r4⟩
          rw [r4 (by omega)] at hh
          refine pk_lt m (m + 1) (fun _ => ⟨vin (by omega), ?_⟩) (fun q => absurd q (by omega)) rfl rfl
          rw [nI_clamp (show i < 2 ^ 31 by omega), d' i r2]; exact hh
        · intro k' j ⟨S, i⟩ hj ⟨r1, r2, r3, r4⟩ ih
          dsimp only at r1 r2 r3 r4 ⊢
          have hjn : j < n := by omega
          obtain ⟨g1, ⟨y2, g2⟩, g3, g4, g5⟩ := pth_ok e5 j (Nat.le_of_lt hjn)
          rw [← r1] at g1 g2 g3 g4 g5
          have hl0 : ¬ lft n S = 0 := fun q => by rw [q, Nat.zero_add] at g1; exact absurd g1 (Nat.ne_of_lt hjn)
          obtain ⟨c', y3, a1, a2, a3, a4, a5, a6⟩ := am_ex hl0 g2
          have al := am_srt sg a1
          have y2b := Dbd _ _ _ g2
          have en : pth σ lm g n (j + 1) = (S ||| 2 ^ c', some c') := by rw [pth, ← r1, a1]
          refine pk_lt m j (fun q => absurd q (by omega)) (fun _ => s_X0_leastRest L'.1 ok lo d' hg (by omega) n' g3 r2 r3 (fun T h1 h2 => q3 T (by omega) h2) ?_) rfl rfl
          rw [← Dr_eq _ hl0, g2]
          have done : opR σ lm g n S (pth σ lm g n j).2 c' = true := by
            obtain ⟨_, c2, _⟩ := amW_ok.2 c' a1; exact c2
          have bd : ∀ k2 u, u < n → (opR σ lm g n S (pth σ lm g n j).2 u = true → u = c') → (opR σ lm g n S (pth σ lm g n j).2 u = false → ∀ yy : Int32, yy = nI u + 1 → m_X0_row_l178 (fun x5' x6' x7' M' => m_X0_row_l159 (nI m) Q k' x5' x6' x7' M') (nI m) (nI S) (nI i) (nI j) (fI 268435456 (some y2)) Q k2 yy M') → m_X0_row_l178 (fun x5' x6' x7' M' => m_X0_row_l159 (nI m) Q k' x5' x6' x7' M') (nI m) (nI S) (nI i) (nI j) (fI 268435456 (some y2)) Q (k2 + 1) (nI u) M' := fun k2 u hu1 ht hf => by
            unfold m_X0_row_l178
            refine s_X0_has (by omega) ?_
            rw [lb_nI (by omega) (by omega)]
            refine bcs (fun cb => hf (by unfold opR; rw [cb]; rfl)) (fun cb => s_X0_restBy L'.1 ok lo d' hg (by omega) g3 r2 r3 hu1 cb (fun T h1 h2 => q3 T (by omega) h2) ⟨fun q => ?_, fun q => ?_⟩)
            · have ho : opR σ lm g n S (pth σ lm g n j).2 u = true := by
                unfold opR
                rw [cb, g2, decide_eq_true ((fI_inj (by omega) (fun x e => by have := by_b lo (n := n) (by omega) e; omega) (fun x e => by cases e; omega)).mp q)]; rfl
              intro z6 e6 z7 e7
              rw [e6, e7, nI_1, bit32 (by omega), nI_or, ht ho]
              exact ih (S ||| 2 ^ c', c') ⟨by rw [en], a2, by rw [en]; exact Or.inr ⟨fun z => by have := or_up a3; dsimp only at z; omega, rfl⟩, fun _ => by rw [en]⟩
            · refine hf ?_
              unfold opR
              rw [cb, g2, decide_eq_false (fun z => q (by rw [z]))]; rfl
          refine pk_loop (fun k2 u (_ : Unit) => m_X0_row_l178 (fun x5' x6' x7' M' => m_X0_row_l159 (nI m) Q k' x5' x6' x7' M') (nI m) (nI S) (nI i) (nI j) (fI 268435456 (some y2)) Q k2 (nI u) M') (fun u _ => True) c' 0 () (by omega) trivial ?_ ?_
          · intro k2 _ _
            exact bd k2 c' a2 (fun _ => rfl) (fun q => by rw [done] at q; cases q)
          · intro k2 u _ hu1 _ ih2
            refine bd k2 u (by omega) (fun q => ?_) (fun _ yy ey => by rw [ey, nI_1]; exact ih2 () trivial)
            have := lst_lo (opR σ lm g n S (pth σ lm g n j).2) n u (by omega)
            rw [q] at this; cases this
  · intro k S M' ⟨q1, q2, q3⟩ ih
    refine ⟨fun z => absurd z (nI_nle (by omega) (by omega)), fun _ => ?_⟩
    refine pk_loop (fun k' a M3 => m_X0_row_l67 (fun x4' M' => m_X0_row_l59 (nI n) z (nI (2 ^ n - 1)) Q k x4' M') (nI n) z (nI (2 ^ n - 1)) (nI (S + 1)) Q k' (nI a) M3) (fun a M3 => Fr SRt M12 M3 ∧ (∀ T, S + 1 < T → T < 2 ^ n → RC0 σ lm g n T M3) ∧ ∀ a', a' < a → (S + 1).testBit a' = true → wI M3 (186 + (S + 1)) a' = fI 268435456 (Dr σ lm g n (S + 1) (some a'))) n 0 M' (by omega) ⟨q2, q3, fun a h => absurd h (by omega)⟩ ?_ ?_
    · intro k' M3 ⟨p1, p2, p3⟩
      refine ⟨fun _ y ey => ?_, fun z => absurd (Int32.le_refl _) z⟩
      rw [ey, pk_m1]
      refine ih M3 ⟨by omega, p1, fun T h1 h2 => ?_⟩
      by_cases e4 : T = S + 1
      · rw [e4]; exact p3
      · exact p2 T (by omega) h2
    · intro k' a M3 ha ⟨p1, p2, p3⟩ ih2
      obtain ⟨L3, d3, n3, _, _⟩ := fx p1
      have put : ∀ v M8, v = fI 268435456 (Dr σ lm g n (S + 1) (some a)) → M8 = wPI M3 (186 + (S + 1)) a v → ∀ y : Int32, y = nI a + 1 → m_X0_row_l67 (fun x4' M' => m_X0_row_l59 (nI n) z (nI (2 ^ n - 1)) Q k x4' M') (nI n) z (nI (2 ^ n - 1)) (nI (S + 1)) Q k' y M8 := fun v M8 ev e8 y ey => by
        rw [ey, nI_1]
        refine ih2 M8 ⟨by rw [e8]; exact p1.PI (by unfold SRt; omega), fun T h1 h2 a' h3 h4 => by rw [e8, wI_n _ _ (by omega)]; exact p2 T h1 h2 a' h3 h4, fun a' h1 h2 => ?_⟩
        rw [e8]
        by_cases e4 : a' = a
        · rw [e4, wI_s, ev]
        · rw [wI_n _ _ (by omega)]; exact p3 a' (by omega) h2
      refine ⟨fun z => absurd z (nI_ge ha (by omega)), fun _ => s_X0_has (by omega) ?_⟩
      rw [lb_nI (by omega) (by omega), nI_clamp (show S + 1 < 2 ^ 31 by omega), nI_clamp (show a < 2 ^ 31 by omega)]
      refine bcs (fun c => ⟨vin (by omega), pk_eq (S + 1) (2 ^ n - 1) (fun c2 => ⟨vin (by omega), fun M13 e13 => put 0 M13 (by rw [Dr_0 _ ((lft_all q1).mpr c2)]; rfl) e13⟩) (fun c2 => s_X0_leastRest L3.1 ok lo d3 hg (by omega) n3 q1 ha (Or.inr ⟨by omega, rfl⟩) p2 ⟨vin (by omega), fun M10 e10 => put _ M10 (by rw [Dr_eq _ (fun q => c2 ((lft_all q1).mp q))]) e10⟩) rfl rfl⟩) (fun c y ey => ?_)
      rw [ey, nI_1]
      refine ih2 M3 ⟨p1, p2, fun a' h1 h2 => ?_⟩
      by_cases e4 : a' = a
      · rw [e4, c] at h2; cases h2
      · exact p3 a' (by omega) h2
/-! the model's side -/
def lO (n l : Nat) : Option Nat := if l = n then none else some l
def RT0 (σ : WS) (lm : Lam) (g : Nat → Nat) (n S : Nat) (M : WM) : Prop := ∀ l, l ≤ n → wI M 5476 (13 * S + l) = fI 1000000000 (Dr σ lm g n S (lO n l))
theorem s_X6_rowBy {σ : WS} {lm : Lam} {tp : Nat → Int32} {n S l k : Nat} {M : WM} {Q : Int32 → Prop} (hS : StA σ lm M) (ok : wsOK σ) (lo : lamOK lm) (hd : TdT tp n M) (hu : okW σ tp n) (hn : n ≤ 10) (h0 : S < 2 ^ n) (hl : l ≤ n) (hk : k < n) (hG : ∀ T, S < T → T < 2 ^ n → RT0 σ lm (td tp) n T M) (h : Q (fI 1000000000 (byR σ lm (td tp) n S (lO n l) k))) : m_X6_rowBy (nI n) (nI S) (nI l) (nI k) M Q := by
  have hs := ok.1
  have h10 := p10 hn
  unfold m_X6_rowBy
  refine tb_1 (by omega) (by omega) (fun c => ?_) (fun c => ?_)
  · rw [show byR σ lm (td tp) n S (lO n l) k = none from if_pos c] at h; exact h
  · have hb2 := or_bd h0 hk
    have hup := or_up c
    have eb : byR σ lm (td tp) n S (lO n l) k = oadd (ecR σ lm (td tp) (lO n l) k) (Dr σ lm (td tp) n (S ||| 2 ^ k) (some k)) := by unfold byR; rw [if_neg (by rw [c]; decide)]
    rw [eb] at h
    have er : wI M 5476 (13 * (S ||| 2 ^ k) + k) = fI 1000000000 (Dr σ lm (td tp) n (S ||| 2 ^ k) (some k)) := by
      rw [hG _ hup hb2 k (by omega)]; unfold lO; rw [if_neg (by omega)]
    have j29 : m_X6_rowBy_j29 (nI S) (nI k) (fI 1000000000 (ecR σ lm (td tp) (lO n l) k)) M Q := by
      unfold m_X6_rowBy_j29
      rw [bit32 (by omega), nI_or, show (13 : Int32) = nI 13 from rfl, pk_mul, nI_add, nI_clamp (by omega), er]
      exact ⟨vin (by omega), s_X6_sum (fun x e => by have := ec_b lo e; omega) (fun x e => by have := Dr_b lo e; omega) h⟩
    refine pk_eq l n (fun q => ?_) (fun q => ?_) rfl rfl
    · unfold lO at j29; rw [if_pos q] at j29; exact j29
    · unfold lO at j29; rw [if_neg q] at j29
      exact s_X6_stepTold hS ok lo hd hu (by omega) (by omega) hk j29
theorem s_X6_laysRest {σ : WS} {lm : Lam} {tp : Nat → Int32} {n : Nat} {M10 : WM} {Q : WM → Prop} (ok : wsOK σ) (lo : lamOK lm) (S10 : StA σ lm M10) (d10 : TdT tp n M10) (hu : okW σ tp n) (hn : n ≤ 10) (h1n : 2 ≤ n) (h : ∀ M14, Fr S5476 M10 M14 → (∀ T, T < 2 ^ n → RT0 σ lm (td tp) n T M14) → Q M14) : m_X6_laysRest (nI n) M10 Q := by
  have hs := ok.1
  have h10 := p10 hn
  have fx : ∀ {M'}, Fr S5476 M10 M' → StA σ lm M' ∧ TdT tp n M' := fun f => ⟨fun a b ha hb => (S10 a b ha hb).fr f (by unfold S5476; omega), fun k hk => by rw [f.I (by unfold S5476; omega)]; exact d10 k hk⟩
  have p1 : 1 < 2 ^ n := by
    have : 2 ^ 1 ≤ 2 ^ n := Nat.pow_le_pow_right (by omega) (by omega)
    omega
  intro z13 e13
  have ez : z13 = nI (2 ^ n - 1) := by rw [e13, bit32 (by omega)]; exact pk_sub (b := 1) (by omega)
  rw [ez]
  have st : ∀ S, nI S + (-1 : Int32) = nI S - 1 := fun S => (Int32.sub_eq_add_neg _ _).symm
  refine ⟨2 ^ n + 1, ?_⟩
  rw [show nI (2 ^ n - 1) = nI (2 ^ n) - 1 from (pk_sub (b := 1) (by omega)).symm]
  refine pk_loopD (fun k S M' => m_X6_laysRest_l8 (nI n) (nI (2 ^ n) - 1) Q k (nI S - 1) M') (fun S M' => S ≤ 2 ^ n ∧ Fr S5476 M10 M' ∧ ∀ T, S ≤ T → T < 2 ^ n → RT0 σ lm (td tp) n T M') ?_ ?_ (2 ^ n) M10 ⟨Nat.le_refl _, Fr.rf, fun T h1 h2 => absurd h1 (by omega)⟩
  · intro k M14 ⟨_, q2, q3⟩
    exact ⟨fun _ => h M14 q2 fun T hT => q3 T (by omega) hT, fun z => absurd (show nI 0 - 1 < 0 by decide) z⟩
  · intro k S M' ⟨q1, q2, q3⟩ ih
    rw [nI_pred]
    refine ⟨fun z => absurd z (nI_pos (by omega)), fun _ => ?_⟩
    have elast : nI (2 ^ n) - 1 = nI (2 ^ n - 1) := pk_sub (b := 1) (by omega)
    refine pk_loop (fun k' l M3 => m_X6_laysRest_l15 (fun x3' M' => m_X6_laysRest_l8 (nI n) (nI (2 ^ n) - 1) Q k x3' M') (nI n) (nI (2 ^ n) - 1) (nI S) Q k' (nI l) M3) (fun l M3 => Fr S5476 M10 M3 ∧ (∀ T, S + 1 ≤ T → T < 2 ^ n → RT0 σ lm (td tp) n T M3) ∧ ∀ l', l' < l → wI M3 5476 (13 * S + l') = fI 1000000000 (Dr σ lm (td tp) n S (lO n l'))) (n + 1) 0 M' (by omega) ⟨q2, q3, fun a h => absurd h (by omega)⟩ ?_ ?_
    · intro k' M3 ⟨p1, p2, p3⟩
      refine pk_lt n (n + 1) (fun _ y ey => ?_) (fun q => absurd q (by omega)) rfl rfl
      rw [ey, st]
      refine ih M3 ⟨by omega, p1, fun T h1 h2 => ?_⟩
      by_cases e4 : T = S
      · rw [e4]; exact fun l hl => p3 l (by omega)
      · exact p2 T (by omega) h2
    · intro k' l M3 hl ⟨p1, p2, p3⟩ ih2
      obtain ⟨L3, d3⟩ := fx p1
      have hSn : S < 2 ^ n := by omega
      have bb : ∀ (o : Option Nat) j x, (∀ w, o = some w → w < 10000) → omin o (mnO (byR σ lm (td tp) n S (lO n l)) j) = some x → x < 100000000 := fun o j x ho e => by
        rcases omin_of e with q | q
        · have := ho x q; omega
        · have := mnO_b (fun k x e => by_b lo (by omega) e) q; omega
      have go : ∀ o : Option Nat, (∀ w, o = some w → w < 10000) → omin o (mnO (byR σ lm (td tp) n S (lO n l)) n) = Dr σ lm (td tp) n S (lO n l) → ∃ n0, m_X6_laysRest_l37 (fun x3' M' => m_X6_laysRest_l8 (nI n) (nI (2 ^ n) - 1) Q k x3' M') (fun x4' M' => m_X6_laysRest_l15 (fun x3' M' => m_X6_laysRest_l8 (nI n) (nI (2 ^ n) - 1) Q k x3' M') (nI n) (nI (2 ^ n) - 1) (nI S) Q k' x4' M') (nI n) (nI (2 ^ n) - 1) (nI S) (nI l) Q n0 (fI 1000000000 o) 0 M3 := fun o ho eo => by
        refine pk_loop (fun k2 i (s : Option Nat) => m_X6_laysRest_l37 (fun x3' M' => m_X6_laysRest_l8 (nI n) (nI (2 ^ n) - 1) Q k x3' M') (fun x4' M' => m_X6_laysRest_l15 (fun x3' M' => m_X6_laysRest_l8 (nI n) (nI (2 ^ n) - 1) Q k x3' M') (nI n) (nI (2 ^ n) - 1) (nI S) Q k' x4' M') (nI n) (nI (2 ^ n) - 1) (nI S) (nI l) Q k2 (fI 1000000000 s) (nI i) M3) (fun i s => s = omin o (mnO (byR σ lm (td tp) n S (lO n l)) i)) n 0 o (by omega) (by cases o <;> rfl) ?_ ?_
        · intro k2 s es
          rw [eo] at es
          unfold m_X6_laysRest_l37
          rw [show (13 : Int32) = nI 13 from rfl, pk_mul, nI_add, nI_clamp (show 13 * S + l < 2 ^ 31 by omega)]
          refine ⟨fun _ => ⟨vin (by omega), fun M8 e8 y ey => ?_⟩, fun z => absurd (Int32.le_refl _) z⟩
          rw [ey, nI_1]
          refine ih2 M8 ⟨by rw [e8]; exact p1.PI rfl, fun T h1 h2 l' h3 => by rw [e8, wI_n _ _ (by omega)]; exact p2 T h1 h2 l' h3, fun l' h1 => ?_⟩
          rw [e8]
          by_cases e4 : l' = l
          · rw [e4, wI_s, es]
          · rw [wI_n _ _ (by omega)]; exact p3 l' (by omega)
        · intro k2 i s hi es ih3
          unfold m_X6_laysRest_l37
          refine ⟨fun z => absurd z (nI_ge hi (by omega)), fun _ => s_X6_rowBy L3 ok lo d3 hu (by omega) hSn (by omega) hi (fun T h1 h2 => p2 T (by omega) h2) (fw_t (fun x e => bb o i x ho (es ▸ e)) (fun x e => by have := by_b lo (n := n) (by omega) e; omega) fun y ey => ?_)⟩
          rw [ey, nI_1]
          refine ih3 _ ?_
          rw [es, mnO]
          cases o with
          | none => cases mnO (byR σ lm (td tp) n S (lO n l)) i <;> rfl
          | some a =>
            cases mnO (byR σ lm (td tp) n S (lO n l)) i with
            | none => cases byR σ lm (td tp) n S (lO n l) i <;> rfl
            | some b =>
              cases byR σ lm (td tp) n S (lO n l) i with
              | none => rfl
              | some c => show some (min (min a b) c) = some (min a (min b c)); rw [Nat.min_assoc]
      refine pk_lt n l (fun q => absurd q (by omega)) (fun _ => ?_) rfl rfl
      rw [elast] at go ⊢
      refine pk_eq S (2 ^ n - 1) (fun c => go (some 0) (fun w e => by cases e; omega) ?_) (fun c => go none (fun w e => by cases e) ?_) rfl rfl
      · rw [Dr_0 _ ((lft_all hSn).mpr c)]
        have : ∀ j, j ≤ n → mnO (byR σ lm (td tp) n S (lO n l)) j = none := fun j => by
          induction j with
          | zero => intro _; rfl
          | succ j ihj =>
            intro hj
            rw [mnO, ihj (by omega)]
            show byR σ lm (td tp) n S (lO n l) j = none
            unfold byR
            rw [if_pos (by rw [c, Nat.testBit_two_pow_sub_one, decide_eq_true (show j < n by omega)])]
        rw [this n (Nat.le_refl _)]; rfl
      · rw [Dr_eq _ (fun q => c ((lft_all hSn).mp q))]; rfl
def SRwM (r k : Nat) : Prop := SWM r k ∨ STA r k ∨ S5476 r k
theorem s_X6_row {σ : WS} {lm : Lam} {tp : Nat → Int32} {t : Nat} {M : WM} {x z : Int32} {Q : Int32 → WM → Prop} (hW : WT σ M) (ok : wsOK σ) (hl : LawT lm M) (lo : lamOK lm) (hT : TT tp t M) (ht : t ≤ 200) (h0 : ¬ VRo t x z → Q (-1) M) (h2 : ∀ n, x = nI n → VRo t x z → ¬ okU σ tp n → ∀ M', TT tp 0 M' → Fr SWM M M' → Q (-3) M') (h1 : ∀ n, x = nI n → VRo t x z → okU σ tp n → ∀ M', TT tp 0 M' → Fr SRwM M M' → Q (rowV σ lm (td tp) n z) M') : m_X6_row x z M Q := by
  have hs := ok.1
  refine s_X6_in (bdc (fun e => ?_) (fun e => h0 fun q => e q.1))
  have e : 2 ≤ x.toInt ∧ x.toInt ≤ 10 := e
  obtain ⟨n, hn, ex, en⟩ := nI_ex (x := x) (by omega)
  subst ex
  refine s_X6_in ?_
  rw [show nI n - (1 : Int32) = nI (n - 1) from pk_sub (b := 1) (by omega), nI_toInt (show n - 1 < 2 ^ 31 by omega), show (-1 : Int32).toInt = -1 by decide]
  refine bdc (fun e2 => ?_) (fun e2 => h0 fun q => by have := q.2.1; omega)
  rw [hT.2]
  refine pk_le n t (fun e3 => ?_) (fun e3 => h0 fun q => by have := q.2.2; omega) rfl rfl
  have hV : VRo t (nI n) z := ⟨e, by omega, by omega⟩
  have h10 := p10 (n := n) (by omega)
  refine s_X6_takesWords hW ok hT (by omega) (fun hu M7 d7 t7 f7 => ie1 ?_) (fun hu M7 t7 f7 => ie0 (h2 n rfl hV (fun q => hu q.1) M7 t7 f7))
  have w7 : WT σ M7 := hW.fr f7 (by unfold SWM PWT; omega)
  refine s_X6_areUsed w7 ok d7 hu (by omega) (fun hu => ie1 ?_) (fun hu => ie0 (h2 n rfl hV hu M7 t7 f7))
  refine s_X6_laysSteps w7 ok (hl.mv (f7.lt (by unfold SWM; omega))) lo fun M10 S10 f10 => ?_
  have d10 : TdT tp n M10 := fun k hk => by rw [f10.I (by unfold STA; omega)]; exact d7 k hk
  have F10 : Fr SRwM M M10 := (f7.mono fun r k q => Or.inl q).tr (f10.mono fun r k q => Or.inr (Or.inl q))
  have t10 : TT tp 0 M10 := ⟨fun k => by rw [f10.I (by unfold STA; omega)]; exact t7.1 k, by rw [f10.I (by unfold STA; omega)]; exact t7.2⟩
  have fx : ∀ {M'}, Fr S5476 M10 M' → StA σ lm M' ∧ TdT tp n M' ∧ TT tp 0 M' ∧ Fr SRwM M M' := fun f => ⟨fun a b ha hb => (S10 a b ha hb).fr f (by unfold S5476; omega), fun k hk => by rw [f.I (by unfold S5476; omega)]; exact d10 k hk, ⟨fun k => by rw [f.I (by unfold S5476; omega)]; exact t10.1 k, by rw [f.I (by unfold S5476; omega)]; exact t10.2⟩, F10.tr (f.mono fun r k q => Or.inr (Or.inr q))⟩
  have hh := h1 n rfl hV hu
  have p1 : 1 < 2 ^ n := by
    have : 2 ^ 1 ≤ 2 ^ n := Nat.pow_le_pow_right (by omega) (by omega)
    omega
  have Dbd : ∀ S l x, Dr σ lm (td tp) n S l = some x → x < 10000 := fun S l x e => by have := Dr_b lo e; omega
  refine s_X6_laysRest ok lo S10 d10 hu.1 (by omega) (by omega) fun M14 q2 q3 => ?_
  obtain ⟨L', d', t', F'⟩ := fx q2
  have hh := hh M14 t' F'
  have en0 : wI M14 5476 n = fI 1000000000 (Dr σ lm (td tp) n 0 none) := by
    have := q3 0 (by omega) n (Nat.le_refl _)
    rw [show 13 * 0 + n = n by omega] at this
    rw [this]; unfold lO; rw [if_pos rfl]
  rw [nI_clamp (show n < 2 ^ 31 by omega), en0]
  refine ⟨vin (by omega), fun z16 e16 => ?_⟩
  unfold rowV at hh
  cases e5 : Dr σ lm (td tp) n 0 none with
  | none => rw [e5] at hh e16; rw [e16]; exact ⟨fun z => absurd z (nI_nlt (a := 1000000000) (b := 1000000000) (by omega) (by omega)), fun _ => hh⟩
  | some y =>
    have yb := Dbd _ _ _ e5
    rw [e5] at hh e16
    have hh : Q (if z = -1 then nI y else (match (pth σ lm (td tp) n (z.toInt.toNat + 1)).2 with
      | none => -2
      | some c => nI (td tp c))) M14 := hh
    rw [e16]
    refine pk_lt y 1000000000 (fun _ => ⟨fun c => ?_, fun c => ?_⟩) (fun q => absurd q (by omega)) rfl rfl
    · rw [if_pos c] at hh; exact hh
    · rw [if_neg c] at hh
      obtain ⟨m, hm, rfl, em⟩ := nI_ex (x := z) (by
        rcases Int.lt_or_le z.toInt 0 with w | w
        · exact absurd (by rw [i_eq]; show z.toInt = -1; omega) c
        · exact w)
      rw [em, Int.toNat_natCast] at hh
      have main : ∀ k' j S l, j ≤ m → m + 1 - j ≤ k' → S = (pth σ lm (td tp) n j).1 → l ≤ n → lO n l = (pth σ lm (td tp) n j).2 → m_X6_row_l91 (nI n) (nI m) Q k' (nI S) (nI l) (nI j) M14 := fun k' => by
        induction k' with
        | zero => intro j S l h1 h2; omega
        | succ k' ih =>
          intro j S l hj hk r1 r2 r3
          have hjn : j < n := by omega
          have hk2 : m + 1 - (j + 1) ≤ k' := by omega
          obtain ⟨g1, ⟨y2, g2⟩, g3, g4, g5⟩ := pth_ok e5 j (Nat.le_of_lt hjn)
          rw [← r1] at g1 g2 g3 g4 g5
          have hl0 : ¬ lft n S = 0 := fun q => by rw [q, Nat.zero_add] at g1; exact absurd g1 (Nat.ne_of_lt hjn)
          obtain ⟨c', y3, a1, a2, a3, a4, a5, a6⟩ := am_ex hl0 g2
          have en : pth σ lm (td tp) n (j + 1) = (S ||| 2 ^ c', some c') := by rw [pth, ← r1, a1]
          have er : wI M14 5476 (13 * S + l) = fI 1000000000 (some y2) := by rw [q3 S g3 l r2, r3, g2]
          have y2b := Dbd _ _ _ g2
          refine pk_loop (fun k2 u (s : Option Nat) => m_X6_row_l97 (fun x4' x5' x6' M' => m_X6_row_l91 (nI n) (nI m) Q k' x4' x5' x6' M') (nI n) (nI m) (nI S) (nI l) (nI j) Q k2 (owI s) (nI u) M14) (fun u s => s = amW (opR σ lm (td tp) n S (pth σ lm (td tp) n j).2) (td tp) u) n 0 none (by omega) rfl ?_ ?_
          · intro k2 s es
            rw [a1] at es
            subst es
            unfold m_X6_row_l97
            refine ⟨fun _ => pk_eq j m (fun q => ⟨vin (by omega), ?_⟩) (fun q z3 e3 z4 e4 => ?_) rfl rfl, fun z => absurd (Int32.le_refl _) z⟩
            · show Q (wI M14 5475 (nI c').toNatClampNeg) M14
              rw [nI_clamp (show c' < 2 ^ 31 by omega), d' c' a2]
              rw [← q, en] at hh; exact hh
            · have e3 : z3 = (nI S ||| ((1 : Int32) <<< (nI c' &&& 31))) := e3
              show m_X6_row_l91 (nI n) (nI m) Q k' z3 (nI c') z4 M14
              rw [e3, e4, nI_1, bit32 (by omega), nI_or]
              exact ih (j + 1) (S ||| 2 ^ c') c' (Nat.lt_of_le_of_ne hj q) hk2 (by rw [en]) (Nat.le_of_lt a2) (by rw [en]; unfold lO; rw [if_neg (Nat.ne_of_lt a2)])
          · intro k2 u s hu1 es ih2
            unfold m_X6_row_l97
            refine ⟨fun z => absurd z (nI_ge hu1 (by omega)), fun _ => s_X6_rowBy L' ok lo d' hu.1 (by omega) g3 r2 hu1 (fun T h1 h2 => q3 T h2) ?_⟩
            rw [r3, show (13 : Int32) = nI 13 from rfl, pk_mul, nI_add, nI_clamp (show 13 * S + l < 2 ^ 31 by omega), er]
            have no : opR σ lm (td tp) n S (pth σ lm (td tp) n j).2 u = false → ∀ yy : Int32, yy = nI u + 1 → m_X6_row_l97 (fun x4' x5' x6' M' => m_X6_row_l91 (nI n) (nI m) Q k' x4' x5' x6' M') (nI n) (nI m) (nI S) (nI l) (nI j) Q k2 (owI s) yy M14 := fun q yy ey => by
              rw [ey, nI_1]
              exact ih2 s (by rw [amW, q]; exact es)
            refine ⟨vin (by omega), fun q => tb_0 (by omega) (by omega) (fun cb => no (by unfold opR; rw [cb]; rfl)) (fun cb => ?_), fun q => no ?_⟩
            · have ho : opR σ lm (td tp) n S (pth σ lm (td tp) n j).2 u = true := by
                unfold opR
                rw [cb, g2, decide_eq_true ((fI_inj (by omega) (fun x e => by have := by_b lo (n := n) (by omega) e; omega) (fun x e => by cases e; omega)).mp q)]; rfl
              have ih3 := ih2 (amW (opR σ lm (td tp) n S (pth σ lm (td tp) n j).2) (td tp) (u + 1)) rfl
              rw [amW, if_pos ho, ← es] at ih3
              have tu := (okW_td ok hu.1 hu1).2
              cases s with
              | none => exact ⟨fun _ yy ey => by rw [ey, nI_1]; exact ih3, fun z => absurd rfl z⟩
              | some b =>
                have hbn := (amW_ok.2 b es.symm).1
                have tb := (okW_td ok hu.1 (show b < n by omega)).2
                have ih3 : m_X6_row_l97 (fun x4' x5' x6' M' => m_X6_row_l91 (nI n) (nI m) Q k' x4' x5' x6' M') (nI n) (nI m) (nI S) (nI l) (nI j) Q k2 (owI (if td tp u < td tp b then some u else some b)) (nI (u + 1)) M14 := ih3
                refine ⟨fun q => absurd q ?_, fun _ => ⟨vin (by omega), vin (by omega), ?_⟩⟩
                · show ¬ nI b = -1
                  rw [i_eq, nI_toInt (by omega)]; intro z; have : (b : Int) = -1 := z; omega
                · show (wI M14 5475 (nI b).toNatClampNeg ≤ wI M14 5475 (nI u).toNatClampNeg → _) ∧ (¬ wI M14 5475 (nI b).toNatClampNeg ≤ wI M14 5475 (nI u).toNatClampNeg → _)
                  rw [nI_clamp (show b < 2 ^ 31 by omega), nI_clamp (show u < 2 ^ 31 by omega), d' b (by omega), d' u hu1]
                  refine pk_le (td tp b) (td tp u) (fun c3 yy ey => ?_) (fun c3 yy ey => ?_) rfl rfl
                  · rw [if_neg (by omega)] at ih3; rw [ey, nI_1]; exact ih3
                  · rw [if_pos c3] at ih3; rw [ey, nI_1]; exact ih3
            · cases cb : S.testBit u with
              | true => unfold opR; rw [cb]; rfl
              | false =>
                unfold opR
                rw [cb, g2, decide_eq_false (fun z => q (by rw [z]))]; rfl
      exact ⟨m + 1, main (m + 1) 0 0 n (by omega) (by omega) rfl (Nat.le_refl _) (by unfold lO; rw [if_pos rfl]; rfl)⟩
