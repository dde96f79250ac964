/-! the game of told words -/
def esT (σ : WS) (lm : Lam) (tp : Nat → Int32) (i j : Nat) : Bool := (cst σ lm (td tp i) (td tp j)).isSome
def gwF (σ : WS) (lm : Lam) (tp : Nat → Int32) (n : Nat) : Nat → Nat → Nat → Bool
  | 0, _, _ => false
  | f + 1, S, a => anyB (fun k => !(S.testBit k) && (esT σ lm tp a k && !(gwF σ lm tp n f (S ||| 2 ^ k) k))) n
theorem or_up {S k : Nat} (h : S.testBit k = false) : S < S ||| 2 ^ k := by
  have h1 : S ≤ S ||| 2 ^ k := Nat.left_le_or
  rcases Nat.lt_or_eq_of_le h1 with c | c
  · exact c
  · have : (S ||| 2 ^ k).testBit k = true := by rw [Nat.testBit_or, Nat.testBit_two_pow_self, Bool.or_true]
    rw [← c, h] at this; cases this
theorem or_bd {S k n : Nat} (hS : S < 2 ^ n) (hk : k < n) : S ||| 2 ^ k < 2 ^ n := Nat.or_lt_two_pow hS (Nat.pow_lt_pow_right (by omega) hk)
theorem anyB_cg {p q : Nat → Bool} {n : Nat} (h : ∀ k, k < n → p k = q k) : anyB p n = anyB q n := by
  unfold anyB
  congr 1
  have : ∀ m, m ≤ n → allB (fun k => !(p k)) m = allB (fun k => !(q k)) m := fun m => by
    induction m with
    | zero => intro _; rfl
    | succ m ih => intro hm; rw [allB, allB, ih (by omega), h m (by omega)]
  exact this n (Nat.le_refl _)
theorem gwF_st {σ : WS} {lm : Lam} {tp : Nat → Int32} {n : Nat} : ∀ (f f' S a : Nat), S < 2 ^ n → 2 ^ n - S ≤ f → 2 ^ n - S ≤ f' → gwF σ lm tp n f S a = gwF σ lm tp n f' S a
  | 0, f', S, a, h0, h1, h2 => absurd h0 (by omega)
  | f + 1, 0, S, a, h0, h1, h2 => absurd h0 (by omega)
  | f + 1, f' + 1, S, a, h0, h1, h2 => by
    rw [gwF, gwF]
    refine anyB_cg fun k hk => ?_
    cases e : S.testBit k with
    | true => rfl
    | false =>
      have := or_up e
      have := or_bd h0 hk
      rw [gwF_st f f' (S ||| 2 ^ k) k this (by omega) (by omega)]
def gwin (σ : WS) (lm : Lam) (tp : Nat → Int32) (n S a : Nat) : Bool := gwF σ lm tp n (2 ^ n - S) S a
def gmv (σ : WS) (lm : Lam) (tp : Nat → Int32) (n S a k : Nat) : Bool := !(S.testBit k) && (esT σ lm tp a k && !(gwin σ lm tp n (S ||| 2 ^ k) k))
theorem gwin_eq {σ : WS} {lm : Lam} {tp : Nat → Int32} {n S a : Nat} (h0 : S < 2 ^ n) : gwin σ lm tp n S a = anyB (gmv σ lm tp n S a) n := by
  unfold gwin
  obtain ⟨d, hd⟩ : ∃ d, 2 ^ n - S = d + 1 := ⟨2 ^ n - S - 1, by omega⟩
  rw [hd, gwF]
  refine anyB_cg fun k hk => ?_
  unfold gmv gwin
  cases e : S.testBit k with
  | true => rfl
  | false =>
    have := or_up e
    have := or_bd h0 hk
    rw [gwF_st d (2 ^ n - (S ||| 2 ^ k)) (S ||| 2 ^ k) k this (by omega) (by omega)]
def gbS (σ : WS) (lm : Lam) (tp : Nat → Int32) (n : Nat) : Nat → Option Nat
  | 0 => none
  | k + 1 => if gmv σ lm tp n 1 0 k = true then (match gbS σ lm tp n k with
    | none => some (td tp k)
    | some b => if td tp k < b then some (td tp k) else some b) else gbS σ lm tp n k
def gbI (o : Option Nat) : Int32 := match o with
  | none => -2
  | some b => nI b
def gmV (σ : WS) (lm : Lam) (tp : Nat → Int32) (n : Nat) (z : Int32) : Int32 := if z = 0 then b2i (gwin σ lm tp n 1 0) else gbI (gbS σ lm tp n n)
theorem gbS_b {σ : WS} {lm : Lam} {tp : Nat → Int32} {n : Nat} (ok : wsOK σ) (hu : okW σ tp n) : ∀ k, k ≤ n → ∀ b, gbS σ lm tp n k = some b → b < 40
  | 0, _, b, e => by cases e
  | k + 1, hk, b, e => by
    have hs := ok.1
    have ht := (okW_td ok hu (show k < n by omega)).2
    rw [gbS] at e
    split at e
    · cases e2 : gbS σ lm tp n k with
      | none => rw [e2] at e; cases e; omega
      | some b0 =>
        have := gbS_b ok hu k (by omega) b0 e2
        rw [e2] at e
        have e : (if td tp k < b0 then some (td tp k) else some b0) = some b := e
        split at e <;> cases e <;> omega
    · exact gbS_b ok hu k (by omega) b e
theorem anyB_s (p : Nat → Bool) (n : Nat) : anyB p (n + 1) = (anyB p n || p n) := by
  unfold anyB
  rw [allB]
  cases allB (fun k => !(p k)) n <;> cases p n <;> rfl
theorem zb_or (x y : Bool) : zb (b2i x ||| b2i y) = b2i (x || y) := by cases x <;> cases y <;> decide
theorem p12 {n : Nat} (h : n ≤ 12) : 2 ^ n ≤ 4096 := Nat.pow_le_pow_right (by omega) h
def VGm (t : Nat) (n x : Int32) : Prop := (2 ≤ n.toInt ∧ n.toInt ≤ 12) ∧ (0 ≤ x.toInt ∧ x.toInt < 2) ∧ n.toInt ≤ t
def GC0 (σ : WS) (lm : Lam) (tp : Nat → Int32) (n S : Nat) (M : WM) : Prop := ∀ a, a < n → S.testBit a = true → wI M (1211 + S) a = b2i (gwin σ lm tp n S a)
def SGm (r _k : Nat) : Prop := 1211 ≤ r ∧ r < 5308
theorem s_X0_winsBy {σ : WS} {lm : Lam} {tp : Nat → Int32} {n S a k : Nat} {M : WM} {Q : Int32 → Prop} (hS : StB σ lm M) (ok : wsOK σ) (lo : lamOK lm) (hd : TdC tp n M) (hu : okW σ tp n) (hn : n ≤ 12) (h0 : S < 2 ^ n) (ha : a < n) (hk : k < n) (hG : ∀ T, S < T → T < 2 ^ n → GC0 σ lm tp n T M) (h : Q (b2i (gmv σ lm tp n S a k))) : m_X0_winsBy (nI S) (nI a) (nI k) M Q := by
  have hs := ok.1
  have h12 := p12 hn
  unfold m_X0_winsBy
  refine s_X0_has (by omega) ?_
  rw [lb_nI (by omega) (by omega)]
  have tk := (okW_td ok hu hk).2
  have ta := (okW_td ok hu ha).2
  refine bcs (fun c => ?_) (fun c => ⟨vin (by omega), vin (by omega), ?_⟩)
  · unfold gmv at h; rw [c] at h; exact h
  · rw [nI_clamp (show a < 2 ^ 31 by omega), nI_clamp (show k < 2 ^ 31 by omega), hd a ha, hd k hk]
    refine s_X0_isStep hS ok lo ta tk ?_
    unfold gmv esT at h
    rw [c] at h
    have hb := or_bd h0 hk
    have hup := or_up c
    rw [bit32 (by omega), nI_or, nI_clamp (show S ||| 2 ^ k < 2 ^ 31 by omega)]
    refine bcs (fun c2 => ⟨vin (by omega), vin (by omega), ?_⟩) (fun c2 => ?_)
    · rw [c2] at h
      rw [hG _ hup hb k hk (by rw [Nat.testBit_or, Nat.testBit_two_pow_self, Bool.or_true])]
      refine ⟨fun q => ?_, fun q => ?_⟩
      · rw [b2i_0] at q; rw [q] at h; exact h
      · rw [b2i_0] at q; rw [ts_nf q] at h; exact h
    · rw [c2] at h; exact h
def SGC (r k : Nat) : Prop := SWC r k ∨ SLay r k ∨ SGm r k
theorem s_X0_game {σ : WS} {lm : Lam} {tp : Nat → Int32} {t : Nat} {M : WM} {x z : Int32} {Q : Int32 → WM → Prop} (hW : WC σ M) (ok : wsOK σ) (hl : LawC lm M) (lo : lamOK lm) (hC : wI M 0 8 = wI M 0 7 → Laid σ lm M) (hT : TC tp t M) (ht : t ≤ 200) (h0 : ¬ VGm t x z → Q (-1) M) (h2 : ∀ n, x = nI n → VGm t x z → ¬ okU σ tp n → ∀ M', TC tp 0 M' → Fr SWC M M' → Q (-3) M') (h1 : ∀ n, x = nI n → VGm t x z → okU σ tp n → ∀ M', TC tp 0 M' → Laid σ lm M' → Fr SGC M M' → Q (gmV σ lm tp n z) M') : m_X0_game x z M Q := by
  have hs := ok.1
  refine s_X0_within (bdc (fun e => ?_) (fun e => h0 fun q => e q.1))
  have e : 2 ≤ x.toInt ∧ x.toInt ≤ 12 := e
  refine s_X0_in (bdc (fun e2 => ?_) (fun e2 => h0 fun q => e2 q.2.1))
  obtain ⟨n, hn, ex, en⟩ := nI_ex (x := x) (by omega)
  rw [hT.2]
  subst ex
  refine pk_le n t (fun e3 => ?_) (fun e3 => h0 fun q => by have := q.2.2; omega) rfl rfl
  have hV : VGm t (nI n) z := ⟨e, e2, by omega⟩
  have h12 := p12 (n := n) (by omega)
  refine s_X0_takesUsed hW ok hT (by omega) (fun hu M7 d7 n7 t7 f7 => ie1 ?_) (fun hu M7 t7 f7 => ie0 (h2 n rfl hV hu M7 t7 f7))
  have w7 : WC σ M7 := hW.fr ok f7 (by unfold SWC PWC; omega)
  have hC7 : wI M7 0 8 = wI M7 0 7 → Laid σ lm M7 := fun q => (hC (by rw [f7.I (by unfold SWC; omega), f7.I (by unfold SWC; omega)] at q; exact q)).fr ok f7 (by unfold SWC; omega)
  refine s_X0_lays w7 ok (hl.mv (f7.law (by unfold SWC LR; omega))) lo hC7 fun M10 L10 _ f10 z11 e11 => ?_
  have d10 : TdC tp n M10 := fun k hk => by rw [f10.I (by unfold SLay; omega)]; exact d7 k hk
  have F10 : Fr SGC M M10 := (f7.mono fun r k q => Or.inl q).tr (f10.mono fun r k q => Or.inr (Or.inl q))
  have t10 : TC tp 0 M10 := ⟨fun k => by rw [f10.I (by unfold SLay; omega)]; exact t7.1 k, by rw [f10.I (by unfold SLay; omega)]; exact t7.2⟩
  have fx : ∀ {M'}, Fr SGm M10 M' → Laid σ lm M' ∧ TdC tp n M' ∧ TC tp 0 M' ∧ Fr SGC M M' := fun f => ⟨L10.fr ok f (by unfold SGm; omega), fun k hk => by rw [f.I (by unfold SGm; omega)]; exact d10 k hk, ⟨fun k => by rw [f.I (by unfold SGm; omega)]; exact t10.1 k, by rw [f.I (by unfold SGm; omega)]; exact t10.2⟩, F10.tr (f.mono fun r k q => Or.inr (Or.inr q))⟩
  have hh := h1 n rfl hV hu
  have p1 : 1 < 2 ^ n := by
    have : 2 ^ 1 ≤ 2 ^ n := Nat.pow_le_pow_right (by omega) (by omega)
    omega
  have ez : z11 = nI (2 ^ n - 1) := by rw [e11, bit32 (by omega)]; exact pk_sub (b := 1) (by omega)
  rw [ez]
  refine ⟨_, pk_loopD (fun k S M' => m_X0_game_l49 (nI n) z Q k (nI S) M') (fun S M' => S < 2 ^ n ∧ Fr SGm M10 M' ∧ ∀ T, S < T → T < 2 ^ n → GC0 σ lm tp n T M') ?_ ?_ (2 ^ n - 1) M10 ⟨by omega, Fr.rf, fun T h1 h2 => absurd h1 (by omega)⟩⟩
  · intro k M' ⟨_, q2, q3⟩
    obtain ⟨L', d', t', F'⟩ := fx q2
    have hh := hh M' t' L' F'
    unfold gmV at hh
    refine ⟨fun _ => ⟨fun c => ⟨vin (n := 1) (by omega), vin (n := 0) (by omega), ?_⟩, fun c => ?_⟩, fun z => absurd (Int32.le_refl _) z⟩
    · rw [if_pos c] at hh
      rw [show (1 : Int32).toNatClampNeg = 1 by decide, show (0 : Int32).toNatClampNeg = 0 by decide, q3 1 (by omega) p1 0 (by omega) rfl]
      refine ⟨fun q => ?_, fun q => ?_⟩
      · rw [b2i_0] at q; rw [q] at hh; exact hh
      · rw [b2i_0] at q; rw [ts_nf q] at hh; exact hh
    · rw [if_neg c] at hh
      refine pk_loop (fun k' i (s : Option Nat) => m_X0_game_l157 (nI n) Q k' (gbI s) (nI i) M') (fun i s => s = gbS σ lm tp n i) n 0 none (by omega) rfl ?_ ?_
      · intro k' s es
        subst es
        exact ⟨fun _ => hh, fun z => absurd (Int32.le_refl _) z⟩
      · intro k' i s hi es ih
        have ti := (okW_td ok hu.1 hi).2
        refine ⟨fun z => absurd z (nI_ge hi (by omega)), fun _ => s_X0_winsBy (S := 1) (a := 0) L'.1 ok lo d' hu.1 (by omega) p1 (by omega) hi (fun T h1 h2 => q3 T (by omega) h2) (bcs (fun c2 => ?_) (fun c2 y ey => ?_))⟩
        · have ih3 := ih (gbS σ lm tp n (i + 1)) rfl
          rw [gbS, if_pos c2, ← es] at ih3
          rw [nI_clamp (show i < 2 ^ 31 by omega), d' i hi]
          cases s with
          | none => exact ⟨fun _ => ⟨vin (by omega), fun z7 e7 y ey => by rw [e7, ey, nI_1]; exact ih3⟩, fun z => absurd rfl z⟩
          | some b =>
            have hb := gbS_b ok hu.1 i (by omega) b es.symm
            have ih3 : m_X0_game_l157 (nI n) Q k' (gbI (if td tp i < b then some (td tp i) else some b)) (nI (i + 1)) M' := ih3
            refine ⟨fun q => absurd q ?_, fun _ => ⟨vin (by omega), pk_le b (td tp i) (fun c3 y ey => ?_) (fun c3 => ⟨vin (by omega), fun z7 e7 y ey => ?_⟩) rfl rfl⟩⟩
            · show ¬ nI b = -2
              rw [i_eq, nI_toInt (by omega)]; intro z; have : (b : Int) = -2 := z; omega
            · rw [if_neg (by omega)] at ih3; rw [ey, nI_1]; exact ih3
            · rw [if_pos c3] at ih3; rw [e7, ey, nI_1]; exact ih3
        · rw [ey, nI_1]
          exact ih s (by rw [gbS, c2]; exact es)
  · intro k S M' ⟨q1, q2, q3⟩ ih
    refine ⟨fun z => absurd z (nI_nle (by omega) (by omega)), fun _ => ?_⟩
    refine pk_loop (fun k' a M3 => m_X0_game_l56 (fun x3' M' => m_X0_game_l49 (nI n) z Q k x3' M') (nI n) z (nI (S + 1)) Q k' (nI a) M3) (fun a M3 => Fr SGm M10 M3 ∧ (∀ T, S + 1 < T → T < 2 ^ n → GC0 σ lm tp n T M3) ∧ ∀ a', a' < a → (S + 1).testBit a' = true → wI M3 (1211 + (S + 1)) a' = b2i (gwin σ lm tp n (S + 1) a')) n 0 M' (by omega) ⟨q2, q3, fun a h => absurd h (by omega)⟩ ?_ ?_
    · intro k' M3 ⟨p1, p2, p3⟩
      refine ⟨fun _ y ey => ?_, fun z => absurd (Int32.le_refl _) z⟩
      rw [ey, pk_m1]
      refine ih M3 ⟨by omega, p1, fun T h1 h2 => ?_⟩
      by_cases e4 : T = S + 1
      · rw [e4]; exact p3
      · exact p2 T (by omega) h2
    · intro k' a M3 ha ⟨p1, p2, p3⟩ ih2
      refine ⟨fun z => absurd z (nI_ge ha (by omega)), fun _ => ⟨vin (by omega), vin (by omega), fun M5 e5 => ?_⟩⟩
      rw [nI_clamp (show S + 1 < 2 ^ 31 by omega), nI_clamp (show a < 2 ^ 31 by omega)] at e5
      have nx : ∀ M6, Fr SGm M10 M6 → (∀ T, S + 1 < T → T < 2 ^ n → GC0 σ lm tp n T M6) → (∀ a', a' < a → (S + 1).testBit a' = true → wI M6 (1211 + (S + 1)) a' = b2i (gwin σ lm tp n (S + 1) a')) → ((S + 1).testBit a = true → wI M6 (1211 + (S + 1)) a = b2i (gwin σ lm tp n (S + 1) a)) → ∀ y : Int32, y = nI a + 1 → m_X0_game_l56 (fun x3' M' => m_X0_game_l49 (nI n) z Q k x3' M') (nI n) z (nI (S + 1)) Q k' y M6 := fun M6 f6 g6 i6 j6 y ey => by
        rw [ey, nI_1]
        refine ih2 M6 ⟨f6, g6, fun a' h1 h2 => ?_⟩
        by_cases e4 : a' = a
        · rw [e4] at h2 ⊢; exact j6 h2
        · exact i6 a' (by omega) h2
      refine pk_loop (fun k2 i M6 => m_X0_game_l75 (fun x3' M' => m_X0_game_l49 (nI n) z Q k x3' M') (fun x4' M' => m_X0_game_l56 (fun x3' M' => m_X0_game_l49 (nI n) z Q k x3' M') (nI n) z (nI (S + 1)) Q k' x4' M') (nI n) z (nI (S + 1)) (nI a) Q k2 (nI i) M6) (fun i M6 => Fr SGm M10 M6 ∧ (∀ T, S + 1 < T → T < 2 ^ n → GC0 σ lm tp n T M6) ∧ (∀ a', a' < a → (S + 1).testBit a' = true → wI M6 (1211 + (S + 1)) a' = b2i (gwin σ lm tp n (S + 1) a')) ∧ wI M6 (1211 + (S + 1)) a = b2i (anyB (gmv σ lm tp n (S + 1) a) i)) n 0 M5 (by omega) ⟨by rw [e5]; exact p1.PI (by unfold SGm; omega), fun T h1 h2 a' h3 h4 => by rw [e5, wI_n _ _ (by omega)]; exact p2 T h1 h2 a' h3 h4, fun a' h1 h2 => by rw [e5, wI_n _ _ (by omega)]; exact p3 a' h1 h2, by rw [e5, wI_s]; rfl⟩ ?_ ?_
      · intro k2 M6 ⟨r1, r2, r3, r4⟩
        refine ⟨fun _ => nx M6 r1 r2 r3 (fun _ => by rw [r4, gwin_eq q1]), fun z => absurd (Int32.le_refl _) z⟩
      · intro k2 i M6 hi ⟨r1, r2, r3, r4⟩ ih3
        refine ⟨fun z => absurd z (nI_ge hi (by omega)), fun _ => s_X0_has (by omega) ?_⟩
        rw [lb_nI (by omega) (by omega)]
        refine bcs (fun c => ⟨vin (by omega), vin (by omega), s_X0_winsBy (fx r1).1.1 ok lo (fx r1).2.1 hu.1 (by omega) q1 ha hi (fun T h1 h2 => r2 T h1 h2) ⟨vin (by omega), fun M9 e9 y ey => ?_⟩⟩) (fun c => nx M6 r1 r2 r3 (fun q => by rw [c] at q; cases q))
        rw [nI_clamp (show S + 1 < 2 ^ 31 by omega), nI_clamp (show a < 2 ^ 31 by omega), r4, zb_or, ← anyB_s] at e9
        rw [ey, nI_1]
        exact ih3 M9 ⟨by rw [e9]; exact r1.PI (by unfold SGm; omega), fun T h1 h2 a' h3 h4 => by rw [e9, wI_n _ _ (by omega)]; exact r2 T h1 h2 a' h3 h4, fun a' h1 h2 => by rw [e9, wI_n _ _ (by omega)]; exact r3 a' h1 h2, by rw [e9, wI_s]⟩
/-! the model's side -/
def GT0 (σ : WS) (lm : Lam) (tp : Nat → Int32) (n S : Nat) (M : WM) : Prop := ∀ a, a < n → S.testBit a = true → wI M 5476 (13 * S + a) = b2i (gwin σ lm tp n S a)
def S5476 (r _k : Nat) : Prop := r = 5476
theorem s_X6_stepTold {σ : WS} {lm : Lam} {tp : Nat → Int32} {n i j : Nat} {M : WM} {Q : Int32 → Prop} (hS : StA σ lm M) (ok : wsOK σ) (lo : lamOK lm) (hd : TdT tp n M) (hu : okW σ tp n) (hn : n ≤ 14) (hi : i < n) (hj : j < n) (h : Q (fI 1000000000 (cst σ lm (td tp i) (td tp j)))) : m_X6_stepTold (nI i) (nI j) M Q := by
  have hs := ok.1
  have ti := (okW_td ok hu hi).2
  have tj := (okW_td ok hu hj).2
  unfold m_X6_stepTold
  rw [nI_clamp (show i < 2 ^ 31 by omega), nI_clamp (show j < 2 ^ 31 by omega), hd i hi, hd j hj, show (40 : Int32) = nI 40 from rfl, pk_mul, nI_add, nI_clamp (by omega)]
  refine ⟨vin (by omega), vin (by omega), vin (by omega), ?_⟩
  rcases rdU hS lo ti tj with ⟨e1, e2⟩ | ⟨c, e1, c1, c2, e2⟩
  · rw [e2]; rw [e1] at h; exact h
  · rw [e2]; rw [e1] at h; exact h
theorem fI_far {o : Option Nat} {A B : Prop} (hb : ∀ c, o = some c → c ≤ 99) (h1 : o.isSome = false → A) (h0 : o.isSome = true → B) : ((1000000000 : Int32) ≤ fI 1000000000 o → A) ∧ (¬ (1000000000 : Int32) ≤ fI 1000000000 o → B) := by
  cases o with
  | none => exact ⟨fun _ => h1 rfl, fun z => absurd (Int32.le_refl _) z⟩
  | some c => have := hb c rfl; exact pk_le 1000000000 c (fun z => absurd z (by omega)) (fun _ => h0 rfl) rfl rfl
theorem tb_0 {s k : Nat} (hs : s < 2 ^ 31) (hk : k < 31) {A B : Prop} (h1 : s.testBit k = true → B) (h0 : s.testBit k = false → A) : (((nI s >>> (nI k &&& 31)) &&& 1) = 0 → A) ∧ (¬ ((nI s >>> (nI k &&& 31)) &&& 1) = 0 → B) := by
  rw [tb32 hs hk]
  cases e : s.testBit k with
  | false => exact ⟨fun _ => h0 e, fun z => absurd rfl z⟩
  | true => exact ⟨fun z => absurd z (by decide), fun _ => h1 e⟩
theorem s_X6_wins {σ : WS} {lm : Lam} {tp : Nat → Int32} {n S a : Nat} {M : WM} {Q : Int32 → Prop} (hS : StA σ lm M) (ok : wsOK σ) (lo : lamOK lm) (hd : TdT tp n M) (hu : okW σ tp n) (hn : n ≤ 12) (h0 : S < 2 ^ n) (ha : a < n) (hG : ∀ T, S < T → T < 2 ^ n → GT0 σ lm tp n T M) (h : Q (b2i (gwin σ lm tp n S a))) : m_X6_wins (nI n) (nI S) (nI a) M Q := by
  have hs := ok.1
  have h12 := p12 hn
  rw [gwin_eq h0] at h
  refine pk_loop (fun k i (_ : Unit) => m_X6_wins_l3 (nI n) (nI S) (nI a) M Q k (nI i)) (fun i _ => ∀ j, j < i → gmv σ lm tp n S a j = false) n 0 () (by omega) (fun j h => absurd h (by omega)) ?_ ?_
  · intro k _ hI
    rw [anyB_no hI] at h
    exact ⟨fun _ => h, fun z => absurd (Int32.le_refl _) z⟩
  · intro k i _ hi hI ih
    have no : gmv σ lm tp n S a i = false → ∀ y : Int32, y = nI i + 1 → m_X6_wins_l3 (nI n) (nI S) (nI a) M Q k y := fun q y ey => by
      rw [ey, nI_1]
      refine ih () fun j hj => ?_
      by_cases e : j = i
      · rw [e]; exact q
      · exact hI j (by omega)
    refine ⟨fun z => absurd z (nI_ge hi (by omega)), fun _ => tb_0 (by omega) (by omega) (fun c => no (by unfold gmv; rw [c]; rfl)) (fun c => s_X6_stepTold hS ok lo hd hu (by omega) ha hi (fI_far (fun c e => (cst_b lo e).2.1) (fun c2 => no (by unfold gmv esT; rw [c, c2]; rfl)) (fun c2 => ?_)))⟩
    have hb := or_bd h0 hi
    have hup := or_up c
    rw [bit32 (by omega), nI_or, show (13 : Int32) = nI 13 from rfl, pk_mul, nI_add, nI_clamp (by omega), hG _ hup hb i hi (by rw [Nat.testBit_or, Nat.testBit_two_pow_self, Bool.or_true])]
    refine ⟨vin (by omega), fun q => ?_, fun q => no ?_⟩
    · rw [b2i_0] at q
      have hg : gmv σ lm tp n S a i = true := by unfold gmv esT; rw [c, c2, q]; rfl
      rw [anyB_hit hi hg] at h; exact h
    · rw [b2i_0] at q
      unfold gmv esT; rw [c, c2, ts_nf q]; rfl
def SGT (r k : Nat) : Prop := SWM r k ∨ STA r k ∨ S5476 r k
theorem s_X6_game {σ : WS} {lm : Lam} {tp : Nat → Int32} {t : Nat} {M : WM} {x z : Int32} {Q : Int32 → WM → Prop} (hW : WT σ M) (ok : wsOK σ) (hl : LawT lm M) (lo : lamOK lm) (hT : TT tp t M) (ht : t ≤ 200) (h0 : ¬ VGm t x z → Q (-1) M) (h2 : ∀ n, x = nI n → VGm t x z → ¬ okU σ tp n → ∀ M', TT tp 0 M' → Fr SWM M M' → Q (-3) M') (h1 : ∀ n, x = nI n → VGm t x z → okU σ tp n → ∀ M', TT tp 0 M' → Fr SGT M M' → Q (gmV σ lm tp n z) M') : m_X6_game x z M Q := by
  have hs := ok.1
  refine s_X6_in (bdc (fun e => ?_) (fun e => h0 fun q => e q.1))
  have e : 2 ≤ x.toInt ∧ x.toInt ≤ 12 := e
  refine s_X6_in (bdc (fun e2 => ?_) (fun e2 => h0 fun q => e2 ⟨q.2.1.1, by have := q.2.1.2; show z.toInt ≤ 1; omega⟩))
  have e2 : 0 ≤ z.toInt ∧ z.toInt ≤ 1 := e2
  obtain ⟨n, hn, ex, en⟩ := nI_ex (x := x) (by omega)
  rw [hT.2]
  subst ex
  refine pk_le n t (fun e3 => ?_) (fun e3 => h0 fun q => by have := q.2.2; omega) rfl rfl
  have hV : VGm t (nI n) z := ⟨e, ⟨e2.1, by omega⟩, by omega⟩
  have h12 := p12 (n := n) (by omega)
  refine s_X6_takesWords hW ok hT (by omega) (fun hu M7 d7 t7 f7 => ie1 ?_) (fun hu M7 t7 f7 => ie0 (h2 n rfl hV (fun q => hu q.1) M7 t7 f7))
  have w7 : WT σ M7 := hW.fr f7 (by unfold SWM PWT; omega)
  refine s_X6_areUsed w7 ok d7 hu (by omega) (fun hu => ie1 ?_) (fun hu => ie0 (h2 n rfl hV hu M7 t7 f7))
  refine s_X6_laysSteps w7 ok (hl.mv (f7.lt (by unfold SWM; omega))) lo fun M10 S10 f10 z11 e11 => ?_
  have d10 : TdT tp n M10 := fun k hk => by rw [f10.I (by unfold STA; omega)]; exact d7 k hk
  have F10 : Fr SGT M M10 := (f7.mono fun r k q => Or.inl q).tr (f10.mono fun r k q => Or.inr (Or.inl q))
  have t10 : TT tp 0 M10 := ⟨fun k => by rw [f10.I (by unfold STA; omega)]; exact t7.1 k, by rw [f10.I (by unfold STA; omega)]; exact t7.2⟩
  have fx : ∀ {M'}, Fr S5476 M10 M' → StA σ lm M' ∧ TdT tp n M' ∧ TT tp 0 M' ∧ Fr SGT M M' := fun f => ⟨fun a b ha hb => (S10 a b ha hb).fr f (by unfold S5476; omega), fun k hk => by rw [f.I (by unfold S5476; omega)]; exact d10 k hk, ⟨fun k => by rw [f.I (by unfold S5476; omega)]; exact t10.1 k, by rw [f.I (by unfold S5476; omega)]; exact t10.2⟩, F10.tr (f.mono fun r k q => Or.inr (Or.inr q))⟩
  have hh := h1 n rfl hV hu
  have p1 : 1 < 2 ^ n := by
    have : 2 ^ 1 ≤ 2 ^ n := Nat.pow_le_pow_right (by omega) (by omega)
    omega
  have ez : z11 = nI (2 ^ n - 1) := by rw [e11, bit32 (by omega)]; exact pk_sub (b := 1) (by omega)
  rw [ez]
  refine ⟨_, pk_loopD (fun k S M' => m_X6_game_l58 (nI n) z Q k (nI S) M') (fun S M' => S < 2 ^ n ∧ Fr S5476 M10 M' ∧ ∀ T, S < T → T < 2 ^ n → GT0 σ lm tp n T M') ?_ ?_ (2 ^ n - 1) M10 ⟨by omega, Fr.rf, fun T h1 h2 => absurd h1 (by omega)⟩⟩
  · intro k M' ⟨_, q2, q3⟩
    obtain ⟨L', d', t', F'⟩ := fx q2
    have hh := hh M' t' F'
    unfold gmV at hh
    refine ⟨fun _ => ⟨fun c => ⟨vin (n := 13) (by omega), ?_⟩, fun c => ?_⟩, fun z => absurd (Int32.le_refl _) z⟩
    · rw [if_pos c] at hh
      rw [show (13 : Int32).toNatClampNeg = 13 * 1 + 0 by decide, q3 1 (by omega) p1 0 (by omega) rfl]
      exact hh
    · rw [if_neg c] at hh
      have g0 : gbS σ lm tp n 1 = none := by
        rw [gbS]
        have : gmv σ lm tp n 1 0 0 = false := by unfold gmv; rw [show Nat.testBit 1 0 = true from rfl]; rfl
        rw [this]; rfl
      refine pk_loop (fun k' i (s : Option Nat) => m_X6_game_l139 (nI n) Q k' (gbI s) (nI i) M') (fun i s => 1 ≤ i ∧ s = gbS σ lm tp n i) n 1 none (by omega) ⟨by omega, g0.symm⟩ ?_ ?_
      · intro k' s ⟨_, es⟩
        subst es
        exact ⟨fun _ => hh, fun z => absurd (Int32.le_refl _) z⟩
      · intro k' i s hi ⟨h1i, es⟩ ih
        have ti := (okW_td ok hu.1 hi).2
        have b0 : Nat.testBit 1 i = false := by
          have : Nat.testBit (2 ^ 0) i = decide (0 = i) := Nat.testBit_two_pow
          rw [show (1 : Nat) = 2 ^ 0 from rfl, this]; exact decide_eq_false (by omega)
        have no : gmv σ lm tp n 1 0 i = false → ∀ y : Int32, y = nI i + 1 → m_X6_game_l139 (nI n) Q k' (gbI s) y M' := fun q y ey => by
          rw [ey, nI_1]
          exact ih s ⟨by omega, by rw [gbS, q]; exact es⟩
        refine ⟨fun z => absurd z (nI_ge hi (by omega)), fun _ => s_X6_stepTold L' ok lo d' hu.1 (by omega) (show 0 < n by omega) hi (fI_far (fun c e => (cst_b lo e).2.1) (fun c2 => no (by unfold gmv esT; rw [b0, c2]; rfl)) (fun c2 => ?_))⟩
        have hb := or_bd p1 hi
        have hup := or_up b0
        rw [bit32 (by omega), show (1 : Int32) = nI 1 from rfl, nI_or, show (13 : Int32) = nI 13 from rfl, pk_mul, nI_add, nI_clamp (by omega), q3 _ (by omega) hb i hi (by rw [Nat.testBit_or, Nat.testBit_two_pow_self, Bool.or_true])]
        refine ⟨vin (by omega), fun q => ?_, fun q y ey => no ?_ y ey⟩
        · rw [b2i_0] at q
          have hg : gmv σ lm tp n 1 0 i = true := by unfold gmv esT; rw [b0, c2, q]; rfl
          have ih3 := ih (gbS σ lm tp n (i + 1)) ⟨by omega, rfl⟩
          rw [gbS, if_pos hg, ← es] at ih3
          rw [nI_clamp (show i < 2 ^ 31 by omega), d' i hi]
          cases s with
          | none => exact ⟨fun _ => ⟨vin (by omega), fun z7 e7 y ey => by rw [e7, ey, nI_add]; exact ih3⟩, fun z => absurd rfl z⟩
          | some b =>
            have hb := gbS_b ok hu.1 i (by omega) b es.symm
            have ih3 : m_X6_game_l139 (nI n) Q k' (gbI (if td tp i < b then some (td tp i) else some b)) (nI (i + 1)) M' := ih3
            refine ⟨fun q => absurd q ?_, fun _ => ⟨vin (by omega), pk_le b (td tp i) (fun c3 y ey => ?_) (fun c3 => ⟨vin (by omega), fun z7 e7 y ey => ?_⟩) rfl rfl⟩⟩
            · show ¬ nI b = -2
              rw [i_eq, nI_toInt (by omega)]; intro z; have : (b : Int) = -2 := z; omega
            · rw [if_neg (by omega)] at ih3; rw [ey, nI_add]; exact ih3
            · rw [if_pos c3] at ih3; rw [e7, ey, nI_add]; exact ih3
        · rw [b2i_0] at q
          unfold gmv esT; rw [b0, c2, ts_nf q]; rfl
  · intro k S M' ⟨q1, q2, q3⟩ ih
    refine ⟨fun z => absurd z (nI_nle (by omega) (by omega)), fun _ => ?_⟩
    refine pk_loop (fun k' a M3 => m_X6_game_l65 (fun x3' M' => m_X6_game_l58 (nI n) z Q k x3' M') (nI n) z (nI (S + 1)) Q k' (nI a) M3) (fun a M3 => Fr S5476 M10 M3 ∧ (∀ T, S + 1 < T → T < 2 ^ n → GT0 σ lm tp n T M3) ∧ ∀ a', a' < a → (S + 1).testBit a' = true → wI M3 5476 (13 * (S + 1) + a') = b2i (gwin σ lm tp n (S + 1) a')) n 0 M' (by omega) ⟨q2, q3, fun a h => absurd h (by omega)⟩ ?_ ?_
    · intro k' M3 ⟨p1, p2, p3⟩
      refine ⟨fun _ y ey => ?_, fun z => absurd (Int32.le_refl _) z⟩
      rw [ey, pk_m1]
      refine ih M3 ⟨by omega, p1, fun T h1 h2 => ?_⟩
      by_cases e4 : T = S + 1
      · rw [e4]; exact p3
      · exact p2 T (by omega) h2
    · intro k' a M3 ha ⟨p1, p2, p3⟩ ih2
      refine ⟨fun z => absurd z (nI_ge ha (by omega)), fun _ => tb_1 (by omega) (by omega) (fun c => ?_) (fun c y ey => ?_)⟩
      · rw [show (13 : Int32) = nI 13 from rfl, pk_mul, nI_add, nI_clamp (show 13 * (S + 1) + a < 2 ^ 31 by omega)]
        have put : ∀ v M8, v = b2i (gwin σ lm tp n (S + 1) a) → M8 = wPI M3 5476 (13 * (S + 1) + a) v → ∀ y : Int32, y = nI a + 1 → m_X6_game_l65 (fun x3' M' => m_X6_game_l58 (nI n) z Q k x3' M') (nI n) z (nI (S + 1)) Q k' y M8 := fun v M8 ev e8 y ey => by
          rw [ey, nI_1]
          refine ih2 M8 ⟨by rw [e8]; exact p1.PI rfl, fun T h1 h2 a' h3 h4 => by rw [e8, wI_n _ _ (by omega)]; exact p2 T h1 h2 a' h3 h4, fun a' h1 h2 => ?_⟩
          rw [e8]
          by_cases e4 : a' = a
          · rw [e4, wI_s, ev]
          · rw [wI_n _ _ (by omega)]; exact p3 a' (by omega) h2
        refine s_X6_wins (fx p1).1 ok lo (fx p1).2.1 hu.1 (by omega) q1 ha (fun T h1 h2 => p2 T h1 h2) (bcs (fun c2 => ⟨vin (by omega), fun M8 e8 => put _ M8 (by rw [c2]; rfl) e8⟩) (fun c2 => ⟨vin (by omega), fun M8 e8 => put _ M8 (by rw [c2]; rfl) e8⟩))
      · rw [ey, nI_1]
        refine ih2 M3 ⟨p1, p2, fun a' h1 h2 => ?_⟩
        by_cases e4 : a' = a
        · rw [e4, c] at h2; cases h2
        · exact p3 a' (by omega) h2
