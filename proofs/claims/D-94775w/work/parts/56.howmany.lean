/-! howMany: rows of least cost, counted -/
def oks (σ : WS) (lm : Lam) (b v w : Nat) : Bool := match cst σ lm v w, way σ lm w b, way σ lm v b with
  | some c, some (C1, _), some (C, _) => decide (c + C1 = C)
  | _, _, _ => false
def smJ (p : Nat → Bool) (f : Nat → Int64) : Nat → Int64
  | 0 => 0
  | n + 1 => if p n = true then smJ p f n + f n else smJ p f n
theorem smJ_cg {p : Nat → Bool} {f g : Nat → Int64} : ∀ {n : Nat}, (∀ k, k < n → p k = true → f k = g k) → smJ p f n = smJ p g n
  | 0, _ => rfl
  | n + 1, h => by
    rw [smJ, smJ, smJ_cg (f := f) (g := g) fun k hk hp => h k (by omega) hp]
    cases e : p n with
    | false => rfl
    | true => rw [if_pos rfl, if_pos rfl, h n (by omega) e]
def hmF (σ : WS) (lm : Lam) (b : Nat) : Nat → Nat → Int64
  | 0, v => if v = b then 1 else 0
  | d + 1, v => if v = b then 1 else smJ (oks σ lm b v) (hmF σ lm b d) (sN σ)
def cto (σ : WS) (lm : Lam) (b v : Nat) : Nat := match way σ lm v b with
  | none => 1000000
  | some (C, _) => C
def rk (σ : WS) (lm : Lam) (b v : Nat) : Nat := cnt (fun u => decide (cto σ lm b u < cto σ lm b v)) (sN σ)
theorem oks_t {σ : WS} {lm : Lam} {b v w : Nat} (h : oks σ lm b v w = true) : ∃ c C1 S1 S, cst σ lm v w = some c ∧ way σ lm w b = some (C1, S1) ∧ way σ lm v b = some (c + C1, S) := by
  unfold oks at h
  cases e1 : cst σ lm v w with
  | none => rw [e1] at h; cases h
  | some c =>
    cases e2 : way σ lm w b with
    | none => rw [e1, e2] at h; cases h
    | some q =>
      obtain ⟨C1, S1⟩ := q
      cases e3 : way σ lm v b with
      | none => rw [e1, e2, e3] at h; cases h
      | some q =>
        obtain ⟨C, S⟩ := q
        rw [e1, e2, e3] at h
        have h : decide (c + C1 = C) = true := h
        exact ⟨c, C1, S1, S, rfl, rfl, by rw [of_decide_eq_true h]⟩
theorem rk_lt {σ : WS} {lm : Lam} (lo : lamOK lm) {b v w : Nat} (h : oks σ lm b v w = true) : rk σ lm b w < rk σ lm b v := by
  obtain ⟨c, C1, S1, S, h1, h2, h3⟩ := oks_t h
  have hc := cst_b lo h1
  have ew : cto σ lm b w = C1 := by unfold cto; rw [h2]
  have ev : cto σ lm b v = c + C1 := by unfold cto; rw [h3]
  unfold rk
  rw [cnt_del (p := fun u => decide (cto σ lm b u < cto σ lm b v)) (u := w) (decide_eq_true (by omega)) hc.2.2.2]
  rw [Nat.add_comm]
  refine Nat.lt_succ_of_le (cnt_mono fun k hk hp => ?_)
  have hp : cto σ lm b k < cto σ lm b w := of_decide_eq_true hp
  show (decide (cto σ lm b k < cto σ lm b v) && decide (¬ k = w)) = true
  rw [decide_eq_true (show cto σ lm b k < cto σ lm b v by omega), decide_eq_true (show ¬ k = w from fun z => by rw [z] at hp; omega)]; rfl
theorem hmF_st {σ : WS} {lm : Lam} (lo : lamOK lm) {b : Nat} : ∀ (d d' v : Nat), rk σ lm b v ≤ d → rk σ lm b v ≤ d' → hmF σ lm b d v = hmF σ lm b d' v := by
  have z0 : ∀ v d, rk σ lm b v ≤ 0 → hmF σ lm b d v = if v = b then 1 else 0 := fun v d h => by
    cases d with
    | zero => rfl
    | succ d =>
      have : ∀ n, smJ (oks σ lm b v) (hmF σ lm b d) n = 0 := fun n => by
        induction n with
        | zero => rfl
        | succ n ih =>
          rw [smJ, ih]
          cases e : oks σ lm b v n with
          | false => rfl
          | true => have := rk_lt lo e; omega
      rw [hmF, this]
  intro d
  induction d with
  | zero => intro d' v h1 _; rw [z0 v 0 h1, z0 v d' h1]
  | succ d ih =>
    intro d' v h1 h2
    cases d' with
    | zero => rw [z0 v _ h2, z0 v _ h2]
    | succ d' =>
      rw [hmF, hmF]
      by_cases c : v = b
      · rw [if_pos c, if_pos c]
      · rw [if_neg c, if_neg c]
        exact smJ_cg fun k _ hp => by have := rk_lt lo hp; exact ih d' k (by omega) (by omega)
def hm (σ : WS) (lm : Lam) (b v : Nat) : Int64 := hmF σ lm b (rk σ lm b v) v
theorem hm_b {σ : WS} {lm : Lam} {b : Nat} : hm σ lm b b = 1 := by
  unfold hm
  cases rk σ lm b b with
  | zero => rw [hmF, if_pos rfl]
  | succ d => rw [hmF, if_pos rfl]
theorem hm_s {σ : WS} {lm : Lam} (lo : lamOK lm) {b v : Nat} (h : ¬ v = b) : hm σ lm b v = smJ (oks σ lm b v) (hm σ lm b) (sN σ) := by
  have e : hm σ lm b v = hmF σ lm b (rk σ lm b v + 1) v := hmF_st lo _ _ v (Nat.le_refl _) (by omega)
  rw [e, hmF, if_neg h]
  exact smJ_cg fun k _ hp => by have := rk_lt lo hp; exact hmF_st lo _ _ k (by omega) (Nat.le_refl _)
/-! LetterHeaps' side: with what is counted kept -/
def Mem (σ : WS) (lm : Lam) (b : Nat) (M : WM) : Prop := ∀ u, u < sN σ → ¬ wI M 176 u = 0 → wJ M 175 u = hm σ lm b u
def S175 (r _k : Nat) : Prop := r = 175 ∨ r = 176
theorem Laid.fr {σ : WS} {lm : Lam} {S : Nat → Nat → Prop} {M M' : WM} (h : Laid σ lm M) (ok : wsOK σ) (f : Fr S M M') (hS : ∀ r k, S r k → ¬ (10 ≤ r ∧ r ≤ 173)) : Laid σ lm M' := by
  have hs := ok.1
  refine ⟨fun a b ha hb => (h.1 a b ha hb).fr f fun r k q z => hS r k q (by omega), fun a b ha hb => ?_, fun a ha x hx => ?_⟩
  · rw [f.I fun z => hS _ _ z (by omega)]; exact h.2.1 a b ha hb
  · rw [f.J fun z => hS _ _ z (by omega)]; exact h.2.2 a ha x hx
theorem s_X0_rowsTo {σ : WS} {lm : Lam} {b : Nat} (ok : wsOK σ) (lo : lamOK lm) (hb : b < sN σ) : ∀ (d : Nat) (M : WM) (a C S : Nat) (Q : Int64 → WM → Prop), WC σ M → Laid σ lm M → a < sN σ → way σ lm a b = some (C, S) → rk σ lm b a < d → Mem σ lm b M → (∀ M', Mem σ lm b M' → Fr S175 M M' → Q (hm σ lm b a) M') → m_X0_rowsTo d (nI a) (nI b) M Q
  | 0, M, a, C, S, Q, hW, hL, ha, hw, hd, hm0, h => absurd hd (by omega)
  | d + 1, M, a, C, S, Q, hW, hL, ha, hw, hd, hm0, h => by
    have hs := ok.1
    show b_X0_rowsTo (m_X0_rowsTo d) (nI a) (nI b) M Q
    unfold b_X0_rowsTo
    rw [nI_clamp (show a < 2 ^ 31 by omega)]
    refine pk_eq a b (fun c => ?_) (fun c => ⟨vin (by omega), fun e => ?_, fun e => ⟨vin (by omega), ?_⟩⟩) rfl rfl
    · have := h M hm0 Fr.rf
      rw [c, hm_b] at this; exact this
    · have f9 : ∀ {M'}, Fr S175 M M' → WC σ M' ∧ Laid σ lm M' := fun f => ⟨hW.fr ok f (by unfold S175 PWC; omega), hL.fr ok f (by unfold S175; omega)⟩
      refine pk_loop (fun k i (s : Int64 × WM) => m_X0_rowsTo_l28 (m_X0_rowsTo d) (nI a) (nI b) Q k s.1 (nI i) s.2) (fun i s => Fr S175 M s.2 ∧ Mem σ lm b s.2 ∧ s.1 = smJ (oks σ lm b a) (hm σ lm b) i) (sN σ) 0 (0, M) (by omega) ⟨Fr.rf, hm0, rfl⟩ ?_ ?_
      · intro k s ⟨q1, q2, q3⟩
        unfold m_X0_rowsTo_l28
        rw [(f9 q1).1.1, nI_clamp (show a < 2 ^ 31 by omega)]
        refine ⟨fun _ => ⟨vin (by omega), fun M3 e3 => ⟨vin (by omega), fun M5 e5 => ?_⟩⟩, fun z => absurd (Int32.le_refl _) z⟩
        have hq : s.1 = hm σ lm b a := by rw [q3, hm_s lo c]
        rw [hq] at e5 ⊢
        refine h M5 (fun u hu hn => ?_) (by rw [e5, e3]; exact (q1.PI (Or.inr rfl)).PJ (Or.inl rfl))
        rw [e5, wJ_PJ]
        by_cases eu : u = a
        · rw [if_pos ⟨rfl, eu⟩, eu]
        · rw [if_neg (fun z => eu z.2), e3]
          show wJ s.2 175 u = _
          refine q2 u hu fun z => hn ?_
          rw [e5, e3]
          show wI (wPI s.2 176 a (zb 1)) 176 u = 0
          rw [wI_n _ _ (by omega)]; exact z
      · intro k i s hi ⟨q1, q2, q3⟩ ih
        obtain ⟨w2, l2⟩ := f9 q1
        have no : oks σ lm b a i = false → ∀ y : Int32, y = nI i + 1 → m_X0_rowsTo_l28 (m_X0_rowsTo d) (nI a) (nI b) Q k s.1 y s.2 := fun q y ey => by
          rw [ey, nI_1]
          exact ih s ⟨q1, q2, by rw [smJ, q]; exact q3⟩
        unfold m_X0_rowsTo_l28
        rw [w2.1, nI_clamp (show a < 2 ^ 31 by omega), nI_clamp (show b < 2 ^ 31 by omega), nI_clamp (show i < 2 ^ 31 by omega)]
        refine ⟨fun z => absurd z (nI_ge hi (by omega)), fun _ => s_X0_isStep l2.1 ok lo ha hi ?_⟩
        rcases rdS l2.1 lo ha hi with ⟨e1, e2⟩ | ⟨c', e1, c1, c2, e2⟩
        · rw [e1]; exact ie0 (no (by unfold oks; rw [e1]))
        rw [e1, e2]
        refine ie1 ⟨vin (by omega), vin (by omega), ?_⟩
        rcases rdC l2.2.1 ok lo hi hb with ⟨e3, e4⟩ | ⟨C1, S1, e3, c3, c4, e4⟩
        · rw [e4]; exact ⟨fun _ => no (by unfold oks; rw [e1, e3]), fun z => absurd (Int32.le_refl _) z⟩
        rw [e4]
        have en : oks σ lm b a i = decide (c' + C1 = C) := by unfold oks; rw [e1, e3, hw]
        have hCb := (way_s ok lo hw).2.1
        refine pk_le 268435456 (100 * C1 + S1) (fun z => absurd z (by omega)) (fun _ => ⟨vin (by omega), vin (by omega), s_X0_costOf l2.2.1 ok lo hi hb e3 (s_X0_costOf l2.2.1 ok lo ha hb hw ?_)⟩) rfl rfl
        refine pk_eq (c' + C1) C (fun q => ?_) (fun q => no (by rw [en]; exact decide_eq_false q)) (nI_add _ _) rfl
        have ht : oks σ lm b a i = true := by rw [en]; exact decide_eq_true q
        refine s_X0_rowsTo ok lo hb d _ _ _ _ _ w2 l2 hi e3 (by have := rk_lt lo ht; omega) q2 fun M20 m20 f20 z ez y ey => ?_
        rw [ez, ey, nI_1]
        exact ih (s.1 + hm σ lm b i, M20) ⟨q1.tr f20, m20, by rw [smJ, ht, if_pos rfl, q3]⟩
    · rw [hm0 a ha e]
      exact h M hm0 Fr.rf
def hmV (σ : WS) (lm : Lam) (a b : Nat) : Int64 := if (way σ lm a b).isSome = true then hm σ lm b a else 0
def SHm (r k : Nat) : Prop := SLay r k ∨ S175 r k
theorem s_X0_howMany {σ : WS} {lm : Lam} {M : WM} {x y : Int32} {Q : Int64 → WM → Prop} (hW : WC σ M) (ok : wsOK σ) (hl : LawC lm M) (lo : lamOK lm) (hC : wI M 0 8 = wI M 0 7 → Laid σ lm M) (h0 : ¬ VF σ x y → Q (-1) M) (h1 : ∀ a b, x = nI a → y = nI b → VF σ x y → ∀ M', Laid σ lm M' → Fr SHm M M' → Q (hmV σ lm a b) M') : m_X0_howMany x y M Q := by
  have hs := ok.1
  refine s_X0_areTwo hW ok (fun e => ie0 (h0 e)) (fun a b ha hb ex ey hV => ie1 ?_)
  have hh := h1 a b ex ey hV
  subst ex ey
  refine s_X0_lays hW ok hl lo hC fun M4 L4 _ f4 => ?_
  have w4 : WC σ M4 := hW.fr ok f4 (by unfold SLay PWC; omega)
  have f4' : Fr SHm M M4 := f4.mono fun r k q => Or.inl q
  unfold hmV at hh
  rw [nI_clamp (show a < 2 ^ 31 by omega), nI_clamp (show b < 2 ^ 31 by omega)]
  refine ⟨vin (by omega), vin (by omega), ?_⟩
  rcases rdC L4.2.1 ok lo ha hb with ⟨e1, e2⟩ | ⟨C, S, e1, c1, c2, e2⟩
  · have hh := hh M4 L4 f4'
    rw [e1] at hh
    rw [e2]; exact ⟨fun _ => hh, fun z => absurd rfl z⟩
  rw [e2]
  rw [e1] at hh
  refine pk_eq (100 * C + S) 268435456 (fun z => absurd z (by omega)) (fun _ => ?_) rfl rfl
  refine pk_loop (fun k i M' => m_X0_howMany_l34 (nI a) (nI b) Q k (nI i) M') (fun i M' => Fr S175 M4 M' ∧ ∀ u, u < i → wI M' 176 u = 0) (sN σ) 0 M4 (by omega) ⟨Fr.rf, fun u h => absurd h (by omega)⟩ ?_ ?_
  · intro k M' ⟨q1, q2⟩
    have w5 : WC σ M' := w4.fr ok q1 (by unfold S175 PWC; omega)
    unfold m_X0_howMany_l34
    rw [w5.1]
    refine ⟨fun _ => ⟨41, by omega, ?_⟩, fun z => absurd (Int32.le_refl _) z⟩
    have hr : rk σ lm b a ≤ sN σ := cnt_le _ _
    refine s_X0_rowsTo ok lo hb 41 _ _ _ _ _ w5 (L4.fr ok q1 (by unfold S175; omega)) ha e1 (by omega) (fun u hu hn => absurd (q2 u hu) hn) fun M3 _ f3 => ?_
    exact hh M3 (L4.fr ok (q1.tr f3) (by unfold S175; omega)) (f4'.tr ((q1.tr f3).mono fun r k q => Or.inr q))
  · intro k i M' hi ⟨q1, q2⟩ ih
    unfold m_X0_howMany_l34
    rw [(w4.fr ok q1 (by unfold S175 PWC; omega)).1, nI_clamp (show i < 2 ^ 31 by omega)]
    refine ⟨fun z => absurd z (nI_ge hi (by omega)), fun _ => ⟨vin (by omega), fun M5 e5 z ez => ?_⟩⟩
    rw [ez, nI_1]
    refine ih M5 ⟨by rw [e5]; exact q1.PI (Or.inr rfl), fun u hu => ?_⟩
    rw [e5]
    by_cases e : u = i
    · rw [e, wI_s]; rfl
    · rw [wI_n _ _ (by omega)]; exact q2 u (by omega)
/-! the model's side: by costs -/
def S5469 (r _k : Nat) : Prop := r = 5469
theorem s_X6_sumOf {σ : WS} {lm : Lam} {M : WM} {w b C S : Nat} {Q : Int64 → Prop} (hW : WT σ M) (hS : StA σ lm M) (hA : WaT (sN σ) (dEnd σ lm 64) M) (ok : wsOK σ) (lo : lamOK lm) (hw : w < sN σ) (hb : b < sN σ) (hww : way σ lm w b = some (C, S)) (hh : ∀ v, v < sN σ → oks σ lm b w v = true → wJ M 5469 v = hm σ lm b v) (h : Q (smJ (oks σ lm b w) (hm σ lm b) (sN σ))) : m_X6_sumOf (nI w) (nI b) (nI C) M Q := by
  have hs := ok.1
  have hCb := (way_s ok lo hww).2.1
  refine pk_loop (fun k i (s : Int64) => m_X6_sumOf_l6 (nI w) (nI b) (nI C) M Q k s (nI i)) (fun i s => s = smJ (oks σ lm b w) (hm σ lm b) i) (sN σ) 0 0 (by omega) rfl ?_ ?_
  · intro k s es
    subst es
    unfold m_X6_sumOf_l6
    rw [hW.1]
    exact ⟨fun _ => h, fun z => absurd (Int32.le_refl _) z⟩
  · intro k i s hi es ih
    have no : oks σ lm b w i = false → ∀ y : Int32, y = nI i + 1 → m_X6_sumOf_l6 (nI w) (nI b) (nI C) M Q k s y := fun q y ey => by
      rw [ey, nI_1]
      exact ih s (by rw [smJ, q]; exact es)
    unfold m_X6_sumOf_l6
    rw [hW.1, show (40 : Int32) = nI 40 from rfl, pk_mul, nI_add, nI_clamp (show 40 * w + i < 2 ^ 31 by omega), nI_clamp (show i < 2 ^ 31 by omega)]
    refine ⟨fun z => absurd z (nI_ge hi (by omega)), fun _ => s_X6_isStep2 hS ok hw hi ?_⟩
    rcases rdU hS lo hw hi with ⟨e1, e2⟩ | ⟨c, e1, c1, c2, e2⟩
    · rw [e1]; exact ie0 (no (by unfold oks; rw [e1]))
    rw [e1, e2]
    refine ie1 ⟨vin (by omega), s_X6_leastOf hA ok lo hi hb (s_X6_sumS (o1 := some (c, 0)) (fun C S e => by cases e; omega) (fun C S e => by have := (way_s ok lo e).2.1; omega) (fun C1 S1 C2 S2 e3 e4 => ?_) (fun hn => ?_))⟩
    · cases e3
      have b4 := (way_s ok lo e4).2.1
      have en : oks σ lm b w i = decide (c + C2 = C) := by unfold oks; rw [e1, e4, hww]
      refine pk_eq (c + C2) C (fun q => ⟨vin (by omega), fun z ez y ey => ?_⟩) (fun q => no (by rw [en]; exact decide_eq_false q)) rfl rfl
      have ht : oks σ lm b w i = true := by rw [en]; exact decide_eq_true q
      rw [ez, ey, nI_1, hh i hi ht]
      exact ih _ (by rw [smJ, ht, if_pos rfl, es])
    · have e4 : way σ lm i b = none := by
        rcases hn with q | q
        · cases q
        · exact q
      exact pk_eq 1000000000 C (fun z => absurd z (by omega)) (fun _ => no (by unfold oks; rw [e1, e4])) rfl rfl
def Wf (σ : WS) (lm : Lam) (b c i : Nat) (M : WM) : Prop := ∀ u C S, u < sN σ → way σ lm u b = some (C, S) → (C < c ∨ (C = c ∧ u < i)) → wJ M 5469 u = hm σ lm b u
def SHt (r k : Nat) : Prop := SWW r k ∨ S5469 r k
theorem s_X6_howMany {σ : WS} {lm : Lam} {M : WM} {x y : Int32} {Q : Int64 → WM → Prop} (hW : WT σ M) (ok : wsOK σ) (hl : LawT lm M) (lo : lamOK lm) (h0 : ¬ VF σ x y → Q (-1) M) (h1 : ∀ a b, x = nI a → y = nI b → VF σ x y → ∀ M', Fr SHt M M' → Q (hmV σ lm a b) M') : m_X6_howMany x y M Q := by
  have hs := ok.1
  refine s_X6_twoJ hW ok h0 (fun a b ha hb ex ey hV => ?_)
  have hh := h1 a b ex ey hV
  subst ex ey
  refine s_X6_laysWays hW ok hl lo fun M6 S6 A6 f6 => ?_
  have w6 : WT σ M6 := hW.fr f6 (by unfold SWW STA SWyT PWT; omega)
  have f6' : Fr SHt M M6 := f6.mono fun r k q => Or.inl q
  unfold hmV at hh
  have fx : ∀ {M'}, Fr S5469 M6 M' → WT σ M' ∧ StA σ lm M' ∧ WaT (sN σ) (dEnd σ lm 64) M' := fun f => ⟨w6.fr f (by unfold S5469 PWT; omega), fun a b ha hb => (S6 a b ha hb).fr f (by unfold S5469; omega), fun a b ha hb => by rw [f.I (by unfold S5469; omega)]; exact A6 a b ha hb⟩
  rw [show (40 : Int32) * nI a + nI b = nI (40 * a + b) by rw [show (40 : Int32) = nI 40 from rfl, pk_mul, nI_add], nI_clamp (show 40 * a + b < 2 ^ 31 by omega)]
  refine ⟨vin (by omega), ?_⟩
  rcases rdT A6 ok lo ha hb with ⟨e1, e2⟩ | ⟨C, S, e1, c1, c2, e2⟩
  · have hh := hh M6 f6'
    rw [e1] at hh
    rw [e2]; exact ⟨fun z => absurd z (nI_nlt (a := 1000000000) (b := 1000000000) (by omega) (by omega)), fun _ => hh⟩
  rw [e2]
  rw [e1] at hh
  refine pk_lt (64 * C + S) 1000000000 (fun _ => ?_) (fun z => absurd z (by omega)) rfl rfl
  refine pk_loop (fun k i M' => m_X6_howMany_l44 (nI a) (nI b) Q k (nI i) M') (fun i M' => Fr S5469 M6 M' ∧ (b < i → wJ M' 5469 b = 1)) (sN σ) 0 M6 (by omega) ⟨Fr.rf, fun h => absurd h (by omega)⟩ ?_ ?_
  · intro k M' ⟨q1, q2⟩
    obtain ⟨w7, s7, a7⟩ := fx q1
    unfold m_X6_howMany_l44
    rw [w7.1]
    refine ⟨fun _ => s_X6_leastOf a7 ok lo ha hb ?_, fun z => absurd (Int32.le_refl _) z⟩
    rw [e1]
    show ∃ n0, m_X6_howMany_l84 (nI a) (nI b) (nI C) Q n0 1 M'
    have i0 : Wf σ lm b 1 0 M' := fun u C' S' hu eu hc => by
      have eb : u = b := by
        rcases way_p ok lo eu with ⟨z, _, _⟩ | ⟨_, z, _⟩
        · exact z
        · omega
      rw [eb, hm_b]; exact q2 hb
    refine pk_loop (fun k' c M2 => m_X6_howMany_l84 (nI a) (nI b) (nI C) Q k' (nI c) M2) (fun c M2 => Fr S5469 M6 M2 ∧ 1 ≤ c ∧ Wf σ lm b c 0 M2) (C + 1) 1 M' (by omega) ⟨q1, by omega, i0⟩ ?_ ?_
    · intro k' M2 ⟨p1, p2, p3⟩
      unfold m_X6_howMany_l84
      refine pk_lt C (C + 1) (fun _ => ⟨vin (by omega), ?_⟩) (fun z => absurd z (by omega)) rfl rfl
      rw [nI_clamp (by omega), p3 a C S ha e1 (Or.inl (by omega))]
      exact hh M2 (f6'.tr (p1.mono fun r k q => Or.inr q))
    · intro k' c M2 hc ⟨p1, p2, p3⟩ ih
      unfold m_X6_howMany_l84
      refine pk_lt C c (fun z => absurd z (by omega)) (fun _ => ?_) rfl rfl
      refine pk_loop (fun k2 i M3 => m_X6_howMany_l93 (fun x4' M' => m_X6_howMany_l84 (nI a) (nI b) (nI C) Q k' x4' M') (nI a) (nI b) (nI C) (nI c) Q k2 (nI i) M3) (fun i M3 => Fr S5469 M6 M3 ∧ Wf σ lm b c i M3) (sN σ) 0 M2 (by omega) ⟨p1, p3⟩ ?_ ?_
      · intro k2 M3 ⟨r1, r2⟩
        unfold m_X6_howMany_l93
        rw [(fx r1).1.1]
        refine ⟨fun _ z ez => ?_, fun z => absurd (Int32.le_refl _) z⟩
        rw [ez, nI_1]
        exact ih M3 ⟨r1, by omega, fun u C' S' hu eu hc => r2 u C' S' hu eu (by omega)⟩
      · intro k2 i M3 hi ⟨r1, r2⟩ ih2
        obtain ⟨w8, s8, a8⟩ := fx r1
        unfold m_X6_howMany_l93
        rw [w8.1, nI_clamp (show i < 2 ^ 31 by omega)]
        refine ⟨fun z => absurd z (nI_ge hi (by omega)), fun _ => s_X6_leastOf a8 ok lo hi hb ?_⟩
        have no : (∀ C' S', way σ lm i b = some (C', S') → ¬ C' = c) → ∀ z : Int32, z = nI i + 1 → m_X6_howMany_l93 (fun x4' M' => m_X6_howMany_l84 (nI a) (nI b) (nI C) Q k' x4' M') (nI a) (nI b) (nI C) (nI c) Q k2 z M3 := fun q z ez => by
          rw [ez, nI_1]
          refine ih2 M3 ⟨r1, fun u C' S' hu eu hc => r2 u C' S' hu eu ?_⟩
          by_cases e : u = i
          · rw [e] at eu; have := q C' S' eu; omega
          · omega
        cases e5 : way σ lm i b with
        | none => exact pk_eq 1000000000 c (fun z => absurd z (by omega)) (fun _ => no (fun C' S' e => by rw [e5] at e; cases e)) rfl rfl
        | some q =>
          obtain ⟨C5, S5⟩ := q
          have b5 := (way_s ok lo e5).2.1
          refine pk_eq C5 c (fun q => ?_) (fun q => no (fun C' S' e => by rw [e5] at e; cases e; exact q)) rfl rfl
          subst q
          have hib : ¬ i = b := fun z => by
            rcases way_p ok lo e5 with q | q <;> omega
          refine s_X6_sumOf w8 s8 a8 ok lo hi hb e5 (fun v hv ht => ?_) ⟨vin (by omega), fun M8 e8 z ez => ?_⟩
          · obtain ⟨c', C1, S1, S', g1, g2, g3⟩ := oks_t ht
            have := cst_b lo g1
            rw [e5] at g3; cases g3
            exact r2 v C1 S1 hv g2 (Or.inl (by omega))
          · rw [ez, nI_1]
            refine ih2 M8 ⟨by rw [e8]; exact r1.PJ rfl, fun u C' S' hu eu hc => ?_⟩
            rw [e8, wJ_PJ]
            by_cases e : u = i
            · rw [if_pos ⟨rfl, e⟩, e, hm_s lo hib]
            · rw [if_neg (fun z => e z.2)]; exact r2 u C' S' hu eu (by omega)
  · intro k i M' hi ⟨q1, q2⟩ ih
    unfold m_X6_howMany_l44
    rw [(fx q1).1.1, nI_clamp (show i < 2 ^ 31 by omega)]
    refine ⟨fun z => absurd z (nI_ge hi (by omega)), fun _ => pk_eq i b (fun c => ⟨vin (by omega), fun M8 e8 z ez => ?_⟩) (fun c => ⟨vin (by omega), fun M8 e8 z ez => ?_⟩) rfl rfl⟩
    · rw [ez, nI_1]
      refine ih M8 ⟨by rw [e8]; exact q1.PJ rfl, fun _ => ?_⟩
      rw [e8, wJ_PJ, if_pos ⟨rfl, c.symm⟩]
    · rw [ez, nI_1]
      refine ih M8 ⟨by rw [e8]; exact q1.PJ rfl, fun hb => ?_⟩
      rw [e8, wJ_PJ, if_neg (fun z => c z.2.symm)]; exact q2 (by omega)
