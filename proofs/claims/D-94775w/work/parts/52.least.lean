/-! least: the next word of a least way, all of them -/
theorem lst_ex {p : Nat → Bool} {n w : Nat} (hw : w < n) (h : p w = true) : lst p n < n ∧ p (lst p n) = true := by
  have h1 : lst p n < n := by
    rcases Nat.lt_or_ge (lst p n) n with c | c
    · exact c
    · have := lst_lo p n w (by omega); rw [h] at this; cases this
  exact ⟨h1, lst_hit p n h1⟩
def stps (σ : WS) (lm : Lam) (b : Nat) : Nat → Nat → Nat
  | 0, a => a
  | k + 1, a => lst (nx σ lm (stps σ lm b k a) b) (sN σ)
theorem stps_ok {σ : WS} {lm : Lam} (ok : wsOK σ) (lo : lamOK lm) {a b C S : Nat} (ha : a < sN σ) (h : way σ lm a b = some (C, S)) : ∀ k, k ≤ S → stps σ lm b k a < sN σ ∧ ∃ C', way σ lm (stps σ lm b k a) b = some (C', S - k)
  | 0, _ => ⟨ha, C, h⟩
  | k + 1, hk => by
    obtain ⟨h1, C', h2⟩ := stps_ok ok lo ha h k (by omega)
    obtain ⟨w, g1, g2⟩ := nx_ex ok lo h2 (fun z => by rcases way_p ok lo h2 with q | q <;> omega)
    obtain ⟨g3, g4⟩ := lst_ex g1 g2
    obtain ⟨c, C1, S1, k1, k2, k3⟩ := nx_t g4
    rw [h2] at k3
    have e : S - k = 1 + S1 := congrArg Prod.snd (Option.some.inj k3)
    exact ⟨g3, C1, by show way σ lm (lst _ _) b = _; rw [k2, show S1 = S - (k + 1) by omega]⟩
def leastV (σ : WS) (lm : Lam) (a b : Nat) (z : Int32) : Int32 := match way σ lm a b with
  | none => -2
  | some (C, S) => if z = -1 then nI C else if z = 40 then nI S else if z.toInt ≤ S then nI (stps σ lm b z.toInt.toNat a) else -1
def VL (σ : WS) (x y z : Int32) : Prop := VF σ x y ∧ -1 ≤ z.toInt ∧ z.toInt ≤ 40
theorem s_X0_nextB {σ : WS} {lm : Lam} {M : WM} {a b C S i n : Nat} {Q : Int32 → Prop} (hS : StB σ lm M) (hA : WaC (sN σ) (dEnd σ lm 100) M) (ok : wsOK σ) (lo : lamOK lm) (ha : a < sN σ) (hb : b < sN σ) (hi : i < sN σ) (hw : way σ lm a b = some (C, S)) (ht : nx σ lm a b i = true → Q (nI i)) (hf : nx σ lm a b i = false → ∀ z : Int32, z = nI i + 1 → m_X0_next_l2 (nI a) (nI b) M Q n z) : m_X0_next_l2 (nI a) (nI b) M Q (n + 1) (nI i) := by
  have hs := ok.1
  unfold m_X0_next_l2
  rw [nI_clamp (show a < 2 ^ 31 by omega), nI_clamp (show b < 2 ^ 31 by omega), nI_clamp (show i < 2 ^ 31 by omega)]
  refine s_X0_isStep hS ok lo ha hi ?_
  rcases rdS hS lo ha hi with ⟨e1, e2⟩ | ⟨c, e1, c1, c2, e2⟩
  · rw [e1]; exact ie0 (hf (by unfold nx; rw [e1]))
  rw [e1, e2]
  refine ie1 ⟨vin (by omega), vin (by omega), ?_⟩
  rcases rdC hA ok lo hi hb with ⟨e3, e4⟩ | ⟨C1, S1, e3, c3, c4, e4⟩
  · rw [e4]; exact ⟨fun _ => hf (by unfold nx; rw [e1, e3]), fun z => absurd rfl z⟩
  rw [e4]
  refine pk_eq (100 * C1 + S1) 268435456 (fun z => absurd z (by omega)) (fun _ => ⟨vin (by omega), vin (by omega), vin (by omega), vin (by omega), vin (by omega), vin (by omega), ?_⟩) rfl rfl
  rcases rdC hA ok lo ha hb with ⟨e5, e6⟩ | ⟨C2, S2, e5, c5, c6, e6⟩
  · rw [e5] at hw; cases hw
  rw [e6]
  have en : nx σ lm a b i = decide (c + C1 = C2 ∧ 1 + S1 = S2) := by unfold nx; rw [e1, e3, e5]
  refine pk_eq (100 * c + 1 + (100 * C1 + S1)) (100 * C2 + S2) (fun q => ht ?_) (fun q => hf ?_) ?_ rfl
  · rw [en]; exact decide_eq_true (by omega)
  · rw [en]; exact decide_eq_false (by omega)
  · rw [show (100 : Int32) = nI 100 from rfl, pk_mul, nI_1, nI_add]
theorem s_X0_next {σ : WS} {lm : Lam} {M : WM} {a b C S : Nat} {Q : Int32 → Prop} (hS : StB σ lm M) (hA : WaC (sN σ) (dEnd σ lm 100) M) (ok : wsOK σ) (lo : lamOK lm) (ha : a < sN σ) (hb : b < sN σ) (hw : way σ lm a b = some (C, S)) (hn : ¬ a = b) (h : Q (nI (lst (nx σ lm a b) (sN σ)))) : m_X0_next (nI a) (nI b) M Q := by
  obtain ⟨w, g1, g2⟩ := nx_ex ok lo hw hn
  obtain ⟨g3, g4⟩ := lst_ex g1 g2
  refine pk_loop (fun k i (_ : Unit) => m_X0_next_l2 (nI a) (nI b) M Q k (nI i)) (fun i _ => True) (lst (nx σ lm a b) (sN σ)) 0 () (by omega) trivial ?_ ?_
  · intro k _ _
    exact s_X0_nextB hS hA ok lo ha hb g3 hw (fun _ => h) (fun e => by rw [g4] at e; cases e)
  · intro k i _ hi _ ih
    refine s_X0_nextB hS hA ok lo ha hb (by omega) hw (fun e => ?_) (fun _ z ez => ?_)
    · have := lst_lo (nx σ lm a b) (sN σ) i hi; rw [e] at this; cases this
    · rw [ez, nI_1]; exact ih () trivial
theorem s_X0_least {σ : WS} {lm : Lam} {M : WM} {x y z : Int32} {Q : Int32 → WM → Prop} (hW : WC σ M) (ok : wsOK σ) (hl : LawC lm M) (lo : lamOK lm) (hC : wI M 0 8 = wI M 0 7 → Laid σ lm M) (h0 : ¬ VL σ x y z → Q (-1) M) (h1 : ∀ a b, x = nI a → y = nI b → VL σ x y z → ∀ M', Laid σ lm M' → Fr SLay M M' → Q (leastV σ lm a b z) M') : m_X0_least x y z M Q := by
  have hs := ok.1
  refine s_X0_areTwo hW ok (fun e => ie0 (h0 fun q => e q.1)) (fun a b ha hb ex ey hV => ie1 (s_X0_within (bdc (fun e => ?_) (fun e => h0 fun q => e q.2))))
  have e : -1 ≤ z.toInt ∧ z.toInt ≤ 40 := e
  have hh := h1 a b ex ey ⟨hV, e⟩
  subst ex ey
  refine s_X0_lays hW ok hl lo hC fun M6 L6 _ f6 => ?_
  have hh := hh M6 L6 f6
  rw [nI_clamp (show a < 2 ^ 31 by omega), nI_clamp (show b < 2 ^ 31 by omega)]
  refine ⟨vin (by omega), vin (by omega), ?_⟩
  rcases rdC L6.2.1 ok lo ha hb with ⟨e1, e2⟩ | ⟨C, S, e1, c1, c2, e2⟩
  · unfold leastV at hh; rw [e1] at hh; rw [e2]; exact ⟨fun _ => hh, fun z => absurd rfl z⟩
  have hh : Q (if z = -1 then nI C else if z = 40 then nI S else if z.toInt ≤ S then nI (stps σ lm b z.toInt.toNat a) else -1) M6 := by
    unfold leastV at hh; rw [e1] at hh; exact hh
  rw [e2]
  have er : nI (100 * C + S) - nI (100 * C + S) / (100 : Int32) * (100 : Int32) = nI S := by
    rw [show (100 : Int32) = nI 100 from rfl, pk_rem (by omega) (by omega) (by omega), show (100 * C + S) % 100 = S by omega]
  refine pk_eq (100 * C + S) 268435456 (fun z => absurd z (by omega)) (fun _ => ?_) rfl rfl
  refine ⟨fun q => ?_, fun q => ⟨fun q2 => ?_, fun q2 => ⟨vin (by omega), vin (by omega), ?_⟩⟩⟩
  · rw [if_pos q] at hh
    exact ⟨fun _ => s_X0_costOf L6.2.1 ok lo ha hb e1 hh, fun w => absurd q w⟩
  · rw [if_neg q, if_pos q2] at hh
    refine ⟨fun w => absurd w q, fun _ => ⟨vin (by omega), vin (by omega), ?_⟩⟩
    rw [nI_clamp (show a < 2 ^ 31 by omega), nI_clamp (show b < 2 ^ 31 by omega), e2, er]; exact hh
  · rw [if_neg q, if_neg q2] at hh
    have hz : 0 ≤ z.toInt := by
      rcases Int.lt_or_le z.toInt 0 with w | w
      · exact absurd (by rw [i_eq]; show z.toInt = -1; omega) q
      · exact w
    obtain ⟨m, hm, rfl, em⟩ := nI_ex hz
    rw [em] at hh
    rw [er]
    refine pk_le m S (fun q3 => ?_) (fun q3 => ?_) rfl rfl
    · rw [if_pos (by omega)] at hh
      refine pk_loop (fun k i (s : Nat) => m_X0_least_l101 (nI b) (nI m) Q k (nI s) (nI i) M6) (fun i s => s = stps σ lm b i a) m 0 a (by omega) rfl ?_ ?_
      · intro k s es
        subst es
        exact ⟨fun _ => hh, fun z => absurd (Int32.le_refl _) z⟩
      · intro k i s hi es ih
        subst es
        obtain ⟨g1, C', g2⟩ := stps_ok ok lo ha e1 i (by omega)
        refine ⟨fun z => absurd z (nI_ge hi (by omega)), fun _ => s_X0_next L6.1 L6.2.1 ok lo g1 hb g2 (fun z => by rcases way_p ok lo g2 with q | q <;> omega) fun z ez => ?_⟩
        rw [ez, nI_1]
        exact ih _ rfl
    · rw [if_neg (by omega)] at hh; exact hh
theorem s_X6_nextB {σ : WS} {lm : Lam} {M : WM} {a b C S i n : Nat} {Q : Int32 → Prop} (hS : StA σ lm M) (hA : WaT (sN σ) (dEnd σ lm 64) M) (ok : wsOK σ) (lo : lamOK lm) (ha : a < sN σ) (hb : b < sN σ) (hi : i < sN σ) (hw : way σ lm a b = some (C, S)) (ht : nx σ lm a b i = true → Q (nI i)) (hf : nx σ lm a b i = false → ∀ z : Int32, z = nI i + 1 → m_X6_nextOn_l2 (nI a) (nI b) M Q n z) : m_X6_nextOn_l2 (nI a) (nI b) M Q (n + 1) (nI i) := by
  have hs := ok.1
  unfold m_X6_nextOn_l2
  refine s_X6_stepWay hS hs ha hi ?_
  have ea := hA a b ha hb
  rw [(way_s ok lo hw).2.2.2] at ea
  have eb := hA i b hi hb
  rw [show (40 : Int32) = nI 40 from rfl, pk_mul, pk_mul, nI_add, nI_add, nI_clamp (show 40 * i + b < 2 ^ 31 by omega), nI_clamp (show 40 * a + b < 2 ^ 31 by omega), ea, eb]
  refine ⟨vin (by omega), s_X6_sum (fun x e => by have := wgt_B lo (K := 64) (by omega) _ _ _ e; omega) (fun x e => dmx_b wgt_ok hs (wgt_B lo (K := 64) (by omega)) e) ⟨vin (by omega), ?_⟩⟩
  obtain ⟨b1, b2, -, -⟩ := way_s ok lo hw
  have far : ∀ {A B : Prop}, B → (nI 1000000000 = nI (64 * C + S) → A) ∧ (¬ nI 1000000000 = nI (64 * C + S) → B) := fun h => ⟨fun z => absurd ((nI_eq (by omega) (by omega)).mp z) (by omega), fun _ => h⟩
  cases e1 : wgt σ lm 64 a i with
  | none =>
    have : cst σ lm a i = none := by
      cases e : cst σ lm a i with
      | none => rfl
      | some c => have := (wgt_cst (K := 64)).mpr ⟨c, e, rfl⟩; rw [e1] at this; cases this
    exact far (hf (by unfold nx; rw [this]))
  | some v =>
    obtain ⟨c, e2, ev⟩ := wgt_cst.mp e1
    cases e3 : way σ lm i b with
    | none =>
      rw [(way_n ok lo e3).2]
      exact far (hf (by unfold nx; rw [e2, e3]))
    | some q =>
      obtain ⟨C1, S1⟩ := q
      obtain ⟨b3, b4, b5, b6⟩ := way_s ok lo e3
      have b7 := cst_b lo e2
      have en : nx σ lm a b i = decide (c + C1 = C ∧ 1 + S1 = S) := by unfold nx; rw [e2, e3, hw]
      rw [b6]
      refine pk_eq (v + (64 * C1 + S1)) (64 * C + S) (fun q => ht ?_) (fun q => hf ?_) rfl rfl
      · rw [en]; exact decide_eq_true (by omega)
      · rw [en]; exact decide_eq_false (by omega)
theorem s_X6_nextOn {σ : WS} {lm : Lam} {M : WM} {a b C S : Nat} {Q : Int32 → Prop} (hS : StA σ lm M) (hA : WaT (sN σ) (dEnd σ lm 64) M) (ok : wsOK σ) (lo : lamOK lm) (ha : a < sN σ) (hb : b < sN σ) (hw : way σ lm a b = some (C, S)) (hn : ¬ a = b) (h : Q (nI (lst (nx σ lm a b) (sN σ)))) : m_X6_nextOn (nI a) (nI b) M Q := by
  obtain ⟨w, g1, g2⟩ := nx_ex ok lo hw hn
  obtain ⟨g3, g4⟩ := lst_ex g1 g2
  refine pk_loop (fun k i (_ : Unit) => m_X6_nextOn_l2 (nI a) (nI b) M Q k (nI i)) (fun i _ => True) (lst (nx σ lm a b) (sN σ)) 0 () (by omega) trivial ?_ ?_
  · intro k _ _
    exact s_X6_nextB hS hA ok lo ha hb g3 hw (fun _ => h) (fun e => by rw [g4] at e; cases e)
  · intro k i _ hi _ ih
    refine s_X6_nextB hS hA ok lo ha hb (by omega) hw (fun e => ?_) (fun _ z ez => ?_)
    · have := lst_lo (nx σ lm a b) (sN σ) i hi; rw [e] at this; cases this
    · rw [ez, nI_1]; exact ih () trivial
theorem s_X6_least {σ : WS} {lm : Lam} {M : WM} {x y z : Int32} {Q : Int32 → WM → Prop} (hW : WT σ M) (ok : wsOK σ) (hl : LawT lm M) (lo : lamOK lm) (h0 : ¬ VL σ x y z → Q (-1) M) (h1 : ∀ a b, x = nI a → y = nI b → VL σ x y z → ∀ M', Fr SWW M M' → Q (leastV σ lm a b z) M') : m_X6_least x y z M Q := by
  have hs := ok.1
  refine s_X6_two hW ok (fun e => h0 fun q => e q.1) (fun a b ha hb ex ey hV => s_X6_in (bdc (fun e => ?_) (fun e => h0 fun q => e q.2)))
  have e : -1 ≤ z.toInt ∧ z.toInt ≤ 40 := e
  have hh := h1 a b ex ey ⟨hV, e⟩
  subst ex ey
  refine s_X6_laysWays hW ok hl lo fun M8 S8 A8 f8 => ?_
  have hh := hh M8 f8
  rw [show (40 : Int32) * nI a + nI b = nI (40 * a + b) by rw [show (40 : Int32) = nI 40 from rfl, pk_mul, nI_add], nI_clamp (show 40 * a + b < 2 ^ 31 by omega)]
  refine ⟨vin (by omega), fun z10 e10 => ?_⟩
  rcases rdT A8 ok lo ha hb with ⟨e1, e2⟩ | ⟨C, S, e1, c1, c2, e2⟩
  · unfold leastV at hh; rw [e1] at hh; rw [e10, e2]; exact ⟨fun z => absurd z (nI_nlt (a := 1000000000) (b := 1000000000) (by omega) (by omega)), fun _ => hh⟩
  have hh : Q (if z = -1 then nI C else if z = 40 then nI S else if z.toInt ≤ S then nI (stps σ lm b z.toInt.toNat a) else -1) M8 := by
    unfold leastV at hh; rw [e1] at hh; exact hh
  rw [e10, e2]
  have er : nI (64 * C + S) - nI (64 * C + S) / (64 : Int32) * (64 : Int32) = nI S := by
    rw [show (64 : Int32) = nI 64 from rfl, pk_rem (by omega) (by omega) (by omega), show (64 * C + S) % 64 = S by omega]
  refine pk_lt (64 * C + S) 1000000000 (fun _ => ?_) (fun z => absurd z (by omega)) rfl rfl
  refine ⟨fun q => ?_, fun q => ⟨fun q2 => ?_, fun q2 => ?_⟩⟩
  · rw [if_pos q] at hh
    rw [show (64 : Int32) = nI 64 from rfl, pk_div (by omega) (by omega) (by omega), show (64 * C + S) / 64 = C by omega]; exact hh
  · rw [if_neg q, if_pos q2] at hh
    rw [er]; exact hh
  · rw [if_neg q, if_neg q2] at hh
    have hz : 0 ≤ z.toInt := by
      rcases Int.lt_or_le z.toInt 0 with w | w
      · exact absurd (by rw [i_eq]; show z.toInt = -1; omega) q
      · exact w
    obtain ⟨m, hm, rfl, em⟩ := nI_ex hz
    rw [em] at hh
    rw [er]
    refine pk_le m S (fun q3 => ?_) (fun q3 => ?_) rfl rfl
    · rw [if_pos (by omega)] at hh
      refine pk_loop (fun k i (s : Nat) => m_X6_least_l95 (nI b) (nI m) Q k (nI s) (nI i) M8) (fun i s => s = stps σ lm b i a) m 0 a (by omega) rfl ?_ ?_
      · intro k s es
        subst es
        exact ⟨fun _ => hh, fun z => absurd (Int32.le_refl _) z⟩
      · intro k i s hi es ih
        subst es
        obtain ⟨g1, C', g2⟩ := stps_ok ok lo ha e1 i (by omega)
        refine ⟨fun z => absurd z (nI_ge hi (by omega)), fun _ => s_X6_nextOn S8 A8 ok lo g1 hb g2 (fun z => by rcases way_p ok lo g2 with q | q <;> omega) fun z ez => ?_⟩
        rw [ez, nI_1]
        exact ih _ rfl
    · rw [if_neg (by omega)] at hh; exact hh
