/-! heap, heaps -/
def hp (σ : WS) (lm : Lam) (a v : Nat) : Bool := (way σ lm a v).isSome && (way σ lm v a).isSome
def hpO (σ : WS) (lm : Lam) (a : Nat) : Nat := lst (hp σ lm a) (sN σ)
theorem hp_ex {σ : WS} {lm : Lam} {a : Nat} (ha : a < sN σ) (hu : used σ a = true) : hpO σ lm a < sN σ ∧ hp σ lm a (hpO σ lm a) = true := lst_ex ha (by unfold hp; rw [way_0 hu]; rfl)
theorem s_X0_heapOf {σ : WS} {lm : Lam} {M : WM} {a : Nat} {Q : Int32 → Prop} (hR : RcC σ lm M) (ok : wsOK σ) (ha : a < sN σ) (hu : used σ a = true) (h : Q (nI (hpO σ lm a))) : m_X0_heapOf (nI a) M Q := by
  have hs := ok.1
  obtain ⟨g1, g2⟩ := hp_ex (lm := lm) ha hu
  have bd : ∀ i n, i < sN σ → (hp σ lm a i = true → Q (nI i)) → (hp σ lm a i = false → ∀ z : Int32, z = nI i + 1 → m_X0_heapOf_l2 (nI a) M Q n z) → m_X0_heapOf_l2 (nI a) M Q (n + 1) (nI i) := fun i n hi ht hf => by
    unfold m_X0_heapOf_l2
    rw [nI_clamp (show a < 2 ^ 31 by omega), nI_clamp (show i < 2 ^ 31 by omega)]
    have e1 : lb (wJ M 173 a) i = (way σ lm a i).isSome := by rw [hR a ha i (by omega), decide_eq_true hi, Bool.true_and, way_i]
    have e2 : lb (wJ M 173 i) a = (way σ lm i a).isSome := by rw [hR i hi a (by omega), decide_eq_true ha, Bool.true_and, way_i]
    refine ⟨vin (by omega), s_X0_has (by omega) ?_⟩
    rw [e1]
    refine bcs (fun q => ⟨vin (by omega), s_X0_has (by omega) ?_⟩) (fun q => hf (by unfold hp; rw [q]; rfl))
    rw [e2]
    exact bcs (fun q2 => ht (by unfold hp; rw [q, q2]; rfl)) (fun q2 => hf (by unfold hp; rw [q, q2]; rfl))
  refine pk_loop (fun k i (_ : Unit) => m_X0_heapOf_l2 (nI a) M Q k (nI i)) (fun i _ => True) (hpO σ lm a) 0 () (by omega) trivial ?_ ?_
  · intro k _ _
    exact bd _ k g1 (fun _ => h) (fun e => by rw [g2] at e; cases e)
  · intro k i _ hi _ ih
    refine bd i k (by omega) (fun e => ?_) (fun _ z ez => ?_)
    · have := lst_lo (hp σ lm a) (sN σ) i hi; rw [e] at this; cases this
    · rw [ez, nI_1]; exact ih () trivial
theorem s_X6_heapOf {σ : WS} {lm : Lam} {M : WM} {a : Nat} {Q : Int32 → Prop} (hA : WaT (sN σ) (dEnd σ lm 64) M) (ok : wsOK σ) (lo : lamOK lm) (ha : a < sN σ) (hu : used σ a = true) (h : Q (nI (hpO σ lm a))) : m_X6_heapOf (nI a) M Q := by
  have hs := ok.1
  obtain ⟨g1, g2⟩ := hp_ex (lm := lm) ha hu
  have bd : ∀ i n, i < sN σ → (hp σ lm a i = true → Q (nI i)) → (hp σ lm a i = false → ∀ z : Int32, z = nI i + 1 → m_X6_heapOf_l2 (nI a) M Q n z) → m_X6_heapOf_l2 (nI a) M Q (n + 1) (nI i) := fun i n hi ht hf => by
    unfold m_X6_heapOf_l2
    rw [show (40 : Int32) = nI 40 from rfl, pk_mul, pk_mul, nI_add, nI_add, nI_clamp (show 40 * a + i < 2 ^ 31 by omega), nI_clamp (show 40 * i + a < 2 ^ 31 by omega)]
    refine ⟨vin (by omega), ?_⟩
    rcases rdT hA ok lo ha hi with ⟨e1, e2⟩ | ⟨C, S, e1, c1, c2, e2⟩
    · rw [e2]; exact ⟨fun _ => hf (by unfold hp; rw [e1]; rfl), fun z => absurd (Int32.le_refl _) z⟩
    · rw [e2]
      refine pk_le 1000000000 (64 * C + S) (fun z => absurd z (by omega)) (fun _ => ⟨vin (by omega), ?_⟩) rfl rfl
      rcases rdT hA ok lo hi ha with ⟨e3, e4⟩ | ⟨C1, S1, e3, c3, c4, e4⟩
      · rw [e4]; exact ⟨fun z => absurd z (nI_nlt (a := 1000000000) (b := 1000000000) (by omega) (by omega)), fun _ => hf (by unfold hp; rw [e1, e3]; rfl)⟩
      · rw [e4]
        exact pk_lt (64 * C1 + S1) 1000000000 (fun _ => ht (by unfold hp; rw [e1, e3]; rfl)) (fun z => absurd z (by omega)) rfl rfl
  refine pk_loop (fun k i (_ : Unit) => m_X6_heapOf_l2 (nI a) M Q k (nI i)) (fun i _ => True) (hpO σ lm a) 0 () (by omega) trivial ?_ ?_
  · intro k _ _
    exact bd _ k g1 (fun _ => h) (fun e => by rw [g2] at e; cases e)
  · intro k i _ hi _ ih
    refine bd i k (by omega) (fun e => ?_) (fun _ z ez => ?_)
    · have := lst_lo (hp σ lm a) (sN σ) i hi; rw [e] at this; cases this
    · rw [ez, nI_1]; exact ih () trivial
def VH (σ : WS) (x : Int32) : Prop := 0 ≤ x.toInt ∧ x.toInt < sN σ
def heapV (σ : WS) (lm : Lam) (a : Nat) : Int32 := if used σ a = true then nI (hpO σ lm a) else -2
theorem s_X0_heap {σ : WS} {lm : Lam} {M : WM} {x : Int32} {Q : Int32 → WM → Prop} (hW : WC σ M) (ok : wsOK σ) (hl : LawC lm M) (lo : lamOK lm) (hC : wI M 0 8 = wI M 0 7 → Laid σ lm M) (h0 : ¬ VH σ x → Q (-1) M) (h1 : ∀ a, x = nI a → VH σ x → ∀ M', Laid σ lm M' → Fr SLay M M' → Q (heapV σ lm a) M') : m_X0_heap x M Q := by
  have hs := ok.1
  refine s_X0_isWord hW ok (bdc (fun e => ?_) (fun e => h0 e))
  obtain ⟨a, ha, rfl, ea⟩ := nI_ex e.1
  have ha : a < sN σ := by omega
  refine s_X0_lays hW ok hl lo hC fun M4 L4 _ f4 => ?_
  have hh := h1 a rfl e M4 L4 f4
  unfold heapV at hh
  refine s_X0_isUsed (hW.fr ok f4 (by unfold SLay PWC; omega)) ok ha (bcs (fun q => ?_) (fun q => ?_))
  · rw [if_pos q] at hh; exact s_X0_heapOf L4.2.2 ok ha q hh
  · rw [q] at hh; exact hh
theorem s_X6_heap {σ : WS} {lm : Lam} {M : WM} {x : Int32} {Q : Int32 → WM → Prop} (hW : WT σ M) (ok : wsOK σ) (hl : LawT lm M) (lo : lamOK lm) (h0 : ¬ VH σ x → Q (-1) M) (h1 : ∀ a, x = nI a → VH σ x → ∀ M', Fr SWW M M' → Q (heapV σ lm a) M') : m_X6_heap x M Q := by
  have hs := ok.1
  refine s_X6_isWord hW ok (bdc (fun e => ?_) (fun e => h0 e))
  obtain ⟨a, ha, rfl, ea⟩ := nI_ex e.1
  have ha : a < sN σ := by omega
  refine s_X6_isUsed hW ok ha (bcs (fun q => s_X6_laysWays hW ok hl lo fun M6 _ A6 f6 => ?_) (fun q => ?_))
  · have hh := h1 a rfl e M6 f6
    unfold heapV at hh
    rw [if_pos q] at hh; exact s_X6_heapOf A6 ok lo ha q hh
  · have hh := h1 a rfl e M Fr.rf
    unfold heapV at hh
    rw [q] at hh; exact hh
def hpB (σ : WS) (lm : Lam) (w : Nat) : Bool := used σ w && decide (hpO σ lm w = w)
theorem s_X0_heaps {σ : WS} {lm : Lam} {M : WM} {Q : Int32 → WM → Prop} (hW : WC σ M) (ok : wsOK σ) (hl : LawC lm M) (lo : lamOK lm) (hC : wI M 0 8 = wI M 0 7 → Laid σ lm M) (h1 : ∀ M', Laid σ lm M' → Fr SLay M M' → Q (nI (cnt (hpB σ lm) (sN σ))) M') : m_X0_heaps M Q := by
  have hs := ok.1
  refine s_X0_lays hW ok hl lo hC fun M2 L2 _ f2 => ?_
  have hh := h1 M2 L2 f2
  have w2 : WC σ M2 := hW.fr ok f2 (by unfold SLay PWC; omega)
  refine pk_loop (fun k i (s : Nat) => m_X0_heaps_l8 Q k (nI s) (nI i) M2) (fun i s => s = cnt (hpB σ lm) i) (sN σ) 0 0 (by omega) rfl ?_ ?_
  · intro k s es
    subst es
    unfold m_X0_heaps_l8
    rw [w2.1]
    exact ⟨fun _ => hh, fun z => absurd (Int32.le_refl _) z⟩
  · intro k i s hi es ih
    subst es
    unfold m_X0_heaps_l8
    rw [w2.1]
    refine ⟨fun z => absurd z (nI_ge hi (by omega)), fun _ => s_X0_isUsed w2 ok hi (bcs (fun q => s_X0_heapOf L2.2.2 ok hi q ?_) (fun q z ez y ey => ?_))⟩
    · have hlt := (hp_ex (lm := lm) hi q).1
      refine pk_eq (hpO σ lm i) i (fun c z ez y ey => ?_) (fun c z ez y ey => ?_) rfl rfl
      · rw [ez, ey, nI_1, nI_1]; exact ih _ (cnt_t (by unfold hpB; rw [q, decide_eq_true c]; rfl)).symm
      · rw [ez, ey, nI_1, show nI (cnt (hpB σ lm) i) + 0 = nI (cnt (hpB σ lm) i) from Int32.add_zero _]; exact ih _ (cnt_f (by unfold hpB; rw [q, decide_eq_false c]; rfl)).symm
    · rw [ez, ey, nI_1, show nI (cnt (hpB σ lm) i) + 0 = nI (cnt (hpB σ lm) i) from Int32.add_zero _]; exact ih _ (cnt_f (by unfold hpB; rw [q]; rfl)).symm
theorem s_X6_heaps {σ : WS} {lm : Lam} {M : WM} {Q : Int32 → WM → Prop} (hW : WT σ M) (ok : wsOK σ) (hl : LawT lm M) (lo : lamOK lm) (h1 : ∀ M', Fr SWW M M' → Q (nI (cnt (hpB σ lm) (sN σ))) M') : m_X6_heaps M Q := by
  have hs := ok.1
  refine s_X6_laysWays hW ok hl lo fun M2 _ A2 f2 => ?_
  have hh := h1 M2 f2
  have w2 : WT σ M2 := hW.fr f2 (by unfold SWW STA SWyT PWT; omega)
  refine pk_loop (fun k i (s : Nat) => m_X6_heaps_l8 Q k (nI s) (nI i) M2) (fun i s => s = cnt (hpB σ lm) i) (sN σ) 0 0 (by omega) rfl ?_ ?_
  · intro k s es
    subst es
    unfold m_X6_heaps_l8
    rw [w2.1]
    exact ⟨fun _ => hh, fun z => absurd (Int32.le_refl _) z⟩
  · intro k i s hi es ih
    subst es
    unfold m_X6_heaps_l8
    rw [w2.1]
    refine ⟨fun z => absurd z (nI_ge hi (by omega)), fun _ => s_X6_isUsed w2 ok hi (bcs (fun q => s_X6_heapOf A2 ok lo hi q ?_) (fun q z ez y ey => ?_))⟩
    · have hlt := (hp_ex (lm := lm) hi q).1
      refine pk_eq (hpO σ lm i) i (fun c z ez y ey => ?_) (fun c z ez y ey => ?_) rfl rfl
      · rw [ez, ey, nI_1, nI_1]; exact ih _ (cnt_t (by unfold hpB; rw [q, decide_eq_true c]; rfl)).symm
      · rw [ez, ey, nI_1, show nI (cnt (hpB σ lm) i) + 0 = nI (cnt (hpB σ lm) i) from Int32.add_zero _]; exact ih _ (cnt_f (by unfold hpB; rw [q, decide_eq_false c]; rfl)).symm
    · rw [ez, ey, nI_1, show nI (cnt (hpB σ lm) i) + 0 = nI (cnt (hpB σ lm) i) from Int32.add_zero _]; exact ih _ (cnt_f (by unfold hpB; rw [q]; rfl)).symm
