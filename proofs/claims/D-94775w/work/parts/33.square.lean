/-! squares: whether a column can go on -/
def anyB (p : Nat → Bool) (n : Nat) : Bool := !(allB (fun k => !(p k)) n)
theorem anyB_hit {p : Nat → Bool} {k n : Nat} (hk : k < n) (h : p k = true) : anyB p n = true := by
  unfold anyB
  cases e : allB (fun k => !(p k)) n with
  | false => rfl
  | true =>
    have := (allB_iff _ n).mp e k hk
    rw [h] at this; cases this
theorem anyB_no {p : Nat → Bool} {n : Nat} (h : ∀ k, k < n → p k = false) : anyB p n = false := by
  unfold anyB
  rw [(allB_iff _ n).mpr fun k hk => by rw [h k hk]; rfl]; rfl
def colK (σ : WS) (q : Nat → Nat) (c v k : Nat) : Bool := decide (sLet σ v k = sLet σ (q k) c)
def colW (σ : WS) (n rows : Nat) (q : Nat → Nat) (c v : Nat) : Bool := (used σ v && decide (sLen σ v = n)) && allB (colK σ q c v) rows
def canCol (σ : WS) (n rows : Nat) (q : Nat → Nat) (c : Nat) : Bool := anyB (colW σ n rows q c) (sN σ)
def okRow (σ : WS) (n r : Nat) (p : Nat → Nat) (w : Nat) : Bool := (used σ w && decide (sLen σ w = n)) && allB (fun c => canCol σ n (r + 1) (up1 p r w) c) n
def SqR (σ : WS) (n rows : Nat) (q : Nat → Nat) : Prop := ∀ k, k < rows → q k < sN σ ∧ sLen σ (q k) = n
theorem s_X0_canColumn {σ : WS} {M : WM} {n rows c : Nat} {q : Nat → Nat} {Q : Int32 → Prop} (hW : WC σ M) (ok : wsOK σ) (hn : n ≤ 4) (hr : rows ≤ n) (hc : c < n) (hq : SqR σ n rows q) (hM : ∀ k, k < rows → wI M 5322 k = nI (q k)) (h : Q (b2i (canCol σ n rows q c))) : m_X0_canColumn (nI n) (nI rows) (nI c) M Q := by
  have hs := ok.1
  refine pk_loop (fun k i (_ : Unit) => m_X0_canColumn_l3 (nI n) (nI rows) (nI c) M Q k (nI i)) (fun i _ => ∀ v, v < i → colW σ n rows q c v = false) (sN σ) 0 () (by omega) (fun j hj => absurd hj (by omega)) ?_ ?_
  · intro k _ hI
    unfold m_X0_canColumn_l3
    rw [hW.1]
    unfold canCol at h
    rw [anyB_no hI] at h
    exact ⟨fun _ => h, fun z => absurd (Int32.le_refl _) z⟩
  · intro k i _ hi hI ih
    unfold m_X0_canColumn_l3
    rw [hW.1]
    have j111 : ∀ b, colW σ n rows q c i = b → m_X0_canColumn_j111 (fun x4' => m_X0_canColumn_l3 (nI n) (nI rows) (nI c) M Q k x4') (nI n) (nI rows) (nI c) (nI i) (b2i b) M Q := fun b hb => bcs (fun e => by
        unfold canCol at h
        rw [anyB_hit hi (hb.trans e)] at h; exact h) (fun e y ey => by
        rw [ey, nI_1]
        refine ih () fun j hj => ?_
        by_cases ek : j = i
        · rw [ek]; exact hb.trans e
        · exact hI j (by omega))
    have l0 : colW σ n rows q c i = false → ∃ n0, m_X0_canColumn_l48 (fun x4' => m_X0_canColumn_l3 (nI n) (nI rows) (nI c) M Q k x4') (nI n) (nI rows) (nI c) (nI i) M Q n0 0 0 := fun hb => ⟨1, fun _ => j111 false hb, fun _ => ⟨fun _ => j111 false hb, fun z => absurd rfl z⟩⟩
    refine ⟨fun z => absurd z (nI_ge hi (by omega)), fun _ => s_X0_isUsed hW ok hi (bcs (fun e7 => ⟨vin (by omega), ?_⟩) (fun e7 => l0 (by unfold colW; rw [e7]; rfl)))⟩
    rw [nI_clamp (by omega), (hW.line hi).1]
    have l8 := (ok.2.1 i hi).2.1
    refine pk_eq (sLen σ i) n (fun ce => ?_) (fun ce => l0 (by unfold colW; rw [e7, decide_eq_false ce]; rfl)) rfl rfl
    have ec : colW σ n rows q c i = allB (colK σ q c i) rows := by unfold colW; rw [e7, decide_eq_true ce]; rfl
    refine pk_loop (fun k' j (b : Bool) => m_X0_canColumn_l48 (fun x4' => m_X0_canColumn_l3 (nI n) (nI rows) (nI c) M Q k x4') (nI n) (nI rows) (nI c) (nI i) M Q k' (b2i b) (nI j)) (fun j b => b = allB (colK σ q c i) j) rows 0 true (by omega) rfl ?_ ?_
    · intro k' b e
      exact ⟨fun _ => j111 b (ec.trans e.symm), fun z => absurd (Int32.le_refl _) z⟩
    · intro k' j b hj e ih2
      refine ⟨fun z => absurd z (nI_ge hj (by omega)), fun _ => bcs (fun e1 => ?_) (fun e1 => ?_)⟩
      · rw [e1] at e
        have nxt : ∀ d, colK σ q c i j = d → d = allB (colK σ q c i) (j + 1) := fun d hd => by rw [allB, ← e, hd]; rfl
        obtain ⟨g1, g2⟩ := hq j hj
        rw [nI_clamp (by omega), nI_clamp (by omega), hM j hj, nI_clamp (by omega), nI_clamp (by omega), s_X0_letter_in hW hi (by omega), s_X0_letter_in hW g1 (by omega)]
        have b1 := (ok.2.1 i hi).2.2.1 j (by omega)
        have b2 := (ok.2.1 _ g1).2.2.1 c (by omega)
        refine ⟨vin (by omega), vin (by omega), vin (by omega), vin (by omega), vin (by omega), pk_eq (sLet σ i j) (sLet σ (q j) c) (fun c2 z ez => ?_) (fun c2 z ez => ?_) rfl rfl⟩
        · rw [ez, nI_1]; exact ih2 true (nxt true (decide_eq_true c2))
        · rw [ez, nI_1]; exact ih2 false (nxt false (decide_eq_false c2))
      · rw [e1] at e
        rw [e1]
        exact j111 false (ec.trans (allB_no e.symm (Nat.le_of_lt hj)))
theorem s_X6_isOf {σ : WS} {M : WM} {w n : Nat} {Q : Int32 → Prop} (hW : WT σ M) (ok : wsOK σ) (hw : w < sN σ) (hn : n ≤ 8) (h : Q (b2i (used σ w && decide (sLen σ w = n)))) : m_X6_isOf (nI w) (nI n) M Q := by
  have hs := ok.1
  have l8 := (ok.2.1 w hw).2.1
  refine s_X6_isUsed hW ok hw (bcs (fun e => ⟨vin (by omega), ?_⟩) (fun e => by rw [e] at h; exact h))
  rw [nI_clamp (by omega), (hW.2.1 w hw).1]
  rw [e, Bool.true_and] at h
  refine pk_eq (sLen σ w) n (fun c => ?_) (fun c => ?_) rfl rfl
  · rw [decide_eq_true c] at h; exact h
  · rw [decide_eq_false c] at h; exact h
theorem s_X6_canColumn {σ : WS} {M : WM} {n rows c : Nat} {q : Nat → Nat} {Q : Int32 → Prop} (hW : WT σ M) (ok : wsOK σ) (hn : n ≤ 4) (hr : rows ≤ n) (hc : c < n) (hq : SqR σ n rows q) (hM : ∀ k, k < rows → wI M 5479 k = nI (q k)) (h : Q (b2i (canCol σ n rows q c))) : m_X6_canColumn (nI n) (nI c) (nI rows) M Q := by
  have hs := ok.1
  refine pk_loop (fun k i (_ : Unit) => m_X6_canColumn_l3 (nI n) (nI c) (nI rows) M Q k (nI i)) (fun i _ => ∀ v, v < i → colW σ n rows q c v = false) (sN σ) 0 () (by omega) (fun j hj => absurd hj (by omega)) ?_ ?_
  · intro k _ hI
    unfold m_X6_canColumn_l3
    rw [hW.1]
    unfold canCol at h
    rw [anyB_no hI] at h
    exact ⟨fun _ => h, fun z => absurd (Int32.le_refl _) z⟩
  · intro k i _ hi hI ih
    unfold m_X6_canColumn_l3
    rw [hW.1]
    have j111 : ∀ b, colW σ n rows q c i = b → m_X6_canColumn_j71 (fun x4' => m_X6_canColumn_l3 (nI n) (nI c) (nI rows) M Q k x4') (nI n) (nI c) (nI rows) (nI i) (b2i b) M Q := fun b hb => bcs (fun e => by
        unfold canCol at h
        rw [anyB_hit hi (hb.trans e)] at h; exact h) (fun e y ey => by
        rw [ey, nI_1]
        refine ih () fun j hj => ?_
        by_cases ek : j = i
        · rw [ek]; exact hb.trans e
        · exact hI j (by omega))
    refine ⟨fun z => absurd z (nI_ge hi (by omega)), fun _ => s_X6_isOf hW ok hi (by omega) ?_⟩
    cases e7 : used σ i && decide (sLen σ i = n) with
    | false =>
      have hb : colW σ n rows q c i = false := by unfold colW; rw [e7]; rfl
      exact ⟨1, fun _ => j111 false hb, fun _ => ⟨fun _ => j111 false hb, fun z => absurd rfl z⟩⟩
    | true =>
      have ce : sLen σ i = n := of_decide_eq_true ((Bool.and_eq_true _ _).mp e7).2
      have l8 := (ok.2.1 i hi).2.1
      have ec : colW σ n rows q c i = allB (colK σ q c i) rows := by unfold colW; rw [e7]; rfl
      refine pk_loop (fun k' j (b : Bool) => m_X6_canColumn_l24 (fun x4' => m_X6_canColumn_l3 (nI n) (nI c) (nI rows) M Q k x4') (nI n) (nI c) (nI rows) (nI i) M Q k' (b2i b) (nI j)) (fun j b => b = allB (colK σ q c i) j) rows 0 true (by omega) rfl ?_ ?_
      · intro k' b e
        exact ⟨fun _ => j111 b (ec.trans e.symm), fun z => absurd (Int32.le_refl _) z⟩
      · intro k' j b hj e ih2
        refine ⟨fun z => absurd z (nI_ge hj (by omega)), fun _ => bcs (fun e1 => ?_) (fun e1 => ?_)⟩
        · rw [e1] at e
          have nxt : ∀ d, colK σ q c i j = d → d = allB (colK σ q c i) (j + 1) := fun d hd => by rw [allB, ← e, hd]; rfl
          obtain ⟨g1, g2⟩ := hq j hj
          have b1 := (ok.2.1 i hi).2.2.1 j (by omega)
          have b2 := (ok.2.1 _ g1).2.2.1 c (by omega)
          refine s_X6_letter hW ok hi (by omega) ⟨vin (by omega), ?_⟩
          rw [nI_clamp (by omega), hM j hj]
          refine s_X6_letter hW ok g1 (by omega) (pk_eq (sLet σ i j) (sLet σ (q j) c) (fun c2 z ez => ?_) (fun c2 z ez => ?_) rfl rfl)
          · rw [ez, nI_1]; exact ih2 true (nxt true (decide_eq_true c2))
          · rw [ez, nI_1]; exact ih2 false (nxt false (decide_eq_false c2))
        · rw [e1] at e
          rw [e1]
          exact j111 false (ec.trans (allB_no e.symm (Nat.le_of_lt hj)))
theorem s_X6_canRows {σ : WS} {M : WM} {n rows : Nat} {q : Nat → Nat} {Q : Int32 → Prop} (hW : WT σ M) (ok : wsOK σ) (hn : n ≤ 4) (hr : rows ≤ n) (hq : SqR σ n rows q) (hM : ∀ k, k < rows → wI M 5479 k = nI (q k)) (h : Q (b2i (allB (fun c => canCol σ n rows q c) n))) : m_X6_canRows (nI n) (nI rows) M Q := by
  refine pk_loop (fun k i (_ : Unit) => m_X6_canRows_l2 (nI n) (nI rows) M Q k (nI i)) (fun i _ => allB (fun c => canCol σ n rows q c) i = true) n 0 () (by omega) rfl ?_ ?_
  · intro k _ e
    rw [e] at h
    exact ⟨fun _ => h, fun z => absurd (Int32.le_refl _) z⟩
  · intro k i _ hi e ih
    unfold m_X6_canRows_l2
    refine ⟨fun z => absurd z (nI_ge hi (by omega)), fun _ => s_X6_canColumn hW ok hn hr hi hq hM (bcs (fun e2 z ez => ?_) (fun e2 => ?_))⟩
    · rw [ez, nI_1]; exact ih () (by rw [allB, e]; exact e2)
    · have e3 : allB (fun c => canCol σ n rows q c) (i + 1) = false := by rw [allB, e2, Bool.and_false]
      rw [allB_no e3 hi] at h; exact h
