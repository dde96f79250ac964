/-! drawn steps -/
def lcg (x : Nat) : Nat := (25173 * x + 13849) % 65536
theorem lcg_I {x : Nat} (hx : x < 65536) : ((((25173 : Int32) * nI x) + 13849) - (((25173 : Int32) * nI x) + 13849) / 65536 * 65536) = nI (lcg x) := by
  rw [show (25173 : Int32) = nI 25173 from rfl, show (13849 : Int32) = nI 13849 from rfl, show (65536 : Int32) = nI 65536 from rfl, pk_mul, nI_add, pk_rem (by omega) (by omega) (by omega)]; rfl
theorem lcg_lt (x : Nat) : lcg x < 65536 := Nat.mod_lt _ (by omega)
def stF (σ : WS) (lm : Lam) (w v : Nat) : Bool := (cst σ lm w v).isSome
def dgS (σ : WS) (lm : Lam) (w : Nat) : Nat := cnt (stF σ lm w) (sN σ)
/-- the place of the k-th one of some -/
def nth (p : Nat → Bool) (k : Nat) : Nat → Nat
  | 0 => 0
  | n + 1 => if nth p k n < n then nth p k n else if p n = true ∧ cnt p n = k then n else n + 1
theorem nth_le (p : Nat → Bool) (k : Nat) : ∀ n, nth p k n ≤ n
  | 0 => Nat.le_refl _
  | n + 1 => by
    have := nth_le p k n
    unfold nth
    split
    · omega
    · split <;> omega
theorem nth_hit {p : Nat → Bool} {k : Nat} : ∀ {n}, k < cnt p n → nth p k n < n ∧ p (nth p k n) = true ∧ cnt p (nth p k n) = k
  | 0, h => absurd h (by unfold cnt; omega)
  | n + 1, h => by
    unfold nth
    have hl := nth_le p k n
    by_cases c : k < cnt p n
    · obtain ⟨h1, h2, h3⟩ := nth_hit c
      rw [if_pos h1]
      exact ⟨by omega, h2, h3⟩
    · have hp : p n = true := by
        cases e : p n with
        | true => rfl
        | false => rw [cnt_f e] at h; omega
      rw [cnt_t hp] at h
      have hno : ¬ nth p k n < n := fun z => by
        have key : ∀ m, nth p k m < m → p (nth p k m) = true ∧ cnt p (nth p k m) = k := fun m => by
          induction m with
          | zero => intro h; omega
          | succ m ih =>
            unfold nth
            split
            · intro _; exact ih (by assumption)
            · split
              · intro _; assumption
              · intro h; omega
        obtain ⟨g1, g2⟩ := key n z
        have : cnt p (nth p k n + 1) ≤ cnt p n := by
          have mono : ∀ a b, a ≤ b → cnt p a ≤ cnt p b := fun a b hab => by
            induction b with
            | zero => rw [show a = 0 by omega]; exact Nat.le_refl _
            | succ b ih =>
              by_cases e : a = b + 1
              · rw [e]; exact Nat.le_refl _
              · have := ih (by omega)
                rw [cnt]; omega
          exact mono _ _ (by omega)
        rw [cnt_t g1] at this
        omega
      rw [if_neg hno, if_pos ⟨hp, by omega⟩]
      exact ⟨by omega, hp, by omega⟩
def drN (σ : WS) (lm : Lam) (w x : Nat) : Nat := if 0 < dgS σ lm w then nth (stF σ lm w) (x % dgS σ lm w) (sN σ) else w
theorem drN_lt {σ : WS} {lm : Lam} {w x : Nat} (hw : w < sN σ) : drN σ lm w x < sN σ := by
  unfold drN
  split
  · exact (nth_hit (Nat.mod_lt _ (by assumption))).1
  · exact hw
def drX : Nat → Nat → Nat
  | 0, x => x
  | k + 1, x => lcg (drX k x)
theorem drX_lt {x : Nat} (hx : x < 65536) : ∀ k, drX k x < 65536
  | 0 => hx
  | k + 1 => lcg_lt _
def drW (σ : WS) (lm : Lam) (w x : Nat) : Nat → Nat
  | 0 => w
  | k + 1 => drN σ lm (drW σ lm w x k) (drX (k + 1) x)
theorem drW_lt {σ : WS} {lm : Lam} {w x : Nat} (hw : w < sN σ) : ∀ k, drW σ lm w x k < sN σ
  | 0 => hw
  | k + 1 => drN_lt (drW_lt hw k)
def drB (σ : WS) (lm : Lam) (w x : Nat) : Nat → Nat → Bool
  | 0 => fun v => decide (v = w)
  | k + 1 => fun v => decide (v = drW σ lm w x (k + 1)) || drB σ lm w x k v
theorem drB_lt {σ : WS} {lm : Lam} {w x v : Nat} (hw : w < sN σ) : ∀ k, drB σ lm w x k v = true → v < sN σ
  | 0, h => by rw [of_decide_eq_true h]; exact hw
  | k + 1, h => by
    have h : (decide (v = drW σ lm w x (k + 1)) || drB σ lm w x k v) = true := h
    rcases Bool.or_eq_true _ _ ▸ h with h | h
    · rw [of_decide_eq_true h]; exact drW_lt hw _
    · exact drB_lt hw k h
def VDr (σ : WS) (x y z : Int32) : Prop := (0 ≤ x.toInt ∧ x.toInt < sN σ) ∧ (1 ≤ y.toInt ∧ y.toInt ≤ 60) ∧ 0 ≤ z.toInt ∧ z.toInt < 2
def drV (σ : WS) (lm : Lam) (w n x : Nat) (z : Int32) : Int32 := if z = 0 then nI (drW σ lm w x n) else nI (cnt (drB σ lm w x n) (sN σ))
theorem s_X0_stepsFrom {σ : WS} {lm : Lam} {M : WM} {w : Nat} {Q : Int32 → Prop} (hW : WC σ M) (hS : StB σ lm M) (ok : wsOK σ) (lo : lamOK lm) (hw : w < sN σ) (h : Q (nI (dgS σ lm w))) : m_X0_stepsFrom (nI w) M Q := by
  have hs := ok.1
  refine pk_loop (fun k i (s : Nat) => m_X0_stepsFrom_l4 (nI w) M Q k (nI s) (nI i)) (fun i s => s = cnt (stF σ lm w) i) (sN σ) 0 0 (by omega) rfl ?_ ?_
  · intro k s es
    subst es
    unfold m_X0_stepsFrom_l4
    rw [hW.1]
    exact ⟨fun _ => h, fun z => absurd (Int32.le_refl _) z⟩
  · intro k i s hi es ih
    unfold m_X0_stepsFrom_l4
    rw [hW.1]
    refine ⟨fun z => absurd z (nI_ge hi (by omega)), fun _ => s_X0_isStep hS ok lo hw hi (bcs (fun c z ez y ey => ?_) (fun c z ez y ey => ?_))⟩
    · rw [ez, ey, nI_1, nI_1]; exact ih _ (by rw [cnt_t (show stF σ lm w i = true from c), es])
    · rw [ez, ey, nI_1, show nI s + 0 = nI s from Int32.add_zero _]; exact ih _ (by rw [cnt_f (show stF σ lm w i = false from c), es])
theorem s_X6_stepsFrom {σ : WS} {lm : Lam} {M : WM} {w : Nat} {Q : Int32 → Prop} (hW : WT σ M) (hS : StA σ lm M) (ok : wsOK σ) (hw : w < sN σ) (h : Q (nI (dgS σ lm w))) : m_X6_stepsFrom (nI w) M Q := by
  have hs := ok.1
  refine pk_loop (fun k i (s : Nat) => m_X6_stepsFrom_l4 (nI w) M Q k (nI s) (nI i)) (fun i s => s = cnt (stF σ lm w) i) (sN σ) 0 0 (by omega) rfl ?_ ?_
  · intro k s es
    subst es
    unfold m_X6_stepsFrom_l4
    rw [hW.1]
    exact ⟨fun _ => h, fun z => absurd (Int32.le_refl _) z⟩
  · intro k i s hi es ih
    unfold m_X6_stepsFrom_l4
    rw [hW.1]
    refine ⟨fun z => absurd z (nI_ge hi (by omega)), fun _ => s_X6_isStep2 hS ok hw hi (bcs (fun c z ez y ey => ?_) (fun c z ez y ey => ?_))⟩
    · rw [ez, ey, nI_1, nI_1]; exact ih _ (by rw [cnt_t (show stF σ lm w i = true from c), es])
    · rw [ez, ey, nI_1, show nI s + 0 = nI s from Int32.add_zero _]; exact ih _ (by rw [cnt_f (show stF σ lm w i = false from c), es])
theorem cnt_mon {p : Nat → Bool} {a b : Nat} (h : a ≤ b) : cnt p a ≤ cnt p b := by
  induction b with
  | zero => rw [show a = 0 by omega]; exact Nat.le_refl _
  | succ b ih =>
    by_cases e : a = b + 1
    · rw [e]; exact Nat.le_refl _
    · have := ih (by omega)
      rw [cnt]; omega
theorem nth_no {p : Nat → Bool} {k i n : Nat} (hk : k < cnt p n) (hi : i < nth p k n) (hp : p i = true) : ¬ cnt p i = k := fun e => by
  obtain ⟨h1, h2, h3⟩ := nth_hit hk
  have := cnt_mon (p := p) (show i + 1 ≤ nth p k n by omega)
  rw [cnt_t hp] at this
  omega
theorem s_X0_stepTo {σ : WS} {lm : Lam} {M : WM} {w q : Nat} {Q : Int32 → Prop} (hW : WC σ M) (hS : StB σ lm M) (ok : wsOK σ) (lo : lamOK lm) (hw : w < sN σ) (hq : q < dgS σ lm w) (h : Q (nI (nth (stF σ lm w) q (sN σ)))) : m_X0_stepTo (nI w) (nI q) M Q := by
  have hs := ok.1
  obtain ⟨h1, h2, h3⟩ := nth_hit hq
  have hd : dgS σ lm w ≤ sN σ := cnt_le _ _
  refine pk_loop (fun k i (s : Nat) => m_X0_stepTo_l5 (nI w) M Q k (nI s) (nI i)) (fun i s => s + cnt (stF σ lm w) i = q) (nth (stF σ lm w) q (sN σ)) 0 q (by omega) (by show q + 0 = q; omega) ?_ ?_
  · intro k s es
    have e0 : s = 0 := by omega
    subst e0
    unfold m_X0_stepTo_l5
    rw [hW.1]
    refine ⟨fun z => absurd z (nI_ge h1 (by omega)), fun _ => s_X0_isStep hS ok lo hw h1 (bcs (fun c => ⟨fun _ => h, fun z => absurd rfl z⟩) (fun c => ?_))⟩
    have h2 : (cst σ lm w (nth (stF σ lm w) q (sN σ))).isSome = true := h2
    rw [h2] at c; cases c
  · intro k i s hi es ih
    unfold m_X0_stepTo_l5
    rw [hW.1]
    refine ⟨fun z => absurd z (nI_ge (show i < sN σ by omega) (by omega)), fun _ => s_X0_isStep hS ok lo hw (by omega) (bcs (fun c => pk_eq s 0 (fun e => ?_) (fun e z ez y ey => ?_) rfl rfl) (fun c y ey => ?_))⟩
    · exact absurd (show cnt (stF σ lm w) i = q by omega) (nth_no hq hi c)
    · rw [ez, ey, nI_1, show nI s = nI (s - 1 + 1) by rw [show s - 1 + 1 = s by omega], pk_m1]
      exact ih _ (by rw [cnt_t (show stF σ lm w i = true from c)]; omega)
    · rw [ey, nI_1]; exact ih _ (by rw [cnt_f (show stF σ lm w i = false from c)]; exact es)
theorem s_X6_stepTo {σ : WS} {lm : Lam} {M : WM} {w q : Nat} {Q : Int32 → Prop} (hS : StA σ lm M) (ok : wsOK σ) (hw : w < sN σ) (hq : q < dgS σ lm w) (h : Q (nI (nth (stF σ lm w) q (sN σ)))) : m_X6_stepTo (nI w) (nI q) M Q := by
  have hs := ok.1
  obtain ⟨h1, h2, h3⟩ := nth_hit hq
  have hd : dgS σ lm w ≤ sN σ := cnt_le _ _
  refine pk_loop (fun k i (s : Nat) => m_X6_stepTo_l5 (nI w) M Q k (nI s) (nI i)) (fun i s => s + cnt (stF σ lm w) i = q) (nth (stF σ lm w) q (sN σ)) 0 q (by omega) (by show q + 0 = q; omega) ?_ ?_
  · intro k s es
    have e0 : s = 0 := by omega
    subst e0
    refine s_X6_isStep2 hS ok hw h1 (bcs (fun c => ⟨fun _ => h, fun z => absurd (Int32.le_refl _) z⟩) (fun c => ?_))
    have h2 : (cst σ lm w (nth (stF σ lm w) q (sN σ))).isSome = true := h2
    rw [h2] at c; cases c
  · intro k i s hi es ih
    refine s_X6_isStep2 hS ok hw (by omega) (bcs (fun c => pk_le s 0 (fun e => ?_) (fun e => s_X6_isStep2 hS ok hw (by omega) (bcs (fun _ z ez y ey => ?_) (fun c2 => by rw [c] at c2; cases c2))) rfl rfl) (fun c => s_X6_isStep2 hS ok hw (by omega) (bcs (fun c2 => by rw [c] at c2; cases c2) (fun _ y ey => ?_))))
    · exact absurd (show cnt (stF σ lm w) i = q by omega) (nth_no hq hi c)
    · rw [ez, ey, nI_1, show (1 : Int32) = nI 1 from rfl, pk_sub (by omega)]
      exact ih _ (by rw [cnt_t (show stF σ lm w i = true from c)]; omega)
    · rw [ey, nI_1]; exact ih _ (by rw [cnt_f (show stF σ lm w i = false from c)]; exact es)
def S06 (r k : Nat) : Prop := r = 0 ∧ k = 6
def SDrC (r k : Nat) : Prop := SLay r k ∨ S06 r k
theorem s_X0_draw {σ : WS} {lm : Lam} {M : WM} {x y z : Int32} {s0 : Nat} {Q : Int32 → WM → Prop} (hW : WC σ M) (ok : wsOK σ) (hl : LawC lm M) (lo : lamOK lm) (hC : wI M 0 8 = wI M 0 7 → Laid σ lm M) (hx0 : wI M 0 6 = nI s0) (hx : s0 < 65536) (h0 : ¬ VDr σ x y z → Q (-1) M) (h2 : ∀ w, x = nI w → VDr σ x y z → used σ w = false → Q (-2) M) (h1 : ∀ w n, x = nI w → y = nI n → VDr σ x y z → used σ w = true → ∀ M', Laid σ lm M' → wI M' 0 6 = nI (drX n s0) → Fr SDrC M M' → Q (drV σ lm w n s0 z) M') : m_X0_draw x y z M Q := by
  have hs := ok.1
  refine s_X0_isWord hW ok (bdc (fun e => ?_) (fun e => h0 fun q => e q.1))
  refine s_X0_within (bdc (fun e2 => ?_) (fun e2 => h0 fun q => e2 q.2.1))
  have e2 : 1 ≤ y.toInt ∧ y.toInt ≤ 60 := e2
  refine s_X0_in (bdc (fun e3 => ?_) (fun e3 => h0 fun q => e3 q.2.2))
  obtain ⟨w, hw, ex, ew⟩ := nI_ex e.1
  obtain ⟨n, hn, ey, en⟩ := nI_ex (x := y) (by omega)
  have hV : VDr σ x y z := ⟨e, e2, e3⟩
  have hh1 := h1 w n ex ey hV
  have hh2 := h2 w ex hV
  subst ex ey
  have hw : w < sN σ := by omega
  refine s_X0_isUsed hW ok hw (bcs (fun u => ?_) (fun u => hh2 u))
  refine s_X0_lays hW ok hl lo hC fun M6 L6 _ f6 z11 e11 => ?_
  have w6 : WC σ M6 := hW.fr ok f6 (by unfold SLay PWC; omega)
  have fx : ∀ {M'}, Fr S06 M6 M' → WC σ M' ∧ Laid σ lm M' := fun f => ⟨w6.fr ok f (by unfold S06 PWC; omega), L6.fr ok f (by unfold S06; omega)⟩
  refine pk_loop (fun k i (s : Int64 × WM) => m_X0_draw_l54 (nI n) z Q k (nI (drW σ lm w s0 i)) s.1 (nI i) s.2) (fun i s => Fr S06 M6 s.2 ∧ wI s.2 0 6 = nI (drX i s0) ∧ ∀ v, v < 64 → lb s.1 v = drB σ lm w s0 i v) n 0 (z11, M6) (by omega) ⟨Fr.rf, by rw [f6.I (by unfold SLay; omega)]; exact hx0, fun v hv => ?_⟩ ?_ ?_
  · show lb z11 v = decide (v = w)
    rw [e11, show (1 : Int64) <<< ((nI w).toInt64 &&& 63) = bitL w from rfl, lb_bitL (by omega) hv]
    exact decide_eq_decide.mpr ⟨fun q => q.symm, fun q => q.symm⟩
  · intro k ⟨j, M'⟩ ⟨q1, q2, q3⟩
    dsimp only at q1 q2 q3 ⊢
    have hh := hh1 u M' (fx q1).2 q2 ((f6.mono fun r k q => Or.inl q).tr (q1.mono fun r k q => Or.inr q))
    unfold drV at hh
    refine ⟨fun _ => ⟨fun c => ?_, fun c => s_J6L ?_⟩, fun z => absurd (Int32.le_refl _) z⟩
    · rw [if_pos c] at hh; exact hh
    · rw [if_neg c] at hh
      have e : cnt (lb j) 64 = cnt (drB σ lm w s0 n) (sN σ) := by
        rw [cnt_cg (p := lb j) (q := drB σ lm w s0 n) (n := 64) q3]
        exact cnt_tail (by omega) fun v h1 h2 => ts_nt' fun q => by have := drB_lt hw n q; omega
      rw [e]; exact hh
  · intro k i ⟨j, M'⟩ hi ⟨q1, q2, q3⟩ ih
    dsimp only at q1 q2 q3 ⊢
    have hwi := drW_lt (lm := lm) (x := s0) hw i
    refine ⟨fun z => absurd z (nI_ge hi (by omega)), fun _ z4 e4 M5 e5 => ?_⟩
    rw [q2, lcg_I (drX_lt hx i)] at e4
    rw [e4] at e5
    have f5 : Fr S06 M6 M5 := by rw [e5]; exact q1.PI ⟨rfl, rfl⟩
    obtain ⟨w5, L5⟩ := fx f5
    have x5 : wI M5 0 6 = nI (drX (i + 1) s0) := by rw [e5, wI_s]; rfl
    have xl := drX_lt hx (i + 1)
    have hd : dgS σ lm (drW σ lm w s0 i) ≤ sN σ := cnt_le _ _
    have fin : ∀ v, v = drW σ lm w s0 (i + 1) → ∀ z8 : Int64, z8 = (j ||| ((1 : Int64) <<< ((nI v).toInt64 &&& 63))) → ∀ z9 : Int32, z9 = nI i + 1 → m_X0_draw_l54 (nI n) z Q k (nI v) z8 z9 M5 := fun v ev z8 e8 z9 e9 => by
      have hv : v < sN σ := by rw [ev]; exact drW_lt hw _
      rw [e9, nI_1, ev]
      refine ih (z8, M5) ⟨f5, x5, fun u hu => ?_⟩
      show lb z8 u = (decide (u = drW σ lm w s0 (i + 1)) || drB σ lm w s0 i u)
      rw [e8, show (1 : Int64) <<< ((nI v).toInt64 &&& 63) = bitL v from rfl, lb_or, lb_bitL (by omega) hu, q3 u hu, ← ev, Bool.or_comm]
      congr 1
      exact decide_eq_decide.mpr ⟨fun q => q.symm, fun q => q.symm⟩
    refine s_X0_stepsFrom w5 L5.1 ok lo hwi (pk_le (dgS σ lm (drW σ lm w s0 i)) 0 (fun c => fin _ ?_) (fun c => s_X0_stepsFrom w5 L5.1 ok lo hwi ⟨nI_ne0 c (by omega), ?_⟩) rfl rfl)
    · show _ = drN σ lm (drW σ lm w s0 i) (drX (i + 1) s0)
      unfold drN; rw [if_neg (by omega)]
    · rw [x5, pk_rem (by omega) c (by omega)]
      refine s_X0_stepTo w5 L5.1 ok lo hwi (Nat.mod_lt _ c) (fin _ ?_)
      show _ = drN σ lm (drW σ lm w s0 i) (drX (i + 1) s0)
      unfold drN; rw [if_pos c]
def S54441 (r k : Nat) : Prop := (r = 5444 ∧ k = 1) ∨ r = 5470
def SDrT (r k : Nat) : Prop := STA r k ∨ S54441 r k
theorem s_X6_draw {σ : WS} {lm : Lam} {M : WM} {x y z : Int32} {s0 : Nat} {Q : Int32 → WM → Prop} (hW : WT σ M) (ok : wsOK σ) (hl : LawT lm M) (lo : lamOK lm) (hx0 : wI M 5444 1 = nI s0) (hx : s0 < 65536) (h0 : ¬ VDr σ x y z → Q (-1) M) (h2 : ∀ w, x = nI w → VDr σ x y z → used σ w = false → Q (-2) M) (h1 : ∀ w n, x = nI w → y = nI n → VDr σ x y z → used σ w = true → ∀ M', wI M' 5444 1 = nI (drX n s0) → Fr SDrT M M' → Q (drV σ lm w n s0 z) M') : m_X6_draw x y z M Q := by
  have hs := ok.1
  refine s_X6_isWord hW ok (bdc (fun e => ?_) (fun e => h0 fun q => e q.1))
  refine s_X6_in (bdc (fun e2 => ?_) (fun e2 => h0 fun q => e2 q.2.1))
  have e2 : 1 ≤ y.toInt ∧ y.toInt ≤ 60 := e2
  refine s_X6_in (bdc (fun e3 => ?_) (fun e3 => h0 fun q => e3 ⟨q.2.2.1, by have := q.2.2.2; show z.toInt ≤ 1; omega⟩))
  have e3 : 0 ≤ z.toInt ∧ z.toInt ≤ 1 := e3
  obtain ⟨w, hw, ex, ew⟩ := nI_ex e.1
  obtain ⟨n, hn, ey, en⟩ := nI_ex (x := y) (by omega)
  have hV : VDr σ x y z := ⟨e, e2, e3.1, by omega⟩
  have hh1 := h1 w n ex ey hV
  have hh2 := h2 w ex hV
  subst ex ey
  have hw : w < sN σ := by omega
  refine s_X6_isUsed hW ok hw (bcs (fun u => ?_) (fun u => hh2 u))
  refine s_X6_laysSteps hW ok hl lo fun M6 S6 f6 => ?_
  have w6 : WT σ M6 := hW.fr f6 (by unfold STA PWT; omega)
  have fx : ∀ {M'}, Fr S54441 M6 M' → WT σ M' ∧ StA σ lm M' := fun f => ⟨w6.fr f (by unfold S54441 PWT; omega), fun a b ha hb => (S6 a b ha hb).fr f (by unfold S54441; omega)⟩
  have x6 : wI M6 5444 1 = nI s0 := by rw [f6.I (by unfold STA; omega)]; exact hx0
  refine pk_loop (fun k i M' => m_X6_draw_l47 (nI w) (nI n) z Q k (nI i) M') (fun i M' => Fr S54441 M6 M' ∧ wI M' 5444 1 = nI s0 ∧ ∀ v, v < i → wI M' 5470 v = b2i (drB σ lm w s0 0 v)) (sN σ) 0 M6 (by omega) ⟨Fr.rf, x6, fun v h => absurd h (by omega)⟩ ?_ ?_
  · intro k M' ⟨p1, p2, p3⟩
    unfold m_X6_draw_l47
    rw [(fx p1).1.1]
    refine ⟨fun _ => ?_, fun z => absurd (Int32.le_refl _) z⟩
    refine pk_loop (fun k' i M2 => m_X6_draw_l86 (nI n) z Q k' (nI (drW σ lm w s0 i)) (nI i) M2) (fun i M2 => Fr S54441 M6 M2 ∧ wI M2 5444 1 = nI (drX i s0) ∧ ∀ v, v < sN σ → wI M2 5470 v = b2i (drB σ lm w s0 i v)) n 0 M' (by omega) ⟨p1, p2, p3⟩ ?_ ?_
    · intro k' M2 ⟨q1, q2, q3⟩
      have hh := hh1 u M2 q2 ((f6.mono fun r k q => Or.inl q).tr (q1.mono fun r k q => Or.inr q))
      unfold drV at hh
      refine ⟨fun _ => ⟨fun c => ?_, fun c => ?_⟩, fun z => absurd (Int32.le_refl _) z⟩
      · rw [if_pos c] at hh; exact hh
      · rw [if_neg c] at hh
        refine pk_loop (fun k2 i (t : Nat) => m_X6_draw_l172 Q k2 (nI t) (nI i) M2) (fun i t => t = cnt (drB σ lm w s0 n) i) (sN σ) 0 0 (by omega) rfl ?_ ?_
        · intro k2 t et
          subst et
          unfold m_X6_draw_l172
          rw [(fx q1).1.1]
          exact ⟨fun _ => hh, fun z => absurd (Int32.le_refl _) z⟩
        · intro k2 i t hi et ih
          unfold m_X6_draw_l172
          rw [(fx q1).1.1, nI_clamp (show i < 2 ^ 31 by omega), q3 i hi]
          refine ⟨fun z => absurd z (nI_ge hi (by omega)), fun _ => ⟨vin (by omega), bcs (fun c2 z5 e5 z6 e6 => ?_) (fun c2 z5 e5 z6 e6 => ?_)⟩⟩
          · rw [e5, e6, nI_1, nI_1]; exact ih _ (by rw [cnt_t c2, et])
          · rw [e5, e6, nI_1, show nI t + 0 = nI t from Int32.add_zero _]; exact ih _ (by rw [cnt_f c2, et])
    · intro k' i M2 hi ⟨q1, q2, q3⟩ ih
      have hwi := drW_lt (lm := lm) (x := s0) hw i
      refine ⟨fun z => absurd z (nI_ge hi (by omega)), fun _ z4 e4 M5 e5 => ?_⟩
      rw [q2, lcg_I (drX_lt hx i)] at e4
      rw [e4] at e5
      have f5 : Fr S54441 M6 M5 := by rw [e5]; exact q1.PI (Or.inl ⟨rfl, rfl⟩)
      obtain ⟨w5, L5⟩ := fx f5
      have x5 : wI M5 5444 1 = nI (drX (i + 1) s0) := by rw [e5, wI_s]; rfl
      have xl := drX_lt hx (i + 1)
      have hd : dgS σ lm (drW σ lm w s0 i) ≤ sN σ := cnt_le _ _
      have fin : ∀ v, v = drW σ lm w s0 (i + 1) → vp_in (nI v) 40 ∧ ∀ M8, M8 = wPI M5 5470 (nI v).toNatClampNeg (zb 1) → ∀ z9 : Int32, z9 = nI i + 1 → m_X6_draw_l86 (nI n) z Q k' (nI v) z9 M8 := fun v ev => by
        have hv : v < sN σ := by rw [ev]; exact drW_lt hw _
        refine ⟨vin (by omega), fun M8 e8 z9 e9 => ?_⟩
        rw [nI_clamp (by omega)] at e8
        rw [e9, nI_1, ev]
        refine ih M8 ⟨by rw [e8]; exact f5.PI (Or.inr rfl), by rw [e8, wI_n _ _ (by omega)]; exact x5, fun u hu => ?_⟩
        show _ = b2i (decide (u = drW σ lm w s0 (i + 1)) || drB σ lm w s0 i u)
        rw [e8, wI_PI, ← ev]
        by_cases e : u = v
        · rw [if_pos ⟨rfl, e⟩, decide_eq_true e]; rfl
        · rw [if_neg (fun z => e z.2), decide_eq_false e, e5, wI_n _ _ (by omega), Bool.false_or]; exact q3 u hu
      refine s_X6_stepsFrom w5 L5 ok hwi (pk_eq (dgS σ lm (drW σ lm w s0 i)) 0 (fun c => fin _ ?_) (fun c => ⟨nI_ne0 (by omega) (by omega), ?_⟩) rfl rfl)
      · show _ = drN σ lm (drW σ lm w s0 i) (drX (i + 1) s0)
        unfold drN; rw [if_neg (by omega)]
      · rw [x5, pk_rem (by omega) (by omega) (by omega)]
        refine s_X6_stepTo L5 ok hwi (Nat.mod_lt _ (by omega)) (fin _ ?_)
        show _ = drN σ lm (drW σ lm w s0 i) (drX (i + 1) s0)
        unfold drN; rw [if_pos (by omega)]
  · intro k i M' hi ⟨q1, q2, q3⟩ ih
    unfold m_X6_draw_l47
    rw [(fx q1).1.1, nI_clamp (show i < 2 ^ 31 by omega)]
    have put : ∀ v M7, v = b2i (decide (i = w)) → M7 = wPI M' 5470 i v → ∀ y : Int32, y = nI i + 1 → m_X6_draw_l47 (nI w) (nI n) z Q k y M7 := fun v M7 ev e7 y ey => by
      rw [ey, nI_1]
      refine ih M7 ⟨by rw [e7]; exact q1.PI (Or.inr rfl), by rw [e7, wI_n _ _ (by omega)]; exact q2, fun u hu => ?_⟩
      rw [e7, wI_PI]
      by_cases e : u = i
      · rw [if_pos ⟨rfl, e⟩, ev, e]; rfl
      · rw [if_neg (fun z => e z.2)]; exact q3 u (by omega)
    refine ⟨fun z => absurd z (nI_ge hi (by omega)), fun _ => pk_eq i w (fun c => ⟨vin (by omega), fun M7 e7 => put _ M7 (by rw [decide_eq_true c]; decide) e7⟩) (fun c => ⟨vin (by omega), fun M7 e7 => put _ M7 (by rw [decide_eq_false c]; decide) e7⟩) rfl rfl⟩
