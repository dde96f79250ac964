/-! least ways: the model's three loops -/
def WaT (N : Nat) (d : Nat → Nat → Option Nat) (M : WM) : Prop := ∀ a b, a < N → b < N → wI M 5468 (40 * a + b) = fI 1000000000 (d a b)
theorem s_X6_sum {q r : Option Nat} {Q : Int32 → Prop} (hq : ∀ x, q = some x → x < 100000000) (hr : ∀ x, r = some x → x < 100000000) (h : Q (fI 1000000000 (oadd q r))) : m_X6_sum (fI 1000000000 q) (fI 1000000000 r) Q := by
  have big : ∀ A B : Prop, A → ((1000000000 : Int32) ≤ nI 1000000000 → A) ∧ (¬ (1000000000 : Int32) ≤ nI 1000000000 → B) := fun A B x => ⟨fun _ => x, fun z => absurd (Int32.le_refl _) z⟩
  cases q with
  | none =>
    have h : Q (nI 1000000000) := h
    exact big _ _ h
  | some x =>
    have hx := hq x rfl
    refine pk_le 1000000000 x (fun c => absurd c (by omega)) (fun _ => ?_) rfl rfl
    cases r with
    | none =>
      have h : Q (nI 1000000000) := h
      exact ⟨fun z => absurd z (nI_nlt (a := 1000000000) (b := 1000000000) (by omega) (by omega)), fun _ => h⟩
    | some y =>
      have hy := hr y rfl
      have h : Q (nI (x + y)) := h
      refine pk_lt y 1000000000 (fun _ => ?_) (fun c => absurd c (by omega)) rfl rfl
      show Q (nI x + nI y)
      rw [nI_add]; exact h
theorem fw_t {p s : Option Nat} {Q : Int32 → Prop} (hp : ∀ x, p = some x → x < 100000000) (hs : ∀ x, s = some x → x < 1000000000) (h : Q (fI 1000000000 (omin p s))) : m_X6_min (fI 1000000000 p) (fI 1000000000 s) Q := by
  cases p with
  | none =>
    cases s with
    | none => exact s_X6_min (a := 1000000000) (b := 1000000000) (by omega) (by omega) h
    | some y =>
      have := hs y rfl
      refine s_X6_min (a := 1000000000) (b := y) (by omega) (by omega) ?_
      rw [show min 1000000000 y = y by omega]; exact h
  | some x =>
    have := hp x rfl
    cases s with
    | none =>
      refine s_X6_min (a := x) (b := 1000000000) (by omega) (by omega) ?_
      rw [show min x 1000000000 = x by omega]; exact h
    | some y =>
      have := hs y rfl
      exact s_X6_min (a := x) (b := y) (by omega) (by omega) h
def SWyT (r _k : Nat) : Prop := r = 5468
theorem s_X6_fw {σ : WS} {w : EW} {M : WM} {Q : WM → Prop} (hW : WT σ M) (ok : wsOK σ) (hw : EWok w (used σ) (sN σ)) (hB : ∀ a b c, w a b = some c → c ≤ 10000) (h0 : WaT (sN σ) (dmx w (used σ) 0) M) (h : ∀ M', WaT (sN σ) (dmx w (used σ) (sN σ)) M' → Fr SWyT M M' → Q M') : ∃ n0, m_X6_laysWays_l72 Q n0 0 M := by
  have hs := ok.1
  refine pk_loop (fun k m M' => m_X6_laysWays_l72 Q k (nI m) M') (fun m M' => Fr SWyT M M' ∧ WaT (sN σ) (dmx w (used σ) m) M') (sN σ) 0 M (by omega) ⟨Fr.rf, h0⟩ ?_ ?_
  · intro k M' ⟨q1, q2⟩
    unfold m_X6_laysWays_l72
    rw [(hW.fr q1 (by unfold SWyT PWT; omega)).1]
    exact ⟨fun _ => h M' q2 q1, fun z => absurd (Int32.le_refl _) z⟩
  · intro k m M' hm ⟨q1, q2⟩ ih
    unfold m_X6_laysWays_l72
    rw [(hW.fr q1 (by unfold SWyT PWT; omega)).1]
    refine ⟨fun z => absurd z (nI_ge hm (by omega)), fun _ => ?_⟩
    refine pk_loop (fun k' a M2 => m_X6_laysWays_l82 (fun x1' M' => m_X6_laysWays_l72 Q k x1' M') (nI m) Q k' (nI a) M2) (fun a M2 => Fr SWyT M M2 ∧ WaT (sN σ) (cur w (used σ) m a 0) M2) (sN σ) 0 M' (by omega) ⟨q1, fun a b h1 h2 => by rw [q2 a b h1 h2]; unfold cur; rw [if_neg (by omega)]⟩ ?_ ?_
    · intro k' M2 ⟨p1, p2⟩
      unfold m_X6_laysWays_l82
      rw [(hW.fr p1 (by unfold SWyT PWT; omega)).1]
      refine ⟨fun _ z ez => ?_, fun z => absurd (Int32.le_refl _) z⟩
      rw [ez, nI_1]
      exact ih M2 ⟨p1, fun a b h1 h2 => by rw [p2 a b h1 h2]; unfold cur; rw [if_pos (by omega)]⟩
    · intro k' a M2 ha ⟨p1, p2⟩ ih2
      unfold m_X6_laysWays_l82
      rw [(hW.fr p1 (by unfold SWyT PWT; omega)).1]
      refine ⟨fun z => absurd z (nI_ge ha (by omega)), fun _ => ?_⟩
      refine pk_loop (fun k2 b M3 => m_X6_laysWays_l92 (fun x1' M' => m_X6_laysWays_l72 Q k x1' M') (fun x2' M' => m_X6_laysWays_l82 (fun x1' M' => m_X6_laysWays_l72 Q k x1' M') (nI m) Q k' x2' M') (nI m) (nI a) Q k2 (nI b) M3) (fun b M3 => Fr SWyT M M3 ∧ WaT (sN σ) (cur w (used σ) m a b) M3) (sN σ) 0 M2 (by omega) ⟨p1, p2⟩ ?_ ?_
      · intro k2 M3 ⟨r1, r2⟩
        unfold m_X6_laysWays_l92
        rw [(hW.fr r1 (by unfold SWyT PWT; omega)).1]
        refine ⟨fun _ z ez => ?_, fun z => absurd (Int32.le_refl _) z⟩
        rw [ez, nI_1]
        refine ih2 M3 ⟨r1, fun a' b' h1 h2 => ?_⟩
        rw [r2 a' b' h1 h2]
        unfold cur
        by_cases e : a' < a ∨ (a' = a ∧ b' < sN σ)
        · rw [if_pos e, if_pos (by omega)]
        · rw [if_neg e, if_neg (by omega)]
      · intro k2 b M3 hb ⟨r1, r2⟩ ih3
        unfold m_X6_laysWays_l92
        rw [(hW.fr r1 (by unfold SWyT PWT; omega)).1, show (40 : Int32) = nI 40 from rfl, pk_mul, pk_mul, nI_add, nI_add, nI_add, nI_clamp (show 40 * a + m < 2 ^ 31 by omega), nI_clamp (show 40 * m + b < 2 ^ 31 by omega), nI_clamp (show 40 * a + b < 2 ^ 31 by omega)]
        have cab : cur w (used σ) m a b a b = dmx w (used σ) m a b := by unfold cur; rw [if_neg (by omega)]
        rw [r2 a m ha hm, r2 m b hm hb, r2 a b ha hb, cur_am hw, cur_mb hw, cab]
        refine ⟨fun z => absurd z (nI_ge hb (by omega)), fun _ => ⟨vin (by omega), vin (by omega), vin (by omega), s_X6_sum (fun x e => dmx_b hw hs hB e) (fun x e => dmx_b hw hs hB e) (fw_t (fun x e => dmx_b hw hs hB e) (fun x e => ?_) ⟨vin (by omega), fun M12 e12 y ey => ?_⟩)⟩⟩
        · obtain ⟨x1, x2, g1, g2, g3⟩ := oadd_of e
          have := dmx_b hw hs hB g1
          have := dmx_b hw hs hB g2
          omega
        rw [ey, nI_1]
        refine ih3 M12 ⟨by rw [e12]; exact r1.PI rfl, fun a' b' h1 h2 => ?_⟩
        rw [e12, wI_PI]
        by_cases e : 5468 = 5468 ∧ 40 * a' + b' = 40 * a + b
        · rw [if_pos e]
          have e1 : a' = a := by omega
          have e2 : b' = b := by omega
          subst e1 e2
          unfold cur
          rw [if_pos (by omega)]; rfl
        · rw [if_neg e, r2 a' b' h1 h2]
          unfold cur
          by_cases e2 : a' < a ∨ (a' = a ∧ b' < b)
          · rw [if_pos e2, if_pos (by omega)]
          · rw [if_neg e2, if_neg (by omega)]
