/-! least ways: LetterHeaps' three loops -/
def dmx (w : EW) (U : Nat → Bool) : Nat → Nat → Nat → Option Nat
  | 0 => fun a b => if a = b ∧ U a = true then some 0 else w a b
  | m + 1 => fwS (dmx w U m) m
theorem dmx_ok (w : EW) (U : Nat → Bool) : ∀ m a b, dst w U m a b (dmx w U m a b)
  | 0, _, _ => dst_0
  | m + 1, a, b => dst_step (dmx_ok w U m) a b
theorem dmx_b {w : EW} {U : Nat → Bool} {N m : Nat} (hw : EWok w U N) (hN : N ≤ 40) (hB : ∀ a b c, w a b = some c → c ≤ 10000) {a b x : Nat} (e : dmx w U m a b = some x) : x < 100000000 := by
  rcases dst_bd hw hB (dmx_ok w U m) e with ⟨_, h⟩ | ⟨_, _, _, h, _⟩ <;> omega
def cur (w : EW) (U : Nat → Bool) (m a b a' b' : Nat) : Option Nat := if a' < a ∨ (a' = a ∧ b' < b) then dmx w U (m + 1) a' b' else dmx w U m a' b'
theorem cur_am {w : EW} {U : Nat → Bool} {N m : Nat} (hw : EWok w U N) (a b a' : Nat) : cur w U m a b a' m = dmx w U m a' m := by
  unfold cur; split
  · exact (dst_mid hw (dmx_ok w U m) a').1
  · rfl
theorem cur_mb {w : EW} {U : Nat → Bool} {N m : Nat} (hw : EWok w U N) (a b b' : Nat) : cur w U m a b m b' = dmx w U m m b' := by
  unfold cur; split
  · exact (dst_mid hw (dmx_ok w U m) b').2
  · rfl
def WaC (N : Nat) (d : Nat → Nat → Option Nat) (M : WM) : Prop := ∀ a b, a < N → b < N → wI M (133 + a) b = fI 268435456 (d a b)
def SWay (r _k : Nat) : Prop := 133 ≤ r ∧ r < 173
theorem s_X0_fw {σ : WS} {w : EW} {M : WM} {Q : WM → Prop} (hW : WC σ M) (ok : wsOK σ) (hw : EWok w (used σ) (sN σ)) (hB : ∀ a b c, w a b = some c → c ≤ 10000) (h0 : WaC (sN σ) (dmx w (used σ) 0) M) (h : ∀ M', WaC (sN σ) (dmx w (used σ) (sN σ)) M' → Fr SWay M M' → ∃ n0, m_X0_lays_l258 Q n0 0 M') : ∃ n0, m_X0_lays_l169 Q n0 0 M := by
  have hs := ok.1
  refine pk_loop (fun k m M' => m_X0_lays_l169 Q k (nI m) M') (fun m M' => Fr SWay M M' ∧ WaC (sN σ) (dmx w (used σ) m) M') (sN σ) 0 M (by omega) ⟨Fr.rf, h0⟩ ?_ ?_
  · intro k M' ⟨q1, q2⟩
    unfold m_X0_lays_l169
    rw [(hW.fr ok q1 (by unfold SWay PWC; omega)).1]
    exact ⟨fun _ => h M' q2 q1, fun z => absurd (Int32.le_refl _) z⟩
  · intro k m M' hm ⟨q1, q2⟩ ih
    unfold m_X0_lays_l169
    rw [(hW.fr ok q1 (by unfold SWay PWC; omega)).1]
    refine ⟨fun z => absurd z (nI_ge hm (by omega)), fun _ => ?_⟩
    refine pk_loop (fun k' a M2 => m_X0_lays_l179 (fun x1' M' => m_X0_lays_l169 Q k x1' M') (nI m) Q k' (nI a) M2) (fun a M2 => Fr SWay M M2 ∧ WaC (sN σ) (cur w (used σ) m a 0) M2) (sN σ) 0 M' (by omega) ⟨q1, fun a b h1 h2 => by rw [q2 a b h1 h2]; unfold cur; rw [if_neg (by omega)]⟩ ?_ ?_
    · intro k' M2 ⟨p1, p2⟩
      unfold m_X0_lays_l179
      rw [(hW.fr ok p1 (by unfold SWay PWC; omega)).1]
      refine ⟨fun _ z ez => ?_, fun z => absurd (Int32.le_refl _) z⟩
      rw [ez, nI_1]
      exact ih M2 ⟨p1, fun a b h1 h2 => by rw [p2 a b h1 h2]; unfold cur; rw [if_pos (by omega)]⟩
    · intro k' a M2 ha ⟨p1, p2⟩ ih2
      unfold m_X0_lays_l179
      rw [(hW.fr ok p1 (by unfold SWay PWC; omega)).1]
      refine ⟨fun z => absurd z (nI_ge ha (by omega)), fun _ => ?_⟩
      refine pk_loop (fun k2 b M3 => m_X0_lays_l189 (fun x1' M' => m_X0_lays_l169 Q k x1' M') (fun x2' M' => m_X0_lays_l179 (fun x1' M' => m_X0_lays_l169 Q k x1' M') (nI m) Q k' x2' M') (nI m) (nI a) Q k2 (nI b) M3) (fun b M3 => Fr SWay M M3 ∧ WaC (sN σ) (cur w (used σ) m a b) M3) (sN σ) 0 M2 (by omega) ⟨p1, p2⟩ ?_ ?_
      · intro k2 M3 ⟨r1, r2⟩
        unfold m_X0_lays_l189
        rw [(hW.fr ok r1 (by unfold SWay PWC; omega)).1]
        refine ⟨fun _ z ez => ?_, fun z => absurd (Int32.le_refl _) z⟩
        rw [ez, nI_1]
        refine ih2 M3 ⟨r1, fun a' b' h1 h2 => ?_⟩
        rw [r2 a' b' h1 h2]
        unfold cur
        by_cases e : a' < a ∨ (a' = a ∧ b' < sN σ)
        · rw [if_pos e, if_pos (by omega)]
        · rw [if_neg e, if_neg (by omega)]
      · intro k2 b M3 hb ⟨r1, r2⟩ ih3
        unfold m_X0_lays_l189
        rw [(hW.fr ok r1 (by unfold SWay PWC; omega)).1, nI_clamp (show m < 2 ^ 31 by omega), nI_clamp (show a < 2 ^ 31 by omega), nI_clamp (show b < 2 ^ 31 by omega)]
        refine ⟨fun z => absurd z (nI_ge hb (by omega)), fun _ => ⟨vin (by omega), vin (by omega), vin (by omega), vin (by omega), vin (by omega), vin (by omega), vin (by omega), vin (by omega), fun z ez M12 e12 y ey => ?_⟩⟩
        have cab : cur w (used σ) m a b a b = dmx w (used σ) m a b := by unfold cur; rw [if_neg (by omega)]
        rw [r2 a m ha hm, r2 m b hm hb, r2 a b ha hb, cur_am hw, cur_mb hw, cab, show (268435456 : Int32) = nI 268435456 from rfl, fw_c (fun x e => dmx_b hw hs hB e) (fun x e => dmx_b hw hs hB e) (fun x e => dmx_b hw hs hB e)] at ez
        rw [ey, nI_1]
        refine ih3 M12 ⟨by rw [e12]; exact r1.PI (by unfold SWay; omega), fun a' b' h1 h2 => ?_⟩
        rw [e12, wI_PI]
        by_cases e : 133 + a' = 133 + a ∧ b' = b
        · rw [if_pos e, ez]
          obtain ⟨e1, rfl⟩ := e
          have e1 : a' = a := by omega
          subst e1
          unfold cur
          rw [if_pos (by omega)]; rfl
        · rw [if_neg e, r2 a' b' h1 h2]
          unfold cur
          by_cases e2 : a' < a ∨ (a' = a ∧ b' < b)
          · rw [if_pos e2, if_pos (by omega)]
          · rw [if_neg e2, if_neg (by omega)]
