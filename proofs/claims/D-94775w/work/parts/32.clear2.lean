/-! clear, the model's side -/
def SKT (r k : Nat) : Prop := SWM r k ∨ SFB r k ∨ r = 5478
theorem s_X6_clear {σ : WS} {tp : Nat → Int32} {t : Nat} {M : WM} {x y z : Int32} {Q : Int32 → WM → Prop} (hW : WT σ M) (ok : wsOK σ) (hT : TT tp t M) (ht : t ≤ 200) (h0 : ¬ VCl t x y z → Q (-1) M) (h1 : ∀ n d, x = nI n → y = nI d → VCl t x y z → ¬ okW σ tp n → ∀ M', TT tp 0 M' → Fr SKT M M' → Q (-3) M') (h2 : ∀ n d, x = nI n → y = nI d → VCl t x y z → okW σ tp n → ∀ M', TT tp 0 M' → Fr SKT M M' → Q (clV σ tp n d z) M') : m_X6_clear x y z M Q := by
  have hs := ok.1
  refine s_X6_in (bdc (fun e => ?_) (fun e => h0 fun q => e q.1))
  have e : 1 ≤ x.toInt ∧ x.toInt ≤ 14 := e
  refine s_X6_in (bdc (fun e2 => ?_) (fun e2 => h0 fun q => e2 q.2.1))
  have e2 : 1 ≤ y.toInt ∧ y.toInt ≤ 9 := e2
  refine s_X6_in (bdc (fun e3 => ?_) (fun e3 => h0 fun q => e3 ⟨q.2.2.1.1, by have := q.2.2.1.2; show z.toInt ≤ 1; omega⟩))
  have e3 : 0 ≤ z.toInt ∧ z.toInt ≤ 1 := e3
  obtain ⟨n, hn, rfl, en⟩ := nI_ex (x := x) (by omega)
  obtain ⟨d, hd, rfl, ed⟩ := nI_ex (x := y) (by omega)
  rw [hT.2]
  refine pk_le n t (fun e4 => ?_) (fun e4 => h0 fun q => by have := q.2.2.2; omega) rfl rfl
  have hV : VCl t (nI n) (nI d) z := ⟨e, e2, ⟨e3.1, by omega⟩, by omega⟩
  have h1 := h1 n d rfl rfl hV
  have h2 := h2 n d rfl rfl hV
  refine s_X6_takesWords hW ok hT (by omega) (fun hw M9 a9 t9 f9 => ie1 ?_) (fun hw M9 t9 f9 => ie0 (h1 hw M9 t9 (f9.mono fun r k q => Or.inl q)))
  have h2 := h2 hw
  have fact : ∀ {M'}, Fr (fun r k => SFB r k ∨ r = 5478) M9 M' → TT tp 0 M' ∧ WT σ M' ∧ TdT tp n M' ∧ Fr SKT M M' := fun f => by
    have f' : Fr SKT M _ := (f9.mono (T := SKT) fun r k q => Or.inl q).tr (f.mono (T := SKT) fun r k q => Or.inr q)
    exact ⟨⟨fun j => by rw [f.I (by unfold SFB SLR SFT; omega)]; exact t9.1 j, by rw [f.I (by unfold SFB SLR SFT; omega)]; exact t9.2⟩, hW.fr f' (by unfold SKT SWM SFB SLR SFT PWT; omega), fun j hj => by rw [f.I (by unfold SFB SLR SFT; omega)]; exact a9 j hj, f'⟩
  refine pk_loop (fun k i M' => m_X6_clear_l53 (nI n) (nI d) z Q k (nI i) M') (fun i M' => Fr (fun r k => SFB r k ∨ r = 5478) M9 M' ∧ ∀ k, k < i → wI M' 5478 k = nI (nrT σ tp n d k)) n 0 M9 (by omega) ⟨Fr.rf, fun k hk => absurd hk (by omega)⟩ ?_ ?_
  · intro k M' ⟨q1, q2⟩
    refine ⟨fun _ => ?_, fun z => absurd (Int32.le_refl _) z⟩
    obtain ⟨t', w', a', f'⟩ := fact q1
    have h2 := h2 M' t' f'
    have p := p14 (n := n) (by omega)
    have p1 : 1 ≤ 2 ^ n := Nat.one_le_two_pow
    refine pk_loop (fun k i (_ : Unit) => m_X6_clear_l142 (nI n) z Q k (nI (clB (nrT σ tp n d) n i)) (nI i) M') (fun i _ => clB (nrT σ tp n d) n i < 16384) (2 ^ n) 1 () p1 (by have := clB_le (nrT σ tp n d) n 1; omega) ?_ ?_
    · intro k _ hb
      unfold m_X6_clear_l142
      rw [bit32 (by omega)]
      unfold clV at h2
      refine ⟨fun _ => ⟨fun c => ?_, fun c => ?_⟩, fun z => absurd (Int32.le_refl _) z⟩
      · rw [if_pos c] at h2
        exact s_X6_bits hb h2
      · rw [if_neg c] at h2; exact h2
    · intro k i _ hi hb ih
      unfold m_X6_clear_l142
      rw [bit32 (by omega)]
      refine ⟨fun z => absurd z (nI_ge hi (by omega)), fun _ => s_X6_bits (by omega) (s_X6_bits (by omega) ?_)⟩
      have pl := pop_le 14 i
      have pl2 := pop_le 14 (clB (nrT σ tp n d) n i)
      have no : ¬ (pop 14 (clB (nrT σ tp n d) n i) < pop 14 i ∧ allB (clK (nrT σ tp n d) i) n = true) → ∀ y : Int32, y = nI i + 1 → m_X6_clear_l142 (nI n) z Q k (nI (clB (nrT σ tp n d) n i)) y M' := fun q y ey => by
        have e9 : clB (nrT σ tp n d) n (i + 1) = clB (nrT σ tp n d) n i := by rw [clB, if_neg q]
        have ih := ih () (by rw [e9]; exact hb)
        rw [e9] at ih
        rw [ey, nI_1]; exact ih
      refine pk_le (pop 14 i) (pop 14 (clB (nrT σ tp n d) n i)) (fun c => no fun q => absurd q.1 (by omega)) (fun c => ?_) rfl rfl
      refine s_X6_isClear (by omega) hi q2 (bcs (fun e8 y ey => ?_) (fun e8 => no fun q => by rw [q.2] at e8; cases e8))
      have e9 : clB (nrT σ tp n d) n (i + 1) = i := by rw [clB, if_pos ⟨c, e8⟩]
      have ih := ih () (by rw [e9]; omega)
      rw [e9] at ih
      rw [ey, nI_1]; exact ih
  · intro k i M' hi ⟨q1, q2⟩ ih
    unfold m_X6_clear_l53
    refine ⟨fun z => absurd z (nI_ge hi (by omega)), fun _ => ⟨vin (by omega), fun M3 e3 => ?_⟩⟩
    rw [nI_clamp (by omega)] at e3
    refine pk_loop (fun n0 j M2 => m_X6_clear_l70 (fun x4' M' => m_X6_clear_l53 (nI n) (nI d) z Q k x4' M') (nI n) (nI d) z (nI i) Q n0 (nI j) M2) (fun j M2 => Fr (fun r k => SFB r k ∨ r = 5478) M9 M2 ∧ (∀ k, k < i → wI M2 5478 k = nI (nrT σ tp n d k)) ∧ wI M2 5478 i = nI (setN (nrP σ tp d i) j)) n 0 M3 (by omega) ⟨by rw [e3]; exact q1.PI (Or.inr rfl), fun k hk => by rw [e3, wI_n _ _ (by omega)]; exact q2 k hk, by rw [e3, wI_s]; rfl⟩ ?_ ?_
    · intro n0 M2 ⟨p1, p2, p3⟩
      refine ⟨fun _ y ey => ?_, fun z => absurd (Int32.le_refl _) z⟩
      rw [ey, nI_1]
      refine ih M2 ⟨p1, fun k hk => ?_⟩
      by_cases ek : k = i
      · rw [ek]; exact p3
      · exact p2 k (by omega)
    · intro n0 j M2 hj ⟨p1, p2, p3⟩ ih2
      obtain ⟨t', w', a', f'⟩ := fact p1
      have hu := (okW_td ok hw hi).2
      have hv := (okW_td ok hw hj).2
      unfold m_X6_clear_l70
      have keep : ∀ M4, Fr SFB M2 M4 → nrP σ tp d i j = false → ∀ y : Int32, y = nI j + 1 → m_X6_clear_l70 (fun x4' M' => m_X6_clear_l53 (nI n) (nI d) z Q k x4' M') (nI n) (nI d) z (nI i) Q n0 y M4 := fun M4 f4 e5 y ey => by
        rw [ey, nI_1]
        refine ih2 M4 ⟨p1.tr (f4.mono fun r k q => Or.inl q), fun k hk => by rw [f4.I (by unfold SFB SLR SFT; omega)]; exact p2 k hk, ?_⟩
        rw [f4.I (by unfold SFB SLR SFT; omega), p3, setN, if_neg (by rw [e5]; decide)]
      refine ⟨fun z => absurd z (nI_ge hj (by omega)), fun _ => pk_eq j i (fun c y ey => keep M2 Fr.rf (by unfold nrP; rw [decide_eq_false (fun q => q c.symm)]; rfl) y ey) (fun c => ⟨vin (by omega), vin (by omega), ?_⟩) rfl rfl⟩
      rw [nI_clamp (by omega), nI_clamp (by omega), a' i hi, a' j hj]
      refine s_X6_farBetween w' ok hu hv fun M10 f10 => ?_
      have b1 := ed_le (sLet σ (td tp i)) (sLet σ (td tp j)) (sLen σ (td tp i)) (sLen σ (td tp j))
      have b2 := (ok.2.1 _ hu).2.1
      have b3 := (ok.2.1 _ hv).2.1
      refine pk_le d (edW σ (td tp i) (td tp j)) (fun c2 y ey => keep M10 f10 (by unfold nrP; rw [decide_eq_false (show ¬ edW σ (td tp i) (td tp j) < d by omega), Bool.and_false]) y ey) (fun c2 => ⟨vin (by omega), vin (by omega), fun u eu M16 e16 y ey => ?_⟩) rfl rfl (by omega) (by unfold edW; omega)
      rw [f10.I (by unfold SFB SLR SFT; omega), p3, bit32 (by omega), nI_or] at eu
      rw [ey, nI_1]
      refine ih2 M16 ⟨by rw [e16]; exact (p1.tr (f10.mono fun r k q => Or.inl q)).PI (Or.inr rfl), fun k hk => by rw [e16, wI_n _ _ (by omega), f10.I (by unfold SFB SLR SFT; omega)]; exact p2 k hk, ?_⟩
      rw [e16, wI_s, eu, setN, if_pos (by unfold nrP; rw [decide_eq_true (show ¬ i = j from fun q => c q.symm), decide_eq_true c2]; rfl)]
