/-! clear: the most words that are far from one another -/
def VCl (t : Nat) (n d x : Int32) : Prop := (1 ≤ n.toInt ∧ n.toInt ≤ 14) ∧ (1 ≤ d.toInt ∧ d.toInt ≤ 9) ∧ (0 ≤ x.toInt ∧ x.toInt < 2) ∧ n.toInt ≤ t
def nrP (σ : WS) (tp : Nat → Int32) (d i j : Nat) : Bool := decide (¬ i = j) && decide (edW σ (td tp i) (td tp j) < d)
def nrT (σ : WS) (tp : Nat → Int32) (n d i : Nat) : Nat := setN (nrP σ tp d i) n
def clK (f : Nat → Nat) (s i : Nat) : Bool := !(s.testBit i) || decide (f i &&& s = 0)
def clB (f : Nat → Nat) (n : Nat) : Nat → Nat
  | 0 => 0
  | s + 1 => if pop 14 (clB f n s) < pop 14 s ∧ allB (clK f s) n = true then s else clB f n s
theorem clB_le (f : Nat → Nat) (n : Nat) : ∀ s, clB f n s ≤ s
  | 0 => Nat.le_refl _
  | s + 1 => by
    have := clB_le f n s
    rw [clB]; split <;> omega
def clV (σ : WS) (tp : Nat → Int32) (n d : Nat) (x : Int32) : Int32 := if x = 0 then nI (pop 14 (clB (nrT σ tp n d) n (2 ^ n))) else nI (clB (nrT σ tp n d) n (2 ^ n))
def SKC (r k : Nat) : Prop := SWC r k ∨ SFC r k ∨ r = 5321
theorem p14 {n : Nat} (h : n ≤ 14) : 2 ^ n ≤ 16384 := Nat.pow_le_pow_right (by omega) h
theorem s_cl183 {K : Int32 → Int32 → WM → Prop} {f : Nat → Nat} {n s : Nat} {x3 x4 : Int32} {M : WM} {Q : Int32 → WM → Prop} (hn : n ≤ 14) (hs : s < 2 ^ n) (hf : ∀ k, k < n → wI M 5321 k = nI (f k)) (h : m_X0_clear_j231 K (nI n) x3 x4 (nI s) (b2i (allB (clK f s) n)) Q M) : ∃ n0, m_X0_clear_l183 K (nI n) x3 x4 (nI s) Q n0 1 0 M := by
  have p := p14 hn
  refine pk_loop (fun k i (b : Bool) => m_X0_clear_l183 K (nI n) x3 x4 (nI s) Q k (b2i b) (nI i) M) (fun i b => b = allB (clK f s) i) n 0 true (by omega) rfl ?_ ?_
  · intro k b e
    rw [e]
    exact ⟨fun _ => h, fun z => absurd (Int32.le_refl _) z⟩
  · intro k i b hi e ih
    refine ⟨fun z => absurd z (nI_ge hi (by omega)), fun _ => bcs (fun e1 => ?_) (fun e1 => ?_)⟩
    · rw [e1] at e
      have nxt : ∀ c, clK f s i = c → c = allB (clK f s) (i + 1) := fun c hc => by rw [allB, ← e, hc]; rfl
      refine s_X0_has (by omega) ?_
      rw [lb_nI (by omega) (by omega)]
      refine bcs (fun e2 => ⟨vin (by omega), ?_⟩) (fun e2 z ez => ?_)
      · rw [nI_clamp (by omega), hf i hi, nI_and]
        have : f i &&& s ≤ s := Nat.and_le_right
        refine pk_eq (f i &&& s) 0 (fun c z ez => ?_) (fun c z ez => ?_) rfl rfl
        · rw [ez, nI_1]; exact ih true (nxt true (by unfold clK; rw [decide_eq_true c, Bool.or_true]))
        · rw [ez, nI_1]; exact ih false (nxt false (by unfold clK; rw [decide_eq_false c, e2]; rfl))
      · rw [ez, nI_1]; exact ih true (nxt true (by unfold clK; rw [e2]; rfl))
    · rw [e1] at e
      rw [allB_no e.symm (Nat.le_of_lt hi)] at h
      rw [e1]
      exact h
theorem s_X0_clear {σ : WS} {tp : Nat → Int32} {t : Nat} {M : WM} {x y z : Int32} {Q : Int32 → WM → Prop} (hW : WC σ M) (ok : wsOK σ) (hT : TC tp t M) (ht : t ≤ 200) (h0 : ¬ VCl t x y z → Q (-1) M) (h1 : ∀ n d, x = nI n → y = nI d → VCl t x y z → ¬ okW σ tp n → ∀ M', TC tp 0 M' → Fr SKC M M' → Q (-3) M') (h2 : ∀ n d, x = nI n → y = nI d → VCl t x y z → okW σ tp n → ∀ M', TC tp 0 M' → Fr SKC M M' → Q (clV σ tp n d z) M') : m_X0_clear x y z M Q := by
  have hs := ok.1
  refine s_X0_within (bdc (fun e => ?_) (fun e => h0 fun q => e q.1))
  have e : 1 ≤ x.toInt ∧ x.toInt ≤ 14 := e
  refine s_X0_within (bdc (fun e2 => ?_) (fun e2 => h0 fun q => e2 q.2.1))
  have e2 : 1 ≤ y.toInt ∧ y.toInt ≤ 9 := e2
  refine s_X0_in (bdc (fun e3 => ?_) (fun e3 => h0 fun q => e3 q.2.2.1))
  obtain ⟨n, hn, rfl, en⟩ := nI_ex (x := x) (by omega)
  obtain ⟨d, hd, rfl, ed⟩ := nI_ex (x := y) (by omega)
  rw [hT.2]
  refine pk_le n t (fun e4 => ?_) (fun e4 => h0 fun q => by have := q.2.2.2; omega) rfl rfl
  have hV : VCl t (nI n) (nI d) z := ⟨e, e2, e3, by omega⟩
  have h1 := h1 n d rfl rfl hV
  have h2 := h2 n d rfl rfl hV
  refine s_X0_takesWords hW ok hT (by omega) (fun hw M9 a9 b9 t9 f9 => ie1 ?_) (fun hw M9 t9 f9 => ie0 (h1 hw M9 t9 (f9.mono fun r k q => Or.inl q)))
  have h2 := h2 hw
  have fact : ∀ {M'}, Fr (fun r k => SFC r k ∨ r = 5321) M9 M' → TC tp 0 M' ∧ WC σ M' ∧ TdC tp n M' ∧ Fr SKC M M' := fun f => by
    have f' : Fr SKC M _ := (f9.mono (T := SKC) fun r k q => Or.inl q).tr (f.mono (T := SKC) fun r k q => Or.inr q)
    exact ⟨⟨fun j => by rw [f.I (by unfold SFC; omega)]; exact t9.1 j, by rw [f.I (by unfold SFC; omega)]; exact t9.2⟩, hW.fr ok f' (by unfold SKC SWC SFC PWC; omega), fun j hj => by rw [f.I (by unfold SFC; omega)]; exact a9 j hj, f'⟩
  refine pk_loop (fun k i M' => m_X0_clear_l52 (nI n) (nI d) z Q k (nI i) M') (fun i M' => Fr (fun r k => SFC r k ∨ r = 5321) M9 M' ∧ ∀ k, k < i → wI M' 5321 k = nI (nrT σ tp n d k)) n 0 M9 (by omega) ⟨Fr.rf, fun k hk => absurd hk (by omega)⟩ ?_ ?_
  · intro k M' ⟨q1, q2⟩
    refine ⟨fun _ => ?_, fun z => absurd (Int32.le_refl _) z⟩
    obtain ⟨t', w', a', f'⟩ := fact q1
    have h2 := h2 M' t' f'
    have p := p14 (n := n) (by omega)
    have p1 : 1 ≤ 2 ^ n := Nat.one_le_two_pow
    refine pk_loop (fun k i (_ : Unit) => m_X0_clear_l152 (nI n) z Q k (nI (clB (nrT σ tp n d) n i)) (nI i) M') (fun _ _ => True) (2 ^ n) 1 () p1 trivial ?_ ?_
    · intro k _ _
      have hb := clB_le (nrT σ tp n d) n (2 ^ n)
      unfold m_X0_clear_l152
      rw [bit32 (by omega)]
      unfold clV at h2
      refine ⟨fun _ => ⟨fun c => ?_, fun c => ?_⟩, fun z => absurd (Int32.le_refl _) z⟩
      · rw [if_pos c] at h2
        by_cases eb : clB (nrT σ tp n d) n (2 ^ n) = 16384
        · have ps : pop 14 16384 = 0 := by decide
          have : ∀ s, clB (nrT σ tp n d) n s < s ∨ s = 0 := fun s => by
            induction s with
            | zero => exact Or.inr rfl
            | succ s ih =>
              rw [clB]; split
              · omega
              · left; have := clB_le (nrT σ tp n d) n s; omega
          have := this (2 ^ n); omega
        · exact s_J7 (by omega) h2
      · rw [if_neg c] at h2; exact h2
    · intro k i _ hi _ ih
      have ih := ih () trivial
      have hb := clB_le (nrT σ tp n d) n i
      unfold m_X0_clear_l152
      rw [bit32 (by omega)]
      refine ⟨fun z => absurd z (nI_ge hi (by omega)), fun _ => s_J7 (by omega) (s_J7 (by omega) ?_)⟩
      have pl := pop_le 14 i
      have pl2 := pop_le 14 (clB (nrT σ tp n d) n i)
      have fin : ∀ b : Bool, (b = true ↔ pop 14 (clB (nrT σ tp n d) n i) < pop 14 i ∧ allB (clK (nrT σ tp n d) i) n = true) → m_X0_clear_j231 (fun x4' x5' M' => m_X0_clear_l152 (nI n) z Q k x4' x5' M') (nI n) z (nI (clB (nrT σ tp n d) n i)) (nI i) (b2i b) Q M' := fun b hb => by
        refine bcs (fun e y ey => ?_) (fun e y ey => ?_)
        · rw [clB, if_pos (hb.mp e)] at ih
          rw [ey, nI_1]; exact ih
        · rw [clB, if_neg (fun q => by rw [hb.mpr q] at e; cases e)] at ih
          rw [ey, nI_1]; exact ih
      refine pk_le (pop 14 i) (pop 14 (clB (nrT σ tp n d) n i)) (fun c => ?_) (fun c => ?_) rfl rfl
      · have f0 := fin false ⟨fun q => (by cases q), fun q => absurd q.1 (by omega)⟩
        exact ⟨1, fun _ => f0, fun _ => ⟨fun _ => f0, fun q => absurd rfl q⟩⟩
      · exact s_cl183 (by omega) hi q2 (fin _ ⟨fun q => ⟨c, q⟩, fun q => q.2⟩)
  · intro k i M' hi ⟨q1, q2⟩ ih
    unfold m_X0_clear_l52
    refine ⟨fun z => absurd z (nI_ge hi (by omega)), fun _ => ⟨vin (by omega), fun M3 e3 => ?_⟩⟩
    rw [nI_clamp (by omega)] at e3
    refine pk_loop (fun n0 j M2 => m_X0_clear_l69 (fun x4' M' => m_X0_clear_l52 (nI n) (nI d) z Q k x4' M') (nI n) (nI d) z (nI i) Q n0 (nI j) M2) (fun j M2 => Fr (fun r k => SFC r k ∨ r = 5321) M9 M2 ∧ (∀ k, k < i → wI M2 5321 k = nI (nrT σ tp n d k)) ∧ wI M2 5321 i = nI (setN (nrP σ tp d i) j)) n 0 M3 (by omega) ⟨by rw [e3]; exact q1.PI (Or.inr rfl), fun k hk => by rw [e3, wI_n _ _ (by omega)]; exact q2 k hk, by rw [e3, wI_s]; rfl⟩ ?_ ?_
    · intro n0 M2 ⟨p1, p2, p3⟩
      refine ⟨fun _ y ey => ?_, fun z => absurd (Int32.le_refl _) z⟩
      rw [ey, nI_1]
      refine ih M2 ⟨p1, fun k hk => ?_⟩
      by_cases ek : k = i
      · rw [ek]; exact p3
      · exact p2 k (by omega)
    · intro n0 j M2 hj ⟨p1, p2, p3⟩ ih2
      obtain ⟨t', w', a', f'⟩ := fact p1
      have hu := (okW_td ok hw hi).2
      have hv := (okW_td ok hw hj).2
      unfold m_X0_clear_l69
      have keep : ∀ M4, Fr SFC M2 M4 → nrP σ tp d i j = false → ∀ y : Int32, y = nI j + 1 → m_X0_clear_l69 (fun x4' M' => m_X0_clear_l52 (nI n) (nI d) z Q k x4' M') (nI n) (nI d) z (nI i) Q n0 y M4 := fun M4 f4 e5 y ey => by
        rw [ey, nI_1]
        refine ih2 M4 ⟨p1.tr (f4.mono fun r k q => Or.inl q), fun k hk => by rw [f4.I (by unfold SFC; omega)]; exact p2 k hk, ?_⟩
        rw [f4.I (by unfold SFC; omega), p3, setN, if_neg (by rw [e5]; decide)]
      refine ⟨fun z => absurd z (nI_ge hj (by omega)), fun _ => pk_eq i j (fun c y ey => keep M2 Fr.rf (by unfold nrP; rw [decide_eq_false (fun q => q c)]; rfl) y ey) (fun c => ⟨vin (by omega), ?_⟩) rfl rfl⟩
      rw [nI_clamp (by omega), nI_clamp (by omega), a' i hi, a' j hj, nI_clamp (by omega), nI_clamp (by omega)]
      refine ⟨vin (by omega), vin (by omega), vin (by omega), s_X0_farW w' ok hu hv fun M10 f10 => ?_⟩
      have b1 := ed_le (sLet σ (td tp i)) (sLet σ (td tp j)) (sLen σ (td tp i)) (sLen σ (td tp j))
      have b2 := (ok.2.1 _ hu).2.1
      have b3 := (ok.2.1 _ hv).2.1
      refine pk_le d (edW σ (td tp i) (td tp j)) (fun c2 y ey => keep M10 f10 (by unfold nrP; rw [decide_eq_false (show ¬ edW σ (td tp i) (td tp j) < d by omega), Bool.and_false]) y ey) (fun c2 => ⟨vin (by omega), vin (by omega), fun u eu M16 e16 y ey => ?_⟩) rfl rfl (by omega) (by unfold edW; omega)
      rw [f10.I (by unfold SFC; omega), p3, bit32 (by omega), nI_or] at eu
      rw [ey, nI_1]
      refine ih2 M16 ⟨by rw [e16]; exact (p1.tr (f10.mono fun r k q => Or.inl q)).PI (Or.inr rfl), fun k hk => by rw [e16, wI_n _ _ (by omega), f10.I (by unfold SFC; omega)]; exact p2 k hk, ?_⟩
      rw [e16, wI_s, eu, setN, if_pos (by unfold nrP; rw [decide_eq_true c, decide_eq_true c2]; rfl)]
theorem s_X6_isClear {f : Nat → Nat} {n s : Nat} {M : WM} {Q : Int32 → Prop} (hn : n ≤ 14) (hs : s < 2 ^ n) (hf : ∀ k, k < n → wI M 5478 k = nI (f k)) (h : Q (b2i (allB (clK f s) n))) : m_X6_isClear (nI s) (nI n) M Q := by
  have p := p14 hn
  refine pk_loop (fun k i (_ : Unit) => m_X6_isClear_l2 (nI s) (nI n) M Q k (nI i)) (fun i _ => allB (clK f s) i = true) n 0 () (by omega) rfl ?_ ?_
  · intro k _ e
    rw [e] at h
    exact ⟨fun _ => h, fun z => absurd (Int32.le_refl _) z⟩
  · intro k i _ hi e ih
    unfold m_X6_isClear_l2
    have nxt : clK f s i = true → ∀ y : Int32, y = nI i + 1 → m_X6_isClear_l2 (nI s) (nI n) M Q k y := fun hb y ey => by
      rw [ey, nI_1]; exact ih () (by rw [allB, e, hb]; rfl)
    refine ⟨fun z => absurd z (nI_ge hi (by omega)), fun _ => tb_1 (by omega) (by omega) (fun e2 => ⟨vin (by omega), ?_⟩) (fun e2 => nxt (by unfold clK; rw [e2]; rfl))⟩
    rw [nI_clamp (by omega), hf i hi, nI_and, Nat.and_comm]
    have : f i &&& s ≤ s := Nat.and_le_right
    refine pk_eq (f i &&& s) 0 (fun c => nxt (by unfold clK; rw [decide_eq_true c, Bool.or_true])) (fun c => ?_) rfl rfl
    have e3 : allB (clK f s) (i + 1) = false := by
      rw [allB]; unfold clK; rw [decide_eq_false c, e2]; simp
    rw [allB_no e3 hi] at h
    exact h
