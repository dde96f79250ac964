/-! a new word, whole -/
def mdK (σ : WS) (w k : Nat) (r : Rw) : Prop := (∃ c, c < 26 ∧ r = putF σ w k c) ∨ (k < sLen σ w ∧ ∃ c, c < 26 ∧ r = repF σ w k c) ∨ (k < sLen σ w ∧ r = remF σ w k) ∨ (k + 1 < sLen σ w ∧ r = swF σ w k)
theorem ex_l {P : Nat → Prop} {n : Nat} : (∃ k, k ≤ n ∧ P k) ↔ ∃ k, k < n + 1 ∧ P k := ⟨fun ⟨k, h, p⟩ => ⟨k, by omega, p⟩, fun ⟨k, h, p⟩ => ⟨k, by omega, p⟩⟩
theorem mdW_iff {σ : WS} {w : Nat} {r : Rw} : mdW σ w r ↔ ∃ k, k < sLen σ w + 1 ∧ mdK σ w k r := ex_l
def nwV (σ : WS) (lm : Lam) (s : Option Rw) (z : Int32) : Int32 := match s with
  | none => -2
  | some r => if z = 0 then nI (hh σ lm r) else if z = 1 then nI (nn σ r) else if z = 2 then nI r.1 else if z.toInt - 10 < r.1 then nI (r.2 (z.toInt - 10).toNat) else -1
theorem nwV_uq {σ : WS} {lm : Lam} {P : Rw → Prop} {s t : Option Rw} {z : Int32} (hz : z = 0 ∨ z = 1 ∨ z = 2 ∨ 10 ≤ z.toInt) (h : Bst σ lm P s) (g : Bst σ lm P t) : nwV σ lm s z = nwV σ lm t z := by
  rcases h.uq g with ⟨rfl, rfl⟩ | ⟨r, q, rfl, rfl, e1, e2, e3, e4⟩
  · rfl
  · unfold nwV
    dsimp only
    rw [e1, e2, e3]
    by_cases c0 : z = 0
    · rw [if_pos c0, if_pos c0]
    by_cases c1 : z = 1
    · rw [if_neg c0, if_neg c0, if_pos c1, if_pos c1]
    by_cases c2 : z = 2
    · rw [if_neg c0, if_neg c0, if_neg c1, if_neg c1, if_pos c2, if_pos c2]
    rw [if_neg c0, if_neg c0, if_neg c1, if_neg c1, if_neg c2, if_neg c2]
    have hz2 : 10 ≤ z.toInt := by
      rcases hz with v | v | v | v
      · exact absurd v c0
      · exact absurd v c1
      · exact absurd v c2
      · exact v
    by_cases c3 : z.toInt - 10 < q.1
    · rw [if_pos c3, if_pos c3, e4 _ (by omega)]
    · rw [if_neg c3, if_neg c3]
def VNw (z : Int32) : Prop := (0 ≤ z.toInt ∧ z.toInt < 3) ∨ (10 ≤ z.toInt ∧ z.toInt < 18)
def SNCn (r k : Nat) : Prop := SLay r k ∨ SNw r k
theorem s_X0_newWord {σ : WS} {lm : Lam} {M : WM} {z : Int32} {Q : Int32 → WM → Prop} (hW : WC σ M) (ok : wsOK σ) (hl : LawC lm M) (lo : lamOK lm) (hC : wI M 0 8 = wI M 0 7 → Laid σ lm M) (h0 : ¬ VNw z → Q (-1) M) (h1 : VNw z → ∀ s M', Bst σ lm (mdA σ (sN σ)) s → Laid σ lm M' → Fr SNCn M M' → Q (nwV σ lm s z) M') : m_X0_newWord z M Q := by
  have hs := ok.1
  have j22 : VNw z → m_X0_newWord_j22 z Q M := fun hv => by
    refine s_X0_lays hW ok hl lo hC fun M2 L2 _ f2 M3 e3 M4 e4 => ?_
    have hh1 := h1 hv
    have f4 : Fr SNw M2 M4 := by rw [e4, e3]; exact (Fr.rf.PI (Or.inl ⟨rfl, by omega⟩)).PI (Or.inl ⟨rfl, by omega⟩)
    refine s_X2_clears fun M6 L6 f6 => ?_
    have F6 : Fr SNw M2 M6 := f4.tr (f6.mono fun r k q => by unfold SL at q; unfold SNw; omega)
    have w2 : WC σ M2 := hW.fr ok f2 (by unfold SLay PWC; omega)
    have N6 : EN σ lm (mdA σ 0) M6 := ⟨none, fun r hr => absurd hr ex_0, by rw [f6.I (by unfold SL; omega), e4, wI_n _ _ (by omega), e3, wI_s], by rw [f6.I (by unfold SL; omega), e4, wI_s], L6.1⟩
    refine pk_loop (fun k i M' => m_X0_newWord_l45 z Q k (nI i) M') (fun i M' => Fr SNw M2 M' ∧ EN σ lm (mdA σ i) M') (sN σ) 0 M6 (by omega) ⟨F6, N6⟩ ?_ ?_
    · intro k M' ⟨q1, s, q2, q3⟩
      have hh2 := hh1 s M' q2 (NwL L2 ok q1) ((f2.mono fun r k q => Or.inl q).tr (q1.mono fun r k q => Or.inr q))
      unfold m_X0_newWord_l45
      rw [(NwWC w2 ok q1).1]
      refine ⟨fun _ => ?_, fun z => absurd (Int32.le_refl _) z⟩
      cases s with
      | none => rw [q3.1]; exact ⟨fun _ => hh2, fun z => absurd rfl z⟩
      | some r =>
        obtain ⟨n1, n2, n3, n4, n5, n6⟩ := q3
        have b1 := hh_le (lm := lm) ok r
        have hh2 : Q (if z = 0 then nI (hh σ lm r) else if z = 1 then nI (nn σ r) else if z = 2 then nI r.1 else if z.toInt - 10 < r.1 then nI (r.2 (z.toInt - 10).toNat) else -1) M' := hh2
        rw [n1]
        refine pk_eq (hh σ lm r) 0 (fun c => absurd c n6) (fun _ => ⟨fun c => ?_, fun c => ⟨fun c1 => ?_, fun c1 => ⟨fun c2 => ?_, fun c2 => ?_⟩⟩⟩) rfl rfl
        · rw [if_pos c] at hh2; exact hh2
        · rw [if_neg c, if_pos c1] at hh2; rw [n2]; exact hh2
        · rw [if_neg c, if_neg c1, if_pos c2] at hh2; rw [n3.1]; exact hh2
        · rw [if_neg c, if_neg c1, if_neg c2] at hh2
          have hz : 10 ≤ z.toInt ∧ z.toInt < 18 := by
            rcases hv with v | v
            · exfalso
              have : z.toInt = 0 ∨ z.toInt = 1 ∨ z.toInt = 2 := by omega
              rcases this with e | e | e
              · exact c (by rw [i_eq]; exact e)
              · exact c1 (by rw [i_eq]; exact e)
              · exact c2 (by rw [i_eq]; exact e)
            · exact v
          obtain ⟨d, hd, rfl, ed⟩ := nI_ex (x := z) (by omega)
          rw [show (10 : Int32) = nI 10 from rfl, pk_sub (by omega), n3.1]
          rw [ed] at hh2
          refine pk_le r.1 (d - 10) (fun q => ?_) (fun q => ⟨vin (by omega), ?_⟩) rfl rfl
          · rw [if_neg (by omega)] at hh2; exact hh2
          · rw [if_pos (by omega), show ((d : Int) - 10).toNat = d - 10 by omega] at hh2
            rw [nI_clamp (by omega), n3.2 _ q]; exact hh2
    · intro k i M' hi ⟨q1, q2⟩ ih
      have w3 := NwWC w2 ok q1
      obtain ⟨a1, a2, a3, -⟩ := ok.2.1 i hi
      unfold m_X0_newWord_l45
      rw [w3.1, nI_clamp (show i < 2 ^ 31 by omega)]
      refine ⟨fun z => absurd z (nI_ge hi (by omega)), fun _ => s_X0_isUsed w3 ok hi (bcs (fun hu => ⟨vin (by omega), ?_⟩) (fun hu y ey => ?_))⟩
      · refine pk_loop (fun k' p M3 => m_X0_newWord_l77 (fun x2' M' => m_X0_newWord_l45 z Q k x2' M') z (nI i) (5325 + 3 * i) Q k' (nI p) M3) (fun p M3 => Fr SNw M2 M3 ∧ EN σ lm (fun r => mdA σ i r ∨ ∃ k, k < p ∧ mdK σ i k r) M3) (sLen σ i + 1) 0 M' (by omega) ⟨q1, q2.cg fun r => ⟨Or.inl, fun g => g.elim id fun g => absurd g ex_0⟩⟩ ?_ ?_
        · intro k' M3 ⟨p1, p2⟩
          unfold m_X0_newWord_l77
          rw [((NwWC w2 ok p1).line hi).1]
          refine pk_lt (sLen σ i) (sLen σ i + 1) (fun _ y ey => ?_) (fun c => absurd c (by omega)) rfl rfl
          rw [ey, nI_1]
          refine ih M3 ⟨p1, p2.cg fun r => ?_⟩
          unfold mdA
          rw [ex_s (P := fun w => used σ w = true ∧ mdW σ w r), mdW_iff]
          exact ⟨fun g => g.elim Or.inl fun g => Or.inr ⟨hu, g⟩, fun g => g.elim Or.inl fun g => Or.inr g.2⟩
        · intro k' p M3 hp ⟨p1, p2⟩ ih2
          have fin : ∀ M5, Fr SNw M2 M5 → EN σ lm (fun r => (mdA σ i r ∨ ∃ k, k < p ∧ mdK σ i k r) ∨ mdK σ i p r) M5 → ∀ y : Int32, y = nI (p + 1) → m_X0_newWord_l77 (fun x2' M' => m_X0_newWord_l45 z Q k x2' M') z (nI i) (5325 + 3 * i) Q k' y M5 := fun M5 f5 n5 y ey => by
            rw [ey]
            refine ih2 M5 ⟨f5, n5.cg fun r => ?_⟩
            rw [ex_s (P := fun k => mdK σ i k r), or_assoc]
          unfold m_X0_newWord_l77
          rw [((NwWC w2 ok p1).line hi).1]
          refine pk_lt (sLen σ i) p (fun c => absurd c (by omega)) (fun _ => ?_) rfl rfl
          refine s_X0_triesLetters (e := 1) (NwWC w2 ok p1) (NwL L2 ok p1) ok hi hp (by omega) p2 fun M4 N4 f4 => ?_
          have F4 := p1.tr f4
          rw [((NwWC w2 ok F4).line hi).1]
          refine pk_eq p (sLen σ i) (fun c y ey => fin M4 F4 (N4.cg fun r => ?_) y (by rw [ey, nI_1])) (fun c => ?_) rfl rfl
          · unfold mdK
            constructor
            · rintro (g | ⟨c', g1, g2⟩)
              · exact Or.inl g
              · exact Or.inr (Or.inl ⟨c', g1, by rw [g2, rowE_1]⟩)
            · rintro (g | ⟨c', g1, g2⟩ | ⟨g1, _⟩ | ⟨g1, _⟩ | ⟨g1, _⟩)
              · exact Or.inl g
              · exact Or.inr ⟨c', g1, by rw [g2, rowE_1]⟩
              · omega
              · omega
              · omega
          · refine s_X0_triesLetters (e := 0) (NwWC w2 ok F4) (NwL L2 ok F4) ok hi (by omega) (by omega) N4 fun M7 N7 f7 => ?_
            have F7 := F4.tr f7
            refine s_X0_triesFewer (NwWC w2 ok F7) (NwL L2 ok F7) ok hi (by omega) N7 fun M9 N9 f9 => ?_
            have F9 := F7.tr f9
            rw [((NwWC w2 ok F9).line hi).1, nI_1]
            refine pk_le (sLen σ i) (p + 1) (fun c2 => fin M9 F9 (N9.cg fun r => ?_)) (fun c2 => ?_) rfl rfl
            · unfold mdK
              constructor
              · rintro (((g | ⟨c', g1, g2⟩) | ⟨c', g1, g2⟩) | g)
                · exact Or.inl g
                · exact Or.inr (Or.inl ⟨c', g1, by rw [g2, rowE_1]⟩)
                · exact Or.inr (Or.inr (Or.inl ⟨by omega, c', g1, by rw [g2, rowE_0]⟩))
                · exact Or.inr (Or.inr (Or.inr (Or.inl ⟨by omega, g⟩)))
              · rintro (g | ⟨c', g1, g2⟩ | ⟨_, c', g1, g2⟩ | ⟨_, g⟩ | ⟨g1, _⟩)
                · exact Or.inl (Or.inl (Or.inl g))
                · exact Or.inl (Or.inl (Or.inr ⟨c', g1, by rw [g2, rowE_1]⟩))
                · exact Or.inl (Or.inr ⟨c', g1, by rw [g2, rowE_0]⟩)
                · exact Or.inr g
                · omega
            · refine s_X0_triesAbout (NwWC w2 ok F9) (NwL L2 ok F9) ok hi (by omega) N9 fun M13 N13 f13 => fin M13 (F9.tr f13) (N13.cg fun r => ?_)
              unfold mdK
              constructor
              · rintro ((((g | ⟨c', g1, g2⟩) | ⟨c', g1, g2⟩) | g) | g)
                · exact Or.inl g
                · exact Or.inr (Or.inl ⟨c', g1, by rw [g2, rowE_1]⟩)
                · exact Or.inr (Or.inr (Or.inl ⟨by omega, c', g1, by rw [g2, rowE_0]⟩))
                · exact Or.inr (Or.inr (Or.inr (Or.inl ⟨by omega, g⟩)))
                · exact Or.inr (Or.inr (Or.inr (Or.inr ⟨by omega, g⟩)))
              · rintro (g | ⟨c', g1, g2⟩ | ⟨_, c', g1, g2⟩ | ⟨_, g⟩ | ⟨_, g⟩)
                · exact Or.inl (Or.inl (Or.inl (Or.inl g)))
                · exact Or.inl (Or.inl (Or.inl (Or.inr ⟨c', g1, by rw [g2, rowE_1]⟩)))
                · exact Or.inl (Or.inl (Or.inr ⟨c', g1, by rw [g2, rowE_0]⟩))
                · exact Or.inl (Or.inr g)
                · exact Or.inr g
      · rw [ey, nI_1]
        refine ih M' ⟨q1, q2.cg fun r => ?_⟩
        unfold mdA
        rw [ex_s (P := fun w => used σ w = true ∧ mdW σ w r)]
        exact ⟨Or.inl, fun g => g.elim id fun g => absurd g.1 (by rw [hu]; decide)⟩
  refine s_X0_in ?_
  rw [show (3 : Int32).toInt = 3 by decide]
  refine bdc (fun e => j22 (Or.inl e)) (fun e => s_X0_in ?_)
  rw [show (8 : Int32).toInt = (8 : Nat) by decide, show (10 : Int32) = nI 10 from rfl]
  refine bdc (fun e2 => j22 (Or.inr ?_)) (fun e2 => h0 fun v => ?_)
  · have := (subN (x := z) (c := 10) (n := 8) (by omega) (by omega)).mp e2; omega
  · rcases v with v | v
    · exact e v
    · exact e2 ((subN (x := z) (c := 10) (n := 8) (by omega) (by omega)).mpr (by omega))
/-! the model's side -/
def SRwT (r k : Nat) : Prop := (r = 5444 ∧ k = 9) ∨ r = 5450
def ET (σ : WS) (lm : Lam) (P : Rw → Prop) (M : WM) : Prop := ∃ s, Bst σ lm P s ∧ NwT σ lm s M
theorem ET.fr {σ : WS} {lm : Lam} {P : Rw → Prop} {M M' : WM} {S : Nat → Nat → Prop} (h : ET σ lm P M) (f : Fr S M M') (hS : ∀ r k, S r k → ¬ ((r = 5444 ∧ (k = 41 ∨ k = 42 ∨ k = 43)) ∨ r = 5471)) : ET σ lm P M' := by
  obtain ⟨s, b, n⟩ := h
  exact ⟨s, b, n.fr f hS⟩
theorem ET.cg {σ : WS} {lm : Lam} {P P' : Rw → Prop} {M : WM} (h : ET σ lm P M) (e : ∀ r, P r ↔ P' r) : ET σ lm P' M := by
  obtain ⟨s, b, n⟩ := h
  exact ⟨s, b.cg e, n⟩
theorem NtW {σ : WS} {M M' : WM} (hW : WT σ M) (f : Fr SNt M M') : WT σ M' := hW.fr f (by unfold SNt PWT; omega)
theorem NtH {σ : WS} {lm : Lam} {M M' : WM} (hH : HpT σ lm M) (f : Fr SNt M M') : HpT σ lm M' := fun w hw hu => by rw [f.I (by unfold SNt; omega)]; exact hH w hw hu
theorem s_X6_tryOne {σ : WS} {lm : Lam} {M : WM} {r : Rw} {P : Rw → Prop} {Q : WM → Prop} (hW : WT σ M) (hH : HpT σ lm M) (ok : wsOK σ) (hR : RowIs M r.1 r.2) (hm : r.1 ≤ 10) (hr : l26 r) (hN : ET σ lm P M) (h : ∀ M', ET σ lm (fun q => P q ∨ q = r) M' → Fr SNt M M' → Q M') : m_X6_triesNew M Q := by
  obtain ⟨s, b, n⟩ := hN
  exact s_X6_triesNew hW hH ok hR hm hr n fun s' M' t n' f' => h M' ⟨s', b.add hr t, n'⟩ f'
theorem s_X6_putsIn {σ : WS} {M : WM} {w p c : Nat} {Q : WM → Prop} (hW : WT σ M) (ok : wsOK σ) (hw : w < sN σ) (hp : p ≤ sLen σ w) (h : ∀ M', RowIs M' (sLen σ w + 1) (putF σ w p c).2 → Fr SRwT M M' → Q M') : m_X6_putsIn (nI w) (nI p) (nI c) M Q := by
  have hs := ok.1
  obtain ⟨a1, a2, a3, -⟩ := ok.2.1 w hw
  refine ⟨vin (by omega), fun M2 e2 => ?_⟩
  rw [nI_clamp (by omega), (hW.2.1 w hw).1, nI_1] at e2
  have f2 : Fr SRwT M M2 := by rw [e2]; exact Fr.rf.PI (Or.inl ⟨rfl, rfl⟩)
  refine pk_loop (fun k i M' => m_X6_putsIn_l15 (nI w) (nI p) (nI c) Q k (nI i) M') (fun i M' => Fr SRwT M M' ∧ wI M' 5444 9 = nI (sLen σ w + 1) ∧ ∀ j, j < i → wI M' 5450 j = nI ((putF σ w p c).2 j)) (sLen σ w + 1) 0 M2 (by omega) ⟨f2, by rw [e2, wI_s], fun j hj => absurd hj (by omega)⟩ ?_ ?_
  · intro k M' ⟨q1, q2, q3⟩
    unfold m_X6_putsIn_l15
    rw [q2]
    exact ⟨fun _ => h M' ⟨q2, q3⟩ q1, fun z => absurd (Int32.le_refl _) z⟩
  · intro k i M' hi ⟨q1, q2, q3⟩ ih
    have w' : WT σ M' := hW.fr q1 (by unfold SRwT PWT; omega)
    have put : ∀ v, v = (putF σ w p c).2 i → ∀ M9, M9 = wPI M' 5450 i (nI v) → ∀ y : Int32, y = nI i + 1 → m_X6_putsIn_l15 (nI w) (nI p) (nI c) Q k y M9 := fun v ev M9 e9 y ey => by
      rw [ey, nI_1]
      refine ih M9 ⟨by rw [e9]; exact q1.PI (Or.inr rfl), by rw [e9, wI_n _ _ (by omega)]; exact q2, fun j hj => ?_⟩
      rw [e9, wI_PI]
      by_cases e : j = i
      · rw [if_pos ⟨rfl, e⟩, ev, e]
      · rw [if_neg (fun z => e z.2)]; exact q3 j (by omega)
    unfold m_X6_putsIn_l15
    rw [q2, nI_clamp (show i < 2 ^ 31 by omega)]
    refine ⟨fun z => absurd z (nI_ge hi (by omega)), fun _ => pk_le p i (fun c1 => pk_eq i p (fun c2 => ⟨vin (by omega), put c ?_⟩) (fun c2 => ?_) rfl rfl) (fun c1 => s_X6_letter w' ok hw (by omega) ⟨vin (by omega), put _ ?_⟩) rfl rfl⟩
    · show c = if i = p then c else _
      rw [if_pos c2]
    · rw [show (1 : Int32) = nI 1 from rfl, pk_sub (by omega)]
      refine s_X6_letter w' ok hw (by omega) ⟨vin (by omega), put _ ?_⟩
      show sLet σ w (i - 1) = if i = p then c else if i < p then sLet σ w i else sLet σ w (i - 1)
      rw [if_neg c2, if_neg (by omega)]
    · show sLet σ w i = if i = p then c else if i < p then sLet σ w i else sLet σ w (i - 1)
      rw [if_neg (by omega), if_pos c1]
theorem s_X6_leavesOut {σ : WS} {M : WM} {w p : Nat} {Q : WM → Prop} (hW : WT σ M) (ok : wsOK σ) (hw : w < sN σ) (hp : p < sLen σ w) (h : ∀ M', RowIs M' (sLen σ w - 1) (remF σ w p).2 → Fr SRwT M M' → Q M') : m_X6_leavesOut (nI w) (nI p) M Q := by
  have hs := ok.1
  obtain ⟨a1, a2, a3, -⟩ := ok.2.1 w hw
  refine ⟨vin (by omega), fun M2 e2 => ?_⟩
  rw [nI_clamp (by omega), (hW.2.1 w hw).1, show (1 : Int32) = nI 1 from rfl, pk_sub (by omega)] at e2
  have f2 : Fr SRwT M M2 := by rw [e2]; exact Fr.rf.PI (Or.inl ⟨rfl, rfl⟩)
  refine pk_loop (fun k i M' => m_X6_leavesOut_l14 (nI w) (nI p) Q k (nI i) M') (fun i M' => Fr SRwT M M' ∧ wI M' 5444 9 = nI (sLen σ w - 1) ∧ ∀ j, j < i → wI M' 5450 j = nI ((remF σ w p).2 j)) (sLen σ w - 1) 0 M2 (by omega) ⟨f2, by rw [e2, wI_s], fun j hj => absurd hj (by omega)⟩ ?_ ?_
  · intro k M' ⟨q1, q2, q3⟩
    unfold m_X6_leavesOut_l14
    rw [q2]
    exact ⟨fun _ => h M' ⟨q2, q3⟩ q1, fun z => absurd (Int32.le_refl _) z⟩
  · intro k i M' hi ⟨q1, q2, q3⟩ ih
    have w' : WT σ M' := hW.fr q1 (by unfold SRwT PWT; omega)
    have j41 : ∀ q, q = (if i < p then i else i + 1) → m_X6_leavesOut_j41 (fun x3' M' => m_X6_leavesOut_l14 (nI w) (nI p) Q k x3' M') (nI w) (nI p) (nI i) (nI q) (nI w) (nI i) Q M' := fun q hq => by
      have hq8 : q < sLen σ w := by rw [hq]; split <;> omega
      refine s_X6_letter w' ok hw hq8 ⟨vin (by omega), fun M9 e9 y ey => ?_⟩
      rw [nI_clamp (show i < 2 ^ 31 by omega)] at e9
      rw [ey, nI_1]
      refine ih M9 ⟨by rw [e9]; exact q1.PI (Or.inr rfl), by rw [e9, wI_n _ _ (by omega)]; exact q2, fun j hj => ?_⟩
      rw [e9, wI_PI]
      by_cases e : j = i
      · rw [if_pos ⟨rfl, e⟩, e]
        show nI (sLet σ w q) = nI (sLet σ w (if i < p then i else i + 1))
        rw [hq]
      · rw [if_neg (fun z => e z.2)]; exact q3 j (by omega)
    unfold m_X6_leavesOut_l14
    rw [q2]
    refine ⟨fun z => absurd z (nI_ge hi (by omega)), fun _ => pk_le p i (fun c => ?_) (fun c => ?_) rfl rfl⟩
    · rw [nI_1]; exact j41 (i + 1) (if_neg (by omega)).symm
    · exact j41 i (if_pos c).symm
theorem RowIs.pt {M M' : WM} {m k : Nat} {f : Nat → Nat} {v : Nat} (h : RowIs M m f) (e : M' = wPI M 5450 k (nI v)) (g : Nat → Nat) (hg : ∀ j, j < m → g j = if j = k then v else f j) : RowIs M' m g := by
  refine ⟨by rw [e, wI_n _ _ (by omega)]; exact h.1, fun j hj => ?_⟩
  rw [e, wI_PI, hg j hj]
  by_cases c : j = k
  · rw [if_pos ⟨rfl, c⟩, if_pos c]
  · rw [if_neg (fun z => c z.2), if_neg c]; exact h.2 j hj
theorem sRw {M M' : WM} (f : Fr SRwT M M') : Fr SNt M M' := f.mono fun r k q => by unfold SRwT at q; unfold SNt; omega
theorem sLr {M M' : WM} (f : Fr SLR M M') : Fr SRwT M M' := f.mono fun r k q => by unfold SLR at q; unfold SRwT; omega
def mdC (σ : WS) (w p c : Nat) (r : Rw) : Prop := (∃ c', c' < c ∧ r = putF σ w p c') ∨ (p < sLen σ w ∧ ∃ c', c' < c ∧ r = repF σ w p c')
theorem s_X6_triesAbout {σ : WS} {lm : Lam} {M : WM} {w : Nat} {P : Rw → Prop} {Q : WM → Prop} (hW : WT σ M) (hH : HpT σ lm M) (ok : wsOK σ) (hw : w < sN σ) (hN : ET σ lm P M) (h : ∀ M', ET σ lm (fun r => P r ∨ mdW σ w r) M' → Fr SNt M M' → Q M') : m_X6_triesAbout (nI w) M Q := by
  have hs := ok.1
  obtain ⟨a1, a2, a3, -⟩ := ok.2.1 w hw
  have len : ∀ {M'}, Fr SNt M M' → wI M' 5445 w = nI (sLen σ w) := fun f => ((NtW hW f).2.1 w hw).1
  refine pk_loop (fun k p M' => m_X6_triesAbout_l2 (nI w) Q k (nI p) M') (fun p M' => Fr SNt M M' ∧ ET σ lm (fun r => P r ∨ ∃ k, k < p ∧ mdK σ w k r) M') (sLen σ w + 1) 0 M (by omega) ⟨Fr.rf, hN.cg fun r => ⟨Or.inl, fun g => g.elim id fun g => absurd g ex_0⟩⟩ ?_ ?_
  · intro k M' ⟨q1, q2⟩
    unfold m_X6_triesAbout_l2
    rw [nI_clamp (show w < 2 ^ 31 by omega), len q1]
    refine ⟨vin (by omega), pk_lt (sLen σ w) (sLen σ w + 1) (fun _ => h M' (q2.cg fun r => ?_) q1) (fun c => absurd c (by omega)) rfl rfl⟩
    rw [mdW_iff]
  · intro k p M' hp ⟨q1, q2⟩ ih
    unfold m_X6_triesAbout_l2
    rw [nI_clamp (show w < 2 ^ 31 by omega), len q1]
    refine ⟨vin (by omega), pk_lt (sLen σ w) p (fun c => absurd c (by omega)) (fun _ => ?_) rfl rfl⟩
    have fin : ∀ M5, Fr SNt M M5 → ET σ lm (fun r => (P r ∨ ∃ k, k < p ∧ mdK σ w k r) ∨ mdK σ w p r) M5 → ∀ y : Int32, y = nI (p + 1) → m_X6_triesAbout_l2 (nI w) Q k y M5 := fun M5 f5 n5 y ey => by
      rw [ey]
      refine ih M5 ⟨f5, n5.cg fun r => ?_⟩
      rw [ex_s (P := fun k => mdK σ w k r), or_assoc]
    refine pk_loop (fun k' c M3 => m_X6_triesAbout_l14 (fun x2' M' => m_X6_triesAbout_l2 (nI w) Q k x2' M') (nI w) (nI p) Q k' (nI c) M3) (fun c M3 => Fr SNt M M3 ∧ ET σ lm (fun r => (P r ∨ ∃ k, k < p ∧ mdK σ w k r) ∨ mdC σ w p c r) M3) 26 0 M' (by omega) ⟨q1, q2.cg fun r => ⟨Or.inl, fun g => g.elim id fun g => g.elim (fun g => absurd g ex_0) (fun g => absurd g.2 ex_0)⟩⟩ ?_ ?_
    · intro k' M3 ⟨p1, p2⟩
      unfold m_X6_triesAbout_l14
      rw [nI_clamp (show w < 2 ^ 31 by omega), len p1]
      refine ⟨fun _ => ⟨vin (by omega), pk_eq p (sLen σ w) (fun c y ey => fin M3 p1 (p2.cg fun r => ?_) y (by rw [ey, nI_1])) (fun c => ?_) rfl rfl⟩, fun z => absurd (Int32.le_refl _) z⟩
      · unfold mdK mdC
        constructor
        · rintro (g | ⟨c', g1, g2⟩ | ⟨g1, _⟩)
          · exact Or.inl g
          · exact Or.inr (Or.inl ⟨c', g1, g2⟩)
          · omega
        · rintro (g | ⟨c', g1, g2⟩ | ⟨g1, _⟩ | ⟨g1, _⟩ | ⟨g1, _⟩)
          · exact Or.inl g
          · exact Or.inr (Or.inl ⟨c', g1, g2⟩)
          · omega
          · omega
          · omega
      · refine s_X6_leavesOut (NtW hW p1) ok hw (by omega) fun M5 R5 f5 => ?_
        have F5 := p1.tr (sRw f5)
        refine s_X6_tryOne (r := remF σ w p) (NtW hW F5) (NtH hH F5) ok R5 (by show sLen σ w - 1 ≤ 10; omega) (remF_l ok hw) (p2.fr f5 (by unfold SRwT; omega)) fun M7 N7 f7 => ⟨vin (by omega), ?_⟩
        have F7 := F5.tr f7
        rw [len F7, nI_1]
        refine pk_eq (p + 1) (sLen σ w) (fun c2 => fin M7 F7 (N7.cg fun r => ?_)) (fun c2 => ?_) rfl rfl
        · unfold mdK mdC
          constructor
          · rintro ((g | ⟨c', g1, g2⟩ | ⟨g1, c', g3, g4⟩) | g)
            · exact Or.inl g
            · exact Or.inr (Or.inl ⟨c', g1, g2⟩)
            · exact Or.inr (Or.inr (Or.inl ⟨g1, c', g3, g4⟩))
            · exact Or.inr (Or.inr (Or.inr (Or.inl ⟨by omega, g⟩)))
          · rintro (g | ⟨c', g1, g2⟩ | ⟨g1, c', g3, g4⟩ | ⟨_, g⟩ | ⟨g1, _⟩)
            · exact Or.inl (Or.inl g)
            · exact Or.inl (Or.inr (Or.inl ⟨c', g1, g2⟩))
            · exact Or.inl (Or.inr (Or.inr ⟨g1, c', g3, g4⟩))
            · exact Or.inr g
            · omega
        · refine s_X6_laysRow (NtW hW F7) ok hw fun M11 R11 f11 => ?_
          have F11 := F7.tr (sRw (sLr f11))
          refine s_X6_letter (NtW hW F11) ok hw (by omega) ⟨vin (by omega), fun M14 e14 => ?_⟩
          rw [nI_clamp (show p < 2 ^ 31 by omega)] at e14
          have f14 : Fr SRwT M11 M14 := by rw [e14]; exact Fr.rf.PI (Or.inr rfl)
          refine s_X6_letter (NtW hW (F11.tr (sRw f14))) ok hw (by omega) ⟨vin (by omega), fun M17 e17 => ?_⟩
          rw [nI_clamp (show p + 1 < 2 ^ 31 by omega)] at e17
          have f17 : Fr SRwT M11 M17 := by rw [e17]; exact f14.PI (Or.inr rfl)
          have F17 := F11.tr (sRw f17)
          have R17 : RowIs M17 (swF σ w p).1 (swF σ w p).2 := (R11.pt e14 _ (fun j _ => rfl)).pt e17 _ (fun j _ => rfl)
          refine s_X6_tryOne (r := swF σ w p) (NtW hW F17) (NtH hH F17) ok R17 (by show sLen σ w ≤ 10; omega) (swF_l ok hw (by omega)) ((N7.fr (sLr f11) (by unfold SRwT; omega)).fr f17 (by unfold SRwT; omega)) fun M19 N19 f19 => fin M19 (F17.tr f19) (N19.cg fun r => ?_)
          unfold mdK mdC
          constructor
          · rintro (((g | ⟨c', g1, g2⟩ | ⟨g1, c', g3, g4⟩) | g) | g)
            · exact Or.inl g
            · exact Or.inr (Or.inl ⟨c', g1, g2⟩)
            · exact Or.inr (Or.inr (Or.inl ⟨g1, c', g3, g4⟩))
            · exact Or.inr (Or.inr (Or.inr (Or.inl ⟨by omega, g⟩)))
            · exact Or.inr (Or.inr (Or.inr (Or.inr ⟨by omega, g⟩)))
          · rintro (g | ⟨c', g1, g2⟩ | ⟨g1, c', g3, g4⟩ | ⟨_, g⟩ | ⟨_, g⟩)
            · exact Or.inl (Or.inl (Or.inl g))
            · exact Or.inl (Or.inl (Or.inr (Or.inl ⟨c', g1, g2⟩)))
            · exact Or.inl (Or.inl (Or.inr (Or.inr ⟨g1, c', g3, g4⟩)))
            · exact Or.inl (Or.inr g)
            · exact Or.inr g
    · intro k' c M3 hc ⟨p1, p2⟩ ih2
      unfold m_X6_triesAbout_l14
      rw [nI_clamp (show w < 2 ^ 31 by omega)]
      refine ⟨fun z => absurd z (nI_ge (b := 26) hc (by omega)), fun _ => s_X6_putsIn (NtW hW p1) ok hw (by omega) fun M24 R24 f24 => ?_⟩
      have F24 := p1.tr (sRw f24)
      refine s_X6_tryOne (r := putF σ w p c) (NtW hW F24) (NtH hH F24) ok R24 (by show sLen σ w + 1 ≤ 10; omega) (putF_l ok hw hc (by omega)) (p2.fr f24 (by unfold SRwT; omega)) fun M26 N26 f26 => ⟨vin (by omega), ?_⟩
      have F26 := F24.tr f26
      rw [len F26]
      refine pk_eq p (sLen σ w) (fun c2 y ey => ?_) (fun c2 => ?_) rfl rfl
      · rw [ey, nI_1]
        refine ih2 M26 ⟨F26, N26.cg fun r => ?_⟩
        unfold mdC
        rw [ex_s (P := fun c' => r = putF σ w p c')]
        constructor
        · rintro ((g | g | ⟨g1, _⟩) | g)
          · exact Or.inl g
          · exact Or.inr (Or.inl (Or.inl g))
          · omega
          · exact Or.inr (Or.inl (Or.inr g))
        · rintro (g | (g | g) | ⟨g1, _⟩)
          · exact Or.inl (Or.inl g)
          · exact Or.inl (Or.inr (Or.inl g))
          · exact Or.inr g
          · omega
      · refine s_X6_laysRow (NtW hW F26) ok hw fun M30 R30 f30 => ⟨vin (by omega), fun M32 e32 => ?_⟩
        have F30 := F26.tr (sRw (sLr f30))
        rw [nI_clamp (show p < 2 ^ 31 by omega)] at e32
        have f32 : Fr SRwT M30 M32 := by rw [e32]; exact Fr.rf.PI (Or.inr rfl)
        have F32 := F30.tr (sRw f32)
        have R32 : RowIs M32 (repF σ w p c).1 (repF σ w p c).2 := R30.pt e32 _ (fun j _ => rfl)
        refine s_X6_tryOne (r := repF σ w p c) (NtW hW F32) (NtH hH F32) ok R32 (by show sLen σ w ≤ 10; omega) (repF_l ok hw hc) ((N26.fr (sLr f30) (by unfold SRwT; omega)).fr f32 (by unfold SRwT; omega)) fun M34 N34 f34 y ey => ?_
        rw [ey, nI_1]
        refine ih2 M34 ⟨F32.tr f34, N34.cg fun r => ?_⟩
        unfold mdC
        rw [ex_s (P := fun c' => r = putF σ w p c'), ex_s (P := fun c' => r = repF σ w p c')]
        constructor
        · rintro (((g | g | ⟨g1, g⟩) | g) | g)
          · exact Or.inl g
          · exact Or.inr (Or.inl (Or.inl g))
          · exact Or.inr (Or.inr ⟨g1, Or.inl g⟩)
          · exact Or.inr (Or.inl (Or.inr g))
          · exact Or.inr (Or.inr ⟨by omega, Or.inr g⟩)
        · rintro (g | (g | g) | ⟨g1, g | g⟩)
          · exact Or.inl (Or.inl (Or.inl g))
          · exact Or.inl (Or.inl (Or.inr (Or.inl g)))
          · exact Or.inl (Or.inr g)
          · exact Or.inl (Or.inl (Or.inr (Or.inr ⟨g1, g⟩)))
          · exact Or.inr g
def S5472 (r k : Nat) : Prop := r = 5472 ∨ (r = 5444 ∧ (k = 41 ∨ k = 42 ∨ k = 43))
def SNTn (r k : Nat) : Prop := SWW r k ∨ S5472 r k ∨ SNt r k
theorem s_X6_newWord {σ : WS} {lm : Lam} {M : WM} {z : Int32} {Q : Int32 → WM → Prop} (hW : WT σ M) (ok : wsOK σ) (hl : LawT lm M) (lo : lamOK lm) (h0 : ¬ VNw z → Q (-1) M) (h1 : VNw z → ∀ s M', Bst σ lm (mdA σ (sN σ)) s → Fr SNTn M M' → Q (nwV σ lm s z) M') : m_X6_newWord z M Q := by
  have hs := ok.1
  have j22 : VNw z → m_X6_newWord_j22 z Q M := fun hv => by
    refine s_X6_laysWays hW ok hl lo fun M2 S2 A2 f2 M3 e3 M4 e4 M5 e5 => ?_
    have hh1 := h1 hv
    have f5 : Fr S5472 M2 M5 := by rw [e5, e4, e3]; exact ((Fr.rf.PI (Or.inr ⟨rfl, by omega⟩)).PI (Or.inr ⟨rfl, by omega⟩)).PI (Or.inr ⟨rfl, by omega⟩)
    have w2 : WT σ M2 := hW.fr f2 (by unfold SWW STA SWyT PWT; omega)
    refine pk_loop (fun k i M' => m_X6_newWord_l44 z Q k (nI i) M') (fun i M' => Fr S5472 M2 M' ∧ (wI M' 5444 41 = 0 ∧ wI M' 5444 42 = 0) ∧ ∀ w, w < i → used σ w = true → wI M' 5472 w = nI (hpO σ lm w)) (sN σ) 0 M5 (by omega) ⟨f5, ⟨by rw [e5, wI_n _ _ (by omega), e4, wI_n _ _ (by omega), e3, wI_s], by rw [e5, wI_n _ _ (by omega), e4, wI_s]⟩, fun w h => absurd h (by omega)⟩ ?_ ?_
    · intro k M6 ⟨q1, q2, q3⟩
      have w6 : WT σ M6 := w2.fr q1 (by unfold S5472 PWT; omega)
      unfold m_X6_newWord_l44
      rw [w6.1]
      refine ⟨fun _ => ?_, fun z => absurd (Int32.le_refl _) z⟩
      have F6 : Fr SNTn M M6 := (f2.mono fun r k q => Or.inl q).tr (q1.mono fun r k q => Or.inr (Or.inl q))
      refine pk_loop (fun k i M' => m_X6_newWord_l79 z Q k (nI i) M') (fun i M' => Fr SNt M6 M' ∧ ET σ lm (mdA σ i) M') (sN σ) 0 M6 (by omega) ⟨Fr.rf, none, fun r hr => absurd hr ex_0, q2⟩ ?_ ?_
      · intro k M' ⟨p1, s, p2, p3⟩
        have hh2 := hh1 s M' p2 (F6.tr (p1.mono fun r k q => Or.inr (Or.inr q)))
        unfold m_X6_newWord_l79
        rw [(NtW w6 p1).1]
        refine ⟨fun _ => ?_, fun z => absurd (Int32.le_refl _) z⟩
        cases s with
        | none => rw [p3.1]; exact ⟨fun _ => hh2, fun z => absurd rfl z⟩
        | some r =>
          obtain ⟨n1, n2, n3, n4, n5, n6, n7⟩ := p3
          have b1 := hh_le (lm := lm) ok r
          have hh2 : Q (if z = 0 then nI (hh σ lm r) else if z = 1 then nI (nn σ r) else if z = 2 then nI r.1 else if z.toInt - 10 < r.1 then nI (r.2 (z.toInt - 10).toNat) else -1) M' := hh2
          rw [n1]
          refine pk_eq (hh σ lm r) 0 (fun c => absurd c n7) (fun _ => ⟨fun c => ?_, fun c => ⟨fun c1 => ?_, fun c1 => ⟨fun c2 => ?_, fun c2 => ?_⟩⟩⟩) rfl rfl
          · rw [if_pos c] at hh2; exact hh2
          · rw [if_neg c, if_pos c1] at hh2; rw [n2]; exact hh2
          · rw [if_neg c, if_neg c1, if_pos c2] at hh2; rw [n3]; exact hh2
          · rw [if_neg c, if_neg c1, if_neg c2] at hh2
            have hz : 10 ≤ z.toInt ∧ z.toInt < 18 := by
              rcases hv with v | v
              · exfalso
                have : z.toInt = 0 ∨ z.toInt = 1 ∨ z.toInt = 2 := by omega
                rcases this with e | e | e
                · exact c (by rw [i_eq]; exact e)
                · exact c1 (by rw [i_eq]; exact e)
                · exact c2 (by rw [i_eq]; exact e)
              · exact v
            obtain ⟨d, hd, rfl, ed⟩ := nI_ex (x := z) (by omega)
            rw [show (10 : Int32) = nI 10 from rfl, pk_sub (by omega), n3]
            rw [ed] at hh2
            refine pk_le r.1 (d - 10) (fun q => ?_) (fun q => ⟨vin (by omega), ?_⟩) rfl rfl
            · rw [if_neg (by omega)] at hh2; exact hh2
            · rw [if_pos (by omega), show ((d : Int) - 10).toNat = d - 10 by omega] at hh2
              rw [nI_clamp (by omega), n4 _ q]; exact hh2
      · intro k i M' hi ⟨p1, p2⟩ ih
        have w7 := NtW w6 p1
        have H7 : HpT σ lm M' := NtH (fun w hw hu => q3 w hw hu) p1
        unfold m_X6_newWord_l79
        rw [w7.1]
        refine ⟨fun z => absurd z (nI_ge hi (by omega)), fun _ => s_X6_isUsed w7 ok hi (bcs (fun hu => s_X6_triesAbout w7 H7 ok hi p2 fun M8 N8 f8 y ey => ?_) (fun hu y ey => ?_))⟩
        · rw [ey, nI_1]
          refine ih M8 ⟨p1.tr f8, N8.cg fun r => ?_⟩
          unfold mdA
          rw [ex_s (P := fun w => used σ w = true ∧ mdW σ w r)]
          exact ⟨fun g => g.elim Or.inl fun g => Or.inr ⟨hu, g⟩, fun g => g.elim Or.inl fun g => Or.inr g.2⟩
        · rw [ey, nI_1]
          refine ih M' ⟨p1, p2.cg fun r => ?_⟩
          unfold mdA
          rw [ex_s (P := fun w => used σ w = true ∧ mdW σ w r)]
          exact ⟨Or.inl, fun g => g.elim id fun g => absurd g.1 (by rw [hu]; decide)⟩
    · intro k i M' hi ⟨q1, q2, q3⟩ ih
      have w6 : WT σ M' := w2.fr q1 (by unfold S5472 PWT; omega)
      have A6 : WaT (sN σ) (dEnd σ lm 64) M' := fun a b ha hb => by rw [q1.I (by unfold S5472; omega)]; exact A2 a b ha hb
      unfold m_X6_newWord_l44
      rw [w6.1, nI_clamp (show i < 2 ^ 31 by omega)]
      refine ⟨fun z => absurd z (nI_ge hi (by omega)), fun _ => s_X6_isUsed w6 ok hi (bcs (fun hu => s_X6_heapOf A6 ok lo hi hu ⟨vin (by omega), fun M7 e7 y ey => ?_⟩) (fun hu y ey => ?_))⟩
      · rw [ey, nI_1]
        refine ih M7 ⟨by rw [e7]; exact q1.PI (Or.inl rfl), ⟨by rw [e7, wI_n _ _ (by omega)]; exact q2.1, by rw [e7, wI_n _ _ (by omega)]; exact q2.2⟩, fun w hw hu2 => ?_⟩
        rw [e7, wI_PI]
        by_cases e : w = i
        · rw [if_pos ⟨rfl, e⟩, e]
        · rw [if_neg (fun z => e z.2)]; exact q3 w (by omega) hu2
      · rw [ey, nI_1]
        refine ih M' ⟨q1, q2, fun w hw hu2 => ?_⟩
        by_cases e : w = i
        · rw [e, hu] at hu2; cases hu2
        · exact q3 w (by omega) hu2
  refine s_X6_in ?_
  rw [show (0 : Int32).toInt = 0 by decide, show (2 : Int32).toInt = 2 by decide]
  refine bdc (fun e => j22 (Or.inl ⟨e.1, by omega⟩)) (fun e => s_X6_in ?_)
  rw [show (10 : Int32).toInt = 10 by decide, show (17 : Int32).toInt = 17 by decide]
  refine bdc (fun e2 => j22 (Or.inr ⟨e2.1, by omega⟩)) (fun e2 => h0 fun v => ?_)
  rcases v with v | v
  · exact e ⟨v.1, by omega⟩
  · exact e2 ⟨v.1, by omega⟩
