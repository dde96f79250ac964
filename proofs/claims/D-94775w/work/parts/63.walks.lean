/-! walks, counted -/
def sst (σ : WS) (lm : Lam) (w v : Nat) : Bool := (cst σ lm v w).isSome
def wkc (σ : WS) (lm : Lam) (a : Nat) : Nat → Nat → Int64
  | 0, w => if w = a ∧ used σ a = true then 1 else 0
  | k + 1, w => smJ (sst σ lm w) (wkc σ lm a k) (sN σ)
theorem wkc_0 {σ : WS} {lm : Lam} {a : Nat} (hu : used σ a = false) : ∀ k w, wkc σ lm a k w = 0
  | 0, w => if_neg fun z => by rw [hu] at z; cases z.2
  | k + 1, w => by
    have : ∀ n, smJ (sst σ lm w) (wkc σ lm a k) n = 0 := fun n => by
      induction n with
      | zero => rfl
      | succ n ih =>
        rw [smJ, ih, wkc_0 hu k n]
        split <;> rfl
    exact this _
def VWk (σ : WS) (x y z : Int32) : Prop := VF σ x y ∧ 0 ≤ z.toInt ∧ z.toInt ≤ 10
def wkV (σ : WS) (lm : Lam) (a b n : Nat) : Int64 := if (used σ a && used σ b) = true then wkc σ lm a n b else 0
def S182 (r _k : Nat) : Prop := r = 182 ∨ r = 183
def SWkC (r k : Nat) : Prop := SLay r k ∨ S182 r k
theorem s_X0_walks {σ : WS} {lm : Lam} {M : WM} {x y z : Int32} {Q : Int64 → WM → Prop} (hW : WC σ M) (ok : wsOK σ) (hl : LawC lm M) (lo : lamOK lm) (hC : wI M 0 8 = wI M 0 7 → Laid σ lm M) (h0 : ¬ VWk σ x y z → Q (-1) M) (h1 : ∀ a b n, x = nI a → y = nI b → z = nI n → VWk σ x y z → ∀ M', Laid σ lm M' → Fr SWkC M M' → Q (wkV σ lm a b n) M') : m_X0_walks x y z M Q := by
  have hs := ok.1
  refine s_X0_areTwo hW ok (fun e => ie0 (h0 fun q => e q.1)) (fun a b ha hb ex ey hV => ie1 (s_X0_within (bdc (fun e => ?_) (fun e => h0 fun q => e q.2))))
  have e : 0 ≤ z.toInt ∧ z.toInt ≤ 10 := e
  obtain ⟨n, hn, ez, en⟩ := nI_ex e.1
  have hh := h1 a b n ex ey ez ⟨hV, e⟩
  subst ex ey ez
  refine s_X0_lays hW ok hl lo hC fun M6 L6 _ f6 => ?_
  have w6 : WC σ M6 := hW.fr ok f6 (by unfold SLay PWC; omega)
  have fx : ∀ {M'}, Fr S182 M6 M' → WC σ M' ∧ Laid σ lm M' := fun f => ⟨w6.fr ok f (by unfold S182 PWC; omega), L6.fr ok f (by unfold S182; omega)⟩
  refine pk_loop (fun k i M' => m_X0_walks_l30 (nI a) (nI b) (nI n) Q k (nI i) M') (fun i M' => Fr S182 M6 M' ∧ ∀ w, w < i → wJ M' 182 w = wkc σ lm a 0 w) (sN σ) 0 M6 (by omega) ⟨Fr.rf, fun w h => absurd h (by omega)⟩ ?_ ?_
  · intro k M' ⟨q1, q2⟩
    unfold m_X0_walks_l30
    rw [(fx q1).1.1]
    refine ⟨fun _ => ?_, fun z => absurd (Int32.le_refl _) z⟩
    refine pk_loop (fun k' i M2 => m_X0_walks_l76 (nI b) (nI n) Q k' (nI i) M2) (fun i M2 => Fr S182 M6 M2 ∧ ∀ w, w < sN σ → wJ M2 (182 + i % 2) w = wkc σ lm a i w) n 0 M' (by omega) ⟨q1, q2⟩ ?_ ?_
    · intro k' M2 ⟨p1, p2⟩
      have hh := hh M2 (fx p1).2 ((f6.mono fun r k q => Or.inl q).tr (p1.mono fun r k q => Or.inr q))
      unfold wkV at hh
      have e2 : nI n - nI n / (2 : Int32) * (2 : Int32) = nI (n % 2) := by rw [show (2 : Int32) = nI 2 from rfl, pk_rem (by omega) (by omega) (by omega)]
      refine ⟨fun _ => s_X0_isUsed (fx p1).1 ok hb (bcs (fun u => ?_) (fun u => ?_)), fun z => absurd (Int32.le_refl _) z⟩
      · rw [e2, nI_clamp (show n % 2 < 2 ^ 31 by omega), nI_clamp (show b < 2 ^ 31 by omega), p2 b hb]
        refine ⟨vin (by omega), vin (by omega), ?_⟩
        cases ua : used σ a with
        | true => rw [ua, u] at hh; exact hh
        | false => rw [ua] at hh; rw [wkc_0 ua]; exact hh
      · rw [u, Bool.and_false] at hh; exact hh
    · intro k' i M2 hi ⟨p1, p2⟩ ih
      have e2 : nI i - nI i / (2 : Int32) * (2 : Int32) = nI (i % 2) := by rw [show (2 : Int32) = nI 2 from rfl, pk_rem (by omega) (by omega) (by omega)]
      unfold m_X0_walks_l76
      rw [e2, show (1 : Int32) - nI (i % 2) = nI (1 - i % 2) from pk_sub (a := 1) (by omega), nI_clamp (show i % 2 < 2 ^ 31 by omega), nI_clamp (show 1 - i % 2 < 2 ^ 31 by omega)]
      refine ⟨fun z => absurd z (nI_ge hi (by omega)), fun _ => ⟨vin (by omega), vin (by omega), ?_⟩⟩
      have hd : 182 + i % 2 ≠ 182 + (1 - i % 2) := by omega
      have hd2 : 182 + (1 - i % 2) = 182 + (i + 1) % 2 := by omega
      generalize hA : 182 + i % 2 = A at hd p2
      generalize hB : 182 + (1 - i % 2) = B at hd hd2
      have hBr : B = 182 ∨ B = 183 := by omega
      refine pk_loop (fun k2 j M3 => m_X0_walks_l109 (fun x4' M' => m_X0_walks_l76 (nI b) (nI n) Q k' x4' M') (nI b) (nI n) (nI i) A B Q k2 (nI j) M3) (fun j M3 => Fr S182 M6 M3 ∧ (∀ w, w < sN σ → wJ M3 A w = wkc σ lm a i w) ∧ ∀ w, w < j → wJ M3 B w = 0) (sN σ) 0 M2 (by omega) ⟨p1, p2, fun w h => absurd h (by omega)⟩ ?_ ?_
      · intro k2 M3 ⟨r1, r2, r3⟩
        unfold m_X0_walks_l109
        rw [(fx r1).1.1]
        refine ⟨fun _ => ?_, fun z => absurd (Int32.le_refl _) z⟩
        refine pk_loop (fun k3 v M4 => m_X0_walks_l133 (fun x4' M' => m_X0_walks_l76 (nI b) (nI n) Q k' x4' M') (nI b) (nI n) (nI i) A B Q k3 (nI v) M4) (fun v M4 => Fr S182 M6 M4 ∧ (∀ w, w < sN σ → wJ M4 A w = wkc σ lm a i w) ∧ ∀ w, w < sN σ → wJ M4 B w = smJ (sst σ lm w) (wkc σ lm a i) v) (sN σ) 0 M3 (by omega) ⟨r1, r2, r3⟩ ?_ ?_
        · intro k3 M4 ⟨t1, t2, t3⟩
          unfold m_X0_walks_l133
          rw [(fx t1).1.1]
          refine ⟨fun _ y ey => ?_, fun z => absurd (Int32.le_refl _) z⟩
          rw [ey, nI_1]
          exact ih M4 ⟨t1, fun w hw => by rw [← hd2]; exact t3 w hw⟩
        · intro k3 v M4 hv ⟨t1, t2, t3⟩ ih2
          unfold m_X0_walks_l133
          rw [(fx t1).1.1]
          refine ⟨fun z => absurd z (nI_ge hv (by omega)), fun _ => ?_⟩
          refine pk_loop (fun k4 w M5 => m_X0_walks_l145 (fun x4' M' => m_X0_walks_l76 (nI b) (nI n) Q k' x4' M') (fun x7' M' => m_X0_walks_l133 (fun x4' M' => m_X0_walks_l76 (nI b) (nI n) Q k' x4' M') (nI b) (nI n) (nI i) A B Q k3 x7' M') (nI b) (nI n) (nI i) A B (nI v) Q k4 (nI w) M5) (fun w M5 => Fr S182 M6 M5 ∧ (∀ w, w < sN σ → wJ M5 A w = wkc σ lm a i w) ∧ (∀ w', w' < w → wJ M5 B w' = smJ (sst σ lm w') (wkc σ lm a i) (v + 1)) ∧ ∀ w', w ≤ w' → w' < sN σ → wJ M5 B w' = smJ (sst σ lm w') (wkc σ lm a i) v) (sN σ) 0 M4 (by omega) ⟨t1, t2, fun w h => absurd h (by omega), fun w _ h => t3 w h⟩ ?_ ?_
          · intro k4 M5 ⟨s1, s2, s3, s4⟩
            unfold m_X0_walks_l145
            rw [(fx s1).1.1]
            refine ⟨fun _ y ey => ?_, fun z => absurd (Int32.le_refl _) z⟩
            rw [ey, nI_1]
            exact ih2 M5 ⟨s1, s2, s3⟩
          · intro k4 w M5 hw ⟨s1, s2, s3, s4⟩ ih3
            unfold m_X0_walks_l145
            rw [(fx s1).1.1, nI_clamp (show v < 2 ^ 31 by omega), nI_clamp (show w < 2 ^ 31 by omega)]
            refine ⟨fun z => absurd z (nI_ge hw (by omega)), fun _ => s_X0_isStep (fx s1).2.1 ok lo hv hw (bcs (fun c => ⟨vin (by omega), vin (by omega), vin (by omega), fun M9 e9 y ey => ?_⟩) (fun c y ey => ?_))⟩
            · rw [ey, nI_1]
              rw [s4 w (Nat.le_refl _) hw, s2 v hv] at e9
              have hc : sst σ lm w v = true := c
              refine ih3 M9 ⟨by rw [e9]; exact s1.PJ (show B = 182 ∨ B = 183 from hBr), fun w' hw' => by rw [e9, wJ_PJ, if_neg (fun z => hd z.1)]; exact s2 w' hw', fun w' hw' => ?_, fun w' h1 h2 => ?_⟩
              · rw [e9, wJ_PJ]
                by_cases ew : w' = w
                · rw [if_pos ⟨rfl, ew⟩, ew, smJ, hc, if_pos rfl]
                · rw [if_neg (fun z => ew z.2)]; exact s3 w' (by omega)
              · rw [e9, wJ_PJ, if_neg (fun z => by omega)]; exact s4 w' (by omega) h2
            · rw [ey, nI_1]
              have hc : sst σ lm w v = false := c
              refine ih3 M5 ⟨s1, s2, fun w' hw' => ?_, fun w' h1 h2 => s4 w' (by omega) h2⟩
              by_cases ew : w' = w
              · rw [ew, smJ, hc]; exact s4 w (Nat.le_refl _) hw
              · exact s3 w' (by omega)
      · intro k2 j M3 hj ⟨r1, r2, r3⟩ ih2
        unfold m_X0_walks_l109
        rw [(fx r1).1.1, nI_clamp (show j < 2 ^ 31 by omega)]
        refine ⟨fun z => absurd z (nI_ge hj (by omega)), fun _ => ⟨vin (by omega), fun M4 e4 y ey => ?_⟩⟩
        rw [ey, nI_1]
        refine ih2 M4 ⟨by rw [e4]; exact r1.PJ (show B = 182 ∨ B = 183 from hBr), fun w hw => by rw [e4, wJ_PJ, if_neg (fun z => hd z.1)]; exact r2 w hw, fun w hw => ?_⟩
        rw [e4, wJ_PJ]
        by_cases ew : w = j
        · rw [if_pos ⟨rfl, ew⟩]
        · rw [if_neg (fun z => ew z.2)]; exact r3 w (by omega)
  · intro k i M' hi ⟨q1, q2⟩ ih
    unfold m_X0_walks_l30
    rw [(fx q1).1.1, nI_clamp (show i < 2 ^ 31 by omega), show (0 : Int32).toNatClampNeg = 0 by decide]
    have put : ∀ v M7, v = wkc σ lm a 0 i → M7 = wPJ M' (182 + 0) i v → ∀ y : Int32, y = nI i + 1 → m_X0_walks_l30 (nI a) (nI b) (nI n) Q k y M7 := fun v M7 ev e7 y ey => by
      rw [ey, nI_1]
      refine ih M7 ⟨by rw [e7]; exact q1.PJ (Or.inl rfl), fun w hw => ?_⟩
      rw [e7, wJ_PJ]
      by_cases ew : w = i
      · rw [if_pos ⟨rfl, ew⟩, ev, ew]
      · rw [if_neg (fun z => ew z.2)]; exact q2 w (by omega)
    refine ⟨fun z => absurd z (nI_ge hi (by omega)), fun _ => ⟨vin (n := 0) (by omega), pk_eq i a (fun c => s_X0_isUsed (fx q1).1 ok ha (bcs (fun u => ⟨vin (by omega), fun M7 e7 => put _ M7 (if_pos ⟨c, u⟩).symm e7⟩) (fun u => ⟨vin (by omega), fun M7 e7 => put _ M7 (if_neg fun z => by rw [u] at z; cases z.2).symm e7⟩))) (fun c => ⟨vin (by omega), fun M7 e7 => put _ M7 (if_neg fun z => c z.1).symm e7⟩) rfl rfl⟩⟩
def S5473 (r _k : Nat) : Prop := r = 5473 ∨ r = 5474
def SWkT (r k : Nat) : Prop := STA r k ∨ S5473 r k
theorem s_X6_walks {σ : WS} {lm : Lam} {M : WM} {x y z : Int32} {Q : Int64 → WM → Prop} (hW : WT σ M) (ok : wsOK σ) (hl : LawT lm M) (lo : lamOK lm) (h0 : ¬ VWk σ x y z → Q (-1) M) (h1 : ∀ a b n, x = nI a → y = nI b → z = nI n → VWk σ x y z → ∀ M', Fr SWkT M M' → Q (wkV σ lm a b n) M') : m_X6_walks x y z M Q := by
  have hs := ok.1
  refine s_X6_twoJ hW ok (fun e => h0 fun q => e q.1) (fun a b ha hb ex ey hV => s_X6_in (bdc (fun e => ?_) (fun e => h0 fun q => e q.2)))
  have e : 0 ≤ z.toInt ∧ z.toInt ≤ 10 := e
  obtain ⟨n, hn, ez, en⟩ := nI_ex e.1
  have hh := h1 a b n ex ey ez ⟨hV, e⟩
  subst ex ey ez
  unfold wkV at hh
  refine s_X6_isUsed hW ok ha (bcs (fun ua => s_X6_isUsed hW ok hb (bcs (fun ub => ?_) (fun ub => by have := hh M Fr.rf; rw [ub, Bool.and_false] at this; exact this))) (fun ua => by have := hh M Fr.rf; rw [ua] at this; exact this))
  rw [ua, ub, show (true && true) = true from rfl, if_pos rfl] at hh
  refine s_X6_laysSteps hW ok hl lo fun M6 S6 f6 => ?_
  have w6 : WT σ M6 := hW.fr f6 (by unfold STA PWT; omega)
  have fx : ∀ {M'}, Fr S5473 M6 M' → WT σ M' ∧ StA σ lm M' := fun f => ⟨w6.fr f (by unfold S5473 PWT; omega), fun a b ha hb => (S6 a b ha hb).fr f (by unfold S5473; omega)⟩
  refine pk_loop (fun k i M' => m_X6_walks_l55 (nI a) (nI b) (nI n) Q k (nI i) M') (fun i M' => Fr S5473 M6 M' ∧ ∀ w, w < i → wJ M' 5473 w = wkc σ lm a 0 w) (sN σ) 0 M6 (by omega) ⟨Fr.rf, fun w h => absurd h (by omega)⟩ ?_ ?_
  · intro k M' ⟨q1, q2⟩
    unfold m_X6_walks_l55
    rw [(fx q1).1.1]
    refine ⟨fun _ => ?_, fun z => absurd (Int32.le_refl _) z⟩
    refine pk_loop (fun k' i M2 => m_X6_walks_l91 (nI b) (nI n) Q k' (nI i) M2) (fun i M2 => Fr S5473 M6 M2 ∧ ∀ w, w < sN σ → wJ M2 5473 w = wkc σ lm a i w) n 0 M' (by omega) ⟨q1, q2⟩ ?_ ?_
    · intro k' M2 ⟨p1, p2⟩
      have hh := hh M2 ((f6.mono fun r k q => Or.inl q).tr (p1.mono fun r k q => Or.inr q))
      unfold m_X6_walks_l91
      rw [nI_clamp (show b < 2 ^ 31 by omega), p2 b hb]
      exact ⟨fun _ => ⟨vin (by omega), hh⟩, fun z => absurd (Int32.le_refl _) z⟩
    · intro k' i M2 hi ⟨p1, p2⟩ ih
      refine ⟨fun z => absurd z (nI_ge hi (by omega)), fun _ => ?_⟩
      refine pk_loop (fun k2 w M3 => m_X6_walks_l100 (fun x4' M' => m_X6_walks_l91 (nI b) (nI n) Q k' x4' M') (nI b) (nI n) (nI i) Q k2 (nI w) M3) (fun w M3 => Fr S5473 M6 M3 ∧ (∀ w, w < sN σ → wJ M3 5473 w = wkc σ lm a i w) ∧ ∀ w', w' < w → wJ M3 5474 w' = wkc σ lm a (i + 1) w') (sN σ) 0 M2 (by omega) ⟨p1, p2, fun w h => absurd h (by omega)⟩ ?_ ?_
      · intro k2 M3 ⟨r1, r2, r3⟩
        unfold m_X6_walks_l100
        rw [(fx r1).1.1]
        refine ⟨fun _ => ?_, fun z => absurd (Int32.le_refl _) z⟩
        refine pk_loop (fun k3 w M4 => m_X6_walks_l177 (fun x4' M' => m_X6_walks_l91 (nI b) (nI n) Q k' x4' M') (nI b) (nI n) (nI i) Q k3 (nI w) M4) (fun w M4 => Fr S5473 M6 M4 ∧ (∀ w', w' < sN σ → wJ M4 5474 w' = wkc σ lm a (i + 1) w') ∧ ∀ w', w' < w → wJ M4 5473 w' = wkc σ lm a (i + 1) w') (sN σ) 0 M3 (by omega) ⟨r1, r3, fun w h => absurd h (by omega)⟩ ?_ ?_
        · intro k3 M4 ⟨t1, t2, t3⟩
          unfold m_X6_walks_l177
          rw [(fx t1).1.1]
          refine ⟨fun _ y ey => ?_, fun z => absurd (Int32.le_refl _) z⟩
          rw [ey, nI_1]
          exact ih M4 ⟨t1, t3⟩
        · intro k3 w M4 hw ⟨t1, t2, t3⟩ ih2
          unfold m_X6_walks_l177
          rw [(fx t1).1.1, nI_clamp (show w < 2 ^ 31 by omega)]
          refine ⟨fun z => absurd z (nI_ge hw (by omega)), fun _ => ⟨vin (by omega), vin (by omega), fun M5 e5 y ey => ?_⟩⟩
          rw [ey, nI_1]
          rw [t2 w hw] at e5
          refine ih2 M5 ⟨by rw [e5]; exact t1.PJ (Or.inl rfl), fun w' hw' => by rw [e5, wJ_PJ, if_neg (by omega)]; exact t2 w' hw', fun w' hw' => ?_⟩
          rw [e5, wJ_PJ]
          by_cases ew : w' = w
          · rw [if_pos ⟨rfl, ew⟩, ew]
          · rw [if_neg (fun z => ew z.2)]; exact t3 w' (by omega)
      · intro k2 w M3 hw ⟨r1, r2, r3⟩ ih2
        unfold m_X6_walks_l100
        rw [(fx r1).1.1, nI_clamp (show w < 2 ^ 31 by omega)]
        refine ⟨fun z => absurd z (nI_ge hw (by omega)), fun _ => ⟨vin (by omega), fun M4 e4 => ?_⟩⟩
        refine pk_loop (fun k3 v M5 => m_X6_walks_l120 (fun x4' M' => m_X6_walks_l91 (nI b) (nI n) Q k' x4' M') (fun x5' M' => m_X6_walks_l100 (fun x4' M' => m_X6_walks_l91 (nI b) (nI n) Q k' x4' M') (nI b) (nI n) (nI i) Q k2 x5' M') (nI b) (nI n) (nI i) (nI w) Q k3 (nI v) M5) (fun v M5 => Fr S5473 M6 M5 ∧ (∀ w, w < sN σ → wJ M5 5473 w = wkc σ lm a i w) ∧ (∀ w', w' < w → wJ M5 5474 w' = wkc σ lm a (i + 1) w') ∧ wJ M5 5474 w = smJ (sst σ lm w) (wkc σ lm a i) v) (sN σ) 0 M4 (by omega) ⟨by rw [e4]; exact r1.PJ (Or.inr rfl), fun w' hw' => by rw [e4, wJ_PJ, if_neg (by omega)]; exact r2 w' hw', fun w' hw' => by rw [e4, wJ_PJ, if_neg (by omega)]; exact r3 w' hw', by rw [e4, wJ_PJ, if_pos ⟨rfl, rfl⟩]; rfl⟩ ?_ ?_
        · intro k3 M5 ⟨s1, s2, s3, s4⟩
          unfold m_X6_walks_l120
          rw [(fx s1).1.1]
          refine ⟨fun _ y ey => ?_, fun z => absurd (Int32.le_refl _) z⟩
          rw [ey, nI_1]
          refine ih2 M5 ⟨s1, s2, fun w' hw' => ?_⟩
          by_cases ew : w' = w
          · rw [ew, s4]; rfl
          · exact s3 w' (by omega)
        · intro k3 v M5 hv ⟨s1, s2, s3, s4⟩ ih3
          unfold m_X6_walks_l120
          rw [(fx s1).1.1, nI_clamp (show w < 2 ^ 31 by omega), nI_clamp (show v < 2 ^ 31 by omega)]
          refine ⟨fun z => absurd z (nI_ge hv (by omega)), fun _ => s_X6_isStep2 (fx s1).2 ok hv hw (bcs (fun c => ⟨vin (by omega), vin (by omega), vin (by omega), fun M9 e9 y ey => ?_⟩) (fun c y ey => ?_))⟩
          · rw [ey, nI_1]
            rw [s4, s2 v hv] at e9
            have hc : sst σ lm w v = true := c
            refine ih3 M9 ⟨by rw [e9]; exact s1.PJ (Or.inr rfl), fun w' hw' => by rw [e9, wJ_PJ, if_neg (by omega)]; exact s2 w' hw', fun w' hw' => by rw [e9, wJ_PJ, if_neg (by omega)]; exact s3 w' hw', ?_⟩
            rw [e9, wJ_PJ, if_pos ⟨rfl, rfl⟩, smJ, hc, if_pos rfl]
          · rw [ey, nI_1]
            have hc : sst σ lm w v = false := c
            exact ih3 M5 ⟨s1, s2, s3, by rw [smJ, hc]; exact s4⟩
  · intro k i M' hi ⟨q1, q2⟩ ih
    unfold m_X6_walks_l55
    rw [(fx q1).1.1, nI_clamp (show i < 2 ^ 31 by omega)]
    have put : ∀ v M7, v = wkc σ lm a 0 i → M7 = wPJ M' 5473 i v → ∀ y : Int32, y = nI i + 1 → m_X6_walks_l55 (nI a) (nI b) (nI n) Q k y M7 := fun v M7 ev e7 y ey => by
      rw [ey, nI_1]
      refine ih M7 ⟨by rw [e7]; exact q1.PJ (Or.inl rfl), fun w hw => ?_⟩
      rw [e7, wJ_PJ]
      by_cases ew : w = i
      · rw [if_pos ⟨rfl, ew⟩, ev, ew]
      · rw [if_neg (fun z => ew z.2)]; exact q2 w (by omega)
    refine ⟨fun z => absurd z (nI_ge hi (by omega)), fun _ => pk_eq i a (fun c => ⟨vin (by omega), fun M7 e7 => put _ M7 (if_pos ⟨c, ua⟩).symm e7⟩) (fun c => ⟨vin (by omega), fun M7 e7 => put _ M7 (if_neg fun z => c z.1).symm e7⟩) rfl rfl⟩
