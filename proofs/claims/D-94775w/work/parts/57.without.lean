/-! without: who can be come to, one being left out -/
def rn (σ : WS) (lm : Lam) (o : Option Nat) (a : Nat) : Nat → Nat → Prop
  | 0, x => x = a
  | n + 1, x => ∃ v, rn σ lm o a n v ∧ (cst σ lm v x).isSome = true ∧ ¬ o = some x
def Rch (σ : WS) (lm : Lam) (o : Option Nat) (a x : Nat) : Prop := ∃ n, rn σ lm o a n x
theorem cst_u {σ : WS} {lm : Lam} {a b : Nat} (h : (cst σ lm a b).isSome = true) : a < sN σ ∧ b < sN σ ∧ used σ a = true ∧ used σ b = true := by
  cases e : cst σ lm a b with
  | none => rw [e] at h; cases h
  | some c =>
    obtain ⟨h1, h2, h3, h4, h5, h6⟩ := wgt_ok (K := 64) a b _ (wgt_cst.mpr ⟨c, e, rfl⟩)
    exact ⟨h1, h2, h3, h4⟩
theorem rch_lt {σ : WS} {lm : Lam} {o : Option Nat} {a x : Nat} (ha : a < sN σ) (h : Rch σ lm o a x) : x < sN σ := by
  obtain ⟨n, h⟩ := h
  cases n with
  | zero => rw [show x = a from h]; exact ha
  | succ n => obtain ⟨v, _, g, _⟩ := h; exact (cst_u g).2.1
theorem rch_all {σ : WS} {lm : Lam} {o : Option Nat} {a : Nat} {P : Nat → Prop} (h0 : P a) (hs : ∀ v x, P v → (cst σ lm v x).isSome = true → ¬ o = some x → P x) : ∀ x, Rch σ lm o a x → P x := by
  have key : ∀ n x, rn σ lm o a n x → P x := fun n => by
    induction n with
    | zero => intro x h; rw [show x = a from h]; exact h0
    | succ n ih => intro x ⟨v, g1, g2, g3⟩; exact hs v x (ih v g1) g2 g3
  exact fun x ⟨n, h⟩ => key n x h
theorem rch_s {σ : WS} {lm : Lam} {o : Option Nat} {a v x : Nat} (h : Rch σ lm o a v) (g : (cst σ lm v x).isSome = true) (ho : ¬ o = some x) : Rch σ lm o a x := by
  obtain ⟨n, h⟩ := h
  exact ⟨n + 1, v, h, g, ho⟩
theorem rch_un {σ : WS} {lm : Lam} {w a x : Nat} (hu : used σ w = false) (h : Rch σ lm none a x) : Rch σ lm (some w) a x :=
  rch_all (P := fun x => Rch σ lm (some w) a x) ⟨0, rfl⟩ (fun v x h g _ => rch_s h g (fun z => by cases z; rw [(cst_u g).2.2.2] at hu; cases hu)) x h
theorem rch_way {σ : WS} {lm : Lam} (ok : wsOK σ) (lo : lamOK lm) {a b : Nat} (ha : a < sN σ) : (way σ lm a b).isSome = true ↔ used σ a = true ∧ used σ b = true ∧ Rch σ lm none a b := by
  constructor
  · intro h
    cases e : way σ lm a b with
    | none => rw [e] at h; cases h
    | some q =>
      obtain ⟨u1, u2⟩ := way_u ok lo e
      refine ⟨u1, u2, ?_⟩
      obtain ⟨C, S⟩ := q
      obtain ⟨_, _, h3, _⟩ := way_s ok lo e
      by_cases hn : a = b ∧ used σ a = true
      · exact ⟨0, hn.1.symm⟩
      · obtain ⟨n, g⟩ := ((dmx_ok (wgt σ lm 100) (used σ) (sN σ) a b).2 hn).1 _ h3
        obtain ⟨C', g1, _⟩ := wk_cst.mp g
        have key : ∀ (n v x C : Nat), wk' (cst σ lm) (sN σ) n v x C → Rch σ lm none a v → Rch σ lm none a x := fun n => by
          induction n with
          | zero => intro v x C g r; exact rch_s r (by rw [show cst σ lm v x = some C from g]; rfl) (fun z => by cases z)
          | succ n ih =>
            intro v x C g r
            obtain ⟨u, c, y, _, g2, g3, _⟩ := g
            exact ih u x y g3 (rch_s r (by rw [g2]; rfl) (fun z => by cases z))
        exact key n a b C' g1 ⟨0, rfl⟩
  · intro ⟨u1, u2, h⟩
    have key : ∀ x, Rch σ lm none a x → x = a ∨ ∃ n C, wk' (cst σ lm) (sN σ) n a x C := rch_all (Or.inl rfl) (fun v x hv g _ => by
      obtain ⟨k1, k2, k3, k4⟩ := cst_u g
      cases e : cst σ lm v x with
      | none => rw [e] at g; cases g
      | some c =>
        rcases hv with rfl | ⟨n, C, hw⟩
        · exact Or.inr ⟨0, c, e⟩
        · exact Or.inr ⟨_, _, wk_cat (n' := 0) k1 (show wk' (cst σ lm) (sN σ) 0 v x c from e) hw⟩)
    rcases key b h with rfl | ⟨n, C, hw⟩
    · rw [way_0 u1]; rfl
    · obtain ⟨y, g1, _⟩ := dst_lo (dmx_ok (wgt σ lm 100) (used σ) (sN σ) a b) (wk_cst.mpr ⟨C, hw, rfl⟩)
      have g1 : dEnd σ lm 100 a b = some y := g1
      rw [← way_i, g1]; rfl
theorem cnt_gt {p q : Nat → Bool} {n x : Nat} (h : ∀ k, k < n → p k = true → q k = true) (hx : x < n) (h1 : q x = true) (h0 : p x = false) : cnt p n < cnt q n := by
  rw [cnt_del (p := q) (u := x) h1 hx]
  have : cnt p n ≤ cnt (dlt q x) n := cnt_mono fun k hk hp => by
    unfold dlt
    rw [h k hk hp, decide_eq_true (show ¬ k = x from fun z => by rw [z, h0] at hp; cases hp)]; rfl
  omega
/-! LetterHeaps' side -/
theorem s_X0_reachWithout {σ : WS} {lm : Lam} {M : WM} {a w : Nat} {Q : Int64 → Prop} (hW : WC σ M) (hS : StB σ lm M) (ok : wsOK σ) (lo : lamOK lm) (ha : a < sN σ) (hw : w < sN σ) (h : ∀ s, (∀ x, x < 64 → (lb s x = true ↔ Rch σ lm (some w) a x)) → Q s) : m_X0_reachWithout (nI a) (nI w) M Q := by
  have hs := ok.1
  have key : ∀ (n : Nat) (s was : Int64), lb s a = true → (∀ x, x < 64 → lb s x = true → Rch σ lm (some w) a x) → (∀ v x, lb was v = true → v < 64 → (cst σ lm v x).isSome = true → ¬ x = w → lb s x = true) → (s = was → 1 ≤ n) → (¬ s = was → sN σ - cnt (lb s) (sN σ) + 2 ≤ n) → m_X0_reachWithout_l7 (nI w) M Q n s was := fun n => by
    induction n with
    | zero =>
      intro s was _ _ _ h1 h2
      by_cases e : s = was
      · have := h1 e; omega
      · have := h2 e; omega
    | succ n ih =>
      intro s was i1 i2 i3 h1 h2
      unfold m_X0_reachWithout_l7
      rw [lg_cmp_eq]
      refine ⟨fun e => h s fun x hx => ⟨i2 x hx, fun r => ?_⟩, fun e => ?_⟩
      · refine rch_all (P := fun x => lb s x = true) i1 (fun v x hv g ho => ?_) x r
        have hv2 := (cst_u g).1
        exact i3 v x (by rw [← e]; exact hv) (by omega) g (fun z => ho (by rw [z]))
      have h2 := h2 e
      have bw : cnt (lb s) (sN σ) ≤ sN σ := cnt_le _ _
      refine pk_loop (fun k i (t : Int64) => m_X0_reachWithout_l20 (fun x3' x5' => m_X0_reachWithout_l7 (nI w) M Q n x3' x5') (nI w) s M Q k t (nI i)) (fun i t => (∀ x, lb s x = true → lb t x = true) ∧ (∀ x, x < 64 → lb t x = true → Rch σ lm (some w) a x) ∧ ∀ v x, v < i → lb s v = true → (cst σ lm v x).isSome = true → ¬ x = w → lb t x = true) (sN σ) 0 s (by omega) ⟨fun x hx => hx, i2, fun v x h => absurd h (by omega)⟩ ?_ ?_
      · intro k t ⟨j1, j2, j3⟩
        unfold m_X0_reachWithout_l20
        rw [hW.1]
        refine ⟨fun _ => ih t s (j1 a i1) j2 (fun v x hv hv2 g ho => j3 v x (cst_u g).1 hv g ho) (fun _ => by omega) (fun ne => ?_), fun z => absurd (Int32.le_refl _) z⟩
        have : cnt (lb s) (sN σ) < cnt (lb t) (sN σ) := by
          by_cases c : ∀ x, x < sN σ → lb t x = true → lb s x = true
          · exfalso
            refine ne (lb_ext fun x hx => ?_)
            cases et : lb t x with
            | true => exact (c x (rch_lt ha (j2 x hx et)) et).symm
            | false =>
              cases es : lb s x with
              | true => rw [j1 x es] at et; cases et
              | false => rfl
          · obtain ⟨x, c⟩ := Classical.not_forall.mp c
            obtain ⟨hx, c⟩ := Classical.not_imp.mp c
            obtain ⟨ht, c⟩ := Classical.not_imp.mp c
            exact cnt_gt (fun k _ hk => j1 k hk) hx ht (ts_nt' c)
        have := cnt_le (lb t) (sN σ)
        omega
      · intro k i t hi ⟨j1, j2, j3⟩ ih2
        unfold m_X0_reachWithout_l20
        rw [hW.1]
        refine ⟨fun z => absurd z (nI_ge hi (by omega)), fun _ => ?_⟩
        refine pk_loop (fun k' j (t' : Int64) => m_X0_reachWithout_l32 (fun x3' x5' => m_X0_reachWithout_l7 (nI w) M Q n x3' x5') (fun x3' x7' => m_X0_reachWithout_l20 (fun x3' x5' => m_X0_reachWithout_l7 (nI w) M Q n x3' x5') (nI w) s M Q k x3' x7') (nI w) s (nI i) M Q k' t' (nI j)) (fun j t' => (∀ x, lb t x = true → lb t' x = true) ∧ (∀ x, x < 64 → lb t' x = true → Rch σ lm (some w) a x) ∧ ∀ x, x < j → lb s i = true → (cst σ lm i x).isSome = true → ¬ x = w → lb t' x = true) (sN σ) 0 t (by omega) ⟨fun x hx => hx, j2, fun x h => absurd h (by omega)⟩ ?_ ?_
        · intro k' t' ⟨g1, g2, g3⟩
          unfold m_X0_reachWithout_l32
          rw [hW.1]
          refine ⟨fun _ z ez => ?_, fun z => absurd (Int32.le_refl _) z⟩
          rw [ez, nI_1]
          refine ih2 t' ⟨fun x hx => g1 x (j1 x hx), g2, fun v x hv hs2 g ho => ?_⟩
          by_cases e : v = i
          · rw [e] at hs2 g; exact g3 x (cst_u g).2.1 hs2 g ho
          · exact g1 x (j3 v x (by omega) hs2 g ho)
        · intro k' j t' hj ⟨g1, g2, g3⟩ ih3
          have nxt : (lb s i = true → (cst σ lm i j).isSome = true → ¬ j = w → lb t' j = true) → ∀ z : Int32, z = nI j + 1 → m_X0_reachWithout_l32 (fun x3' x5' => m_X0_reachWithout_l7 (nI w) M Q n x3' x5') (fun x3' x7' => m_X0_reachWithout_l20 (fun x3' x5' => m_X0_reachWithout_l7 (nI w) M Q n x3' x5') (nI w) s M Q k x3' x7') (nI w) s (nI i) M Q k' t' z := fun q z ez => by
            rw [ez, nI_1]
            refine ih3 t' ⟨g1, g2, fun x hx q1 q2 q3 => ?_⟩
            by_cases e : x = j
            · rw [e] at q2 q3 ⊢; exact q q1 q2 q3
            · exact g3 x (by omega) q1 q2 q3
          unfold m_X0_reachWithout_l32
          rw [hW.1]
          refine ⟨fun z => absurd z (nI_ge hj (by omega)), fun _ => s_X0_has (by omega) (bcs (fun hsi => pk_eq j w (fun c => nxt fun _ _ q => absurd c q) (fun c => s_X0_isStep hS ok lo hi hj (bcs (fun hc z ez y ey => ?_) (fun hc => nxt fun _ q _ => by rw [hc] at q; cases q))) rfl rfl) (fun hsi z ez => ?_))⟩
          · rw [ez, ey, nI_1, show (1 : Int64) <<< ((nI j).toInt64 &&& 63) = bitL j from rfl]
            have hb : ∀ x, x < 64 → lb (t' ||| bitL j) x = (lb t' x || decide (j = x)) := fun x hx => by rw [lb_or, lb_bitL (by omega) hx]
            have mo : ∀ x, lb t' x = true → lb (t' ||| bitL j) x = true := fun x hx => by rw [lb_or, hx]; rfl
            refine ih3 _ ⟨fun x hx => mo x (g1 x hx), fun x hx q => ?_, fun x hx q1 q2 q3 => ?_⟩
            · rw [hb x hx] at q
              by_cases e : j = x
              · subst e
                exact rch_s (g2 i (by omega) (g1 i (j1 i hsi))) hc (fun z => by cases z; exact c rfl)
              · rw [decide_eq_false e, Bool.or_false] at q; exact g2 x hx q
            · by_cases e : x = j
              · rw [e, hb j (by omega), decide_eq_true rfl, Bool.or_true]
              · exact mo x (g3 x (by omega) q1 q2 q3)
          · rw [ez, nI_1]
            refine ih2 t' ⟨fun x hx => g1 x (j1 x hx), g2, fun v x hv hs2 g ho => ?_⟩
            by_cases e : v = i
            · rw [e, hsi] at hs2; cases hs2
            · exact g1 x (j3 v x (by omega) hs2 g ho)
  intro z1 e1
  refine ⟨100, ?_⟩
  rw [e1, show (1 : Int64) <<< ((nI a).toInt64 &&& 63) = bitL a from rfl]
  refine key 100 _ 0 (by rw [lb_bitL (by omega) (by omega)]; exact decide_eq_true rfl) (fun x hx q => ?_) (fun v x q => by rw [lb_0] at q; cases q) (fun _ => by omega) (fun _ => by omega)
  rw [lb_bitL (by omega) hx] at q
  exact ⟨0, (of_decide_eq_true q).symm⟩
def isWO (σ : WS) (lm : Lam) (a b : Nat) (s : Int64) : Prop := ∀ x, x < 64 → (lb s x = true ↔ (x < sN σ ∧ ¬ x = a ∧ ¬ x = b ∧ ¬ Rch σ lm (some x) a b))
theorem isWO_eq {σ : WS} {lm : Lam} {a b : Nat} {s t : Int64} (h : isWO σ lm a b s) (g : isWO σ lm a b t) : s = t := lb_ext fun x hx => by
  have e := (h x hx).trans (g x hx).symm
  cases es : lb s x with
  | true => exact (e.mp es).symm
  | false =>
    cases et : lb t x with
    | true => rw [e.mpr et] at es; cases es
    | false => rfl
theorem s_X0_without {σ : WS} {lm : Lam} {M : WM} {x y : Int32} {Q : Int64 → WM → Prop} (hW : WC σ M) (ok : wsOK σ) (hl : LawC lm M) (lo : lamOK lm) (hC : wI M 0 8 = wI M 0 7 → Laid σ lm M) (h0 : ¬ VF σ x y → Q (-1) M) (h2 : ∀ a b, x = nI a → y = nI b → VF σ x y → (way σ lm a b).isSome = false → ∀ M', Laid σ lm M' → Fr SLay M M' → Q (-2) M') (h1 : ∀ a b, x = nI a → y = nI b → VF σ x y → (way σ lm a b).isSome = true → ∀ s M', isWO σ lm a b s → Laid σ lm M' → Fr SLay M M' → Q s M') : m_X0_without x y M Q := by
  have hs := ok.1
  refine s_X0_areTwo hW ok (fun e => ie0 (h0 e)) (fun a b ha hb ex ey hV => ie1 ?_)
  have hh1 := h1 a b ex ey hV
  have hh2 := h2 a b ex ey hV
  subst ex ey
  refine s_X0_lays hW ok hl lo hC fun M4 L4 _ f4 => ?_
  have w4 : WC σ M4 := hW.fr ok f4 (by unfold SLay PWC; omega)
  rw [nI_clamp (show a < 2 ^ 31 by omega), nI_clamp (show b < 2 ^ 31 by omega)]
  refine ⟨vin (by omega), vin (by omega), ?_⟩
  rcases rdC L4.2.1 ok lo ha hb with ⟨e1, e2⟩ | ⟨C, S, e1, c1, c2, e2⟩
  · rw [e2]; exact ⟨fun _ => hh2 (by rw [e1]; rfl) M4 L4 f4, fun z => absurd rfl z⟩
  rw [e2]
  refine pk_eq (100 * C + S) 268435456 (fun z => absurd z (by omega)) (fun _ => ?_) rfl rfl
  have hwy : (way σ lm a b).isSome = true := by rw [e1]; rfl
  have hr := ((rch_way ok lo ha).mp hwy).2.2
  refine pk_loop (fun k i (s : Int64) => m_X0_without_l39 (nI a) (nI b) Q k s (nI i) M4) (fun i s => ∀ x, x < 64 → (lb s x = true ↔ (x < i ∧ ¬ x = a ∧ ¬ x = b ∧ ¬ Rch σ lm (some x) a b))) (sN σ) 0 0 (by omega) (fun x hx => ⟨fun q => (by rw [lb_0] at q; cases q), fun q => absurd q.1 (by omega)⟩) ?_ ?_
  · intro k s q
    unfold m_X0_without_l39
    rw [w4.1]
    exact ⟨fun _ => hh1 hwy s M4 q L4 f4, fun z => absurd (Int32.le_refl _) z⟩
  · intro k i s hi q ih
    have no : (i = a ∨ i = b ∨ Rch σ lm (some i) a b) → ∀ z : Int32, z = nI i + 1 → m_X0_without_l39 (nI a) (nI b) Q k s z M4 := fun g z ez => by
      rw [ez, nI_1]
      refine ih s fun x hx => (q x hx).trans ⟨fun r => ⟨by omega, r.2⟩, fun r => ⟨?_, r.2⟩⟩
      rcases Nat.lt_or_eq_of_le (Nat.le_of_lt_succ r.1) with c | c
      · exact c
      · rw [c] at r
        rcases g with g | g | g
        · exact absurd g r.2.1
        · exact absurd g r.2.2.1
        · exact absurd g r.2.2.2
    unfold m_X0_without_l39
    rw [w4.1]
    refine ⟨fun z => absurd z (nI_ge hi (by omega)), fun _ => pk_eq i a (fun c => no (Or.inl c)) (fun ca => pk_eq i b (fun c => no (Or.inr (Or.inl c))) (fun cb => s_X0_isUsed w4 ok hi (bcs (fun hu => ?_) (fun hu => no (Or.inr (Or.inr (rch_un hu hr)))))) rfl rfl) rfl rfl⟩
    refine s_X0_reachWithout w4 L4.1 ok lo ha hi fun s9 g9 => s_X0_has (by omega) (bcs (fun c => no (Or.inr (Or.inr ((g9 b (by omega)).mp c)))) (fun c z ez y ey => ?_))
    have hn : ¬ Rch σ lm (some i) a b := fun r => by rw [(g9 b (by omega)).mpr r] at c; cases c
    rw [ez, ey, nI_1, show (1 : Int64) <<< ((nI i).toInt64 &&& 63) = bitL i from rfl]
    refine ih _ fun x hx => ?_
    rw [lb_or, lb_bitL (by omega) hx]
    by_cases e : x = i
    · subst e
      rw [decide_eq_true rfl, Bool.or_true]
      exact ⟨fun _ => ⟨by omega, ca, cb, hn⟩, fun _ => rfl⟩
    · rw [decide_eq_false (fun z => e z.symm), Bool.or_false]
      exact (q x hx).trans ⟨fun r => ⟨by omega, r.2⟩, fun r => ⟨by omega, r.2⟩⟩
/-! the model's side -/
def S5470 (r _k : Nat) : Prop := r = 5470
def owI (o : Option Nat) : Int32 := match o with
  | none => -1
  | some w => nI w
def Mk (N : Nat) (p : Nat → Bool) (M : WM) : Prop := ∀ u, u < N → wI M 5470 u = b2i (p u)
def setb (p : Nat → Bool) (j u : Nat) : Bool := if u = j then true else p u
theorem s_X6_comes {σ : WS} {lm : Lam} {M : WM} {a b : Nat} {o : Option Nat} {Q : Int32 → WM → Prop} (hW : WT σ M) (hS : StA σ lm M) (ok : wsOK σ) (ha : a < sN σ) (hb : b < sN σ) (ho : ∀ w, o = some w → w < sN σ) (h1 : Rch σ lm o a b → ∀ M', Fr S5470 M M' → Q 1 M') (h0 : ¬ Rch σ lm o a b → ∀ M', Fr S5470 M M' → Q 0 M') : m_X6_comes (nI a) (nI b) (owI o) M Q := by
  have hs := ok.1
  have fx : ∀ {M'}, Fr S5470 M M' → WT σ M' ∧ StA σ lm M' := fun f => ⟨hW.fr f (by unfold S5470 PWT; omega), fun a b ha hb => (hS a b ha hb).fr f (by unfold S5470; omega)⟩
  have oeq : ∀ {A B : Prop} (j : Nat), j < sN σ → (o = some j → A) → (¬ o = some j → B) → (nI j = owI o → A) ∧ (¬ nI j = owI o → B) := fun {A B} j hj f g => by
    cases eo : o with
    | none =>
      refine ⟨fun z => absurd z ?_, fun _ => g (by rw [eo]; exact fun z => by cases z)⟩
      show ¬ nI j = -1
      rw [i_eq, nI_toInt (by omega)]; intro z; have : (j : Int) = -1 := z; omega
    | some w =>
      have := ho w eo
      exact pk_eq j w (fun c => f (by rw [eo, c])) (fun c => g (by rw [eo]; exact fun z => by cases z; exact c rfl)) rfl rfl
  have key : ∀ (n : Nat) (m : Nat) (p : Nat → Bool) (M' : WM), m ≤ 1 → Fr S5470 M M' → Mk (sN σ) p M' → p a = true → (∀ x, x < sN σ → p x = true → Rch σ lm o a x) → (m = 0 → ∀ v x, v < sN σ → p v = true → (cst σ lm v x).isSome = true → ¬ o = some x → p x = true) → (m = 0 → 1 ≤ n) → (m = 1 → sN σ - cnt p (sN σ) + 2 ≤ n) → m_X6_comes_l39 (nI b) (owI o) Q n (nI m) M' := fun n => by
    induction n with
    | zero => intro m p M' hm _ _ _ _ _ h3 h4; omega
    | succ n ih =>
      intro m p M' hm f' mk i1 i2 i3 h3 h4
      unfold m_X6_comes_l39
      have done : m = 0 → vp_in (nI b) 40 ∧ ((wI M' 5470 (nI b).toNatClampNeg = 0 ∨ wI M' 5470 (nI b).toNatClampNeg = 1) ∧ Q (wI M' 5470 (nI b).toNatClampNeg) M') := fun e => by
        rw [nI_clamp (show b < 2 ^ 31 by omega), mk b hb]
        refine ⟨vin (by omega), b2i_01 _, ?_⟩
        have cl : ∀ x, Rch σ lm o a x → p x = true := rch_all i1 (fun v x hv g go => i3 e v x (cst_u g).1 hv g go)
        cases ep : p b with
        | true => exact h1 (i2 b hb ep) M' f'
        | false => exact h0 (fun r => by rw [cl b r] at ep; cases ep) M' f'
      refine pk_eq m 0 (fun e => done e) (fun e => ?_) rfl rfl
      have h4 := h4 (by omega)
      refine pk_loop (fun k i (s : Nat × (Nat → Bool) × WM) => m_X6_comes_l50 (fun x4' M' => m_X6_comes_l39 (nI b) (owI o) Q n x4' M') (nI b) (owI o) Q k (nI s.1) (nI i) s.2.2) (fun i s => s.1 ≤ 1 ∧ Fr S5470 M s.2.2 ∧ Mk (sN σ) s.2.1 s.2.2 ∧ (∀ x, p x = true → s.2.1 x = true) ∧ (∀ x, x < sN σ → s.2.1 x = true → Rch σ lm o a x) ∧ (s.1 = 0 → ∀ v x, v < i → s.2.1 v = true → (cst σ lm v x).isSome = true → ¬ o = some x → s.2.1 x = true) ∧ (s.1 = 1 → cnt p (sN σ) < cnt s.2.1 (sN σ))) (sN σ) 0 (0, p, M') (by omega) ⟨by show 0 ≤ 1; omega, f', mk, fun x hx => hx, i2, fun _ v x h => absurd h (by omega), fun z => by cases z⟩ ?_ ?_
      · intro k s ⟨j0, j1, j2, j3, j4, j5, j6⟩
        unfold m_X6_comes_l50
        rw [(fx j1).1.1]
        refine ⟨fun _ => ih s.1 s.2.1 s.2.2 j0 j1 j2 (j3 a i1) j4 (fun q v x hv => j5 q v x hv) (fun _ => by omega) (fun q => ?_), fun z => absurd (Int32.le_refl _) z⟩
        have := j6 q
        have := cnt_le s.2.1 (sN σ)
        omega
      · intro k i s hi ⟨j0, j1, j2, j3, j4, j5, j6⟩ ih2
        unfold m_X6_comes_l50
        rw [(fx j1).1.1]
        refine ⟨fun z => absurd z (nI_ge hi (by omega)), fun _ => ?_⟩
        refine pk_loop (fun k' j (t : Nat × (Nat → Bool) × WM) => m_X6_comes_l62 (fun x4' M' => m_X6_comes_l39 (nI b) (owI o) Q n x4' M') (fun x4' x5' M' => m_X6_comes_l50 (fun x4' M' => m_X6_comes_l39 (nI b) (owI o) Q n x4' M') (nI b) (owI o) Q k x4' x5' M') (nI b) (owI o) (nI i) Q k' (nI t.1) (nI j) t.2.2) (fun j t => t.1 ≤ 1 ∧ Fr S5470 M t.2.2 ∧ Mk (sN σ) t.2.1 t.2.2 ∧ (∀ x, p x = true → t.2.1 x = true) ∧ (∀ x, x < sN σ → t.2.1 x = true → Rch σ lm o a x) ∧ (t.1 = 0 → (∀ v x, v < i → t.2.1 v = true → (cst σ lm v x).isSome = true → ¬ o = some x → t.2.1 x = true) ∧ ∀ x, x < j → t.2.1 i = true → (cst σ lm i x).isSome = true → ¬ o = some x → t.2.1 x = true) ∧ (t.1 = 1 → cnt p (sN σ) < cnt t.2.1 (sN σ))) (sN σ) 0 s (by omega) ⟨j0, j1, j2, j3, j4, fun q => ⟨j5 q, fun x h => absurd h (by omega)⟩, j6⟩ ?_ ?_
        · intro k' t ⟨g0, g1, g2, g3, g4, g5, g6⟩
          unfold m_X6_comes_l62
          rw [(fx g1).1.1]
          refine ⟨fun _ z ez => ?_, fun z => absurd (Int32.le_refl _) z⟩
          rw [ez, nI_1]
          refine ih2 t ⟨g0, g1, g2, g3, g4, fun q v x hv h5 h6 h7 => ?_, g6⟩
          by_cases e : v = i
          · rw [e] at h5 h6; exact (g5 q).2 x (cst_u h6).2.1 h5 h6 h7
          · exact (g5 q).1 v x (by omega) h5 h6 h7
        · intro k' j t hj ⟨g0, g1, g2, g3, g4, g5, g6⟩ ih3
          obtain ⟨w2, s2⟩ := fx g1
          have nxt : (t.2.1 i = true → (cst σ lm i j).isSome = true → ¬ o = some j → t.2.1 j = true) → ∀ z : Int32, z = nI j + 1 → m_X6_comes_l62 (fun x4' M' => m_X6_comes_l39 (nI b) (owI o) Q n x4' M') (fun x4' x5' M' => m_X6_comes_l50 (fun x4' M' => m_X6_comes_l39 (nI b) (owI o) Q n x4' M') (nI b) (owI o) Q k x4' x5' M') (nI b) (owI o) (nI i) Q k' (nI t.1) z t.2.2 := fun q z ez => by
            rw [ez, nI_1]
            refine ih3 t ⟨g0, g1, g2, g3, g4, fun q0 => ⟨(g5 q0).1, fun x hx h5 h6 h7 => ?_⟩, g6⟩
            by_cases e : x = j
            · rw [e] at h6 h7 ⊢; exact q h5 h6 h7
            · exact (g5 q0).2 x (by omega) h5 h6 h7
          unfold m_X6_comes_l62
          rw [w2.1, nI_clamp (show i < 2 ^ 31 by omega), nI_clamp (show j < 2 ^ 31 by omega), g2 i hi, g2 j hj]
          refine ⟨fun z => absurd z (nI_ge hj (by omega)), fun _ => ⟨vin (by omega), bcs (fun hpi => ⟨vin (by omega), bcs (fun hpj => nxt fun _ _ _ => hpj) (fun hpj => oeq j hj (fun c => nxt fun _ _ q => absurd c q) (fun c => s_X6_isStep2 s2 ok hi hj (bcs (fun hc => ⟨vin (by omega), fun M14 e14 z ez => ?_⟩) (fun hc => nxt fun _ q _ => by rw [hc] at q; cases q))))⟩) (fun hpi z ez => ?_)⟩⟩
          · rw [ez, nI_1]
            have mo : ∀ x, t.2.1 x = true → setb t.2.1 j x = true := fun x hx => by unfold setb; split; rfl; exact hx
            refine ih3 (1, setb t.2.1 j, M14) ⟨by show 1 ≤ 1; omega, by rw [e14]; exact g1.PI rfl, fun u hu => ?_, fun x hx => mo x (g3 x hx), fun x hx q => ?_, fun z => (by cases z), fun _ => ?_⟩
            · show wI M14 5470 u = b2i (setb t.2.1 j u)
              rw [e14, wI_PI]
              unfold setb
              by_cases e : u = j
              · rw [if_pos ⟨rfl, e⟩, if_pos e]; rfl
              · rw [if_neg (fun z => e z.2), if_neg e]; exact g2 u hu
            · by_cases e : x = j
              · rw [e]; exact rch_s (g4 i hi hpi) hc c
              · have q : setb t.2.1 j x = true := q
                unfold setb at q; rw [if_neg e] at q; exact g4 x hx q
            · exact cnt_gt (fun k _ hk => mo k (g3 k hk)) hj (show (if j = j then true else t.2.1 j) = true from if_pos rfl) (by
                cases e : p j with
                | false => rfl
                | true => rw [g3 j e] at hpj; cases hpj)
          · rw [ez, nI_1]
            refine ih2 t ⟨g0, g1, g2, g3, g4, fun q v x hv h5 h6 h7 => ?_, g6⟩
            by_cases e : v = i
            · rw [e, hpi] at h5; cases h5
            · exact (g5 q).1 v x (by omega) h5 h6 h7
  refine pk_loop (fun k i M' => m_X6_comes_l3 (nI a) (nI b) (owI o) Q k (nI i) M') (fun i M' => Fr S5470 M M' ∧ Mk i (fun u => decide (u = a)) M') (sN σ) 0 M (by omega) ⟨Fr.rf, fun u h => absurd h (by omega)⟩ ?_ ?_
  · intro k M' ⟨q1, q2⟩
    unfold m_X6_comes_l3
    rw [(fx q1).1.1]
    refine ⟨fun _ => ⟨100, key 100 1 _ M' (by omega) q1 q2 (decide_eq_true rfl) (fun x _ q => ⟨0, of_decide_eq_true (p := x = a) q⟩) (fun z => by cases z) (fun z => by cases z) (fun _ => by omega)⟩, fun z => absurd (Int32.le_refl _) z⟩
  · intro k i M' hi ⟨q1, q2⟩ ih
    unfold m_X6_comes_l3
    rw [(fx q1).1.1, nI_clamp (show i < 2 ^ 31 by omega)]
    have go : ∀ v M7, v = b2i (decide (i = a)) → M7 = wPI M' 5470 i v → ∀ z : Int32, z = nI i + 1 → m_X6_comes_l3 (nI a) (nI b) (owI o) Q k z M7 := fun v M7 ev e7 z ez => by
      rw [ez, nI_1]
      refine ih M7 ⟨by rw [e7]; exact q1.PI rfl, fun u hu => ?_⟩
      rw [e7, wI_PI]
      by_cases e : u = i
      · rw [if_pos ⟨rfl, e⟩, ev, e]
      · rw [if_neg (fun z => e z.2)]; exact q2 u (by omega)
    refine ⟨fun z => absurd z (nI_ge hi (by omega)), fun _ => pk_eq i a (fun c => ⟨vin (by omega), fun M7 e7 => go _ M7 (by rw [decide_eq_true c]; decide) e7⟩) (fun c => ⟨vin (by omega), fun M7 e7 => go _ M7 (by rw [decide_eq_false c]; decide) e7⟩) rfl rfl⟩
def SWo (r k : Nat) : Prop := STA r k ∨ S5470 r k
theorem s_X6_without {σ : WS} {lm : Lam} {M : WM} {x y : Int32} {Q : Int64 → WM → Prop} (hW : WT σ M) (ok : wsOK σ) (hl : LawT lm M) (lo : lamOK lm) (h0 : ¬ VF σ x y → Q (-1) M) (h2 : ∀ a b, x = nI a → y = nI b → VF σ x y → (way σ lm a b).isSome = false → ∀ M', Fr SWo M M' → Q (-2) M') (h1 : ∀ a b, x = nI a → y = nI b → VF σ x y → (way σ lm a b).isSome = true → ∀ s M', isWO σ lm a b s → Fr SWo M M' → Q s M') : m_X6_without x y M Q := by
  have hs := ok.1
  refine s_X6_twoJ hW ok h0 (fun a b ha hb ex ey hV => ?_)
  have hh1 := h1 a b ex ey hV
  have hh2 := h2 a b ex ey hV
  subst ex ey
  refine s_X6_laysSteps hW ok hl lo fun M6 S6 f6 => ?_
  have w6 : WT σ M6 := hW.fr f6 (by unfold STA PWT; omega)
  have F6 : Fr SWo M M6 := f6.mono fun r k q => Or.inl q
  have wy := rch_way ok lo (b := b) ha
  have no : ¬ (used σ a = true ∧ used σ b = true ∧ Rch σ lm none a b) → (way σ lm a b).isSome = false := fun q => ts_nt' fun z => q (wy.mp z)
  refine s_X6_isUsed w6 ok ha (bcs (fun u1 => s_X6_isUsed w6 ok hb (bcs (fun u2 => ?_) (fun u2 => hh2 (no fun q => by rw [q.2.1] at u2; cases u2) M6 F6))) (fun u1 => hh2 (no fun q => by rw [q.1] at u1; cases u1) M6 F6))
  refine s_X6_comes (o := none) w6 S6 ok ha hb (fun w e => by cases e) (fun r M12 f12 => ie1 ?_) (fun r M12 f12 => ie0 (hh2 (no fun q => r q.2.2) M12 (F6.tr (f12.mono fun r k q => Or.inr q))))
  have hwy := wy.mpr ⟨u1, u2, r⟩
  have fx : ∀ {M'}, Fr S5470 M6 M' → WT σ M' ∧ StA σ lm M' := fun f => ⟨w6.fr f (by unfold S5470 PWT; omega), fun a b ha hb => (S6 a b ha hb).fr f (by unfold S5470; omega)⟩
  refine pk_loop (fun k i (s : Int64 × WM) => m_X6_without_l59 (nI a) (nI b) Q k s.1 (nI i) s.2) (fun i s => Fr S5470 M6 s.2 ∧ ∀ x, x < 64 → (lb s.1 x = true ↔ (x < i ∧ ¬ x = a ∧ ¬ x = b ∧ ¬ Rch σ lm (some x) a b))) (sN σ) 0 (0, M12) (by omega) ⟨f12, fun x hx => ⟨fun q => (by rw [lb_0] at q; cases q), fun q => absurd q.1 (by omega)⟩⟩ ?_ ?_
  · intro k s ⟨q1, q2⟩
    unfold m_X6_without_l59
    rw [(fx q1).1.1]
    exact ⟨fun _ => hh1 hwy s.1 s.2 q2 (F6.tr (q1.mono fun r k q => Or.inr q)), fun z => absurd (Int32.le_refl _) z⟩
  · intro k i s hi ⟨q1, q⟩ ih
    have no : ∀ M7, Fr S5470 M6 M7 → (i = a ∨ i = b ∨ Rch σ lm (some i) a b) → ∀ z : Int32, z = nI i + 1 → m_X6_without_l59 (nI a) (nI b) Q k s.1 z M7 := fun M7 f7 g z ez => by
      rw [ez, nI_1]
      refine ih (s.1, M7) ⟨f7, fun x hx => (q x hx).trans ⟨fun r => ⟨by omega, r.2⟩, fun r => ⟨?_, r.2⟩⟩⟩
      rcases Nat.lt_or_eq_of_le (Nat.le_of_lt_succ r.1) with c | c
      · exact c
      · rw [c] at r
        rcases g with g | g | g
        · exact absurd g r.2.1
        · exact absurd g r.2.2.1
        · exact absurd g r.2.2.2
    obtain ⟨w2, s2⟩ := fx q1
    unfold m_X6_without_l59
    rw [w2.1]
    refine ⟨fun z => absurd z (nI_ge hi (by omega)), fun _ => pk_eq i a (fun c => no s.2 q1 (Or.inl c)) (fun ca => pk_eq i b (fun c => no s.2 q1 (Or.inr (Or.inl c))) (fun cb => ?_) rfl rfl) rfl rfl⟩
    refine s_X6_comes (o := some i) w2 s2 ok ha hb (fun w e => by cases e; exact hi) (fun r M7 f7 => ie1 (no M7 (q1.tr f7) (Or.inr (Or.inr r)))) (fun hn M7 f7 => ie0 fun z ez y ey => ?_)
    rw [ez, ey, nI_1, show (1 : Int64) <<< ((nI i).toInt64 &&& 63) = bitL i from rfl]
    refine ih (_, M7) ⟨q1.tr f7, fun x hx => ?_⟩
    show lb (s.1 ||| bitL i) x = true ↔ _
    rw [lb_or, lb_bitL (by omega) hx]
    by_cases e : x = i
    · subst e
      rw [decide_eq_true rfl, Bool.or_true]
      exact ⟨fun _ => ⟨by omega, ca, cb, hn⟩, fun _ => rfl⟩
    · rw [decide_eq_false (fun z => e z.symm), Bool.or_false]
      exact (q x hx).trans ⟨fun r => ⟨by omega, r.2⟩, fun r => ⟨by omega, r.2⟩⟩
