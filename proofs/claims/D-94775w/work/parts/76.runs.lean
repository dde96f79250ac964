/-! the law's codes, run -/
def S5463 (r _k : Nat) : Prop := r = 5463
def rkT (o : Nat) (x y : Int32) : Option Int32 := if o ≤ 6 then reck o x y else some (b2i (cmpV o x y))
def cdAt (M : WM) (k : Nat) (cd : Cd) : Prop := ∀ i x, cd[i]? = some x → wI M 5458 (k + i) = cI x ∧ qOK x
theorem cdAt.l {M : WM} {k : Nat} {a b : Cd} (h : cdAt M k (a ++ b)) : cdAt M k a := fun i x hi => h i x (by
  have hl : i < a.length := by
    rcases Nat.lt_or_ge i a.length with c | c
    · exact c
    · rw [List.getElem?_eq_none c] at hi; cases hi
  rw [List.getElem?_append_left hl]; exact hi)
theorem cdAt.r {M : WM} {k : Nat} {a b : Cd} (h : cdAt M k (a ++ b)) : cdAt M (k + a.length) b := fun i x hi => by
  have := h (a.length + i) x (by rw [List.getElem?_append_right (by omega), show a.length + i - a.length = i by omega]; exact hi)
  rw [show k + a.length + i = k + (a.length + i) by omega]; exact this
def Go (to : Nat) (Q : Int32 → WM → Prop) (n h k : Nat) (M : WM) : Prop := m_X6_comesTo_l16 (nI to) 0 Q n (nI h) (nI k) M
/-- goes on with one value more -/
def Gv (M0 : WM) (to : Nat) (Q : Int32 → WM → Prop) (h k : Nat) (M : WM) (v : Int32) : Prop := ∀ n M', to - k < n → Fr S5463 M0 M' → (∀ i, i < h → wI M' 5463 i = wI M 5463 i) → wI M' 5463 h = v → Go to Q n (h + 1) k M'
def Ref (M0 : WM) (Q : Int32 → WM → Prop) : Prop := ∀ M', Fr S5463 M0 M' → Q 0 M'
def Rn (M0 : WM) (F : Nat → Int32) (k0 : Nat) (cd : Cd) (o : Option Int32) : Prop := ∀ (to : Nat) (Q : Int32 → WM → Prop) (h n : Nat) (M : WM), cdAt M0 k0 cd → k0 + cd.length ≤ to → to ≤ 160 → h + cd.length ≤ 170 → Fr S5463 M0 M → to - k0 < n → (∀ v, o = some v → Gv M0 to Q h (k0 + cd.length) M v) → (o = none → Ref M0 Q) → Go to Q n h k0 M
theorem Rn.one {M0 : WM} {F : Nat → Int32} (hF : ∀ k, k < 9 → wI M0 5464 k = F k) {o i : Nat} {k0 : Nat} {v : Int32} (h : (o = 0 ∧ v = nI i) ∨ (o = 1 ∧ i < 9 ∧ v = F i)) : Rn M0 F k0 [(o, i)] (some v) := fun to Q h' n M hc h1 h2 h3 f hn hv _ => by
  have h1 : k0 + 1 ≤ to := h1
  have h3 : h' + 1 ≤ 170 := h3
  obtain ⟨m, rfl⟩ : ∃ m, n = m + 1 := ⟨n - 1, by omega⟩
  obtain ⟨e1, e2⟩ := hc 0 (o, i) rfl
  have e1 : wI M 5458 k0 = cI (o, i) := by rw [f.I (by unfold S5463; omega)]; exact e1
  have go : ∀ M7, M7 = wPI M 5463 h' v → ∀ z8 : Int32, z8 = nI h' + 1 → m_X6_comesTo_l16 (nI to) 0 Q m z8 (nI (k0 + 1)) M7 := fun M7 e7 z8 e8 => by
    rw [e8, nI_1]
    exact hv v rfl m M7 (by show to - (k0 + 1) < m; omega) (by rw [e7]; exact f.PI rfl) (fun j hj => by rw [e7, wI_n _ _ (by omega)]) (by rw [e7, wI_s])
  unfold Go m_X6_comesTo_l16
  refine ⟨fun z => absurd z (nI_ge (by omega) (by omega)), fun _ => ⟨vin (by omega), fun z4 e4 => ⟨vin (by omega), fun z6 e6 z7 e7 => ?_⟩⟩⟩
  rw [nI_clamp (by omega), e1, cI_div e2] at e4
  rw [nI_clamp (by omega), e1, cI_mod e2] at e6
  rw [nI_1] at e7
  rw [e4, e6, e7]
  have hh : (nI h').toNatClampNeg = h' := nI_clamp (by omega)
  rcases h with ⟨rfl, rfl⟩ | ⟨rfl, hi, rfl⟩
  · refine ⟨fun _ => ⟨fun _ => ⟨vin (by omega), fun M7 g7 => go M7 (by rw [hh] at g7; exact g7)⟩, fun z => absurd rfl z⟩, fun z => absurd rfl z⟩
  · refine ⟨fun z => absurd z (show ¬ nI 1 = 0 by decide), fun _ => ⟨fun _ => ⟨fun z => absurd z (show ¬ nI 1 = 0 by decide), fun _ => ⟨vin hi, vin (by omega), fun M7 g7 => go M7 ?_⟩⟩, fun z => absurd rfl z⟩⟩
    have hi2 : (nI ((1, i) : Nat × Nat).2).toNatClampNeg = i := nI_clamp (by show i < 2 ^ 31; omega)
    rw [hh, hi2, f.I (by unfold S5463; omega), hF i hi] at g7
    exact g7
theorem t_reckon {o : Nat} {x y v : Int32} {Q : Int32 → Prop} (h1 : 2 ≤ o) (h2 : o ≤ 9) (hv : rkT o x y = some v) (h : Q v) : m_X6_reckon (nI o) x y Q := by
  have k : ∀ u, rkT o x y = some u → Q u := fun u e => by rw [hv] at e; cases e; exact h
  have y0 : (o = 5 ∨ o = 6) → ¬ y = 0 := fun ho e => by
    rcases ho with rfl | rfl
    · have : rkT 5 x y = none := by unfold rkT reck; rw [if_pos (by omega), if_neg (by omega), if_neg (by omega), if_neg (by omega), if_pos e]
      rw [this] at hv; cases hv
    · have : rkT 6 x y = none := by unfold rkT reck; rw [if_pos (by omega), if_neg (by omega), if_neg (by omega), if_neg (by omega), if_pos e]
      rw [this] at hv; cases hv
  unfold m_X6_reckon
  refine pk_eq o 2 (fun c => k _ (by subst c; rfl)) (fun c2 => pk_eq o 3 (fun c => k _ (by subst c; rfl)) (fun c3 => pk_eq o 4 (fun c => k _ (by subst c; rfl)) (fun c4 => pk_eq o 5 (fun c => ⟨y0 (Or.inl c), k _ ?_⟩) (fun c5 => pk_eq o 6 (fun c => ⟨y0 (Or.inr c), k _ ?_⟩) (fun c6 => pk_eq o 7 (fun c => ⟨fun q => k 0 ?_, fun q => k 1 ?_⟩) (fun c7 => pk_eq o 8 (fun c => ⟨fun q => k 0 ?_, fun q => k 1 ?_⟩) (fun c8 => ⟨fun q => k 1 ?_, fun q => k 0 ?_⟩) rfl rfl) rfl rfl) rfl rfl) rfl rfl) rfl rfl) rfl rfl) rfl rfl
  · have := y0 (Or.inl c); subst c; unfold rkT reck; rw [if_pos (by omega), if_neg (by omega), if_neg (by omega), if_neg (by omega), if_neg this, if_pos rfl]
  · have := y0 (Or.inr c); subst c; unfold rkT reck; rw [if_pos (by omega), if_neg (by omega), if_neg (by omega), if_neg (by omega), if_neg this, if_neg (by omega)]
  · subst c; unfold rkT cmpV; rw [if_neg (by omega), if_pos rfl, decide_eq_false (by rw [i_lt]; rw [i_le] at q; omega)]; rfl
  · subst c; unfold rkT cmpV; rw [if_neg (by omega), if_pos rfl, decide_eq_true (by rw [i_lt]; rw [i_le] at q; omega)]; rfl
  · subst c; unfold rkT cmpV; rw [if_neg (by omega), if_neg (by omega), if_pos rfl, decide_eq_false (by rw [i_lt]; rw [i_le] at q; omega)]; rfl
  · subst c; unfold rkT cmpV; rw [if_neg (by omega), if_neg (by omega), if_pos rfl, decide_eq_true (by rw [i_lt]; rw [i_le] at q; omega)]; rfl
  · have : o = 9 := by omega
    subst this; unfold rkT cmpV; rw [if_neg (by omega), if_neg (by omega), if_neg (by omega), decide_eq_true q]; rfl
  · have : o = 9 := by omega
    subst this; unfold rkT cmpV; rw [if_neg (by omega), if_neg (by omega), if_neg (by omega), decide_eq_false q]; rfl
def biT (o : Nat) (f g : Option Int32) : Option Int32 := match f, g with
  | some x, some y => rkT o x y
  | _, _ => none
theorem Rn.two {M0 : WM} {F : Nat → Int32} {o k0 : Nat} {a b : Cd} {x y : Option Int32} (ho : 2 ≤ o ∧ o ≤ 9) (ha : Rn M0 F k0 a x) (hb : Rn M0 F (k0 + a.length) b y) : Rn M0 F k0 (a ++ b ++ [(o, 0)]) (biT o x y) := fun to Q h n M hc h1 h2 h3 f hn hv hr => by
  have hlen : (a ++ b ++ [(o, 0)]).length = a.length + b.length + 1 := by rw [List.length_append, List.length_append]; rfl
  rw [hlen] at h1 h3 hv
  have hab : (a ++ b).length = a.length + b.length := List.length_append
  refine ha to Q h n M hc.l.l (by omega) h2 (by omega) f hn (fun vx ex n1 M1 hn1 f1 o1 g1 => ?_) (fun ex => hr (by rw [ex]; rfl))
  refine hb to Q (h + 1) n1 M1 hc.l.r (by omega) h2 (by omega) f1 hn1 (fun vy ey n2 M2 hn2 f2 o2 g2 => ?_) (fun ey => hr (by rw [ex, ey]; rfl))
  have gx : wI M2 5463 h = vx := (o2 h (by omega)).trans g1
  obtain ⟨e1, e2⟩ := hc.r 0 (o, 0) rfl
  rw [hab, show k0 + (a.length + b.length) + 0 = k0 + a.length + b.length by omega] at e1
  have e1 : wI M2 5458 (k0 + a.length + b.length) = cI (o, 0) := by rw [f2.I (by unfold S5463; omega)]; exact e1
  obtain ⟨m, rfl⟩ : ∃ m, n2 = m + 1 := ⟨n2 - 1, by omega⟩
  unfold Go m_X6_comesTo_l16
  refine ⟨fun z => absurd z (nI_ge (by omega) (by omega)), fun _ => ⟨vin (by omega), fun z4 e4 => ⟨vin (by omega), fun z6 e6 z7 e7 => ?_⟩⟩⟩
  rw [nI_clamp (by omega), e1, cI_div e2] at e4
  rw [nI_1] at e7
  rw [e4, e7]
  have j203 : ∀ v, rkT o vx vy = some v → m_X6_comesTo_j203 (fun x3' x5' M' => m_X6_comesTo_l16 (nI to) 0 Q m x3' x5' M') (nI to) (nI (h + 1)) 0 (nI (k0 + a.length + b.length + 1)) (nI o) Q M2 := fun v ev => by
    unfold m_X6_comesTo_j203
    rw [show nI (h + 1) - 1 = nI h from nI_pred h, nI_clamp (show h < 2 ^ 31 by omega), nI_clamp (show h + 1 < 2 ^ 31 by omega), gx, g2]
    refine ⟨vin (by omega), vin (by omega), t_reckon ho.1 ho.2 ev ⟨vin (by omega), fun M5 e5 => ?_⟩⟩
    have := hv v (by rw [ex, ey]; exact ev) m M5 (by omega) (by rw [e5]; exact f2.PI rfl) (fun i hi => by rw [e5, wI_n _ _ (by omega), o2 i (by omega), o1 i hi]) (by rw [e5, wI_s])
    rw [show k0 + (a.length + b.length + 1) = k0 + a.length + b.length + 1 by omega] at this
    exact this
  have j192 : (o = 5 ∨ o = 6) → m_X6_comesTo_j192 (fun x3' x5' M' => m_X6_comesTo_l16 (nI to) 0 Q m x3' x5' M') (nI to) (nI (h + 1)) 0 (nI (k0 + a.length + b.length + 1)) (nI o) Q M2 := fun ho56 => by
    unfold m_X6_comesTo_j192
    rw [nI_clamp (show h + 1 < 2 ^ 31 by omega), g2]
    refine ⟨vin (by omega), fun q => ?_, fun q => ?_⟩
    · refine hr ?_ M2 f2
      rw [ex, ey, q]
      rcases ho56 with rfl | rfl <;> rfl
    · rcases ho56 with rfl | rfl
      · exact j203 _ (by unfold rkT reck; rw [if_pos (by omega), if_neg (by omega), if_neg (by omega), if_neg (by omega), if_neg q, if_pos rfl])
      · exact j203 _ (by unfold rkT reck; rw [if_pos (by omega), if_neg (by omega), if_neg (by omega), if_neg (by omega), if_neg q, if_neg (by omega)])
  have hd : ¬ (o = 5 ∨ o = 6) → ∃ v, rkT o vx vy = some v := fun q => by
    have : o = 2 ∨ o = 3 ∨ o = 4 ∨ o = 7 ∨ o = 8 ∨ o = 9 := by omega
    rcases this with rfl | rfl | rfl | rfl | rfl | rfl <;> exact ⟨_, rfl⟩
  refine pk_eq o 0 (fun c => absurd c (by omega)) (fun _ => pk_eq o 1 (fun c => absurd c (by omega)) (fun _ => pk_eq o 10 (fun c => absurd c (by omega)) (fun _ => pk_eq o 11 (fun c => absurd c (by omega)) (fun _ => pk_eq o 12 (fun c => absurd c (by omega)) (fun _ z13 e13 => ?_) rfl rfl) rfl rfl) rfl rfl) rfl rfl) rfl rfl
  rw [show nI (h + 1 + 1) - 1 = nI (h + 1) from nI_pred (h + 1)] at e13
  rw [e13]
  refine pk_eq o 5 (fun c => j192 (Or.inl c)) (fun c5 => pk_eq o 6 (fun c => j192 (Or.inr c)) (fun c6 => ?_) rfl rfl) rfl rfl
  obtain ⟨v, ev⟩ := hd (by omega)
  exact j203 v ev
theorem biT_reck {o : Nat} (ho : o ≤ 6) (x y : Option Int32) : biT o x y = (match x, y with
  | some a, some b => reck o a b
  | _, _ => none) := by
  cases x with
  | none => rfl
  | some a =>
    cases y with
    | none => rfl
    | some b => show rkT o a b = reck o a b; unfold rkT; rw [if_pos ho]
theorem Rn_ch {X : TX} {M0 : WM} {F : Nat → Int32} {sg : Nat → Option Nat} (hsg : ∀ c o, sg c = some o → 2 ≤ o ∧ o ≤ 6) {it : Nat → Rs SR} (hi : ∀ p r, it p = .ok r → ∀ k0, Rn M0 F k0 r.1 (r.2.1 F)) : ∀ (k : Nat) (a r : SR), (∀ k0, Rn M0 F k0 a.1 (a.2.1 F)) → pCh X sg it k a = .ok r → ∀ k0, Rn M0 F k0 r.1 (r.2.1 F)
  | 0, a, r, ha, h => by cases h; exact ha
  | k + 1, a, r, ha, h => by
    unfold pCh at h
    cases e : sg (ch X a.2.2) with
    | none => rw [e] at h; cases h; exact ha
    | some o =>
      rw [e] at h
      cases e2 : it (a.2.2 + 1) with
      | error x => rw [e2] at h; cases h
      | ok b =>
        rw [e2] at h
        obtain ⟨o1, o2⟩ := hsg _ _ e
        refine Rn_ch hsg hi k (cmb o a b) r (fun k0 => ?_) h
        have := Rn.two (o := o) ⟨o1, by omega⟩ (ha k0) (hi _ _ e2 (k0 + a.1.length))
        rw [biT_reck o2] at this
        exact this
theorem Rn_fac {X : TX} {M0 : WM} {F : Nat → Int32} (hF : ∀ k, k < 9 → wI M0 5464 k = F k) {S : Nat → Nat → Rs SR} {op : Nat} (hS : ∀ p r, S (op + 1) p = .ok r → ∀ k0, Rn M0 F k0 r.1 (r.2.1 F)) {p : Nat} {r : SR} (h : pFac X S op p = .ok r) : ∀ k0, Rn M0 F k0 r.1 (r.2.1 F) := fun k0 => by
  unfold pFac at h
  split at h
  · split at h
    · cases h
    · cases e : S (op + 1) (p + 1) with
      | error x => rw [e] at h; cases h
      | ok a =>
        rw [e] at h
        have h : (if ch X a.2.2 = 93 then Except.ok (a.1, a.2.1, a.2.2 + 1) else Except.error (1, a.2.2) : Rs SR) = .ok r := h
        split at h
        · cases h; exact hS _ _ e k0
        · cases h
  · split at h
    · cases e : pNum X 5 p 0 with
      | error x => rw [e] at h; cases h
      | ok q => rw [e] at h; cases h; exact Rn.one hF (Or.inl ⟨rfl, rfl⟩)
    · cases e : ltrO (ch X p) with
      | none => rw [e] at h; cases h
      | some i =>
        rw [e] at h; cases h
        have hi : i < 9 := by
          unfold ltrO at e
          repeat' split at e
          all_goals first | (cases e; done) | (cases e; omega)
        exact Rn.one hF (Or.inr ⟨rfl, hi, rfl⟩)
theorem Rn_sum {X : TX} {M0 : WM} {F : Nat → Int32} (hF : ∀ k, k < 9 → wI M0 5464 k = F k) : ∀ (d op p : Nat) (r : SR), pSum X d op p = .ok r → ∀ k0, Rn M0 F k0 r.1 (r.2.1 F)
  | 0, _, _, _, h => by cases h
  | d + 1, op, p, r, h => by
    unfold pSum at h
    have hfac : ∀ p r, pFac X (pSum X d) op p = .ok r → ∀ k0, Rn M0 F k0 r.1 (r.2.1 F) := fun p r e => Rn_fac hF (fun p r e => Rn_sum hF d (op + 1) p r e) e
    have hprd : ∀ p r, pPrd X (pSum X d) op p = .ok r → ∀ k0, Rn M0 F k0 r.1 (r.2.1 F) := fun p r e => by
      unfold pPrd at e
      cases e2 : pFac X (pSum X d) op p with
      | error x => rw [e2] at e; cases e
      | ok a => rw [e2] at e; exact Rn_ch (fun c o q => ⟨by have := sg_mul q; omega, by have := sg_mul q; omega⟩) hfac X.2 a r (hfac _ _ e2) e
    cases e : pPrd X (pSum X d) op p with
    | error x => rw [e] at h; cases h
    | ok a => rw [e] at h; exact Rn_ch (fun c o q => by have := sg_add q; omega) hprd X.2 a r (hprd _ _ e) h
/-! conditions -/
def oB (o : Option Bool) : Option Int32 := o.map b2i
theorem Rn.no {M0 : WM} {F : Nat → Int32} {k0 : Nat} {a : Cd} {x : Option Bool} (ha : Rn M0 F k0 a (oB x)) : Rn M0 F k0 (a ++ [(10, 0)]) (oB (x.map (fun b => !b))) := fun to Q h n M hc h1 h2 h3 f hn hv hr => by
  have hlen : (a ++ [(10, 0)]).length = a.length + 1 := by rw [List.length_append]; rfl
  rw [hlen] at h1 h3 hv
  refine ha to Q h n M hc.l (by omega) h2 (by omega) f hn (fun v ev n1 M1 hn1 f1 o1 g1 => ?_) (fun ex => hr (by cases x with
    | none => rfl
    | some b => cases ex))
  cases x with
  | none => cases ev
  | some b =>
    have ev : b2i b = v := Option.some.inj ev
    obtain ⟨e1, e2⟩ := hc.r 0 (10, 0) rfl
    have e1 : wI M1 5458 (k0 + a.length) = cI (10, 0) := by rw [f1.I (by unfold S5463; omega)]; exact e1
    obtain ⟨m, rfl⟩ : ∃ m, n1 = m + 1 := ⟨n1 - 1, by omega⟩
    unfold Go m_X6_comesTo_l16
    refine ⟨fun z => absurd z (nI_ge (by omega) (by omega)), fun _ => ⟨vin (by omega), fun z4 e4 => ⟨vin (by omega), fun z6 e6 z7 e7 => ?_⟩⟩⟩
    rw [nI_clamp (by omega), e1, cI_div e2] at e4
    rw [nI_1] at e7
    rw [e4, e7]
    refine ⟨fun z => absurd z (by decide), fun _ => ⟨fun z => absurd z (by decide), fun _ => ⟨fun _ => ?_, fun z => absurd rfl z⟩⟩⟩
    rw [show nI (h + 1) - 1 = nI h from nI_pred h, nI_clamp (show h < 2 ^ 31 by omega), g1]
    refine ⟨vin (by omega), vin (by omega), fun z18 e18 M19 e19 => ?_⟩
    have e18 : z18 = b2i (!b) := by rw [e18, ← ev]; cases b <;> decide
    rw [e18] at e19
    exact hv _ rfl m M19 (by show to - (k0 + (a.length + 1)) < m; omega) (by rw [e19]; exact f1.PI rfl) (fun i hi => by rw [e19, wI_n _ _ (by omega), o1 i hi]) (by rw [e19, wI_s])
def jO (o : Nat) (x y : Option Bool) : Option Bool := match x with
  | none => none
  | some u => if u = decide (o = 12) then some u else y
theorem Rn.jmp {M0 : WM} {F : Nat → Int32} {o k0 : Nat} {a b : Cd} {x y : Option Bool} (ho : o = 11 ∨ o = 12) (ha : Rn M0 F k0 a (oB x)) (hb : Rn M0 F (k0 + a.length + 1) b (oB y)) : Rn M0 F k0 (a ++ [(o, k0 + a.length + 1 + b.length)] ++ b) (oB (jO o x y)) := fun to Q h n M hc h1 h2 h3 f hn hv hr => by
  have hlen : (a ++ [(o, k0 + a.length + 1 + b.length)] ++ b).length = a.length + 1 + b.length := by rw [List.length_append, List.length_append]; rfl
  have hla : (a ++ [(o, k0 + a.length + 1 + b.length)]).length = a.length + 1 := by rw [List.length_append]; rfl
  rw [hlen] at h1 h3 hv
  refine ha to Q h n M hc.l.l (by omega) h2 (by omega) f hn (fun v ev n1 M1 hn1 f1 o1 g1 => ?_) (fun ex => hr (by cases x with
    | none => rfl
    | some b => cases ex))
  cases x with
  | none => cases ev
  | some u =>
    have ev : b2i u = v := Option.some.inj ev
    obtain ⟨e1, e2⟩ := hc.l.r 0 (o, k0 + a.length + 1 + b.length) rfl
    have e1 : wI M1 5458 (k0 + a.length) = cI (o, k0 + a.length + 1 + b.length) := by rw [f1.I (by unfold S5463; omega)]; exact e1
    obtain ⟨m, rfl⟩ : ∃ m, n1 = m + 1 := ⟨n1 - 1, by omega⟩
    have hv : ∀ w, oB (if u = decide (o = 12) then some u else y) = some w → Gv M0 to Q h (k0 + (a.length + 1 + b.length)) M w := hv
    have hr : oB (if u = decide (o = 12) then some u else y) = none → Ref M0 Q := hr
    have take : u = decide (o = 12) → ∀ z3 : Int32, z3 = 0 + nI (k0 + a.length + 1 + b.length) → m_X6_comesTo_l16 (nI to) 0 Q m (nI (h + 1)) z3 M1 := fun hu z3 e3 => by
      rw [e3, Int32.zero_add]
      have := hv (b2i u) (by rw [if_pos hu]; rfl) m M1 (by omega) f1 o1 (g1.trans ev.symm)
      rw [show k0 + (a.length + 1 + b.length) = k0 + a.length + 1 + b.length by omega] at this
      exact this
    have pass : ¬ u = decide (o = 12) → ∀ z2 : Int32, z2 = nI (h + 1) - 1 → m_X6_comesTo_l16 (nI to) 0 Q m z2 (nI (k0 + a.length + 1)) M1 := fun hu z2 e2 => by
      rw [e2, nI_pred]
      rw [if_neg hu] at hv hr
      refine hb to Q h m M1 (by have := hc.r; rw [hla] at this; exact this) (by omega) h2 (by omega) f1 (by omega) (fun w ew n2 M2 hn2 f2 o2 g2 => ?_) hr
      have := hv w ew n2 M2 (by omega) f2 (fun i hi => (o2 i hi).trans (o1 i hi)) g2
      rw [show k0 + (a.length + 1 + b.length) = k0 + a.length + 1 + b.length by omega] at this
      exact this
    unfold Go m_X6_comesTo_l16
    refine ⟨fun z => absurd z (nI_ge (by omega) (by omega)), fun _ => ⟨vin (by omega), fun z4 e4 => ⟨vin (by omega), fun z6 e6 z7 e7 => ?_⟩⟩⟩
    rw [nI_clamp (by omega), e1, cI_div e2] at e4
    rw [nI_clamp (by omega), e1, cI_mod e2] at e6
    rw [nI_1] at e7
    rw [e4, e6, e7]
    have eh : nI (h + 1) - 1 = nI h := nI_pred h
    have gv : wI M1 5463 (nI h).toNatClampNeg = b2i u := by rw [nI_clamp (by omega), g1, ev]
    have j135 : m_X6_comesTo_j135 (fun x3' x5' M' => m_X6_comesTo_l16 (nI to) 0 Q m x3' x5' M') (nI to) (nI (h + 1)) 0 (nI (k0 + a.length + 1)) (nI o) (nI (k0 + a.length + 1 + b.length)) Q M1 := by
      unfold m_X6_comesTo_j135 m_X6_comesTo_j155
      rw [eh, gv, ← eh]
      refine ⟨by rw [eh]; exact vin (by omega), pk_eq o 12 (fun c => ⟨fun q => take ?_, fun q => pass ?_⟩) (fun c => ⟨fun q => take ?_, fun q => pass ?_⟩) rfl rfl⟩
      · rw [decide_eq_true c]; rw [b2i_1] at q; exact q
      · rw [decide_eq_true c]; rw [b2i_1] at q; exact q
      · rw [decide_eq_false c]; rw [b2i_0] at q; exact q
      · rw [decide_eq_false c]; rw [b2i_0] at q; exact q
    rcases ho with rfl | rfl
    · exact ⟨fun z => absurd z (show ¬ nI 11 = 0 by decide), fun _ => ⟨fun z => absurd z (show ¬ nI 11 = 1 by decide), fun _ => ⟨fun z => absurd z (show ¬ nI 11 = 10 by decide), fun _ => ⟨fun _ => j135, fun z => absurd rfl z⟩⟩⟩⟩
    · exact ⟨fun z => absurd z (show ¬ nI 12 = 0 by decide), fun _ => ⟨fun z => absurd z (show ¬ nI 12 = 1 by decide), fun _ => ⟨fun z => absurd z (show ¬ nI 12 = 10 by decide), fun _ => ⟨fun z => absurd z (show ¬ nI 12 = 11 by decide), fun _ => ⟨fun _ => j135, fun z => absurd rfl z⟩⟩⟩⟩⟩
/-- what a condition's codes come to, from where they begin -/
def RnC (M0 : WM) (F : Nat → Int32) (a : Nat) (r : CR) : Prop := Rn M0 F a r.1 (oB (r.2.1 F))
theorem RnC_J {X : TX} {M0 : WM} {F : Nat → Int32} {c o a : Nat} (ho : o = 11 ∨ o = 12) {it : Nat → Nat → Rs CR} (hi : ∀ a p r, it a p = .ok r → RnC M0 F a r) : ∀ (k : Nat) (r r' : CR), RnC M0 F a r → pJ X c o it a k r = .ok r' → RnC M0 F a r'
  | 0, r, r', hr, h => by cases h; exact hr
  | k + 1, r, r', hr, h => by
    unfold pJ at h
    split at h
    · cases e : it (a + r.1.length + 1) (r.2.2 + 1) with
      | error x => rw [e] at h; cases h
      | ok b =>
        rw [e] at h
        exact RnC_J ho hi k (jmb o a r b) r' (Rn.jmp ho hr (hi _ _ _ e)) h
    · cases h; exact hr
theorem RnC_cmp {X : TX} {M0 : WM} {F : Nat → Int32} (hF : ∀ k, k < 9 → wI M0 5464 k = F k) {op p a : Nat} {r : CR} (h : pCmp X op p = .ok r) : RnC M0 F a r := by
  unfold pCmp at h
  cases e : pSum X 7 op p with
  | error x => rw [e] at h; cases h
  | ok s =>
    rw [e] at h
    have h : (match cmpS (ch X s.2.2) with
      | none => Except.error (1, s.2.2)
      | some o => match pSum X 7 op (s.2.2 + 1) with
        | .error e => .error e
        | .ok b => .ok (s.1 ++ b.1 ++ [(o, 0)], bc o s.2.1 b.2.1, b.2.2) : Rs CR) = .ok r := h
    cases e2 : cmpS (ch X s.2.2) with
    | none => rw [e2] at h; cases h
    | some o =>
      rw [e2] at h
      cases e3 : pSum X 7 op (s.2.2 + 1) with
      | error x => rw [e3] at h; cases h
      | ok b =>
        rw [e3] at h; cases h
        have ho : 7 ≤ o ∧ o ≤ 9 := by
          unfold cmpS at e2
          repeat' split at e2
          all_goals first | (cases e2; done) | (cases e2; omega)
        have := Rn.two (o := o) ⟨by omega, ho.2⟩ (Rn_sum hF 7 op p s e a) (Rn_sum hF 7 op _ b e3 (a + s.1.length))
        have e9 : biT o (s.2.1 F) (b.2.1 F) = oB (bc o s.2.1 b.2.1 F) := by
          unfold bc
          cases s.2.1 F with
          | none => rfl
          | some x =>
            cases b.2.1 F with
            | none => rfl
            | some y => show rkT o x y = some (b2i (cmpV o x y)); unfold rkT; rw [if_neg (by omega)]
        rw [e9] at this
        exact this
theorem RnC_pcs {X : TX} {M0 : WM} {F : Nat → Int32} {P : Nat → Nat → Nat → Rs CR} {op : Nat} (hP : ∀ a p r, P a op p = .ok r → RnC M0 F a r) {a p : Nat} {r : CR} (h : pPcs X P a op p = .ok r) : RnC M0 F a r := by
  unfold pPcs at h
  cases e : P a op p with
  | error x => rw [e] at h; cases h
  | ok q => rw [e] at h; exact RnC_J (Or.inl rfl) (fun a p r e => hP a p r e) _ _ _ (hP _ _ _ e) h
theorem RnC_par {X : TX} {M0 : WM} {F : Nat → Int32} {P : Nat → Nat → Nat → Rs CR} {op : Nat} (hP : ∀ a p r, P a (op + 1) p = .ok r → RnC M0 F a r) {a p : Nat} {r : CR} (h : pPar X P a op p = .ok r) : RnC M0 F a r := by
  unfold pPar at h
  split at h
  · cases h
  · cases e : pPcs X P a (op + 1) (p + 1) with
    | error x => rw [e] at h; cases h
    | ok r0 =>
      rw [e] at h
      have h : (match pJ X 124 12 (fun a' p' => pPcs X P a' (op + 1) p') a X.2 r0 with
        | .error e => .error e
        | .ok r => if ch X r.2.2 = 41 then .ok (r.1, r.2.1, r.2.2 + 1) else .error (1, r.2.2) : Rs CR) = .ok r := h
      cases e2 : pJ X 124 12 (fun a' p' => pPcs X P a' (op + 1) p') a X.2 r0 with
      | error x => rw [e2] at h; cases h
      | ok r1 =>
        rw [e2] at h
        have h : (if ch X r1.2.2 = 41 then .ok (r1.1, r1.2.1, r1.2.2 + 1) else .error (1, r1.2.2) : Rs CR) = .ok r := h
        split at h
        · cases h
          have := RnC_J (M0 := M0) (F := F) (Or.inr rfl) (fun a p r e => RnC_pcs hP e) _ _ _ (RnC_pcs hP e) e2
          exact this
        · cases h
theorem RnC_pie {X : TX} {M0 : WM} {F : Nat → Int32} (hF : ∀ k, k < 9 → wI M0 5464 k = F k) : ∀ (d a op p : Nat) (r : CR), pPie X d a op p = .ok r → RnC M0 F a r
  | 0, _, _, _, _, h => by cases h
  | d + 1, a, op, p, r, h => by
    unfold pPie at h
    split at h
    · split at h
      · cases h
      · cases e : pPie X d a (op + 1) (p + 1) with
        | error x => rw [e] at h; cases h
        | ok q => rw [e] at h; cases h; exact Rn.no (RnC_pie hF d a (op + 1) (p + 1) q e)
    · split at h
      · exact RnC_par (fun a p r e => RnC_pie hF d a (op + 1) p r e) h
      · exact RnC_cmp hF h
/-- what a law says of a change -/
def clN (o : Option Int32) : Nat := match o with
  | none => 1
  | some v => if v.toInt < 1 then 1 else if 99 < v.toInt then 99 else v.toInt.toNat
def evL (F : Nat → Int32) : List Cls → Option Nat → Option Nat
  | [], c => some (c.getD 1)
  | q :: L, c => if q.1 = 99 ∧ c.isSome = true then evL F L c else if q.2.2.2 F = some true then (if q.1 = 110 then none else evL F L (some (clN (q.2.1.2 F)))) else evL F L c
def lamL (L : List Cls) : Lam := fun F => evL F L none
theorem clN_b (o : Option Int32) : 1 ≤ clN o ∧ clN o ≤ 99 := by
  unfold clN
  cases o with
  | none => show 1 ≤ 1 ∧ 1 ≤ 99; omega
  | some v => dsimp only; split <;> (try split) <;> omega
theorem evL_b {F : Nat → Int32} : ∀ {L : List Cls} {c : Option Nat} {x : Nat}, (∀ y, c = some y → 1 ≤ y ∧ y ≤ 99) → evL F L c = some x → 1 ≤ x ∧ x ≤ 99
  | [], c, x, hc, h => by
    cases c with
    | none => cases h; show 1 ≤ 1 ∧ 1 ≤ 99; omega
    | some y => cases h; exact hc _ rfl
  | q :: L, c, x, hc, h => by
    unfold evL at h
    split at h
    · exact evL_b hc h
    · split at h
      · split at h
        · cases h
        · exact evL_b (fun y e => by cases e; exact clN_b _) h
      · exact evL_b hc h
theorem lamL_ok (L : List Cls) : lamOK (lamL L) := fun F c h => evL_b (fun y e => by cases e) h
/-- each clause's codes stand for what it means -/
def gdL (M0 : WM) (F : Nat → Int32) : Nat → List Cls → Prop
  | _, [] => True
  | a, q :: L => (q.1 = 99 → Rn M0 F a q.2.1.1 (q.2.1.2 F)) ∧ Rn M0 F (a + q.2.1.1.length) q.2.2.1 (oB (q.2.2.2 F)) ∧ (q.1 = 110 ∨ q.1 = 99) ∧ gdL M0 F (a + clL q) L
theorem gdL.app {M0 : WM} {F : Nat → Int32} : ∀ {L : List Cls} {a : Nat} {q : Cls}, gdL M0 F a L → ((q.1 = 99 → Rn M0 F (a + totL L) q.2.1.1 (q.2.1.2 F)) ∧ Rn M0 F (a + totL L + q.2.1.1.length) q.2.2.1 (oB (q.2.2.2 F)) ∧ (q.1 = 110 ∨ q.1 = 99)) → gdL M0 F a (L ++ [q])
  | [], a, q, _, e => ⟨e.1, e.2.1, e.2.2, trivial⟩
  | x :: L, a, q, h, e => by
    obtain ⟨h1, h2, h3, h4⟩ := h
    refine ⟨h1, h2, h3, h4.app ?_⟩
    have e2 : a + totL (x :: L) = a + clL x + totL L := by show a + (clL x + totL L) = _; omega
    rw [e2] at e; exact e
theorem gd_cl {X : TX} {M0 : WM} {F : Nat → Int32} (hF : ∀ k, k < 9 → wI M0 5464 k = F k) {a m p : Nat} {q : Cls × Nat} (h : pCl X a m p = .ok q) : (q.1.1 = 99 → Rn M0 F a q.1.2.1.1 (q.1.2.1.2 F)) ∧ Rn M0 F (a + q.1.2.1.1.length) q.1.2.2.1 (oB (q.1.2.2.2 F)) ∧ (q.1.1 = 110 ∨ q.1.1 = 99) := by
  unfold pCl at h
  split at h
  · cases h
  · rename_i hc
    split at h
    · cases h
    · cases e : pHalf X (ch X p) (p + 1) with
      | error x => rw [e] at h; cases h
      | ok s =>
        rw [e] at h
        have h : (if ¬ ch X s.2.2 = 40 then .error (1, s.2.2) else match pPar X (pPie X 7) (a + s.1.length) 0 s.2.2 with
          | .error e => .error e
          | .ok r => .ok ((ch X p, (s.1, s.2.1), (r.1, r.2.1)), r.2.2) : Rs (Cls × Nat)) = .ok q := h
        split at h
        · cases h
        · cases e2 : pPar X (pPie X 7) (a + s.1.length) 0 s.2.2 with
          | error x => rw [e2] at h; cases h
          | ok r =>
            rw [e2] at h; cases h
            refine ⟨fun c => ?_, RnC_par (fun a p r e => RnC_pie hF 7 a 1 p r e) e2, by show ch X p = 110 ∨ ch X p = 99; omega⟩
            have c : ch X p = 99 := c
            unfold pHalf at e
            rw [if_pos c] at e
            exact Rn_sum hF 7 0 (p + 1) s e a
theorem gd_law {X : TX} {M0 : WM} {F : Nat → Int32} (hF : ∀ k, k < 9 → wI M0 5464 k = F k) : ∀ (k : Nat) (L : List Cls) (p : Nat) (L' : List Cls), gdL M0 F 0 L → pLaw X k L (totL L) p = .ok L' → gdL M0 F 0 L'
  | 0, _, _, _, _, h => by cases h
  | k + 1, L, p, L', g, h => by
    unfold pLaw at h
    cases e : pCl X (totL L) L.length p with
    | error x => rw [e] at h; cases h
    | ok q =>
      rw [e] at h
      have h : (if q.2 < X.2 then (if ch X q.2 = 59 then pLaw X k (L ++ [q.1]) (totL L + clL q.1) (q.2 + 1) else .error (1, q.2)) else .ok (L ++ [q.1]) : Rs (List Cls)) = .ok L' := h
      have g2 : gdL M0 F 0 (L ++ [q.1]) := g.app (by rw [Nat.zero_add]; exact gd_cl hF e)
      split at h
      · split at h
        · rw [← totL_app] at h
          exact gd_law hF k _ _ _ g2 h
        · cases h
      · cases h; exact g2
theorem t_comes {M0 : WM} {F : Nat → Int32} {a : Nat} {cd : Cd} {o : Option Int32} {Q : Int32 → WM → Prop} {M : WM} (h : Rn M0 F a cd o) (hc : cdAt M0 a cd) (hl : a + cd.length ≤ 160) (f : Fr S5463 M0 M) (hv : ∀ v, o = some v → ∀ M', Fr S5463 M0 M' → Q v M') (hr : o = none → ∀ M', Fr S5463 M0 M' → Q 0 M') : m_X6_comesTo (nI a) (nI (a + cd.length)) M Q := by
  intro z1 e1
  have ez : z1 = 0 := by
    rw [e1, show (180 : Int32) = nI 180 from rfl, pk_div (by omega) (by omega) (by omega), show a / 180 = 0 by omega]; rfl
  rw [ez]
  refine ⟨a + cd.length + 1, h (a + cd.length) Q 0 (a + cd.length + 1) M hc (Nat.le_refl _) hl (by omega) f (by omega) (fun v ev n M' hn f' _ g => ?_) hr⟩
  obtain ⟨m, rfl⟩ : ∃ m, n = m + 1 := ⟨n - 1, by omega⟩
  refine ⟨fun _ => ⟨vin (n := 0) (by omega), ?_⟩, fun z => absurd (Int32.le_refl _) z⟩
  show Q (wI M' 5463 0) M'
  rw [g]; exact hv v ev M' f'
theorem cdAt_cat {M : WM} : ∀ {L : List Cls} {a : Nat}, (∀ k x, (catL L)[k]? = some x → wI M 5458 (a + k) = cI x ∧ qOK x) → ∀ q L', L = q :: L' → cdAt M a q.2.1.1 ∧ cdAt M (a + q.2.1.1.length) q.2.2.1 ∧ ∀ k x, (catL L')[k]? = some x → wI M 5458 (a + clL q + k) = cI x ∧ qOK x
  | [], _, _, _, _, e => by cases e
  | x :: L, a, h, q, L', e => by
    cases e
    have h2 : cdAt M a ((x.2.1.1 ++ x.2.2.1) ++ catL L) := h
    refine ⟨h2.l.l, h2.l.r, fun k y hk => ?_⟩
    have := h2.r k y hk
    rw [List.length_append] at this
    exact this
theorem LawT_of {X : TX} {M : WM} {L : List Cls} {k : Nat} (hp : pLaw X k [] 0 0 = .ok L) (hL : LtIs M L) : LawT (lamL L) M := fun M' sm F hF Q hQ => by
  obtain ⟨l1, l2, l3, l4, l5⟩ := hL
  have n20 : wI M' 5444 20 = nI L.length := sm.1.trans l1
  have cc : ∀ k x, (catL L)[k]? = some x → wI M' 5458 (0 + k) = cI x ∧ qOK x := fun k x hk => by rw [Nat.zero_add, sm.2 5458 k (by omega)]; exact l2 k x hk
  have c3 : clI 5459 M' 0 0 L := l3.fr fun i _ => ⟨sm.2 _ _ (by omega), sm.2 _ _ (by omega), sm.2 _ _ (by omega), sm.2 _ _ (by omega)⟩
  have gd := gd_law (M0 := M') hF k [] 0 L trivial hp
  have main : ∀ (T : List Cls) (j a : Nat) (c : Option Nat) (M1 : WM), (∀ y, c = some y → y ≤ 99) → j + T.length = L.length → clI 5459 M' j a T → gdL M' F a T → (∀ k x, (catL T)[k]? = some x → wI M' 5458 (a + k) = cI x ∧ qOK x) → a + totL T ≤ 160 → Fr S5463 M' M1 → (∀ M2, Fr S5463 M' M2 → Q (lamI (evL F T c)) M2) → ∀ n, T.length < n → m_X6_costOf_l4 Q n (owI c) (nI j) M1 := fun T => by
    induction T with
    | nil =>
      intro j a c M1 hc hj _ _ _ _ f1 hq n hn
      obtain ⟨m, rfl⟩ : ∃ m, n = m + 1 := ⟨n - 1, by omega⟩
      have hj : j = L.length := hj
      unfold m_X6_costOf_l4
      rw [f1.I (by unfold S5463; omega), n20, hj]
      refine ⟨fun _ => ?_, fun z => absurd (Int32.le_refl _) z⟩
      cases c with
      | none => exact ⟨fun _ => hq M1 f1, fun z => absurd rfl z⟩
      | some y =>
        have := hc y rfl
        refine ⟨fun z => absurd z ?_, fun _ => hq M1 f1⟩
        show ¬ nI y = -1
        rw [i_eq, nI_toInt (by omega)]; intro z; have : (y : Int) = -1 := z; omega
    | cons q T ih =>
      intro j a c M1 hc hj hcl hgd hcd hb f1 hq n hn
      obtain ⟨m, rfl⟩ : ∃ m, n = m + 1 := ⟨n - 1, by omega⟩
      have hj : j + (T.length + 1) = L.length := hj
      have hn : T.length + 1 < m + 1 := hn
      obtain ⟨⟨a1, a2, a3, a4⟩, a5⟩ := hcl
      obtain ⟨g1, g2, g3, g4⟩ := hgd
      obtain ⟨d1, d2, d3⟩ := cdAt_cat hcd q T rfl
      have hb : a + (clL q + totL T) ≤ 160 := hb
      have hcq : clL q = q.2.1.1.length + q.2.2.1.length := rfl
      have nx : ∀ c' M2, (∀ y, c' = some y → y ≤ 99) → evL F (q :: T) c = evL F T c' → Fr S5463 M' M2 → ∀ z : Int32, z = nI j + 1 → m_X6_costOf_l4 Q m (owI c') z M2 := fun c' M2 hc' e f2 z ez => by
        rw [ez, nI_1]
        exact ih (j + 1) (a + clL q) c' M2 hc' (by omega) a5 g4 d3 (by omega) f2 (fun M3 f3 => by rw [← e]; exact hq M3 f3) m (by omega)
      have hW : ∀ {M2} r, 5459 ≤ r ∧ r ≤ 5462 → Fr S5463 M' M2 → wI M2 r j = wI M' r j := fun r hr f2 => f2.I (by unfold S5463; omega)
      have j28 : ¬ (q.1 = 99 ∧ c.isSome = true) → m_X6_costOf_j28 (fun x1' x2' M' => m_X6_costOf_l4 Q m x1' x2' M') (owI c) (nI j) Q M1 := fun hno => by
        have ev : evL F (q :: T) c = if q.2.2.2 F = some true then (if q.1 = 110 then none else evL F T (some (clN (q.2.1.2 F)))) else evL F T c := by rw [evL, if_neg hno]
        unfold m_X6_costOf_j28
        rw [nI_clamp (show j < 2 ^ 31 by omega), hW _ (by omega) f1, hW _ (by omega) f1, a3, a4, show a + clL q = a + q.2.1.1.length + q.2.2.1.length by omega]
        refine ⟨vin (by omega), vin (by omega), t_comes g2 d2 (by omega) f1 (fun v evv M4 f4 => ?_) (fun evn M4 f4 => ?_)⟩
        · cases eo : q.2.2.2 F with
          | none => rw [eo] at evv; cases evv
          | some b =>
            rw [eo] at evv
            have evv : b2i b = v := Option.some.inj evv
            rw [← evv]
            cases b with
            | false => exact ⟨fun z => absurd z (by decide), fun _ => nx c M4 hc (by rw [ev, if_neg (by rw [eo]; decide)]) f4⟩
            | true =>
              refine ⟨fun _ => ⟨vin (by omega), ?_⟩, fun z => absurd rfl z⟩
              have ev : evL F (q :: T) c = if q.1 = 110 then none else evL F T (some (clN (q.2.1.2 F))) := by rw [ev, if_pos eo]
              rw [hW _ (by omega) f4, hW _ (by omega) f4, hW _ (by omega) f4, a1, a2, a3]
              rcases g3 with g3 | g3
              · rw [g3]
                refine ⟨fun _ => ?_, fun z => absurd rfl z⟩
                have := hq M4 f4
                rw [ev, if_pos g3] at this
                exact this
              · rw [g3]
                have ev : evL F (q :: T) c = evL F T (some (clN (q.2.1.2 F))) := by rw [ev, if_neg (by omega)]
                have nb := clN_b (q.2.1.2 F)
                have nx2 : ∀ M2, Fr S5463 M' M2 → ∀ z : Int32, z = nI j + 1 → m_X6_costOf_l4 Q m (nI (clN (q.2.1.2 F))) z M2 := fun M2 f2 => nx (some (clN (q.2.1.2 F))) M2 (fun y e => by cases e; exact nb.2) ev f2
                refine ⟨fun z => absurd z (show ¬ nI 99 = 110 by decide), fun _ => ⟨vin (by omega), vin (by omega), t_comes (g1 g3) d1 (by omega) f4 (fun v ev2 M11 f11 => ?_) (fun evn M11 f11 => ?_)⟩⟩
                · have nx3 := nx2 M11 f11
                  rw [ev2] at nx3
                  unfold clN at nx3
                  dsimp only at nx3
                  rw [i_le, i_le, show (1 : Int32).toInt = 1 by decide, show (99 : Int32).toInt = 99 by decide]
                  refine ⟨fun c1 => ⟨fun c2 => ?_, fun c2 => ?_⟩, fun c1 => ?_⟩
                  · rw [if_neg (by omega), if_neg (by omega)] at nx3
                    have : v = nI v.toInt.toNat := by rw [i_eq, nI_toInt (by omega)]; omega
                    rw [← this] at nx3; exact nx3
                  · rw [if_neg (by omega), if_pos (by omega)] at nx3; exact nx3
                  · rw [if_pos (by omega)] at nx3; exact nx3
                · have nx3 := nx2 M11 f11
                  rw [evn] at nx3
                  exact ⟨fun c1 => absurd c1 (by decide), fun _ => nx3⟩
        · refine ⟨fun z => absurd z (by decide), fun _ => nx c M4 hc ?_ f4⟩
          cases eo : q.2.2.2 F with
          | none => rw [ev, if_neg (by rw [eo]; decide)]
          | some b => rw [eo] at evn; cases evn
      unfold m_X6_costOf_l4
      rw [f1.I (by unfold S5463; omega), n20, nI_clamp (show j < 2 ^ 31 by omega), hW _ (by omega) f1, a1]
      refine ⟨fun z => absurd z (nI_ge (by omega) (by omega)), fun _ => ⟨vin (by omega), ?_⟩⟩
      rcases g3 with g3 | g3
      · rw [g3]; exact ⟨fun z => absurd z (show ¬ nI 110 = 99 by decide), fun _ => j28 fun z => by omega⟩
      · rw [g3]
        refine ⟨fun _ => ?_, fun z => absurd rfl z⟩
        cases c with
        | none => exact ⟨fun _ => j28 fun z => (by cases z.2), fun z => absurd rfl z⟩
        | some y =>
          have := hc y rfl
          refine ⟨fun z => absurd z ?_, fun _ => nx (some y) M1 hc (by rw [evL, if_pos ⟨g3, rfl⟩]) f1⟩
          show ¬ nI y = -1
          rw [i_eq, nI_toInt (by omega)]; intro z; have : (y : Int) = -1 := z; omega
  exact ⟨L.length + 1, main L 0 0 none M' (fun y e => by cases e) (by omega) c3 gd cc (by omega) Fr.rf (fun M2 f2 => hQ M2 (f2.mono fun r k q => q)) _ (by omega)⟩
