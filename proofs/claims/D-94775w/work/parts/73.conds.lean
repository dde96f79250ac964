/-! the law's text, the model's side: conditions -/
def lnc : Cd → Cd → Cd
  | [], C => C
  | x :: P, C => lnc P (C.set x.2 ((C.getD x.2 (0, 0)).1, C.length))
theorem lnc_len : ∀ {P C : Cd}, (lnc P C).length = C.length
  | [], _ => rfl
  | x :: P, C => by rw [lnc, lnc_len, List.length_set]
theorem lnc_app : ∀ {P R C : Cd}, lnc (P ++ R) C = lnc R (lnc P C)
  | [], _, _ => rfl
  | x :: P, R, C => by show lnc (P ++ R) _ = _; rw [lnc_app]; rfl
theorem lnc_one {A B : Cd} {o : Nat} : lnc [(o, A.length)] (A ++ [(o, 0)] ++ B) = A ++ [(o, A.length + 1 + B.length)] ++ B := by
  have e : A ++ [(o, 0)] ++ B = A ++ ((o, 0) :: B) := by rw [List.append_assoc]; rfl
  have g : (A ++ ((o, 0) :: B)).getD A.length (0, 0) = (o, 0) := by
    rw [List.getD_eq_getElem?_getD, List.getElem?_append_right (Nat.le_refl _), Nat.sub_self]; rfl
  rw [lnc, lnc, e, g, List.set_append_right _ _ (Nat.le_refl _), Nat.sub_self, List.append_assoc]
  show A ++ ((o, (A ++ (o, 0) :: B).length) :: B) = A ++ ((o, A.length + 1 + B.length) :: B)
  rw [List.length_append]
  congr 3
  show A.length + (B.length + 1) = _
  omega
def lok (all : Bool) (C : Cd) (P : Cd) : Prop := ∀ x, x ∈ P → (x.1 = 11 ∨ (all = true ∧ x.1 = 12)) ∧ x.2 < C.length
def nol (all : Bool) (W : Cd) : Prop := ∀ x W', W = x :: W' → ¬ x.1 = 11 ∧ (all = true → ¬ x.1 = 12)
theorem t_lands {M0 : WM} {p op : Nat} {all : Bool} {R : WM → Prop} {W : Cd} (hW : nol all W) : ∀ (P C : Cd) (M : WM), lok all C P → Ts M0 p op (P ++ W) C M → (P ++ W).length ≤ 180 → C.length ≤ 180 → (∀ M', Ts M0 p op W (lnc P C) M' → R M') → ∀ n, P.length < n → m_X6_lands_l0 (b2i all) R n M
  | P, C, M, hP, ts, hl, hC, h, 0, hn => absurd hn (by omega)
  | [], C, M, hP, ts, hl, hC, h, n + 1, hn => by
    have hq : ∀ x W', W = x :: W' → x.1 ≤ 14 := fun x W' e => by subst e; exact ts.2.2.2.2.1.2.1.1
    unfold m_X6_lands_l0
    refine t_top (W := W) ts hl (top_ask 11 rfl (by omega) hq (fun ⟨x, W', e, c⟩ => absurd c (hW x W' e).1) (fun c => ?_))
    cases all with
    | false => exact ie0 (h M ts)
    | true => exact ie1 (t_top (W := W) ts hl (top_ask 12 rfl (by omega) hq (fun ⟨x, W', e, c⟩ => absurd c ((hW x W' e).2 rfl)) (fun c => h M ts)))
  | x :: P, C, M, hP, ts, hl, hC, h, n + 1, hn => by
    obtain ⟨c1, c2⟩ := hP x List.mem_cons_self
    have ts' : Ts M0 p op (x :: (P ++ W)) C M := ts
    have hl : (P ++ W).length + 1 ≤ 180 := hl
    have go : m_X6_lands_j22 (fun M' => m_X6_lands_l0 (b2i all) R n M') (b2i all) R M := by
      obtain ⟨f, t1, t2, t3, t4, t5, t6⟩ := ts'
      unfold m_X6_lands_j22
      rw [t3, show nI (x :: (P ++ W)).length - 1 = nI (P ++ W).length from nI_pred _, nI_clamp (show (P ++ W).length < 2 ^ 31 by omega), t4.1, cI_mod t4.2.1, t5]
      have hk : C[x.2]? = some (C.getD x.2 (0, 0)) := by rw [List.getD_eq_getElem?_getD, List.getElem?_eq_getElem c2]; rfl
      obtain ⟨d1, d2⟩ := t6 _ _ hk
      refine ⟨vin (by omega), fun z2 e2 => ?_⟩
      rw [e2, nI_clamp (show x.2 < 2 ^ 31 by omega), d1, cI_div d2]
      refine ⟨vin (by omega), vin (by omega), fun z5 e5 M6 e6 M7 e7 => ?_⟩
      have e5 : z5 = cI ((C.getD x.2 (0, 0)).1, C.length) := by rw [e5]; unfold cI; rw [show (1048576 : Int32) = nI 1048576 from rfl, pk_mul, nI_add]
      rw [e5] at e6
      have t6' : Ts M0 p op (x :: (P ++ W)) (C.set x.2 ((C.getD x.2 (0, 0)).1, C.length)) M6 := by
        refine ⟨by rw [e6]; exact f.PI (Or.inr (Or.inl rfl)), by rw [e6, wI_n _ _ (by omega)]; exact t1, by rw [e6, wI_n _ _ (by omega)]; exact t2, by rw [e6, wI_n _ _ (by omega)]; exact t3, t4.fr fun k _ => by rw [e6, wI_n _ _ (by omega)], by rw [e6, wI_n _ _ (by omega), List.length_set]; exact t5, fun k y hy => ?_⟩
        rw [e6, wI_PI]
        by_cases ek : k = x.2
        · rw [ek, List.getElem?_set_self c2] at hy
          cases hy
          rw [if_pos ⟨rfl, ek⟩]
          exact ⟨rfl, d2.1, by show C.length < 1048576; omega⟩
        · rw [List.getElem?_set_ne (fun z => ek z.symm)] at hy
          rw [if_neg (fun z => ek z.2)]; exact t6 k y hy
      refine t_lands hW P _ M7 (fun y hy => ?_) (t6'.pop e7) (by omega) (by rw [List.length_set]; exact hC) (fun M' t' => h M' t') n (by have : P.length + 1 < n + 1 := hn; omega)
      obtain ⟨g1, g2⟩ := hP y (List.mem_cons_of_mem _ hy)
      exact ⟨g1, by rw [List.length_set]; exact g2⟩
    have hl2 : (x :: (P ++ W)).length ≤ 180 := hl
    unfold m_X6_lands_l0
    refine t_top ts' hl2 ?_
    have hx14 := ts'.2.2.2.2.1.2.1.1
    refine pk_eq x.1 11 (fun _ => go) (fun c => ?_) rfl rfl
    rcases c1 with c1 | ⟨ca, c1⟩
    · exact absurd c1 c
    · subst ca
      exact ie1 (t_top ts' hl2 (pk_eq x.1 12 (fun _ => go) (fun c => absurd c1 c) rfl rfl))
theorem t_jumps {M0 M : WM} {p op o : Nat} {W C : Cd} {x : Int32} {R : WM → Prop} (ts : Ts M0 p op W C M) (hx : x = nI o) (ho : o ≤ 14) (hW : W.length < 180) (hC : C.length < 180) (h : ∀ M', Ts M0 (p + 1) op ((o, C.length) :: W) (C ++ [(o, 0)]) M' → R M') : m_X6_jumps x M R := by
  have ts0 := ts
  obtain ⟨f, t1, t2, t3, t4, t5, t6⟩ := ts
  unfold m_X6_jumps
  rw [t3, t5, hx, nI_clamp (show W.length < 2 ^ 31 by omega), show ((1048576 : Int32) * nI o) + nI C.length = cI (o, C.length) by unfold cI; rw [show (1048576 : Int32) = nI 1048576 from rfl, pk_mul, nI_add]]
  refine ⟨vin (by omega), fun M2 e2 M3 e3 => t_notes (o := o) (v := 0) (ts0.push ⟨ho, by show C.length < 1048576; omega⟩ e2 e3) rfl rfl ⟨ho, by show 0 < 1048576; omega⟩ hC fun M5 t5 M6 e6 => ?_⟩
  rw [t5.2.1, nI_1] at e6
  exact h M6 (t5.p e6)
theorem t_ends0 {M0 M : WM} {p op : Nat} {W C : Cd} {R : WM → Prop} (ts : Ts M0 p op W C M) (hW : W.length ≤ 180) (hn : ∀ x W', W = x :: W' → ¬ x.1 = 10) (h : R M) {f : Nat} (hf : 0 < f) : m_X6_endsPiece_l0 R f M := by
  obtain ⟨g, rfl⟩ : ∃ g, f = g + 1 := ⟨f - 1, by omega⟩
  have hq : ∀ x W', W = x :: W' → x.1 ≤ 14 := fun x W' e => by subst e; exact ts.2.2.2.2.1.2.1.1
  unfold m_X6_endsPiece_l0
  exact t_top ts hW (top_ask 10 rfl (by omega) hq (fun ⟨x, W', e, c⟩ => absurd c (hn x W' e)) (fun _ => h))
theorem t_ends1 {M0 M : WM} {p op : Nat} {W C : Cd} {R : WM → Prop} (ts : Ts M0 p (op + 1) ((10, 0) :: W) C M) (hW : W.length < 180) (hC : C.length < 180) {f : Nat} (h : ∀ M', Ts M0 p op W (C ++ [(10, 0)]) M' → m_X6_endsPiece_l0 R f M') : m_X6_endsPiece_l0 R (f + 1) M := by
  unfold m_X6_endsPiece_l0
  refine t_top ts (by show W.length + 1 ≤ 180; omega) ⟨fun _ => t_notes (o := 10) (v := 0) ts rfl rfl ⟨by omega, by show 0 < 1048576; omega⟩ hC fun M4 t4 M5 e5 M6 e6 => ?_, fun z => absurd rfl z⟩
  have t5 := t4.pop e5
  rw [t5.2.2.1, show nI (op + 1) - 1 = nI op from nI_pred op] at e6
  exact h M6 (t5.o e6)
/-- who goes on: at the loop over what follows a piece; after a piece; where a piece begins -/
def L9 (X : TX) (M0 : WM) (Q : Int32 → WM → Prop) (n p op : Nat) (W C : Cd) : Prop := ∀ m M, Ts M0 p op W C M → X.2 - p < m → m_X6_readsCondition_l92 (fun M' => m_X6_readsCondition_l40 Q n M') Q m M
def PC (X : TX) (M0 : WM) (Q : Int32 → WM → Prop) (n p op : Nat) (W C : Cd) : Prop := ∀ m f (R : WM → Prop) M, Ts M0 p op W C M → X.2 - p < m → (∀ M', m_X6_readsCondition_l92 (fun M' => m_X6_readsCondition_l40 Q n M') Q m M' → R M') → W.length < f → m_X6_endsPiece_l0 R f M
def CE (M0 : WM) (Q : Int32 → WM → Prop) (n p op : Nat) (W C : Cd) : Prop := ∀ M, Ts M0 p op W C M → m_X6_readsCondition_l40 Q n M
def wc (W : Cd) : Prop := ∀ x, x ∈ W → 10 ≤ x.1 ∧ x.1 ≤ 13
theorem wc.noc {W : Cd} (h : wc W) : noc true W := fun x W' e => by
  have := h x (by rw [e]; exact List.mem_cons_self)
  unfold clo
  rw [decide_eq_false (by omega), decide_eq_false (show ¬ (x.1 = 2 ∨ x.1 = 3) by omega)]; rfl
/-- a piece -/
def PieP (X : TX) (M0 : WM) (Q : Int32 → WM → Prop) (it : Nat → Nat → Rs CR) (op : Nat) : Prop := ∀ p W C n, OKp X p W C → wc W → ¬ W = [] → (∀ e, it C.length p = .error e → ErQ M0 Q e) → (∀ r, it C.length p = .ok r → ∀ n', X.2 - r.2.2 < n' → PC X M0 Q n' r.2.2 op W (C ++ r.1)) → X.2 - p < n → CE M0 Q n p op W C
theorem t_cmp {X : TX} {M0 : WM} {Q : Int32 → WM → Prop} (hx : Tx X M0) {op : Nat} (hop : op ≤ 6) {p n : Nat} {W C : Cd} (hok : OKp X p W C) (hw : wc W) (h33 : ¬ ch X p = 33) (h40 : ¬ ch X p = 40) (he : ∀ e, pCmp X op p = .error e → ErQ M0 Q e) (h : ∀ r, pCmp X op p = .ok r → ∀ n', X.2 - r.2.2 < n' → PC X M0 Q n' r.2.2 op W (C ++ r.1)) (hn : X.2 - p < n) : CE M0 Q n p op W C := fun M ts => by
  have hl := hx.1
  have hok0 := hok
  obtain ⟨k1, k2, k3⟩ := hok
  obtain ⟨m, rfl⟩ : ∃ m, n = m + 1 := ⟨n - 1, by omega⟩
  unfold m_X6_readsCondition_l40
  refine t_here hx ts k3 (hT_ask hx 33 rfl (by omega) (by omega) (fun c => absurd c h33) (fun _ => t_here hx ts k3 (hT_ask hx 40 rfl (by omega) (by omega) (fun c => absurd c h40) (fun _ => ?_))))
  unfold pCmp at he h
  have er : ∀ e M', ErQ M0 Q e → Fr StP M0 M' → wI M' 5444 14 = fltI e → ((0 : Int32) = 0 → Q 0 M') ∧ (¬ (0 : Int32) = 0 → ∃ n0, m_X6_readsCondition_l92 (fun M' => m_X6_readsCondition_l40 Q m M') Q n0 M') := fun e M' q f' e' => ie0 (q M' f' e')
  unfold m_X6_readsCompared
  refine t_readsSum hx ts hok0 hop hw.noc (fun e ee M' f' e' => ie0 (er e M' (he e (by rw [ee])) f' e')) (fun a ea M2 t2 => ie1 ?_)
  rw [ea] at he h
  obtain ⟨a1, a2, a3⟩ := pSum_ok ea
  have j52 : ∀ o, cmpS (ch X a.2.2) = some o → 7 ≤ o ∧ o ≤ 9 → m_X6_readsCompared_j52 (nI o) (fun a5 M6 => ((a5 = 0 → Q 0 M6) ∧ (¬ a5 = 0 → (∃ n0, m_X6_readsCondition_l92 (fun M' => m_X6_readsCondition_l40 Q m M') Q n0 M6)))) M2 := fun o eo ho => by
    have he : ∀ e, (match pSum X 7 op (a.2.2 + 1) with
      | .error e => .error e
      | .ok b => .ok (a.1 ++ b.1 ++ [(o, 0)], bc o a.2.1 b.2.1, b.2.2) : Rs CR) = .error e → ErQ M0 Q e := fun e q => he e (by
        show (match cmpS (ch X a.2.2) with
          | none => Except.error (1, a.2.2)
          | some o => match pSum X 7 op (a.2.2 + 1) with
            | .error e => .error e
            | .ok b => .ok (a.1 ++ b.1 ++ [(o, 0)], bc o a.2.1 b.2.1, b.2.2) : Rs CR) = .error e
        rw [eo]; exact q)
    have h : ∀ r, (match pSum X 7 op (a.2.2 + 1) with
      | .error e => .error e
      | .ok b => .ok (a.1 ++ b.1 ++ [(o, 0)], bc o a.2.1 b.2.1, b.2.2) : Rs CR) = .ok r → ∀ n', X.2 - r.2.2 < n' → PC X M0 Q n' r.2.2 op W (C ++ r.1) := fun r q => h r (by
        show (match cmpS (ch X a.2.2) with
          | none => Except.error (1, a.2.2)
          | some o => match pSum X 7 op (a.2.2 + 1) with
            | .error e => .error e
            | .ok b => .ok (a.1 ++ b.1 ++ [(o, 0)], bc o a.2.1 b.2.1, b.2.2) : Rs CR) = .ok r
        rw [eo]; exact q)
    have hp : a.2.2 < X.2 := ch_lt fun z => by rw [z] at eo; cases eo
    have hCa : (C ++ a.1).length = C.length + a.1.length := List.length_append
    refine ⟨fun z => absurd z ?_, fun _ M3 e3 => ?_⟩
    · rw [i_eq, nI_toInt (by omega)]; intro z; have : (o : Int) = -1 := z; omega
    · rw [t2.2.1, nI_1] at e3
      refine t_readsSum hx (t2.p e3) ⟨by rw [hCa]; omega, by omega, by omega⟩ hop hw.noc (fun e ee M' f' e' => ie0 (er e M' (he e (by rw [ee])) f' e')) (fun b eb M4 t4 => ie1 ?_)
      rw [eb] at h
      obtain ⟨b1, b2, b3⟩ := pSum_ok eb
      have hCb : (C ++ a.1 ++ b.1).length = C.length + a.1.length + b.1.length := by rw [List.length_append, hCa]
      refine t_notes (o := o) (v := 0) t4 rfl rfl ⟨by show o ≤ 14; omega, by show 0 < 1048576; omega⟩ (by omega) fun M7 t7 => ?_
      have hr := h _ rfl m (by show X.2 - b.2.2 < m; omega)
      have t7' : Ts M0 b.2.2 op W (C ++ (a.1 ++ b.1 ++ [(o, 0)])) M7 := by
        have e9 : C ++ (a.1 ++ b.1 ++ [(o, 0)]) = C ++ a.1 ++ b.1 ++ [(o, 0)] := by rw [← List.append_assoc, ← List.append_assoc]
        rw [e9]; exact t7
      exact ⟨W.length + 1, hr (X.2 + 1) (W.length + 1) _ M7 t7' (by omega) (fun M9 q => ie1 ⟨_, q⟩) (by omega)⟩
  refine t_here hx t2 a2 (hT_ask hx 60 rfl (by omega) (by omega) (fun c => j52 7 (by rw [c]; rfl) (by omega)) (fun c1 => t_here hx t2 a2 (hT_ask hx 62 rfl (by omega) (by omega) (fun c => j52 8 (by rw [c]; rfl) (by omega)) (fun c2 => t_here hx t2 a2 (hT_ask hx 61 rfl (by omega) (by omega) (fun c => j52 9 (by rw [c]; rfl) (by omega)) (fun c3 => ?_))))))
  have e0 : cmpS (ch X a.2.2) = none := by unfold cmpS; rw [if_neg c1, if_neg c2, if_neg c3]
  rw [show m_X6_readsCompared_j52 (-1) (fun a5 M6 => ((a5 = 0 → Q 0 M6) ∧ (¬ a5 = 0 → (∃ n0, m_X6_readsCondition_l92 (fun M' => m_X6_readsCondition_l40 Q m M') Q n0 M6)))) M2 = _ from rfl]
  unfold m_X6_readsCompared_j52
  rw [t2.2.1]
  refine ⟨fun _ => t_wrong t2.1 rfl fun M' f' e' => ⟨Or.inl rfl, er (1, a.2.2) M' (he (1, a.2.2) ?_) f' e'⟩, fun z => absurd rfl z⟩
  show (match cmpS (ch X a.2.2) with
    | none => Except.error (1, a.2.2)
    | some o => match pSum X 7 op (a.2.2 + 1) with
      | .error e => .error e
      | .ok b => .ok (a.1 ++ b.1 ++ [(o, 0)], bc o a.2.1 b.2.1, b.2.2) : Rs CR) = .error (1, a.2.2)
  rw [e0]
