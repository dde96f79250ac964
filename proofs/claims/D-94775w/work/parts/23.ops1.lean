/-! TAPE and words: feed, word, bar, know, speak, off, seed -/
def TC (tp : Nat → Int32) (t : Nat) (M : WM) : Prop := (∀ k, wI M 2 k = tp k) ∧ wI M 0 5 = nI t
def TT (tp : Nat → Int32) (t : Nat) (M : WM) : Prop := (∀ k, wI M 5451 k = tp k) ∧ wI M 5444 11 = nI t
def byv (v s : Int32) : Int32 := (v >>> (s &&& 31)).toInt8.toInt32.toInt8.toInt32
def pushT (tp : Nat → Int32) (t : Nat) (v : Int32) : Nat → Int32 := up1 (up1 (up1 (up1 tp t (byv v 24)) (t + 1) (byv v 16)) (t + 2) (byv v 8)) (t + 3) (byv v 0)
def STC (r k : Nat) : Prop := r = 2 ∨ (r = 0 ∧ k = 5)
def STT (r k : Nat) : Prop := r = 5451 ∨ (r = 5444 ∧ k = 11)
theorem tc_step {tp : Nat → Int32} {t : Nat} {M : WM} (h : TC tp t M) (v : Int32) : TC (up1 tp t v) (t + 1) (wPI (wPI M 2 t v) 0 5 (nI (t + 1))) ∧ Fr STC M (wPI (wPI M 2 t v) 0 5 (nI (t + 1))) := by
  refine ⟨⟨fun k => ?_, wI_s _ _ _ _⟩, (Fr.rf.PI (Or.inl rfl)).PI (Or.inr ⟨rfl, rfl⟩)⟩
  rw [wI_n _ _ (by omega), wI_PI]
  unfold up1
  by_cases e : k = t
  · rw [if_pos ⟨rfl, e⟩, if_pos e]
  · rw [if_neg (fun z => e z.2), if_neg e]; exact h.1 k
theorem tt_step {tp : Nat → Int32} {t : Nat} {M : WM} (h : TT tp t M) (v : Int32) : TT (up1 tp t v) (t + 1) (wPI (wPI M 5451 t v) 5444 11 (nI (t + 1))) ∧ Fr STT M (wPI (wPI M 5451 t v) 5444 11 (nI (t + 1))) := by
  refine ⟨⟨fun k => ?_, wI_s _ _ _ _⟩, (Fr.rf.PI (Or.inl rfl)).PI (Or.inr ⟨rfl, rfl⟩)⟩
  rw [wI_n _ _ (by omega), wI_PI]
  unfold up1
  by_cases e : k = t
  · rw [if_pos ⟨rfl, e⟩, if_pos e]
  · rw [if_neg (fun z => e z.2), if_neg e]; exact h.1 k
theorem s_push1 {tp : Nat → Int32} {t n : Nat} {v x : Int32} {M : WM} {Q : WM → Prop} (hT : TC tp t M) (ht : t < 200) (hx : ¬ x < 0) (h : ∀ M', TC (up1 tp t (byv v x)) (t + 1) M' → Fr STC M M' → m_X0_push_l3 v Q n (x + -8) M') : m_X0_push_l3 v Q (n + 1) x M := by
  refine ⟨fun c => absurd c hx, fun _ => ?_⟩
  rw [hT.2, nI_clamp (by omega)]
  refine ⟨pk_in t 200 ht, fun M3 e3 M4 e4 z ez => ?_⟩
  have e5 : wI M3 0 5 = nI t := by rw [e3, wI_n _ _ (by omega)]; exact hT.2
  rw [e5, nI_1, e3] at e4
  obtain ⟨a, b⟩ := tc_step hT (byv v x)
  subst ez
  exact h M4 (by rw [e4]; exact a) (by rw [e4]; exact b)
theorem s_X0_push {tp : Nat → Int32} {t : Nat} {v : Int32} {M : WM} {Q : WM → Prop} (hT : TC tp t M) (ht : t + 4 ≤ 200) (h : ∀ M', TC (pushT tp t v) (t + 4) M' → Fr STC M M' → Q M') : m_X0_push v M Q := by
  refine ⟨5, ?_⟩
  refine s_push1 hT (by omega) (by decide) fun M1 h1 f1 => ?_
  refine s_push1 h1 (by omega) (by decide) fun M2 h2 f2 => ?_
  refine s_push1 h2 (by omega) (by decide) fun M3 h3 f3 => ?_
  refine s_push1 h3 (by omega) (by decide) fun M4 h4 f4 => ?_
  exact ⟨fun _ => h M4 h4 (((f1.tr f2).tr f3).tr f4), fun c => absurd (by decide) c⟩
theorem s_types1 {tp : Nat → Int32} {t n : Nat} {v x y : Int32} {M : WM} {Q : WM → Prop} (hT : TT tp t M) (ht : t < 200) (hx : ¬ x < 0) (hy : (8 : Int32) * x = y) (h : ∀ M', TT (up1 tp t (byv v y)) (t + 1) M' → Fr STT M M' → m_X6_types_l2 v Q n (x + -1) M') : m_X6_types_l2 v Q (n + 1) x M := by
  refine ⟨fun c => absurd c hx, fun _ => ?_⟩
  rw [hT.2, nI_clamp (by omega), hy]
  refine ⟨pk_in t 200 ht, fun M3 e3 M4 e4 z ez => ?_⟩
  have e5 : wI M3 5444 11 = nI t := by rw [e3, wI_n _ _ (by omega)]; exact hT.2
  rw [e5, nI_1, e3] at e4
  obtain ⟨a, b⟩ := tt_step hT (byv v y)
  subst ez
  exact h M4 (by rw [e4]; exact a) (by rw [e4]; exact b)
theorem s_X6_types {tp : Nat → Int32} {t : Nat} {v : Int32} {M : WM} {Q : WM → Prop} (hT : TT tp t M) (ht : t + 4 ≤ 200) (h : ∀ M', TT (pushT tp t v) (t + 4) M' → Fr STT M M' → Q M') : m_X6_types v M Q := by
  refine ⟨5, ?_⟩
  refine s_types1 hT (by omega) (by decide) (show (8 : Int32) * 3 = 24 by decide) fun M1 h1 f1 => ?_
  refine s_types1 h1 (by omega) (by decide) (show (8 : Int32) * (3 + -1) = 16 by decide) fun M2 h2 f2 => ?_
  refine s_types1 h2 (by omega) (by decide) (show (8 : Int32) * (3 + -1 + -1) = 8 by decide) fun M3 h3 f3 => ?_
  refine s_types1 h3 (by omega) (by decide) (show (8 : Int32) * (3 + -1 + -1 + -1) = 0 by decide) fun M4 h4 f4 => ?_
  exact ⟨fun _ => h M4 h4 (((f1.tr f2).tr f3).tr f4), fun c => absurd (by decide) c⟩
theorem byv_rng (v s : Int32) : -128 ≤ (byv v s).toInt ∧ (byv v s).toInt ≤ 127 := by
  unfold byv
  generalize (v >>> (s &&& 31)).toInt8.toInt32 = x
  have h1 := Int8.le_toInt x.toInt8
  have h2 := Int8.toInt_le x.toInt8
  rw [Int8.toInt_toInt32]
  have h1 : (-128 : Int) ≤ x.toInt8.toInt := h1
  rw [show Int8.maxValue.toInt = 127 by decide] at h2
  exact ⟨h1, h2⟩
theorem up1_b {tp : Nat → Int32} (h : bOK tp) (t : Nat) (v s : Int32) : bOK (up1 tp t (byv v s)) := fun k => by
  unfold up1
  by_cases e : k = t
  · rw [if_pos e]; exact byv_rng v s
  · rw [if_neg e]; exact h k
theorem pushT_b {tp : Nat → Int32} (h : bOK tp) (t : Nat) (v : Int32) : bOK (pushT tp t v) := up1_b (up1_b (up1_b (up1_b h _ _ _) _ _ _) _ _ _) _ _ _
def feedT (tp : Nat → Int32) (t : Nat) (a b c d e : Int32) : Nat → Int32 := pushT (pushT (pushT (pushT (pushT tp t a) (t + 4) b) (t + 8) c) (t + 12) d) (t + 16) e
theorem s_X0_feed {tp : Nat → Int32} {t : Nat} {a b c d e : Int32} {M : WM} {Q : Int32 → WM → Prop} (hT : TC tp t M) (ht : t ≤ 200) (h1 : t + 20 ≤ 200 → ∀ M', TC (feedT tp t a b c d e) (t + 20) M' → Fr STC M M' → Q (nI (t + 20)) M') (h0 : ¬ t + 20 ≤ 200 → Q (-1) M) : m_X0_feed a b c d e M Q := by
  unfold m_X0_feed
  rw [hT.2]
  refine pk_le (t + 20) 200 (fun z => ?_) (fun z => h0 (by omega)) (by rw [nl, nI_add]) rfl
  refine s_X0_push hT (by omega) fun M1 q1 f1 => ?_
  refine s_X0_push q1 (by omega) fun M2 q2 f2 => ?_
  refine s_X0_push q2 (by omega) fun M3 q3 f3 => ?_
  refine s_X0_push q3 (by omega) fun M4 q4 f4 => ?_
  refine s_X0_push q4 (by omega) fun M5 q5 f5 => ?_
  rw [q5.2]
  exact h1 z M5 q5 ((((f1.tr f2).tr f3).tr f4).tr f5)
theorem s_X6_feed {tp : Nat → Int32} {t : Nat} {a b c d e : Int32} {M : WM} {Q : Int32 → WM → Prop} (hT : TT tp t M) (ht : t ≤ 200) (h1 : t + 20 ≤ 200 → ∀ M', TT (feedT tp t a b c d e) (t + 20) M' → Fr STT M M' → Q (nI (t + 20)) M') (h0 : ¬ t + 20 ≤ 200 → Q (-1) M) : m_X6_feed a b c d e M Q := by
  unfold m_X6_feed
  rw [hT.2]
  refine pk_le (t + 20) 200 (fun z => ?_) (fun z => h0 (by omega)) (by rw [nl, nI_add]) rfl
  refine s_X6_types hT (by omega) fun M1 q1 f1 => ?_
  refine s_X6_types q1 (by omega) fun M2 q2 f2 => ?_
  refine s_X6_types q2 (by omega) fun M3 q3 f3 => ?_
  refine s_X6_types q3 (by omega) fun M4 q4 f4 => ?_
  refine s_X6_types q4 (by omega) fun M5 q5 f5 => ?_
  rw [q5.2]
  exact h1 z M5 q5 ((((f1.tr f2).tr f3).tr f4).tr f5)
/-! bar, know, speak, off, seed: the words behind them -/
def barW (σ : WS) (w : Nat) (b : Bool) : WS := (sN σ, sLen σ, sLet σ, sKn σ, sTg σ, up1 (sBar σ) w b, sSp σ)
def knowW (σ : WS) (w k : Nat) : WS := (sN σ, sLen σ, sLet σ, up1 (sKn σ) w k, sTg σ, sBar σ, sSp σ)
def spkW (σ : WS) (o : Option Nat) : WS := (sN σ, sLen σ, sLet σ, sKn σ, sTg σ, sBar σ, o)
def offW (σ : WS) : WS := (sN σ - 1, sLen σ, sLet σ, sKn σ, sTg σ, sBar σ, sSp σ)
def addW (σ : WS) (m : Nat) (f : Nat → Nat) (k g : Nat) : WS := (sN σ + 1, up1 (sLen σ) (sN σ) m, up1 (sLet σ) (sN σ) f, up1 (sKn σ) (sN σ) k, up1 (sTg σ) (sN σ) g, up1 (sBar σ) (sN σ) false, sSp σ)
def SVW (r k : Nat) : Prop := (r = 0 ∧ k = 7) ∨ (5324 ≤ r ∧ r < 5444)
theorem barW_ok {σ : WS} (ok : wsOK σ) (w : Nat) (b : Bool) : wsOK (barW σ w b) := ok
theorem knowW_ok {σ : WS} (ok : wsOK σ) (w : Nat) {k : Nat} (hk : k < 100) : wsOK (knowW σ w k) := by
  refine ⟨ok.1, fun v hv => ?_, ok.2.2⟩
  obtain ⟨a, b, c, d, e⟩ := ok.2.1 v hv
  refine ⟨a, b, c, ?_, e⟩
  show up1 (sKn σ) w k v < 100
  unfold up1
  split
  · exact hk
  · exact d
theorem spkW_ok {σ : WS} (ok : wsOK σ) {o : Option Nat} (ho : ∀ t, o = some t → t < 4) : wsOK (spkW σ o) := ⟨ok.1, ok.2.1, ho⟩
theorem offW_ok {σ : WS} (ok : wsOK σ) : wsOK (offW σ) := ⟨by have := ok.1; show sN σ - 1 ≤ 40; omega, fun w hw => ok.2.1 w (by have : w < sN σ - 1 := hw; omega), ok.2.2⟩
theorem addW_ok {σ : WS} (ok : wsOK σ) (h4 : sN σ < 40) {m : Nat} {f : Nat → Nat} {k g : Nat} (hm : 1 ≤ m ∧ m ≤ 8) (hf : ∀ j, j < m → f j < 26) (hk : k < 100) (hg : g < 16) : wsOK (addW σ m f k g) := by
  refine ⟨by show sN σ + 1 ≤ 40; omega, fun w hw => ?_, ok.2.2⟩
  have hw : w < sN σ + 1 := hw
  by_cases e : w = sN σ
  · subst e
    have e1 : sLen (addW σ m f k g) (sN σ) = m := if_pos rfl
    have e2 : sLet (addW σ m f k g) (sN σ) = f := if_pos rfl
    have e3 : sKn (addW σ m f k g) (sN σ) = k := if_pos rfl
    have e4 : sTg (addW σ m f k g) (sN σ) = g := if_pos rfl
    rw [e1, e2, e3, e4]
    exact ⟨hm.1, hm.2, hf, hk, hg⟩
  · have e1 : sLen (addW σ m f k g) w = sLen σ w := if_neg e
    have e2 : sLet (addW σ m f k g) w = sLet σ w := if_neg e
    have e3 : sKn (addW σ m f k g) w = sKn σ w := if_neg e
    have e4 : sTg (addW σ m f k g) w = sTg σ w := if_neg e
    rw [e1, e2, e3, e4]
    exact ok.2.1 w (by omega)
theorem s_X0_bar {σ : WS} {M : WM} {x : Int32} {b : Bool} {Q : Int32 → WM → Prop} (hW : WC σ M) (ok : wsOK σ) (h1 : ∀ w, w < sN σ → x = nI w → ¬ sBar σ w = b → ∀ M', WC (barW σ w b) M' → wI M' 0 7 = wI M 0 7 + 1 → Fr SVW M M' → Q 1 M') (h0 : (∀ w, w < sN σ → x = nI w → sBar σ w = b) → Q 0 M) : m_X0_bar x (b2i b) M Q := by
  have hn := ok.1
  refine s_X0_isWord hW ok ?_
  by_cases hc : 0 ≤ x.toInt ∧ x.toInt < sN σ
  · rw [decide_eq_true hc]
    obtain ⟨w, hw, rfl, hx⟩ := nI_ex hc.1
    have hw : w < sN σ := by omega
    refine ⟨fun z => absurd z (by decide), fun _ => ⟨pk_in w 40 (by omega), ?_⟩⟩
    obtain ⟨q1, q2, q3, q4, q5⟩ := hW.2.1 w hw
    rw [nI_clamp (by omega), q5, b2i_inj]
    refine ⟨fun e => h0 fun v hv e2 => ?_, fun e => ⟨pk_in w 40 (by omega), b2i_01 b, fun M7 e7 M8 e8 => ?_⟩⟩
    · rw [nI_eq (by omega) (by omega)] at e2; subst e2; exact e
    · have f7 : Fr SVW M M7 := by rw [e7]; exact Fr.rf.PI (Or.inr (by omega))
      have v7 : wI M7 0 7 = wI M 0 7 := by rw [e7, wI_n _ _ (by omega)]
      rw [v7] at e8
      have f8 : Fr SVW M M8 := by rw [e8]; exact f7.PI (Or.inl ⟨rfl, rfl⟩)
      refine h1 w hw rfl e M8 ⟨?_, fun v hv => ?_, ?_⟩ (by rw [e8, wI_s]) f8
      · rw [e8, wI_n _ _ (by omega), e7, wI_n _ _ (by omega)]; exact hW.1
      · obtain ⟨p1, p2, p3, p4, p5⟩ := hW.2.1 v hv
        refine ⟨?_, fun k hk => ?_, ?_, ?_, ?_⟩
        · rw [e8, wI_n _ _ (by omega), e7, wI_n _ _ (by omega)]; exact p1
        · rw [e8, wI_n _ _ (by omega), e7, wI_n _ _ (by omega)]; exact p2 k hk
        · rw [e8, wI_n _ _ (by omega), e7, wI_n _ _ (by omega)]; exact p3
        · rw [e8, wI_n _ _ (by omega), e7, wI_n _ _ (by omega)]; exact p4
        · rw [e8, wI_n _ _ (by omega), e7, wI_PI]
          show _ = b2i (up1 (sBar σ) w b v)
          unfold up1
          by_cases e9 : v = w
          · rw [if_pos ⟨by omega, rfl⟩, if_pos e9]
          · rw [if_neg (by omega), if_neg e9]; exact p5
      · rw [e8, wI_n _ _ (by omega), e7, wI_n _ _ (by omega)]; exact hW.2.2
  · rw [decide_eq_false hc]
    refine ⟨fun _ => h0 fun w hw e => absurd (by rw [e, nI_toInt (by omega)]; omega) hc, fun z => absurd rfl z⟩
def SWT (r k : Nat) : Prop := (r = 5444 ∧ (k = 0 ∨ k = 2)) ∨ (5445 ≤ r ∧ r ≤ 5449)
theorem s_X6_bar {σ : WS} {M : WM} {x : Int32} {b : Bool} {Q : Int32 → WM → Prop} (hW : WT σ M) (ok : wsOK σ) (h1 : ∀ w, w < sN σ → x = nI w → ¬ sBar σ w = b → ∀ M', WT (barW σ w b) M' → Fr SWT M M' → Q 1 M') (h0 : (∀ w, w < sN σ → x = nI w → sBar σ w = b) → Q 0 M) : m_X6_bar x (b2i b) M Q := by
  have hn := ok.1
  refine s_X6_isWord hW ok ?_
  by_cases hc : 0 ≤ x.toInt ∧ x.toInt < sN σ
  · rw [decide_eq_true hc]
    obtain ⟨w, hw, rfl, hx⟩ := nI_ex hc.1
    have hw : w < sN σ := by omega
    refine ⟨fun z => absurd z (by decide), fun _ => ⟨pk_in w 40 (by omega), ?_⟩⟩
    obtain ⟨q1, q2, q3, q4, q5⟩ := hW.2.1 w hw
    rw [nI_clamp (by omega), q5, b2i_inj]
    refine ⟨fun e => h0 fun v hv e2 => ?_, fun e => ⟨pk_in w 40 (by omega), fun M7 e7 => ?_⟩⟩
    · rw [nI_eq (by omega) (by omega)] at e2; subst e2; exact e
    · rw [zb_b2i] at e7
      refine h1 w hw rfl e M7 ⟨?_, fun v hv => ?_, ?_⟩ (by rw [e7]; exact Fr.rf.PI (Or.inr (by omega)))
      · rw [e7, wI_n _ _ (by omega)]; exact hW.1
      · obtain ⟨p1, p2, p3, p4, p5⟩ := hW.2.1 v hv
        refine ⟨?_, fun k hk => ?_, ?_, ?_, ?_⟩
        · rw [e7, wI_n _ _ (by omega)]; exact p1
        · rw [e7, wI_n _ _ (by omega)]; exact p2 k hk
        · rw [e7, wI_n _ _ (by omega)]; exact p3
        · rw [e7, wI_n _ _ (by omega)]; exact p4
        · rw [e7, wI_PI]
          show _ = b2i (up1 (sBar σ) w b v)
          unfold up1
          by_cases e9 : v = w
          · rw [if_pos ⟨rfl, e9⟩, if_pos e9]
          · rw [if_neg (by omega), if_neg e9]; exact p5
      · rw [e7, wI_n _ _ (by omega)]; exact hW.2.2
  · rw [decide_eq_false hc]
    refine ⟨fun _ => h0 fun w hw e => absurd (by rw [e, nI_toInt (by omega)]; omega) hc, fun z => absurd rfl z⟩

theorem s_X0_know {σ : WS} {M : WM} {x y : Int32} {Q : Int32 → WM → Prop} (hW : WC σ M) (ok : wsOK σ) (h1 : ∀ w k, w < sN σ → k < 100 → x = nI w → y = nI k → ∀ M', WC (knowW σ w k) M' → wI M' 0 7 = wI M 0 7 + 1 → Fr SVW M M' → Q 1 M') (h0 : (∀ w k, w < sN σ → k < 100 → x = nI w → ¬ y = nI k) → Q 0 M) : m_X0_know x y M Q := by
  have hn := ok.1
  refine s_X0_isWord hW ok ?_
  by_cases hc : 0 ≤ x.toInt ∧ x.toInt < sN σ
  · rw [decide_eq_true hc]
    obtain ⟨w, hw, rfl, hx⟩ := nI_ex hc.1
    have hw : w < sN σ := by omega
    refine ⟨fun z => absurd z (by decide), fun _ => ?_⟩
    refine s_X0_in ?_
    rw [show (100 : Int32).toInt = 100 by decide]
    by_cases hc2 : 0 ≤ y.toInt ∧ y.toInt < 100
    · rw [decide_eq_true hc2]
      obtain ⟨k, hk, rfl, hy⟩ := nI_ex hc2.1
      refine ⟨fun z => absurd z (by decide), fun _ => ⟨pk_in w 40 (by omega), fun M7 e7 M8 e8 => ?_⟩⟩
      rw [nI_clamp (by omega)] at e7
      have f7 : Fr SVW M M7 := by rw [e7]; exact Fr.rf.PI (Or.inr (by omega))
      have v7 : wI M7 0 7 = wI M 0 7 := by rw [e7, wI_n _ _ (by omega)]
      rw [v7] at e8
      have f8 : Fr SVW M M8 := by rw [e8]; exact f7.PI (Or.inl ⟨rfl, rfl⟩)
      refine h1 w k hw (by omega) rfl rfl M8 ⟨?_, fun v hv => ?_, ?_⟩ (by rw [e8, wI_s]) f8
      · rw [e8, wI_n _ _ (by omega), e7, wI_n _ _ (by omega)]; exact hW.1
      · obtain ⟨p1, p2, p3, p4, p5⟩ := hW.2.1 v hv
        refine ⟨?_, fun k hk => ?_, ?_, ?_, ?_⟩
        · rw [e8, wI_n _ _ (by omega), e7, wI_n _ _ (by omega)]; exact p1
        · rw [e8, wI_n _ _ (by omega), e7, wI_n _ _ (by omega)]; exact p2 k hk
        · rw [e8, wI_n _ _ (by omega), e7, wI_PI]
          show _ = nI (up1 (sKn σ) w k v)
          unfold up1
          by_cases e9 : v = w
          · rw [if_pos ⟨by omega, rfl⟩, if_pos e9]
          · rw [if_neg (by omega), if_neg e9]; exact p3
        · rw [e8, wI_n _ _ (by omega), e7, wI_n _ _ (by omega)]; exact p4
        · rw [e8, wI_n _ _ (by omega), e7, wI_n _ _ (by omega)]; exact p5
      · rw [e8, wI_n _ _ (by omega), e7, wI_n _ _ (by omega)]; exact hW.2.2
    · rw [decide_eq_false hc2]
      exact ⟨fun _ => h0 fun v k hv hk e e2 => hc2 (by rw [e2, nI_toInt (by omega)]; omega), fun z => absurd rfl z⟩
  · rw [decide_eq_false hc]
    exact ⟨fun _ => h0 fun w k hw hk e => absurd (by rw [e, nI_toInt (by omega)]; omega) hc, fun z => absurd rfl z⟩
theorem s_X6_know {σ : WS} {M : WM} {x y : Int32} {Q : Int32 → WM → Prop} (hW : WT σ M) (ok : wsOK σ) (h1 : ∀ w k, w < sN σ → k < 100 → x = nI w → y = nI k → ∀ M', WT (knowW σ w k) M' → Fr SWT M M' → Q 1 M') (h0 : (∀ w k, w < sN σ → k < 100 → x = nI w → ¬ y = nI k) → Q 0 M) : m_X6_know x y M Q := by
  have hn := ok.1
  refine s_X6_isWord hW ok ?_
  by_cases hc : 0 ≤ x.toInt ∧ x.toInt < sN σ
  · rw [decide_eq_true hc]
    obtain ⟨w, hw, rfl, hx⟩ := nI_ex hc.1
    have hw : w < sN σ := by omega
    refine ⟨fun z => absurd z (by decide), fun _ => ?_⟩
    refine s_X6_in ?_
    rw [show (99 : Int32).toInt = 99 by decide, show (0 : Int32).toInt = 0 by decide]
    by_cases hc2 : 0 ≤ y.toInt ∧ y.toInt ≤ 99
    · rw [decide_eq_true hc2]
      obtain ⟨k, hk, rfl, hy⟩ := nI_ex hc2.1
      refine ⟨fun z => absurd z (by decide), fun _ => ⟨pk_in w 40 (by omega), fun M7 e7 => ?_⟩⟩
      rw [nI_clamp (by omega)] at e7
      refine h1 w k hw (by omega) rfl rfl M7 ⟨?_, fun v hv => ?_, ?_⟩ (by rw [e7]; exact Fr.rf.PI (Or.inr (by omega)))
      · rw [e7, wI_n _ _ (by omega)]; exact hW.1
      · obtain ⟨p1, p2, p3, p4, p5⟩ := hW.2.1 v hv
        refine ⟨?_, fun k hk => ?_, ?_, ?_, ?_⟩
        · rw [e7, wI_n _ _ (by omega)]; exact p1
        · rw [e7, wI_n _ _ (by omega)]; exact p2 k hk
        · rw [e7, wI_PI]
          show _ = nI (up1 (sKn σ) w k v)
          unfold up1
          by_cases e9 : v = w
          · rw [if_pos ⟨rfl, e9⟩, if_pos e9]
          · rw [if_neg (by omega), if_neg e9]; exact p3
        · rw [e7, wI_n _ _ (by omega)]; exact p4
        · rw [e7, wI_n _ _ (by omega)]; exact p5
      · rw [e7, wI_n _ _ (by omega)]; exact hW.2.2
    · rw [decide_eq_false hc2]
      exact ⟨fun _ => h0 fun v k hv hk e e2 => hc2 (by rw [e2, nI_toInt (by omega)]; omega), fun z => absurd rfl z⟩
  · rw [decide_eq_false hc]
    exact ⟨fun _ => h0 fun w k hw hk e => absurd (by rw [e, nI_toInt (by omega)]; omega) hc, fun z => absurd rfl z⟩
theorem WC.sp {σ : WS} {M M' : WM} {o : Option Nat} (hW : WC σ M) (hn : sN σ ≤ 40) (f : Fr (fun r k => r = 0 ∧ (k = 4 ∨ k = 7)) M M') (h4 : wI M' 0 4 = spI o) : WC (spkW σ o) M' := by
  refine ⟨by rw [f.I (by omega)]; exact hW.1, fun v hv => ?_, h4⟩
  obtain ⟨p1, p2, p3, p4, p5⟩ := hW.2.1 v hv
  exact ⟨by rw [f.I (by omega)]; exact p1, fun k hk => by rw [f.I (by omega)]; exact p2 k hk, by rw [f.I (by omega)]; exact p3, by rw [f.I (by omega)]; exact p4, by rw [f.I (by omega)]; exact p5⟩
/-- which tongue an int names -/
def spOf (x : Int32) (o : Option Nat) : Prop := x = spI o ∧ ∀ t, o = some t → t < 4
theorem spOf_ex {x : Int32} (h : -1 ≤ x.toInt ∧ x.toInt < 4) : ∃ o, spOf x o := by
  by_cases hc : 0 ≤ x.toInt
  · obtain ⟨t, ht, rfl, e⟩ := nI_ex hc
    exact ⟨some t, rfl, fun u hu => by cases hu; omega⟩
  · exact ⟨none, by rw [i_eq]; show _ = (-1 : Int); omega, fun u hu => by cases hu⟩
theorem spOf_r {x : Int32} {o : Option Nat} (h : spOf x o) : -1 ≤ x.toInt ∧ x.toInt < 4 := by
  obtain ⟨rfl, h2⟩ := h
  cases o with
  | none => decide
  | some t => have := h2 t rfl; show -1 ≤ (nI t).toInt ∧ (nI t).toInt < 4; rw [nI_toInt (by omega)]; omega
theorem s_X0_speak {σ : WS} {M : WM} {x : Int32} {Q : Int32 → WM → Prop} (hW : WC σ M) (ok : wsOK σ) (h1 : ∀ o, spOf x o → ∀ M', WC (spkW σ o) M' → wI M' 0 7 = wI M 0 7 + 1 → Fr (fun r k => r = 0 ∧ (k = 4 ∨ k = 7)) M M' → Q 1 M') (h0 : (∀ o, ¬ spOf x o) → Q 0 M) : m_X0_speak x M Q := by
  have key : ∀ o, spOf x o → m_X0_speak_j15 x Q M := fun o ho M1 e1 M2 e2 => by
    have f1 : Fr (fun r k => r = 0 ∧ (k = 4 ∨ k = 7)) M M1 := by rw [e1]; exact Fr.rf.PI ⟨rfl, Or.inl rfl⟩
    have v1 : wI M1 0 7 = wI M 0 7 := by rw [e1, wI_n _ _ (by omega)]
    rw [v1] at e2
    have f2 : Fr (fun r k => r = 0 ∧ (k = 4 ∨ k = 7)) M M2 := by rw [e2]; exact f1.PI ⟨rfl, Or.inr rfl⟩
    exact h1 o ho M2 (hW.sp ok.1 f2 (by rw [e2, wI_n _ _ (by omega), e1, wI_s]; exact ho.1)) (by rw [e2, wI_s]) f2
  refine ⟨fun c => key none ⟨c, fun t ht => by cases ht⟩, fun c => ?_⟩
  refine s_X0_in ?_
  rw [show (4 : Int32).toInt = 4 by decide]
  by_cases hc : 0 ≤ x.toInt ∧ x.toInt < 4
  · rw [decide_eq_true hc]
    obtain ⟨o, ho⟩ := spOf_ex (x := x) ⟨by omega, hc.2⟩
    exact ⟨fun z => absurd z (by decide), fun _ => key o ho⟩
  · rw [decide_eq_false hc]
    refine ⟨fun _ => h0 fun o ho => ?_, fun z => absurd rfl z⟩
    have := spOf_r ho
    rw [i_eq, show ((-1 : Int32)).toInt = -1 by decide] at c
    omega
theorem s_X6_speak {σ : WS} {M : WM} {x : Int32} {Q : Int32 → WM → Prop} (hW : WT σ M) (h1 : ∀ o, spOf x o → ∀ M', WT (spkW σ o) M' → Fr SWT M M' → Q 1 M') (h0 : (∀ o, ¬ spOf x o) → Q 0 M) : m_X6_speak x M Q := by
  refine s_X6_in ?_
  rw [show ((-1 : Int32)).toInt = -1 by decide, show (3 : Int32).toInt = 3 by decide]
  by_cases hc : -1 ≤ x.toInt ∧ x.toInt ≤ 3
  · rw [decide_eq_true hc]
    obtain ⟨o, ho⟩ := spOf_ex (x := x) ⟨hc.1, by omega⟩
    refine ⟨fun z => absurd z (by decide), fun _ M3 e3 => ?_⟩
    refine h1 o ho M3 ⟨by rw [e3, wI_n _ _ (by omega)]; exact hW.1, fun v hv => ?_, by rw [e3, wI_s]; exact ho.1⟩ (by rw [e3]; exact Fr.rf.PI (Or.inl ⟨rfl, Or.inr rfl⟩))
    obtain ⟨p1, p2, p3, p4, p5⟩ := hW.2.1 v hv
    exact ⟨by rw [e3, wI_n _ _ (by omega)]; exact p1, fun k hk => by rw [e3, wI_n _ _ (by omega)]; exact p2 k hk, by rw [e3, wI_n _ _ (by omega)]; exact p3, by rw [e3, wI_n _ _ (by omega)]; exact p4, by rw [e3, wI_n _ _ (by omega)]; exact p5⟩
  · rw [decide_eq_false hc]
    exact ⟨fun _ => h0 fun o ho => hc (by have := spOf_r ho; omega), fun z => absurd rfl z⟩
theorem s_X0_off {σ : WS} {M : WM} {Q : Int32 → WM → Prop} (hW : WC σ M) (ok : wsOK σ) (h1 : 0 < sN σ → ∀ M', WC (offW σ) M' → wI M' 0 7 = wI M 0 7 + 1 → Fr (fun r k => r = 0 ∧ (k = 3 ∨ k = 7)) M M' → Q (nI (sLen σ (sN σ - 1))) M') (h0 : sN σ = 0 → Q (-1) M) : m_X0_off M Q := by
  have hn := ok.1
  unfold m_X0_off
  rw [hW.1]
  refine pk_eq (sN σ) 0 h0 (fun hz => ?_) rfl rfl
  intro M2 e2 M3 e3
  rw [show (1 : Int32) = nI 1 from rfl, pk_sub (by omega)] at e2
  have v2 : wI M2 0 7 = wI M 0 7 := by rw [e2, wI_n _ _ (by omega)]
  rw [v2] at e3
  have f3 : Fr (fun r k => r = 0 ∧ (k = 3 ∨ k = 7)) M M3 := by rw [e3, e2]; exact (Fr.rf.PI ⟨rfl, Or.inl rfl⟩).PI ⟨rfl, Or.inr rfl⟩
  have n3 : wI M3 0 3 = nI (sN σ - 1) := by rw [e3, wI_n _ _ (by omega), e2, wI_s]
  rw [n3, nI_clamp (by omega)]
  refine ⟨pk_in (sN σ - 1) 40 (by omega), ?_⟩
  have hl := (hW.2.1 (sN σ - 1) (by omega)).1
  rw [f3.I (by omega), hl]
  refine h1 (by omega) M3 ⟨n3, fun v hv => ?_, by rw [f3.I (by omega)]; exact hW.2.2⟩ (by rw [e3, wI_s]) f3
  have hv : v < sN σ - 1 := hv
  obtain ⟨p1, p2, p3, p4, p5⟩ := hW.2.1 v (by omega)
  exact ⟨by rw [f3.I (by omega)]; exact p1, fun k hk => by rw [f3.I (by omega)]; exact p2 k hk, by rw [f3.I (by omega)]; exact p3, by rw [f3.I (by omega)]; exact p4, by rw [f3.I (by omega)]; exact p5⟩
theorem s_X6_off {σ : WS} {M : WM} {Q : Int32 → WM → Prop} (hW : WT σ M) (ok : wsOK σ) (h1 : 0 < sN σ → ∀ M', WT (offW σ) M' → Fr SWT M M' → Q (nI (sLen σ (sN σ - 1))) M') (h0 : sN σ = 0 → Q (-1) M) : m_X6_off M Q := by
  have hn := ok.1
  unfold m_X6_off
  rw [hW.1]
  refine pk_eq (sN σ) 0 h0 (fun hz => ?_) rfl rfl
  intro M2 e2
  rw [show (1 : Int32) = nI 1 from rfl, pk_sub (by omega)] at e2
  have n2 : wI M2 5444 0 = nI (sN σ - 1) := by rw [e2, wI_s]
  rw [n2, nI_clamp (by omega)]
  refine ⟨pk_in (sN σ - 1) 40 (by omega), ?_⟩
  have hl := (hW.2.1 (sN σ - 1) (by omega)).1
  rw [show wI M2 5445 (sN σ - 1) = nI (sLen σ (sN σ - 1)) by rw [e2, wI_n _ _ (by omega)]; exact hl]
  refine h1 (by omega) M2 ⟨n2, fun v hv => ?_, by rw [e2, wI_n _ _ (by omega)]; exact hW.2.2⟩ (by rw [e2]; exact Fr.rf.PI (Or.inl ⟨rfl, Or.inl rfl⟩))
  have hv : v < sN σ - 1 := hv
  obtain ⟨p1, p2, p3, p4, p5⟩ := hW.2.1 v (by omega)
  exact ⟨by rw [e2, wI_n _ _ (by omega)]; exact p1, fun k hk => by rw [e2, wI_n _ _ (by omega)]; exact p2 k hk, by rw [e2, wI_n _ _ (by omega)]; exact p3, by rw [e2, wI_n _ _ (by omega)]; exact p4, by rw [e2, wI_n _ _ (by omega)]; exact p5⟩
theorem s_X0_seed {M : WM} {x : Int32} {Q : Int32 → WM → Prop} (h1 : ∀ k, k < 65536 → x = nI k → Q 1 (wPI M 0 6 (nI k))) (h0 : (∀ k, k < 65536 → ¬ x = nI k) → Q 0 M) : m_X0_seed x M Q := by
  refine s_X0_in ?_
  rw [show (65536 : Int32).toInt = 65536 by decide]
  by_cases hc : 0 ≤ x.toInt ∧ x.toInt < 65536
  · rw [decide_eq_true hc]
    obtain ⟨k, hk, rfl, e⟩ := nI_ex hc.1
    exact ⟨fun z => absurd z (by decide), fun _ M3 e3 => by subst e3; exact h1 k (by omega) rfl⟩
  · rw [decide_eq_false hc]
    exact ⟨fun _ => h0 fun k hk e => hc (by rw [e, nI_toInt (by omega)]; omega), fun z => absurd rfl z⟩
theorem s_X6_seed {M : WM} {x : Int32} {Q : Int32 → WM → Prop} (h1 : ∀ k, k < 65536 → x = nI k → Q 1 (wPI M 5444 1 (nI k))) (h0 : (∀ k, k < 65536 → ¬ x = nI k) → Q 0 M) : m_X6_seed x M Q := by
  refine s_X6_in ?_
  rw [show (65535 : Int32).toInt = 65535 by decide, show (0 : Int32).toInt = 0 by decide]
  by_cases hc : 0 ≤ x.toInt ∧ x.toInt ≤ 65535
  · rw [decide_eq_true hc]
    obtain ⟨k, hk, rfl, e⟩ := nI_ex hc.1
    exact ⟨fun z => absurd z (by decide), fun _ M3 e3 => by subst e3; exact h1 k (by omega) rfl⟩
  · rw [decide_eq_false hc]
    exact ⟨fun _ => h0 fun k hk e => hc (by rw [e, nI_toInt (by omega)]; omega), fun z => absurd rfl z⟩
