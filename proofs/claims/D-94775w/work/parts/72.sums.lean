/-! the law's text, the model's side: sums -/
theorem t_fact {X : TX} {M0 : WM} {p : Nat} {Q : Int32 → Prop} (hx : Tx X M0) (h : Q (match ltrO (ch X p) with
  | none => -1
  | some i => nI i)) : m_X6_factOf (hT X p) Q := by
  have k : ∀ c i, ch X p = c → ltrO c = some i → Q (nI i) := fun c i e1 e2 => by rw [e1, e2] at h; exact h
  unfold m_X6_factOf
  refine hT_ask hx 97 rfl (by omega) (by omega) (fun c => k _ 7 c rfl) (fun c1 => hT_ask hx 98 rfl (by omega) (by omega) (fun c => k _ 8 c rfl) (fun c2 => hT_ask hx 102 rfl (by omega) (by omega) (fun c => k _ 5 c rfl) (fun c3 => hT_ask hx 103 rfl (by omega) (by omega) (fun c => k _ 6 c rfl) (fun c4 => hT_ask hx 105 rfl (by omega) (by omega) (fun c => k _ 1 c rfl) (fun c5 => hT_ask hx 107 rfl (by omega) (by omega) (fun c => k _ 0 c rfl) (fun c6 => hT_ask hx 108 rfl (by omega) (by omega) (fun c => k _ 4 c rfl) (fun c7 => hT_ask hx 111 rfl (by omega) (by omega) (fun c => k _ 2 c rfl) (fun c8 => hT_ask hx 112 rfl (by omega) (by omega) (fun c => k _ 3 c rfl) (fun c9 => ?_)))))))))
  have : ltrO (ch X p) = none := by unfold ltrO; rw [if_neg c6, if_neg c5, if_neg c8, if_neg c9, if_neg c7, if_neg c3, if_neg c4, if_neg c1, if_neg c2]
  rw [this] at h; exact h
def sgO (c : Nat) : Option Nat := match addS c with
  | some o => some o
  | none => mulS c
def sgI (o : Option Nat) : Int32 := match o with
  | none => -1
  | some o => nI o
theorem sg_add {c o : Nat} (h : addS c = some o) : sgO c = some o ∧ (o = 2 ∨ o = 3) := by
  unfold sgO; rw [h]
  unfold addS at h
  split at h
  · cases h; exact ⟨rfl, Or.inl rfl⟩
  · split at h
    · cases h; exact ⟨rfl, Or.inr rfl⟩
    · cases h
theorem sg_mul {c o : Nat} (h : mulS c = some o) : sgO c = some o ∧ 4 ≤ o ∧ o ≤ 6 := by
  have h0 := h
  unfold mulS at h
  split at h
  · rename_i e; cases h; rw [e]; exact ⟨rfl, by omega, by omega⟩
  · split at h
    · rename_i e; cases h; rw [e]; exact ⟨rfl, by omega, by omega⟩
    · split at h
      · rename_i e; cases h; rw [e]; exact ⟨rfl, by omega, by omega⟩
      · cases h
theorem t_sign {X : TX} {M0 : WM} {p : Nat} {Q : Int32 → Prop} (hx : Tx X M0) (h : Q (sgI (sgO (ch X p)))) : m_X6_sumSign (hT X p) Q := by
  have k : ∀ c i, ch X p = c → sgO c = some i → Q (nI i) := fun c i e1 e2 => by rw [e1, e2] at h; exact h
  unfold m_X6_sumSign
  refine hT_ask hx 43 rfl (by omega) (by omega) (fun c => k _ 2 c rfl) (fun c1 => hT_ask hx 45 rfl (by omega) (by omega) (fun c => k _ 3 c rfl) (fun c2 => hT_ask hx 42 rfl (by omega) (by omega) (fun c => k _ 4 c rfl) (fun c3 => hT_ask hx 47 rfl (by omega) (by omega) (fun c => k _ 5 c rfl) (fun c4 => hT_ask hx 37 rfl (by omega) (by omega) (fun c => k _ 6 c rfl) (fun c5 => ?_)))))
  have : sgO (ch X p) = none := by unfold sgO addS mulS; rw [if_neg c1, if_neg c2, if_neg c3, if_neg c4, if_neg c5]
  rw [this] at h; exact h
theorem Ts.n {M0 M M' : WM} {p op : Nat} {W C : Cd} {v : Int32} (ts : Ts M0 p op W C M) (e : M' = wPI M 5444 19 v) : Ts M0 p op W C M' := by
  obtain ⟨f, t1, t2, t3, t4, t5, t6⟩ := ts
  exact ⟨by rw [e]; exact f.PI (Or.inl ⟨rfl, by omega⟩), by rw [e, wI_n _ _ (by omega)]; exact t1, by rw [e, wI_n _ _ (by omega)]; exact t2, by rw [e, wI_n _ _ (by omega)]; exact t3, t4.fr fun k _ => by rw [e, wI_n _ _ (by omega)], by rw [e, wI_n _ _ (by omega)]; exact t5, t6.fr fun k _ => by rw [e, wI_n _ _ (by omega)]⟩
def ErQ (M0 : WM) (Q : Int32 → WM → Prop) (e : Nat × Nat) : Prop := ∀ M', Fr StP M0 M' → wI M' 5444 14 = fltI e → Q 0 M'
theorem t_number {X : TX} {M0 M : WM} {p op : Nat} {W C : Cd} {Q : Int32 → WM → Prop} (hx : Tx X M0) (ts : Ts M0 p op W C M) (hp : p ≤ X.2) (he : ∀ e, pNum X 5 p 0 = .error e → ErQ M0 Q e) (h : ∀ q, pNum X 5 p 0 = .ok q → ∀ M', Ts M0 q.2 op W C M' → wI M' 5444 19 = nI q.1 → Q 1 M') : m_X6_readsNumber M Q := by
  have hl := hx.1
  have key : ∀ k p' v M', p' + k = p + 5 → p' ≤ X.2 → Ts M0 p' op W C M' → wI M' 5444 19 = nI v → (∀ e, pNum X k p' v = .error e → ErQ M0 Q e) → (∀ q, pNum X k p' v = .ok q → ∀ M', Ts M0 q.2 op W C M' → wI M' 5444 19 = nI q.1 → Q 1 M') → m_X6_readsNumber_l10 (nI p) Q (k + 1) M' := fun k => by
    induction k with
    | zero =>
      intro p' v M' e1 e2 t n he h
      unfold m_X6_readsNumber_l10
      refine t_isDigit hx t e2 (bcs (fun d => ?_) (fun d => h (v, p') (by unfold pNum; rw [if_neg (by rw [d]; decide)]) M' t n))
      rw [t.2.1, show nI p + 5 = nI (p + 5) from nI_add p 5]
      refine pk_eq p' (p + 5) (fun _ => t_wrong t.1 rfl fun M8 f8 e8 => ⟨Or.inl rfl, he (2, p') (by unfold pNum; rw [if_pos d]) M8 f8 e8⟩) (fun c => absurd (by omega) c) rfl rfl
    | succ k ih =>
      intro p' v M' e1 e2 t n he h
      unfold m_X6_readsNumber_l10
      refine t_isDigit hx t e2 (bcs (fun d => ?_) (fun d => h (v, p') (by unfold pNum; rw [if_neg (by rw [d]; decide)]) M' t n))
      rw [t.2.1, show nI p + 5 = nI (p + 5) from nI_add p 5]
      have hp' : p' < X.2 := ch_lt fun z => by rw [z] at d; cases d
      have hd : 48 ≤ ch X p' := by unfold dig at d; rw [Bool.and_eq_true] at d; exact of_decide_eq_true d.1
      refine pk_eq p' (p + 5) (fun c => absurd c (by omega)) (fun _ => t_here hx t e2 fun M5 e5 M6 e6 => ?_) rfl rfl
      have ec : hT X p' = nI (ch X p') := by unfold hT ch; rw [if_pos hp', if_pos hp']
      rw [ec, n, show (10 : Int32) = nI 10 from rfl, show (48 : Int32) = nI 48 from rfl, pk_mul, nI_add, pk_sub (by omega)] at e5
      have t5 := t.n e5
      rw [t5.2.1, nI_1] at e6
      have hs : pNum X (k + 1) p' v = pNum X k (p' + 1) (10 * v + (ch X p' - 48)) := by rw [pNum, if_pos d]
      rw [hs] at he h
      exact ih (p' + 1) (10 * v + (ch X p' - 48)) M6 (by omega) (by omega) (t5.p e6) (by rw [e6, wI_n _ _ (by omega), e5, wI_s]; congr 1; omega) he h
  intro z1 e1 M2 e2
  rw [ts.2.1] at e1
  rw [e1]
  exact ⟨6, key 5 p 0 M2 rfl hp (ts.n e2) (by rw [e2, wI_s]; rfl) he h⟩
def LPs (M0 : WM) (b : Nat) (Q : Int32 → WM → Prop) (n p op : Nat) (W C : Cd) : Prop := ∀ M, Ts M0 p op W C M → m_X6_readsSum_l14 (nI b) Q n M
def RFs (M0 : WM) (Q : Int32 → WM → Prop) (K : WM → Prop) (f p op : Nat) (W C : Cd) : Prop := ∀ M, Ts M0 p op W C M → m_X6_readsFactor_l0 (fun a M3 => (a = 0 → Q 0 M3) ∧ (¬ a = 0 → K M3)) f M
def OKp (X : TX) (p : Nat) (W C : Cd) : Prop := C.length + wq W ≤ p ∧ W.length ≤ p ∧ p ≤ X.2
def pOKs (all : Bool) (P : Cd) : Prop := ∀ x, x ∈ P → clo all x.1 = true ∧ x.2 = 0
def noc (all : Bool) (W : Cd) : Prop := ∀ x W', W = x :: W' → clo all x.1 = false
theorem wq_app {all : Bool} {W : Cd} : ∀ {P : Cd}, pOKs all P → wq (P ++ W) = P.length + wq W
  | [], _ => by show wq W = 0 + wq W; omega
  | x :: P, h => by
    show (if 2 ≤ x.1 ∧ x.1 ≤ 10 then 1 else 0) + wq (P ++ W) = P.length + 1 + wq W
    rw [if_pos (clo_wq (h x List.mem_cons_self).1), wq_app fun y hy => h y (List.mem_cons_of_mem _ hy)]; omega
/-- a factor -/
def FacP (X : TX) (M0 : WM) (b : Nat) (Q : Int32 → WM → Prop) (it : Nat → Rs SR) (op : Nat) : Prop := ∀ p W C n f (K : WM → Prop), OKp X p W C → b ≤ W.length → (∀ M', m_X6_readsSum_l14 (nI b) Q n M' → K M') → (∀ e, it p = .error e → ErQ M0 Q e) → (∀ a, it p = .ok a → ∀ n', X.2 - a.2.2 < n' → LPs M0 b Q n' a.2.2 op W (C ++ a.1)) → X.2 - p < f → X.2 - p ≤ n → RFs M0 Q K f p op W C
/-- a product; a sum -/
def PrdP (X : TX) (M0 : WM) (b : Nat) (Q : Int32 → WM → Prop) (all : Bool) (it : Nat → Rs SR) (op : Nat) : Prop := ∀ p W C n f (K : WM → Prop), OKp X p W C → b ≤ W.length → noc all W → (∀ M', m_X6_readsSum_l14 (nI b) Q n M' → K M') → (∀ e, it p = .error e → ErQ M0 Q e) → (∀ a, it p = .ok a → ∀ n' P raw, a.1 = raw ++ P → pOKs all P → mulS (ch X a.2.2) = none → (all = true → addS (ch X a.2.2) = none) → X.2 - a.2.2 < n' → LPs M0 b Q n' a.2.2 op (P ++ W) (C ++ raw)) → X.2 - p < f → X.2 - p ≤ n → RFs M0 Q K f p op W C
theorem t_fac {X : TX} {M0 : WM} {b : Nat} {Q : Int32 → WM → Prop} (hx : Tx X M0) {S : Nat → Nat → Rs SR} {op : Nat} (hop : op ≤ 6) (hS : ¬ op = 6 → PrdP X M0 b Q true (S (op + 1)) (op + 1)) (hSo : ∀ p r, S (op + 1) p = .ok r → sOK X p r) : FacP X M0 b Q (pFac X S op) op := fun p W C n f K hok hb hK he hk hf hn M ts => by
  obtain ⟨k1, k2, k3⟩ := hok
  have hl := hx.1
  obtain ⟨f, rfl⟩ : ∃ g, f = g + 1 := ⟨f - 1, by omega⟩
  unfold m_X6_readsFactor_l0
  unfold pFac at he hk
  refine t_here hx ts k3 (hT_ask hx 91 rfl (by omega) (by omega) (fun c => ?_) (fun c => ?_))
  · rw [if_pos c] at he hk
    have hp : p < X.2 := ch_lt fun z => by omega
    refine t_opens (o := 14) ts rfl (by omega) hop (by omega) (fun c6 M' f' e' => ie0 ⟨fun _ => he (5, p) (by rw [if_pos c6]) M' f' e', fun z => absurd rfl z⟩) (fun c6 M2 t2 => ie1 ?_)
    rw [if_neg c6] at he hk
    refine hS c6 (p + 1) ((14, 0) :: W) C n f K ⟨by show C.length + ((if 2 ≤ 14 ∧ 14 ≤ 10 then 1 else 0) + wq W) ≤ p + 1; rw [if_neg (by omega)]; omega, by show W.length + 1 ≤ p + 1; omega, by omega⟩ (by show b ≤ W.length + 1; omega) (fun x W' e => by cases e; rfl) hK (fun e e2 => he e (by rw [e2])) (fun a ea n' P raw e3 e4 e5 e6 e7 M3 t3 => ?_) (by omega) (by omega) M2 t2
    rw [ea] at he hk
    obtain ⟨a1, a2, a3⟩ := hSo _ _ ea
    have e6 := e6 rfl
    have hlen : raw.length + P.length = a.1.length := by rw [e3, List.length_append]
    have hPW : (P ++ (14, 0) :: W).length = P.length + (W.length + 1) := by rw [List.length_append]; rfl
    have sg0 : sgO (ch X a.2.2) = none := by unfold sgO; rw [e6]; exact e5
    obtain ⟨m, rfl⟩ : ∃ m, n' = m + 1 := ⟨n' - 1, by omega⟩
    have hh : hos b (P ++ (14, 0) :: W) = true := hos_t hb rfl
    unfold m_X6_readsSum_l14
    refine t_here hx t3 a2 (t_sign hx ?_)
    rw [sg0]
    refine ⟨fun _ => t_here hx t3 a2 (hT_ask hx 93 rfl (by omega) (by omega) (fun c9 => ?_) (fun c9 => ?_)), fun z => absurd rfl z⟩
    · refine t_hos t3 (by omega) (by omega) ?_
      rw [hh]
      refine ie1 ⟨(P ++ (14, 0) :: W).length + 1, t_closes (all := true) t3 (by omega) (by rw [wq_app e4, List.length_append]; show C.length + raw.length + (P.length + ((if 2 ≤ 14 ∧ 14 ≤ 10 then 1 else 0) + wq W)) ≤ 180; rw [if_neg (by omega)]; omega) (fun M9 t9 M10 e10 M11 e11 M12 e12 => ?_) _ (by omega)⟩
      rw [cls_app (fun x W' e => by cases e; rfl) e4] at t9
      have t10 := t9.pop e10
      rw [t10.2.2.1, show nI (op + 1) - 1 = nI op from nI_pred op] at e11
      have t11 := t10.o e11
      rw [t11.2.1, nI_1] at e12
      have t12 := t11.p e12
      have ha9 := ch_lt (X := X) (p := a.2.2) fun z => by omega
      refine hk (a.1, a.2.1, a.2.2 + 1) (by show (if ch X a.2.2 = 93 then Except.ok (a.1, a.2.1, a.2.2 + 1) else Except.error (1, a.2.2) : Rs SR) = _; rw [if_pos c9]) m (by show X.2 - (a.2.2 + 1) < m; omega) M12 ?_
      rw [e3, ← List.append_assoc]; exact t12
    · unfold m_X6_readsSum_j138
      refine t_hos t3 (by omega) (by omega) ?_
      rw [hh, t3.2.1]
      refine ie1 (t_wrong t3.1 rfl fun M' f' e' => ⟨Or.inl rfl, he (1, a.2.2) (by show (if ch X a.2.2 = 93 then Except.ok (a.1, a.2.1, a.2.2 + 1) else Except.error (1, a.2.2) : Rs SR) = _; rw [if_neg c9]) M' f' e'⟩)
  · rw [if_neg c] at he hk
    refine t_isDigit hx ts k3 (bcs (fun d => ?_) (fun d => ?_))
    · rw [if_pos d] at he hk
      have hp : p < X.2 := ch_lt fun z => by rw [z] at d; cases d
      refine t_number hx ts k3 (fun e ee M' f' e' => ie0 ⟨fun _ => he e (by rw [ee]) M' f' e', fun z => absurd rfl z⟩) (fun q eq M15 t15 n15 => ie1 ?_)
      rw [eq] at hk
      obtain ⟨q1, q2, q3⟩ := pNum_ok eq k3
      have q3 := q3 d
      have q4 := pNum_v eq
      have q4 : q.1 < 100000 := by simpa using q4
      refine t_notes (o := 0) t15 rfl n15 ⟨by omega, by show q.1 < 1048576; omega⟩ (by omega) fun M18 t18 => ⟨fun z => absurd z (by decide), fun _ => hK M18 ?_⟩
      exact hk _ rfl n (by show X.2 - q.2 < n; omega) M18 t18
    · rw [d] at he hk
      refine t_here hx ts k3 (t_fact hx ?_)
      cases el : ltrO (ch X p) with
      | none =>
        rw [el] at he
        rw [ts.2.1]
        exact ⟨fun _ => t_wrong ts.1 rfl fun M' f' e' => ⟨Or.inl rfl, fun _ => he (1, p) rfl M' f' e', fun z => absurd rfl z⟩, fun z => absurd rfl z⟩
      | some i =>
        rw [el] at hk
        have hp : p < X.2 := ch_lt fun z => by rw [z] at el; cases el
        have hi : i ≤ 8 := by
          unfold ltrO at el
          repeat' split at el
          all_goals first | (cases el; done) | (cases el; omega)
        refine ⟨fun z => absurd z ?_, fun _ => t_notes (o := 1) ts rfl rfl ⟨by omega, by show i < 1048576; omega⟩ (by omega) fun M9 t9 M10 e10 => ⟨fun z => absurd z (by decide), fun _ => hK M10 ?_⟩⟩
        · show ¬ nI i = -1
          rw [i_eq, nI_toInt (by omega)]; intro z; have : (i : Int) = -1 := z; omega
        · rw [t9.2.1, nI_1] at e10
          exact hk _ rfl n (by show X.2 - (p + 1) < n; omega) M10 (t9.p e10)
theorem pOKs.up {P : Cd} (h : pOKs false P) : pOKs true P := fun x hx => by
  obtain ⟨h1, h2⟩ := h x hx
  refine ⟨?_, h2⟩
  unfold clo at h1 ⊢
  rw [Bool.false_and, Bool.or_false] at h1
  rw [h1]; rfl
theorem pOKs.le {P : Cd} {all : Bool} (h : pOKs all P) : ∀ x, x ∈ P → ¬ x.1 = 14 := fun x hx e => by
  have := clo_wq (h x hx).1
  omega
/-- an operator is taken: what binds as tight is closed, it waits, a factor is read -/
theorem t_step {X : TX} {M0 : WM} {b : Nat} {Q : Int32 → WM → Prop} (hx : Tx X M0) {n p op o : Nat} {all : Bool} {P W C : Cd} (hp : p < X.2) (hs : sgO (ch X p) = some o) (ho : o ≤ 6) (hall : all = decide (o < 4)) (hP : pOKs all P) (hW : noc all W) (h1 : C.length + P.length + wq W ≤ p) (h2 : P.length + W.length ≤ p) (h : ∃ f, RFs M0 Q (fun M' => m_X6_readsSum_l14 (nI b) Q n M') f (p + 1) op ((o, 0) :: W) (C ++ P)) : LPs M0 b Q (n + 1) p op (P ++ W) C := fun M ts => by
  have hl := hx.1
  have hPW : (P ++ W).length = P.length + W.length := List.length_append
  have j38 : m_X6_readsSum_j38 (fun M' => m_X6_readsSum_l14 (nI b) Q n M') (nI b) (nI o) (b2i all) Q M := by
    refine ⟨(P ++ W).length + 1, t_closes (all := all) ts (by omega) (by rw [wq_app hP]; omega) (fun M2 t2 => ?_) _ (by omega)⟩
    rw [cls_app hW hP] at t2
    have t2 : Ts M0 p op W (C ++ P) M2 := t2
    rw [t2.2.2.2.1, nI_clamp (by omega), show (1048576 : Int32) * nI o = cI (o, 0) by unfold cI; rw [show (1048576 : Int32) = nI 1048576 from rfl, pk_mul]; rfl]
    refine ⟨vin (by omega), fun M4 e4 M5 e5 M6 e6 => ?_⟩
    have t5 := t2.push ⟨by show o ≤ 14; omega, by show 0 < 1048576; omega⟩ e4 e5
    rw [t5.2.1, nI_1] at e6
    obtain ⟨f, g⟩ := h
    exact ⟨f, g M6 (t5.p e6)⟩
  unfold m_X6_readsSum_l14
  refine t_here hx ts (by omega) (t_sign hx ?_)
  rw [hs]
  refine ⟨fun z => absurd z ?_, fun _ => pk_le 4 o (fun c => ?_) (fun c => ?_) rfl rfl⟩
  · show ¬ nI o = -1
    rw [i_eq, nI_toInt (by omega)]; intro z; have : (o : Int) = -1 := z; omega
  · rw [decide_eq_false (by omega)] at hall; rw [hall] at j38; exact j38
  · rw [decide_eq_true (by omega)] at hall; rw [hall] at j38; exact j38
theorem t_prod {X : TX} {M0 : WM} {b : Nat} {Q : Int32 → WM → Prop} (hx : Tx X M0) {it : Nat → Rs SR} {op : Nat} (hF : FacP X M0 b Q it op) (hio : ∀ p r, it p = .ok r → sOK X p r) {W C : Cd} {p0 : Nat} (hW : noc false W) (h1 : C.length + wq W ≤ p0) (h2 : W.length ≤ p0) (hb : b ≤ W.length) (K : SR → Prop) (hK : ∀ a, K a ↔ ∀ n' P raw, a.1 = raw ++ P → pOKs false P → mulS (ch X a.2.2) = none → X.2 - a.2.2 < n' → LPs M0 b Q n' a.2.2 op (P ++ W) (C ++ raw)) : ∀ (k : Nat) (acc : SR) (P raw : Cd), X.2 ≤ acc.2.2 + k → sOK X p0 acc → acc.1 = raw ++ P → pOKs false P → (∀ e, pCh X mulS it k acc = .error e → ErQ M0 Q e) → (∀ a, pCh X mulS it k acc = .ok a → K a) → ∀ n, X.2 - acc.2.2 < n → LPs M0 b Q n acc.2.2 op (P ++ W) (C ++ raw)
  | 0, acc, P, raw, hk, hs, e1, e2, he, h, n, hn => by
    have hc : mulS (ch X acc.2.2) = none := by unfold ch; rw [if_neg (by omega)]; rfl
    exact (hK acc).mp (h acc rfl) n P raw e1 e2 hc hn
  | k + 1, acc, P, raw, hk, hs, e1, e2, he, h, n, hn => by
    unfold pCh at he h
    cases ec : mulS (ch X acc.2.2) with
    | none =>
      rw [ec] at h
      exact (hK acc).mp (h acc rfl) n P raw e1 e2 ec hn
    | some o =>
      rw [ec] at he h
      obtain ⟨g1, g2, g3⟩ := sg_mul ec
      obtain ⟨s1, s2, s3⟩ := hs
      have hp : acc.2.2 < X.2 := ch_lt fun z => by rw [z] at ec; cases ec
      obtain ⟨m, rfl⟩ : ∃ m, n = m + 1 := ⟨n - 1, by omega⟩
      have hlen : raw.length + P.length = acc.1.length := by rw [e1, List.length_append]
      have hCr : (C ++ raw).length = C.length + raw.length := List.length_append
      have hCa : (C ++ raw ++ P).length = C.length + acc.1.length := by rw [List.length_append, hCr]; omega
      refine t_step hx hp g1 (by omega) (by rw [decide_eq_false (by omega)]) e2 hW (by omega) (by omega) ⟨X.2 + 1, ?_⟩
      refine hF (acc.2.2 + 1) ((o, 0) :: W) (C ++ raw ++ P) m (X.2 + 1) _ ⟨by rw [hCa]; show C.length + acc.1.length + ((if 2 ≤ o ∧ o ≤ 10 then 1 else 0) + wq W) ≤ acc.2.2 + 1; rw [if_pos (by omega)]; omega, by show W.length + 1 ≤ acc.2.2 + 1; omega, by omega⟩ (by show b ≤ W.length + 1; omega) (fun M' q => q) (fun e ee => he e (by rw [ee])) (fun bb eb n' hn' => ?_) (by omega) (by omega)
      rw [eb] at he h
      obtain ⟨b1, b2, b3⟩ := hio _ _ eb
      have ih := t_prod hx hF hio hW h1 h2 hb K hK k (cmb o acc bb) [(o, 0)] (acc.1 ++ bb.1) (by show X.2 ≤ bb.2.2 + k; omega) ⟨by show p0 < bb.2.2; omega, b2, by show (acc.1 ++ bb.1 ++ [(o, 0)]).length + p0 ≤ bb.2.2; rw [List.length_append, List.length_append]; show acc.1.length + bb.1.length + 1 + p0 ≤ bb.2.2; omega⟩ rfl (fun x hx => by
        rcases List.mem_singleton.mp hx with rfl
        exact ⟨by show clo false o = true; unfold clo; rw [decide_eq_true ⟨g2, g3⟩]; rfl, rfl⟩) he h n' hn'
      have ee : C ++ raw ++ P ++ bb.1 = C ++ (acc.1 ++ bb.1) := by rw [e1, List.append_assoc, List.append_assoc, List.append_assoc]
      rw [ee]
      exact ih
theorem t_prd {X : TX} {M0 : WM} {b : Nat} {Q : Int32 → WM → Prop} (hx : Tx X M0) {S : Nat → Nat → Rs SR} {op : Nat} (hF : FacP X M0 b Q (pFac X S op) op) (hio : ∀ p r, pFac X S op p = .ok r → sOK X p r) : PrdP X M0 b Q false (pPrd X S op) op := fun p W C n f K hok hb hW hK he hk hf hn => by
  obtain ⟨k1, k2, k3⟩ := hok
  unfold pPrd at he hk
  refine hF p W C n f K ⟨k1, k2, k3⟩ hb hK (fun e ee => he e (by rw [ee])) (fun a ea n' hn' => ?_) hf hn
  rw [ea] at he hk
  have := t_prod hx hF hio hW k1 k2 hb _ (fun a => Iff.rfl) X.2 a [] a.1 (by omega) (hio _ _ ea) (List.append_nil _).symm (fun x hx => absurd hx List.not_mem_nil) he (fun a' ea' n' P raw e1 e2 e3 e4 => hk a' ea' n' P raw e1 e2 e3 (fun z => by cases z) e4) n' hn'
  exact this
theorem t_sumc {X : TX} {M0 : WM} {b : Nat} {Q : Int32 → WM → Prop} (hx : Tx X M0) {it : Nat → Rs SR} {op : Nat} (hF : PrdP X M0 b Q false it op) (hio : ∀ p r, it p = .ok r → sOK X p r) {W C : Cd} {p0 : Nat} (hW : noc true W) (h1 : C.length + wq W ≤ p0) (h2 : W.length ≤ p0) (hb : b ≤ W.length) (K : SR → Prop) (hK : ∀ a, K a ↔ ∀ n' P raw, a.1 = raw ++ P → pOKs true P → mulS (ch X a.2.2) = none → (true = true → addS (ch X a.2.2) = none) → X.2 - a.2.2 < n' → LPs M0 b Q n' a.2.2 op (P ++ W) (C ++ raw)) : ∀ (k : Nat) (acc : SR) (P raw : Cd), X.2 ≤ acc.2.2 + k → sOK X p0 acc → acc.1 = raw ++ P → pOKs true P → mulS (ch X acc.2.2) = none → (∀ e, pCh X addS it k acc = .error e → ErQ M0 Q e) → (∀ a, pCh X addS it k acc = .ok a → K a) → ∀ n, X.2 - acc.2.2 < n → LPs M0 b Q n acc.2.2 op (P ++ W) (C ++ raw)
  | 0, acc, P, raw, hk, hs, e1, e2, em, he, h, n, hn => by
    have hc : addS (ch X acc.2.2) = none := by unfold ch; rw [if_neg (by omega)]; rfl
    exact (hK acc).mp (h acc rfl) n P raw e1 e2 em (fun _ => hc) hn
  | k + 1, acc, P, raw, hk, hs, e1, e2, em, he, h, n, hn => by
    unfold pCh at he h
    cases ec : addS (ch X acc.2.2) with
    | none =>
      rw [ec] at h
      exact (hK acc).mp (h acc rfl) n P raw e1 e2 em (fun _ => ec) hn
    | some o =>
      rw [ec] at he h
      obtain ⟨g1, g2⟩ := sg_add ec
      obtain ⟨s1, s2, s3⟩ := hs
      have hp : acc.2.2 < X.2 := ch_lt fun z => by rw [z] at ec; cases ec
      obtain ⟨m, rfl⟩ : ∃ m, n = m + 1 := ⟨n - 1, by omega⟩
      have hlen : raw.length + P.length = acc.1.length := by rw [e1, List.length_append]
      have hCr : (C ++ raw).length = C.length + raw.length := List.length_append
      have hCa : (C ++ raw ++ P).length = C.length + acc.1.length := by rw [List.length_append, hCr]; omega
      have hclo : clo true o = true := by unfold clo; rw [decide_eq_true g2, Bool.true_and, Bool.or_true]
      have hclf : clo false o = false := by unfold clo; rw [decide_eq_false (by omega)]; rfl
      refine t_step hx hp g1 (by omega) (by rw [decide_eq_true (by omega)]) e2 hW (by omega) (by omega) ⟨X.2 + 1, ?_⟩
      refine hF (acc.2.2 + 1) ((o, 0) :: W) (C ++ raw ++ P) m (X.2 + 1) _ ⟨by rw [hCa]; show C.length + acc.1.length + ((if 2 ≤ o ∧ o ≤ 10 then 1 else 0) + wq W) ≤ acc.2.2 + 1; rw [if_pos (by omega)]; omega, by show W.length + 1 ≤ acc.2.2 + 1; omega, by omega⟩ (by show b ≤ W.length + 1; omega) (fun x W' e => by cases e; exact hclf) (fun M' q => q) (fun e ee => he e (by rw [ee])) (fun bb eb n' P' raw' f1 f2 f3 _ hn' => ?_) (by omega) (by omega)
      rw [eb] at he h
      obtain ⟨b1, b2, b3⟩ := hio _ _ eb
      have ih := t_sumc hx hF hio hW h1 h2 hb K hK k (cmb o acc bb) (P' ++ [(o, 0)]) (acc.1 ++ raw') (by show X.2 ≤ bb.2.2 + k; omega) ⟨by show p0 < bb.2.2; omega, b2, by show (acc.1 ++ bb.1 ++ [(o, 0)]).length + p0 ≤ bb.2.2; rw [List.length_append, List.length_append]; show acc.1.length + bb.1.length + 1 + p0 ≤ bb.2.2; omega⟩ (by show acc.1 ++ bb.1 ++ [(o, 0)] = acc.1 ++ raw' ++ (P' ++ [(o, 0)]); rw [f1, List.append_assoc, List.append_assoc, List.append_assoc]) (fun x hx => by
        rcases List.mem_append.mp hx with hx | hx
        · exact f2.up x hx
        · rcases List.mem_singleton.mp hx with rfl
          exact ⟨hclo, rfl⟩) f3 he h n' hn'
      have ee : C ++ raw ++ P ++ raw' = C ++ (acc.1 ++ raw') := by rw [e1, List.append_assoc, List.append_assoc, List.append_assoc]
      have e9 : P' ++ (o, 0) :: W = P' ++ [(o, 0)] ++ W := by rw [List.append_assoc]; rfl
      rw [ee, e9]
      exact ih
theorem t_sum {X : TX} {M0 : WM} {b : Nat} {Q : Int32 → WM → Prop} (hx : Tx X M0) : ∀ (d op : Nat), op ≤ 6 → 7 ≤ d + op → PrdP X M0 b Q true (pSum X d op) op
  | 0, op, h1, h2 => absurd h2 (by omega)
  | d + 1, op, h1, h2 => fun p W C n f K hok hb hW hK he hk hf hn => by
    obtain ⟨k1, k2, k3⟩ := hok
    have hS : ∀ p r, pSum X d (op + 1) p = .ok r → sOK X p r := fun p r e => pSum_ok e
    have hio : ∀ p r, pFac X (pSum X d) op p = .ok r → sOK X p r := fun p r e => pFac_ok (fun p r e _ => hS p r e) e
    have hio2 : ∀ p r, pPrd X (pSum X d) op p = .ok r → sOK X p r := fun p r e => pPrd_ok (fun p r e _ => hS p r e) e
    have hF : FacP X M0 b Q (pFac X (pSum X d) op) op := t_fac hx h1 (fun c => t_sum hx d (op + 1) (by omega) (by omega)) hS
    have hP : PrdP X M0 b Q false (pPrd X (pSum X d) op) op := t_prd hx hF hio
    have hWf : noc false W := fun x W' e => by
      have := hW x W' e
      unfold clo at this ⊢
      rw [Bool.or_eq_false_iff] at this
      rw [this.1]; rfl
    unfold pSum at he hk
    refine hP p W C n f K ⟨k1, k2, k3⟩ hb hWf hK (fun e ee => he e (by rw [ee])) (fun a ea n' P raw e1 e2 e3 _ hn' => ?_) hf hn
    rw [ea] at he hk
    exact t_sumc hx hP hio2 hW k1 k2 hb _ (fun a => Iff.rfl) X.2 a P raw (by omega) (hio2 _ _ ea) e1 e2.up e3 he hk n' hn'
/-- a sum, whole -/
theorem t_readsSum {X : TX} {M0 M : WM} {p op : Nat} {W C : Cd} {Q : Int32 → WM → Prop} (hx : Tx X M0) (ts : Ts M0 p op W C M) (hok : OKp X p W C) (hop : op ≤ 6) (hW : noc true W) (he : ∀ e, pSum X 7 op p = .error e → ErQ M0 Q e) (h : ∀ a, pSum X 7 op p = .ok a → ∀ M', Ts M0 a.2.2 op W (C ++ a.1) M' → Q 1 M') : m_X6_readsSum M Q := by
  obtain ⟨k1, k2, k3⟩ := hok
  have hl := hx.1
  intro z1 e1
  rw [ts.2.2.2.1] at e1
  rw [e1]
  refine ⟨X.2 + 1, t_sum hx 7 op hop (by omega) p W C (X.2 + 1) (X.2 + 1) (fun M3 => ∃ n0, m_X6_readsSum_l14 (nI W.length) Q n0 M3) ⟨k1, k2, k3⟩ (Nat.le_refl _) hW (fun M' q => ⟨_, q⟩) he (fun a ea n' P raw e2 e3 e4 e5 hn' M3 t3 => ?_) (by omega) (by omega) M ts⟩
  obtain ⟨a1, a2, a3⟩ := pSum_ok ea
  have sg0 : sgO (ch X a.2.2) = none := by unfold sgO; rw [e5 rfl]; exact e4
  obtain ⟨m, rfl⟩ : ∃ m, n' = m + 1 := ⟨n' - 1, by omega⟩
  have hlen : raw.length + P.length = a.1.length := by rw [e2, List.length_append]
  have hPW : (P ++ W).length = P.length + W.length := List.length_append
  have hCr : (C ++ raw).length = C.length + raw.length := List.length_append
  have hh : hos W.length (P ++ W) = false := hos_f e3.le
  have j138 : m_X6_readsSum_j138 (nI W.length) Q M3 := by
    unfold m_X6_readsSum_j138
    refine t_hos t3 (by omega) (by omega) ?_
    rw [hh]
    refine ie0 ⟨(P ++ W).length + 1, t_closes (all := true) t3 (by omega) (by rw [wq_app e3, hCr]; omega) (fun M4 t4 => ?_) _ (by omega)⟩
    rw [cls_app hW e3] at t4
    refine h a ea M4 ?_
    rw [e2, ← List.append_assoc]; exact t4
  unfold m_X6_readsSum_l14
  refine t_here hx t3 a2 (t_sign hx ?_)
  rw [sg0]
  refine ⟨fun _ => t_here hx t3 a2 (hT_ask hx 93 rfl (by omega) (by omega) (fun c9 => ?_) (fun c9 => j138)), fun z => absurd rfl z⟩
  refine t_hos t3 (by omega) (by omega) ?_
  rw [hh]
  exact ie0 j138
