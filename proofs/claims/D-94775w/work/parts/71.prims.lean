/-! the law's text, the model's side: what the small steps do -/
def cI (q : Nat × Nat) : Int32 := nI (1048576 * q.1 + q.2)
def qOK (q : Nat × Nat) : Prop := q.1 ≤ 14 ∧ q.2 < 1048576
def StkIs (M : WM) : Cd → Prop
  | [] => True
  | x :: W => wI M 5453 W.length = cI x ∧ qOK x ∧ StkIs M W
theorem StkIs.fr {M M' : WM} : ∀ {W : Cd}, StkIs M W → (∀ k, k < W.length → wI M' 5453 k = wI M 5453 k) → StkIs M' W
  | [], _, _ => trivial
  | x :: W, h, e => ⟨(e _ (by show W.length < W.length + 1; omega)).trans h.1, h.2.1, StkIs.fr h.2.2 fun k hk => e k (by show k < W.length + 1; omega)⟩
def CdIs (M : WM) (C : Cd) : Prop := ∀ k x, C[k]? = some x → wI M 5452 k = cI x ∧ qOK x
theorem CdIs.fr {M M' : WM} {C : Cd} (h : CdIs M C) (e : ∀ k, k < C.length → wI M' 5452 k = wI M 5452 k) : CdIs M' C := fun k x hk => by
  have hl : k < C.length := by
    rcases Nat.lt_or_ge k C.length with c | c
    · exact c
    · rw [List.getElem?_eq_none c] at hk; cases hk
  rw [e k hl]; exact h k x hk
def Tx (X : TX) (M0 : WM) : Prop := X.2 ≤ 160 ∧ wI M0 5444 13 = nI X.2 ∧ ∀ k, (wI M0 5451 k &&& 255) = nI (X.1 k) ∧ X.1 k < 256
def StP (r k : Nat) : Prop := (r = 5444 ∧ (k = 12 ∨ k = 14 ∨ k = 15 ∨ k = 16 ∨ k = 17 ∨ k = 19)) ∨ r = 5452 ∨ r = 5453
def Ts (M0 : WM) (p op : Nat) (W C : Cd) (M : WM) : Prop := Fr StP M0 M ∧ wI M 5444 12 = nI p ∧ wI M 5444 15 = nI op ∧ wI M 5444 17 = nI W.length ∧ StkIs M W ∧ wI M 5444 16 = nI C.length ∧ CdIs M C
def hT (X : TX) (p : Nat) : Int32 := if p < X.2 then nI (X.1 p) else -1
theorem hT_eq {X : TX} {M0 : WM} (hx : Tx X M0) {p c : Nat} (h0 : 0 < c) (h1 : c < 256) : hT X p = nI c ↔ ch X p = c := by
  unfold hT ch
  have hb := (hx.2.2 p).2
  split
  · exact nI_eq (by omega) (by omega)
  · constructor
    · intro e; exfalso
      rw [i_eq, nI_toInt (by omega)] at e
      have : (-1 : Int) = c := e
      omega
    · intro e; omega
theorem hT_ask {X : TX} {M0 : WM} (hx : Tx X M0) {p : Nat} (c : Nat) {z : Int32} {A B : Prop} (hz : z = nI c) (h0 : 0 < c) (hc : c < 256) (f : ch X p = c → A) (g : ¬ ch X p = c → B) : (hT X p = z → A) ∧ (¬ hT X p = z → B) := by
  rw [hz, hT_eq hx h0 hc]; exact ⟨f, g⟩
theorem t_here {X : TX} {M0 M : WM} {p op : Nat} {W C : Cd} {Q : Int32 → Prop} (hx : Tx X M0) (ts : Ts M0 p op W C M) (hp : p ≤ X.2) (h : Q (hT X p)) : m_X6_here M Q := by
  obtain ⟨f, t1, -⟩ := ts
  have hl := hx.1
  unfold m_X6_here
  rw [t1, f.I (by unfold StP; omega), hx.2.1]
  unfold hT at h
  refine pk_le X.2 p (fun c => ?_) (fun c => ⟨vin (by omega), ?_⟩) rfl rfl
  · rw [if_neg (by omega)] at h; exact h
  · rw [if_pos c] at h; rw [nI_clamp (by omega), f.I (by unfold StP; omega), (hx.2.2 p).1]; exact h
theorem t_isDigit {X : TX} {M0 M : WM} {p op : Nat} {W C : Cd} {Q : Int32 → Prop} (hx : Tx X M0) (ts : Ts M0 p op W C M) (hp : p ≤ X.2) (h : Q (b2i (dig (ch X p)))) : m_X6_isDigit M Q := by
  refine t_here hx ts hp ?_
  have hb := (hx.2.2 p).2
  unfold ch dig at h
  unfold hT
  by_cases c : p < X.2
  · rw [if_pos c] at h
    rw [if_pos c]
    refine pk_lt (X.1 p) 48 (fun q => ?_) (fun q => t_here hx ts hp ?_) rfl rfl
    · rw [decide_eq_false (by omega)] at h; exact h
    · unfold hT
      rw [if_pos c]
      refine pk_lt 57 (X.1 p) (fun q2 => ?_) (fun q2 => ?_) rfl rfl
      · rw [decide_eq_false (show ¬ X.1 p ≤ 57 by omega), Bool.and_false] at h; exact h
      · rw [decide_eq_true q, decide_eq_true q2] at h; exact h
  · rw [if_neg c] at h
    rw [if_neg c]
    exact ⟨fun _ => h, fun z => absurd (show (-1 : Int32) < 48 by decide) z⟩
def fltI (e : Nat × Nat) : Int32 := (-1000 : Int32) * nI e.1 - nI e.2
theorem t_wrong {M0 M : WM} {w p : Nat} {x : Int32} {Q : Int32 → WM → Prop} (f : Fr StP M0 M) (hx : x = nI w) (h : ∀ M', Fr StP M0 M' → wI M' 5444 14 = fltI (w, p) → Q 0 M') : m_X6_wrongAt x (nI p) M Q := by
  intro M1 e1
  rw [hx] at e1
  exact h M1 (by rw [e1]; exact f.PI (Or.inl ⟨rfl, by omega⟩)) (by rw [e1, wI_s]; rfl)
/-- a row of the text is left: place, how many are open, what waits, what is said -/
theorem Ts.p {M0 M M' : WM} {p q op : Nat} {W C : Cd} (ts : Ts M0 p op W C M) (e : M' = wPI M 5444 12 (nI q)) : Ts M0 q op W C M' := by
  obtain ⟨f, t1, t2, t3, t4, t5, t6⟩ := ts
  exact ⟨by rw [e]; exact f.PI (Or.inl ⟨rfl, by omega⟩), by rw [e, wI_s], by rw [e, wI_n _ _ (by omega)]; exact t2, by rw [e, wI_n _ _ (by omega)]; exact t3, t4.fr fun k _ => by rw [e, wI_n _ _ (by omega)], by rw [e, wI_n _ _ (by omega)]; exact t5, t6.fr fun k _ => by rw [e, wI_n _ _ (by omega)]⟩
theorem Ts.o {M0 M M' : WM} {p op op' : Nat} {W C : Cd} (ts : Ts M0 p op W C M) (e : M' = wPI M 5444 15 (nI op')) : Ts M0 p op' W C M' := by
  obtain ⟨f, t1, t2, t3, t4, t5, t6⟩ := ts
  exact ⟨by rw [e]; exact f.PI (Or.inl ⟨rfl, by omega⟩), by rw [e, wI_n _ _ (by omega)]; exact t1, by rw [e, wI_s], by rw [e, wI_n _ _ (by omega)]; exact t3, t4.fr fun k _ => by rw [e, wI_n _ _ (by omega)], by rw [e, wI_n _ _ (by omega)]; exact t5, t6.fr fun k _ => by rw [e, wI_n _ _ (by omega)]⟩
theorem Ts.pop {M0 M M' : WM} {p op : Nat} {x : Nat × Nat} {W C : Cd} (ts : Ts M0 p op (x :: W) C M) (e : M' = wPI M 5444 17 (wI M 5444 17 - 1)) : Ts M0 p op W C M' := by
  obtain ⟨f, t1, t2, t3, t4, t5, t6⟩ := ts
  have e2 : wI M 5444 17 - 1 = nI W.length := by rw [t3]; exact nI_pred _
  rw [e2] at e
  exact ⟨by rw [e]; exact f.PI (Or.inl ⟨rfl, by omega⟩), by rw [e, wI_n _ _ (by omega)]; exact t1, by rw [e, wI_n _ _ (by omega)]; exact t2, by rw [e, wI_s], t4.2.2.fr fun k _ => by rw [e, wI_n _ _ (by omega)], by rw [e, wI_n _ _ (by omega)]; exact t5, t6.fr fun k _ => by rw [e, wI_n _ _ (by omega)]⟩
theorem Ts.push {M0 M M' M2 : WM} {p op : Nat} {x : Nat × Nat} {W C : Cd} (ts : Ts M0 p op W C M) (hq : qOK x) (e : M' = wPI M 5453 W.length (cI x)) (e2 : M2 = wPI M' 5444 17 (wI M' 5444 17 + 1)) : Ts M0 p op (x :: W) C M2 := by
  obtain ⟨f, t1, t2, t3, t4, t5, t6⟩ := ts
  have e3 : wI M' 5444 17 + 1 = nI (W.length + 1) := by rw [e, wI_n _ _ (by omega), t3, nI_1]
  rw [e3] at e2
  refine ⟨by rw [e2, e]; exact (f.PI (Or.inr (Or.inr rfl))).PI (Or.inl ⟨rfl, by omega⟩), by rw [e2, wI_n _ _ (by omega), e, wI_n _ _ (by omega)]; exact t1, by rw [e2, wI_n _ _ (by omega), e, wI_n _ _ (by omega)]; exact t2, by rw [e2, wI_s]; rfl, ⟨by rw [e2, wI_n _ _ (by omega), e, wI_s], hq, t4.fr fun k hk => by rw [e2, wI_n _ _ (by omega), e, wI_n _ _ (by omega)]⟩, by rw [e2, wI_n _ _ (by omega), e, wI_n _ _ (by omega)]; exact t5, t6.fr fun k _ => by rw [e2, wI_n _ _ (by omega), e, wI_n _ _ (by omega)]⟩
theorem t_notes {M0 M : WM} {p op o v : Nat} {W C : Cd} {x y : Int32} {Q : WM → Prop} (ts : Ts M0 p op W C M) (hx : x = nI o) (hy : y = nI v) (hq : qOK (o, v)) (hC : C.length < 180) (h : ∀ M', Ts M0 p op W (C ++ [(o, v)]) M' → Q M') : m_X6_notes x y M Q := by
  obtain ⟨f, t1, t2, t3, t4, t5, t6⟩ := ts
  unfold m_X6_notes
  rw [t5, hx, hy, show (1048576 : Int32) = nI 1048576 from rfl, pk_mul, nI_add, nI_clamp (by omega)]
  refine ⟨vin (by omega), fun M2 e2 M3 e3 => ?_⟩
  have e4 : wI M2 5444 16 + 1 = nI (C.length + 1) := by rw [e2, wI_n _ _ (by omega), t5, nI_1]
  rw [e4] at e3
  refine h M3 ⟨by rw [e3, e2]; exact (f.PI (Or.inr (Or.inl rfl))).PI (Or.inl ⟨rfl, by omega⟩), by rw [e3, wI_n _ _ (by omega), e2, wI_n _ _ (by omega)]; exact t1, by rw [e3, wI_n _ _ (by omega), e2, wI_n _ _ (by omega)]; exact t2, by rw [e3, wI_n _ _ (by omega), e2, wI_n _ _ (by omega)]; exact t3, t4.fr fun k _ => by rw [e3, wI_n _ _ (by omega), e2, wI_n _ _ (by omega)], by rw [e3, wI_s, List.length_append]; rfl, fun k x hk => ?_⟩
  rw [e3, wI_n _ _ (by omega), e2, wI_PI]
  by_cases c : k < C.length
  · rw [List.getElem?_append_left c] at hk
    rw [if_neg (by omega)]; exact t6 k x hk
  · rw [List.getElem?_append_right (by omega)] at hk
    have e5 : k = C.length := by
      rcases Nat.lt_or_ge (k - C.length) 1 with q | q
      · omega
      · rw [List.getElem?_eq_none (by show 1 ≤ k - C.length; omega)] at hk; cases hk
    subst e5
    rw [Nat.sub_self] at hk
    cases hk
    rw [if_pos ⟨rfl, rfl⟩]
    exact ⟨rfl, hq⟩
theorem cI_div {q : Nat × Nat} (h : qOK q) : cI q / 1048576 = nI q.1 := by
  have h1 := h.1; have h2 := h.2
  unfold cI
  rw [show (1048576 : Int32) = nI 1048576 from rfl, pk_div (by omega) (by omega) (by omega)]
  congr 1; omega
theorem cI_mod {q : Nat × Nat} (h : qOK q) : cI q - cI q / 1048576 * 1048576 = nI q.2 := by
  have h1 := h.1; have h2 := h.2
  unfold cI
  rw [show (1048576 : Int32) = nI 1048576 from rfl, pk_rem (by omega) (by omega) (by omega)]
  congr 1; omega
def topI (W : Cd) : Int32 := match W with
  | [] => -1
  | x :: _ => nI x.1
theorem t_top {M0 M : WM} {p op : Nat} {W C : Cd} {Q : Int32 → Prop} (ts : Ts M0 p op W C M) (hW : W.length ≤ 180) (h : Q (topI W)) : m_X6_top M Q := by
  obtain ⟨f, t1, t2, t3, t4, t5, t6⟩ := ts
  unfold m_X6_top
  rw [t3]
  cases W with
  | nil => exact ⟨fun _ => h, fun z => absurd rfl z⟩
  | cons x W =>
    have hW : W.length + 1 ≤ 180 := hW
    refine ⟨fun z => absurd z (nI_ne0 (by show 0 < W.length + 1; omega) (by show W.length + 1 < 2 ^ 31; omega)), fun _ => ?_⟩
    rw [show nI (x :: W).length - 1 = nI W.length from nI_pred _, nI_clamp (by omega), t4.1, cI_div t4.2.1]
    exact ⟨vin (by omega), h⟩
theorem top_ask {W : Cd} (c : Nat) {z : Int32} {A B : Prop} (hz : z = nI c) (hc : c < 2 ^ 31) (hq : ∀ x W', W = x :: W' → x.1 ≤ 14) (f : (∃ x W', W = x :: W' ∧ x.1 = c) → A) (g : (∀ x W', W = x :: W' → ¬ x.1 = c) → B) : (topI W = z → A) ∧ (¬ topI W = z → B) := by
  rw [hz]
  cases W with
  | nil =>
    refine ⟨fun e => ?_, fun _ => g fun x W' e => by cases e⟩
    exfalso
    rw [i_eq, nI_toInt hc] at e
    have : (-1 : Int) = c := e
    omega
  | cons x W =>
    have := hq x W rfl
    exact pk_eq x.1 c (fun e => f ⟨x, W, rfl, e⟩) (fun e => g fun y W' ey => by cases ey; exact e) rfl rfl
/-! sums are closed -/
def clo (all : Bool) (o : Nat) : Bool := decide (4 ≤ o ∧ o ≤ 6) || (all && decide (o = 2 ∨ o = 3))
def cls (all : Bool) : Cd → Cd → Cd × Cd
  | [], C => ([], C)
  | x :: W, C => if clo all x.1 = true then cls all W (C ++ [(x.1, 0)]) else (x :: W, C)
def wq : Cd → Nat
  | [] => 0
  | x :: W => (if 2 ≤ x.1 ∧ x.1 ≤ 10 then 1 else 0) + wq W
theorem clo_wq {all : Bool} {o : Nat} (h : clo all o = true) : 2 ≤ o ∧ o ≤ 10 := by
  unfold clo at h
  rcases Bool.or_eq_true _ _ ▸ h with h | h
  · have := of_decide_eq_true h; omega
  · rw [Bool.and_eq_true] at h
    have := of_decide_eq_true h.2; omega
theorem t_closes {M0 : WM} {p op : Nat} {all : Bool} {Q : WM → Prop} : ∀ {W C : Cd} {M : WM}, Ts M0 p op W C M → W.length ≤ 180 → C.length + wq W ≤ 180 → (∀ M', Ts M0 p op (cls all W C).1 (cls all W C).2 M' → Q M') → ∀ n, W.length < n → m_X6_closesSums_l0 (b2i all) Q n M
  | W, C, M, ts, hW, hC, h, 0, hn => absurd hn (by omega)
  | W, C, M, ts, hW, hC, h, n + 1, hn => by
    have stop : (∀ x W', W = x :: W' → clo all x.1 = false) → Q M := fun q => h M (by
      cases W with
      | nil => exact ts
      | cons x W' => rw [cls, q x W' rfl]; exact ts)
    have go : ∀ x W', W = x :: W' → clo all x.1 = true → m_X6_closesSums_j37 (fun M' => m_X6_closesSums_l0 (b2i all) Q n M') (b2i all) Q M := fun x W' e q => by
      subst e
      have hw := clo_wq q
      have hC : C.length + ((if 2 ≤ x.1 ∧ x.1 ≤ 10 then 1 else 0) + wq W') ≤ 180 := hC
      rw [if_pos hw] at hC
      refine t_top ts hW (t_notes ts rfl rfl ⟨ts.2.2.2.2.1.2.1.1, by show 0 < 1048576; omega⟩ (by omega) fun M3 ts3 M4 e4 => ?_)
      refine t_closes (W := W') (C := C ++ [(x.1, 0)]) (ts3.pop e4) (by have : W'.length + 1 ≤ 180 := hW; omega) (by rw [List.length_append]; show C.length + 1 + wq W' ≤ 180; omega) (fun M' t' => h M' (by rw [cls, if_pos q]; exact t')) n (by have : W'.length + 1 < n + 1 := hn; omega)
    have hq : ∀ x W', W = x :: W' → x.1 ≤ 14 := fun x W' e => by subst e; exact ts.2.2.2.2.1.2.1.1
    have j17 : (∀ x W', W = x :: W' → ¬ (4 ≤ x.1 ∧ x.1 ≤ 6)) → m_X6_closesSums_j17 (fun M' => m_X6_closesSums_l0 (b2i all) Q n M') (b2i all) Q M := fun q => by
      cases all with
      | false => exact ie0 (stop fun x W' e => by unfold clo; rw [decide_eq_false (q x W' e)]; rfl)
      | true =>
        refine ie1 (t_top ts hW (top_ask 2 rfl (by omega) hq (fun ⟨x, W', e, c⟩ => go x W' e (by unfold clo; rw [c]; rfl)) (fun c => t_top ts hW (top_ask 3 rfl (by omega) hq (fun ⟨x, W', e, c⟩ => go x W' e (by unfold clo; rw [c]; rfl)) (fun c3 => stop fun x W' e => ?_)))))
        unfold clo
        rw [decide_eq_false (q x W' e), decide_eq_false (fun z => z.elim (c x W' e) (c3 x W' e))]; rfl
    unfold m_X6_closesSums_l0
    refine t_top ts hW ?_
    cases W with
    | nil => exact ⟨fun _ => j17 fun x W' e => (by cases e), fun z => absurd (show (-1 : Int32) < 4 by decide) z⟩
    | cons x W =>
      have hx := hq x W rfl
      refine pk_lt x.1 4 (fun c => j17 fun y W' e => by cases e; omega) (fun c => t_top ts hW (pk_le x.1 6 (fun c2 => go x W rfl (by unfold clo; rw [decide_eq_true ⟨c, c2⟩]; rfl)) (fun c2 => j17 fun y W' e => by cases e; omega) rfl rfl)) rfl rfl
theorem cls_app {all : Bool} {W : Cd} (hW : ∀ x W', W = x :: W' → clo all x.1 = false) : ∀ {P C : Cd}, (∀ x, x ∈ P → clo all x.1 = true ∧ x.2 = 0) → cls all (P ++ W) C = (W, C ++ P)
  | [], C, _ => by
    rw [List.append_nil]
    cases W with
    | nil => rfl
    | cons x W' => show cls all (x :: W') C = _; rw [cls, hW x W' rfl]; rfl
  | x :: P, C, h => by
    obtain ⟨h1, h2⟩ := h x List.mem_cons_self
    show cls all (x :: (P ++ W)) C = _
    rw [cls, if_pos h1, cls_app hW fun y hy => h y (List.mem_cons_of_mem _ hy), ← h2]
    show (W, C ++ [x] ++ P) = (W, C ++ x :: P)
    rw [List.append_assoc]; rfl
/-! is some bracket of a sum open -/
def stAt : Cd → Nat → Nat × Nat
  | [], _ => (0, 0)
  | x :: W, k => if k = W.length then x else stAt W k
theorem StkIs.at {M : WM} : ∀ {W : Cd}, StkIs M W → ∀ k, k < W.length → wI M 5453 k = cI (stAt W k) ∧ qOK (stAt W k)
  | [], _, k, hk => absurd hk (by show ¬ k < 0; omega)
  | x :: W, h, k, hk => by
    have hk : k < W.length + 1 := hk
    unfold stAt
    by_cases c : k = W.length
    · rw [if_pos c, c]; exact ⟨h.1, h.2.1⟩
    · rw [if_neg c]; exact h.2.2.at k (by omega)
def hos (b : Nat) (W : Cd) : Bool := anyB (fun k => decide (b ≤ k) && decide ((stAt W k).1 = 14)) W.length
theorem t_hos {M0 M : WM} {p op b : Nat} {W C : Cd} {Q : Int32 → Prop} (ts : Ts M0 p op W C M) (hW : W.length ≤ 180) (hb : b ≤ W.length) (h : Q (b2i (hos b W))) : m_X6_hasOpenSum (nI b) M Q := by
  obtain ⟨f, t1, t2, t3, t4, t5, t6⟩ := ts
  unfold hos at h
  refine pk_loop (fun n k (_ : Unit) => m_X6_hasOpenSum_l2 M Q n (nI k)) (fun k _ => b ≤ k ∧ ∀ j, j < k → (decide (b ≤ j) && decide ((stAt W j).1 = 14)) = false) W.length b () hb ⟨Nat.le_refl _, fun j hj => by rw [decide_eq_false (show ¬ b ≤ j by omega)]; rfl⟩ ?_ ?_
  · intro n _ ⟨_, hI⟩
    unfold m_X6_hasOpenSum_l2
    rw [t3]
    rw [anyB_no hI] at h
    exact ⟨fun _ => h, fun z => absurd (Int32.le_refl _) z⟩
  · intro n k _ hk ⟨hbk, hI⟩ ih
    obtain ⟨e1, e2⟩ := t4.at k hk
    unfold m_X6_hasOpenSum_l2
    rw [t3, nI_clamp (show k < 2 ^ 31 by omega), e1, cI_div e2]
    have := e2.1
    refine ⟨fun z => absurd z (nI_ge hk (by omega)), fun _ => ⟨vin (by omega), pk_eq (stAt W k).1 14 (fun c => ?_) (fun c z ez => ?_) rfl rfl⟩⟩
    · rw [anyB_hit (p := fun k => decide (b ≤ k) && decide ((stAt W k).1 = 14)) hk (by show (decide (b ≤ k) && decide ((stAt W k).1 = 14)) = true; rw [decide_eq_true hbk, decide_eq_true c]; rfl)] at h
      exact h
    · rw [ez, nI_1]
      refine ih () ⟨by omega, fun j hj => ?_⟩
      by_cases e : j = k
      · rw [e, decide_eq_false c, Bool.and_false]
      · exact hI j (by omega)
theorem stAt_app {W : Cd} : ∀ {P : Cd} {k : Nat}, k < W.length → stAt (P ++ W) k = stAt W k
  | [], k, _ => rfl
  | x :: P, k, h => by
    show stAt (x :: (P ++ W)) k = _
    rw [stAt, if_neg (by rw [List.length_append]; omega)]
    exact stAt_app h
theorem hos_t {b : Nat} {W P : Cd} {x : Nat × Nat} (hb : b ≤ W.length) (hx : x.1 = 14) : hos b (P ++ x :: W) = true := by
  refine anyB_hit (k := W.length) (by rw [List.length_append]; show W.length < P.length + (W.length + 1); omega) ?_
  show (decide (b ≤ W.length) && decide ((stAt (P ++ x :: W) W.length).1 = 14)) = true
  rw [stAt_app (by show W.length < W.length + 1; omega), stAt, if_pos rfl, decide_eq_true hb, decide_eq_true hx]; rfl
theorem hos_f {W : Cd} : ∀ {P : Cd}, (∀ x, x ∈ P → ¬ x.1 = 14) → hos W.length (P ++ W) = false := fun {P} h => by
  refine anyB_no fun k hk => ?_
  have key : ∀ (P : Cd), (∀ x, x ∈ P → ¬ x.1 = 14) → ∀ k, W.length ≤ k → k < (P ++ W).length → ¬ (stAt (P ++ W) k).1 = 14 := fun P => by
    induction P with
    | nil => intro _ k h1 h2; have h2 : k < W.length := h2; omega
    | cons x P ih =>
      intro h k h1 h2
      show ¬ (stAt (x :: (P ++ W)) k).1 = 14
      rw [stAt]
      by_cases c : k = (P ++ W).length
      · rw [if_pos c]; exact h x List.mem_cons_self
      · rw [if_neg c]
        have h2 : k < (P ++ W).length + 1 := h2
        exact ih (fun y hy => h y (List.mem_cons_of_mem _ hy)) k h1 (by omega)
  by_cases c : W.length ≤ k
  · rw [decide_eq_false (key P h k c hk), Bool.and_false]
  · rw [decide_eq_false c]; rfl
theorem t_opens {M0 M : WM} {p op o : Nat} {W C : Cd} {x : Int32} {Q : Int32 → WM → Prop} (ts : Ts M0 p op W C M) (hx : x = nI o) (ho : o ≤ 14) (hop : op ≤ 6) (hW : W.length < 180) (he : op = 6 → ∀ M', Fr StP M0 M' → wI M' 5444 14 = fltI (5, p) → Q 0 M') (h : ¬ op = 6 → ∀ M', Ts M0 (p + 1) (op + 1) ((o, 0) :: W) C M' → Q 1 M') : m_X6_opens x M Q := by
  have ts0 := ts
  obtain ⟨f, t1, t2, t3, t4, t5, t6⟩ := ts
  unfold m_X6_opens
  rw [t2, t1]
  refine pk_eq op 6 (fun c => t_wrong f rfl fun M' f' e' => ⟨Or.inl rfl, he c M' f' e'⟩) (fun c M2 e2 => ?_) rfl rfl
  rw [nI_1] at e2
  have ts2 := ts0.o e2
  rw [ts2.2.2.2.1, nI_clamp (by omega), hx, show (1048576 : Int32) * nI o = cI (o, 0) by unfold cI; rw [show (1048576 : Int32) = nI 1048576 from rfl, pk_mul]; rfl]
  refine ⟨vin (by omega), fun M4 e4 M5 e5 M6 e6 => ?_⟩
  have ts5 := ts2.push ⟨ho, by show 0 < 1048576; omega⟩ e4 e5
  rw [ts5.2.1, nI_1] at e6
  exact h c M6 (ts5.p e6)
