/-! the law's text, the model's side: clauses, the law -/
def SLf (r k : Nat) : Prop := (r = 5444 ∧ 11 ≤ k ∧ k ≤ 19) ∨ (5452 ≤ r ∧ r ≤ 5457)
def SLw (r k : Nat) : Prop := (r = 5444 ∧ 11 ≤ k ∧ k ≤ 20) ∨ (5452 ≤ r ∧ r ≤ 5462)
def clI (r : Nat) (M : WM) : Nat → Nat → List Cls → Prop
  | _, _, [] => True
  | j, a, q :: L => (wI M r j = nI q.1 ∧ wI M (r + 1) j = nI a ∧ wI M (r + 2) j = nI (a + q.2.1.1.length) ∧ wI M (r + 3) j = nI (a + clL q)) ∧ clI r M (j + 1) (a + clL q) L
def totL : List Cls → Nat
  | [] => 0
  | q :: L => clL q + totL L
def catL : List Cls → Cd
  | [] => []
  | q :: L => (q.2.1.1 ++ q.2.2.1) ++ catL L
theorem catL_len : ∀ {L : List Cls}, (catL L).length = totL L
  | [] => rfl
  | q :: L => by rw [catL, List.length_append, List.length_append, catL_len]; rfl
theorem totL_app : ∀ {L : List Cls} {q : Cls}, totL (L ++ [q]) = totL L + clL q
  | [], q => by show clL q + 0 = 0 + clL q; omega
  | x :: L, q => by show clL x + totL (L ++ [q]) = clL x + totL L + clL q; rw [totL_app]; omega
theorem catL_app : ∀ {L : List Cls} {q : Cls}, catL (L ++ [q]) = catL L ++ (q.2.1.1 ++ q.2.2.1)
  | [], q => by show (q.2.1.1 ++ q.2.2.1) ++ [] = [] ++ _; rw [List.append_nil]; rfl
  | x :: L, q => by show (x.2.1.1 ++ x.2.2.1) ++ catL (L ++ [q]) = (x.2.1.1 ++ x.2.2.1) ++ catL L ++ _; rw [catL_app, ← List.append_assoc]
theorem clI.fr {r : Nat} {M M' : WM} : ∀ {L : List Cls} {j a : Nat}, clI r M j a L → (∀ i, i < j + L.length → wI M' r i = wI M r i ∧ wI M' (r + 1) i = wI M (r + 1) i ∧ wI M' (r + 2) i = wI M (r + 2) i ∧ wI M' (r + 3) i = wI M (r + 3) i) → clI r M' j a L
  | [], _, _, _, _ => trivial
  | q :: L, j, a, h, e => by
    obtain ⟨⟨h1, h2, h3, h4⟩, h5⟩ := h
    obtain ⟨e1, e2, e3, e4⟩ := e j (by show j < j + (L.length + 1); omega)
    exact ⟨⟨e1.trans h1, e2.trans h2, e3.trans h3, e4.trans h4⟩, h5.fr fun i hi => e i (by show i < j + (L.length + 1); omega)⟩
theorem clI.app {r : Nat} {M : WM} : ∀ {L : List Cls} {j a : Nat} {q : Cls}, clI r M j a L → (wI M r (j + L.length) = nI q.1 ∧ wI M (r + 1) (j + L.length) = nI (a + totL L) ∧ wI M (r + 2) (j + L.length) = nI (a + totL L + q.2.1.1.length) ∧ wI M (r + 3) (j + L.length) = nI (a + totL L + clL q)) → clI r M j a (L ++ [q])
  | [], j, a, q, h, e => ⟨e, trivial⟩
  | x :: L, j, a, q, h, e => by
    refine ⟨h.1, h.2.app ?_⟩
    have e1 : j + (x :: L).length = j + 1 + L.length := by show j + (L.length + 1) = _; omega
    have e2 : a + totL (x :: L) = a + clL x + totL L := by show a + (clL x + totL L) = _; omega
    rw [e1, e2] at e; exact e
theorem Tx.fr {X : TX} {M0 M : WM} {S : Nat → Nat → Prop} (h : Tx X M0) (f : Fr S M0 M) (hS : ∀ r k, S r k → ¬ ((r = 5444 ∧ k = 13) ∨ r = 5451)) : Tx X M := ⟨h.1, by rw [f.I fun z => hS _ _ z (Or.inl ⟨rfl, rfl⟩)]; exact h.2.1, fun k => by rw [f.I fun z => hS _ _ z (Or.inr rfl)]; exact h.2.2 k⟩
theorem t_here6 {X : TX} {M : WM} {p : Nat} {R : Int32 → Prop} (hx : Tx X M) (h12 : wI M 5444 12 = nI p) (hp : p ≤ X.2) (hR : R (hT X p)) : m_X6_here M R := by
  have hl := hx.1
  unfold m_X6_here
  rw [h12, hx.2.1]
  unfold hT at hR
  refine pk_le X.2 p (fun c => ?_) (fun c => ⟨vin (by omega), ?_⟩) rfl rfl
  · rw [if_neg (by omega)] at hR; exact hR
  · rw [if_pos c] at hR; rw [nI_clamp (by omega), (hx.2.2 p).1]; exact hR
def SLg (r k : Nat) : Prop := SLf r k ∧ ¬ (r = 5444 ∧ (k = 11 ∨ k = 13))
theorem t_clause {X : TX} {M : WM} {p m : Nat} {C : Cd} {Q : Int32 → WM → Prop} (hx : Tx X M) (hp : p ≤ X.2) (hC : C.length ≤ p) (hm : m ≤ 12) (h12 : wI M 5444 12 = nI p) (h16 : wI M 5444 16 = nI C.length) (hc : CdIs M C) (h18 : wI M 5444 18 = nI m) (he : ∀ e, pCl X C.length m p = .error e → ∀ M', Fr SLg M M' → wI M' 5444 14 = fltI e → Q 0 M') (h : ∀ q, pCl X C.length m p = .ok q → ∀ M', Fr SLg M M' → wI M' 5444 12 = nI q.2 → wI M' 5444 16 = nI (C.length + clL q.1) → CdIs M' (C ++ (q.1.2.1.1 ++ q.1.2.2.1)) → wI M' 5444 18 = nI (m + 1) → (wI M' 5454 m = nI q.1.1 ∧ wI M' 5455 m = nI C.length ∧ wI M' 5456 m = nI (C.length + q.1.2.1.1.length) ∧ wI M' 5457 m = nI (C.length + clL q.1)) → (∀ r i, 5454 ≤ r → r ≤ 5457 → i < m → wI M' r i = wI M r i) → Q 1 M') : m_X6_readsClause M Q := by
  have hl := hx.1
  have f0 : Fr StP M M := Fr.rf
  have here : ∀ {R : Int32 → Prop}, R (hT X p) → m_X6_here M R := fun {R} hR => by
    unfold m_X6_here
    rw [h12, hx.2.1]
    unfold hT at hR
    refine pk_le X.2 p (fun c => ?_) (fun c => ⟨vin (by omega), ?_⟩) rfl rfl
    · rw [if_neg (by omega)] at hR; exact hR
    · rw [if_pos c] at hR; rw [nI_clamp (by omega), (hx.2.2 p).1]; exact hR
  have up : ∀ {A B}, Fr StP A B → Fr SLg A B := fun f => f.mono fun r k q => by unfold StP at q; unfold SLg SLf; omega
  unfold pCl at he h
  have j27 : ∀ c, ch X p = c → (c = 110 ∨ c = 99) → m_X6_readsClause_j27 (nI c) Q M := fun c ec hcc => by
    have hpl : p < X.2 := ch_lt fun z => by omega
    have n2 : ¬ (¬ ch X p = 110 ∧ ¬ ch X p = 99) := by omega
    rw [if_neg n2] at he h
    unfold m_X6_readsClause_j27
    rw [h18, h12]
    refine pk_eq m 12 (fun c12 => t_wrong f0 rfl fun M' f' e' => ⟨Or.inl rfl, he (4, p) (by rw [if_pos c12]) M' (up f') e'⟩) (fun c12 => ⟨vin (by omega), fun M3 e3 M4 e4 => ?_⟩) rfl rfl
    rw [if_neg c12] at he h
    rw [nI_clamp (show m < 2 ^ 31 by omega)] at e3
    rw [e3, wI_n _ _ (by omega), h12, nI_1, ← e3] at e4
    have g18 : wI M4 5444 18 = nI m := by rw [e4, wI_n _ _ (by omega), e3, wI_n _ _ (by omega)]; exact h18
    have g16 : wI M4 5444 16 = nI C.length := by rw [e4, wI_n _ _ (by omega), e3, wI_n _ _ (by omega)]; exact h16
    rw [g18, g16, nI_clamp (show m < 2 ^ 31 by omega)]
    refine ⟨vin (by omega), fun M6 e6 M7 e7 M8 e8 => ?_⟩
    have f8 : Fr SLg M M8 := by
      rw [e8, e7, e6, e4, e3]
      have z : ∀ {r k}, SLg r k → SLg r k := fun q => q
      exact ((((Fr.rf.PI (S := SLg) (by unfold SLg SLf; omega)).PI (S := SLg) (by unfold SLg SLf; omega)).PI (S := SLg) (by unfold SLg SLf; omega)).PI (S := SLg) (by unfold SLg SLf; omega)).PI (S := SLg) (by unfold SLg SLf; omega)
    have hx8 : Tx X M8 := hx.fr f8 (by unfold SLg SLf; omega)
    have c8 : CdIs M8 C := hc.fr fun k _ => by rw [e8, wI_n _ _ (by omega), e7, wI_n _ _ (by omega), e6, wI_n _ _ (by omega), e4, wI_n _ _ (by omega), e3, wI_n _ _ (by omega)]
    have t8 : Ts M8 (p + 1) 0 [] C M8 := ⟨Fr.rf, by rw [e8, wI_n _ _ (by omega), e7, wI_n _ _ (by omega), e6, wI_n _ _ (by omega), e4, wI_s], by rw [e8, wI_n _ _ (by omega), e7, wI_s]; rfl, by rw [e8, wI_s]; rfl, trivial, by rw [e8, wI_n _ _ (by omega), e7, wI_n _ _ (by omega), e6, wI_n _ _ (by omega)]; exact g16, c8⟩
    have l8 : wI M8 5454 m = nI c := by rw [e8, wI_n _ _ (by omega), e7, wI_n _ _ (by omega), e6, wI_n _ _ (by omega), e4, wI_n _ _ (by omega), e3, wI_s]
    have k8 : wI M8 5455 m = nI C.length := by rw [e8, wI_n _ _ (by omega), e7, wI_n _ _ (by omega), e6, wI_s]
    have m8 : wI M8 5444 18 = nI m := by rw [e8, wI_n _ _ (by omega), e7, wI_n _ _ (by omega), e6, wI_n _ _ (by omega)]; exact g18
    have o8 : ∀ r i, 5454 ≤ r → r ≤ 5457 → i < m → wI M8 r i = wI M r i := fun r i h1 h2 h3 => by rw [e8, wI_n _ _ (by omega), e7, wI_n _ _ (by omega), e6, wI_n _ _ (by omega), e4, wI_n _ _ (by omega), e3, wI_n _ _ (by omega)]
    have j104 : ∀ s M9, pHalf X (ch X p) (p + 1) = .ok s → Ts M8 s.2.2 0 [] (C ++ s.1) M9 → m_X6_readsClause_j104 Q M9 := fun s M9 es t9 => by
      obtain ⟨s1, s2, s3⟩ := pHalf_ok es (by omega)
      have hCs : (C ++ s.1).length = C.length + s.1.length := List.length_append
      have F9 : Fr SLg M M9 := f8.tr (up t9.1)
      rw [es] at he h
      have he : ∀ e, (if ¬ ch X s.2.2 = 40 then .error (1, s.2.2) else match pPar X (pPie X 7) (C.length + s.1.length) 0 s.2.2 with
        | .error e => .error e
        | .ok r => .ok ((ch X p, (s.1, s.2.1), (r.1, r.2.1)), r.2.2) : Rs (Cls × Nat)) = .error e → ∀ M', Fr SLg M M' → wI M' 5444 14 = fltI e → Q 0 M' := he
      have h9 : ∀ q, (if ¬ ch X s.2.2 = 40 then .error (1, s.2.2) else match pPar X (pPie X 7) (C.length + s.1.length) 0 s.2.2 with
        | .error e => .error e
        | .ok r => .ok ((ch X p, (s.1, s.2.1), (r.1, r.2.1)), r.2.2) : Rs (Cls × Nat)) = .ok q → ∀ M', Fr SLg M M' → wI M' 5444 12 = nI q.2 → wI M' 5444 16 = nI (C.length + clL q.1) → CdIs M' (C ++ (q.1.2.1.1 ++ q.1.2.2.1)) → wI M' 5444 18 = nI (m + 1) → (wI M' 5454 m = nI q.1.1 ∧ wI M' 5455 m = nI C.length ∧ wI M' 5456 m = nI (C.length + q.1.2.1.1.length) ∧ wI M' 5457 m = nI (C.length + clL q.1)) → (∀ r i, 5454 ≤ r → r ≤ 5457 → i < m → wI M' r i = wI M r i) → Q 1 M' := h
      have n18 : wI M9 5444 18 = nI m := by rw [t9.1.I (by unfold StP; omega)]; exact m8
      unfold m_X6_readsClause_j104
      rw [n18, nI_clamp (show m < 2 ^ 31 by omega), t9.2.2.2.2.2.1]
      refine ⟨vin (by omega), fun M2 e2 => ?_⟩
      have F2 : Fr SLg M9 M2 := by rw [e2]; exact Fr.rf.PI (by unfold SLg SLf; omega)
      have hx2 : Tx X M2 := (hx.fr F9 (by unfold SLg SLf; omega)).fr F2 (by unfold SLg SLf; omega)
      have t2 : Ts M2 s.2.2 0 [] (C ++ s.1) M2 := by
        obtain ⟨_, a1, a2, a3, a4, a5, a6⟩ := t9
        exact ⟨Fr.rf, by rw [e2, wI_n _ _ (by omega)]; exact a1, by rw [e2, wI_n _ _ (by omega)]; exact a2, by rw [e2, wI_n _ _ (by omega)]; exact a3, trivial, by rw [e2, wI_n _ _ (by omega)]; exact a5, a6.fr fun k _ => by rw [e2, wI_n _ _ (by omega)]⟩
      have F92 := F9.tr F2
      refine t_cond hx2 t2 (by omega) s2 (fun c40 M' f' e' => ie0 (he (1, s.2.2) (if_pos c40) M' (F92.tr (up f')) e')) (fun c40 e ee M' f' e' => ie0 (he e (by rw [if_neg (fun z => z c40)]; rw [hCs] at ee; rw [ee]) M' (F92.tr (up f')) e')) (fun c40 r er M4 t4 => ie1 ?_)
      rw [hCs] at er
      obtain ⟨r1, r2, r3⟩ := pPar_ok (fun a p r e => pPie_ok e) er
      have q18 : wI M4 5444 18 = nI m := by rw [t4.1.I (by unfold StP; omega), e2, wI_n _ _ (by omega)]; exact n18
      rw [q18, nI_clamp (show m < 2 ^ 31 by omega), t4.2.2.2.2.2.1]
      refine ⟨vin (by omega), fun M7 e7' M8' e8' => ?_⟩
      have hlen : (C ++ s.1 ++ r.1).length = C.length + (s.1.length + r.1.length) := by rw [List.length_append, hCs]; omega
      have q18' : wI M7 5444 18 + 1 = nI (m + 1) := by rw [e7', wI_n _ _ (by omega), q18, nI_1]
      rw [q18'] at e8'
      have Fend : Fr SLg M M8' := by
        rw [e8', e7']
        exact ((F92.tr (up t4.1)).PI (S := SLg) (by unfold SLg SLf; omega)).PI (S := SLg) (by unfold SLg SLf; omega)
      have keep : ∀ x i, 5454 ≤ x → x ≤ 5457 → ¬ (x = 5457 ∧ i = m) → ¬ (x = 5456 ∧ i = m) → wI M8' x i = wI M8 x i := fun x i h1 h2 h3 h4 => by
        rw [e8', wI_n _ _ (by omega), e7', wI_n _ _ (by omega), t4.1.I (by unfold StP; omega), e2, wI_n _ _ (by omega), t9.1.I (by unfold StP; omega)]
      refine h9 ((ch X p, (s.1, s.2.1), (r.1, r.2.1)), r.2.2) (by rw [if_neg (fun z => z c40), er]) M8' Fend ?_ ?_ ?_ ?_ ⟨?_, ?_, ?_, ?_⟩ (fun x i h1 h2 h3 => by rw [keep x i h1 h2 (by omega) (by omega)]; exact o8 x i h1 h2 h3)
      · rw [e8', wI_n _ _ (by omega), e7', wI_n _ _ (by omega)]; exact t4.2.1
      · show _ = nI (C.length + (s.1.length + r.1.length))
        rw [e8', wI_n _ _ (by omega), e7', wI_n _ _ (by omega), t4.2.2.2.2.2.1, hlen]
      · show CdIs M8' (C ++ (s.1 ++ r.1))
        rw [← List.append_assoc]
        exact t4.2.2.2.2.2.2.fr fun k _ => by rw [e8', wI_n _ _ (by omega), e7', wI_n _ _ (by omega)]
      · rw [e8', wI_s]
      · rw [keep _ _ (by omega) (by omega) (by omega) (by omega), l8]; show nI c = nI (ch X p); rw [ec]
      · rw [keep _ _ (by omega) (by omega) (by omega) (by omega), k8]
      · rw [e8', wI_n _ _ (by omega), e7', wI_n _ _ (by omega), t4.1.I (by unfold StP; omega), e2, wI_s, hCs]
      · show _ = nI (C.length + (s.1.length + r.1.length))
        rw [e8', wI_n _ _ (by omega), e7', wI_s, hlen]
    refine pk_eq c 99 (fun c99 => ?_) (fun c99 => ?_) rfl rfl
    · have eh : pHalf X (ch X p) (p + 1) = pSum X 7 0 (p + 1) := by unfold pHalf; rw [ec, if_pos c99]
      refine t_readsSum hx8 t8 ⟨by show C.length + 0 ≤ p + 1; omega, Nat.zero_le _, by omega⟩ (by omega) (fun x W' e => by cases e) (fun e ee M' f' e' => ie0 (he e (by rw [eh, ee]) M' (f8.tr (up f')) e')) (fun a ea M11 t11 => ie1 (j104 a M11 (eh.trans ea) t11))
    · have eh : pHalf X (ch X p) (p + 1) = .ok ([], fun _ => some 0, p + 1) := by unfold pHalf; rw [ec, if_neg c99]
      exact j104 ([], fun _ => some 0, p + 1) M8 eh (by rw [List.append_nil]; exact t8)
  unfold m_X6_readsClause
  have hTc : ∀ c, 0 < c → c < 256 → ch X p = c → hT X p = nI c := fun c h0 h1 e => (hT_eq hx h0 h1).mpr e
  refine here (hT_ask hx 110 rfl (by omega) (by omega) (fun c => ?_) (fun c1 => hT_ask hx 99 rfl (by omega) (by omega) (fun c => ?_) (fun c2 => ?_)))
  · rw [hTc 110 (by omega) (by omega) c]; exact j27 110 c (Or.inl rfl)
  · rw [hTc 99 (by omega) (by omega) c]; exact j27 99 c (Or.inr rfl)
  · rw [h12]
    exact t_wrong f0 rfl fun M' f' e' => ⟨Or.inl rfl, he (1, p) (if_pos ⟨c1, c2⟩) M' (up f') e'⟩
def S5458 (r _k : Nat) : Prop := r = 5458
def S5459 (r _k : Nat) : Prop := 5459 ≤ r ∧ r ≤ 5462
/-- the law as it is kept -/
def LtIs (M : WM) (L : List Cls) : Prop := wI M 5444 20 = nI L.length ∧ (∀ k x, (catL L)[k]? = some x → wI M 5458 k = cI x ∧ qOK x) ∧ clI 5459 M 0 0 L ∧ L.length ≤ 12 ∧ totL L ≤ 160
def S6l (X : TX) (M0 : WM) (L : List Cls) (p : Nat) (M : WM) : Prop := Fr SLg M0 M ∧ wI M 5444 12 = nI p ∧ wI M 5444 16 = nI (totL L) ∧ CdIs M (catL L) ∧ wI M 5444 18 = nI L.length ∧ clI 5454 M 0 0 L ∧ L.length ≤ 12 ∧ totL L ≤ p ∧ p ≤ X.2
theorem t_j86e {M0 M : WM} {e : Nat × Nat} {Q : Int32 → WM → Prop} (f : Fr SLg M0 M) (h14 : wI M 5444 14 = fltI e) (h : ∀ M', Fr SLf M0 M' → wI M' 5444 11 = 0 → Q (fltI e) M') : m_X6_law_j86 0 Q M := by
  intro M1 e1
  refine ie0 ?_
  rw [show wI M1 5444 14 = fltI e by rw [e1, wI_n _ _ (by omega)]; exact h14]
  exact h M1 (by rw [e1]; exact (f.mono fun r k q => q.1).PI (by unfold SLf; omega)) (by rw [e1, wI_s])
theorem t_j86o {X : TX} {M0 M : WM} {L : List Cls} {p : Nat} {Q : Int32 → WM → Prop} (hx : X.2 ≤ 160) (s : S6l X M0 L p M) (h : ∀ M', Fr SLw M0 M' → wI M' 5444 11 = 0 → LtIs M' L → Q (nI L.length) M') : m_X6_law_j86 1 Q M := by
  obtain ⟨f, s1, s2, s3, s4, s5, s6, s7, s8⟩ := s
  have f' : Fr SLw M0 M := f.mono fun r k q => by unfold SLg SLf at q; unfold SLw; omega
  intro M1 e1
  refine ie1 fun M3 e3 => ?_
  rw [show wI M1 5444 18 = nI L.length by rw [e1, wI_n _ _ (by omega)]; exact s4] at e3
  have f3 : Fr SLw M0 M3 := by rw [e3, e1]; exact (f'.PI (S := SLw) (by unfold SLw; omega)).PI (S := SLw) (by unfold SLw; omega)
  have g : ∀ r k, 5452 ≤ r → wI M3 r k = wI M r k := fun r k hr => by rw [e3, wI_n _ _ (by omega), e1, wI_n _ _ (by omega)]
  have c3 : CdIs M3 (catL L) := s3.fr fun k _ => g _ _ (by omega)
  have l3 : clI 5454 M3 0 0 L := s5.fr fun i _ => ⟨g _ _ (by omega), g _ _ (by omega), g _ _ (by omega), g _ _ (by omega)⟩
  have n16 : wI M3 5444 16 = nI (totL L) := by rw [e3, wI_n _ _ (by omega), e1, wI_n _ _ (by omega)]; exact s2
  have n18 : wI M3 5444 18 = nI L.length := by rw [e3, wI_n _ _ (by omega), e1, wI_n _ _ (by omega)]; exact s4
  have n20 : wI M3 5444 20 = nI L.length := by rw [e3, wI_s]
  have n11 : wI M3 5444 11 = 0 := by rw [e3, wI_n _ _ (by omega), e1, wI_s]
  have hlen := catL_len (L := L)
  refine pk_loop (fun k i M' => m_X6_law_l110 Q k (nI i) M') (fun i M' => Fr S5458 M3 M' ∧ ∀ k x, k < i → (catL L)[k]? = some x → wI M' 5458 k = cI x ∧ qOK x) (totL L) 0 M3 (by omega) ⟨Fr.rf, fun k x hk => absurd hk (by omega)⟩ ?_ ?_
  · intro k M4 ⟨q1, q2⟩
    unfold m_X6_law_l110
    rw [q1.I (by unfold S5458; omega), n16]
    refine ⟨fun _ => ?_, fun z => absurd (Int32.le_refl _) z⟩
    have hq : ∀ k x, (catL L)[k]? = some x → wI M4 5458 k = cI x ∧ qOK x := fun k x hk => by
      have hl : k < (catL L).length := by
        rcases Nat.lt_or_ge k (catL L).length with c | c
        · exact c
        · rw [List.getElem?_eq_none c] at hk; cases hk
      exact q2 k x (by omega) hk
    refine pk_loop (fun k i M' => m_X6_law_l138 Q k (nI i) M') (fun i M' => Fr S5459 M4 M' ∧ ∀ j, j < i → wI M' 5459 j = wI M3 5454 j ∧ wI M' 5460 j = wI M3 5455 j ∧ wI M' 5461 j = wI M3 5456 j ∧ wI M' 5462 j = wI M3 5457 j) L.length 0 M4 (by omega) ⟨Fr.rf, fun j hj => absurd hj (by omega)⟩ ?_ ?_
    · intro k2 M5 ⟨p1, p2⟩
      have k5 : ∀ z, z = 18 ∨ z = 20 ∨ z = 11 → wI M5 5444 z = wI M3 5444 z := fun z hz => by rw [p1.I (by unfold S5459; omega), q1.I (by unfold S5458; omega)]
      unfold m_X6_law_l138
      rw [k5 18 (Or.inl rfl), n18]
      refine ⟨fun _ => h M5 (f3.tr ((q1.mono fun r k q => by unfold S5458 at q; unfold SLw; omega).tr (p1.mono fun r k q => by unfold S5459 at q; unfold SLw; omega))) (by rw [k5 11 (Or.inr (Or.inr rfl))]; exact n11) ⟨by rw [k5 20 (Or.inr (Or.inl rfl))]; exact n20, fun k x hk => by rw [p1.I (by unfold S5459; omega)]; exact hq k x hk, ?_, s6, by omega⟩, fun z => absurd (Int32.le_refl _) z⟩
      have mv : ∀ (L' : List Cls) j a, j + L'.length ≤ L.length → clI 5454 M3 j a L' → clI 5459 M5 j a L' := fun L' => by
        induction L' with
        | nil => intro _ _ _ _; trivial
        | cons x L' ih =>
          intro j a hj hc
          obtain ⟨⟨a1, a2, a3, a4⟩, a5⟩ := hc
          have hj : j + (L'.length + 1) ≤ L.length := hj
          obtain ⟨b1, b2, b3, b4⟩ := p2 j (by omega)
          exact ⟨⟨b1.trans a1, b2.trans a2, b3.trans a3, b4.trans a4⟩, ih (j + 1) _ (by omega) a5⟩
      exact mv L 0 0 (by omega) l3
    · intro k2 i M5 hi ⟨p1, p2⟩ ih
      unfold m_X6_law_l138
      rw [show wI M5 5444 18 = nI L.length by rw [p1.I (by unfold S5459; omega), q1.I (by unfold S5458; omega)]; exact n18, nI_clamp (show i < 2 ^ 31 by omega)]
      have old : ∀ r, 5454 ≤ r → r ≤ 5457 → wI M5 r i = wI M3 r i := fun r h1 h2 => by rw [p1.I (by unfold S5459; omega), q1.I (by unfold S5458; omega)]
      refine ⟨fun z => absurd z (nI_ge hi (by omega)), fun _ => ⟨vin (by omega), vin (by omega), fun M6 e6 => ⟨vin (by omega), vin (by omega), fun M7 e7 => ⟨vin (by omega), vin (by omega), fun M8 e8 => ⟨vin (by omega), vin (by omega), fun M9 e9 y ey => ?_⟩⟩⟩⟩⟩
      rw [ey, nI_1]
      rw [old _ (by omega) (by omega)] at e6
      rw [show wI M6 5455 i = wI M3 5455 i by rw [e6, wI_n _ _ (by omega)]; exact old _ (by omega) (by omega)] at e7
      rw [show wI M7 5456 i = wI M3 5456 i by rw [e7, wI_n _ _ (by omega), e6, wI_n _ _ (by omega)]; exact old _ (by omega) (by omega)] at e8
      rw [show wI M8 5457 i = wI M3 5457 i by rw [e8, wI_n _ _ (by omega), e7, wI_n _ _ (by omega), e6, wI_n _ _ (by omega)]; exact old _ (by omega) (by omega)] at e9
      refine ih M9 ⟨by rw [e9, e8, e7, e6]; exact (((p1.PI (S := S5459) (by unfold S5459; omega)).PI (S := S5459) (by unfold S5459; omega)).PI (S := S5459) (by unfold S5459; omega)).PI (S := S5459) (by unfold S5459; omega), fun j hj => ?_⟩
      by_cases ej : j = i
      · subst ej
        refine ⟨?_, ?_, ?_, ?_⟩
        · rw [e9, wI_n _ _ (by omega), e8, wI_n _ _ (by omega), e7, wI_n _ _ (by omega), e6, wI_s]
        · rw [e9, wI_n _ _ (by omega), e8, wI_n _ _ (by omega), e7, wI_s]
        · rw [e9, wI_n _ _ (by omega), e8, wI_s]
        · rw [e9, wI_s]
      · have kk : ∀ r, wI M9 r j = wI M5 r j := fun r => by rw [e9, wI_n _ _ (by omega), e8, wI_n _ _ (by omega), e7, wI_n _ _ (by omega), e6, wI_n _ _ (by omega)]
        rw [kk, kk, kk, kk]; exact p2 j (by omega)
  · intro k i M' hi ⟨q1, q2⟩ ih
    unfold m_X6_law_l110
    rw [show wI M' 5444 16 = nI (totL L) by rw [q1.I (by unfold S5458; omega)]; exact n16, nI_clamp (show i < 2 ^ 31 by omega), show wI M' 5452 i = wI M3 5452 i from q1.I (by unfold S5458; omega)]
    refine ⟨fun z => absurd z (nI_ge hi (by omega)), fun _ => ⟨vin (by omega), vin (by omega), fun M4 e4 y ey => ?_⟩⟩
    rw [ey, nI_1]
    refine ih M4 ⟨by rw [e4]; exact q1.PI (S := S5458) rfl, fun k x hk hx2 => ?_⟩
    rw [e4, wI_PI]
    by_cases ek : k = i
    · rw [if_pos ⟨rfl, ek⟩, ← ek]; exact c3 k x hx2
    · rw [if_neg (fun z => ek z.2)]; exact q2 k x (by omega) hx2
theorem t_clauseL {X : TX} {M0 M : WM} {L : List Cls} {p : Nat} {Q : Int32 → WM → Prop} (hx : Tx X M0) (s : S6l X M0 L p M) (he : ∀ e, pCl X (totL L) L.length p = .error e → ∀ M', Fr SLg M0 M' → wI M' 5444 14 = fltI e → Q 0 M') (h : ∀ q, pCl X (totL L) L.length p = .ok q → ∀ M', S6l X M0 (L ++ [q.1]) q.2 M' → Q 1 M') : m_X6_readsClause M Q := by
  obtain ⟨f, s1, s2, s3, s4, s5, s6, s7, s8⟩ := s
  have hlen := catL_len (L := L)
  refine t_clause (hx.fr f (by unfold SLg SLf; omega)) s8 (by omega) s6 s1 (by rw [hlen]; exact s2) s3 s4 (fun e ee M' f' e' => he e (by rw [hlen] at ee; exact ee) M' (f.tr f') e') (fun q eq M' f' g1 g2 g3 g4 g5 g6 => ?_)
  rw [hlen] at eq g2 g5
  obtain ⟨k1, k2, k3, k4⟩ := pCl_ok eq
  refine h q eq M' ⟨f.tr f', g1, by rw [totL_app]; exact g2, by rw [catL_app]; exact g3, by rw [List.length_append]; exact g4, ?_, by rw [List.length_append]; show L.length + 1 ≤ 12; omega, by rw [totL_app]; omega, k2⟩
  refine clI.app (s5.fr fun i hi => ?_) ?_
  · exact ⟨g6 _ i (by omega) (by omega) (by omega), g6 _ i (by omega) (by omega) (by omega), g6 _ i (by omega) (by omega) (by omega), g6 _ i (by omega) (by omega) (by omega)⟩
  · rw [Nat.zero_add, Nat.zero_add]; exact g5
def VLw (t : Nat) (n : Int32) : Prop := (1 ≤ n.toInt ∧ n.toInt ≤ 160) ∧ n.toInt ≤ t
def txB (tp : Nat → Int32) (n : Nat) : TX := (fun k => (tp k).toBitVec.toNat % 256, n)
theorem txB_ok (tp : Nat → Int32) (n k : Nat) : (tp k &&& 255) = nI ((txB tp n).1 k) ∧ (txB tp n).1 k < 256 := ⟨pk_and _ 8 (by decide), Nat.mod_lt _ (by omega)⟩
theorem s_X6_law {tp : Nat → Int32} {t : Nat} {M : WM} {x : Int32} {Q : Int32 → WM → Prop} (hT : TT tp t M) (ht : t ≤ 200) (h0 : ¬ VLw t x → Q (-1) M) (he : ∀ n e, x = nI n → VLw t x → pLaw (txB tp n) 14 [] 0 0 = .error e → ∀ M', Fr SLf M M' → wI M' 5444 11 = 0 → Q (fltI e) M') (h : ∀ n L, x = nI n → VLw t x → pLaw (txB tp n) 14 [] 0 0 = .ok L → ∀ M', Fr SLw M M' → wI M' 5444 11 = 0 → LtIs M' L → Q (nI L.length) M') : m_X6_law x M Q := by
  refine s_X6_in (bdc (fun e => ?_) (fun e => h0 fun q => e q.1))
  have e : 1 ≤ x.toInt ∧ x.toInt ≤ 160 := e
  obtain ⟨n, hn, ex, en⟩ := nI_ex (x := x) (by omega)
  subst ex
  rw [hT.2]
  refine pk_le n t (fun e3 => ?_) (fun e3 => h0 fun q => by have := q.2; omega) rfl rfl
  have hV : VLw t (nI n) := ⟨e, by omega⟩
  intro M4 e4 M5 e5 M6 e6 M7 e7
  have hx7 : Tx (txB tp n) M7 := ⟨by show n ≤ 160; omega, by rw [e7, wI_n _ _ (by omega), e6, wI_n _ _ (by omega), e5, wI_s]; rfl, fun k => by rw [e7, wI_n _ _ (by omega), e6, wI_n _ _ (by omega), e5, wI_n _ _ (by omega), e4, wI_n _ _ (by omega), hT.1]; exact txB_ok tp n k⟩
  have f7 : Fr SLf M M7 := by rw [e7, e6, e5, e4]; exact (((Fr.rf.PI (S := SLf) (by unfold SLf; omega)).PI (S := SLf) (by unfold SLf; omega)).PI (S := SLf) (by unfold SLf; omega)).PI (S := SLf) (by unfold SLf; omega)
  have s7 : S6l (txB tp n) M7 [] 0 M7 := ⟨Fr.rf, by rw [e7, wI_n _ _ (by omega), e6, wI_n _ _ (by omega), e5, wI_n _ _ (by omega), e4, wI_s]; rfl, by rw [e7, wI_n _ _ (by omega), e6, wI_s]; rfl, fun k x hk => (by cases hk), by rw [e7, wI_s]; rfl, trivial, by show 0 ≤ 12; omega, by show 0 ≤ 0; omega, by show 0 ≤ n; omega⟩
  have hE : ∀ e M', pLaw (txB tp n) 14 [] 0 0 = .error e → Fr SLg M7 M' → wI M' 5444 14 = fltI e → m_X6_law_j86 0 Q M' := fun e M' ee f' e' => t_j86e f' e' fun M2 f2 z2 => he n e rfl hV ee M2 (f7.tr f2) z2
  have hO : ∀ L p M', pLaw (txB tp n) 14 [] 0 0 = .ok L → S6l (txB tp n) M7 L p M' → m_X6_law_j86 1 Q M' := fun L p M' eL s' => t_j86o (by show n ≤ 160; omega) s' fun M2 f2 z2 l2 => h n L rfl hV eL M2 ((f7.mono fun r k q => by unfold SLf at q; unfold SLw; omega).tr f2) z2 l2
  have l0 : ∀ k M', m_X6_law_j86 0 Q M' → m_X6_law_l46 Q (k + 1) 0 M' := fun k M' g => ⟨fun _ => g, fun z => absurd rfl z⟩
  have uns : ∀ k L a p, pLaw (txB tp n) (k + 1) L a p = (match pCl (txB tp n) a L.length p with
    | .error e => .error e
    | .ok q => if q.2 < n then (if ch (txB tp n) q.2 = 59 then pLaw (txB tp n) k (L ++ [q.1]) (a + clL q.1) (q.2 + 1) else .error (1, q.2)) else .ok (L ++ [q.1])) := fun k L a p => by rw [pLaw]; rfl
  have loop : ∀ (N : Nat) (L : List Cls) (p : Nat) (M' : WM) (k : Nat), n - p + 2 ≤ N → S6l (txB tp n) M7 L p M' → 13 ≤ k + L.length → ((if p < n then (if ch (txB tp n) p = 59 then pLaw (txB tp n) k L (totL L) (p + 1) else .error (1, p)) else .ok L : Rs (List Cls)) = pLaw (txB tp n) 14 [] 0 0) → m_X6_law_l46 Q N 1 M' := fun N => by
    induction N with
    | zero => intro L p M' k hd; omega
    | succ N ih =>
      intro L p M' k hd s' hk hp
      have s'' := s'
      obtain ⟨f, s1, s2, s3, s4, s5, s6, s7', s8⟩ := s''
      have s8 : p ≤ n := s8
      refine ie1 ?_
      rw [show wI M' 5444 13 = nI n by rw [f.I (by unfold SLg SLf; omega)]; exact hx7.2.1, s1]
      refine pk_le n p (fun c => hO L p M' (by rw [← hp, if_neg (by omega)]) s') (fun c => ?_) rfl rfl
      rw [if_pos c] at hp
      refine t_here6 (hx7.fr f (by unfold SLg SLf; omega)) s1 s8 (hT_ask hx7 59 rfl (by omega) (by omega) (fun c59 M3 e3 => ie1 ?_) (fun c59 => ?_))
      · rw [if_pos c59] at hp
        rw [s1, nI_1] at e3
        have s3' : S6l (txB tp n) M7 L (p + 1) M3 := ⟨by rw [e3]; exact f.PI (S := SLg) (by unfold SLg SLf; omega), by rw [e3, wI_s], by rw [e3, wI_n _ _ (by omega)]; exact s2, s3.fr fun k _ => by rw [e3, wI_n _ _ (by omega)], by rw [e3, wI_n _ _ (by omega)]; exact s4, s5.fr fun i _ => ⟨by rw [e3, wI_n _ _ (by omega)], by rw [e3, wI_n _ _ (by omega)], by rw [e3, wI_n _ _ (by omega)], by rw [e3, wI_n _ _ (by omega)]⟩, s6, by omega, by show p + 1 ≤ n; omega⟩
        obtain ⟨k, rfl⟩ : ∃ k', k = k' + 1 := ⟨k - 1, by omega⟩
        rw [uns] at hp
        obtain ⟨N, rfl⟩ : ∃ N', N = N' + 1 := ⟨N - 1, by omega⟩
        refine t_clauseL hx7 s3' (fun e ee M4 f4 e4 => ie0 (l0 N M4 (hE e M4 (by rw [← hp, ee]) f4 e4))) (fun q eq M4 s4' => ie1 ?_)
        obtain ⟨k1, k2, k3, k4⟩ := pCl_ok eq
        rw [eq] at hp
        exact ih (L ++ [q.1]) q.2 M4 k (by omega) s4' (by rw [List.length_append]; show 13 ≤ k + (L.length + 1); omega) (by rw [totL_app]; exact hp)
      · rw [if_neg c59] at hp
        rw [s1]
        obtain ⟨N, rfl⟩ : ∃ N', N = N' + 1 := ⟨N - 1, by omega⟩
        intro M5 e5
        refine ⟨Or.inl rfl, ie0 (l0 N M5 (hE (1, p) M5 hp.symm (by rw [e5]; exact f.PI (S := SLg) (by unfold SLg SLf; omega)) (by rw [e5, wI_s]; rfl)))⟩
  have u0 := uns 13 [] 0 0
  refine t_clauseL hx7 s7 (fun e ee M9 f9 e9 => ⟨1, l0 0 M9 (hE e M9 (by rw [u0]; show (match pCl (txB tp n) 0 0 0 with
    | .error e => .error e
    | .ok q => if q.2 < n then (if ch (txB tp n) q.2 = 59 then pLaw (txB tp n) 13 ([] ++ [q.1]) (0 + clL q.1) (q.2 + 1) else .error (1, q.2)) else .ok ([] ++ [q.1]) : Rs (List Cls)) = .error e; rw [show pCl (txB tp n) 0 0 0 = .error e from ee]) f9 e9)⟩) (fun q eq M9 s9 => ⟨n + 2, ?_⟩)
  refine loop (n + 2) ([] ++ [q.1]) q.2 M9 13 (by omega) s9 (by show 13 ≤ 13 + 1; omega) ?_
  rw [u0]
  show _ = (match pCl (txB tp n) 0 0 0 with
    | .error e => .error e
    | .ok q => if q.2 < n then (if ch (txB tp n) q.2 = 59 then pLaw (txB tp n) 13 ([] ++ [q.1]) (0 + clL q.1) (q.2 + 1) else .error (1, q.2)) else .ok ([] ++ [q.1]) : Rs (List Cls))
  rw [show pCl (txB tp n) 0 0 0 = .ok q from eq, totL_app]; rfl
