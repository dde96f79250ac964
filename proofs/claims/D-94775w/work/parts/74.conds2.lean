/-! the law's text, the model's side: rows of pieces, brackets, nots -/
theorem PC_L9 {X : TX} {M0 : WM} {Q : Int32 → WM → Prop} {n p op : Nat} {W C : Cd} (hn : ∀ x W', W = x :: W' → ¬ x.1 = 10) (hW : W.length ≤ 180) (h : L9 X M0 Q n p op W C) : PC X M0 Q n p op W C := fun m f R M ts hm hR hf => t_ends0 ts hW hn (hR M (h m M ts hm)) (by omega)
theorem wq_j {W : Cd} {o v : Nat} (ho : 10 < o) : wq ((o, v) :: W) = wq W := by
  show (if 2 ≤ o ∧ o ≤ 10 then 1 else 0) + wq W = wq W
  rw [if_neg (by omega)]; omega
theorem wc.cons {W : Cd} {o v : Nat} (h : wc W) (h1 : 10 ≤ o) (h2 : o ≤ 13) : wc ((o, v) :: W) := fun x hx => by
  rcases List.mem_cons.mp hx with rfl | hx
  · exact ⟨h1, h2⟩
  · exact h x hx
theorem pJ_stop {X : TX} {c o a : Nat} {it : Nat → Nat → Rs CR} {k : Nat} {r : CR} (h : ¬ ch X r.2.2 = c) : pJ X c o it a k r = .ok r := by
  cases k with
  | zero => rfl
  | succ k => rw [pJ, if_neg h]
theorem t_and {X : TX} {M0 : WM} {Q : Int32 → WM → Prop} (hx : Tx X M0) {it : Nat → Nat → Rs CR} {op : Nat} (hI : PieP X M0 Q it op) (hio : ∀ a p r, it a p = .ok r → cOK X p r) {W C0 : Cd} {p0 : Nat} (hw : wc W) (hne : ¬ W = []) (hh : ∀ x W', W = x :: W' → ¬ x.1 = 10 ∧ ¬ x.1 = 11) (h1 : C0.length + wq W ≤ p0) (h2 : W.length ≤ p0) (K : CR → Prop) (hK : ∀ a, K a → ∀ n' P C, lok false C P → P.length ≤ 1 → C.length = C0.length + a.1.length → lnc P C = C0 ++ a.1 → ¬ ch X a.2.2 = 38 → X.2 - a.2.2 < n' → L9 X M0 Q n' a.2.2 op (P ++ W) C) : ∀ (k : Nat) (acc : CR) (P C : Cd), X.2 ≤ acc.2.2 + k → cOK X p0 acc → lok false C P → P.length ≤ 1 → C.length = C0.length + acc.1.length → lnc P C = C0 ++ acc.1 → (∀ e, pJ X 38 11 it C0.length k acc = .error e → ErQ M0 Q e) → (∀ a, pJ X 38 11 it C0.length k acc = .ok a → K a) → ∀ n, X.2 - acc.2.2 < n → L9 X M0 Q n acc.2.2 op (P ++ W) C
  | 0, acc, P, C, hk, hs, lP, lP1, e1, e2, he, h, n, hn => by
    have hc : ¬ ch X acc.2.2 = 38 := by unfold ch; rw [if_neg (by omega)]; omega
    exact hK acc (h acc rfl) n P C lP lP1 e1 e2 hc hn
  | k + 1, acc, P, C, hk, hs, lP, lP1, e1, e2, he, h, n, hn => by
    by_cases hc : ch X acc.2.2 = 38
    · have hl := hx.1
      obtain ⟨s1, s2, s3⟩ := hs
      have hp : acc.2.2 < X.2 := ch_lt fun z => by omega
      have sp : pJ X 38 11 it C0.length (k + 1) acc = (match it (C0.length + acc.1.length + 1) (acc.2.2 + 1) with
        | .error e => .error e
        | .ok b => pJ X 38 11 it C0.length k (jmb 11 C0.length acc b)) := by rw [pJ, if_pos hc]; rfl
      rw [sp] at he h
      have hD : (C0 ++ acc.1).length = C0.length + acc.1.length := List.length_append
      have hD1 : (C0 ++ acc.1 ++ [(11, 0)]).length = C0.length + acc.1.length + 1 := by rw [List.length_append, hD]; rfl
      have hPW : (P ++ W).length = P.length + W.length := List.length_append
      intro m M ts hm
      obtain ⟨m, rfl⟩ : ∃ m', m = m' + 1 := ⟨m - 1, by omega⟩
      have j195 : m_X6_readsCondition_j195 (fun M' => m_X6_readsCondition_l40 Q n M') 0 Q M := by
        refine ⟨P.length + 1, t_lands (all := false) (fun x W' e => ⟨(hh x W' e).2, fun z => by cases z⟩) P C M lP ts (by omega) (by omega) (fun M2 t2 => ?_) _ (by omega)⟩
        rw [e2] at t2
        refine t_here hx t2 s2 (hT_ask hx 38 rfl (by omega) (by omega) (fun _ => ?_) (fun z => absurd hc z))
        refine t_jumps (o := 11) t2 rfl (by omega) (by omega) (by omega) fun M3 t3 => ?_
        rw [hD] at t3
        refine hI (acc.2.2 + 1) ((11, C0.length + acc.1.length) :: W) (C0 ++ acc.1 ++ [(11, 0)]) n ⟨by rw [hD1, wq_j (by omega)]; omega, by show W.length + 1 ≤ acc.2.2 + 1; omega, by omega⟩ (hw.cons (by omega) (by omega)) (fun z => by cases z) (fun e ee => he e (by rw [hD1] at ee; rw [ee])) (fun b eb n' hn' => ?_) (by omega) M3 t3
        rw [hD1] at eb
        rw [eb] at he h
        obtain ⟨b1, b2, b3⟩ := hio _ _ _ eb
        refine PC_L9 (fun x W' e => by cases e; exact (show ¬ (11 : Nat) = 10 by decide)) (by show W.length + 1 ≤ 180; omega) ?_
        have ih := t_and hx hI hio hw hne hh h1 h2 K hK k (jmb 11 C0.length acc b) [(11, C0.length + acc.1.length)] (C0 ++ acc.1 ++ [(11, 0)] ++ b.1) (by show X.2 ≤ b.2.2 + k; omega) ⟨by show p0 < b.2.2; omega, b2, by show (acc.1 ++ [(11, C0.length + acc.1.length + 1 + b.1.length)] ++ b.1).length + p0 ≤ b.2.2; rw [List.length_append, List.length_append]; show acc.1.length + 1 + b.1.length + p0 ≤ b.2.2; omega⟩ (fun x hx => by
          rcases List.mem_singleton.mp hx with rfl
          refine ⟨Or.inl rfl, ?_⟩
          show C0.length + acc.1.length < (C0 ++ acc.1 ++ [(11, 0)] ++ b.1).length
          rw [List.length_append, hD1]; omega) (Nat.le_refl _) (by
          rw [List.length_append, hD1]
          show _ = C0.length + (acc.1 ++ [(11, C0.length + acc.1.length + 1 + b.1.length)] ++ b.1).length
          rw [List.length_append, List.length_append]
          show C0.length + acc.1.length + 1 + b.1.length = C0.length + (acc.1.length + 1 + b.1.length)
          omega) (by
          have := lnc_one (A := C0 ++ acc.1) (B := b.1) (o := 11)
          rw [hD] at this
          rw [this]
          show _ = C0 ++ (acc.1 ++ [(11, C0.length + acc.1.length + 1 + b.1.length)] ++ b.1)
          rw [← List.append_assoc, ← List.append_assoc]) he h n' hn'
        exact ih
      unfold m_X6_readsCondition_l92
      refine t_here hx ts s2 (hT_ask hx 41 rfl (by omega) (by omega) (fun z => absurd z (by omega)) (fun _ => t_here hx ts s2 (hT_ask hx 38 rfl (by omega) (by omega) (fun _ => t_here hx ts s2 (hT_ask hx 124 rfl (by omega) (by omega) (fun z => absurd z (by omega)) (fun _ => j195))) (fun z => absurd hc z))))
    · rw [pJ_stop hc] at h
      exact hK acc (h acc rfl) n P C lP lP1 e1 e2 hc hn
/-- pieces with & between them -/
def PcsP (X : TX) (M0 : WM) (Q : Int32 → WM → Prop) (it : Nat → Nat → Rs CR) (op : Nat) : Prop := ∀ p W C n, OKp X p W C → wc W → ¬ W = [] → (∀ x W', W = x :: W' → ¬ x.1 = 10 ∧ ¬ x.1 = 11) → (∀ e, it C.length p = .error e → ErQ M0 Q e) → (∀ r, it C.length p = .ok r → ∀ n' P C', lok false C' P → P.length ≤ 1 → C'.length = C.length + r.1.length → lnc P C' = C ++ r.1 → ¬ ch X r.2.2 = 38 → X.2 - r.2.2 < n' → L9 X M0 Q n' r.2.2 op (P ++ W) C') → X.2 - p < n → CE M0 Q n p op W C
theorem t_pcs {X : TX} {M0 : WM} {Q : Int32 → WM → Prop} (hx : Tx X M0) {P : Nat → Nat → Nat → Rs CR} {op : Nat} (hI : PieP X M0 Q (fun a p => P a op p) op) (hio : ∀ a p r, P a op p = .ok r → cOK X p r) : PcsP X M0 Q (fun a p => pPcs X P a op p) op := fun p W C n hok hw hne hh he h hn => by
  have hl := hx.1
  obtain ⟨k1, k2, k3⟩ := hok
  have he : ∀ e, pPcs X P C.length op p = .error e → ErQ M0 Q e := he
  have h : ∀ r, pPcs X P C.length op p = .ok r → ∀ n' P C', lok false C' P → P.length ≤ 1 → C'.length = C.length + r.1.length → lnc P C' = C ++ r.1 → ¬ ch X r.2.2 = 38 → X.2 - r.2.2 < n' → L9 X M0 Q n' r.2.2 op (P ++ W) C' := h
  unfold pPcs at he h
  refine hI p W C n ⟨k1, k2, k3⟩ hw hne (fun e ee => he e (by have ee : P C.length op p = .error e := ee; rw [ee])) (fun r er n' hn' => ?_) hn
  have er : P C.length op p = .ok r := er
  rw [er] at he h
  obtain ⟨r1, r2, r3⟩ := hio _ _ _ er
  refine PC_L9 (fun x W' e => (hh x W' e).1) (by omega) ?_
  exact t_and hx hI (fun a p r e => hio a p r e) hw hne hh k1 k2 _ (fun a q => q) X.2 r [] (C ++ r.1) (by omega) (hio _ _ _ er) (fun x hx => absurd hx List.not_mem_nil) (Nat.zero_le _) List.length_append rfl he h n' hn'
theorem t_or {X : TX} {M0 : WM} {Q : Int32 → WM → Prop} (hx : Tx X M0) {it : Nat → Nat → Rs CR} {op : Nat} (hI : PcsP X M0 Q it op) (hio : ∀ a p r, it a p = .ok r → cOK X p r) {W C0 : Cd} {p0 : Nat} (hw : wc W) (hne : ¬ W = []) (hh : ∀ x W', W = x :: W' → x.1 = 13) (h1 : C0.length + wq W ≤ p0) (h2 : W.length ≤ p0) (K : CR → Prop) (hK : ∀ a, K a → ∀ n' P C, lok true C P → P.length ≤ 2 → C.length = C0.length + a.1.length → lnc P C = C0 ++ a.1 → ¬ ch X a.2.2 = 38 → ¬ ch X a.2.2 = 124 → X.2 - a.2.2 < n' → L9 X M0 Q n' a.2.2 op (P ++ W) C) : ∀ (k : Nat) (acc : CR) (P C : Cd), X.2 ≤ acc.2.2 + k → cOK X p0 acc → lok true C P → P.length ≤ 2 → C.length = C0.length + acc.1.length → lnc P C = C0 ++ acc.1 → ¬ ch X acc.2.2 = 38 → (∀ e, pJ X 124 12 it C0.length k acc = .error e → ErQ M0 Q e) → (∀ a, pJ X 124 12 it C0.length k acc = .ok a → K a) → ∀ n, X.2 - acc.2.2 < n → L9 X M0 Q n acc.2.2 op (P ++ W) C
  | 0, acc, P, C, hk, hs, lP, lP1, e1, e2, h38, he, h, n, hn => by
    have hc : ¬ ch X acc.2.2 = 124 := by unfold ch; rw [if_neg (by omega)]; omega
    exact hK acc (h acc rfl) n P C lP lP1 e1 e2 h38 hc hn
  | k + 1, acc, P, C, hk, hs, lP, lP1, e1, e2, h38, he, h, n, hn => by
    by_cases hc : ch X acc.2.2 = 124
    · have hl := hx.1
      obtain ⟨s1, s2, s3⟩ := hs
      have hp : acc.2.2 < X.2 := ch_lt fun z => by omega
      have sp : pJ X 124 12 it C0.length (k + 1) acc = (match it (C0.length + acc.1.length + 1) (acc.2.2 + 1) with
        | .error e => .error e
        | .ok b => pJ X 124 12 it C0.length k (jmb 12 C0.length acc b)) := by rw [pJ, if_pos hc]; rfl
      rw [sp] at he h
      have hD : (C0 ++ acc.1).length = C0.length + acc.1.length := List.length_append
      have hD1 : (C0 ++ acc.1 ++ [(12, 0)]).length = C0.length + acc.1.length + 1 := by rw [List.length_append, hD]; rfl
      have hPW : (P ++ W).length = P.length + W.length := List.length_append
      intro m M ts hm
      obtain ⟨m, rfl⟩ : ∃ m', m = m' + 1 := ⟨m - 1, by omega⟩
      have j195 : m_X6_readsCondition_j195 (fun M' => m_X6_readsCondition_l40 Q n M') 1 Q M := by
        refine ⟨P.length + 1, t_lands (all := true) (fun x W' e => ⟨by rw [hh x W' e]; decide, fun _ => by rw [hh x W' e]; decide⟩) P C M lP ts (by omega) (by omega) (fun M2 t2 => ?_) _ (by omega)⟩
        rw [e2] at t2
        refine t_here hx t2 s2 (hT_ask hx 38 rfl (by omega) (by omega) (fun z => absurd z h38) (fun _ => ?_))
        refine t_jumps (o := 12) t2 rfl (by omega) (by omega) (by omega) fun M3 t3 => ?_
        rw [hD] at t3
        refine hI (acc.2.2 + 1) ((12, C0.length + acc.1.length) :: W) (C0 ++ acc.1 ++ [(12, 0)]) n ⟨by rw [hD1, wq_j (by omega)]; omega, by show W.length + 1 ≤ acc.2.2 + 1; omega, by omega⟩ (hw.cons (by omega) (by omega)) (fun z => by cases z) (fun x W' e => by cases e; exact (show ¬ (12 : Nat) = 10 ∧ ¬ (12 : Nat) = 11 by decide)) (fun e ee => he e (by rw [hD1] at ee; rw [ee])) (fun b eb n' P' C' lP' lP1' f1 f2 f3 hn' => ?_) (by omega) M3 t3
        rw [hD1] at eb
        rw [eb] at he h
        obtain ⟨b1, b2, b3⟩ := hio _ _ _ eb
        rw [hD1] at f1
        have ih := t_or hx hI hio hw hne hh h1 h2 K hK k (jmb 12 C0.length acc b) (P' ++ [(12, C0.length + acc.1.length)]) C' (by show X.2 ≤ b.2.2 + k; omega) ⟨by show p0 < b.2.2; omega, b2, by show (acc.1 ++ [(12, C0.length + acc.1.length + 1 + b.1.length)] ++ b.1).length + p0 ≤ b.2.2; rw [List.length_append, List.length_append]; show acc.1.length + 1 + b.1.length + p0 ≤ b.2.2; omega⟩ (fun x hx => by
          rcases List.mem_append.mp hx with hx | hx
          · obtain ⟨g1, g2⟩ := lP' x hx
            rcases g1 with g1 | ⟨g1, _⟩
            · exact ⟨Or.inl g1, g2⟩
            · cases g1
          · rcases List.mem_singleton.mp hx with rfl
            exact ⟨Or.inr ⟨rfl, rfl⟩, by show C0.length + acc.1.length < C'.length; omega⟩) (by rw [List.length_append]; show P'.length + 1 ≤ 2; omega) (by
          show C'.length = C0.length + (acc.1 ++ [(12, C0.length + acc.1.length + 1 + b.1.length)] ++ b.1).length
          rw [List.length_append, List.length_append]
          show C'.length = C0.length + (acc.1.length + 1 + b.1.length)
          omega) (by
          have := lnc_one (A := C0 ++ acc.1) (B := b.1) (o := 12)
          rw [hD] at this
          rw [lnc_app, f2, this]
          show _ = C0 ++ (acc.1 ++ [(12, C0.length + acc.1.length + 1 + b.1.length)] ++ b.1)
          rw [← List.append_assoc, ← List.append_assoc]) f3 he h n' hn'
        rw [List.append_assoc] at ih
        exact ih
      unfold m_X6_readsCondition_l92
      refine t_here hx ts s2 (hT_ask hx 41 rfl (by omega) (by omega) (fun z => absurd z (by omega)) (fun _ => t_here hx ts s2 (hT_ask hx 38 rfl (by omega) (by omega) (fun z => absurd z h38) (fun _ => t_here hx ts s2 (hT_ask hx 124 rfl (by omega) (by omega) (fun _ => t_here hx ts s2 (hT_ask hx 124 rfl (by omega) (by omega) (fun _ => j195) (fun z => absurd hc z))) (fun z => absurd hc z))))))
    · rw [pJ_stop hc] at h
      exact hK acc (h acc rfl) n P C lP lP1 e1 e2 h38 hc hn
/-- what is in brackets -/
def FinC (X : TX) (M0 : WM) (Q : Int32 → WM → Prop) (n q op : Nat) (W C : Cd) : Prop := ∀ m M, Ts M0 q op W C M → X.2 - q < m → ((wI M 5444 17 = 0 → Q 1 M) ∧ (¬ wI M 5444 17 = 0 → m_X6_endsPiece M (fun M17 => m_X6_readsCondition_l92 (fun M' => m_X6_readsCondition_l40 Q n M') Q m M17)))
theorem t_inpar {X : TX} {M0 : WM} {Q : Int32 → WM → Prop} (hx : Tx X M0) {P : Nat → Nat → Nat → Rs CR} {op : Nat} (hop : ¬ op = 6) (hI : PieP X M0 Q (fun a p => P a (op + 1) p) (op + 1)) (hio : ∀ a p r, P a (op + 1) p = .ok r → cOK X p r) {p n : Nat} {W C : Cd} (hok : OKp X p W C) (hp : p < X.2) (hw : wc W) (he : ∀ e, pPar X P C.length op p = .error e → ErQ M0 Q e) (h : ∀ r, pPar X P C.length op p = .ok r → ∀ n', X.2 - r.2.2 < n' → FinC X M0 Q n' r.2.2 op W (C ++ r.1)) (hn : X.2 - (p + 1) < n) : CE M0 Q n (p + 1) (op + 1) ((13, 0) :: W) C := by
  have hl := hx.1
  obtain ⟨k1, k2, k3⟩ := hok
  unfold pPar at he h
  rw [if_neg hop] at he h
  have hw13 : wc ((13, 0) :: W) := hw.cons (by omega) (by omega)
  have hne : ¬ (13, 0) :: W = [] := fun z => by cases z
  have hh : ∀ (x : Nat × Nat) W', (13, 0) :: W = x :: W' → x.1 = 13 := fun x W' e => by cases e; rfl
  refine t_pcs hx hI hio (p + 1) ((13, 0) :: W) C n ⟨by rw [wq_j (by omega)]; omega, by show W.length + 1 ≤ p + 1; omega, by omega⟩ hw13 hne (fun x W' e => ⟨by rw [hh x W' e]; decide, by rw [hh x W' e]; decide⟩) (fun e ee => he e (by have ee : pPcs X P C.length (op + 1) (p + 1) = .error e := ee; rw [ee])) (fun r0 er0 n' P' C' l1 l2 l3 l4 l5 hn' => ?_) hn
  have er0 : pPcs X P C.length (op + 1) (p + 1) = .ok r0 := er0
  rw [er0] at he h
  obtain ⟨a1, a2, a3⟩ := pPcs_ok hio er0
  have hio2 : ∀ a p r, (fun a' p' => pPcs X P a' (op + 1) p') a p = .ok r → cOK X p r := fun a p r e => pPcs_ok hio e
  refine t_or hx (t_pcs hx hI hio) hio2 (p0 := p + 1) hw13 hne hh (by rw [wq_j (by omega)]; omega) (by show W.length + 1 ≤ p + 1; omega) (fun r1 => pJ X 124 12 (fun a' p' => pPcs X P a' (op + 1) p') C.length X.2 r0 = .ok r1) (fun r1 er1 n2 P2 C2 m1 m2 m3 m4 m5 m6 hn2 => ?_) X.2 r0 P' C' (by omega) ⟨a1, a2, a3⟩ (fun x hx => by
    obtain ⟨g1, g2⟩ := l1 x hx
    rcases g1 with g1 | ⟨g1, _⟩
    · exact ⟨Or.inl g1, g2⟩
    · cases g1) (by omega) l3 l4 l5 (fun e ee => he e (by
      show (match pJ X 124 12 (fun a' p' => pPcs X P a' (op + 1) p') C.length X.2 r0 with
        | .error e => .error e
        | .ok r => if ch X r.2.2 = 41 then .ok (r.1, r.2.1, r.2.2 + 1) else .error (1, r.2.2) : Rs CR) = .error e
      rw [ee])) (fun a ea => ea) n' hn'
  obtain ⟨b1, b2, b3⟩ := pJ_ok (by decide) hio2 (⟨a1, a2, a3⟩ : cOK X (p + 1) r0) er1
  have he : ∀ e, (if ch X r1.2.2 = 41 then .ok (r1.1, r1.2.1, r1.2.2 + 1) else .error (1, r1.2.2) : Rs CR) = .error e → ErQ M0 Q e := fun e q => he e (by
    show (match pJ X 124 12 (fun a' p' => pPcs X P a' (op + 1) p') C.length X.2 r0 with
      | .error e => .error e
      | .ok r => if ch X r.2.2 = 41 then .ok (r.1, r.2.1, r.2.2 + 1) else .error (1, r.2.2) : Rs CR) = .error e
    rw [er1]; exact q)
  have h : ∀ r, (if ch X r1.2.2 = 41 then .ok (r1.1, r1.2.1, r1.2.2 + 1) else .error (1, r1.2.2) : Rs CR) = .ok r → ∀ n', X.2 - r.2.2 < n' → FinC X M0 Q n' r.2.2 op W (C ++ r.1) := fun r q => h r (by
    show (match pJ X 124 12 (fun a' p' => pPcs X P a' (op + 1) p') C.length X.2 r0 with
      | .error e => .error e
      | .ok r => if ch X r.2.2 = 41 then .ok (r.1, r.2.1, r.2.2 + 1) else .error (1, r.2.2) : Rs CR) = .ok r
    rw [er1]; exact q)
  intro m M ts hm
  obtain ⟨m, rfl⟩ : ∃ m', m = m' + 1 := ⟨m - 1, by omega⟩
  have hPW : (P2 ++ (13, 0) :: W).length = P2.length + (W.length + 1) := by rw [List.length_append]; rfl
  unfold m_X6_readsCondition_l92
  refine t_here hx ts b2 (hT_ask hx 41 rfl (by omega) (by omega) (fun c => ?_) (fun c => ?_))
  · refine ⟨P2.length + 1, t_lands (all := true) (fun x W' e => ⟨by rw [hh x W' e]; decide, fun _ => by rw [hh x W' e]; decide⟩) P2 C2 M m1 ts (by omega) (by omega) (fun M11 t11 => ?_) _ (by omega)⟩
    rw [m4] at t11
    intro M12 e12 M13 e13 M14 e14
    have t12 := t11.pop e12
    rw [t12.2.2.1, show nI (op + 1) - 1 = nI op from nI_pred op] at e13
    have t13 := t12.o e13
    rw [t13.2.1, nI_1] at e14
    have t14 := t13.p e14
    have hpos := ch_lt (X := X) (p := r1.2.2) fun z => by omega
    exact h (r1.1, r1.2.1, r1.2.2 + 1) (if_pos c) n2 (by show X.2 - (r1.2.2 + 1) < n2; omega) m M14 t14 (by show X.2 - (r1.2.2 + 1) < m; omega)
  · refine t_here hx ts b2 (hT_ask hx 38 rfl (by omega) (by omega) (fun z => absurd z m5) (fun _ => t_here hx ts b2 (hT_ask hx 124 rfl (by omega) (by omega) (fun z => absurd z m6) (fun _ => ?_))))
    rw [ts.2.1]
    exact t_wrong ts.1 rfl fun M' f' e' => ⟨Or.inl rfl, he (1, r1.2.2) (if_neg c) M' f' e'⟩
theorem t_pie {X : TX} {M0 : WM} {Q : Int32 → WM → Prop} (hx : Tx X M0) : ∀ (d op : Nat), op ≤ 6 → 7 ≤ d + op → PieP X M0 Q (fun a p => pPie X d a op p) op
  | 0, op, h1, h2 => absurd h2 (by omega)
  | d + 1, op, h1, h2 => fun p W C n hok hw hne he h hn => by
    have hl := hx.1
    have hok0 := hok
    obtain ⟨k1, k2, k3⟩ := hok
    by_cases c33 : ch X p = 33
    · have sp : pPie X (d + 1) C.length op p = (if op = 6 then .error (5, p) else match pPie X d C.length (op + 1) (p + 1) with
        | .error e => .error e
        | .ok r => .ok (r.1 ++ [(10, 0)], fun F => (r.2.1 F).map (fun b => !b), r.2.2)) := by rw [pPie, if_pos c33]; rfl
      have he : ∀ e, (if op = 6 then .error (5, p) else match pPie X d C.length (op + 1) (p + 1) with
        | .error e => .error e
        | .ok r => .ok (r.1 ++ [(10, 0)], fun F => (r.2.1 F).map (fun b => !b), r.2.2) : Rs CR) = .error e → ErQ M0 Q e := fun e q => he e (sp.trans q)
      have h : ∀ r, (if op = 6 then .error (5, p) else match pPie X d C.length (op + 1) (p + 1) with
        | .error e => .error e
        | .ok r => .ok (r.1 ++ [(10, 0)], fun F => (r.2.1 F).map (fun b => !b), r.2.2) : Rs CR) = .ok r → ∀ n', X.2 - r.2.2 < n' → PC X M0 Q n' r.2.2 op W (C ++ r.1) := fun r q => h r (sp.trans q)
      have hp : p < X.2 := ch_lt fun z => by omega
      obtain ⟨m, rfl⟩ : ∃ m, n = m + 1 := ⟨n - 1, by omega⟩
      intro M ts
      unfold m_X6_readsCondition_l40
      refine t_here hx ts k3 (hT_ask hx 33 rfl (by omega) (by omega) (fun _ => t_here hx ts k3 (hT_ask hx 33 rfl (by omega) (by omega) (fun _ => ?_) (fun z => absurd c33 z))) (fun z => absurd c33 z))
      refine t_opens (o := 10) ts rfl (by omega) h1 (by omega) (fun c6 M' f' e' => ie0 (he (5, p) (if_pos c6) M' f' e')) (fun c6 M2 t2 => ie1 ?_)
      rw [if_neg c6] at he h
      refine t_pie hx d (op + 1) (by omega) (by omega) (p + 1) ((10, 0) :: W) C m ⟨by show C.length + ((if 2 ≤ 10 ∧ 10 ≤ 10 then 1 else 0) + wq W) ≤ p + 1; rw [if_pos (by omega)]; omega, by show W.length + 1 ≤ p + 1; omega, by omega⟩ (hw.cons (by omega) (by omega)) (fun z => by cases z) (fun e ee => he e (by have ee : pPie X d C.length (op + 1) (p + 1) = .error e := ee; rw [ee])) (fun r er n' hn' m2 f R M3 t3 hm2 hR hf => ?_) (by omega) M2 t2
      have er : pPie X d C.length (op + 1) (p + 1) = .ok r := er
      rw [er] at h
      obtain ⟨r1, r2, r3⟩ := pPie_ok er
      have hf : W.length + 1 < f := hf
      obtain ⟨g, rfl⟩ : ∃ g, f = g + 1 := ⟨f - 1, by omega⟩
      have hCr : (C ++ r.1).length = C.length + r.1.length := List.length_append
      refine t_ends1 t3 (by omega) (by omega) fun M4 t4 => ?_
      rw [List.append_assoc] at t4
      exact h _ rfl n' hn' m2 g R M4 t4 hm2 hR (by omega)
    · by_cases c40 : ch X p = 40
      · have sp : pPie X (d + 1) C.length op p = pPar X (pPie X d) C.length op p := by rw [pPie, if_neg c33, if_pos c40]
        have he : ∀ e, pPar X (pPie X d) C.length op p = .error e → ErQ M0 Q e := fun e q => he e (sp.trans q)
        have h : ∀ r, pPar X (pPie X d) C.length op p = .ok r → ∀ n', X.2 - r.2.2 < n' → PC X M0 Q n' r.2.2 op W (C ++ r.1) := fun r q => h r (sp.trans q)
        have hp : p < X.2 := ch_lt fun z => by omega
        obtain ⟨m, rfl⟩ : ∃ m, n = m + 1 := ⟨n - 1, by omega⟩
        intro M ts
        unfold m_X6_readsCondition_l40
        refine t_here hx ts k3 (hT_ask hx 33 rfl (by omega) (by omega) (fun z => absurd z c33) (fun _ => t_here hx ts k3 (hT_ask hx 40 rfl (by omega) (by omega) (fun _ => t_here hx ts k3 (hT_ask hx 33 rfl (by omega) (by omega) (fun z => absurd z c33) (fun _ => ?_))) (fun z => absurd c40 z))))
        refine t_opens (o := 13) ts rfl (by omega) h1 (by omega) (fun c6 M' f' e' => ie0 (he (5, p) (by unfold pPar; rw [if_pos c6]) M' f' e')) (fun c6 M2 t2 => ie1 ?_)
        refine t_inpar hx c6 (t_pie hx d (op + 1) (by omega) (by omega)) (fun a p r e => pPie_ok e) hok0 hp hw he (fun r er n' hn' m2 M3 t3 hm2 => ⟨fun z => ?_, fun _ => ⟨W.length + 1, h r er n' hn' m2 (W.length + 1) _ M3 t3 hm2 (fun M' q => q) (by omega)⟩⟩) (by omega) M2 t2
        exfalso
        rw [t3.2.2.2.1] at z
        have : ¬ W.length = 0 := fun z => hne (List.eq_nil_of_length_eq_zero z)
        exact nI_ne0 (by omega) (by omega) z
      · have sp : pPie X (d + 1) C.length op p = pCmp X op p := by rw [pPie, if_neg c33, if_neg c40]
        exact t_cmp hx h1 hok0 hw c33 c40 (fun e q => he e (sp.trans q)) (fun r q => h r (sp.trans q)) hn
/-- a clause's condition, whole -/
theorem t_cond {X : TX} {M0 M : WM} {p op : Nat} {C : Cd} {Q : Int32 → WM → Prop} (hx : Tx X M0) (ts : Ts M0 p op [] C M) (hC : C.length ≤ p) (hp : p ≤ X.2) (he0 : ¬ ch X p = 40 → ErQ M0 Q (1, p)) (he : ch X p = 40 → ∀ e, pPar X (pPie X 7) C.length 0 p = .error e → ErQ M0 Q e) (h : ch X p = 40 → ∀ r, pPar X (pPie X 7) C.length 0 p = .ok r → ∀ M', Ts M0 r.2.2 0 [] (C ++ r.1) M' → Q 1 M') : m_X6_readsCondition M Q := by
  have hl := hx.1
  unfold m_X6_readsCondition
  refine t_here hx ts hp (hT_ask hx 40 rfl (by omega) (by omega) (fun c M3 e3 M4 e4 => ?_) (fun c => ?_))
  · have hpl : p < X.2 := ch_lt fun z => by omega
    have t3 : Ts M0 p 0 [] C M3 := ts.o (op' := 0) e3
    have t4 : Ts M0 p 0 [] C M4 := by
      obtain ⟨f, s1, s2, s3, s4, s5, s6⟩ := t3
      exact ⟨by rw [e4]; exact f.PI (Or.inl ⟨rfl, by omega⟩), by rw [e4, wI_n _ _ (by omega)]; exact s1, by rw [e4, wI_n _ _ (by omega)]; exact s2, by rw [e4, wI_s]; rfl, trivial, by rw [e4, wI_n _ _ (by omega)]; exact s5, s6.fr fun k _ => by rw [e4, wI_n _ _ (by omega)]⟩
    refine t_opens (o := 13) t4 rfl (by omega) (by omega) (by show 0 < 180; omega) (fun c6 => by cases c6) (fun _ M6 t6 => ie1 ⟨X.2 + 1, ?_⟩)
    refine t_inpar hx (by omega) (t_pie hx 7 1 (by omega) (by omega)) (fun a p r e => pPie_ok e) (W := []) ⟨by show C.length + 0 ≤ p; omega, Nat.zero_le _, by omega⟩ hpl (fun x hx => absurd hx List.not_mem_nil) (he c) (fun r er n' hn' m2 M7 t7 _ => ⟨fun _ => h c r er M7 t7, fun z => absurd t7.2.2.2.1 z⟩) (by omega) M6 t6
  · rw [ts.2.1]
    exact t_wrong ts.1 rfl fun M' f' e' => ⟨Or.inl rfl, he0 c M' f' e'⟩
