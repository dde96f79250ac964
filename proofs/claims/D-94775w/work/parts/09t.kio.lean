/-! indexOf in the one text constant -/
theorem kio_k {x : Int32} (h0 : ¬ x < 0) (h1 : ¬ (255 : Int32) < x) : ∃ n, n < 256 ∧ x = nI n := by
  obtain ⟨j, hj, rfl⟩ := nI_of h0
  refine ⟨j, Nat.lt_of_not_le fun hc => h1 ?_, rfl⟩
  exact nI_lt (a := 255) (by omega) hj
theorem kio_t : ∀ n, n < 256 → (∀ j, j < 9 → sB j = (nI n).toInt8.toInt32 → (∀ i, i < j → sB i ≠ (nI n).toInt8.toInt32) → kio (nI n) = nI j) ∧ ((∀ j, j < 9 → sB j ≠ (nI n).toInt8.toInt32) → kio (nI n) = -1) := by decide +kernel
theorem kio_n {x : Int32} (h : x < 0 ∨ (255 : Int32) < x) : kio x = -1 := by
  have key : ∀ k : Int32, (¬ k < 0 ∧ ¬ (255 : Int32) < k) → ¬ x = k := fun k hk e => by subst e; rcases h with h | h; exact hk.1 h; exact hk.2 h
  unfold kio
  rw [if_neg (key 107 (by decide)), if_neg (key 105 (by decide)), if_neg (key 111 (by decide)), if_neg (key 112 (by decide)), if_neg (key 108 (by decide)), if_neg (key 102 (by decide)), if_neg (key 103 (by decide)), if_neg (key 97 (by decide)), if_neg (key 98 (by decide))]
theorem kio_loop {n : Nat} (hn : n < 256) {Q : Int32 → Prop} (h : Q (kio (nI n))) : ∀ k j, j + k = 9 → (∀ i, i < j → sB i ≠ (nI n).toInt8.toInt32) → m_J1_indexOfChar_l7 9 (nI n).toInt8.toInt32 Q (k + 1) (nI j) := by
  intro k
  induction k with
  | zero =>
    intro j hj hi
    have hj : j = 9 := by omega
    subst hj
    refine ⟨fun _ => ?_, fun c => absurd (by decide) c⟩
    have := (kio_t n hn).2 hi
    rw [this] at h
    exact h
  | succ k ih =>
    intro j hj hi
    refine ⟨fun c => ?_, fun _ => ⟨pk_in j 9 (by omega) rfl, ?_⟩⟩
    · exact absurd c (nI_ge (a := j) (b := 9) (by omega) (by omega))
    · rw [nI_clamp (by omega)]
      refine ⟨fun c => ?_, fun c z hz => ?_⟩
      · rw [(kio_t n hn).1 j (by omega) c hi] at h
        exact h
      · rw [hz, nI_1]
        exact ih (j + 1) (by omega) (fun i hi2 => by
          by_cases e : i = j
          · subst e; exact c
          · exact hi i (by omega))
theorem kio_ok {x : Int32} {Q : Int32 → Prop} (h : Q (kio x)) : m_J0_indexOf x Q := by
  refine ⟨fun c => absurd c (by decide), fun _ => ⟨fun _ => ⟨fun c => absurd c (by decide), fun _ => ?_⟩, fun c => absurd rfl c⟩⟩
  refine ⟨fun c => absurd c (by decide), fun _ => ?_⟩
  refine ⟨fun c => ?_, fun c => ⟨fun c2 => ?_, fun c2 => ?_⟩⟩
  · refine ⟨fun _ => ?_, fun e => absurd rfl e⟩
    rw [kio_n (Or.inl c)] at h
    exact h
  · refine ⟨fun _ => ?_, fun e => absurd rfl e⟩
    rw [kio_n (Or.inr c2)] at h
    exact h
  · refine ⟨fun e => absurd e (by decide), fun _ z hz w hw => ⟨fun _ => ?_, fun e => absurd (by rw [hz, hw]; decide) e⟩⟩
    obtain ⟨n, hn, rfl⟩ := kio_k c c2
    have e1 : z = nI 0 := by rw [hz]; decide
    have e2 : w = 9 := by rw [hw]; decide
    subst e1; subst e2
    intro v hv
    subst hv
    exact ⟨10, kio_loop hn h 9 0 (by omega) (fun i hi => absurd hi (by omega))⟩
theorem hd_kio : yJ0_indexOf.cls ≠ "java/lang/invoke/MethodHandle" ∧ yJ0_indexOf.cls ≠ "java/lang/invoke/VarHandle" ∧ (parseMethodDescriptor yJ0_indexOf.desc).map (fun d => d.parameters.length) = some 1 := by decide +kernel
theorem v_kio {p : Program} {l : Launch} {e : Env} {R : Room} {s : State} {m : MethodId} {args : Array Value} {below : List Frame} {meth : Method} {c : Code} {cells slots : Nat} {Q : State → Prop} {cc : ByteArray} {nL : Nat} {ret : Option FieldType} {D : va_G} {cA : Nat → ClassId} {sz0 : Nat} {H0 : Heap} {pc p2 p3 p4 : Nat} {lv : List (Nat × Value)} {st : List Value} {M : WM} {k : Fin 4} {x : Int32} {q idx : Nat} (cx : Cx p s m args meth c cc nL RX7 ret D cA sz0 H0) (d1 : decode cc pc = .ok (.ldc 75, 2)) (d2 : decode cc p2 = .ok (.iload_n k, 1)) (d3 : decode cc p3 = .ok (.invokevirtual idx, 3)) (h2 : pc + 2 = p2) (h3 : p2 + 1 = p3) (h4 : p3 + 3 = p4) (hl : Cond.methodLink RX7 idx yJ0_indexOf ∈ lw_all) (hq : lv[q]? = some ((k : Nat), .int x)) (hcat : (st.map fun v => v.category).sum ≤ 8) (hR : 6 ≤ R.frames ∧ 300 ≤ R.locals) (hb : cells ≤ R.cells ∧ slots ≤ R.slots) (kk : V p l e R s m args below meth c nL D cA sz0 H0 cells slots Q p4 lv (.int (kio x) :: st) M) : V p l e R s m args below meth c nL D cA sz0 H0 cells slots Q pc lv st M := by
  subst h2; subst h3; subst h4
  refine v_ldcS cx d1 ?_
  refine v_iload_n cx d2 rfl q hq ?_
  refine v_runp_i cx (r_VS cx (c_J0_indexOf l D cA sz0 H0 M x (fun r => r = kio x) (kio_ok rfl)) hl q533 q534 q132 q535 rfl hd_kio ⟨?_, ?_⟩ (As := [.int x]) rfl rfl hcat d3 hb) (fun r hr => ?_)
  · exact Nat.le_trans (Nat.le_of_ble_eq_true rfl) hR.1
  · exact Nat.le_trans (Nat.le_of_ble_eq_true rfl) hR.2
  · subst hr
    exact kk
