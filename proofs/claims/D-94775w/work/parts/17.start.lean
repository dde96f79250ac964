theorem st_prim {args : Array Value} {s : State} {ty : FieldType} (h : (Cond.arrayClass ty).before args s = true) : ∃ c : ClassId, ArrOfT s c ty ∧ s.vm.findClass ("[" ++ ty.toString) = some c := by
  obtain ⟨c, k, comp, h1, h2, h3⟩ := Cond.arrayClass_spec (args := args) (first := s) (o := none) (s := s) (idx := []) h
  exact ⟨c, fun n z => ⟨fun k h => (by cases h), k, h2, comp, h3⟩, h1⟩
theorem st_arr {args : Array Value} {s : State} {t : FieldType} (h : (Cond.arrayOver (.array t)).before args s = true) : ∃ c : ClassId, ArrOfT s c (.array t) ∧ s.vm.findClass ("[" ++ (FieldType.array t).toString) = some c := by
  obtain ⟨comp, c, k, h1, h2, h3, h4⟩ := Cond.arrayOver_specA (args := args) (first := s) (o := none) (s := s) (idx := []) h
  exact ⟨c, fun n z => ⟨fun k h => (by cases h), k, h2, comp, h3⟩, h4⟩
theorem st_obj {args : Array Value} {s : State} {C : String} (h : (Cond.arrayOver (.object C)).before args s = true) : ∃ c : ClassId, ArrOfT s c (.object C) ∧ va_RA s c (.object C) := by
  obtain ⟨comp, c, k, h1, -, h2, h3, h4⟩ := Cond.arrayOver_spec (args := args) (first := s) (o := none) (s := s) (idx := []) h
  exact ⟨c, fun n z => ⟨fun k h => (by cases h), k, h2, comp, h3⟩, k, comp, h2, h3, h1, h4⟩
def M00 : WM := (0, fun _ => 999, fun _ => 0, fun _ _ => 0, fun _ _ => 0, fun _ _ => none)
def tm0 : Nat → Term := fun _ => .string "LetterHeaps$Reader" 75
set_option maxHeartbeats 4000000 in
/-- the frame's facts, from the claim's start -/
theorem start_facts {p : Program} {s : State} {m : MethodId} {meth : Method} {c : Code} {b L : Nat} {xs : Nat → Int32} (C0 : lw_At p s m meth c b L xs) : ∃ (D : va_G) (cA : Nat → ClassId), Cx p s m #[Value.ref b] meth c cL_law 4 RL (some .boolean) D cA s.heap.size s.heap := by
  obtain ⟨hx, hb, hr, hml, hown, hts0, hX, hbl, hlocks, hgv⟩ := C0
  have hf := flat_of_before _ hgv
  have hts : ∀ w ∈ lw_all, w.before #[Value.ref b] s = true := fun w h => hts0 w (lw_all_tbl h)
  obtain ⟨c0, iS0, hK0⟩ := u_known (C := RX0) (T := TX0) (N := 33) (n := 33) hts0 (fun w h => lw_all_tbl (in_X0 w h)) (hts0 _ (lw_all_tbl q146))
  obtain ⟨c1, iS1, hK1⟩ := u_known (C := RX1) (T := TX1) (N := 4) (n := 4) hts0 (fun w h => lw_all_tbl (in_X1 w h)) (hts0 _ (lw_all_tbl q156))
  obtain ⟨c2, iS2, hK2⟩ := u_known (C := RX2) (T := TX2) (N := 2) (n := 2) hts0 (fun w h => lw_all_tbl (in_X2 w h)) (hts0 _ (lw_all_tbl q186))
  obtain ⟨c3, iS3, hK3⟩ := u_known (C := RX4) (T := TX4) (N := 9) (n := 9) hts0 (fun w h => lw_all_tbl (in_X4 w h)) (hts0 _ (lw_all_tbl q205))
  obtain ⟨c4, iS4, hK4⟩ := u_known (C := RX5) (T := TX5) (N := 4) (n := 4) hts0 (fun w h => lw_all_tbl (in_X5 w h)) (hts0 _ (lw_all_tbl q248))
  obtain ⟨c5, iS5, hK5⟩ := u_known (C := RX6) (T := TX6) (N := 54) (n := 54) hts0 (fun w h => lw_all_tbl (in_X6 w h)) (hts0 _ (lw_all_tbl q1012))
  obtain ⟨c6, iS6, hK6⟩ := u_known (C := RX7) (T := TX7) (N := 7) (n := 7) hts0 (fun w h => lw_all_tbl (in_X7 w h)) (hts0 _ (lw_all_tbl q438))
  obtain ⟨c7, iS7, hK7⟩ := u_known (C := RX9) (T := TX9) (N := 3) (n := 3) hts0 (fun w h => lw_all_tbl (in_X9 w h)) (hts0 _ (lw_all_tbl q493))
  obtain ⟨c8, iS8, hK8⟩ := u_known (C := RX10) (T := TX10) (N := 1) (n := 1) hts0 (fun w h => lw_all_tbl (in_X10 w h)) (hts0 _ (lw_all_tbl q515))
  obtain ⟨c9, iS9, hK9⟩ := u_known (C := RX11) (T := TX11) (N := 1) (n := 1) hts0 (fun w h => lw_all_tbl (in_X11 w h)) (hts0 _ (lw_all_tbl q619))
  obtain ⟨c10, iS10, hK10⟩ := u_known (C := RX13) (T := TX13) (N := 3) (n := 3) hts0 (fun w h => lw_all_tbl (in_X13 w h)) (hts0 _ (lw_all_tbl q648))
  obtain ⟨c11, iS11, hK11⟩ := u_known (C := RX14) (T := TX14) (N := 1) (n := 1) hts0 (fun w h => lw_all_tbl (in_X14 w h)) (hts0 _ (lw_all_tbl q658))
  obtain ⟨c12, iS12, hK12⟩ := u_known (C := RX15) (T := TX15) (N := 3) (n := 3) hts0 (fun w h => lw_all_tbl (in_X15 w h)) (hts0 _ (lw_all_tbl q671))
  obtain ⟨a_int, hA_int, hN_int⟩ := st_prim (hts _ q184)
  obtain ⟨a_long, hA_long, hN_long⟩ := st_prim (hts _ q243)
  obtain ⟨a_byte, hA_byte, hN_byte⟩ := st_prim (hts _ q183)
  obtain ⟨a_boolean, hA_boolean, hN_boolean⟩ := st_prim (hts _ q271)
  obtain ⟨g_int, hG_int, hM_int⟩ := st_arr (hts0 _ q203)
  obtain ⟨g_long, hG_long, hM_long⟩ := st_arr (hts0 _ q245)
  obtain ⟨g_boolean, hG_boolean, hM_boolean⟩ := st_arr (hts0 _ q247)
  obtain ⟨o_w, hO_w, hR_w⟩ := st_obj (hts0 _ q154)
  obtain ⟨o_s, hO_s, hR_s⟩ := st_obj (hts0 _ q162)
  obtain ⟨o_c, hO_c, hR_c⟩ := st_obj (hts0 _ q164)
  have hAs : ∀ a : Nat, a < s.heap.size → ¬ Aw s.heap.size a := fun a h => Nat.not_le.mpr h
  obtain ⟨adK, adV, hS, hev⟩ := vk_Sof (N := 1) (tm := tm0) (len := [9]) (byt := [[107, 105, 111, 112, 108, 102, 103, 97, 98]]) (A := Aw s.heap.size) (args := #[Value.ref b]) (s := s) (fun i hi => by rcases (show i = 0 by omega) with rfl; decide) (fun i hi => hf _ (by unfold tm0; decide +kernel)) (fun i hi => hf _ (by unfold tm0; decide +kernel)) (fun i hi => hf _ (by unfold tm0; decide +kernel)) (fun i hi => by rcases (show i = 0 by omega) with rfl; exact hf _ (by unfold tm0; decide +kernel)) (fun i hi j hj => by
    rcases (show i = 0 by omega) with rfl
    have hj : j < 9 := hj
    match j, hj with
    | 0, _ => exact hf _ (by unfold tm0; decide +kernel)
    | 1, _ => exact hf _ (by unfold tm0; decide +kernel)
    | 2, _ => exact hf _ (by unfold tm0; decide +kernel)
    | 3, _ => exact hf _ (by unfold tm0; decide +kernel)
    | 4, _ => exact hf _ (by unfold tm0; decide +kernel)
    | 5, _ => exact hf _ (by unfold tm0; decide +kernel)
    | 6, _ => exact hf _ (by unfold tm0; decide +kernel)
    | 7, _ => exact hf _ (by unfold tm0; decide +kernel)
    | 8, _ => exact hf _ (by unfold tm0; decide +kernel)
    | n + 9, h => omega) (fun i j hi hj hne => by omega) hAs
  have hZ : va_Z "java/lang/String" "COMPACT_STRINGS" "Z" (.int 1) (Aw s.heap.size) s s.heap := va_Zof (hts0 _ q545) (hts0 _ (lw_all_tbl q132)) (va_eqt (hf _ (by decide +kernel))) hAs
  have hVR : vk_R "LetterHeaps$Reader" 75 "kioplfgab" (adK 0) s := vk_R.of (hts0 _ q531) (hev 0 (by omega))
  refine ⟨(fun k => match k with | 0 => c0 | 1 => c1 | 2 => c2 | 3 => c3 | 4 => c4 | 5 => c5 | 6 => c6 | 7 => c7 | 8 => c8 | 9 => c9 | 10 => c10 | 11 => c11 | _ => c12, fun k => match k with | 0 => iS0 | 1 => iS1 | 2 => iS2 | 3 => iS3 | 4 => iS4 | 5 => iS5 | 6 => iS6 | 7 => iS7 | 8 => iS8 | 9 => iS9 | 10 => iS10 | 11 => iS11 | 999 => (fun j => if j = 0 then adK 0 else adV 0) | _ => iS12), (fun k => match k with | 100 => a_int | 101 => a_long | 102 => a_byte | 103 => a_boolean | 104 => g_int | 105 => g_long | 106 => g_boolean | 107 => o_w | 108 => o_s | _ => o_c), hx, hb, hml, hown, hts, hr, hlocks, ⟨?_, ?_⟩, ?_, ?_, hVR, ?_, hZ⟩
  · intro k q9 hq
    match k, hq with
    | 0, hq => cases hq; exact hK0
    | 1, hq => cases hq; exact hK1
    | 2, hq => cases hq; exact hK2
    | 3, hq => cases hq; exact hK3
    | 4, hq => cases hq; exact hK4
    | 5, hq => cases hq; exact hK5
    | 6, hq => cases hq; exact hK6
    | 7, hq => cases hq; exact hK7
    | 8, hq => cases hq; exact hK8
    | 9, hq => cases hq; exact hK9
    | 10, hq => cases hq; exact hK10
    | 11, hq => cases hq; exact hK11
    | 12, hq => cases hq; exact hK12
    | k + 13, hq => simp at hq
  · intro k q9 hq
    match k, hq with
    | 0, hq => cases hq; exact ⟨hA_int, hN_int⟩
    | 1, hq => cases hq; exact ⟨hA_long, hN_long⟩
    | 2, hq => cases hq; exact ⟨hA_byte, hN_byte⟩
    | 3, hq => cases hq; exact ⟨hA_boolean, hN_boolean⟩
    | 4, hq => cases hq; exact ⟨hG_int, hM_int⟩
    | 5, hq => cases hq; exact ⟨hG_long, hM_long⟩
    | 6, hq => cases hq; exact ⟨hG_boolean, hM_boolean⟩
    | 7, hq => cases hq; exact ⟨hO_w, hR_w⟩
    | 8, hq => cases hq; exact ⟨hO_s, hR_s⟩
    | 9, hq => cases hq; exact ⟨hO_c, hR_c⟩
    | k + 10, hq => simp [TYS] at hq
  · intro w hw
    have h9 := List.mem_filter.mp hw
    exact va_Nw.of (nst_tab hw) (hts0 w h9.1)
  · intro ty hty a
    exact (hts0 _ hty)
  · refine ⟨fun i hi => ?_, fun i j hi hj _ => by omega⟩
    have h9 := hS.1 0 (by omega)
    rcases (show i = 0 by omega) with rfl
    exact h9
theorem whole_of {p : Program} {e : Env} {s : State} {m : MethodId} {below : List Frame} {meth : Method} {c : Code} (l : Launch) {b L : Nat} {xs : Nat → Int32} (hL : L ≤ 384) (C0 : lw_At p s m meth c b L xs) {Q : Int32 → WM → Prop} (hlaw : m_L_law L xs M00 Q) : W p l e room_1 s m #[Value.ref b] below meth c s.heap [] 0 0 (lw_Z below #[Value.ref b] s) (entryFrame m ([Value.ref b] : List Value).toArray 4) := by
  obtain ⟨D, cA, cx⟩ := start_facts C0
  have hl := lv_entry [Value.ref b] (n := 4) (Nat.le_of_ble_eq_true rfl)
  rw [lg_entry_eq]
  have hWd : Wd D cA s.heap.size s.heap M00 s.heap := ⟨rfl, fun r hr => absurd rfl hr, fun q _ => rfl⟩
  exact w_L_law (sz0 := s.heap.size) (H0 := s.heap) (L0 := L) (xs := xs) cx hL ⟨C0.2.2.2.2.2.2.1, C0.2.2.2.2.2.2.2.1, rfl, hL⟩ M00 hlaw _ _ _ hl hWd va_S.rf

