/-! sets of bits: ints, longs -/
theorem nI_or (a b : Nat) : nI a ||| nI b = nI (a ||| b) := by
  rw [← Int32.toBitVec_inj, Int32.toBitVec_or]
  exact (BitVec.ofNat_or (w := 32)).symm
theorem nI_and (a b : Nat) : nI a &&& nI b = nI (a &&& b) := by
  rw [← Int32.toBitVec_inj, Int32.toBitVec_and]
  exact (BitVec.ofNat_and (w := 32)).symm
theorem bit32 {k : Nat} (hk : k < 31) : (1 : Int32) <<< (nI k &&& 31) = nI (2 ^ k) := by
  have : ∀ k, k < 31 → (1 : Int32) <<< (nI k &&& 31) = nI (2 ^ k) := by decide +kernel
  exact this k hk
def bt (b : Bool) : Nat := if b = true then 1 else 0
theorem tb32 {s k : Nat} (hs : s < 2 ^ 31) (hk : k < 31) : ((nI s >>> (nI k &&& 31)) &&& 1) = nI (bt (s.testBit k)) := by
  have e : ∀ k, k < 31 → ((nI k &&& 31 : Int32).toBitVec.smod 32).toNat = k := by decide +kernel
  rw [pk_shrN hs _ k (e k hk), pk_and _ 1 (by decide), pk_tn (Nat.lt_of_le_of_lt (Nat.div_le_self _ _) (by omega))]
  unfold bt
  rw [Nat.testBit_eq_decide_div_mod_eq]
  by_cases c : s / 2 ^ k % 2 = 1
  · rw [decide_eq_true c, if_pos rfl]; exact congrArg nI c
  · rw [decide_eq_false c]; exact congrArg nI (by show s / 2 ^ k % 2 = 0; omega)
theorem tb_1 {s k : Nat} (hs : s < 2 ^ 31) (hk : k < 31) {A B : Prop} (h1 : s.testBit k = true → A) (h0 : s.testBit k = false → B) : (((nI s >>> (nI k &&& 31)) &&& 1) = 1 → A) ∧ (¬ ((nI s >>> (nI k &&& 31)) &&& 1) = 1 → B) := by
  rw [tb32 hs hk]
  cases e : s.testBit k with
  | false => exact ⟨fun z => absurd z (by decide), fun _ => h0 e⟩
  | true => exact ⟨fun _ => h1 e, fun z => absurd rfl z⟩
theorem lb_nI {s k : Nat} (hs : s < 2 ^ 31) (hk : k < 64) : lb (nI s).toInt64 k = s.testBit k := by
  rw [nI_l hs]
  unfold lb
  show (BitVec.ofNat 64 s).getLsbD k = _
  rw [BitVec.getLsbD_ofNat, decide_eq_true hk, Bool.true_and]
theorem lb_or (a b : Int64) (k : Nat) : lb (a ||| b) k = (lb a k || lb b k) := by
  unfold lb
  rw [Int64.toBitVec_or, BitVec.getLsbD_or]
theorem bitL_eq {j : Nat} (hj : j < 64) : bitL j = lN (2 ^ j) := by
  have : ∀ j, j < 64 → bitL j = lN (2 ^ j) := by decide +kernel
  exact this j hj
theorem lb_bitL {j k : Nat} (hj : j < 64) (hk : k < 64) : lb (bitL j) k = decide (j = k) := by
  rw [bitL_eq hj]
  unfold lb
  show (BitVec.ofNat 64 (2 ^ j)).getLsbD k = _
  rw [BitVec.getLsbD_ofNat, decide_eq_true hk, Bool.true_and, Nat.testBit_two_pow]
theorem lb_0 (k : Nat) : lb 0 k = false := by
  unfold lb
  show (BitVec.ofNat 64 0).getLsbD k = _
  rw [BitVec.getLsbD_ofNat, Nat.zero_testBit, Bool.and_false]
theorem lb_ext {a b : Int64} (h : ∀ k, k < 64 → lb a k = lb b k) : a = b := by
  rw [← Int64.toBitVec_inj]
  exact BitVec.eq_of_getLsbD_eq fun i hi => h i hi
theorem lb_setOf {p : Nat → Bool} {k : Nat} (hk : k < 64) : ∀ {n : Nat}, n ≤ 64 → lb (setOf p n) k = (decide (k < n) && p k)
  | 0, _ => by rw [setOf, lb_0]; simp
  | n + 1, hn => by
    have ih := lb_setOf (p := p) hk (n := n) (by omega)
    rw [setOf]
    by_cases e : k = n
    · subst e
      cases c : p k with
      | true => rw [if_pos rfl, lb_or, lb_bitL hk hk]; simp
      | false => rw [if_neg (by decide), ih, c]; simp
    · cases c : p n with
      | true => rw [if_pos rfl, lb_or, ih, lb_bitL (by omega) hk, decide_eq_false (show ¬ n = k from fun z => e z.symm), Bool.or_false]; congr 1; exact decide_eq_decide.mpr (by omega)
      | false => rw [if_neg (by decide), ih]; congr 1; exact decide_eq_decide.mpr (by omega)
def setN (p : Nat → Bool) : Nat → Nat
  | 0 => 0
  | n + 1 => if p n = true then setN p n ||| 2 ^ n else setN p n
theorem setN_lt (p : Nat → Bool) : ∀ n, setN p n < 2 ^ n
  | 0 => Nat.one_pos
  | n + 1 => by
    have ih := setN_lt p n
    have h2 : 2 ^ n < 2 ^ (n + 1) := Nat.pow_lt_pow_right (by omega) (by omega)
    rw [setN]
    split
    · exact Nat.or_lt_two_pow (by omega) h2
    · omega
/-! how many bits: a byte at a time -/
def bmk (c : Nat) : Nat → Nat
  | 0 => 0
  | n + 1 => 256 * bmk c n + c
theorem bmk_s (c n : Nat) : bmk c (n + 1) = 256 * bmk c n + c := rfl
theorem b256 {a b c d : Nat} (hb : b < 256) (hd : d < 256) : (256 * a + b) &&& (256 * c + d) = 256 * (a &&& c) + (b &&& d) := by
  apply Nat.eq_of_testBit_eq
  intro i
  have hbd : b &&& d < 2 ^ 8 := Nat.and_lt_two_pow _ hd
  rw [Nat.testBit_and, show 256 = 2 ^ 8 from rfl, Nat.testBit_two_pow_mul_add _ hb, Nat.testBit_two_pow_mul_add _ hd, Nat.testBit_two_pow_mul_add _ hbd]
  split
  · rw [Nat.testBit_and]
  · rw [Nat.testBit_and]
def pA (m x : Nat) : Nat := x - ((x / 2) &&& m)
def pB (m x : Nat) : Nat := (x &&& m) + ((x / 4) &&& m)
def pC (m x : Nat) : Nat := (x + x / 16) &&& m
theorem pA_s (n h l : Nat) (hl : l < 256) : pA (bmk 85 (n + 1)) (256 * h + l) = 256 * pA (bmk 85 n) h + pA 85 l ∧ pA 85 l < 256 := by
  have t : ∀ r : Fin 2, ∀ l : Fin 256, (128 * r.1 + l.1 / 2) &&& 85 = (l.1 / 2) &&& 85 := by decide +kernel
  have e1 : (256 * h + l) / 2 = 256 * (h / 2) + (128 * (h % 2) + l / 2) := by omega
  have e2 := t ⟨h % 2, by omega⟩ ⟨l, hl⟩
  dsimp only at e2
  unfold pA
  rw [bmk_s, e1, b256 (by omega) (by decide), e2]
  have h1 : (h / 2) &&& bmk 85 n ≤ h / 2 := Nat.and_le_left
  have h2 : (l / 2) &&& 85 ≤ l / 2 := Nat.and_le_left
  generalize (h / 2) &&& bmk 85 n = x at *
  generalize (l / 2) &&& 85 = y at *
  omega
theorem pB_s (n h l : Nat) (hl : l < 256) : pB (bmk 51 (n + 1)) (256 * h + l) = 256 * pB (bmk 51 n) h + pB 51 l := by
  have t : ∀ r : Fin 4, ∀ l : Fin 256, (64 * r.1 + l.1 / 4) &&& 51 = (l.1 / 4) &&& 51 := by decide +kernel
  have e1 : (256 * h + l) / 4 = 256 * (h / 4) + (64 * (h % 4) + l / 4) := by omega
  have e2 := t ⟨h % 4, by omega⟩ ⟨l, hl⟩
  dsimp only at e2
  unfold pB
  rw [bmk_s, e1, b256 hl (by decide), b256 (by omega) (by decide), e2]
  omega
theorem pC_s (n h l : Nat) (h4 : h % 16 ≤ 4) (l4 : l % 16 ≤ 4) (l5 : l / 16 ≤ 4) : pC (bmk 15 (n + 1)) (256 * h + l) = 256 * pC (bmk 15 n) h + pC 15 l := by
  have t : ∀ r : Fin 5, ∀ l : Fin 73, (16 * r.1 + l.1) &&& 15 = l.1 &&& 15 := by decide +kernel
  have e1 : 256 * h + l + (256 * h + l) / 16 = 256 * (h + h / 16) + (16 * (h % 16) + (l + l / 16)) := by omega
  have e2 := t ⟨h % 16, by omega⟩ ⟨l + l / 16, by omega⟩
  dsimp only at e2
  unfold pC
  rw [bmk_s, e1, b256 (by omega) (by decide), e2]
theorem cnt_add (p : Nat → Bool) (a : Nat) : ∀ b, cnt p (a + b) = cnt p a + cnt (fun k => p (a + k)) b
  | 0 => rfl
  | b + 1 => by
    show cnt p (a + b + 1) = _
    rw [cnt, cnt, cnt_add p a b, Nat.add_assoc]
def pop (n x : Nat) : Nat := cnt (fun k => x.testBit k) n
theorem pop_8 (n h l : Nat) (hl : l < 256) : pop (8 * (n + 1)) (256 * h + l) = pop 8 l + pop (8 * n) h := by
  unfold pop
  rw [show 8 * (n + 1) = 8 + 8 * n by omega, cnt_add]
  congr 1
  · exact cnt_cg fun k hk => by rw [show 256 = 2 ^ 8 from rfl, Nat.testBit_two_pow_mul_add _ hl, if_pos hk]
  · exact cnt_cg fun k hk => by rw [show 256 = 2 ^ 8 from rfl, Nat.testBit_two_pow_mul_add _ hl, if_neg (by omega), Nat.add_sub_cancel_left]
def penc : Nat → Nat → Nat
  | 0, _ => 0
  | n + 1, x => 256 * penc n (x / 256) + pop 8 (x % 256)
theorem pABC : ∀ n x, x < 256 ^ n → pC (bmk 15 n) (pB (bmk 51 n) (pA (bmk 85 n) x)) = penc n x ∧ pB (bmk 51 n) (pA (bmk 85 n) x) % 16 ≤ 4
  | 0, x, hx => by
    have : x = 0 := by rw [Nat.pow_zero] at hx; omega
    subst this
    decide
  | n + 1, x, hx => by
    have t : ∀ l : Fin 256, pB 51 (pA 85 l.1) % 16 ≤ 4 ∧ pB 51 (pA 85 l.1) / 16 ≤ 4 ∧ pC 15 (pB 51 (pA 85 l.1)) = pop 8 l.1 := by decide +kernel
    obtain ⟨t1, t2, t3⟩ := t ⟨x % 256, by omega⟩
    dsimp only at t1 t2 t3
    obtain ⟨i1, i2⟩ := pABC n (x / 256) (by rw [Nat.pow_succ] at hx; omega)
    obtain ⟨a1, a2⟩ := pA_s n (x / 256) (x % 256) (by omega)
    have ex : 256 * (x / 256) + x % 256 = x := by omega
    rw [ex] at a1
    rw [a1, pB_s _ _ _ a2]
    refine ⟨?_, by omega⟩
    rw [pC_s _ _ _ i2 t1 t2, i1, t3, penc]
theorem pop_le (n x : Nat) : pop n x ≤ n := cnt_le _ _
theorem g_and' {a b : Nat} (ha : a < 2 ^ 64) (hb : b < 2 ^ 64) : lN a &&& lN b = lN (a &&& b) := by
  rw [← Int64.toBitVec_inj, Int64.toBitVec_and]
  exact (BitVec.ofNat_and (w := 64)).symm
theorem ush64 {a k : Nat} {y : UInt64} (hy : y.toNat = k) (hk : k < 64) (ha : a < 2 ^ 64) : ((lN a).toUInt64 >>> y).toInt64 = lN (a / 2 ^ k) := by
  have tn : ∀ n, n < 2 ^ 64 → (UInt64.ofNat n).toNat = n := fun n h => Nat.mod_eq_of_lt h
  have h : UInt64.ofNat a >>> y = UInt64.ofNat (a / 2 ^ k) := UInt64.toNat_inj.mp (by rw [UInt64.toNat_shiftRight, tn a ha, hy, tn _ (Nat.lt_of_le_of_lt (Nat.div_le_self _ _) ha), Nat.mod_eq_of_lt hk, Nat.shiftRight_eq_div_pow])
  exact congrArg UInt64.toInt64 h
theorem pop_d (n x : Nat) : pop (8 * (n + 1)) x = pop 8 (x % 256) + pop (8 * n) (x / 256) := by
  have := pop_8 n (x / 256) (x % 256) (by omega)
  rw [show 256 * (x / 256) + x % 256 = x by omega] at this
  exact this
theorem pop_t1 {p0 p1 p2 p3 p4 p5 p6 p7 : Nat} : 256 * (256 * (256 * (256 * (256 * (256 * (256 * p7 + p6) + p5) + p4) + p3) + p2) + p1) + p0 + (256 * (256 * (256 * (256 * (256 * (256 * p7 + p6) + p5) + p4) + p3) + p2) + p1) = 65536 * (256 * (256 * (256 * (256 * (256 * p7 + (p6 + p7)) + (p5 + p6)) + (p4 + p5)) + (p3 + p4)) + (p2 + p3)) + (256 * (p1 + p2) + (p0 + p1)) := by omega
theorem pop_t2 {p0 p1 p2 p3 p4 p5 p6 p7 : Nat} : 65536 * (256 * (256 * (256 * (256 * (256 * p7 + (p6 + p7)) + (p5 + p6)) + (p4 + p5)) + (p3 + p4)) + (p2 + p3)) + (256 * (p1 + p2) + (p0 + p1)) + (256 * (256 * (256 * (256 * (256 * p7 + (p6 + p7)) + (p5 + p6)) + (p4 + p5)) + (p3 + p4)) + (p2 + p3)) = 4294967296 * (256 * (256 * (256 * p7 + (p6 + p7)) + (p5 + p6 + p7)) + (p4 + p5 + p6 + p7)) + (256 * (256 * (256 * (p3 + p4 + p5 + p6) + (p2 + p3 + p4 + p5)) + (p1 + p2 + p3 + p4)) + (p0 + p1 + p2 + p3)) := by omega
theorem pop_t3 {p0 p1 p2 p3 p4 p5 p6 p7 : Nat} : 4294967296 * (256 * (256 * (256 * p7 + (p6 + p7)) + (p5 + p6 + p7)) + (p4 + p5 + p6 + p7)) + (256 * (256 * (256 * (p3 + p4 + p5 + p6) + (p2 + p3 + p4 + p5)) + (p1 + p2 + p3 + p4)) + (p0 + p1 + p2 + p3)) + (256 * (256 * (256 * p7 + (p6 + p7)) + (p5 + p6 + p7)) + (p4 + p5 + p6 + p7)) = 128 * (33554432 * (256 * (256 * (256 * p7 + (p6 + p7)) + (p5 + p6 + p7)) + (p4 + p5 + p6 + p7)) + 2 * (256 * (256 * (p3 + p4 + p5 + p6) + (p2 + p3 + p4 + p5)) + (p1 + p2 + p3 + p4)) + 2 * (256 * (256 * p7 + (p6 + p7)) + (p5 + p6 + p7))) + (p0 + (p1 + (p2 + (p3 + (p4 + (p5 + (p6 + p7))))))) := by omega
theorem pop_t {p0 p1 p2 p3 p4 p5 p6 p7 : Nat} (q0 : p0 ≤ 8) (q1 : p1 ≤ 8) (q2 : p2 ≤ 8) (q3 : p3 ≤ 8) (q4 : p4 ≤ 8) (q5 : p5 ≤ 8) (q6 : p6 ≤ 8) (q7 : p7 ≤ 8) {c : Nat} (hc : c = 256 * (256 * (256 * (256 * (256 * (256 * (256 * p7 + p6) + p5) + p4) + p3) + p2) + p1) + p0) : ∃ c1 c2 c3, c / 2 ^ 8 = c1 ∧ (c + c1) / 2 ^ 16 = c2 ∧ (c + c1 + c2) / 2 ^ 32 = c3 ∧ (c + c1 + c2 + c3) % 128 = p0 + (p1 + (p2 + (p3 + (p4 + (p5 + (p6 + p7)))))) ∧ c < 2 ^ 62 ∧ c + c1 < 2 ^ 63 ∧ c + c1 + c2 < 2 ^ 63 := by
  have dv : ∀ b k r : Nat, r < b → (b * k + r) / b = k := fun b k r h => by rw [Nat.mul_add_div (by omega), Nat.div_eq_of_lt h, Nat.add_zero]
  subst hc
  refine ⟨256 * (256 * (256 * (256 * (256 * (256 * p7 + p6) + p5) + p4) + p3) + p2) + p1, 256 * (256 * (256 * (256 * (256 * p7 + (p6 + p7)) + (p5 + p6)) + (p4 + p5)) + (p3 + p4)) + (p2 + p3), 256 * (256 * (256 * p7 + (p6 + p7)) + (p5 + p6 + p7)) + (p4 + p5 + p6 + p7), dv 256 _ _ (by omega), ?_, ?_, ?_, by omega, by omega, by omega⟩
  · rw [pop_t1]; exact dv 65536 _ _ (by omega)
  · rw [pop_t1, pop_t2]; exact dv 4294967296 _ _ (by omega)
  · rw [pop_t1, pop_t2, pop_t3, Nat.mul_add_mod, Nat.mod_eq_of_lt (by omega)]
theorem s_J6 {x : Nat} {Q : Int32 → Prop} (hx : x < 2 ^ 64) (h : Q (nI (pop 64 x))) : m_J6_bitCount (lN x) Q := by
  have k1 : (((1 : Int32)).toInt64.toUInt64 &&& Int64.toUInt64 63).toNat = 1 := by decide +kernel
  have k2 : (((2 : Int32)).toInt64.toUInt64 &&& Int64.toUInt64 63).toNat = 2 := by decide +kernel
  have k4 : (((4 : Int32)).toInt64.toUInt64 &&& Int64.toUInt64 63).toNat = 4 := by decide +kernel
  have k8 : (((8 : Int32)).toInt64.toUInt64 &&& Int64.toUInt64 63).toNat = 8 := by decide +kernel
  have k16 : (((16 : Int32)).toInt64.toUInt64 &&& Int64.toUInt64 63).toNat = 16 := by decide +kernel
  have k32 : (((32 : Int32)).toInt64.toUInt64 &&& Int64.toUInt64 63).toNat = 32 := by decide +kernel
  have m5 : (6148914691236517205 : Int64) = lN (bmk 85 8) := by decide +kernel
  have m3 : (3689348814741910323 : Int64) = lN (bmk 51 8) := by decide +kernel
  have mf : (1085102592571150095 : Int64) = lN (bmk 15 8) := by decide +kernel
  have b5 : bmk 85 8 < 2 ^ 63 := by decide +kernel
  have b3 : bmk 51 8 < 2 ^ 62 := by decide +kernel
  have bf : bmk 15 8 < 2 ^ 60 := by decide +kernel
  obtain ⟨hC, -⟩ := pABC 8 x hx
  intro z1 e1 z2 e2 z3 e3 z4 e4 z5 e5 z6 e6
  have l1 : (x / 2 ^ 1) &&& bmk 85 8 ≤ x / 2 ^ 1 := Nat.and_le_left
  have hA : pA (bmk 85 8) x ≤ x := Nat.sub_le _ _
  rw [m5, ush64 k1 (by omega) hx, g_and' (by omega) (by omega), lN_sub (by omega)] at e1
  have e1 : z1 = lN (pA (bmk 85 8) x) := e1
  generalize pA (bmk 85 8) x = a at *
  have l2 : a &&& bmk 51 8 ≤ bmk 51 8 := Nat.and_le_right
  have l3 : (a / 4) &&& bmk 51 8 ≤ bmk 51 8 := Nat.and_le_right
  rw [e1, m3, ush64 k2 (by omega) (by omega), g_and' (by omega) (by omega), g_and' (by omega) (by omega), lN_add] at e2
  have e2 : z2 = lN (pB (bmk 51 8) a) := e2
  have hB : pB (bmk 51 8) a < 2 ^ 63 := by unfold pB; omega
  generalize pB (bmk 51 8) a = b at *
  rw [e2, mf, ush64 k4 (by omega) (by omega), lN_add, g_and' (by omega) (by omega)] at e3
  have e3 : z3 = lN (penc 8 x) := by rw [← hC]; exact e3
  have hP : pop 64 x = pop 8 (x % 256) + (pop 8 (x / 256 % 256) + (pop 8 (x / 256 / 256 % 256) + (pop 8 (x / 256 / 256 / 256 % 256) + (pop 8 (x / 256 / 256 / 256 / 256 % 256) + (pop 8 (x / 256 / 256 / 256 / 256 / 256 % 256) + (pop 8 (x / 256 / 256 / 256 / 256 / 256 / 256 % 256) + pop 8 (x / 256 / 256 / 256 / 256 / 256 / 256 / 256 % 256))))))) := by
    have h0 : ∀ y, pop (8 * 1) y = pop 8 (y % 256) := fun y => pop_d 0 y
    rw [show pop 64 x = _ from pop_d 7 x, pop_d 6, pop_d 5, pop_d 4, pop_d 3, pop_d 2, pop_d 1, h0 (x / 256 / 256 / 256 / 256 / 256 / 256 / 256)]
  have hE : penc 8 x = 256 * (256 * (256 * (256 * (256 * (256 * (256 * pop 8 (x / 256 / 256 / 256 / 256 / 256 / 256 / 256 % 256) + pop 8 (x / 256 / 256 / 256 / 256 / 256 / 256 % 256)) + pop 8 (x / 256 / 256 / 256 / 256 / 256 % 256)) + pop 8 (x / 256 / 256 / 256 / 256 % 256)) + pop 8 (x / 256 / 256 / 256 % 256)) + pop 8 (x / 256 / 256 % 256)) + pop 8 (x / 256 % 256)) + pop 8 (x % 256) := by
    have : ∀ y, penc 1 y = pop 8 (y % 256) := fun y => by show 256 * 0 + pop 8 (y % 256) = _; omega
    rw [← this]; rfl
  obtain ⟨c1, c2, c3, t1, t2, t3, t4, t5, t6, t7⟩ := pop_t (pop_le 8 (x % 256)) (pop_le 8 (x / 256 % 256)) (pop_le 8 (x / 256 / 256 % 256)) (pop_le 8 (x / 256 / 256 / 256 % 256)) (pop_le 8 (x / 256 / 256 / 256 / 256 % 256)) (pop_le 8 (x / 256 / 256 / 256 / 256 / 256 % 256)) (pop_le 8 (x / 256 / 256 / 256 / 256 / 256 / 256 % 256)) (pop_le 8 (x / 256 / 256 / 256 / 256 / 256 / 256 / 256 % 256)) hE
  rw [← hP] at t4
  clear hP hE hC
  generalize penc 8 x = c at *
  clear l1 l2 l3 hA hB hx
  rw [e3, ush64 k8 (by omega) (by omega), lN_add, t1] at e4
  rw [e4, ush64 k16 (by omega) (by omega), lN_add, t2] at e5
  rw [e5, ush64 k32 (by omega) (by omega), lN_add, t3] at e6
  rw [e6, lN_i, pk_and _ 7 (by decide)]
  generalize c + c1 + c2 + c3 = z at t4
  show Q (nI (z % 2 ^ 32 % 128))
  rw [show z % 2 ^ 32 % 128 = z % 128 by omega, t4]
  exact h
theorem s_J7 {s : Nat} {Q : Int32 → Prop} (hs : s < 2 ^ 14) (h : Q (nI (pop 14 s))) : m_J7_bitCount (nI s) Q := by
  have m5 : (1431655765 : Int32) = nI (bmk 85 4) := by decide +kernel
  have m3 : (858993459 : Int32) = nI (bmk 51 4) := by decide +kernel
  have mf : (252645135 : Int32) = nI (bmk 15 4) := by decide +kernel
  have b5 : bmk 85 4 < 2 ^ 31 := by decide +kernel
  have b3 : bmk 51 4 < 2 ^ 30 := by decide +kernel
  have bf : bmk 15 4 < 2 ^ 28 := by decide +kernel
  obtain ⟨hC, -⟩ := pABC 4 s (by omega)
  intro z1 e1 z2 e2 z3 e3 z4 e4 z5 e5
  have l1 : (s / 2 ^ 1) &&& bmk 85 4 ≤ s / 2 ^ 1 := Nat.and_le_left
  have hA : pA (bmk 85 4) s ≤ s := Nat.sub_le _ _
  rw [m5, pk_ushrN (by omega) 1 1 (by decide), nI_and, pk_sub (by omega)] at e1
  have e1 : z1 = nI (pA (bmk 85 4) s) := e1
  generalize pA (bmk 85 4) s = a at *
  have l2 : a &&& bmk 51 4 ≤ bmk 51 4 := Nat.and_le_right
  have l3 : (a / 4) &&& bmk 51 4 ≤ bmk 51 4 := Nat.and_le_right
  rw [e1, m3, pk_ushrN (by omega) 2 2 (by decide), nI_and, nI_and, nI_add] at e2
  have e2 : z2 = nI (pB (bmk 51 4) a) := e2
  have hB : pB (bmk 51 4) a < 2 ^ 31 := by unfold pB; omega
  generalize pB (bmk 51 4) a = b at *
  rw [e2, mf, pk_ushrN (by omega) 4 4 (by decide), nI_add, nI_and] at e3
  have e3 : z3 = nI (penc 4 s) := by rw [← hC]; exact e3
  have h14 : pop 14 s = pop (8 * (1 + 1)) s := by
    show cnt _ 14 = cnt _ (14 + 2)
    rw [cnt_add]
    show _ = _ + (0 + (if s.testBit (14 + 0) = true then 1 else 0) + (if s.testBit (14 + 1) = true then 1 else 0))
    have g0 : s.testBit (14 + 0) = false := Nat.testBit_lt_two_pow (by omega)
    have g1 : s.testBit (14 + 1) = false := Nat.testBit_lt_two_pow (by omega)
    rw [g0, g1]; rfl
  have hP : pop 14 s = pop 8 (s % 256) + pop 8 (s / 256 % 256) := by
    rw [h14, pop_d 1, show pop (8 * 1) (s / 256) = _ from pop_d 0 _]; rfl
  have hE : penc 4 s = 256 * pop 8 (s / 256 % 256) + pop 8 (s % 256) := by
    show 256 * (256 * (256 * (256 * 0 + pop 8 (s / 256 / 256 / 256 % 256)) + pop 8 (s / 256 / 256 % 256)) + pop 8 (s / 256 % 256)) + pop 8 (s % 256) = _
    have z8 : pop 8 0 = 0 := by decide
    rw [show s / 256 / 256 / 256 % 256 = 0 by omega, show s / 256 / 256 % 256 = 0 by omega, z8]; omega
  have q0 := pop_le 8 (s % 256)
  have q1 := pop_le 8 (s / 256 % 256)
  clear hC h14
  generalize pop 8 (s % 256) = p0 at *
  generalize pop 8 (s / 256 % 256) = p1 at *
  generalize penc 4 s = c at *
  clear l1 l2 l3 hA hB
  rw [e3, pk_ushrN (by omega) 8 8 (by decide), nI_add, show c / 2 ^ 8 = p1 by omega] at e4
  rw [e4, pk_ushrN (by omega) 16 16 (by decide), nI_add, show (c + p1) / 2 ^ 16 = 0 by omega] at e5
  rw [e5, pk_andN (by omega) 6 (by decide), show (c + p1 + 0) % 2 ^ 6 = pop 14 s by omega]
  exact h
theorem popL {s : Nat} {n : Nat} (hn : n ≤ 64) (h : ∀ k, n ≤ k → k < 64 → s.testBit k = false) : pop 64 s = pop n s := by
  have : ∀ d, n + d ≤ 64 → pop (n + d) s = pop n s := fun d => by
    induction d with
    | zero => exact fun _ => rfl
    | succ d ih =>
      intro hd
      show cnt _ (n + d + 1) = _
      rw [cnt_f (h (n + d) (by omega) (by omega))]; exact ih (by omega)
  have e := this (64 - n) (by omega)
  rw [show n + (64 - n) = 64 by omega] at e; exact e
theorem s_X6_bits {s : Nat} (hs : s < 2 ^ 14) {Q : Int32 → Prop} (h : Q (nI (pop 14 s))) : m_X6_bits (nI s) Q := by
  unfold m_X6_bits
  refine pk_loop (fun k i (_ : Unit) => m_X6_bits_l4 (nI s) Q k (nI (cnt (fun k => s.testBit k) i)) (nI i)) (fun _ _ => True) 14 0 () (by omega) trivial (fun k _ _ => ⟨fun _ => h, fun z => absurd (Int32.le_refl _) z⟩) ?_
  intro k i _ hi _ ih
  refine ⟨fun z => absurd z (nI_ge (b := 14) hi (by omega)), fun _ z2 e2 z3 e3 => ?_⟩
  rw [tb32 (by omega) (by omega), nI_add] at e2
  rw [e2, e3, nI_1]
  exact ih () trivial
