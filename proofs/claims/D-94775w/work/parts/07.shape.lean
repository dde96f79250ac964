/-! THE STATIC SHAPE: which regions there are once both objects are made  -/
def shK (r : Nat) : Option Nat := (if r < 5444 then (if 5324 ≤ r then (if r % 3 = 2 then some 4 else if r % 3 = 0 then some 2 else some 100) else (if r < 176 then (if r < 51 then (if r < 8 then (if r < 2 then (if r < 1 then (if 0 ≤ r ∧ r ≤ 0 then some 0 else none) else (if 1 ≤ r ∧ r ≤ 1 then some 107 else none)) else (if r < 7 then (if 2 ≤ r ∧ r ≤ 2 then some 102 else none) else (if 7 ≤ r ∧ r ≤ 7 then some 2 else none))) else (if r < 10 then (if r < 9 then (if 8 ≤ r ∧ r ≤ 8 then some 100 else none) else (if 9 ≤ r ∧ r ≤ 9 then some 104 else none)) else (if r < 50 then (if 10 ≤ r ∧ r ≤ 49 then some 100 else none) else (if 50 ≤ r ∧ r ≤ 50 then some 104 else none)))) else (if r < 133 then (if r < 92 then (if r < 91 then (if 51 ≤ r ∧ r ≤ 90 then some 100 else none) else (if 91 ≤ r ∧ r ≤ 91 then some 104 else none)) else (if r < 132 then (if 92 ≤ r ∧ r ≤ 131 then some 100 else none) else (if 132 ≤ r ∧ r ≤ 132 then some 104 else none))) else (if r < 174 then (if r < 173 then (if 133 ≤ r ∧ r ≤ 172 then some 100 else none) else (if 173 ≤ r ∧ r ≤ 173 then some 101 else none)) else (if r < 175 then (if 174 ≤ r ∧ r ≤ 174 then some 3 else none) else (if 175 ≤ r ∧ r ≤ 175 then some 101 else none))))) else (if r < 185 then (if r < 180 then (if r < 178 then (if r < 177 then (if 176 ≤ r ∧ r ≤ 176 then some 103 else none) else (if 177 ≤ r ∧ r ≤ 177 then some 2 else none)) else (if r < 179 then (if 178 ≤ r ∧ r ≤ 178 then some 100 else none) else (if 179 ≤ r ∧ r ≤ 179 then some 2 else none))) else (if r < 182 then (if r < 181 then (if 180 ≤ r ∧ r ≤ 180 then some 100 else none) else (if 181 ≤ r ∧ r ≤ 181 then some 105 else none)) else (if r < 184 then (if 182 ≤ r ∧ r ≤ 183 then some 101 else none) else (if 184 ≤ r ∧ r ≤ 184 then some 100 else none)))) else (if r < 5307 then (if r < 1210 then (if r < 186 then (if 185 ≤ r ∧ r ≤ 185 then some 104 else none) else (if 186 ≤ r ∧ r ≤ 1209 then some 100 else none)) else (if r < 1211 then (if 1210 ≤ r ∧ r ≤ 1210 then some 106 else none) else (if 1211 ≤ r ∧ r ≤ 5306 then some 103 else none))) else (if r < 5321 then (if r < 5308 then (if 5307 ≤ r ∧ r ≤ 5307 then some 104 else none) else (if 5308 ≤ r ∧ r ≤ 5320 then some 100 else none)) else (if r < 5322 then (if 5321 ≤ r ∧ r ≤ 5321 then some 100 else none) else (if r < 5323 then (if 5322 ≤ r ∧ r ≤ 5322 then some 100 else none) else (if 5323 ≤ r ∧ r ≤ 5323 then some 100 else none)))))))) else (if r < 5462 then (if r < 5453 then (if r < 5448 then (if r < 5446 then (if r < 5445 then (if 5444 ≤ r ∧ r ≤ 5444 then some 5 else none) else (if 5445 ≤ r ∧ r ≤ 5445 then some 100 else none)) else (if r < 5447 then (if 5446 ≤ r ∧ r ≤ 5446 then some 100 else none) else (if 5447 ≤ r ∧ r ≤ 5447 then some 100 else none))) else (if r < 5450 then (if r < 5449 then (if 5448 ≤ r ∧ r ≤ 5448 then some 100 else none) else (if 5449 ≤ r ∧ r ≤ 5449 then some 103 else none)) else (if r < 5451 then (if 5450 ≤ r ∧ r ≤ 5450 then some 100 else none) else (if r < 5452 then (if 5451 ≤ r ∧ r ≤ 5451 then some 102 else none) else (if 5452 ≤ r ∧ r ≤ 5452 then some 100 else none))))) else (if r < 5457 then (if r < 5455 then (if r < 5454 then (if 5453 ≤ r ∧ r ≤ 5453 then some 100 else none) else (if 5454 ≤ r ∧ r ≤ 5454 then some 100 else none)) else (if r < 5456 then (if 5455 ≤ r ∧ r ≤ 5455 then some 100 else none) else (if 5456 ≤ r ∧ r ≤ 5456 then some 100 else none))) else (if r < 5459 then (if r < 5458 then (if 5457 ≤ r ∧ r ≤ 5457 then some 100 else none) else (if 5458 ≤ r ∧ r ≤ 5458 then some 100 else none)) else (if r < 5460 then (if 5459 ≤ r ∧ r ≤ 5459 then some 100 else none) else (if r < 5461 then (if 5460 ≤ r ∧ r ≤ 5460 then some 100 else none) else (if 5461 ≤ r ∧ r ≤ 5461 then some 100 else none)))))) else (if r < 5471 then (if r < 5466 then (if r < 5464 then (if r < 5463 then (if 5462 ≤ r ∧ r ≤ 5462 then some 100 else none) else (if 5463 ≤ r ∧ r ≤ 5463 then some 100 else none)) else (if r < 5465 then (if 5464 ≤ r ∧ r ≤ 5464 then some 100 else none) else (if 5465 ≤ r ∧ r ≤ 5465 then some 100 else none))) else (if r < 5468 then (if r < 5467 then (if 5466 ≤ r ∧ r ≤ 5466 then some 100 else none) else (if 5467 ≤ r ∧ r ≤ 5467 then some 100 else none)) else (if r < 5469 then (if 5468 ≤ r ∧ r ≤ 5468 then some 100 else none) else (if r < 5470 then (if 5469 ≤ r ∧ r ≤ 5469 then some 101 else none) else (if 5470 ≤ r ∧ r ≤ 5470 then some 103 else none))))) else (if r < 5476 then (if r < 5473 then (if r < 5472 then (if 5471 ≤ r ∧ r ≤ 5471 then some 100 else none) else (if 5472 ≤ r ∧ r ≤ 5472 then some 100 else none)) else (if r < 5474 then (if 5473 ≤ r ∧ r ≤ 5473 then some 101 else none) else (if r < 5475 then (if 5474 ≤ r ∧ r ≤ 5474 then some 101 else none) else (if 5475 ≤ r ∧ r ≤ 5475 then some 100 else none)))) else (if r < 5478 then (if r < 5477 then (if 5476 ≤ r ∧ r ≤ 5476 then some 100 else none) else (if 5477 ≤ r ∧ r ≤ 5477 then some 100 else none)) else (if r < 5479 then (if 5478 ≤ r ∧ r ≤ 5478 then some 100 else none) else (if r < 5480 then (if 5479 ≤ r ∧ r ≤ 5479 then some 100 else none) else (if 5480 ≤ r ∧ r ≤ 5480 then some 100 else none))))))))
def shL (r : Nat) : Nat := (if r < 5444 then (if 5324 ≤ r then (if r % 3 = 1 then 13 else 0) else (if r < 176 then (if r < 51 then (if r < 8 then (if r < 2 then (if r < 1 then (if 0 ≤ r ∧ r ≤ 0 then 0 else 0) else (if 1 ≤ r ∧ r ≤ 1 then 40 else 0)) else (if r < 7 then (if 2 ≤ r ∧ r ≤ 2 then 200 else 0) else (if 7 ≤ r ∧ r ≤ 7 then 0 else 0))) else (if r < 10 then (if r < 9 then (if 8 ≤ r ∧ r ≤ 8 then 13 else 0) else (if 9 ≤ r ∧ r ≤ 9 then 40 else 0)) else (if r < 50 then (if 10 ≤ r ∧ r ≤ 49 then 40 else 0) else (if 50 ≤ r ∧ r ≤ 50 then 40 else 0)))) else (if r < 133 then (if r < 92 then (if r < 91 then (if 51 ≤ r ∧ r ≤ 90 then 40 else 0) else (if 91 ≤ r ∧ r ≤ 91 then 40 else 0)) else (if r < 132 then (if 92 ≤ r ∧ r ≤ 131 then 40 else 0) else (if 132 ≤ r ∧ r ≤ 132 then 40 else 0))) else (if r < 174 then (if r < 173 then (if 133 ≤ r ∧ r ≤ 172 then 40 else 0) else (if 173 ≤ r ∧ r ≤ 173 then 40 else 0)) else (if r < 175 then (if 174 ≤ r ∧ r ≤ 174 then 0 else 0) else (if 175 ≤ r ∧ r ≤ 175 then 40 else 0))))) else (if r < 185 then (if r < 180 then (if r < 178 then (if r < 177 then (if 176 ≤ r ∧ r ≤ 176 then 40 else 0) else (if 177 ≤ r ∧ r ≤ 177 then 0 else 0)) else (if r < 179 then (if 178 ≤ r ∧ r ≤ 178 then 13 else 0) else (if 179 ≤ r ∧ r ≤ 179 then 0 else 0))) else (if r < 182 then (if r < 181 then (if 180 ≤ r ∧ r ≤ 180 then 13 else 0) else (if 181 ≤ r ∧ r ≤ 181 then 2 else 0)) else (if r < 184 then (if 182 ≤ r ∧ r ≤ 183 then 40 else 0) else (if 184 ≤ r ∧ r ≤ 184 then 14 else 0)))) else (if r < 5307 then (if r < 1210 then (if r < 186 then (if 185 ≤ r ∧ r ≤ 185 then 1024 else 0) else (if 186 ≤ r ∧ r ≤ 1209 then 10 else 0)) else (if r < 1211 then (if 1210 ≤ r ∧ r ≤ 1210 then 4096 else 0) else (if 1211 ≤ r ∧ r ≤ 5306 then 12 else 0))) else (if r < 5321 then (if r < 5308 then (if 5307 ≤ r ∧ r ≤ 5307 then 13 else 0) else (if 5308 ≤ r ∧ r ≤ 5320 then 9 else 0)) else (if r < 5322 then (if 5321 ≤ r ∧ r ≤ 5321 then 14 else 0) else (if r < 5323 then (if 5322 ≤ r ∧ r ≤ 5322 then 4 else 0) else (if 5323 ≤ r ∧ r ≤ 5323 then 4 else 0)))))))) else (if r < 5462 then (if r < 5453 then (if r < 5448 then (if r < 5446 then (if r < 5445 then (if 5444 ≤ r ∧ r ≤ 5444 then 0 else 0) else (if 5445 ≤ r ∧ r ≤ 5445 then 40 else 0)) else (if r < 5447 then (if 5446 ≤ r ∧ r ≤ 5446 then 320 else 0) else (if 5447 ≤ r ∧ r ≤ 5447 then 40 else 0))) else (if r < 5450 then (if r < 5449 then (if 5448 ≤ r ∧ r ≤ 5448 then 40 else 0) else (if 5449 ≤ r ∧ r ≤ 5449 then 40 else 0)) else (if r < 5451 then (if 5450 ≤ r ∧ r ≤ 5450 then 12 else 0) else (if r < 5452 then (if 5451 ≤ r ∧ r ≤ 5451 then 200 else 0) else (if 5452 ≤ r ∧ r ≤ 5452 then 180 else 0))))) else (if r < 5457 then (if r < 5455 then (if r < 5454 then (if 5453 ≤ r ∧ r ≤ 5453 then 180 else 0) else (if 5454 ≤ r ∧ r ≤ 5454 then 12 else 0)) else (if r < 5456 then (if 5455 ≤ r ∧ r ≤ 5455 then 12 else 0) else (if 5456 ≤ r ∧ r ≤ 5456 then 12 else 0))) else (if r < 5459 then (if r < 5458 then (if 5457 ≤ r ∧ r ≤ 5457 then 12 else 0) else (if 5458 ≤ r ∧ r ≤ 5458 then 180 else 0)) else (if r < 5460 then (if 5459 ≤ r ∧ r ≤ 5459 then 12 else 0) else (if r < 5461 then (if 5460 ≤ r ∧ r ≤ 5460 then 12 else 0) else (if 5461 ≤ r ∧ r ≤ 5461 then 12 else 0)))))) else (if r < 5471 then (if r < 5466 then (if r < 5464 then (if r < 5463 then (if 5462 ≤ r ∧ r ≤ 5462 then 12 else 0) else (if 5463 ≤ r ∧ r ≤ 5463 then 180 else 0)) else (if r < 5465 then (if 5464 ≤ r ∧ r ≤ 5464 then 9 else 0) else (if 5465 ≤ r ∧ r ≤ 5465 then 1600 else 0))) else (if r < 5468 then (if r < 5467 then (if 5466 ≤ r ∧ r ≤ 5466 then 1600 else 0) else (if 5467 ≤ r ∧ r ≤ 5467 then 1600 else 0)) else (if r < 5469 then (if 5468 ≤ r ∧ r ≤ 5468 then 1600 else 0) else (if r < 5470 then (if 5469 ≤ r ∧ r ≤ 5469 then 40 else 0) else (if 5470 ≤ r ∧ r ≤ 5470 then 40 else 0))))) else (if r < 5476 then (if r < 5473 then (if r < 5472 then (if 5471 ≤ r ∧ r ≤ 5471 then 8 else 0) else (if 5472 ≤ r ∧ r ≤ 5472 then 40 else 0)) else (if r < 5474 then (if 5473 ≤ r ∧ r ≤ 5473 then 40 else 0) else (if r < 5475 then (if 5474 ≤ r ∧ r ≤ 5474 then 40 else 0) else (if 5475 ≤ r ∧ r ≤ 5475 then 14 else 0)))) else (if r < 5478 then (if r < 5477 then (if 5476 ≤ r ∧ r ≤ 5476 then 53248 else 0) else (if 5477 ≤ r ∧ r ≤ 5477 then 117 else 0)) else (if r < 5479 then (if 5478 ≤ r ∧ r ≤ 5478 then 14 else 0) else (if r < 5480 then (if 5479 ≤ r ∧ r ≤ 5479 then 4 else 0) else (if 5480 ≤ r ∧ r ≤ 5480 then 4 else 0))))))))
def shR0 (k : Nat) : Option Nat := match k with | 0 => some 1 | 1 => some 2 | 9 => some 7 | 11 => some 9 | 12 => some 50 | 13 => some 91 | 14 => some 132 | 15 => some 173 | 16 => some 174 | 17 => some 175 | 18 => some 176 | 19 => some 177 | 20 => some 179 | 23 => some 181 | 24 => some 184 | 26 => some 185 | 27 => some 1210 | 28 => some 5307 | 29 => some 5321 | 30 => some 5322 | 31 => some 5323 | _ => none
def shR6 (k : Nat) : Option Nat := match k with | 3 => some 5445 | 4 => some 5446 | 5 => some 5447 | 6 => some 5448 | 7 => some 5449 | 8 => some 5450 | 10 => some 5451 | 21 => some 5452 | 22 => some 5453 | 23 => some 5454 | 24 => some 5455 | 25 => some 5456 | 26 => some 5457 | 27 => some 5458 | 28 => some 5459 | 29 => some 5460 | 30 => some 5461 | 31 => some 5462 | 32 => some 5463 | 33 => some 5464 | 34 => some 5465 | 35 => some 5466 | 36 => some 5467 | 37 => some 5468 | 38 => some 5469 | 39 => some 5470 | 40 => some 5471 | 44 => some 5472 | 45 => some 5473 | 46 => some 5474 | 47 => some 5475 | 48 => some 5476 | 49 => some 5477 | 50 => some 5478 | 51 => some 5479 | 52 => some 5480 | _ => none
def shR (r k : Nat) : Option Nat := if r = 0 then shR0 k else if r = 5444 then shR6 k else if r = 1 then (if k < 40 then some (5324 + 3 * k) else none) else if r = 7 ∨ r = 177 ∨ r = 179 then (if k = 0 then some (r + 1) else none) else if r = 174 then (if k = 8 then some 0 else none) else if 5324 ≤ r ∧ r < 5444 ∧ r % 3 ≠ 1 then (if k = 0 then some (r + 1) else none) else if r = 9 then (if k < 40 then some (10 + k) else none) else if r = 50 then (if k < 40 then some (51 + k) else none) else if r = 91 then (if k < 40 then some (92 + k) else none) else if r = 132 then (if k < 40 then some (133 + k) else none) else if r = 181 then (if k < 2 then some (182 + k) else none) else if r = 185 then (if k < 1024 then some (186 + k) else none) else if r = 1210 then (if k < 4096 then some (1211 + k) else none) else if r = 5307 then (if k < 13 then some (5308 + k) else none) else none
def Shp (M : WM) : Prop := 5481 ≤ wn M ∧ (∀ r kd, shK r = some kd → wk M r = kd ∧ wl M r = shL r) ∧ ∀ r k x, shR r k = some x → wR M r k = some x
theorem Shp.k {M : WM} (h : Shp M) {r kd : Nat} (e : shK r = some kd) : wk M r = kd := (h.2.1 r kd e).1
theorem Shp.l {M : WM} (h : Shp M) {r kd n : Nat} (e : shK r = some kd) (e2 : shL r = n) : wl M r = n := (h.2.1 r kd e).2.trans e2
theorem Shp.r {M : WM} (h : Shp M) {r k x : Nat} (e : shR r k = some x) : wR M r k = some x := h.2.2 r k x e
theorem Shp_PI {M M' : WM} (h : Shp M) {r k : Nat} {v : Int32} (e : M' = wPI M r k v) : Shp M' := by subst e; exact h
theorem Shp_PJ {M M' : WM} (h : Shp M) {r k : Nat} {v : Int64} (e : M' = wPJ M r k v) : Shp M' := by subst e; exact h
theorem Shp_PR {M M' : WM} (h : Shp M) {r k : Nat} {v : Option Nat} (hn : shR r k = none) (e : M' = wPR M r k v) : Shp M' := by
  subst e
  refine ⟨h.1, h.2.1, fun a b x hx => ?_⟩
  rw [wR_PR, if_neg (fun z => by rw [z.1, z.2, hn] at hx; cases hx)]
  exact h.2.2 a b x hx
theorem shK_hi {r kd : Nat} (h : shK r = some kd) : r < 5481 := by
  refine Nat.lt_of_not_le fun hc => ?_
  have e : shK r = none := by
    unfold shK
    rw [if_neg (by omega), if_neg (by omega), if_neg (by omega), if_neg (by omega), if_neg (by omega), if_neg (by omega), if_neg (by omega), if_neg (by omega)]
  rw [e] at h; cases h
theorem shR_hi {r k x : Nat} (h : shR r k = some x) : r < 5481 := by
  refine Nat.lt_of_not_le fun hc => ?_
  have e : shR r k = none := by
    unfold shR
    rw [if_neg (by omega), if_neg (by omega), if_neg (by omega), if_neg (by omega), if_neg (by omega), if_neg (by omega), if_neg (by omega), if_neg (by omega), if_neg (by omega), if_neg (by omega), if_neg (by omega), if_neg (by omega), if_neg (by omega), if_neg (by omega)]
  rw [e] at h; cases h
theorem Shp_Nw {M M' : WM} (h : Shp M) {kd n : Nat} (e : M' = wNw M kd n) : Shp M' := by
  subst e
  have h1 := h.1
  refine ⟨by rw [wn_Nw]; omega, fun r k hk => ?_, fun r k x hx => ?_⟩
  · have := shK_hi hk
    rw [wk_Nw, wl_Nw, if_neg (by omega), if_neg (by omega)]
    exact h.2.1 r k hk
  · have := shR_hi hx
    rw [wR_Nw, if_neg (by omega)]
    exact h.2.2 r k x hx
def isLn (L : Nat) : Prop := shK L = some 2 ∧ shK (L + 1) = some 100 ∧ shL (L + 1) = 13 ∧ shR L 0 = some (L + 1)
theorem lt_in {i : Int32} {n : Nat} (h : vp_in i n) : i.toNatClampNeg < n := Nat.not_le.mp fun q => h (Or.inr q)
theorem k_0 : shK 0 = some 0 := by rfl
theorem k_1 : shK 1 = some 107 := by rfl
theorem l_1 : shL 1 = 40 := by rfl
theorem k_2 : shK 2 = some 102 := by rfl
theorem l_2 : shL 2 = 200 := by rfl
theorem k_7 : shK 7 = some 2 := by rfl
theorem k_8 : shK 8 = some 100 := by rfl
theorem l_8 : shL 8 = 13 := by rfl
theorem k_9 : shK 9 = some 104 := by rfl
theorem l_9 : shL 9 = 40 := by rfl
theorem k_50 : shK 50 = some 104 := by rfl
theorem l_50 : shL 50 = 40 := by rfl
theorem k_91 : shK 91 = some 104 := by rfl
theorem l_91 : shL 91 = 40 := by rfl
theorem k_132 : shK 132 = some 104 := by rfl
theorem l_132 : shL 132 = 40 := by rfl
theorem k_173 : shK 173 = some 101 := by rfl
theorem l_173 : shL 173 = 40 := by rfl
theorem k_174 : shK 174 = some 3 := by rfl
theorem k_175 : shK 175 = some 101 := by rfl
theorem l_175 : shL 175 = 40 := by rfl
theorem k_176 : shK 176 = some 103 := by rfl
theorem l_176 : shL 176 = 40 := by rfl
theorem k_177 : shK 177 = some 2 := by rfl
theorem k_178 : shK 178 = some 100 := by rfl
theorem l_178 : shL 178 = 13 := by rfl
theorem k_179 : shK 179 = some 2 := by rfl
theorem k_180 : shK 180 = some 100 := by rfl
theorem l_180 : shL 180 = 13 := by rfl
theorem k_181 : shK 181 = some 105 := by rfl
theorem l_181 : shL 181 = 2 := by rfl
theorem k_184 : shK 184 = some 100 := by rfl
theorem l_184 : shL 184 = 14 := by rfl
theorem k_185 : shK 185 = some 104 := by rfl
theorem l_185 : shL 185 = 1024 := by rfl
theorem k_1210 : shK 1210 = some 106 := by rfl
theorem l_1210 : shL 1210 = 4096 := by rfl
theorem k_5307 : shK 5307 = some 104 := by rfl
theorem l_5307 : shL 5307 = 13 := by rfl
theorem k_5321 : shK 5321 = some 100 := by rfl
theorem l_5321 : shL 5321 = 14 := by rfl
theorem k_5322 : shK 5322 = some 100 := by rfl
theorem l_5322 : shL 5322 = 4 := by rfl
theorem k_5323 : shK 5323 = some 100 := by rfl
theorem l_5323 : shL 5323 = 4 := by rfl
theorem k_5444 : shK 5444 = some 5 := by rfl
theorem k_5445 : shK 5445 = some 100 := by rfl
theorem l_5445 : shL 5445 = 40 := by rfl
theorem k_5446 : shK 5446 = some 100 := by rfl
theorem l_5446 : shL 5446 = 320 := by rfl
theorem k_5447 : shK 5447 = some 100 := by rfl
theorem l_5447 : shL 5447 = 40 := by rfl
theorem k_5448 : shK 5448 = some 100 := by rfl
theorem l_5448 : shL 5448 = 40 := by rfl
theorem k_5449 : shK 5449 = some 103 := by rfl
theorem l_5449 : shL 5449 = 40 := by rfl
theorem k_5450 : shK 5450 = some 100 := by rfl
theorem l_5450 : shL 5450 = 12 := by rfl
theorem k_5451 : shK 5451 = some 102 := by rfl
theorem l_5451 : shL 5451 = 200 := by rfl
theorem k_5452 : shK 5452 = some 100 := by rfl
theorem l_5452 : shL 5452 = 180 := by rfl
theorem k_5453 : shK 5453 = some 100 := by rfl
theorem l_5453 : shL 5453 = 180 := by rfl
theorem k_5454 : shK 5454 = some 100 := by rfl
theorem l_5454 : shL 5454 = 12 := by rfl
theorem k_5455 : shK 5455 = some 100 := by rfl
theorem l_5455 : shL 5455 = 12 := by rfl
theorem k_5456 : shK 5456 = some 100 := by rfl
theorem l_5456 : shL 5456 = 12 := by rfl
theorem k_5457 : shK 5457 = some 100 := by rfl
theorem l_5457 : shL 5457 = 12 := by rfl
theorem k_5458 : shK 5458 = some 100 := by rfl
theorem l_5458 : shL 5458 = 180 := by rfl
theorem k_5459 : shK 5459 = some 100 := by rfl
theorem l_5459 : shL 5459 = 12 := by rfl
theorem k_5460 : shK 5460 = some 100 := by rfl
theorem l_5460 : shL 5460 = 12 := by rfl
theorem k_5461 : shK 5461 = some 100 := by rfl
theorem l_5461 : shL 5461 = 12 := by rfl
theorem k_5462 : shK 5462 = some 100 := by rfl
theorem l_5462 : shL 5462 = 12 := by rfl
theorem k_5463 : shK 5463 = some 100 := by rfl
theorem l_5463 : shL 5463 = 180 := by rfl
theorem k_5464 : shK 5464 = some 100 := by rfl
theorem l_5464 : shL 5464 = 9 := by rfl
theorem k_5465 : shK 5465 = some 100 := by rfl
theorem l_5465 : shL 5465 = 1600 := by rfl
theorem k_5466 : shK 5466 = some 100 := by rfl
theorem l_5466 : shL 5466 = 1600 := by rfl
theorem k_5467 : shK 5467 = some 100 := by rfl
theorem l_5467 : shL 5467 = 1600 := by rfl
theorem k_5468 : shK 5468 = some 100 := by rfl
theorem l_5468 : shL 5468 = 1600 := by rfl
theorem k_5469 : shK 5469 = some 101 := by rfl
theorem l_5469 : shL 5469 = 40 := by rfl
theorem k_5470 : shK 5470 = some 103 := by rfl
theorem l_5470 : shL 5470 = 40 := by rfl
theorem k_5471 : shK 5471 = some 100 := by rfl
theorem l_5471 : shL 5471 = 8 := by rfl
theorem k_5472 : shK 5472 = some 100 := by rfl
theorem l_5472 : shL 5472 = 40 := by rfl
theorem k_5473 : shK 5473 = some 101 := by rfl
theorem l_5473 : shL 5473 = 40 := by rfl
theorem k_5474 : shK 5474 = some 101 := by rfl
theorem l_5474 : shL 5474 = 40 := by rfl
theorem k_5475 : shK 5475 = some 100 := by rfl
theorem l_5475 : shL 5475 = 14 := by rfl
theorem k_5476 : shK 5476 = some 100 := by rfl
theorem l_5476 : shL 5476 = 53248 := by rfl
theorem k_5477 : shK 5477 = some 100 := by rfl
theorem l_5477 : shL 5477 = 117 := by rfl
theorem k_5478 : shK 5478 = some 100 := by rfl
theorem l_5478 : shL 5478 = 14 := by rfl
theorem k_5479 : shK 5479 = some 100 := by rfl
theorem l_5479 : shL 5479 = 4 := by rfl
theorem k_5480 : shK 5480 = some 100 := by rfl
theorem l_5480 : shL 5480 = 4 := by rfl
theorem r_0_0 : shR 0 0 = some 1 := by rfl
theorem r_0_1 : shR 0 1 = some 2 := by rfl
theorem r_0_9 : shR 0 9 = some 7 := by rfl
theorem r_0_11 : shR 0 11 = some 9 := by rfl
theorem r_0_12 : shR 0 12 = some 50 := by rfl
theorem r_0_13 : shR 0 13 = some 91 := by rfl
theorem r_0_14 : shR 0 14 = some 132 := by rfl
theorem r_0_15 : shR 0 15 = some 173 := by rfl
theorem r_0_16 : shR 0 16 = some 174 := by rfl
theorem r_0_17 : shR 0 17 = some 175 := by rfl
theorem r_0_18 : shR 0 18 = some 176 := by rfl
theorem r_0_19 : shR 0 19 = some 177 := by rfl
theorem r_0_20 : shR 0 20 = some 179 := by rfl
theorem r_0_23 : shR 0 23 = some 181 := by rfl
theorem r_0_24 : shR 0 24 = some 184 := by rfl
theorem r_0_26 : shR 0 26 = some 185 := by rfl
theorem r_0_27 : shR 0 27 = some 1210 := by rfl
theorem r_0_28 : shR 0 28 = some 5307 := by rfl
theorem r_0_29 : shR 0 29 = some 5321 := by rfl
theorem r_0_30 : shR 0 30 = some 5322 := by rfl
theorem r_0_31 : shR 0 31 = some 5323 := by rfl
theorem r_5444_3 : shR 5444 3 = some 5445 := by rfl
theorem r_5444_4 : shR 5444 4 = some 5446 := by rfl
theorem r_5444_5 : shR 5444 5 = some 5447 := by rfl
theorem r_5444_6 : shR 5444 6 = some 5448 := by rfl
theorem r_5444_7 : shR 5444 7 = some 5449 := by rfl
theorem r_5444_8 : shR 5444 8 = some 5450 := by rfl
theorem r_5444_10 : shR 5444 10 = some 5451 := by rfl
theorem r_5444_21 : shR 5444 21 = some 5452 := by rfl
theorem r_5444_22 : shR 5444 22 = some 5453 := by rfl
theorem r_5444_23 : shR 5444 23 = some 5454 := by rfl
theorem r_5444_24 : shR 5444 24 = some 5455 := by rfl
theorem r_5444_25 : shR 5444 25 = some 5456 := by rfl
theorem r_5444_26 : shR 5444 26 = some 5457 := by rfl
theorem r_5444_27 : shR 5444 27 = some 5458 := by rfl
theorem r_5444_28 : shR 5444 28 = some 5459 := by rfl
theorem r_5444_29 : shR 5444 29 = some 5460 := by rfl
theorem r_5444_30 : shR 5444 30 = some 5461 := by rfl
theorem r_5444_31 : shR 5444 31 = some 5462 := by rfl
theorem r_5444_32 : shR 5444 32 = some 5463 := by rfl
theorem r_5444_33 : shR 5444 33 = some 5464 := by rfl
theorem r_5444_34 : shR 5444 34 = some 5465 := by rfl
theorem r_5444_35 : shR 5444 35 = some 5466 := by rfl
theorem r_5444_36 : shR 5444 36 = some 5467 := by rfl
theorem r_5444_37 : shR 5444 37 = some 5468 := by rfl
theorem r_5444_38 : shR 5444 38 = some 5469 := by rfl
theorem r_5444_39 : shR 5444 39 = some 5470 := by rfl
theorem r_5444_40 : shR 5444 40 = some 5471 := by rfl
theorem r_5444_44 : shR 5444 44 = some 5472 := by rfl
theorem r_5444_45 : shR 5444 45 = some 5473 := by rfl
theorem r_5444_46 : shR 5444 46 = some 5474 := by rfl
theorem r_5444_47 : shR 5444 47 = some 5475 := by rfl
theorem r_5444_48 : shR 5444 48 = some 5476 := by rfl
theorem r_5444_49 : shR 5444 49 = some 5477 := by rfl
theorem r_5444_50 : shR 5444 50 = some 5478 := by rfl
theorem r_5444_51 : shR 5444 51 = some 5479 := by rfl
theorem r_5444_52 : shR 5444 52 = some 5480 := by rfl
theorem r_7_0 : shR 7 0 = some 8 := by rfl
theorem isLn_7 : isLn 7 := ⟨k_7, k_8, l_8, r_7_0⟩
theorem r_177_0 : shR 177 0 = some 178 := by rfl
theorem isLn_177 : isLn 177 := ⟨k_177, k_178, l_178, r_177_0⟩
theorem r_179_0 : shR 179 0 = some 180 := by rfl
theorem isLn_179 : isLn 179 := ⟨k_179, k_180, l_180, r_179_0⟩
theorem r_174_8 : shR 174 8 = some 0 := by rfl
theorem f_9 {i : Nat} (h : i < 40) : shR 9 i = some (10 + i) := by
  show (if i < 40 then some (10 + i) else none) = _
  rw [if_pos h]
theorem fk_9 {i : Nat} (h : i < 40) : shK (10 + i) = some 100 := by
  unfold shK
  rw [if_pos (by omega), if_neg (by omega), if_pos (by omega), if_pos (by omega), if_neg (by omega), if_neg (by omega), if_pos (by omega), if_pos (by omega)]
theorem fl_9 {i : Nat} (h : i < 40) : shL (10 + i) = 40 := by
  unfold shL
  rw [if_pos (by omega), if_neg (by omega), if_pos (by omega), if_pos (by omega), if_neg (by omega), if_neg (by omega), if_pos (by omega), if_pos (by omega)]
theorem f_50 {i : Nat} (h : i < 40) : shR 50 i = some (51 + i) := by
  show (if i < 40 then some (51 + i) else none) = _
  rw [if_pos h]
theorem fk_50 {i : Nat} (h : i < 40) : shK (51 + i) = some 100 := by
  unfold shK
  rw [if_pos (by omega), if_neg (by omega), if_pos (by omega), if_neg (by omega), if_pos (by omega), if_pos (by omega), if_pos (by omega), if_pos (by omega)]
theorem fl_50 {i : Nat} (h : i < 40) : shL (51 + i) = 40 := by
  unfold shL
  rw [if_pos (by omega), if_neg (by omega), if_pos (by omega), if_neg (by omega), if_pos (by omega), if_pos (by omega), if_pos (by omega), if_pos (by omega)]
theorem f_91 {i : Nat} (h : i < 40) : shR 91 i = some (92 + i) := by
  show (if i < 40 then some (92 + i) else none) = _
  rw [if_pos h]
theorem fk_91 {i : Nat} (h : i < 40) : shK (92 + i) = some 100 := by
  unfold shK
  rw [if_pos (by omega), if_neg (by omega), if_pos (by omega), if_neg (by omega), if_pos (by omega), if_neg (by omega), if_pos (by omega), if_pos (by omega)]
theorem fl_91 {i : Nat} (h : i < 40) : shL (92 + i) = 40 := by
  unfold shL
  rw [if_pos (by omega), if_neg (by omega), if_pos (by omega), if_neg (by omega), if_pos (by omega), if_neg (by omega), if_pos (by omega), if_pos (by omega)]
theorem f_132 {i : Nat} (h : i < 40) : shR 132 i = some (133 + i) := by
  show (if i < 40 then some (133 + i) else none) = _
  rw [if_pos h]
theorem fk_132 {i : Nat} (h : i < 40) : shK (133 + i) = some 100 := by
  unfold shK
  rw [if_pos (by omega), if_neg (by omega), if_pos (by omega), if_neg (by omega), if_neg (by omega), if_pos (by omega), if_pos (by omega), if_pos (by omega)]
theorem fl_132 {i : Nat} (h : i < 40) : shL (133 + i) = 40 := by
  unfold shL
  rw [if_pos (by omega), if_neg (by omega), if_pos (by omega), if_neg (by omega), if_neg (by omega), if_pos (by omega), if_pos (by omega), if_pos (by omega)]
theorem f_181 {i : Nat} (h : i < 2) : shR 181 i = some (182 + i) := by
  show (if i < 2 then some (182 + i) else none) = _
  rw [if_pos h]
theorem fk_181 {i : Nat} (h : i < 2) : shK (182 + i) = some 101 := by
  unfold shK
  rw [if_pos (by omega), if_neg (by omega), if_neg (by omega), if_pos (by omega), if_neg (by omega), if_neg (by omega), if_pos (by omega), if_pos (by omega)]
theorem fl_181 {i : Nat} (h : i < 2) : shL (182 + i) = 40 := by
  unfold shL
  rw [if_pos (by omega), if_neg (by omega), if_neg (by omega), if_pos (by omega), if_neg (by omega), if_neg (by omega), if_pos (by omega), if_pos (by omega)]
theorem f_185 {i : Nat} (h : i < 1024) : shR 185 i = some (186 + i) := by
  show (if i < 1024 then some (186 + i) else none) = _
  rw [if_pos h]
theorem fk_185 {i : Nat} (h : i < 1024) : shK (186 + i) = some 100 := by
  unfold shK
  rw [if_pos (by omega), if_neg (by omega), if_neg (by omega), if_neg (by omega), if_pos (by omega), if_pos (by omega), if_neg (by omega), if_pos (by omega)]
theorem fl_185 {i : Nat} (h : i < 1024) : shL (186 + i) = 10 := by
  unfold shL
  rw [if_pos (by omega), if_neg (by omega), if_neg (by omega), if_neg (by omega), if_pos (by omega), if_pos (by omega), if_neg (by omega), if_pos (by omega)]
theorem f_1210 {i : Nat} (h : i < 4096) : shR 1210 i = some (1211 + i) := by
  show (if i < 4096 then some (1211 + i) else none) = _
  rw [if_pos h]
theorem fk_1210 {i : Nat} (h : i < 4096) : shK (1211 + i) = some 103 := by
  unfold shK
  rw [if_pos (by omega), if_neg (by omega), if_neg (by omega), if_neg (by omega), if_pos (by omega), if_neg (by omega), if_neg (by omega), if_pos (by omega)]
theorem fl_1210 {i : Nat} (h : i < 4096) : shL (1211 + i) = 12 := by
  unfold shL
  rw [if_pos (by omega), if_neg (by omega), if_neg (by omega), if_neg (by omega), if_pos (by omega), if_neg (by omega), if_neg (by omega), if_pos (by omega)]
theorem f_5307 {i : Nat} (h : i < 13) : shR 5307 i = some (5308 + i) := by
  show (if i < 13 then some (5308 + i) else none) = _
  rw [if_pos h]
theorem fk_5307 {i : Nat} (h : i < 13) : shK (5308 + i) = some 100 := by
  unfold shK
  rw [if_pos (by omega), if_neg (by omega), if_neg (by omega), if_neg (by omega), if_neg (by omega), if_pos (by omega), if_neg (by omega), if_pos (by omega)]
theorem fl_5307 {i : Nat} (h : i < 13) : shL (5308 + i) = 9 := by
  unfold shL
  rw [if_pos (by omega), if_neg (by omega), if_neg (by omega), if_neg (by omega), if_neg (by omega), if_pos (by omega), if_neg (by omega), if_pos (by omega)]
theorem f_1 {i : Nat} (h : i < 40) : shR 1 i = some (5324 + 3 * i) := by
  show (if i < 40 then some (5324 + 3 * i) else none) = _
  rw [if_pos h]
theorem fk_1 {i : Nat} (h : i < 40) : shK (5324 + 3 * i) = some 4 := by
  unfold shK
  rw [if_pos (by omega), if_pos (by omega), if_pos (by omega)]
theorem fr_1 {i : Nat} (h : i < 40) : shR (5324 + 3 * i) 0 = some (5325 + 3 * i) := by
  unfold shR
  rw [if_neg (by omega), if_neg (by omega), if_neg (by omega), if_neg (by omega), if_neg (by omega), if_pos (by omega), if_pos rfl]
  congr 1; omega
theorem isLn_w {i : Nat} (h : i < 40) : isLn (5325 + 3 * i) := by
  refine ⟨?_, ?_, ?_, ?_⟩
  · unfold shK
    rw [if_pos (by omega), if_pos (by omega), if_neg (by omega), if_pos (by omega)]
  · unfold shK
    rw [if_pos (by omega), if_pos (by omega), if_neg (by omega), if_neg (by omega)]
  · unfold shL
    rw [if_pos (by omega), if_pos (by omega), if_pos (by omega)]
  · unfold shR
    rw [if_neg (by omega), if_neg (by omega), if_neg (by omega), if_neg (by omega), if_neg (by omega), if_pos (by omega), if_pos rfl]

