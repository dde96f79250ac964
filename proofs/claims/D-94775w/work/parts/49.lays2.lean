/-! lays, whole -/
def SLay (r k : Nat) : Prop := (10 ≤ r ∧ r ≤ 174) ∨ (r = 0 ∧ (k = 8 ∨ k = 10))
theorem s_X0_lays {σ : WS} {lm : Lam} {M : WM} {Q : WM → Prop} (hW : WC σ M) (ok : wsOK σ) (hl : LawC lm M) (lo : lamOK lm) (hC : wI M 0 8 = wI M 0 7 → Laid σ lm M) (h : ∀ M', Laid σ lm M' → wI M' 0 8 = wI M 0 7 → Fr SLay M M' → Q M') : m_X0_lays M Q := by
  have hs := ok.1
  refine ⟨fun c => h M (hC c) c Fr.rf, fun _ M2 e2 => ?_⟩
  have f2 : Fr SLay M M2 := by rw [e2]; exact Fr.rf.PI (Or.inr ⟨rfl, Or.inl rfl⟩)
  have v2 : wI M2 0 8 = wI M 0 7 := by rw [e2, wI_s]
  refine s_X0_lays22 (hW.fr ok f2 (by unfold SLay PWC; omega)) ok (hl.mv (f2.law (by unfold SLay LR; omega))) lo fun M3 S3 f3 => ?_
  have F3 : Fr SLay M M3 := f2.tr (f3.mono fun r k q => by unfold SLA at q; unfold SLay; omega)
  refine s_X0_lays60 (hW.fr ok F3 (by unfold SLay PWC; omega)) ok S3 fun M4 W4 R4 f4 => ?_
  have F4 : Fr SLay M M4 := F3.tr (f4.mono fun r k q => by unfold SW0 at q; unfold SLay; omega)
  refine s_X0_fw (hW.fr ok F4 (by unfold SLay PWC; omega)) ok wgt_ok (wgt_B lo (by omega)) W4 fun M5 W5 f5 => ?_
  have F5 : Fr SLay M M5 := F4.tr (f5.mono fun r k q => by unfold SWay at q; unfold SLay; omega)
  have R5 : ∀ a, a < sN σ → RcI σ a M5 := fun a ha => by
    have := R4 a ha
    unfold RcI at this ⊢
    rw [f5.J (by unfold SWay; omega)]; exact this
  refine s_X0_lays258 (hW.fr ok F5 (by unfold SLay PWC; omega)) ok lo W5 R5 fun M6 R6 f6 => ?_
  refine h M6 ⟨fun a b h1 h2 => ?_, fun a b h1 h2 => by rw [f6.I (by unfold S173; omega)]; exact W5 a b h1 h2, R6⟩ ?_ (F5.tr (f6.mono fun r k q => by unfold S173 at q; unfold SLay; omega))
  · exact (((S3 a b h1 h2).fr f4 (by unfold SW0; omega)).fr f5 (by unfold SWay; omega)).fr f6 (by unfold S173; omega)
  · rw [f6.I (by unfold S173; omega), f5.I (by unfold SWay; omega), f4.I (by unfold SW0; omega), f3.I (by unfold SLA; omega)]; exact v2
