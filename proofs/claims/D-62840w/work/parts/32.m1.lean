/-! the model's small methods -/
section
variable {x : HP} {Q : AO → HP → Prop} {t v k g s e n : Int}
def bI (b : Prop) [Decidable b] : Int := if b then 1 else 0
theorem bI_t {b : Prop} [Decidable b] (h : b) : bI b = 1 := if_pos h
theorem bI_f {b : Prop} [Decidable b] (h : ¬ b) : bI b = 0 := if_neg h
theorem bI_r (b : Prop) [Decidable b] : 0 ≤ bI b ∧ bI b < 2 := by unfold bI; split <;> omega
theorem bI_0 {b : Prop} [Decidable b] : bI b = 0 ↔ ¬ b := by unfold bI; split <;> simp [*]
theorem bI_1 {b : Prop} [Decidable b] : bI b = 1 ↔ b := by unfold bI; split <;> simp [*]
theorem c_isType : wpc 1 102 [vI t] x Q ↔ Q (.inl (some (vI (bI (0 ≤ t ∧ t < 4))))) x := by
  simp (disch := omega) only [e102, u102_0, u102_1, u102_4, u102_5, u102_6, u102_9, u102_10, u102_13, u102_14, inI_t, inLb_t, ldk_t, ldb_23, ldb_24, ldr_26, ldr_27, stb_23, stb_24, str_26, str_27, sbk_t, sbk_5, sbk_6, isk_t, nnk_t, lnk_t, ark_t, rg_0, rg_1, rg_2, rg_3, rg_4, sml_0, sml_1, sml_2, sml_3, sml_4, sml_5, hK_stI, hK_stF, hK_stR, hN_stI, hN_stF, hN_stR, hS_stI, hS_stF, hS_stR, hR_stI, hR_stF, hI_stR, hI_stI_s, hI_stI_n, hI_stF_s, hI_stF_n, hR_stR_s, hR_stR_n, up_s, up_n, wk_v, wk_n, true_and, and_true, if_true, if_false, ite_self, ne_eq, not_true_eq_false, not_false_eq_true, Nat.reduceLeDiff, Nat.reduceLT, Nat.reduceEqDiff, Nat.reduceAdd, Int.reduceLT, Int.reduceLE, Int.reduceEq, Int.reduceAdd, Int.reduceSub, Int.reduceMul, Int.reduceNeg, Int.reduceNe]
  unfold bI
  repeat' split
  all_goals first | exact Iff.rfl | (exfalso; omega)
theorem c_isLetter : wpc 1 116 [vI t] x Q ↔ Q (.inl (some (vI (bI (65 ≤ t ∧ t ≤ 90))))) x := by
  simp (disch := omega) only [e116, u116_0, u116_1, u116_3, u116_6, u116_7, u116_9, u116_12, u116_13, u116_16, u116_17, inI_t, inLb_t, ldk_t, ldb_23, ldb_24, ldr_26, ldr_27, stb_23, stb_24, str_26, str_27, sbk_t, sbk_5, sbk_6, isk_t, nnk_t, lnk_t, ark_t, rg_0, rg_1, rg_2, rg_3, rg_4, sml_0, sml_1, sml_2, sml_3, sml_4, sml_5, hK_stI, hK_stF, hK_stR, hN_stI, hN_stF, hN_stR, hS_stI, hS_stF, hS_stR, hR_stI, hR_stF, hI_stR, hI_stI_s, hI_stI_n, hI_stF_s, hI_stF_n, hR_stR_s, hR_stR_n, up_s, up_n, wk_v, wk_n, true_and, and_true, if_true, if_false, ite_self, ne_eq, not_true_eq_false, not_false_eq_true, Nat.reduceLeDiff, Nat.reduceLT, Nat.reduceEqDiff, Nat.reduceAdd, Int.reduceLT, Int.reduceLE, Int.reduceEq, Int.reduceAdd, Int.reduceSub, Int.reduceMul, Int.reduceNeg, Int.reduceNe]
  unfold bI
  repeat' split
  all_goals first | exact Iff.rfl | (exfalso; omega)
abbrev envT (v : Int) : Prop := v = 5590594 ∨ v = 5590618 ∨ v = 5590599 ∨ v = 5590597 ∨ v = 5590600 ∨ v = 5590612
theorem c_isEnvelope : wpc 1 104 [vI t] x Q ↔ Q (.inl (some (vI (bI (envT t))))) x := by
  simp (disch := omega) only [e104, u104_0, u104_1, u104_3, u104_6, u104_7, u104_9, u104_12, u104_13, u104_15, u104_18, u104_19, u104_21, u104_24, u104_25, u104_27, u104_30, u104_31, u104_33, u104_36, u104_37, u104_40, u104_41, inI_t, inLb_t, ldk_t, ldb_23, ldb_24, ldr_26, ldr_27, stb_23, stb_24, str_26, str_27, sbk_t, sbk_5, sbk_6, isk_t, nnk_t, lnk_t, ark_t, rg_0, rg_1, rg_2, rg_3, rg_4, sml_0, sml_1, sml_2, sml_3, sml_4, sml_5, hK_stI, hK_stF, hK_stR, hN_stI, hN_stF, hN_stR, hS_stI, hS_stF, hS_stR, hR_stI, hR_stF, hI_stR, hI_stI_s, hI_stI_n, hI_stF_s, hI_stF_n, hR_stR_s, hR_stR_n, up_s, up_n, wk_v, wk_n, true_and, and_true, if_true, if_false, ite_self, ne_eq, not_true_eq_false, not_false_eq_true, Nat.reduceLeDiff, Nat.reduceLT, Nat.reduceEqDiff, Nat.reduceAdd, Int.reduceLT, Int.reduceLE, Int.reduceEq, Int.reduceAdd, Int.reduceSub, Int.reduceMul, Int.reduceNeg, Int.reduceNe]
  unfold bI envT
  repeat' split
  all_goals first | exact Iff.rfl | (exfalso; omega)
theorem c_isEnvelopeD : wpc 1 37 [vI t] x Q ↔ Q (.inl (some (vI (bI (envT t))))) x := by
  simp (disch := omega) only [e37, u37_0, u37_1, u37_3, u37_6, u37_7, u37_9, u37_12, u37_13, u37_15, u37_18, u37_19, u37_21, u37_24, u37_25, u37_27, u37_30, u37_31, u37_33, u37_36, u37_37, u37_40, u37_41, inI_t, inLb_t, ldk_t, ldb_23, ldb_24, ldr_26, ldr_27, stb_23, stb_24, str_26, str_27, sbk_t, sbk_5, sbk_6, isk_t, nnk_t, lnk_t, ark_t, rg_0, rg_1, rg_2, rg_3, rg_4, sml_0, sml_1, sml_2, sml_3, sml_4, sml_5, hK_stI, hK_stF, hK_stR, hN_stI, hN_stF, hN_stR, hS_stI, hS_stF, hS_stR, hR_stI, hR_stF, hI_stR, hI_stI_s, hI_stI_n, hI_stF_s, hI_stF_n, hR_stR_s, hR_stR_n, up_s, up_n, wk_v, wk_n, true_and, and_true, if_true, if_false, ite_self, ne_eq, not_true_eq_false, not_false_eq_true, Nat.reduceLeDiff, Nat.reduceLT, Nat.reduceEqDiff, Nat.reduceAdd, Int.reduceLT, Int.reduceLE, Int.reduceEq, Int.reduceAdd, Int.reduceSub, Int.reduceMul, Int.reduceNeg, Int.reduceNe]
  unfold bI envT
  repeat' split
  all_goals first | exact Iff.rfl | (exfalso; omega)
/-- a letter's number -/
abbrev ltr (c : Int) : Prop := 65 ≤ c ∧ c ≤ 90
abbrev tagP (v : Int) : Prop := 0 ≤ v ∧ ltr (iShr v 16) ∧ ltr (iAnd (iShr v 8) 255) ∧ ltr (iAnd v 255)
theorem iAnd_in (a b : Int) : inI (iAnd a b) = true := inI_t ⟨Int32.le_toInt _, Int32.toInt_lt _⟩
theorem iShr_in (a b : Int) : inI (iShr a b) = true := inI_t ⟨Int32.le_toInt _, Int32.toInt_lt _⟩
theorem c_isTag : wpc 2 103 [vI t] x Q ↔ Q (.inl (some (vI (bI (tagP t))))) x := by
  simp (disch := omega) only [e103, u103_0, u103_1, u103_4, u103_5, u103_7, u103_8, u103_11, u103_14, u103_15, u103_17, u103_18, u103_21, u103_22, u103_25, u103_28, u103_29, u103_32, u103_33, u103_36, u103_39, u103_40, u103_43, u103_44, inI_t, inLb_t, ldk_t, ldb_23, ldb_24, ldr_26, ldr_27, stb_23, stb_24, str_26, str_27, sbk_t, sbk_5, sbk_6, isk_t, nnk_t, lnk_t, ark_t, rg_0, rg_1, rg_2, rg_3, rg_4, sml_0, sml_1, sml_2, sml_3, sml_4, sml_5, hK_stI, hK_stF, hK_stR, hN_stI, hN_stF, hN_stR, hS_stI, hS_stF, hS_stR, hR_stI, hR_stF, hI_stR, hI_stI_s, hI_stI_n, hI_stF_s, hI_stF_n, hR_stR_s, hR_stR_n, up_s, up_n, wk_v, wk_n, true_and, and_true, if_true, if_false, ite_self, ne_eq, not_true_eq_false, not_false_eq_true, Nat.reduceLeDiff, Nat.reduceLT, Nat.reduceEqDiff, Nat.reduceAdd, Int.reduceLT, Int.reduceLE, Int.reduceEq, Int.reduceAdd, Int.reduceSub, Int.reduceMul, Int.reduceNeg, Int.reduceNe, c_isLetter, iAnd_in, iShr_in, bI_0]
  unfold bI tagP ltr
  repeat' split
  all_goals first | exact Iff.rfl | (exfalso; omega)
end
