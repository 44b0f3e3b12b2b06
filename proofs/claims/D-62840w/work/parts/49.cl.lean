/-! clear of the desk, over rows -/
section
variable {x y z : HP} {F : Int → Int → Nat} {W : Int → RW} {t : Int} {Q : AO → HP → Prop}
def rClr (w : RW) : RW := (0, -1, w.2.2)
def clH (y : HP) (tb rt : Nat) : HP := stI (stI (stR (stR (stR y rt 4 none) rt 5 none) tb 1 (some rt)) tb 2 0) tb 3 0
theorem clH_I {tb rt q : Nat} {k : Int} : hI (clH y tb rt) q k = if q = tb ∧ (k = 2 ∨ k = 3) then 0 else hI y q k := by
  unfold clH
  rw [hI_st, hI_st]
  show (if q = tb ∧ k = 3 then 0 else if q = tb ∧ k = 2 then 0 else hI y q k) = _
  grind
theorem clH_R {tb rt q : Nat} {k : Int} (h : tb ≠ rt) : hR (clH y tb rt) q k = if q = tb ∧ k = 1 then some rt else if q = rt ∧ (k = 4 ∨ k = 5) then none else hR y q k := by
  unfold clH
  rw [hR_stI, hR_stI, hR_st, hR_st, hR_st]
  grind
theorem clH_o {tb rt q : Nat} (h : tb ≠ rt) (h1 : q ≠ tb) (h2 : q ≠ rt) : hI (clH y tb rt) q = hI y q ∧ hR (clH y tb rt) q = hR y q := ⟨funext fun k => by rw [clH_I, if_neg (fun e => h1 e.1)], funext fun k => by rw [clH_R h, if_neg (fun e => h1 e.1), if_neg (fun e => h2 e.1)]⟩
set_option maxHeartbeats 2000000 in
theorem clearD_ok (hm : WD (hK x) (hR x)) (h : TBA x F W) (hn : 165 ≤ hN x ∧ hN x + 1 ≤ 600000 ∧ hS x + 6 ≤ 7300000) (K1 : ¬ (0 ≤ t ∧ t < 4) → Q (.inr (hN x)) (nwO x 14 6)) (K2 : 0 ≤ t ∧ t < 4 → rN (W t) = 0 → Q (.inl (some (vI 0))) x)
    (K3 : 0 ≤ t ∧ t < 4 → ¬ rN (W t) = 0 → ∀ y, TBA y F (aW W t (rClr (W t))) → frT x y → Q (.inl (some (vI 1))) y) : wpc 7 25 [vA 4, vI t] x Q := by
  by_cases ht : 0 ≤ t ∧ t < 4
  · obtain ⟨k1, k2, k3⟩ := t_tb hm ht
    obtain ⟨op1, op4, op5, op6, op7, op8⟩ := h.opn hm ht
    have h0 := h
    obtain ⟨T1, T2, T3, T4⟩ := h
    obtain ⟨⟨a1, a2, a3, a4, a5, a6⟩, ⟨⟨n1, n2⟩, ⟨o1, o2⟩, hp⟩, w2, w3, w4, w5, w6⟩ := T1 t ht
    by_cases hN0 : rN (W t) = 0
    · have e3 : hI x (126 + 2 * t.toNat) 3 = 0 := by rw [op8, hN0]
      have hk := K2 ht hN0
      simp (disch := first | omega | exact hm | exact hn.2) only [e25, u25_0, u25_1, u25_2, u25_5, u25_6, u25_7, u25_10, u25_13, u25_14, u25_15, u25_16, u25_17, u25_20, u25_23, u25_24, u25_27, u25_28, u25_31, u25_32, u25_35, u25_36, u25_39, u25_40, u25_43, u25_44, u25_45, u25_48, u25_51, u25_52, u25_53, u25_56, u25_57, u25_58, u25_61, u25_62, inI_t, inLb_t, ldk_t, ldb_23, ldb_24, ldr_26, ldr_27, stb_23, stb_24, str_26, str_27, sbk_t, sbk_5, sbk_6, isk_t, nnk_t, lnk_t, ark_t, rg_0, rg_1, rg_2, rg_3, rg_4, sml_0, sml_1, sml_2, sml_3, sml_4, sml_5, hK_stI, hK_stF, hK_stR, hN_stI, hN_stF, hN_stR, hS_stI, hS_stF, hS_stR, hR_stI, hR_stF, hI_stR, hI_stI_s, hI_stI_n, hI_stF_s, hI_stF_n, hR_stR_s, hR_stR_n, up_s, up_n, wk_v, wk_n, true_and, and_true, ↓reduceIte, if_true, if_false, ite_self, ne_eq, not_true_eq_false, not_false_eq_true, Nat.reduceLeDiff, Nat.reduceLT, Nat.reduceEqDiff, Nat.reduceAdd, Int.reduceLT, Int.reduceLE, Int.reduceEq, Int.reduceAdd, Int.reduceSub, Int.reduceMul, Int.reduceNeg, Int.reduceNe, dk4 hm, dk5 hm, dk6 hm, dk123 hm, dk124 hm, dk125 hm, dk164 hm, dk126 hm, dk127 hm, dk128 hm, dk129 hm, dk130 hm, dk131 hm, dk132 hm, dk133 hm, dr4_0 hm, dr4_5 hm, dr4_6 hm, dr5_0 hm, dr124_3 hm, dr123_0 hm, dr126_0 hm, dr123_1 hm, dr128_0 hm, dr123_2 hm, dr130_0 hm, dr123_3 hm, dr132_0 hm, c_tableOf, k1, ht, and_self, e3]
      exact hk
    · have e3 : ¬ hI x (126 + 2 * t.toNat) 3 = 0 := by rw [op8]; exact hN0
      have hi0 : rI (W t) 0 = -1 := by have := hp 0 (by omega) (by omega); omega
      have hf0 : fol (rI (W t)) (rN (W t)) (-1) (-1) = 0 := fol_u (by omega) (by omega) (by omega) hi0 (fun z z1 z2 => by omega)
      have hr4 : hR x (127 + 2 * t.toNat) 4 = some (F t 0) := by rw [a4, hf0]; rfl
      have fin : ∀ y1, gvF x y1 (F t) (fun q => ∀ t y, inR W t y → F t y ≠ q) (fun z => False ∨ (0 ≤ z ∧ z < rN (W t))) → Q (.inl (some (vI 1))) (clH y1 (126 + 2 * t.toNat) (127 + 2 * t.toNat)) := by
        intro y1 hy1
        obtain ⟨g1, g2, g3, g4, g5, g6⟩ := hy1
        have hne : (126 + 2 * t.toNat) ≠ 127 + 2 * t.toNat := by omega
        have hin : ∀ s y, inR (aW W t (rClr (W t))) s y → inR W s y ∧ s ≠ t := fun s y hy => by
          obtain ⟨b1, b2, b3⟩ := hy
          by_cases e : s = t
          · subst e
            rw [show aW W s (rClr (W s)) s = rClr (W s) from if_pos rfl] at b3
            have b3 : y < 0 := b3
            omega
          · rw [show aW W t (rClr (W t)) s = W s from if_neg e] at b3
            exact ⟨⟨b1, b2, b3⟩, e⟩
        have hy9 : ∀ q, q ≠ 4 → (∀ u, 0 ≤ u → u < rN (W t) → q ≠ F t u) → hR y1 q = hR x q := fun q q1 q2 => funext fun k => g5 q k (fun h => q1 h.1) (fun h => by
          obtain ⟨-, u, hu, e⟩ := h
          rcases hu with hu | hu
          · exact hu
          · exact q2 u hu.1 hu.2 e)
        have hlow : ∀ q, q < 165 → ∀ u, 0 ≤ u → u < rN (W t) → q ≠ F t u := fun q hq u u1 u2 => by have := T2 t u ⟨ht, u1, u2⟩; omega
        refine K3 ht hN0 _ ⟨fun s hs => ?_, fun s y hy => ?_, fun s y s' y' b1 b2 e => T3 s y s' y' (hin _ _ b1).1 (hin _ _ b2).1 e, ?_⟩ ⟨fun q hq => ?_, fun q hq => by show hK y1 q = _; rw [g1], fun q q1 q2 q3 => ?_, ⟨by show hN x ≤ hN y1; omega, by show hN y1 ≤ hN x + 1; omega⟩, ⟨by show hS x ≤ hS y1; omega, by show hS y1 ≤ hS x + 6; omega⟩, fun s hs => ?_⟩
        · by_cases e : s = t
          · subst e
            rw [show aW W s (rClr (W s)) s = rClr (W s) from if_pos rfl]
            refine ⟨⟨?_, ?_, ?_, ?_, ?_, fun y y1 y2 => ?_⟩, rOk.nil⟩
            · rw [clH_R hne, if_pos ⟨rfl, rfl⟩]; rfl
            · rw [clH_I, if_pos ⟨rfl, Or.inl rfl⟩]; rfl
            · rw [clH_I, if_pos ⟨rfl, Or.inr rfl⟩]; rfl
            · rw [clH_R hne, if_neg (fun h => by omega), if_pos ⟨rfl, Or.inl rfl⟩]; rfl
            · rw [clH_R hne, if_neg (fun h => by omega), if_pos ⟨rfl, Or.inr rfl⟩]; rfl
            · have y2 : y < 0 := y2
              omega
          · rw [show aW W t (rClr (W t)) s = W s from if_neg e]
            obtain ⟨s1, s2⟩ := T1 s hs
            have p1 := clH_o (y := y1) hne (q := 126 + 2 * s.toNat) (by omega) (by omega)
            have p2 := clH_o (y := y1) hne (q := 127 + 2 * s.toNat) (by omega) (by omega)
            refine ⟨s1.kept s2.1 ⟨by rw [p1.1, g2], by rw [p1.2]; exact hy9 _ (by omega) (hlow _ (by omega)), by rw [p2.2]; exact hy9 _ (by omega) (hlow _ (by omega))⟩ (fun u u1 u2 => ?_), s2⟩
            have b9 := T2 s u ⟨hs, u1, u2⟩
            have p3 := clH_o (y := y1) hne (q := F s u) (by omega) (by omega)
            exact ⟨by show hK y1 _ = _; rw [g1], by rw [p3.1, g2], by rw [p3.2]; exact hy9 _ (by omega) (fun v v1 v2 h9 => e (T3 s u t v ⟨hs, u1, u2⟩ ⟨ht, v1, v2⟩ h9).1)⟩
        · have b9 := T2 s y (hin s y hy).1
          exact ⟨b9.1, by show _ < hN y1; omega⟩
        · have p4 := clH_o (y := y1) hne (q := 4) (by omega) (by omega)
          refine g6.kept ⟨by rw [p4.2], by rw [p4.2]⟩ (fun q q1 q2 q3 => ⟨rfl, by rw [(clH_o hne (by omega) (by omega)).2], fun s u hu h9 => ?_⟩) (Nat.le_refl _)
          obtain ⟨i1, i2⟩ := hin s u hu
          rcases q3 with q3 | ⟨v, hv, e⟩
          · exact q3 s u i1 h9
          · rcases hv with hv | hv
            · exact hv
            · exact i2 (T3 s u t v i1 ⟨ht, hv.1, hv.2⟩ (h9.trans e)).1
        · have p9 := clH_o (y := y1) hne (q := q) (by omega) (by omega)
          refine ⟨by rw [p9.1, g2], fun k hk => ?_⟩
          rw [p9.2]
          exact g5 q k hk (fun h9 => by
            obtain ⟨-, u, hu, e⟩ := h9
            rcases hu with hu | hu
            · exact hu
            · exact hlow q (by omega) u hu.1 hu.2 e)
        · have p9 := clH_o (y := y1) hne (q := q) (by omega) (by omega)
          have hit : ∀ u, 0 ≤ u → u < rN (W t) → q ≠ F t u := fun u u1 u2 e => q3 (by
            rw [e, (a6 u u1 u2).1]
            unfold itm
            split
            · exact Or.inr rfl
            · exact Or.inl rfl)
          exact ⟨by rw [p9.1, g2], by rw [p9.2]; exact hy9 q (by omega) hit⟩
        · rw [clH_R hne, if_neg (fun h => by omega), if_neg (fun h => by omega), hy9 _ (by omega) (hlow _ (by omega))]
      simp (disch := first | omega | exact hm | exact hn.2) only [e25, e43, u43_0, u43_1, u25_0, u25_1, u25_2, u25_5, u25_6, u25_7, u25_10, u25_13, u25_14, u25_15, u25_16, u25_17, u25_20, u25_23, u25_24, u25_27, u25_28, u25_31, u25_32, u25_35, u25_36, u25_39, u25_40, u25_43, u25_44, u25_45, u25_48, u25_51, u25_52, u25_53, u25_56, u25_57, u25_58, u25_61, u25_62, inI_t, inLb_t, ldk_t, ldb_23, ldb_24, ldr_26, ldr_27, stb_23, stb_24, str_26, str_27, sbk_t, sbk_5, sbk_6, isk_t, nnk_t, lnk_t, ark_t, rg_0, rg_1, rg_2, rg_3, rg_4, sml_0, sml_1, sml_2, sml_3, sml_4, sml_5, hK_stI, hK_stF, hK_stR, hN_stI, hN_stF, hN_stR, hS_stI, hS_stF, hS_stR, hR_stI, hR_stF, hI_stR, hI_stI_s, hI_stI_n, hI_stF_s, hI_stF_n, hR_stR_s, hR_stR_n, up_s, up_n, wk_v, wk_n, true_and, and_true, ↓reduceIte, if_true, if_false, ite_self, ne_eq, not_true_eq_false, not_false_eq_true, Nat.reduceLeDiff, Nat.reduceLT, Nat.reduceEqDiff, Nat.reduceAdd, Int.reduceLT, Int.reduceLE, Int.reduceEq, Int.reduceAdd, Int.reduceSub, Int.reduceMul, Int.reduceNeg, Int.reduceNe, dk4 hm, dk5 hm, dk6 hm, dk123 hm, dk124 hm, dk125 hm, dk164 hm, dk126 hm, dk127 hm, dk128 hm, dk129 hm, dk130 hm, dk131 hm, dk132 hm, dk133 hm, dr4_0 hm, dr4_5 hm, dr4_6 hm, dr5_0 hm, dr124_3 hm, dr123_0 hm, dr126_0 hm, dr123_1 hm, dr128_0 hm, dr123_2 hm, dr130_0 hm, dr123_3 hm, dr132_0 hm, c_tableOf, k1, k2, k3, ht, and_self, e3, hr4]
      refine giveL (F := F t) (N := rN (W t)) (tg := rT (W t)) (ins := rI (W t)) (S := fun q => ∀ t y, inR W t y → F t y ≠ q) hm n2 hp (fun z z1 z2 => (w3 z z1 z2).1) w4 w6 (fun u u1 u2 => ?_) (fun u z u1 u2 z1 z2 e => (T3 t u t z ⟨ht, u1, u2⟩ ⟨ht, z1, z2⟩ e).2) _ 0 (-1) (rN (W t)) 0 x (fun _ => False) _ _ _ rfl (by omega) (by omega) (by omega) hi0 (fun z z1 z2 => (hp z z1 z2).1) (Or.inl rfl) rfl ?_ (fun z h => h.elim) (fun z _ _ h => h) (fun y' hy' => ?_)
      · have h9 := a6 u u1 u2
        refine ⟨T2 t u ⟨ht, u1, u2⟩, fun h8 => h8 t u ⟨ht, u1, u2⟩ rfl, h9.1, h9.2.1, fun h8 => (h9.2.2.2.2.2.2 h8).1⟩
      · exact ⟨rfl, rfl, rfl, rfl, fun _ _ _ _ => rfl, T4.wk (fun q hq => Or.inl hq)⟩
      · have hk := fin y' hy'
        have c1 : hK y' (126 + 2 * t.toNat) = some (7, 4) := by rw [hy'.1]; exact k1
        have c2 : hK y' (127 + 2 * t.toNat) = some (6, 6) := by rw [hy'.1]; exact k2
        have c3 : hR y' (126 + 2 * t.toNat) 0 = some (127 + 2 * t.toNat) := by
          rw [hy'.2.2.2.2.1 _ _ (fun h => by omega) (fun h => by
            obtain ⟨-, u, hu, e⟩ := h
            rcases hu with hu | hu
            · exact hu
            · have := T2 t u ⟨ht, hu.1, hu.2⟩; omega)]
          exact k3
        have c4 : ¬ (126 + 2 * t.toNat = 127 + 2 * t.toNat) := by omega
        rw [wk_n]
        simp (disch := omega) only [u25_0, u25_1, u25_2, u25_5, u25_6, u25_7, u25_10, u25_13, u25_14, u25_15, u25_16, u25_17, u25_20, u25_23, u25_24, u25_27, u25_28, u25_31, u25_32, u25_35, u25_36, u25_39, u25_40, u25_43, u25_44, u25_45, u25_48, u25_51, u25_52, u25_53, u25_56, u25_57, u25_58, u25_61, u25_62, inI_t, inLb_t, ldk_t, ldb_23, ldb_24, ldr_26, ldr_27, stb_23, stb_24, str_26, str_27, sbk_t, sbk_5, sbk_6, isk_t, nnk_t, lnk_t, ark_t, rg_0, rg_1, rg_2, rg_3, rg_4, sml_0, sml_1, sml_2, sml_3, sml_4, sml_5, hK_stI, hK_stF, hK_stR, hN_stI, hN_stF, hN_stR, hS_stI, hS_stF, hS_stR, hR_stI, hR_stF, hI_stR, hI_stI_s, hI_stI_n, hI_stF_s, hI_stF_n, hR_stR_s, hR_stR_n, up_s, up_n, wk_v, wk_n, true_and, and_true, ↓reduceIte, if_true, if_false, ite_self, ne_eq, not_true_eq_false, not_false_eq_true, Nat.reduceLeDiff, Nat.reduceLT, Nat.reduceEqDiff, Nat.reduceAdd, Int.reduceLT, Int.reduceLE, Int.reduceEq, Int.reduceAdd, Int.reduceSub, Int.reduceMul, Int.reduceNeg, Int.reduceNe, c1, c2, c3, c4]
        exact hk
  · simp (disch := first | omega | exact hm | exact hn.2) only [e25, u25_0, u25_1, u25_2, u25_5, u25_6, u25_7, u25_10, u25_13, u25_14, u25_15, u25_16, u25_17, u25_20, u25_23, u25_24, u25_27, u25_28, u25_31, u25_32, u25_35, u25_36, u25_39, u25_40, u25_43, u25_44, u25_45, u25_48, u25_51, u25_52, u25_53, u25_56, u25_57, u25_58, u25_61, u25_62, inI_t, inLb_t, ldk_t, ldb_23, ldb_24, ldr_26, ldr_27, stb_23, stb_24, str_26, str_27, sbk_t, sbk_5, sbk_6, isk_t, nnk_t, lnk_t, ark_t, rg_0, rg_1, rg_2, rg_3, rg_4, sml_0, sml_1, sml_2, sml_3, sml_4, sml_5, hK_stI, hK_stF, hK_stR, hN_stI, hN_stF, hN_stR, hS_stI, hS_stF, hS_stR, hR_stI, hR_stF, hI_stR, hI_stI_s, hI_stI_n, hI_stF_s, hI_stF_n, hR_stR_s, hR_stR_n, up_s, up_n, wk_v, wk_n, true_and, and_true, ↓reduceIte, if_true, if_false, ite_self, ne_eq, not_true_eq_false, not_false_eq_true, Nat.reduceLeDiff, Nat.reduceLT, Nat.reduceEqDiff, Nat.reduceAdd, Int.reduceLT, Int.reduceLE, Int.reduceEq, Int.reduceAdd, Int.reduceSub, Int.reduceMul, Int.reduceNeg, Int.reduceNe, dk4 hm, dk5 hm, dk6 hm, dk123 hm, dk124 hm, dk125 hm, dk164 hm, dk126 hm, dk127 hm, dk128 hm, dk129 hm, dk130 hm, dk131 hm, dk132 hm, dk133 hm, dr4_0 hm, dr4_5 hm, dr4_6 hm, dr5_0 hm, dr124_3 hm, dr123_0 hm, dr126_0 hm, dr123_1 hm, dr128_0 hm, dr123_2 hm, dr130_0 hm, dr123_3 hm, dr132_0 hm, c_tableOf, wk_x, ht]
    exact K1 ht
end
