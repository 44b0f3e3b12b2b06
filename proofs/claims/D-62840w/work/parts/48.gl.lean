/-! give's loop -/
section
variable {x : HP} {F : Int → Nat} {N : Int} {tg ins : Int → Int} {S : Nat → Prop}
set_option maxHeartbeats 2000000 in
theorem giveL (hm : WD (hK x) (hR x)) (n2 : N ≤ 24) (hp : ∀ y, 0 ≤ y → y < N → -1 ≤ ins y ∧ ins y < y) (hgr : ∀ z, 0 ≤ z → z < N → 0 ≤ ins z → tg (ins z) = 0) (hnc : ∀ y z, 0 ≤ y → y < z → z < N → ¬ (ins y < ins z ∧ ins z < y)) (hdp : ∀ y, 0 ≤ y → y < N → tg y = 0 → dpA ins 25 0 (ins y) ≤ 2)
    (hF : ∀ u, 0 ≤ u → u < N → (165 ≤ F u ∧ F u < hN x) ∧ ¬ S (F u) ∧ hK x (F u) = some (if tg u = 0 then (6, 6) else (5, 5)) ∧ hR x (F u) 0 = lkF F (fol ins N u (ins u)) ∧ (tg u = 0 → hR x (F u) 4 = lkF F (fol ins N (-1) u))) (hinj : ∀ u z, 0 ≤ u → u < N → 0 ≤ z → z < N → F u = F z → u = z) :
    ∀ (n : Nat) (u g e d : Int) (y : HP) (D : Int → Prop) (a1 a4 : AV) (Q : AO → HP → Prop), n = (N - u).toNat → 0 ≤ u → u < e → e ≤ N → ins u = g → (∀ z, u ≤ z → z < e → g ≤ ins z) → (e = N ∨ ins e < g) → d = dpA ins 25 0 g → gvF x y F S D → (∀ z, D z → 0 ≤ z ∧ z < N) → (∀ z, u ≤ z → z < e → ¬ D z) →
      (∀ y', gvF x y' F S (fun z => D z ∨ (u ≤ z ∧ z < e)) → Q (.inl none) y') → wp (6 - d.toNat) 43 2 [vA 4, a1, vI d, vA (F u), a4] [] y Q := by
  intro n
  induction n using Nat.strongRecOn with
  | _ n ih =>
    intro u g e d y D a1 a4 Q hn h1 h2 h3 h4 h5 h6 h7 hG hD0 hD K
    have huN : u < N := by omega
    obtain ⟨q1, q2, q3, q4, q5⟩ := hF u h1 huN
    have hpu := hp u h1 huN
    have hd : 0 ≤ d ∧ d ≤ 3 := by
      rw [h7]
      refine ⟨dpA_ge 25 g, ?_⟩
      by_cases h0 : g < 0
      · rw [dpA_pos h0]; omega
      · have hg := hgr u h1 huN (by omega)
        rw [h4] at hg
        have h9 := hdp g (by omega) (by omega) hg
        have h8 := hp g (by omega) (by omega)
        rw [dpA_neg h0, dpA_24 hp (by omega) (by omega)]
        omega
    have hG0 := hG
    obtain ⟨g1, g2, g3, g4, g5, g6⟩ := hG
    have hDu : ¬ ∃ z, D z ∧ F u = F z := fun ⟨z, z1, z2⟩ => by
      obtain ⟨z3, z4⟩ := hD0 z z1
      exact hD z (by rw [hinj u z h1 huN z3 z4 z2]; omega) (by rw [← hinj u z h1 huN z3 z4 z2]; omega) z1
    have hnx : hR y (F u) 0 = lkF F (fol ins N u g) := by
      rw [g5 _ _ (fun h => by omega) (fun h => hDu h.2), q4, h4]
    obtain ⟨eu, e1, e2, e3, e4⟩ := fE ins N u (N - (u + 1)).toNat (u + 1) rfl (by omega)
    have heu : eu ≤ e := by
      rcases h6 with h6 | h6
      · omega
      · by_cases hh : eu ≤ e
        · exact hh
        · have := e3 e (by omega) (by omega)
          omega
    have hsib : (eu < e → ins eu = g ∧ fol ins N u g = eu) ∧ (eu = e → fol ins N u g = -1) := by
      refine ⟨fun hlt => ?_, fun he => ?_⟩
      · have a1 := h5 eu (by omega) hlt
        have a2 : ins eu < u := by rcases e4 with e4 | e4; omega; exact e4
        have a3 := hnc u eu h1 (by omega) (by omega)
        have a4 : ins eu = g := by omega
        exact ⟨a4, fol_u huN (by omega) (by omega) a4 (fun z z1 z2 => by have := e3 z (by omega) z2; omega)⟩
      · refine fol_none huN (fun z z1 z2 hz => ?_)
        by_cases hze : z < eu
        · have := e3 z (by omega) hze; omega
        · rcases h6 with h6 | h6
          · omega
          · by_cases hz2 : z = e
            · rw [hz2] at hz; omega
            · have := hnc e z (by omega) (by omega) z2
              omega
    have hD1 : ∀ z, (D z ∨ (u ≤ z ∧ z < eu)) → 0 ≤ z ∧ z < N := fun z hz => by
      rcases hz with hz | hz
      · exact hD0 z hz
      · omega
    -- behind the item
    have go : ∀ (y1 : HP) (a1' : AV), gvF x y1 F S (fun z => D z ∨ (u ≤ z ∧ z < eu)) → wp (6 - d.toNat) 43 2 [vA 4, a1, vI d, vR (lkF F (fol ins N u g)), a1'] [] y1 Q := by
      intro y1 a1' hy1
      by_cases hlt : eu < e
      · obtain ⟨s1, s2⟩ := hsib.1 hlt
        rw [s2, lkF_s (by omega)]
        refine ih (N - eu).toNat (by omega) eu g e d y1 (fun z => D z ∨ (u ≤ z ∧ z < eu)) a1 a1' Q rfl (by omega) hlt h3 s1 (fun z z1 z2 => h5 z (by omega) z2) h6 h7 hy1 hD1 (fun z z1 z2 hz => ?_) (fun y' hy' => K y' ?_)
        · rcases hz with hz | hz
          · exact hD z (by omega) z2 hz
          · omega
        · have e9 : (fun z => (D z ∨ (u ≤ z ∧ z < eu)) ∨ (eu ≤ z ∧ z < e)) = fun z => D z ∨ (u ≤ z ∧ z < e) := by
            funext z
            apply propext
            constructor
            · rintro ((h | h) | h)
              · exact Or.inl h
              · exact Or.inr (by omega)
              · exact Or.inr (by omega)
            · rintro (h | h)
              · exact Or.inl (Or.inl h)
              · by_cases h9 : z < eu
                · exact Or.inl (Or.inr (by omega))
                · exact Or.inr (by omega)
          rw [e9] at hy'
          exact hy'
      · have he : eu = e := by omega
        rw [hsib.2 he, lkF_n (by omega), u43_2]
        simp (disch := omega) only [u43_0, u43_1, u43_3n, u43_3, u43_6, u43_7, u43_8, u43_11, u43_12, u43_15, u43_17, u43_18n, u43_18, u43_21, u43_24, u43_25, u43_26, u43_29, u43_32, u43_33, u43_34, u43_35, u43_38, u43_39, u43_40, u43_43, u43_46, u43_47, u43_48, u43_51, u43_54, u43_55, u43_56, u43_59, u43_62, u43_63, u43_64, u43_67, u43_69, u43_70, u43_73, inI_t, inLb_t, ldk_t, ldb_23, ldb_24, ldr_26, ldr_27, stb_23, stb_24, str_26, str_27, sbk_t, sbk_5, sbk_6, isk_t, nnk_t, lnk_t, ark_t, rg_0, rg_1, rg_2, rg_3, rg_4, sml_0, sml_1, sml_2, sml_3, sml_4, sml_5, hK_stI, hK_stF, hK_stR, hN_stI, hN_stF, hN_stR, hS_stI, hS_stF, hS_stR, hR_stI, hR_stF, hI_stR, hI_stI_s, hI_stI_n, hI_stF_s, hI_stF_n, hR_stR_s, hR_stR_n, up_s, up_n, wk_v, wk_n, true_and, and_true, ↓reduceIte, if_true, if_false, ite_self, ne_eq, not_true_eq_false, not_false_eq_true, Nat.reduceLeDiff, Nat.reduceLT, Nat.reduceEqDiff, Nat.reduceAdd, Int.reduceLT, Int.reduceLE, Int.reduceEq, Int.reduceAdd, Int.reduceSub, Int.reduceMul, Int.reduceNeg, Int.reduceNe]
        rw [he] at hy1
        exact K y1 hy1
    have hk4 : hK y 4 = some (0, 9) := by rw [g1]; exact dk4 hm
    have hd3 : ¬ (3 : Int) < d := by omega
    by_cases ht : tg u = 0
    · rw [if_pos ht] at q3
      have hkG : hK y (F u) = some (6, 6) := by rw [g1]; exact q3
      have hfc : hR y (F u) 4 = lkF F (fol ins N (-1) u) := by
        rw [g5 _ _ (fun h => by omega) (fun h => by have := h.1; omega)]
        exact q5 ht
      have hd2 := hdp u h1 huN ht
      rw [h4, ← h7] at hd2
      have hdu : d + 1 = dpA ins 25 0 u := by
        rw [dpA_neg (by omega), h4, dpA_24 hp (by omega) (by omega), ← h7]
        omega
      have hrk : 6 - d.toNat - 1 = 6 - (d + 1).toNat := by omega
      have hrl : 6 - (d + 1).toNat < 6 - d.toNat := by omega
      -- the item itself, behind its own list
      have beh : ∀ y1, gvF x y1 F S (fun z => D z ∨ (u + 1 ≤ z ∧ z < eu)) → wp (6 - d.toNat) 43 38 [vA 4, a1, vI d, vA (F u), vR (lkF F (fol ins N u g))] [] y1 Q := by
        intro y1 hy1
        have hk4' : hK y1 4 = some (0, 9) := by rw [hy1.1]; exact dk4 hm
        have hkG' : hK y1 (F u) = some (6, 6) := by rw [hy1.1]; exact q3
        have h40 : ¬ (4 : Nat) = F u := by omega
        simp (disch := omega) only [u43_0, u43_1, u43_3n, u43_3, u43_6, u43_7, u43_8, u43_11, u43_12, u43_15, u43_17, u43_18n, u43_18, u43_21, u43_24, u43_25, u43_26, u43_29, u43_32, u43_33, u43_34, u43_35, u43_38, u43_39, u43_40, u43_43, u43_46, u43_47, u43_48, u43_51, u43_54, u43_55, u43_56, u43_59, u43_62, u43_63, u43_64, u43_67, u43_69, u43_70, u43_73, inI_t, inLb_t, ldk_t, ldb_23, ldb_24, ldr_26, ldr_27, stb_23, stb_24, str_26, str_27, sbk_t, sbk_5, sbk_6, isk_t, nnk_t, lnk_t, ark_t, rg_0, rg_1, rg_2, rg_3, rg_4, sml_0, sml_1, sml_2, sml_3, sml_4, sml_5, hK_stI, hK_stF, hK_stR, hN_stI, hN_stF, hN_stR, hS_stI, hS_stF, hS_stR, hR_stI, hR_stF, hI_stR, hI_stI_s, hI_stI_n, hI_stF_s, hI_stF_n, hR_stR_s, hR_stR_n, up_s, up_n, wk_v, wk_n, true_and, and_true, ↓reduceIte, if_true, if_false, ite_self, ne_eq, not_true_eq_false, not_false_eq_true, Nat.reduceLeDiff, Nat.reduceLT, Nat.reduceEqDiff, Nat.reduceAdd, Int.reduceLT, Int.reduceLE, Int.reduceEq, Int.reduceAdd, Int.reduceSub, Int.reduceMul, Int.reduceNeg, Int.reduceNe, hk4', hkG', h40]
        refine go _ _ (hy1.push (k := 8) (Or.inr ⟨rfl, q3⟩) q1 ?_ (fun z hz => ?_))
        · rintro (h | ⟨z, z1, z2⟩)
          · exact q2 h
          · rcases z1 with z1 | z1
            · exact hDu ⟨z, z1, z2⟩
            · have := hinj u z h1 huN (by omega) (by omega) z2
              omega
        · rcases hz with (h | h) | h
          · exact Or.inl h
          · exact Or.inr (by omega)
          · exact Or.inr (by omega)
      rw [u43_2]
      simp (disch := omega) only [u43_0, u43_1, u43_3n, u43_3, u43_6, u43_7, u43_8, u43_11, u43_12, u43_15, u43_17, u43_18n, u43_18, u43_21, u43_24, u43_25, u43_26, u43_29, u43_32, u43_33, u43_34, u43_35, u43_39, u43_40, u43_43, u43_46, u43_47, u43_48, u43_51, u43_54, u43_55, u43_56, u43_59, u43_62, u43_63, u43_64, u43_67, u43_69, u43_70, u43_73, inI_t, inLb_t, ldk_t, ldb_23, ldb_24, ldr_26, ldr_27, stb_23, stb_24, str_26, str_27, sbk_t, sbk_5, sbk_6, isk_t, nnk_t, lnk_t, ark_t, rg_0, rg_1, rg_2, rg_3, rg_4, sml_0, sml_1, sml_2, sml_3, sml_4, sml_5, hK_stI, hK_stF, hK_stR, hN_stI, hN_stF, hN_stR, hS_stI, hS_stF, hS_stR, hR_stI, hR_stF, hI_stR, hI_stI_s, hI_stI_n, hI_stF_s, hI_stF_n, hR_stR_s, hR_stR_n, up_s, up_n, wk_v, wk_n, true_and, and_true, ↓reduceIte, if_true, if_false, ite_self, ne_eq, not_true_eq_false, not_false_eq_true, Nat.reduceLeDiff, Nat.reduceLT, Nat.reduceEqDiff, Nat.reduceAdd, Int.reduceLT, Int.reduceLE, Int.reduceEq, Int.reduceAdd, Int.reduceSub, Int.reduceMul, Int.reduceNeg, Int.reduceNe, e43, hk4, hkG, hnx, hfc, hd3, i56, ink, or_true, true_or, hrk, hrl]
      by_cases hch : u + 1 < eu
      · have c1 : ins (u + 1) = u := by
          have a1 := e3 (u + 1) (by omega) hch
          have a2 := hp (u + 1) (by omega) (by omega)
          omega
        have c2 : fol ins N (-1) u = u + 1 := fol_u (by omega) (by omega) (by omega) c1 (fun z z1 z2 => by have := hp z (by omega) (by omega); omega)
        rw [c2, lkF_s (by omega)]
        refine ih (N - (u + 1)).toNat (by omega) (u + 1) u eu (d + 1) y D _ _ _ rfl (by omega) hch e2 c1 (fun z z1 z2 => e3 z z1 z2) e4 hdu hG0 hD0 (fun z z1 z2 => hD z (by omega) (by omega)) (fun y' hy' => ?_)
        rw [wk_n]
        exact beh y' hy'
      · have c0 : eu = u + 1 := by omega
        have c2 : fol ins N (-1) u = -1 := fol_none (by omega) (fun z z1 z2 hz => by
          by_cases hz1 : z ≤ u
          · have := hp z (by omega) (by omega); omega
          · rcases e4 with e4 | e4
            · omega
            · by_cases hz2 : z = eu
              · rw [hz2] at hz; omega
              · have := hnc eu z (by omega) (by omega) z2
                omega)
        rw [c2, lkF_n (by omega), u43_2]
        simp (disch := omega) only [u43_0, u43_1, u43_3n, u43_3, u43_6, u43_7, u43_8, u43_11, u43_12, u43_15, u43_17, u43_18n, u43_18, u43_21, u43_24, u43_25, u43_26, u43_29, u43_32, u43_33, u43_34, u43_35, u43_39, u43_40, u43_43, u43_46, u43_47, u43_48, u43_51, u43_54, u43_55, u43_56, u43_59, u43_62, u43_63, u43_64, u43_67, u43_69, u43_70, u43_73, inI_t, inLb_t, ldk_t, ldb_23, ldb_24, ldr_26, ldr_27, stb_23, stb_24, str_26, str_27, sbk_t, sbk_5, sbk_6, isk_t, nnk_t, lnk_t, ark_t, rg_0, rg_1, rg_2, rg_3, rg_4, sml_0, sml_1, sml_2, sml_3, sml_4, sml_5, hK_stI, hK_stF, hK_stR, hN_stI, hN_stF, hN_stR, hS_stI, hS_stF, hS_stR, hR_stI, hR_stF, hI_stR, hI_stI_s, hI_stI_n, hI_stF_s, hI_stF_n, hR_stR_s, hR_stR_n, up_s, up_n, wk_v, wk_n, true_and, and_true, ↓reduceIte, if_true, if_false, ite_self, ne_eq, not_true_eq_false, not_false_eq_true, Nat.reduceLeDiff, Nat.reduceLT, Nat.reduceEqDiff, Nat.reduceAdd, Int.reduceLT, Int.reduceLE, Int.reduceEq, Int.reduceAdd, Int.reduceSub, Int.reduceMul, Int.reduceNeg, Int.reduceNe]
        refine beh y ⟨g1, g2, g3, g4, fun q k k1 k2 => g5 q k k1 (fun h => k2 ⟨h.1, by obtain ⟨z, z1, z2⟩ := h.2; exact ⟨z, Or.inl z1, z2⟩⟩), g6.wk (fun q hq => ?_)⟩
        rcases hq with h | ⟨z, z1, z2⟩
        · exact Or.inl h
        · exact Or.inr ⟨z, Or.inl z1, z2⟩
    · rw [if_neg ht] at q3
      have hkS : hK y (F u) = some (5, 5) := by rw [g1]; exact q3
      have h40 : ¬ (4 : Nat) = F u := by omega
      rw [u43_2]
      simp (disch := omega) only [u43_0, u43_1, u43_3n, u43_3, u43_6, u43_7, u43_8, u43_11, u43_12, u43_15, u43_17, u43_18n, u43_18, u43_21, u43_24, u43_25, u43_26, u43_29, u43_32, u43_33, u43_34, u43_35, u43_38, u43_39, u43_40, u43_43, u43_46, u43_47, u43_48, u43_51, u43_54, u43_55, u43_56, u43_59, u43_62, u43_63, u43_64, u43_67, u43_69, u43_70, u43_73, inI_t, inLb_t, ldk_t, ldb_23, ldb_24, ldr_26, ldr_27, stb_23, stb_24, str_26, str_27, sbk_t, sbk_5, sbk_6, isk_t, nnk_t, lnk_t, ark_t, rg_0, rg_1, rg_2, rg_3, rg_4, sml_0, sml_1, sml_2, sml_3, sml_4, sml_5, hK_stI, hK_stF, hK_stR, hN_stI, hN_stF, hN_stR, hS_stI, hS_stF, hS_stR, hR_stI, hR_stF, hI_stR, hI_stI_s, hI_stI_n, hI_stF_s, hI_stF_n, hR_stR_s, hR_stR_n, up_s, up_n, wk_v, wk_n, true_and, and_true, ↓reduceIte, if_true, if_false, ite_self, ne_eq, not_true_eq_false, not_false_eq_true, Nat.reduceLeDiff, Nat.reduceLT, Nat.reduceEqDiff, Nat.reduceAdd, Int.reduceLT, Int.reduceLE, Int.reduceEq, Int.reduceAdd, Int.reduceSub, Int.reduceMul, Int.reduceNeg, Int.reduceNe, hk4, hkS, hnx, hd3, i56, ink, or_true, true_or, h40]
      refine go _ _ (hG0.push (k := 7) (Or.inl ⟨rfl, q3⟩) q1 ?_ (fun z hz => ?_))
      · rintro (h | h)
        · exact q2 h
        · exact hDu h
      · rcases hz with h | h
        · exact Or.inl h
        · exact Or.inr (by omega)
end
