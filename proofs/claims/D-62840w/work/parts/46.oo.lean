/-! open and close of the desk, over rows -/
section
variable {x y z : HP} {F : Int → Int → Nat} {W : Int → RW} {c g tb q : Nat} {t v nd tm k o : Int} {Q : AO → HP → Prop}
theorem dpA_24 {p : Int → Int} {N n g : Int} (hp : ∀ y, 0 ≤ y → y < N → -1 ≤ p y ∧ p y < y) (h1 : g < N) (h2 : g < 24) : dpA p 24 n g = dpA p 25 n g := (dpA_f hp 24 n g h1 h2).symm
theorem frT.trans (h1 : frT x y) (h2 : ∀ q, q < 126 ∨ (134 ≤ q ∧ q < 165) → hI z q = hI y q ∧ hR z q = hR y q) (h3 : hK z = hK y) (h4 : ∀ q, 165 ≤ q → hI z q = hI y q ∧ hR z q = hR y q) (h5 : hN z = hN y ∧ hS z = hS y) (h6 : ∀ t : Int, 0 ≤ t ∧ t < 4 → hR z (126 + 2 * t.toNat) 0 = hR y (126 + 2 * t.toNat) 0) : frT x z := by
  obtain ⟨a1, a2, a3, a4, a5, a6⟩ := h1
  refine ⟨fun q hq => ?_, fun q hq => by rw [h3]; exact a2 q hq, fun q q1 q2 q3 => ?_, by rw [h5.1]; exact a4, by rw [h5.2]; exact a5, fun t ht => by rw [h6 t ht]; exact a6 t ht⟩
  · rw [(h2 q hq).1, (h2 q hq).2]; exact a1 q hq
  · rw [(h4 q q1).1, (h4 q q1).2]; exact a3 q q1 q2 q3
theorem frT.refl : frT x x := ⟨fun q _ => ⟨rfl, fun _ _ => rfl⟩, fun _ _ => rfl, fun _ _ _ _ => ⟨rfl, rfl⟩, ⟨Nat.le_refl _, Nat.le_succ _⟩, ⟨Nat.le_refl _, Nat.le_add_right _ _⟩, fun _ _ => rfl⟩
/-- the heap with another open list -/
def opH (x : HP) (tb : Nat) (r : Option Nat) (d : Int) : HP := stI (stR x tb 1 r) tb 2 d
theorem opH_I : hI (opH x tb (some c) v) q k = if q = tb ∧ k = 2 then v else hI x q k := by
  unfold opH
  rw [hI_st]
  rfl
theorem opH_R : hR (opH x tb (some c) v) q k = if q = tb ∧ k = 1 then some c else hR x q k := by
  unfold opH
  rw [hR_stI, hR_st]
theorem opH_o (h : q ≠ tb) : hI (opH x tb (some c) v) q = hI x q ∧ hR (opH x tb (some c) v) q = hR x q := ⟨funext fun k => by rw [opH_I, if_neg (fun e => h e.1)], funext fun k => by rw [opH_R, if_neg (fun e => h e.1)]⟩
theorem TBA.setO (h : TBA x F W) (ht : 0 ≤ t ∧ t < 4) (hok : rOk (rSet (W t) o)) : TBA (opH x (126 + 2 * t.toNat) (some (gid (127 + 2 * t.toNat) (F t) o)) (dpA (rI (W t)) 25 0 o)) F (aW W t (rSet (W t) o)) := by
  obtain ⟨T1, T2, T3, T4⟩ := h
  have hin : ∀ s y, inR (aW W t (rSet (W t) o)) s y → inR W s y := fun s y hy => by
    obtain ⟨h1, h2, h3⟩ := hy
    refine ⟨h1, h2, ?_⟩
    by_cases e : s = t
    · subst e
      rw [show aW W s (rSet (W s) o) s = rSet (W s) o from if_pos rfl] at h3
      exact h3
    · rw [show aW W t (rSet (W t) o) s = W s from if_neg e] at h3
      exact h3
  refine ⟨fun s hs => ?_, fun s y hy => T2 s y (hin s y hy), fun s y s' y' h1 h2 e => T3 s y s' y' (hin _ _ h1) (hin _ _ h2) e, ?_⟩
  · obtain ⟨s1, s2⟩ := T1 s hs
    by_cases e : s = t
    · subst e
      rw [show aW W s (rSet (W s) o) s = rSet (W s) o from if_pos rfl]
      obtain ⟨a1, a2, a3, a4, a5, a6⟩ := s1
      refine ⟨⟨?_, ?_, ?_, ?_, ?_, fun y y1 y2 => ?_⟩, hok⟩
      · rw [opH_R, if_pos ⟨rfl, rfl⟩]; rfl
      · rw [opH_I, if_pos ⟨rfl, rfl⟩]; rfl
      · rw [opH_I, if_neg (fun h => by omega)]; exact a3
      · rw [(opH_o (by omega)).2]; exact a4
      · rw [(opH_o (by omega)).2]; exact a5
      · have h9 := T2 s y ⟨hs, y1, y2⟩
        have h8 := a6 y y1 y2
        unfold itR at h8 ⊢
        rw [(opH_o (by omega)).1, (opH_o (by omega)).2]
        exact h8
    · rw [show aW W t (rSet (W t) o) s = W s from if_neg e]
      have p1 := opH_o (x := x) (tb := 126 + 2 * t.toNat) (c := gid (127 + 2 * t.toNat) (F t) o) (v := dpA (rI (W t)) 25 0 o) (q := 126 + 2 * s.toNat) (by omega)
      have p2 := opH_o (x := x) (tb := 126 + 2 * t.toNat) (c := gid (127 + 2 * t.toNat) (F t) o) (v := dpA (rI (W t)) 25 0 o) (q := 127 + 2 * s.toNat) (by omega)
      refine ⟨s1.kept s2.1 ⟨p1.1, p1.2, p2.2⟩ (fun y y1 y2 => ?_), s2⟩
      have h9 := T2 s y ⟨hs, y1, y2⟩
      have p3 := opH_o (x := x) (tb := 126 + 2 * t.toNat) (c := gid (127 + 2 * t.toNat) (F t) o) (v := dpA (rI (W t)) 25 0 o) (q := F s y) (by omega)
      exact ⟨rfl, p3.1, p3.2⟩
  · refine T4.kept ⟨by rw [(opH_o (by omega)).2], by rw [(opH_o (by omega)).2]⟩ (fun q h1 h2 h3 => ⟨rfl, by rw [(opH_o (by omega)).2], fun s y hy => h3 s y (hin s y hy)⟩) (Nat.le_refl _)
theorem frT.setO (h : frT x y) (ht : 0 ≤ t ∧ t < 4) : frT x (opH y (126 + 2 * t.toNat) (some c) v) := by
  refine h.trans (fun q hq => opH_o (by omega)) rfl (fun q hq => opH_o (by omega)) ⟨rfl, rfl⟩ (fun s hs => by rw [opH_R, if_neg (fun h => by omega)])
abbrev opB (t tm : Int) : Prop := ¬ (0 ≤ t ∧ t < 4) ∨ tm < 1 ∨ 99 < tm
abbrev opC (w : RW) : Prop := rN w = 24 ∨ dpA (rI w) 25 0 (rO w) = 3 ∨ (0 ≤ rO w ∧ fol (rI w) (rN w) (-1) (rO w) < 0)
theorem dpA_3 {w : RW} (h : rOk w) : 0 ≤ dpA (rI w) 25 0 (rO w) ∧ dpA (rI w) 25 0 (rO w) ≤ 3 := by
  obtain ⟨⟨⟨n1, n2⟩, ⟨o1, o2⟩, hp⟩, w2, w3, w4, w5, w6⟩ := h
  refine ⟨dpA_ge 25 _, ?_⟩
  by_cases h0 : rO w < 0
  · rw [dpA_pos h0]; omega
  · have h9 := w6 _ (by omega) o2 (w2 (by omega))
    have h8 := hp _ (show 0 ≤ rO w by omega) o2
    rw [dpA_neg h0, dpA_24 hp (by omega) (by omega)]
    omega
set_option maxHeartbeats 2000000 in
theorem openD_ok (hm : WD (hK x) (hR x)) (h : TBA x F W) (hn : 165 ≤ hN x ∧ hN x + 1 ≤ 600000 ∧ hS x + 6 ≤ 7300000) (hd : 0 ≤ nd ∧ nd < 2) (K1 : opB t tm → Q (.inr (hN x)) (nwO x 14 6)) (K2 : ¬ opB t tm → opC (W t) → Q (.inr (hN x)) (nwO x 15 6))
    (K3 : ¬ opB t tm → ¬ opC (W t) → ∀ y F', TBA y F' (aW W t (rSet (rAdd (W t) 0 nd tm) (rN (W t)))) → frT x y → Q (.inl (some (vI (rN (W t) + 1)))) y) : wpc 4 23 [vA 4, vI t, vI nd, vI tm] x Q := by
  rw [c_openD (g := gid (127 + 2 * t.toNat) (F t) (rO (W t))) hm hn.2 (fun ht => (h.opn hm ht).1) (fun ht => by rw [(h.opn hm ht).2.2.2.2.1]; exact dpA_ge 25 _)]
  by_cases hb : opB t tm
  · rw [if_pos hb]
    exact K1 hb
  · rw [if_neg hb]
    have ht : 0 ≤ t ∧ t < 4 := by grind
    obtain ⟨op1, op4, op5, op6, op7, op8⟩ := h.opn hm ht
    have hok := (h.1 t ht).2
    have hok9 := hok
    obtain ⟨⟨⟨n1, n2⟩, ⟨o1, o2⟩, hp⟩, -⟩ := hok9
    have h3 := dpA_3 hok
    have htr : trg x (126 + 2 * t.toNat) (gid (127 + 2 * t.toNat) (F t) (rO (W t))) ↔ 0 ≤ rO (W t) ∧ fol (rI (W t)) (rN (W t)) (-1) (rO (W t)) < 0 := and_congr op6 op5
    by_cases hc : opC (W t)
    · rw [if_pos (by rw [op8, op7]; rcases hc with hc | hc | hc; exact Or.inl (by omega); exact Or.inr (Or.inl (by omega)); exact Or.inr (Or.inr (htr.mpr hc)))]
      exact K2 hb hc
    · rw [if_neg (by rw [op8, op7]; rintro (h9 | h9 | h9); exact hc (Or.inl (by omega)); exact hc (Or.inr (Or.inl (by omega))); exact hc (Or.inr (Or.inr (htr.mp h9))))]
      have hc1 : ¬ rN (W t) = 24 := fun e => hc (Or.inl e)
      have hc2 : ¬ dpA (rI (W t)) 25 0 (rO (W t)) = 3 := fun e => hc (Or.inr (Or.inl e))
      have hok2 : rOk (rAdd (W t) 0 nd tm) := hok.add (by omega) hd (by grind) (by omega) (fun a b => absurd (Or.inr (Or.inr ⟨a, b⟩)) hc) (fun _ => by omega)
      have hok3 := rOk.last hok2 n1
      have fin : ∀ (x2 : HP) (c : Nat), FI x x2 F W c 0 → TBA (opH (addH x2 (126 + 2 * t.toNat) (gid (127 + 2 * t.toNat) (F t) (rO (W t))) c nd tm) (126 + 2 * t.toNat) (some c) (hI x (126 + 2 * t.toNat) 2 + 1)) (aF F W t c) (aW W t (rSet (rAdd (W t) 0 nd tm) (rN (W t)))) ∧ frT x (opH (addH x2 (126 + 2 * t.toNat) (gid (127 + 2 * t.toNat) (F t) (rO (W t))) c nd tm) (126 + 2 * t.toNat) (some c) (hI x (126 + 2 * t.toNat) 2 + 1)) := by
        intro x2 c hf
        have hr := h.add hm ht hf hok2
        have e1 : aW W t (rAdd (W t) 0 nd tm) t = rAdd (W t) 0 nd tm := if_pos rfl
        have hs := TBA.setO (o := rN (W t)) hr.1 ht (by rw [e1]; exact hok3)
        rw [e1] at hs
        have e2 : gid (127 + 2 * t.toNat) (aF F W t c t) (rN (W t)) = c := by
          unfold gid
          rw [if_neg (by omega)]
          exact if_pos ⟨rfl, rfl⟩
        have e3 : dpA (rI (rAdd (W t) 0 nd tm)) 25 0 (rN (W t)) = hI x (126 + 2 * t.toNat) 2 + 1 := by
          show dpA (up (rI (W t)) (rN (W t)) (rO (W t))) 25 0 (rN (W t)) = _
          rw [dpA_neg (by omega), up_s, dpA_up hp 24 0 _ o2, dpA_24 hp o2 (by omega), op7]
          omega
        have e4 : aW (aW W t (rAdd (W t) 0 nd tm)) t (rSet (rAdd (W t) 0 nd tm) (rN (W t))) = aW W t (rSet (rAdd (W t) 0 nd tm) (rN (W t))) := by
          funext s
          show (if s = t then _ else if s = t then _ else _) = if s = t then _ else _
          split <;> rfl
        rw [e2, e3, e4] at hs
        exact ⟨hs, hr.2.setO ht⟩
      have d2 : ∀ (x2 : HP) (c : Nat), FI x x2 F W c 0 → hK x2 (126 + 2 * t.toNat) = some (7, 4) ∧ hI (addH x2 (126 + 2 * t.toNat) (gid (127 + 2 * t.toNat) (F t) (rO (W t))) c nd tm) (126 + 2 * t.toNat) 2 = hI x (126 + 2 * t.toNat) 2 := by
        intro x2 c hf
        obtain ⟨f1, f2, f3, f4, f5, -⟩ := hf
        refine ⟨by rw [f4 _ (Or.inl (by omega))]; exact (t_tb hm ht).1, ?_⟩
        rw [addH_I, if_neg (fun h => by omega), if_neg (fun h => by omega), if_neg (fun h => by omega), f5 _ (by omega)]
      rcases opt2 (hR x 4 8) with h7 | ⟨c, h7⟩
      · have hf := FI.group_n h hn.1
        have ha : ∀ Q', _ := fun Q' => FI.addD (Q := Q') (tm := tm) hm h ht hf hd
        obtain ⟨d3, d4⟩ := d2 _ _ hf
        obtain ⟨r1, r2⟩ := fin _ _ hf
        rw [c_newGroup_n hm h7 ⟨hn.2.1, by omega⟩, wk_v]
        simp (disch := omega) only [u23_0, u23_1, u23_2, u23_5, u23_7, u23_8, u23_9, u23_12, u23_13, u23_15, u23_18, u23_19, u23_22, u23_23, u23_26, u23_28, u23_31, u23_33, u23_36, u23_38, u23_41, u23_42, u23_45, u23_47, u23_50, u23_53, u23_55, u23_58, u23_61n, u23_61, u23_64, u23_65, u23_68, u23_69, u23_72, u23_73, u23_76, u23_78, u23_80, u23_82, u23_83, u23_84, u23_87, u23_89, u23_91, u23_93, u23_96, u23_98i, u23_98, u23_99, u23_102, u23_103, u23_104, u23_107, u23_109, inI_t, inLb_t, ldk_t, ldb_23, ldb_24, ldr_26, ldr_27, stb_23, stb_24, str_26, str_27, sbk_t, sbk_5, sbk_6, isk_t, nnk_t, lnk_t, ark_t, rg_0, rg_1, rg_2, rg_3, rg_4, sml_0, sml_1, sml_2, sml_3, sml_4, sml_5, hK_stI, hK_stF, hK_stR, hN_stI, hN_stF, hN_stR, hS_stI, hS_stF, hS_stR, hR_stI, hR_stF, hI_stR, hI_stI_s, hI_stI_n, hI_stF_s, hI_stF_n, hR_stR_s, hR_stR_n, up_s, up_n, wk_v, wk_n, true_and, and_true, ↓reduceIte, if_true, if_false, ite_self, ne_eq, not_true_eq_false, not_false_eq_true, Nat.reduceLeDiff, Nat.reduceLT, Nat.reduceEqDiff, Nat.reduceAdd, Int.reduceLT, Int.reduceLE, Int.reduceEq, Int.reduceAdd, Int.reduceSub, Int.reduceMul, Int.reduceNeg, Int.reduceNe, hK_nw_s, ha, addH_K, d3, d4]
        exact K3 hb hc _ _ r1 r2
      · obtain ⟨hk, hc5, hf⟩ := FI.group_s h h7
        have ha : ∀ Q', _ := fun Q' => FI.addD (Q := Q') (tm := tm) hm h ht hf hd
        obtain ⟨d3, d4⟩ := d2 _ _ hf
        obtain ⟨r1, r2⟩ := fin _ _ hf
        rw [c_newGroup_s hm h7 hk ⟨hn.2.1, by omega⟩, wk_v]
        rw [hK_stR, hK_stR, hK_stR] at d3
        simp (disch := omega) only [u23_0, u23_1, u23_2, u23_5, u23_7, u23_8, u23_9, u23_12, u23_13, u23_15, u23_18, u23_19, u23_22, u23_23, u23_26, u23_28, u23_31, u23_33, u23_36, u23_38, u23_41, u23_42, u23_45, u23_47, u23_50, u23_53, u23_55, u23_58, u23_61n, u23_61, u23_64, u23_65, u23_68, u23_69, u23_72, u23_73, u23_76, u23_78, u23_80, u23_82, u23_83, u23_84, u23_87, u23_89, u23_91, u23_93, u23_96, u23_98i, u23_98, u23_99, u23_102, u23_103, u23_104, u23_107, u23_109, inI_t, inLb_t, ldk_t, ldb_23, ldb_24, ldr_26, ldr_27, stb_23, stb_24, str_26, str_27, sbk_t, sbk_5, sbk_6, isk_t, nnk_t, lnk_t, ark_t, rg_0, rg_1, rg_2, rg_3, rg_4, sml_0, sml_1, sml_2, sml_3, sml_4, sml_5, hK_stI, hK_stF, hK_stR, hN_stI, hN_stF, hN_stR, hS_stI, hS_stF, hS_stR, hR_stI, hR_stF, hI_stR, hI_stI_s, hI_stI_n, hI_stF_s, hI_stF_n, hR_stR_s, hR_stR_n, up_s, up_n, wk_v, wk_n, true_and, and_true, ↓reduceIte, if_true, if_false, ite_self, ne_eq, not_true_eq_false, not_false_eq_true, Nat.reduceLeDiff, Nat.reduceLT, Nat.reduceEqDiff, Nat.reduceAdd, Int.reduceLT, Int.reduceLE, Int.reduceEq, Int.reduceAdd, Int.reduceSub, Int.reduceMul, Int.reduceNeg, Int.reduceNe, hk, ha, addH_K, d3, d4]
        exact K3 hb hc _ _ r1 r2
abbrev clC (w : RW) : Prop := rO w < 0 ∨ fol (rI w) (rN w) (-1) (rO w) < 0
theorem closeD_ok (hm : WD (hK x) (hR x)) (h : TBA x F W) (hn : 165 ≤ hN x ∧ hN x + 1 ≤ 600000 ∧ hS x + 6 ≤ 7300000) (K1 : ¬ (0 ≤ t ∧ t < 4) → Q (.inr (hN x)) (nwO x 14 6)) (K2 : 0 ≤ t ∧ t < 4 → clC (W t) → Q (.inl (some (vI 0))) x)
    (K3 : 0 ≤ t ∧ t < 4 → ¬ clC (W t) → ∀ y, TBA y F (aW W t (rSet (W t) (rI (W t) (rO (W t))))) → frT x y → Q (.inl (some (vI 1))) y) : wpc 3 24 [vA 4, vI t] x Q := by
  rw [c_closeD (g := gid (127 + 2 * t.toNat) (F t) (rO (W t))) hm hn.2 (fun ht => (h.opn hm ht).1) (fun ht => by rw [(h.opn hm ht).2.2.2.2.1]; have := dpA_3 (h.1 t ht).2; omega)]
  by_cases ht : 0 ≤ t ∧ t < 4
  · rw [if_neg (fun h => h ht)]
    obtain ⟨op1, op4, op5, op6, op7, op8⟩ := h.opn hm ht
    have hok := (h.1 t ht).2
    have hok9 := hok
    obtain ⟨⟨⟨n1, n2⟩, ⟨o1, o2⟩, hp⟩, -⟩ := hok9
    have h3 := dpA_3 hok
    by_cases hc : clC (W t)
    · rw [if_pos (by rcases hc with hc | hc; exact Or.inl (by omega); exact Or.inr (op5.mpr hc))]
      exact K2 ht hc
    · have hc1 : ¬ rO (W t) < 0 := fun e => hc (Or.inl e)
      rw [if_neg (by rintro (h9 | h9); exact hc1 (by omega); exact hc (Or.inr (op5.mp h9)))]
      have e1 : gid (127 + 2 * t.toNat) (F t) (rO (W t)) = F t (rO (W t)) := if_neg hc1
      have e2 : hR x (gid (127 + 2 * t.toNat) (F t) (rO (W t))) 1 = some (gid (127 + 2 * t.toNat) (F t) (rI (W t) (rO (W t)))) := by
        rw [e1]
        exact ((h.1 t ht).1.2.2.2.2.2 _ (by omega) o2).2.2.1
      have e3 : hI x (126 + 2 * t.toNat) 2 - 1 = dpA (rI (W t)) 25 0 (rI (W t) (rO (W t))) := by
        have h8 := hp _ (show 0 ≤ rO (W t) by omega) o2
        rw [op7, dpA_neg hc1, dpA_24 hp (by omega) (by omega)]
        omega
      rw [e2, e3]
      exact K3 ht hc _ (h.setO ht (hok.close (by omega))) (frT.refl.setO ht)
  · rw [if_pos ht]
    exact K1 ht
end
