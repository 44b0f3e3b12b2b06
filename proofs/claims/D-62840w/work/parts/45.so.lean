/-! slot and open of the desk, over rows -/
section
variable {x x2 y : HP} {F : Int → Int → Nat} {W : Int → RW} {c g tb q : Nat} {t v nd tm k : Int} {Q : AO → HP → Prop}
theorem FI.slot_n (h : TBA x F W) (hn : 165 ≤ hN x) (h7 : hR x 4 7 = none) (hv : v ≠ 0) : FI x (stI (nwO x 5 5) (hN x) 4 v) F W (hN x) v := by
  obtain ⟨T1, T2, T3, T4⟩ := h
  have hlt : ∀ q, q < hN x → ¬ q = hN x := fun q h => by omega
  refine ⟨⟨hn, Nat.lt_succ_self _⟩, fun t y hy => by have := T2 t y hy; omega, by rw [if_neg hv]; exact hK_nw_s, fun q hq => ?_, fun q hq => ?_, fun _ => by rw [hI_st, if_pos ⟨rfl, rfl⟩], fun q hq h4 => ?_, fun k _ _ => ?_, fun h => absurd h hv, ⟨Nat.le_succ _, Nat.le_refl _⟩, ⟨Nat.le_add_right _ _, by show hS x + 5 ≤ hS x + 6; omega⟩, ?_⟩
  · rw [hK_stI]; exact hK_nw_n (by omega)
  · rw [hI_stI_n hq]; exact hI_nw_n hq
  · rw [hR_stI]; exact hR_nw_n hq
  · rw [hR_stI, hR_nw_n (by omega)]
  · refine T4.kept ⟨by rw [hR_stI, hR_nw_n (by omega)], by rw [hR_stI, hR_nw_n (by omega)]⟩ (fun q h1 h2 h3 => ⟨by rw [hK_stI, hK_nw_n (by omega)], by rw [hR_stI, hR_nw_n (by omega)], by omega, h3⟩) (Nat.le_succ _)
theorem FI.slot_s (h : TBA x F W) (h7 : hR x 4 7 = some c) (hv : v ≠ 0) : hK x c = some (5, 5) ∧ 165 ≤ c ∧ FI x (stI (stR x 4 7 (hR x c 0)) c 4 v) F W c v := by
  obtain ⟨T1, T2, T3, ⟨l, a1, a2, a3⟩, m, b1, b2, b3⟩ := h
  cases l with
  | nil => rw [h7] at a1; cases a1
  | cons c' l =>
    obtain ⟨e, a1⟩ := a1
    rw [h7] at e
    cases e
    obtain ⟨c1, c2, c3⟩ := a3 c List.mem_cons_self
    have hr : ∀ q, q ≠ 4 → hR (stI (stR x 4 7 (hR x c 0)) c 4 v) q = hR x q := fun q hq => by rw [hR_stI]; exact hR_stR_n hq
    refine ⟨c1, c2.1, c2, c3, by rw [if_neg hv]; exact c1, fun q _ => rfl, fun q hq => by rw [hI_stI_n hq]; rfl, fun _ => by rw [hI_st, if_pos ⟨rfl, rfl⟩], fun q hq h4 => hr q h4, fun k k7 _ => by rw [hR_stI, hR_st, if_neg (fun h => k7 h.2)], fun h => absurd h hv, ⟨Nat.le_refl _, Nat.le_succ _⟩, ⟨Nat.le_refl _, Nat.le_add_right _ _⟩, ⟨l, ?_, (List.nodup_cons.mp a2).2, fun q hq => ?_⟩, m, ?_, b2, fun q hq => ?_⟩
    · rw [hR_stI, hR_st, if_pos ⟨rfl, rfl⟩]
      refine chn.kept l _ a1 (fun q hq => ?_)
      have := (a3 q (List.mem_cons_of_mem _ hq)).2.1
      rw [hR_stR_n (by omega)]
    · obtain ⟨d1, d2, d3⟩ := a3 q (List.mem_cons_of_mem _ hq)
      exact ⟨d1, d2, fun e => (List.nodup_cons.mp a2).1 (e ▸ hq), d3⟩
    · rw [hR_stI, hR_st, if_neg (fun h => by have := h.2; omega)]
      refine chn.kept m _ b1 (fun q hq => ?_)
      have := (b3 q hq).2.1
      rw [hR_stR_n (by omega)]
    · obtain ⟨d1, d2, d3⟩ := b3 q hq
      exact ⟨d1, d2, (fun e => by rw [e, c1] at d1; cases d1), d3⟩
theorem FI.group_n (h : TBA x F W) (hn : 165 ≤ hN x) : FI x (nwO x 6 6) F W (hN x) 0 := by
  obtain ⟨T1, T2, T3, T4⟩ := h
  refine ⟨⟨hn, Nat.lt_succ_self _⟩, fun t y hy => by have := T2 t y hy; omega, hK_nw_s, fun q hq => hK_nw_n (by omega), fun q hq => hI_nw_n hq, fun h => absurd rfl h, fun q hq h4 => hR_nw_n hq, fun k _ _ => by rw [hR_nw_n (by omega)], fun _ => by rw [hR_nw_s]; exact ⟨rfl, rfl⟩, ⟨Nat.le_succ _, Nat.le_refl _⟩, ⟨Nat.le_add_right _ _, Nat.le_refl _⟩, ?_⟩
  exact T4.kept ⟨by rw [hR_nw_n (by omega)], by rw [hR_nw_n (by omega)]⟩ (fun q h1 h2 h3 => ⟨by rw [hK_nw_n (by omega)], by rw [hR_nw_n (by omega)], by omega, h3⟩) (Nat.le_succ _)
theorem FI.group_s (h : TBA x F W) (h7 : hR x 4 8 = some c) : hK x c = some (6, 6) ∧ 165 ≤ c ∧ FI x (stR (stR (stR x 4 8 (hR x c 0)) c 4 none) c 5 none) F W c 0 := by
  obtain ⟨T1, T2, T3, ⟨m, b1, b2, b3⟩, l, a1, a2, a3⟩ := h
  cases l with
  | nil => rw [h7] at a1; cases a1
  | cons c' l =>
    obtain ⟨e, a1⟩ := a1
    rw [h7] at e
    cases e
    obtain ⟨c1, c2, c3⟩ := a3 c List.mem_cons_self
    have hr : ∀ q, q ≠ 4 → q ≠ c → hR (stR (stR (stR x 4 8 (hR x c 0)) c 4 none) c 5 none) q = hR x q := fun q hq hc => by rw [hR_stR_n hc, hR_stR_n hc, hR_stR_n hq]
    have h4 : ∀ k, hR (stR (stR (stR x 4 8 (hR x c 0)) c 4 none) c 5 none) 4 k = if k = 8 then hR x c 0 else hR x 4 k := fun k => by
      rw [hR_stR_n (by omega), hR_stR_n (by omega), hR_st]
      by_cases e : k = 8
      · rw [if_pos ⟨rfl, e⟩, if_pos e]
      · rw [if_neg (fun h => e h.2), if_neg e]
    refine ⟨c1, c2.1, c2, c3, c1, fun q _ => rfl, fun q hq => rfl, fun h => absurd rfl h, fun q hq h4 => hr q h4 hq, fun k _ k8 => by rw [h4, if_neg k8], fun _ => ⟨by rw [hR_st, if_neg (fun h => by have := h.2; omega), hR_st, if_pos ⟨rfl, rfl⟩], by rw [hR_st, if_pos ⟨rfl, rfl⟩]⟩, ⟨Nat.le_refl _, Nat.le_succ _⟩, ⟨Nat.le_refl _, Nat.le_add_right _ _⟩, ⟨m, ?_, b2, fun q hq => ?_⟩, l, ?_, (List.nodup_cons.mp a2).2, fun q hq => ?_⟩
    · rw [h4, if_neg (by omega)]
      refine chn.kept m _ b1 (fun q hq => ?_)
      have d := b3 q hq
      rw [hr q (by omega) (fun e => by have := d.1; rw [e, c1] at this; cases this)]
    · obtain ⟨d1, d2, d3⟩ := b3 q hq
      exact ⟨d1, d2, (fun e => by rw [e, c1] at d1; cases d1), d3⟩
    · rw [h4, if_pos rfl]
      refine chn.kept l _ a1 (fun q hq => ?_)
      have d := a3 q (List.mem_cons_of_mem _ hq)
      rw [hr q (by omega) (fun e => (List.nodup_cons.mp a2).1 (e ▸ hq))]
    · obtain ⟨d1, d2, d3⟩ := a3 q (List.mem_cons_of_mem _ hq)
      exact ⟨d1, d2, fun e => (List.nodup_cons.mp a2).1 (e ▸ hq), d3⟩
theorem FI.addD (hm : WD (hK x) (hR x)) (h : TBA x F W) (ht : 0 ≤ t ∧ t < 4) (hf : FI x x2 F W c v) (hd : 0 ≤ nd ∧ nd < 2) : wpc 2 41 [vA (126 + 2 * t.toNat), vA c, vI nd, vI tm] x2 Q ↔ Q (.inl (some (vI (rN (W t) + 1)))) (addH x2 (126 + 2 * t.toNat) (gid (127 + 2 * t.toNat) (F t) (rO (W t))) c nd tm) := by
  obtain ⟨⟨op1, op2, op3⟩, op4, op5, op6, op7, op8⟩ := h.opn hm ht
  obtain ⟨k1, k2, k3⟩ := t_tb hm ht
  obtain ⟨f1, f2, f3, f4, f5, f6, f7, f8, f9, f10, f11, f12⟩ := hf
  obtain ⟨T1, T2, T3, T4⟩ := h
  obtain ⟨⟨⟨n1, n2⟩, ⟨o1, o2⟩, hp⟩, -⟩ := (T1 t ht).2
  have hgc : gid (127 + 2 * t.toNat) (F t) (rO (W t)) ≠ c ∧ gid (127 + 2 * t.toNat) (F t) (rO (W t)) ≠ 4 := by
    unfold gid
    split
    · omega
    · have hi : inR W t (rO (W t)) := ⟨ht, by omega, o2⟩
      exact ⟨f2 _ _ hi, by have := T2 _ _ hi; omega⟩
  have e3 : hI x2 (126 + 2 * t.toNat) 3 = rN (W t) := by rw [f5 _ (by omega), op8]
  have hi : itm (hK x2 c) := by
    rw [f3]
    unfold itm
    split
    · exact Or.inr rfl
    · exact Or.inl rfl
  rw [c_addD (g := gid (127 + 2 * t.toNat) (F t) (rO (W t))) (by rw [f4 _ (Or.inl (by omega))]; exact k1) (by rw [f7 _ (by omega) (by omega)]; exact op1) (by rw [f4 _ (Or.inl hgc.1)]; exact op2) hi (fun l hl => ?_) hgc.1 (by omega) hd (by rw [e3]; omega), e3]
  rw [f7 _ hgc.1 hgc.2] at hl
  obtain ⟨g1, y9, hy, e⟩ := op4 l hl
  rw [f4 _ (Or.inl (by rw [e]; exact f2 _ _ hy))]
  exact g1
abbrev slB (t v tm : Int) : Prop := ¬ (0 ≤ t ∧ t < 4) ∨ ¬ tagP v ∨ tm < 1 ∨ 99 < tm ∨ envT v
abbrev slC (w : RW) (nd tm : Int) : Prop := rN w = 24 ∨ ((0 ≤ rO w ∧ fol (rI w) (rN w) (-1) (rO w) < 0) ∧ ¬ (nd ≠ 0 ∧ tm = 1))
theorem tagP_pos (h : tagP v) (hv : inI v = true) : 0 < v := by
  obtain ⟨h1, h2, -⟩ := h
  rw [iShr_16 hv] at h2
  omega
set_option maxHeartbeats 2000000 in
theorem slotD_ok (hm : WD (hK x) (hR x)) (h : TBA x F W) (hn : 165 ≤ hN x ∧ hN x + 1 ≤ 600000 ∧ hS x + 6 ≤ 7300000) (hv : inI v = true) (hd : 0 ≤ nd ∧ nd < 2) (K1 : slB t v tm → Q (.inr (hN x)) (nwO x 14 6)) (K2 : ¬ slB t v tm → slC (W t) nd tm → Q (.inr (hN x)) (nwO x 15 6))
    (K3 : ¬ slB t v tm → ¬ slC (W t) nd tm → ∀ y F', TBA y F' (aW W t (rAdd (W t) v nd tm)) → frT x y → Q (.inl (some (vI (rN (W t) + 1)))) y) : wpc 4 22 [vA 4, vI t, vI v, vI nd, vI tm] x Q := by
  rw [c_slotD (g := gid (127 + 2 * t.toNat) (F t) (rO (W t))) hm hn.2 hv (fun ht => (h.opn hm ht).1)]
  by_cases hb : slB t v tm
  · rw [if_pos (by grind)]
    exact K1 hb
  · rw [if_neg (by grind)]
    have ht : 0 ≤ t ∧ t < 4 := by grind
    have htg : tagP v := by grind
    have hvp := tagP_pos htg hv
    obtain ⟨op1, op4, op5, op6, op7, op8⟩ := h.opn hm ht
    have hok := (h.1 t ht).2
    have hok9 := hok
    obtain ⟨⟨⟨n1, n2⟩, ⟨o1, o2⟩, hp⟩, -⟩ := hok9
    have htr : trg x (126 + 2 * t.toNat) (gid (127 + 2 * t.toNat) (F t) (rO (W t))) ↔ 0 ≤ rO (W t) ∧ fol (rI (W t)) (rN (W t)) (-1) (rO (W t)) < 0 := and_congr op6 op5
    by_cases hc : slC (W t) nd tm
    · rw [if_pos (by rw [op8]; rcases hc with hc | hc; exact Or.inl (by omega); exact Or.inr ⟨htr.mpr hc.1, by grind⟩)]
      exact K2 hb hc
    · rw [if_neg (by rw [op8]; rintro (h9 | ⟨h9, h8⟩); exact hc (Or.inl (by omega)); exact hc (Or.inr ⟨htr.mp h9, by grind⟩))]
      have hok2 : rOk (rAdd (W t) v nd tm) := hok.add (by have : ¬ rN (W t) = 24 := fun e => hc (Or.inl e); omega) hd (by grind) (by omega) (fun _ _ => by omega) (fun e => by omega)
      have bT : ∀ z : Int, bI (trg x (126 + 2 * t.toNat) (gid (127 + 2 * t.toNat) (F t) (rO (W t)))) = z → True := fun _ _ => trivial
      rcases opt2 (hR x 4 7) with h7 | ⟨c, h7⟩
      · have hf := FI.slot_n h hn.1 h7 (show v ≠ 0 by omega)
        have ha : ∀ Q', _ := fun Q' => FI.addD (Q := Q') (tm := tm) hm h ht hf hd
        have hr := h.add hm ht hf hok2
        rw [c_newSlot_n hm h7 ⟨hn.2.1, by omega⟩, wk_v]
        simp (disch := omega) only [u22_0, u22_1, u22_2, u22_5, u22_7, u22_8, u22_11, u22_14, u22_15, u22_18, u22_21, u22_23, u22_24, u22_27, u22_29, u22_31, u22_34, u22_35, u22_38, u22_39, u22_42, u22_44, u22_47, u22_50, u22_52, u22_55, u22_58n, u22_58, u22_61, u22_62, u22_65, u22_66, u22_68, u22_70, u22_73, u22_75, u22_78, u22_80, u22_83, u22_84, u22_87, u22_89, u22_90, u22_93, u22_94, u22_97, u22_98, u22_101, u22_102, u22_105, u22_107, u22_109, u22_110, u22_113, u22_115, u22_117, u22_118, u22_120, u22_123, inI_t, inLb_t, ldk_t, ldb_23, ldb_24, ldr_26, ldr_27, stb_23, stb_24, str_26, str_27, sbk_t, sbk_5, sbk_6, isk_t, nnk_t, lnk_t, ark_t, rg_0, rg_1, rg_2, rg_3, rg_4, sml_0, sml_1, sml_2, sml_3, sml_4, sml_5, hK_stI, hK_stF, hK_stR, hN_stI, hN_stF, hN_stR, hS_stI, hS_stF, hS_stR, hR_stI, hR_stF, hI_stR, hI_stI_s, hI_stI_n, hI_stF_s, hI_stF_n, hR_stR_s, hR_stR_n, up_s, up_n, wk_v, wk_n, true_and, and_true, ↓reduceIte, if_true, if_false, ite_self, ne_eq, not_true_eq_false, not_false_eq_true, Nat.reduceLeDiff, Nat.reduceLT, Nat.reduceEqDiff, Nat.reduceAdd, Int.reduceLT, Int.reduceLE, Int.reduceEq, Int.reduceAdd, Int.reduceSub, Int.reduceMul, Int.reduceNeg, Int.reduceNe, hK_nw_s, ha]
        exact K3 hb hc _ _ hr.1 hr.2
      · obtain ⟨hk, hc5, hf⟩ := FI.slot_s h h7 (show v ≠ 0 by omega)
        have ha : ∀ Q', _ := fun Q' => FI.addD (Q := Q') (tm := tm) hm h ht hf hd
        have hr := h.add hm ht hf hok2
        rw [c_newSlot_s hm h7 hk ⟨hn.2.1, by omega⟩, wk_v]
        simp (disch := omega) only [u22_0, u22_1, u22_2, u22_5, u22_7, u22_8, u22_11, u22_14, u22_15, u22_18, u22_21, u22_23, u22_24, u22_27, u22_29, u22_31, u22_34, u22_35, u22_38, u22_39, u22_42, u22_44, u22_47, u22_50, u22_52, u22_55, u22_58n, u22_58, u22_61, u22_62, u22_65, u22_66, u22_68, u22_70, u22_73, u22_75, u22_78, u22_80, u22_83, u22_84, u22_87, u22_89, u22_90, u22_93, u22_94, u22_97, u22_98, u22_101, u22_102, u22_105, u22_107, u22_109, u22_110, u22_113, u22_115, u22_117, u22_118, u22_120, u22_123, inI_t, inLb_t, ldk_t, ldb_23, ldb_24, ldr_26, ldr_27, stb_23, stb_24, str_26, str_27, sbk_t, sbk_5, sbk_6, isk_t, nnk_t, lnk_t, ark_t, rg_0, rg_1, rg_2, rg_3, rg_4, sml_0, sml_1, sml_2, sml_3, sml_4, sml_5, hK_stI, hK_stF, hK_stR, hN_stI, hN_stF, hN_stR, hS_stI, hS_stF, hS_stR, hR_stI, hR_stF, hI_stR, hI_stI_s, hI_stI_n, hI_stF_s, hI_stF_n, hR_stR_s, hR_stR_n, up_s, up_n, wk_v, wk_n, true_and, and_true, ↓reduceIte, if_true, if_false, ite_self, ne_eq, not_true_eq_false, not_false_eq_true, Nat.reduceLeDiff, Nat.reduceLT, Nat.reduceEqDiff, Nat.reduceAdd, Int.reduceLT, Int.reduceLE, Int.reduceEq, Int.reduceAdd, Int.reduceSub, Int.reduceMul, Int.reduceNeg, Int.reduceNe, hk, ha]
        exact K3 hb hc _ _ hr.1 hr.2
end
