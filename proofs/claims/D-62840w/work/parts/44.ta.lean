/-! one more item in one of the tables -/
section
variable {x x2 y : HP} {F : Int → Int → Nat} {W : Int → RW} {c g tb q : Nat} {t v nd tm k : Int}
theorem addH_I : hI (addH x2 tb g c nd tm) q k = if q = tb ∧ k = 3 then hI x2 tb 3 + 1 else if q = c ∧ k = 3 then tm else if q = c ∧ k = 2 then nd else hI x2 q k := by
  unfold addH
  rw [hI_st, apd_I, hI_st, hI_st]
theorem addH_K : hK (addH x2 tb g c nd tm) = hK x2 := by
  unfold addH
  rw [hK_stI, apd_K]
  rfl
theorem addH_N : hN (addH x2 tb g c nd tm) = hN x2 ∧ hS (addH x2 tb g c nd tm) = hS x2 := by
  unfold addH
  rw [hN_stI, hS_stI, apd_N, apd_S]
  exact ⟨rfl, rfl⟩
theorem addH_R (hne : g ≠ c) (hl : ∀ l, hR x2 g 5 = some l → l ≠ c) : hR (addH x2 tb g c nd tm) q k = if q = g ∧ k = 5 then some c else if q = c ∧ k = 1 then some g else if q = c ∧ k = 0 then none else if q = g ∧ k = 4 ∧ hR x2 g 5 = none then some c else if k = 0 ∧ hR x2 g 5 = some q then some c else hR x2 q k := by
  unfold addH
  rw [hR_stI]
  exact apd_R hne hl
theorem addH_o (hne : g ≠ c) (hl : ∀ l, hR x2 g 5 = some l → l ≠ c) (h1 : q ≠ c) (h2 : q ≠ tb) (h3 : q ≠ g) (h4 : hR x2 g 5 ≠ some q) : hI (addH x2 tb g c nd tm) q = hI x2 q ∧ hR (addH x2 tb g c nd tm) q = hR x2 q := by
  refine ⟨funext fun k => ?_, funext fun k => ?_⟩
  · rw [addH_I, if_neg (fun h => h2 h.1), if_neg (fun h => h1 h.1), if_neg (fun h => h1 h.1)]
  · rw [addH_R hne hl, if_neg (fun h => h3 h.1), if_neg (fun h => h1 h.1), if_neg (fun h => h1 h.1), if_neg (fun h => h3 h.1), if_neg (fun h => h4 h.2)]
abbrev aF (F : Int → Int → Nat) (W : Int → RW) (t : Int) (c : Nat) : Int → Int → Nat := fun s y => if s = t ∧ y = rN (W t) then c else F s y
abbrev aW (W : Int → RW) (t : Int) (w : RW) : Int → RW := fun s => if s = t then w else W s
set_option maxHeartbeats 2000000 in
theorem TBA.add (hm : WD (hK x) (hR x)) (h : TBA x F W) (ht : 0 ≤ t ∧ t < 4) (hf : FI x x2 F W c v) (hok : rOk (rAdd (W t) v nd tm)) :
    TBA (addH x2 (126 + 2 * t.toNat) (gid (127 + 2 * t.toNat) (F t) (rO (W t))) c nd tm) (aF F W t c) (aW W t (rAdd (W t) v nd tm)) ∧ frT x (addH x2 (126 + 2 * t.toNat) (gid (127 + 2 * t.toNat) (F t) (rO (W t))) c nd tm) := by
  obtain ⟨⟨op1, op2, op3⟩, op4, op5, op6, op7, op8⟩ := h.opn hm ht
  obtain ⟨f1, f2, f3, f4, f5, f6, f7, f8, f9, f10, f11, f12⟩ := hf
  obtain ⟨T1, T2, T3, T4⟩ := h
  obtain ⟨tb1, tb2⟩ := T1 t ht
  have hok0 := tb2
  obtain ⟨⟨⟨n1, n2⟩, ⟨o1, o2⟩, hp⟩, w2, w3, w4, w5, w6⟩ := tb2
  generalize hg : gid (127 + 2 * t.toNat) (F t) (rO (W t)) = g at *
  have hgq : (rO (W t) < 0 ∧ g = 127 + 2 * t.toNat) ∨ (inR W t (rO (W t)) ∧ g = F t (rO (W t))) := by
    rw [← hg]
    unfold gid
    by_cases h0 : rO (W t) < 0
    · rw [if_pos h0]; exact Or.inl ⟨h0, rfl⟩
    · rw [if_neg h0]; exact Or.inr ⟨⟨ht, by omega, o2⟩, rfl⟩
  have hgc : g ≠ c := by
    rcases hgq with ⟨-, e⟩ | ⟨hi, e⟩
    · omega
    · rw [e]; exact f2 _ _ hi
  have hg4 : g ≠ 4 := by
    rcases hgq with ⟨-, e⟩ | ⟨hi, e⟩
    · omega
    · have := T2 _ _ hi; omega
  have hg5 : hR x2 g 5 = hR x g 5 := by rw [f7 g hgc hg4]
  have hlc : ∀ l, hR x2 g 5 = some l → l ≠ c := fun l hl => by
    rw [hg5] at hl
    obtain ⟨-, y9, hy, e⟩ := op4 l hl
    rw [e]; exact f2 _ _ hy
  have hN3 : hI x2 (126 + 2 * t.toNat) 3 + 1 = rN (W t) + 1 := by rw [f5 _ (by omega), op8]
  have oth : ∀ q, q ≠ c → q ≠ 126 + 2 * t.toNat → q ≠ g → (∀ y, inR W t y → q ≠ F t y) → hI (addH x2 (126 + 2 * t.toNat) g c nd tm) q = hI x2 q ∧ hR (addH x2 (126 + 2 * t.toNat) g c nd tm) q = hR x2 q := fun q h1 h2 h3 h4 => addH_o hgc hlc h1 h2 h3 (fun h => by
    rw [hg5] at h
    obtain ⟨-, y9, hy, e⟩ := op4 q h
    exact h4 y9 hy e)
  refine ⟨⟨fun s hs => ?_, fun s y hy => ?_, fun s y s' y' hy hy' e => ?_, ?_⟩, ?_⟩
  · by_cases est : s = t
    · subst est
      have eF : aF F W s c s = fun y => if y = rN (W s) then c else F s y := by
        funext y
        show (if s = s ∧ y = rN (W s) then c else F s y) = _
        simp
      have eW : aW W s (rAdd (W s) v nd tm) s = rAdd (W s) v nd tm := if_pos rfl
      rw [eF, eW]
      refine ⟨tbR.add (R1 := hR x2) tb1 hok0 (fun y z y1 y2 z1 z2 e => (T3 s y s z ⟨hs, y1, y2⟩ ⟨hs, z1, z2⟩ e).2) (fun y y1 y2 => (T2 s y ⟨hs, y1, y2⟩).1) ⟨by omega, by omega, by omega, by omega, by omega⟩ f1.1 (fun y y1 y2 => f2 s y ⟨hs, y1, y2⟩) (fun q hq => by rw [addH_K]; exact f4 q (Or.inl hq)) (by rw [addH_K]; exact f3) (fun q k h1 h2 => ?_) (by rw [addH_I, if_pos ⟨rfl, rfl⟩]; exact hN3) ⟨?_, ?_, fun hv => ?_⟩ (fun q k h1 h2 => by rw [f7 q h1 h2]) f9 (fun q k => by rw [hg]; exact addH_R hgc hlc), hok⟩
      · rw [addH_I, if_neg h2, if_neg (fun h => h1 h.1), if_neg (fun h => h1 h.1), f5 q h1]
      · rw [addH_I, if_neg (fun h => by omega), if_neg (fun h => by omega), if_pos ⟨rfl, rfl⟩]
      · rw [addH_I, if_neg (fun h => by omega), if_pos ⟨rfl, rfl⟩]
      · rw [addH_I, if_neg (fun h => by omega), if_neg (fun h => by omega), if_neg (fun h => by omega)]
        exact f6 hv
    · have eF : aF F W t c s = F s := by
        funext y
        show (if s = t ∧ y = rN (W t) then c else F s y) = _
        rw [if_neg (fun h => est h.1)]
      have eW : aW W t (rAdd (W t) v nd tm) s = W s := if_neg est
      rw [eF, eW]
      obtain ⟨s1, s2⟩ := T1 s hs
      have hfx : ∀ q, q < 165 → q ≠ 126 + 2 * t.toNat → q ≠ 127 + 2 * t.toNat → q ≠ 4 → hI (addH x2 (126 + 2 * t.toNat) g c nd tm) q = hI x q ∧ hR (addH x2 (126 + 2 * t.toNat) g c nd tm) q = hR x q := fun q h1 h2 h3 h4 => by
        have h9 := oth q (by omega) h2 (by rcases hgq with ⟨-, e⟩ | ⟨hi, e⟩; omega; have := T2 _ _ hi; omega) (fun y hy => by have := T2 _ _ hy; omega)
        rw [h9.1, h9.2, f5 q (by omega), f7 q (by omega) h4]
        exact ⟨rfl, rfl⟩
      have p1 := hfx (126 + 2 * s.toNat) (by omega) (by omega) (by omega) (by omega)
      have p2 := hfx (127 + 2 * s.toNat) (by omega) (by omega) (by omega) (by omega)
      refine ⟨s1.kept s2.1 ⟨p1.1, p1.2, p2.2⟩ (fun y y1 y2 => ?_), s2⟩
      have hy : inR W s y := ⟨hs, y1, y2⟩
      have b1 := T2 s y hy
      have h9 := oth (F s y) (f2 s y hy) (by omega) (by
        rcases hgq with ⟨-, e⟩ | ⟨hi, e⟩
        · omega
        · rw [e]; exact fun h => est (T3 _ _ _ _ hy hi h).1) (fun y' hy' h => est (T3 _ _ _ _ hy hy' h).1)
      rw [addH_K, h9.1, h9.2, f4 _ (Or.inl (f2 s y hy)), f5 _ (f2 s y hy), f7 _ (f2 s y hy) (by omega)]
      exact ⟨rfl, rfl, rfl⟩
  · rw [addH_N.1]
    by_cases hc : s = t ∧ y = rN (W t)
    · rw [show aF F W t c s y = c from if_pos hc]; exact f1
    · rw [show aF F W t c s y = F s y from if_neg hc]
      have hi : inR W s y := by
        obtain ⟨h1, h2, h3⟩ := hy
        refine ⟨h1, h2, ?_⟩
        by_cases est : s = t
        · subst est
          rw [show aW W s (rAdd (W s) v nd tm) s = rAdd (W s) v nd tm from if_pos rfl] at h3
          have h3 : y < rN (W s) + 1 := h3
          have : ¬ y = rN (W s) := fun e => hc ⟨rfl, e⟩
          omega
        · rw [show aW W t (rAdd (W t) v nd tm) s = W s from if_neg est] at h3
          exact h3
      have := T2 s y hi
      omega
  · have inn : ∀ s y, inR (aW W t (rAdd (W t) v nd tm)) s y → ¬ (s = t ∧ y = rN (W t)) → inR W s y := fun s y hy hc => by
      obtain ⟨h1, h2, h3⟩ := hy
      refine ⟨h1, h2, ?_⟩
      by_cases est : s = t
      · subst est
        rw [show aW W s (rAdd (W s) v nd tm) s = rAdd (W s) v nd tm from if_pos rfl] at h3
        have h3 : y < rN (W s) + 1 := h3
        have : ¬ y = rN (W s) := fun e => hc ⟨rfl, e⟩
        omega
      · rw [show aW W t (rAdd (W t) v nd tm) s = W s from if_neg est] at h3
        exact h3
    by_cases hc : s = t ∧ y = rN (W t)
    · by_cases hc' : s' = t ∧ y' = rN (W t)
      · exact ⟨hc.1.trans hc'.1.symm, hc.2.trans hc'.2.symm⟩
      · rw [show aF F W t c s y = c from if_pos hc, show aF F W t c s' y' = F s' y' from if_neg hc'] at e
        exact absurd e.symm (f2 _ _ (inn _ _ hy' hc'))
    · by_cases hc' : s' = t ∧ y' = rN (W t)
      · rw [show aF F W t c s y = F s y from if_neg hc, show aF F W t c s' y' = c from if_pos hc'] at e
        exact absurd e (f2 _ _ (inn _ _ hy hc))
      · rw [show aF F W t c s y = F s y from if_neg hc, show aF F W t c s' y' = F s' y' from if_neg hc'] at e
        exact T3 _ _ _ _ (inn _ _ hy hc) (inn _ _ hy' hc') e
  · have h4 := oth 4 (by omega) (by omega) (Ne.symm hg4) (fun y hy => by have := T2 _ _ hy; omega)
    refine f12.kept ⟨by rw [h4.2], by rw [h4.2]⟩ (fun q h1 h2 h3 => ?_) (by rw [addH_N.1]; exact Nat.le_refl _)
    have h9 := oth q h3.1 (by omega) (by
      rcases hgq with ⟨-, e⟩ | ⟨hi, e⟩
      · omega
      · rw [e]; exact fun h => h3.2 _ _ hi h.symm) (fun y hy h => h3.2 _ _ hy h.symm)
    refine ⟨by rw [addH_K], by rw [h9.2], fun s y hy => ?_⟩
    by_cases hc : s = t ∧ y = rN (W t)
    · rw [show aF F W t c s y = c from if_pos hc]; exact Ne.symm h3.1
    · rw [show aF F W t c s y = F s y from if_neg hc]
      refine h3.2 s y ?_
      obtain ⟨g1, g2, g3⟩ := hy
      refine ⟨g1, g2, ?_⟩
      by_cases est : s = t
      · subst est
        rw [show aW W s (rAdd (W s) v nd tm) s = rAdd (W s) v nd tm from if_pos rfl] at g3
        have g3 : y < rN (W s) + 1 := g3
        have : ¬ y = rN (W s) := fun e => hc ⟨rfl, e⟩
        omega
      · rw [show aW W t (rAdd (W t) v nd tm) s = W s from if_neg est] at g3
        exact g3
  · have hitm : ∀ y, inR W t y → itm (hK x (F t y)) := fun y hy => by
      rw [(tb1.2.2.2.2.2 y hy.2.1 hy.2.2).1]
      unfold itm
      split
      · exact Or.inr rfl
      · exact Or.inl rfl
    have hgx : 127 ≤ g ∧ g ≤ 133 ∨ 165 ≤ g := by
      rcases hgq with ⟨-, e⟩ | ⟨hi, e⟩
      · omega
      · have := T2 _ _ hi; omega
    refine ⟨fun q hq => ?_, fun q hq => by rw [addH_K]; exact f4 q (Or.inr hq), fun q h1 h2 h3 => ?_, by rw [addH_N.1]; exact f10, by rw [addH_N.2]; exact f11, fun s hs => ?_⟩
    · have h9 := oth q (by omega) (by omega) (by omega) (fun y hy => by have := T2 _ _ hy; omega)
      refine ⟨by rw [h9.1, f5 q (by omega)], fun k hk => ?_⟩
      rw [h9.2]
      by_cases e4 : q = 4
      · subst e4
        exact f8 k (fun e => hk ⟨rfl, Or.inl e⟩) (fun e => hk ⟨rfl, Or.inr e⟩)
      · rw [f7 q (by omega) e4]
    · have hqc : q ≠ c := fun e => h3 (by
        rw [← f4 q (Or.inr h2), e, f3]
        unfold itm
        split
        · exact Or.inr rfl
        · exact Or.inl rfl)
      have h9 := oth q hqc (by omega) (fun e => h3 (by rw [e, op2]; exact Or.inr rfl)) (fun y hy e => h3 (by rw [e]; exact hitm y hy))
      rw [h9.1, h9.2, f5 q hqc, f7 q hqc (by omega)]
      exact ⟨rfl, rfl⟩
    · rw [addH_R hgc hlc, if_neg (fun h => by omega), if_neg (fun h => by omega), if_neg (fun h => by omega), if_neg (fun h => by omega), if_neg (fun h => by
        have h9 := h.2
        rw [hg5] at h9
        obtain ⟨-, y9, hy, e⟩ := op4 _ h9
        have := T2 _ _ hy
        omega), f7 _ (by omega) (by omega)]
end
