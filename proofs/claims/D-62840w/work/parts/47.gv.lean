/-! give: all items of a list go to the spares -/
section
variable {x y : HP} {F : Int → Nat} {N g s : Int} {tg ins : Int → Int} {S S' : Nat → Prop} {q : Nat} {Q : AO → HP → Prop}
theorem fE (ins : Int → Int) (N g : Int) : ∀ (n : Nat) (s : Int), n = (N - s).toNat → s ≤ N → ∃ e, s ≤ e ∧ e ≤ N ∧ (∀ z, s ≤ z → z < e → g ≤ ins z) ∧ (e = N ∨ ins e < g)
  | 0, s, h1, h2 => ⟨N, h2, Int.le_refl N, fun z h3 h4 => by omega, Or.inl rfl⟩
  | n + 1, s, h1, h2 => by
    by_cases h : ins s < g
    · exact ⟨s, Int.le_refl s, h2, fun z h3 h4 => by omega, Or.inr h⟩
    · obtain ⟨e, e1, e2, e3, e4⟩ := fE ins N g n (s + 1) (by omega) (by omega)
      refine ⟨e, by omega, e2, fun z h3 h4 => ?_, e4⟩
      by_cases ez : z = s
      · rw [ez]; omega
      · exact e3 z (by omega) h4
theorem PL.push7 (h : PL y S) (hk : hK y q = some (5, 5)) (hq : 165 ≤ q ∧ q < hN y) (hn : ¬ S q) : PL (stR (stR y q 0 (hR y 4 7)) 4 7 (some q)) (fun p => S p ∨ p = q) := by
  obtain ⟨⟨l, a1, a2, a3⟩, m, b1, b2, b3⟩ := h
  have hr : ∀ p, p ≠ 4 → p ≠ q → hR (stR (stR y q 0 (hR y 4 7)) 4 7 (some q)) p = hR y p := fun p h1 h2 => by rw [hR_stR_n h1, hR_stR_n h2]
  have hnl : q ∉ l := fun h => hn (a3 q h).2.2
  refine ⟨⟨q :: l, ⟨by rw [hR_st, if_pos ⟨rfl, rfl⟩], ?_⟩, List.nodup_cons.mpr ⟨hnl, a2⟩, fun p hp => ?_⟩, m, ?_, b2, fun p hp => ?_⟩
  · rw [hR_stR_n (by omega), hR_st, if_pos ⟨rfl, rfl⟩]
    refine chn.kept l _ a1 (fun p hp => ?_)
    have := (a3 p hp).2.1
    rw [hr p (by omega) (fun e => hnl (e ▸ hp))]
  · rcases List.mem_cons.mp hp with e | hp
    · rw [e]; exact ⟨hk, hq, Or.inr rfl⟩
    · exact ⟨(a3 p hp).1, (a3 p hp).2.1, Or.inl (a3 p hp).2.2⟩
  · rw [hR_st, if_neg (fun h => by have := h.2; omega), hR_stR_n (by omega)]
    refine chn.kept m _ b1 (fun p hp => ?_)
    have d := b3 p hp
    rw [hr p (by omega) (fun e => by have := d.1; rw [e, hk] at this; cases this)]
  · exact ⟨(b3 p hp).1, (b3 p hp).2.1, Or.inl (b3 p hp).2.2⟩
theorem PL.push8 (h : PL y S) (hk : hK y q = some (6, 6)) (hq : 165 ≤ q ∧ q < hN y) (hn : ¬ S q) : PL (stR (stR y q 0 (hR y 4 8)) 4 8 (some q)) (fun p => S p ∨ p = q) := by
  obtain ⟨⟨m, b1, b2, b3⟩, l, a1, a2, a3⟩ := h
  have hr : ∀ p, p ≠ 4 → p ≠ q → hR (stR (stR y q 0 (hR y 4 8)) 4 8 (some q)) p = hR y p := fun p h1 h2 => by rw [hR_stR_n h1, hR_stR_n h2]
  have hnl : q ∉ l := fun h => hn (a3 q h).2.2
  refine ⟨⟨m, ?_, b2, fun p hp => ?_⟩, q :: l, ⟨by rw [hR_st, if_pos ⟨rfl, rfl⟩], ?_⟩, List.nodup_cons.mpr ⟨hnl, a2⟩, fun p hp => ?_⟩
  · rw [hR_st, if_neg (fun h => by have := h.2; omega), hR_stR_n (by omega)]
    refine chn.kept m _ b1 (fun p hp => ?_)
    have d := b3 p hp
    rw [hr p (by omega) (fun e => by have := d.1; rw [e, hk] at this; cases this)]
  · exact ⟨(b3 p hp).1, (b3 p hp).2.1, Or.inl (b3 p hp).2.2⟩
  · rw [hR_stR_n (by omega), hR_st, if_pos ⟨rfl, rfl⟩]
    refine chn.kept l _ a1 (fun p hp => ?_)
    have := (a3 p hp).2.1
    rw [hr p (by omega) (fun e => hnl (e ▸ hp))]
  · rcases List.mem_cons.mp hp with e | hp
    · rw [e]; exact ⟨hk, hq, Or.inr rfl⟩
    · exact ⟨(a3 p hp).1, (a3 p hp).2.1, Or.inl (a3 p hp).2.2⟩
/-- rows in D have been given back -/
def gvF (x y : HP) (F : Int → Nat) (S : Nat → Prop) (D : Int → Prop) : Prop := hK y = hK x ∧ hI y = hI x ∧ hN y = hN x ∧ hS y = hS x ∧ (∀ q k, ¬ (q = 4 ∧ (k = 7 ∨ k = 8)) → ¬ (k = 0 ∧ ∃ u, D u ∧ q = F u) → hR y q k = hR x q k) ∧ PL y (fun q => S q ∨ ∃ u, D u ∧ q = F u)
theorem PL.wk (h : PL y S) (hs : ∀ q, S q → S' q) : PL y S' := by
  obtain ⟨⟨l, a1, a2, a3⟩, m, b1, b2, b3⟩ := h
  exact ⟨⟨l, a1, a2, fun q hq => ⟨(a3 q hq).1, (a3 q hq).2.1, hs q (a3 q hq).2.2⟩⟩, m, b1, b2, fun q hq => ⟨(b3 q hq).1, (b3 q hq).2.1, hs q (b3 q hq).2.2⟩⟩
theorem gvF.push {D D' : Int → Prop} {u k : Int} (h : gvF x y F S D) (hk : (k = 7 ∧ hK x (F u) = some (5, 5)) ∨ (k = 8 ∧ hK x (F u) = some (6, 6))) (hq : 165 ≤ F u ∧ F u < hN x) (hn : ¬ (S (F u) ∨ ∃ z, D z ∧ F u = F z)) (hD : ∀ z, D z ∨ z = u → D' z) : gvF x (stR (stR y (F u) 0 (hR y 4 k)) 4 k (some (F u))) F S D' := by
  obtain ⟨g1, g2, g3, g4, g5, g6⟩ := h
  refine ⟨g1, g2, g3, g4, fun q j h1 h2 => ?_, ?_⟩
  · rw [hR_st, if_neg (fun h => h1 (by obtain ⟨e1, e2⟩ := h; refine ⟨e1, ?_⟩; rw [e2]; rcases hk with ⟨e, -⟩ | ⟨e, -⟩; exact Or.inl e; exact Or.inr e)), hR_st, if_neg (fun h => h2 ⟨h.2, u, hD u (Or.inr rfl), h.1⟩)]
    exact g5 q j h1 (fun h => h2 ⟨h.1, by obtain ⟨z, z1, z2⟩ := h.2; exact ⟨z, hD z (Or.inl z1), z2⟩⟩)
  · have fin : ∀ q, ((S q ∨ ∃ z, D z ∧ q = F z) ∨ q = F u) → S q ∨ ∃ z, D' z ∧ q = F z := fun q hq => by
      rcases hq with (h | ⟨z, z1, z2⟩) | h
      · exact Or.inl h
      · exact Or.inr ⟨z, hD z (Or.inl z1), z2⟩
      · exact Or.inr ⟨u, hD u (Or.inr rfl), h⟩
    rcases hk with ⟨rfl, hk⟩ | ⟨rfl, hk⟩
    · exact (g6.push7 (by rw [g1]; exact hk) (by rw [g3]; exact hq) hn).wk fin
    · exact (g6.push8 (by rw [g1]; exact hk) (by rw [g3]; exact hq) hn).wk fin
end
