/-! the four tables, and the spare items -/
def chn (R : Nat → Int → Option Nat) : Option Nat → List Nat → Prop
  | r, [] => r = none
  | r, q :: l => r = some q ∧ chn R (R q 0) l
def PL (x : HP) (S : Nat → Prop) : Prop := (∃ l, chn (hR x) (hR x 4 7) l ∧ l.Nodup ∧ ∀ q ∈ l, hK x q = some (5, 5) ∧ (165 ≤ q ∧ q < hN x) ∧ S q) ∧ ∃ l, chn (hR x) (hR x 4 8) l ∧ l.Nodup ∧ ∀ q ∈ l, hK x q = some (6, 6) ∧ (165 ≤ q ∧ q < hN x) ∧ S q
def inR (W : Int → RW) (t y : Int) : Prop := (0 ≤ t ∧ t < 4) ∧ 0 ≤ y ∧ y < rN (W t)
def TBA (x : HP) (F : Int → Int → Nat) (W : Int → RW) : Prop := (∀ t, 0 ≤ t ∧ t < 4 → tbR (hK x) (hI x) (hR x) (126 + 2 * t.toNat) (127 + 2 * t.toNat) (F t) (W t) ∧ rOk (W t)) ∧ (∀ t y, inR W t y → 165 ≤ F t y ∧ F t y < hN x) ∧ (∀ t y s z, inR W t y → inR W s z → F t y = F s z → t = s ∧ y = z) ∧ PL x (fun q => ∀ t y, inR W t y → F t y ≠ q)
/-- an item that is about to come into a table -/
def FI (x x2 : HP) (F : Int → Int → Nat) (W : Int → RW) (c : Nat) (v : Int) : Prop := (165 ≤ c ∧ c < hN x2) ∧ (∀ t y, inR W t y → F t y ≠ c) ∧ hK x2 c = some (if v = 0 then (6, 6) else (5, 5)) ∧ (∀ q, q ≠ c ∨ q < hN x → hK x2 q = hK x q) ∧ (∀ q, q ≠ c → hI x2 q = hI x q) ∧ (v ≠ 0 → hI x2 c 4 = v) ∧ (∀ q, q ≠ c → q ≠ 4 → hR x2 q = hR x q) ∧ (∀ k, k ≠ 7 → k ≠ 8 → hR x2 4 k = hR x 4 k) ∧ (v = 0 → hR x2 c 4 = none ∧ hR x2 c 5 = none) ∧ (hN x ≤ hN x2 ∧ hN x2 ≤ hN x + 1) ∧ (hS x ≤ hS x2 ∧ hS x2 ≤ hS x + 6) ∧ PL x2 (fun q => q ≠ c ∧ ∀ t y, inR W t y → F t y ≠ q)
/-- what the tables' operations leave as it was -/
def frT (x y : HP) : Prop := (∀ q, q < 126 ∨ (134 ≤ q ∧ q < 165) → hI y q = hI x q ∧ ∀ k, ¬ (q = 4 ∧ (k = 7 ∨ k = 8)) → hR y q k = hR x q k) ∧ (∀ q, q < hN x → hK y q = hK x q) ∧ (∀ q, 165 ≤ q → q < hN x → ¬ itm (hK x q) → hI y q = hI x q ∧ hR y q = hR x q) ∧ (hN x ≤ hN y ∧ hN y ≤ hN x + 1) ∧ (hS x ≤ hS y ∧ hS y ≤ hS x + 6) ∧ ∀ t : Int, 0 ≤ t ∧ t < 4 → hR y (126 + 2 * t.toNat) 0 = hR x (126 + 2 * t.toNat) 0
section
variable {x x2 y : HP} {F : Int → Int → Nat} {W : Int → RW} {c g : Nat} {t v nd tm : Int} {R R' : Nat → Int → Option Nat} {S S' : Nat → Prop}
theorem chn.kept : ∀ (l : List Nat) (r : Option Nat), chn R r l → (∀ q ∈ l, R' q 0 = R q 0) → chn R' r l
  | [], r, h, _ => h
  | q :: l, r, h, hk => ⟨h.1, by rw [hk q List.mem_cons_self]; exact chn.kept l _ h.2 (fun p hp => hk p (List.mem_cons_of_mem _ hp))⟩
theorem PL.kept (h : PL x S) (h4 : hR y 4 7 = hR x 4 7 ∧ hR y 4 8 = hR x 4 8) (hq : ∀ q, 165 ≤ q → q < hN x → S q → hK y q = hK x q ∧ hR y q 0 = hR x q 0 ∧ S' q) (hN9 : hN x ≤ hN y) : PL y S' := by
  obtain ⟨⟨l, a1, a2, a3⟩, m, b1, b2, b3⟩ := h
  refine ⟨⟨l, ?_, a2, fun q hl => ?_⟩, m, ?_, b2, fun q hl => ?_⟩
  · rw [h4.1]
    exact chn.kept l _ a1 (fun q hl => by obtain ⟨c1, c2, c3⟩ := a3 q hl; exact (hq q c2.1 c2.2 c3).2.1)
  · obtain ⟨c1, c2, c3⟩ := a3 q hl
    obtain ⟨d1, d2, d3⟩ := hq q c2.1 c2.2 c3
    exact ⟨by rw [d1]; exact c1, ⟨c2.1, by omega⟩, d3⟩
  · rw [h4.2]
    exact chn.kept m _ b1 (fun q hl => by obtain ⟨c1, c2, c3⟩ := b3 q hl; exact (hq q c2.1 c2.2 c3).2.1)
  · obtain ⟨c1, c2, c3⟩ := b3 q hl
    obtain ⟨d1, d2, d3⟩ := hq q c2.1 c2.2 c3
    exact ⟨by rw [d1]; exact c1, ⟨c2.1, by omega⟩, d3⟩
/-- the open group of a table -/
theorem TBA.opn (hm : WD (hK x) (hR x)) (h : TBA x F W) (ht : 0 ≤ t ∧ t < 4) : opn x t (gid (127 + 2 * t.toNat) (F t) (rO (W t))) ∧ (∀ l, hR x (gid (127 + 2 * t.toNat) (F t) (rO (W t))) 5 = some l → itm (hK x l) ∧ ∃ y, inR W t y ∧ l = F t y) ∧ (hR x (gid (127 + 2 * t.toNat) (F t) (rO (W t))) 4 = none ↔ fol (rI (W t)) (rN (W t)) (-1) (rO (W t)) < 0) ∧ (0 < hI x (126 + 2 * t.toNat) 2 ↔ 0 ≤ rO (W t)) ∧ hI x (126 + 2 * t.toNat) 2 = dpA (rI (W t)) 25 0 (rO (W t)) ∧ hI x (126 + 2 * t.toNat) 3 = rN (W t) := by
  obtain ⟨⟨a1, a2, a3, a4, a5, a6⟩, ⟨⟨n1, n2⟩, ⟨o1, o2⟩, hp⟩, w2, w3, w4, w5, w6⟩ := h.1 t ht
  obtain ⟨k1, k2, k3⟩ := t_tb hm ht
  have hit : ∀ y, 0 ≤ y → y < rN (W t) → itm (hK x (F t y)) := fun y y1 y2 => by
    have := (a6 y y1 y2).1
    rw [this]
    unfold itm
    split
    · exact Or.inr rfl
    · exact Or.inl rfl
  have h4 : hR x (gid (127 + 2 * t.toNat) (F t) (rO (W t))) 4 = lkF (F t) (fol (rI (W t)) (rN (W t)) (-1) (rO (W t))) ∧ hR x (gid (127 + 2 * t.toNat) (F t) (rO (W t))) 5 = lkF (F t) (lst (rI (W t)) (rN (W t)) (rO (W t))) ∧ hK x (gid (127 + 2 * t.toNat) (F t) (rO (W t))) = some (6, 6) := by
    by_cases h0 : rO (W t) < 0
    · have e : rO (W t) = -1 := by omega
      rw [show gid (127 + 2 * t.toNat) (F t) (rO (W t)) = 127 + 2 * t.toNat from if_pos h0, e]
      exact ⟨a4, a5, k2⟩
    · rw [show gid (127 + 2 * t.toNat) (F t) (rO (W t)) = F t (rO (W t)) from if_neg h0]
      have h9 := a6 _ (by omega) o2
      have ht0 := w2 (by omega)
      have hk9 := h9.1
      rw [if_pos ht0] at hk9
      exact ⟨(h9.2.2.2.2.2.2 ht0).1, (h9.2.2.2.2.2.2 ht0).2, hk9⟩
  obtain ⟨h4, h5, h6⟩ := h4
  refine ⟨⟨a1, h6, fun q hq => ?_⟩, fun l hl => ?_, ?_, ?_, a2, a3⟩
  · rw [h4] at hq
    by_cases h0 : fol (rI (W t)) (rN (W t)) (-1) (rO (W t)) < 0
    · rw [lkF_n h0] at hq; cases hq
    · rw [lkF_s h0] at hq
      cases hq
      have hl := fol_lt (p := rI (W t)) (N := rN (W t)) (k := -1) (g := rO (W t)) ⟨by omega, by omega⟩
      rcases hit _ (by omega) hl.2 with h | h <;> rw [h] <;> trivial
  · rw [h5] at hl
    by_cases h0 : lst (rI (W t)) (rN (W t)) (rO (W t)) < 0
    · rw [lkF_n h0] at hl; cases hl
    · rw [lkF_s h0] at hl
      cases hl
      rcases lst_s (ins := rI (W t)) (g := rO (W t)) n1 with h9 | h9
      · omega
      · exact ⟨hit _ h9.1 h9.2.1, _, ⟨ht, h9.1, h9.2.1⟩, rfl⟩
  · rw [h4]
    constructor
    · intro h
      by_cases h0 : fol (rI (W t)) (rN (W t)) (-1) (rO (W t)) < 0
      · exact h0
      · rw [lkF_s h0] at h; cases h
    · exact fun h => lkF_n h
  · rw [a2]
    by_cases h0 : rO (W t) < 0
    · rw [dpA_pos h0]; omega
    · rw [dpA_neg h0]
      have := dpA_ge (p := rI (W t)) 24 (rI (W t) (rO (W t)))
      omega
end
