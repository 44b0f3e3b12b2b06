/-! how a heap of the machine holds an abstract heap -/
/-- addresses of the cells 0, 1, 2; the heap's size at the law's entry; what the cell 3 stands for; class numbers and slots; array and exception classes -/
abbrev EV : Type := (Nat → Nat) × Nat × Value × va_G × (Nat → ClassId)
def io (E : EV) (q : Nat) : Nat := if q < 4 then E.1 q else E.2.1 + (q - 4)
def cv (E : EV) (v : AV) : Value := match v with
  | .inl z => .int (Int32.ofInt z)
  | .inr (.inl z) => .long (Int64.ofInt z)
  | .inr (.inr none) => .null
  | .inr (.inr (some q)) => if q = 3 then E.2.2.1 else .ref (io E q)
/-- what a field holds -/
def fvl (E : EV) (c : Nat) (x : HP) (q k : Nat) : Value := if fty c k = 5 then cv E (vR (hR x q k)) else .int (Int32.ofInt (hI x q k))
/-- what an element holds -/
def evl (E : EV) (c : Nat) (x : HP) (q j : Nat) : Value := if c = 25 then .long (Int64.ofInt (hI x q j)) else if 26 ≤ c then cv E (vR (hR x q j)) else .int (Int32.ofInt (hI x q j))
def celP (E : EV) (s0 : State) (x : HP) (H : Heap) (q c n : Nat) : Prop :=
  (c ≤ 10 → c ≠ 4 ∧ n = clN c ∧ t_OB (io E q) (E.2.2.2.1.1 c) (clN c) (E.2.2.2.1.2 c) H (fun k => fvl E c x q k)) ∧
  (11 ≤ c → c ≤ 13 → n = 6 ∧ ∃ kX, s0.vm.classes[E.2.2.2.2 c]? = some kX ∧ kX.instanceTypes.size = 6 ∧ H[io E q]? = some (freshCell (E.2.2.2.2 c) kX)) ∧
  (14 ≤ c → c ≤ 19 → c ≤ 16 ∧ ∃ cell, H[io E q]? = some cell ∧ cell.cls = E.2.2.2.2 (c - 3) ∧ cell.vm = .none) ∧
  (20 ≤ c → c ≤ 27 ∧ n ≤ 100000 ∧ ((4 ≤ q ∧ H[io E q]? = some (arrV (E.2.2.2.2 c) n (fun j => evl E c x q j))) ∨ (q < 4 ∧ ∃ cell : Cell, H[io E q]? = some cell ∧ s0.isArrayOf cell (arT c) ∧ cell.vm ≠ .unknown ∧ (n ≤ cell.slots.size ∧ cell.slots.size.toInt32 = Int32.ofNat n) ∧ ∀ j, j < n → cell.slots[j]? = some (evl E c x q j))))
/-- ranges of what is held -/
def rgm (x : HP) (q : Nat) (j : Int) : Prop := (inL (hI x q j)) ∧ ((∀ n, hK x q ≠ some (25, n)) → inI (hI x q j) = true) ∧ (∀ n, hK x q = some (23, n) → rg 3 (hI x q j) = true)
def RL (E : EV) (s0 : State) (x : HP) (H : Heap) : Prop :=
  4 ≤ hN x ∧ H.size = E.2.1 + (hN x - 4) ∧ (∀ q c n, hK x q = some (c, n) → (q < hN x ∧ q ≠ 3 ∧ (q < 4 → 20 ≤ c)) ∧ celP E s0 x H q c n) ∧
  (∀ q, 4 ≤ q → q < hN x → ∃ k, hK x q = some k) ∧ (∀ q, q < E.2.1 → H[q]? = s0.heap[q]?) ∧ (∀ q j, rgm x q j)
/-- what holds of the surroundings -/
def EVok (E : EV) (s0 : State) : Prop := E.2.1 = s0.heap.size ∧ (∀ q, q < 3 → E.1 q < E.2.1) ∧ (E.2.2.1 = .null ∨ ∃ a, E.2.2.1 = .ref a)
theorem io_lt {E : EV} {q : Nat} (h : q < 4) : io E q = E.1 q := if_pos h
theorem io_ge {E : EV} {q : Nat} (h : 4 ≤ q) : io E q = E.2.1 + (q - 4) := if_neg (by omega)
theorem io_ne {E : EV} {s0 : State} (hE : EVok E s0) {q p : Nat} (hq : 4 ≤ q) (hp : p ≠ 3) (h : p ≠ q) : io E p ≠ io E q := by
  rw [io_ge hq]
  by_cases h4 : p < 4
  · rw [io_lt h4]
    have := hE.2.1 p (by omega)
    omega
  · rw [io_ge (by omega)]
    omega
theorem cv_I {E : EV} {z : Int} : cv E (vI z) = .int (Int32.ofInt z) := rfl
theorem cv_N {E : EV} : cv E vN = .null := rfl
theorem cv_A {E : EV} {q : Nat} (h : q ≠ 3) : cv E (vA q) = .ref (io E q) := if_neg h
theorem cv_R {E : EV} {s0 : State} (hE : EVok E s0) (r : Option Nat) : cv E (vR r) = .null ∨ ∃ a, cv E (vR r) = .ref a := by
  cases r with
  | none => exact Or.inl rfl
  | some q =>
    by_cases h : q = 3
    · subst h; exact hE.2.2
    · exact Or.inr ⟨_, cv_A h⟩
/-- a cell's picture depends on its own rows and its own cell alone -/
theorem celP.kept {E : EV} {s0 : State} {x y : HP} {H H1 : Heap} {q c n : Nat} (h : celP E s0 x H q c n) (hi : hI y q = hI x q) (hr : hR y q = hR x q) (hq : H1[io E q]? = H[io E q]?) : celP E s0 y H1 q c n := by
  obtain ⟨h1, h2, h3, h4⟩ := h
  have e1 : ∀ k, fvl E c y q k = fvl E c x q k := fun k => by simp only [fvl, hi, hr]
  have e2 : ∀ k, evl E c y q k = evl E c x q k := fun k => by simp only [evl, hi, hr]
  refine ⟨fun hc => ?_, fun a b => ?_, fun a b => ?_, fun a => ?_⟩
  · obtain ⟨a1, a2, a3⟩ := h1 hc
    exact ⟨a1, a2, (a3.kept hq).to (fun k _ => (e1 k).symm)⟩
  · rw [hq]; exact h2 a b
  · rw [hq]; exact h3 a b
  · rw [hq]; refine ⟨(h4 a).1, (h4 a).2.1, ?_⟩
    rcases (h4 a).2.2 with ⟨q4, h9⟩ | ⟨q4, cell, h9, g1, g2, g3, g4⟩
    · refine Or.inl ⟨q4, h9.trans ?_⟩
      congr 2
      funext j
      exact (e2 j).symm
    · exact Or.inr ⟨q4, cell, h9, g1, g2, g3, fun j hj => by rw [g4 j hj, e2 j]⟩
theorem celP.lt {E : EV} {s0 : State} {x : HP} {H : Heap} {q c n : Nat} (h : celP E s0 x H q c n) : ∃ cell, H[io E q]? = some cell ∧ (4 ≤ q → cell.vm = .none) := by
  obtain ⟨h1, h2, h3, h4⟩ := h
  by_cases a1 : c ≤ 10
  · obtain ⟨-, -, cell, e1, -, e3, -⟩ := h1 a1; exact ⟨cell, e1, fun _ => e3⟩
  by_cases a2 : c ≤ 13
  · obtain ⟨-, kX, -, -, e⟩ := h2 (by omega) a2; exact ⟨_, e, fun _ => rfl⟩
  by_cases a3 : c ≤ 19
  · obtain ⟨-, cell, e1, -, e3⟩ := h3 (by omega) a3; exact ⟨cell, e1, fun _ => e3⟩
  · rcases (h4 (by omega)).2.2 with ⟨q4, h9⟩ | ⟨q4, cell, h9, -⟩
    · exact ⟨_, h9, fun _ => rfl⟩
    · exact ⟨cell, h9, fun h => by omega⟩
section
variable {E : EV} {s0 : State} {x y : HP} {H H1 : Heap} {q c n : Nat}
/-- one cell is written -/
theorem RL.set (hE : EVok E s0) (h : RL E s0 x H) (hk : hK x q = some (c, n)) (h4 : 4 ≤ q) {c' n' : Nat} (eK : ∀ b, b ≠ q → hK y b = hK x b) (eQ : hK y q = some (c', n')) (eN : hN y = hN x) (eI : ∀ b, b ≠ q → hI y b = hI x b) (eR : ∀ b, b ≠ q → hR y b = hR x b)
    (hc : celP E s0 y H1 q c' n') (hs : H1.size = H.size) (ho : ∀ a, a ≠ io E q → H1[a]? = H[a]?) (hg : ∀ j, rgm y q j) (hr : c' = 25 → c = 25) : RL E s0 y H1 := by
  obtain ⟨g1, g2, g3, g4, g5, g6⟩ := h
  obtain ⟨⟨q1, q2, q3⟩, -⟩ := g3 q c n hk
  refine ⟨by rw [eN]; exact g1, by rw [hs, eN]; exact g2, fun b cb nb hb => ?_, fun b h1 h2 => ?_, fun a ha => ?_, fun b j => ?_⟩
  · by_cases e : b = q
    · subst e
      cases eQ.symm.trans hb
      exact ⟨⟨by rw [eN]; exact q1, q2, fun h => by omega⟩, hc⟩
    · rw [eK b e] at hb
      obtain ⟨p1, p2⟩ := g3 b cb nb hb
      exact ⟨⟨by rw [eN]; exact p1.1, p1.2⟩, p2.kept (eI b e) (eR b e) (ho _ (io_ne hE h4 p1.2.1 e))⟩
  · by_cases e : b = q
    · subst e; exact ⟨_, eQ⟩
    · rw [eK b e]; exact g4 b h1 (by rw [← eN]; exact h2)
  · rw [ho a (by rw [io_ge h4]; omega)]
    exact g5 a ha
  · by_cases e : b = q
    · subst e; exact hg j
    · have := g6 b j
      unfold rgm at this ⊢
      rw [eI b e, eK b e]
      exact this
/-- one cell comes -/
theorem RL.push (hE : EVok E s0) (h : RL E s0 x H) (hc : celP E s0 (nwO x c n) H1 (hN x) c n) (hs : H1.size = H.size + 1) (ho : ∀ a, a < H.size → H1[a]? = H[a]?) : RL E s0 (nwO x c n) H1 := by
  obtain ⟨g1, g2, g3, g4, g5, g6⟩ := h
  refine ⟨by show 4 ≤ hN x + 1; omega, by show H1.size = E.2.1 + (hN x + 1 - 4); omega, fun b cb nb hb => ?_, fun b h1 h2 => ?_, fun a ha => ?_, fun b j => ?_⟩
  · by_cases e : b = hN x
    · subst e
      rw [hK_nw_s] at hb
      cases hb
      exact ⟨⟨Nat.lt_succ_self _, by omega, fun h => by omega⟩, hc⟩
    · rw [hK_nw_n e] at hb
      obtain ⟨p1, p2⟩ := g3 b cb nb hb
      refine ⟨⟨Nat.lt_succ_of_lt p1.1, p1.2⟩, p2.kept (hI_nw_n e) (hR_nw_n e) (ho _ ?_)⟩
      obtain ⟨cell, h9, -⟩ := p2.lt
      exact (Array.getElem?_eq_some_iff.mp h9).1
  · by_cases e : b = hN x
    · subst e; exact ⟨_, hK_nw_s⟩
    · rw [hK_nw_n e]; exact g4 b h1 (by have : b < hN x + 1 := h2; omega)
  · rw [ho a (by omega)]
    exact g5 a ha
  · by_cases e : b = hN x
    · subst e
      unfold rgm
      rw [hI_nw_s]
      exact ⟨show inL 0 from by unfold inL; omega, fun _ => (by decide : inI 0 = true), fun _ _ => rfl⟩
    · have := g6 b j
      unfold rgm at this ⊢
      rw [hI_nw_n e, hK_nw_n e]
      exact this
/-- the cells above the entry's are no statics -/
theorem RL.vmNone (h : RL E s0 x H) {a : Nat} {cell : Cell} (ha : E.2.1 ≤ a) (hc : H[a]? = some cell) : cell.vm = .none := by
  obtain ⟨g1, g2, g3, g4, g5, g6⟩ := h
  have hlt : a < H.size := (Array.getElem?_eq_some_iff.mp hc).1
  obtain ⟨⟨k, n⟩, hk⟩ := g4 (a - E.2.1 + 4) (by omega) (by omega)
  obtain ⟨p1, p2⟩ := g3 _ _ _ hk
  obtain ⟨cell', e1, e2⟩ := p2.lt
  have : io E (a - E.2.1 + 4) = a := by rw [io_ge (by omega)]; omega
  rw [this] at e1
  cases e1.symm.trans hc
  exact e2 (by omega)
end
