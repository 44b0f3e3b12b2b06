/-! a rule for each kind of instruction, at any place -/
def ink (k : Nat) (o : Option (Nat × Nat)) : Int := match o with
  | some (c, _) => if c = k then 1 else 0
  | none => 0
def i56 (o : Option (Nat × Nat)) : Prop := match o with
  | some (c, _) => c = 5 ∨ c = 6
  | none => False
def bgk (o : Option (Nat × Nat)) (A B : Prop) : Prop := (isk 5 o ∧ A) ∨ (isk 6 o ∧ B)
def cpk (o p : Option (Nat × Nat)) (sp dp n : Int) : Prop := match o, p with
  | some (c1, n1), some (c2, n2) => c1 = 23 ∧ c2 = 23 ∧ 0 ≤ sp ∧ 0 ≤ dp ∧ 0 ≤ n ∧ sp + n ≤ n1 ∧ dp + n ≤ n2
  | _, _ => False
section
variable {n m : Nat} {A B : Prop} {sp dp k : Int}
theorem ink_5 : ink 5 (some (5, n)) = 1 := rfl
theorem ink_6 : ink 6 (some (6, n)) = 1 := rfl
theorem ink_56 : ink 5 (some (6, n)) = 0 := rfl
theorem ink_65 : ink 6 (some (5, n)) = 0 := rfl
theorem i56_5 : i56 (some (5, n)) ↔ True := ⟨fun _ => trivial, fun _ => Or.inl rfl⟩
theorem i56_6 : i56 (some (6, n)) ↔ True := ⟨fun _ => trivial, fun _ => Or.inr rfl⟩
theorem bgk_5 : bgk (some (5, n)) A B ↔ A := ⟨fun h => h.elim (fun h => h.2) (fun h => absurd h.1 (by simp [isk])), fun h => Or.inl ⟨rfl, h⟩⟩
theorem bgk_6 : bgk (some (6, n)) A B ↔ B := ⟨fun h => h.elim (fun h => absurd h.1 (by simp [isk])) (fun h => h.2), fun h => Or.inr ⟨rfl, h⟩⟩
theorem cpk_t (h : 0 ≤ sp ∧ 0 ≤ dp ∧ 0 ≤ k ∧ sp + k ≤ (n : Int) ∧ dp + k ≤ (m : Int)) : cpk (some (23, n)) (some (23, m)) sp dp k ↔ True := ⟨fun _ => trivial, fun _ => ⟨rfl, rfl, h⟩⟩
end
theorem inI_32 (t : Int32) : inI t.toInt = true := inI_t ⟨t.le_toInt, t.toInt_lt⟩
section
variable {r mi pc len r1 r2 r3 r4 q v d s p1 p2 k : Nat} {ls st t : List AV} {x y : HP} {Q : AO → HP → Prop} {a b z i n sp dp : Int} {o : Option Nat} {w : Option SR} {c : Prop} {ty : Nat}
theorem wq_if [Decidable c] : wq r mi pc ls x Q (if c then w else none) ↔ c ∧ wq r mi pc ls x Q w := by
  split
  · rename_i h; exact ⟨fun g => ⟨h, g⟩, fun g => g.2⟩
  · rename_i h; exact ⟨fun g => g.elim, fun g => absurd g.1 h⟩
theorem wq_d [Decidable c] : wq r mi pc ls x Q (sN (if decide c = true then p1 else p2) ls t x) ↔ if c then wp r mi p1 ls t x Q else wp r mi p2 ls t x Q := by
  by_cases h : c
  · rw [if_pos h, if_pos (decide_eq_true h)]; exact Iff.rfl
  · rw [if_neg h, if_neg (by simpa using h)]; exact Iff.rfl
theorem wq_dn [Decidable c] : wq r mi pc ls x Q (sN (if decide (¬ c) = true then p1 else p2) ls t x) ↔ if c then wp r mi p2 ls t x Q else wp r mi p1 ls t x Q := by
  by_cases h : c
  · rw [if_pos h, if_neg (by simpa using h)]; exact Iff.rfl
  · rw [if_neg h, if_pos (by simpa using h)]; exact Iff.rfl
theorem wq_sCal {mj rj : Nat} {args rest : List AV} (h3 : lok mj args = true) : wq r mi pc ls x Q (sCal mj rj args rest) ↔ sml rest = true ∧ crk r rj < r ∧ wpc (crk r rj) mj args x (wk r mi pc ls rest Q) := by
  unfold sCal
  rw [h3, Bool.true_and]
  exact wq_if
theorem g_nul (hk : wp r mi (pc + len) ls t x Q ↔ wp r mi k ls t x Q) : wq r mi pc ls x Q (oIfnull pc len r1 ls (vA q :: t) x true) ↔ nnk (hK x q) ∧ wp r mi k ls t x Q := by
  unfold oIfnull; dsimp only
  cases h : hK x q with
  | none => exact ⟨fun g => g.elim, fun g => g.1.elim⟩
  | some _ => exact ⟨fun g => ⟨trivial, hk.mp g⟩, fun g => hk.mpr g.2⟩
theorem g_nnul : wq r mi pc ls x Q (oIfnull pc len r1 ls (vA q :: t) x false) ↔ nnk (hK x q) ∧ wp r mi r1 ls t x Q := by
  unfold oIfnull; dsimp only
  cases h : hK x q with
  | none => exact ⟨fun g => g.elim, fun g => g.1.elim⟩
  | some _ => exact ⟨fun g => ⟨trivial, g⟩, fun g => g.2⟩
theorem g_getI : wq r mi pc ls x Q (oGetI pc len r1 r2 ls (vA q :: t) x) ↔ sbk r1 (hK x q) ∧ wp r mi (pc + len) ls (vI (hI x q r2) :: t) x Q := by
  unfold oGetI; dsimp only
  cases h : hK x q with
  | none => exact ⟨fun g => g.elim, fun g => g.1.elim⟩
  | some p => exact wq_if
theorem g_getR : wq r mi pc ls x Q (oGetR pc len r1 r2 ls (vA q :: t) x) ↔ sbk r1 (hK x q) ∧ wp r mi (pc + len) ls (vR (hR x q r2) :: t) x Q := by
  unfold oGetR; dsimp only
  cases h : hK x q with
  | none => exact ⟨fun g => g.elim, fun g => g.1.elim⟩
  | some p => exact wq_if
theorem g_putI : wq r mi pc ls x Q (oPutI pc len r1 r2 r3 ls (vI z :: vA q :: t) x) ↔ sbk r1 (hK x q) ∧ rg r3 z = true ∧ wp r mi (pc + len) ls t (stI x q r2 z) Q := by
  unfold oPutI; dsimp only
  cases h : hK x q with
  | none => exact ⟨fun g => g.elim, fun g => g.1.elim⟩
  | some p => exact wq_if.trans (and_congr Iff.rfl wq_if)
theorem g_putI0 : wq r mi pc ls x Q (oPutI pc len r1 r2 0 ls (vI z :: vA q :: t) x) ↔ sbk r1 (hK x q) ∧ wp r mi (pc + len) ls t (stI x q r2 z) Q :=
  g_putI.trans (and_congr Iff.rfl ⟨fun g => g.2, fun g => ⟨rfl, g⟩⟩)
theorem g_putR : wq r mi pc ls x Q (oPutR pc len r1 r2 ls (vR o :: vA q :: t) x) ↔ sbk r1 (hK x q) ∧ wp r mi (pc + len) ls t (stR x q r2 o) Q := by
  unfold oPutR; dsimp only
  cases h : hK x q with
  | none => exact ⟨fun g => g.elim, fun g => g.1.elim⟩
  | some p => exact wq_if
theorem g_new : wq r mi pc ls x Q (oNew pc len r1 r2 ls st x) ↔ nok x r2 ∧ wp r mi (pc + len) ls (vA (hN x) :: st) (nwO x r1 r2) Q := wq_if
theorem g_newA : wq r mi pc ls x Q (oNewA pc len r1 ls (vI z :: t) x) ↔ (0 ≤ z ∧ z ≤ 100000) ∧ nok x z.toNat ∧ wp r mi (pc + len) ls (vA (hN x) :: t) (nwO x r1 z.toNat) Q :=
  wq_if.trans ⟨fun g => ⟨⟨g.1.1, g.1.2.1⟩, ⟨g.1.2.2.1, g.1.2.2.2⟩, g.2⟩, fun g => ⟨⟨g.1.1, g.1.2, g.2.1.1, g.2.1.2⟩, g.2.2⟩⟩
theorem g_ldI : wq r mi pc ls x Q (oLdI pc len ls (vI i :: vA q :: t) x k) ↔ ldk k (hK x q) i ∧ wp r mi (pc + len) ls (vI (hI x q i) :: t) x Q := by
  unfold oLdI; dsimp only
  cases h : hK x q with
  | none => exact ⟨fun g => g.elim, fun g => g.1.elim⟩
  | some p => exact wq_if
theorem g_ldB : wq r mi pc ls x Q (oLdB pc len ls (vI i :: vA q :: t) x) ↔ ldb (hK x q) i ∧ wp r mi (pc + len) ls (vI (hI x q i) :: t) x Q := by
  unfold oLdB; dsimp only
  cases h : hK x q with
  | none => exact ⟨fun g => g.elim, fun g => g.1.elim⟩
  | some p => exact wq_if
theorem g_ldL : wq r mi pc ls x Q (oLdL pc len ls (vI i :: vA q :: t) x) ↔ ldk 25 (hK x q) i ∧ wp r mi (pc + len) ls (vL (hI x q i) :: t) x Q := by
  unfold oLdL; dsimp only
  cases h : hK x q with
  | none => exact ⟨fun g => g.elim, fun g => g.1.elim⟩
  | some p => exact wq_if
theorem g_ldR : wq r mi pc ls x Q (oLdR pc len ls (vI i :: vA q :: t) x) ↔ ldr (hK x q) i ∧ wp r mi (pc + len) ls (vR (hR x q i) :: t) x Q := by
  unfold oLdR; dsimp only
  cases h : hK x q with
  | none => exact ⟨fun g => g.elim, fun g => g.1.elim⟩
  | some p => exact wq_if
theorem g_stI : wq r mi pc ls x Q (oStI pc len ls (vI z :: vI i :: vA q :: t) x k ty) ↔ ldk k (hK x q) i ∧ 4 ≤ q ∧ rg ty z = true ∧ wp r mi (pc + len) ls t (stI x q i z) Q := by
  unfold oStI; dsimp only
  cases h : hK x q with
  | none => exact ⟨fun g => g.elim, fun g => g.1.elim⟩
  | some p => exact wq_if.trans ⟨fun g => ⟨⟨g.1.1, g.1.2.1, g.1.2.2.1⟩, g.1.2.2.2.1, g.1.2.2.2.2, g.2⟩, fun g => ⟨⟨g.1.1, g.1.2.1, g.1.2.2, g.2.1, g.2.2.1⟩, g.2.2.2⟩⟩
theorem g_stI0 : wq r mi pc ls x Q (oStI pc len ls (vI z :: vI i :: vA q :: t) x k 0) ↔ ldk k (hK x q) i ∧ 4 ≤ q ∧ wp r mi (pc + len) ls t (stI x q i z) Q :=
  g_stI.trans (and_congr Iff.rfl (and_congr Iff.rfl ⟨fun g => g.2, fun g => ⟨rfl, g⟩⟩))
theorem g_stB : wq r mi pc ls x Q (oStB pc len ls (vI z :: vI i :: vA q :: t) x) ↔ stb (hK x q) i z ∧ 4 ≤ q ∧ wp r mi (pc + len) ls t (stI x q i z) Q := by
  unfold oStB; dsimp only
  cases h : hK x q with
  | none => exact ⟨fun g => g.elim, fun g => g.1.elim⟩
  | some p => exact wq_if.trans ⟨fun g => ⟨⟨g.1.1, g.1.2.1, g.1.2.2.1⟩, g.1.2.2.2, g.2⟩, fun g => ⟨⟨g.1.1, g.1.2.1, g.1.2.2, g.2.1⟩, g.2.2⟩⟩
theorem g_stL : wq r mi pc ls x Q (oStL pc len ls (vL z :: vI i :: vA q :: t) x) ↔ ldk 25 (hK x q) i ∧ 4 ≤ q ∧ wp r mi (pc + len) ls t (stI x q i z) Q := by
  unfold oStL; dsimp only
  cases h : hK x q with
  | none => exact ⟨fun g => g.elim, fun g => g.1.elim⟩
  | some p => exact wq_if.trans ⟨fun g => ⟨⟨g.1.1, g.1.2.1, g.1.2.2.1⟩, g.1.2.2.2, g.2⟩, fun g => ⟨⟨g.1.1, g.1.2.1, g.1.2.2, g.2.1⟩, g.2.2⟩⟩
theorem g_stR : wq r mi pc ls x Q (oStR pc len ls (vA v :: vI i :: vA q :: t) x) ↔ str (hK x q) (hK x v) i ∧ 4 ≤ q ∧ wp r mi (pc + len) ls t (stR x q i (some v)) Q := by
  unfold oStR; dsimp only
  cases h : hK x q with
  | none => exact ⟨fun g => g.elim, fun g => g.1.elim⟩
  | some p =>
    cases h2 : hK x v with
    | none => exact ⟨fun g => g.elim, fun g => g.1.elim⟩
    | some p2 => exact wq_if.trans ⟨fun g => ⟨⟨g.1.1, g.1.2.1, g.1.2.2.1⟩, g.1.2.2.2, g.2⟩, fun g => ⟨⟨g.1.1, g.1.2.1, g.1.2.2, g.2.1⟩, g.2.2⟩⟩
theorem g_len : wq r mi pc ls x Q (oLen pc len ls (vA q :: t) x) ↔ ark (hK x q) ∧ wp r mi (pc + len) ls (vI (lnk (hK x q)) :: t) x Q := by
  unfold oLen; dsimp only
  cases h : hK x q with
  | none => exact ⟨fun g => g.elim, fun g => g.1.elim⟩
  | some p => exact wq_if
theorem g_inst : wq r mi pc ls x Q (oInst pc len r1 ls (vA q :: t) x) ↔ i56 (hK x q) ∧ wp r mi (pc + len) ls (vI (ink r1 (hK x q)) :: t) x Q := by
  unfold oInst; dsimp only
  cases h : hK x q with
  | none => exact ⟨fun g => g.elim, fun g => g.1.elim⟩
  | some p => exact wq_if
theorem g_cast : wq r mi pc ls x Q (oCast pc len r1 ls (vA q :: t) x) ↔ isk r1 (hK x q) ∧ wp r mi (pc + len) ls (vA q :: t) x Q := by
  unfold oCast; dsimp only
  cases h : hK x q with
  | none => exact ⟨fun g => g.elim, fun g => g.1.elim⟩
  | some p => exact wq_if
theorem g_copy : wq r mi pc ls x Q (oCopy pc len ls (vI n :: vI dp :: vA d :: vI sp :: vA s :: t) x) ↔ cpk (hK x s) (hK x d) sp dp n ∧ 4 ≤ d ∧ 4 ≤ s ∧ (¬ s = d) ∧ sml t = true ∧ wp r mi (pc + len) ls t (stF x d (cpy (hI x s) (hI x d) sp dp n)) Q := by
  unfold oCopy; dsimp only
  cases h : hK x s with
  | none => exact ⟨fun g => g.elim, fun g => g.1.elim⟩
  | some p =>
    cases h2 : hK x d with
    | none => exact ⟨fun g => g.elim, fun g => g.1.elim⟩
    | some p2 => exact wq_if.trans ⟨fun ⟨⟨a1, a2, a3, a4, a5, a6, a7, a8, a9, a10, a11⟩, g⟩ => ⟨⟨a1, a2, a6, a7, a8, a9, a10⟩, a3, a4, a5, a11, g⟩, fun ⟨⟨a1, a2, a6, a7, a8, a9, a10⟩, a3, a4, a5, a11, g⟩ => ⟨⟨a1, a2, a3, a4, a5, a6, a7, a8, a9, a10, a11⟩, g⟩⟩
theorem g_ret (h : wq r mi pc ls x Q (sRet (some (vI z))) ↔ Q (.inl (some (vI z))) x) : wq r mi pc ls x Q (oIret r1 [vI z]) ↔ rg r1 z = true ∧ Q (.inl (some (vI z))) x := wq_if
theorem g_rcv {c0 : Nat} {p : Nat × Nat} (h : st[r2 - 1]? = some (vA q)) : rcv r2 st x = (hK x q).map (·.1) := by
  unfold rcv
  rw [h]
  dsimp only
  cases hK x q with
  | none => rfl
  | some p => rfl
/-- a call of a constructor or of a superclass's method -/
theorem g_special (h : st[r2 - 1]? = some (vA q)) (h1 : r1 < 1000) (h2 : r2 ≤ st.length ∧ 1 ≤ r2) (h3 : lok r1 (st.take r2).reverse = true) : wq r mi pc ls x Q (oCallI pc len r1 r2 r3 r4 ls st x) ↔ nnk (hK x q) ∧ sml (st.drop r2) = true ∧ crk r r3 < r ∧ wpc (crk r r3) r1 (st.take r2).reverse x (wk r mi pc ls (st.drop r2) Q) := by
  unfold oCallI
  rw [g_rcv (c0 := 0) (p := (0, 0)) h]
  cases hK x q with
  | none => exact ⟨fun g => g.elim, fun g => g.1.elim⟩
  | some p =>
    dsimp only [Option.map]
    rw [if_neg (by omega), if_neg (by omega), if_pos h2]
    exact (wq_sCal h3).trans ⟨fun g => ⟨trivial, g⟩, fun g => g.2⟩
theorem g_obj (h : st[1 - 1]? = some (vA q)) : wq r mi pc ls x Q (oCallI pc len 1000 1 r3 r4 ls st x) ↔ nnk (hK x q) ∧ sml (st.drop 1) = true ∧ wp r mi (pc + len) ls (st.drop 1) x Q := by
  unfold oCallI
  rw [g_rcv (c0 := 0) (p := (0, 0)) h]
  cases hK x q with
  | none => exact ⟨fun g => g.elim, fun g => g.1.elim⟩
  | some p =>
    dsimp only [Option.map]
    rw [if_pos rfl]
    exact wq_if.trans ⟨fun g => ⟨trivial, g⟩, fun g => g.2⟩
theorem g_exi (hm : 13 ≤ mi) : wq r mi pc ls x Q (oCallI pc len 1001 1 r3 r4 ls (vA q :: vA q :: t) x) ↔ hK x q = some (r4, 6) ∧ sml t = true ∧ Q (.inr q) (stK x q (r4 + 3) 6) := by
  have hn : ∀ y c, hnd mi y c = none := fun y c => if_neg (Nat.not_lt.mpr hm)
  unfold oCallI
  rw [g_rcv (c0 := 0) (p := (0, 0)) (q := q) rfl]
  cases h : hK x q with
  | none => exact ⟨fun g => g.elim, fun g => by cases g.1⟩
  | some p =>
    dsimp only [Option.map]
    rw [if_neg (by decide), if_pos rfl]
    unfold oExi
    dsimp only
    refine wq_if.trans ?_
    rw [h]
    dsimp only [wq, sThr]
    rw [hn]
    exact ⟨fun g => ⟨g.1.2.1, g.1.2.2, g.2⟩, fun g => ⟨⟨rfl, g.1, g.2.1⟩, g.2.2⟩⟩
theorem g_virt (h : st[r2 - 1]? = some (vA q)) (h1 : ¬ r1 = 500) (h2 : r2 ≤ st.length ∧ 1 ≤ r2) (h3 : lok r1 (st.take r2).reverse = true) : wq r mi pc ls x Q (oCallV r1 r2 r3 r4 st x) ↔ isk r4 (hK x q) ∧ sml (st.drop r2) = true ∧ crk r r3 < r ∧ wpc (crk r r3) r1 (st.take r2).reverse x (wk r mi pc ls (st.drop r2) Q) := by
  unfold oCallV
  rw [g_rcv (c0 := 0) (p := (0, 0)) h]
  cases hK x q with
  | none => exact ⟨fun g => g.elim, fun g => g.1.elim⟩
  | some p =>
    dsimp only [Option.map]
    rw [if_pos h2, if_neg h1]
    exact wq_if.trans (and_congr Iff.rfl (wq_sCal h3))
theorem g_beg (h : st[2 - 1]? = some (vA q)) (h2 : 2 ≤ st.length) (h3 : (st.take 2).reverse.all nLg = true) : wq r mi pc ls x Q (oCallV 500 2 r3 r4 st x) ↔ bgk (hK x q) (sml (st.drop 2) = true ∧ crk r r3 < r ∧ wpc (crk r r3) 79 (st.take 2).reverse x (wk r mi pc ls (st.drop 2) Q)) (sml (st.drop 2) = true ∧ crk r r3 < r ∧ wpc (crk r r3) 80 (st.take 2).reverse x (wk r mi pc ls (st.drop 2) Q)) := by
  unfold oCallV
  rw [g_rcv (c0 := 0) (p := (0, 0)) h]
  cases hK x q with
  | none => exact ⟨fun g => g.elim, fun g => g.elim (fun g => g.1.elim) (fun g => g.1.elim)⟩
  | some p =>
    obtain ⟨c, n⟩ := p
    dsimp only [Option.map]
    have k1 : lok 79 (st.take 2).reverse = true := (if_neg (by decide)).trans h3
    have k2 : lok 80 (st.take 2).reverse = true := (if_neg (by decide)).trans h3
    rw [if_pos ⟨h2, by decide⟩, if_pos rfl]
    by_cases h5 : c = 5
    · subst h5; rw [if_pos rfl]; exact (wq_sCal k1).trans bgk_5.symm
    · rw [if_neg h5]
      by_cases h6 : c = 6
      · subst h6; rw [if_pos rfl]; exact (wq_sCal k2).trans bgk_6.symm
      · rw [if_neg h6]; exact ⟨fun g => g.elim, fun g => g.elim (fun g => absurd g.1 h5) (fun g => absurd g.1 h6)⟩
theorem g_stat (h1 : ¬ r1 = 1002) (h2 : r2 ≤ st.length) (h3 : lok r1 (st.take r2).reverse = true) : wq r mi pc ls x Q (oCallS pc len r1 r2 r3 ls st x) ↔ sml (st.drop r2) = true ∧ crk r r3 < r ∧ wpc (crk r r3) r1 (st.take r2).reverse x (wk r mi pc ls (st.drop r2) Q) := by
  unfold oCallS
  rw [if_neg h1, if_pos h2]
  exact wq_sCal h3
end
