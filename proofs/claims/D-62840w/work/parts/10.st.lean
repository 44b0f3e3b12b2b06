/-! the plain steps, one theorem an instruction: printed by gen/gen10.py -/
theorem inI_s {z : Int} (h : inI z = true) : -2147483648 ≤ z ∧ z < 2147483648 := of_decide_eq_true h
theorem iT {z : Int} (h : inI z = true) : (Int32.ofInt z).toInt = z := by
  have := inI_s h
  exact Int32.toInt_ofInt_of_le (by omega) (by omega)
theorem lT {z : Int} (h : inL z) : (Int64.ofInt z).toInt = z := by
  unfold inL at h
  exact Int64.toInt_ofInt_of_le (by omega) (by omega)
theorem i_lt {a b : Int} (ha : inI a = true) (hb : inI b = true) : Int32.ofInt a < Int32.ofInt b ↔ a < b := by rw [Int32.lt_iff_toInt_lt, iT ha, iT hb]
theorem i_le {a b : Int} (ha : inI a = true) (hb : inI b = true) : Int32.ofInt a ≤ Int32.ofInt b ↔ a ≤ b := by rw [Int32.le_iff_toInt_le, iT ha, iT hb]
theorem i_eq {a b : Int} (ha : inI a = true) (hb : inI b = true) : Int32.ofInt a = Int32.ofInt b ↔ a = b := by rw [← Int32.toInt_inj, iT ha, iT hb]
theorem i_cl {a : Int} (ha : inI a = true) : (Int32.ofInt a).toNatClampNeg = a.toNat := by
  have := inI_s ha
  exact Int32.toNatClampNeg_ofInt_of_le (by omega) (by omega)
theorem inI_0 : inI 0 = true := by decide
theorem i_in {i : Int} {n : Nat} (hi : inI i = true) (h : 0 ≤ i ∧ i < (n : Int)) : vp_in (Int32.ofInt i) n := by
  unfold vp_in
  rw [show (0 : Int32) = Int32.ofInt 0 from rfl, i_lt hi inI_0, i_cl hi]
  omega
theorem inL_64 (t : Int64) : inL t.toInt := ⟨t.le_toInt, t.toInt_lt⟩
theorem inL_I {z : Int} (h : inI z = true) : inL z := by
  have := inI_s h
  unfold inL
  omega
section
variable {E : EV} {p : Program} {l : Launch} {e : Env} {R : Room} {s0 s : State} {m : MethodId} {args : Array Value} {below : List Frame} {meth : Method} {c : Code} {H : Heap} {locs : List Loc} {cells slots nE sE r mi pc pc' len r1 r2 r3 r4 : Nat} {Q : State → Prop} {ls ls' st st' : List AV} {x x' : HP} {lc : Array Slot}
def BX (R : Room) (E : EV) (x : HP) (locs : List Loc) (cells slots nE sE r : Nat) : Prop := (∀ q ∈ locs, E.2.1 ≤ q.base) ∧ cells + nE = hN x ∧ slots + sE = hS x ∧ maxC ≤ R.cells + nE ∧ maxS ≤ R.slots + sE ∧ r + 10 ≤ R.frames ∧ 64 * r + 400 ≤ R.locals ∧ cells ≤ R.cells ∧ slots ≤ R.slots
def KT (E : EV) (p : Program) (l : Launch) (e : Env) (R : Room) (s0 s : State) (m : MethodId) (args : Array Value) (below : List Frame) (meth : Method) (c : Code) (nE sE r mi : Nat) (Q : State → Prop) (pc' : Nat) (ls' st' : List AV) (x' : HP) : Prop :=
  ∀ (H' : Heap) (locs' : List Loc) (cells' slots' : Nat) (lc' : Array Slot), RL E s0 x' H' → LR E mi ls' lc' → (∀ v ∈ st', wfv v) → BX R E x' locs' cells' slots' nE sE r → W p l e R s m args below meth c H' locs' cells' slots' Q (F0 m pc' lc' (st'.map (cv E)))

set_option maxHeartbeats 2000000 in
theorem k_iconst {n : Int} (hG : GX E p s0) (hC : CX s0 mi s m meth c) (hd : decode (mb mi) pc = .ok (.iconst n, len)) (hl : lnkE mi pc (.iconst n, len, r1, r2, r3, r4) = true) (hR : RL E s0 x H) (hL : LR E mi ls lc) (hw : ∀ v ∈ st, wfv v) (hB : BX R E x locs cells slots nE sE r) (h : astep pc (.iconst n, len, r1, r2, r3, r4) ls st x = some (.inl (pc', ls', st', x'))) (K : KT E p l e R s0 s m args below meth c nE sE r mi Q pc' ls' st' x') : W p l e R s m args below meth c H locs cells slots Q (F0 m pc lc (st.map (cv E))) := by
  have hx := hG.2.1
  have hb := hC.2.1
  simp only [lnkE, Bool.and_eq_true, decide_eq_true_eq] at hl
  obtain rfl : len = 1 := Nat.eq_of_beq_eq_true hl.2
  change sN _ _ _ _ = _ at h
  unfold sN at h
  cases h
  exact lv_iconst hx hb hd rfl (K H locs cells slots lc hR hL (List.forall_mem_cons.mpr ⟨inI_t (by have := hl.1; omega), hw⟩) hB)

set_option maxHeartbeats 2000000 in
theorem k_bipush {n : Int} (hG : GX E p s0) (hC : CX s0 mi s m meth c) (hd : decode (mb mi) pc = .ok (.bipush n, len)) (hl : lnkE mi pc (.bipush n, len, r1, r2, r3, r4) = true) (hR : RL E s0 x H) (hL : LR E mi ls lc) (hw : ∀ v ∈ st, wfv v) (hB : BX R E x locs cells slots nE sE r) (h : astep pc (.bipush n, len, r1, r2, r3, r4) ls st x = some (.inl (pc', ls', st', x'))) (K : KT E p l e R s0 s m args below meth c nE sE r mi Q pc' ls' st' x') : W p l e R s m args below meth c H locs cells slots Q (F0 m pc lc (st.map (cv E))) := by
  have hx := hG.2.1
  have hb := hC.2.1
  simp only [lnkE, Bool.and_eq_true, decide_eq_true_eq] at hl
  obtain rfl : len = 2 := Nat.eq_of_beq_eq_true hl.2
  change sN _ _ _ _ = _ at h
  unfold sN at h
  cases h
  have hr : inI n = true := inI_t (by have := hl.1; omega)
  refine lv_bipush hx hb hd (v := Int32.ofInt n) ?_ (K H locs cells slots lc hR hL (List.forall_mem_cons.mpr ⟨hr, hw⟩) hB)
  rw [← Int32.toInt_inj, Int8.toInt_toInt32, iT hr]
  exact Int8.toInt_ofInt_of_le (by have := hl.1; omega) (by have := hl.1; omega)

set_option maxHeartbeats 2000000 in
theorem k_sipush {n : Int} (hG : GX E p s0) (hC : CX s0 mi s m meth c) (hd : decode (mb mi) pc = .ok (.sipush n, len)) (hl : lnkE mi pc (.sipush n, len, r1, r2, r3, r4) = true) (hR : RL E s0 x H) (hL : LR E mi ls lc) (hw : ∀ v ∈ st, wfv v) (hB : BX R E x locs cells slots nE sE r) (h : astep pc (.sipush n, len, r1, r2, r3, r4) ls st x = some (.inl (pc', ls', st', x'))) (K : KT E p l e R s0 s m args below meth c nE sE r mi Q pc' ls' st' x') : W p l e R s m args below meth c H locs cells slots Q (F0 m pc lc (st.map (cv E))) := by
  have hx := hG.2.1
  have hb := hC.2.1
  simp only [lnkE, Bool.and_eq_true, decide_eq_true_eq] at hl
  obtain rfl : len = 3 := Nat.eq_of_beq_eq_true hl.2
  change sN _ _ _ _ = _ at h
  unfold sN at h
  cases h
  have hr : inI n = true := inI_t (by have := hl.1; omega)
  refine lv_sipush hx hb hd (v := Int32.ofInt n) ?_ (K H locs cells slots lc hR hL (List.forall_mem_cons.mpr ⟨hr, hw⟩) hB)
  rw [← Int32.toInt_inj, Int16.toInt_toInt32, iT hr]
  exact Int16.toInt_ofInt_of_le (by have := hl.1; omega) (by have := hl.1; omega)

theorem has3_s {l : List (Nat × Nat × Nat × Nat)} {a b d : Nat} (h : has3 l a b d = true) : ∃ i, (a, b, d, i) ∈ l := by
  unfold has3 at h
  obtain ⟨⟨f1, f2, f3, f4⟩, hm, hf⟩ := List.any_eq_true.mp h
  simp only [Bool.and_eq_true] at hf
  obtain ⟨h1, h2, h3⟩ := hf
  cases Nat.eq_of_beq_eq_true h1
  cases Nat.eq_of_beq_eq_true h2
  cases Nat.eq_of_beq_eq_true h3
  exact ⟨f4, hm⟩
theorem has2_s {l : List (Nat × Nat × Nat)} {a b : Nat} (h : has2 l a b = true) : ∃ i, (a, b, i) ∈ l := by
  unfold has2 at h
  obtain ⟨⟨f1, f2, f3⟩, hm, hf⟩ := List.any_eq_true.mp h
  simp only [Bool.and_eq_true] at hf
  cases Nat.eq_of_beq_eq_true hf.1
  cases Nat.eq_of_beq_eq_true hf.2
  exact ⟨f3, hm⟩

set_option maxHeartbeats 2000000 in
theorem k_ldc {i : Nat} (hG : GX E p s0) (hC : CX s0 mi s m meth c) (hd : decode (mb mi) pc = .ok (.ldc i, len)) (hl : lnkE mi pc (.ldc i, len, r1, r2, r3, r4) = true) (hR : RL E s0 x H) (hL : LR E mi ls lc) (hw : ∀ v ∈ st, wfv v) (hB : BX R E x locs cells slots nE sE r) (h : astep pc (.ldc i, len, r1, r2, r3, r4) ls st x = some (.inl (pc', ls', st', x'))) (K : KT E p l e R s0 s m args below meth c nE sE r mi Q pc' ls' st' x') : W p l e R s m args below meth c H locs cells slots Q (F0 m pc lc (st.map (cv E))) := by
  have hx := hG.2.1
  have hb := hC.2.1
  simp only [lnkE, Bool.and_eq_true, decide_eq_true_eq] at hl
  obtain rfl : len = 2 := Nat.eq_of_beq_eq_true hl.2
  change sN _ _ _ _ = _ at h
  unfold sN at h
  cases h
  obtain ⟨j, hj⟩ := has3_s hl.1
  have hk := List.all_eq_true.mp KLI_ok _ hj
  simp only [Bool.and_eq_true, decide_eq_true_eq] at hk
  have e1 : Int32.ofNat r1 = Int32.ofInt (r1 : Int) := Int32.ofInt_eq_ofNat.symm
  have hcs := hG.wd hC.1 hk.1 rfl (a := args)
  rw [e1] at hcs
  exact lv_ldc hx hb hC.2.2.2.2.1 hcs hd (K H locs cells slots lc hR hL (List.forall_mem_cons.mpr ⟨inI_t (by omega), hw⟩) hB)

set_option maxHeartbeats 2000000 in
theorem k_ldc_w {i : Nat} (hG : GX E p s0) (hC : CX s0 mi s m meth c) (hd : decode (mb mi) pc = .ok (.ldc_w i, len)) (hl : lnkE mi pc (.ldc_w i, len, r1, r2, r3, r4) = true) (hR : RL E s0 x H) (hL : LR E mi ls lc) (hw : ∀ v ∈ st, wfv v) (hB : BX R E x locs cells slots nE sE r) (h : astep pc (.ldc_w i, len, r1, r2, r3, r4) ls st x = some (.inl (pc', ls', st', x'))) (K : KT E p l e R s0 s m args below meth c nE sE r mi Q pc' ls' st' x') : W p l e R s m args below meth c H locs cells slots Q (F0 m pc lc (st.map (cv E))) := by
  have hx := hG.2.1
  have hb := hC.2.1
  simp only [lnkE, Bool.and_eq_true, decide_eq_true_eq] at hl
  obtain rfl : len = 3 := Nat.eq_of_beq_eq_true hl.2
  change sN _ _ _ _ = _ at h
  unfold sN at h
  cases h
  obtain ⟨j, hj⟩ := has3_s hl.1
  have hk := List.all_eq_true.mp KLI_ok _ hj
  simp only [Bool.and_eq_true, decide_eq_true_eq] at hk
  have e1 : Int32.ofNat r1 = Int32.ofInt (r1 : Int) := Int32.ofInt_eq_ofNat.symm
  have hcs := hG.wd hC.1 hk.1 rfl (a := args)
  rw [e1] at hcs
  exact lv_ldcw hx hb hC.2.2.2.2.1 hcs hd (K H locs cells slots lc hR hL (List.forall_mem_cons.mpr ⟨inI_t (by omega), hw⟩) hB)

set_option maxHeartbeats 2000000 in
theorem k_ldc2_w {i : Nat} (hG : GX E p s0) (hC : CX s0 mi s m meth c) (hd : decode (mb mi) pc = .ok (.ldc2_w i, len)) (hl : lnkE mi pc (.ldc2_w i, len, r1, r2, r3, r4) = true) (hR : RL E s0 x H) (hL : LR E mi ls lc) (hw : ∀ v ∈ st, wfv v) (hB : BX R E x locs cells slots nE sE r) (h : astep pc (.ldc2_w i, len, r1, r2, r3, r4) ls st x = some (.inl (pc', ls', st', x'))) (K : KT E p l e R s0 s m args below meth c nE sE r mi Q pc' ls' st' x') : W p l e R s m args below meth c H locs cells slots Q (F0 m pc lc (st.map (cv E))) := by
  have hx := hG.2.1
  have hb := hC.2.1
  simp only [lnkE, Bool.and_eq_true, decide_eq_true_eq] at hl
  obtain rfl : len = 3 := Nat.eq_of_beq_eq_true hl.2
  change sN _ _ _ _ = _ at h
  unfold sN at h
  cases h
  obtain ⟨j, hj⟩ := has3_s hl.1
  have hk := List.all_eq_true.mp KLL_ok _ hj
  simp only [Bool.and_eq_true, decide_eq_true_eq] at hk
  have e1 : Int64.ofNat r1 = Int64.ofInt (r1 : Int) := Int64.ofInt_eq_ofNat.symm
  have hcs := hG.wd hC.1 hk.1 rfl (a := args)
  rw [e1] at hcs
  exact lv_ldc2 hx hb hC.2.2.2.2.1 hcs hd (K H locs cells slots lc hR hL (List.forall_mem_cons.mpr ⟨by show inL _; unfold inL; omega, hw⟩) hB)

set_option maxHeartbeats 2000000 in
theorem k_lconst {n : Fin 2} (hG : GX E p s0) (hC : CX s0 mi s m meth c) (hd : decode (mb mi) pc = .ok (.lconst n, len)) (hl : lnkE mi pc (.lconst n, len, r1, r2, r3, r4) = true) (hR : RL E s0 x H) (hL : LR E mi ls lc) (hw : ∀ v ∈ st, wfv v) (hB : BX R E x locs cells slots nE sE r) (h : astep pc (.lconst n, len, r1, r2, r3, r4) ls st x = some (.inl (pc', ls', st', x'))) (K : KT E p l e R s0 s m args below meth c nE sE r mi Q pc' ls' st' x') : W p l e R s m args below meth c H locs cells slots Q (F0 m pc lc (st.map (cv E))) := by
  have hx := hG.2.1
  have hb := hC.2.1
  simp only [lnkE] at hl
  obtain rfl : len = 1 := Nat.eq_of_beq_eq_true hl
  change sN _ _ _ _ = _ at h
  unfold sN at h
  cases h
  refine lv_lconst hx hb hd (v := Int64.ofInt (n.val : Int)) Int64.ofInt_eq_ofNat.symm (K H locs cells slots lc hR hL (List.forall_mem_cons.mpr ⟨by show inL _; unfold inL; omega, hw⟩) hB)

set_option maxHeartbeats 2000000 in
theorem k_aconst_null  (hG : GX E p s0) (hC : CX s0 mi s m meth c) (hd : decode (mb mi) pc = .ok (.aconst_null, len)) (hl : lnkE mi pc (.aconst_null, len, r1, r2, r3, r4) = true) (hR : RL E s0 x H) (hL : LR E mi ls lc) (hw : ∀ v ∈ st, wfv v) (hB : BX R E x locs cells slots nE sE r) (h : astep pc (.aconst_null, len, r1, r2, r3, r4) ls st x = some (.inl (pc', ls', st', x'))) (K : KT E p l e R s0 s m args below meth c nE sE r mi Q pc' ls' st' x') : W p l e R s m args below meth c H locs cells slots Q (F0 m pc lc (st.map (cv E))) := by
  have hx := hG.2.1
  have hb := hC.2.1
  simp only [lnkE] at hl
  obtain rfl : len = 1 := Nat.eq_of_beq_eq_true hl
  change sN _ _ _ _ = _ at h
  unfold sN at h
  cases h
  exact lv_null hx hb hd (K H locs cells slots lc hR hL (List.forall_mem_cons.mpr ⟨trivial, hw⟩) hB)

set_option maxHeartbeats 2000000 in
theorem k_iload {i : Nat} (hG : GX E p s0) (hC : CX s0 mi s m meth c) (hd : decode (mb mi) pc = .ok (.iload i, len)) (hl : lnkE mi pc (.iload i, len, r1, r2, r3, r4) = true) (hR : RL E s0 x H) (hL : LR E mi ls lc) (hw : ∀ v ∈ st, wfv v) (hB : BX R E x locs cells slots nE sE r) (h : astep pc (.iload i, len, r1, r2, r3, r4) ls st x = some (.inl (pc', ls', st', x'))) (K : KT E p l e R s0 s m args below meth c nE sE r mi Q pc' ls' st' x') : W p l e R s m args below meth c H locs cells slots Q (F0 m pc lc (st.map (cv E))) := by
  have hx := hG.2.1
  have hb := hC.2.1
  simp only [lnkE, Bool.and_eq_true, decide_eq_true_eq] at hl
  obtain rfl : len = 2 := Nat.eq_of_beq_eq_true hl.2
  change oLoadI _ _ _ _ _ _ = _ at h
  unfold oLoadI at h
  split at h
  · rename_i z hz
    unfold sN at h
    cases h
    have hz' := hL.wf hz rfl
    exact lv_iload hx hb hd (hL.at hz hz') (K H locs cells slots lc hR hL (List.forall_mem_cons.mpr ⟨hz', hw⟩) hB)
  · cases h

set_option maxHeartbeats 2000000 in
theorem k_iload_n {i : Fin 4} (hG : GX E p s0) (hC : CX s0 mi s m meth c) (hd : decode (mb mi) pc = .ok (.iload_n i, len)) (hl : lnkE mi pc (.iload_n i, len, r1, r2, r3, r4) = true) (hR : RL E s0 x H) (hL : LR E mi ls lc) (hw : ∀ v ∈ st, wfv v) (hB : BX R E x locs cells slots nE sE r) (h : astep pc (.iload_n i, len, r1, r2, r3, r4) ls st x = some (.inl (pc', ls', st', x'))) (K : KT E p l e R s0 s m args below meth c nE sE r mi Q pc' ls' st' x') : W p l e R s m args below meth c H locs cells slots Q (F0 m pc lc (st.map (cv E))) := by
  have hx := hG.2.1
  have hb := hC.2.1
  simp only [lnkE, Bool.and_eq_true, decide_eq_true_eq] at hl
  obtain rfl : len = 1 := Nat.eq_of_beq_eq_true hl.2
  change oLoadI _ _ _ _ _ _ = _ at h
  unfold oLoadI at h
  split at h
  · rename_i z hz
    unfold sN at h
    cases h
    have hz' := hL.wf hz rfl
    exact lv_iload_n hx hb hd rfl (hL.at hz hz') (K H locs cells slots lc hR hL (List.forall_mem_cons.mpr ⟨hz', hw⟩) hB)
  · cases h

set_option maxHeartbeats 2000000 in
theorem k_lload_n {i : Fin 4} (hG : GX E p s0) (hC : CX s0 mi s m meth c) (hd : decode (mb mi) pc = .ok (.lload_n i, len)) (hl : lnkE mi pc (.lload_n i, len, r1, r2, r3, r4) = true) (hR : RL E s0 x H) (hL : LR E mi ls lc) (hw : ∀ v ∈ st, wfv v) (hB : BX R E x locs cells slots nE sE r) (h : astep pc (.lload_n i, len, r1, r2, r3, r4) ls st x = some (.inl (pc', ls', st', x'))) (K : KT E p l e R s0 s m args below meth c nE sE r mi Q pc' ls' st' x') : W p l e R s m args below meth c H locs cells slots Q (F0 m pc lc (st.map (cv E))) := by
  have hx := hG.2.1
  have hb := hC.2.1
  simp only [lnkE, Bool.and_eq_true, decide_eq_true_eq] at hl
  obtain rfl : len = 1 := Nat.eq_of_beq_eq_true hl.2
  change oLoadL _ _ _ _ _ _ = _ at h
  unfold oLoadL at h
  split at h
  · rename_i z hz
    split at h
    · rename_i hi
      unfold sN at h
      cases h
      have hz' : wfv (vL z) := show inL z from of_decide_eq_true hi
      exact lv_lload_n hx hb hd rfl (hL.at hz hz') (K H locs cells slots lc hR hL (List.forall_mem_cons.mpr ⟨hz', hw⟩) hB)
    · cases h
  · cases h

set_option maxHeartbeats 2000000 in
theorem k_aload {i : Nat} (hG : GX E p s0) (hC : CX s0 mi s m meth c) (hd : decode (mb mi) pc = .ok (.aload i, len)) (hl : lnkE mi pc (.aload i, len, r1, r2, r3, r4) = true) (hR : RL E s0 x H) (hL : LR E mi ls lc) (hw : ∀ v ∈ st, wfv v) (hB : BX R E x locs cells slots nE sE r) (h : astep pc (.aload i, len, r1, r2, r3, r4) ls st x = some (.inl (pc', ls', st', x'))) (K : KT E p l e R s0 s m args below meth c nE sE r mi Q pc' ls' st' x') : W p l e R s m args below meth c H locs cells slots Q (F0 m pc lc (st.map (cv E))) := by
  have hx := hG.2.1
  have hb := hC.2.1
  simp only [lnkE, Bool.and_eq_true, decide_eq_true_eq] at hl
  obtain rfl : len = 2 := Nat.eq_of_beq_eq_true hl.2
  change oLoadA _ _ _ _ _ _ = _ at h
  unfold oLoadA at h
  split at h
  · rename_i z hz
    unfold sN at h
    cases h
    have hz' := hL.wf hz rfl
    have hs := hL.at hz hz'
    have hk := K H locs cells slots lc hR hL (List.forall_mem_cons.mpr ⟨trivial, hw⟩) hB
    rw [List.map_cons] at hk
    rcases cv_R hG.1 z with e1 | ⟨a, e1⟩
    · rw [show cv E (vR z) = cv E (Sum.inr (Sum.inr z)) from rfl] at e1
      rw [e1] at hs hk
      exact lv_aloadN hx hb hd hs hk
    · rw [show cv E (vR z) = cv E (Sum.inr (Sum.inr z)) from rfl] at e1
      rw [e1] at hs hk
      exact lv_aload hx hb hd hs hk
  · cases h

set_option maxHeartbeats 2000000 in
theorem k_aload_n {i : Fin 4} (hG : GX E p s0) (hC : CX s0 mi s m meth c) (hd : decode (mb mi) pc = .ok (.aload_n i, len)) (hl : lnkE mi pc (.aload_n i, len, r1, r2, r3, r4) = true) (hR : RL E s0 x H) (hL : LR E mi ls lc) (hw : ∀ v ∈ st, wfv v) (hB : BX R E x locs cells slots nE sE r) (h : astep pc (.aload_n i, len, r1, r2, r3, r4) ls st x = some (.inl (pc', ls', st', x'))) (K : KT E p l e R s0 s m args below meth c nE sE r mi Q pc' ls' st' x') : W p l e R s m args below meth c H locs cells slots Q (F0 m pc lc (st.map (cv E))) := by
  have hx := hG.2.1
  have hb := hC.2.1
  simp only [lnkE, Bool.and_eq_true, decide_eq_true_eq] at hl
  obtain rfl : len = 1 := Nat.eq_of_beq_eq_true hl.2
  change oLoadA _ _ _ _ _ _ = _ at h
  unfold oLoadA at h
  split at h
  · rename_i z hz
    unfold sN at h
    cases h
    have hz' := hL.wf hz rfl
    have hs := hL.at hz hz'
    have hk := K H locs cells slots lc hR hL (List.forall_mem_cons.mpr ⟨trivial, hw⟩) hB
    rw [List.map_cons] at hk
    rcases cv_R hG.1 z with e1 | ⟨a, e1⟩
    · rw [show cv E (vR z) = cv E (Sum.inr (Sum.inr z)) from rfl] at e1
      rw [e1] at hs hk
      exact lv_aload_nN hx hb hd rfl hs hk
    · rw [show cv E (vR z) = cv E (Sum.inr (Sum.inr z)) from rfl] at e1
      rw [e1] at hs hk
      exact lv_aload_n hx hb hd rfl hs hk
  · cases h

set_option maxHeartbeats 2000000 in
theorem k_istore {i : Nat} (hG : GX E p s0) (hC : CX s0 mi s m meth c) (hd : decode (mb mi) pc = .ok (.istore i, len)) (hl : lnkE mi pc (.istore i, len, r1, r2, r3, r4) = true) (hR : RL E s0 x H) (hL : LR E mi ls lc) (hw : ∀ v ∈ st, wfv v) (hB : BX R E x locs cells slots nE sE r) (h : astep pc (.istore i, len, r1, r2, r3, r4) ls st x = some (.inl (pc', ls', st', x'))) (K : KT E p l e R s0 s m args below meth c nE sE r mi Q pc' ls' st' x') : W p l e R s m args below meth c H locs cells slots Q (F0 m pc lc (st.map (cv E))) := by
  have hx := hG.2.1
  have hb := hC.2.1
  simp only [lnkE, Bool.and_eq_true] at hl
  obtain ⟨hs, hi, hlen⟩ := hl
  obtain rfl : len = 2 := Nat.eq_of_beq_eq_true hlen
  change oStoreI _ _ _ _ _ _ = _ at h
  unfold oStoreI at h
  split at h
  · rename_i z t
    split at h
    · unfold sN at h
      cases h
      obtain ⟨lc', e1, hL'⟩ := hL.store hG.1 (v := vI z) (Nat.le_of_ble_eq_true hi) hs rfl (hw _ List.mem_cons_self)
      intro T hT X
      obtain ⟨t1, a, b⟩ := K H locs cells slots lc' hR hL' (fun v hv => hw v (List.mem_cons_of_mem _ hv)) hB T hT X
      refine ⟨t1, ?_, b⟩
      have e2 : storeLocals lc i (.int (Int32.ofInt z)) = some lc' := e1
      jvm_step X.here [X.here.top, ↓top_set X.here.top, hx, hb, hd, e2, List.map_cons, cv]
      exact a
    · cases h
  · cases h

set_option maxHeartbeats 2000000 in
theorem k_istore_n {i : Fin 4} (hG : GX E p s0) (hC : CX s0 mi s m meth c) (hd : decode (mb mi) pc = .ok (.istore_n i, len)) (hl : lnkE mi pc (.istore_n i, len, r1, r2, r3, r4) = true) (hR : RL E s0 x H) (hL : LR E mi ls lc) (hw : ∀ v ∈ st, wfv v) (hB : BX R E x locs cells slots nE sE r) (h : astep pc (.istore_n i, len, r1, r2, r3, r4) ls st x = some (.inl (pc', ls', st', x'))) (K : KT E p l e R s0 s m args below meth c nE sE r mi Q pc' ls' st' x') : W p l e R s m args below meth c H locs cells slots Q (F0 m pc lc (st.map (cv E))) := by
  have hx := hG.2.1
  have hb := hC.2.1
  simp only [lnkE, Bool.and_eq_true] at hl
  obtain ⟨hs, hi, hlen⟩ := hl
  obtain rfl : len = 1 := Nat.eq_of_beq_eq_true hlen
  change oStoreI _ _ _ _ _ _ = _ at h
  unfold oStoreI at h
  split at h
  · rename_i z t
    split at h
    · unfold sN at h
      cases h
      obtain ⟨lc', e1, hL'⟩ := hL.store hG.1 (v := vI z) (Nat.le_of_ble_eq_true hi) hs rfl (hw _ List.mem_cons_self)
      intro T hT X
      obtain ⟨t1, a, b⟩ := K H locs cells slots lc' hR hL' (fun v hv => hw v (List.mem_cons_of_mem _ hv)) hB T hT X
      refine ⟨t1, ?_, b⟩
      have e2 : storeLocals lc i.val (.int (Int32.ofInt z)) = some lc' := e1
      jvm_step X.here [X.here.top, ↓top_set X.here.top, hx, hb, hd, e2, List.map_cons, cv]
      exact a
    · cases h
  · cases h

set_option maxHeartbeats 2000000 in
theorem k_astore {i : Nat} (hG : GX E p s0) (hC : CX s0 mi s m meth c) (hd : decode (mb mi) pc = .ok (.astore i, len)) (hl : lnkE mi pc (.astore i, len, r1, r2, r3, r4) = true) (hR : RL E s0 x H) (hL : LR E mi ls lc) (hw : ∀ v ∈ st, wfv v) (hB : BX R E x locs cells slots nE sE r) (h : astep pc (.astore i, len, r1, r2, r3, r4) ls st x = some (.inl (pc', ls', st', x'))) (K : KT E p l e R s0 s m args below meth c nE sE r mi Q pc' ls' st' x') : W p l e R s m args below meth c H locs cells slots Q (F0 m pc lc (st.map (cv E))) := by
  have hx := hG.2.1
  have hb := hC.2.1
  simp only [lnkE, Bool.and_eq_true] at hl
  obtain ⟨hs, hi, hlen⟩ := hl
  obtain rfl : len = 2 := Nat.eq_of_beq_eq_true hlen
  change oStoreA _ _ _ _ _ _ = _ at h
  unfold oStoreA at h
  split at h
  · rename_i z t
    split at h
    · unfold sN at h
      cases h
      obtain ⟨lc', e1, hL'⟩ := hL.store hG.1 (v := vR z) (Nat.le_of_ble_eq_true hi) hs rfl trivial
      have hk := K H locs cells slots lc' hR hL' (fun v hv => hw v (List.mem_cons_of_mem _ hv)) hB
      intro T hT X
      obtain ⟨t1, a, b⟩ := hk T hT X
      refine ⟨t1, ?_, b⟩
      rw [List.map_cons]
      rcases cv_R hG.1 z with e3 | ⟨a9, e3⟩
      · rw [e3] at e1
        rw [show cv E (Sum.inr (Sum.inr z)) = cv E (vR z) from rfl, e3]
        jvm_step X.here [X.here.top, ↓top_set X.here.top, hx, hb, hd, e1, Value.isRef]
        exact a
      · rw [e3] at e1
        rw [show cv E (Sum.inr (Sum.inr z)) = cv E (vR z) from rfl, e3]
        jvm_step X.here [X.here.top, ↓top_set X.here.top, hx, hb, hd, e1, Value.isRef]
        exact a
    · cases h
  · cases h

set_option maxHeartbeats 2000000 in
theorem k_astore_n {i : Fin 4} (hG : GX E p s0) (hC : CX s0 mi s m meth c) (hd : decode (mb mi) pc = .ok (.astore_n i, len)) (hl : lnkE mi pc (.astore_n i, len, r1, r2, r3, r4) = true) (hR : RL E s0 x H) (hL : LR E mi ls lc) (hw : ∀ v ∈ st, wfv v) (hB : BX R E x locs cells slots nE sE r) (h : astep pc (.astore_n i, len, r1, r2, r3, r4) ls st x = some (.inl (pc', ls', st', x'))) (K : KT E p l e R s0 s m args below meth c nE sE r mi Q pc' ls' st' x') : W p l e R s m args below meth c H locs cells slots Q (F0 m pc lc (st.map (cv E))) := by
  have hx := hG.2.1
  have hb := hC.2.1
  simp only [lnkE, Bool.and_eq_true] at hl
  obtain ⟨hs, hi, hlen⟩ := hl
  obtain rfl : len = 1 := Nat.eq_of_beq_eq_true hlen
  change oStoreA _ _ _ _ _ _ = _ at h
  unfold oStoreA at h
  split at h
  · rename_i z t
    split at h
    · unfold sN at h
      cases h
      obtain ⟨lc', e1, hL'⟩ := hL.store hG.1 (v := vR z) (Nat.le_of_ble_eq_true hi) hs rfl trivial
      have hk := K H locs cells slots lc' hR hL' (fun v hv => hw v (List.mem_cons_of_mem _ hv)) hB
      intro T hT X
      obtain ⟨t1, a, b⟩ := hk T hT X
      refine ⟨t1, ?_, b⟩
      rw [List.map_cons]
      rcases cv_R hG.1 z with e3 | ⟨a9, e3⟩
      · rw [e3] at e1
        rw [show cv E (Sum.inr (Sum.inr z)) = cv E (vR z) from rfl, e3]
        jvm_step X.here [X.here.top, ↓top_set X.here.top, hx, hb, hd, e1, Value.isRef]
        exact a
      · rw [e3] at e1
        rw [show cv E (Sum.inr (Sum.inr z)) = cv E (vR z) from rfl, e3]
        jvm_step X.here [X.here.top, ↓top_set X.here.top, hx, hb, hd, e1, Value.isRef]
        exact a
    · cases h
  · cases h

set_option maxHeartbeats 2000000 in
theorem k_iinc {i : Nat} {n : Int} (hG : GX E p s0) (hC : CX s0 mi s m meth c) (hd : decode (mb mi) pc = .ok (.iinc i n, len)) (hl : lnkE mi pc (.iinc i n, len, r1, r2, r3, r4) = true) (hR : RL E s0 x H) (hL : LR E mi ls lc) (hw : ∀ v ∈ st, wfv v) (hB : BX R E x locs cells slots nE sE r) (h : astep pc (.iinc i n, len, r1, r2, r3, r4) ls st x = some (.inl (pc', ls', st', x'))) (K : KT E p l e R s0 s m args below meth c nE sE r mi Q pc' ls' st' x') : W p l e R s m args below meth c H locs cells slots Q (F0 m pc lc (st.map (cv E))) := by
  have hx := hG.2.1
  have hb := hC.2.1
  simp only [lnkE, Bool.and_eq_true, decide_eq_true_eq] at hl
  obtain ⟨hs, hi, hn, hlen⟩ := hl
  obtain rfl : len = 3 := Nat.eq_of_beq_eq_true hlen
  change oInc _ _ _ _ _ _ _ = _ at h
  unfold oInc at h
  split at h
  · rename_i z hz
    split at h
    · rename_i hin
      unfold sN at h
      cases h
      obtain ⟨lc', e1, hL'⟩ := hL.store hG.1 (v := vI (z + n)) (Nat.le_of_ble_eq_true hi) hs rfl hin
      have hg := hL.at hz (hL.wf hz rfl)
      have hg2 : lc[i]? = some (.val (.int (Int32.ofInt z))) := hg
      have e2 : storeLocals lc i (.int (Int32.ofInt z + Int32.ofInt n)) = some lc' := by rw [← Int32.ofInt_add]; exact e1
      intro T hT X
      obtain ⟨t1, a, b⟩ := K H locs cells slots lc' hR hL' hw hB T hT X
      refine ⟨t1, ?_, b⟩
      jvm_step X.here [X.here.top, ↓top_set X.here.top, hx, hb, hd, hg2, e2]
      exact a
    · cases h
  · cases h

set_option maxHeartbeats 2000000 in
theorem k_iadd  (hG : GX E p s0) (hC : CX s0 mi s m meth c) (hd : decode (mb mi) pc = .ok (.iadd, len)) (hl : lnkE mi pc (.iadd, len, r1, r2, r3, r4) = true) (hR : RL E s0 x H) (hL : LR E mi ls lc) (hw : ∀ v ∈ st, wfv v) (hB : BX R E x locs cells slots nE sE r) (h : astep pc (.iadd, len, r1, r2, r3, r4) ls st x = some (.inl (pc', ls', st', x'))) (K : KT E p l e R s0 s m args below meth c nE sE r mi Q pc' ls' st' x') : W p l e R s m args below meth c H locs cells slots Q (F0 m pc lc (st.map (cv E))) := by
  have hx := hG.2.1
  have hb := hC.2.1
  simp only [lnkE] at hl
  obtain rfl : len = 1 := Nat.eq_of_beq_eq_true hl
  change oBin _ _ _ _ _ _ = _ at h
  unfold oBin at h
  split at h
  · rename_i b a t
    split at h
    · rename_i hin
      unfold sN at h
      cases h
      have hk := K H locs cells slots lc hR hL (List.forall_mem_cons.mpr ⟨hin, fun v hv => hw v (List.mem_cons_of_mem _ (List.mem_cons_of_mem _ hv))⟩) hB
      rw [List.map_cons] at hk
      refine lv_iadd hx hb hd ?_
      have e9 : cv E (vI (a + b)) = .int (Int32.ofInt a + Int32.ofInt b) := by rw [cv_I, Int32.ofInt_add]
      rw [← e9]
      exact hk
    · cases h
  · cases h

set_option maxHeartbeats 2000000 in
theorem k_isub  (hG : GX E p s0) (hC : CX s0 mi s m meth c) (hd : decode (mb mi) pc = .ok (.isub, len)) (hl : lnkE mi pc (.isub, len, r1, r2, r3, r4) = true) (hR : RL E s0 x H) (hL : LR E mi ls lc) (hw : ∀ v ∈ st, wfv v) (hB : BX R E x locs cells slots nE sE r) (h : astep pc (.isub, len, r1, r2, r3, r4) ls st x = some (.inl (pc', ls', st', x'))) (K : KT E p l e R s0 s m args below meth c nE sE r mi Q pc' ls' st' x') : W p l e R s m args below meth c H locs cells slots Q (F0 m pc lc (st.map (cv E))) := by
  have hx := hG.2.1
  have hb := hC.2.1
  simp only [lnkE] at hl
  obtain rfl : len = 1 := Nat.eq_of_beq_eq_true hl
  change oBin _ _ _ _ _ _ = _ at h
  unfold oBin at h
  split at h
  · rename_i b a t
    split at h
    · rename_i hin
      unfold sN at h
      cases h
      have hk := K H locs cells slots lc hR hL (List.forall_mem_cons.mpr ⟨hin, fun v hv => hw v (List.mem_cons_of_mem _ (List.mem_cons_of_mem _ hv))⟩) hB
      rw [List.map_cons] at hk
      refine lv_isub hx hb hd ?_
      have e9 : cv E (vI (a - b)) = .int (Int32.ofInt a - Int32.ofInt b) := by rw [cv_I, Int32.ofInt_sub]
      rw [← e9]
      exact hk
    · cases h
  · cases h

set_option maxHeartbeats 2000000 in
theorem k_imul  (hG : GX E p s0) (hC : CX s0 mi s m meth c) (hd : decode (mb mi) pc = .ok (.imul, len)) (hl : lnkE mi pc (.imul, len, r1, r2, r3, r4) = true) (hR : RL E s0 x H) (hL : LR E mi ls lc) (hw : ∀ v ∈ st, wfv v) (hB : BX R E x locs cells slots nE sE r) (h : astep pc (.imul, len, r1, r2, r3, r4) ls st x = some (.inl (pc', ls', st', x'))) (K : KT E p l e R s0 s m args below meth c nE sE r mi Q pc' ls' st' x') : W p l e R s m args below meth c H locs cells slots Q (F0 m pc lc (st.map (cv E))) := by
  have hx := hG.2.1
  have hb := hC.2.1
  simp only [lnkE] at hl
  obtain rfl : len = 1 := Nat.eq_of_beq_eq_true hl
  change oBin _ _ _ _ _ _ = _ at h
  unfold oBin at h
  split at h
  · rename_i b a t
    split at h
    · rename_i hin
      unfold sN at h
      cases h
      have hk := K H locs cells slots lc hR hL (List.forall_mem_cons.mpr ⟨hin, fun v hv => hw v (List.mem_cons_of_mem _ (List.mem_cons_of_mem _ hv))⟩) hB
      rw [List.map_cons] at hk
      refine lv_imul hx hb hd ?_
      have e9 : cv E (vI (a * b)) = .int (Int32.ofInt a * Int32.ofInt b) := by rw [cv_I, Int32.ofInt_mul]
      rw [← e9]
      exact hk
    · cases h
  · cases h

set_option maxHeartbeats 2000000 in
theorem k_iand  (hG : GX E p s0) (hC : CX s0 mi s m meth c) (hd : decode (mb mi) pc = .ok (.iand, len)) (hl : lnkE mi pc (.iand, len, r1, r2, r3, r4) = true) (hR : RL E s0 x H) (hL : LR E mi ls lc) (hw : ∀ v ∈ st, wfv v) (hB : BX R E x locs cells slots nE sE r) (h : astep pc (.iand, len, r1, r2, r3, r4) ls st x = some (.inl (pc', ls', st', x'))) (K : KT E p l e R s0 s m args below meth c nE sE r mi Q pc' ls' st' x') : W p l e R s m args below meth c H locs cells slots Q (F0 m pc lc (st.map (cv E))) := by
  have hx := hG.2.1
  have hb := hC.2.1
  simp only [lnkE] at hl
  obtain rfl : len = 1 := Nat.eq_of_beq_eq_true hl
  change oBin _ _ _ _ _ _ = _ at h
  unfold oBin at h
  split at h
  · rename_i b a t
    split at h
    · rename_i hin
      unfold sN at h
      cases h
      have hk := K H locs cells slots lc hR hL (List.forall_mem_cons.mpr ⟨hin, fun v hv => hw v (List.mem_cons_of_mem _ (List.mem_cons_of_mem _ hv))⟩) hB
      rw [List.map_cons] at hk
      refine lv_iand hx hb hd ?_
      have e9 : cv E (vI (iAnd a b)) = .int (Int32.ofInt a &&& Int32.ofInt b) := by rw [cv_I, iAnd, Int32.ofInt_toInt]
      rw [← e9]
      exact hk
    · cases h
  · cases h

set_option maxHeartbeats 2000000 in
theorem k_ior  (hG : GX E p s0) (hC : CX s0 mi s m meth c) (hd : decode (mb mi) pc = .ok (.ior, len)) (hl : lnkE mi pc (.ior, len, r1, r2, r3, r4) = true) (hR : RL E s0 x H) (hL : LR E mi ls lc) (hw : ∀ v ∈ st, wfv v) (hB : BX R E x locs cells slots nE sE r) (h : astep pc (.ior, len, r1, r2, r3, r4) ls st x = some (.inl (pc', ls', st', x'))) (K : KT E p l e R s0 s m args below meth c nE sE r mi Q pc' ls' st' x') : W p l e R s m args below meth c H locs cells slots Q (F0 m pc lc (st.map (cv E))) := by
  have hx := hG.2.1
  have hb := hC.2.1
  simp only [lnkE] at hl
  obtain rfl : len = 1 := Nat.eq_of_beq_eq_true hl
  change oBin _ _ _ _ _ _ = _ at h
  unfold oBin at h
  split at h
  · rename_i b a t
    split at h
    · rename_i hin
      unfold sN at h
      cases h
      have hk := K H locs cells slots lc hR hL (List.forall_mem_cons.mpr ⟨hin, fun v hv => hw v (List.mem_cons_of_mem _ (List.mem_cons_of_mem _ hv))⟩) hB
      rw [List.map_cons] at hk
      refine lv_ior hx hb hd ?_
      have e9 : cv E (vI (iOr a b)) = .int (Int32.ofInt a ||| Int32.ofInt b) := by rw [cv_I, iOr, Int32.ofInt_toInt]
      rw [← e9]
      exact hk
    · cases h
  · cases h

set_option maxHeartbeats 2000000 in
theorem k_ishl  (hG : GX E p s0) (hC : CX s0 mi s m meth c) (hd : decode (mb mi) pc = .ok (.ishl, len)) (hl : lnkE mi pc (.ishl, len, r1, r2, r3, r4) = true) (hR : RL E s0 x H) (hL : LR E mi ls lc) (hw : ∀ v ∈ st, wfv v) (hB : BX R E x locs cells slots nE sE r) (h : astep pc (.ishl, len, r1, r2, r3, r4) ls st x = some (.inl (pc', ls', st', x'))) (K : KT E p l e R s0 s m args below meth c nE sE r mi Q pc' ls' st' x') : W p l e R s m args below meth c H locs cells slots Q (F0 m pc lc (st.map (cv E))) := by
  have hx := hG.2.1
  have hb := hC.2.1
  simp only [lnkE] at hl
  obtain rfl : len = 1 := Nat.eq_of_beq_eq_true hl
  change oBin _ _ _ _ _ _ = _ at h
  unfold oBin at h
  split at h
  · rename_i b a t
    split at h
    · rename_i hin
      unfold sN at h
      cases h
      have hk := K H locs cells slots lc hR hL (List.forall_mem_cons.mpr ⟨hin, fun v hv => hw v (List.mem_cons_of_mem _ (List.mem_cons_of_mem _ hv))⟩) hB
      rw [List.map_cons] at hk
      refine lv_ishl hx hb hd ?_
      have e9 : cv E (vI (iShl a b)) = .int (Int32.ofInt a <<< (Int32.ofInt b &&& 31)) := by rw [cv_I, iShl, Int32.ofInt_toInt]
      rw [← e9]
      exact hk
    · cases h
  · cases h

set_option maxHeartbeats 2000000 in
theorem k_ishr  (hG : GX E p s0) (hC : CX s0 mi s m meth c) (hd : decode (mb mi) pc = .ok (.ishr, len)) (hl : lnkE mi pc (.ishr, len, r1, r2, r3, r4) = true) (hR : RL E s0 x H) (hL : LR E mi ls lc) (hw : ∀ v ∈ st, wfv v) (hB : BX R E x locs cells slots nE sE r) (h : astep pc (.ishr, len, r1, r2, r3, r4) ls st x = some (.inl (pc', ls', st', x'))) (K : KT E p l e R s0 s m args below meth c nE sE r mi Q pc' ls' st' x') : W p l e R s m args below meth c H locs cells slots Q (F0 m pc lc (st.map (cv E))) := by
  have hx := hG.2.1
  have hb := hC.2.1
  simp only [lnkE] at hl
  obtain rfl : len = 1 := Nat.eq_of_beq_eq_true hl
  change oBin _ _ _ _ _ _ = _ at h
  unfold oBin at h
  split at h
  · rename_i b a t
    split at h
    · rename_i hin
      unfold sN at h
      cases h
      have hk := K H locs cells slots lc hR hL (List.forall_mem_cons.mpr ⟨hin, fun v hv => hw v (List.mem_cons_of_mem _ (List.mem_cons_of_mem _ hv))⟩) hB
      rw [List.map_cons] at hk
      refine lv_ishr hx hb hd ?_
      have e9 : cv E (vI (iShr a b)) = .int (Int32.ofInt a >>> (Int32.ofInt b &&& 31)) := by rw [cv_I, iShr, Int32.ofInt_toInt]
      rw [← e9]
      exact hk
    · cases h
  · cases h

theorem i_div {a b : Int} (ha : inI a = true) (hb : inI b = true) (h : 0 ≤ a ∧ 0 < b) : Int32.ofInt a / Int32.ofInt b = Int32.ofInt (a / b) ∧ inI (a / b) = true := by
  have h1 := inI_s ha
  have h2 := inI_s hb
  have h3 : 0 ≤ a / b := Int.ediv_nonneg h.1 (by omega)
  have h4 : a / b ≤ a := Int.ediv_le_self b h.1
  have hr : inI (a / b) = true := inI_t (by omega)
  refine ⟨?_, hr⟩
  rw [← Int32.toInt_inj, Int32.toInt_div_of_ne_right _ _ (fun e => ?_), iT ha, iT hb, iT hr, Int.tdiv_eq_ediv_of_nonneg h.1]
  have : (Int32.ofInt b).toInt = (-1 : Int32).toInt := by rw [e]
  rw [iT hb] at this
  have e2 : (-1 : Int32).toInt = -1 := by decide
  omega

set_option maxHeartbeats 2000000 in
theorem k_idiv  (hG : GX E p s0) (hC : CX s0 mi s m meth c) (hd : decode (mb mi) pc = .ok (.idiv, len)) (hl : lnkE mi pc (.idiv, len, r1, r2, r3, r4) = true) (hR : RL E s0 x H) (hL : LR E mi ls lc) (hw : ∀ v ∈ st, wfv v) (hB : BX R E x locs cells slots nE sE r) (h : astep pc (.idiv, len, r1, r2, r3, r4) ls st x = some (.inl (pc', ls', st', x'))) (K : KT E p l e R s0 s m args below meth c nE sE r mi Q pc' ls' st' x') : W p l e R s m args below meth c H locs cells slots Q (F0 m pc lc (st.map (cv E))) := by
  have hx := hG.2.1
  have hb := hC.2.1
  simp only [lnkE] at hl
  obtain rfl : len = 1 := Nat.eq_of_beq_eq_true hl
  change oDiv _ _ _ _ _ _ = _ at h
  unfold oDiv at h
  split at h
  · rename_i b a t
    split at h
    · rename_i hin
      unfold sN at h
      cases h
      have ha : inI a = true := hw _ (List.mem_cons_of_mem _ List.mem_cons_self)
      have hb' : inI b = true := hw _ List.mem_cons_self
      obtain ⟨e1, hr⟩ := i_div ha hb' hin
      have h1 := inI_s ha
      have h2 := inI_s hb'
      have hne : ¬ Int32.ofInt b = 0 := fun e => by
        have : b = 0 := (i_eq hb' inI_0).mp e
        omega
      have hk := K H locs cells slots lc hR hL (List.forall_mem_cons.mpr ⟨hr, fun v hv => hw v (List.mem_cons_of_mem _ (List.mem_cons_of_mem _ hv))⟩) hB
      rw [List.map_cons] at hk
      refine lv_idiv hx hb hd hne ?_
      rw [e1]
      exact hk
    · cases h
  · cases h

set_option maxHeartbeats 2000000 in
theorem k_irem  (hG : GX E p s0) (hC : CX s0 mi s m meth c) (hd : decode (mb mi) pc = .ok (.irem, len)) (hl : lnkE mi pc (.irem, len, r1, r2, r3, r4) = true) (hR : RL E s0 x H) (hL : LR E mi ls lc) (hw : ∀ v ∈ st, wfv v) (hB : BX R E x locs cells slots nE sE r) (h : astep pc (.irem, len, r1, r2, r3, r4) ls st x = some (.inl (pc', ls', st', x'))) (K : KT E p l e R s0 s m args below meth c nE sE r mi Q pc' ls' st' x') : W p l e R s m args below meth c H locs cells slots Q (F0 m pc lc (st.map (cv E))) := by
  have hx := hG.2.1
  have hb := hC.2.1
  simp only [lnkE] at hl
  obtain rfl : len = 1 := Nat.eq_of_beq_eq_true hl
  change oDiv _ _ _ _ _ _ = _ at h
  unfold oDiv at h
  split at h
  · rename_i b a t
    split at h
    · rename_i hin
      unfold sN at h
      cases h
      have ha : inI a = true := hw _ (List.mem_cons_of_mem _ List.mem_cons_self)
      have hb' : inI b = true := hw _ List.mem_cons_self
      obtain ⟨e1, hr⟩ := i_div ha hb' hin
      have h1 := inI_s ha
      have h2 := inI_s hb'
      have hne : ¬ Int32.ofInt b = 0 := fun e => by
        have : b = 0 := (i_eq hb' inI_0).mp e
        omega
      have hm1 : 0 ≤ a % b := Int.emod_nonneg _ (by omega)
      have hm2 : a % b < b := Int.emod_lt_of_pos _ (by omega)
      have hk := K H locs cells slots lc hR hL (List.forall_mem_cons.mpr ⟨inI_t (show -2147483648 ≤ a % b ∧ a % b < 2147483648 by omega), fun v hv => hw v (List.mem_cons_of_mem _ (List.mem_cons_of_mem _ hv))⟩) hB
      rw [List.map_cons] at hk
      refine lv_irem hx hb hd hne ?_
      have e2 : Int32.ofInt a - Int32.ofInt a / Int32.ofInt b * Int32.ofInt b = Int32.ofInt (a % b) := by
        rw [e1, ← Int32.ofInt_mul, ← Int32.ofInt_sub, Int.emod_def, Int.mul_comm]
      rw [e2]
      exact hk
    · cases h
  · cases h

set_option maxHeartbeats 2000000 in
theorem k_ineg  (hG : GX E p s0) (hC : CX s0 mi s m meth c) (hd : decode (mb mi) pc = .ok (.ineg, len)) (hl : lnkE mi pc (.ineg, len, r1, r2, r3, r4) = true) (hR : RL E s0 x H) (hL : LR E mi ls lc) (hw : ∀ v ∈ st, wfv v) (hB : BX R E x locs cells slots nE sE r) (h : astep pc (.ineg, len, r1, r2, r3, r4) ls st x = some (.inl (pc', ls', st', x'))) (K : KT E p l e R s0 s m args below meth c nE sE r mi Q pc' ls' st' x') : W p l e R s m args below meth c H locs cells slots Q (F0 m pc lc (st.map (cv E))) := by
  have hx := hG.2.1
  have hb := hC.2.1
  simp only [lnkE] at hl
  obtain rfl : len = 1 := Nat.eq_of_beq_eq_true hl
  change oUn _ _ _ _ _ _ = _ at h
  unfold oUn at h
  split at h
  · rename_i a t
    split at h
    · rename_i hin
      unfold sN at h
      cases h
      have hk := K H locs cells slots lc hR hL (List.forall_mem_cons.mpr ⟨hin, fun v hv => hw v (List.mem_cons_of_mem _ hv)⟩) hB
      rw [List.map_cons] at hk
      refine lv_ineg hx hb hd ?_
      have e9 : cv E (vI (-a)) = .int (-Int32.ofInt a) := by rw [cv_I, Int32.ofInt_neg]
      rw [← e9]
      exact hk
    · cases h
  · cases h

set_option maxHeartbeats 2000000 in
theorem k_i2c  (hG : GX E p s0) (hC : CX s0 mi s m meth c) (hd : decode (mb mi) pc = .ok (.i2c, len)) (hl : lnkE mi pc (.i2c, len, r1, r2, r3, r4) = true) (hR : RL E s0 x H) (hL : LR E mi ls lc) (hw : ∀ v ∈ st, wfv v) (hB : BX R E x locs cells slots nE sE r) (h : astep pc (.i2c, len, r1, r2, r3, r4) ls st x = some (.inl (pc', ls', st', x'))) (K : KT E p l e R s0 s m args below meth c nE sE r mi Q pc' ls' st' x') : W p l e R s m args below meth c H locs cells slots Q (F0 m pc lc (st.map (cv E))) := by
  have hx := hG.2.1
  have hb := hC.2.1
  simp only [lnkE] at hl
  obtain rfl : len = 1 := Nat.eq_of_beq_eq_true hl
  change oUn _ _ _ _ _ _ = _ at h
  unfold oUn at h
  split at h
  · rename_i a t
    split at h
    · rename_i hin
      unfold sN at h
      cases h
      have hk := K H locs cells slots lc hR hL (List.forall_mem_cons.mpr ⟨hin, fun v hv => hw v (List.mem_cons_of_mem _ hv)⟩) hB
      rw [List.map_cons] at hk
      exact lv_i2c hx hb hd (Int32.ofInt_toInt _).symm hk
    · cases h
  · cases h

set_option maxHeartbeats 2000000 in
theorem k_i2s  (hG : GX E p s0) (hC : CX s0 mi s m meth c) (hd : decode (mb mi) pc = .ok (.i2s, len)) (hl : lnkE mi pc (.i2s, len, r1, r2, r3, r4) = true) (hR : RL E s0 x H) (hL : LR E mi ls lc) (hw : ∀ v ∈ st, wfv v) (hB : BX R E x locs cells slots nE sE r) (h : astep pc (.i2s, len, r1, r2, r3, r4) ls st x = some (.inl (pc', ls', st', x'))) (K : KT E p l e R s0 s m args below meth c nE sE r mi Q pc' ls' st' x') : W p l e R s m args below meth c H locs cells slots Q (F0 m pc lc (st.map (cv E))) := by
  have hx := hG.2.1
  have hb := hC.2.1
  simp only [lnkE] at hl
  obtain rfl : len = 1 := Nat.eq_of_beq_eq_true hl
  change oUn _ _ _ _ _ _ = _ at h
  unfold oUn at h
  split at h
  · rename_i a t
    split at h
    · rename_i hin
      unfold sN at h
      cases h
      have hk := K H locs cells slots lc hR hL (List.forall_mem_cons.mpr ⟨hin, fun v hv => hw v (List.mem_cons_of_mem _ hv)⟩) hB
      rw [List.map_cons] at hk
      exact lv_i2s hx hb hd (Int32.ofInt_toInt _).symm hk
    · cases h
  · cases h

set_option maxHeartbeats 2000000 in
theorem k_i2b  (hG : GX E p s0) (hC : CX s0 mi s m meth c) (hd : decode (mb mi) pc = .ok (.i2b, len)) (hl : lnkE mi pc (.i2b, len, r1, r2, r3, r4) = true) (hR : RL E s0 x H) (hL : LR E mi ls lc) (hw : ∀ v ∈ st, wfv v) (hB : BX R E x locs cells slots nE sE r) (h : astep pc (.i2b, len, r1, r2, r3, r4) ls st x = some (.inl (pc', ls', st', x'))) (K : KT E p l e R s0 s m args below meth c nE sE r mi Q pc' ls' st' x') : W p l e R s m args below meth c H locs cells slots Q (F0 m pc lc (st.map (cv E))) := by
  have hx := hG.2.1
  have hb := hC.2.1
  simp only [lnkE] at hl
  obtain rfl : len = 1 := Nat.eq_of_beq_eq_true hl
  change oUn _ _ _ _ _ _ = _ at h
  unfold oUn at h
  split at h
  · rename_i a t
    split at h
    · rename_i hin
      unfold sN at h
      cases h
      have hk := K H locs cells slots lc hR hL (List.forall_mem_cons.mpr ⟨hin, fun v hv => hw v (List.mem_cons_of_mem _ hv)⟩) hB
      rw [List.map_cons] at hk
      exact lv_i2b hx hb hd (Int32.ofInt_toInt _).symm hk
    · cases h
  · cases h

set_option maxHeartbeats 2000000 in
theorem k_i2l  (hG : GX E p s0) (hC : CX s0 mi s m meth c) (hd : decode (mb mi) pc = .ok (.i2l, len)) (hl : lnkE mi pc (.i2l, len, r1, r2, r3, r4) = true) (hR : RL E s0 x H) (hL : LR E mi ls lc) (hw : ∀ v ∈ st, wfv v) (hB : BX R E x locs cells slots nE sE r) (h : astep pc (.i2l, len, r1, r2, r3, r4) ls st x = some (.inl (pc', ls', st', x'))) (K : KT E p l e R s0 s m args below meth c nE sE r mi Q pc' ls' st' x') : W p l e R s m args below meth c H locs cells slots Q (F0 m pc lc (st.map (cv E))) := by
  have hx := hG.2.1
  have hb := hC.2.1
  simp only [lnkE] at hl
  obtain rfl : len = 1 := Nat.eq_of_beq_eq_true hl
  change oI2l _ _ _ _ _ = _ at h
  unfold oI2l at h
  split at h
  · rename_i a t
    unfold sN at h
    cases h
    have ha : inI a = true := hw _ List.mem_cons_self
    refine lv_i2l hx hb hd (v := Int64.ofInt a) ?_ (K H locs cells slots lc hR hL (List.forall_mem_cons.mpr ⟨inL_I ha, fun v hv => hw v (List.mem_cons_of_mem _ hv)⟩) hB)
    rw [← Int64.toInt_inj, Int32.toInt_toInt64, iT ha, lT (inL_I ha)]
  · cases h

set_option maxHeartbeats 2000000 in
theorem k_l2i  (hG : GX E p s0) (hC : CX s0 mi s m meth c) (hd : decode (mb mi) pc = .ok (.l2i, len)) (hl : lnkE mi pc (.l2i, len, r1, r2, r3, r4) = true) (hR : RL E s0 x H) (hL : LR E mi ls lc) (hw : ∀ v ∈ st, wfv v) (hB : BX R E x locs cells slots nE sE r) (h : astep pc (.l2i, len, r1, r2, r3, r4) ls st x = some (.inl (pc', ls', st', x'))) (K : KT E p l e R s0 s m args below meth c nE sE r mi Q pc' ls' st' x') : W p l e R s m args below meth c H locs cells slots Q (F0 m pc lc (st.map (cv E))) := by
  have hx := hG.2.1
  have hb := hC.2.1
  simp only [lnkE] at hl
  obtain rfl : len = 1 := Nat.eq_of_beq_eq_true hl
  change oL2i _ _ _ _ _ = _ at h
  unfold oL2i at h
  split at h
  · rename_i a t
    unfold sN at h
    cases h
    exact lv_l2i hx hb hd (Int32.ofInt_toInt _).symm (K H locs cells slots lc hR hL (List.forall_mem_cons.mpr ⟨inI_32 _, fun v hv => hw v (List.mem_cons_of_mem _ hv)⟩) hB)
  · cases h

set_option maxHeartbeats 2000000 in
theorem k_land  (hG : GX E p s0) (hC : CX s0 mi s m meth c) (hd : decode (mb mi) pc = .ok (.land, len)) (hl : lnkE mi pc (.land, len, r1, r2, r3, r4) = true) (hR : RL E s0 x H) (hL : LR E mi ls lc) (hw : ∀ v ∈ st, wfv v) (hB : BX R E x locs cells slots nE sE r) (h : astep pc (.land, len, r1, r2, r3, r4) ls st x = some (.inl (pc', ls', st', x'))) (K : KT E p l e R s0 s m args below meth c nE sE r mi Q pc' ls' st' x') : W p l e R s m args below meth c H locs cells slots Q (F0 m pc lc (st.map (cv E))) := by
  have hx := hG.2.1
  have hb := hC.2.1
  simp only [lnkE] at hl
  obtain rfl : len = 1 := Nat.eq_of_beq_eq_true hl
  change oBinL _ _ _ _ _ _ = _ at h
  unfold oBinL at h
  split at h
  · rename_i b a t
    unfold sN at h
    cases h
    have hk := K H locs cells slots lc hR hL (List.forall_mem_cons.mpr ⟨inL_64 _, fun v hv => hw v (List.mem_cons_of_mem _ (List.mem_cons_of_mem _ hv))⟩) hB
    rw [List.map_cons] at hk
    refine lv_land hx hb hd ?_
    have e9 : cv E (vL (lAnd a b)) = .long (Int64.ofInt a &&& Int64.ofInt b) := by show Value.long _ = _; rw [lAnd, Int64.ofInt_toInt]
    rw [← e9]
    exact hk
  · cases h

set_option maxHeartbeats 2000000 in
theorem k_lor  (hG : GX E p s0) (hC : CX s0 mi s m meth c) (hd : decode (mb mi) pc = .ok (.lor, len)) (hl : lnkE mi pc (.lor, len, r1, r2, r3, r4) = true) (hR : RL E s0 x H) (hL : LR E mi ls lc) (hw : ∀ v ∈ st, wfv v) (hB : BX R E x locs cells slots nE sE r) (h : astep pc (.lor, len, r1, r2, r3, r4) ls st x = some (.inl (pc', ls', st', x'))) (K : KT E p l e R s0 s m args below meth c nE sE r mi Q pc' ls' st' x') : W p l e R s m args below meth c H locs cells slots Q (F0 m pc lc (st.map (cv E))) := by
  have hx := hG.2.1
  have hb := hC.2.1
  simp only [lnkE] at hl
  obtain rfl : len = 1 := Nat.eq_of_beq_eq_true hl
  change oBinL _ _ _ _ _ _ = _ at h
  unfold oBinL at h
  split at h
  · rename_i b a t
    unfold sN at h
    cases h
    have hk := K H locs cells slots lc hR hL (List.forall_mem_cons.mpr ⟨inL_64 _, fun v hv => hw v (List.mem_cons_of_mem _ (List.mem_cons_of_mem _ hv))⟩) hB
    rw [List.map_cons] at hk
    refine lv_lor hx hb hd ?_
    have e9 : cv E (vL (lOr a b)) = .long (Int64.ofInt a ||| Int64.ofInt b) := by show Value.long _ = _; rw [lOr, Int64.ofInt_toInt]
    rw [← e9]
    exact hk
  · cases h

set_option maxHeartbeats 2000000 in
theorem k_lshl  (hG : GX E p s0) (hC : CX s0 mi s m meth c) (hd : decode (mb mi) pc = .ok (.lshl, len)) (hl : lnkE mi pc (.lshl, len, r1, r2, r3, r4) = true) (hR : RL E s0 x H) (hL : LR E mi ls lc) (hw : ∀ v ∈ st, wfv v) (hB : BX R E x locs cells slots nE sE r) (h : astep pc (.lshl, len, r1, r2, r3, r4) ls st x = some (.inl (pc', ls', st', x'))) (K : KT E p l e R s0 s m args below meth c nE sE r mi Q pc' ls' st' x') : W p l e R s m args below meth c H locs cells slots Q (F0 m pc lc (st.map (cv E))) := by
  have hx := hG.2.1
  have hb := hC.2.1
  simp only [lnkE] at hl
  obtain rfl : len = 1 := Nat.eq_of_beq_eq_true hl
  change oShL _ _ _ _ _ _ = _ at h
  unfold oShL at h
  split at h
  · rename_i b a t
    unfold sN at h
    cases h
    exact lv_lshl hx hb hd (Int64.ofInt_toInt _).symm (K H locs cells slots lc hR hL (List.forall_mem_cons.mpr ⟨inL_64 _, fun v hv => hw v (List.mem_cons_of_mem _ (List.mem_cons_of_mem _ hv))⟩) hB)
  · cases h

set_option maxHeartbeats 2000000 in
theorem k_lshr  (hG : GX E p s0) (hC : CX s0 mi s m meth c) (hd : decode (mb mi) pc = .ok (.lshr, len)) (hl : lnkE mi pc (.lshr, len, r1, r2, r3, r4) = true) (hR : RL E s0 x H) (hL : LR E mi ls lc) (hw : ∀ v ∈ st, wfv v) (hB : BX R E x locs cells slots nE sE r) (h : astep pc (.lshr, len, r1, r2, r3, r4) ls st x = some (.inl (pc', ls', st', x'))) (K : KT E p l e R s0 s m args below meth c nE sE r mi Q pc' ls' st' x') : W p l e R s m args below meth c H locs cells slots Q (F0 m pc lc (st.map (cv E))) := by
  have hx := hG.2.1
  have hb := hC.2.1
  simp only [lnkE] at hl
  obtain rfl : len = 1 := Nat.eq_of_beq_eq_true hl
  change oShL _ _ _ _ _ _ = _ at h
  unfold oShL at h
  split at h
  · rename_i b a t
    unfold sN at h
    cases h
    exact lv_lshr hx hb hd (Int64.ofInt_toInt _).symm (K H locs cells slots lc hR hL (List.forall_mem_cons.mpr ⟨inL_64 _, fun v hv => hw v (List.mem_cons_of_mem _ (List.mem_cons_of_mem _ hv))⟩) hB)
  · cases h

set_option maxHeartbeats 2000000 in
theorem k_lcmp  (hG : GX E p s0) (hC : CX s0 mi s m meth c) (hd : decode (mb mi) pc = .ok (.lcmp, len)) (hl : lnkE mi pc (.lcmp, len, r1, r2, r3, r4) = true) (hR : RL E s0 x H) (hL : LR E mi ls lc) (hw : ∀ v ∈ st, wfv v) (hB : BX R E x locs cells slots nE sE r) (h : astep pc (.lcmp, len, r1, r2, r3, r4) ls st x = some (.inl (pc', ls', st', x'))) (K : KT E p l e R s0 s m args below meth c nE sE r mi Q pc' ls' st' x') : W p l e R s m args below meth c H locs cells slots Q (F0 m pc lc (st.map (cv E))) := by
  have hx := hG.2.1
  have hb := hC.2.1
  simp only [lnkE] at hl
  obtain rfl : len = 1 := Nat.eq_of_beq_eq_true hl
  change oLcmp _ _ _ _ _ = _ at h
  unfold oLcmp at h
  split at h
  · rename_i b a t
    unfold sN at h
    cases h
    have ha : inL a := hw (vL a) (List.mem_cons_of_mem _ List.mem_cons_self)
    have hb' : inL b := hw (vL b) List.mem_cons_self
    have hr : inI (lCmp a b) = true := by unfold lCmp; split; decide; split <;> decide
    have hk := K H locs cells slots lc hR hL (List.forall_mem_cons.mpr ⟨hr, fun v hv => hw v (List.mem_cons_of_mem _ (List.mem_cons_of_mem _ hv))⟩) hB
    rw [List.map_cons] at hk
    refine W.lcmp hx hb hd ?_
    have e9 : cv E (vI (lCmp a b)) = .int (lg_cmp (Int64.ofInt a) (Int64.ofInt b)) := by
      rw [cv_I]
      unfold lCmp lg_cmp
      simp only [gt_iff_lt, Int64.lt_iff_toInt_lt, ← Int64.toInt_inj, lT ha, lT hb']
      by_cases h1 : a < b
      · rw [if_pos h1, if_neg (by omega), if_neg (by omega)]; rfl
      · rw [if_neg h1]
        by_cases h2 : a = b
        · rw [if_pos h2, if_neg (by omega), if_pos h2]; rfl
        · rw [if_neg h2, if_pos (by omega)]; rfl
    rw [← e9]
    exact hk
  · cases h

set_option maxHeartbeats 2000000 in
theorem k_dup  (hG : GX E p s0) (hC : CX s0 mi s m meth c) (hd : decode (mb mi) pc = .ok (.dup, len)) (hl : lnkE mi pc (.dup, len, r1, r2, r3, r4) = true) (hR : RL E s0 x H) (hL : LR E mi ls lc) (hw : ∀ v ∈ st, wfv v) (hB : BX R E x locs cells slots nE sE r) (h : astep pc (.dup, len, r1, r2, r3, r4) ls st x = some (.inl (pc', ls', st', x'))) (K : KT E p l e R s0 s m args below meth c nE sE r mi Q pc' ls' st' x') : W p l e R s m args below meth c H locs cells slots Q (F0 m pc lc (st.map (cv E))) := by
  have hx := hG.2.1
  have hb := hC.2.1
  simp only [lnkE] at hl
  obtain rfl : len = 1 := Nat.eq_of_beq_eq_true hl
  change oDup _ _ _ _ _ = _ at h
  unfold oDup at h
  split at h
  · rename_i a t
    unfold sN at h
    cases h
    exact lv_dup hx hb hd rfl (K H locs cells slots lc hR hL (List.forall_mem_cons.mpr ⟨hw _ List.mem_cons_self, hw⟩) hB)
  · rename_i a t
    unfold sN at h
    cases h
    exact lv_dup hx hb hd (cv_cat1 hG.1 rfl) (K H locs cells slots lc hR hL (List.forall_mem_cons.mpr ⟨trivial, hw⟩) hB)
  · cases h

set_option maxHeartbeats 2000000 in
theorem k_pop  (hG : GX E p s0) (hC : CX s0 mi s m meth c) (hd : decode (mb mi) pc = .ok (.pop, len)) (hl : lnkE mi pc (.pop, len, r1, r2, r3, r4) = true) (hR : RL E s0 x H) (hL : LR E mi ls lc) (hw : ∀ v ∈ st, wfv v) (hB : BX R E x locs cells slots nE sE r) (h : astep pc (.pop, len, r1, r2, r3, r4) ls st x = some (.inl (pc', ls', st', x'))) (K : KT E p l e R s0 s m args below meth c nE sE r mi Q pc' ls' st' x') : W p l e R s m args below meth c H locs cells slots Q (F0 m pc lc (st.map (cv E))) := by
  have hx := hG.2.1
  have hb := hC.2.1
  simp only [lnkE] at hl
  obtain rfl : len = 1 := Nat.eq_of_beq_eq_true hl
  change oPop _ _ _ _ _ = _ at h
  unfold oPop at h
  split at h
  · rename_i a t
    unfold sN at h
    cases h
    exact lv_pop hx hb hd rfl (K H locs cells slots lc hR hL (fun v hv => hw v (List.mem_cons_of_mem _ hv)) hB)
  · rename_i a t
    unfold sN at h
    cases h
    exact lv_pop hx hb hd (cv_cat1 hG.1 (v := Sum.inr (Sum.inr _)) rfl) (K H locs cells slots lc hR hL (fun v hv => hw v (List.mem_cons_of_mem _ hv)) hB)
  · cases h

set_option maxHeartbeats 2000000 in
theorem k_dup_x1  (hG : GX E p s0) (hC : CX s0 mi s m meth c) (hd : decode (mb mi) pc = .ok (.dup_x1, len)) (hl : lnkE mi pc (.dup_x1, len, r1, r2, r3, r4) = true) (hR : RL E s0 x H) (hL : LR E mi ls lc) (hw : ∀ v ∈ st, wfv v) (hB : BX R E x locs cells slots nE sE r) (h : astep pc (.dup_x1, len, r1, r2, r3, r4) ls st x = some (.inl (pc', ls', st', x'))) (K : KT E p l e R s0 s m args below meth c nE sE r mi Q pc' ls' st' x') : W p l e R s m args below meth c H locs cells slots Q (F0 m pc lc (st.map (cv E))) := by
  have hx := hG.2.1
  have hb := hC.2.1
  simp only [lnkE] at hl
  obtain rfl : len = 1 := Nat.eq_of_beq_eq_true hl
  change oDupX1 _ _ _ _ _ = _ at h
  unfold oDupX1 at h
  split at h
  · rename_i a b t
    unfold sN at h
    cases h
    exact lv_dup_x1 hx hb hd rfl (cv_cat1 hG.1 (v := Sum.inr (Sum.inr _)) rfl) (K H locs cells slots lc hR hL (List.forall_mem_cons.mpr ⟨hw _ List.mem_cons_self, List.forall_mem_cons.mpr ⟨trivial, List.forall_mem_cons.mpr ⟨hw _ List.mem_cons_self, fun v hv => hw v (List.mem_cons_of_mem _ (List.mem_cons_of_mem _ hv))⟩⟩⟩) hB)
  · cases h

set_option maxHeartbeats 2000000 in
theorem k_dup2  (hG : GX E p s0) (hC : CX s0 mi s m meth c) (hd : decode (mb mi) pc = .ok (.dup2, len)) (hl : lnkE mi pc (.dup2, len, r1, r2, r3, r4) = true) (hR : RL E s0 x H) (hL : LR E mi ls lc) (hw : ∀ v ∈ st, wfv v) (hB : BX R E x locs cells slots nE sE r) (h : astep pc (.dup2, len, r1, r2, r3, r4) ls st x = some (.inl (pc', ls', st', x'))) (K : KT E p l e R s0 s m args below meth c nE sE r mi Q pc' ls' st' x') : W p l e R s m args below meth c H locs cells slots Q (F0 m pc lc (st.map (cv E))) := by
  have hx := hG.2.1
  have hb := hC.2.1
  simp only [lnkE] at hl
  obtain rfl : len = 1 := Nat.eq_of_beq_eq_true hl
  change oDup2 _ _ _ _ _ = _ at h
  unfold oDup2 at h
  split at h
  · rename_i a b t
    unfold sN at h
    cases h
    exact lv_dup2_11 hx hb hd rfl (cv_cat1 hG.1 (v := Sum.inr (Sum.inr _)) rfl) (K H locs cells slots lc hR hL (List.forall_mem_cons.mpr ⟨hw _ List.mem_cons_self, List.forall_mem_cons.mpr ⟨trivial, hw⟩⟩) hB)
  · cases h

set_option maxHeartbeats 2000000 in
theorem k_icmp_eq {off : Int} (hG : GX E p s0) (hC : CX s0 mi s m meth c) (hd : decode (mb mi) pc = .ok (.if_icmp .eq off, len)) (hl : lnkE mi pc (.if_icmp .eq off, len, r1, r2, r3, r4) = true) (hR : RL E s0 x H) (hL : LR E mi ls lc) (hw : ∀ v ∈ st, wfv v) (hB : BX R E x locs cells slots nE sE r) (h : astep pc (.if_icmp .eq off, len, r1, r2, r3, r4) ls st x = some (.inl (pc', ls', st', x'))) (K : KT E p l e R s0 s m args below meth c nE sE r mi Q pc' ls' st' x') : W p l e R s m args below meth c H locs cells slots Q (F0 m pc lc (st.map (cv E))) := by
  have hx := hG.2.1
  have hb := hC.2.1
  simp only [lnkE, Bool.and_eq_true, decide_eq_true_eq] at hl
  obtain rfl : len = 3 := Nat.eq_of_beq_eq_true hl.2
  change oIcmp _ _ _ _ _ _ _ = _ at h
  unfold oIcmp at h
  split at h
  · rename_i b a t
    unfold sN at h
    cases h
    have ha : inI a = true := hw _ (List.mem_cons_of_mem _ List.mem_cons_self)
    have hb' : inI b = true := hw _ List.mem_cons_self
    have hw' : ∀ v ∈ st', wfv v := fun v hv => hw v (List.mem_cons_of_mem _ (List.mem_cons_of_mem _ hv))
    refine lv_icmp_eq hx hb hd hl.1 (fun h9 => ?_) (fun h9 => ?_)
    · have h8 : a = b := (i_eq ha hb').mp h9
      have hk := K H locs cells slots lc hR hL hw' hB
      have e8 : (if cnd .eq a b = true then r1 else pc + 3) = r1 := if_pos (decide_eq_true h8)
      rw [e8] at hk
      exact hk
    · have h8 : ¬ (a = b) := (not_congr (i_eq ha hb')).mp h9
      have hk := K H locs cells slots lc hR hL hw' hB
      have e8 : (if cnd .eq a b = true then r1 else pc + 3) = pc + 3 := if_neg (fun e7 => h8 (of_decide_eq_true e7))
      rw [e8] at hk
      exact hk
  · cases h

set_option maxHeartbeats 2000000 in
theorem k_if_eq {off : Int} (hG : GX E p s0) (hC : CX s0 mi s m meth c) (hd : decode (mb mi) pc = .ok (.ifCond .eq off, len)) (hl : lnkE mi pc (.ifCond .eq off, len, r1, r2, r3, r4) = true) (hR : RL E s0 x H) (hL : LR E mi ls lc) (hw : ∀ v ∈ st, wfv v) (hB : BX R E x locs cells slots nE sE r) (h : astep pc (.ifCond .eq off, len, r1, r2, r3, r4) ls st x = some (.inl (pc', ls', st', x'))) (K : KT E p l e R s0 s m args below meth c nE sE r mi Q pc' ls' st' x') : W p l e R s m args below meth c H locs cells slots Q (F0 m pc lc (st.map (cv E))) := by
  have hx := hG.2.1
  have hb := hC.2.1
  simp only [lnkE, Bool.and_eq_true, decide_eq_true_eq] at hl
  obtain rfl : len = 3 := Nat.eq_of_beq_eq_true hl.2
  change oIf _ _ _ _ _ _ _ = _ at h
  unfold oIf at h
  split at h
  · rename_i a t
    unfold sN at h
    cases h
    have ha : inI a = true := hw _ List.mem_cons_self
    have hb' : inI 0 = true := inI_0
    have hw' : ∀ v ∈ st', wfv v := fun v hv => hw v (List.mem_cons_of_mem _ hv)
    refine lv_if_eq hx hb hd hl.1 (fun h9 => ?_) (fun h9 => ?_)
    · have h8 : a = 0 := (i_eq ha hb').mp h9
      have hk := K H locs cells slots lc hR hL hw' hB
      have e8 : (if cnd .eq a 0 = true then r1 else pc + 3) = r1 := if_pos (decide_eq_true h8)
      rw [e8] at hk
      exact hk
    · have h8 : ¬ (a = 0) := (not_congr (i_eq ha hb')).mp h9
      have hk := K H locs cells slots lc hR hL hw' hB
      have e8 : (if cnd .eq a 0 = true then r1 else pc + 3) = pc + 3 := if_neg (fun e7 => h8 (of_decide_eq_true e7))
      rw [e8] at hk
      exact hk
  · cases h

set_option maxHeartbeats 2000000 in
theorem k_icmp_ne {off : Int} (hG : GX E p s0) (hC : CX s0 mi s m meth c) (hd : decode (mb mi) pc = .ok (.if_icmp .ne off, len)) (hl : lnkE mi pc (.if_icmp .ne off, len, r1, r2, r3, r4) = true) (hR : RL E s0 x H) (hL : LR E mi ls lc) (hw : ∀ v ∈ st, wfv v) (hB : BX R E x locs cells slots nE sE r) (h : astep pc (.if_icmp .ne off, len, r1, r2, r3, r4) ls st x = some (.inl (pc', ls', st', x'))) (K : KT E p l e R s0 s m args below meth c nE sE r mi Q pc' ls' st' x') : W p l e R s m args below meth c H locs cells slots Q (F0 m pc lc (st.map (cv E))) := by
  have hx := hG.2.1
  have hb := hC.2.1
  simp only [lnkE, Bool.and_eq_true, decide_eq_true_eq] at hl
  obtain rfl : len = 3 := Nat.eq_of_beq_eq_true hl.2
  change oIcmp _ _ _ _ _ _ _ = _ at h
  unfold oIcmp at h
  split at h
  · rename_i b a t
    unfold sN at h
    cases h
    have ha : inI a = true := hw _ (List.mem_cons_of_mem _ List.mem_cons_self)
    have hb' : inI b = true := hw _ List.mem_cons_self
    have hw' : ∀ v ∈ st', wfv v := fun v hv => hw v (List.mem_cons_of_mem _ (List.mem_cons_of_mem _ hv))
    refine lv_icmp_ne hx hb hd hl.1 (fun h9 => ?_) (fun h9 => ?_)
    · have h8 : ¬ a = b := (not_congr (i_eq ha hb')).mp h9
      have hk := K H locs cells slots lc hR hL hw' hB
      have e8 : (if cnd .ne a b = true then r1 else pc + 3) = r1 := if_pos (decide_eq_true h8)
      rw [e8] at hk
      exact hk
    · have h8 : ¬ (¬ a = b) := fun h7 => h7 ((i_eq ha hb').mp h9)
      have hk := K H locs cells slots lc hR hL hw' hB
      have e8 : (if cnd .ne a b = true then r1 else pc + 3) = pc + 3 := if_neg (fun e7 => h8 (of_decide_eq_true e7))
      rw [e8] at hk
      exact hk
  · cases h

set_option maxHeartbeats 2000000 in
theorem k_if_ne {off : Int} (hG : GX E p s0) (hC : CX s0 mi s m meth c) (hd : decode (mb mi) pc = .ok (.ifCond .ne off, len)) (hl : lnkE mi pc (.ifCond .ne off, len, r1, r2, r3, r4) = true) (hR : RL E s0 x H) (hL : LR E mi ls lc) (hw : ∀ v ∈ st, wfv v) (hB : BX R E x locs cells slots nE sE r) (h : astep pc (.ifCond .ne off, len, r1, r2, r3, r4) ls st x = some (.inl (pc', ls', st', x'))) (K : KT E p l e R s0 s m args below meth c nE sE r mi Q pc' ls' st' x') : W p l e R s m args below meth c H locs cells slots Q (F0 m pc lc (st.map (cv E))) := by
  have hx := hG.2.1
  have hb := hC.2.1
  simp only [lnkE, Bool.and_eq_true, decide_eq_true_eq] at hl
  obtain rfl : len = 3 := Nat.eq_of_beq_eq_true hl.2
  change oIf _ _ _ _ _ _ _ = _ at h
  unfold oIf at h
  split at h
  · rename_i a t
    unfold sN at h
    cases h
    have ha : inI a = true := hw _ List.mem_cons_self
    have hb' : inI 0 = true := inI_0
    have hw' : ∀ v ∈ st', wfv v := fun v hv => hw v (List.mem_cons_of_mem _ hv)
    refine lv_if_ne hx hb hd hl.1 (fun h9 => ?_) (fun h9 => ?_)
    · have h8 : ¬ a = 0 := (not_congr (i_eq ha hb')).mp h9
      have hk := K H locs cells slots lc hR hL hw' hB
      have e8 : (if cnd .ne a 0 = true then r1 else pc + 3) = r1 := if_pos (decide_eq_true h8)
      rw [e8] at hk
      exact hk
    · have h8 : ¬ (¬ a = 0) := fun h7 => h7 ((i_eq ha hb').mp h9)
      have hk := K H locs cells slots lc hR hL hw' hB
      have e8 : (if cnd .ne a 0 = true then r1 else pc + 3) = pc + 3 := if_neg (fun e7 => h8 (of_decide_eq_true e7))
      rw [e8] at hk
      exact hk
  · cases h

set_option maxHeartbeats 2000000 in
theorem k_icmp_lt {off : Int} (hG : GX E p s0) (hC : CX s0 mi s m meth c) (hd : decode (mb mi) pc = .ok (.if_icmp .lt off, len)) (hl : lnkE mi pc (.if_icmp .lt off, len, r1, r2, r3, r4) = true) (hR : RL E s0 x H) (hL : LR E mi ls lc) (hw : ∀ v ∈ st, wfv v) (hB : BX R E x locs cells slots nE sE r) (h : astep pc (.if_icmp .lt off, len, r1, r2, r3, r4) ls st x = some (.inl (pc', ls', st', x'))) (K : KT E p l e R s0 s m args below meth c nE sE r mi Q pc' ls' st' x') : W p l e R s m args below meth c H locs cells slots Q (F0 m pc lc (st.map (cv E))) := by
  have hx := hG.2.1
  have hb := hC.2.1
  simp only [lnkE, Bool.and_eq_true, decide_eq_true_eq] at hl
  obtain rfl : len = 3 := Nat.eq_of_beq_eq_true hl.2
  change oIcmp _ _ _ _ _ _ _ = _ at h
  unfold oIcmp at h
  split at h
  · rename_i b a t
    unfold sN at h
    cases h
    have ha : inI a = true := hw _ (List.mem_cons_of_mem _ List.mem_cons_self)
    have hb' : inI b = true := hw _ List.mem_cons_self
    have hw' : ∀ v ∈ st', wfv v := fun v hv => hw v (List.mem_cons_of_mem _ (List.mem_cons_of_mem _ hv))
    refine lv_icmp_lt hx hb hd hl.1 (fun h9 => ?_) (fun h9 => ?_)
    · have h8 : a < b := (i_lt ha hb').mp h9
      have hk := K H locs cells slots lc hR hL hw' hB
      have e8 : (if cnd .lt a b = true then r1 else pc + 3) = r1 := if_pos (decide_eq_true h8)
      rw [e8] at hk
      exact hk
    · have h8 : ¬ (a < b) := (not_congr (i_lt ha hb')).mp h9
      have hk := K H locs cells slots lc hR hL hw' hB
      have e8 : (if cnd .lt a b = true then r1 else pc + 3) = pc + 3 := if_neg (fun e7 => h8 (of_decide_eq_true e7))
      rw [e8] at hk
      exact hk
  · cases h

set_option maxHeartbeats 2000000 in
theorem k_if_lt {off : Int} (hG : GX E p s0) (hC : CX s0 mi s m meth c) (hd : decode (mb mi) pc = .ok (.ifCond .lt off, len)) (hl : lnkE mi pc (.ifCond .lt off, len, r1, r2, r3, r4) = true) (hR : RL E s0 x H) (hL : LR E mi ls lc) (hw : ∀ v ∈ st, wfv v) (hB : BX R E x locs cells slots nE sE r) (h : astep pc (.ifCond .lt off, len, r1, r2, r3, r4) ls st x = some (.inl (pc', ls', st', x'))) (K : KT E p l e R s0 s m args below meth c nE sE r mi Q pc' ls' st' x') : W p l e R s m args below meth c H locs cells slots Q (F0 m pc lc (st.map (cv E))) := by
  have hx := hG.2.1
  have hb := hC.2.1
  simp only [lnkE, Bool.and_eq_true, decide_eq_true_eq] at hl
  obtain rfl : len = 3 := Nat.eq_of_beq_eq_true hl.2
  change oIf _ _ _ _ _ _ _ = _ at h
  unfold oIf at h
  split at h
  · rename_i a t
    unfold sN at h
    cases h
    have ha : inI a = true := hw _ List.mem_cons_self
    have hb' : inI 0 = true := inI_0
    have hw' : ∀ v ∈ st', wfv v := fun v hv => hw v (List.mem_cons_of_mem _ hv)
    refine lv_if_lt hx hb hd hl.1 (fun h9 => ?_) (fun h9 => ?_)
    · have h8 : a < 0 := (i_lt ha hb').mp h9
      have hk := K H locs cells slots lc hR hL hw' hB
      have e8 : (if cnd .lt a 0 = true then r1 else pc + 3) = r1 := if_pos (decide_eq_true h8)
      rw [e8] at hk
      exact hk
    · have h8 : ¬ (a < 0) := (not_congr (i_lt ha hb')).mp h9
      have hk := K H locs cells slots lc hR hL hw' hB
      have e8 : (if cnd .lt a 0 = true then r1 else pc + 3) = pc + 3 := if_neg (fun e7 => h8 (of_decide_eq_true e7))
      rw [e8] at hk
      exact hk
  · cases h

set_option maxHeartbeats 2000000 in
theorem k_icmp_ge {off : Int} (hG : GX E p s0) (hC : CX s0 mi s m meth c) (hd : decode (mb mi) pc = .ok (.if_icmp .ge off, len)) (hl : lnkE mi pc (.if_icmp .ge off, len, r1, r2, r3, r4) = true) (hR : RL E s0 x H) (hL : LR E mi ls lc) (hw : ∀ v ∈ st, wfv v) (hB : BX R E x locs cells slots nE sE r) (h : astep pc (.if_icmp .ge off, len, r1, r2, r3, r4) ls st x = some (.inl (pc', ls', st', x'))) (K : KT E p l e R s0 s m args below meth c nE sE r mi Q pc' ls' st' x') : W p l e R s m args below meth c H locs cells slots Q (F0 m pc lc (st.map (cv E))) := by
  have hx := hG.2.1
  have hb := hC.2.1
  simp only [lnkE, Bool.and_eq_true, decide_eq_true_eq] at hl
  obtain rfl : len = 3 := Nat.eq_of_beq_eq_true hl.2
  change oIcmp _ _ _ _ _ _ _ = _ at h
  unfold oIcmp at h
  split at h
  · rename_i b a t
    unfold sN at h
    cases h
    have ha : inI a = true := hw _ (List.mem_cons_of_mem _ List.mem_cons_self)
    have hb' : inI b = true := hw _ List.mem_cons_self
    have hw' : ∀ v ∈ st', wfv v := fun v hv => hw v (List.mem_cons_of_mem _ (List.mem_cons_of_mem _ hv))
    refine lv_icmp_ge hx hb hd hl.1 (fun h9 => ?_) (fun h9 => ?_)
    · have h8 : b ≤ a := (i_le hb' ha).mp h9
      have hk := K H locs cells slots lc hR hL hw' hB
      have e8 : (if cnd .ge a b = true then r1 else pc + 3) = r1 := if_pos (decide_eq_true h8)
      rw [e8] at hk
      exact hk
    · have h8 : ¬ (b ≤ a) := (not_congr (i_le hb' ha)).mp h9
      have hk := K H locs cells slots lc hR hL hw' hB
      have e8 : (if cnd .ge a b = true then r1 else pc + 3) = pc + 3 := if_neg (fun e7 => h8 (of_decide_eq_true e7))
      rw [e8] at hk
      exact hk
  · cases h

set_option maxHeartbeats 2000000 in
theorem k_if_ge {off : Int} (hG : GX E p s0) (hC : CX s0 mi s m meth c) (hd : decode (mb mi) pc = .ok (.ifCond .ge off, len)) (hl : lnkE mi pc (.ifCond .ge off, len, r1, r2, r3, r4) = true) (hR : RL E s0 x H) (hL : LR E mi ls lc) (hw : ∀ v ∈ st, wfv v) (hB : BX R E x locs cells slots nE sE r) (h : astep pc (.ifCond .ge off, len, r1, r2, r3, r4) ls st x = some (.inl (pc', ls', st', x'))) (K : KT E p l e R s0 s m args below meth c nE sE r mi Q pc' ls' st' x') : W p l e R s m args below meth c H locs cells slots Q (F0 m pc lc (st.map (cv E))) := by
  have hx := hG.2.1
  have hb := hC.2.1
  simp only [lnkE, Bool.and_eq_true, decide_eq_true_eq] at hl
  obtain rfl : len = 3 := Nat.eq_of_beq_eq_true hl.2
  change oIf _ _ _ _ _ _ _ = _ at h
  unfold oIf at h
  split at h
  · rename_i a t
    unfold sN at h
    cases h
    have ha : inI a = true := hw _ List.mem_cons_self
    have hb' : inI 0 = true := inI_0
    have hw' : ∀ v ∈ st', wfv v := fun v hv => hw v (List.mem_cons_of_mem _ hv)
    refine lv_if_ge hx hb hd hl.1 (fun h9 => ?_) (fun h9 => ?_)
    · have h8 : 0 ≤ a := (i_le hb' ha).mp h9
      have hk := K H locs cells slots lc hR hL hw' hB
      have e8 : (if cnd .ge a 0 = true then r1 else pc + 3) = r1 := if_pos (decide_eq_true h8)
      rw [e8] at hk
      exact hk
    · have h8 : ¬ (0 ≤ a) := (not_congr (i_le hb' ha)).mp h9
      have hk := K H locs cells slots lc hR hL hw' hB
      have e8 : (if cnd .ge a 0 = true then r1 else pc + 3) = pc + 3 := if_neg (fun e7 => h8 (of_decide_eq_true e7))
      rw [e8] at hk
      exact hk
  · cases h

set_option maxHeartbeats 2000000 in
theorem k_icmp_gt {off : Int} (hG : GX E p s0) (hC : CX s0 mi s m meth c) (hd : decode (mb mi) pc = .ok (.if_icmp .gt off, len)) (hl : lnkE mi pc (.if_icmp .gt off, len, r1, r2, r3, r4) = true) (hR : RL E s0 x H) (hL : LR E mi ls lc) (hw : ∀ v ∈ st, wfv v) (hB : BX R E x locs cells slots nE sE r) (h : astep pc (.if_icmp .gt off, len, r1, r2, r3, r4) ls st x = some (.inl (pc', ls', st', x'))) (K : KT E p l e R s0 s m args below meth c nE sE r mi Q pc' ls' st' x') : W p l e R s m args below meth c H locs cells slots Q (F0 m pc lc (st.map (cv E))) := by
  have hx := hG.2.1
  have hb := hC.2.1
  simp only [lnkE, Bool.and_eq_true, decide_eq_true_eq] at hl
  obtain rfl : len = 3 := Nat.eq_of_beq_eq_true hl.2
  change oIcmp _ _ _ _ _ _ _ = _ at h
  unfold oIcmp at h
  split at h
  · rename_i b a t
    unfold sN at h
    cases h
    have ha : inI a = true := hw _ (List.mem_cons_of_mem _ List.mem_cons_self)
    have hb' : inI b = true := hw _ List.mem_cons_self
    have hw' : ∀ v ∈ st', wfv v := fun v hv => hw v (List.mem_cons_of_mem _ (List.mem_cons_of_mem _ hv))
    refine lv_icmp_gt hx hb hd hl.1 (fun h9 => ?_) (fun h9 => ?_)
    · have h8 : b < a := (i_lt hb' ha).mp h9
      have hk := K H locs cells slots lc hR hL hw' hB
      have e8 : (if cnd .gt a b = true then r1 else pc + 3) = r1 := if_pos (decide_eq_true h8)
      rw [e8] at hk
      exact hk
    · have h8 : ¬ (b < a) := (not_congr (i_lt hb' ha)).mp h9
      have hk := K H locs cells slots lc hR hL hw' hB
      have e8 : (if cnd .gt a b = true then r1 else pc + 3) = pc + 3 := if_neg (fun e7 => h8 (of_decide_eq_true e7))
      rw [e8] at hk
      exact hk
  · cases h

set_option maxHeartbeats 2000000 in
theorem k_if_gt {off : Int} (hG : GX E p s0) (hC : CX s0 mi s m meth c) (hd : decode (mb mi) pc = .ok (.ifCond .gt off, len)) (hl : lnkE mi pc (.ifCond .gt off, len, r1, r2, r3, r4) = true) (hR : RL E s0 x H) (hL : LR E mi ls lc) (hw : ∀ v ∈ st, wfv v) (hB : BX R E x locs cells slots nE sE r) (h : astep pc (.ifCond .gt off, len, r1, r2, r3, r4) ls st x = some (.inl (pc', ls', st', x'))) (K : KT E p l e R s0 s m args below meth c nE sE r mi Q pc' ls' st' x') : W p l e R s m args below meth c H locs cells slots Q (F0 m pc lc (st.map (cv E))) := by
  have hx := hG.2.1
  have hb := hC.2.1
  simp only [lnkE, Bool.and_eq_true, decide_eq_true_eq] at hl
  obtain rfl : len = 3 := Nat.eq_of_beq_eq_true hl.2
  change oIf _ _ _ _ _ _ _ = _ at h
  unfold oIf at h
  split at h
  · rename_i a t
    unfold sN at h
    cases h
    have ha : inI a = true := hw _ List.mem_cons_self
    have hb' : inI 0 = true := inI_0
    have hw' : ∀ v ∈ st', wfv v := fun v hv => hw v (List.mem_cons_of_mem _ hv)
    refine lv_if_gt hx hb hd hl.1 (fun h9 => ?_) (fun h9 => ?_)
    · have h8 : 0 < a := (i_lt hb' ha).mp h9
      have hk := K H locs cells slots lc hR hL hw' hB
      have e8 : (if cnd .gt a 0 = true then r1 else pc + 3) = r1 := if_pos (decide_eq_true h8)
      rw [e8] at hk
      exact hk
    · have h8 : ¬ (0 < a) := (not_congr (i_lt hb' ha)).mp h9
      have hk := K H locs cells slots lc hR hL hw' hB
      have e8 : (if cnd .gt a 0 = true then r1 else pc + 3) = pc + 3 := if_neg (fun e7 => h8 (of_decide_eq_true e7))
      rw [e8] at hk
      exact hk
  · cases h

set_option maxHeartbeats 2000000 in
theorem k_icmp_le {off : Int} (hG : GX E p s0) (hC : CX s0 mi s m meth c) (hd : decode (mb mi) pc = .ok (.if_icmp .le off, len)) (hl : lnkE mi pc (.if_icmp .le off, len, r1, r2, r3, r4) = true) (hR : RL E s0 x H) (hL : LR E mi ls lc) (hw : ∀ v ∈ st, wfv v) (hB : BX R E x locs cells slots nE sE r) (h : astep pc (.if_icmp .le off, len, r1, r2, r3, r4) ls st x = some (.inl (pc', ls', st', x'))) (K : KT E p l e R s0 s m args below meth c nE sE r mi Q pc' ls' st' x') : W p l e R s m args below meth c H locs cells slots Q (F0 m pc lc (st.map (cv E))) := by
  have hx := hG.2.1
  have hb := hC.2.1
  simp only [lnkE, Bool.and_eq_true, decide_eq_true_eq] at hl
  obtain rfl : len = 3 := Nat.eq_of_beq_eq_true hl.2
  change oIcmp _ _ _ _ _ _ _ = _ at h
  unfold oIcmp at h
  split at h
  · rename_i b a t
    unfold sN at h
    cases h
    have ha : inI a = true := hw _ (List.mem_cons_of_mem _ List.mem_cons_self)
    have hb' : inI b = true := hw _ List.mem_cons_self
    have hw' : ∀ v ∈ st', wfv v := fun v hv => hw v (List.mem_cons_of_mem _ (List.mem_cons_of_mem _ hv))
    refine lv_icmp_le hx hb hd hl.1 (fun h9 => ?_) (fun h9 => ?_)
    · have h8 : a ≤ b := (i_le ha hb').mp h9
      have hk := K H locs cells slots lc hR hL hw' hB
      have e8 : (if cnd .le a b = true then r1 else pc + 3) = r1 := if_pos (decide_eq_true h8)
      rw [e8] at hk
      exact hk
    · have h8 : ¬ (a ≤ b) := (not_congr (i_le ha hb')).mp h9
      have hk := K H locs cells slots lc hR hL hw' hB
      have e8 : (if cnd .le a b = true then r1 else pc + 3) = pc + 3 := if_neg (fun e7 => h8 (of_decide_eq_true e7))
      rw [e8] at hk
      exact hk
  · cases h

set_option maxHeartbeats 2000000 in
theorem k_if_le {off : Int} (hG : GX E p s0) (hC : CX s0 mi s m meth c) (hd : decode (mb mi) pc = .ok (.ifCond .le off, len)) (hl : lnkE mi pc (.ifCond .le off, len, r1, r2, r3, r4) = true) (hR : RL E s0 x H) (hL : LR E mi ls lc) (hw : ∀ v ∈ st, wfv v) (hB : BX R E x locs cells slots nE sE r) (h : astep pc (.ifCond .le off, len, r1, r2, r3, r4) ls st x = some (.inl (pc', ls', st', x'))) (K : KT E p l e R s0 s m args below meth c nE sE r mi Q pc' ls' st' x') : W p l e R s m args below meth c H locs cells slots Q (F0 m pc lc (st.map (cv E))) := by
  have hx := hG.2.1
  have hb := hC.2.1
  simp only [lnkE, Bool.and_eq_true, decide_eq_true_eq] at hl
  obtain rfl : len = 3 := Nat.eq_of_beq_eq_true hl.2
  change oIf _ _ _ _ _ _ _ = _ at h
  unfold oIf at h
  split at h
  · rename_i a t
    unfold sN at h
    cases h
    have ha : inI a = true := hw _ List.mem_cons_self
    have hb' : inI 0 = true := inI_0
    have hw' : ∀ v ∈ st', wfv v := fun v hv => hw v (List.mem_cons_of_mem _ hv)
    refine lv_if_le hx hb hd hl.1 (fun h9 => ?_) (fun h9 => ?_)
    · have h8 : a ≤ 0 := (i_le ha hb').mp h9
      have hk := K H locs cells slots lc hR hL hw' hB
      have e8 : (if cnd .le a 0 = true then r1 else pc + 3) = r1 := if_pos (decide_eq_true h8)
      rw [e8] at hk
      exact hk
    · have h8 : ¬ (a ≤ 0) := (not_congr (i_le ha hb')).mp h9
      have hk := K H locs cells slots lc hR hL hw' hB
      have e8 : (if cnd .le a 0 = true then r1 else pc + 3) = pc + 3 := if_neg (fun e7 => h8 (of_decide_eq_true e7))
      rw [e8] at hk
      exact hk
  · cases h

set_option maxHeartbeats 2000000 in
theorem k_goto {off : Int} (hG : GX E p s0) (hC : CX s0 mi s m meth c) (hd : decode (mb mi) pc = .ok (.goto off, len)) (hl : lnkE mi pc (.goto off, len, r1, r2, r3, r4) = true) (hR : RL E s0 x H) (hL : LR E mi ls lc) (hw : ∀ v ∈ st, wfv v) (hB : BX R E x locs cells slots nE sE r) (h : astep pc (.goto off, len, r1, r2, r3, r4) ls st x = some (.inl (pc', ls', st', x'))) (K : KT E p l e R s0 s m args below meth c nE sE r mi Q pc' ls' st' x') : W p l e R s m args below meth c H locs cells slots Q (F0 m pc lc (st.map (cv E))) := by
  have hx := hG.2.1
  have hb := hC.2.1
  simp only [lnkE, Bool.and_eq_true, decide_eq_true_eq] at hl
  obtain rfl : len = 3 := Nat.eq_of_beq_eq_true hl.2
  change sN _ _ _ _ = _ at h
  unfold sN at h
  cases h
  exact lv_goto hx hb hd hl.1 (K H locs cells slots lc hR hL hw hB)

set_option maxHeartbeats 2000000 in
theorem k_ifnull {off : Int} (hG : GX E p s0) (hC : CX s0 mi s m meth c) (hd : decode (mb mi) pc = .ok (.ifnull off, len)) (hl : lnkE mi pc (.ifnull off, len, r1, r2, r3, r4) = true) (hR : RL E s0 x H) (hL : LR E mi ls lc) (hw : ∀ v ∈ st, wfv v) (hB : BX R E x locs cells slots nE sE r) (h : astep pc (.ifnull off, len, r1, r2, r3, r4) ls st x = some (.inl (pc', ls', st', x'))) (K : KT E p l e R s0 s m args below meth c nE sE r mi Q pc' ls' st' x') : W p l e R s m args below meth c H locs cells slots Q (F0 m pc lc (st.map (cv E))) := by
  have hx := hG.2.1
  have hb := hC.2.1
  simp only [lnkE, Bool.and_eq_true, decide_eq_true_eq] at hl
  obtain rfl : len = 3 := Nat.eq_of_beq_eq_true hl.2
  change oIfnull _ _ _ _ _ _ _ = _ at h
  unfold oIfnull at h
  split at h
  · rename_i t
    unfold sN at h
    cases h
    exact lv_ifnullN hx hb hd hl.1 (K H locs cells slots lc hR hL (fun v hv => hw v (List.mem_cons_of_mem _ hv)) hB)
  · rename_i q t
    split at h
    · rename_i k hk
      unfold sN at h
      cases h
      obtain ⟨⟨-, h3, -⟩, -⟩ := hR.2.2.1 q k.1 k.2 hk
      have hk := K H locs cells slots lc hR hL (fun v hv => hw v (List.mem_cons_of_mem _ hv)) hB
      rw [List.map_cons, show cv E (Sum.inr (Sum.inr (some q))) = cv E (vA q) from rfl, cv_A h3]
      exact lv_ifnull hx hb hd hk
    · cases h
  · cases h

set_option maxHeartbeats 2000000 in
theorem k_ifnonnull {off : Int} (hG : GX E p s0) (hC : CX s0 mi s m meth c) (hd : decode (mb mi) pc = .ok (.ifnonnull off, len)) (hl : lnkE mi pc (.ifnonnull off, len, r1, r2, r3, r4) = true) (hR : RL E s0 x H) (hL : LR E mi ls lc) (hw : ∀ v ∈ st, wfv v) (hB : BX R E x locs cells slots nE sE r) (h : astep pc (.ifnonnull off, len, r1, r2, r3, r4) ls st x = some (.inl (pc', ls', st', x'))) (K : KT E p l e R s0 s m args below meth c nE sE r mi Q pc' ls' st' x') : W p l e R s m args below meth c H locs cells slots Q (F0 m pc lc (st.map (cv E))) := by
  have hx := hG.2.1
  have hb := hC.2.1
  simp only [lnkE, Bool.and_eq_true, decide_eq_true_eq] at hl
  obtain rfl : len = 3 := Nat.eq_of_beq_eq_true hl.2
  change oIfnull _ _ _ _ _ _ _ = _ at h
  unfold oIfnull at h
  split at h
  · rename_i t
    unfold sN at h
    cases h
    exact lv_ifnonnullN hx hb hd (K H locs cells slots lc hR hL (fun v hv => hw v (List.mem_cons_of_mem _ hv)) hB)
  · rename_i q t
    split at h
    · rename_i k hk
      unfold sN at h
      cases h
      obtain ⟨⟨-, h3, -⟩, -⟩ := hR.2.2.1 q k.1 k.2 hk
      have hk := K H locs cells slots lc hR hL (fun v hv => hw v (List.mem_cons_of_mem _ hv)) hB
      rw [List.map_cons, show cv E (Sum.inr (Sum.inr (some q))) = cv E (vA q) from rfl, cv_A h3]
      exact lv_ifnonnull hx hb hd hl.1 hk
    · cases h
  · cases h

end
