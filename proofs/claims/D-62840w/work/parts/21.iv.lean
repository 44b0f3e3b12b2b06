/-! the invoking instructions -/
section
variable {E : EV} {p : Program} {l : Launch} {e : Env} {R : Room} {s0 s : State} {m : MethodId} {args : Array Value} {below : List Frame} {meth : Method} {c : Code} {H : Heap} {locs : List Loc} {cells slots nE sE r mi pc pc' len r1 r2 r3 r4 : Nat} {Q : State → Prop} {ls ls' st st' : List AV} {x x' : HP} {lc : Array Slot}
variable {mj r' i : Nat} {aL rest : List AV} {o : AO} {y : HP}
theorem hasM_s {a b d : Nat} (h : hasM a b d = true) : ∃ j f, (a, b, d, j, f) ∈ MLL := by
  unfold hasM at h
  obtain ⟨⟨f1, f2, f3, f4, f5⟩, hm, hf⟩ := List.any_eq_true.mp h
  simp only [Bool.and_eq_true] at hf
  obtain ⟨h1, h2, h3⟩ := hf
  cases Nat.eq_of_beq_eq_true h1
  cases Nat.eq_of_beq_eq_true h2
  cases Nat.eq_of_beq_eq_true h3
  exact ⟨f4, f5, hm⟩
theorem hasM_0 {a b d : Nat} (h : hasM a b d = true) (hN : MLL.all (fun f => !(Nat.beq f.1 a && Nat.beq f.2.1 b) || Nat.beq f.2.2.2.2 0) = true) : ∃ j, tw j (.methodLink (onm a) b (mnm d)) = true := by
  obtain ⟨j, f, hm⟩ := hasM_s h
  have h1 := List.all_eq_true.mp hN _ hm
  simp only [Nat.beq_refl, Bool.and_self, Bool.not_true, Bool.false_or] at h1
  have h2 := List.all_eq_true.mp MLL_ok _ hm
  obtain rfl : f = 0 := Nat.eq_of_beq_eq_true h1
  exact ⟨j, h2⟩
theorem c_static (hG : GX E p s0) (IH : IHok E p l e s0 r' mj 0 (ent (mxl mj) aL) [] x o y) (hr : r' < r) (hC : CX s0 mi s m meth c) (hX : RL E s0 x H) (hB : BX R E x locs cells slots nE sE r) (hL : LR E mi ls lc)
    (hd : decode (mb mi) pc = .ok (.invokestatic i, 3)) (h1 : 1 ≤ mj) (h2 : mj < 162) (hlok : lok mj aL = true) (hw : ∀ v ∈ aL, wfv v) (hs : sml rest = true) (hwr : ∀ v ∈ rest, wfv v) (K : KE E p l e R s0 s m args below meth c nE sE r mi pc Q ls rest lc o y)
    (hM : hasM (mow mi) i mj = true) (hN : MLL.all (fun f => !(Nat.beq f.1 (mow mi) && Nat.beq f.2.1 i) || Nat.beq f.2.2.2.2 0) = true) (hst : mst mj = true) (hlen : aL.length = mar mj) :
    W p l e R s m args below meth c H locs cells slots Q (F0 m pc lc ((aL.reverse ++ rest).map (cv E))) := by
  obtain ⟨j, hj⟩ := hasM_0 hM hN
  have hlink := hG.wd hC.1 hj rfl (a := args)
  obtain ⟨mk, methk, ck, kk, f1, f2, f3, f4, f5, f6, f7, f8, f9, f10, f11, f12, f13, f14, f15, f16⟩ := mf (s := s) hG hC.1 h1 h2
  have hs9 := List.all_eq_true.mp SIX_ok mj (List.mem_range.mpr h2)
  rw [Bool.or_eq_true] at hs9
  have hs8 : tw (SIX.getD mj 0) (iwd mj) = true := hs9.elim (fun h => by have := of_decide_eq_true h; omega) (fun h => h)
  have hstat : methk.isStatic = true := by
    have h9 := hG.wd hC.1 hs8 (gw_iwd mj) (a := args)
    unfold iwd at h9
    rw [if_pos hst] at h9
    exact Cond.static_spec f1 f2 h9
  intro T hT X
  obtain ⟨vm₁, X₁, step⟩ := X.invokestatic hG.2.1 hC.2.2.2.2.1 hlink f1 f2 hstat f10 f11 f15 (g := F0 m pc lc ((aL.reverse ++ rest).map (cv E))) rfl (argsL := aL.map (cv E)) (rest := rest.map (cv E)) (by rw [List.length_map, hlen, f8]) (by rw [List.map_append, List.map_reverse]) (by rw [hC.2.1]; exact hd)
  obtain ⟨t, st9, q9⟩ := call_run (aL := aL) (rest := rest) hG IH hr hC X₁ (show RL E s0 x T.heap by rw [hT]; exact hX) hB hL hd h1 h2 hlok (by rw [hlen, if_pos hst]; rfl) hw hs hwr f1 K
  exact ⟨t, step t st9, q9⟩
theorem inst_s (hG : GX E p s0) (hW : s0.WarmedH s.vm) (h1 : 1 ≤ mj) (h2 : mj < 162) (hst : mst mj = false) {a : Array Value} : (Cond.instanceMethod (mnm mj)).before a s = true := by
  have hs9 := List.all_eq_true.mp SIX_ok mj (List.mem_range.mpr h2)
  rw [Bool.or_eq_true] at hs9
  have hs8 : tw (SIX.getD mj 0) (iwd mj) = true := hs9.elim (fun h => by have := of_decide_eq_true h; omega) (fun h => h)
  have h9 := hG.wd hW hs8 (gw_iwd mj) (a := a)
  unfold iwd at h9
  rw [if_neg (by rw [hst]; decide)] at h9
  exact h9
/-- a receiver of ours -/
theorem rcvC {q k n : Nat} (hX : RL E s0 x H) (hq : hK x q = some (k, n)) (hk : k ≤ 10) : q ≠ 3 ∧ k ≠ 4 ∧ ∃ cell : Cell, H[io E q]? = some cell ∧ cell.cls = E.2.2.2.1.1 k ∧ cell.vm = .none := by
  obtain ⟨⟨-, h3, -⟩, hcp⟩ := hX.2.2.1 q k n hq
  obtain ⟨h4, -, cell, e1, e2, e3, -⟩ := hcp.1 hk
  exact ⟨h3, h4, cell, e1, e2, e3⟩
theorem c_virtual {q k n : Nat} {bL : List AV} (hG : GX E p s0) (IH : IHok E p l e s0 r' mj 0 (ent (mxl mj) (vA q :: bL)) [] x o y) (hr : r' < r) (hC : CX s0 mi s m meth c) (hX : RL E s0 x H) (hB : BX R E x locs cells slots nE sE r) (hL : LR E mi ls lc)
    (hd : decode (mb mi) pc = .ok (.invokevirtual i, 3)) (h1 : 1 ≤ mj) (h2 : mj < 162) (hlok : lok mj (vA q :: bL) = true) (hw : ∀ v ∈ bL, wfv v) (hs : sml rest = true) (hwr : ∀ v ∈ rest, wfv v) (K : KE E p l e R s0 s m args below meth c nE sE r mi pc Q ls rest lc o y)
    (hM : hasM (mow mi) i mj = true) (hN : MLL.all (fun f => !(Nat.beq f.1 (mow mi) && Nat.beq f.2.1 i) || Nat.beq f.2.2.2.2 0) = true) (hst : mst mj = false) (hlen : bL.length = mar mj) (hq : hK x q = some (k, n)) (hk : k ≤ 10) (hV : hasV k mj = true) :
    W p l e R s m args below meth c H locs cells slots Q (F0 m pc lc (((vA q :: bL).reverse ++ rest).map (cv E))) := by
  obtain ⟨j, hj⟩ := hasM_0 hM hN
  have hlink := hG.wd hC.1 hj rfl (a := args)
  obtain ⟨mk, methk, ck, kk, f1, f2, f3, f4, f5, f6, f7, f8, f9, f10, f11, f12, f13, f14, f15, f16⟩ := mf (s := s) hG hC.1 h1 h2
  obtain ⟨mk', methk', g1, g2, hstM, habM⟩ := Cond.instanceMethod_spec (inst_s hG hC.1 h1 h2 hst (a := args))
  cases f1.symm.trans g1
  cases f2.symm.trans g2
  obtain ⟨h3, hk4, cell, hcell, hcls, hvm⟩ := rcvC hX hq hk
  have hfc : s.vm.findClass (cnm k) = some cell.cls := by rw [hcls]; exact (clsF hG hC.1 hk hk4).2.1
  intro T hT X
  have key : selectMethod e.platform s.vm cell.cls mk = .method mk ∧ kk.isInterface = false := by
    unfold hasV at hV
    obtain ⟨⟨v1, v2, v3, v4⟩, hm, hf⟩ := List.any_eq_true.mp hV
    simp only [Bool.and_eq_true] at hf
    cases Nat.eq_of_beq_eq_true hf.1
    cases Nat.eq_of_beq_eq_true hf.2
    have h9 := List.all_eq_true.mp VSL_ok _ hm
    dsimp only at h9
    split at h9
    · obtain ⟨c2, r2, m2, q1, q2, q3, q4, kP, hkP, hkPi⟩ := Cond.selects_spec (hG.wd hC.1 h9 rfl (a := args))
      cases hfc.symm.trans q1
      cases (State.methodFound?_of_named f1 f15).symm.trans q2
      cases f1.symm.trans q3
      cases f10.symm.trans hkP
      exact ⟨by rw [Launch.admits_selectMethod X.admits]; exact q4, hkPi⟩
    · simp only [Bool.and_eq_true, decide_eq_true_eq] at h9
      obtain ⟨w1, w2, w3⟩ := h9
      obtain ⟨c2, r2, m2, q1, q2, q3, q4, kP, hkP, hkPi⟩ := Cond.selects_spec (hG.wd hC.1 w3 rfl (a := args))
      have e9 : m2.cls = mk.cls := by
        have a1 := findClass_of_methodNamed q3
        have a2 := findClass_of_methodNamed f1
        rw [w2] at a2
        exact Option.some.inj (a1.symm.trans a2)
      rw [e9] at hkP
      cases f10.symm.trans hkP
      have hn9 : s0.methodNamed? (mnm mj) = some mk := by
        have a9 : (s0.setVm s.vm).methodNamed? (mnm mj) = some mk := f1
        rw [State.methodNamed?_setVm hC.1.alike] at a9
        exact a9
      have hm9 : s0.vm.method? mk = some methk := by rw [← hC.1.alike.method?]; exact f2
      exact ⟨selectMethod_private f2 (Cond.privateMethod_at (hG.2.2.1 _ (tw_mem w1)) mk methk hn9 hm9), hkPi⟩
  have hsA : ((vA q :: bL).reverse ++ rest).map (cv E) = (bL.map (cv E)).reverse ++ .ref (io E q) :: rest.map (cv E) := by
    rw [List.map_append, List.reverse_cons, List.map_append, List.map_reverse, List.map_cons, List.map_nil, cv_A h3, List.append_assoc]
    rfl
  obtain ⟨vm₁, X₁, step⟩ := X.invokevirtual hG.2.1 hC.2.2.2.2.1 hlink f1 f2 hstM f10 key.2 f15 (a := io E q) (cell := cell) (by rw [hT]; exact hcell) (fun z h => by rw [hvm] at h; cases h) key.1 f2 habM f10 key.2 (g := F0 m pc lc (((vA q :: bL).reverse ++ rest).map (cv E))) rfl (argsL := bL.map (cv E)) (rest := rest.map (cv E)) (by rw [List.length_map, hlen, f8]) hsA (by rw [hC.2.1]; exact hd)
  obtain ⟨t, st9, q9⟩ := call_run (aL := vA q :: bL) (rest := rest) hG IH hr hC X₁ (show RL E s0 x T.heap by rw [hT]; exact hX) hB hL hd h1 h2 hlok (by rw [List.length_cons, hlen, hst]; rfl) (List.forall_mem_cons.mpr ⟨trivial, hw⟩) hs hwr f1 K
  rw [List.map_cons, cv_A h3] at st9
  exact ⟨t, step t st9, q9⟩
theorem c_begins {q k n : Nat} {bL : List AV} (hG : GX E p s0) (IH : IHok E p l e s0 r' mj 0 (ent (mxl mj) (vA q :: bL)) [] x o y) (hr : r' < r) (hC : CX s0 mi s m meth c) (hX : RL E s0 x H) (hB : BX R E x locs cells slots nE sE r) (hL : LR E mi ls lc)
    (hd : decode (mb mi) pc = .ok (.invokevirtual i, 3)) (hlok : lok mj (vA q :: bL) = true) (hw : ∀ v ∈ bL, wfv v) (hs : sml rest = true) (hwr : ∀ v ∈ rest, wfv v) (K : KE E p l e R s0 s m args below meth c nE sE r mi pc Q ls rest lc o y)
    (hM : has2 BGL (mow mi) i = true) (hlen : bL.length = 1) (hq : hK x q = some (k, n)) (hk : (k = 5 ∧ mj = 79) ∨ (k = 6 ∧ mj = 80)) :
    W p l e R s m args below meth c H locs cells slots Q (F0 m pc lc (((vA q :: bL).reverse ++ rest).map (cv E))) := by
  have h1 : 1 ≤ mj := by omega
  have h2 : mj < 162 := by omega
  have hst : mst mj = false := by rcases hk with ⟨-, rfl⟩ | ⟨-, rfl⟩ <;> rfl
  have hma : mar mj = 1 := by rcases hk with ⟨-, rfl⟩ | ⟨-, rfl⟩ <;> rfl
  obtain ⟨j, hj⟩ := has2_s hM
  have hlink := hG.wd hC.1 (List.all_eq_true.mp BGL_ok _ hj) rfl (a := args)
  obtain ⟨mk, methk, ck, kk, f1, f2, f3, f4, f5, f6, f7, f8, f9, f10, f11, f12, f13, f14, f15, f16⟩ := mf (s := s) hG hC.1 h1 h2
  obtain ⟨mk', methk', g1, g2, hstM, habM⟩ := Cond.instanceMethod_spec (inst_s hG hC.1 h1 h2 hst (a := args))
  cases f1.symm.trans g1
  cases f2.symm.trans g2
  obtain ⟨h3, hk4, cell, hcell, hcls, hvm⟩ := rcvC hX hq (by omega)
  have hfc : s.vm.findClass (cnm k) = some cell.cls := by rw [hcls]; exact (clsF hG hC.1 (by omega) hk4).2.1
  obtain ⟨r0, rm, hn0, hm0, hs0, hsig0⟩ := Cond.declares_spec (hG.wd hC.1 bg_ok.2.2.1 rfl (a := args))
  have hsel9 : (Cond.selects (cnm k) begN (mnm mj)).before args s = true := by
    rcases hk with ⟨rfl, rfl⟩ | ⟨rfl, rfl⟩
    · exact hG.wd hC.1 bg_ok.1 rfl
    · exact hG.wd hC.1 bg_ok.2.1 rfl
  have hpar : rm.sig.parameters.length = 1 := by
    have h9 : (parseMethodDescriptor begN.desc).map (fun d => d.parameters.length) = some 1 := by decide +kernel
    rw [hsig0] at h9
    exact Option.some.inj h9
  intro T hT X
  have key : selectMethod e.platform s.vm cell.cls r0 = .method mk ∧ kk.isInterface = false := by
    obtain ⟨c2, r2, m2, q1, q2, q3, q4, kP, hkP, hkPi⟩ := Cond.selects_spec hsel9
    cases hfc.symm.trans q1
    cases (State.methodFound?_of_named hn0 (by decide)).symm.trans q2
    cases f1.symm.trans q3
    cases f10.symm.trans hkP
    exact ⟨by rw [Launch.admits_selectMethod X.admits]; exact q4, hkPi⟩
  have hsA : ((vA q :: bL).reverse ++ rest).map (cv E) = (bL.map (cv E)).reverse ++ .ref (io E q) :: rest.map (cv E) := by
    rw [List.map_append, List.reverse_cons, List.map_append, List.map_reverse, List.map_cons, List.map_nil, cv_A h3, List.append_assoc]
    rfl
  obtain ⟨vm₁, X₁, step⟩ := X.invokevirtualUp hG.2.1 (owner := begN.cls) hC.2.2.2.2.1 hlink (hG.wd hC.1 bg_ok.2.2.2.1 rfl (a := args)) (by decide) hn0 hm0 hs0 (a := io E q) (cell := cell) (by rw [hT]; exact hcell) (fun z h => by rw [hvm] at h; cases h) key.1 f2 habM f10 key.2 (g := F0 m pc lc (((vA q :: bL).reverse ++ rest).map (cv E))) rfl (argsL := bL.map (cv E)) (rest := rest.map (cv E)) (by rw [List.length_map, hlen, hpar]) hsA (by rw [hC.2.1]; exact hd)
  obtain ⟨t, st9, q9⟩ := call_run (aL := vA q :: bL) (rest := rest) hG IH hr hC X₁ (show RL E s0 x T.heap by rw [hT]; exact hX) hB hL hd h1 h2 hlok (by rw [List.length_cons, hlen, hst, hma]; rfl) (List.forall_mem_cons.mpr ⟨trivial, hw⟩) hs hwr f1 K
  rw [List.map_cons, cv_A h3] at st9
  exact ⟨t, step t st9, q9⟩
theorem rcvK {q k n : Nat} (hG : GX E p s0) (hW : s0.WarmedH s.vm) (hX : RL E s0 x H) (hq : hK x q = some (k, n)) : q ≠ 3 ∧ ∃ (cell : Cell) (kB : Class), H[io E q]? = some cell ∧ s.vm.classes[cell.cls]? = some kB ∧ ∀ z, cell.vm ≠ .statics z := by
  obtain ⟨⟨-, h3, -⟩, hcp⟩ := hX.2.2.1 q k n hq
  refine ⟨h3, ?_⟩
  by_cases a1 : k ≤ 10
  · obtain ⟨-, h4, cell, e1, e2, e3⟩ := rcvC hX hq a1
    obtain ⟨kB, hkB⟩ := Vm.classAt_of_findClass (clsF hG hW a1 h4).2.1
    exact ⟨cell, kB, e1, by rw [e2]; exact hkB, fun z h => by rw [e3] at h; cases h⟩
  have hfc : ∀ j, 11 ≤ j → j ≤ 13 → ∃ kB, s.vm.classes[E.2.2.2.2 j]? = some kB := fun j h1 h2 => Vm.classAt_of_findClass (name := cnm j) (by rw [hW.alike.findClass]; exact hG.2.2.2.2.2.1 j h1 h2)
  by_cases a2 : k ≤ 13
  · obtain ⟨-, kX, -, -, e9⟩ := hcp.2.1 (by omega) a2
    obtain ⟨kB, hkB⟩ := hfc k (by omega) a2
    exact ⟨_, kB, e9, hkB, fun z h => by cases h⟩
  by_cases a3 : k ≤ 19
  · obtain ⟨h16, cell, e1, e2, e3⟩ := hcp.2.2.1 (by omega) a3
    obtain ⟨kB, hkB⟩ := hfc (k - 3) (by omega) (by omega)
    exact ⟨cell, kB, e1, by rw [e2]; exact hkB, fun z h => by rw [e3] at h; cases h⟩
  · obtain ⟨-, h27, cell, e9, ⟨g1, k0, hk0, -⟩, -⟩ := arrRd hG hW hX hq (show 20 ≤ k by omega)
    exact ⟨cell, k0, e9, hk0, g1⟩
theorem c_up {q k n : Nat} {bL : List AV} (hG : GX E p s0) (IH : IHok E p l e s0 r' mj 0 (ent (mxl mj) (vA q :: bL)) [] x o y) (hr : r' < r) (hC : CX s0 mi s m meth c) (hX : RL E s0 x H) (hB : BX R E x locs cells slots nE sE r) (hL : LR E mi ls lc)
    (hd : decode (mb mi) pc = .ok (.invokespecial i, 3)) (h1 : 1 ≤ mj) (h2 : mj < 162) (hlok : lok mj (vA q :: bL) = true) (hw : ∀ v ∈ bL, wfv v) (hs : sml rest = true) (hwr : ∀ v ∈ rest, wfv v) (K : KE E p l e R s0 s m args below meth c nE sE r mi pc Q ls rest lc o y)
    (hM : hasM (mow mi) i mj = true) (hN : MLL.all (fun f => !(Nat.beq f.1 (mow mi) && Nat.beq f.2.1 i) || Nat.beq f.2.2.2.2 0) = true) (hst : mst mj = false) (hlen : bL.length = mar mj) (hq : hK x q = some (k, n)) (hU : hasU (mow mi) mj = true) (hno : (mnm mj).name ≠ "<init>") :
    W p l e R s m args below meth c H locs cells slots Q (F0 m pc lc (((vA q :: bL).reverse ++ rest).map (cv E))) := by
  obtain ⟨j, hj⟩ := hasM_0 hM hN
  have hlink := hG.wd hC.1 hj rfl (a := args)
  obtain ⟨mk, methk, ck, kk, f1, f2, f3, f4, f5, f6, f7, f8, f9, f10, f11, f12, f13, f14, f15, f16⟩ := mf (s := s) hG hC.1 h1 h2
  obtain ⟨mk', methk', g1, g2, hstM, habM⟩ := Cond.instanceMethod_spec (inst_s hG hC.1 h1 h2 hst (a := args))
  cases f1.symm.trans g1
  cases f2.symm.trans g2
  obtain ⟨h3, cell, kB, hcell, hkB, hvm⟩ := rcvK hG hC.1 hX hq
  unfold hasU at hU
  obtain ⟨⟨v1, v2, v3, v4⟩, hm, hf⟩ := List.any_eq_true.mp hU
  simp only [Bool.and_eq_true] at hf
  have e1 : v1 = mow mi := Nat.eq_of_beq_eq_true hf.1
  have e2 : v2 = mj := Nat.eq_of_beq_eq_true hf.2
  have h9 := List.all_eq_true.mp UPL_ok _ hm
  simp only [Bool.and_eq_true] at h9
  rw [e1, e2] at h9
  have hsame := hG.wd hC.1 h9.1 rfl (a := args)
  obtain ⟨ps, dk, kp, hps, hdk, hkp, hsuper, -, -, hnid⟩ := Cond.superclass_spec hC.2.2.2.2.1 (hG.wd hC.1 h9.2 rfl (a := args))
  have hpm : ps = mk.cls := Option.some.inj (hps.symm.trans (findClass_of_methodNamed f1))
  have hsub : s.vm.isSubclass ps mk.cls = true := by rw [hpm]; simp [Vm.isSubclass, Vm.isSubclassAux]
  intro T hT X
  have hsA : ((vA q :: bL).reverse ++ rest).map (cv E) = (bL.map (cv E)).reverse ++ .ref (io E q) :: rest.map (cv E) := by
    rw [List.map_append, List.reverse_cons, List.map_append, List.map_reverse, List.map_cons, List.map_nil, cv_A h3, List.append_assoc]
    rfl
  obtain ⟨vm₁, X₁, step⟩ := X.invokespecialUp hG.2.1 hC.2.2.2.2.1 hlink hsame (show s.methodNamed? ⟨(mnm mj).cls, (mnm mj).name, (mnm mj).desc⟩ = some mk from f1) f2 hstM habM hno hdk hnid hps hsuper hsub (a := io E q) (cell := cell) (by rw [hT]; exact hcell) hvm hkB (g := F0 m pc lc (((vA q :: bL).reverse ++ rest).map (cv E))) rfl (argsL := bL.map (cv E)) (rest := rest.map (cv E)) (by rw [List.length_map, hlen, f8]) hsA (by rw [hC.2.1]; exact hd)
  obtain ⟨t, st9, q9⟩ := call_run (aL := vA q :: bL) (rest := rest) hG IH hr hC X₁ (show RL E s0 x T.heap by rw [hT]; exact hX) hB hL hd h1 h2 hlok (by rw [List.length_cons, hlen, hst]; rfl) (List.forall_mem_cons.mpr ⟨trivial, hw⟩) hs hwr f1 K
  rw [List.map_cons, cv_A h3] at st9
  exact ⟨t, step t (st9 []), q9⟩
theorem c_init {q : Nat} {bL : List AV} (hG : GX E p s0) (IH : IHok E p l e s0 r' mj 0 (ent (mxl mj) (vA q :: bL)) [] x o y) (hr : r' < r) (hC : CX s0 mi s m meth c) (hX : RL E s0 x H) (hB : BX R E x locs cells slots nE sE r) (hL : LR E mi ls lc)
    (hd : decode (mb mi) pc = .ok (.invokespecial i, 3)) (h1 : 1 ≤ mj) (h2 : mj < 162) (hlok : lok mj (vA q :: bL) = true) (hw : ∀ v ∈ bL, wfv v) (hs : sml rest = true) (hwr : ∀ v ∈ rest, wfv v) (K : KE E p l e R s0 s m args below meth c nE sE r mi pc Q ls rest lc o y)
    (hM : hasM (mow mi) i mj = true) (hst : mst mj = false) (hlen : bL.length = mar mj) (h3 : q ≠ 3) (hin : (mnm mj).name = "<init>") (hcd : cwd mj = .code (mnm mj) (mb mj) (mxl mj) none) :
    W p l e R s m args below meth c H locs cells slots Q (F0 m pc lc (((vA q :: bL).reverse ++ rest).map (cv E))) := by
  obtain ⟨j, f, hm⟩ := hasM_s hM
  have h9 := List.all_eq_true.mp MLL_ok _ hm
  obtain ⟨mk, methk, ck, kk, f1, f2, f3, f4, f5, f6, f7, f8, f9, f10, f11, f12, f13, f14, f15, f16⟩ := mf (s := s) hG hC.1 h1 h2
  have hcode : (Cond.code (mnm mj) (mb mj) (mxl mj) none).before args s = true := by
    rw [← hcd]
    exact gw_mv hC.1 (gw_cwd mj) (hG.2.2.1 _ (cwA mj h1 h2))
  have hinst := inst_s hG hC.1 h1 h2 hst (a := args)
  intro T hT X
  have hpl : e.platform.magicAccessors = ({} : Platform).magicAccessors := by rw [X.admits.platform]
  have hsA : ((vA q :: bL).reverse ++ rest).map (cv E) = (bL.map (cv E)).reverse ++ .ref (io E q) :: rest.map (cv E) := by
    rw [List.map_append, List.reverse_cons, List.map_append, List.map_reverse, List.map_cons, List.map_nil, cv_A h3, List.append_assoc]
    rfl
  have key : ∃ tm vm', s.methodNamed? (mnm mj) = some tm ∧ s.WarmedH vm' ∧ ∀ target, (∀ acts, Steps p.tables e below (doInvoke e ((T.setVm vm').setTop (F0 m pc lc (rest.map (cv E)))) acts tm (.ref (io E q) :: bL.map (cv E)).toArray).1 target) → Steps p.tables e below (T.setTop (F0 m pc lc (((vA q :: bL).reverse ++ rest).map (cv E)))) target := by
    match f, h9 with
    | 0, h9 =>
      obtain ⟨tm, methC, cdC, kC, vm₁, hnC, -, -, -, -, -, -, -, hW₁, st1⟩ := Steps.initColdArgs (tb := p.tables) (e := e) (below := below) (s := s) (U := T) X.here hG.2.1 X.warmed hpl hC.2.2.2.2.1 (t := mnm mj) hin f15
        (hG.wd hC.1 h9 rfl (a := args)) hinst (bytes := mb mj) (maxL := mxl mj) hcode (f := F0 m pc lc (((vA q :: bL).reverse ++ rest).map (cv E))) rfl (a := io E q) (argsL := bL.map (cv E)) (rest := rest.map (cv E)) (fun sig hsig => by rw [List.length_map, hlen]; exact f16 sig hsig) hsA (by rw [hC.2.1]; exact hd)
      exact ⟨tm, vm₁, hnC, hW₁, st1⟩
    | f + 1, h9 =>
      obtain ⟨tm, methC, cdC, kC, vm₁, hnC, -, -, -, -, -, -, -, hW₁, st1⟩ := Steps.initColdArgsNest (tb := p.tables) (e := e) (below := below) (s := s) (U := T) X.here hG.2.1 X.warmed hpl (host := "InterchangeDesk") hC.2.2.2.2.1 (t := mnm mj) hin f15
        (hG.wd hC.1 h9 rfl (a := args)) hinst (bytes := mb mj) (maxL := mxl mj) hcode (f := F0 m pc lc (((vA q :: bL).reverse ++ rest).map (cv E))) rfl (a := io E q) (argsL := bL.map (cv E)) (rest := rest.map (cv E)) (fun sig hsig => by rw [List.length_map, hlen]; exact f16 sig hsig) hsA (by rw [hC.2.1]; exact hd)
      exact ⟨tm, vm₁, hnC, hW₁, st1⟩
  obtain ⟨tm, vm₁, hnC, hW₁, step⟩ := key
  cases f1.symm.trans hnC
  have X₁ := X.noted hW₁
  obtain ⟨t, st9, q9⟩ := call_run (aL := vA q :: bL) (rest := rest) hG IH hr hC X₁ (show RL E s0 x T.heap by rw [hT]; exact hX) hB hL hd h1 h2 hlok (by rw [List.length_cons, hlen, hst]; rfl) (List.forall_mem_cons.mpr ⟨trivial, hw⟩) hs hwr f1 K
  rw [List.map_cons, cv_A h3] at st9
  exact ⟨t, step t st9, q9⟩
end
