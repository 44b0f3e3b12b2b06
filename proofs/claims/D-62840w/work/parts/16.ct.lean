/-! an exception under way: the search for a handler, catch types cold or warm -/
def ccl (o i : Nat) : Nat := if o = 0 then (if i = 13 then 11 else if i = 15 then 12 else 13) else 11
def hfl (pc c o : Nat) : List (Nat × Nat × Nat × Nat) → Option Nat
  | [] => none
  | q :: l => if (q.1 ≤ pc ∧ pc < q.2.1) ∧ ccl o q.2.2.2 + 3 = c then some q.2.2.1 else hfl pc c o l
theorem ccl_in {o i : Nat} : 11 ≤ ccl o i ∧ ccl o i ≤ 13 := by
  unfold ccl
  split
  · split
    · omega
    · split <;> omega
  · omega
theorem hnd_eq (mi pc c : Nat) : hnd mi pc c = hfl pc c (mow mi) (mhn mi) := by
  match mi with
  | 0 => rw [show mow 0 = 0 from rfl, show mhn 0 = [] from rfl]; simp [hnd, hfind, HND, hfl, ccl]
  | 1 => rw [show mow 1 = 0 from rfl, show mhn 1 = [(0, 14, 17, 13), (0, 14, 21, 15)] from rfl]; simp [hnd, hfind, HND, hfl, ccl]
  | 2 => rw [show mow 2 = 0 from rfl, show mhn 2 = [(0, 12, 15, 13), (0, 12, 19, 15)] from rfl]; simp [hnd, hfind, HND, hfl, ccl]
  | 3 => rw [show mow 3 = 0 from rfl, show mhn 3 = [(0, 16, 19, 13)] from rfl]; simp [hnd, hfind, HND, hfl, ccl]
  | 4 => rw [show mow 4 = 0 from rfl, show mhn 4 = [(0, 16, 19, 13)] from rfl]; simp [hnd, hfind, HND, hfl, ccl]
  | 5 => rw [show mow 5 = 0 from rfl, show mhn 5 = [(0, 8, 11, 13), (0, 8, 14, 32)] from rfl]; simp [hnd, hfind, HND, hfl, ccl]
  | 6 => rw [show mow 6 = 0 from rfl, show mhn 6 = [(0, 9, 12, 15)] from rfl]; simp [hnd, hfind, HND, hfl, ccl]
  | 7 => rw [show mow 7 = 0 from rfl, show mhn 7 = [(0, 10, 13, 15)] from rfl]; simp [hnd, hfind, HND, hfl, ccl]
  | 8 => rw [show mow 8 = 0 from rfl, show mhn 8 = [(0, 9, 12, 15)] from rfl]; simp [hnd, hfind, HND, hfl, ccl]
  | 9 => rw [show mow 9 = 0 from rfl, show mhn 9 = [(0, 14, 17, 15)] from rfl]; simp [hnd, hfind, HND, hfl, ccl]
  | 10 => rw [show mow 10 = 0 from rfl, show mhn 10 = [(0, 9, 12, 15)] from rfl]; simp [hnd, hfind, HND, hfl, ccl]
  | 11 => rw [show mow 11 = 0 from rfl, show mhn 11 = [(0, 9, 12, 15)] from rfl]; simp [hnd, hfind, HND, hfl, ccl]
  | 12 => rw [show mow 12 = 1 from rfl, show mhn 12 = [(0, 11, 14, 59)] from rfl]; simp [hnd, hfind, HND, hfl, ccl]
  | n + 13 =>
    have h1 : mhn (n + 13) = [] := by
      unfold mhn
      rw [List.getD_eq_getElem?_getD, List.getElem?_eq_none (show MHL.length ≤ n + 13 by show 13 ≤ n + 13; omega)]
      rfl
    rw [h1]
    simp only [hnd, hfl, if_neg (show ¬ n + 13 < 13 by omega)]
/-- owner, entry, class, the word's place -/
def HCL : List (Nat × Nat × Nat × Nat) := [(0, 13, 11, 392), (0, 15, 12, 393), (0, 32, 13, 558), (1, 59, 11, 405)]
theorem HCL_ok : HCL.all (fun f => tw f.2.2.2 (.classLink (onm f.1) f.2.1 (cnm f.2.2.1)) && Nat.beq f.2.2.1 (ccl f.1 f.2.1)) = true := by decide +kernel
theorem MHL_ok : (List.range 13).all (fun j => (mhn j).all (fun q => !(Nat.beq q.2.2.2 0) && HCL.any (fun f => Nat.beq f.1 (mow j) && Nat.beq f.2.1 q.2.2.2))) = true := by decide +kernel
theorem cst_ok : tw 407 (.castable (cnm 11) (cnm 11)) = true ∧ tw 486 (.castable (cnm 12) (cnm 12)) = true ∧ tw 893 (.castable (cnm 13) (cnm 13)) = true := by decide +kernel
theorem mhn_in {mi : Nat} {q : Nat × Nat × Nat × Nat} (h : q ∈ mhn mi) : q.2.2.2 ≠ 0 ∧ ∃ j, tw j (.classLink (onm (mow mi)) q.2.2.2 (cnm (ccl (mow mi) q.2.2.2))) = true := by
  by_cases hm : mi < 13
  · have h1 := List.all_eq_true.mp (List.all_eq_true.mp MHL_ok mi (List.mem_range.mpr hm)) q h
    simp only [Bool.and_eq_true, Bool.not_eq_true'] at h1
    refine ⟨fun e => by rw [e] at h1; simp at h1, ?_⟩
    obtain ⟨f, hf, h2⟩ := List.any_eq_true.mp h1.2
    simp only [Bool.and_eq_true] at h2
    have h3 := List.all_eq_true.mp HCL_ok f hf
    simp only [Bool.and_eq_true] at h3
    have e1 := Nat.eq_of_beq_eq_true h2.1
    have e2 := Nat.eq_of_beq_eq_true h2.2
    have e3 := Nat.eq_of_beq_eq_true h3.2
    rw [e3, e1, e2] at h3
    exact ⟨_, h3.1⟩
  · have h1 : mhn mi = [] := by
      unfold mhn
      rw [List.getD_eq_getElem?_getD, List.getElem?_eq_none (show MHL.length ≤ mi by show 13 ≤ mi; omega)]
      rfl
    rw [h1] at h
    cases h
def hdl (o : Option Nat) : Handler := match o with
  | some h => .found h
  | none => .none
section
variable {E : EV} {p : Program} {l : Launch} {e : Env} {R : Room} {s0 s : State} {m : MethodId} {args : Array Value} {below : List Frame} {meth : Method} {c : Code} {H : Heap} {locs : List Loc} {cells slots nE sE r mi pc pc' len r1 r2 r3 r4 : Nat} {Q : State → Prop} {ls ls' st st' : List AV} {x x' : HP} {lc : Array Slot}
theorem hgo1 {e : Env} {S : State} {f : JFrame} {a : Addr} {y : ClassFile.ExceptionTableEntry} {t : List ClassFile.ExceptionTableEntry} {c : ClassId} {cell : Cell} (hx : covers y f.pc = true) (h0 : y.catchType ≠ 0)
    (hl : S.vm.ClassLinks e.platform f.method.cls y.catchType c) (hcell : S.heap[a]? = some cell) (hobj : ∀ k, cell.vm ≠ .statics k) (hk : ∃ k, S.vm.classes[cell.cls]? = some k) (hc : ∃ k, S.vm.classes[c]? = some k) {b : Bool} (hfit : S.vm.assignable cell.cls c = b)
    (Q : Handler → Jvm.Pre) (Ec : Jvm.CtlPost) (d : Bool) (acts : List Action) :
    Sem.wp (findHandler.go f a (y :: t)) Q Ec e d acts S ↔ if b = true then Q (.found y.handlerPc) d acts (S.setVm (S.vm.noted f.method.cls y.catchType (.cls c))) else Sem.wp (findHandler.go f a t) Q Ec e d acts (S.setVm (S.vm.noted f.method.cls y.catchType (.cls c))) := by
  simp only [covers] at hx
  obtain ⟨ha, ht⟩ := (resolveClass_links e.toSetting hl).op (op := VmOp.resolveClass f.method.cls y.catchType) rfl
  have hal : S.vm.Alike (S.vm.noted f.method.cls y.catchType (.cls c)) := (Vm.Alike.refl S.vm).noted _ _ _
  obtain ⟨k1, hk1⟩ := hk
  obtain ⟨k2, hk2⟩ := hc
  obtain ⟨k1', hk1', -⟩ := hal.2.2 _ _ hk1
  obtain ⟨k2', hk2', -⟩ := hal.2.2 _ _ hk2
  have hfit' : (S.vm.noted f.method.cls y.catchType (.cls c)).assignable cell.cls c = b := by rw [hal.assignable]; exact hfit
  cases b <;> simp [findHandler.go, hx, h0, ha, ht, hcell, hobj, hk1', hk2', hfit', VmOp.dirties, VmOp.acts]
theorem hgo {f : JFrame} {a : Addr} {cell : Cell} {k o : Nat} (hvm : cell.vm = .none) (hcls : cell.cls = E.2.2.2.2 k) (hk0 : ∃ kk, s.vm.classes[cell.cls]? = some kk) (has : ∀ j, 11 ≤ j → j ≤ 13 → s.vm.assignable cell.cls (E.2.2.2.2 j) = decide (j = k)) :
    ∀ (tb : List ClassFile.ExceptionTableEntry) (S : State), s.WarmedH S.vm → S.heap[a]? = some cell → (∀ y ∈ tb, y.catchType ≠ 0 ∧ s.vm.ClassLinks e.platform f.method.cls y.catchType (E.2.2.2.2 (ccl o y.catchType))) →
      ∃ vm', s.WarmedH vm' ∧ ∀ (Q : Handler → Jvm.Pre) (Ec : Jvm.CtlPost) (d : Bool) (acts : List Action), Sem.wp (findHandler.go f a tb) Q Ec e d acts S ↔ Q (hdl (hfl f.pc (k + 3) o (tb.map t4))) d acts (S.setVm vm') := by
  obtain ⟨k0, hk0⟩ := hk0
  have hobj : ∀ k, cell.vm ≠ .statics k := fun k h => by rw [hvm] at h; cases h
  intro tb
  induction tb with
  | nil =>
    intro S hW hcell _
    exact ⟨S.vm, hW, fun Q Ec d acts => by rw [W.findHandler_go_nil, State.setVm_self]; rfl⟩
  | cons y ys ih =>
    intro S hW hcell hA
    obtain ⟨k0', hk0', -⟩ := hW.alike.2.2 _ _ hk0
    by_cases hcov : covers y f.pc = true
    · obtain ⟨h0, hl⟩ := hA y List.mem_cons_self
      obtain ⟨dk, _, _, kt, hd, _, _, _, _, hkt, _, hopen⟩ := hl.here
      obtain ⟨kt', hkt', -⟩ := hW.alike.2.2 _ _ hkt
      have hW2 := hW.noted hd hopen (State.rightAt_cls hl)
      have hc9 : y.startPc ≤ f.pc ∧ f.pc < y.endPc := by simpa [covers] using hcov
      obtain ⟨vm', hW', hq⟩ := ih (S.setVm (S.vm.noted f.method.cls y.catchType (.cls (E.2.2.2.2 (ccl o y.catchType))))) hW2 hcell (fun z hz => hA z (List.mem_cons_of_mem _ hz))
      have hfit : S.vm.assignable cell.cls (E.2.2.2.2 (ccl o y.catchType)) = decide (ccl o y.catchType = k) := by rw [hW.alike.assignable]; exact has _ ccl_in.1 ccl_in.2
      by_cases hk : ccl o y.catchType = k
      · refine ⟨_, hW2, fun Q Ec d acts => ?_⟩
        rw [hgo1 hcov h0 (hW.classLinks hl) hcell hobj ⟨k0', hk0'⟩ ⟨kt', hkt'⟩ hfit, if_pos (by simp [hk]), List.map_cons]
        unfold hfl
        rw [if_pos ⟨hc9, by show ccl o y.catchType + 3 = k + 3; omega⟩]
        exact Iff.rfl
      · refine ⟨vm', hW', fun Q Ec d acts => ?_⟩
        rw [hgo1 hcov h0 (hW.classLinks hl) hcell hobj ⟨k0', hk0'⟩ ⟨kt', hkt'⟩ hfit, if_neg (by simp [hk]), List.map_cons]
        unfold hfl
        rw [if_neg (by rintro ⟨-, h9⟩; have : ccl o y.catchType + 3 = k + 3 := h9; omega)]
        exact hq Q Ec d acts
    · obtain ⟨vm', hW', hq⟩ := ih S hW hcell (fun z hz => hA z (List.mem_cons_of_mem _ hz))
      have hc9 : ¬ (y.startPc ≤ f.pc ∧ f.pc < y.endPc) := fun h => hcov (by simpa [covers] using h)
      refine ⟨vm', hW', fun Q Ec d acts => ?_⟩
      rw [W.findHandler_go_skip (by simpa using hcov), List.map_cons]
      unfold hfl
      rw [if_neg (fun h => hc9 h.1)]
      exact hq Q Ec d acts
theorem sfv (u : State) (vm' : Vm) (F G : List Frame) : ((u.setFrames F).setVm vm').setFrames G = (u.setVm vm').setFrames G := by
  have h1 : (u.setFrames F).setVm vm' = (u.setVm vm').setFrames F := rfl
  rw [h1, State.setFrames_setFrames]
/-- into a handler -/
theorem stC1 {tb : Tables} {T target : State} {g : JFrame} {a : Addr} {pc : Nat} {vm' : Vm} (h : At T g.method c below)
    (hfind : ∀ (Q : Handler → Jvm.Pre) (Ec : Jvm.CtlPost) (d : Bool) (acts : List Action), Sem.wp (findHandler g a) Q Ec e d acts ((T.setTop g).pushFrame (.throwing a)) ↔ Q (.found pc) d acts (((T.setTop g).pushFrame (.throwing a)).setVm vm'))
    (hrest : Steps tb e below ((T.setVm vm').setTop { g with pc := pc, stack := [.ref a] }) target) : Steps tb e below ((T.setTop g).pushFrame (.throwing a)) target := by
  obtain ⟨hgo, hw⟩ := h.throwing a
  refine Steps.head hgo hw ?_
  have h1 : ∀ r : List Frame, (stepThrowing e ((T.setTop g).pushFrame (.throwing a)) a (.java g :: r)).1 = (((T.setTop g).pushFrame (.throwing a)).setVm vm').setFrames (.java { g with pc := pc, stack := [.ref a] } :: r) := by
    intro r
    simp only [stepThrowing, searchFrame, vmDo]
    generalize hr : Sem.go _ e false [] _ = res
    obtain ⟨as, rfl, ha⟩ := Sem.eq_ok_of hr (a := Handler.found pc) (s' := ((T.setTop g).pushFrame (.throwing a)).setVm vm') (acts' := []) (by simp [hfind _ _ _ _])
    rfl
  rw [stepThread_throwing (frames_entered h.top _), h1]
  obtain ⟨g₀, hg⟩ := Option.isSome_iff_exists.mp h.top
  obtain ⟨r, hr⟩ := State.topJava?_eq_some.mp hg
  have hr' : (T.setVm vm').frames = .java g₀ :: r := hr
  rw [State.setTop_of_frames _ hr'] at hrest
  rw [hr, List.tail_cons, State.pushFrame, sfv, State.setTop_of_frames _ hr, sfv]
  exact hrest
/-- out of the method -/
theorem stC2 {tb : Tables} {T target : State} {g : JFrame} {a : Addr} {vm' : Vm} (h : At T g.method c below) (hm : vm'.method? g.method = some meth) (hl : meth.locks = false) (hlocked : g.locked = none) (hentered : g.entered = [])
    (hfind : ∀ (Q : Handler → Jvm.Pre) (Ec : Jvm.CtlPost) (d : Bool) (acts : List Action), Sem.wp (findHandler g a) Q Ec e d acts ((T.setTop g).pushFrame (.throwing a)) ↔ Q .none d acts (((T.setTop g).pushFrame (.throwing a)).setVm vm'))
    (hrest : Steps tb e below ((T.setVm vm').setFrames (.throwing a :: T.frames.tail)) target) : Steps tb e below ((T.setTop g).pushFrame (.throwing a)) target := by
  obtain ⟨hgo, hw⟩ := h.throwing a
  refine Steps.head hgo hw ?_
  have h1 : ∀ r : List Frame, (stepThrowing e ((T.setTop g).pushFrame (.throwing a)) a (.java g :: r)).1 = (((T.setTop g).pushFrame (.throwing a)).setVm vm').setFrames (.throwing a :: r) := by
    intro r
    simp only [stepThrowing, searchFrame, vmDo]
    generalize hr : Sem.go _ e false [] _ = res
    obtain ⟨as, rfl, ha⟩ := Sem.eq_ok_of hr (a := Handler.none) (s' := ((T.setTop g).pushFrame (.throwing a)).setVm vm') (acts' := []) (by cases hp : e.platform.frameOwnsMonitors <;> simp [hfind _ _ _ _, hm, hl, hlocked, hentered, hp, leaveIfLocked])
    rfl
  rw [stepThread_throwing (frames_entered h.top _), h1]
  obtain ⟨g₀, hg⟩ := Option.isSome_iff_exists.mp h.top
  obtain ⟨r, hr⟩ := State.topJava?_eq_some.mp hg
  rw [State.pushFrame, sfv, State.setTop_of_frames _ hr, sfv]
  exact hrest
/-- the search, at a thrown exception of ours -/
theorem k_find {T : State} {y : HP} {q k n : Nat} {g : JFrame} (hG : GX E p s0) (hC : CX s0 mi s m meth c) (X : Stand p l e R s m args below meth c T locs cells slots) (hX : RL E s0 y T.heap) (hq : hK y q = some (k, n)) (h14 : 14 ≤ k) (h16 : k ≤ 16) (hg : g.method = m) :
    ∃ vm', s.WarmedH vm' ∧ ∀ (Q : Handler → Jvm.Pre) (Ec : Jvm.CtlPost) (d : Bool) (acts : List Action), Sem.wp (findHandler g (io E q)) Q Ec e d acts ((T.setTop g).pushFrame (.throwing (io E q))) ↔ Q (hdl (hnd mi g.pc k)) d acts (((T.setTop g).pushFrame (.throwing (io E q))).setVm vm') := by
  subst hg
  obtain ⟨-, hcp⟩ := hX.2.2.1 q k n hq
  obtain ⟨-, cell, hcell, hcls, hvm⟩ := hcp.2.2.1 h14 (by omega)
  have hpl : e.platform.magicAccessors = ({} : Platform).magicAccessors := by rw [X.admits.platform]
  have hfc : ∀ j, 11 ≤ j → j ≤ 13 → s.vm.findClass (cnm j) = some (E.2.2.2.2 j) := fun j h1 h2 => by rw [hC.1.alike.findClass]; exact hG.2.2.2.2.2.1 j h1 h2
  have hself : ∀ j, 11 ≤ j → j ≤ 13 → s.vm.assignable (E.2.2.2.2 j) (E.2.2.2.2 j) = true := by
    intro j h1 h2
    have hcs : (Cond.castable (cnm j) (cnm j)).before args s = true := by
      rcases (show j = 11 ∨ j = 12 ∨ j = 13 by omega) with rfl | rfl | rfl
      · exact hG.wd hC.1 cst_ok.1 rfl
      · exact hG.wd hC.1 cst_ok.2.1 rfl
      · exact hG.wd hC.1 cst_ok.2.2 rfl
    obtain ⟨c3, c4, hc3, hc4, hasg⟩ := Cond.castable_spec hcs
    cases hc3.symm.trans (hfc j h1 h2)
    cases hc4.symm.trans (hfc j h1 h2)
    exact hasg
  have has : ∀ j, 11 ≤ j → j ≤ 13 → s.vm.assignable cell.cls (E.2.2.2.2 j) = decide (j = k - 3) := by
    intro j h1 h2
    rw [hcls]
    by_cases e9 : j = k - 3
    · rw [decide_eq_true e9, ← e9]
      exact hself j h1 h2
    · rw [decide_eq_false e9]
      obtain ⟨a1, a2, q1, q2, q3⟩ := va_Nc.moved hC.1.alike (hG.2.2.2.2.2.2.2.2.2.2.2.2 (k - 3) j (by omega) (by omega) h1 h2 (fun h => e9 h.symm))
      cases q1.symm.trans (hfc _ (by omega) (by omega))
      cases q2.symm.trans (hfc _ h1 h2)
      exact q3
  obtain ⟨kc, hkc⟩ := Vm.classAt_of_findClass (hfc (k - 3) (by omega) (by omega))
  obtain ⟨vm', hW', hq9⟩ := hgo (E := E) (e := e) (f := g) (a := io E q) (o := mow mi) hvm hcls ⟨kc, by rw [hcls]; exact hkc⟩ has c.exceptionTable.toList ((T.setTop g).pushFrame (.throwing (io E q))) (by rw [Stand.throwing_vm]; exact X.warmed) (by rw [Stand.throwing_heap]; exact hcell) (by
    intro y9 hy9
    have h8 : t4 y9 ∈ mhn mi := by rw [← hC.2.2.2.2.2.2.2.1]; exact List.mem_map_of_mem hy9
    obtain ⟨h0, j9, hj9⟩ := mhn_in h8
    refine ⟨h0, ?_⟩
    obtain ⟨c', hc', hcl⟩ := Cond.classLink_spec hC.2.2.2.2.1 (hG.wd hC.1 hj9 rfl (a := args)) e.platform hpl
    cases hc'.symm.trans (hfc _ ccl_in.1 ccl_in.2)
    exact hcl)
  refine ⟨vm', hW', fun Q Ec d acts => ?_⟩
  rw [W.findHandler_eq (meth := meth) (code := c) (by rw [Stand.throwing_vm]; exact X.method') X.code, hq9, hC.2.2.2.2.2.2.2.1, show k - 3 + 3 = k by omega, ← hnd_eq]
theorem k_catch {T : State} {y : HP} {q k n h : Nat} (hG : GX E p s0) (hC : CX s0 mi s m meth c) (X : Stand p l e R s m args below meth c T locs cells slots) (hX : RL E s0 y T.heap) (hq : hK y q = some (k, n)) (h14 : 14 ≤ k) (h16 : k ≤ 16) (h3 : q ≠ 3) (hL : LR E mi ls lc) (hB : BX R E y locs cells slots nE sE r) {stv : List Value}
    (hh : hnd mi pc k = some h) (K : KT E p l e R s0 s m args below meth c nE sE r mi Q h ls [vA q] y) : ∃ t, Steps p.tables e below ((T.setTop (F0 m pc lc stv)).pushFrame (.throwing (io E q))) t ∧ Q t := by
  obtain ⟨vm', hW', hf⟩ := k_find (g := F0 m pc lc stv) hG hC X hX hq h14 h16 rfl
  rw [show (F0 m pc lc stv).pc = pc from rfl, hh] at hf
  obtain ⟨t, a1, b1⟩ := K T.heap locs cells slots lc hX hL (fun v hv => by rw [List.mem_singleton.mp hv]; exact trivial) hB (T.setVm vm') rfl (X.noted hW')
  refine ⟨t, stC1 (c := c) X.here hf ?_, b1⟩
  rw [List.map_cons, List.map_nil, cv_A h3] at a1
  exact a1
theorem k_pass {T : State} {y : HP} {q k n : Nat} (hG : GX E p s0) (hC : CX s0 mi s m meth c) (X : Stand p l e R s m args below meth c T locs cells slots) (hX : RL E s0 y T.heap) (hq : hK y q = some (k, n)) (h14 : 14 ≤ k) (h16 : k ≤ 16) (h4 : 4 ≤ q) (hB : BX R E y locs cells slots nE sE r) {stv : List Value}
    (hh : hnd mi pc k = none) : ∃ t, Steps p.tables e below ((T.setTop (F0 m pc lc stv)).pushFrame (.throwing (io E q))) t ∧ FQ E s0 R s below nE sE (.inr q) y t := by
  obtain ⟨vm', hW', hf⟩ := k_find (g := F0 m pc lc stv) hG hC X hX hq h14 h16 rfl
  rw [show (F0 m pc lc stv).pc = pc from rfl, hh] at hf
  have X2 := X.noted hW'
  obtain ⟨g₀, hfr⟩ := X2.frames_eq
  obtain ⟨b1, b2, b3, b4, b5, b6, b7, b8, b9⟩ := hB
  refine ⟨(T.setVm vm').setFrames (.throwing (io E q) :: below), stC2 (c := c) (meth := meth) X.here X2.method' hC.2.2.2.2.2.1 rfl rfl hf ?_, X2.here.running, State.frames_setFrames _ (State.cur_lt_of_frames hfr), (X2.ends _).1, hX, ⟨h4, k, n, hq, h14, h16⟩, locs, cells, slots, (X2.ends _).2, b1, b2, b3, b8, b9⟩
  rw [X.tail]
  exact Steps.refl _
end
