/-! an exception's constructor and the throw behind it -/
def LTR (l : Launch) : Prop := ∀ e, l.admits e → e.platform.stackTraces = false
section
variable {E : EV} {p : Program} {l : Launch} {e : Env} {R : Room} {s0 s : State} {m : MethodId} {args : Array Value} {below : List Frame} {meth : Method} {c : Code} {H : Heap} {locs : List Loc} {cells slots nE sE r mi pc pc' len r1 r2 r3 r4 : Nat} {Q : State → Prop} {ls ls' st st' : List AV} {x x' : HP} {lc : Array Slot}
theorem GX.ok (hG : GX E p s0) (hW : s0.WarmedH s.vm) {w : Cond} (hw : okw w) {a : Array Value} : w.before a s = true := gw_mv hW hw.2 (hG.2.2.1 w hw.1)
theorem lay_s {C n d : String} (hG : GX E p s0) (hC : CX s0 mi s m meth c) (h : Cond.laysStatic C n d ∈ lw_tbl) : (Cond.laysStatic C n d).before args s = true := by
  have h1 := Cond.laysStatic_setVm hC.1.alike (hG.2.2.1 _ h)
  obtain ⟨c, k, i, f, a, cell, hc, hi, hst, ha, hcell, hs, hcls, hlt, hty⟩ := Cond.laysStatic_spec h1
  have hcell : s0.heap[a]? = some cell := hcell
  exact Cond.laysStatic_of (s := s) hc hi hst ha (by rw [hC.2.2.2.2.2.2.2.2 a (Array.getElem?_eq_some_iff.mp hcell).1]; exact hcell) hs hcls hlt hty
/-- what a static of Throwable holds -/
theorem zq_s {C n d : String} {cf k i} {f : Field} {aS : Nat} (hG : GX E p s0) (hC : CX s0 mi s m meth c) (hX : RL E s0 x H) (h : va_Zq C n d (fun a => E.2.1 ≤ a) s0 s0.heap) (hf : s.fieldFound? C n d = some (cf, k, i, f)) (ha : k.statics = some aS) : ∃ (u : RefV) (cell : Cell), s0.heap[aS]? = some cell ∧ cell.vm.isStatics = true ∧ cell.slots[f.slot]? = some u.v ∧ aS < E.2.1 := by
  have key : ∀ v : Value, v.isRef = true → va_Z C n d v (fun a => E.2.1 ≤ a) s s0.heap → ∃ (u : RefV) (cell : Cell), s0.heap[aS]? = some cell ∧ cell.vm.isStatics = true ∧ cell.slots[f.slot]? = some u.v ∧ aS < E.2.1 := by
    intro v hv hz
    obtain ⟨cf', k', i', f', a', cell, h1, h2, h3, h4, h5, h6, h7, h8⟩ := hz
    cases hf.symm.trans h1
    cases ha.symm.trans h4
    exact ⟨⟨v, hv⟩, cell, h5, h6, h7, Nat.not_le.mp h8⟩
  rcases va_Zq.moved hC.1.alike h with h | ⟨t, h⟩
  · exact key _ rfl h
  · exact key _ rfl h
set_option maxHeartbeats 4000000 in
theorem k_exi {i q k : Nat} {t : List AV} (hl9 : LTR l) (hG : GX E p s0) (hC : CX s0 mi s m meth c) (h13 : 13 ≤ mi) (hd : decode (mb mi) pc = .ok (.invokespecial i, 3)) (hd3 : decode (mb mi) (pc + 3) = .ok (.athrow, 1)) (ho : has3 EXL (mow mi) i k = true) (h11 : 11 ≤ k) (hk13 : k ≤ 13) (hX : RL E s0 x H) (hL : LR E mi ls lc) (hB : BX R E x locs cells slots nE sE r) (hq : hK x q = some (k, 6)) (hs : sml t = true) :
    W p l e R s m args below meth c H locs cells slots (FQ E s0 R s below nE sE (.inr q) (stK x q (k + 3) 6)) (F0 m pc lc ((vA q :: vA q :: t).map (cv E))) := by
  obtain ⟨⟨hqN, hq3, hq4⟩, hcp⟩ := hX.2.2.1 q k 6 hq
  have h4 : 4 ≤ q := by
    by_cases h : q < 4
    · have := hq4 h; omega
    · omega
  obtain ⟨-, kX0, hkX0, hsz0, hcell⟩ := hcp.2.1 h11 hk13
  obtain ⟨j9, hj9⟩ := has3_s ho
  have hlinkI := hG.wd hC.1 (List.all_eq_true.mp EXL_ok _ hj9) rfl (a := args)
  have hcat := sml_cat hG.1 hs
  obtain ⟨b1, b2, b3, b4, b5, b6, b7, b8, b9⟩ := hB
  intro T hT X
  have htr := hl9 e X.admits
  have howns : e.platform.frameOwnsMonitors = true := by rw [X.admits.platform]
  have hfin : e.platform.finalization = false := by rw [X.admits.platform]
  have hpl : e.platform.magicAccessors = ({} : Platform).magicAccessors := by rw [X.admits.platform]
  have wds : (∀ w ∈ Bundle.chain0Atoms (cnm k) ["java/lang/RuntimeException", "java/lang/Exception"], okw w) ∧ (okw (.instantiable (cnm k) 6) ∧ okw (.selects (cnm k) Bundle.tFill0 Bundle.tFill0) ∧ okw (.selects (cnm k) Bundle.tFill Bundle.tFill) ∧ okw (.lays (cnm k) "java/lang/Throwable" "cause" "Ljava/lang/Throwable;") ∧ okw (.lays (cnm k) "java/lang/Throwable" "stackTrace" "[Ljava/lang/StackTraceElement;") ∧ okw (.lays (cnm k) "java/lang/Throwable" "suppressedExceptions" "Ljava/util/List;") ∧ okw (.lays (cnm k) "java/lang/Throwable" "detailMessage" "Ljava/lang/String;") ∧ okw (.lays (cnm k) "java/lang/Throwable" "backtrace" "Ljava/lang/Object;")) ∧ Bundle.fit (cnm k) = true := by
    rcases (show k = 11 ∨ k = 12 ∨ k = 13 by omega) with rfl | rfl | rfl
    · exact ⟨ch_ok11, ew_ok11, by decide +kernel⟩
    · exact ⟨ch_ok12, ew_ok12, by decide +kernel⟩
    · exact ⟨ch_ok13, ew_ok13, by decide +kernel⟩
  obtain ⟨wch, ⟨wi, ws0, wsf, wlc, wls, wlp, wlm, wlb⟩, hfit⟩ := wds
  have hth : ∀ w ∈ Bundle.throwableAtoms, w.before args s = true := fun w hw => by
    rcases th_ok w hw with h | rfl | rfl
    · exact hG.ok hC.1 h
    · exact lay_s hG hC lst_ok.1
    · exact lay_s hG hC lst_ok.2
  obtain ⟨Tc, Z, L, LZ, Y⟩ := ThrowableC.of_atoms (args := args) howns hfin hpl hth
  obtain ⟨P1, Ps, hlen, L1, hL9, hP1m, hlink1, hlink⟩ := Bundle.chain0 (args := args) hpl Y.init0 ["java/lang/RuntimeException", "java/lang/Exception"] (cnm k) hfit (by decide +kernel) (fun w hw => hG.ok hC.1 (wch w hw))
  have hfound : s.vm.findClass (cnm k) = some P1.m.cls := findClass_of_methodNamed hP1m
  have hfE : s.vm.findClass (cnm k) = some (E.2.2.2.2 k) := by rw [hC.1.alike.findClass]; exact hG.2.2.2.2.2.1 k h11 hk13
  have hcE : E.2.2.2.2 k = P1.m.cls := Option.some.inj (hfE.symm.trans hfound)
  obtain ⟨c1, kX, hc1, hk, hord, -, -, hn6⟩ := Cond.instantiable_spec (hG.ok hC.1 wi (a := args))
  cases Option.some.inj (hc1.symm.trans hfound)
  have hit : kX.instanceTypes = kX0.instanceTypes := clsMv hC.1 (by rw [← hcE]; exact hkX0) hk
  have hcellT : T.heap[io E q]? = some (freshCell P1.m.cls kX) := by
    rw [hT, hcell, hcE]
    unfold freshCell
    rw [hit]
  have hsel0 : selectMethod e.platform s.vm P1.m.cls Tc.fill0 = .method Tc.fill0 := by
    obtain ⟨c2, r2, m2, q1, q2, q3, q4, -⟩ := Cond.selects_spec (hG.ok hC.1 ws0 (a := args))
    cases Option.some.inj (q1.symm.trans hfound)
    cases Option.some.inj (q2.symm.trans (State.methodFound?_of_named Y.fill0 (by decide)))
    cases Option.some.inj (q3.symm.trans Y.fill0)
    rw [Launch.admits_selectMethod X.admits]; exact q4
  have hselF : selectMethod e.platform s.vm P1.m.cls Tc.fill = .method Tc.fill := by
    obtain ⟨c2, r2, m2, q1, q2, q3, q4, -⟩ := Cond.selects_spec (hG.ok hC.1 wsf (a := args))
    cases Option.some.inj (q1.symm.trans hfound)
    cases Option.some.inj (q2.symm.trans (State.methodFound?_of_named Y.fill (by decide)))
    cases Option.some.inj (q3.symm.trans Y.fill)
    rw [Launch.admits_selectMethod X.admits]; exact q4
  obtain ⟨u0, cellS, hcS0, hiss, hu0, haE⟩ := zq_s hG hC hX hG.2.2.2.2.2.2.2.2.2.2.1 Y.unassigned L.statics
  obtain ⟨sen, cellS', hcS0', -, hsen, -⟩ := zq_s hG hC hX hG.2.2.2.2.2.2.2.2.2.2.2.1 Y.sentinel L.statics
  cases hcS0.symm.trans hcS0'
  have hcellS : T.heap[Tc.aS]? = some cellS := by rw [hT, hX.2.2.2.2.1 _ haE]; exact hcS0
  have hknownS : cellS.vm ≠ .unknown := fun hu => by rw [hu] at hiss; cases hiss
  have hneS : Tc.aS ≠ io E q := by
    have := io_b (E := E) h4
    exact Nat.ne_of_lt (Nat.lt_of_lt_of_le haE this)
  obtain ⟨ci198, i198, fB, hk198, hg198, ha198, hsB, -, hnB, htB, hffB⟩ := Cond.ownField (t := .object "java/lang/Object") Y.found L.cls (by decide +kernel) (hG.ok hC.1 bt_ok.1 (a := args)) (hG.ok hC.1 bt_ok.2 (a := args)) e.platform hpl
  obtain ⟨tyC, dC, hdC, hdnC⟩ := Cond.laysAt hfound hk Y.cause (hG.ok hC.1 wlc (a := args))
  obtain ⟨tyS, dS, hdS, hdnS⟩ := Cond.laysAt hfound hk Y.stack (hG.ok hC.1 wls (a := args))
  obtain ⟨tyP, dP, hdP, hdnP⟩ := Cond.laysAt hfound hk Y.supp (hG.ok hC.1 wlp (a := args))
  obtain ⟨tyB, dB, hdB, hdnB⟩ := Cond.laysAt hfound hk hffB (hG.ok hC.1 wlb (a := args))
  have bC := Cond.laysApart hdB hdC hdnB hdnC (by rw [hnB, Y.causeName]; decide)
  have bS := Cond.laysApart hdB hdS hdnB hdnS (by rw [hnB, Y.stackName]; decide)
  have bP := Cond.laysApart hdB hdP hdnB hdnP (by rw [hnB, Y.suppName]; decide)
  have hskip : SkipFacts Tc e.platform s (fun u => u) u0 ((preparedCellV Tc.toThrowableT (freshCell P1.m.cls kX) (io E q) u0 sen).withEntry T.cur) :=
    ⟨{ ci198 := ci198, i198 := i198, fBack := fB }, ⟨hk198, hg198, ha198, hsB⟩, by
      have := fresh_default (c := P1.m.cls) tyB
      rw [htB] at this
      simpa [preparedCellV, Cell.setSlot, Cell.withEntry, Array.getElem?_setIfInBounds, bC, bS, bP, bC.symm, bS.symm, bP.symm, defaultValue] using this, fun _ _ => rfl⟩
  have hins : (Cond.instanceMethod (exN k)).before args s = true := by
    rcases (show k = 11 ∨ k = 12 ∨ k = 13 by omega) with rfl | rfl | rfl
    · exact hG.ok hC.1 (ch_ok11 _ List.mem_cons_self)
    · exact hG.ok hC.1 (ch_ok12 _ List.mem_cons_self)
    · exact hG.ok hC.1 (ch_ok13 _ List.mem_cons_self)
  have hcod : (Cond.code (exN k) Bundle.five 1 none).before args s = true := by
    rcases (show k = 11 ∨ k = 12 ∨ k = 13 by omega) with rfl | rfl | rfl
    · exact hG.ok hC.1 (ch_ok11 _ (List.mem_cons_of_mem _ List.mem_cons_self))
    · exact hG.ok hC.1 (ch_ok12 _ (List.mem_cons_of_mem _ List.mem_cons_self))
    · exact hG.ok hC.1 (ch_ok13 _ (List.mem_cons_of_mem _ List.mem_cons_self))
  have hsA : List.map (cv E) (vA q :: vA q :: t) = .ref (io E q) :: .ref (io E q) :: t.map (cv E) := by rw [List.map_cons, List.map_cons, cv_A hq3]
  rw [hsA]
  obtain ⟨tm, methC, cdC, kC, vm₁, hnC, -, -, -, -, -, -, -, hW₁, st1⟩ := Steps.initCold (tb := p.tables) (e := e) (below := below) (s := s) (U := T) X.here hG.2.1 X.warmed hpl hC.2.2.2.2.1 (t := exN k) rfl rfl (Bundle.fit_spec hfit).2
    hlinkI hins (bytes := Bundle.five) (maxL := 1) hcod (f := F0 m pc lc (.ref (io E q) :: .ref (io E q) :: t.map (cv E))) rfl (a := io E q) (rest := .ref (io E q) :: t.map (cv E)) rfl (by rw [hC.2.1]; exact hd)
  cases Option.some.inj (hnC.symm.trans hP1m)
  have X₁ := X.noted hW₁
  have hlocs9 : 2 * 0 + ((Value.ref (io E q) :: t.map (cv E)).map fun v => v.category).sum + (13 * 3 + 41) ≤ R.locals := by
    rw [List.map_cons, List.sum_cons]
    show 2 * 0 + (1 + _) + _ ≤ _
    omega
  obtain ⟨vm₂, X₂, st2⟩ := X₁.ctorPlainOffV hG.2.1 (g := F0 m pc lc (.ref (io E q) :: t.map (cv E))) rfl (lcs hC hL) Tc L Z LZ (P1 :: Ps)
    (fun P hP => by rcases List.mem_cons.mp hP with rfl | hP; exact L1; exact hL9 P hP) ⟨hlink1, hlink⟩ (u0 := u0) (sen := sen) (self := io E q) (cell := freshCell P1.m.cls kX) (cellS := cellS)
    hcellT (fun _ => by simp) (by simp) rfl rfl hsel0 hselF hcellS hneS hknownS hu0 hsen
    (Takes.of_laid hk hord tyC (by rw [Y.causeType]; rfl)) (Takes.of_laid hk hord tyS (by rw [Y.stackType]; exact fits_refV_array _ u0)) (Takes.of_laid hk hord tyP (by rw [Y.suppType]; exact fits_refV_object _ sen)) Y.objLocals hskip htr [] (by rw [hC.2.1]; exact hd)
    (by rw [List.length_cons, hlen]; show 3 + 2 < R.frames; omega) (by rw [List.length_cons, hlen]; exact hlocs9)
  have hout : ∀ y ∈ c.exceptionTable.toList, covers y (pc + 3) = false := by
    have h9 : mhn mi = [] := by
      unfold mhn
      rw [List.getD_eq_getElem?_getD, List.getElem?_eq_none (show MHL.length ≤ mi by show 13 ≤ mi; omega)]
      rfl
    intro y hy
    have h8 : t4 y ∈ mhn mi := by rw [← hC.2.2.2.2.2.2.2.1]; exact List.mem_map_of_mem hy
    rw [h9] at h8
    cases h8
  obtain ⟨hwalk, hrun, hended, hWU, hsame⟩ := X₂.athrowLeaves hG.2.1 (g := F0 m (pc + 3) lc (.ref (io E q) :: t.map (cv E))) rfl rfl rfl hout (a := io E q) (rest := t.map (cv E)) rfl (by rw [hC.2.1]; exact hd3) hC.2.2.2.2.2.1
  have hqH : io E q < H.size := (Array.getElem?_eq_some_iff.mp hcell).1
  refine ⟨_, st1 _ (fun acts => ?_), hrun, hended, hWU, ?_, ⟨h4, k + 3, 6, hK_stK_s, by omega, by omega⟩, _, _, _, hsame, fun y hy => ?_, b2, b3, b8, b9⟩
  · rw [doInvoke_state]
    exact st2 _ hwalk
  · show RL E s0 (stK x q (k + 3) 6) (T.heap.setIfInBounds (io E q) _)
    rw [hT]
    refine hX.set hG.1 hq h4 (c' := k + 3) (n' := 6) (fun b hb => hK_stK_n hb) hK_stK_s rfl (fun b _ => rfl) (fun b _ => rfl) ⟨fun h => by omega, fun _ h => by omega, fun _ _ => ⟨by omega, _, by rw [Array.getElem?_setIfInBounds, if_pos rfl, if_pos hqH], ?_, ?_⟩, fun h => by omega⟩ (by simp) (fun a ha => by simp [Array.getElem?_setIfInBounds, Ne.symm ha]) (fun j => ?_) (fun h => by omega)
    · rw [show k + 3 - 3 = k by omega, hcE]
      rfl
    · rfl
    · have h9 := hX.2.2.2.2.2 q j
      unfold rgm at h9 ⊢
      rw [hI_stK, hK_stK_s]
      refine ⟨h9.1, fun _ => h9.2.1 (fun n9 h8 => by rw [hq] at h8; cases h8; omega), fun n9 h8 => by cases h8; omega⟩
  · rcases List.mem_append.mp hy with h1 | h1
    · exact b1 y h1
    · have hb : y.base = io E q := by
        simp only [List.mem_cons, List.not_mem_nil, or_false] at h1
        rcases h1 with rfl | rfl | rfl | rfl <;> rfl
      rw [hb]
      exact io_b h4
end
