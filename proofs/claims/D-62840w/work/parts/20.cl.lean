/-! entries; calls -/
def MF (s : State) (j : Nat) (mk : MethodId) (meth : Method) (c : Code) (k : Class) : Prop :=
  s.methodNamed? (mnm j) = some mk ∧ s.vm.method? mk = some meth ∧ meth.code = some c ∧ c.code = mb j ∧ c.maxLocals = mxl j ∧ meth.locks = false ∧ meth.sig.returnType = mrt j ∧ meth.sig.parameters.length = mar j ∧ c.exceptionTable.toList.map t4 = mhn j ∧
  s.vm.classes[mk.cls]? = some k ∧ k.init = .initialized ∧ s.vm.findClass (onm (mow j)) = some mk.cls ∧ s.plainMethod mk ∧ meth.name = (mnm j).name ∧ ((mnm j).cls ≠ "java/lang/invoke/MethodHandle" ∧ (mnm j).cls ≠ "java/lang/invoke/VarHandle") ∧ (∀ sig, parseMethodDescriptor (mnm j).desc = some sig → mar j = sig.parameters.length)
section
variable {E : EV} {p : Program} {l : Launch} {e : Env} {R : Room} {s0 s : State} {m : MethodId} {args : Array Value} {below : List Frame} {meth : Method} {c : Code} {H : Heap} {locs : List Loc} {cells slots nE sE r mi pc pc' len r1 r2 r3 r4 : Nat} {Q : State → Prop} {ls ls' st st' : List AV} {x x' : HP} {lc : Array Slot}
theorem mhn_nil {j : Nat} (h : ¬ (1 ≤ j ∧ j < 13)) : mhn j = [] := by
  by_cases h0 : j = 0
  · subst h0; rfl
  · unfold mhn
    rw [List.getD_eq_getElem?_getD, List.getElem?_eq_none (show MHL.length ≤ j by show 13 ≤ j; omega)]
    rfl
theorem mf {j : Nat} (hG : GX E p s0) (hW : s0.WarmedH s.vm) (h1 : 1 ≤ j) (h2 : j < 162) : ∃ mk meth c k, MF s j mk meth c k := by
  have h9 := List.all_eq_true.mp nmk_ok j (List.mem_range.mpr h2)
  simp only [nmk, Bool.and_eq_true, decide_eq_true_eq] at h9
  obtain ⟨e1, e2, e3, e4, e5, e6, e7⟩ := h9
  have hcw : (cwd j).before #[] s = true := gw_mv hW (gw_cwd j) (hG.2.2.1 _ (cwA j h1 h2))
  have hini : (Cond.initialized (mnm j).cls).before #[] s = true := hG.wd hW (List.all_eq_true.mp IIX_ok j (List.mem_range.mpr h2)) rfl
  have key : ∃ mk meth c, s.methodNamed? (mnm j) = some mk ∧ s.vm.method? mk = some meth ∧ meth.code = some c ∧ c.code = mb j ∧ c.maxLocals = mxl j ∧ meth.locks = false ∧ meth.sig.returnType = mrt j ∧ parseMethodDescriptor (mnm j).desc = some meth.sig ∧ c.exceptionTable.toList.map t4 = mhn j := by
    unfold cwd at hcw
    split at hcw
    · obtain ⟨mk, meth, c, g1, g2, g3, g4, g5, g6, g7, g8, g9⟩ := Cond.codeWith_spec hcw
      exact ⟨mk, meth, c, g1, g2, g3, g4, g5, g8, g7, g9, g6⟩
    · rename_i hj
      obtain ⟨mk, hn⟩ := Cond.code_named hcw
      obtain ⟨meth, c, g2, g3, g4, g5, g6, g7, g8, g9⟩ := Cond.code_spec hn hcw
      refine ⟨mk, meth, c, hn, g2, g3, g4, g5, g7, g6, g9, ?_⟩
      rw [mhn_nil hj]
      have h8 : c.exceptionTable = #[] := by simpa using g8
      rw [h8]
      rfl
  obtain ⟨mk, meth, c, g1, g2, g3, g4, g5, g6, g7, g8, g9⟩ := key
  obtain ⟨k, hk, hkn⟩ := className_of_methodNamed g1
  rw [g8] at e5
  refine ⟨mk, meth, c, k, g1, g2, g3, g4, g5, g6, g7, Option.some.inj e5, g9, hk, Cond.initialized_spec (findClass_of_methodNamed g1) hk hini, by rw [← e1]; exact findClass_of_methodNamed g1, State.plainMethod.of_named e4 g1 g2, (name_of_methodNamed g1 g2).1, ⟨e2, e3⟩, fun sig h => ?_⟩
  cases g8.symm.trans h
  exact (Option.some.inj e5).symm
theorem ent_at (hE : EVok E s0) : ∀ (aL : List AV), (∀ v ∈ aL, wfv v) → (lg_sl (aL.map (cv E))).length = (aL.flatMap exL).length ∧ ∀ (i : Nat) (v : AV), (aL.flatMap exL)[i]? = some v → (wfv v ∨ v = vL jk) ∧ (v ≠ vL jk → (lg_sl (aL.map (cv E)))[i]? = some (Slot.val (cv E v)))
  | [], _ => ⟨rfl, fun i v h => by simp at h⟩
  | a :: t, hw => by
    obtain ⟨i1, i2⟩ := ent_at hE t (fun v hv => hw v (List.mem_cons_of_mem _ hv))
    have ha := hw a List.mem_cons_self
    have one : exL a = [a] → (cv E a).category = 1 → (lg_sl ((a :: t).map (cv E))).length = ((a :: t).flatMap exL).length ∧ ∀ (i : Nat) (v : AV), ((a :: t).flatMap exL)[i]? = some v → (wfv v ∨ v = vL jk) ∧ (v ≠ vL jk → (lg_sl ((a :: t).map (cv E)))[i]? = some (Slot.val (cv E v))) := by
      intro e1 e2
      have e3 : lg_sl ((a :: t).map (cv E)) = Slot.val (cv E a) :: lg_sl (t.map (cv E)) := by
        simp [lg_sl, e2]
      have e4 : (a :: t).flatMap exL = a :: t.flatMap exL := by rw [List.flatMap_cons, e1]; rfl
      rw [e3, e4]
      refine ⟨by rw [List.length_cons, List.length_cons, i1], fun i v h => ?_⟩
      cases i with
      | zero => rw [List.getElem?_cons_zero] at h ⊢; cases h; exact ⟨Or.inl ha, fun _ => rfl⟩
      | succ i => rw [List.getElem?_cons_succ] at h ⊢; exact i2 i v h
    rcases a with z | z | rr
    · exact one rfl rfl
    · have e3 : lg_sl (((Sum.inr (Sum.inl z) : AV) :: t).map (cv E)) = Slot.val (cv E (vL z)) :: Slot.second :: lg_sl (t.map (cv E)) := by
        simp [lg_sl, cv, Value.category]
      have e4 : ((Sum.inr (Sum.inl z) : AV) :: t).flatMap exL = vL z :: vL jk :: t.flatMap exL := by rw [List.flatMap_cons]; rfl
      rw [e3, e4]
      refine ⟨by simp only [List.length_cons, i1], fun i v h => ?_⟩
      match i with
      | 0 => rw [List.getElem?_cons_zero] at h ⊢; cases h; exact ⟨Or.inl ha, fun _ => rfl⟩
      | 1 => rw [List.getElem?_cons_succ, List.getElem?_cons_zero] at h; cases h; exact ⟨Or.inr rfl, fun h => absurd rfl h⟩
      | i + 2 => rw [List.getElem?_cons_succ, List.getElem?_cons_succ] at h ⊢; exact i2 i v h
    · exact one rfl (cv_cat1 hE (v := Sum.inr (Sum.inr rr)) rfl)
theorem all_exL : ∀ aL : List AV, aL.all nLg = true → aL.flatMap exL = aL
  | [], _ => rfl
  | a :: t, h => by
    simp only [List.all_cons, Bool.and_eq_true] at h
    rw [List.flatMap_cons, all_exL t h.2]
    rcases a with z | z | rr
    · rfl
    · simp [nLg] at h
    · rfl
theorem LR.entry (hE : EVok E s0) {mj : Nat} {aL : List AV} (hlok : lok mj aL = true) (hw : ∀ v ∈ aL, wfv v) (hlen : (aL.flatMap exL).length ≤ mxl mj) : LR E mj (ent (mxl mj) aL) ((lg_sl (aL.map (cv E)) ++ List.replicate (mxl mj - (lg_sl (aL.map (cv E))).length) Slot.unset).toArray) := by
  obtain ⟨i1, i2⟩ := ent_at hE aL hw
  obtain ⟨j1, j2, -⟩ := lv_entry (aL.map (cv E)) (n := mxl mj) (by rw [i1]; exact hlen)
  refine ⟨?_, j1, j2, fun i v h => ?_, fun i v h hne => ?_, fun i z h hz => ?_⟩
  · unfold ent
    rw [List.length_append, List.length_replicate]
    omega
  · unfold ent at h
    rw [List.getElem?_append] at h
    split at h
    · exact (i2 i v h).1
    · rw [List.getElem?_replicate] at h
      split at h
      · cases h; exact Or.inr rfl
      · cases h
  · unfold ent at h
    rw [List.getElem?_append] at h
    split at h
    · rename_i hi
      rw [List.getElem?_toArray, List.getElem?_append_left (by rw [i1]; exact hi)]
      exact (i2 i v h).2 hne
    · rw [List.getElem?_replicate] at h
      split at h
      · cases h; exact absurd rfl hne
      · cases h
  · unfold ent at h
    rw [List.getElem?_append] at h
    split at h
    · unfold lok at hlok
      split at hlok
      · rename_i hj
        unfold lps
        rw [if_pos hj]
        split at hlok
        · rename_i rr z9
          match i, h with
          | 0, h => cases h
          | 1, h => rfl
          | 2, h => cases h; exact absurd rfl hz
          | i + 3, h => cases h
        · cases hlok
      · rw [all_exL aL hlok] at h
        have h9 := List.all_eq_true.mp hlok _ (List.mem_of_getElem? h)
        simp [nLg] at h9
    · rw [List.getElem?_replicate] at h
      split at h
      · cases h; exact absurd rfl hz
      · cases h
/-- what is to be shown of a run -/
def IHok (E : EV) (p : Program) (l : Launch) (e : Env) (s0 : State) (r mi pc : Nat) (ls st : List AV) (x : HP) (o : AO) (y : HP) : Prop :=
  ∀ (R : Room) (s : State) (m : MethodId) (args : Array Value) (below : List Frame) (meth : Method) (c : Code) (H : Heap) (locs : List Loc) (cells slots nE sE : Nat) (lc : Array Slot),
    CX s0 mi s m meth c → RL E s0 x H → LR E mi ls lc → (∀ v ∈ st, wfv v) → BX R E x locs cells slots nE sE r →
    W p l e R s m args below meth c H locs cells slots (FQ E s0 R s below nE sE o y) (F0 m pc lc (st.map (cv E)))
def KE (E : EV) (p : Program) (l : Launch) (e : Env) (R : Room) (s0 s : State) (m : MethodId) (args : Array Value) (below : List Frame) (meth : Method) (c : Code) (nE sE r mi pc : Nat) (Q : State → Prop) (ls rest : List AV) (lc : Array Slot) (o : AO) (y : HP) : Prop := match o with
  | .inl v => KT E p l e R s0 s m args below meth c nE sE r mi Q (pc + 3) ls (v.toList ++ rest) y
  | .inr q => ∀ (T : State) (locs : List Loc) (cells slots : Nat), Stand p l e R s m args below meth c T locs cells slots → RL E s0 y T.heap → BX R E y locs cells slots nE sE r → wfo y (.inr q) →
    ∃ t, Steps p.tables e below ((T.setTop (F0 m pc lc (rest.map (cv E)))).pushFrame (.throwing (io E q))) t ∧ Q t
set_option maxHeartbeats 4000000 in
theorem call_run {mj r' : Nat} {aL rest : List AV} {o : AO} {y : HP} {T : State} {ig : Instr} {mk : MethodId} (hG : GX E p s0) (IH : IHok E p l e s0 r' mj 0 (ent (mxl mj) aL) [] x o y) (hr : r' < r) (hC : CX s0 mi s m meth c) (X : Stand p l e R s m args below meth c T locs cells slots) (hX : RL E s0 x T.heap) (hB : BX R E x locs cells slots nE sE r) (hL : LR E mi ls lc)
    (hd : decode (mb mi) pc = .ok (ig, 3)) (h1 : 1 ≤ mj) (h2 : mj < 162) (hlok : lok mj aL = true) (hlen : aL.length = mar mj + (if mst mj then 0 else 1)) (hw : ∀ v ∈ aL, wfv v) (hs : sml rest = true) (hwr : ∀ v ∈ rest, wfv v) (hmk : s.methodNamed? (mnm mj) = some mk) (K : KE E p l e R s0 s m args below meth c nE sE r mi pc Q ls rest lc o y) :
    ∃ t, (∀ acts, Steps p.tables e below (doInvoke e (T.setTop (F0 m pc lc (rest.map (cv E)))) acts mk (aL.map (cv E)).toArray).1 t) ∧ Q t := by
  have hWT : s0.WarmedH T.vm := State.WarmedH.trans hC.1 X.warmed
  obtain ⟨mk', methk, ck, kk, f1, f2, f3, f4, f5, f6, f7, f8, f9, f10, f11, f12, f13, f14, -, -⟩ := mf (s := T) hG hWT h1 h2
  cases f1.symm.trans (X.named hmk)
  have hcat := sml_cat hG.1 hs
  have h9 := List.all_eq_true.mp nmk_ok mj (List.mem_range.mpr h2)
  simp only [nmk, Bool.and_eq_true, decide_eq_true_eq] at h9
  obtain ⟨-, -, -, -, -, e6, e7⟩ := h9
  have e6 := Nat.le_of_ble_eq_true e6
  have e7 := Nat.le_of_ble_eq_true e7
  have hfl : (aL.flatMap exL).length ≤ mxl mj := by
    unfold lok at hlok
    split at hlok
    · rename_i hj
      rw [if_pos hj] at e6
      split at hlok
      · show 3 ≤ mxl mj
        simp only [List.length_cons, List.length_nil] at hlen
        omega
      · cases hlok
    · rw [all_exL aL hlok, hlen]
      omega
  obtain ⟨b1, b2, b3, b4, b5, b6, b7, b8, b9⟩ := hB
  obtain ⟨Y₀, hin⟩ := X.into (g := F0 m pc lc (rest.map (cv E))) rfl (lcs hC hL) (by rw [hC.2.1]; exact hd) (aL.map (cv E)).toArray (R' := { frames := R.frames - 1, cells := R.cells - cells, slots := R.slots - slots, locals := R.locals - (12 + (mxl mj + 11)) }) f2 f3 f6 f13
    (by show R.frames - 1 + 1 ≤ R.frames; omega) (by show 2 * 0 + ((rest.map (cv E)).map fun v => v.category).sum + (ck.maxLocals + 11) + (R.locals - (12 + (mxl mj + 11))) ≤ R.locals; rw [f5]; omega) (by show cells + (R.cells - cells) ≤ R.cells; omega) (by show slots + (R.slots - slots) ≤ R.slots; omega)
  have hent : entryFrame mk (aL.map (cv E)).toArray ck.maxLocals = F0 mk 0 ((lg_sl (aL.map (cv E)) ++ List.replicate (mxl mj - (lg_sl (aL.map (cv E))).length) Slot.unset).toArray) (([] : List AV).map (cv E)) := by
    rw [lg_entry_eq, f5]
    rfl
  obtain ⟨t, st, hrun, hended, hWe, hXy, hwf, L, k, n, hsame, hLb, hk, hn, hkc, hns⟩ := IH { frames := R.frames - 1, cells := R.cells - cells, slots := R.slots - slots, locals := R.locals - (12 + (mxl mj + 11)) } (T.calling (F0 m pc lc (rest.map (cv E))) mk (aL.map (cv E)).toArray) mk (aL.map (cv E)).toArray (.java (F0 m pc lc (rest.map (cv E))) :: below) methk ck T.heap [] 0 0 (hN x) (hS x) _
    ⟨hWT, f4, f7, f5, f12, f6, f14, f9, fun a ha => hX.2.2.2.2.1 a (by rw [hG.1.1]; exact ha)⟩ hX (LR.entry hG.1 hlok hw hfl) (fun v hv => absurd hv List.not_mem_nil)
    ⟨fun q hq => absurd hq List.not_mem_nil, by omega, by omega, by show maxC ≤ R.cells - cells + hN x; omega, by show maxS ≤ R.slots - slots + hS x; omega, by show r' + 10 ≤ R.frames - 1; omega, by show 64 * r' + 400 ≤ R.locals - (12 + (mxl mj + 11)); omega, Nat.zero_le _, Nat.zero_le _⟩
    ((T.setTop (F0 m pc lc (rest.map (cv E)))).pushFrame (.java (entryFrame mk (aL.map (cv E)).toArray ck.maxLocals))) rfl Y₀
  rw [← hent] at st
  have hkc : k ≤ R.cells - cells := hkc
  have hns : n ≤ R.slots - slots := hns
  have hBy : ∀ L', (∀ q ∈ L', E.2.1 ≤ q.base) → BX R E y (locs ++ L') (cells + k) (slots + n) nE sE r := fun L' hL' => by
    refine ⟨fun q hq => ?_, by omega, by omega, b4, b5, b6, b7, by omega, by omega⟩
    rcases List.mem_append.mp hq with h | h
    · exact b1 q h
    · exact hL' q h
  cases o with
  | inl v =>
    have hended : Ended t (.java (F0 m pc lc (rest.map (cv E))) :: below) (.returned (v.map (cv E))) := by
      cases v <;> exact hended
    obtain ⟨T', X', -, -, ht⟩ := X.outOf (g := F0 m pc lc (rest.map (cv E))) rfl (by rw [hC.2.1]; exact hd) hended hWe hsame
    have hh : T'.heap = t.heap := by
      have h1 : t.heap = (T'.setTop _).heap := congrArg State.heap ht
      rw [h1]
      simp
    obtain ⟨t2, a2, q2⟩ := K T'.heap (locs ++ L) (cells + k) (slots + n) lc (by rw [hh]; exact hXy) hL (fun w hw9 => by
      rcases List.mem_append.mp hw9 with h | h
      · cases v with
        | none => cases h
        | some v9 => rw [Option.toList_some, List.mem_singleton] at h; rw [h]; exact hwf
      · exact hwr w h) (hBy L hLb) T' rfl X'
    refine ⟨t2, fun acts => ?_, q2⟩
    rw [hin acts]
    refine (Steps.weaken (mid := [.java (F0 m pc lc (rest.map (cv E)))]) st).trans ?_
    rw [ht]
    cases v <;> exact a2
  | inr q =>
    have hended : Ended t (.java (F0 m pc lc (rest.map (cv E))) :: below) (.threw (io E q)) := hended
    obtain ⟨T', X', -, -, ht⟩ := X.outOfThrown (g := F0 m pc lc (rest.map (cv E))) rfl hended hWe hsame
    have hh : T'.heap = t.heap := by
      have h1 : t.heap = ((T'.setTop (F0 m pc lc (rest.map (cv E)))).pushFrame (.throwing (io E q))).heap := congrArg State.heap ht
      rw [h1, Stand.throwing_heap]
    obtain ⟨t2, a2, q2⟩ := K T' (locs ++ L) (cells + k) (slots + n) X' (by rw [hh]; exact hXy) (hBy L hLb) hwf
    refine ⟨t2, fun acts => ?_, q2⟩
    rw [hin acts]
    refine (Steps.weaken (mid := [.java (F0 m pc lc (rest.map (cv E)))]) st).trans ?_
    rw [ht]
    exact a2
end
