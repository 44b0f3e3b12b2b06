/-! the context of a walk, locals, and the kit's rows at an abstract step -/
def wfv (v : AV) : Prop := match v with
  | .inl z => inI z = true
  | .inr (.inl z) => inL z
  | .inr (.inr _) => True
def LR (E : EV) (mi : Nat) (ls : List AV) (lc : Array Slot) : Prop :=
  ls.length = mxl mi ∧ lc.size = mxl mi ∧ lv_wf lc ∧ (∀ (i : Nat) (v : AV), ls[i]? = some v → wfv v ∨ v = vL jk) ∧ (∀ (i : Nat) (v : AV), ls[i]? = some v → v ≠ vL jk → lc[i]? = some (Slot.val (cv E v))) ∧ (∀ (i : Nat) (z : Int), ls[i]? = some (vL z) → z ≠ jk → i = lps mi)
theorem cv_cat1 {E : EV} {s0 : State} (hE : EVok E s0) {v : AV} (h : nLg v = true) : (cv E v).category = 1 := by
  rcases v with z | z | r
  · rfl
  · simp [nLg] at h
  · rcases cv_R hE r with e | ⟨a, e⟩
    · rw [show cv E (Sum.inr (Sum.inr r)) = cv E (vR r) from rfl, e]; rfl
    · rw [show cv E (Sum.inr (Sum.inr r)) = cv E (vR r) from rfl, e]; rfl
theorem wfv_ne {v : AV} (h : wfv v) : v ≠ vL jk := by
  rintro rfl
  have : inL jk := h
  unfold inL jk at this
  omega
theorem LR.at {E : EV} {mi : Nat} {ls : List AV} {lc : Array Slot} (h : LR E mi ls lc) {i : Nat} {v : AV} (hv : ls[i]? = some v) (hw : wfv v) : lc[i]? = some (.val (cv E v)) := h.2.2.2.2.1 i v hv (wfv_ne hw)
theorem LR.wf {E : EV} {mi : Nat} {ls : List AV} {lc : Array Slot} (h : LR E mi ls lc) {i : Nat} {v : AV} (hv : ls[i]? = some v) (hl : nLg v = true) : wfv v := by
  rcases h.2.2.2.1 i v hv with h | h
  · exact h
  · subst h; simp [nLg] at hl
theorem LR.store {E : EV} {s0 : State} (hE : EVok E s0) {mi : Nat} {ls : List AV} {lc : Array Slot} (h : LR E mi ls lc) {i : Nat} {v : AV} (hi : i < mxl mi) (hs : stk mi i = true) (hv : nLg v = true) (hw : wfv v) :
    ∃ lc', storeLocals lc i (cv E v) = some lc' ∧ LR E mi (ls.set i v) lc' := by
  obtain ⟨h1, h2, h3, h4, h5, h6⟩ := h
  have hc := cv_cat1 hE hv
  obtain ⟨lc', e1, g1, g2, g3⟩ := lv_store1 (ls := lc) (nL := mxl mi) (l := []) (i := i) (v := cv E v) ⟨h2, h3, fun q hq => by cases hq⟩ hi hc
  refine ⟨lc', e1, by rw [List.length_set]; exact h1, g1, g2, fun j w hj => ?_, fun j w hj hne => ?_, fun j z hj hz => ?_⟩
  · rw [List.getElem?_set] at hj
    split at hj
    · split at hj
      · cases hj; exact Or.inl hw
      · cases hj
    · exact h4 j w hj
  · rw [List.getElem?_set] at hj
    split at hj
    · rename_i e
      split at hj
      · cases hj
        subst e
        exact g3 (i, cv E v) (by simp)
      · cases hj
    · rename_i e
      have hj' := h5 j w hj hne
      obtain ⟨lc2, e2, f1, f2, f3⟩ := lv_store1 (ls := lc) (nL := mxl mi) (l := [(j, cv E w)]) (i := i) (v := cv E v) ⟨h2, h3, fun q hq => by rw [List.mem_singleton.mp hq]; exact hj'⟩ hi hc
      cases e1.symm.trans e2
      refine f3 (j, cv E w) (List.mem_cons_of_mem _ (List.mem_filter.mpr ⟨List.mem_singleton.mpr rfl, ?_⟩))
      have hne2 : ¬ j = i := fun e' => e e'.symm
      have h7 : ¬ (j + 1 = i ∧ (cv E w).category = 2) := by
        rintro ⟨a, b⟩
        rcases w with z | z | r
        · cases b
        · have := h6 j z hj (fun hz => hne (by rw [hz]))
          subst this
          simp only [stk, Bool.and_eq_true, Bool.not_eq_true'] at hs
          have h8 := hs.1
          rw [← a] at h8
          simp at h8
        · rw [cv_cat1 hE (v := Sum.inr (Sum.inr r)) rfl] at b; cases b
      simp only [Bool.and_eq_true, Bool.not_eq_true', beq_eq_false_iff_ne, ne_eq, Bool.and_eq_false_imp, beq_iff_eq]
      exact ⟨hne2, fun a b => h7 ⟨a, b⟩⟩
  · rw [List.getElem?_set] at hj
    split at hj
    · split at hj
      · cases hj; simp [nLg] at hv
      · cases hj
    · exact h6 j z hj hz
/-- the words of the tables that hold at every later state -/
def gw (w : Cond) : Bool := (w.onTables && w.keeps) || (match w with
  | .arrayClass _ => true
  | .fieldLinkNest .. => true
  | .methodLinkNest .. => true
  | .declares _ => true
  | .castable .. => true
  | .arrayOver (.object _) => true
  | _ => false)
theorem gw_mv {s U : State} (hW : s.WarmedH U.vm) {w : Cond} (hg : gw w = true) {a a' : Array Value} (h : w.before a s = true) : w.before a' U = true := by
  unfold gw at hg
  rw [Bool.or_eq_true] at hg
  rcases hg with hg | hg
  · exact word_at hW (Or.inl hg) h
  · cases w with
    | arrayClass ty => exact word_at hW (Or.inr ⟨ty, rfl⟩) h
    | fieldLinkNest a1 a2 a3 a4 a5 a6 => exact va_Nw.use rfl (va_Nw.warmF hW (va_Nw.of rfl h))
    | methodLinkNest a1 a2 a3 a4 => exact va_Nw.use rfl (va_Nw.warmM hW (va_Nw.of rfl h))
    | declares x => exact va_Nw.use rfl (va_Nw.warmD hW (va_Nw.of rfl h))
    | castable a1 a2 => exact va_Nw.use rfl (va_Nw.warmC hW (va_Nw.of rfl h))
    | arrayOver ty =>
      cases ty with
      | object n => exact va_AO.use (va_AO.moved hW.alike (va_AO.of h))
      | _ => simp at hg
    | _ => simp at hg
theorem tw_mem {i : Nat} {w : Cond} (h : tw i w = true) : w ∈ lw_tbl := List.mem_of_getElem? (of_decide_eq_true h)
/-- the surroundings of the whole run: the law's entry -/
def GX (E : EV) (p : Program) (s0 : State) : Prop :=
  EVok E s0 ∧ p.tables.exec = Jvm.exec ∧ (∀ w ∈ lw_tbl, w.before #[Value.ref (E.1 0)] s0 = true) ∧
  (∀ c, c ≤ 10 → c ≠ 4 → u_Kn s0 (cnm c) (Ff c) (clN c) (E.2.2.2.1.1 c) (E.2.2.2.1.2 c)) ∧
  (∀ c, 20 ≤ c → c ≤ 27 → ArrOfT s0 (E.2.2.2.2 c) (arT c) ∧ va_RA s0 (E.2.2.2.2 c) (arT c)) ∧
  (∀ c, 11 ≤ c → c ≤ 13 → s0.vm.findClass (cnm c) = some (E.2.2.2.2 c)) ∧
  va_Z (stC 0).1 (stC 0).2.1 (stC 0).2.2 (.int 1) (fun a => E.2.1 ≤ a) s0 s0.heap ∧
  (∀ k, 1 ≤ k → k ≤ 3 → va_Z (stC k).1 (stC k).2.1 (stC k).2.2 (cv E (vA k)) (fun a => E.2.1 ≤ a) s0 s0.heap) ∧
  va_Nc (cnm 5) (cnm 6) s0 ∧ va_Nc (cnm 6) (cnm 5) s0 ∧
  va_Zq "java/lang/Throwable" "UNASSIGNED_STACK" "[Ljava/lang/StackTraceElement;" (fun a => E.2.1 ≤ a) s0 s0.heap ∧
  va_Zq "java/lang/Throwable" "SUPPRESSED_SENTINEL" "Ljava/util/List;" (fun a => E.2.1 ≤ a) s0 s0.heap ∧
  ∀ a b, 11 ≤ a → a ≤ 13 → 11 ≤ b → b ≤ 13 → a ≠ b → va_Nc (cnm a) (cnm b) s0
def t4 (h : ClassFile.ExceptionTableEntry) : Nat × Nat × Nat × Nat := (h.startPc, h.endPc, h.handlerPc, h.catchType)
/-- the surroundings of one method's walk -/
def CX (s0 : State) (mi : Nat) (s : State) (m : MethodId) (meth : Method) (c : Code) : Prop :=
  s0.WarmedH s.vm ∧ c.code = mb mi ∧ meth.sig.returnType = mrt mi ∧ c.maxLocals = mxl mi ∧ s.vm.findClass (onm (mow mi)) = some m.cls ∧ meth.locks = false ∧ meth.name = (mnm mi).name ∧ c.exceptionTable.toList.map t4 = mhn mi ∧ ∀ a, a < s0.heap.size → s.heap[a]? = s0.heap[a]?
theorem GX.wd {E : EV} {p : Program} {s0 s : State} (h : GX E p s0) (hW : s0.WarmedH s.vm) {i : Nat} {w : Cond} (hw : tw i w = true) (hg : gw w = true) {a : Array Value} : w.before a s = true := gw_mv hW hg (h.2.2.1 w (tw_mem hw))
