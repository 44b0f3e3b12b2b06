/-! THE CLAIM OUT OF ONE WALK OF THE LAW'S BODY. Your part is whole_start (and what it stands on); all else here is the same for every law, but numbers. -/
def R_law : String := "InterchangeDeskLaw"
def lw_P (b : Addr) (xs : List Int32) (args : Array Value) (s : State) : Prop := args = #[.ref b] ∧ s.IntsAt b xs ∧ xs.length ≤ 240 ∧ (Jvm.Cond.and given_1 narrow_1).before args s = true
def lw_Q (_ : Array Value) (s : State) (o : Outcome) (t : State) : Prop := o = .returned (some (.int 1)) ∧ Framed s o t [] 600096 7301386
def lw_Z (below : List Frame) (a : Array Value) (s : State) : State → Prop := fun t => ∃ o, t.status = .running ∧ Ended t below o ∧ lw_Q a s o t
/-- the law's own end, with 1 on the stack, nothing written that was there before, its room as the claim has it -/
theorem lw_ret {p : Program} {l : Launch} {e : Env} {s : State} {m : MethodId} {below : List Frame} {meth : Method} {c : Code} {b : Nat} (hx : p.tables.exec = Jvm.exec) (hb : c.code = code) (hr : meth.sig.returnType = ret) (hlocks : meth.locks = false) {pc : Nat} {H : Heap} {ls : Array Slot} (hdg : decode code pc = .ok (.ireturn, 1)) : W p l e room_1 s m #[Value.ref b] below meth c H [] 600096 7301386 (lw_Z below #[Value.ref b] s) (F0 m pc ls [.int 1]) := by
  intro T hT X
  obtain ⟨fs, hret, hrun, hended, hW, hframe⟩ := X.leave (v := some (.int 1)) (hlocks := hlocks) (fun h => by rw [hr] at h; cases h)
  have hmeth' : T.vm.method? m = some meth := X.method'
  refine ⟨T.setFrames fs, ?_, .returned (some (.int 1)), hrun, hended, rfl, ⟨_, rfl⟩, hW, hframe⟩
  jvm_step X.here [X.here.top, hx, hb, hdg, hmeth', hr, ret, narrow_b1]
  (try refine ⟨rfl, ?_⟩); (try refine ⟨rfl, ?_⟩)
  first | (intro acts; rw [hret _ acts rfl rfl rfl]) | rw [hret _ _ rfl rfl rfl]
  exact Steps.refl _
/-- what holds at the law's entry: the machine, the code, the tables' words (any of lw_tbl by 'hts w (by decide +kernel)'), the script of L ints xs at the cell b, what the Statement gives of the start (any of its parts by flat_of_before) -/
def lw_At (p : Program) (s : State) (m : MethodId) (meth : Method) (c : Code) (b L : Nat) (xs : Nat → Int32) : Prop :=
  p.tables.exec = Jvm.exec ∧ c.code = code ∧ meth.sig.returnType = ret ∧ c.maxLocals = 7 ∧ s.vm.findClass R_law = some m.cls ∧ (∀ w ∈ lw_tbl, w.before #[Value.ref b] s = true) ∧ va_X b L xs s s.heap ∧ b < s.heap.size ∧ meth.locks = false ∧ (Jvm.Cond.and given_1 narrow_1).before #[Value.ref b] s = true
/-! the law's entry, on the abstract machine -/
def law0 (L : Nat) (f : Int → Int) : HP := ((4, 0), fun q => if q = 0 then some (20, L) else if q = 1 ∨ q = 2 then some (23, 100) else none, fun q j => if q = 0 then (if 0 ≤ j ∧ j < (L : Int) then f j else 0) else if q = 1 then (if 0 ≤ j ∧ j < 100 then 48 + j / 10 else 0) else if q = 2 then (if 0 ≤ j ∧ j < 100 then 48 + j % 10 else 0) else 0, fun _ _ => none)
def NWs : List Jvm.Cond := flatC (Jvm.Cond.and given_1 narrow_1)
abbrev sTens : Jvm.Term := .static "java/lang/Integer" "DigitTens" "[B"
abbrev sOnes : Jvm.Term := .static "java/lang/Integer" "DigitOnes" "[B"
set_option maxRecDepth 100000 in
theorem nw_tens0 : (NWs.drop 117).take 100 = (List.range 100).map (fun j => Jvm.Cond.eq (.elem sTens (.int (Int32.ofNat j))) (.int (Int32.ofNat (48 + j / 10)))) := rfl
set_option maxRecDepth 100000 in
theorem nw_ones0 : (NWs.drop 14).take 100 = (List.range 100).map (fun j => Jvm.Cond.eq (.elem sOnes (.int (Int32.ofNat j))) (.int (Int32.ofNat (48 + j % 10)))) := rfl
theorem nw_tens {j : Nat} (hj : j < 100) : (Jvm.Cond.eq (.elem sTens (.int (Int32.ofNat j))) (.int (Int32.ofNat (48 + j / 10)))) ∈ NWs := List.mem_of_mem_drop (List.mem_of_mem_take (by rw [nw_tens0]; exact List.mem_map.mpr ⟨j, List.mem_range.mpr hj, rfl⟩))
theorem nw_ones {j : Nat} (hj : j < 100) : (Jvm.Cond.eq (.elem sOnes (.int (Int32.ofNat j))) (.int (Int32.ofNat (48 + j % 10)))) ∈ NWs := List.mem_of_mem_drop (List.mem_of_mem_take (by rw [nw_ones0]; exact List.mem_map.mpr ⟨j, List.mem_range.mpr hj, rfl⟩))
set_option maxRecDepth 100000 in
theorem nw_oth : (Jvm.Cond.arrayOf sTens .byte) ∈ NWs ∧ (Jvm.Cond.eq (.length sTens) (.int 100)) ∈ NWs ∧ (Jvm.Cond.arrayOf sOnes .byte) ∈ NWs ∧ (Jvm.Cond.eq (.length sOnes) (.int 100)) ∈ NWs ∧ (Jvm.Cond.eq (.static "java/lang/String" "COMPACT_STRINGS" "Z") (.int 1)) ∈ NWs ∧ (Jvm.Cond.isRef (.static "jdk/internal/util/Preconditions" "SIOOBE_FORMATTER" "Ljava/util/function/BiFunction;")) ∈ NWs ∧
  (Jvm.Cond.isRef (.static "java/lang/Throwable" "UNASSIGNED_STACK" "[Ljava/lang/StackTraceElement;")) ∈ NWs ∧ (Jvm.Cond.isRef (.static "java/lang/Throwable" "SUPPRESSED_SENTINEL" "Ljava/util/List;")) ∈ NWs ∧ (Jvm.Cond.not (.castable (cnm 5) (cnm 6))) ∈ NWs ∧ (Jvm.Cond.not (.castable (cnm 6) (cnm 5))) ∈ NWs := ⟨List.mem_of_getElem? (i := 115) rfl, List.mem_of_getElem? (i := 116) rfl, List.mem_of_getElem? (i := 12) rfl, List.mem_of_getElem? (i := 13) rfl, List.mem_of_getElem? (i := 4) rfl, List.mem_of_getElem? (i := 7) rfl, List.mem_of_getElem? (i := 5) rfl, List.mem_of_getElem? (i := 6) rfl, List.mem_of_getElem? (i := 266) rfl, List.mem_of_getElem? (i := 250) rfl⟩
set_option maxRecDepth 100000 in
theorem nw_exc : ∀ a b, 11 ≤ a → a ≤ 13 → 11 ≤ b → b ≤ 13 → a ≠ b → (Jvm.Cond.not (.castable (cnm a) (cnm b))) ∈ NWs := by
  intro a b h1 h2 h3 h4 h5
  rcases (show (a = 11 ∧ b = 12) ∨ (a = 11 ∧ b = 13) ∨ (a = 12 ∧ b = 11) ∨ (a = 12 ∧ b = 13) ∨ (a = 13 ∧ b = 11) ∨ (a = 13 ∧ b = 12) by omega) with ⟨rfl, rfl⟩ | ⟨rfl, rfl⟩ | ⟨rfl, rfl⟩ | ⟨rfl, rfl⟩ | ⟨rfl, rfl⟩ | ⟨rfl, rfl⟩
  · exact List.mem_of_getElem? (i := 239) rfl
  · exact List.mem_of_getElem? (i := 278) rfl
  · exact List.mem_of_getElem? (i := 226) rfl
  · exact List.mem_of_getElem? (i := 279) rfl
  · exact List.mem_of_getElem? (i := 229) rfl
  · exact List.mem_of_getElem? (i := 242) rfl
theorem ini4_ok : tw 51 (.initialized "java/lang/String") = true ∧ tw 71 (.initialized "java/lang/Integer") = true ∧ tw 70 (.initialized "jdk/internal/util/Preconditions") = true ∧ tw 59 (.initialized "java/lang/Throwable") = true := by decide +kernel
theorem ltr_of {l : Launch} (h : l.flags = flags0) : LTR l := by
  intro e ha
  rw [ha.platform]
  show l.stackTraces = false
  unfold Launch.stackTraces
  rw [h]
  decide +kernel
set_option maxHeartbeats 4000000 in
theorem whole_start {p : Program} {e : Env} {s : State} {m : MethodId} {below : List Frame} {meth : Method} {c : Code} (l : Launch) (hl9 : LTR l) {b L : Nat} {xs : Nat → Int32} (hlaw : wp 12 0 0 (ent 7 [vA 0]) [] (law0 L (fun j => (xs j.toNat).toInt)) (fun o _ => o = .inl (some (vI 1)))) (hL : L ≤ 240) (C0 : lw_At p s m meth c b L xs) (hnm : meth.name = "law") (hex : c.exceptionTable.isEmpty = true) : W p l e room_1 s m #[Value.ref b] below meth c s.heap [] 0 0 (lw_Z below #[Value.ref b] s) (entryFrame m ([Value.ref b] : List Value).toArray 7) := by
  obtain ⟨hx, hcode, hret, hml, hown, hts, hX, hbl, hlk, hgv⟩ := C0
  have hnw : ∀ w ∈ NWs, w.before #[Value.ref b] s = true := flat_of_before _ hgv
  have wd : ∀ {i : Nat} {w : Jvm.Cond}, tw i w = true → w.before #[Value.ref b] s = true := fun h => hts _ (tw_mem h)
  have hA : ∀ a : Nat, a < s.heap.size → ¬ (s.heap.size ≤ a) := fun a h => Nat.not_le.mpr h
  obtain ⟨o1, o2, o3, o4, o5, o6, o7, o8, o9, o10⟩ := nw_oth
  have hls : ∀ k, k < 4 → (Cond.laysStatic (stC k).1 (stC k).2.1 (stC k).2.2).before #[Value.ref b] s = true := fun k hk => wd (List.all_eq_true.mp ls_ok k (List.mem_range.mpr hk))
  obtain ⟨tT, eT, hT⟩ := va_Tof (tm := sTens) (ty := .byte) (N := 100) (f := fun j => .int (Int32.ofNat (48 + j / 10))) (A := fun a => s.heap.size ≤ a) (by decide) (hnw _ o1) (va_eqt (hnw _ o2)) (fun j hj => va_eqt (hnw _ (nw_tens hj))) hA
  obtain ⟨tO, eO, hO⟩ := va_Tof (tm := sOnes) (ty := .byte) (N := 100) (f := fun j => .int (Int32.ofNat (48 + j % 10))) (A := fun a => s.heap.size ≤ a) (by decide) (hnw _ o3) (va_eqt (hnw _ o4)) (fun j hj => va_eqt (hnw _ (nw_ones hj))) hA
  have hfm : ∃ v : Value, (v = .null ∨ ∃ a, v = .ref a) ∧ va_Z (stC 3).1 (stC 3).2.1 (stC 3).2.2 v (fun a => s.heap.size ≤ a) s s.heap := by
    rcases va_Zqof (A := fun a => s.heap.size ≤ a) (hls 3 (by decide)) (wd ini4_ok.2.2.1) (hnw _ o6) hA with h | ⟨t, h⟩
    · exact ⟨_, Or.inl rfl, h⟩
    · exact ⟨_, Or.inr ⟨t, rfl⟩, h⟩
  obtain ⟨fv, hfv, hfz⟩ := hfm
  have hcl : ∀ k : Nat, ∃ q : ClassId × (Nat → Nat), k ≤ 10 → k ≠ 4 → u_Kn s (cnm k) (Ff k) (clN k) q.1 q.2 := by
    intro k
    by_cases hk : k ≤ 10 ∧ k ≠ 4
    · have h1 := List.all_eq_true.mp LIX_ok k (List.mem_range.mpr (by omega))
      rw [Bool.or_eq_true] at h1
      have h1 := h1.resolve_left (fun h => hk.2 (of_decide_eq_true h))
      have h2 := List.all_eq_true.mp NIX_ok k (List.mem_range.mpr (by omega))
      rw [Bool.or_eq_true] at h2
      have h2 := h2.resolve_left (fun h => hk.2 (of_decide_eq_true h))
      rw [Bool.and_eq_true] at h2
      obtain ⟨cC, iS, h⟩ := u_known (ws := lw_tbl) (C := cnm k) (T := Ff k) (N := clN k) hts (fun w hw => by
        obtain ⟨j, hj, rfl⟩ := List.mem_map.mp hw
        exact tw_mem (List.all_eq_true.mp h1 j hj)) (wd h2.1)
      exact ⟨(cC, iS), fun _ _ => h⟩
    · exact ⟨(0, fun _ => 0), fun h1 h2 => absurd ⟨h1, h2⟩ hk⟩
  obtain ⟨CS, hCS⟩ := Classical.skolem.mp hcl
  have har : ∀ k : Nat, ∃ cA : ClassId, (20 ≤ k → k ≤ 27 → ArrOfT s cA (arT k) ∧ va_RA s cA (arT k)) ∧ (11 ≤ k → k ≤ 13 → s.vm.findClass (cnm k) = some cA) := by
    intro k
    by_cases h1 : 11 ≤ k ∧ k ≤ 13
    · have h2 := List.all_eq_true.mp NIX_ok k (List.mem_range.mpr (by omega))
      rw [Bool.or_eq_true] at h2
      have h2 := h2.resolve_left (fun h => by have := of_decide_eq_true h; omega)
      rw [Bool.and_eq_true] at h2
      obtain ⟨cC, kC, hfc, -⟩ := Cond.instantiable_spec (wd h2.1)
      exact ⟨cC, fun h => by omega, fun _ _ => hfc⟩
    · by_cases h2 : 20 ≤ k ∧ k ≤ 25
      · have h3 := wd (List.all_eq_true.mp AIX_ok (k - 20) (List.mem_range.mpr (by omega)))
        rw [show 20 + (k - 20) = k by omega] at h3
        obtain ⟨cA, kA, comp, g1, g2, g3⟩ := Cond.arrayClass_spec h3
        refine ⟨cA, fun _ _ => ⟨fun N z => ⟨(fun k9 h9 => by cases h9), kA, g2, comp, g3⟩, ?_⟩, fun h => by omega⟩
        rcases (show k = 20 ∨ k = 21 ∨ k = 22 ∨ k = 23 ∨ k = 24 ∨ k = 25 by omega) with rfl | rfl | rfl | rfl | rfl | rfl <;> exact g1
      · by_cases h3 : k = 26 ∨ k = 27
        · have h4 : ∃ C, arT k = .object C ∧ (Cond.arrayOver (.object C)).before #[Value.ref b] s = true := by
            rcases h3 with rfl | rfl
            · exact ⟨_, rfl, wd AO_ok.1⟩
            · exact ⟨_, rfl, wd AO_ok.2⟩
          obtain ⟨C, e1, h5⟩ := h4
          obtain ⟨comp, cA, kA, g1, g2, g3, g4, g5⟩ := Cond.arrayOver_spec h5
          refine ⟨cA, fun _ _ => ⟨fun N z => ⟨(fun k9 h9 => by cases h9), kA, g3, comp, by rw [e1]; exact g4⟩, ?_⟩, fun h => by omega⟩
          rw [e1]
          exact ⟨kA, comp, g3, g4, g1, g5⟩
        · exact ⟨0, fun _ _ => by omega, fun _ _ => by omega⟩
  obtain ⟨KA, hKA⟩ := Classical.skolem.mp har
  have hZi : va_Z (stC 0).1 (stC 0).2.1 (stC 0).2.2 (.int 1) (fun a => s.heap.size ≤ a) s s.heap := va_Zof (hls 0 (by decide)) (wd ini4_ok.1) (va_eqi (hnw _ o5)) hA
  have hZT : va_Z (stC 1).1 (stC 1).2.1 (stC 1).2.2 (.ref tT) (fun a => s.heap.size ≤ a) s s.heap := va_Zref (hls 1 (by decide)) (wd ini4_ok.2.1) eT hA
  have hZO : va_Z (stC 2).1 (stC 2).2.1 (stC 2).2.2 (.ref tO) (fun a => s.heap.size ≤ a) s s.heap := va_Zref (hls 2 (by decide)) (wd ini4_ok.2.1) eO hA
  obtain ⟨cT, cT1, cT2, cT3, cT4, cT5, cT6, -⟩ := hT
  obtain ⟨cO, cO1, cO2, cO3, cO4, cO5, cO6, -⟩ := hO
  let E : EV := (fun q => if q = 0 then b else if q = 1 then tT else if q = 2 then tO else 0, s.heap.size, fv, (fun k => (CS k).1, fun k => (CS k).2), KA)
  have hG : GX E p s := by
    refine ⟨⟨rfl, fun q hq => ?_, hfv⟩, hx, hts, fun k h1 h2 => hCS k h1 h2, fun k h1 h2 => (hKA k).1 h1 h2, fun k h1 h2 => (hKA k).2 h1 h2, hZi, fun k h1 h2 => ?_, va_Nc.of (hnw _ o9), va_Nc.of (hnw _ o10), va_Zqof (hts _ lst_ok.1) (wd ini4_ok.2.2.2) (hnw _ o7) hA, va_Zqof (hts _ lst_ok.2) (wd ini4_ok.2.2.2) (hnw _ o8) hA, fun a b h1 h2 h3 h4 h5 => ?_⟩
    · rcases (show q = 0 ∨ q = 1 ∨ q = 2 by omega) with rfl | rfl | rfl
      · exact hbl
      · exact (Array.getElem?_eq_some_iff.mp cT1).1
      · exact (Array.getElem?_eq_some_iff.mp cO1).1
    · rcases (show k = 1 ∨ k = 2 ∨ k = 3 by omega) with rfl | rfl | rfl
      · exact hZT
      · exact hZO
      · exact hfz
    · exact va_Nc.of (hnw _ (nw_exc a b h1 h2 h3 h4 h5))
  obtain ⟨scr, s1, s2, s3, s4, s5⟩ := hX
  have hk0 : ∀ q : Nat, q = 0 → hK (law0 L (fun j => (xs j.toNat).toInt)) q = some (20, L) := fun q h => by rw [h]; rfl
  have hRL : RL E s (law0 L (fun j => (xs j.toNat).toInt)) s.heap := by
    refine ⟨Nat.le_refl 4, rfl, fun q k n hq => ?_, fun q h1 h2 => absurd h2 (Nat.not_lt.mpr h1), fun q _ => rfl, fun q j => ?_⟩
    · have h3 : (q = 0 ∧ k = 20 ∧ n = L) ∨ (q = 1 ∧ k = 23 ∧ n = 100) ∨ (q = 2 ∧ k = 23 ∧ n = 100) := by
        unfold hK law0 at hq
        dsimp only at hq
        split at hq
        · cases hq; left; exact ⟨by assumption, rfl, rfl⟩
        · split at hq
          · cases hq; rename_i h9; rcases h9 with h9 | h9
            · right; left; exact ⟨h9, rfl, rfl⟩
            · right; right; exact ⟨h9, rfl, rfl⟩
          · cases hq
      rcases h3 with ⟨rfl, rfl, rfl⟩ | ⟨rfl, rfl, rfl⟩ | ⟨rfl, rfl, rfl⟩
      · refine ⟨⟨show 0 < 4 by decide, by decide, fun _ => by decide⟩, fun h => by omega, fun _ h => by omega, fun _ h => by omega, fun _ => ⟨by decide, by omega, Or.inr ⟨by decide, scr, s1, s2, s3, ⟨Nat.le_of_eq s4.symm, by rw [s4]⟩, fun j hj => ?_⟩⟩⟩
        rw [s5 j hj]
        show _ = some (evl E 20 _ 0 j)
        unfold evl
        rw [if_neg (by decide), if_neg (by decide)]
        have e9 : hI (law0 n (fun j => (xs j.toNat).toInt)) 0 (j : Int) = (xs j).toInt := by
          show (if 0 ≤ (j : Int) ∧ (j : Int) < (n : Int) then (xs (j : Int).toNat).toInt else 0) = _
          rw [if_pos (by omega)]
          rfl
        rw [e9, Int32.ofInt_toInt]
      · refine ⟨⟨show 1 < 4 by decide, by decide, fun _ => by decide⟩, fun h => by omega, fun _ h => by omega, fun _ h => by omega, fun _ => ⟨by decide, by decide, Or.inr ⟨by decide, cT, cT1, cT2, cT3, ⟨cT4, cT5⟩, fun j hj => ?_⟩⟩⟩
        rw [cT6 j hj]
        show _ = some (evl E 23 _ 1 j)
        unfold evl
        rw [if_neg (by decide), if_neg (by decide)]
        have e9 : hI (law0 L (fun j => (xs j.toNat).toInt)) 1 (j : Int) = ((48 + j / 10 : Nat) : Int) := by
          show (if 0 ≤ (j : Int) ∧ (j : Int) < 100 then 48 + (j : Int) / 10 else 0) = _
          rw [if_pos (by omega)]
          omega
        rw [e9, Int32.ofInt_eq_ofNat]
      · refine ⟨⟨show 2 < 4 by decide, by decide, fun _ => by decide⟩, fun h => by omega, fun _ h => by omega, fun _ h => by omega, fun _ => ⟨by decide, by decide, Or.inr ⟨by decide, cO, cO1, cO2, cO3, ⟨cO4, cO5⟩, fun j hj => ?_⟩⟩⟩
        rw [cO6 j hj]
        show _ = some (evl E 23 _ 2 j)
        unfold evl
        rw [if_neg (by decide), if_neg (by decide)]
        have e9 : hI (law0 L (fun j => (xs j.toNat).toInt)) 2 (j : Int) = ((48 + j % 10 : Nat) : Int) := by
          show (if 0 ≤ (j : Int) ∧ (j : Int) < 100 then 48 + (j : Int) % 10 else 0) = _
          rw [if_pos (by omega)]
          omega
        rw [e9, Int32.ofInt_eq_ofNat]
    · have hz : ∀ i : Int32, inI i.toInt = true := fun i => inI_t ⟨i.le_toInt, i.toInt_lt⟩
      have key : inI (hI (law0 L (fun j => (xs j.toNat).toInt)) q j) = true ∧ (q ≠ 0 → rg 3 (hI (law0 L (fun j => (xs j.toNat).toInt)) q j) = true) := by
        show inI (if q = 0 then (if 0 ≤ j ∧ j < (L : Int) then (xs j.toNat).toInt else 0) else if q = 1 then (if 0 ≤ j ∧ j < 100 then 48 + j / 10 else 0) else if q = 2 then (if 0 ≤ j ∧ j < 100 then 48 + j % 10 else 0) else 0) = true ∧ (q ≠ 0 → rg 3 (if q = 0 then (if 0 ≤ j ∧ j < (L : Int) then (xs j.toNat).toInt else 0) else if q = 1 then (if 0 ≤ j ∧ j < 100 then 48 + j / 10 else 0) else if q = 2 then (if 0 ≤ j ∧ j < 100 then 48 + j % 10 else 0) else 0) = true)
        by_cases h0 : q = 0
        · rw [if_pos h0]
          refine ⟨?_, fun h => absurd h0 h⟩
          split
          · exact hz _
          · exact inI_0
        · rw [if_neg h0]
          split
          · split
            · exact ⟨inI_t (by omega), fun _ => rg_3 (by omega)⟩
            · exact ⟨inI_0, fun _ => rfl⟩
          · split
            · split
              · exact ⟨inI_t (by omega), fun _ => rg_3 (by omega)⟩
              · exact ⟨inI_0, fun _ => rfl⟩
            · exact ⟨inI_0, fun _ => rfl⟩
      refine ⟨inL_I key.1, fun _ => key.1, fun n9 h9 => key.2 (fun h0 => ?_)⟩
      rw [hk0 q h0] at h9
      cases h9
  obtain ⟨n, o, y, ha, rfl⟩ := hlaw
  have hk := am_sound (e := e) hl9 hG n 12 0 0 _ _ _ _ _ ha room_1 s m #[Value.ref b] below meth c s.heap [] 0 0 4 0 _ ⟨State.WarmedH.refl s, hcode, hret, hml, hown, hlk, hnm, by
    have h8 : c.exceptionTable = #[] := by simpa using hex
    rw [h8]; rfl, fun a _ => rfl⟩ hRL (LR.entry (mj := 0) hG.1 rfl (fun v hv => by rw [List.mem_singleton.mp hv]; exact trivial) (by decide)) (fun v hv => absurd hv List.not_mem_nil) ⟨fun q hq => absurd hq List.not_mem_nil, rfl, rfl, by decide, by decide, by decide, by decide, Nat.zero_le _, Nat.zero_le _⟩
  rw [lg_entry_eq]
  refine W.mono hk (fun t ht => ?_)
  obtain ⟨h1, h2, h3, h4, h5, L', k', n', h6, h7, h8, h9, h10, h11⟩ := ht
  exact ⟨_, h1, h2, rfl, ⟨_, rfl⟩, h3, h6.weaken (fun y9 hy9 hlt9 => absurd hlt9 (Nat.not_lt.mpr (h7 y9 hy9))) h10 h11⟩
