/-! returns, Object's constructor, System.arraycopy -/
def oc (E : EV) (o : AO) : Outcome := match o with
  | .inl none => .returned none
  | .inl (some v) => .returned (some (cv E v))
  | .inr q => .threw (io E q)
def wfo (y : HP) (o : AO) : Prop := match o with
  | .inl none => True
  | .inl (some v) => wfv v
  | .inr q => 4 ≤ q ∧ ∃ c n, hK y q = some (c, n) ∧ 14 ≤ c ∧ c ≤ 16
/-- how a method's walk ends -/
def FQ (E : EV) (s0 : State) (R : Room) (s : State) (below : List Frame) (nE sE : Nat) (o : AO) (y : HP) (t : State) : Prop :=
  t.status = .running ∧ Ended t below (oc E o) ∧ s.WarmedH t.vm ∧ RL E s0 y t.heap ∧ wfo y o ∧
  ∃ L k n, s.sameButNew ({ t with vm := s.vm } : State) L k n ∧ (∀ q ∈ L, E.2.1 ≤ q.base) ∧ k + nE = hN y ∧ n + sE = hS y ∧ k ≤ R.cells ∧ n ≤ R.slots
section
variable {E : EV} {p : Program} {l : Launch} {e : Env} {R : Room} {s0 s : State} {m : MethodId} {args : Array Value} {below : List Frame} {meth : Method} {c : Code} {H : Heap} {locs : List Loc} {cells slots nE sE r mi pc pc' len r1 r2 r3 r4 : Nat} {Q : State → Prop} {ls ls' st st' : List AV} {x x' : HP} {lc : Array Slot}
theorem W.mono {Q' : State → Prop} {g : JFrame} (h : W p l e R s m args below meth c H locs cells slots Q g) (hq : ∀ t, Q t → Q' t) : W p l e R s m args below meth c H locs cells slots Q' g := by
  intro T hT X
  obtain ⟨t, a, b⟩ := h T hT X
  exact ⟨t, a, hq t b⟩
theorem FQ.ofM {v : Option AV} (hX : RL E s0 x H) (hB : BX R E x locs cells slots nE sE r) (hw : wfo x (.inl v)) {t : State} (h : MQ below (fun _ _ o t => o = oc E (.inl v) ∧ t.heap = H) args s cells slots (fun a => E.2.1 ≤ a) t) : FQ E s0 R s below nE sE (.inl v) x t := by
  obtain ⟨o, h1, h2, ⟨rfl, h3⟩, L, ⟨-, h4, h5⟩, h6⟩ := h
  obtain ⟨b1, b2, b3, b4, b5, b6, b7, b8, b9⟩ := hB
  exact ⟨h1, h2, h4, by rw [h3]; exact hX, hw, L, cells, slots, h5, h6, b2, b3, b8, b9⟩
theorem k_ireturn (hG : GX E p s0) (hC : CX s0 mi s m meth c) (hd : decode (mb mi) pc = .ok (.ireturn, len)) (hl : lnkE mi pc (.ireturn, len, r1, r2, r3, r4) = true) (hX : RL E s0 x H) (hw : ∀ v ∈ st, wfv v) (hB : BX R E x locs cells slots nE sE r) {v : Option AV} (h : astep pc (.ireturn, len, r1, r2, r3, r4) ls st x = some (.inr (.inl v))) : W p l e R s m args below meth c H locs cells slots (FQ E s0 R s below nE sE (.inl v) x) (F0 m pc lc (st.map (cv E))) := by
  have hx := hG.2.1
  have hb := hC.2.1
  simp only [lnkE, Bool.and_eq_true] at hl
  obtain ⟨hr1, h4, hlen⟩ := hl
  obtain rfl : len = 1 := Nat.eq_of_beq_eq_true hlen
  have hr1 := Nat.eq_of_beq_eq_true hr1
  change oIret _ _ = _ at h
  unfold oIret at h
  split at h
  · rename_i z
    split at h
    · rename_i hrg
      unfold sRet at h
      cases h
      have hz : inI z = true := hw _ List.mem_cons_self
      have key : ∃ ty, mrt mi = some ty ∧ narrow ty (.int (Int32.ofInt z)) = .int (Int32.ofInt z) := by
        have h4 : r1 ≤ 4 := Nat.le_of_ble_eq_true h4
        cases hm : mrt mi with
        | none => rw [hm] at hr1; simp only [rtc] at hr1; omega
        | some ty =>
          rw [hm] at hr1
          refine ⟨ty, rfl, ?_⟩
          cases ty with
          | int => rfl
          | char => simp only [rtc] at hr1; subst hr1; exact (nf_c hz hrg).1
          | short => simp only [rtc] at hr1; subst hr1; exact (nf_s hz hrg).1
          | byte => simp only [rtc] at hr1; subst hr1; exact (nf_b hz hrg).1
          | boolean => simp only [rtc] at hr1; subst hr1; exact (nf_z hrg).1
          | _ => simp only [rtc] at hr1; omega
      obtain ⟨ty, hm, hn⟩ := key
      exact W.mono (W.zret (Qc := fun _ _ o t => o = oc E (.inl (some (vI z))) ∧ t.heap = H) (free := fun a => E.2.1 ≤ a) hx hb (hC.2.2.1.trans hm) hn (fun t ht _ => ⟨rfl, ht⟩) hB.1 hd hC.2.2.2.2.2.1) (fun t ht => FQ.ofM (v := some (vI z)) hX hB hz ht)
    · cases h
  · cases h
theorem k_areturn (hG : GX E p s0) (hC : CX s0 mi s m meth c) (hd : decode (mb mi) pc = .ok (.areturn, len)) (hl : lnkE mi pc (.areturn, len, r1, r2, r3, r4) = true) (hX : RL E s0 x H) (hw : ∀ v ∈ st, wfv v) (hB : BX R E x locs cells slots nE sE r) {v : Option AV} (h : astep pc (.areturn, len, r1, r2, r3, r4) ls st x = some (.inr (.inl v))) : W p l e R s m args below meth c H locs cells slots (FQ E s0 R s below nE sE (.inl v) x) (F0 m pc lc (st.map (cv E))) := by
  have hx := hG.2.1
  have hb := hC.2.1
  simp only [lnkE, Bool.and_eq_true] at hl
  obtain ⟨hr1, hlen⟩ := hl
  obtain rfl : len = 1 := Nat.eq_of_beq_eq_true hlen
  have hr1 := Nat.eq_of_beq_eq_true hr1
  change oAret _ = _ at h
  unfold oAret at h
  split at h
  · rename_i rr
    unfold sRet at h
    cases h
    have key : ∃ ty, mrt mi = some ty ∧ ((∃ n, ty = .object n) ∨ ∃ t, ty = .array t) := by
      cases hm : mrt mi with
      | none => rw [hm] at hr1; simp [rtc] at hr1
      | some ty =>
        rw [hm] at hr1
        refine ⟨ty, rfl, ?_⟩
        cases ty with
        | object n => exact Or.inl ⟨n, rfl⟩
        | array t => exact Or.inr ⟨t, rfl⟩
        | _ => simp [rtc] at hr1
    obtain ⟨ty, hm, hn⟩ := key
    exact W.mono (W.aret (Qc := fun _ _ o t => o = oc E (.inl (some (vR rr))) ∧ t.heap = H) (free := fun a => E.2.1 ≤ a) hx hb (hC.2.2.1.trans hm) hn (cv_R hG.1 rr) (fun t ht _ => ⟨rfl, ht⟩) hB.1 hd hC.2.2.2.2.2.1) (fun t ht => FQ.ofM (v := some (vR rr)) hX hB trivial ht)
  · cases h
theorem k_return (hG : GX E p s0) (hC : CX s0 mi s m meth c) (hd : decode (mb mi) pc = .ok (.return_, len)) (hl : lnkE mi pc (.return_, len, r1, r2, r3, r4) = true) (hX : RL E s0 x H) (hw : ∀ v ∈ st, wfv v) (hB : BX R E x locs cells slots nE sE r) {v : Option AV} (h : astep pc (.return_, len, r1, r2, r3, r4) ls st x = some (.inr (.inl v))) : W p l e R s m args below meth c H locs cells slots (FQ E s0 R s below nE sE (.inl v) x) (F0 m pc lc (st.map (cv E))) := by
  have hx := hG.2.1
  have hb := hC.2.1
  simp only [lnkE, Bool.and_eq_true] at hl
  obtain ⟨hr1, hlen⟩ := hl
  obtain rfl : len = 1 := Nat.eq_of_beq_eq_true hlen
  have hr1 := Nat.eq_of_beq_eq_true hr1
  change oVret _ = _ at h
  unfold oVret at h
  split at h
  · unfold sRet at h
    cases h
    have hm : mrt mi = none := by
      cases hm : mrt mi with
      | none => rfl
      | some ty => rw [hm] at hr1; cases ty <;> simp [rtc] at hr1
    exact W.mono (W.vret (Qc := fun _ _ o t => o = oc E (.inl none) ∧ t.heap = H) (free := fun a => E.2.1 ≤ a) hx hb (hC.2.2.1.trans hm) (fun t ht _ => ⟨rfl, ht⟩) hB.1 hd hC.2.2.2.2.2.1) (fun t ht => FQ.ofM (v := none) hX hB trivial ht)
  · cases h
theorem cat_le (E : EV) (v : AV) (hE : EVok E s0) : (cv E v).category ≤ 2 := by
  rcases v with z | z | rr
  · exact Nat.le_succ 1
  · exact Nat.le_refl 2
  · rcases cv_R hE rr with e9 | ⟨a, e9⟩
    · rw [show cv E (Sum.inr (Sum.inr rr)) = cv E (vR rr) from rfl, e9]; exact Nat.le_succ 1
    · rw [show cv E (Sum.inr (Sum.inr rr)) = cv E (vR rr) from rfl, e9]; exact Nat.le_succ 1
theorem cat_sum (hE : EVok E s0) : ∀ l : List AV, ((l.map (cv E)).map fun v => v.category).sum ≤ 2 * l.length
  | [] => Nat.le_refl 0
  | a :: t => by
    have h1 := cat_sum hE t
    have h2 := cat_le E a hE
    simp only [List.map_cons, List.sum_cons, List.length_cons]
    omega
theorem sml_len {t : List AV} (h : sml t = true) : t.length ≤ 6 := by
  unfold sml at h
  split at h <;> first | (simp only [List.length_cons, List.length_nil]; omega) | cases h
theorem sml_cat (hE : EVok E s0) {t : List AV} (h : sml t = true) : ((t.map (cv E)).map fun v => v.category).sum ≤ 12 := by
  have h1 := cat_sum hE t
  have h2 := sml_len h
  omega
theorem lcs (hC : CX s0 mi s m meth c) (hL : LR E mi ls lc) : lc.size = c.maxLocals := by rw [hC.2.2.2.1]; exact hL.2.1
theorem k_objinit {i : Nat} (hG : GX E p s0) (hC : CX s0 mi s m meth c) (hd : decode (mb mi) pc = .ok (.invokespecial i, 3)) (ho : has2 OBL (mow mi) i = true) (hX : RL E s0 x H) (hL : LR E mi ls lc) (hB : BX R E x locs cells slots nE sE r) {q : Nat} {t : List AV} (h3 : q ≠ 3) (hs : sml t = true)
    (kk : W p l e R s m args below meth c H locs cells slots Q (F0 m (pc + 3) lc (t.map (cv E)))) : W p l e R s m args below meth c H locs cells slots Q (F0 m pc lc ((vA q :: t).map (cv E))) := by
  obtain ⟨j, hj⟩ := has2_s ho
  have hlink := hG.wd hC.1 (List.all_eq_true.mp OBL_ok _ hj) rfl (a := args)
  have h1 := sml_cat hG.1 hs
  obtain ⟨b1, b2, b3, b4, b5, b6, b7, b8, b9⟩ := hB
  rw [List.map_cons, cv_A h3]
  refine W.objInit hG.2.1 hC.2.1 hC.2.2.2.2.1 hlink (hG.wd hC.1 oi_ok.1 rfl) (hG.wd hC.1 oi_ok.2 rfl) rfl (lcs hC hL) rfl hd (by omega) ?_ kk
  show 2 * 0 + _ + 12 ≤ R.locals
  omega
theorem sy_ok : tw 68 (.initialized "java/lang/System") = true := by decide +kernel
set_option maxHeartbeats 4000000 in
theorem k_copy {i : Nat} (hG : GX E p s0) (hC : CX s0 mi s m meth c) (hd : decode (mb mi) pc = .ok (.invokestatic i, 3)) (ho : has3 CPL (mow mi) i 1002 = true) (hX : RL E s0 x H) (hL : LR E mi ls lc) (hw : ∀ v ∈ st, wfv v) (hB : BX R E x locs cells slots nE sE r) (h : oCopy pc 3 ls st x = some (.inl (pc', ls', st', x'))) (K : KT E p l e R s0 s m args below meth c nE sE r mi Q pc' ls' st' x') : W p l e R s m args below meth c H locs cells slots Q (F0 m pc lc (st.map (cv E))) := by
  unfold oCopy at h
  split at h
  · rename_i n dp d sp q t
    split at h
    · rename_i c1 n1 c2 n2 hk1 hk2
      split at h
      · rename_i hh
        obtain ⟨rfl, rfl, h4, h4s, hne, g1, g2, g3, g4, g5, hs⟩ := hh
        unfold sN at h
        cases h
        obtain ⟨j, hj⟩ := has3_s ho
        have hlink := hG.wd hC.1 (List.all_eq_true.mp CPL_ok _ hj) rfl (a := args)
        have hc9 := sml_cat hG.1 hs
        have hn : inI n = true := hw _ List.mem_cons_self
        have hdp : inI dp = true := hw (Sum.inl dp) (by simp)
        have hsp : inI sp = true := hw (Sum.inl sp) (by simp)
        obtain ⟨a1, -, a2⟩ := arrAt hX hk1 (by decide) h4s
        obtain ⟨d1, -, d2⟩ := arrAt hX hk2 (by decide) h4
        have hev : ∀ (y : HP) (b k : Nat), evl E 23 y b k = .int (Int32.ofInt (hI y b k)) := fun y b k => rfl
        have l1 := arrLe hX hk1 (by decide)
        have l2 := arrLe hX hk2 (by decide)
        intro T hT X
        obtain ⟨-, k0, hk0, cm0, hkk0⟩ := arrO hG hC.1 (show 20 ≤ 23 by decide) (show 23 ≤ 27 by decide) n1 (fun j => evl E 23 x q j)
        have hkk0 : k0.kind = .array cm0 .byte := hkk0
        have neg : ∀ z : Int, inI z = true → 0 ≤ z → ¬ Int32.ofInt z < 0 := fun z hz h0 => by rw [show (0 : Int32) = Int32.ofInt 0 from rfl, i_lt hz inI_0]; omega
        obtain ⟨b1, b2, b3, b4, b5, b6, b7, b8, b9⟩ := hB
        have hcp := i_cl hsp
        have hcd := i_cl hdp
        have hcn := i_cl hn
        obtain ⟨vm', X', step⟩ := X.arraycopy hG.2.1 hC.2.2.2.2.1 hlink (hG.wd hC.1 cp_ok.1 rfl) (hG.wd hC.1 cp_ok.2 rfl) (hG.wd hC.1 sy_ok rfl) (src := io E q) (dst := io E d) (cs := arrV (E.2.2.2.2 23) n1 (fun j => evl E 23 x q j)) (cd := arrV (E.2.2.2.2 23) n2 (fun j => evl E 23 x d j)) (srcPos := Int32.ofInt sp) (destPos := Int32.ofInt dp) (n := Int32.ofInt n)
          (by rw [hT]; exact a2) (by rw [hT]; exact d2) (fun _ h => by cases h) (fun _ h => by cases h) (fun h => by cases h) (fun h => by cases h) hk0 hk0 hkk0 hkk0 (by simp [refKind]) (neg _ hsp g1) (neg _ hdp g2) (neg _ hn g3)
          (by rw [iT hsp, iT hn, arrV_size]; omega) (by rw [iT hdp, iT hn, arrV_size]; omega)
          (fun vm₁ _ i hi => by
            rw [hcn] at hi
            rw [hcp]
            have e9 : (arrV (E.2.2.2.2 23) n1 (fun j => evl E 23 x q j)).slots.getD (sp.toNat + i) .null = .int (Int32.ofInt (hI x q ((sp.toNat + i : Nat) : Int))) := by
              rw [Array.getD_eq_getD_getElem?, arrV_read _ _ (by omega)]
              rfl
            rw [e9]
            refine ⟨?_, trivial⟩
            have hr9 : inI (hI x q ((sp.toNat + i : Nat) : Int)) = true := (hX.2.2.2.2.2 q _).2.1 (fun n9 h9 => by rw [hk1] at h9; cases h9)
            exact (nf_b hr9 ((hX.2.2.2.2.2 q _).2.2 n1 hk1)).2)
          (g := F0 m pc lc (.int (Int32.ofInt n) :: .int (Int32.ofInt dp) :: .ref (io E d) :: .int (Int32.ofInt sp) :: .ref (io E q) :: st'.map (cv E))) rfl (lcs hC hL) (rest := st'.map (cv E)) rfl (by rw [hC.2.1]; exact hd) (by omega) (by show 2 * 0 + _ + (nativeFrameWords "java/lang/System" "arraycopy" 5 + 11) ≤ _; rw [show nativeFrameWords "java/lang/System" "arraycopy" 5 = 7 from by decide +kernel]; omega)
        have e1 : copied (arrV (E.2.2.2.2 23) n1 (fun j => evl E 23 x q j)) (arrV (E.2.2.2.2 23) n2 (fun j => evl E 23 x d j)) (Int32.ofInt sp) (Int32.ofInt dp) (Int32.ofInt n) = arrV (E.2.2.2.2 23) n2 (fun j => Value.int (va_cpy (fun j => Int32.ofInt (hI x q (j : Int))) (fun j => Int32.ofInt (hI x d (j : Int))) (Int32.ofInt sp).toNatClampNeg (Int32.ofInt dp).toNatClampNeg (Int32.ofInt n).toNatClampNeg j)) := va_copiedX (n0 := n1) (fun z => .int z) _ _ (fun j => Int32.ofInt (hI x q (j : Int))) (fun j => Int32.ofInt (hI x d (j : Int))) (fun j hj => by rw [arrV_read _ _ hj]; rfl) (by rw [hcp, hcn]; omega)
        rw [e1] at X' step
        have hl : io E d < H.size := (Array.getElem?_eq_some_iff.mp d2).1
        have hk := K (H.setIfInBounds (io E d) (arrV (E.2.2.2.2 23) n2 (fun j => Value.int (va_cpy (fun j => Int32.ofInt (hI x q (j : Int))) (fun j => Int32.ofInt (hI x d (j : Int))) (Int32.ofInt sp).toNatClampNeg (Int32.ofInt dp).toNatClampNeg (Int32.ofInt n).toNatClampNeg j)))) _ cells slots lc ?_ hL (fun v hv => hw v (by simp [hv])) ?_ _ (show (State.setCell (T.setVm vm') (io E d) _).heap = _ by rw [← hT]; rfl) X'
        · obtain ⟨t9, a9, b9⟩ := hk
          refine ⟨t9, ?_, b9⟩
          rw [List.map_cons, List.map_cons, List.map_cons, List.map_cons, List.map_cons, show cv E (Sum.inr (Sum.inr (some d))) = cv E (vA d) from rfl, show cv E (Sum.inr (Sum.inr (some q))) = cv E (vA q) from rfl, cv_A d1, cv_A a1]
          exact step t9 a9
        · refine hX.set hG.1 hk2 (by omega) (c' := 23) (n' := n2) (fun b _ => rfl) hk2 rfl (fun b hb => hI_stF_n hb) (fun b _ => rfl) ⟨fun h => by omega, fun _ h => by omega, fun _ h => by omega, fun _ => ⟨by decide, l2, Or.inl ⟨h4, ?_⟩⟩⟩ (by simp) (fun a ha => by simp [Array.getElem?_setIfInBounds, Ne.symm ha]) (fun j9 => ?_) (fun h => by omega)
          · rw [Array.getElem?_setIfInBounds, if_pos rfl, if_pos hl]
            congr 2
            funext j9
            rw [hev, hI_stF_s]
            unfold va_cpy cpy
            rw [hcp, hcd, hcn]
            by_cases h9 : dp.toNat ≤ j9 ∧ j9 < dp.toNat + n.toNat
            · rw [if_pos h9, if_pos (by omega)]
              dsimp only
              rw [show ((sp.toNat + (j9 - dp.toNat) : Nat) : Int) = sp + ((j9 : Int) - dp) by omega]
            · rw [if_neg h9, if_neg (by omega)]
          · have q9 := hX.2.2.2.2.2
            unfold rgm at q9 ⊢
            rw [hI_stF_s, hK_stF]
            unfold cpy
            split
            · have h8 := (q9 q (sp + (j9 - dp))).2.1 (fun n9 h9 => by rw [hk1] at h9; cases h9)
              exact ⟨inL_I h8, fun _ => h8, fun _ _ => (q9 q (sp + (j9 - dp))).2.2 n1 hk1⟩
            · exact q9 d j9
        · refine ⟨fun q9 hq9 => ?_, b2, b3, b4, b5, b6, b7, b8, b9⟩
          rcases List.mem_append.mp hq9 with h9 | h9
          · exact b1 q9 h9
          · obtain ⟨z9, -, hz9⟩ := List.mem_map.mp h9
            rw [← hz9]
            exact io_b (by omega)
      · cases h
    · cases h
  · cases h
end
