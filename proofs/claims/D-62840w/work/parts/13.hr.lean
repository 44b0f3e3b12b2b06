/-! new cells, arrays -/
section
variable {E : EV} {p : Program} {l : Launch} {e : Env} {R : Room} {s0 s : State} {m : MethodId} {args : Array Value} {below : List Frame} {meth : Method} {c : Code} {H : Heap} {locs : List Loc} {cells slots nE sE r mi pc pc' len r1 r2 r3 r4 : Nat} {Q : State → Prop} {ls ls' st st' : List AV} {x x' : HP} {lc : Array Slot}
theorem BX.new {k n : Nat} (hB : BX R E x locs cells slots nE sE r) (f1 : cells + 1 ≤ R.cells) (f2 : slots + n ≤ R.slots) : BX R E (nwO x k n) locs (cells + 1) (slots + n) nE sE r := by
  obtain ⟨b1, b2, b3, b4, b5, b6, b7, -⟩ := hB
  exact ⟨b1, by show cells + 1 + nE = hN x + 1; omega, by show slots + n + sE = hS x + n; omega, b4, b5, b6, b7, f1, f2⟩
theorem BX.fit {n : Nat} (hB : BX R E x locs cells slots nE sE r) (h1 : hN x + 1 ≤ maxC) (h2 : hS x + n ≤ maxS) : cells + 1 ≤ R.cells ∧ slots + n ≤ R.slots := by
  obtain ⟨b1, b2, b3, b4, b5, -⟩ := hB
  omega
theorem RL.top (hX : RL E s0 x H) : H.size = io E (hN x) := by rw [io_ge hX.1]; exact hX.2.1
theorem dflt {t : Nat} {d : String} {ty : FieldType} (ht : tyF t d = true) (hp : parseFieldDescriptor d = some ty) : defaultValue ty = if t = 5 then .null else .int 0 := by
  unfold tyF at ht
  rw [hp] at ht
  cases ty with
  | int => rw [Nat.eq_of_beq_eq_true ht]; rfl
  | char => rw [Nat.eq_of_beq_eq_true ht]; rfl
  | short => rw [Nat.eq_of_beq_eq_true ht]; rfl
  | byte => rw [Nat.eq_of_beq_eq_true ht]; rfl
  | boolean => rw [Nat.eq_of_beq_eq_true ht]; rfl
  | object n => rw [Nat.eq_of_beq_eq_true ht]; rfl
  | array n => rw [Nat.eq_of_beq_eq_true ht]; rfl
  | _ => cases ht
/-- a class at its entry's place stands at every later state, its slots' types the same -/
theorem clsMv (hW : s0.WarmedH s.vm) {k : ClassId} {kX kC : Class} (h0 : s0.vm.classes[k]? = some kX) (h1 : s.vm.classes[k]? = some kC) : kC.instanceTypes = kX.instanceTypes := by
  obtain ⟨k', hk', he⟩ := hW.alike.2.2 _ _ h0
  cases h1.symm.trans hk'
  rw [he]
set_option maxHeartbeats 4000000 in
theorem k_new {i : Nat} (hG : GX E p s0) (hC : CX s0 mi s m meth c) (hd : decode (mb mi) pc = .ok (.new i, len)) (hl : lnkE mi pc (.new i, len, r1, r2, r3, r4) = true) (hX : RL E s0 x H) (hL : LR E mi ls lc) (hw : ∀ v ∈ st, wfv v) (hB : BX R E x locs cells slots nE sE r) (h : astep pc (.new i, len, r1, r2, r3, r4) ls st x = some (.inl (pc', ls', st', x'))) (K : KT E p l e R s0 s m args below meth c nE sE r mi Q pc' ls' st' x') : W p l e R s m args below meth c H locs cells slots Q (F0 m pc lc (st.map (cv E))) := by
  have hx := hG.2.1
  have hb := hC.2.1
  simp only [lnkE, Bool.and_eq_true, Bool.not_eq_true'] at hl
  obtain ⟨hcl, h13, h4, hr2, hlen⟩ := hl
  obtain rfl : len = 3 := Nat.eq_of_beq_eq_true hlen
  obtain rfl : r2 = nsl r1 := Nat.eq_of_beq_eq_true hr2
  have h13 : r1 ≤ 13 := Nat.le_of_ble_eq_true h13
  have h4 : r1 ≠ 4 := fun e => by rw [e] at h4; simp at h4
  change oNew _ _ _ _ _ _ _ = _ at h
  unfold oNew at h
  split at h
  · rename_i hn
    unfold sN at h
    cases h
    obtain ⟨j, hj⟩ := has3_s hcl
    have hlink := hG.wd hC.1 (List.all_eq_true.mp CLL_ok _ hj) rfl (a := args)
    have h9 := List.all_eq_true.mp NIX_ok r1 (List.mem_range.mpr (by omega))
    rw [Bool.or_eq_true] at h9
    rcases h9 with h9 | h9
    · exact absurd (of_decide_eq_true h9) h4
    rw [Bool.and_eq_true] at h9
    have hins := hG.wd hC.1 h9.1 rfl (a := args)
    have hini := hG.wd hC.1 h9.2 rfl (a := args)
    obtain ⟨f1, f2⟩ := hB.fit hn.1 hn.2
    have hq3 : hN x ≠ 3 := by have := hX.1; omega
    by_cases h10 : r1 ≤ 10
    · have hsl : nsl r1 = clN r1 := if_pos h10
      have hKn := clsF hG hC.1 h10 h4
      refine W.newcK hx hb hC.2.2.2.2.1 hlink hins hini rfl hd f1 f2 hKn.2.1 hX.top fun H1 kC hkC e1 z1 o1 => ?_
      have hk := K H1 locs (cells + 1) (slots + nsl r1) lc (hX.push hG.1 ⟨fun _ => ⟨h4, hsl, ?_⟩, fun h _ => by omega, fun h _ => by omega, fun h => by omega⟩ (by rw [z1, hX.top]) (fun a ha => o1 a (by rw [← hX.top]; exact ha))) hL (List.forall_mem_cons.mpr ⟨trivial, hw⟩) (hB.new f1 f2)
      · rw [List.map_cons, show cv E (Sum.inr (Sum.inr (some (hN x)))) = cv E (vA (hN x)) from rfl, cv_A hq3] at hk
        exact hk
      · have hb9 := u_born (args := args) (fun k => (parseFieldDescriptor (Ff r1 k).2.2.1).getD .int) (ws := u_ws (cnm r1) (Ff r1) (clN r1)) (fun w hw9 => by
          obtain ⟨k, hk, rfl⟩ := List.mem_map.mp hw9
          exact layW hG hC.1 h10 h4 (List.mem_range.mp hk)) (fun w hw9 => hw9) hKn hkC e1 (fun k hk => by
          obtain ⟨ty, hty⟩ := ftyP h10 hk
          rw [hty]; rfl)
        refine hb9.to (fun k hk => ?_)
        obtain ⟨ty, hty⟩ := ftyP h10 hk
        show defaultValue ((parseFieldDescriptor (Ff r1 k).2.2.1).getD .int) = _
        rw [hty]
        show defaultValue ty = _
        rw [dflt (ftyT h10 hk) hty]
        unfold fvl
        rw [hR_nw_s, hI_nw_s]
        rfl
    · have hsl : nsl r1 = 6 := if_neg h10
      have hfc : s.vm.findClass (cnm r1) = some (E.2.2.2.2 r1) := by rw [hC.1.alike.findClass]; exact hG.2.2.2.2.2.1 r1 (by omega) h13
      refine W.newcK hx hb hC.2.2.2.2.1 hlink hins hini rfl hd f1 f2 hfc hX.top fun H1 kC hkC e1 z1 o1 => ?_
      have hins0 : (Cond.instantiable (cnm r1) (nsl r1)).before #[Value.ref (E.1 0)] s0 = true := hG.2.2.1 _ (tw_mem h9.1)
      obtain ⟨c0, k0, g1, g2, -, -, -, g3⟩ := Cond.instantiable_spec hins0
      cases (hG.2.2.2.2.2.1 r1 (by omega) h13).symm.trans g1
      have hit := clsMv hC.1 g2 hkC
      have hk := K H1 locs (cells + 1) (slots + nsl r1) lc (hX.push hG.1 ⟨fun h => by omega, fun _ _ => ⟨hsl, k0, g2, by rw [g3, hsl], ?_⟩, fun h _ => by omega, fun h => by omega⟩ (by rw [z1, hX.top]) (fun a ha => o1 a (by rw [← hX.top]; exact ha))) hL (List.forall_mem_cons.mpr ⟨trivial, hw⟩) (hB.new f1 f2)
      · rw [List.map_cons, show cv E (Sum.inr (Sum.inr (some (hN x)))) = cv E (vA (hN x)) from rfl, cv_A hq3] at hk
        exact hk
      · rw [e1]
        unfold blank freshCell
        rw [hit]
  · cases h
theorem arrO {k : Nat} (hG : GX E p s0) (hW : s0.WarmedH s.vm) (h1 : 20 ≤ k) (h2 : k ≤ 27) : ArrOfT s (E.2.2.2.2 k) (arT k) := arrOfT_moved hW.alike (hG.2.2.2.2.1 k h1 h2).1
theorem arrRA {k : Nat} (hG : GX E p s0) (hW : s0.WarmedH s.vm) (h1 : 20 ≤ k) (h2 : k ≤ 27) : va_RA s (E.2.2.2.2 k) (arT k) := (hG.2.2.2.2.1 k h1 h2).2.moved hW.alike
theorem evl_nw {k n j : Nat} (h : k ≤ 27) : evl E k (nwO x k n) (hN x) j = if k = 25 then .long 0 else if 26 ≤ k then .null else .int 0 := by
  unfold evl
  rw [hI_nw_s, hR_nw_s]
  rfl
set_option maxHeartbeats 4000000 in
theorem k_newarray {t : ArrayType} (hG : GX E p s0) (hC : CX s0 mi s m meth c) (hd : decode (mb mi) pc = .ok (.newarray t, len)) (hl : lnkE mi pc (.newarray t, len, r1, r2, r3, r4) = true) (hX : RL E s0 x H) (hL : LR E mi ls lc) (hw : ∀ v ∈ st, wfv v) (hB : BX R E x locs cells slots nE sE r) (h : astep pc (.newarray t, len, r1, r2, r3, r4) ls st x = some (.inl (pc', ls', st', x'))) (K : KT E p l e R s0 s m args below meth c nE sE r mi Q pc' ls' st' x') : W p l e R s m args below meth c H locs cells slots Q (F0 m pc lc (st.map (cv E))) := by
  have hx := hG.2.1
  have hb := hC.2.1
  simp only [lnkE, Bool.and_eq_true] at hl
  obtain ⟨hat, h20, hlen⟩ := hl
  obtain rfl : len = 2 := Nat.eq_of_beq_eq_true hlen
  have hat := Nat.eq_of_beq_eq_true hat
  have h20 : 20 ≤ r1 := Nat.le_of_ble_eq_true h20
  have ht : r1 ≤ 25 ∧ newarray.typeOf t = arT r1 ∧ defaultValue (newarray.typeOf t) = (if r1 = 25 then .long 0 else if 26 ≤ r1 then .null else .int 0) ∧ (∀ cA, va_RA s cA (newarray.typeOf t) → s.vm.findClass ("[" ++ (newarray.typeOf t).toString) = some cA) ∧ componentBytes (newarray.typeOf t) ≤ 8 := by
    cases t <;> first | (unfold atc at hat; simp only at hat; subst hat; exact ⟨by decide, rfl, rfl, fun cA h => h, by decide⟩) | (unfold atc at hat; simp only at hat; omega)
  obtain ⟨h25, hta, hdv, hra, hcb⟩ := ht
  have harr := hG.wd hC.1 (List.all_eq_true.mp AIX_ok (r1 - 20) (List.mem_range.mpr (by omega))) rfl (a := args)
  rw [show 20 + (r1 - 20) = r1 by omega, ← hta] at harr
  change oNewA _ _ _ _ _ _ = _ at h
  unfold oNewA at h
  split at h
  · rename_i z tt
    split at h
    · rename_i hn
      unfold sN at h
      cases h
      have hz : inI z = true := hw _ List.mem_cons_self
      obtain ⟨f1, f2⟩ := hB.fit hn.2.2.1 hn.2.2.2
      have hq3 : hN x ≠ 3 := by have := hX.1; omega
      refine va_newaK hx hb harr rfl hd rfl (N := z.toNat) (by rw [show (0 : Int32) = Int32.ofInt 0 from rfl, i_lt hz inI_0]; omega) (i_cl hz) ?_ f1 f2 hX.top fun H1 cA e1 z1 o1 hAr hNm => ?_
      · have h1 : z.toNat ≤ 100000 := by omega
        calc z.toNat * componentBytes (newarray.typeOf t) ≤ 100000 * 8 := Nat.mul_le_mul h1 hcb
          _ ≤ 536870912 := by decide
      · have hca : cA = E.2.2.2.2 r1 := by
          have h9 := arrRA hG hC.1 h20 (show r1 ≤ 27 by omega)
          rw [← hta] at h9
          exact Option.some.inj (hNm.symm.trans (hra _ h9))
        have hk := K H1 locs (cells + 1) (slots + z.toNat) lc (hX.push hG.1 ⟨fun h => by omega, fun _ h => by omega, fun _ h => by omega, fun _ => ⟨by omega, by omega, Or.inl ⟨hX.1, ?_⟩⟩⟩ (by rw [z1, hX.top]) (fun a ha => o1 a (by rw [← hX.top]; exact ha))) hL (List.forall_mem_cons.mpr ⟨trivial, fun v hv => hw v (List.mem_cons_of_mem _ hv)⟩) (hB.new f1 f2)
        · rw [List.map_cons, show cv E (Sum.inr (Sum.inr (some (hN x)))) = cv E (vA (hN x)) from rfl, cv_A hq3] at hk
          exact hk
        · rw [e1, hca, hdv]
          congr 2
          funext j
          exact (evl_nw (by omega)).symm
    · cases h
  · cases h
set_option maxHeartbeats 4000000 in
theorem k_anewarray {i : Nat} (hG : GX E p s0) (hC : CX s0 mi s m meth c) (hd : decode (mb mi) pc = .ok (.anewarray i, len)) (hl : lnkE mi pc (.anewarray i, len, r1, r2, r3, r4) = true) (hX : RL E s0 x H) (hL : LR E mi ls lc) (hw : ∀ v ∈ st, wfv v) (hB : BX R E x locs cells slots nE sE r) (h : astep pc (.anewarray i, len, r1, r2, r3, r4) ls st x = some (.inl (pc', ls', st', x'))) (K : KT E p l e R s0 s m args below meth c nE sE r mi Q pc' ls' st' x') : W p l e R s m args below meth c H locs cells slots Q (F0 m pc lc (st.map (cv E))) := by
  have hx := hG.2.1
  have hb := hC.2.1
  simp only [lnkE, Bool.and_eq_true, Bool.or_eq_true] at hl
  obtain ⟨hcl, h26, hlen⟩ := hl
  obtain rfl : len = 3 := Nat.eq_of_beq_eq_true hlen
  have h26 : r1 = 26 ∨ r1 = 27 := h26.elim (fun h => Or.inl (Nat.eq_of_beq_eq_true h)) (fun h => Or.inr (Nat.eq_of_beq_eq_true h))
  obtain ⟨j, hj⟩ := has3_s hcl
  have hlink := hG.wd hC.1 (List.all_eq_true.mp ALL_ok _ hj) rfl (a := args)
  have hT : arT r1 = .object (arC r1) := by rcases h26 with rfl | rfl <;> rfl
  have hover : (Cond.arrayOver (.object (arC r1))).before args s = true := by
    rcases h26 with rfl | rfl
    · exact hG.wd hC.1 AO_ok.1 rfl
    · exact hG.wd hC.1 AO_ok.2 rfl
  change oNewA _ _ _ _ _ _ = _ at h
  unfold oNewA at h
  split at h
  · rename_i z tt
    split at h
    · rename_i hn
      unfold sN at h
      cases h
      have hz : inI z = true := hw _ List.mem_cons_self
      obtain ⟨f1, f2⟩ := hB.fit hn.2.2.1 hn.2.2.2
      have hq3 : hN x ≠ 3 := by have := hX.1; omega
      have hcl := i_cl hz
      refine W.anew hx hb hC.2.2.2.2.1 hlink hover rfl hd rfl (by rw [show (0 : Int32) = Int32.ofInt 0 from rfl, i_lt hz inI_0]; omega) (by rw [hcl]; omega) f1 (by rw [hcl]; exact f2) fun cA kA comp g1 g2 g3 g4 => ?_
      have hca : cA = E.2.2.2.2 r1 := by
        have h9 := arrRA hG hC.1 (show 20 ≤ r1 by omega) (show r1 ≤ 27 by omega)
        rw [hT] at h9
        obtain ⟨-, -, -, -, -, h8⟩ := h9
        exact Option.some.inj (g1.symm.trans h8)
      rw [hcl, hX.top]
      have hk := K (H.push { cls := cA, slots := Array.replicate z.toNat .null, vm := .none }) locs (cells + 1) (slots + z.toNat) lc (hX.push hG.1 ⟨fun h => by omega, fun _ h => by omega, fun _ h => by omega, fun _ => ⟨by omega, by omega, Or.inl ⟨hX.1, ?_⟩⟩⟩ (by rw [Array.size_push]) (fun a ha => by rw [Array.getElem?_push, if_neg (Nat.ne_of_lt ha)])) hL (List.forall_mem_cons.mpr ⟨trivial, fun v hv => hw v (List.mem_cons_of_mem _ hv)⟩) (hB.new f1 f2)
      · rw [List.map_cons, show cv E (Sum.inr (Sum.inr (some (hN x)))) = cv E (vA (hN x)) from rfl, cv_A hq3] at hk
        exact hk
      · rw [← hX.top, Array.getElem?_push, if_pos rfl, arrV_new, hca]
        congr 2
        funext j
        rw [evl_nw (by omega)]
        rcases h26 with rfl | rfl <;> rfl
    · cases h
  · cases h
theorem arrAt {q k n : Nat} (hX : RL E s0 x H) (hk : hK x q = some (k, n)) (h : 20 ≤ k) (h4 : 4 ≤ q) : q ≠ 3 ∧ k ≤ 27 ∧ H[io E q]? = some (arrV (E.2.2.2.2 k) n (fun j => evl E k x q j)) := by
  obtain ⟨⟨-, h3, -⟩, hcp⟩ := hX.2.2.1 q k n hk
  refine ⟨h3, (hcp.2.2.2 h).1, ?_⟩
  rcases (hcp.2.2.2 h).2.2 with ⟨-, h9⟩ | ⟨h9, -⟩
  · exact h9
  · omega
theorem arrRd {q k n : Nat} (hG : GX E p s0) (hW : s0.WarmedH s.vm) (hX : RL E s0 x H) (hk : hK x q = some (k, n)) (h : 20 ≤ k) : q ≠ 3 ∧ k ≤ 27 ∧ ∃ cell : Cell, H[io E q]? = some cell ∧ s.isArrayOf cell (arT k) ∧ cell.vm ≠ .unknown ∧ (n ≤ cell.slots.size ∧ cell.slots.size.toInt32 = Int32.ofNat n) ∧ ∀ j, j < n → cell.slots[j]? = some (evl E k x q j) := by
  obtain ⟨⟨-, h3, -⟩, hcp⟩ := hX.2.2.1 q k n hk
  refine ⟨h3, (hcp.2.2.2 h).1, ?_⟩
  rcases (hcp.2.2.2 h).2.2 with ⟨-, h9⟩ | ⟨-, cell, h9, g1, g2, g3, g4⟩
  · exact ⟨_, h9, arrO hG hW h (hcp.2.2.2 h).1 n _, (fun h9 => by cases h9), ⟨Nat.le_of_eq (arrV_size _ _ _).symm, congrArg Nat.toInt32 (arrV_size _ _ _)⟩, fun j hj => arrV_read _ _ hj⟩
  · exact ⟨cell, h9, State.isArrayOf_alike hW.alike g1, g2, g3, g4⟩
theorem arrLe {q k n : Nat} (hX : RL E s0 x H) (hk : hK x q = some (k, n)) (h : 20 ≤ k) : n ≤ 100000 := by
  obtain ⟨-, hcp⟩ := hX.2.2.1 q k n hk
  exact (hcp.2.2.2 h).2.1
theorem arrSt {q k n j : Nat} {v : Value} {y : HP} {H' : Heap} (hG : GX E p s0) (hX : RL E s0 x H) (hk : hK x q = some (k, n)) (h20 : 20 ≤ k) (h4 : 4 ≤ q) (eK : hK y = hK x) (eN : hN y = hN x) (eI : ∀ b, b ≠ q → hI y b = hI x b) (eR : ∀ b, b ≠ q → hR y b = hR x b)
    (hv : ∀ i : Nat, i < n → evl E k y q i = updV (fun i => evl E k x q i) j v i) (hg : ∀ i, rgm y q i) (e1 : H'[io E q]? = some ((arrV (E.2.2.2.2 k) n (fun i => evl E k x q i)).setSlot j v)) (e2 : H'.size = H.size) (e3 : ∀ a, a ≠ io E q → H'[a]? = H[a]?) : RL E s0 y H' := by
  obtain ⟨-, h27, -⟩ := arrAt hX hk h20 h4
  refine hX.set hG.1 hk h4 (c' := k) (n' := n) (fun b _ => by rw [eK]) (by rw [eK]; exact hk) eN eI eR ⟨fun h => by omega, fun _ h => by omega, fun _ h => by omega, fun _ => ⟨h27, arrLe hX hk h20, Or.inl ⟨h4, ?_⟩⟩⟩ e2 e3 hg (fun h => h)
  rw [e1, arrV_store]
  unfold arrV
  congr 3
  funext i
  exact (hv i.val i.isLt).symm
theorem toN {i : Int} (h : 0 ≤ i) : ((i.toNat : Nat) : Int) = i := Int.toNat_of_nonneg h
end
