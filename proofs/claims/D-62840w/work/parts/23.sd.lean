/-! the abstract machine is sound: returns, throws, calls; the whole run -/
theorem ini_ok : (List.range 162).all (fun j => !(decide ((mnm j).name = "<init>")) || (Nat.ble 13 j && Nat.beq (rtc (mrt j)) 7)) = true := by decide +kernel
theorem cwd_ini {j : Nat} (h2 : j < 162) (h : (mnm j).name = "<init>") : cwd j = .code (mnm j) (mb j) (mxl j) none := by
  have h9 := List.all_eq_true.mp ini_ok j (List.mem_range.mpr h2)
  rw [h] at h9
  simp only [decide_true, Bool.not_true, Bool.false_or, Bool.and_eq_true] at h9
  have h13 := Nat.le_of_ble_eq_true h9.1
  have h7 := Nat.eq_of_beq_eq_true h9.2
  have hr : mrt j = none := by
    cases hm : mrt j with
    | none => rfl
    | some ty => rw [hm] at h7; cases ty <;> simp [rtc] at h7
  unfold cwd
  rw [if_neg (by omega), hr]
section
variable {E : EV} {p : Program} {l : Launch} {e : Env} {R : Room} {s0 s : State} {m : MethodId} {args : Array Value} {below : List Frame} {meth : Method} {c : Code} {H : Heap} {locs : List Loc} {cells slots nE sE r mi pc pc' len r1 r2 r3 r4 : Nat} {Q : State → Prop} {ls ls' st st' : List AV} {x x' : HP} {lc : Array Slot}
theorem rcv_s {c9 : Nat} (h : rcv r2 st x = some c9) (h1 : 1 ≤ r2) (h2 : r2 ≤ st.length) : ∃ q n, hK x q = some (c9, n) ∧ (st.take r2).reverse = vA q :: (st.take (r2 - 1)).reverse := by
  unfold rcv at h
  split at h
  · rename_i q hq
    split at h
    · rename_i k n hk
      cases h
      refine ⟨q, n, hk, ?_⟩
      have e1 : st.take r2 = st.take (r2 - 1) ++ [vA q] := by
        have e2 : r2 = r2 - 1 + 1 := by omega
        rw [e2, List.take_succ]
        rw [show r2 - 1 + 1 - 1 = r2 - 1 by omega, hq]
        rfl
      rw [e1, List.reverse_append]
      rfl
    · cases h
  · cases h
theorem st_ret {ins : Instr} {v : Option AV} (hG : GX E p s0) (hC : CX s0 mi s m meth c) (hd : decode (mb mi) pc = .ok (ins, len)) (hl : lnkE mi pc (ins, len, r1, r2, r3, r4) = true) (hX : RL E s0 x H) (hw : ∀ v ∈ st, wfv v) (hB : BX R E x locs cells slots nE sE r) (h : astep pc (ins, len, r1, r2, r3, r4) ls st x = some (.inr (.inl v))) (hi : ins = .ireturn ∨ ins = .areturn ∨ ins = .return_) :
    W p l e R s m args below meth c H locs cells slots (FQ E s0 R s below nE sE (.inl v) x) (F0 m pc lc (st.map (cv E))) := by
  rcases hi with rfl | rfl | rfl
  · exact k_ireturn hG hC hd hl hX hw hB h
  · exact k_areturn hG hC hd hl hX hw hB h
  · exact k_return hG hC hd hl hX hw hB h
theorem sCal_s {a b : Nat} {aL rest : List AV} {w : SR} (h : sCal a b aL rest = some w) : w = .inr (.inr (.inr (a, b, aL, rest))) ∧ lok a aL = true ∧ sml rest = true := by
  unfold sCal at h
  split at h
  · rename_i h9
    rw [Bool.and_eq_true] at h9
    cases h
    exact ⟨rfl, h9⟩
  · cases h
theorem tkdp {n : Nat} (st : List AV) : ((st.take n).reverse.reverse ++ st.drop n) = st := by rw [List.reverse_reverse, List.take_append_drop]
theorem mem_tk {n : Nat} (hw : ∀ v ∈ st, wfv v) : ∀ v ∈ (st.take n).reverse, wfv v := fun v hv => hw v (List.mem_of_mem_take (List.mem_reverse.mp hv))
theorem mem_dp {n : Nat} (hw : ∀ v ∈ st, wfv v) : ∀ v ∈ st.drop n, wfv v := fun v hv => hw v (List.mem_of_mem_drop hv)
set_option maxHeartbeats 4000000 in
theorem st_call {i mj rj r' : Nat} {aL rest : List AV} {o : AO} {y : HP} (hG : GX E p s0) (hC : CX s0 mi s m meth c) (hX : RL E s0 x H) (hL : LR E mi ls lc) (hw : ∀ v ∈ st, wfv v) (hB : BX R E x locs cells slots nE sE r) (hr : r' < r) (IH : IHok E p l e s0 r' mj 0 (ent (mxl mj) aL) [] x o y) (K : KE E p l e R s0 s m args below meth c nE sE r mi pc Q ls rest lc o y) {ins : Instr} (hd : decode (mb mi) pc = .ok (ins, len)) (hl : lnkE mi pc (ins, len, r1, r2, r3, r4) = true) (h : astep pc (ins, len, r1, r2, r3, r4) ls st x = some (.inr (.inr (.inr (mj, rj, aL, rest)))))
    (hi : ins = .invokestatic i ∨ ins = .invokespecial i ∨ ins = .invokevirtual i) : W p l e R s m args below meth c H locs cells slots Q (F0 m pc lc (st.map (cv E))) := by
  rcases hi with rfl | rfl | rfl
  · replace h : oCallS pc len r1 r2 r3 ls st x = _ := h
    unfold oCallS at h
    split at h
    · unfold oCopy at h
      repeat' (split at h)
      all_goals cases h
    · rename_i h9
      split at h
      · rename_i h8
        obtain ⟨e1, hlok, hsml⟩ := sCal_s h
        cases e1
        have hb : Nat.beq r1 1002 = false := by
          cases hb : Nat.beq r1 1002 with
          | false => rfl
          | true => exact absurd (Nat.eq_of_beq_eq_true hb) h9
        simp only [lnkE, hb, Bool.false_eq_true, if_false, Bool.and_eq_true] at hl
        obtain ⟨g1, g2, g3, g4, g5, g6, g7⟩ := hl
        obtain rfl : len = 3 := Nat.eq_of_beq_eq_true g6
        obtain rfl : r2 = mar r1 := Nat.eq_of_beq_eq_true g5
        have hk := c_static hG IH hr hC hX hB hL hd (Nat.le_of_ble_eq_true g3) (Nat.lt_of_succ_le (Nat.le_of_ble_eq_true g2)) hlok (mem_tk hw) hsml (mem_dp hw) K g1 g7 g4 (by rw [List.length_reverse, List.length_take]; omega)
        rw [tkdp] at hk
        exact hk
      · cases h
  · replace h : oCallI pc len r1 r2 r3 r4 ls st x = _ := h
    unfold oCallI at h
    split at h
    · rename_i c9 hr9
      split at h
      · split at h <;> cases h
      · rename_i h0
        split at h
        · unfold oExi at h
          repeat' (split at h)
          all_goals cases h
        · rename_i h01
          split at h
          · rename_i h8
            obtain ⟨e1, hlok, hsml⟩ := sCal_s h
            cases e1
            have hb : Nat.beq r1 1000 = false := by
              cases hb : Nat.beq r1 1000 with
              | false => rfl
              | true => exact absurd (Nat.eq_of_beq_eq_true hb) h0
            have hb1 : Nat.beq r1 1001 = false := by
              cases hb : Nat.beq r1 1001 with
              | false => rfl
              | true => exact absurd (Nat.eq_of_beq_eq_true hb) h01
            simp only [lnkE, hb, hb1, Bool.false_eq_true, if_false, Bool.and_eq_true, Bool.or_eq_true, Bool.not_eq_true'] at hl
            obtain ⟨g1, g2, g3, g4, g5, g6, g7⟩ := hl
            obtain rfl : len = 3 := Nat.eq_of_beq_eq_true g6
            obtain rfl : r2 = mar r1 + 1 := Nat.eq_of_beq_eq_true g5
            obtain ⟨q, n, hk, et⟩ := rcv_s hr9 h8.2 h8.1
            have hlt : r1 < 162 := Nat.lt_of_succ_le (Nat.le_of_ble_eq_true g2)
            have hwt := mem_tk (n := mar r1 + 1 - 1) hw
            rw [et] at IH hlok
            have h3 : q ≠ 3 := (hX.2.2.1 q _ _ hk).1.2.1
            have hlen : (st.take (mar r1 + 1 - 1)).reverse.length = mar r1 := by rw [List.length_reverse, List.length_take]; omega
            rcases g7 with g7 | ⟨g7, g8, g9⟩
            · have hin := of_decide_eq_true g7
              have hk9 := c_init hG IH hr hC hX hB hL hd (Nat.le_of_ble_eq_true g3) hlt hlok hwt hsml (mem_dp hw) K g1 g4 hlen h3 hin (cwd_ini hlt hin)
              rw [← et, tkdp] at hk9
              exact hk9
            · have hk9 := c_up hG IH hr hC hX hB hL hd (Nat.le_of_ble_eq_true g3) hlt hlok hwt hsml (mem_dp hw) K g1 g9 g4 hlen hk g7 (of_decide_eq_false g8)
              rw [← et, tkdp] at hk9
              exact hk9
          · cases h
    · cases h
  · replace h : oCallV r1 r2 r3 r4 st x = _ := h
    unfold oCallV at h
    split at h
    · rename_i c9 hr9
      split at h
      · rename_i h8
        obtain ⟨q, n, hk, et⟩ := rcv_s hr9 h8.2 h8.1
        split at h
        · rename_i h0
          subst h0
          simp only [lnkE, Nat.beq_refl, if_true, Bool.and_eq_true] at hl
          obtain ⟨g1, g2, g3⟩ := hl
          obtain rfl : len = 3 := Nat.eq_of_beq_eq_true g3
          obtain rfl : r2 = 2 := Nat.eq_of_beq_eq_true g2
          have hwt := mem_tk (n := 1) hw
          have hlen : (st.take 1).reverse.length = 1 := by rw [List.length_reverse, List.length_take]; omega
          split at h
          · rename_i h5
            subst h5
            obtain ⟨e1, hlok, hsml⟩ := sCal_s h
            cases e1
            rw [et] at IH hlok
            have hk9 := c_begins hG IH hr hC hX hB hL hd hlok hwt hsml (mem_dp hw) K g1 hlen hk (Or.inl ⟨rfl, rfl⟩)
            rw [← et, tkdp] at hk9
            exact hk9
          · split at h
            · rename_i h5
              subst h5
              obtain ⟨e1, hlok, hsml⟩ := sCal_s h
              cases e1
              rw [et] at IH hlok
              have hk9 := c_begins hG IH hr hC hX hB hL hd hlok hwt hsml (mem_dp hw) K g1 hlen hk (Or.inr ⟨rfl, rfl⟩)
              rw [← et, tkdp] at hk9
              exact hk9
            · cases h
        · rename_i h0
          split at h
          · rename_i h5
            subst h5
            obtain ⟨e1, hlok, hsml⟩ := sCal_s h
            cases e1
            have hb : Nat.beq r1 500 = false := by
              cases hb : Nat.beq r1 500 with
              | false => rfl
              | true => exact absurd (Nat.eq_of_beq_eq_true hb) h0
            simp only [lnkE, hb, Bool.false_eq_true, if_false, Bool.and_eq_true, Bool.not_eq_true'] at hl
            obtain ⟨g1, g2, g3, g4, g5, g6, g7, g8, g9⟩ := hl
            obtain rfl : len = 3 := Nat.eq_of_beq_eq_true g6
            obtain rfl : r2 = mar r1 + 1 := Nat.eq_of_beq_eq_true g5
            have hlt : r1 < 162 := Nat.lt_of_succ_le (Nat.le_of_ble_eq_true g2)
            have hwt := mem_tk (n := mar r1 + 1 - 1) hw
            rw [et] at IH hlok
            have hlen : (st.take (mar r1 + 1 - 1)).reverse.length = mar r1 := by rw [List.length_reverse, List.length_take]; omega
            have hk9 := c_virtual hG IH hr hC hX hB hL hd (Nat.le_of_ble_eq_true g3) hlt hlok hwt hsml (mem_dp hw) K g1 g9 g4 hlen hk (Nat.le_of_ble_eq_true g8) g7
            rw [← et, tkdp] at hk9
            exact hk9
          · cases h
      · cases h
    · cases h
end
