/-! loads and stores of arrays, the rest of the plain steps: printed by gen/gen14.py -/
section
variable {E : EV} {p : Program} {l : Launch} {e : Env} {R : Room} {s0 s : State} {m : MethodId} {args : Array Value} {below : List Frame} {meth : Method} {c : Code} {H : Heap} {locs : List Loc} {cells slots nE sE r mi pc pc' len r1 r2 r3 r4 : Nat} {Q : State → Prop} {ls ls' st st' : List AV} {x x' : HP} {lc : Array Slot}
set_option maxHeartbeats 2000000 in
theorem k_iaload  (hG : GX E p s0) (hC : CX s0 mi s m meth c) (hd : decode (mb mi) pc = .ok (.iaload, len)) (hl : lnkE mi pc (.iaload, len, r1, r2, r3, r4) = true) (hX : RL E s0 x H) (hL : LR E mi ls lc) (hw : ∀ v ∈ st, wfv v) (hB : BX R E x locs cells slots nE sE r) (h : astep pc (.iaload, len, r1, r2, r3, r4) ls st x = some (.inl (pc', ls', st', x'))) (K : KT E p l e R s0 s m args below meth c nE sE r mi Q pc' ls' st' x') : W p l e R s m args below meth c H locs cells slots Q (F0 m pc lc (st.map (cv E))) := by
  have hx := hG.2.1
  have hb := hC.2.1
  simp only [lnkE] at hl
  obtain rfl : len = 1 := Nat.eq_of_beq_eq_true hl
  change oLdI _ _ _ _ _ _ = _ at h
  unfold oLdI at h
  split at h
  · rename_i i q t
    split at h
    · rename_i k n hk
      split at h
      · rename_i hn
        unfold sN at h
        cases h
        have hi : inI i = true := hw _ List.mem_cons_self
        obtain ⟨rfl, hn⟩ := hn
        obtain ⟨h3, -, cell, hc, his, hkn, hsz, hrd⟩ := arrRd hG hC.1 hX hk (by decide)
        have hlt : i.toNat < n := by omega
        rw [List.map_cons, List.map_cons, show cv E (Sum.inr (Sum.inr (some q))) = cv E (vA q) from rfl, cv_A h3]
        refine W.iald hx hb hc his hkn (j := Int32.ofInt i) (i_in hi (by omega)) (v := .int (Int32.ofInt (hI x q i))) (by rw [i_cl hi, hrd _ hlt]; unfold evl; rw [toN (by omega)]; rfl) rfl rfl hd ?_
        exact K H locs cells slots lc hX hL (List.forall_mem_cons.mpr ⟨(hX.2.2.2.2.2 q i).2.1 (fun n' e => by rw [hk] at e; cases e), fun v hv => hw v (List.mem_cons_of_mem _ (List.mem_cons_of_mem _ hv))⟩) hB
      · cases h
    · cases h
  · cases h

set_option maxHeartbeats 2000000 in
theorem k_caload  (hG : GX E p s0) (hC : CX s0 mi s m meth c) (hd : decode (mb mi) pc = .ok (.caload, len)) (hl : lnkE mi pc (.caload, len, r1, r2, r3, r4) = true) (hX : RL E s0 x H) (hL : LR E mi ls lc) (hw : ∀ v ∈ st, wfv v) (hB : BX R E x locs cells slots nE sE r) (h : astep pc (.caload, len, r1, r2, r3, r4) ls st x = some (.inl (pc', ls', st', x'))) (K : KT E p l e R s0 s m args below meth c nE sE r mi Q pc' ls' st' x') : W p l e R s m args below meth c H locs cells slots Q (F0 m pc lc (st.map (cv E))) := by
  have hx := hG.2.1
  have hb := hC.2.1
  simp only [lnkE] at hl
  obtain rfl : len = 1 := Nat.eq_of_beq_eq_true hl
  change oLdI _ _ _ _ _ _ = _ at h
  unfold oLdI at h
  split at h
  · rename_i i q t
    split at h
    · rename_i k n hk
      split at h
      · rename_i hn
        unfold sN at h
        cases h
        have hi : inI i = true := hw _ List.mem_cons_self
        obtain ⟨rfl, hn⟩ := hn
        obtain ⟨h3, -, cell, hc, his, hkn, hsz, hrd⟩ := arrRd hG hC.1 hX hk (by decide)
        have hlt : i.toNat < n := by omega
        rw [List.map_cons, List.map_cons, show cv E (Sum.inr (Sum.inr (some q))) = cv E (vA q) from rfl, cv_A h3]
        refine W.cald hx hb hc his hkn (j := Int32.ofInt i) (i_in hi (by omega)) (v := .int (Int32.ofInt (hI x q i))) (by rw [i_cl hi, hrd _ hlt]; unfold evl; rw [toN (by omega)]; rfl) rfl rfl hd ?_
        exact K H locs cells slots lc hX hL (List.forall_mem_cons.mpr ⟨(hX.2.2.2.2.2 q i).2.1 (fun n' e => by rw [hk] at e; cases e), fun v hv => hw v (List.mem_cons_of_mem _ (List.mem_cons_of_mem _ hv))⟩) hB
      · cases h
    · cases h
  · cases h

set_option maxHeartbeats 2000000 in
theorem k_saload  (hG : GX E p s0) (hC : CX s0 mi s m meth c) (hd : decode (mb mi) pc = .ok (.saload, len)) (hl : lnkE mi pc (.saload, len, r1, r2, r3, r4) = true) (hX : RL E s0 x H) (hL : LR E mi ls lc) (hw : ∀ v ∈ st, wfv v) (hB : BX R E x locs cells slots nE sE r) (h : astep pc (.saload, len, r1, r2, r3, r4) ls st x = some (.inl (pc', ls', st', x'))) (K : KT E p l e R s0 s m args below meth c nE sE r mi Q pc' ls' st' x') : W p l e R s m args below meth c H locs cells slots Q (F0 m pc lc (st.map (cv E))) := by
  have hx := hG.2.1
  have hb := hC.2.1
  simp only [lnkE] at hl
  obtain rfl : len = 1 := Nat.eq_of_beq_eq_true hl
  change oLdI _ _ _ _ _ _ = _ at h
  unfold oLdI at h
  split at h
  · rename_i i q t
    split at h
    · rename_i k n hk
      split at h
      · rename_i hn
        unfold sN at h
        cases h
        have hi : inI i = true := hw _ List.mem_cons_self
        obtain ⟨rfl, hn⟩ := hn
        obtain ⟨h3, -, cell, hc, his, hkn, hsz, hrd⟩ := arrRd hG hC.1 hX hk (by decide)
        have hlt : i.toNat < n := by omega
        rw [List.map_cons, List.map_cons, show cv E (Sum.inr (Sum.inr (some q))) = cv E (vA q) from rfl, cv_A h3]
        refine W.sald hx hb hc his hkn (j := Int32.ofInt i) (i_in hi (by omega)) (v := .int (Int32.ofInt (hI x q i))) (by rw [i_cl hi, hrd _ hlt]; unfold evl; rw [toN (by omega)]; rfl) rfl rfl hd ?_
        exact K H locs cells slots lc hX hL (List.forall_mem_cons.mpr ⟨(hX.2.2.2.2.2 q i).2.1 (fun n' e => by rw [hk] at e; cases e), fun v hv => hw v (List.mem_cons_of_mem _ (List.mem_cons_of_mem _ hv))⟩) hB
      · cases h
    · cases h
  · cases h

set_option maxHeartbeats 2000000 in
theorem k_baload  (hG : GX E p s0) (hC : CX s0 mi s m meth c) (hd : decode (mb mi) pc = .ok (.baload, len)) (hl : lnkE mi pc (.baload, len, r1, r2, r3, r4) = true) (hX : RL E s0 x H) (hL : LR E mi ls lc) (hw : ∀ v ∈ st, wfv v) (hB : BX R E x locs cells slots nE sE r) (h : astep pc (.baload, len, r1, r2, r3, r4) ls st x = some (.inl (pc', ls', st', x'))) (K : KT E p l e R s0 s m args below meth c nE sE r mi Q pc' ls' st' x') : W p l e R s m args below meth c H locs cells slots Q (F0 m pc lc (st.map (cv E))) := by
  have hx := hG.2.1
  have hb := hC.2.1
  simp only [lnkE] at hl
  obtain rfl : len = 1 := Nat.eq_of_beq_eq_true hl
  change oLdB _ _ _ _ _ = _ at h
  unfold oLdB at h
  split at h
  · rename_i i q t
    split at h
    · rename_i k n hk
      split at h
      · rename_i hn
        unfold sN at h
        cases h
        have hi : inI i = true := hw _ List.mem_cons_self
        obtain ⟨hkk, hn⟩ := hn
        rcases hkk with rfl | rfl
        · obtain ⟨h3, -, cell, hc, his, hkn, hsz, hrd⟩ := arrRd hG hC.1 hX hk (by decide)
          have hlt : i.toNat < n := by omega
          rw [List.map_cons, List.map_cons, show cv E (Sum.inr (Sum.inr (some q))) = cv E (vA q) from rfl, cv_A h3]
          refine W.bald hx hb hc his hkn (j := Int32.ofInt i) (i_in hi (by omega)) (v := .int (Int32.ofInt (hI x q i))) (by rw [i_cl hi, hrd _ hlt]; unfold evl; rw [toN (by omega)]; rfl) rfl rfl hd ?_
          exact K H locs cells slots lc hX hL (List.forall_mem_cons.mpr ⟨(hX.2.2.2.2.2 q i).2.1 (fun n' e => by rw [hk] at e; cases e), fun v hv => hw v (List.mem_cons_of_mem _ (List.mem_cons_of_mem _ hv))⟩) hB
        · obtain ⟨h3, -, cell, hc, his, hkn, hsz, hrd⟩ := arrRd hG hC.1 hX hk (by decide)
          have hlt : i.toNat < n := by omega
          rw [List.map_cons, List.map_cons, show cv E (Sum.inr (Sum.inr (some q))) = cv E (vA q) from rfl, cv_A h3]
          refine W.zald hx hb hc his hkn (j := Int32.ofInt i) (i_in hi (by omega)) (v := .int (Int32.ofInt (hI x q i))) (by rw [i_cl hi, hrd _ hlt]; unfold evl; rw [toN (by omega)]; rfl) rfl rfl hd ?_
          exact K H locs cells slots lc hX hL (List.forall_mem_cons.mpr ⟨(hX.2.2.2.2.2 q i).2.1 (fun n' e => by rw [hk] at e; cases e), fun v hv => hw v (List.mem_cons_of_mem _ (List.mem_cons_of_mem _ hv))⟩) hB
      · cases h
    · cases h
  · cases h

set_option maxHeartbeats 2000000 in
theorem k_laload  (hG : GX E p s0) (hC : CX s0 mi s m meth c) (hd : decode (mb mi) pc = .ok (.laload, len)) (hl : lnkE mi pc (.laload, len, r1, r2, r3, r4) = true) (hX : RL E s0 x H) (hL : LR E mi ls lc) (hw : ∀ v ∈ st, wfv v) (hB : BX R E x locs cells slots nE sE r) (h : astep pc (.laload, len, r1, r2, r3, r4) ls st x = some (.inl (pc', ls', st', x'))) (K : KT E p l e R s0 s m args below meth c nE sE r mi Q pc' ls' st' x') : W p l e R s m args below meth c H locs cells slots Q (F0 m pc lc (st.map (cv E))) := by
  have hx := hG.2.1
  have hb := hC.2.1
  simp only [lnkE] at hl
  obtain rfl : len = 1 := Nat.eq_of_beq_eq_true hl
  change oLdL _ _ _ _ _ = _ at h
  unfold oLdL at h
  split at h
  · rename_i i q t
    split at h
    · rename_i k n hk
      split at h
      · rename_i hn
        unfold sN at h
        cases h
        have hi : inI i = true := hw _ List.mem_cons_self
        obtain ⟨rfl, hn⟩ := hn
        obtain ⟨h3, -, cell, hc, his, hkn, hsz, hrd⟩ := arrRd hG hC.1 hX hk (by decide)
        have hlt : i.toNat < n := by omega
        rw [List.map_cons, List.map_cons, show cv E (Sum.inr (Sum.inr (some q))) = cv E (vA q) from rfl, cv_A h3]
        refine W.lald hx hb hc his hkn (j := Int32.ofInt i) (i_in hi (by omega)) (v := .long (Int64.ofInt (hI x q i))) (by rw [i_cl hi, hrd _ hlt]; unfold evl; rw [toN (by omega)]; rfl) rfl rfl hd ?_
        exact K H locs cells slots lc hX hL (List.forall_mem_cons.mpr ⟨(hX.2.2.2.2.2 q i).1, fun v hv => hw v (List.mem_cons_of_mem _ (List.mem_cons_of_mem _ hv))⟩) hB
      · cases h
    · cases h
  · cases h

set_option maxHeartbeats 2000000 in
theorem k_aaload  (hG : GX E p s0) (hC : CX s0 mi s m meth c) (hd : decode (mb mi) pc = .ok (.aaload, len)) (hl : lnkE mi pc (.aaload, len, r1, r2, r3, r4) = true) (hX : RL E s0 x H) (hL : LR E mi ls lc) (hw : ∀ v ∈ st, wfv v) (hB : BX R E x locs cells slots nE sE r) (h : astep pc (.aaload, len, r1, r2, r3, r4) ls st x = some (.inl (pc', ls', st', x'))) (K : KT E p l e R s0 s m args below meth c nE sE r mi Q pc' ls' st' x') : W p l e R s m args below meth c H locs cells slots Q (F0 m pc lc (st.map (cv E))) := by
  have hx := hG.2.1
  have hb := hC.2.1
  simp only [lnkE] at hl
  obtain rfl : len = 1 := Nat.eq_of_beq_eq_true hl
  change oLdR _ _ _ _ _ = _ at h
  unfold oLdR at h
  split at h
  · rename_i i q t
    split at h
    · rename_i k n hk
      split at h
      · rename_i hn
        unfold sN at h
        cases h
        have hi : inI i = true := hw _ List.mem_cons_self
        obtain ⟨hkk, hn⟩ := hn
        rcases hkk with rfl | rfl
        · obtain ⟨h3, -, cell, hc, his, hkn, hsz, hrd⟩ := arrRd hG hC.1 hX hk (by decide)
          have hlt : i.toNat < n := by omega
          rw [List.map_cons, List.map_cons, show cv E (Sum.inr (Sum.inr (some q))) = cv E (vA q) from rfl, cv_A h3]
          refine W.aald hx hb hc his rfl hkn (j := Int32.ofInt i) (i_in hi (by omega)) (v := cv E (vR (hR x q i))) (by rw [i_cl hi, hrd _ hlt]; unfold evl; rw [toN (by omega)]; rfl) rfl rfl hd ?_
          exact K H locs cells slots lc hX hL (List.forall_mem_cons.mpr ⟨trivial, fun v hv => hw v (List.mem_cons_of_mem _ (List.mem_cons_of_mem _ hv))⟩) hB
        · obtain ⟨h3, -, cell, hc, his, hkn, hsz, hrd⟩ := arrRd hG hC.1 hX hk (by decide)
          have hlt : i.toNat < n := by omega
          rw [List.map_cons, List.map_cons, show cv E (Sum.inr (Sum.inr (some q))) = cv E (vA q) from rfl, cv_A h3]
          refine W.aald hx hb hc his rfl hkn (j := Int32.ofInt i) (i_in hi (by omega)) (v := cv E (vR (hR x q i))) (by rw [i_cl hi, hrd _ hlt]; unfold evl; rw [toN (by omega)]; rfl) rfl rfl hd ?_
          exact K H locs cells slots lc hX hL (List.forall_mem_cons.mpr ⟨trivial, fun v hv => hw v (List.mem_cons_of_mem _ (List.mem_cons_of_mem _ hv))⟩) hB
      · cases h
    · cases h
  · cases h

set_option maxHeartbeats 2000000 in
theorem k_iastore  (hG : GX E p s0) (hC : CX s0 mi s m meth c) (hd : decode (mb mi) pc = .ok (.iastore, len)) (hl : lnkE mi pc (.iastore, len, r1, r2, r3, r4) = true) (hX : RL E s0 x H) (hL : LR E mi ls lc) (hw : ∀ v ∈ st, wfv v) (hB : BX R E x locs cells slots nE sE r) (h : astep pc (.iastore, len, r1, r2, r3, r4) ls st x = some (.inl (pc', ls', st', x'))) (K : KT E p l e R s0 s m args below meth c nE sE r mi Q pc' ls' st' x') : W p l e R s m args below meth c H locs cells slots Q (F0 m pc lc (st.map (cv E))) := by
  have hx := hG.2.1
  have hb := hC.2.1
  simp only [lnkE] at hl
  obtain rfl : len = 1 := Nat.eq_of_beq_eq_true hl
  change oStI _ _ _ _ _ _ _ = _ at h
  unfold oStI at h
  split at h
  · rename_i z i q t
    split at h
    · rename_i k n hk
      split at h
      · rename_i hn
        unfold sN at h
        cases h
        have hi : inI i = true := hw _ (List.mem_cons_of_mem _ List.mem_cons_self)
        obtain ⟨rfl, hn⟩ := hn
        have hz : inI z = true := hw _ List.mem_cons_self
        obtain ⟨h3, -, hc⟩ := arrAt hX hk (by decide) (by omega)
        have hlt : i.toNat < n := by omega
        rw [List.map_cons, List.map_cons, List.map_cons, show cv E (Sum.inr (Sum.inr (some q))) = cv E (vA q) from rfl, cv_A h3]
        refine W.iast hx hb hc (arrO hG hC.1 (by decide) (by decide) n _) (fun h => by cases h) (j := Int32.ofInt i) (by show ¬ (_ ∨ (arrV _ _ _).slots.size ≤ _); rw [arrV_size]; exact i_in hi (by omega)) rfl rfl hd fun H1 e1 e2 e3 => ?_
        rw [i_cl hi] at e1
        refine K H1 _ cells slots lc (arrSt hG hX hk (by decide) (by omega) rfl rfl (fun b hb9 => hI_stI_n hb9) (fun b _ => rfl) (fun k9 hk9 => ?_) (rgm_stI hX.2.2.2.2.2 hz (fun n9 h9 => by rw [hk] at h9; cases h9)) e1 e2 e3) hL (fun v hv => hw v (List.mem_cons_of_mem _ (List.mem_cons_of_mem _ (List.mem_cons_of_mem _ hv)))) (hB.set (io_b (by omega)) rfl rfl)
        unfold updV evl
        rw [hI_stI_s]
        by_cases e9 : k9 = i.toNat
        · subst e9
          rw [if_pos rfl, toN (by omega), up_s]
          first | rfl | rw [if_pos rfl]
        · rw [if_neg e9, up_n (by omega), hR_stI]
      · cases h
    · cases h
  · cases h

set_option maxHeartbeats 2000000 in
theorem k_castore  (hG : GX E p s0) (hC : CX s0 mi s m meth c) (hd : decode (mb mi) pc = .ok (.castore, len)) (hl : lnkE mi pc (.castore, len, r1, r2, r3, r4) = true) (hX : RL E s0 x H) (hL : LR E mi ls lc) (hw : ∀ v ∈ st, wfv v) (hB : BX R E x locs cells slots nE sE r) (h : astep pc (.castore, len, r1, r2, r3, r4) ls st x = some (.inl (pc', ls', st', x'))) (K : KT E p l e R s0 s m args below meth c nE sE r mi Q pc' ls' st' x') : W p l e R s m args below meth c H locs cells slots Q (F0 m pc lc (st.map (cv E))) := by
  have hx := hG.2.1
  have hb := hC.2.1
  simp only [lnkE] at hl
  obtain rfl : len = 1 := Nat.eq_of_beq_eq_true hl
  change oStI _ _ _ _ _ _ _ = _ at h
  unfold oStI at h
  split at h
  · rename_i z i q t
    split at h
    · rename_i k n hk
      split at h
      · rename_i hn
        unfold sN at h
        cases h
        have hi : inI i = true := hw _ (List.mem_cons_of_mem _ List.mem_cons_self)
        obtain ⟨rfl, hn1, hn2, hn3, hrg⟩ := hn
        have hz : inI z = true := hw _ List.mem_cons_self
        obtain ⟨h3, -, hc⟩ := arrAt hX hk (by decide) (by omega)
        have hlt : i.toNat < n := by omega
        rw [List.map_cons, List.map_cons, List.map_cons, show cv E (Sum.inr (Sum.inr (some q))) = cv E (vA q) from rfl, cv_A h3]
        refine W.cast hx hb hc (arrO hG hC.1 (by decide) (by decide) n _) (fun h => by cases h) (j := Int32.ofInt i) (by show ¬ (_ ∨ (arrV _ _ _).slots.size ≤ _); rw [arrV_size]; exact i_in hi (by omega)) rfl rfl hd fun H1 e1 e2 e3 => ?_
        rw [i_cl hi, (nf_c hz hrg).1] at e1
        refine K H1 _ cells slots lc (arrSt hG hX hk (by decide) (by omega) rfl rfl (fun b hb9 => hI_stI_n hb9) (fun b _ => rfl) (fun k9 hk9 => ?_) (rgm_stI hX.2.2.2.2.2 hz (fun n9 h9 => by rw [hk] at h9; cases h9)) e1 e2 e3) hL (fun v hv => hw v (List.mem_cons_of_mem _ (List.mem_cons_of_mem _ (List.mem_cons_of_mem _ hv)))) (hB.set (io_b (by omega)) rfl rfl)
        unfold updV evl
        rw [hI_stI_s]
        by_cases e9 : k9 = i.toNat
        · subst e9
          rw [if_pos rfl, toN (by omega), up_s]
          first | rfl | rw [if_pos rfl]
        · rw [if_neg e9, up_n (by omega), hR_stI]
      · cases h
    · cases h
  · cases h

set_option maxHeartbeats 2000000 in
theorem k_sastore  (hG : GX E p s0) (hC : CX s0 mi s m meth c) (hd : decode (mb mi) pc = .ok (.sastore, len)) (hl : lnkE mi pc (.sastore, len, r1, r2, r3, r4) = true) (hX : RL E s0 x H) (hL : LR E mi ls lc) (hw : ∀ v ∈ st, wfv v) (hB : BX R E x locs cells slots nE sE r) (h : astep pc (.sastore, len, r1, r2, r3, r4) ls st x = some (.inl (pc', ls', st', x'))) (K : KT E p l e R s0 s m args below meth c nE sE r mi Q pc' ls' st' x') : W p l e R s m args below meth c H locs cells slots Q (F0 m pc lc (st.map (cv E))) := by
  have hx := hG.2.1
  have hb := hC.2.1
  simp only [lnkE] at hl
  obtain rfl : len = 1 := Nat.eq_of_beq_eq_true hl
  change oStI _ _ _ _ _ _ _ = _ at h
  unfold oStI at h
  split at h
  · rename_i z i q t
    split at h
    · rename_i k n hk
      split at h
      · rename_i hn
        unfold sN at h
        cases h
        have hi : inI i = true := hw _ (List.mem_cons_of_mem _ List.mem_cons_self)
        obtain ⟨rfl, hn1, hn2, hn3, hrg⟩ := hn
        have hz : inI z = true := hw _ List.mem_cons_self
        obtain ⟨h3, -, hc⟩ := arrAt hX hk (by decide) (by omega)
        have hlt : i.toNat < n := by omega
        rw [List.map_cons, List.map_cons, List.map_cons, show cv E (Sum.inr (Sum.inr (some q))) = cv E (vA q) from rfl, cv_A h3]
        refine W.sast hx hb hc (arrO hG hC.1 (by decide) (by decide) n _) (fun h => by cases h) (j := Int32.ofInt i) (by show ¬ (_ ∨ (arrV _ _ _).slots.size ≤ _); rw [arrV_size]; exact i_in hi (by omega)) rfl rfl hd fun H1 e1 e2 e3 => ?_
        rw [i_cl hi, (nf_s hz hrg).1] at e1
        refine K H1 _ cells slots lc (arrSt hG hX hk (by decide) (by omega) rfl rfl (fun b hb9 => hI_stI_n hb9) (fun b _ => rfl) (fun k9 hk9 => ?_) (rgm_stI hX.2.2.2.2.2 hz (fun n9 h9 => by rw [hk] at h9; cases h9)) e1 e2 e3) hL (fun v hv => hw v (List.mem_cons_of_mem _ (List.mem_cons_of_mem _ (List.mem_cons_of_mem _ hv)))) (hB.set (io_b (by omega)) rfl rfl)
        unfold updV evl
        rw [hI_stI_s]
        by_cases e9 : k9 = i.toNat
        · subst e9
          rw [if_pos rfl, toN (by omega), up_s]
          first | rfl | rw [if_pos rfl]
        · rw [if_neg e9, up_n (by omega), hR_stI]
      · cases h
    · cases h
  · cases h

set_option maxHeartbeats 2000000 in
theorem k_bastore  (hG : GX E p s0) (hC : CX s0 mi s m meth c) (hd : decode (mb mi) pc = .ok (.bastore, len)) (hl : lnkE mi pc (.bastore, len, r1, r2, r3, r4) = true) (hX : RL E s0 x H) (hL : LR E mi ls lc) (hw : ∀ v ∈ st, wfv v) (hB : BX R E x locs cells slots nE sE r) (h : astep pc (.bastore, len, r1, r2, r3, r4) ls st x = some (.inl (pc', ls', st', x'))) (K : KT E p l e R s0 s m args below meth c nE sE r mi Q pc' ls' st' x') : W p l e R s m args below meth c H locs cells slots Q (F0 m pc lc (st.map (cv E))) := by
  have hx := hG.2.1
  have hb := hC.2.1
  simp only [lnkE] at hl
  obtain rfl : len = 1 := Nat.eq_of_beq_eq_true hl
  change oStB _ _ _ _ _ = _ at h
  unfold oStB at h
  split at h
  · rename_i z i q t
    split at h
    · rename_i k n hk
      split at h
      · rename_i hn
        unfold sN at h
        cases h
        have hi : inI i = true := hw _ (List.mem_cons_of_mem _ List.mem_cons_self)
        obtain ⟨hkk, hn⟩ := hn
        rcases hkk with ⟨rfl, hrg⟩ | ⟨rfl, hrg⟩
        · have hz : inI z = true := hw _ List.mem_cons_self
          obtain ⟨h3, -, hc⟩ := arrAt hX hk (by decide) (by omega)
          have hlt : i.toNat < n := by omega
          rw [List.map_cons, List.map_cons, List.map_cons, show cv E (Sum.inr (Sum.inr (some q))) = cv E (vA q) from rfl, cv_A h3]
          refine W.bast hx hb hc (arrO hG hC.1 (by decide) (by decide) n _) (fun h => by cases h) (j := Int32.ofInt i) (by show ¬ (_ ∨ (arrV _ _ _).slots.size ≤ _); rw [arrV_size]; exact i_in hi (by omega)) rfl rfl hd fun H1 e1 e2 e3 => ?_
          rw [i_cl hi, (nf_b hz hrg).1] at e1
          refine K H1 _ cells slots lc (arrSt hG hX hk (by decide) (by omega) rfl rfl (fun b hb9 => hI_stI_n hb9) (fun b _ => rfl) (fun k9 hk9 => ?_) (rgm_stI hX.2.2.2.2.2 hz (fun _ _ => hrg)) e1 e2 e3) hL (fun v hv => hw v (List.mem_cons_of_mem _ (List.mem_cons_of_mem _ (List.mem_cons_of_mem _ hv)))) (hB.set (io_b (by omega)) rfl rfl)
          unfold updV evl
          rw [hI_stI_s]
          by_cases e9 : k9 = i.toNat
          · subst e9
            rw [if_pos rfl, toN (by omega), up_s]
            first | rfl | rw [if_pos rfl]
          · rw [if_neg e9, up_n (by omega), hR_stI]
        · have hz : inI z = true := hw _ List.mem_cons_self
          obtain ⟨h3, -, hc⟩ := arrAt hX hk (by decide) (by omega)
          have hlt : i.toNat < n := by omega
          rw [List.map_cons, List.map_cons, List.map_cons, show cv E (Sum.inr (Sum.inr (some q))) = cv E (vA q) from rfl, cv_A h3]
          refine W.zast hx hb hc (arrO hG hC.1 (by decide) (by decide) n _) (fun h => by cases h) (j := Int32.ofInt i) (by show ¬ (_ ∨ (arrV _ _ _).slots.size ≤ _); rw [arrV_size]; exact i_in hi (by omega)) rfl rfl hd fun H1 e1 e2 e3 => ?_
          rw [i_cl hi, (nf_z hrg).1] at e1
          refine K H1 _ cells slots lc (arrSt hG hX hk (by decide) (by omega) rfl rfl (fun b hb9 => hI_stI_n hb9) (fun b _ => rfl) (fun k9 hk9 => ?_) (rgm_stI hX.2.2.2.2.2 hz (fun n9 h9 => by rw [hk] at h9; cases h9)) e1 e2 e3) hL (fun v hv => hw v (List.mem_cons_of_mem _ (List.mem_cons_of_mem _ (List.mem_cons_of_mem _ hv)))) (hB.set (io_b (by omega)) rfl rfl)
          unfold updV evl
          rw [hI_stI_s]
          by_cases e9 : k9 = i.toNat
          · subst e9
            rw [if_pos rfl, toN (by omega), up_s]
            first | rfl | rw [if_pos rfl]
          · rw [if_neg e9, up_n (by omega), hR_stI]
      · cases h
    · cases h
  · cases h

set_option maxHeartbeats 2000000 in
theorem k_lastore  (hG : GX E p s0) (hC : CX s0 mi s m meth c) (hd : decode (mb mi) pc = .ok (.lastore, len)) (hl : lnkE mi pc (.lastore, len, r1, r2, r3, r4) = true) (hX : RL E s0 x H) (hL : LR E mi ls lc) (hw : ∀ v ∈ st, wfv v) (hB : BX R E x locs cells slots nE sE r) (h : astep pc (.lastore, len, r1, r2, r3, r4) ls st x = some (.inl (pc', ls', st', x'))) (K : KT E p l e R s0 s m args below meth c nE sE r mi Q pc' ls' st' x') : W p l e R s m args below meth c H locs cells slots Q (F0 m pc lc (st.map (cv E))) := by
  have hx := hG.2.1
  have hb := hC.2.1
  simp only [lnkE] at hl
  obtain rfl : len = 1 := Nat.eq_of_beq_eq_true hl
  change oStL _ _ _ _ _ = _ at h
  unfold oStL at h
  split at h
  · rename_i z i q t
    split at h
    · rename_i k n hk
      split at h
      · rename_i hn
        unfold sN at h
        cases h
        have hi : inI i = true := hw _ (List.mem_cons_of_mem _ List.mem_cons_self)
        obtain ⟨rfl, hn⟩ := hn
        have hz : inL z := hw _ List.mem_cons_self
        obtain ⟨h3, -, hc⟩ := arrAt hX hk (by decide) (by omega)
        have hlt : i.toNat < n := by omega
        rw [List.map_cons, List.map_cons, List.map_cons, show cv E (Sum.inr (Sum.inr (some q))) = cv E (vA q) from rfl, cv_A h3]
        refine W.last hx hb hc (arrO hG hC.1 (by decide) (by decide) n _) (fun h => by cases h) (j := Int32.ofInt i) (by show ¬ (_ ∨ (arrV _ _ _).slots.size ≤ _); rw [arrV_size]; exact i_in hi (by omega)) rfl rfl hd fun H1 e1 e2 e3 => ?_
        rw [i_cl hi] at e1
        refine K H1 _ cells slots lc (arrSt hG hX hk (by decide) (by omega) rfl rfl (fun b hb9 => hI_stI_n hb9) (fun b _ => rfl) (fun k9 hk9 => ?_) (fun j9 => by
            have h1 := hX.2.2.2.2.2 q j9
            unfold rgm at h1 ⊢
            rw [hI_stI_s, hK_stI]
            unfold up
            split
            · exact ⟨hz, fun h9 => absurd hk (h9 n), fun n9 h9 => by rw [hk] at h9; cases h9⟩
            · exact h1) e1 e2 e3) hL (fun v hv => hw v (List.mem_cons_of_mem _ (List.mem_cons_of_mem _ (List.mem_cons_of_mem _ hv)))) (hB.set (io_b (by omega)) rfl rfl)
        unfold updV evl
        rw [hI_stI_s]
        by_cases e9 : k9 = i.toNat
        · subst e9
          rw [if_pos rfl, toN (by omega), up_s]
          first | rfl | rw [if_pos rfl]
        · rw [if_neg e9, up_n (by omega), hR_stI]
      · cases h
    · cases h
  · cases h

theorem rg_0t {z : Int} : rg 0 z = true := rfl
set_option maxHeartbeats 2000000 in
theorem k_aastore  (hG : GX E p s0) (hC : CX s0 mi s m meth c) (hd : decode (mb mi) pc = .ok (.aastore, len)) (hl : lnkE mi pc (.aastore, len, r1, r2, r3, r4) = true) (hX : RL E s0 x H) (hL : LR E mi ls lc) (hw : ∀ v ∈ st, wfv v) (hB : BX R E x locs cells slots nE sE r) (h : astep pc (.aastore, len, r1, r2, r3, r4) ls st x = some (.inl (pc', ls', st', x'))) (K : KT E p l e R s0 s m args below meth c nE sE r mi Q pc' ls' st' x') : W p l e R s m args below meth c H locs cells slots Q (F0 m pc lc (st.map (cv E))) := by
  have hx := hG.2.1
  have hb := hC.2.1
  simp only [lnkE] at hl
  obtain rfl : len = 1 := Nat.eq_of_beq_eq_true hl
  change oStR _ _ _ _ _ = _ at h
  unfold oStR at h
  split at h
  · rename_i v i q t
    split at h
    · rename_i k n kv nv hk hkv
      split at h
      · rename_i hn
        unfold sN at h
        cases h
        have hi : inI i = true := hw _ (List.mem_cons_of_mem _ List.mem_cons_self)
        obtain ⟨hkk, hn⟩ := hn
        have h26 : 20 ≤ k := by omega
        obtain ⟨h3, h27, hc⟩ := arrAt hX hk h26 (by omega)
        obtain ⟨⟨-, hv3, -⟩, hcp⟩ := hX.2.2.1 v kv nv hkv
        obtain ⟨hv4, -, cellV, g1, g2, g3, -⟩ := hcp.1 (by omega)
        have hT : arT k = .object (cnm kv) := by rcases hkk with ⟨rfl, rfl⟩ | ⟨rfl, rfl⟩ <;> rfl
        have hcls := (clsF hG hC.1 (show kv ≤ 10 by omega) hv4).2
        have hra := arrRA hG hC.1 h26 h27
        rw [hT] at hra
        obtain ⟨kA, comp, k1, k2, k3, -⟩ := hra
        have hcomp : comp = E.2.2.2.1.1 kv := Option.some.inj (k3.symm.trans hcls.1)
        subst hcomp
        obtain ⟨kC, hkC, -⟩ := hcls.2
        have hlt : i.toNat < n := by omega
        rw [List.map_cons, List.map_cons, List.map_cons, show cv E (Sum.inr (Sum.inr (some q))) = cv E (vA q) from rfl, cv_A h3, show cv E (Sum.inr (Sum.inr (some v))) = cv E (vA v) from rfl, cv_A hv3]
        refine W.aast hx hb hc (fun q h => by cases h) (fun h => by cases h) k1 k2 rfl hkC (j := Int32.ofInt i) ⟨by rw [show (0 : Int32) = Int32.ofInt 0 from rfl, i_lt hi inI_0]; omega, by rw [i_cl hi]; show _ < (arrV _ _ _).slots.size; rw [arrV_size]; exact hlt⟩ g1 (fun q h => by rw [g3] at h; cases h) (by rw [g2]; exact hkC) (by rw [g2]; exact va_assign hcls) rfl rfl hd fun H1 e1 e2 e3 => ?_
        rw [i_cl hi] at e1
        refine K H1 _ cells slots lc (arrSt hG hX hk h26 (by omega) rfl rfl (fun b _ => rfl) (fun b hb9 => hR_stR_n hb9) (fun k9 hk9 => ?_) (fun j9 => hX.2.2.2.2.2 q j9) e1 e2 e3) hL (fun v hv => hw v (List.mem_cons_of_mem _ (List.mem_cons_of_mem _ (List.mem_cons_of_mem _ hv)))) (hB.set (io_b (by omega)) rfl rfl)
        unfold updV evl
        rw [hR_stR_s]
        have h25 : ¬ k = 25 := by omega
        have h26' : 26 ≤ k := by omega
        by_cases e9 : k9 = i.toNat
        · subst e9
          rw [if_pos rfl, toN (by omega), up_s, if_neg h25, if_pos h26', show cv E (vR (some v)) = cv E (vA v) from rfl, cv_A hv3]
        · rw [if_neg e9, up_n (by omega), hI_stR]
      · cases h
    · cases h
  · cases h

set_option maxHeartbeats 2000000 in
theorem k_arraylength  (hG : GX E p s0) (hC : CX s0 mi s m meth c) (hd : decode (mb mi) pc = .ok (.arraylength, len)) (hl : lnkE mi pc (.arraylength, len, r1, r2, r3, r4) = true) (hX : RL E s0 x H) (hL : LR E mi ls lc) (hw : ∀ v ∈ st, wfv v) (hB : BX R E x locs cells slots nE sE r) (h : astep pc (.arraylength, len, r1, r2, r3, r4) ls st x = some (.inl (pc', ls', st', x'))) (K : KT E p l e R s0 s m args below meth c nE sE r mi Q pc' ls' st' x') : W p l e R s m args below meth c H locs cells slots Q (F0 m pc lc (st.map (cv E))) := by
  have hx := hG.2.1
  have hb := hC.2.1
  simp only [lnkE] at hl
  obtain rfl : len = 1 := Nat.eq_of_beq_eq_true hl
  change oLen _ _ _ _ _ = _ at h
  unfold oLen at h
  split at h
  · rename_i q t
    split at h
    · rename_i k n hk
      split at h
      · rename_i hn
        unfold sN at h
        cases h
        obtain ⟨h3, h27, cell, hc, his, hkn, hsz, hrd⟩ := arrRd hG hC.1 hX hk hn
        rw [List.map_cons, show cv E (Sum.inr (Sum.inr (some q))) = cv E (vA q) from rfl, cv_A h3]
        have hs := arrLe hX hk hn
        refine W.alen (n := Int32.ofInt (n : Int)) hx hb hc his (hsz.2.trans Int32.ofInt_eq_ofNat.symm) rfl rfl hd ?_
        exact K H locs cells slots lc hX hL (List.forall_mem_cons.mpr ⟨inI_t (by omega), fun v hv => hw v (List.mem_cons_of_mem _ hv)⟩) hB
      · cases h
    · cases h
  · cases h

set_option maxHeartbeats 2000000 in
theorem k_instanceof {i : Nat} (hG : GX E p s0) (hC : CX s0 mi s m meth c) (hd : decode (mb mi) pc = .ok (.instanceof i, len)) (hl : lnkE mi pc (.instanceof i, len, r1, r2, r3, r4) = true) (hX : RL E s0 x H) (hL : LR E mi ls lc) (hw : ∀ v ∈ st, wfv v) (hB : BX R E x locs cells slots nE sE r) (h : astep pc (.instanceof i, len, r1, r2, r3, r4) ls st x = some (.inl (pc', ls', st', x'))) (K : KT E p l e R s0 s m args below meth c nE sE r mi Q pc' ls' st' x') : W p l e R s m args below meth c H locs cells slots Q (F0 m pc lc (st.map (cv E))) := by
  have hx := hG.2.1
  have hb := hC.2.1
  simp only [lnkE, Bool.and_eq_true, Bool.or_eq_true] at hl
  obtain ⟨hcl, h56, hlen⟩ := hl
  obtain rfl : len = 3 := Nat.eq_of_beq_eq_true hlen
  have h56 : r1 = 5 ∨ r1 = 6 := h56.elim (fun h => Or.inl (Nat.eq_of_beq_eq_true h)) (fun h => Or.inr (Nat.eq_of_beq_eq_true h))
  obtain ⟨j, hj⟩ := has3_s hcl
  have hlink := hG.wd hC.1 (List.all_eq_true.mp CLL_ok _ hj) rfl (a := args)
  change oInst _ _ _ _ _ _ = _ at h
  unfold oInst at h
  split at h
  · rename_i t
    unfold sN at h
    cases h
    exact lv_instN hx hb hd (K H locs cells slots lc hX hL (List.forall_mem_cons.mpr ⟨inI_0, fun v hv => hw v (List.mem_cons_of_mem _ hv)⟩) hB)
  · rename_i q t
    split at h
    · rename_i k n hk
      split at h
      · rename_i hn
        unfold sN at h
        cases h
        obtain ⟨⟨-, h3, -⟩, hcp⟩ := hX.2.2.1 q k n hk
        have h10 : k ≤ 10 := by omega
        obtain ⟨h4, -, cell, g1, g2, g3, -⟩ := hcp.1 h10
        have hfc := (clsF hG hC.1 h10 h4).2.1
        have hrc : ∃ cell : Cell, H[io E q]? = some cell ∧ cell.vm.isStatics = false ∧ s.vm.findClass (cnm k) = some cell.cls := ⟨cell, g1, by rw [g3]; rfl, by rw [g2]; exact hfc⟩
        rw [List.map_cons, show cv E (Sum.inr (Sum.inr (some q))) = cv E (vA q) from rfl, cv_A h3]
        by_cases e9 : k = r1
        · subst e9
          have hk9 := K H locs cells slots lc hX hL (List.forall_mem_cons.mpr ⟨by rw [if_pos rfl]; exact (by decide : inI 1 = true), fun v hv => hw v (List.mem_cons_of_mem _ hv)⟩) hB
          rw [if_pos rfl] at hk9
          exact va_instS hx hb hC.2.2.2.2.1 hlink (clsF hG hC.1 h10 h4).2 hrc hd hk9
        · have hk9 := K H locs cells slots lc hX hL (List.forall_mem_cons.mpr ⟨by rw [if_neg e9]; exact inI_0, fun v hv => hw v (List.mem_cons_of_mem _ hv)⟩) hB
          rw [if_neg e9] at hk9
          have hnc : va_Nc (cnm k) (cnm r1) s := by
            rcases hn with rfl | rfl <;> rcases h56 with rfl | rfl
            · exact absurd rfl e9
            · exact va_Nc.moved hC.1.alike hG.2.2.2.2.2.2.2.2.1
            · exact va_Nc.moved hC.1.alike hG.2.2.2.2.2.2.2.2.2.1
            · exact absurd rfl e9
          exact va_instNo hx hb hC.2.2.2.2.1 hlink hnc hrc hd hk9
      · cases h
    · cases h
  · cases h

set_option maxHeartbeats 2000000 in
theorem k_checkcast {i : Nat} (hG : GX E p s0) (hC : CX s0 mi s m meth c) (hd : decode (mb mi) pc = .ok (.checkcast i, len)) (hl : lnkE mi pc (.checkcast i, len, r1, r2, r3, r4) = true) (hX : RL E s0 x H) (hL : LR E mi ls lc) (hw : ∀ v ∈ st, wfv v) (hB : BX R E x locs cells slots nE sE r) (h : astep pc (.checkcast i, len, r1, r2, r3, r4) ls st x = some (.inl (pc', ls', st', x'))) (K : KT E p l e R s0 s m args below meth c nE sE r mi Q pc' ls' st' x') : W p l e R s m args below meth c H locs cells slots Q (F0 m pc lc (st.map (cv E))) := by
  have hx := hG.2.1
  have hb := hC.2.1
  simp only [lnkE, Bool.and_eq_true, Bool.or_eq_true] at hl
  obtain ⟨hcl, h56, hlen⟩ := hl
  obtain rfl : len = 3 := Nat.eq_of_beq_eq_true hlen
  have h56 : r1 = 5 ∨ r1 = 6 := h56.elim (fun h => Or.inl (Nat.eq_of_beq_eq_true h)) (fun h => Or.inr (Nat.eq_of_beq_eq_true h))
  obtain ⟨j, hj⟩ := has3_s hcl
  have hlink := hG.wd hC.1 (List.all_eq_true.mp CLL_ok _ hj) rfl (a := args)
  change oCast _ _ _ _ _ _ = _ at h
  unfold oCast at h
  split at h
  · rename_i q t
    split at h
    · rename_i k n hk
      split at h
      · rename_i hn
        unfold sN at h
        cases h
        subst hn
        have hk9 := K H locs cells slots lc hX hL hw hB
        obtain ⟨⟨-, h3, -⟩, hcp⟩ := hX.2.2.1 q k n hk
        have h10 : k ≤ 10 := by omega
        obtain ⟨h4, -, cell, g1, g2, g3, -⟩ := hcp.1 h10
        have hfc := (clsF hG hC.1 h10 h4).2.1
        have hrc : ∃ cell : Cell, H[io E q]? = some cell ∧ cell.vm.isStatics = false ∧ s.vm.findClass (cnm k) = some cell.cls := ⟨cell, g1, by rw [g3]; rfl, by rw [g2]; exact hfc⟩
        rw [List.map_cons, show cv E (Sum.inr (Sum.inr (some q))) = cv E (vA q) from rfl, cv_A h3]
        rw [List.map_cons, show cv E (Sum.inr (Sum.inr (some q))) = cv E (vA q) from rfl, cv_A h3] at hk9
        exact va_castS hx hb hC.2.2.2.2.1 hlink (clsF hG hC.1 h10 h4).2 hrc hd hk9
      · cases h
    · cases h
  · cases h

set_option maxHeartbeats 2000000 in
theorem k_getstatic {i : Nat} (hG : GX E p s0) (hC : CX s0 mi s m meth c) (hd : decode (mb mi) pc = .ok (.getstatic i, len)) (hl : lnkE mi pc (.getstatic i, len, r1, r2, r3, r4) = true) (hX : RL E s0 x H) (hL : LR E mi ls lc) (hw : ∀ v ∈ st, wfv v) (hB : BX R E x locs cells slots nE sE r) (h : astep pc (.getstatic i, len, r1, r2, r3, r4) ls st x = some (.inl (pc', ls', st', x'))) (K : KT E p l e R s0 s m args below meth c nE sE r mi Q pc' ls' st' x') : W p l e R s m args below meth c H locs cells slots Q (F0 m pc lc (st.map (cv E))) := by
  have hx := hG.2.1
  have hb := hC.2.1
  simp only [lnkE, Bool.and_eq_true] at hl
  obtain ⟨hcl, h3, hlen⟩ := hl
  obtain rfl : len = 3 := Nat.eq_of_beq_eq_true hlen
  have h3 : r1 ≤ 3 := Nat.le_of_ble_eq_true h3
  obtain ⟨j, hj⟩ := has3_s hcl
  have hlink := hG.wd hC.1 (List.all_eq_true.mp STL_ok _ hj) rfl (a := args)
  have main : ∀ v : Value, va_Z (stC r1).1 (stC r1).2.1 (stC r1).2.2 v (fun a => E.2.1 ≤ a) s0 s0.heap → W p l e R s m args below meth c H locs cells slots Q (F0 m (pc + 3) lc (v :: st.map (cv E))) → W p l e R s m args below meth c H locs cells slots Q (F0 m pc lc (st.map (cv E))) := by
    intro v hZ kk
    obtain ⟨cf, kf, fi, f, a, cell, g1, g2, g3, g4, g5, g6, g7, g8⟩ := va_Z.moved hC.1.alike hZ
    exact W.gets hx hb hC.2.2.2.2.1 hlink g1 g2 g3 g4 (by rw [hX.2.2.2.2.1 a (Nat.not_le.mp g8)]; exact g5) (fun e => by rw [e] at g6; cases g6) g7 rfl hd kk
  change oStatic _ _ _ _ _ _ = _ at h
  unfold oStatic at h
  split at h
  · unfold sN at h
    cases h
    exact main (.int 1) hG.2.2.2.2.2.2.1 (K H locs cells slots lc hX hL (List.forall_mem_cons.mpr ⟨(by decide : inI 1 = true), hw⟩) hB)
  · rename_i h0
    split at h
    · unfold sN at h
      cases h
      exact main _ (hG.2.2.2.2.2.2.2.1 r1 (Nat.pos_of_ne_zero (fun e => h0 e)) h3) (K H locs cells slots lc hX hL (List.forall_mem_cons.mpr ⟨trivial, hw⟩) hB)
    · rename_i h9
      exact absurd h3 h9

theorem tsw_in {z lo d : Int} : ∀ (l : List Int) (lo : Int), (z < lo ∨ lo + l.length ≤ z → tsw z lo d l = d) ∧ (lo ≤ z → z < lo + l.length → l[(z - lo).toNat]? = some (tsw z lo d l))
  | [], lo => ⟨fun _ => rfl, fun h1 h2 => by simp at h2; omega⟩
  | o :: l, lo => by
    obtain ⟨g1, g2⟩ := tsw_in (z := z) (lo := lo) (d := d) l (lo + 1)
    simp only [List.length_cons]
    refine ⟨fun h => ?_, fun h1 h2 => ?_⟩
    · unfold tsw
      rw [if_neg (by omega)]
      exact g1 (by omega)
    · unfold tsw
      by_cases e : z = lo
      · rw [if_pos e]
        subst e
        simp
      · rw [if_neg e, show (z - lo).toNat = (z - (lo + 1)).toNat + 1 by omega, List.getElem?_cons_succ]
        exact g2 (by omega) (by omega)
theorem tsw_mem {z d : Int} : ∀ (l : List Int) (lo : Int), tsw z lo d l = d ∨ tsw z lo d l ∈ l
  | [], lo => Or.inl rfl
  | o :: l, lo => by
    unfold tsw
    split
    · exact Or.inr List.mem_cons_self
    · exact (tsw_mem l (lo + 1)).imp (fun h => h) (fun h => List.mem_cons_of_mem _ h)
set_option maxHeartbeats 2000000 in
theorem k_tableswitch {d lo hi : Int} {l9 : Array Int} (hG : GX E p s0) (hC : CX s0 mi s m meth c) (hd : decode (mb mi) pc = .ok (.tableswitch d lo hi l9, len)) (hl : lnkE mi pc (.tableswitch d lo hi l9, len, r1, r2, r3, r4) = true) (hX : RL E s0 x H) (hL : LR E mi ls lc) (hw : ∀ v ∈ st, wfv v) (hB : BX R E x locs cells slots nE sE r) (h : astep pc (.tableswitch d lo hi l9, len, r1, r2, r3, r4) ls st x = some (.inl (pc', ls', st', x'))) (K : KT E p l e R s0 s m args below meth c nE sE r mi Q pc' ls' st' x') : W p l e R s m args below meth c H locs cells slots Q (F0 m pc lc (st.map (cv E))) := by
  have hx := hG.2.1
  have hb := hC.2.1
  simp only [lnkE, Bool.and_eq_true, decide_eq_true_eq, List.all_eq_true] at hl
  obtain ⟨hhi, hd0, hsz, hall⟩ := hl
  change oTsw _ _ _ _ _ _ _ = _ at h
  unfold oTsw at h
  split at h
  · rename_i z t
    unfold sN at h
    cases h
    have hz : inI z = true := hw _ List.mem_cons_self
    have hk := K H locs cells slots lc hX hL (fun v hv => hw v (List.mem_cons_of_mem _ hv)) hB
    obtain ⟨g1, g2⟩ := tsw_in (z := z) (lo := lo) (d := d) l9.toList lo
    have hln : l9.toList.length = l9.size := Array.length_toList
    have htg : ∀ o : Int, 0 ≤ (pc : Int) + o → (pc : Int) + o = (tgt pc o : Int) := fun o h => (Int.toNat_of_nonneg h).symm
    rw [List.map_cons]
    by_cases hin : z < lo ∨ hi < z
    · have e1 : tsw z lo d l9.toList = d := g1 (by omega)
      rw [e1] at hk
      exact lv_tableOut hx hb hd (by rw [iT hz]; exact hin) (htg d hd0) hk
    · have e1 := g2 (by omega) (by omega)
      have hm : tsw z lo d l9.toList ∈ l9.toList := List.mem_of_getElem? e1
      exact lv_tableIn hx hb hd (by rw [iT hz]; omega) (by rw [iT hz]; omega) (off := tsw z lo d l9.toList) (by rw [iT hz, ← Array.getElem?_toList]; exact e1) (htg _ (hall _ hm)) hk
  · cases h

theorem lsw_off {z d : Int} : ∀ l : List (Int × Int), Op.lookupswitch.offset l d z = lsw z d l
  | [] => rfl
  | o :: l => by
    unfold Op.lookupswitch.offset lsw
    by_cases h : z = o.1
    · rw [if_pos h]
      first | (rw [if_pos h]; done) | (rw [if_pos h.symm]; done) | (simp [h]; done)
    · rw [if_neg h]
      first | (rw [if_neg h]; exact lsw_off l) | (rw [if_neg (fun e => h e.symm)]; exact lsw_off l) | (simp [h]; exact lsw_off l)
theorem lsw_mem {z d : Int} : ∀ l : List (Int × Int), lsw z d l = d ∨ ∃ o ∈ l, lsw z d l = o.2
  | [] => Or.inl rfl
  | o :: l => by
    unfold lsw
    split
    · exact Or.inr ⟨o, List.mem_cons_self, rfl⟩
    · exact (lsw_mem l).imp (fun h => h) (fun ⟨q, h1, h2⟩ => ⟨q, List.mem_cons_of_mem _ h1, h2⟩)
set_option maxHeartbeats 2000000 in
theorem k_lookupswitch {d : Int} {l9 : Array (Int × Int)} (hG : GX E p s0) (hC : CX s0 mi s m meth c) (hd : decode (mb mi) pc = .ok (.lookupswitch d l9, len)) (hl : lnkE mi pc (.lookupswitch d l9, len, r1, r2, r3, r4) = true) (hX : RL E s0 x H) (hL : LR E mi ls lc) (hw : ∀ v ∈ st, wfv v) (hB : BX R E x locs cells slots nE sE r) (h : astep pc (.lookupswitch d l9, len, r1, r2, r3, r4) ls st x = some (.inl (pc', ls', st', x'))) (K : KT E p l e R s0 s m args below meth c nE sE r mi Q pc' ls' st' x') : W p l e R s m args below meth c H locs cells slots Q (F0 m pc lc (st.map (cv E))) := by
  have hx := hG.2.1
  have hb := hC.2.1
  simp only [lnkE, Bool.and_eq_true] at hl
  obtain ⟨hd0, hall, hp⟩ := hl
  have hd0 : 0 ≤ (pc : Int) + d := of_decide_eq_true hd0
  have hall : ∀ o ∈ l9.toList, 0 ≤ (pc : Int) + o.2 := fun o ho => of_decide_eq_true (List.all_eq_true.mp hall o ho)
  change oLsw _ _ _ _ _ _ = _ at h
  unfold oLsw at h
  split at h
  · rename_i z t
    unfold sN at h
    cases h
    have hz : inI z = true := hw _ List.mem_cons_self
    have hk := K H locs cells slots lc hX hL (fun v hv => hw v (List.mem_cons_of_mem _ hv)) hB
    have htg : ∀ o : Int, 0 ≤ (pc : Int) + o → (pc : Int) + o = (tgt pc o : Int) := fun o h => (Int.toNat_of_nonneg h).symm
    rw [List.map_cons]
    refine lv_lookup hx hb hd hp (off := lsw z d l9.toList) (by rw [iT hz]; exact lsw_off _) (htg _ ?_) hk
    rcases lsw_mem (z := z) (d := d) l9.toList with e1 | ⟨o, h1, e1⟩
    · rw [e1]; exact hd0
    · rw [e1]; exact hall o h1
  · cases h

end
