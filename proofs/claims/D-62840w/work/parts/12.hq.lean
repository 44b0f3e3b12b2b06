/-! stores into fields, new cells -/
section
variable {E : EV} {p : Program} {l : Launch} {e : Env} {R : Room} {s0 s : State} {m : MethodId} {args : Array Value} {below : List Frame} {meth : Method} {c : Code} {H : Heap} {locs : List Loc} {cells slots nE sE r mi pc pc' len r1 r2 r3 r4 : Nat} {Q : State → Prop} {ls ls' st st' : List AV} {x x' : HP} {lc : Array Slot}
theorem BX.set {y : HP} {a k : Nat} (hB : BX R E x locs cells slots nE sE r) (ha : E.2.1 ≤ a) (eN : hN y = hN x) (eS : hS y = hS x) : BX R E y (locs ++ [⟨a, k⟩]) cells slots nE sE r := by
  obtain ⟨b1, b2, b3, b4⟩ := hB
  refine ⟨fun q hq => ?_, by rw [eN]; exact b2, by rw [eS]; exact b3, b4⟩
  rcases List.mem_append.mp hq with h | h
  · exact b1 q h
  · rw [List.mem_singleton.mp h]; exact ha
theorem io_b {q : Nat} (h : 4 ≤ q) : E.2.1 ≤ io E q := by rw [io_ge h]; omega
theorem rgm_stI {q : Nat} {k z : Int} (h : ∀ b j, rgm x b j) (hz : inI z = true) (hy : ∀ n, hK x q = some (23, n) → rg 3 z = true) : ∀ j, rgm (stI x q k z) q j := by
  intro j
  have h1 := h q j
  unfold rgm at h1 ⊢
  rw [hI_stI_s, hK_stI]
  unfold up
  split
  · exact ⟨inL_I hz, fun _ => hz, hy⟩
  · exact h1
set_option maxHeartbeats 4000000 in
theorem k_putfield {i : Nat} (hG : GX E p s0) (hC : CX s0 mi s m meth c) (hd : decode (mb mi) pc = .ok (.putfield i, len)) (hl : lnkE mi pc (.putfield i, len, r1, r2, r3, r4) = true) (hX : RL E s0 x H) (hL : LR E mi ls lc) (hw : ∀ v ∈ st, wfv v) (hB : BX R E x locs cells slots nE sE r) (h : astep pc (.putfield i, len, r1, r2, r3, r4) ls st x = some (.inl (pc', ls', st', x'))) (K : KT E p l e R s0 s m args below meth c nE sE r mi Q pc' ls' st' x') : W p l e R s m args below meth c H locs cells slots Q (F0 m pc lc (st.map (cv E))) := by
  have hx := hG.2.1
  have hb := hC.2.1
  simp only [lnkE, Bool.and_eq_true] at hl
  obtain ⟨hl, hlen⟩ := hl
  obtain rfl : len = 3 := Nat.eq_of_beq_eq_true hlen
  have hall := List.all_eq_true.mp hl
  have main : ∀ (q cq n : Nat) (t : List AV) (v : Value) (y : HP), hK x q = some (cq, n) → sub cq r1 = true → (∀ ty, parseFieldDescriptor (Ff cq r2).2.2.1 = some ty → narrow ty v = v ∧ fits ty v = true) →
      hK y = hK x → hN y = hN x → hS y = hS x → (∀ b, b ≠ q → hI y b = hI x b) → (∀ b, b ≠ q → hR y b = hR x b) → (∀ k, k < clN cq → fvl E cq y q k = updV (fun k => fvl E cq x q k) r2 v k) → (∀ j, rgm y q j) →
      (∀ (H' : Heap) (locs' : List Loc), RL E s0 y H' → BX R E y locs' cells slots nE sE r → W p l e R s m args below meth c H' locs' cells slots Q (F0 m (pc + 3) lc (t.map (cv E)))) →
      W p l e R s m args below meth c H locs cells slots Q (F0 m pc lc (v :: Value.ref (io E q) :: t.map (cv E))) := by
    intro q cq n t v y hk hs hty eK eN eS eI eR hv hg kk
    obtain ⟨⟨-, -, hq4⟩, hcp⟩ := hX.2.2.1 q cq n hk
    have h10 : cq ≤ 10 := by
      unfold sub at hs
      rw [Bool.or_eq_true] at hs
      rcases hs with hs | hs
      · by_cases e4 : r1 = 4
        · rw [Nat.eq_of_beq_eq_true hs]; omega
        · have := hall r1 (by unfold cls1; rw [if_neg e4]; exact List.mem_singleton.mpr rfl)
          simp only [Bool.and_eq_true] at this
          rw [Nat.eq_of_beq_eq_true hs]
          exact Nat.le_of_ble_eq_true this.2.1
      · rw [Bool.and_eq_true, Bool.or_eq_true] at hs
        rcases hs.2 with h | h <;> (have := Nat.eq_of_beq_eq_true h; omega)
    have h4q : 4 ≤ q := by
      rcases Nat.lt_or_ge q 4 with h9 | h9
      · have := hq4 h9; omega
      · exact h9
    obtain ⟨h4, hn, hob⟩ := hcp.1 h10
    have h9 := hall cq (sub_c1 hs h4)
    simp only [Bool.and_eq_true] at h9
    obtain ⟨hF, -, -, hlt, -, hfin⟩ := h9
    have hlt : r2 < clN cq := Nat.le_of_ble_eq_true hlt
    obtain ⟨hS, hfc, kC, hkC, hkind⟩ := clsF hG hC.1 h10 h4
    obtain ⟨cf, kf, fi, fd, hi, hsl⟩ := hS r2 hlt
    obtain ⟨cell, q1, q2, q3, q4⟩ := hob
    have hst := (u_facts (args := args) hfc hkC (layO hG hC.1 h10 h4 hlt) hi).1
    obtain ⟨ty, hpt⟩ := ftyP h10 hlt
    obtain ⟨hnar, hfit⟩ := hty ty hpt
    have hslt : fd.slot < cell.slots.size := by rw [hsl]; exact k2_hasslot (q4 r2 hlt)
    have fin : ∀ H' : Heap, H'[io E q]? = some (cell.setSlot fd.slot v) → H'.size = H.size → (∀ a, a ≠ io E q → H'[a]? = H[a]?) → W p l e R s m args below meth c H' (locs ++ [⟨io E q, fd.slot⟩]) cells slots Q (F0 m (pc + 3) lc (t.map (cv E))) := by
      intro H' e1 e2 e3
      refine kk H' _ (hX.set hG.1 hk h4q (c' := cq) (n' := n) (fun b _ => by rw [eK]) (by rw [eK]; exact hk) eN eI eR ⟨fun _ => ⟨h4, hn, ?_⟩, fun h _ => by omega, fun h _ => by omega, fun h => by omega⟩ e2 e3 hg (fun h => by omega)) (hB.set (io_b h4q) eN eS)
      refine t_OB.to (V := updV (fun k => fvl E cq x q k) r2 v) ⟨_, e1, q2, q3, ?_⟩ (fun k hk' => (hv k hk').symm)
      rw [hsl]
      exact t_set q4 (slA hG hC.1 h10 h4) hlt v
    rcases lnkF (args := args) hG hC hF with ⟨ref, hlink, hsame⟩ | ⟨⟨i', hm⟩, hlink⟩
    · by_cases hff : (Ff cq r2).2.2.2 = true
      · rw [hff] at hfin
        simp only [Bool.not_true, Bool.false_or, Bool.and_eq_true, decide_eq_true_eq] at hfin
        obtain ⟨hdcl, hini, -⟩ := hfin
        have hlay := layW (args := args) hG hC.1 h10 h4 hlt
        unfold u_lay at hlay
        rw [if_pos hff] at hlay
        have hcf : m.cls = cf := by
          obtain ⟨_, _, c', _, _, _, -, -, hf', -, -, -, hown2, -⟩ := Cond.laysFinal_spec hlay
          have e1 : c' = cf := by have := hi.symm.trans hf'; simp at this; exact this.1.symm
          rw [hdcl] at hown2
          rw [← e1]; exact Option.some.inj (hC.2.2.2.2.1.symm.trans hown2)
        have h6 := u_fits hfc hkC hkind (Or.inr hlay) hi hpt hnar hfit
        exact W.putFinK hx hb hC.2.2.2.2.1 hlink (hsame _ hi) hst hcf (hC.2.2.2.2.2.2.1.trans hini) (by rw [q2]; exact h6) q1 q3 hslt rfl rfl hd fin
      · have hlay := layW (args := args) hG hC.1 h10 h4 hlt
        unfold u_lay at hlay
        rw [if_neg hff] at hlay
        have h6 := u_store hfc hkC hkind hlay hi hpt hnar hfit
        exact W.putK hx hb (f := fd) ⟨hC.2.2.2.2.1, hlink, ⟨_, _, _, hsame _ hi⟩, hst⟩ (by rw [q2]; exact h6) q1 q3 hslt rfl rfl hd fin
    · by_cases hff : (Ff cq r2).2.2.2 = true
      · rw [hff] at hfin
        simp only [Bool.not_true, Bool.false_or, Bool.and_eq_true, decide_eq_true_eq] at hfin
        have := List.all_eq_true.mp hfin.2.2 _ hm
        simp at this
      · have hlay := layW (args := args) hG hC.1 h10 h4 hlt
        unfold u_lay at hlay
        rw [if_neg hff] at hlay
        have h6 := u_store hfc hkC hkind hlay hi hpt hnar hfit
        exact va_WputK hx hb hC.2.2.2.2.1 hlink hi hst (by rw [q2]; exact h6) q1 q3 hslt rfl rfl hd fin
  change (if r3 = 5 then oPutR pc 3 r1 r2 ls st x else oPutI pc 3 r1 r2 r3 ls st x) = _ at h
  have hty : ∀ cq, sub cq r1 = true → cq ≠ 4 → fty cq r2 = r3 := by
    intro cq hs h4
    have h9 := hall cq (sub_c1 hs h4)
    simp only [Bool.and_eq_true] at h9
    exact Nat.eq_of_beq_eq_true h9.2.2.2.2.1
  have hrng : ∀ cq, sub cq r1 = true → cq ≠ 4 → cq ≤ 10 ∧ r2 < clN cq := by
    intro cq hs h4
    have h9 := hall cq (sub_c1 hs h4)
    simp only [Bool.and_eq_true] at h9
    exact ⟨Nat.le_of_ble_eq_true h9.2.1, Nat.le_of_ble_eq_true h9.2.2.2.1⟩
  have hn4 : ∀ q cq n, hK x q = some (cq, n) → cq ≠ 4 := by
    intro q cq n hk e4
    obtain ⟨-, hcp⟩ := hX.2.2.1 q cq n hk
    exact (hcp.1 (by omega)).1 e4
  split at h
  · rename_i e5
    unfold oPutR at h
    split at h
    · rename_i r0 q t
      split at h
      · rename_i cq n hk
        split at h
        · rename_i hs
          unfold sN at h
          cases h
          obtain ⟨⟨-, h3, -⟩, -⟩ := hX.2.2.1 q cq n hk
          have h4 := hn4 q cq n hk
          rw [List.map_cons, List.map_cons, show cv E (Sum.inr (Sum.inr (some q))) = cv E (vA q) from rfl, cv_A h3]
          refine main q cq n st' (cv E (vR r0)) (stR x q r2 r0) hk hs ?_ rfl rfl rfl (fun b _ => rfl) (fun b hb' => hR_stR_n hb') ?_ ?_ (fun H' locs' a1 a2 => K H' locs' cells slots lc a1 hL (fun v hv => hw v (List.mem_cons_of_mem _ (List.mem_cons_of_mem _ hv))) a2)
          · intro ty hp
            have := ftyT (hrng cq hs h4).1 (hrng cq hs h4).2
            rw [hty cq hs h4, e5] at this
            exact nfR this hp (cv_R hG.1 r0)
          · intro k hk'
            unfold updV
            by_cases e : k = r2
            · subst e
              rw [if_pos rfl]
              unfold fvl
              rw [if_pos (by rw [hty cq hs h4]; exact e5), hR_stR_s, up_s]
            · rw [if_neg e]
              unfold fvl
              rw [hR_stR_s, up_n (by omega), hI_stR]
          · intro j
            exact hX.2.2.2.2.2 q j
        · cases h
      · cases h
    · cases h
  · rename_i e5
    unfold oPutI at h
    split at h
    · rename_i z q t
      split at h
      · rename_i cq n hk
        split at h
        · rename_i hs
          split at h
          · rename_i hrg
            unfold sN at h
            cases h
            obtain ⟨⟨-, h3, -⟩, -⟩ := hX.2.2.1 q cq n hk
            have h4 := hn4 q cq n hk
            have hz : inI z = true := hw _ List.mem_cons_self
            rw [List.map_cons, List.map_cons, show cv E (Sum.inr (Sum.inr (some q))) = cv E (vA q) from rfl, cv_A h3]
            refine main q cq n st' (.int (Int32.ofInt z)) (stI x q r2 z) hk hs ?_ rfl rfl rfl (fun b hb' => hI_stI_n hb') (fun b _ => rfl) ?_ (rgm_stI hX.2.2.2.2.2 hz (fun n9 h9 => by rw [hk] at h9; cases h9; have := (hrng 23 hs h4).1; omega)) (fun H' locs' a1 a2 => K H' locs' cells slots lc a1 hL (fun v hv => hw v (List.mem_cons_of_mem _ (List.mem_cons_of_mem _ hv))) a2)
            · intro ty hp
              have := ftyT (hrng cq hs h4).1 (hrng cq hs h4).2
              rw [hty cq hs h4] at this
              exact nf this hp e5 hz hrg
            · intro k hk'
              unfold updV
              by_cases e : k = r2
              · subst e
                rw [if_pos rfl]
                unfold fvl
                rw [if_neg (by rw [hty cq hs h4]; exact e5), hI_stI_s, up_s]
              · rw [if_neg e]
                unfold fvl
                rw [hI_stI_s, up_n (by omega), hR_stI]
          · cases h
        · cases h
      · cases h
    · cases h
end
