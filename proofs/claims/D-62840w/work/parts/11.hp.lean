/-! the steps that look at the heap -/
section
variable {E : EV} {p : Program} {l : Launch} {e : Env} {R : Room} {s0 s : State} {m : MethodId} {args : Array Value} {below : List Frame} {meth : Method} {c : Code} {H : Heap} {locs : List Loc} {cells slots nE sE r mi pc pc' len r1 r2 r3 r4 : Nat} {Q : State → Prop} {ls ls' st st' : List AV} {x x' : HP} {lc : Array Slot}
theorem nf_c {z : Int} (hz : inI z = true) (h : rg 1 z = true) : narrow .char (.int (Int32.ofInt z)) = .int (Int32.ofInt z) ∧ fits .char (.int (Int32.ofInt z)) = true := by
  have h1 : 0 ≤ z ∧ z < 65536 := of_decide_eq_true h
  refine ⟨congrArg Value.int (lg_i2c_small (by rw [iT hz]; omega) (by rw [iT hz]; omega)), ?_⟩
  simp only [fits, Bool.and_eq_true, decide_eq_true_eq]
  exact ⟨(i_le inI_0 hz).mpr (by omega), (i_le hz (by decide : inI 65535 = true)).mpr (by omega)⟩
theorem nf_s {z : Int} (hz : inI z = true) (h : rg 2 z = true) : narrow .short (.int (Int32.ofInt z)) = .int (Int32.ofInt z) ∧ fits .short (.int (Int32.ofInt z)) = true := by
  have h1 : -32768 ≤ z ∧ z < 32768 := of_decide_eq_true h
  refine ⟨congrArg Value.int ?_, ?_⟩
  · rw [← Int32.toInt_inj, Int16.toInt_toInt32, Int32.toInt_toInt16, iT hz]
    exact Int.bmod_eq_of_le (by omega) (by omega)
  · simp only [fits, Bool.and_eq_true, decide_eq_true_eq]
    exact ⟨(i_le (by decide : inI (-32768) = true) hz).mpr (by omega), (i_le hz (by decide : inI 32767 = true)).mpr (by omega)⟩
theorem nf_b {z : Int} (hz : inI z = true) (h : rg 3 z = true) : narrow .byte (.int (Int32.ofInt z)) = .int (Int32.ofInt z) ∧ fits .byte (.int (Int32.ofInt z)) = true := by
  have h1 : -128 ≤ z ∧ z < 128 := of_decide_eq_true h
  refine ⟨congrArg Value.int ?_, ?_⟩
  · rw [← Int32.toInt_inj, Int8.toInt_toInt32, Int32.toInt_toInt8, iT hz]
    exact Int.bmod_eq_of_le (by omega) (by omega)
  · simp only [fits, Bool.and_eq_true, decide_eq_true_eq]
    exact ⟨(i_le (by decide : inI (-128) = true) hz).mpr (by omega), (i_le hz (by decide : inI 127 = true)).mpr (by omega)⟩
theorem nf_z {z : Int} (h : rg 4 z = true) : narrow .boolean (.int (Int32.ofInt z)) = .int (Int32.ofInt z) ∧ fits .boolean (.int (Int32.ofInt z)) = true := by
  have h1 : 0 ≤ z ∧ z < 2 := of_decide_eq_true h
  rcases (show z = 0 ∨ z = 1 by omega) with rfl | rfl
  · exact ⟨rfl, rfl⟩
  · exact ⟨rfl, rfl⟩
theorem nf {t : Nat} {d : String} {ty : FieldType} {z : Int} (ht : tyF t d = true) (hp : parseFieldDescriptor d = some ty) (h5 : t ≠ 5) (hz : inI z = true) (hr : rg t z = true) : narrow ty (.int (Int32.ofInt z)) = .int (Int32.ofInt z) ∧ fits ty (.int (Int32.ofInt z)) = true := by
  unfold tyF at ht
  rw [hp] at ht
  cases ty with
  | int => exact ⟨rfl, rfl⟩
  | char => cases Nat.eq_of_beq_eq_true ht; exact nf_c hz hr
  | short => cases Nat.eq_of_beq_eq_true ht; exact nf_s hz hr
  | byte => cases Nat.eq_of_beq_eq_true ht; exact nf_b hz hr
  | boolean => cases Nat.eq_of_beq_eq_true ht; exact nf_z hr
  | object n => exact absurd (Nat.eq_of_beq_eq_true ht) h5
  | array n => exact absurd (Nat.eq_of_beq_eq_true ht) h5
  | _ => cases ht
theorem nfR {d : String} {ty : FieldType} {v : Value} (ht : tyF 5 d = true) (hp : parseFieldDescriptor d = some ty) (hv : v = .null ∨ ∃ a, v = .ref a) : narrow ty v = v ∧ fits ty v = true := by
  unfold tyF at ht
  rw [hp] at ht
  cases ty with
  | object n => rcases hv with rfl | ⟨a, rfl⟩ <;> exact ⟨rfl, rfl⟩
  | array n => rcases hv with rfl | ⟨a, rfl⟩ <;> exact ⟨rfl, rfl⟩
  | _ => cases ht
theorem clsF {k : Nat} (hG : GX E p s0) (hW : s0.WarmedH s.vm) (hc : k ≤ 10) (h4 : k ≠ 4) : u_Kn s (cnm k) (Ff k) (clN k) (E.2.2.2.1.1 k) (E.2.2.2.1.2 k) := u_Kn_moved hW.alike (hG.2.2.2.1 k hc h4)
theorem layW {k j : Nat} (hG : GX E p s0) (hW : s0.WarmedH s.vm) (hc : k ≤ 10) (h4 : k ≠ 4) (hj : j < clN k) : (u_lay (cnm k) (Ff k) j).before args s = true := by
  have h1 := List.all_eq_true.mp LIX_ok k (List.mem_range.mpr (by omega))
  rw [Bool.or_eq_true] at h1
  rcases h1 with h1 | h1
  · exact absurd (of_decide_eq_true h1) h4
  · have h2 := List.all_eq_true.mp h1 j (List.mem_range.mpr hj)
    exact hG.wd hW h2 (by unfold u_lay; split <;> rfl)
theorem layO {k j : Nat} (hG : GX E p s0) (hW : s0.WarmedH s.vm) (hc : k ≤ 10) (h4 : k ≠ 4) (hj : j < clN k) : (Cond.lays (cnm k) (Ff k j).1 (Ff k j).2.1 (Ff k j).2.2.1).before args s = true ∨ (Cond.laysFinal (cnm k) (Ff k j).1 (Ff k j).2.1 (Ff k j).2.2.1).before args s = true := by
  have h := layW (args := args) hG hW hc h4 hj
  unfold u_lay at h
  split at h
  · exact Or.inr h
  · exact Or.inl h
theorem ftyT {k j : Nat} (hc : k ≤ 10) (hj : j < clN k) : tyF (fty k j) (Ff k j).2.2.1 = true := List.all_eq_true.mp (List.all_eq_true.mp FTY_ok k (List.mem_range.mpr (by omega))) j (List.mem_range.mpr hj)
theorem ftyP {k j : Nat} (hc : k ≤ 10) (hj : j < clN k) : ∃ ty, parseFieldDescriptor (Ff k j).2.2.1 = some ty := by
  have h := ftyT hc hj
  unfold tyF at h
  cases hp : parseFieldDescriptor (Ff k j).2.2.1 with
  | none => rw [hp] at h; cases h
  | some ty => exact ⟨ty, rfl⟩
theorem fnmN {k a b : Nat} (hc : k ≤ 10) (ha : a < clN k) (hb : b < clN k) (h : a ≠ b) : (Ff k a).2.1 ≠ (Ff k b).2.1 := by
  have h1 := List.all_eq_true.mp (List.all_eq_true.mp (List.all_eq_true.mp FNM_ok k (List.mem_range.mpr (by omega))) a (List.mem_range.mpr ha)) b (List.mem_range.mpr hb)
  rw [Bool.or_eq_true] at h1
  rcases h1 with h1 | h1
  · exact absurd (of_decide_eq_true h1) h
  · simpa using h1
theorem slA {k : Nat} (hG : GX E p s0) (hW : s0.WarmedH s.vm) (hc : k ≤ 10) (h4 : k ≠ 4) : ∀ a b, a < clN k → b < clN k → a ≠ b → E.2.2.2.1.2 k a ≠ E.2.2.2.1.2 k b := by
  intro a b ha hb hne
  obtain ⟨hS, -⟩ := clsF hG hW hc h4
  obtain ⟨_, _, _, fa, hia, ea⟩ := hS a ha
  obtain ⟨_, _, _, fb, hib, eb⟩ := hS b hb
  obtain ⟨ta, hta⟩ := ftyP hc ha
  obtain ⟨tb, htb⟩ := ftyP hc hb
  rw [← ea, ← eb]
  refine u_apart (args := #[]) (layO hG hW hc h4 ha) (layO hG hW hc h4 hb) hia hib ?_
  rw [(State.fieldFound?_type hia hta).1, (State.fieldFound?_type hib htb).1]
  exact fnmN hc ha hb hne
theorem sub_c1 {k n : Nat} (h : sub k n = true) (h4 : k ≠ 4) : k ∈ cls1 n := by
  unfold sub at h
  rw [Bool.or_eq_true] at h
  unfold cls1
  rcases h with h | h
  · have := Nat.eq_of_beq_eq_true h
    subst this
    rw [if_neg h4]
    exact List.mem_singleton.mpr rfl
  · rw [Bool.and_eq_true, Bool.or_eq_true] at h
    rw [if_pos (Nat.eq_of_beq_eq_true h.1)]
    rcases h.2 with h | h
    · rw [Nat.eq_of_beq_eq_true h]; simp
    · rw [Nat.eq_of_beq_eq_true h]; simp
theorem hasF_s {a b k j : Nat} (h : hasF a b k j = true) : ∃ i f, (a, b, k, j, i, f) ∈ FLL := by
  unfold hasF at h
  obtain ⟨⟨f1, f2, f3, f4, f5, f6⟩, hm, hf⟩ := List.any_eq_true.mp h
  simp only [Bool.and_eq_true] at hf
  obtain ⟨h1, h2, h3, h4⟩ := hf
  cases Nat.eq_of_beq_eq_true h1
  cases Nat.eq_of_beq_eq_true h2
  cases Nat.eq_of_beq_eq_true h3
  cases Nat.eq_of_beq_eq_true h4
  exact ⟨f5, f6, hm⟩
/-- a field's link: plain (by its own or another name), or a nest mate's -/
theorem lnkF {i k j : Nat} (hG : GX E p s0) (hC : CX s0 mi s m meth c) (h : hasF (mow mi) i k j = true) :
    (∃ ref, (Cond.fieldLink (onm (mow mi)) i ref (Ff k j).2.1 (Ff k j).2.2.1).before args s = true ∧ ∀ y, s.fieldFound? (Ff k j).1 (Ff k j).2.1 (Ff k j).2.2.1 = some y → s.fieldFound? ref (Ff k j).2.1 (Ff k j).2.2.1 = some y) ∨
    ((∃ i', (mow mi, i, k, j, i', 1) ∈ FLL) ∧ (Cond.fieldLinkNest (onm (mow mi)) i (Ff k j).1 (Ff k j).2.1 (Ff k j).2.2.1 "InterchangeDesk").before args s = true) := by
  obtain ⟨a, f, hm⟩ := hasF_s h
  have hk := List.all_eq_true.mp FLL_ok _ hm
  match f, hm, hk with
  | 0, _, hk => exact Or.inl ⟨_, hG.wd hC.1 hk rfl, fun y hy => hy⟩
  | 1, hm, hk => exact Or.inr ⟨⟨a, hm⟩, hG.wd hC.1 hk rfl⟩
  | f + 2, _, hk =>
    have hk' : (tw a (.fieldLink (onm (mow mi)) i "InterchangeDesk$Group" (Ff k j).2.1 (Ff k j).2.2.1) && tw _ (.sameField "InterchangeDesk$Group" (Ff k j).1 (Ff k j).2.1 (Ff k j).2.2.1)) = true := hk
    rw [Bool.and_eq_true] at hk'
    exact Or.inl ⟨_, hG.wd hC.1 hk'.1 rfl, fun y hy => u_same (args := args) (hG.wd hC.1 hk'.2 rfl) y hy⟩
set_option maxHeartbeats 2000000 in
theorem k_getfield {i : Nat} (hG : GX E p s0) (hC : CX s0 mi s m meth c) (hd : decode (mb mi) pc = .ok (.getfield i, len)) (hl : lnkE mi pc (.getfield i, len, r1, r2, r3, r4) = true) (hX : RL E s0 x H) (hL : LR E mi ls lc) (hw : ∀ v ∈ st, wfv v) (hB : BX R E x locs cells slots nE sE r) (h : astep pc (.getfield i, len, r1, r2, r3, r4) ls st x = some (.inl (pc', ls', st', x'))) (K : KT E p l e R s0 s m args below meth c nE sE r mi Q pc' ls' st' x') : W p l e R s m args below meth c H locs cells slots Q (F0 m pc lc (st.map (cv E))) := by
  have hx := hG.2.1
  have hb := hC.2.1
  simp only [lnkE, Bool.and_eq_true] at hl
  obtain ⟨hl, hlen⟩ := hl
  obtain rfl : len = 3 := Nat.eq_of_beq_eq_true hlen
  have main : ∀ (q cq n : Nat) (t : List AV) (v : Value), hK x q = some (cq, n) → sub cq r1 = true → (fvl E cq x q r2 = v) → W p l e R s m args below meth c H locs cells slots Q (F0 m (pc + 3) lc (v :: t.map (cv E))) → W p l e R s m args below meth c H locs cells slots Q (F0 m pc lc (Value.ref (io E q) :: t.map (cv E))) := by
    intro q cq n t v hk hs hv kk
    obtain ⟨⟨-, -, -⟩, hcp⟩ := hX.2.2.1 q cq n hk
    have h10 : cq ≤ 10 := by
      unfold sub at hs
      rw [Bool.or_eq_true] at hs
      rcases hs with hs | hs
      · have h9 := List.all_eq_true.mp hl
        by_cases e4 : r1 = 4
        · rw [Nat.eq_of_beq_eq_true hs]; omega
        · have := h9 r1 (by unfold cls1; rw [if_neg e4]; exact List.mem_singleton.mpr rfl)
          simp only [Bool.and_eq_true] at this
          rw [Nat.eq_of_beq_eq_true hs]
          exact Nat.le_of_ble_eq_true this.2.1
      · rw [Bool.and_eq_true, Bool.or_eq_true] at hs
        rcases hs.2 with h | h <;> (have := Nat.eq_of_beq_eq_true h; omega)
    obtain ⟨h4, hn, hob⟩ := hcp.1 h10
    have h9 := List.all_eq_true.mp hl cq (sub_c1 hs h4)
    simp only [Bool.and_eq_true] at h9
    obtain ⟨hF, -, -, hlt, -⟩ := h9
    have hlt : r2 < clN cq := Nat.le_of_ble_eq_true hlt
    obtain ⟨hS, hfc, kC, hkC, hkind⟩ := clsF hG hC.1 h10 h4
    obtain ⟨cf, kf, fi, fd, hi, hsl⟩ := hS r2 hlt
    obtain ⟨cell, q1, q2, q3, q4⟩ := hob
    have hst := (u_facts (args := args) hfc hkC (layO hG hC.1 h10 h4 hlt) hi).1
    have hslot : cell.slots[fd.slot]? = some v := by rw [hsl, q4 r2 hlt]; exact congrArg some hv
    rcases lnkF (args := args) hG hC hF with ⟨ref, hlink, hsame⟩ | ⟨-, hlink⟩
    · exact W.getf hx hb hC.2.2.2.2.1 hlink (hsame _ hi) hst q1 (by rw [q3]; exact fun h => by cases h) hslot rfl rfl hd kk
    · exact va_Wgetf hx hb hC.2.2.2.2.1 hlink hi hst q1 (by rw [q3]; exact fun h => by cases h) hslot rfl rfl hd kk
  change (if r3 = 5 then oGetR pc 3 r1 r2 ls st x else oGetI pc 3 r1 r2 ls st x) = _ at h
  have hty : ∀ cq, sub cq r1 = true → cq ≠ 4 → fty cq r2 = r3 := by
    intro cq hs h4
    have h9 := List.all_eq_true.mp hl cq (sub_c1 hs h4)
    simp only [Bool.and_eq_true] at h9
    exact Nat.eq_of_beq_eq_true h9.2.2.2.2
  have hn4 : ∀ q cq n, hK x q = some (cq, n) → cq ≠ 4 := by
    intro q cq n hk e4
    obtain ⟨-, hcp⟩ := hX.2.2.1 q cq n hk
    exact (hcp.1 (by omega)).1 e4
  split at h
  · rename_i e5
    unfold oGetR at h
    split at h
    · rename_i q t
      split at h
      · rename_i cq n hk
        split at h
        · rename_i hs
          unfold sN at h
          cases h
          obtain ⟨⟨-, h3, -⟩, -⟩ := hX.2.2.1 q cq n hk
          rw [List.map_cons, show cv E (Sum.inr (Sum.inr (some q))) = cv E (vA q) from rfl, cv_A h3]
          refine main q cq n t (cv E (vR (hR x q r2))) hk hs ?_ (K H locs cells slots lc hX hL (List.forall_mem_cons.mpr ⟨trivial, fun v hv => hw v (List.mem_cons_of_mem _ hv)⟩) hB)
          unfold fvl
          rw [if_pos (by rw [hty cq hs (hn4 q cq n hk)]; exact e5)]
        · cases h
      · cases h
    · cases h
  · rename_i e5
    unfold oGetI at h
    split at h
    · rename_i q t
      split at h
      · rename_i cq n hk
        split at h
        · rename_i hs
          unfold sN at h
          cases h
          obtain ⟨⟨-, h3, -⟩, hcp⟩ := hX.2.2.1 q cq n hk
          rw [List.map_cons, show cv E (Sum.inr (Sum.inr (some q))) = cv E (vA q) from rfl, cv_A h3]
          have hne : ∀ n', hK x q ≠ some (25, n') := by
            intro n' e
            rw [hk] at e
            cases e
            have : (25 : Nat) ∈ cls1 r1 := sub_c1 hs (by decide)
            have h9 := List.all_eq_true.mp hl 25 this
            simp only [Bool.and_eq_true] at h9
            exact absurd (Nat.le_of_ble_eq_true h9.2.1) (by decide)
          refine main q cq n t (.int (Int32.ofInt (hI x q r2))) hk hs ?_ (K H locs cells slots lc hX hL (List.forall_mem_cons.mpr ⟨(hX.2.2.2.2.2 q r2).2.1 hne, fun v hv => hw v (List.mem_cons_of_mem _ hv)⟩) hB)
          unfold fvl
          rw [if_neg (by rw [hty cq hs (hn4 q cq n hk)]; exact e5)]
        · cases h
      · cases h
    · cases h
end
