/-! a table's tree and its rows -/
section
variable {x : HP} {a q g i : Nat} {j k v : Int} {o : Option Nat}
theorem hI_st : hI (stI x a j v) q k = if q = a ∧ k = j then v else hI x q k := by
  by_cases h : q = a
  · subst h
    rw [hI_stI_s]
    unfold up
    by_cases h2 : k = j
    · rw [if_pos h2, if_pos ⟨rfl, h2⟩]
    · rw [if_neg h2, if_neg (fun e => h2 e.2)]
  · rw [hI_stI_n h, if_neg (fun e => h e.1)]
theorem hR_st : hR (stR x a j o) q k = if q = a ∧ k = j then o else hR x q k := by
  by_cases h : q = a
  · subst h
    rw [hR_stR_s]
    unfold up
    by_cases h2 : k = j
    · rw [if_pos h2, if_pos ⟨rfl, h2⟩]
    · rw [if_neg h2, if_neg (fun e => h2 e.2)]
  · rw [hR_stR_n h, if_neg (fun e => h e.1)]
theorem apd_R (hne : g ≠ i) (hl : ∀ l, hR x g 5 = some l → l ≠ i) : hR (apd x g i) q k = if q = g ∧ k = 5 then some i else if q = i ∧ k = 1 then some g else if q = i ∧ k = 0 then none else if q = g ∧ k = 4 ∧ hR x g 5 = none then some i else if k = 0 ∧ hR x g 5 = some q then some i else hR x q k := by
  unfold apd
  cases h5 : hR x g 5 with
  | none => simp only [hR_st]; grind
  | some l =>
    have := hl l h5
    simp only [hR_st]
    grind
theorem apd_I : hI (apd x g i) = hI x := by
  unfold apd
  split <;> rfl
theorem apd_K : hK (apd x g i) = hK x := by
  unfold apd
  split <;> rfl
theorem apd_N : hN (apd x g i) = hN x := by
  unfold apd
  split <;> rfl
theorem apd_S : hS (apd x g i) = hS x := by
  unfold apd
  split <;> rfl
end
/-- rows: how many, the open group, tags, must, most, the group each stands in -/
abbrev RW : Type := Int × Int × (Int → Int) × (Int → Int) × (Int → Int) × (Int → Int)
abbrev rN (w : RW) : Int := w.1
abbrev rO (w : RW) : Int := w.2.1
abbrev rT (w : RW) : Int → Int := w.2.2.1
abbrev rM (w : RW) : Int → Int := w.2.2.2.1
abbrev rX (w : RW) : Int → Int := w.2.2.2.2.1
abbrev rI (w : RW) : Int → Int := w.2.2.2.2.2
def rAdd (w : RW) (v nd tm : Int) : RW := (rN w + 1, rO w, up (rT w) (rN w) v, up (rM w) (rN w) nd, up (rX w) (rN w) tm, up (rI w) (rN w) (rO w))
def gid (rt : Nat) (F : Int → Nat) (g : Int) : Nat := if g < 0 then rt else F g
def lkF (F : Int → Nat) (j : Int) : Option Nat := if j < 0 then none else some (F j)
def itR (K : Nat → Option (Nat × Nat)) (I : Nat → Int → Int) (R : Nat → Int → Option Nat) (rt : Nat) (F : Int → Nat) (w : RW) (y : Int) : Prop :=
  K (F y) = some (if rT w y = 0 then (6, 6) else (5, 5)) ∧ R (F y) 0 = lkF F (fol (rI w) (rN w) y (rI w y)) ∧ R (F y) 1 = some (gid rt F (rI w y)) ∧ I (F y) 2 = rM w y ∧ I (F y) 3 = rX w y ∧ (rT w y ≠ 0 → I (F y) 4 = rT w y) ∧
  (rT w y = 0 → R (F y) 4 = lkF F (fol (rI w) (rN w) (-1) y) ∧ R (F y) 5 = lkF F (lst (rI w) (rN w) y))
def tbR (K : Nat → Option (Nat × Nat)) (I : Nat → Int → Int) (R : Nat → Int → Option Nat) (tb rt : Nat) (F : Int → Nat) (w : RW) : Prop :=
  R tb 1 = some (gid rt F (rO w)) ∧ I tb 2 = dpA (rI w) 25 0 (rO w) ∧ I tb 3 = rN w ∧ R rt 4 = lkF F (fol (rI w) (rN w) (-1) (-1)) ∧ R rt 5 = lkF F (lst (rI w) (rN w) (-1)) ∧ ∀ y, 0 ≤ y → y < rN w → itR K I R rt F w y
/-- rows as they must be -/
def rOk (w : RW) : Prop := RWf (rN w) (rO w) (rI w) ∧ (0 ≤ rO w → rT w (rO w) = 0) ∧ (∀ y, 0 ≤ y → y < rN w → (0 ≤ rI w y → rT w (rI w y) = 0) ∧ (0 ≤ rM w y ∧ rM w y < 2) ∧ (1 ≤ rX w y ∧ rX w y ≤ 99) ∧ 0 ≤ rT w y ∧ ¬ (rI w y < rO w ∧ rO w < y)) ∧
  (∀ y z, 0 ≤ y → y < z → z < rN w → ¬ (rI w y < rI w z ∧ rI w z < y)) ∧ (∀ y z, 0 ≤ y → y < rN w → 0 ≤ z → z < rN w → rT w y = 0 → rI w z = y → (∀ u, 0 ≤ u → u < z → rI w u ≠ y) → rT w z ≠ 0) ∧ (∀ y, 0 ≤ y → y < rN w → rT w y = 0 → dpA (rI w) 25 0 (rI w y) ≤ 2)
section
variable {K K' : Nat → Option (Nat × Nat)} {I I' : Nat → Int → Int} {R R' : Nat → Int → Option Nat} {tb rt c g : Nat} {F : Int → Nat} {w : RW} {v nd tm : Int}
/-- a table is left as it was where its cells are -/
theorem tbR.kept (h : tbR K I R tb rt F w) (hw : RWf (rN w) (rO w) (rI w)) (h1 : I' tb = I tb ∧ R' tb = R tb ∧ R' rt = R rt) (h2 : ∀ y, 0 ≤ y → y < rN w → K' (F y) = K (F y) ∧ I' (F y) = I (F y) ∧ R' (F y) = R (F y)) : tbR K' I' R' tb rt F w := by
  obtain ⟨a1, a2, a3, a4, a5, a6⟩ := h
  obtain ⟨e1, e2, e3⟩ := h1
  refine ⟨by rw [e2]; exact a1, by rw [e1]; exact a2, by rw [e1]; exact a3, by rw [e3]; exact a4, by rw [e3]; exact a5, fun y y1 y2 => ?_⟩
  obtain ⟨f1, f2, f3⟩ := h2 y y1 y2
  have h9 := a6 y y1 y2
  unfold itR at h9 ⊢
  rw [f1, f2, f3]
  exact h9
theorem lkF_n {j : Int} (h : j < 0) : lkF F j = none := if_pos h
theorem lkF_s {j : Int} (h : ¬ j < 0) : lkF F j = some (F j) := if_neg h
set_option maxHeartbeats 2000000 in
theorem tbR.add {R1 : Nat → Int → Option Nat} (h : tbR K I R tb rt F w) (hw : rOk w) (hinj : ∀ y z, 0 ≤ y → y < rN w → 0 ≤ z → z < rN w → F y = F z → y = z) (hF : ∀ y, 0 ≤ y → y < rN w → 165 ≤ F y) (htb : tb < 165 ∧ rt < 165 ∧ tb ≠ rt ∧ tb ≠ 4 ∧ rt ≠ 4) (hc : 165 ≤ c) (hcF : ∀ y, 0 ≤ y → y < rN w → F y ≠ c)
    (hK1 : ∀ q, q ≠ c → K' q = K q) (hKc : K' c = some (if v = 0 then (6, 6) else (5, 5))) (hI1 : ∀ q k, q ≠ c → ¬ (q = tb ∧ k = 3) → I' q k = I q k) (hIt : I' tb 3 = rN w + 1) (hIc : I' c 2 = nd ∧ I' c 3 = tm ∧ (v ≠ 0 → I' c 4 = v))
    (hR1 : ∀ q k, q ≠ c → q ≠ 4 → R1 q k = R q k) (hRc : v = 0 → R1 c 4 = none ∧ R1 c 5 = none)
    (hR2 : ∀ q k, R' q k = if q = gid rt F (rO w) ∧ k = 5 then some c else if q = c ∧ k = 1 then some (gid rt F (rO w)) else if q = c ∧ k = 0 then none else if q = gid rt F (rO w) ∧ k = 4 ∧ R1 (gid rt F (rO w)) 5 = none then some c else if k = 0 ∧ R1 (gid rt F (rO w)) 5 = some q then some c else R1 q k) :
    tbR K' I' R' tb rt (fun y => if y = rN w then c else F y) (rAdd w v nd tm) := by
  obtain ⟨N, op, tg, mu, mo, ins⟩ := w
  obtain ⟨a1, a2, a3, a4, a5, a6⟩ := h
  obtain ⟨⟨⟨n1, n2⟩, ⟨o1, o2⟩, hp⟩, w2, w3, w4, w5, w6⟩ := hw
  simp only [rN, rO, rT, rM, rX, rI] at *
  have hgc : gid rt F op ≠ c ∧ gid rt F op ≠ 4 := by
    unfold gid
    split
    · exact ⟨by omega, htb.2.2.2.2⟩
    · exact ⟨hcF op (by omega) o2, by have := hF op (by omega) o2; omega⟩
  have hF' : ∀ y, y < N → (if y = N then c else F y) = F y := fun y hy => if_neg (by omega)
  have hlk : ∀ j, j < N → lkF (fun y => if y = N then c else F y) j = lkF F j := fun j hj => by
    unfold lkF
    split
    · rfl
    · dsimp only; rw [hF' j hj]
  have hlN : ∀ j, j = N → lkF (fun y => if y = N then c else F y) j = some c := fun j hj => by
    unfold lkF
    rw [if_neg (by omega)]
    dsimp only
    rw [if_pos hj]
  have hgid : ∀ j, j < N → gid rt (fun y => if y = N then c else F y) j = gid rt F j := fun j hj => by
    unfold gid
    split
    · rfl
    · dsimp only; rw [hF' j hj]
  have hls : R1 (gid rt F op) 5 = lkF F (lst ins N op) := by
    rw [hR1 _ _ hgc.1 hgc.2]
    by_cases h0 : op < 0
    · have e : op = -1 := by omega
      rw [show gid rt F op = rt from if_pos h0, a5, e]
    · rw [show gid rt F op = F op from if_neg h0]
      exact (((a6 op (by omega) o2).2.2.2.2.2.2) (w2 (by omega))).2
  have hfl := fol_lst (ins := ins) (g := op) n1
  have ls := lst_s (ins := ins) (g := op) n1
  have r0 : ∀ q, q ≠ c → q ≠ 4 → ¬ (R1 (gid rt F op) 5 = some q) → R' q 0 = R q 0 := fun q h1 h2 h3 => by rw [hR2, ← hR1 q 0 h1 h2]; simp [h1, h3]
  have r0l : ∀ q, q ≠ c → R1 (gid rt F op) 5 = some q → R' q 0 = some c := fun q h1 h3 => by rw [hR2]; simp [h1, h3]
  have r1 : ∀ q, q ≠ c → q ≠ 4 → R' q 1 = R q 1 := fun q h1 h2 => by rw [hR2, ← hR1 q 1 h1 h2]; simp [h1]
  have r4 : ∀ q, q ≠ c → q ≠ 4 → q ≠ gid rt F op → R' q 4 = R q 4 := fun q h1 h2 h3 => by rw [hR2, ← hR1 q 4 h1 h2]; simp [h1, h3]
  have r4g : R' (gid rt F op) 4 = if R1 (gid rt F op) 5 = none then some c else R (gid rt F op) 4 := by rw [hR2, ← hR1 _ 4 hgc.1 hgc.2]; simp [hgc.1]
  have r5 : ∀ q, q ≠ c → q ≠ 4 → q ≠ gid rt F op → R' q 5 = R q 5 := fun q h1 h2 h3 => by rw [hR2, ← hR1 q 5 h1 h2]; simp [h1, h3]
  have r5g : R' (gid rt F op) 5 = some c := by rw [hR2]; simp
  have fst : ∀ y, -1 ≤ y → y < N → y ≠ op → lkF (fun y => if y = N then c else F y) (fol (up ins N op) (N + 1) (-1) y) = lkF F (fol ins N (-1) y) := fun y h1 h2 h3 => by
    rw [fol_add ⟨by omega, by omega⟩, if_neg h3]
    exact hlk _ (fol_lt ⟨by omega, by omega⟩).2
  have fso : lkF (fun y => if y = N then c else F y) (fol (up ins N op) (N + 1) (-1) op) = if R1 (gid rt F op) 5 = none then some c else lkF F (fol ins N (-1) op) := by
    rw [fol_add ⟨by omega, by omega⟩, if_pos rfl, hls]
    by_cases h0 : fol ins N (-1) op < 0
    · rw [if_pos h0, lkF_n (hfl.1.mp h0), if_pos rfl]
      exact hlN N rfl
    · rw [if_neg h0, lkF_s (fun h => h0 (hfl.1.mpr h)), if_neg (by simp)]
      exact hlk _ (fol_lt ⟨by omega, by omega⟩).2
  have lsy : ∀ y, y ≠ op → lkF (fun y => if y = N then c else F y) (lst (up ins N op) (N + 1) y) = lkF F (lst ins N y) := fun y h => by
    rw [lst_add n1, if_neg h]
    refine hlk _ ?_
    rcases lst_s (ins := ins) (g := y) n1 with h9 | h9 <;> omega
  have lso : lkF (fun y => if y = N then c else F y) (lst (up ins N op) (N + 1) op) = some c := by
    rw [lst_add n1, if_pos rfl]
    exact hlN N rfl
  refine ⟨?_, ?_, hIt, ?_, ?_, fun y y1 y2 => ?_⟩
  · show R' tb 1 = some (gid rt _ op)
    rw [r1 tb (by omega) htb.2.2.2.1, a1, hgid op o2]
  · show I' tb 2 = dpA (up ins N op) 25 0 op
    rw [hI1 tb 2 (by omega) (by simp), a2, dpA_up hp 25 0 op o2]
  · show R' rt 4 = lkF _ (fol (up ins N op) (N + 1) (-1) (-1))
    by_cases h0 : op = -1
    · have e : gid rt F op = rt := if_pos (by omega)
      rw [e] at fso r4g
      rw [h0] at fso
      rw [h0, fso, r4g, a4]
    · have e : gid rt F op = F op := if_neg (by omega)
      rw [fst (-1) (by omega) (by omega) (fun h => h0 h.symm), ← a4]
      exact r4 rt (by omega) htb.2.2.2.2 (by rw [e]; have := hF op (by omega) o2; omega)
  · show R' rt 5 = lkF _ (lst (up ins N op) (N + 1) (-1))
    by_cases h0 : op = -1
    · have e : gid rt F op = rt := if_pos (by omega)
      rw [h0] at lso r5g e
      rw [h0, lso, ← e, r5g]
    · have e : gid rt F op = F op := if_neg (by omega)
      rw [lsy (-1) (fun h => h0 h.symm), ← a5]
      exact r5 rt (by omega) htb.2.2.2.2 (by rw [e]; have := hF op (by omega) o2; omega)
  · have y2 : y < N + 1 := y2
    by_cases hy : y = N
    · rw [hy]
      have eN : (fun y => if y = N then c else F y) N = c := if_pos rfl
      have hno : ∀ z, -1 < z → z < N + 1 → up ins N op z ≠ N := fun z h1 h2 => by
        by_cases e : z = N
        · rw [e, up_s]; omega
        · rw [up_lt (by omega)]; have := hp z (by omega) (by omega); omega
      unfold itR
      simp only [rAdd, rN, rO, rT, rM, rX, rI, eN, up_s]
      refine ⟨hKc, ?_, ?_, hIc.1, hIc.2.1, hIc.2.2, fun hv => ⟨?_, ?_⟩⟩
      · rw [fol_none (by omega) (fun z h1 h2 => by omega), lkF_n (by omega), hR2]
        simp
      · rw [hgid op o2, hR2]
        simp
      · rw [fol_none (by omega) hno, lkF_n (by omega), hR2]
        simp [Ne.symm hgc.1, (hRc hv).1]
      · rw [lst_none (by omega) (fun z h1 h2 => hno z (by omega) h2), lkF_n (by omega), hR2]
        simp [Ne.symm hgc.1, (hRc hv).2]
    · have y3 : y < N := by omega
      obtain ⟨b1, b2, b3, b4, b5, b6, b7⟩ := a6 y y1 y3
      simp only [rN, rO, rT, rM, rX, rI] at b1 b2 b3 b4 b5 b6 b7
      have hyc := hcF y y1 y3
      have hy5 := hF y y1 y3
      have hyt : ∀ k : Int, ¬ (F y = tb ∧ k = 3) := fun k h => by omega
      have hpy := hp y y1 y3
      unfold itR
      simp only [rAdd, rN, rO, rT, rM, rX, rI, hF' y y3, up_lt y3]
      refine ⟨by rw [hK1 _ hyc]; exact b1, ?_, ?_, by rw [hI1 _ _ hyc (hyt 2)]; exact b4, by rw [hI1 _ _ hyc (hyt 3)]; exact b5, fun hv => by rw [hI1 _ _ hyc (hyt 4)]; exact b6 hv, fun hv => ⟨?_, ?_⟩⟩
      · rw [fol_add ⟨by omega, y3⟩]
        by_cases hl : R1 (gid rt F op) 5 = some (F y)
        · rw [r0l _ hyc hl]
          rw [hls] at hl
          have l0 : ¬ lst ins N op < 0 := fun h => by rw [lkF_n h] at hl; cases hl
          rw [lkF_s l0] at hl
          rcases ls with ⟨l1, -⟩ | ⟨l1, l2, l3, -⟩
          · omega
          · have el := hinj _ _ l1 l2 y1 y3 (Option.some.inj hl)
            rw [el] at l3
            rw [if_pos l3, l3, if_pos ((hfl.2 y y1 y3 l3).mpr el.symm)]
            exact (hlN N rfl).symm
        · rw [r0 _ hyc (by omega) hl, b2]
          have hnl : ¬ (ins y = op ∧ fol ins N y op < 0) := fun h => hl (by
            have el := (hfl.2 y y1 y3 h.1).mp h.2
            rw [hls, ← el, lkF_s (by omega)])
          by_cases e1 : ins y = op
          · rw [if_pos e1, e1, if_neg (fun h => hnl ⟨e1, h⟩)]
            exact (hlk _ (fol_lt ⟨by omega, y3⟩).2).symm
          · rw [if_neg e1]
            exact (hlk _ (fol_lt ⟨by omega, y3⟩).2).symm
      · rw [r1 _ hyc (by omega), b3, hgid _ (by omega)]
      · by_cases e1 : y = op
        · have e : gid rt F op = F y := by rw [← e1]; exact if_neg (by omega)
          rw [e] at r4g fso
          rw [← e1] at fso
          rw [← e1, fso, r4g, (b7 hv).1]
        · have hne : F y ≠ gid rt F op := by
            unfold gid
            split
            · omega
            · exact fun h => e1 (hinj _ _ y1 y3 (by omega) o2 h)
          rw [r4 _ hyc (by omega) hne, (b7 hv).1, fst y (by omega) y3 e1]
      · by_cases e1 : y = op
        · have e : gid rt F op = F y := by rw [← e1]; exact if_neg (by omega)
          rw [e] at r5g
          rw [← e1] at lso
          rw [← e1, lso, r5g]
        · have hne : F y ≠ gid rt F op := by
            unfold gid
            split
            · omega
            · exact fun h => e1 (hinj _ _ y1 y3 (by omega) o2 h)
          rw [r5 _ hyc (by omega) hne, (b7 hv).2, lsy y e1]
end
