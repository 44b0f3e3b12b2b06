/-! rows stay as they must be -/
section
variable {w : RW} {v nd tm : Int}
theorem rOk.add (h : rOk w) (hN : rN w < 24) (hd : 0 ≤ nd ∧ nd < 2) (ht : 1 ≤ tm ∧ tm ≤ 99) (hv : 0 ≤ v) (htr : 0 ≤ rO w → fol (rI w) (rN w) (-1) (rO w) < 0 → v ≠ 0) (hdp : v = 0 → dpA (rI w) 25 0 (rO w) ≤ 2) : rOk (rAdd w v nd tm) := by
  obtain ⟨N, op, tg, mu, mo, ins⟩ := w
  obtain ⟨⟨⟨n1, n2⟩, ⟨o1, o2⟩, hp⟩, w2, w3, w4, w5, w6⟩ := h
  simp only [rN, rO, rT, rM, rX, rI] at *
  unfold rOk RWf rAdd
  simp only [rN, rO, rT, rM, rX, rI]
  refine ⟨⟨⟨by omega, by omega⟩, ⟨o1, by omega⟩, fun y y1 y2 => ?_⟩, fun h => ?_, fun y y1 y2 => ?_, fun y z y1 y2 y3 => ?_, fun y z y1 y2 z1 z2 => ?_, fun y y1 y2 => ?_⟩
  · by_cases e : y = N
    · rw [e, up_s]; omega
    · rw [up_lt (by omega)]; exact hp y y1 (by omega)
  · rw [up_lt o2]; exact w2 h
  · by_cases e : y = N
    · rw [e]
      simp only [up_s]
      refine ⟨fun h => by rw [up_lt o2]; exact w2 h, hd, ht, hv, by omega⟩
    · have hy : y < N := by omega
      have := hp y y1 hy
      simp only [up_lt hy]
      refine ⟨fun h => by rw [up_lt (by omega)]; exact (w3 y y1 hy).1 h, (w3 y y1 hy).2⟩
  · by_cases e : z = N
    · rw [e, up_s, up_lt (by omega)]
      exact (w3 y y1 (by omega)).2.2.2.2
    · rw [up_lt (by omega), up_lt (by omega)]
      exact w4 y z y1 y2 (by omega)
  · intro t1 t2 t3
    by_cases e : z = N
    · rw [e] at t2 t3 ⊢
      rw [up_s] at t2 ⊢
      subst t2
      refine htr y1 ?_
      rw [fol_none (by omega) (fun u u1 u2 => ?_)]
      · omega
      · have := t3 u (by omega) u2
        rw [up_lt u2] at this
        exact this
    · have hz : z < N := by omega
      rw [up_lt hz] at t2 ⊢
      have hyN : y < N := by have := hp z z1 hz; omega
      rw [up_lt hyN] at t1
      exact w5 y z y1 hyN z1 hz t1 t2 (fun u u1 u2 => by have := t3 u u1 u2; rw [up_lt (by omega)] at this; exact this)
  · intro t1
    by_cases e : y = N
    · rw [e] at t1 ⊢
      rw [up_s] at t1 ⊢
      rw [dpA_up hp 25 0 op o2]
      exact hdp t1
    · have hy : y < N := by omega
      rw [up_lt hy] at t1 ⊢
      rw [dpA_up hp 25 0 _ (by have := hp y y1 hy; omega)]
      exact w6 y y1 hy t1
def rSet (w : RW) (o : Int) : RW := (w.1, o, w.2.2)
theorem rOk.set {o : Int} (h : rOk w) (h1 : -1 ≤ o ∧ o < rN w) (h2 : 0 ≤ o → rT w o = 0) (h3 : ∀ y, 0 ≤ y → y < rN w → ¬ (rI w y < o ∧ o < y)) : rOk (rSet w o) := by
  obtain ⟨⟨a1, a2, a3⟩, w2, w3, w4, w5, w6⟩ := h
  exact ⟨⟨a1, h1, a3⟩, h2, fun y y1 y2 => ⟨(w3 y y1 y2).1, (w3 y y1 y2).2.1, (w3 y y1 y2).2.2.1, (w3 y y1 y2).2.2.2.1, h3 y y1 y2⟩, w4, w5, w6⟩
theorem rOk.close (h : rOk w) (ho : 0 ≤ rO w) : rOk (rSet w (rI w (rO w))) := by
  obtain ⟨⟨a1, a2, a3⟩, w2, w3, w4, w5, w6⟩ := h
  have hh : rOk w := ⟨⟨a1, a2, a3⟩, w2, w3, w4, w5, w6⟩
  have h5 := a3 _ ho a2.2
  refine hh.set ⟨h5.1, by omega⟩ (w3 _ ho a2.2).1 (fun y y1 y2 => ?_)
  rcases Int.lt_trichotomy y (rO w) with h | h | h
  · exact w4 y _ y1 h a2.2
  · rw [h]; omega
  · have := (w3 y y1 y2).2.2.2.2
    omega
theorem rOk.last (h : rOk (rAdd w 0 nd tm)) (h0 : 0 ≤ rN w) : rOk (rSet (rAdd w 0 nd tm) (rN w)) := by
  refine h.set ⟨by omega, by show rN w < rN w + 1; omega⟩ (fun _ => up_s) (fun y y1 y2 => ?_)
  have y2 : y < rN w + 1 := y2
  omega
theorem rOk.nil {tg mu mo ins : Int → Int} : rOk (0, -1, tg, mu, mo, ins) := by
  refine ⟨⟨⟨by show (0 : Int) ≤ 0; omega, by show (0 : Int) ≤ 24; omega⟩, ⟨by show (-1 : Int) ≤ -1; omega, by show (-1 : Int) < 0; omega⟩, fun y y1 y2 => ?_⟩, fun h => ?_, fun y y1 y2 => ?_, fun y z y1 y2 y3 => ?_, fun y z y1 y2 => ?_, fun y y1 y2 => ?_⟩
  · have y2 : y < 0 := y2
    omega
  · have h : (0 : Int) ≤ -1 := h
    omega
  · have y2 : y < 0 := y2
    omega
  · have y3 : z < 0 := y3
    omega
  · have y2 : y < 0 := y2
    omega
  · have y2 : y < 0 := y2
    omega
end
