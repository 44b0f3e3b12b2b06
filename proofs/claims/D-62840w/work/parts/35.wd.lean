/-! the fixed cells: printed by gen/gen35.py -/
def KDL : List (Option (Nat × Nat)) := [some (0, 9), some (1, 7), some (21, 400), some (2, 22), some (21, 400), some (26, 40), some (22, 120), some (22, 120), some (22, 120), some (22, 120), some (20, 20), some (20, 20), some (20, 20), some (20, 20), some (20, 20), some (20, 20), some (20, 20), some (10, 4), some (23, 800), some (10, 4), some (23, 400), some (3, 3), some (3, 3), some (3, 3), some (3, 3), some (3, 3), some (3, 3), some (3, 3), some (3, 3), some (3, 3), some (3, 3), some (3, 3), some (3, 3), some (3, 3), some (3, 3), some (3, 3), some (3, 3), some (3, 3), some (3, 3), some (3, 3), some (3, 3), some (3, 3), some (3, 3), some (3, 3), some (3, 3), some (3, 3), some (3, 3), some (3, 3), some (3, 3), some (3, 3), some (3, 3), some (3, 3), some (3, 3), some (3, 3), some (3, 3), some (3, 3), some (3, 3), some (3, 3), some (3, 3), some (3, 3), some (3, 3), some (2, 22), some (21, 400), some (26, 40), some (22, 120), some (22, 120), some (22, 120), some (22, 120), some (20, 20), some (20, 20), some (20, 20), some (20, 20), some (20, 20), some (20, 20), some (20, 20), some (10, 4), some (23, 800), some (10, 4), some (23, 400), some (3, 3), some (3, 3), some (3, 3), some (3, 3), some (3, 3), some (3, 3), some (3, 3), some (3, 3), some (3, 3), some (3, 3), some (3, 3), some (3, 3), some (3, 3), some (3, 3), some (3, 3), some (3, 3), some (3, 3), some (3, 3), some (3, 3), some (3, 3), some (3, 3), some (3, 3), some (3, 3), some (3, 3), some (3, 3), some (3, 3), some (3, 3), some (3, 3), some (3, 3), some (3, 3), some (3, 3), some (3, 3), some (3, 3), some (3, 3), some (3, 3), some (3, 3), some (3, 3), some (3, 3), some (3, 3), some (3, 3), some (27, 4), some (8, 5), some (20, 4), some (7, 4), some (6, 6), some (7, 4), some (6, 6), some (7, 4), some (6, 6), some (7, 4), some (6, 6), some (9, 53), some (20, 400), some (20, 4), some (20, 96), some (24, 96), some (20, 96), some (20, 96), some (20, 4), some (20, 41), some (20, 42), some (20, 124), some (20, 124), some (20, 400), some (20, 41), some (20, 42), some (20, 124), some (20, 124), some (20, 400), some (20, 20), some (20, 20), some (20, 20), some (20, 20), some (20, 20), some (20, 20), some (20, 20), some (20, 20), some (20, 4), some (20, 4), some (20, 1200), some (20, 2400), some (25, 1)]
def kd0 (q : Nat) : Option (Nat × Nat) := KDL.getD (q - 4) none
def RFL : List (Nat × Int × Nat) := [(4, 0, 5), (4, 5, 123), (4, 6, 124), (5, 0, 6), (7, 0, 8), (7, 2, 9), (7, 4, 10), (7, 5, 11), (7, 7, 12), (7, 8, 13), (7, 10, 14), (7, 11, 15), (7, 12, 16), (7, 13, 17), (7, 14, 18), (7, 16, 19), (7, 17, 20), (7, 20, 21), (7, 21, 23), (9, 0, 25), (9, 1, 26), (9, 2, 27), (9, 3, 28), (9, 4, 29), (9, 5, 30), (9, 6, 31), (9, 7, 32), (9, 8, 33), (9, 9, 34), (9, 10, 35), (9, 11, 36), (9, 12, 37), (9, 13, 38), (9, 14, 39), (9, 15, 40), (9, 16, 41), (9, 17, 42), (9, 18, 43), (9, 19, 44), (9, 20, 45), (9, 21, 46), (9, 22, 47), (9, 23, 48), (9, 24, 49), (9, 25, 50), (9, 26, 51), (9, 27, 52), (9, 28, 53), (9, 29, 54), (9, 30, 55), (9, 31, 56), (9, 32, 57), (9, 33, 58), (9, 34, 59), (9, 35, 60), (9, 36, 61), (9, 37, 62), (9, 38, 63), (9, 39, 64), (65, 0, 66), (65, 2, 67), (65, 4, 68), (65, 5, 69), (65, 7, 70), (65, 8, 71), (65, 10, 72), (65, 11, 73), (65, 12, 74), (65, 13, 75), (65, 14, 76), (65, 16, 77), (65, 17, 78), (65, 20, 79), (65, 21, 81), (67, 0, 83), (67, 1, 84), (67, 2, 85), (67, 3, 86), (67, 4, 87), (67, 5, 88), (67, 6, 89), (67, 7, 90), (67, 8, 91), (67, 9, 92), (67, 10, 93), (67, 11, 94), (67, 12, 95), (67, 13, 96), (67, 14, 97), (67, 15, 98), (67, 16, 99), (67, 17, 100), (67, 18, 101), (67, 19, 102), (67, 20, 103), (67, 21, 104), (67, 22, 105), (67, 23, 106), (67, 24, 107), (67, 25, 108), (67, 26, 109), (67, 27, 110), (67, 28, 111), (67, 29, 112), (67, 30, 113), (67, 31, 114), (67, 32, 115), (67, 33, 116), (67, 34, 117), (67, 35, 118), (67, 36, 119), (67, 37, 120), (67, 38, 121), (67, 39, 122), (124, 3, 125), (123, 0, 126), (126, 0, 127), (123, 1, 128), (128, 0, 129), (123, 2, 130), (130, 0, 131), (123, 3, 132), (132, 0, 133), (134, 2, 135), (134, 3, 136), (134, 4, 137), (134, 5, 138), (134, 6, 139), (134, 7, 140), (134, 8, 141), (134, 15, 142), (134, 16, 143), (134, 18, 144), (134, 20, 145), (134, 22, 146), (134, 25, 147), (134, 26, 148), (134, 28, 149), (134, 30, 150), (134, 31, 151), (134, 34, 152), (134, 35, 153), (134, 36, 154), (134, 37, 155), (134, 38, 156), (134, 40, 157), (134, 41, 158), (134, 42, 159), (134, 46, 160), (134, 47, 161), (134, 49, 162), (134, 51, 163)]
def WD (K : Nat → Option (Nat × Nat)) (R : Nat → Int → Option Nat) : Prop := (∀ q, 4 ≤ q → q < 165 → K q = kd0 q) ∧ ∀ f ∈ RFL, R f.1 f.2.1 = some f.2.2
section
variable {K : Nat → Option (Nat × Nat)} {R : Nat → Int → Option Nat} {o : Nat} {i : Int} {x : HP}
theorem dk4 (h : WD K R) : K 4 = some (0, 9) := h.1 4 (by decide) (by decide)
theorem dk5 (h : WD K R) : K 5 = some (1, 7) := h.1 5 (by decide) (by decide)
theorem dk6 (h : WD K R) : K 6 = some (21, 400) := h.1 6 (by decide) (by decide)
theorem dk123 (h : WD K R) : K 123 = some (27, 4) := h.1 123 (by decide) (by decide)
theorem dk124 (h : WD K R) : K 124 = some (8, 5) := h.1 124 (by decide) (by decide)
theorem dk125 (h : WD K R) : K 125 = some (20, 4) := h.1 125 (by decide) (by decide)
theorem dk164 (h : WD K R) : K 164 = some (25, 1) := h.1 164 (by decide) (by decide)
theorem dk126 (h : WD K R) : K 126 = some (7, 4) := h.1 126 (by decide) (by decide)
theorem dk127 (h : WD K R) : K 127 = some (6, 6) := h.1 127 (by decide) (by decide)
theorem dk128 (h : WD K R) : K 128 = some (7, 4) := h.1 128 (by decide) (by decide)
theorem dk129 (h : WD K R) : K 129 = some (6, 6) := h.1 129 (by decide) (by decide)
theorem dk130 (h : WD K R) : K 130 = some (7, 4) := h.1 130 (by decide) (by decide)
theorem dk131 (h : WD K R) : K 131 = some (6, 6) := h.1 131 (by decide) (by decide)
theorem dk132 (h : WD K R) : K 132 = some (7, 4) := h.1 132 (by decide) (by decide)
theorem dk133 (h : WD K R) : K 133 = some (6, 6) := h.1 133 (by decide) (by decide)
theorem dr4_0 (h : WD K R) : R 4 0 = some 5 := h.2 (4, 0, 5) (by decide +kernel)
theorem dr4_5 (h : WD K R) : R 4 5 = some 123 := h.2 (4, 5, 123) (by decide +kernel)
theorem dr4_6 (h : WD K R) : R 4 6 = some 124 := h.2 (4, 6, 124) (by decide +kernel)
theorem dr5_0 (h : WD K R) : R 5 0 = some 6 := h.2 (5, 0, 6) (by decide +kernel)
theorem dr124_3 (h : WD K R) : R 124 3 = some 125 := h.2 (124, 3, 125) (by decide +kernel)
theorem dr123_0 (h : WD K R) : R 123 0 = some 126 := h.2 (123, 0, 126) (by decide +kernel)
theorem dr126_0 (h : WD K R) : R 126 0 = some 127 := h.2 (126, 0, 127) (by decide +kernel)
theorem dr123_1 (h : WD K R) : R 123 1 = some 128 := h.2 (123, 1, 128) (by decide +kernel)
theorem dr128_0 (h : WD K R) : R 128 0 = some 129 := h.2 (128, 0, 129) (by decide +kernel)
theorem dr123_2 (h : WD K R) : R 123 2 = some 130 := h.2 (123, 2, 130) (by decide +kernel)
theorem dr130_0 (h : WD K R) : R 130 0 = some 131 := h.2 (130, 0, 131) (by decide +kernel)
theorem dr123_3 (h : WD K R) : R 123 3 = some 132 := h.2 (123, 3, 132) (by decide +kernel)
theorem dr132_0 (h : WD K R) : R 132 0 = some 133 := h.2 (132, 0, 133) (by decide +kernel)
theorem WD.mw (h : WD K R) : MW K R := ⟨h.1 134 (by decide) (by decide), ⟨h.1 135 (by decide) (by decide), h.1 136 (by decide) (by decide), h.1 137 (by decide) (by decide), h.1 138 (by decide) (by decide), h.1 139 (by decide) (by decide), h.1 140 (by decide) (by decide), h.1 141 (by decide) (by decide), h.1 142 (by decide) (by decide), h.1 143 (by decide) (by decide), h.1 144 (by decide) (by decide), h.1 145 (by decide) (by decide), h.1 146 (by decide) (by decide), h.1 147 (by decide) (by decide), h.1 148 (by decide) (by decide), h.1 149 (by decide) (by decide), h.1 150 (by decide) (by decide), h.1 151 (by decide) (by decide), h.1 152 (by decide) (by decide), h.1 153 (by decide) (by decide), h.1 154 (by decide) (by decide), h.1 155 (by decide) (by decide), h.1 156 (by decide) (by decide), h.1 157 (by decide) (by decide), h.1 158 (by decide) (by decide), h.1 159 (by decide) (by decide), h.1 160 (by decide) (by decide), h.1 161 (by decide) (by decide), h.1 162 (by decide) (by decide), h.1 163 (by decide) (by decide)⟩, h.2 (134, 2, 135) (by decide +kernel), h.2 (134, 3, 136) (by decide +kernel), h.2 (134, 4, 137) (by decide +kernel), h.2 (134, 5, 138) (by decide +kernel), h.2 (134, 6, 139) (by decide +kernel), h.2 (134, 7, 140) (by decide +kernel), h.2 (134, 8, 141) (by decide +kernel), h.2 (134, 15, 142) (by decide +kernel), h.2 (134, 16, 143) (by decide +kernel), h.2 (134, 18, 144) (by decide +kernel), h.2 (134, 20, 145) (by decide +kernel), h.2 (134, 22, 146) (by decide +kernel), h.2 (134, 25, 147) (by decide +kernel), h.2 (134, 26, 148) (by decide +kernel), h.2 (134, 28, 149) (by decide +kernel), h.2 (134, 30, 150) (by decide +kernel), h.2 (134, 31, 151) (by decide +kernel), h.2 (134, 34, 152) (by decide +kernel), h.2 (134, 35, 153) (by decide +kernel), h.2 (134, 36, 154) (by decide +kernel), h.2 (134, 37, 155) (by decide +kernel), h.2 (134, 38, 156) (by decide +kernel), h.2 (134, 40, 157) (by decide +kernel), h.2 (134, 41, 158) (by decide +kernel), h.2 (134, 42, 159) (by decide +kernel), h.2 (134, 46, 160) (by decide +kernel), h.2 (134, 47, 161) (by decide +kernel), h.2 (134, 49, 162) (by decide +kernel), h.2 (134, 51, 163) (by decide +kernel)⟩
/-- an interchange -/
def IW (K : Nat → Option (Nat × Nat)) (R : Nat → Int → Option Nat) (o : Nat) : Prop := (K o = some (2, 22) ∧ K (o + 1) = some (21, 400) ∧ K (o + 2) = some (26, 40) ∧ K (o + 3) = some (22, 120) ∧ K (o + 4) = some (22, 120) ∧ K (o + 5) = some (22, 120) ∧ K (o + 6) = some (22, 120) ∧ K (o + 7) = some (20, 20) ∧ K (o + 8) = some (20, 20) ∧ K (o + 9) = some (20, 20) ∧ K (o + 10) = some (20, 20) ∧ K (o + 11) = some (20, 20) ∧ K (o + 12) = some (20, 20) ∧ K (o + 13) = some (20, 20) ∧ K (o + 14) = some (10, 4) ∧ K (o + 16) = some (10, 4)) ∧ (R o 0 = some (o + 1) ∧ R o 2 = some (o + 2) ∧ R o 4 = some (o + 3) ∧ R o 5 = some (o + 4) ∧ R o 7 = some (o + 5) ∧ R o 8 = some (o + 6) ∧ R o 10 = some (o + 7) ∧ R o 11 = some (o + 8) ∧ R o 12 = some (o + 9) ∧ R o 13 = some (o + 10) ∧ R o 14 = some (o + 11) ∧ R o 16 = some (o + 12) ∧ R o 17 = some (o + 13) ∧ R o 20 = some (o + 14) ∧ R o 21 = some (o + 16)) ∧ (∀ i : Int, 0 ≤ i ∧ i < 40 → K (o + 18 + i.toNat) = some (3, 3)) ∧ ∀ i : Int, 0 ≤ i ∧ i < 40 → R (o + 2) i = some (o + 18 + i.toNat)
theorem ik0 (h : IW K R o) : K o = some (2, 22) := h.1.1
theorem ik1 (h : IW K R o) : K (o + 1) = some (21, 400) := h.1.2.1
theorem ik2 (h : IW K R o) : K (o + 2) = some (26, 40) := h.1.2.2.1
theorem ik3 (h : IW K R o) : K (o + 3) = some (22, 120) := h.1.2.2.2.1
theorem ik4 (h : IW K R o) : K (o + 4) = some (22, 120) := h.1.2.2.2.2.1
theorem ik5 (h : IW K R o) : K (o + 5) = some (22, 120) := h.1.2.2.2.2.2.1
theorem ik6 (h : IW K R o) : K (o + 6) = some (22, 120) := h.1.2.2.2.2.2.2.1
theorem ik7 (h : IW K R o) : K (o + 7) = some (20, 20) := h.1.2.2.2.2.2.2.2.1
theorem ik8 (h : IW K R o) : K (o + 8) = some (20, 20) := h.1.2.2.2.2.2.2.2.2.1
theorem ik9 (h : IW K R o) : K (o + 9) = some (20, 20) := h.1.2.2.2.2.2.2.2.2.2.1
theorem ik10 (h : IW K R o) : K (o + 10) = some (20, 20) := h.1.2.2.2.2.2.2.2.2.2.2.1
theorem ik11 (h : IW K R o) : K (o + 11) = some (20, 20) := h.1.2.2.2.2.2.2.2.2.2.2.2.1
theorem ik12 (h : IW K R o) : K (o + 12) = some (20, 20) := h.1.2.2.2.2.2.2.2.2.2.2.2.2.1
theorem ik13 (h : IW K R o) : K (o + 13) = some (20, 20) := h.1.2.2.2.2.2.2.2.2.2.2.2.2.2.1
theorem ik14 (h : IW K R o) : K (o + 14) = some (10, 4) := h.1.2.2.2.2.2.2.2.2.2.2.2.2.2.2.1
theorem ik16 (h : IW K R o) : K (o + 16) = some (10, 4) := h.1.2.2.2.2.2.2.2.2.2.2.2.2.2.2.2
theorem ir0 (h : IW K R o) : R o 0 = some (o + 1) := h.2.1.1
theorem ir2 (h : IW K R o) : R o 2 = some (o + 2) := h.2.1.2.1
theorem ir4 (h : IW K R o) : R o 4 = some (o + 3) := h.2.1.2.2.1
theorem ir5 (h : IW K R o) : R o 5 = some (o + 4) := h.2.1.2.2.2.1
theorem ir7 (h : IW K R o) : R o 7 = some (o + 5) := h.2.1.2.2.2.2.1
theorem ir8 (h : IW K R o) : R o 8 = some (o + 6) := h.2.1.2.2.2.2.2.1
theorem ir10 (h : IW K R o) : R o 10 = some (o + 7) := h.2.1.2.2.2.2.2.2.1
theorem ir11 (h : IW K R o) : R o 11 = some (o + 8) := h.2.1.2.2.2.2.2.2.2.1
theorem ir12 (h : IW K R o) : R o 12 = some (o + 9) := h.2.1.2.2.2.2.2.2.2.2.1
theorem ir13 (h : IW K R o) : R o 13 = some (o + 10) := h.2.1.2.2.2.2.2.2.2.2.2.1
theorem ir14 (h : IW K R o) : R o 14 = some (o + 11) := h.2.1.2.2.2.2.2.2.2.2.2.2.1
theorem ir16 (h : IW K R o) : R o 16 = some (o + 12) := h.2.1.2.2.2.2.2.2.2.2.2.2.2.1
theorem ir17 (h : IW K R o) : R o 17 = some (o + 13) := h.2.1.2.2.2.2.2.2.2.2.2.2.2.2.1
theorem ir20 (h : IW K R o) : R o 20 = some (o + 14) := h.2.1.2.2.2.2.2.2.2.2.2.2.2.2.2.1
theorem ir21 (h : IW K R o) : R o 21 = some (o + 16) := h.2.1.2.2.2.2.2.2.2.2.2.2.2.2.2.2
theorem iks (h : IW K R o) (hi : 0 ≤ i ∧ i < 40) : K (o + 18 + i.toNat) = some (3, 3) := h.2.2.1 i hi
theorem irs (h : IW K R o) (hi : 0 ≤ i ∧ i < 40) : R (o + 2) i = some (o + 18 + i.toNat) := h.2.2.2 i hi
theorem RFs : (List.range 40).all (fun j => decide (((9 : Nat), (j : Int), 25 + j) ∈ RFL) && decide (((67 : Nat), (j : Int), 83 + j) ∈ RFL)) = true := by decide +kernel
theorem KDs : (List.range 40).all (fun j => decide (kd0 (25 + j) = some (3, 3)) && decide (kd0 (83 + j) = some (3, 3))) = true := by decide +kernel
theorem WD.iw (h : WD K R) (ho : o = 7 ∨ o = 65) : IW K R o := by
  rcases ho with rfl | rfl
  · refine ⟨⟨h.1 7 (by decide) (by decide), h.1 8 (by decide) (by decide), h.1 9 (by decide) (by decide), h.1 10 (by decide) (by decide), h.1 11 (by decide) (by decide), h.1 12 (by decide) (by decide), h.1 13 (by decide) (by decide), h.1 14 (by decide) (by decide), h.1 15 (by decide) (by decide), h.1 16 (by decide) (by decide), h.1 17 (by decide) (by decide), h.1 18 (by decide) (by decide), h.1 19 (by decide) (by decide), h.1 20 (by decide) (by decide), h.1 21 (by decide) (by decide), h.1 23 (by decide) (by decide)⟩, ⟨h.2 (7, 0, 8) (by decide +kernel), h.2 (7, 2, 9) (by decide +kernel), h.2 (7, 4, 10) (by decide +kernel), h.2 (7, 5, 11) (by decide +kernel), h.2 (7, 7, 12) (by decide +kernel), h.2 (7, 8, 13) (by decide +kernel), h.2 (7, 10, 14) (by decide +kernel), h.2 (7, 11, 15) (by decide +kernel), h.2 (7, 12, 16) (by decide +kernel), h.2 (7, 13, 17) (by decide +kernel), h.2 (7, 14, 18) (by decide +kernel), h.2 (7, 16, 19) (by decide +kernel), h.2 (7, 17, 20) (by decide +kernel), h.2 (7, 20, 21) (by decide +kernel), h.2 (7, 21, 23) (by decide +kernel)⟩, fun i hi => ?_, fun i hi => ?_⟩
    · rw [h.1 _ (by omega) (by omega)]
      have h9 := List.all_eq_true.mp KDs i.toNat (List.mem_range.mpr (by omega))
      rw [Bool.and_eq_true] at h9
      exact of_decide_eq_true h9.1
    · have h9 := List.all_eq_true.mp RFs i.toNat (List.mem_range.mpr (by omega))
      rw [Bool.and_eq_true] at h9
      have h8 := h.2 _ (of_decide_eq_true h9.1)
      rw [Int.toNat_of_nonneg hi.1] at h8
      exact h8
  · refine ⟨⟨h.1 65 (by decide) (by decide), h.1 66 (by decide) (by decide), h.1 67 (by decide) (by decide), h.1 68 (by decide) (by decide), h.1 69 (by decide) (by decide), h.1 70 (by decide) (by decide), h.1 71 (by decide) (by decide), h.1 72 (by decide) (by decide), h.1 73 (by decide) (by decide), h.1 74 (by decide) (by decide), h.1 75 (by decide) (by decide), h.1 76 (by decide) (by decide), h.1 77 (by decide) (by decide), h.1 78 (by decide) (by decide), h.1 79 (by decide) (by decide), h.1 81 (by decide) (by decide)⟩, ⟨h.2 (65, 0, 66) (by decide +kernel), h.2 (65, 2, 67) (by decide +kernel), h.2 (65, 4, 68) (by decide +kernel), h.2 (65, 5, 69) (by decide +kernel), h.2 (65, 7, 70) (by decide +kernel), h.2 (65, 8, 71) (by decide +kernel), h.2 (65, 10, 72) (by decide +kernel), h.2 (65, 11, 73) (by decide +kernel), h.2 (65, 12, 74) (by decide +kernel), h.2 (65, 13, 75) (by decide +kernel), h.2 (65, 14, 76) (by decide +kernel), h.2 (65, 16, 77) (by decide +kernel), h.2 (65, 17, 78) (by decide +kernel), h.2 (65, 20, 79) (by decide +kernel), h.2 (65, 21, 81) (by decide +kernel)⟩, fun i hi => ?_, fun i hi => ?_⟩
    · rw [h.1 _ (by omega) (by omega)]
      have h9 := List.all_eq_true.mp KDs i.toNat (List.mem_range.mpr (by omega))
      rw [Bool.and_eq_true] at h9
      exact of_decide_eq_true h9.2
    · have h9 := List.all_eq_true.mp RFs i.toNat (List.mem_range.mpr (by omega))
      rw [Bool.and_eq_true] at h9
      have h8 := h.2 _ (of_decide_eq_true h9.2)
      rw [Int.toNat_of_nonneg hi.1] at h8
      exact h8
theorem RFL_lt : RFL.all (fun f => Nat.blt f.1 165) = true := by decide +kernel
theorem rfl_lt {f : Nat × Int × Nat} (h : f ∈ RFL) : f.1 < 165 := Nat.lt_of_succ_le (Nat.le_of_ble_eq_true (List.all_eq_true.mp RFL_lt f h))
def nfx (a : Nat) (j : Int) : Bool := RFL.all (fun f => !(Nat.beq f.1 a && decide (f.2.1 = j)))
theorem WD.stR {a : Nat} {j : Int} {v : Option Nat} (h : WD (hK x) (hR x)) (hn : nfx a j = true) : WD (hK (stR x a j v)) (hR (stR x a j v)) := by
  refine ⟨h.1, fun f hf => ?_⟩
  have h9 := List.all_eq_true.mp hn f hf
  rw [← h.2 f hf]
  by_cases e : f.1 = a
  · have hj : ¬ f.2.1 = j := by
      intro e2
      rw [e, e2] at h9
      simp at h9
    rw [e, hR_stR_s, up_n hj]
  · rw [hR_stR_n e]
theorem nfx_ge {a : Nat} {j : Int} (h : 165 ≤ a) : nfx a j = true := by
  unfold nfx
  rw [List.all_eq_true]
  intro f hf
  have h1 := rfl_lt hf
  have h2 : Nat.beq f.1 a = false := by
    cases h3 : Nat.beq f.1 a with
    | false => rfl
    | true => have := Nat.eq_of_beq_eq_true h3; omega
  rw [h2]
  rfl
theorem WD.nw {c n : Nat} (h : WD (hK x) (hR x)) (hn : 165 ≤ hN x) : WD (hK (nwO x c n)) (hR (nwO x c n)) := by
  refine ⟨fun q h1 h2 => ?_, fun f hf => ?_⟩
  · rw [hK_nw_n (by omega)]; exact h.1 q h1 h2
  · have := rfl_lt hf
    rw [hR_nw_n (by omega)]; exact h.2 f hf
theorem WD.of {y : HP} (h : WD (hK x) (hR x)) (hk : ∀ q, q < 165 → hK y q = hK x q) (hr : ∀ f ∈ RFL, hR y f.1 f.2.1 = hR x f.1 f.2.1) : WD (hK y) (hR y) := ⟨fun q h1 h2 => by rw [hk q h2]; exact h.1 q h1 h2, fun f hf => by rw [hr f hf]; exact h.2 f hf⟩
end
