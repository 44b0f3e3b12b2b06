/-! rules of instructions, printed by gen/gen05.py -/
section
variable {r q p d s : Nat} {a0 a1 a2 a3 a4 a5 a6 a7 a8 b0 b1 b2 b3 b4 b5 b6 : AV} {ls st : List AV} {x : HP} {Q : AO → HP → Prop} {z w i n sp dp z0 z1 z2 z3 z4 z5 : Int} {o o0 o1 o2 o3 o4 o5 : Option Nat}
/-! 85 M_init -/
theorem u85_0 : wp r 85 0 [vR o, a1] st x Q ↔ wp r 85 1 [vR o, a1] (vR o :: st) x Q := (wp_u (show cd 85 0 = some (.aload_n 0, 1, 0, 0, 0, 0) from rfl))
theorem u85_1 : wp r 85 1 ls (vA q :: st) x Q ↔ nnk (hK x q) ∧ sml st = true ∧ wp r 85 4 ls st x Q := (wp_u (show cd 85 1 = some (.invokespecial 1, 3, 1000, 1, 0, 0) from rfl)).trans (g_obj rfl)
theorem u85_4 : wp r 85 4 [vR o, a1] st x Q ↔ wp r 85 5 [vR o, a1] (vR o :: st) x Q := (wp_u (show cd 85 4 = some (.aload_n 0, 1, 0, 0, 0, 0) from rfl))
theorem u85_5 : wp r 85 5 ls st x Q ↔ wp r 85 8 ls (vI 400 :: st) x Q := (wp_u (show cd 85 5 = some (.sipush 400, 3, 0, 0, 0, 0) from rfl))
theorem u85_8 : wp r 85 8 ls (vI z :: st) x Q ↔ (0 ≤ z ∧ z ≤ 100000) ∧ nok x z.toNat ∧ wp r 85 10 ls (vA (hN x) :: st) (nwO x 20 z.toNat) Q := (wp_u (show cd 85 8 = some (.newarray .int, 2, 20, 0, 0, 0) from rfl)).trans g_newA
theorem u85_10 : wp r 85 10 ls (vR o :: vA q :: st) x Q ↔ sbk 9 (hK x q) ∧ wp r 85 13 ls st (stR x q 2 o) Q := (wp_u (show cd 85 10 = some (.putfield 7, 3, 9, 2, 5, 0) from rfl)).trans g_putR
theorem u85_13 : wp r 85 13 [vR o, a1] st x Q ↔ wp r 85 14 [vR o, a1] (vR o :: st) x Q := (wp_u (show cd 85 13 = some (.aload_n 0, 1, 0, 0, 0, 0) from rfl))
theorem u85_14 : wp r 85 14 ls st x Q ↔ wp r 85 15 ls (vI 4 :: st) x Q := (wp_u (show cd 85 14 = some (.iconst 4, 1, 0, 0, 0, 0) from rfl))
theorem u85_15 : wp r 85 15 ls (vI z :: st) x Q ↔ (0 ≤ z ∧ z ≤ 100000) ∧ nok x z.toNat ∧ wp r 85 17 ls (vA (hN x) :: st) (nwO x 20 z.toNat) Q := (wp_u (show cd 85 15 = some (.newarray .int, 2, 20, 0, 0, 0) from rfl)).trans g_newA
theorem u85_17 : wp r 85 17 ls (vR o :: vA q :: st) x Q ↔ sbk 9 (hK x q) ∧ wp r 85 20 ls st (stR x q 3 o) Q := (wp_u (show cd 85 17 = some (.putfield 13, 3, 9, 3, 5, 0) from rfl)).trans g_putR
theorem u85_20 : wp r 85 20 [vR o, a1] st x Q ↔ wp r 85 21 [vR o, a1] (vR o :: st) x Q := (wp_u (show cd 85 20 = some (.aload_n 0, 1, 0, 0, 0, 0) from rfl))
theorem u85_21 : wp r 85 21 ls st x Q ↔ wp r 85 23 ls (vI 96 :: st) x Q := (wp_u (show cd 85 21 = some (.bipush 96, 2, 0, 0, 0, 0) from rfl))
theorem u85_23 : wp r 85 23 ls (vI z :: st) x Q ↔ (0 ≤ z ∧ z ≤ 100000) ∧ nok x z.toNat ∧ wp r 85 25 ls (vA (hN x) :: st) (nwO x 20 z.toNat) Q := (wp_u (show cd 85 23 = some (.newarray .int, 2, 20, 0, 0, 0) from rfl)).trans g_newA
theorem u85_25 : wp r 85 25 ls (vR o :: vA q :: st) x Q ↔ sbk 9 (hK x q) ∧ wp r 85 28 ls st (stR x q 4 o) Q := (wp_u (show cd 85 25 = some (.putfield 16, 3, 9, 4, 5, 0) from rfl)).trans g_putR
theorem u85_28 : wp r 85 28 [vR o, a1] st x Q ↔ wp r 85 29 [vR o, a1] (vR o :: st) x Q := (wp_u (show cd 85 28 = some (.aload_n 0, 1, 0, 0, 0, 0) from rfl))
theorem u85_29 : wp r 85 29 ls st x Q ↔ wp r 85 31 ls (vI 96 :: st) x Q := (wp_u (show cd 85 29 = some (.bipush 96, 2, 0, 0, 0, 0) from rfl))
theorem u85_31 : wp r 85 31 ls (vI z :: st) x Q ↔ (0 ≤ z ∧ z ≤ 100000) ∧ nok x z.toNat ∧ wp r 85 33 ls (vA (hN x) :: st) (nwO x 24 z.toNat) Q := (wp_u (show cd 85 31 = some (.newarray .boolean, 2, 24, 0, 0, 0) from rfl)).trans g_newA
theorem u85_33 : wp r 85 33 ls (vR o :: vA q :: st) x Q ↔ sbk 9 (hK x q) ∧ wp r 85 36 ls st (stR x q 5 o) Q := (wp_u (show cd 85 33 = some (.putfield 19, 3, 9, 5, 5, 0) from rfl)).trans g_putR
theorem u85_36 : wp r 85 36 [vR o, a1] st x Q ↔ wp r 85 37 [vR o, a1] (vR o :: st) x Q := (wp_u (show cd 85 36 = some (.aload_n 0, 1, 0, 0, 0, 0) from rfl))
theorem u85_37 : wp r 85 37 ls st x Q ↔ wp r 85 39 ls (vI 96 :: st) x Q := (wp_u (show cd 85 37 = some (.bipush 96, 2, 0, 0, 0, 0) from rfl))
theorem u85_39 : wp r 85 39 ls (vI z :: st) x Q ↔ (0 ≤ z ∧ z ≤ 100000) ∧ nok x z.toNat ∧ wp r 85 41 ls (vA (hN x) :: st) (nwO x 20 z.toNat) Q := (wp_u (show cd 85 39 = some (.newarray .int, 2, 20, 0, 0, 0) from rfl)).trans g_newA
theorem u85_41 : wp r 85 41 ls (vR o :: vA q :: st) x Q ↔ sbk 9 (hK x q) ∧ wp r 85 44 ls st (stR x q 6 o) Q := (wp_u (show cd 85 41 = some (.putfield 23, 3, 9, 6, 5, 0) from rfl)).trans g_putR
theorem u85_44 : wp r 85 44 [vR o, a1] st x Q ↔ wp r 85 45 [vR o, a1] (vR o :: st) x Q := (wp_u (show cd 85 44 = some (.aload_n 0, 1, 0, 0, 0, 0) from rfl))
theorem u85_45 : wp r 85 45 ls st x Q ↔ wp r 85 47 ls (vI 96 :: st) x Q := (wp_u (show cd 85 45 = some (.bipush 96, 2, 0, 0, 0, 0) from rfl))
theorem u85_47 : wp r 85 47 ls (vI z :: st) x Q ↔ (0 ≤ z ∧ z ≤ 100000) ∧ nok x z.toNat ∧ wp r 85 49 ls (vA (hN x) :: st) (nwO x 20 z.toNat) Q := (wp_u (show cd 85 47 = some (.newarray .int, 2, 20, 0, 0, 0) from rfl)).trans g_newA
theorem u85_49 : wp r 85 49 ls (vR o :: vA q :: st) x Q ↔ sbk 9 (hK x q) ∧ wp r 85 52 ls st (stR x q 7 o) Q := (wp_u (show cd 85 49 = some (.putfield 26, 3, 9, 7, 5, 0) from rfl)).trans g_putR
theorem u85_52 : wp r 85 52 [vR o, a1] st x Q ↔ wp r 85 53 [vR o, a1] (vR o :: st) x Q := (wp_u (show cd 85 52 = some (.aload_n 0, 1, 0, 0, 0, 0) from rfl))
theorem u85_53 : wp r 85 53 ls st x Q ↔ wp r 85 54 ls (vI 4 :: st) x Q := (wp_u (show cd 85 53 = some (.iconst 4, 1, 0, 0, 0, 0) from rfl))
theorem u85_54 : wp r 85 54 ls (vI z :: st) x Q ↔ (0 ≤ z ∧ z ≤ 100000) ∧ nok x z.toNat ∧ wp r 85 56 ls (vA (hN x) :: st) (nwO x 20 z.toNat) Q := (wp_u (show cd 85 54 = some (.newarray .int, 2, 20, 0, 0, 0) from rfl)).trans g_newA
theorem u85_56 : wp r 85 56 ls (vR o :: vA q :: st) x Q ↔ sbk 9 (hK x q) ∧ wp r 85 59 ls st (stR x q 8 o) Q := (wp_u (show cd 85 56 = some (.putfield 29, 3, 9, 8, 5, 0) from rfl)).trans g_putR
theorem u85_59 : wp r 85 59 [vR o, a1] st x Q ↔ wp r 85 60 [vR o, a1] (vR o :: st) x Q := (wp_u (show cd 85 59 = some (.aload_n 0, 1, 0, 0, 0, 0) from rfl))
theorem u85_60 : wp r 85 60 ls st x Q ↔ wp r 85 61 ls (vI (-1) :: st) x Q := (wp_u (show cd 85 60 = some (.iconst (-1), 1, 0, 0, 0, 0) from rfl))
theorem u85_61 : wp r 85 61 ls (vI z :: vA q :: st) x Q ↔ sbk 9 (hK x q) ∧ wp r 85 64 ls st (stI x q 13 z) Q := (wp_u (show cd 85 61 = some (.putfield 32, 3, 9, 13, 0, 0) from rfl)).trans g_putI0
theorem u85_64 : wp r 85 64 [vR o, a1] st x Q ↔ wp r 85 65 [vR o, a1] (vR o :: st) x Q := (wp_u (show cd 85 64 = some (.aload_n 0, 1, 0, 0, 0, 0) from rfl))
theorem u85_65 : wp r 85 65 ls st x Q ↔ wp r 85 67 ls (vI 41 :: st) x Q := (wp_u (show cd 85 65 = some (.bipush 41, 2, 0, 0, 0, 0) from rfl))
theorem u85_67 : wp r 85 67 ls (vI z :: st) x Q ↔ (0 ≤ z ∧ z ≤ 100000) ∧ nok x z.toNat ∧ wp r 85 69 ls (vA (hN x) :: st) (nwO x 20 z.toNat) Q := (wp_u (show cd 85 67 = some (.newarray .int, 2, 20, 0, 0, 0) from rfl)).trans g_newA
theorem u85_69 : wp r 85 69 ls (vR o :: vA q :: st) x Q ↔ sbk 9 (hK x q) ∧ wp r 85 72 ls st (stR x q 15 o) Q := (wp_u (show cd 85 69 = some (.putfield 36, 3, 9, 15, 5, 0) from rfl)).trans g_putR
theorem u85_72 : wp r 85 72 [vR o, a1] st x Q ↔ wp r 85 73 [vR o, a1] (vR o :: st) x Q := (wp_u (show cd 85 72 = some (.aload_n 0, 1, 0, 0, 0, 0) from rfl))
theorem u85_73 : wp r 85 73 ls st x Q ↔ wp r 85 75 ls (vI 42 :: st) x Q := (wp_u (show cd 85 73 = some (.bipush 42, 2, 0, 0, 0, 0) from rfl))
theorem u85_75 : wp r 85 75 ls (vI z :: st) x Q ↔ (0 ≤ z ∧ z ≤ 100000) ∧ nok x z.toNat ∧ wp r 85 77 ls (vA (hN x) :: st) (nwO x 20 z.toNat) Q := (wp_u (show cd 85 75 = some (.newarray .int, 2, 20, 0, 0, 0) from rfl)).trans g_newA
theorem u85_77 : wp r 85 77 ls (vR o :: vA q :: st) x Q ↔ sbk 9 (hK x q) ∧ wp r 85 80 ls st (stR x q 16 o) Q := (wp_u (show cd 85 77 = some (.putfield 39, 3, 9, 16, 5, 0) from rfl)).trans g_putR
theorem u85_80 : wp r 85 80 [vR o, a1] st x Q ↔ wp r 85 81 [vR o, a1] (vR o :: st) x Q := (wp_u (show cd 85 80 = some (.aload_n 0, 1, 0, 0, 0, 0) from rfl))
theorem u85_81 : wp r 85 81 ls st x Q ↔ wp r 85 83 ls (vI 124 :: st) x Q := (wp_u (show cd 85 81 = some (.bipush 124, 2, 0, 0, 0, 0) from rfl))
theorem u85_83 : wp r 85 83 ls (vI z :: st) x Q ↔ (0 ≤ z ∧ z ≤ 100000) ∧ nok x z.toNat ∧ wp r 85 85 ls (vA (hN x) :: st) (nwO x 20 z.toNat) Q := (wp_u (show cd 85 83 = some (.newarray .int, 2, 20, 0, 0, 0) from rfl)).trans g_newA
theorem u85_85 : wp r 85 85 ls (vR o :: vA q :: st) x Q ↔ sbk 9 (hK x q) ∧ wp r 85 88 ls st (stR x q 18 o) Q := (wp_u (show cd 85 85 = some (.putfield 42, 3, 9, 18, 5, 0) from rfl)).trans g_putR
theorem u85_88 : wp r 85 88 [vR o, a1] st x Q ↔ wp r 85 89 [vR o, a1] (vR o :: st) x Q := (wp_u (show cd 85 88 = some (.aload_n 0, 1, 0, 0, 0, 0) from rfl))
theorem u85_89 : wp r 85 89 ls st x Q ↔ wp r 85 91 ls (vI 124 :: st) x Q := (wp_u (show cd 85 89 = some (.bipush 124, 2, 0, 0, 0, 0) from rfl))
theorem u85_91 : wp r 85 91 ls (vI z :: st) x Q ↔ (0 ≤ z ∧ z ≤ 100000) ∧ nok x z.toNat ∧ wp r 85 93 ls (vA (hN x) :: st) (nwO x 20 z.toNat) Q := (wp_u (show cd 85 91 = some (.newarray .int, 2, 20, 0, 0, 0) from rfl)).trans g_newA
theorem u85_93 : wp r 85 93 ls (vR o :: vA q :: st) x Q ↔ sbk 9 (hK x q) ∧ wp r 85 96 ls st (stR x q 20 o) Q := (wp_u (show cd 85 93 = some (.putfield 45, 3, 9, 20, 5, 0) from rfl)).trans g_putR
theorem u85_96 : wp r 85 96 [vR o, a1] st x Q ↔ wp r 85 97 [vR o, a1] (vR o :: st) x Q := (wp_u (show cd 85 96 = some (.aload_n 0, 1, 0, 0, 0, 0) from rfl))
theorem u85_97 : wp r 85 97 ls st x Q ↔ wp r 85 100 ls (vI 400 :: st) x Q := (wp_u (show cd 85 97 = some (.sipush 400, 3, 0, 0, 0, 0) from rfl))
theorem u85_100 : wp r 85 100 ls (vI z :: st) x Q ↔ (0 ≤ z ∧ z ≤ 100000) ∧ nok x z.toNat ∧ wp r 85 102 ls (vA (hN x) :: st) (nwO x 20 z.toNat) Q := (wp_u (show cd 85 100 = some (.newarray .int, 2, 20, 0, 0, 0) from rfl)).trans g_newA
theorem u85_102 : wp r 85 102 ls (vR o :: vA q :: st) x Q ↔ sbk 9 (hK x q) ∧ wp r 85 105 ls st (stR x q 22 o) Q := (wp_u (show cd 85 102 = some (.putfield 48, 3, 9, 22, 5, 0) from rfl)).trans g_putR
theorem u85_105 : wp r 85 105 [vR o, a1] st x Q ↔ wp r 85 106 [vR o, a1] (vR o :: st) x Q := (wp_u (show cd 85 105 = some (.aload_n 0, 1, 0, 0, 0, 0) from rfl))
theorem u85_106 : wp r 85 106 ls st x Q ↔ wp r 85 108 ls (vI 41 :: st) x Q := (wp_u (show cd 85 106 = some (.bipush 41, 2, 0, 0, 0, 0) from rfl))
theorem u85_108 : wp r 85 108 ls (vI z :: st) x Q ↔ (0 ≤ z ∧ z ≤ 100000) ∧ nok x z.toNat ∧ wp r 85 110 ls (vA (hN x) :: st) (nwO x 20 z.toNat) Q := (wp_u (show cd 85 108 = some (.newarray .int, 2, 20, 0, 0, 0) from rfl)).trans g_newA
theorem u85_110 : wp r 85 110 ls (vR o :: vA q :: st) x Q ↔ sbk 9 (hK x q) ∧ wp r 85 113 ls st (stR x q 25 o) Q := (wp_u (show cd 85 110 = some (.putfield 51, 3, 9, 25, 5, 0) from rfl)).trans g_putR
theorem u85_113 : wp r 85 113 [vR o, a1] st x Q ↔ wp r 85 114 [vR o, a1] (vR o :: st) x Q := (wp_u (show cd 85 113 = some (.aload_n 0, 1, 0, 0, 0, 0) from rfl))
theorem u85_114 : wp r 85 114 ls st x Q ↔ wp r 85 116 ls (vI 42 :: st) x Q := (wp_u (show cd 85 114 = some (.bipush 42, 2, 0, 0, 0, 0) from rfl))
theorem u85_116 : wp r 85 116 ls (vI z :: st) x Q ↔ (0 ≤ z ∧ z ≤ 100000) ∧ nok x z.toNat ∧ wp r 85 118 ls (vA (hN x) :: st) (nwO x 20 z.toNat) Q := (wp_u (show cd 85 116 = some (.newarray .int, 2, 20, 0, 0, 0) from rfl)).trans g_newA
theorem u85_118 : wp r 85 118 ls (vR o :: vA q :: st) x Q ↔ sbk 9 (hK x q) ∧ wp r 85 121 ls st (stR x q 26 o) Q := (wp_u (show cd 85 118 = some (.putfield 54, 3, 9, 26, 5, 0) from rfl)).trans g_putR
theorem u85_121 : wp r 85 121 [vR o, a1] st x Q ↔ wp r 85 122 [vR o, a1] (vR o :: st) x Q := (wp_u (show cd 85 121 = some (.aload_n 0, 1, 0, 0, 0, 0) from rfl))
theorem u85_122 : wp r 85 122 ls st x Q ↔ wp r 85 124 ls (vI 124 :: st) x Q := (wp_u (show cd 85 122 = some (.bipush 124, 2, 0, 0, 0, 0) from rfl))
theorem u85_124 : wp r 85 124 ls (vI z :: st) x Q ↔ (0 ≤ z ∧ z ≤ 100000) ∧ nok x z.toNat ∧ wp r 85 126 ls (vA (hN x) :: st) (nwO x 20 z.toNat) Q := (wp_u (show cd 85 124 = some (.newarray .int, 2, 20, 0, 0, 0) from rfl)).trans g_newA
theorem u85_126 : wp r 85 126 ls (vR o :: vA q :: st) x Q ↔ sbk 9 (hK x q) ∧ wp r 85 129 ls st (stR x q 28 o) Q := (wp_u (show cd 85 126 = some (.putfield 57, 3, 9, 28, 5, 0) from rfl)).trans g_putR
theorem u85_129 : wp r 85 129 [vR o, a1] st x Q ↔ wp r 85 130 [vR o, a1] (vR o :: st) x Q := (wp_u (show cd 85 129 = some (.aload_n 0, 1, 0, 0, 0, 0) from rfl))
theorem u85_130 : wp r 85 130 ls st x Q ↔ wp r 85 132 ls (vI 124 :: st) x Q := (wp_u (show cd 85 130 = some (.bipush 124, 2, 0, 0, 0, 0) from rfl))
theorem u85_132 : wp r 85 132 ls (vI z :: st) x Q ↔ (0 ≤ z ∧ z ≤ 100000) ∧ nok x z.toNat ∧ wp r 85 134 ls (vA (hN x) :: st) (nwO x 20 z.toNat) Q := (wp_u (show cd 85 132 = some (.newarray .int, 2, 20, 0, 0, 0) from rfl)).trans g_newA
theorem u85_134 : wp r 85 134 ls (vR o :: vA q :: st) x Q ↔ sbk 9 (hK x q) ∧ wp r 85 137 ls st (stR x q 30 o) Q := (wp_u (show cd 85 134 = some (.putfield 60, 3, 9, 30, 5, 0) from rfl)).trans g_putR
theorem u85_137 : wp r 85 137 [vR o, a1] st x Q ↔ wp r 85 138 [vR o, a1] (vR o :: st) x Q := (wp_u (show cd 85 137 = some (.aload_n 0, 1, 0, 0, 0, 0) from rfl))
theorem u85_138 : wp r 85 138 ls st x Q ↔ wp r 85 141 ls (vI 400 :: st) x Q := (wp_u (show cd 85 138 = some (.sipush 400, 3, 0, 0, 0, 0) from rfl))
theorem u85_141 : wp r 85 141 ls (vI z :: st) x Q ↔ (0 ≤ z ∧ z ≤ 100000) ∧ nok x z.toNat ∧ wp r 85 143 ls (vA (hN x) :: st) (nwO x 20 z.toNat) Q := (wp_u (show cd 85 141 = some (.newarray .int, 2, 20, 0, 0, 0) from rfl)).trans g_newA
theorem u85_143 : wp r 85 143 ls (vR o :: vA q :: st) x Q ↔ sbk 9 (hK x q) ∧ wp r 85 146 ls st (stR x q 31 o) Q := (wp_u (show cd 85 143 = some (.putfield 63, 3, 9, 31, 5, 0) from rfl)).trans g_putR
theorem u85_146 : wp r 85 146 [vR o, a1] st x Q ↔ wp r 85 147 [vR o, a1] (vR o :: st) x Q := (wp_u (show cd 85 146 = some (.aload_n 0, 1, 0, 0, 0, 0) from rfl))
theorem u85_147 : wp r 85 147 ls st x Q ↔ wp r 85 149 ls (vI 20 :: st) x Q := (wp_u (show cd 85 147 = some (.bipush 20, 2, 0, 0, 0, 0) from rfl))
theorem u85_149 : wp r 85 149 ls (vI z :: st) x Q ↔ (0 ≤ z ∧ z ≤ 100000) ∧ nok x z.toNat ∧ wp r 85 151 ls (vA (hN x) :: st) (nwO x 20 z.toNat) Q := (wp_u (show cd 85 149 = some (.newarray .int, 2, 20, 0, 0, 0) from rfl)).trans g_newA
theorem u85_151 : wp r 85 151 ls (vR o :: vA q :: st) x Q ↔ sbk 9 (hK x q) ∧ wp r 85 154 ls st (stR x q 34 o) Q := (wp_u (show cd 85 151 = some (.putfield 66, 3, 9, 34, 5, 0) from rfl)).trans g_putR
theorem u85_154 : wp r 85 154 [vR o, a1] st x Q ↔ wp r 85 155 [vR o, a1] (vR o :: st) x Q := (wp_u (show cd 85 154 = some (.aload_n 0, 1, 0, 0, 0, 0) from rfl))
theorem u85_155 : wp r 85 155 ls st x Q ↔ wp r 85 157 ls (vI 20 :: st) x Q := (wp_u (show cd 85 155 = some (.bipush 20, 2, 0, 0, 0, 0) from rfl))
theorem u85_157 : wp r 85 157 ls (vI z :: st) x Q ↔ (0 ≤ z ∧ z ≤ 100000) ∧ nok x z.toNat ∧ wp r 85 159 ls (vA (hN x) :: st) (nwO x 20 z.toNat) Q := (wp_u (show cd 85 157 = some (.newarray .int, 2, 20, 0, 0, 0) from rfl)).trans g_newA
theorem u85_159 : wp r 85 159 ls (vR o :: vA q :: st) x Q ↔ sbk 9 (hK x q) ∧ wp r 85 162 ls st (stR x q 35 o) Q := (wp_u (show cd 85 159 = some (.putfield 69, 3, 9, 35, 5, 0) from rfl)).trans g_putR
theorem u85_162 : wp r 85 162 [vR o, a1] st x Q ↔ wp r 85 163 [vR o, a1] (vR o :: st) x Q := (wp_u (show cd 85 162 = some (.aload_n 0, 1, 0, 0, 0, 0) from rfl))
theorem u85_163 : wp r 85 163 ls st x Q ↔ wp r 85 165 ls (vI 20 :: st) x Q := (wp_u (show cd 85 163 = some (.bipush 20, 2, 0, 0, 0, 0) from rfl))
theorem u85_165 : wp r 85 165 ls (vI z :: st) x Q ↔ (0 ≤ z ∧ z ≤ 100000) ∧ nok x z.toNat ∧ wp r 85 167 ls (vA (hN x) :: st) (nwO x 20 z.toNat) Q := (wp_u (show cd 85 165 = some (.newarray .int, 2, 20, 0, 0, 0) from rfl)).trans g_newA
theorem u85_167 : wp r 85 167 ls (vR o :: vA q :: st) x Q ↔ sbk 9 (hK x q) ∧ wp r 85 170 ls st (stR x q 36 o) Q := (wp_u (show cd 85 167 = some (.putfield 72, 3, 9, 36, 5, 0) from rfl)).trans g_putR
theorem u85_170 : wp r 85 170 [vR o, a1] st x Q ↔ wp r 85 171 [vR o, a1] (vR o :: st) x Q := (wp_u (show cd 85 170 = some (.aload_n 0, 1, 0, 0, 0, 0) from rfl))
theorem u85_171 : wp r 85 171 ls st x Q ↔ wp r 85 173 ls (vI 20 :: st) x Q := (wp_u (show cd 85 171 = some (.bipush 20, 2, 0, 0, 0, 0) from rfl))
theorem u85_173 : wp r 85 173 ls (vI z :: st) x Q ↔ (0 ≤ z ∧ z ≤ 100000) ∧ nok x z.toNat ∧ wp r 85 175 ls (vA (hN x) :: st) (nwO x 20 z.toNat) Q := (wp_u (show cd 85 173 = some (.newarray .int, 2, 20, 0, 0, 0) from rfl)).trans g_newA
theorem u85_175 : wp r 85 175 ls (vR o :: vA q :: st) x Q ↔ sbk 9 (hK x q) ∧ wp r 85 178 ls st (stR x q 37 o) Q := (wp_u (show cd 85 175 = some (.putfield 75, 3, 9, 37, 5, 0) from rfl)).trans g_putR
theorem u85_178 : wp r 85 178 [vR o, a1] st x Q ↔ wp r 85 179 [vR o, a1] (vR o :: st) x Q := (wp_u (show cd 85 178 = some (.aload_n 0, 1, 0, 0, 0, 0) from rfl))
theorem u85_179 : wp r 85 179 ls st x Q ↔ wp r 85 181 ls (vI 20 :: st) x Q := (wp_u (show cd 85 179 = some (.bipush 20, 2, 0, 0, 0, 0) from rfl))
theorem u85_181 : wp r 85 181 ls (vI z :: st) x Q ↔ (0 ≤ z ∧ z ≤ 100000) ∧ nok x z.toNat ∧ wp r 85 183 ls (vA (hN x) :: st) (nwO x 20 z.toNat) Q := (wp_u (show cd 85 181 = some (.newarray .int, 2, 20, 0, 0, 0) from rfl)).trans g_newA
theorem u85_183 : wp r 85 183 ls (vR o :: vA q :: st) x Q ↔ sbk 9 (hK x q) ∧ wp r 85 186 ls st (stR x q 38 o) Q := (wp_u (show cd 85 183 = some (.putfield 78, 3, 9, 38, 5, 0) from rfl)).trans g_putR
theorem u85_186 : wp r 85 186 [vR o, a1] st x Q ↔ wp r 85 187 [vR o, a1] (vR o :: st) x Q := (wp_u (show cd 85 186 = some (.aload_n 0, 1, 0, 0, 0, 0) from rfl))
theorem u85_187 : wp r 85 187 ls st x Q ↔ wp r 85 189 ls (vI 20 :: st) x Q := (wp_u (show cd 85 187 = some (.bipush 20, 2, 0, 0, 0, 0) from rfl))
theorem u85_189 : wp r 85 189 ls (vI z :: st) x Q ↔ (0 ≤ z ∧ z ≤ 100000) ∧ nok x z.toNat ∧ wp r 85 191 ls (vA (hN x) :: st) (nwO x 20 z.toNat) Q := (wp_u (show cd 85 189 = some (.newarray .int, 2, 20, 0, 0, 0) from rfl)).trans g_newA
theorem u85_191 : wp r 85 191 ls (vR o :: vA q :: st) x Q ↔ sbk 9 (hK x q) ∧ wp r 85 194 ls st (stR x q 40 o) Q := (wp_u (show cd 85 191 = some (.putfield 81, 3, 9, 40, 5, 0) from rfl)).trans g_putR
theorem u85_194 : wp r 85 194 [vR o, a1] st x Q ↔ wp r 85 195 [vR o, a1] (vR o :: st) x Q := (wp_u (show cd 85 194 = some (.aload_n 0, 1, 0, 0, 0, 0) from rfl))
theorem u85_195 : wp r 85 195 ls st x Q ↔ wp r 85 197 ls (vI 20 :: st) x Q := (wp_u (show cd 85 195 = some (.bipush 20, 2, 0, 0, 0, 0) from rfl))
theorem u85_197 : wp r 85 197 ls (vI z :: st) x Q ↔ (0 ≤ z ∧ z ≤ 100000) ∧ nok x z.toNat ∧ wp r 85 199 ls (vA (hN x) :: st) (nwO x 20 z.toNat) Q := (wp_u (show cd 85 197 = some (.newarray .int, 2, 20, 0, 0, 0) from rfl)).trans g_newA
theorem u85_199 : wp r 85 199 ls (vR o :: vA q :: st) x Q ↔ sbk 9 (hK x q) ∧ wp r 85 202 ls st (stR x q 41 o) Q := (wp_u (show cd 85 199 = some (.putfield 84, 3, 9, 41, 5, 0) from rfl)).trans g_putR
theorem u85_202 : wp r 85 202 [vR o, a1] st x Q ↔ wp r 85 203 [vR o, a1] (vR o :: st) x Q := (wp_u (show cd 85 202 = some (.aload_n 0, 1, 0, 0, 0, 0) from rfl))
theorem u85_203 : wp r 85 203 ls st x Q ↔ wp r 85 205 ls (vI 20 :: st) x Q := (wp_u (show cd 85 203 = some (.bipush 20, 2, 0, 0, 0, 0) from rfl))
theorem u85_205 : wp r 85 205 ls (vI z :: st) x Q ↔ (0 ≤ z ∧ z ≤ 100000) ∧ nok x z.toNat ∧ wp r 85 207 ls (vA (hN x) :: st) (nwO x 20 z.toNat) Q := (wp_u (show cd 85 205 = some (.newarray .int, 2, 20, 0, 0, 0) from rfl)).trans g_newA
theorem u85_207 : wp r 85 207 ls (vR o :: vA q :: st) x Q ↔ sbk 9 (hK x q) ∧ wp r 85 210 ls st (stR x q 42 o) Q := (wp_u (show cd 85 207 = some (.putfield 87, 3, 9, 42, 5, 0) from rfl)).trans g_putR
theorem u85_210 : wp r 85 210 [vR o, a1] st x Q ↔ wp r 85 211 [vR o, a1] (vR o :: st) x Q := (wp_u (show cd 85 210 = some (.aload_n 0, 1, 0, 0, 0, 0) from rfl))
theorem u85_211 : wp r 85 211 ls st x Q ↔ wp r 85 212 ls (vI 4 :: st) x Q := (wp_u (show cd 85 211 = some (.iconst 4, 1, 0, 0, 0, 0) from rfl))
theorem u85_212 : wp r 85 212 ls (vI z :: st) x Q ↔ (0 ≤ z ∧ z ≤ 100000) ∧ nok x z.toNat ∧ wp r 85 214 ls (vA (hN x) :: st) (nwO x 20 z.toNat) Q := (wp_u (show cd 85 212 = some (.newarray .int, 2, 20, 0, 0, 0) from rfl)).trans g_newA
theorem u85_214 : wp r 85 214 ls (vR o :: vA q :: st) x Q ↔ sbk 9 (hK x q) ∧ wp r 85 217 ls st (stR x q 46 o) Q := (wp_u (show cd 85 214 = some (.putfield 90, 3, 9, 46, 5, 0) from rfl)).trans g_putR
theorem u85_217 : wp r 85 217 [vR o, a1] st x Q ↔ wp r 85 218 [vR o, a1] (vR o :: st) x Q := (wp_u (show cd 85 217 = some (.aload_n 0, 1, 0, 0, 0, 0) from rfl))
theorem u85_218 : wp r 85 218 ls st x Q ↔ wp r 85 219 ls (vI 4 :: st) x Q := (wp_u (show cd 85 218 = some (.iconst 4, 1, 0, 0, 0, 0) from rfl))
theorem u85_219 : wp r 85 219 ls (vI z :: st) x Q ↔ (0 ≤ z ∧ z ≤ 100000) ∧ nok x z.toNat ∧ wp r 85 221 ls (vA (hN x) :: st) (nwO x 20 z.toNat) Q := (wp_u (show cd 85 219 = some (.newarray .int, 2, 20, 0, 0, 0) from rfl)).trans g_newA
theorem u85_221 : wp r 85 221 ls (vR o :: vA q :: st) x Q ↔ sbk 9 (hK x q) ∧ wp r 85 224 ls st (stR x q 47 o) Q := (wp_u (show cd 85 221 = some (.putfield 93, 3, 9, 47, 5, 0) from rfl)).trans g_putR
theorem u85_224 : wp r 85 224 [vR o, a1] st x Q ↔ wp r 85 225 [vR o, a1] (vR o :: st) x Q := (wp_u (show cd 85 224 = some (.aload_n 0, 1, 0, 0, 0, 0) from rfl))
theorem u85_225 : wp r 85 225 ls st x Q ↔ wp r 85 228 ls (vI 1200 :: st) x Q := (wp_u (show cd 85 225 = some (.sipush 1200, 3, 0, 0, 0, 0) from rfl))
theorem u85_228 : wp r 85 228 ls (vI z :: st) x Q ↔ (0 ≤ z ∧ z ≤ 100000) ∧ nok x z.toNat ∧ wp r 85 230 ls (vA (hN x) :: st) (nwO x 20 z.toNat) Q := (wp_u (show cd 85 228 = some (.newarray .int, 2, 20, 0, 0, 0) from rfl)).trans g_newA
theorem u85_230 : wp r 85 230 ls (vR o :: vA q :: st) x Q ↔ sbk 9 (hK x q) ∧ wp r 85 233 ls st (stR x q 49 o) Q := (wp_u (show cd 85 230 = some (.putfield 96, 3, 9, 49, 5, 0) from rfl)).trans g_putR
theorem u85_233 : wp r 85 233 [vR o, a1] st x Q ↔ wp r 85 234 [vR o, a1] (vR o :: st) x Q := (wp_u (show cd 85 233 = some (.aload_n 0, 1, 0, 0, 0, 0) from rfl))
theorem u85_234 : wp r 85 234 ls st x Q ↔ wp r 85 237 ls (vI 2400 :: st) x Q := (wp_u (show cd 85 234 = some (.sipush 2400, 3, 0, 0, 0, 0) from rfl))
theorem u85_237 : wp r 85 237 ls (vI z :: st) x Q ↔ (0 ≤ z ∧ z ≤ 100000) ∧ nok x z.toNat ∧ wp r 85 239 ls (vA (hN x) :: st) (nwO x 20 z.toNat) Q := (wp_u (show cd 85 237 = some (.newarray .int, 2, 20, 0, 0, 0) from rfl)).trans g_newA
theorem u85_239 : wp r 85 239 ls (vR o :: vA q :: st) x Q ↔ sbk 9 (hK x q) ∧ wp r 85 242 ls st (stR x q 51 o) Q := (wp_u (show cd 85 239 = some (.putfield 99, 3, 9, 51, 5, 0) from rfl)).trans g_putR
theorem u85_242 : wp r 85 242 ls st x Q ↔ wp r 85 243 ls (vI 0 :: st) x Q := (wp_u (show cd 85 242 = some (.iconst 0, 1, 0, 0, 0, 0) from rfl))
theorem u85_243 : wp r 85 243 [a0, a1] (vI z :: st) x Q ↔ wp r 85 244 [a0, vI z] st x Q := (wp_u (show cd 85 243 = some (.istore_n 1, 1, 0, 0, 0, 0) from rfl))
theorem u85_244 : wp r 85 244 [a0, vI z] st x Q ↔ wp r 85 245 [a0, vI z] (vI z :: st) x Q := (wp_u (show cd 85 244 = some (.iload_n 1, 1, 0, 0, 0, 0) from rfl))
theorem u85_245 : wp r 85 245 ls st x Q ↔ wp r 85 246 ls (vI 4 :: st) x Q := (wp_u (show cd 85 245 = some (.iconst 4, 1, 0, 0, 0, 0) from rfl))
theorem u85_246 : wp r 85 246 ls (vI w :: vI z :: st) x Q ↔ if w ≤ z then wp r 85 262 ls st x Q else wp r 85 249 ls st x Q := (wp_u (show cd 85 246 = some (.if_icmp .ge 16, 3, 262, 0, 0, 0) from rfl)).trans wq_d
theorem u85_249 : wp r 85 249 [vR o, a1] st x Q ↔ wp r 85 250 [vR o, a1] (vR o :: st) x Q := (wp_u (show cd 85 249 = some (.aload_n 0, 1, 0, 0, 0, 0) from rfl))
theorem u85_250 : wp r 85 250 ls (vA q :: st) x Q ↔ sbk 9 (hK x q) ∧ wp r 85 253 ls (vR (hR x q 8) :: st) x Q := (wp_u (show cd 85 250 = some (.getfield 29, 3, 9, 8, 5, 0) from rfl)).trans g_getR
set_option maxRecDepth 20000 in
theorem u85_253 : wp r 85 253 [a0, vI z] st x Q ↔ wp r 85 254 [a0, vI z] (vI z :: st) x Q := (wp_u (show cd 85 253 = some (.iload_n 1, 1, 0, 0, 0, 0) from rfl))
set_option maxRecDepth 20000 in
theorem u85_254 : wp r 85 254 ls st x Q ↔ wp r 85 255 ls (vI (-1) :: st) x Q := (wp_u (show cd 85 254 = some (.iconst (-1), 1, 0, 0, 0, 0) from rfl))
set_option maxRecDepth 20000 in
theorem u85_255 : wp r 85 255 ls (vI z :: vI i :: vA q :: st) x Q ↔ ldk 20 (hK x q) i ∧ 4 ≤ q ∧ wp r 85 256 ls st (stI x q i z) Q := (wp_u (show cd 85 255 = some (.iastore, 1, 0, 0, 0, 0) from rfl)).trans g_stI0
set_option maxRecDepth 20000 in
theorem u85_256 : wp r 85 256 [a0, vI z] st x Q ↔ inI (z + 1) = true ∧ wp r 85 259 [a0, vI (z + 1)] st x Q := (wp_u (show cd 85 256 = some (.iinc 1 1, 3, 0, 0, 0, 0) from rfl)).trans wq_if
set_option maxRecDepth 20000 in
theorem u85_259 : wp r 85 259 ls st x Q ↔ wp r 85 244 ls st x Q := (wp_u (show cd 85 259 = some (.goto (-15), 3, 244, 0, 0, 0) from rfl))
set_option maxRecDepth 20000 in
theorem u85_262 : wp r 85 262 ls [] x Q ↔ Q (.inl none) x := (wp_u (show cd 85 262 = some (.return_, 1, 0, 0, 0, 0) from rfl))
theorem e85 : wpc r 85 [vA q] x Q ↔ wp r 85 0 [vA q, vL jk] [] x Q := Iff.rfl
/-! 86 M_type -/
theorem u86_0 : wp r 86 0 [vR o, a1, a2, a3, a4, a5] st x Q ↔ wp r 86 1 [vR o, a1, a2, a3, a4, a5] (vR o :: st) x Q := (wp_u (show cd 86 0 = some (.aload_n 0, 1, 0, 0, 0, 0) from rfl))
theorem u86_1 : wp r 86 1 ls st x Q ↔ wp r 86 2 ls (vI 0 :: st) x Q := (wp_u (show cd 86 1 = some (.iconst 0, 1, 0, 0, 0, 0) from rfl))
theorem u86_2 : wp r 86 2 ls (vI z :: vA q :: st) x Q ↔ sbk 9 (hK x q) ∧ wp r 86 5 ls st (stI x q 0 z) Q := (wp_u (show cd 86 2 = some (.putfield 102, 3, 9, 0, 0, 0) from rfl)).trans g_putI0
theorem u86_5 : wp r 86 5 [vR o, a1, a2, a3, a4, a5] st x Q ↔ wp r 86 6 [vR o, a1, a2, a3, a4, a5] (vR o :: st) x Q := (wp_u (show cd 86 5 = some (.aload_n 0, 1, 0, 0, 0, 0) from rfl))
theorem u86_6 : wp r 86 6 ls (vA q :: st) x Q ↔ sbk 9 (hK x q) ∧ wp r 86 9 ls (vI (hI x q 1) :: st) x Q := (wp_u (show cd 86 6 = some (.getfield 105, 3, 9, 1, 0, 0) from rfl)).trans g_getI
theorem u86_9 : wp r 86 9 [a0, a1, a2, a3, a4, a5] (vI z :: st) x Q ↔ wp r 86 10 [a0, a1, a2, vI z, a4, a5] st x Q := (wp_u (show cd 86 9 = some (.istore_n 3, 1, 0, 0, 0, 0) from rfl))
theorem u86_10 : wp r 86 10 ls st x Q ↔ wp r 86 12 ls (vI 7 :: st) x Q := (wp_u (show cd 86 10 = some (.bipush 7, 2, 0, 0, 0, 0) from rfl))
theorem u86_12 : wp r 86 12 [a0, a1, a2, a3, a4, a5] (vI z :: st) x Q ↔ wp r 86 14 [a0, a1, a2, a3, vI z, a5] st x Q := (wp_u (show cd 86 12 = some (.istore 4, 2, 0, 0, 0, 0) from rfl))
theorem u86_14 : wp r 86 14 [a0, a1, a2, a3, vI z, a5] st x Q ↔ wp r 86 16 [a0, a1, a2, a3, vI z, a5] (vI z :: st) x Q := (wp_u (show cd 86 14 = some (.iload 4, 2, 0, 0, 0, 0) from rfl))
theorem u86_16 : wp r 86 16 ls (vI z :: st) x Q ↔ if z < 0 then wp r 86 83 ls st x Q else wp r 86 19 ls st x Q := (wp_u (show cd 86 16 = some (.ifCond .lt 67, 3, 83, 0, 0, 0) from rfl)).trans wq_d
theorem u86_19 : wp r 86 19 [a0, vL z, a2, a3, a4, a5] st x Q ↔ inLb z = true ∧ wp r 86 20 [a0, vL z, a2, a3, a4, a5] (vL z :: st) x Q := (wp_u (show cd 86 19 = some (.lload_n 1, 1, 0, 0, 0, 0) from rfl)).trans wq_if
theorem u86_20 : wp r 86 20 ls st x Q ↔ wp r 86 22 ls (vI 8 :: st) x Q := (wp_u (show cd 86 20 = some (.bipush 8, 2, 0, 0, 0, 0) from rfl))
theorem u86_22 : wp r 86 22 [a0, a1, a2, a3, vI z, a5] st x Q ↔ wp r 86 24 [a0, a1, a2, a3, vI z, a5] (vI z :: st) x Q := (wp_u (show cd 86 22 = some (.iload 4, 2, 0, 0, 0, 0) from rfl))
theorem u86_24 : wp r 86 24 ls (vI w :: vI z :: st) x Q ↔ inI (z * w) = true ∧ wp r 86 25 ls (vI (z * w) :: st) x Q := (wp_u (show cd 86 24 = some (.imul, 1, 0, 0, 0, 0) from rfl)).trans wq_if
theorem u86_25 : wp r 86 25 ls (vI w :: vL z :: st) x Q ↔ wp r 86 26 ls (vL (lShr z w) :: st) x Q := (wp_u (show cd 86 25 = some (.lshr, 1, 0, 0, 0, 0) from rfl))
theorem u86_26 : wp r 86 26 ls (vL z :: st) x Q ↔ wp r 86 27 ls (vI (iL2i z) :: st) x Q := (wp_u (show cd 86 26 = some (.l2i, 1, 0, 0, 0, 0) from rfl))
theorem u86_27 : wp r 86 27 ls st x Q ↔ wp r 86 30 ls (vI 255 :: st) x Q := (wp_u (show cd 86 27 = some (.sipush 255, 3, 0, 0, 0, 0) from rfl))
theorem u86_30 : wp r 86 30 ls (vI w :: vI z :: st) x Q ↔ wp r 86 31 ls (vI (iAnd z w) :: st) x Q := (wp_u (show cd 86 30 = some (.iand, 1, 0, 0, 0, 0) from rfl)).trans (wq_if.trans (and_iff_right (inI_32 _)))
theorem u86_31 : wp r 86 31 [a0, a1, a2, a3, a4, a5] (vI z :: st) x Q ↔ wp r 86 33 [a0, a1, a2, a3, a4, vI z] st x Q := (wp_u (show cd 86 31 = some (.istore 5, 2, 0, 0, 0, 0) from rfl))
theorem u86_33 : wp r 86 33 [a0, a1, a2, a3, a4, vI z] st x Q ↔ wp r 86 35 [a0, a1, a2, a3, a4, vI z] (vI z :: st) x Q := (wp_u (show cd 86 33 = some (.iload 5, 2, 0, 0, 0, 0) from rfl))
theorem u86_35 : wp r 86 35 ls (vI z :: st) x Q ↔ if z = 0 then wp r 86 61 ls st x Q else wp r 86 38 ls st x Q := (wp_u (show cd 86 35 = some (.ifCond .eq 26, 3, 61, 0, 0, 0) from rfl)).trans wq_d
theorem u86_38 : wp r 86 38 [a0, a1, a2, a3, a4, vI z] st x Q ↔ wp r 86 40 [a0, a1, a2, a3, a4, vI z] (vI z :: st) x Q := (wp_u (show cd 86 38 = some (.iload 5, 2, 0, 0, 0, 0) from rfl))
theorem u86_40 : wp r 86 40 ls st x Q ↔ wp r 86 42 ls (vI 32 :: st) x Q := (wp_u (show cd 86 40 = some (.bipush 32, 2, 0, 0, 0, 0) from rfl))
theorem u86_42 : wp r 86 42 ls (vI w :: vI z :: st) x Q ↔ if z < w then wp r 86 59 ls st x Q else wp r 86 45 ls st x Q := (wp_u (show cd 86 42 = some (.if_icmp .lt 17, 3, 59, 0, 0, 0) from rfl)).trans wq_d
theorem u86_45 : wp r 86 45 [a0, a1, a2, a3, a4, vI z] st x Q ↔ wp r 86 47 [a0, a1, a2, a3, a4, vI z] (vI z :: st) x Q := (wp_u (show cd 86 45 = some (.iload 5, 2, 0, 0, 0, 0) from rfl))
theorem u86_47 : wp r 86 47 ls st x Q ↔ wp r 86 49 ls (vI 126 :: st) x Q := (wp_u (show cd 86 47 = some (.bipush 126, 2, 0, 0, 0, 0) from rfl))
theorem u86_49 : wp r 86 49 ls (vI w :: vI z :: st) x Q ↔ if w < z then wp r 86 59 ls st x Q else wp r 86 52 ls st x Q := (wp_u (show cd 86 49 = some (.if_icmp .gt 10, 3, 59, 0, 0, 0) from rfl)).trans wq_d
theorem u86_52 : wp r 86 52 [a0, a1, a2, vI z, a4, a5] st x Q ↔ wp r 86 53 [a0, a1, a2, vI z, a4, a5] (vI z :: st) x Q := (wp_u (show cd 86 52 = some (.iload_n 3, 1, 0, 0, 0, 0) from rfl))
theorem u86_53 : wp r 86 53 ls st x Q ↔ wp r 86 56 ls (vI 400 :: st) x Q := (wp_u (show cd 86 53 = some (.sipush 400, 3, 0, 0, 0, 0) from rfl))
theorem u86_56 : wp r 86 56 ls (vI w :: vI z :: st) x Q ↔ if z = w then wp r 86 59 ls st x Q else wp r 86 61 ls st x Q := (wp_u (show cd 86 56 = some (.if_icmp .ne 5, 3, 61, 0, 0, 0) from rfl)).trans wq_dn
theorem u86_59 : wp r 86 59 ls st x Q ↔ wp r 86 60 ls (vI 0 :: st) x Q := (wp_u (show cd 86 59 = some (.iconst 0, 1, 0, 0, 0, 0) from rfl))
theorem u86_60 : wp r 86 60 ls [vI z] x Q ↔ rg 4 z = true ∧ Q (.inl (some (vI z))) x := (wp_u (show cd 86 60 = some (.ireturn, 1, 4, 0, 0, 0) from rfl)).trans wq_if
theorem u86_61 : wp r 86 61 [a0, a1, a2, a3, a4, vI z] st x Q ↔ wp r 86 63 [a0, a1, a2, a3, a4, vI z] (vI z :: st) x Q := (wp_u (show cd 86 61 = some (.iload 5, 2, 0, 0, 0, 0) from rfl))
theorem u86_63 : wp r 86 63 ls (vI z :: st) x Q ↔ if z = 0 then wp r 86 77 ls st x Q else wp r 86 66 ls st x Q := (wp_u (show cd 86 63 = some (.ifCond .eq 14, 3, 77, 0, 0, 0) from rfl)).trans wq_d
theorem u86_66 : wp r 86 66 [vR o, a1, a2, a3, a4, a5] st x Q ↔ wp r 86 67 [vR o, a1, a2, a3, a4, a5] (vR o :: st) x Q := (wp_u (show cd 86 66 = some (.aload_n 0, 1, 0, 0, 0, 0) from rfl))
theorem u86_67 : wp r 86 67 ls (vA q :: st) x Q ↔ sbk 9 (hK x q) ∧ wp r 86 70 ls (vR (hR x q 2) :: st) x Q := (wp_u (show cd 86 67 = some (.getfield 7, 3, 9, 2, 5, 0) from rfl)).trans g_getR
theorem u86_70 : wp r 86 70 [a0, a1, a2, vI z, a4, a5] st x Q ↔ wp r 86 71 [a0, a1, a2, vI z, a4, a5] (vI z :: st) x Q := (wp_u (show cd 86 70 = some (.iload_n 3, 1, 0, 0, 0, 0) from rfl))
theorem u86_71 : wp r 86 71 [a0, a1, a2, a3, a4, vI z] st x Q ↔ wp r 86 73 [a0, a1, a2, a3, a4, vI z] (vI z :: st) x Q := (wp_u (show cd 86 71 = some (.iload 5, 2, 0, 0, 0, 0) from rfl))
theorem u86_73 : wp r 86 73 ls (vI z :: vI i :: vA q :: st) x Q ↔ ldk 20 (hK x q) i ∧ 4 ≤ q ∧ wp r 86 74 ls st (stI x q i z) Q := (wp_u (show cd 86 73 = some (.iastore, 1, 0, 0, 0, 0) from rfl)).trans g_stI0
theorem u86_74 : wp r 86 74 [a0, a1, a2, vI z, a4, a5] st x Q ↔ inI (z + 1) = true ∧ wp r 86 77 [a0, a1, a2, vI (z + 1), a4, a5] st x Q := (wp_u (show cd 86 74 = some (.iinc 3 1, 3, 0, 0, 0, 0) from rfl)).trans wq_if
theorem u86_77 : wp r 86 77 [a0, a1, a2, a3, vI z, a5] st x Q ↔ inI (z + (-1)) = true ∧ wp r 86 80 [a0, a1, a2, a3, vI (z + (-1)), a5] st x Q := (wp_u (show cd 86 77 = some (.iinc 4 (-1), 3, 0, 0, 0, 0) from rfl)).trans wq_if
theorem u86_80 : wp r 86 80 ls st x Q ↔ wp r 86 14 ls st x Q := (wp_u (show cd 86 80 = some (.goto (-66), 3, 14, 0, 0, 0) from rfl))
theorem u86_83 : wp r 86 83 [vR o, a1, a2, a3, a4, a5] st x Q ↔ wp r 86 84 [vR o, a1, a2, a3, a4, a5] (vR o :: st) x Q := (wp_u (show cd 86 83 = some (.aload_n 0, 1, 0, 0, 0, 0) from rfl))
theorem u86_84 : wp r 86 84 [a0, a1, a2, vI z, a4, a5] st x Q ↔ wp r 86 85 [a0, a1, a2, vI z, a4, a5] (vI z :: st) x Q := (wp_u (show cd 86 84 = some (.iload_n 3, 1, 0, 0, 0, 0) from rfl))
theorem u86_85 : wp r 86 85 ls (vI z :: vA q :: st) x Q ↔ sbk 9 (hK x q) ∧ wp r 86 88 ls st (stI x q 1 z) Q := (wp_u (show cd 86 85 = some (.putfield 105, 3, 9, 1, 0, 0) from rfl)).trans g_putI0
theorem u86_88 : wp r 86 88 ls st x Q ↔ wp r 86 89 ls (vI 1 :: st) x Q := (wp_u (show cd 86 88 = some (.iconst 1, 1, 0, 0, 0, 0) from rfl))
theorem u86_89 : wp r 86 89 ls [vI z] x Q ↔ rg 4 z = true ∧ Q (.inl (some (vI z))) x := (wp_u (show cd 86 89 = some (.ireturn, 1, 4, 0, 0, 0) from rfl)).trans wq_if
theorem e86 : wpc r 86 [vA q, vL z] x Q ↔ wp r 86 0 [vA q, vL z, vL jk, vL jk, vL jk, vL jk] [] x Q := Iff.rfl
/-! 87 M_wipe -/
theorem u87_0 : wp r 87 0 [vR o] st x Q ↔ wp r 87 1 [vR o] (vR o :: st) x Q := (wp_u (show cd 87 0 = some (.aload_n 0, 1, 0, 0, 0, 0) from rfl))
theorem u87_1 : wp r 87 1 ls st x Q ↔ wp r 87 2 ls (vI 0 :: st) x Q := (wp_u (show cd 87 1 = some (.iconst 0, 1, 0, 0, 0, 0) from rfl))
theorem u87_2 : wp r 87 2 ls (vI z :: vA q :: st) x Q ↔ sbk 9 (hK x q) ∧ wp r 87 5 ls st (stI x q 0 z) Q := (wp_u (show cd 87 2 = some (.putfield 102, 3, 9, 0, 0, 0) from rfl)).trans g_putI0
theorem u87_5 : wp r 87 5 [vR o] st x Q ↔ wp r 87 6 [vR o] (vR o :: st) x Q := (wp_u (show cd 87 5 = some (.aload_n 0, 1, 0, 0, 0, 0) from rfl))
theorem u87_6 : wp r 87 6 ls st x Q ↔ wp r 87 7 ls (vI 0 :: st) x Q := (wp_u (show cd 87 6 = some (.iconst 0, 1, 0, 0, 0, 0) from rfl))
theorem u87_7 : wp r 87 7 ls (vI z :: vA q :: st) x Q ↔ sbk 9 (hK x q) ∧ wp r 87 10 ls st (stI x q 1 z) Q := (wp_u (show cd 87 7 = some (.putfield 105, 3, 9, 1, 0, 0) from rfl)).trans g_putI0
theorem u87_10 : wp r 87 10 ls [] x Q ↔ Q (.inl none) x := (wp_u (show cd 87 10 = some (.return_, 1, 0, 0, 0, 0) from rfl))
theorem e87 : wpc r 87 [vA q] x Q ↔ wp r 87 0 [vA q] [] x Q := Iff.rfl
/-! 88 M_length -/
theorem u88_0 : wp r 88 0 [vR o] st x Q ↔ wp r 88 1 [vR o] (vR o :: st) x Q := (wp_u (show cd 88 0 = some (.aload_n 0, 1, 0, 0, 0, 0) from rfl))
theorem u88_1 : wp r 88 1 ls st x Q ↔ wp r 88 2 ls (vI 0 :: st) x Q := (wp_u (show cd 88 1 = some (.iconst 0, 1, 0, 0, 0, 0) from rfl))
theorem u88_2 : wp r 88 2 ls (vI z :: vA q :: st) x Q ↔ sbk 9 (hK x q) ∧ wp r 88 5 ls st (stI x q 0 z) Q := (wp_u (show cd 88 2 = some (.putfield 102, 3, 9, 0, 0, 0) from rfl)).trans g_putI0
theorem u88_5 : wp r 88 5 [vR o] st x Q ↔ wp r 88 6 [vR o] (vR o :: st) x Q := (wp_u (show cd 88 5 = some (.aload_n 0, 1, 0, 0, 0, 0) from rfl))
theorem u88_6 : wp r 88 6 ls (vA q :: st) x Q ↔ sbk 9 (hK x q) ∧ wp r 88 9 ls (vI (hI x q 1) :: st) x Q := (wp_u (show cd 88 6 = some (.getfield 105, 3, 9, 1, 0, 0) from rfl)).trans g_getI
theorem u88_9 : wp r 88 9 ls [vI z] x Q ↔ Q (.inl (some (vI z))) x := (wp_u (show cd 88 9 = some (.ireturn, 1, 0, 0, 0, 0) from rfl))
theorem e88 : wpc r 88 [vA q] x Q ↔ wp r 88 0 [vA q] [] x Q := Iff.rfl
/-! 89 M_slot -/
theorem u89_0 : wp r 89 0 [vR o, a1, a2, a3, a4] st x Q ↔ wp r 89 1 [vR o, a1, a2, a3, a4] (vR o :: st) x Q := (wp_u (show cd 89 0 = some (.aload_n 0, 1, 0, 0, 0, 0) from rfl))
theorem u89_1 : wp r 89 1 [a0, vI z, a2, a3, a4] st x Q ↔ wp r 89 2 [a0, vI z, a2, a3, a4] (vI z :: st) x Q := (wp_u (show cd 89 1 = some (.iload_n 1, 1, 0, 0, 0, 0) from rfl))
theorem u89_2 : wp r 89 2 ls (vI z0 :: st) x Q ↔ sml st = true ∧ 1 < r ∧ wpc 1 102 [vI z0] x (wk r 89 2 ls st Q) := (wp_u (show cd 89 2 = some (.invokestatic 122, 3, 102, 1, 1, 0) from rfl)).trans (g_stat (by decide) (by simp) rfl)
theorem u89_5 : wp r 89 5 ls (vI z :: st) x Q ↔ if z = 0 then wp r 89 35 ls st x Q else wp r 89 8 ls st x Q := (wp_u (show cd 89 5 = some (.ifCond .eq 30, 3, 35, 0, 0, 0) from rfl)).trans wq_d
theorem u89_8 : wp r 89 8 [a0, a1, vI z, a3, a4] st x Q ↔ wp r 89 9 [a0, a1, vI z, a3, a4] (vI z :: st) x Q := (wp_u (show cd 89 8 = some (.iload_n 2, 1, 0, 0, 0, 0) from rfl))
theorem u89_9 : wp r 89 9 ls (vI z0 :: st) x Q ↔ sml st = true ∧ 2 < r ∧ wpc 2 103 [vI z0] x (wk r 89 9 ls st Q) := (wp_u (show cd 89 9 = some (.invokestatic 125, 3, 103, 1, 2, 0) from rfl)).trans (g_stat (by decide) (by simp) rfl)
theorem u89_12 : wp r 89 12 ls (vI z :: st) x Q ↔ if z = 0 then wp r 89 35 ls st x Q else wp r 89 15 ls st x Q := (wp_u (show cd 89 12 = some (.ifCond .eq 23, 3, 35, 0, 0, 0) from rfl)).trans wq_d
theorem u89_15 : wp r 89 15 [a0, a1, a2, a3, vI z] st x Q ↔ wp r 89 17 [a0, a1, a2, a3, vI z] (vI z :: st) x Q := (wp_u (show cd 89 15 = some (.iload 4, 2, 0, 0, 0, 0) from rfl))
theorem u89_17 : wp r 89 17 ls st x Q ↔ wp r 89 18 ls (vI 1 :: st) x Q := (wp_u (show cd 89 17 = some (.iconst 1, 1, 0, 0, 0, 0) from rfl))
theorem u89_18 : wp r 89 18 ls (vI w :: vI z :: st) x Q ↔ if z < w then wp r 89 35 ls st x Q else wp r 89 21 ls st x Q := (wp_u (show cd 89 18 = some (.if_icmp .lt 17, 3, 35, 0, 0, 0) from rfl)).trans wq_d
theorem u89_21 : wp r 89 21 [a0, a1, a2, a3, vI z] st x Q ↔ wp r 89 23 [a0, a1, a2, a3, vI z] (vI z :: st) x Q := (wp_u (show cd 89 21 = some (.iload 4, 2, 0, 0, 0, 0) from rfl))
theorem u89_23 : wp r 89 23 ls st x Q ↔ wp r 89 25 ls (vI 99 :: st) x Q := (wp_u (show cd 89 23 = some (.bipush 99, 2, 0, 0, 0, 0) from rfl))
theorem u89_25 : wp r 89 25 ls (vI w :: vI z :: st) x Q ↔ if w < z then wp r 89 35 ls st x Q else wp r 89 28 ls st x Q := (wp_u (show cd 89 25 = some (.if_icmp .gt 10, 3, 35, 0, 0, 0) from rfl)).trans wq_d
theorem u89_28 : wp r 89 28 [a0, a1, vI z, a3, a4] st x Q ↔ wp r 89 29 [a0, a1, vI z, a3, a4] (vI z :: st) x Q := (wp_u (show cd 89 28 = some (.iload_n 2, 1, 0, 0, 0, 0) from rfl))
theorem u89_29 : wp r 89 29 ls (vI z0 :: st) x Q ↔ sml st = true ∧ 1 < r ∧ wpc 1 104 [vI z0] x (wk r 89 29 ls st Q) := (wp_u (show cd 89 29 = some (.invokestatic 128, 3, 104, 1, 1, 0) from rfl)).trans (g_stat (by decide) (by simp) rfl)
theorem u89_32 : wp r 89 32 ls (vI z :: st) x Q ↔ if z = 0 then wp r 89 39 ls st x Q else wp r 89 35 ls st x Q := (wp_u (show cd 89 32 = some (.ifCond .eq 7, 3, 39, 0, 0, 0) from rfl)).trans wq_d
theorem u89_35 : wp r 89 35 ls st x Q ↔ wp r 89 36 ls (vI 1 :: st) x Q := (wp_u (show cd 89 35 = some (.iconst 1, 1, 0, 0, 0, 0) from rfl))
theorem u89_36 : wp r 89 36 ls st x Q ↔ wp r 89 40 ls st x Q := (wp_u (show cd 89 36 = some (.goto 4, 3, 40, 0, 0, 0) from rfl))
theorem u89_39 : wp r 89 39 ls st x Q ↔ wp r 89 40 ls (vI 0 :: st) x Q := (wp_u (show cd 89 39 = some (.iconst 0, 1, 0, 0, 0, 0) from rfl))
theorem u89_40 : wp r 89 40 ls (vI z :: vA q :: st) x Q ↔ sbk 9 (hK x q) ∧ wp r 89 43 ls st (stI x q 0 z) Q := (wp_u (show cd 89 40 = some (.putfield 102, 3, 9, 0, 0, 0) from rfl)).trans g_putI0
theorem u89_43 : wp r 89 43 [vR o, a1, a2, a3, a4] st x Q ↔ wp r 89 44 [vR o, a1, a2, a3, a4] (vR o :: st) x Q := (wp_u (show cd 89 43 = some (.aload_n 0, 1, 0, 0, 0, 0) from rfl))
theorem u89_44 : wp r 89 44 ls (vA q :: st) x Q ↔ sbk 9 (hK x q) ∧ wp r 89 47 ls (vI (hI x q 0) :: st) x Q := (wp_u (show cd 89 44 = some (.getfield 102, 3, 9, 0, 0, 0) from rfl)).trans g_getI
theorem u89_47 : wp r 89 47 ls (vI z :: st) x Q ↔ if z ≤ 0 then wp r 89 52 ls st x Q else wp r 89 50 ls st x Q := (wp_u (show cd 89 47 = some (.ifCond .le 5, 3, 52, 0, 0, 0) from rfl)).trans wq_d
theorem u89_50 : wp r 89 50 ls st x Q ↔ wp r 89 51 ls (vI 0 :: st) x Q := (wp_u (show cd 89 50 = some (.iconst 0, 1, 0, 0, 0, 0) from rfl))
theorem u89_51 : wp r 89 51 ls [vI z] x Q ↔ Q (.inl (some (vI z))) x := (wp_u (show cd 89 51 = some (.ireturn, 1, 0, 0, 0, 0) from rfl))
theorem u89_52 : wp r 89 52 [vR o, a1, a2, a3, a4] st x Q ↔ wp r 89 53 [vR o, a1, a2, a3, a4] (vR o :: st) x Q := (wp_u (show cd 89 52 = some (.aload_n 0, 1, 0, 0, 0, 0) from rfl))
theorem u89_53 : wp r 89 53 [vR o, a1, a2, a3, a4] st x Q ↔ wp r 89 54 [vR o, a1, a2, a3, a4] (vR o :: st) x Q := (wp_u (show cd 89 53 = some (.aload_n 0, 1, 0, 0, 0, 0) from rfl))
theorem u89_54 : wp r 89 54 ls (vA q :: st) x Q ↔ sbk 9 (hK x q) ∧ wp r 89 57 ls (vR (hR x q 3) :: st) x Q := (wp_u (show cd 89 54 = some (.getfield 13, 3, 9, 3, 5, 0) from rfl)).trans g_getR
theorem u89_57 : wp r 89 57 [a0, vI z, a2, a3, a4] st x Q ↔ wp r 89 58 [a0, vI z, a2, a3, a4] (vI z :: st) x Q := (wp_u (show cd 89 57 = some (.iload_n 1, 1, 0, 0, 0, 0) from rfl))
theorem u89_58 : wp r 89 58 ls (vI i :: vA q :: st) x Q ↔ ldk 20 (hK x q) i ∧ wp r 89 59 ls (vI (hI x q i) :: st) x Q := (wp_u (show cd 89 58 = some (.iaload, 1, 0, 0, 0, 0) from rfl)).trans g_ldI
theorem u89_59 : wp r 89 59 ls st x Q ↔ wp r 89 61 ls (vI 24 :: st) x Q := (wp_u (show cd 89 59 = some (.bipush 24, 2, 0, 0, 0, 0) from rfl))
theorem u89_61 : wp r 89 61 ls (vI w :: vI z :: st) x Q ↔ if z = w then wp r 89 82 ls st x Q else wp r 89 64 ls st x Q := (wp_u (show cd 89 61 = some (.if_icmp .eq 21, 3, 82, 0, 0, 0) from rfl)).trans wq_d
theorem u89_64 : wp r 89 64 [vR o, a1, a2, a3, a4] st x Q ↔ wp r 89 65 [vR o, a1, a2, a3, a4] (vR o :: st) x Q := (wp_u (show cd 89 64 = some (.aload_n 0, 1, 0, 0, 0, 0) from rfl))
theorem u89_65 : wp r 89 65 [a0, vI z, a2, a3, a4] st x Q ↔ wp r 89 66 [a0, vI z, a2, a3, a4] (vI z :: st) x Q := (wp_u (show cd 89 65 = some (.iload_n 1, 1, 0, 0, 0, 0) from rfl))
theorem u89_66 : wp r 89 66 ls (vI z0 :: vA q :: st) x Q ↔ isk 9 (hK x q) ∧ sml st = true ∧ 2 < r ∧ wpc 2 105 [vA q, vI z0] x (wk r 89 66 ls st Q) := (wp_u (show cd 89 66 = some (.invokevirtual 131, 3, 105, 2, 2, 9) from rfl)).trans (g_virt rfl (by decide) (by simp) rfl)
theorem u89_69 : wp r 89 69 ls (vI z :: st) x Q ↔ if z = 0 then wp r 89 86 ls st x Q else wp r 89 72 ls st x Q := (wp_u (show cd 89 69 = some (.ifCond .eq 17, 3, 86, 0, 0, 0) from rfl)).trans wq_d
theorem u89_72 : wp r 89 72 [a0, a1, a2, vI z, a4] st x Q ↔ wp r 89 73 [a0, a1, a2, vI z, a4] (vI z :: st) x Q := (wp_u (show cd 89 72 = some (.iload_n 3, 1, 0, 0, 0, 0) from rfl))
theorem u89_73 : wp r 89 73 ls (vI z :: st) x Q ↔ if z = 0 then wp r 89 82 ls st x Q else wp r 89 76 ls st x Q := (wp_u (show cd 89 73 = some (.ifCond .eq 9, 3, 82, 0, 0, 0) from rfl)).trans wq_d
theorem u89_76 : wp r 89 76 [a0, a1, a2, a3, vI z] st x Q ↔ wp r 89 78 [a0, a1, a2, a3, vI z] (vI z :: st) x Q := (wp_u (show cd 89 76 = some (.iload 4, 2, 0, 0, 0, 0) from rfl))
theorem u89_78 : wp r 89 78 ls st x Q ↔ wp r 89 79 ls (vI 1 :: st) x Q := (wp_u (show cd 89 78 = some (.iconst 1, 1, 0, 0, 0, 0) from rfl))
theorem u89_79 : wp r 89 79 ls (vI w :: vI z :: st) x Q ↔ if z = w then wp r 89 86 ls st x Q else wp r 89 82 ls st x Q := (wp_u (show cd 89 79 = some (.if_icmp .eq 7, 3, 86, 0, 0, 0) from rfl)).trans wq_d
theorem u89_82 : wp r 89 82 ls st x Q ↔ wp r 89 83 ls (vI 2 :: st) x Q := (wp_u (show cd 89 82 = some (.iconst 2, 1, 0, 0, 0, 0) from rfl))
theorem u89_83 : wp r 89 83 ls st x Q ↔ wp r 89 87 ls st x Q := (wp_u (show cd 89 83 = some (.goto 4, 3, 87, 0, 0, 0) from rfl))
theorem u89_86 : wp r 89 86 ls st x Q ↔ wp r 89 87 ls (vI 0 :: st) x Q := (wp_u (show cd 89 86 = some (.iconst 0, 1, 0, 0, 0, 0) from rfl))
theorem u89_87 : wp r 89 87 ls (vI z :: vA q :: st) x Q ↔ sbk 9 (hK x q) ∧ wp r 89 90 ls st (stI x q 0 z) Q := (wp_u (show cd 89 87 = some (.putfield 102, 3, 9, 0, 0, 0) from rfl)).trans g_putI0
theorem u89_90 : wp r 89 90 [vR o, a1, a2, a3, a4] st x Q ↔ wp r 89 91 [vR o, a1, a2, a3, a4] (vR o :: st) x Q := (wp_u (show cd 89 90 = some (.aload_n 0, 1, 0, 0, 0, 0) from rfl))
theorem u89_91 : wp r 89 91 ls (vA q :: st) x Q ↔ sbk 9 (hK x q) ∧ wp r 89 94 ls (vI (hI x q 0) :: st) x Q := (wp_u (show cd 89 91 = some (.getfield 102, 3, 9, 0, 0, 0) from rfl)).trans g_getI
theorem u89_94 : wp r 89 94 ls (vI z :: st) x Q ↔ if z ≤ 0 then wp r 89 101 ls st x Q else wp r 89 97 ls st x Q := (wp_u (show cd 89 94 = some (.ifCond .le 7, 3, 101, 0, 0, 0) from rfl)).trans wq_d
theorem u89_97 : wp r 89 97 ls st x Q ↔ wp r 89 98 ls (vI 0 :: st) x Q := (wp_u (show cd 89 97 = some (.iconst 0, 1, 0, 0, 0, 0) from rfl))
theorem u89_98 : wp r 89 98 ls st x Q ↔ wp r 89 110 ls st x Q := (wp_u (show cd 89 98 = some (.goto 12, 3, 110, 0, 0, 0) from rfl))
theorem u89_101 : wp r 89 101 [vR o, a1, a2, a3, a4] st x Q ↔ wp r 89 102 [vR o, a1, a2, a3, a4] (vR o :: st) x Q := (wp_u (show cd 89 101 = some (.aload_n 0, 1, 0, 0, 0, 0) from rfl))
theorem u89_102 : wp r 89 102 [a0, vI z, a2, a3, a4] st x Q ↔ wp r 89 103 [a0, vI z, a2, a3, a4] (vI z :: st) x Q := (wp_u (show cd 89 102 = some (.iload_n 1, 1, 0, 0, 0, 0) from rfl))
theorem u89_103 : wp r 89 103 [a0, a1, vI z, a3, a4] st x Q ↔ wp r 89 104 [a0, a1, vI z, a3, a4] (vI z :: st) x Q := (wp_u (show cd 89 103 = some (.iload_n 2, 1, 0, 0, 0, 0) from rfl))
theorem u89_104 : wp r 89 104 [a0, a1, a2, vI z, a4] st x Q ↔ wp r 89 105 [a0, a1, a2, vI z, a4] (vI z :: st) x Q := (wp_u (show cd 89 104 = some (.iload_n 3, 1, 0, 0, 0, 0) from rfl))
theorem u89_105 : wp r 89 105 [a0, a1, a2, a3, vI z] st x Q ↔ wp r 89 107 [a0, a1, a2, a3, vI z] (vI z :: st) x Q := (wp_u (show cd 89 105 = some (.iload 4, 2, 0, 0, 0, 0) from rfl))
theorem u89_107 : wp r 89 107 ls (vI z3 :: vI z2 :: vI z1 :: vI z0 :: vA q :: st) x Q ↔ isk 9 (hK x q) ∧ sml st = true ∧ 1 < r ∧ wpc 1 106 [vA q, vI z0, vI z1, vI z2, vI z3] x (wk r 89 107 ls st Q) := (wp_u (show cd 89 107 = some (.invokevirtual 134, 3, 106, 5, 1, 9) from rfl)).trans (g_virt rfl (by decide) (by simp) rfl)
theorem u89_110 : wp r 89 110 ls [vI z] x Q ↔ Q (.inl (some (vI z))) x := (wp_u (show cd 89 110 = some (.ireturn, 1, 0, 0, 0, 0) from rfl))
theorem e89 : wpc r 89 [vA q, vI z0, vI z1, vI z2, vI z3] x Q ↔ wp r 89 0 [vA q, vI z0, vI z1, vI z2, vI z3] [] x Q := Iff.rfl
/-! 90 M_thrown -/
theorem u90_0 : wp r 90 0 [vR o] st x Q ↔ wp r 90 1 [vR o] (vR o :: st) x Q := (wp_u (show cd 90 0 = some (.aload_n 0, 1, 0, 0, 0, 0) from rfl))
theorem u90_1 : wp r 90 1 ls (vA q :: st) x Q ↔ sbk 9 (hK x q) ∧ wp r 90 4 ls (vI (hI x q 0) :: st) x Q := (wp_u (show cd 90 1 = some (.getfield 102, 3, 9, 0, 0, 0) from rfl)).trans g_getI
theorem u90_4 : wp r 90 4 ls [vI z] x Q ↔ Q (.inl (some (vI z))) x := (wp_u (show cd 90 4 = some (.ireturn, 1, 0, 0, 0, 0) from rfl))
theorem e90 : wpc r 90 [vA q] x Q ↔ wp r 90 0 [vA q] [] x Q := Iff.rfl
/-! 91 M_open -/
theorem u91_0 : wp r 91 0 [vR o, a1, a2, a3, a4] st x Q ↔ wp r 91 1 [vR o, a1, a2, a3, a4] (vR o :: st) x Q := (wp_u (show cd 91 0 = some (.aload_n 0, 1, 0, 0, 0, 0) from rfl))
theorem u91_1 : wp r 91 1 [a0, vI z, a2, a3, a4] st x Q ↔ wp r 91 2 [a0, vI z, a2, a3, a4] (vI z :: st) x Q := (wp_u (show cd 91 1 = some (.iload_n 1, 1, 0, 0, 0, 0) from rfl))
theorem u91_2 : wp r 91 2 ls (vI z0 :: st) x Q ↔ sml st = true ∧ 1 < r ∧ wpc 1 102 [vI z0] x (wk r 91 2 ls st Q) := (wp_u (show cd 91 2 = some (.invokestatic 122, 3, 102, 1, 1, 0) from rfl)).trans (g_stat (by decide) (by simp) rfl)
theorem u91_5 : wp r 91 5 ls (vI z :: st) x Q ↔ if z = 0 then wp r 91 19 ls st x Q else wp r 91 8 ls st x Q := (wp_u (show cd 91 5 = some (.ifCond .eq 14, 3, 19, 0, 0, 0) from rfl)).trans wq_d
theorem u91_8 : wp r 91 8 [a0, a1, a2, vI z, a4] st x Q ↔ wp r 91 9 [a0, a1, a2, vI z, a4] (vI z :: st) x Q := (wp_u (show cd 91 8 = some (.iload_n 3, 1, 0, 0, 0, 0) from rfl))
theorem u91_9 : wp r 91 9 ls st x Q ↔ wp r 91 10 ls (vI 1 :: st) x Q := (wp_u (show cd 91 9 = some (.iconst 1, 1, 0, 0, 0, 0) from rfl))
theorem u91_10 : wp r 91 10 ls (vI w :: vI z :: st) x Q ↔ if z < w then wp r 91 19 ls st x Q else wp r 91 13 ls st x Q := (wp_u (show cd 91 10 = some (.if_icmp .lt 9, 3, 19, 0, 0, 0) from rfl)).trans wq_d
theorem u91_13 : wp r 91 13 [a0, a1, a2, vI z, a4] st x Q ↔ wp r 91 14 [a0, a1, a2, vI z, a4] (vI z :: st) x Q := (wp_u (show cd 91 13 = some (.iload_n 3, 1, 0, 0, 0, 0) from rfl))
theorem u91_14 : wp r 91 14 ls st x Q ↔ wp r 91 16 ls (vI 99 :: st) x Q := (wp_u (show cd 91 14 = some (.bipush 99, 2, 0, 0, 0, 0) from rfl))
theorem u91_16 : wp r 91 16 ls (vI w :: vI z :: st) x Q ↔ if z ≤ w then wp r 91 23 ls st x Q else wp r 91 19 ls st x Q := (wp_u (show cd 91 16 = some (.if_icmp .le 7, 3, 23, 0, 0, 0) from rfl)).trans wq_d
theorem u91_19 : wp r 91 19 ls st x Q ↔ wp r 91 20 ls (vI 1 :: st) x Q := (wp_u (show cd 91 19 = some (.iconst 1, 1, 0, 0, 0, 0) from rfl))
theorem u91_20 : wp r 91 20 ls st x Q ↔ wp r 91 24 ls st x Q := (wp_u (show cd 91 20 = some (.goto 4, 3, 24, 0, 0, 0) from rfl))
theorem u91_23 : wp r 91 23 ls st x Q ↔ wp r 91 24 ls (vI 0 :: st) x Q := (wp_u (show cd 91 23 = some (.iconst 0, 1, 0, 0, 0, 0) from rfl))
theorem u91_24 : wp r 91 24 ls (vI z :: vA q :: st) x Q ↔ sbk 9 (hK x q) ∧ wp r 91 27 ls st (stI x q 0 z) Q := (wp_u (show cd 91 24 = some (.putfield 102, 3, 9, 0, 0, 0) from rfl)).trans g_putI0
theorem u91_27 : wp r 91 27 [vR o, a1, a2, a3, a4] st x Q ↔ wp r 91 28 [vR o, a1, a2, a3, a4] (vR o :: st) x Q := (wp_u (show cd 91 27 = some (.aload_n 0, 1, 0, 0, 0, 0) from rfl))
theorem u91_28 : wp r 91 28 ls (vA q :: st) x Q ↔ sbk 9 (hK x q) ∧ wp r 91 31 ls (vI (hI x q 0) :: st) x Q := (wp_u (show cd 91 28 = some (.getfield 102, 3, 9, 0, 0, 0) from rfl)).trans g_getI
theorem u91_31 : wp r 91 31 ls (vI z :: st) x Q ↔ if z ≤ 0 then wp r 91 36 ls st x Q else wp r 91 34 ls st x Q := (wp_u (show cd 91 31 = some (.ifCond .le 5, 3, 36, 0, 0, 0) from rfl)).trans wq_d
theorem u91_34 : wp r 91 34 ls st x Q ↔ wp r 91 35 ls (vI 0 :: st) x Q := (wp_u (show cd 91 34 = some (.iconst 0, 1, 0, 0, 0, 0) from rfl))
theorem u91_35 : wp r 91 35 ls [vI z] x Q ↔ Q (.inl (some (vI z))) x := (wp_u (show cd 91 35 = some (.ireturn, 1, 0, 0, 0, 0) from rfl))
theorem u91_36 : wp r 91 36 [vR o, a1, a2, a3, a4] st x Q ↔ wp r 91 37 [vR o, a1, a2, a3, a4] (vR o :: st) x Q := (wp_u (show cd 91 36 = some (.aload_n 0, 1, 0, 0, 0, 0) from rfl))
theorem u91_37 : wp r 91 37 [vR o, a1, a2, a3, a4] st x Q ↔ wp r 91 38 [vR o, a1, a2, a3, a4] (vR o :: st) x Q := (wp_u (show cd 91 37 = some (.aload_n 0, 1, 0, 0, 0, 0) from rfl))
theorem u91_38 : wp r 91 38 ls (vA q :: st) x Q ↔ sbk 9 (hK x q) ∧ wp r 91 41 ls (vR (hR x q 3) :: st) x Q := (wp_u (show cd 91 38 = some (.getfield 13, 3, 9, 3, 5, 0) from rfl)).trans g_getR
theorem u91_41 : wp r 91 41 [a0, vI z, a2, a3, a4] st x Q ↔ wp r 91 42 [a0, vI z, a2, a3, a4] (vI z :: st) x Q := (wp_u (show cd 91 41 = some (.iload_n 1, 1, 0, 0, 0, 0) from rfl))
theorem u91_42 : wp r 91 42 ls (vI i :: vA q :: st) x Q ↔ ldk 20 (hK x q) i ∧ wp r 91 43 ls (vI (hI x q i) :: st) x Q := (wp_u (show cd 91 42 = some (.iaload, 1, 0, 0, 0, 0) from rfl)).trans g_ldI
theorem u91_43 : wp r 91 43 ls st x Q ↔ wp r 91 45 ls (vI 24 :: st) x Q := (wp_u (show cd 91 43 = some (.bipush 24, 2, 0, 0, 0, 0) from rfl))
theorem u91_45 : wp r 91 45 ls (vI w :: vI z :: st) x Q ↔ if z = w then wp r 91 65 ls st x Q else wp r 91 48 ls st x Q := (wp_u (show cd 91 45 = some (.if_icmp .eq 20, 3, 65, 0, 0, 0) from rfl)).trans wq_d
theorem u91_48 : wp r 91 48 [vR o, a1, a2, a3, a4] st x Q ↔ wp r 91 49 [vR o, a1, a2, a3, a4] (vR o :: st) x Q := (wp_u (show cd 91 48 = some (.aload_n 0, 1, 0, 0, 0, 0) from rfl))
theorem u91_49 : wp r 91 49 [a0, vI z, a2, a3, a4] st x Q ↔ wp r 91 50 [a0, vI z, a2, a3, a4] (vI z :: st) x Q := (wp_u (show cd 91 49 = some (.iload_n 1, 1, 0, 0, 0, 0) from rfl))
theorem u91_50 : wp r 91 50 ls (vI z0 :: vA q :: st) x Q ↔ isk 9 (hK x q) ∧ sml st = true ∧ 1 < r ∧ wpc 1 107 [vA q, vI z0] x (wk r 91 50 ls st Q) := (wp_u (show cd 91 50 = some (.invokevirtual 138, 3, 107, 2, 1, 9) from rfl)).trans (g_virt rfl (by decide) (by simp) rfl)
theorem u91_53 : wp r 91 53 ls st x Q ↔ wp r 91 54 ls (vI 3 :: st) x Q := (wp_u (show cd 91 53 = some (.iconst 3, 1, 0, 0, 0, 0) from rfl))
theorem u91_54 : wp r 91 54 ls (vI w :: vI z :: st) x Q ↔ if z = w then wp r 91 65 ls st x Q else wp r 91 57 ls st x Q := (wp_u (show cd 91 54 = some (.if_icmp .eq 11, 3, 65, 0, 0, 0) from rfl)).trans wq_d
theorem u91_57 : wp r 91 57 [vR o, a1, a2, a3, a4] st x Q ↔ wp r 91 58 [vR o, a1, a2, a3, a4] (vR o :: st) x Q := (wp_u (show cd 91 57 = some (.aload_n 0, 1, 0, 0, 0, 0) from rfl))
theorem u91_58 : wp r 91 58 [a0, vI z, a2, a3, a4] st x Q ↔ wp r 91 59 [a0, vI z, a2, a3, a4] (vI z :: st) x Q := (wp_u (show cd 91 58 = some (.iload_n 1, 1, 0, 0, 0, 0) from rfl))
theorem u91_59 : wp r 91 59 ls (vI z0 :: vA q :: st) x Q ↔ isk 9 (hK x q) ∧ sml st = true ∧ 2 < r ∧ wpc 2 105 [vA q, vI z0] x (wk r 91 59 ls st Q) := (wp_u (show cd 91 59 = some (.invokevirtual 131, 3, 105, 2, 2, 9) from rfl)).trans (g_virt rfl (by decide) (by simp) rfl)
theorem u91_62 : wp r 91 62 ls (vI z :: st) x Q ↔ if z = 0 then wp r 91 69 ls st x Q else wp r 91 65 ls st x Q := (wp_u (show cd 91 62 = some (.ifCond .eq 7, 3, 69, 0, 0, 0) from rfl)).trans wq_d
theorem u91_65 : wp r 91 65 ls st x Q ↔ wp r 91 66 ls (vI 2 :: st) x Q := (wp_u (show cd 91 65 = some (.iconst 2, 1, 0, 0, 0, 0) from rfl))
theorem u91_66 : wp r 91 66 ls st x Q ↔ wp r 91 70 ls st x Q := (wp_u (show cd 91 66 = some (.goto 4, 3, 70, 0, 0, 0) from rfl))
theorem u91_69 : wp r 91 69 ls st x Q ↔ wp r 91 70 ls (vI 0 :: st) x Q := (wp_u (show cd 91 69 = some (.iconst 0, 1, 0, 0, 0, 0) from rfl))
theorem u91_70 : wp r 91 70 ls (vI z :: vA q :: st) x Q ↔ sbk 9 (hK x q) ∧ wp r 91 73 ls st (stI x q 0 z) Q := (wp_u (show cd 91 70 = some (.putfield 102, 3, 9, 0, 0, 0) from rfl)).trans g_putI0
theorem u91_73 : wp r 91 73 [vR o, a1, a2, a3, a4] st x Q ↔ wp r 91 74 [vR o, a1, a2, a3, a4] (vR o :: st) x Q := (wp_u (show cd 91 73 = some (.aload_n 0, 1, 0, 0, 0, 0) from rfl))
theorem u91_74 : wp r 91 74 ls (vA q :: st) x Q ↔ sbk 9 (hK x q) ∧ wp r 91 77 ls (vI (hI x q 0) :: st) x Q := (wp_u (show cd 91 74 = some (.getfield 102, 3, 9, 0, 0, 0) from rfl)).trans g_getI
theorem u91_77 : wp r 91 77 ls (vI z :: st) x Q ↔ if z ≤ 0 then wp r 91 82 ls st x Q else wp r 91 80 ls st x Q := (wp_u (show cd 91 77 = some (.ifCond .le 5, 3, 82, 0, 0, 0) from rfl)).trans wq_d
theorem u91_80 : wp r 91 80 ls st x Q ↔ wp r 91 81 ls (vI 0 :: st) x Q := (wp_u (show cd 91 80 = some (.iconst 0, 1, 0, 0, 0, 0) from rfl))
theorem u91_81 : wp r 91 81 ls [vI z] x Q ↔ Q (.inl (some (vI z))) x := (wp_u (show cd 91 81 = some (.ireturn, 1, 0, 0, 0, 0) from rfl))
theorem u91_82 : wp r 91 82 [vR o, a1, a2, a3, a4] st x Q ↔ wp r 91 83 [vR o, a1, a2, a3, a4] (vR o :: st) x Q := (wp_u (show cd 91 82 = some (.aload_n 0, 1, 0, 0, 0, 0) from rfl))
theorem u91_83 : wp r 91 83 [a0, vI z, a2, a3, a4] st x Q ↔ wp r 91 84 [a0, vI z, a2, a3, a4] (vI z :: st) x Q := (wp_u (show cd 91 83 = some (.iload_n 1, 1, 0, 0, 0, 0) from rfl))
theorem u91_84 : wp r 91 84 ls st x Q ↔ wp r 91 85 ls (vI 0 :: st) x Q := (wp_u (show cd 91 84 = some (.iconst 0, 1, 0, 0, 0, 0) from rfl))
theorem u91_85 : wp r 91 85 [a0, a1, vI z, a3, a4] st x Q ↔ wp r 91 86 [a0, a1, vI z, a3, a4] (vI z :: st) x Q := (wp_u (show cd 91 85 = some (.iload_n 2, 1, 0, 0, 0, 0) from rfl))
theorem u91_86 : wp r 91 86 [a0, a1, a2, vI z, a4] st x Q ↔ wp r 91 87 [a0, a1, a2, vI z, a4] (vI z :: st) x Q := (wp_u (show cd 91 86 = some (.iload_n 3, 1, 0, 0, 0, 0) from rfl))
theorem u91_87 : wp r 91 87 ls (vI z3 :: vI z2 :: vI z1 :: vI z0 :: vA q :: st) x Q ↔ isk 9 (hK x q) ∧ sml st = true ∧ 1 < r ∧ wpc 1 106 [vA q, vI z0, vI z1, vI z2, vI z3] x (wk r 91 87 ls st Q) := (wp_u (show cd 91 87 = some (.invokevirtual 134, 3, 106, 5, 1, 9) from rfl)).trans (g_virt rfl (by decide) (by simp) rfl)
theorem u91_90 : wp r 91 90 [a0, a1, a2, a3, a4] (vI z :: st) x Q ↔ wp r 91 92 [a0, a1, a2, a3, vI z] st x Q := (wp_u (show cd 91 90 = some (.istore 4, 2, 0, 0, 0, 0) from rfl))
theorem u91_92 : wp r 91 92 [vR o, a1, a2, a3, a4] st x Q ↔ wp r 91 93 [vR o, a1, a2, a3, a4] (vR o :: st) x Q := (wp_u (show cd 91 92 = some (.aload_n 0, 1, 0, 0, 0, 0) from rfl))
theorem u91_93 : wp r 91 93 ls (vA q :: st) x Q ↔ sbk 9 (hK x q) ∧ wp r 91 96 ls (vR (hR x q 8) :: st) x Q := (wp_u (show cd 91 93 = some (.getfield 29, 3, 9, 8, 5, 0) from rfl)).trans g_getR
theorem u91_96 : wp r 91 96 [a0, vI z, a2, a3, a4] st x Q ↔ wp r 91 97 [a0, vI z, a2, a3, a4] (vI z :: st) x Q := (wp_u (show cd 91 96 = some (.iload_n 1, 1, 0, 0, 0, 0) from rfl))
theorem u91_97 : wp r 91 97 [a0, a1, a2, a3, vI z] st x Q ↔ wp r 91 99 [a0, a1, a2, a3, vI z] (vI z :: st) x Q := (wp_u (show cd 91 97 = some (.iload 4, 2, 0, 0, 0, 0) from rfl))
theorem u91_99 : wp r 91 99 ls st x Q ↔ wp r 91 100 ls (vI 1 :: st) x Q := (wp_u (show cd 91 99 = some (.iconst 1, 1, 0, 0, 0, 0) from rfl))
theorem u91_100 : wp r 91 100 ls (vI w :: vI z :: st) x Q ↔ inI (z - w) = true ∧ wp r 91 101 ls (vI (z - w) :: st) x Q := (wp_u (show cd 91 100 = some (.isub, 1, 0, 0, 0, 0) from rfl)).trans wq_if
theorem u91_101 : wp r 91 101 ls (vI z :: vI i :: vA q :: st) x Q ↔ ldk 20 (hK x q) i ∧ 4 ≤ q ∧ wp r 91 102 ls st (stI x q i z) Q := (wp_u (show cd 91 101 = some (.iastore, 1, 0, 0, 0, 0) from rfl)).trans g_stI0
theorem u91_102 : wp r 91 102 [a0, a1, a2, a3, vI z] st x Q ↔ wp r 91 104 [a0, a1, a2, a3, vI z] (vI z :: st) x Q := (wp_u (show cd 91 102 = some (.iload 4, 2, 0, 0, 0, 0) from rfl))
theorem u91_104 : wp r 91 104 ls [vI z] x Q ↔ Q (.inl (some (vI z))) x := (wp_u (show cd 91 104 = some (.ireturn, 1, 0, 0, 0, 0) from rfl))
theorem e91 : wpc r 91 [vA q, vI z0, vI z1, vI z2] x Q ↔ wp r 91 0 [vA q, vI z0, vI z1, vI z2, vL jk] [] x Q := Iff.rfl
/-! 92 M_close -/
theorem u92_0 : wp r 92 0 [vR o, a1] st x Q ↔ wp r 92 1 [vR o, a1] (vR o :: st) x Q := (wp_u (show cd 92 0 = some (.aload_n 0, 1, 0, 0, 0, 0) from rfl))
theorem u92_1 : wp r 92 1 [a0, vI z] st x Q ↔ wp r 92 2 [a0, vI z] (vI z :: st) x Q := (wp_u (show cd 92 1 = some (.iload_n 1, 1, 0, 0, 0, 0) from rfl))
theorem u92_2 : wp r 92 2 ls (vI z0 :: st) x Q ↔ sml st = true ∧ 1 < r ∧ wpc 1 102 [vI z0] x (wk r 92 2 ls st Q) := (wp_u (show cd 92 2 = some (.invokestatic 122, 3, 102, 1, 1, 0) from rfl)).trans (g_stat (by decide) (by simp) rfl)
theorem u92_5 : wp r 92 5 ls (vI z :: st) x Q ↔ if z = 0 then wp r 92 12 ls st x Q else wp r 92 8 ls st x Q := (wp_u (show cd 92 5 = some (.ifCond .eq 7, 3, 12, 0, 0, 0) from rfl)).trans wq_d
theorem u92_8 : wp r 92 8 ls st x Q ↔ wp r 92 9 ls (vI 0 :: st) x Q := (wp_u (show cd 92 8 = some (.iconst 0, 1, 0, 0, 0, 0) from rfl))
theorem u92_9 : wp r 92 9 ls st x Q ↔ wp r 92 13 ls st x Q := (wp_u (show cd 92 9 = some (.goto 4, 3, 13, 0, 0, 0) from rfl))
theorem u92_12 : wp r 92 12 ls st x Q ↔ wp r 92 13 ls (vI 1 :: st) x Q := (wp_u (show cd 92 12 = some (.iconst 1, 1, 0, 0, 0, 0) from rfl))
theorem u92_13 : wp r 92 13 ls (vI z :: vA q :: st) x Q ↔ sbk 9 (hK x q) ∧ wp r 92 16 ls st (stI x q 0 z) Q := (wp_u (show cd 92 13 = some (.putfield 102, 3, 9, 0, 0, 0) from rfl)).trans g_putI0
theorem u92_16 : wp r 92 16 [vR o, a1] st x Q ↔ wp r 92 17 [vR o, a1] (vR o :: st) x Q := (wp_u (show cd 92 16 = some (.aload_n 0, 1, 0, 0, 0, 0) from rfl))
theorem u92_17 : wp r 92 17 ls (vA q :: st) x Q ↔ sbk 9 (hK x q) ∧ wp r 92 20 ls (vI (hI x q 0) :: st) x Q := (wp_u (show cd 92 17 = some (.getfield 102, 3, 9, 0, 0, 0) from rfl)).trans g_getI
theorem u92_20 : wp r 92 20 ls (vI z :: st) x Q ↔ if 0 < z then wp r 92 43 ls st x Q else wp r 92 23 ls st x Q := (wp_u (show cd 92 20 = some (.ifCond .gt 23, 3, 43, 0, 0, 0) from rfl)).trans wq_d
theorem u92_23 : wp r 92 23 [vR o, a1] st x Q ↔ wp r 92 24 [vR o, a1] (vR o :: st) x Q := (wp_u (show cd 92 23 = some (.aload_n 0, 1, 0, 0, 0, 0) from rfl))
theorem u92_24 : wp r 92 24 ls (vA q :: st) x Q ↔ sbk 9 (hK x q) ∧ wp r 92 27 ls (vR (hR x q 8) :: st) x Q := (wp_u (show cd 92 24 = some (.getfield 29, 3, 9, 8, 5, 0) from rfl)).trans g_getR
theorem u92_27 : wp r 92 27 [vR o, a1] st x Q ↔ wp r 92 28 [vR o, a1] (vR o :: st) x Q := (wp_u (show cd 92 27 = some (.aload_n 0, 1, 0, 0, 0, 0) from rfl))
theorem u92_28 : wp r 92 28 ls (vA q :: st) x Q ↔ sbk 9 (hK x q) ∧ wp r 92 31 ls (vI (hI x q 0) :: st) x Q := (wp_u (show cd 92 28 = some (.getfield 102, 3, 9, 0, 0, 0) from rfl)).trans g_getI
theorem u92_31 : wp r 92 31 ls (vI z :: st) x Q ↔ if z ≤ 0 then wp r 92 38 ls st x Q else wp r 92 34 ls st x Q := (wp_u (show cd 92 31 = some (.ifCond .le 7, 3, 38, 0, 0, 0) from rfl)).trans wq_d
theorem u92_34 : wp r 92 34 ls st x Q ↔ wp r 92 35 ls (vI 0 :: st) x Q := (wp_u (show cd 92 34 = some (.iconst 0, 1, 0, 0, 0, 0) from rfl))
theorem u92_35 : wp r 92 35 ls st x Q ↔ wp r 92 39 ls st x Q := (wp_u (show cd 92 35 = some (.goto 4, 3, 39, 0, 0, 0) from rfl))
theorem u92_38 : wp r 92 38 [a0, vI z] st x Q ↔ wp r 92 39 [a0, vI z] (vI z :: st) x Q := (wp_u (show cd 92 38 = some (.iload_n 1, 1, 0, 0, 0, 0) from rfl))
theorem u92_39 : wp r 92 39 ls (vI i :: vA q :: st) x Q ↔ ldk 20 (hK x q) i ∧ wp r 92 40 ls (vI (hI x q i) :: st) x Q := (wp_u (show cd 92 39 = some (.iaload, 1, 0, 0, 0, 0) from rfl)).trans g_ldI
theorem u92_40 : wp r 92 40 ls (vI z :: st) x Q ↔ if 0 ≤ z then wp r 92 45 ls st x Q else wp r 92 43 ls st x Q := (wp_u (show cd 92 40 = some (.ifCond .ge 5, 3, 45, 0, 0, 0) from rfl)).trans wq_d
theorem u92_43 : wp r 92 43 ls st x Q ↔ wp r 92 44 ls (vI 0 :: st) x Q := (wp_u (show cd 92 43 = some (.iconst 0, 1, 0, 0, 0, 0) from rfl))
theorem u92_44 : wp r 92 44 ls [vI z] x Q ↔ rg 4 z = true ∧ Q (.inl (some (vI z))) x := (wp_u (show cd 92 44 = some (.ireturn, 1, 4, 0, 0, 0) from rfl)).trans wq_if
theorem u92_45 : wp r 92 45 [vR o, a1] st x Q ↔ wp r 92 46 [vR o, a1] (vR o :: st) x Q := (wp_u (show cd 92 45 = some (.aload_n 0, 1, 0, 0, 0, 0) from rfl))
theorem u92_46 : wp r 92 46 [a0, vI z] st x Q ↔ wp r 92 47 [a0, vI z] (vI z :: st) x Q := (wp_u (show cd 92 46 = some (.iload_n 1, 1, 0, 0, 0, 0) from rfl))
theorem u92_47 : wp r 92 47 ls (vI z0 :: vA q :: st) x Q ↔ isk 9 (hK x q) ∧ sml st = true ∧ 2 < r ∧ wpc 2 105 [vA q, vI z0] x (wk r 92 47 ls st Q) := (wp_u (show cd 92 47 = some (.invokevirtual 131, 3, 105, 2, 2, 9) from rfl)).trans (g_virt rfl (by decide) (by simp) rfl)
theorem u92_50 : wp r 92 50 ls (vI z :: st) x Q ↔ if z = 0 then wp r 92 55 ls st x Q else wp r 92 53 ls st x Q := (wp_u (show cd 92 50 = some (.ifCond .eq 5, 3, 55, 0, 0, 0) from rfl)).trans wq_d
theorem u92_53 : wp r 92 53 ls st x Q ↔ wp r 92 54 ls (vI 0 :: st) x Q := (wp_u (show cd 92 53 = some (.iconst 0, 1, 0, 0, 0, 0) from rfl))
theorem u92_54 : wp r 92 54 ls [vI z] x Q ↔ rg 4 z = true ∧ Q (.inl (some (vI z))) x := (wp_u (show cd 92 54 = some (.ireturn, 1, 4, 0, 0, 0) from rfl)).trans wq_if
theorem u92_55 : wp r 92 55 [vR o, a1] st x Q ↔ wp r 92 56 [vR o, a1] (vR o :: st) x Q := (wp_u (show cd 92 55 = some (.aload_n 0, 1, 0, 0, 0, 0) from rfl))
theorem u92_56 : wp r 92 56 ls (vA q :: st) x Q ↔ sbk 9 (hK x q) ∧ wp r 92 59 ls (vR (hR x q 8) :: st) x Q := (wp_u (show cd 92 56 = some (.getfield 29, 3, 9, 8, 5, 0) from rfl)).trans g_getR
theorem u92_59 : wp r 92 59 [a0, vI z] st x Q ↔ wp r 92 60 [a0, vI z] (vI z :: st) x Q := (wp_u (show cd 92 59 = some (.iload_n 1, 1, 0, 0, 0, 0) from rfl))
theorem u92_60 : wp r 92 60 [vR o, a1] st x Q ↔ wp r 92 61 [vR o, a1] (vR o :: st) x Q := (wp_u (show cd 92 60 = some (.aload_n 0, 1, 0, 0, 0, 0) from rfl))
theorem u92_61 : wp r 92 61 ls (vA q :: st) x Q ↔ sbk 9 (hK x q) ∧ wp r 92 64 ls (vR (hR x q 7) :: st) x Q := (wp_u (show cd 92 61 = some (.getfield 26, 3, 9, 7, 5, 0) from rfl)).trans g_getR
theorem u92_64 : wp r 92 64 ls st x Q ↔ wp r 92 66 ls (vI 24 :: st) x Q := (wp_u (show cd 92 64 = some (.bipush 24, 2, 0, 0, 0, 0) from rfl))
theorem u92_66 : wp r 92 66 [a0, vI z] st x Q ↔ wp r 92 67 [a0, vI z] (vI z :: st) x Q := (wp_u (show cd 92 66 = some (.iload_n 1, 1, 0, 0, 0, 0) from rfl))
theorem u92_67 : wp r 92 67 ls (vI w :: vI z :: st) x Q ↔ inI (z * w) = true ∧ wp r 92 68 ls (vI (z * w) :: st) x Q := (wp_u (show cd 92 67 = some (.imul, 1, 0, 0, 0, 0) from rfl)).trans wq_if
theorem u92_68 : wp r 92 68 [vR o, a1] st x Q ↔ wp r 92 69 [vR o, a1] (vR o :: st) x Q := (wp_u (show cd 92 68 = some (.aload_n 0, 1, 0, 0, 0, 0) from rfl))
theorem u92_69 : wp r 92 69 ls (vA q :: st) x Q ↔ sbk 9 (hK x q) ∧ wp r 92 72 ls (vR (hR x q 8) :: st) x Q := (wp_u (show cd 92 69 = some (.getfield 29, 3, 9, 8, 5, 0) from rfl)).trans g_getR
theorem u92_72 : wp r 92 72 [a0, vI z] st x Q ↔ wp r 92 73 [a0, vI z] (vI z :: st) x Q := (wp_u (show cd 92 72 = some (.iload_n 1, 1, 0, 0, 0, 0) from rfl))
theorem u92_73 : wp r 92 73 ls (vI i :: vA q :: st) x Q ↔ ldk 20 (hK x q) i ∧ wp r 92 74 ls (vI (hI x q i) :: st) x Q := (wp_u (show cd 92 73 = some (.iaload, 1, 0, 0, 0, 0) from rfl)).trans g_ldI
theorem u92_74 : wp r 92 74 ls (vI w :: vI z :: st) x Q ↔ inI (z + w) = true ∧ wp r 92 75 ls (vI (z + w) :: st) x Q := (wp_u (show cd 92 74 = some (.iadd, 1, 0, 0, 0, 0) from rfl)).trans wq_if
theorem u92_75 : wp r 92 75 ls (vI i :: vA q :: st) x Q ↔ ldk 20 (hK x q) i ∧ wp r 92 76 ls (vI (hI x q i) :: st) x Q := (wp_u (show cd 92 75 = some (.iaload, 1, 0, 0, 0, 0) from rfl)).trans g_ldI
theorem u92_76 : wp r 92 76 ls (vI z :: vI i :: vA q :: st) x Q ↔ ldk 20 (hK x q) i ∧ 4 ≤ q ∧ wp r 92 77 ls st (stI x q i z) Q := (wp_u (show cd 92 76 = some (.iastore, 1, 0, 0, 0, 0) from rfl)).trans g_stI0
theorem u92_77 : wp r 92 77 ls st x Q ↔ wp r 92 78 ls (vI 1 :: st) x Q := (wp_u (show cd 92 77 = some (.iconst 1, 1, 0, 0, 0, 0) from rfl))
theorem u92_78 : wp r 92 78 ls [vI z] x Q ↔ rg 4 z = true ∧ Q (.inl (some (vI z))) x := (wp_u (show cd 92 78 = some (.ireturn, 1, 4, 0, 0, 0) from rfl)).trans wq_if
theorem e92 : wpc r 92 [vA q, vI z0] x Q ↔ wp r 92 0 [vA q, vI z0] [] x Q := Iff.rfl
/-! 93 M_clear -/
theorem u93_0 : wp r 93 0 [vR o, a1] st x Q ↔ wp r 93 1 [vR o, a1] (vR o :: st) x Q := (wp_u (show cd 93 0 = some (.aload_n 0, 1, 0, 0, 0, 0) from rfl))
theorem u93_1 : wp r 93 1 [a0, vI z] st x Q ↔ wp r 93 2 [a0, vI z] (vI z :: st) x Q := (wp_u (show cd 93 1 = some (.iload_n 1, 1, 0, 0, 0, 0) from rfl))
theorem u93_2 : wp r 93 2 ls (vI z0 :: st) x Q ↔ sml st = true ∧ 1 < r ∧ wpc 1 102 [vI z0] x (wk r 93 2 ls st Q) := (wp_u (show cd 93 2 = some (.invokestatic 122, 3, 102, 1, 1, 0) from rfl)).trans (g_stat (by decide) (by simp) rfl)
theorem u93_5 : wp r 93 5 ls (vI z :: st) x Q ↔ if z = 0 then wp r 93 12 ls st x Q else wp r 93 8 ls st x Q := (wp_u (show cd 93 5 = some (.ifCond .eq 7, 3, 12, 0, 0, 0) from rfl)).trans wq_d
theorem u93_8 : wp r 93 8 ls st x Q ↔ wp r 93 9 ls (vI 0 :: st) x Q := (wp_u (show cd 93 8 = some (.iconst 0, 1, 0, 0, 0, 0) from rfl))
theorem u93_9 : wp r 93 9 ls st x Q ↔ wp r 93 13 ls st x Q := (wp_u (show cd 93 9 = some (.goto 4, 3, 13, 0, 0, 0) from rfl))
theorem u93_12 : wp r 93 12 ls st x Q ↔ wp r 93 13 ls (vI 1 :: st) x Q := (wp_u (show cd 93 12 = some (.iconst 1, 1, 0, 0, 0, 0) from rfl))
theorem u93_13 : wp r 93 13 ls (vI z :: vA q :: st) x Q ↔ sbk 9 (hK x q) ∧ wp r 93 16 ls st (stI x q 0 z) Q := (wp_u (show cd 93 13 = some (.putfield 102, 3, 9, 0, 0, 0) from rfl)).trans g_putI0
theorem u93_16 : wp r 93 16 [vR o, a1] st x Q ↔ wp r 93 17 [vR o, a1] (vR o :: st) x Q := (wp_u (show cd 93 16 = some (.aload_n 0, 1, 0, 0, 0, 0) from rfl))
theorem u93_17 : wp r 93 17 ls (vA q :: st) x Q ↔ sbk 9 (hK x q) ∧ wp r 93 20 ls (vI (hI x q 0) :: st) x Q := (wp_u (show cd 93 17 = some (.getfield 102, 3, 9, 0, 0, 0) from rfl)).trans g_getI
theorem u93_20 : wp r 93 20 ls (vI z :: st) x Q ↔ if 0 < z then wp r 93 43 ls st x Q else wp r 93 23 ls st x Q := (wp_u (show cd 93 20 = some (.ifCond .gt 23, 3, 43, 0, 0, 0) from rfl)).trans wq_d
theorem u93_23 : wp r 93 23 [vR o, a1] st x Q ↔ wp r 93 24 [vR o, a1] (vR o :: st) x Q := (wp_u (show cd 93 23 = some (.aload_n 0, 1, 0, 0, 0, 0) from rfl))
theorem u93_24 : wp r 93 24 ls (vA q :: st) x Q ↔ sbk 9 (hK x q) ∧ wp r 93 27 ls (vR (hR x q 3) :: st) x Q := (wp_u (show cd 93 24 = some (.getfield 13, 3, 9, 3, 5, 0) from rfl)).trans g_getR
theorem u93_27 : wp r 93 27 [vR o, a1] st x Q ↔ wp r 93 28 [vR o, a1] (vR o :: st) x Q := (wp_u (show cd 93 27 = some (.aload_n 0, 1, 0, 0, 0, 0) from rfl))
theorem u93_28 : wp r 93 28 ls (vA q :: st) x Q ↔ sbk 9 (hK x q) ∧ wp r 93 31 ls (vI (hI x q 0) :: st) x Q := (wp_u (show cd 93 28 = some (.getfield 102, 3, 9, 0, 0, 0) from rfl)).trans g_getI
theorem u93_31 : wp r 93 31 ls (vI z :: st) x Q ↔ if z ≤ 0 then wp r 93 38 ls st x Q else wp r 93 34 ls st x Q := (wp_u (show cd 93 31 = some (.ifCond .le 7, 3, 38, 0, 0, 0) from rfl)).trans wq_d
theorem u93_34 : wp r 93 34 ls st x Q ↔ wp r 93 35 ls (vI 0 :: st) x Q := (wp_u (show cd 93 34 = some (.iconst 0, 1, 0, 0, 0, 0) from rfl))
theorem u93_35 : wp r 93 35 ls st x Q ↔ wp r 93 39 ls st x Q := (wp_u (show cd 93 35 = some (.goto 4, 3, 39, 0, 0, 0) from rfl))
theorem u93_38 : wp r 93 38 [a0, vI z] st x Q ↔ wp r 93 39 [a0, vI z] (vI z :: st) x Q := (wp_u (show cd 93 38 = some (.iload_n 1, 1, 0, 0, 0, 0) from rfl))
theorem u93_39 : wp r 93 39 ls (vI i :: vA q :: st) x Q ↔ ldk 20 (hK x q) i ∧ wp r 93 40 ls (vI (hI x q i) :: st) x Q := (wp_u (show cd 93 39 = some (.iaload, 1, 0, 0, 0, 0) from rfl)).trans g_ldI
theorem u93_40 : wp r 93 40 ls (vI z :: st) x Q ↔ if z = 0 then wp r 93 43 ls st x Q else wp r 93 45 ls st x Q := (wp_u (show cd 93 40 = some (.ifCond .ne 5, 3, 45, 0, 0, 0) from rfl)).trans wq_dn
theorem u93_43 : wp r 93 43 ls st x Q ↔ wp r 93 44 ls (vI 0 :: st) x Q := (wp_u (show cd 93 43 = some (.iconst 0, 1, 0, 0, 0, 0) from rfl))
theorem u93_44 : wp r 93 44 ls [vI z] x Q ↔ rg 4 z = true ∧ Q (.inl (some (vI z))) x := (wp_u (show cd 93 44 = some (.ireturn, 1, 4, 0, 0, 0) from rfl)).trans wq_if
theorem u93_45 : wp r 93 45 [vR o, a1] st x Q ↔ wp r 93 46 [vR o, a1] (vR o :: st) x Q := (wp_u (show cd 93 45 = some (.aload_n 0, 1, 0, 0, 0, 0) from rfl))
theorem u93_46 : wp r 93 46 ls (vA q :: st) x Q ↔ sbk 9 (hK x q) ∧ wp r 93 49 ls (vR (hR x q 3) :: st) x Q := (wp_u (show cd 93 46 = some (.getfield 13, 3, 9, 3, 5, 0) from rfl)).trans g_getR
theorem u93_49 : wp r 93 49 [a0, vI z] st x Q ↔ wp r 93 50 [a0, vI z] (vI z :: st) x Q := (wp_u (show cd 93 49 = some (.iload_n 1, 1, 0, 0, 0, 0) from rfl))
theorem u93_50 : wp r 93 50 ls st x Q ↔ wp r 93 51 ls (vI 0 :: st) x Q := (wp_u (show cd 93 50 = some (.iconst 0, 1, 0, 0, 0, 0) from rfl))
theorem u93_51 : wp r 93 51 ls (vI z :: vI i :: vA q :: st) x Q ↔ ldk 20 (hK x q) i ∧ 4 ≤ q ∧ wp r 93 52 ls st (stI x q i z) Q := (wp_u (show cd 93 51 = some (.iastore, 1, 0, 0, 0, 0) from rfl)).trans g_stI0
theorem u93_52 : wp r 93 52 [vR o, a1] st x Q ↔ wp r 93 53 [vR o, a1] (vR o :: st) x Q := (wp_u (show cd 93 52 = some (.aload_n 0, 1, 0, 0, 0, 0) from rfl))
theorem u93_53 : wp r 93 53 ls (vA q :: st) x Q ↔ sbk 9 (hK x q) ∧ wp r 93 56 ls (vR (hR x q 8) :: st) x Q := (wp_u (show cd 93 53 = some (.getfield 29, 3, 9, 8, 5, 0) from rfl)).trans g_getR
theorem u93_56 : wp r 93 56 [a0, vI z] st x Q ↔ wp r 93 57 [a0, vI z] (vI z :: st) x Q := (wp_u (show cd 93 56 = some (.iload_n 1, 1, 0, 0, 0, 0) from rfl))
theorem u93_57 : wp r 93 57 ls st x Q ↔ wp r 93 58 ls (vI (-1) :: st) x Q := (wp_u (show cd 93 57 = some (.iconst (-1), 1, 0, 0, 0, 0) from rfl))
theorem u93_58 : wp r 93 58 ls (vI z :: vI i :: vA q :: st) x Q ↔ ldk 20 (hK x q) i ∧ 4 ≤ q ∧ wp r 93 59 ls st (stI x q i z) Q := (wp_u (show cd 93 58 = some (.iastore, 1, 0, 0, 0, 0) from rfl)).trans g_stI0
theorem u93_59 : wp r 93 59 ls st x Q ↔ wp r 93 60 ls (vI 1 :: st) x Q := (wp_u (show cd 93 59 = some (.iconst 1, 1, 0, 0, 0, 0) from rfl))
theorem u93_60 : wp r 93 60 ls [vI z] x Q ↔ rg 4 z = true ∧ Q (.inl (some (vI z))) x := (wp_u (show cd 93 60 = some (.ireturn, 1, 4, 0, 0, 0) from rfl)).trans wq_if
theorem e93 : wpc r 93 [vA q, vI z0] x Q ↔ wp r 93 0 [vA q, vI z0] [] x Q := Iff.rfl
/-! 94 M_read -/
theorem u94_0 : wp r 94 0 [vR o, a1, a2, a3] st x Q ↔ wp r 94 1 [vR o, a1, a2, a3] (vR o :: st) x Q := (wp_u (show cd 94 0 = some (.aload_n 0, 1, 0, 0, 0, 0) from rfl))
theorem u94_1 : wp r 94 1 ls st x Q ↔ wp r 94 2 ls (vI (-1) :: st) x Q := (wp_u (show cd 94 1 = some (.iconst (-1), 1, 0, 0, 0, 0) from rfl))
theorem u94_2 : wp r 94 2 ls (vI z :: vA q :: st) x Q ↔ sbk 9 (hK x q) ∧ wp r 94 5 ls st (stI x q 13 z) Q := (wp_u (show cd 94 2 = some (.putfield 32, 3, 9, 13, 0, 0) from rfl)).trans g_putI0
theorem u94_5 : wp r 94 5 [vR o, a1, a2, a3] st x Q ↔ wp r 94 6 [vR o, a1, a2, a3] (vR o :: st) x Q := (wp_u (show cd 94 5 = some (.aload_n 0, 1, 0, 0, 0, 0) from rfl))
theorem u94_6 : wp r 94 6 [vR o, a1, a2, a3] st x Q ↔ wp r 94 7 [vR o, a1, a2, a3] (vR o :: st) x Q := (wp_u (show cd 94 6 = some (.aload_n 0, 1, 0, 0, 0, 0) from rfl))
theorem u94_7 : wp r 94 7 ls (vA q :: st) x Q ↔ isk 9 (hK x q) ∧ sml st = true ∧ 4 < r ∧ wpc 4 108 [vA q] x (wk r 94 7 ls st Q) := (wp_u (show cd 94 7 = some (.invokevirtual 243, 3, 108, 1, 4, 9) from rfl)).trans (g_virt rfl (by decide) (by simp) rfl)
theorem u94_10 : wp r 94 10 ls (vI z :: st) x Q ↔ if z = 0 then wp r 94 17 ls st x Q else wp r 94 13 ls st x Q := (wp_u (show cd 94 10 = some (.ifCond .eq 7, 3, 17, 0, 0, 0) from rfl)).trans wq_d
theorem u94_13 : wp r 94 13 ls st x Q ↔ wp r 94 14 ls (vI 0 :: st) x Q := (wp_u (show cd 94 13 = some (.iconst 0, 1, 0, 0, 0, 0) from rfl))
theorem u94_14 : wp r 94 14 ls st x Q ↔ wp r 94 18 ls st x Q := (wp_u (show cd 94 14 = some (.goto 4, 3, 18, 0, 0, 0) from rfl))
theorem u94_17 : wp r 94 17 ls st x Q ↔ wp r 94 18 ls (vI 1 :: st) x Q := (wp_u (show cd 94 17 = some (.iconst 1, 1, 0, 0, 0, 0) from rfl))
theorem u94_18 : wp r 94 18 ls (vI z :: vA q :: st) x Q ↔ sbk 9 (hK x q) ∧ wp r 94 21 ls st (stI x q 0 z) Q := (wp_u (show cd 94 18 = some (.putfield 102, 3, 9, 0, 0, 0) from rfl)).trans g_putI0
theorem u94_21 : wp r 94 21 [vR o, a1, a2, a3] st x Q ↔ wp r 94 22 [vR o, a1, a2, a3] (vR o :: st) x Q := (wp_u (show cd 94 21 = some (.aload_n 0, 1, 0, 0, 0, 0) from rfl))
theorem u94_22 : wp r 94 22 ls (vA q :: st) x Q ↔ sbk 9 (hK x q) ∧ wp r 94 25 ls (vI (hI x q 0) :: st) x Q := (wp_u (show cd 94 22 = some (.getfield 102, 3, 9, 0, 0, 0) from rfl)).trans g_getI
theorem u94_25 : wp r 94 25 ls (vI z :: st) x Q ↔ if z ≤ 0 then wp r 94 30 ls st x Q else wp r 94 28 ls st x Q := (wp_u (show cd 94 25 = some (.ifCond .le 5, 3, 30, 0, 0, 0) from rfl)).trans wq_d
theorem u94_28 : wp r 94 28 ls st x Q ↔ wp r 94 29 ls (vI 0 :: st) x Q := (wp_u (show cd 94 28 = some (.iconst 0, 1, 0, 0, 0, 0) from rfl))
theorem u94_29 : wp r 94 29 ls [vI z] x Q ↔ Q (.inl (some (vI z))) x := (wp_u (show cd 94 29 = some (.ireturn, 1, 0, 0, 0, 0) from rfl))
theorem u94_30 : wp r 94 30 [vR o, a1, a2, a3] st x Q ↔ wp r 94 31 [vR o, a1, a2, a3] (vR o :: st) x Q := (wp_u (show cd 94 30 = some (.aload_n 0, 1, 0, 0, 0, 0) from rfl))
theorem u94_31 : wp r 94 31 ls st x Q ↔ wp r 94 32 ls (vI (-1) :: st) x Q := (wp_u (show cd 94 31 = some (.iconst (-1), 1, 0, 0, 0, 0) from rfl))
theorem u94_32 : wp r 94 32 ls (vI z :: vA q :: st) x Q ↔ sbk 9 (hK x q) ∧ wp r 94 35 ls st (stI x q 13 z) Q := (wp_u (show cd 94 32 = some (.putfield 32, 3, 9, 13, 0, 0) from rfl)).trans g_putI0
theorem u94_35 : wp r 94 35 [vR o, a1, a2, a3] st x Q ↔ wp r 94 36 [vR o, a1, a2, a3] (vR o :: st) x Q := (wp_u (show cd 94 35 = some (.aload_n 0, 1, 0, 0, 0, 0) from rfl))
theorem u94_36 : wp r 94 36 [vR o, a1, a2, a3] st x Q ↔ wp r 94 37 [vR o, a1, a2, a3] (vR o :: st) x Q := (wp_u (show cd 94 36 = some (.aload_n 0, 1, 0, 0, 0, 0) from rfl))
theorem u94_37 : wp r 94 37 ls (vA q :: st) x Q ↔ isk 9 (hK x q) ∧ sml st = true ∧ 2 < r ∧ wpc 2 109 [vA q] x (wk r 94 37 ls st Q) := (wp_u (show cd 94 37 = some (.invokevirtual 247, 3, 109, 1, 2, 9) from rfl)).trans (g_virt rfl (by decide) (by simp) rfl)
theorem u94_40 : wp r 94 40 ls (vI z :: st) x Q ↔ if z = 0 then wp r 94 47 ls st x Q else wp r 94 43 ls st x Q := (wp_u (show cd 94 40 = some (.ifCond .eq 7, 3, 47, 0, 0, 0) from rfl)).trans wq_d
theorem u94_43 : wp r 94 43 ls st x Q ↔ wp r 94 44 ls (vI 0 :: st) x Q := (wp_u (show cd 94 43 = some (.iconst 0, 1, 0, 0, 0, 0) from rfl))
theorem u94_44 : wp r 94 44 ls st x Q ↔ wp r 94 48 ls st x Q := (wp_u (show cd 94 44 = some (.goto 4, 3, 48, 0, 0, 0) from rfl))
theorem u94_47 : wp r 94 47 ls st x Q ↔ wp r 94 48 ls (vI 2 :: st) x Q := (wp_u (show cd 94 47 = some (.iconst 2, 1, 0, 0, 0, 0) from rfl))
theorem u94_48 : wp r 94 48 ls (vI z :: vA q :: st) x Q ↔ sbk 9 (hK x q) ∧ wp r 94 51 ls st (stI x q 0 z) Q := (wp_u (show cd 94 48 = some (.putfield 102, 3, 9, 0, 0, 0) from rfl)).trans g_putI0
theorem u94_51 : wp r 94 51 [vR o, a1, a2, a3] st x Q ↔ wp r 94 52 [vR o, a1, a2, a3] (vR o :: st) x Q := (wp_u (show cd 94 51 = some (.aload_n 0, 1, 0, 0, 0, 0) from rfl))
theorem u94_52 : wp r 94 52 ls (vA q :: st) x Q ↔ sbk 9 (hK x q) ∧ wp r 94 55 ls (vI (hI x q 0) :: st) x Q := (wp_u (show cd 94 52 = some (.getfield 102, 3, 9, 0, 0, 0) from rfl)).trans g_getI
theorem u94_55 : wp r 94 55 ls (vI z :: st) x Q ↔ if z ≤ 0 then wp r 94 60 ls st x Q else wp r 94 58 ls st x Q := (wp_u (show cd 94 55 = some (.ifCond .le 5, 3, 60, 0, 0, 0) from rfl)).trans wq_d
theorem u94_58 : wp r 94 58 ls st x Q ↔ wp r 94 59 ls (vI 0 :: st) x Q := (wp_u (show cd 94 58 = some (.iconst 0, 1, 0, 0, 0, 0) from rfl))
theorem u94_59 : wp r 94 59 ls [vI z] x Q ↔ Q (.inl (some (vI z))) x := (wp_u (show cd 94 59 = some (.ireturn, 1, 0, 0, 0, 0) from rfl))
theorem u94_60 : wp r 94 60 [vR o, a1, a2, a3] st x Q ↔ wp r 94 61 [vR o, a1, a2, a3] (vR o :: st) x Q := (wp_u (show cd 94 60 = some (.aload_n 0, 1, 0, 0, 0, 0) from rfl))
theorem u94_61 : wp r 94 61 ls (vA q :: st) x Q ↔ isk 9 (hK x q) ∧ sml st = true ∧ 1 < r ∧ wpc 1 110 [vA q] x (wk r 94 61 ls st Q) := (wp_u (show cd 94 61 = some (.invokevirtual 250, 3, 110, 1, 1, 9) from rfl)).trans (g_virt rfl (by decide) (by simp) rfl)
theorem u94_64 : wp r 94 64 [vR o, a1, a2, a3] st x Q ↔ wp r 94 65 [vR o, a1, a2, a3] (vR o :: st) x Q := (wp_u (show cd 94 64 = some (.aload_n 0, 1, 0, 0, 0, 0) from rfl))
theorem u94_65 : wp r 94 65 ls st x Q ↔ wp r 94 66 ls (vI 1 :: st) x Q := (wp_u (show cd 94 65 = some (.iconst 1, 1, 0, 0, 0, 0) from rfl))
theorem u94_66 : wp r 94 66 ls (vI z :: vA q :: st) x Q ↔ sbk 9 (hK x q) ∧ rg 4 z = true ∧ wp r 94 69 ls st (stI x q 23 z) Q := (wp_u (show cd 94 66 = some (.putfield 253, 3, 9, 23, 4, 0) from rfl)).trans g_putI
theorem u94_69 : wp r 94 69 [vR o, a1, a2, a3] st x Q ↔ wp r 94 70 [vR o, a1, a2, a3] (vR o :: st) x Q := (wp_u (show cd 94 69 = some (.aload_n 0, 1, 0, 0, 0, 0) from rfl))
theorem u94_70 : wp r 94 70 ls st x Q ↔ wp r 94 71 ls (vI 0 :: st) x Q := (wp_u (show cd 94 70 = some (.iconst 0, 1, 0, 0, 0, 0) from rfl))
theorem u94_71 : wp r 94 71 ls (vI z :: vA q :: st) x Q ↔ sbk 9 (hK x q) ∧ wp r 94 74 ls st (stI x q 1 z) Q := (wp_u (show cd 94 71 = some (.putfield 105, 3, 9, 1, 0, 0) from rfl)).trans g_putI0
theorem u94_74 : wp r 94 74 ls st x Q ↔ wp r 94 75 ls (vI 0 :: st) x Q := (wp_u (show cd 94 74 = some (.iconst 0, 1, 0, 0, 0, 0) from rfl))
theorem u94_75 : wp r 94 75 [a0, a1, a2, a3] (vI z :: st) x Q ↔ wp r 94 76 [a0, vI z, a2, a3] st x Q := (wp_u (show cd 94 75 = some (.istore_n 1, 1, 0, 0, 0, 0) from rfl))
theorem u94_76 : wp r 94 76 [a0, vI z, a2, a3] st x Q ↔ wp r 94 77 [a0, vI z, a2, a3] (vI z :: st) x Q := (wp_u (show cd 94 76 = some (.iload_n 1, 1, 0, 0, 0, 0) from rfl))
theorem u94_77 : wp r 94 77 [vR o, a1, a2, a3] st x Q ↔ wp r 94 78 [vR o, a1, a2, a3] (vR o :: st) x Q := (wp_u (show cd 94 77 = some (.aload_n 0, 1, 0, 0, 0, 0) from rfl))
theorem u94_78 : wp r 94 78 ls (vA q :: st) x Q ↔ sbk 9 (hK x q) ∧ wp r 94 81 ls (vI (hI x q 33) :: st) x Q := (wp_u (show cd 94 78 = some (.getfield 196, 3, 9, 33, 0, 0) from rfl)).trans g_getI
theorem u94_81 : wp r 94 81 ls (vI w :: vI z :: st) x Q ↔ if w ≤ z then wp r 94 95 ls st x Q else wp r 94 84 ls st x Q := (wp_u (show cd 94 81 = some (.if_icmp .ge 14, 3, 95, 0, 0, 0) from rfl)).trans wq_d
theorem u94_84 : wp r 94 84 [vR o, a1, a2, a3] st x Q ↔ wp r 94 85 [vR o, a1, a2, a3] (vR o :: st) x Q := (wp_u (show cd 94 84 = some (.aload_n 0, 1, 0, 0, 0, 0) from rfl))
theorem u94_85 : wp r 94 85 [a0, vI z, a2, a3] st x Q ↔ wp r 94 86 [a0, vI z, a2, a3] (vI z :: st) x Q := (wp_u (show cd 94 85 = some (.iload_n 1, 1, 0, 0, 0, 0) from rfl))
theorem u94_86 : wp r 94 86 ls (vI z0 :: vA q :: st) x Q ↔ isk 9 (hK x q) ∧ sml st = true ∧ 4 < r ∧ wpc 4 111 [vA q, vI z0] x (wk r 94 86 ls st Q) := (wp_u (show cd 94 86 = some (.invokevirtual 257, 3, 111, 2, 4, 9) from rfl)).trans (g_virt rfl (by decide) (by simp) rfl)
theorem u94_89 : wp r 94 89 [a0, vI z, a2, a3] st x Q ↔ inI (z + 1) = true ∧ wp r 94 92 [a0, vI (z + 1), a2, a3] st x Q := (wp_u (show cd 94 89 = some (.iinc 1 1, 3, 0, 0, 0, 0) from rfl)).trans wq_if
theorem u94_92 : wp r 94 92 ls st x Q ↔ wp r 94 76 ls st x Q := (wp_u (show cd 94 92 = some (.goto (-16), 3, 76, 0, 0, 0) from rfl))
theorem u94_95 : wp r 94 95 ls st x Q ↔ wp r 94 96 ls (vI 0 :: st) x Q := (wp_u (show cd 94 95 = some (.iconst 0, 1, 0, 0, 0, 0) from rfl))
theorem u94_96 : wp r 94 96 [a0, a1, a2, a3] (vI z :: st) x Q ↔ wp r 94 97 [a0, vI z, a2, a3] st x Q := (wp_u (show cd 94 96 = some (.istore_n 1, 1, 0, 0, 0, 0) from rfl))
theorem u94_97 : wp r 94 97 [a0, vI z, a2, a3] st x Q ↔ wp r 94 98 [a0, vI z, a2, a3] (vI z :: st) x Q := (wp_u (show cd 94 97 = some (.iload_n 1, 1, 0, 0, 0, 0) from rfl))
theorem u94_98 : wp r 94 98 [vR o, a1, a2, a3] st x Q ↔ wp r 94 99 [vR o, a1, a2, a3] (vR o :: st) x Q := (wp_u (show cd 94 98 = some (.aload_n 0, 1, 0, 0, 0, 0) from rfl))
theorem u94_99 : wp r 94 99 ls (vA q :: st) x Q ↔ sbk 9 (hK x q) ∧ wp r 94 102 ls (vI (hI x q 39) :: st) x Q := (wp_u (show cd 94 99 = some (.getfield 199, 3, 9, 39, 0, 0) from rfl)).trans g_getI
theorem u94_102 : wp r 94 102 ls (vI w :: vI z :: st) x Q ↔ if w ≤ z then wp r 94 171 ls st x Q else wp r 94 105 ls st x Q := (wp_u (show cd 94 102 = some (.if_icmp .ge 69, 3, 171, 0, 0, 0) from rfl)).trans wq_d
theorem u94_105 : wp r 94 105 ls st x Q ↔ wp r 94 106 ls (vI 0 :: st) x Q := (wp_u (show cd 94 105 = some (.iconst 0, 1, 0, 0, 0, 0) from rfl))
theorem u94_106 : wp r 94 106 [a0, a1, a2, a3] (vI z :: st) x Q ↔ wp r 94 107 [a0, a1, vI z, a3] st x Q := (wp_u (show cd 94 106 = some (.istore_n 2, 1, 0, 0, 0, 0) from rfl))
theorem u94_107 : wp r 94 107 ls st x Q ↔ wp r 94 108 ls (vI 0 :: st) x Q := (wp_u (show cd 94 107 = some (.iconst 0, 1, 0, 0, 0, 0) from rfl))
theorem u94_108 : wp r 94 108 [a0, a1, a2, a3] (vI z :: st) x Q ↔ wp r 94 109 [a0, a1, a2, vI z] st x Q := (wp_u (show cd 94 108 = some (.istore_n 3, 1, 0, 0, 0, 0) from rfl))
theorem u94_109 : wp r 94 109 [a0, a1, a2, vI z] st x Q ↔ wp r 94 110 [a0, a1, a2, vI z] (vI z :: st) x Q := (wp_u (show cd 94 109 = some (.iload_n 3, 1, 0, 0, 0, 0) from rfl))
theorem u94_110 : wp r 94 110 [vR o, a1, a2, a3] st x Q ↔ wp r 94 111 [vR o, a1, a2, a3] (vR o :: st) x Q := (wp_u (show cd 94 110 = some (.aload_n 0, 1, 0, 0, 0, 0) from rfl))
theorem u94_111 : wp r 94 111 ls (vA q :: st) x Q ↔ sbk 9 (hK x q) ∧ wp r 94 114 ls (vI (hI x q 33) :: st) x Q := (wp_u (show cd 94 111 = some (.getfield 196, 3, 9, 33, 0, 0) from rfl)).trans g_getI
theorem u94_114 : wp r 94 114 ls (vI w :: vI z :: st) x Q ↔ if w ≤ z then wp r 94 141 ls st x Q else wp r 94 117 ls st x Q := (wp_u (show cd 94 114 = some (.if_icmp .ge 27, 3, 141, 0, 0, 0) from rfl)).trans wq_d
theorem u94_117 : wp r 94 117 [a0, a1, vI z, a3] st x Q ↔ wp r 94 118 [a0, a1, vI z, a3] (vI z :: st) x Q := (wp_u (show cd 94 117 = some (.iload_n 2, 1, 0, 0, 0, 0) from rfl))
theorem u94_118 : wp r 94 118 [vR o, a1, a2, a3] st x Q ↔ wp r 94 119 [vR o, a1, a2, a3] (vR o :: st) x Q := (wp_u (show cd 94 118 = some (.aload_n 0, 1, 0, 0, 0, 0) from rfl))
theorem u94_119 : wp r 94 119 ls (vA q :: st) x Q ↔ sbk 9 (hK x q) ∧ wp r 94 122 ls (vR (hR x q 36) :: st) x Q := (wp_u (show cd 94 119 = some (.getfield 72, 3, 9, 36, 5, 0) from rfl)).trans g_getR
theorem u94_122 : wp r 94 122 [a0, a1, a2, vI z] st x Q ↔ wp r 94 123 [a0, a1, a2, vI z] (vI z :: st) x Q := (wp_u (show cd 94 122 = some (.iload_n 3, 1, 0, 0, 0, 0) from rfl))
theorem u94_123 : wp r 94 123 ls (vI i :: vA q :: st) x Q ↔ ldk 20 (hK x q) i ∧ wp r 94 124 ls (vI (hI x q i) :: st) x Q := (wp_u (show cd 94 123 = some (.iaload, 1, 0, 0, 0, 0) from rfl)).trans g_ldI
theorem u94_124 : wp r 94 124 [a0, vI z, a2, a3] st x Q ↔ wp r 94 125 [a0, vI z, a2, a3] (vI z :: st) x Q := (wp_u (show cd 94 124 = some (.iload_n 1, 1, 0, 0, 0, 0) from rfl))
theorem u94_125 : wp r 94 125 ls (vI w :: vI z :: st) x Q ↔ if z = w then wp r 94 128 ls st x Q else wp r 94 132 ls st x Q := (wp_u (show cd 94 125 = some (.if_icmp .ne 7, 3, 132, 0, 0, 0) from rfl)).trans wq_dn
theorem u94_128 : wp r 94 128 ls st x Q ↔ wp r 94 129 ls (vI 1 :: st) x Q := (wp_u (show cd 94 128 = some (.iconst 1, 1, 0, 0, 0, 0) from rfl))
theorem u94_129 : wp r 94 129 ls st x Q ↔ wp r 94 133 ls st x Q := (wp_u (show cd 94 129 = some (.goto 4, 3, 133, 0, 0, 0) from rfl))
theorem u94_132 : wp r 94 132 ls st x Q ↔ wp r 94 133 ls (vI 0 :: st) x Q := (wp_u (show cd 94 132 = some (.iconst 0, 1, 0, 0, 0, 0) from rfl))
theorem u94_133 : wp r 94 133 ls (vI w :: vI z :: st) x Q ↔ inI (z + w) = true ∧ wp r 94 134 ls (vI (z + w) :: st) x Q := (wp_u (show cd 94 133 = some (.iadd, 1, 0, 0, 0, 0) from rfl)).trans wq_if
theorem u94_134 : wp r 94 134 [a0, a1, a2, a3] (vI z :: st) x Q ↔ wp r 94 135 [a0, a1, vI z, a3] st x Q := (wp_u (show cd 94 134 = some (.istore_n 2, 1, 0, 0, 0, 0) from rfl))
theorem u94_135 : wp r 94 135 [a0, a1, a2, vI z] st x Q ↔ inI (z + 1) = true ∧ wp r 94 138 [a0, a1, a2, vI (z + 1)] st x Q := (wp_u (show cd 94 135 = some (.iinc 3 1, 3, 0, 0, 0, 0) from rfl)).trans wq_if
theorem u94_138 : wp r 94 138 ls st x Q ↔ wp r 94 109 ls st x Q := (wp_u (show cd 94 138 = some (.goto (-29), 3, 109, 0, 0, 0) from rfl))
theorem u94_141 : wp r 94 141 [vR o, a1, a2, a3] st x Q ↔ wp r 94 142 [vR o, a1, a2, a3] (vR o :: st) x Q := (wp_u (show cd 94 141 = some (.aload_n 0, 1, 0, 0, 0, 0) from rfl))
theorem u94_142 : wp r 94 142 ls (vA q :: st) x Q ↔ sbk 9 (hK x q) ∧ wp r 94 145 ls (vR (hR x q 42) :: st) x Q := (wp_u (show cd 94 142 = some (.getfield 87, 3, 9, 42, 5, 0) from rfl)).trans g_getR
theorem u94_145 : wp r 94 145 [a0, vI z, a2, a3] st x Q ↔ wp r 94 146 [a0, vI z, a2, a3] (vI z :: st) x Q := (wp_u (show cd 94 145 = some (.iload_n 1, 1, 0, 0, 0, 0) from rfl))
theorem u94_146 : wp r 94 146 [vR o, a1, a2, a3] st x Q ↔ wp r 94 147 [vR o, a1, a2, a3] (vR o :: st) x Q := (wp_u (show cd 94 146 = some (.aload_n 0, 1, 0, 0, 0, 0) from rfl))
theorem u94_147 : wp r 94 147 [vR o, a1, a2, a3] st x Q ↔ wp r 94 148 [vR o, a1, a2, a3] (vR o :: st) x Q := (wp_u (show cd 94 147 = some (.aload_n 0, 1, 0, 0, 0, 0) from rfl))
theorem u94_148 : wp r 94 148 ls (vA q :: st) x Q ↔ sbk 9 (hK x q) ∧ wp r 94 151 ls (vR (hR x q 40) :: st) x Q := (wp_u (show cd 94 148 = some (.getfield 81, 3, 9, 40, 5, 0) from rfl)).trans g_getR
theorem u94_151 : wp r 94 151 [a0, vI z, a2, a3] st x Q ↔ wp r 94 152 [a0, vI z, a2, a3] (vI z :: st) x Q := (wp_u (show cd 94 151 = some (.iload_n 1, 1, 0, 0, 0, 0) from rfl))
theorem u94_152 : wp r 94 152 ls (vI i :: vA q :: st) x Q ↔ ldk 20 (hK x q) i ∧ wp r 94 153 ls (vI (hI x q i) :: st) x Q := (wp_u (show cd 94 152 = some (.iaload, 1, 0, 0, 0, 0) from rfl)).trans g_ldI
theorem u94_153 : wp r 94 153 ls st x Q ↔ wp r 94 154 ls (vI 0 :: st) x Q := (wp_u (show cd 94 153 = some (.iconst 0, 1, 0, 0, 0, 0) from rfl))
theorem u94_154 : wp r 94 154 [vR o, a1, a2, a3] st x Q ↔ wp r 94 155 [vR o, a1, a2, a3] (vR o :: st) x Q := (wp_u (show cd 94 154 = some (.aload_n 0, 1, 0, 0, 0, 0) from rfl))
theorem u94_155 : wp r 94 155 ls (vA q :: st) x Q ↔ sbk 9 (hK x q) ∧ wp r 94 158 ls (vR (hR x q 41) :: st) x Q := (wp_u (show cd 94 155 = some (.getfield 84, 3, 9, 41, 5, 0) from rfl)).trans g_getR
theorem u94_158 : wp r 94 158 [a0, vI z, a2, a3] st x Q ↔ wp r 94 159 [a0, vI z, a2, a3] (vI z :: st) x Q := (wp_u (show cd 94 158 = some (.iload_n 1, 1, 0, 0, 0, 0) from rfl))
theorem u94_159 : wp r 94 159 ls (vI i :: vA q :: st) x Q ↔ ldk 20 (hK x q) i ∧ wp r 94 160 ls (vI (hI x q i) :: st) x Q := (wp_u (show cd 94 159 = some (.iaload, 1, 0, 0, 0, 0) from rfl)).trans g_ldI
theorem u94_160 : wp r 94 160 [a0, a1, vI z, a3] st x Q ↔ wp r 94 161 [a0, a1, vI z, a3] (vI z :: st) x Q := (wp_u (show cd 94 160 = some (.iload_n 2, 1, 0, 0, 0, 0) from rfl))
theorem u94_161 : wp r 94 161 ls (vI z3 :: vI z2 :: vI z1 :: vI z0 :: vA q :: st) x Q ↔ isk 9 (hK x q) ∧ sml st = true ∧ 3 < r ∧ wpc 3 112 [vA q, vI z0, vI z1, vI z2, vI z3] x (wk r 94 161 ls st Q) := (wp_u (show cd 94 161 = some (.invokevirtual 230, 3, 112, 5, 3, 9) from rfl)).trans (g_virt rfl (by decide) (by simp) rfl)
theorem u94_164 : wp r 94 164 ls (vI z :: vI i :: vA q :: st) x Q ↔ ldk 20 (hK x q) i ∧ 4 ≤ q ∧ wp r 94 165 ls st (stI x q i z) Q := (wp_u (show cd 94 164 = some (.iastore, 1, 0, 0, 0, 0) from rfl)).trans g_stI0
theorem u94_165 : wp r 94 165 [a0, vI z, a2, a3] st x Q ↔ inI (z + 1) = true ∧ wp r 94 168 [a0, vI (z + 1), a2, a3] st x Q := (wp_u (show cd 94 165 = some (.iinc 1 1, 3, 0, 0, 0, 0) from rfl)).trans wq_if
theorem u94_168 : wp r 94 168 ls st x Q ↔ wp r 94 97 ls st x Q := (wp_u (show cd 94 168 = some (.goto (-71), 3, 97, 0, 0, 0) from rfl))
theorem u94_171 : wp r 94 171 [vR o, a1, a2, a3] st x Q ↔ wp r 94 172 [vR o, a1, a2, a3] (vR o :: st) x Q := (wp_u (show cd 94 171 = some (.aload_n 0, 1, 0, 0, 0, 0) from rfl))
theorem u94_172 : wp r 94 172 [vR o, a1, a2, a3] st x Q ↔ wp r 94 173 [vR o, a1, a2, a3] (vR o :: st) x Q := (wp_u (show cd 94 172 = some (.aload_n 0, 1, 0, 0, 0, 0) from rfl))
theorem u94_173 : wp r 94 173 ls st x Q ↔ wp r 94 174 ls (vI 0 :: st) x Q := (wp_u (show cd 94 173 = some (.iconst 0, 1, 0, 0, 0, 0) from rfl))
theorem u94_174 : wp r 94 174 ls st x Q ↔ wp r 94 175 ls (vI 2 :: st) x Q := (wp_u (show cd 94 174 = some (.iconst 2, 1, 0, 0, 0, 0) from rfl))
theorem u94_175 : wp r 94 175 [vR o, a1, a2, a3] st x Q ↔ wp r 94 176 [vR o, a1, a2, a3] (vR o :: st) x Q := (wp_u (show cd 94 175 = some (.aload_n 0, 1, 0, 0, 0, 0) from rfl))
theorem u94_176 : wp r 94 176 ls (vA q :: st) x Q ↔ sbk 9 (hK x q) ∧ wp r 94 179 ls (vI (hI x q 24) :: st) x Q := (wp_u (show cd 94 176 = some (.getfield 187, 3, 9, 24, 0, 0) from rfl)).trans g_getI
theorem u94_179 : wp r 94 179 ls st x Q ↔ wp r 94 180 ls (vI 1 :: st) x Q := (wp_u (show cd 94 179 = some (.iconst 1, 1, 0, 0, 0, 0) from rfl))
theorem u94_180 : wp r 94 180 ls (vI w :: vI z :: st) x Q ↔ inI (z - w) = true ∧ wp r 94 181 ls (vI (z - w) :: st) x Q := (wp_u (show cd 94 180 = some (.isub, 1, 0, 0, 0, 0) from rfl)).trans wq_if
theorem u94_181 : wp r 94 181 [vR o, a1, a2, a3] st x Q ↔ wp r 94 182 [vR o, a1, a2, a3] (vR o :: st) x Q := (wp_u (show cd 94 181 = some (.aload_n 0, 1, 0, 0, 0, 0) from rfl))
theorem u94_182 : wp r 94 182 ls (vA q :: st) x Q ↔ sbk 9 (hK x q) ∧ wp r 94 185 ls (vI (hI x q 39) :: st) x Q := (wp_u (show cd 94 182 = some (.getfield 199, 3, 9, 39, 0, 0) from rfl)).trans g_getI
theorem u94_185 : wp r 94 185 ls (vI z :: st) x Q ↔ if z ≤ 0 then wp r 94 195 ls st x Q else wp r 94 188 ls st x Q := (wp_u (show cd 94 185 = some (.ifCond .le 10, 3, 195, 0, 0, 0) from rfl)).trans wq_d
theorem u94_188 : wp r 94 188 [vR o, a1, a2, a3] st x Q ↔ wp r 94 189 [vR o, a1, a2, a3] (vR o :: st) x Q := (wp_u (show cd 94 188 = some (.aload_n 0, 1, 0, 0, 0, 0) from rfl))
theorem u94_189 : wp r 94 189 ls (vA q :: st) x Q ↔ sbk 9 (hK x q) ∧ wp r 94 192 ls (vI (hI x q 39) :: st) x Q := (wp_u (show cd 94 189 = some (.getfield 199, 3, 9, 39, 0, 0) from rfl)).trans g_getI
theorem u94_192 : wp r 94 192 ls st x Q ↔ wp r 94 199 ls st x Q := (wp_u (show cd 94 192 = some (.goto 7, 3, 199, 0, 0, 0) from rfl))
theorem u94_195 : wp r 94 195 [vR o, a1, a2, a3] st x Q ↔ wp r 94 196 [vR o, a1, a2, a3] (vR o :: st) x Q := (wp_u (show cd 94 195 = some (.aload_n 0, 1, 0, 0, 0, 0) from rfl))
theorem u94_196 : wp r 94 196 ls (vA q :: st) x Q ↔ sbk 9 (hK x q) ∧ wp r 94 199 ls (vI (hI x q 33) :: st) x Q := (wp_u (show cd 94 196 = some (.getfield 196, 3, 9, 33, 0, 0) from rfl)).trans g_getI
theorem u94_199 : wp r 94 199 ls (vI z3 :: vI z2 :: vI z1 :: vI z0 :: vA q :: st) x Q ↔ isk 9 (hK x q) ∧ sml st = true ∧ 3 < r ∧ wpc 3 112 [vA q, vI z0, vI z1, vI z2, vI z3] x (wk r 94 199 ls st Q) := (wp_u (show cd 94 199 = some (.invokevirtual 230, 3, 112, 5, 3, 9) from rfl)).trans (g_virt rfl (by decide) (by simp) rfl)
theorem u94_202 : wp r 94 202 ls (vI z :: vA q :: st) x Q ↔ sbk 9 (hK x q) ∧ wp r 94 205 ls st (stI x q 32 z) Q := (wp_u (show cd 94 202 = some (.putfield 260, 3, 9, 32, 0, 0) from rfl)).trans g_putI0
theorem u94_205 : wp r 94 205 [vR o, a1, a2, a3] st x Q ↔ wp r 94 206 [vR o, a1, a2, a3] (vR o :: st) x Q := (wp_u (show cd 94 205 = some (.aload_n 0, 1, 0, 0, 0, 0) from rfl))
theorem u94_206 : wp r 94 206 ls (vA q :: st) x Q ↔ isk 9 (hK x q) ∧ sml st = true ∧ 3 < r ∧ wpc 3 113 [vA q] x (wk r 94 206 ls st Q) := (wp_u (show cd 94 206 = some (.invokevirtual 263, 3, 113, 1, 3, 9) from rfl)).trans (g_virt rfl (by decide) (by simp) rfl)
theorem u94_209 : wp r 94 209 [vR o, a1, a2, a3] st x Q ↔ wp r 94 210 [vR o, a1, a2, a3] (vR o :: st) x Q := (wp_u (show cd 94 209 = some (.aload_n 0, 1, 0, 0, 0, 0) from rfl))
theorem u94_210 : wp r 94 210 ls (vA q :: st) x Q ↔ isk 9 (hK x q) ∧ sml st = true ∧ 4 < r ∧ wpc 4 114 [vA q] x (wk r 94 210 ls st Q) := (wp_u (show cd 94 210 = some (.invokevirtual 266, 3, 114, 1, 4, 9) from rfl)).trans (g_virt rfl (by decide) (by simp) rfl)
theorem u94_213 : wp r 94 213 [vR o, a1, a2, a3] st x Q ↔ wp r 94 214 [vR o, a1, a2, a3] (vR o :: st) x Q := (wp_u (show cd 94 213 = some (.aload_n 0, 1, 0, 0, 0, 0) from rfl))
theorem u94_214 : wp r 94 214 ls (vA q :: st) x Q ↔ sbk 9 (hK x q) ∧ wp r 94 217 ls (vI (hI x q 33) :: st) x Q := (wp_u (show cd 94 214 = some (.getfield 196, 3, 9, 33, 0, 0) from rfl)).trans g_getI
theorem u94_217 : wp r 94 217 ls [vI z] x Q ↔ Q (.inl (some (vI z))) x := (wp_u (show cd 94 217 = some (.ireturn, 1, 0, 0, 0, 0) from rfl))
theorem e94 : wpc r 94 [vA q] x Q ↔ wp r 94 0 [vA q, vL jk, vL jk, vL jk] [] x Q := Iff.rfl
/-! 95 M_fault -/
theorem u95_0 : wp r 95 0 [vR o] st x Q ↔ wp r 95 1 [vR o] (vR o :: st) x Q := (wp_u (show cd 95 0 = some (.aload_n 0, 1, 0, 0, 0, 0) from rfl))
theorem u95_1 : wp r 95 1 ls st x Q ↔ wp r 95 2 ls (vI 0 :: st) x Q := (wp_u (show cd 95 1 = some (.iconst 0, 1, 0, 0, 0, 0) from rfl))
theorem u95_2 : wp r 95 2 ls (vI z :: vA q :: st) x Q ↔ sbk 9 (hK x q) ∧ wp r 95 5 ls st (stI x q 0 z) Q := (wp_u (show cd 95 2 = some (.putfield 102, 3, 9, 0, 0, 0) from rfl)).trans g_putI0
theorem u95_5 : wp r 95 5 [vR o] st x Q ↔ wp r 95 6 [vR o] (vR o :: st) x Q := (wp_u (show cd 95 5 = some (.aload_n 0, 1, 0, 0, 0, 0) from rfl))
theorem u95_6 : wp r 95 6 ls (vA q :: st) x Q ↔ sbk 9 (hK x q) ∧ wp r 95 9 ls (vI (hI x q 13) :: st) x Q := (wp_u (show cd 95 6 = some (.getfield 32, 3, 9, 13, 0, 0) from rfl)).trans g_getI
theorem u95_9 : wp r 95 9 ls [vI z] x Q ↔ Q (.inl (some (vI z))) x := (wp_u (show cd 95 9 = some (.ireturn, 1, 0, 0, 0, 0) from rfl))
theorem e95 : wpc r 95 [vA q] x Q ↔ wp r 95 0 [vA q] [] x Q := Iff.rfl
/-! 96 M_interchange -/
theorem u96_0 : wp r 96 0 [vR o, a1] st x Q ↔ wp r 96 1 [vR o, a1] (vR o :: st) x Q := (wp_u (show cd 96 0 = some (.aload_n 0, 1, 0, 0, 0, 0) from rfl))
theorem u96_1 : wp r 96 1 [vR o, a1] st x Q ↔ wp r 96 2 [vR o, a1] (vR o :: st) x Q := (wp_u (show cd 96 1 = some (.aload_n 0, 1, 0, 0, 0, 0) from rfl))
theorem u96_2 : wp r 96 2 ls (vA q :: st) x Q ↔ sbk 9 (hK x q) ∧ wp r 96 5 ls (vI (hI x q 23) :: st) x Q := (wp_u (show cd 96 2 = some (.getfield 253, 3, 9, 23, 4, 0) from rfl)).trans g_getI
theorem u96_5 : wp r 96 5 ls (vI z :: st) x Q ↔ if z = 0 then wp r 96 12 ls st x Q else wp r 96 8 ls st x Q := (wp_u (show cd 96 5 = some (.ifCond .eq 7, 3, 12, 0, 0, 0) from rfl)).trans wq_d
theorem u96_8 : wp r 96 8 ls st x Q ↔ wp r 96 9 ls (vI 0 :: st) x Q := (wp_u (show cd 96 8 = some (.iconst 0, 1, 0, 0, 0, 0) from rfl))
theorem u96_9 : wp r 96 9 ls st x Q ↔ wp r 96 13 ls st x Q := (wp_u (show cd 96 9 = some (.goto 4, 3, 13, 0, 0, 0) from rfl))
theorem u96_12 : wp r 96 12 ls st x Q ↔ wp r 96 13 ls (vI 1 :: st) x Q := (wp_u (show cd 96 12 = some (.iconst 1, 1, 0, 0, 0, 0) from rfl))
theorem u96_13 : wp r 96 13 ls (vI z :: vA q :: st) x Q ↔ sbk 9 (hK x q) ∧ wp r 96 16 ls st (stI x q 0 z) Q := (wp_u (show cd 96 13 = some (.putfield 102, 3, 9, 0, 0, 0) from rfl)).trans g_putI0
theorem u96_16 : wp r 96 16 [vR o, a1] st x Q ↔ wp r 96 17 [vR o, a1] (vR o :: st) x Q := (wp_u (show cd 96 16 = some (.aload_n 0, 1, 0, 0, 0, 0) from rfl))
theorem u96_17 : wp r 96 17 ls (vA q :: st) x Q ↔ sbk 9 (hK x q) ∧ wp r 96 20 ls (vI (hI x q 23) :: st) x Q := (wp_u (show cd 96 17 = some (.getfield 253, 3, 9, 23, 4, 0) from rfl)).trans g_getI
theorem u96_20 : wp r 96 20 ls (vI z :: st) x Q ↔ if z = 0 then wp r 96 23 ls st x Q else wp r 96 25 ls st x Q := (wp_u (show cd 96 20 = some (.ifCond .ne 5, 3, 25, 0, 0, 0) from rfl)).trans wq_dn
theorem u96_23 : wp r 96 23 ls st x Q ↔ wp r 96 24 ls (vI 0 :: st) x Q := (wp_u (show cd 96 23 = some (.iconst 0, 1, 0, 0, 0, 0) from rfl))
theorem u96_24 : wp r 96 24 ls [vI z] x Q ↔ Q (.inl (some (vI z))) x := (wp_u (show cd 96 24 = some (.ireturn, 1, 0, 0, 0, 0) from rfl))
theorem u96_25 : wp r 96 25 [a0, vI z] st x Q ↔ wp r 96 26 [a0, vI z] (vI z :: st) x Q := (wp_u (show cd 96 25 = some (.iload_n 1, 1, 0, 0, 0, 0) from rfl))
theorem u96_26 : wp r 96 26 ls (vI z :: st) x Q ↔ if z = 0 then wp r 96 29 ls st x Q else wp r 96 36 ls st x Q := (wp_u (show cd 96 26 = some (.ifCond .ne 10, 3, 36, 0, 0, 0) from rfl)).trans wq_dn
theorem u96_29 : wp r 96 29 [vR o, a1] st x Q ↔ wp r 96 30 [vR o, a1] (vR o :: st) x Q := (wp_u (show cd 96 29 = some (.aload_n 0, 1, 0, 0, 0, 0) from rfl))
theorem u96_30 : wp r 96 30 ls (vA q :: st) x Q ↔ sbk 9 (hK x q) ∧ wp r 96 33 ls (vI (hI x q 24) :: st) x Q := (wp_u (show cd 96 30 = some (.getfield 187, 3, 9, 24, 0, 0) from rfl)).trans g_getI
theorem u96_33 : wp r 96 33 ls st x Q ↔ wp r 96 73 ls st x Q := (wp_u (show cd 96 33 = some (.goto 40, 3, 73, 0, 0, 0) from rfl))
theorem u96_36 : wp r 96 36 [a0, vI z] st x Q ↔ wp r 96 37 [a0, vI z] (vI z :: st) x Q := (wp_u (show cd 96 36 = some (.iload_n 1, 1, 0, 0, 0, 0) from rfl))
theorem u96_37 : wp r 96 37 ls st x Q ↔ wp r 96 38 ls (vI 1 :: st) x Q := (wp_u (show cd 96 37 = some (.iconst 1, 1, 0, 0, 0, 0) from rfl))
theorem u96_38 : wp r 96 38 ls (vI w :: vI z :: st) x Q ↔ if z = w then wp r 96 41 ls st x Q else wp r 96 48 ls st x Q := (wp_u (show cd 96 38 = some (.if_icmp .ne 10, 3, 48, 0, 0, 0) from rfl)).trans wq_dn
theorem u96_41 : wp r 96 41 [vR o, a1] st x Q ↔ wp r 96 42 [vR o, a1] (vR o :: st) x Q := (wp_u (show cd 96 41 = some (.aload_n 0, 1, 0, 0, 0, 0) from rfl))
theorem u96_42 : wp r 96 42 ls (vA q :: st) x Q ↔ sbk 9 (hK x q) ∧ wp r 96 45 ls (vI (hI x q 33) :: st) x Q := (wp_u (show cd 96 42 = some (.getfield 196, 3, 9, 33, 0, 0) from rfl)).trans g_getI
theorem u96_45 : wp r 96 45 ls st x Q ↔ wp r 96 73 ls st x Q := (wp_u (show cd 96 45 = some (.goto 28, 3, 73, 0, 0, 0) from rfl))
theorem u96_48 : wp r 96 48 [a0, vI z] st x Q ↔ wp r 96 49 [a0, vI z] (vI z :: st) x Q := (wp_u (show cd 96 48 = some (.iload_n 1, 1, 0, 0, 0, 0) from rfl))
theorem u96_49 : wp r 96 49 ls st x Q ↔ wp r 96 50 ls (vI 2 :: st) x Q := (wp_u (show cd 96 49 = some (.iconst 2, 1, 0, 0, 0, 0) from rfl))
theorem u96_50 : wp r 96 50 ls (vI w :: vI z :: st) x Q ↔ if z = w then wp r 96 53 ls st x Q else wp r 96 60 ls st x Q := (wp_u (show cd 96 50 = some (.if_icmp .ne 10, 3, 60, 0, 0, 0) from rfl)).trans wq_dn
theorem u96_53 : wp r 96 53 [vR o, a1] st x Q ↔ wp r 96 54 [vR o, a1] (vR o :: st) x Q := (wp_u (show cd 96 53 = some (.aload_n 0, 1, 0, 0, 0, 0) from rfl))
theorem u96_54 : wp r 96 54 ls (vA q :: st) x Q ↔ sbk 9 (hK x q) ∧ wp r 96 57 ls (vI (hI x q 39) :: st) x Q := (wp_u (show cd 96 54 = some (.getfield 199, 3, 9, 39, 0, 0) from rfl)).trans g_getI
theorem u96_57 : wp r 96 57 ls st x Q ↔ wp r 96 73 ls st x Q := (wp_u (show cd 96 57 = some (.goto 16, 3, 73, 0, 0, 0) from rfl))
theorem u96_60 : wp r 96 60 [a0, vI z] st x Q ↔ wp r 96 61 [a0, vI z] (vI z :: st) x Q := (wp_u (show cd 96 60 = some (.iload_n 1, 1, 0, 0, 0, 0) from rfl))
theorem u96_61 : wp r 96 61 ls st x Q ↔ wp r 96 62 ls (vI 3 :: st) x Q := (wp_u (show cd 96 61 = some (.iconst 3, 1, 0, 0, 0, 0) from rfl))
theorem u96_62 : wp r 96 62 ls (vI w :: vI z :: st) x Q ↔ if z = w then wp r 96 65 ls st x Q else wp r 96 72 ls st x Q := (wp_u (show cd 96 62 = some (.if_icmp .ne 10, 3, 72, 0, 0, 0) from rfl)).trans wq_dn
theorem u96_65 : wp r 96 65 [vR o, a1] st x Q ↔ wp r 96 66 [vR o, a1] (vR o :: st) x Q := (wp_u (show cd 96 65 = some (.aload_n 0, 1, 0, 0, 0, 0) from rfl))
theorem u96_66 : wp r 96 66 ls (vA q :: st) x Q ↔ sbk 9 (hK x q) ∧ wp r 96 69 ls (vI (hI x q 32) :: st) x Q := (wp_u (show cd 96 66 = some (.getfield 260, 3, 9, 32, 0, 0) from rfl)).trans g_getI
theorem u96_69 : wp r 96 69 ls st x Q ↔ wp r 96 73 ls st x Q := (wp_u (show cd 96 69 = some (.goto 4, 3, 73, 0, 0, 0) from rfl))
theorem u96_72 : wp r 96 72 ls st x Q ↔ wp r 96 73 ls (vI (-1) :: st) x Q := (wp_u (show cd 96 72 = some (.iconst (-1), 1, 0, 0, 0, 0) from rfl))
theorem u96_73 : wp r 96 73 ls [vI z] x Q ↔ Q (.inl (some (vI z))) x := (wp_u (show cd 96 73 = some (.ireturn, 1, 0, 0, 0, 0) from rfl))
theorem e96 : wpc r 96 [vA q, vI z0] x Q ↔ wp r 96 0 [vA q, vI z0] [] x Q := Iff.rfl
/-! 97 M_message -/
theorem u97_0 : wp r 97 0 [vR o, a1, a2] st x Q ↔ wp r 97 1 [vR o, a1, a2] (vR o :: st) x Q := (wp_u (show cd 97 0 = some (.aload_n 0, 1, 0, 0, 0, 0) from rfl))
theorem u97_1 : wp r 97 1 [vR o, a1, a2] st x Q ↔ wp r 97 2 [vR o, a1, a2] (vR o :: st) x Q := (wp_u (show cd 97 1 = some (.aload_n 0, 1, 0, 0, 0, 0) from rfl))
theorem u97_2 : wp r 97 2 ls (vA q :: st) x Q ↔ sbk 9 (hK x q) ∧ wp r 97 5 ls (vI (hI x q 23) :: st) x Q := (wp_u (show cd 97 2 = some (.getfield 253, 3, 9, 23, 4, 0) from rfl)).trans g_getI
theorem u97_5 : wp r 97 5 ls (vI z :: st) x Q ↔ if z = 0 then wp r 97 12 ls st x Q else wp r 97 8 ls st x Q := (wp_u (show cd 97 5 = some (.ifCond .eq 7, 3, 12, 0, 0, 0) from rfl)).trans wq_d
theorem u97_8 : wp r 97 8 ls st x Q ↔ wp r 97 9 ls (vI 0 :: st) x Q := (wp_u (show cd 97 8 = some (.iconst 0, 1, 0, 0, 0, 0) from rfl))
theorem u97_9 : wp r 97 9 ls st x Q ↔ wp r 97 13 ls st x Q := (wp_u (show cd 97 9 = some (.goto 4, 3, 13, 0, 0, 0) from rfl))
theorem u97_12 : wp r 97 12 ls st x Q ↔ wp r 97 13 ls (vI 1 :: st) x Q := (wp_u (show cd 97 12 = some (.iconst 1, 1, 0, 0, 0, 0) from rfl))
theorem u97_13 : wp r 97 13 ls (vI z :: vA q :: st) x Q ↔ sbk 9 (hK x q) ∧ wp r 97 16 ls st (stI x q 0 z) Q := (wp_u (show cd 97 13 = some (.putfield 102, 3, 9, 0, 0, 0) from rfl)).trans g_putI0
theorem u97_16 : wp r 97 16 [vR o, a1, a2] st x Q ↔ wp r 97 17 [vR o, a1, a2] (vR o :: st) x Q := (wp_u (show cd 97 16 = some (.aload_n 0, 1, 0, 0, 0, 0) from rfl))
theorem u97_17 : wp r 97 17 ls (vA q :: st) x Q ↔ sbk 9 (hK x q) ∧ wp r 97 20 ls (vI (hI x q 23) :: st) x Q := (wp_u (show cd 97 17 = some (.getfield 253, 3, 9, 23, 4, 0) from rfl)).trans g_getI
theorem u97_20 : wp r 97 20 ls (vI z :: st) x Q ↔ if z = 0 then wp r 97 44 ls st x Q else wp r 97 23 ls st x Q := (wp_u (show cd 97 20 = some (.ifCond .eq 24, 3, 44, 0, 0, 0) from rfl)).trans wq_d
theorem u97_23 : wp r 97 23 [a0, vI z, a2] st x Q ↔ wp r 97 24 [a0, vI z, a2] (vI z :: st) x Q := (wp_u (show cd 97 23 = some (.iload_n 1, 1, 0, 0, 0, 0) from rfl))
theorem u97_24 : wp r 97 24 ls (vI z :: st) x Q ↔ if z < 0 then wp r 97 44 ls st x Q else wp r 97 27 ls st x Q := (wp_u (show cd 97 24 = some (.ifCond .lt 20, 3, 44, 0, 0, 0) from rfl)).trans wq_d
theorem u97_27 : wp r 97 27 [a0, vI z, a2] st x Q ↔ wp r 97 28 [a0, vI z, a2] (vI z :: st) x Q := (wp_u (show cd 97 27 = some (.iload_n 1, 1, 0, 0, 0, 0) from rfl))
theorem u97_28 : wp r 97 28 [vR o, a1, a2] st x Q ↔ wp r 97 29 [vR o, a1, a2] (vR o :: st) x Q := (wp_u (show cd 97 28 = some (.aload_n 0, 1, 0, 0, 0, 0) from rfl))
theorem u97_29 : wp r 97 29 ls (vA q :: st) x Q ↔ sbk 9 (hK x q) ∧ wp r 97 32 ls (vI (hI x q 33) :: st) x Q := (wp_u (show cd 97 29 = some (.getfield 196, 3, 9, 33, 0, 0) from rfl)).trans g_getI
theorem u97_32 : wp r 97 32 ls (vI w :: vI z :: st) x Q ↔ if w ≤ z then wp r 97 44 ls st x Q else wp r 97 35 ls st x Q := (wp_u (show cd 97 32 = some (.if_icmp .ge 12, 3, 44, 0, 0, 0) from rfl)).trans wq_d
theorem u97_35 : wp r 97 35 [a0, a1, vI z] st x Q ↔ wp r 97 36 [a0, a1, vI z] (vI z :: st) x Q := (wp_u (show cd 97 35 = some (.iload_n 2, 1, 0, 0, 0, 0) from rfl))
theorem u97_36 : wp r 97 36 ls (vI z :: st) x Q ↔ if z < 0 then wp r 97 44 ls st x Q else wp r 97 39 ls st x Q := (wp_u (show cd 97 36 = some (.ifCond .lt 8, 3, 44, 0, 0, 0) from rfl)).trans wq_d
theorem u97_39 : wp r 97 39 [a0, a1, vI z] st x Q ↔ wp r 97 40 [a0, a1, vI z] (vI z :: st) x Q := (wp_u (show cd 97 39 = some (.iload_n 2, 1, 0, 0, 0, 0) from rfl))
theorem u97_40 : wp r 97 40 ls st x Q ↔ wp r 97 41 ls (vI 3 :: st) x Q := (wp_u (show cd 97 40 = some (.iconst 3, 1, 0, 0, 0, 0) from rfl))
theorem u97_41 : wp r 97 41 ls (vI w :: vI z :: st) x Q ↔ if z ≤ w then wp r 97 57 ls st x Q else wp r 97 44 ls st x Q := (wp_u (show cd 97 41 = some (.if_icmp .le 16, 3, 57, 0, 0, 0) from rfl)).trans wq_d
theorem u97_44 : wp r 97 44 [vR o, a1, a2] st x Q ↔ wp r 97 45 [vR o, a1, a2] (vR o :: st) x Q := (wp_u (show cd 97 44 = some (.aload_n 0, 1, 0, 0, 0, 0) from rfl))
theorem u97_45 : wp r 97 45 ls (vA q :: st) x Q ↔ sbk 9 (hK x q) ∧ wp r 97 48 ls (vI (hI x q 23) :: st) x Q := (wp_u (show cd 97 45 = some (.getfield 253, 3, 9, 23, 4, 0) from rfl)).trans g_getI
theorem u97_48 : wp r 97 48 ls (vI z :: st) x Q ↔ if z = 0 then wp r 97 55 ls st x Q else wp r 97 51 ls st x Q := (wp_u (show cd 97 48 = some (.ifCond .eq 7, 3, 55, 0, 0, 0) from rfl)).trans wq_d
theorem u97_51 : wp r 97 51 ls st x Q ↔ wp r 97 52 ls (vI (-1) :: st) x Q := (wp_u (show cd 97 51 = some (.iconst (-1), 1, 0, 0, 0, 0) from rfl))
theorem u97_52 : wp r 97 52 ls st x Q ↔ wp r 97 56 ls st x Q := (wp_u (show cd 97 52 = some (.goto 4, 3, 56, 0, 0, 0) from rfl))
theorem u97_55 : wp r 97 55 ls st x Q ↔ wp r 97 56 ls (vI 0 :: st) x Q := (wp_u (show cd 97 55 = some (.iconst 0, 1, 0, 0, 0, 0) from rfl))
theorem u97_56 : wp r 97 56 ls [vI z] x Q ↔ Q (.inl (some (vI z))) x := (wp_u (show cd 97 56 = some (.ireturn, 1, 0, 0, 0, 0) from rfl))
theorem u97_57 : wp r 97 57 [a0, a1, vI z] st x Q ↔ wp r 97 58 [a0, a1, vI z] (vI z :: st) x Q := (wp_u (show cd 97 57 = some (.iload_n 2, 1, 0, 0, 0, 0) from rfl))
theorem u97_58 : wp r 97 58 ls (vI z :: st) x Q ↔ if z = 0 then wp r 97 61 ls st x Q else wp r 97 70 ls st x Q := (wp_u (show cd 97 58 = some (.ifCond .ne 12, 3, 70, 0, 0, 0) from rfl)).trans wq_dn
theorem u97_61 : wp r 97 61 [vR o, a1, a2] st x Q ↔ wp r 97 62 [vR o, a1, a2] (vR o :: st) x Q := (wp_u (show cd 97 61 = some (.aload_n 0, 1, 0, 0, 0, 0) from rfl))
theorem u97_62 : wp r 97 62 ls (vA q :: st) x Q ↔ sbk 9 (hK x q) ∧ wp r 97 65 ls (vR (hR x q 37) :: st) x Q := (wp_u (show cd 97 62 = some (.getfield 75, 3, 9, 37, 5, 0) from rfl)).trans g_getR
theorem u97_65 : wp r 97 65 [a0, vI z, a2] st x Q ↔ wp r 97 66 [a0, vI z, a2] (vI z :: st) x Q := (wp_u (show cd 97 65 = some (.iload_n 1, 1, 0, 0, 0, 0) from rfl))
theorem u97_66 : wp r 97 66 ls (vI i :: vA q :: st) x Q ↔ ldk 20 (hK x q) i ∧ wp r 97 67 ls (vI (hI x q i) :: st) x Q := (wp_u (show cd 97 66 = some (.iaload, 1, 0, 0, 0, 0) from rfl)).trans g_ldI
theorem u97_67 : wp r 97 67 ls st x Q ↔ wp r 97 113 ls st x Q := (wp_u (show cd 97 67 = some (.goto 46, 3, 113, 0, 0, 0) from rfl))
theorem u97_70 : wp r 97 70 [a0, a1, vI z] st x Q ↔ wp r 97 71 [a0, a1, vI z] (vI z :: st) x Q := (wp_u (show cd 97 70 = some (.iload_n 2, 1, 0, 0, 0, 0) from rfl))
theorem u97_71 : wp r 97 71 ls st x Q ↔ wp r 97 72 ls (vI 1 :: st) x Q := (wp_u (show cd 97 71 = some (.iconst 1, 1, 0, 0, 0, 0) from rfl))
theorem u97_72 : wp r 97 72 ls (vI w :: vI z :: st) x Q ↔ if z = w then wp r 97 75 ls st x Q else wp r 97 84 ls st x Q := (wp_u (show cd 97 72 = some (.if_icmp .ne 12, 3, 84, 0, 0, 0) from rfl)).trans wq_dn
theorem u97_75 : wp r 97 75 [vR o, a1, a2] st x Q ↔ wp r 97 76 [vR o, a1, a2] (vR o :: st) x Q := (wp_u (show cd 97 75 = some (.aload_n 0, 1, 0, 0, 0, 0) from rfl))
theorem u97_76 : wp r 97 76 ls (vA q :: st) x Q ↔ sbk 9 (hK x q) ∧ wp r 97 79 ls (vR (hR x q 38) :: st) x Q := (wp_u (show cd 97 76 = some (.getfield 78, 3, 9, 38, 5, 0) from rfl)).trans g_getR
theorem u97_79 : wp r 97 79 [a0, vI z, a2] st x Q ↔ wp r 97 80 [a0, vI z, a2] (vI z :: st) x Q := (wp_u (show cd 97 79 = some (.iload_n 1, 1, 0, 0, 0, 0) from rfl))
theorem u97_80 : wp r 97 80 ls (vI i :: vA q :: st) x Q ↔ ldk 20 (hK x q) i ∧ wp r 97 81 ls (vI (hI x q i) :: st) x Q := (wp_u (show cd 97 80 = some (.iaload, 1, 0, 0, 0, 0) from rfl)).trans g_ldI
theorem u97_81 : wp r 97 81 ls st x Q ↔ wp r 97 113 ls st x Q := (wp_u (show cd 97 81 = some (.goto 32, 3, 113, 0, 0, 0) from rfl))
theorem u97_84 : wp r 97 84 [a0, a1, vI z] st x Q ↔ wp r 97 85 [a0, a1, vI z] (vI z :: st) x Q := (wp_u (show cd 97 84 = some (.iload_n 2, 1, 0, 0, 0, 0) from rfl))
theorem u97_85 : wp r 97 85 ls st x Q ↔ wp r 97 86 ls (vI 2 :: st) x Q := (wp_u (show cd 97 85 = some (.iconst 2, 1, 0, 0, 0, 0) from rfl))
theorem u97_86 : wp r 97 86 ls (vI w :: vI z :: st) x Q ↔ if z = w then wp r 97 89 ls st x Q else wp r 97 107 ls st x Q := (wp_u (show cd 97 86 = some (.if_icmp .ne 21, 3, 107, 0, 0, 0) from rfl)).trans wq_dn
theorem u97_89 : wp r 97 89 [vR o, a1, a2] st x Q ↔ wp r 97 90 [vR o, a1, a2] (vR o :: st) x Q := (wp_u (show cd 97 89 = some (.aload_n 0, 1, 0, 0, 0, 0) from rfl))
theorem u97_90 : wp r 97 90 ls (vA q :: st) x Q ↔ sbk 9 (hK x q) ∧ wp r 97 93 ls (vR (hR x q 35) :: st) x Q := (wp_u (show cd 97 90 = some (.getfield 69, 3, 9, 35, 5, 0) from rfl)).trans g_getR
theorem u97_93 : wp r 97 93 [a0, vI z, a2] st x Q ↔ wp r 97 94 [a0, vI z, a2] (vI z :: st) x Q := (wp_u (show cd 97 93 = some (.iload_n 1, 1, 0, 0, 0, 0) from rfl))
theorem u97_94 : wp r 97 94 ls (vI i :: vA q :: st) x Q ↔ ldk 20 (hK x q) i ∧ wp r 97 95 ls (vI (hI x q i) :: st) x Q := (wp_u (show cd 97 94 = some (.iaload, 1, 0, 0, 0, 0) from rfl)).trans g_ldI
theorem u97_95 : wp r 97 95 [vR o, a1, a2] st x Q ↔ wp r 97 96 [vR o, a1, a2] (vR o :: st) x Q := (wp_u (show cd 97 95 = some (.aload_n 0, 1, 0, 0, 0, 0) from rfl))
theorem u97_96 : wp r 97 96 ls (vA q :: st) x Q ↔ sbk 9 (hK x q) ∧ wp r 97 99 ls (vR (hR x q 34) :: st) x Q := (wp_u (show cd 97 96 = some (.getfield 66, 3, 9, 34, 5, 0) from rfl)).trans g_getR
theorem u97_99 : wp r 97 99 [a0, vI z, a2] st x Q ↔ wp r 97 100 [a0, vI z, a2] (vI z :: st) x Q := (wp_u (show cd 97 99 = some (.iload_n 1, 1, 0, 0, 0, 0) from rfl))
theorem u97_100 : wp r 97 100 ls (vI i :: vA q :: st) x Q ↔ ldk 20 (hK x q) i ∧ wp r 97 101 ls (vI (hI x q i) :: st) x Q := (wp_u (show cd 97 100 = some (.iaload, 1, 0, 0, 0, 0) from rfl)).trans g_ldI
theorem u97_101 : wp r 97 101 ls (vI w :: vI z :: st) x Q ↔ inI (z - w) = true ∧ wp r 97 102 ls (vI (z - w) :: st) x Q := (wp_u (show cd 97 101 = some (.isub, 1, 0, 0, 0, 0) from rfl)).trans wq_if
theorem u97_102 : wp r 97 102 ls st x Q ↔ wp r 97 103 ls (vI 1 :: st) x Q := (wp_u (show cd 97 102 = some (.iconst 1, 1, 0, 0, 0, 0) from rfl))
theorem u97_103 : wp r 97 103 ls (vI w :: vI z :: st) x Q ↔ inI (z + w) = true ∧ wp r 97 104 ls (vI (z + w) :: st) x Q := (wp_u (show cd 97 103 = some (.iadd, 1, 0, 0, 0, 0) from rfl)).trans wq_if
theorem u97_104 : wp r 97 104 ls st x Q ↔ wp r 97 113 ls st x Q := (wp_u (show cd 97 104 = some (.goto 9, 3, 113, 0, 0, 0) from rfl))
theorem u97_107 : wp r 97 107 [vR o, a1, a2] st x Q ↔ wp r 97 108 [vR o, a1, a2] (vR o :: st) x Q := (wp_u (show cd 97 107 = some (.aload_n 0, 1, 0, 0, 0, 0) from rfl))
theorem u97_108 : wp r 97 108 ls (vA q :: st) x Q ↔ sbk 9 (hK x q) ∧ wp r 97 111 ls (vR (hR x q 36) :: st) x Q := (wp_u (show cd 97 108 = some (.getfield 72, 3, 9, 36, 5, 0) from rfl)).trans g_getR
theorem u97_111 : wp r 97 111 [a0, vI z, a2] st x Q ↔ wp r 97 112 [a0, vI z, a2] (vI z :: st) x Q := (wp_u (show cd 97 111 = some (.iload_n 1, 1, 0, 0, 0, 0) from rfl))
theorem u97_112 : wp r 97 112 ls (vI i :: vA q :: st) x Q ↔ ldk 20 (hK x q) i ∧ wp r 97 113 ls (vI (hI x q i) :: st) x Q := (wp_u (show cd 97 112 = some (.iaload, 1, 0, 0, 0, 0) from rfl)).trans g_ldI
theorem u97_113 : wp r 97 113 ls [vI z] x Q ↔ Q (.inl (some (vI z))) x := (wp_u (show cd 97 113 = some (.ireturn, 1, 0, 0, 0, 0) from rfl))
theorem e97 : wpc r 97 [vA q, vI z0, vI z1] x Q ↔ wp r 97 0 [vA q, vI z0, vI z1] [] x Q := Iff.rfl
/-! 98 M_group -/
theorem u98_0 : wp r 98 0 [vR o, a1] st x Q ↔ wp r 98 1 [vR o, a1] (vR o :: st) x Q := (wp_u (show cd 98 0 = some (.aload_n 0, 1, 0, 0, 0, 0) from rfl))
theorem u98_1 : wp r 98 1 [vR o, a1] st x Q ↔ wp r 98 2 [vR o, a1] (vR o :: st) x Q := (wp_u (show cd 98 1 = some (.aload_n 0, 1, 0, 0, 0, 0) from rfl))
theorem u98_2 : wp r 98 2 ls (vA q :: st) x Q ↔ sbk 9 (hK x q) ∧ wp r 98 5 ls (vI (hI x q 23) :: st) x Q := (wp_u (show cd 98 2 = some (.getfield 253, 3, 9, 23, 4, 0) from rfl)).trans g_getI
theorem u98_5 : wp r 98 5 ls (vI z :: st) x Q ↔ if z = 0 then wp r 98 12 ls st x Q else wp r 98 8 ls st x Q := (wp_u (show cd 98 5 = some (.ifCond .eq 7, 3, 12, 0, 0, 0) from rfl)).trans wq_d
theorem u98_8 : wp r 98 8 ls st x Q ↔ wp r 98 9 ls (vI 0 :: st) x Q := (wp_u (show cd 98 8 = some (.iconst 0, 1, 0, 0, 0, 0) from rfl))
theorem u98_9 : wp r 98 9 ls st x Q ↔ wp r 98 13 ls st x Q := (wp_u (show cd 98 9 = some (.goto 4, 3, 13, 0, 0, 0) from rfl))
theorem u98_12 : wp r 98 12 ls st x Q ↔ wp r 98 13 ls (vI 1 :: st) x Q := (wp_u (show cd 98 12 = some (.iconst 1, 1, 0, 0, 0, 0) from rfl))
theorem u98_13 : wp r 98 13 ls (vI z :: vA q :: st) x Q ↔ sbk 9 (hK x q) ∧ wp r 98 16 ls st (stI x q 0 z) Q := (wp_u (show cd 98 13 = some (.putfield 102, 3, 9, 0, 0, 0) from rfl)).trans g_putI0
theorem u98_16 : wp r 98 16 [vR o, a1] st x Q ↔ wp r 98 17 [vR o, a1] (vR o :: st) x Q := (wp_u (show cd 98 16 = some (.aload_n 0, 1, 0, 0, 0, 0) from rfl))
theorem u98_17 : wp r 98 17 ls (vA q :: st) x Q ↔ sbk 9 (hK x q) ∧ wp r 98 20 ls (vI (hI x q 23) :: st) x Q := (wp_u (show cd 98 17 = some (.getfield 253, 3, 9, 23, 4, 0) from rfl)).trans g_getI
theorem u98_20 : wp r 98 20 ls (vI z :: st) x Q ↔ if z = 0 then wp r 98 23 ls st x Q else wp r 98 27 ls st x Q := (wp_u (show cd 98 20 = some (.ifCond .ne 7, 3, 27, 0, 0, 0) from rfl)).trans wq_dn
theorem u98_23 : wp r 98 23 ls st x Q ↔ wp r 98 24 ls (vI 0 :: st) x Q := (wp_u (show cd 98 23 = some (.iconst 0, 1, 0, 0, 0, 0) from rfl))
theorem u98_24 : wp r 98 24 ls st x Q ↔ wp r 98 49 ls st x Q := (wp_u (show cd 98 24 = some (.goto 25, 3, 49, 0, 0, 0) from rfl))
theorem u98_27 : wp r 98 27 [a0, vI z] st x Q ↔ wp r 98 28 [a0, vI z] (vI z :: st) x Q := (wp_u (show cd 98 27 = some (.iload_n 1, 1, 0, 0, 0, 0) from rfl))
theorem u98_28 : wp r 98 28 ls (vI z :: st) x Q ↔ if z < 0 then wp r 98 39 ls st x Q else wp r 98 31 ls st x Q := (wp_u (show cd 98 28 = some (.ifCond .lt 11, 3, 39, 0, 0, 0) from rfl)).trans wq_d
theorem u98_31 : wp r 98 31 [a0, vI z] st x Q ↔ wp r 98 32 [a0, vI z] (vI z :: st) x Q := (wp_u (show cd 98 31 = some (.iload_n 1, 1, 0, 0, 0, 0) from rfl))
theorem u98_32 : wp r 98 32 [vR o, a1] st x Q ↔ wp r 98 33 [vR o, a1] (vR o :: st) x Q := (wp_u (show cd 98 32 = some (.aload_n 0, 1, 0, 0, 0, 0) from rfl))
theorem u98_33 : wp r 98 33 ls (vA q :: st) x Q ↔ sbk 9 (hK x q) ∧ wp r 98 36 ls (vI (hI x q 39) :: st) x Q := (wp_u (show cd 98 33 = some (.getfield 199, 3, 9, 39, 0, 0) from rfl)).trans g_getI
theorem u98_36 : wp r 98 36 ls (vI w :: vI z :: st) x Q ↔ if z < w then wp r 98 43 ls st x Q else wp r 98 39 ls st x Q := (wp_u (show cd 98 36 = some (.if_icmp .lt 7, 3, 43, 0, 0, 0) from rfl)).trans wq_d
theorem u98_39 : wp r 98 39 ls st x Q ↔ wp r 98 40 ls (vI (-1) :: st) x Q := (wp_u (show cd 98 39 = some (.iconst (-1), 1, 0, 0, 0, 0) from rfl))
theorem u98_40 : wp r 98 40 ls st x Q ↔ wp r 98 49 ls st x Q := (wp_u (show cd 98 40 = some (.goto 9, 3, 49, 0, 0, 0) from rfl))
theorem u98_43 : wp r 98 43 [vR o, a1] st x Q ↔ wp r 98 44 [vR o, a1] (vR o :: st) x Q := (wp_u (show cd 98 43 = some (.aload_n 0, 1, 0, 0, 0, 0) from rfl))
theorem u98_44 : wp r 98 44 ls (vA q :: st) x Q ↔ sbk 9 (hK x q) ∧ wp r 98 47 ls (vR (hR x q 42) :: st) x Q := (wp_u (show cd 98 44 = some (.getfield 87, 3, 9, 42, 5, 0) from rfl)).trans g_getR
theorem u98_47 : wp r 98 47 [a0, vI z] st x Q ↔ wp r 98 48 [a0, vI z] (vI z :: st) x Q := (wp_u (show cd 98 47 = some (.iload_n 1, 1, 0, 0, 0, 0) from rfl))
theorem u98_48 : wp r 98 48 ls (vI i :: vA q :: st) x Q ↔ ldk 20 (hK x q) i ∧ wp r 98 49 ls (vI (hI x q i) :: st) x Q := (wp_u (show cd 98 48 = some (.iaload, 1, 0, 0, 0, 0) from rfl)).trans g_ldI
theorem u98_49 : wp r 98 49 ls [vI z] x Q ↔ Q (.inl (some (vI z))) x := (wp_u (show cd 98 49 = some (.ireturn, 1, 0, 0, 0, 0) from rfl))
theorem e98 : wpc r 98 [vA q, vI z0] x Q ↔ wp r 98 0 [vA q, vI z0] [] x Q := Iff.rfl
/-! 99 M_segment -/
theorem u99_0 : wp r 99 0 [vR o, a1, a2, a3, a4, a5, a6, a7, a8] st x Q ↔ wp r 99 1 [vR o, a1, a2, a3, a4, a5, a6, a7, a8] (vR o :: st) x Q := (wp_u (show cd 99 0 = some (.aload_n 0, 1, 0, 0, 0, 0) from rfl))
theorem u99_1 : wp r 99 1 [vR o, a1, a2, a3, a4, a5, a6, a7, a8] st x Q ↔ wp r 99 2 [vR o, a1, a2, a3, a4, a5, a6, a7, a8] (vR o :: st) x Q := (wp_u (show cd 99 1 = some (.aload_n 0, 1, 0, 0, 0, 0) from rfl))
theorem u99_2 : wp r 99 2 ls (vA q :: st) x Q ↔ sbk 9 (hK x q) ∧ wp r 99 5 ls (vI (hI x q 23) :: st) x Q := (wp_u (show cd 99 2 = some (.getfield 253, 3, 9, 23, 4, 0) from rfl)).trans g_getI
theorem u99_5 : wp r 99 5 ls (vI z :: st) x Q ↔ if z = 0 then wp r 99 12 ls st x Q else wp r 99 8 ls st x Q := (wp_u (show cd 99 5 = some (.ifCond .eq 7, 3, 12, 0, 0, 0) from rfl)).trans wq_d
theorem u99_8 : wp r 99 8 ls st x Q ↔ wp r 99 9 ls (vI 0 :: st) x Q := (wp_u (show cd 99 8 = some (.iconst 0, 1, 0, 0, 0, 0) from rfl))
theorem u99_9 : wp r 99 9 ls st x Q ↔ wp r 99 13 ls st x Q := (wp_u (show cd 99 9 = some (.goto 4, 3, 13, 0, 0, 0) from rfl))
theorem u99_12 : wp r 99 12 ls st x Q ↔ wp r 99 13 ls (vI 1 :: st) x Q := (wp_u (show cd 99 12 = some (.iconst 1, 1, 0, 0, 0, 0) from rfl))
theorem u99_13 : wp r 99 13 ls (vI z :: vA q :: st) x Q ↔ sbk 9 (hK x q) ∧ wp r 99 16 ls st (stI x q 0 z) Q := (wp_u (show cd 99 13 = some (.putfield 102, 3, 9, 0, 0, 0) from rfl)).trans g_putI0
theorem u99_16 : wp r 99 16 [vR o, a1, a2, a3, a4, a5, a6, a7, a8] st x Q ↔ wp r 99 17 [vR o, a1, a2, a3, a4, a5, a6, a7, a8] (vR o :: st) x Q := (wp_u (show cd 99 16 = some (.aload_n 0, 1, 0, 0, 0, 0) from rfl))
theorem u99_17 : wp r 99 17 ls (vA q :: st) x Q ↔ sbk 9 (hK x q) ∧ wp r 99 20 ls (vI (hI x q 23) :: st) x Q := (wp_u (show cd 99 17 = some (.getfield 253, 3, 9, 23, 4, 0) from rfl)).trans g_getI
theorem u99_20 : wp r 99 20 ls (vI z :: st) x Q ↔ if z = 0 then wp r 99 41 ls st x Q else wp r 99 23 ls st x Q := (wp_u (show cd 99 20 = some (.ifCond .eq 21, 3, 41, 0, 0, 0) from rfl)).trans wq_d
theorem u99_23 : wp r 99 23 [a0, vI z, a2, a3, a4, a5, a6, a7, a8] st x Q ↔ wp r 99 24 [a0, vI z, a2, a3, a4, a5, a6, a7, a8] (vI z :: st) x Q := (wp_u (show cd 99 23 = some (.iload_n 1, 1, 0, 0, 0, 0) from rfl))
theorem u99_24 : wp r 99 24 ls (vI z :: st) x Q ↔ if z < 0 then wp r 99 41 ls st x Q else wp r 99 27 ls st x Q := (wp_u (show cd 99 24 = some (.ifCond .lt 17, 3, 41, 0, 0, 0) from rfl)).trans wq_d
theorem u99_27 : wp r 99 27 [a0, vI z, a2, a3, a4, a5, a6, a7, a8] st x Q ↔ wp r 99 28 [a0, vI z, a2, a3, a4, a5, a6, a7, a8] (vI z :: st) x Q := (wp_u (show cd 99 27 = some (.iload_n 1, 1, 0, 0, 0, 0) from rfl))
theorem u99_28 : wp r 99 28 [vR o, a1, a2, a3, a4, a5, a6, a7, a8] st x Q ↔ wp r 99 29 [vR o, a1, a2, a3, a4, a5, a6, a7, a8] (vR o :: st) x Q := (wp_u (show cd 99 28 = some (.aload_n 0, 1, 0, 0, 0, 0) from rfl))
theorem u99_29 : wp r 99 29 ls (vA q :: st) x Q ↔ sbk 9 (hK x q) ∧ wp r 99 32 ls (vI (hI x q 24) :: st) x Q := (wp_u (show cd 99 29 = some (.getfield 187, 3, 9, 24, 0, 0) from rfl)).trans g_getI
theorem u99_32 : wp r 99 32 ls (vI w :: vI z :: st) x Q ↔ if w ≤ z then wp r 99 41 ls st x Q else wp r 99 35 ls st x Q := (wp_u (show cd 99 32 = some (.if_icmp .ge 9, 3, 41, 0, 0, 0) from rfl)).trans wq_d
theorem u99_35 : wp r 99 35 [a0, a1, vI z, a3, a4, a5, a6, a7, a8] st x Q ↔ wp r 99 36 [a0, a1, vI z, a3, a4, a5, a6, a7, a8] (vI z :: st) x Q := (wp_u (show cd 99 35 = some (.iload_n 2, 1, 0, 0, 0, 0) from rfl))
theorem u99_36 : wp r 99 36 ls st x Q ↔ wp r 99 38 ls (vI (-2) :: st) x Q := (wp_u (show cd 99 36 = some (.bipush (-2), 2, 0, 0, 0, 0) from rfl))
theorem u99_38 : wp r 99 38 ls (vI w :: vI z :: st) x Q ↔ if w ≤ z then wp r 99 54 ls st x Q else wp r 99 41 ls st x Q := (wp_u (show cd 99 38 = some (.if_icmp .ge 16, 3, 54, 0, 0, 0) from rfl)).trans wq_d
theorem u99_41 : wp r 99 41 [vR o, a1, a2, a3, a4, a5, a6, a7, a8] st x Q ↔ wp r 99 42 [vR o, a1, a2, a3, a4, a5, a6, a7, a8] (vR o :: st) x Q := (wp_u (show cd 99 41 = some (.aload_n 0, 1, 0, 0, 0, 0) from rfl))
theorem u99_42 : wp r 99 42 ls (vA q :: st) x Q ↔ sbk 9 (hK x q) ∧ wp r 99 45 ls (vI (hI x q 23) :: st) x Q := (wp_u (show cd 99 42 = some (.getfield 253, 3, 9, 23, 4, 0) from rfl)).trans g_getI
theorem u99_45 : wp r 99 45 ls (vI z :: st) x Q ↔ if z = 0 then wp r 99 52 ls st x Q else wp r 99 48 ls st x Q := (wp_u (show cd 99 45 = some (.ifCond .eq 7, 3, 52, 0, 0, 0) from rfl)).trans wq_d
theorem u99_48 : wp r 99 48 ls st x Q ↔ wp r 99 49 ls (vI (-1) :: st) x Q := (wp_u (show cd 99 48 = some (.iconst (-1), 1, 0, 0, 0, 0) from rfl))
theorem u99_49 : wp r 99 49 ls st x Q ↔ wp r 99 53 ls st x Q := (wp_u (show cd 99 49 = some (.goto 4, 3, 53, 0, 0, 0) from rfl))
theorem u99_52 : wp r 99 52 ls st x Q ↔ wp r 99 53 ls (vI 0 :: st) x Q := (wp_u (show cd 99 52 = some (.iconst 0, 1, 0, 0, 0, 0) from rfl))
theorem u99_53 : wp r 99 53 ls [vI z] x Q ↔ Q (.inl (some (vI z))) x := (wp_u (show cd 99 53 = some (.ireturn, 1, 0, 0, 0, 0) from rfl))
theorem u99_54 : wp r 99 54 [vR o, a1, a2, a3, a4, a5, a6, a7, a8] st x Q ↔ wp r 99 55 [vR o, a1, a2, a3, a4, a5, a6, a7, a8] (vR o :: st) x Q := (wp_u (show cd 99 54 = some (.aload_n 0, 1, 0, 0, 0, 0) from rfl))
theorem u99_55 : wp r 99 55 ls (vA q :: st) x Q ↔ sbk 9 (hK x q) ∧ wp r 99 58 ls (vR (hR x q 26) :: st) x Q := (wp_u (show cd 99 55 = some (.getfield 54, 3, 9, 26, 5, 0) from rfl)).trans g_getR
theorem u99_58 : wp r 99 58 [a0, vI z, a2, a3, a4, a5, a6, a7, a8] st x Q ↔ wp r 99 59 [a0, vI z, a2, a3, a4, a5, a6, a7, a8] (vI z :: st) x Q := (wp_u (show cd 99 58 = some (.iload_n 1, 1, 0, 0, 0, 0) from rfl))
theorem u99_59 : wp r 99 59 ls st x Q ↔ wp r 99 60 ls (vI 1 :: st) x Q := (wp_u (show cd 99 59 = some (.iconst 1, 1, 0, 0, 0, 0) from rfl))
theorem u99_60 : wp r 99 60 ls (vI w :: vI z :: st) x Q ↔ inI (z + w) = true ∧ wp r 99 61 ls (vI (z + w) :: st) x Q := (wp_u (show cd 99 60 = some (.iadd, 1, 0, 0, 0, 0) from rfl)).trans wq_if
theorem u99_61 : wp r 99 61 ls (vI i :: vA q :: st) x Q ↔ ldk 20 (hK x q) i ∧ wp r 99 62 ls (vI (hI x q i) :: st) x Q := (wp_u (show cd 99 61 = some (.iaload, 1, 0, 0, 0, 0) from rfl)).trans g_ldI
theorem u99_62 : wp r 99 62 [vR o, a1, a2, a3, a4, a5, a6, a7, a8] st x Q ↔ wp r 99 63 [vR o, a1, a2, a3, a4, a5, a6, a7, a8] (vR o :: st) x Q := (wp_u (show cd 99 62 = some (.aload_n 0, 1, 0, 0, 0, 0) from rfl))
theorem u99_63 : wp r 99 63 ls (vA q :: st) x Q ↔ sbk 9 (hK x q) ∧ wp r 99 66 ls (vR (hR x q 26) :: st) x Q := (wp_u (show cd 99 63 = some (.getfield 54, 3, 9, 26, 5, 0) from rfl)).trans g_getR
theorem u99_66 : wp r 99 66 [a0, vI z, a2, a3, a4, a5, a6, a7, a8] st x Q ↔ wp r 99 67 [a0, vI z, a2, a3, a4, a5, a6, a7, a8] (vI z :: st) x Q := (wp_u (show cd 99 66 = some (.iload_n 1, 1, 0, 0, 0, 0) from rfl))
theorem u99_67 : wp r 99 67 ls (vI i :: vA q :: st) x Q ↔ ldk 20 (hK x q) i ∧ wp r 99 68 ls (vI (hI x q i) :: st) x Q := (wp_u (show cd 99 67 = some (.iaload, 1, 0, 0, 0, 0) from rfl)).trans g_ldI
theorem u99_68 : wp r 99 68 ls (vI w :: vI z :: st) x Q ↔ inI (z - w) = true ∧ wp r 99 69 ls (vI (z - w) :: st) x Q := (wp_u (show cd 99 68 = some (.isub, 1, 0, 0, 0, 0) from rfl)).trans wq_if
theorem u99_69 : wp r 99 69 [a0, a1, a2, a3, a4, a5, a6, a7, a8] (vI z :: st) x Q ↔ wp r 99 71 [a0, a1, a2, a3, a4, vI z, a6, a7, a8] st x Q := (wp_u (show cd 99 69 = some (.istore 5, 2, 0, 0, 0, 0) from rfl))
theorem u99_71 : wp r 99 71 [a0, a1, vI z, a3, a4, a5, a6, a7, a8] st x Q ↔ wp r 99 72 [a0, a1, vI z, a3, a4, a5, a6, a7, a8] (vI z :: st) x Q := (wp_u (show cd 99 71 = some (.iload_n 2, 1, 0, 0, 0, 0) from rfl))
theorem u99_72 : wp r 99 72 ls (vI z :: st) x Q ↔ if 0 ≤ z then wp r 99 93 ls st x Q else wp r 99 75 ls st x Q := (wp_u (show cd 99 72 = some (.ifCond .ge 21, 3, 93, 0, 0, 0) from rfl)).trans wq_d
theorem u99_75 : wp r 99 75 [a0, a1, vI z, a3, a4, a5, a6, a7, a8] st x Q ↔ wp r 99 76 [a0, a1, vI z, a3, a4, a5, a6, a7, a8] (vI z :: st) x Q := (wp_u (show cd 99 75 = some (.iload_n 2, 1, 0, 0, 0, 0) from rfl))
theorem u99_76 : wp r 99 76 ls st x Q ↔ wp r 99 78 ls (vI (-2) :: st) x Q := (wp_u (show cd 99 76 = some (.bipush (-2), 2, 0, 0, 0, 0) from rfl))
theorem u99_78 : wp r 99 78 ls (vI w :: vI z :: st) x Q ↔ if z = w then wp r 99 81 ls st x Q else wp r 99 90 ls st x Q := (wp_u (show cd 99 78 = some (.if_icmp .ne 12, 3, 90, 0, 0, 0) from rfl)).trans wq_dn
theorem u99_81 : wp r 99 81 [vR o, a1, a2, a3, a4, a5, a6, a7, a8] st x Q ↔ wp r 99 82 [vR o, a1, a2, a3, a4, a5, a6, a7, a8] (vR o :: st) x Q := (wp_u (show cd 99 81 = some (.aload_n 0, 1, 0, 0, 0, 0) from rfl))
theorem u99_82 : wp r 99 82 ls (vA q :: st) x Q ↔ sbk 9 (hK x q) ∧ wp r 99 85 ls (vR (hR x q 25) :: st) x Q := (wp_u (show cd 99 82 = some (.getfield 51, 3, 9, 25, 5, 0) from rfl)).trans g_getR
theorem u99_85 : wp r 99 85 [a0, vI z, a2, a3, a4, a5, a6, a7, a8] st x Q ↔ wp r 99 86 [a0, vI z, a2, a3, a4, a5, a6, a7, a8] (vI z :: st) x Q := (wp_u (show cd 99 85 = some (.iload_n 1, 1, 0, 0, 0, 0) from rfl))
theorem u99_86 : wp r 99 86 ls (vI i :: vA q :: st) x Q ↔ ldk 20 (hK x q) i ∧ wp r 99 87 ls (vI (hI x q i) :: st) x Q := (wp_u (show cd 99 86 = some (.iaload, 1, 0, 0, 0, 0) from rfl)).trans g_ldI
theorem u99_87 : wp r 99 87 ls st x Q ↔ wp r 99 92 ls st x Q := (wp_u (show cd 99 87 = some (.goto 5, 3, 92, 0, 0, 0) from rfl))
theorem u99_90 : wp r 99 90 [a0, a1, a2, a3, a4, vI z, a6, a7, a8] st x Q ↔ wp r 99 92 [a0, a1, a2, a3, a4, vI z, a6, a7, a8] (vI z :: st) x Q := (wp_u (show cd 99 90 = some (.iload 5, 2, 0, 0, 0, 0) from rfl))
theorem u99_92 : wp r 99 92 ls [vI z] x Q ↔ Q (.inl (some (vI z))) x := (wp_u (show cd 99 92 = some (.ireturn, 1, 0, 0, 0, 0) from rfl))
theorem u99_93 : wp r 99 93 [a0, a1, vI z, a3, a4, a5, a6, a7, a8] st x Q ↔ wp r 99 94 [a0, a1, vI z, a3, a4, a5, a6, a7, a8] (vI z :: st) x Q := (wp_u (show cd 99 93 = some (.iload_n 2, 1, 0, 0, 0, 0) from rfl))
theorem u99_94 : wp r 99 94 [a0, a1, a2, a3, a4, vI z, a6, a7, a8] st x Q ↔ wp r 99 96 [a0, a1, a2, a3, a4, vI z, a6, a7, a8] (vI z :: st) x Q := (wp_u (show cd 99 94 = some (.iload 5, 2, 0, 0, 0, 0) from rfl))
theorem u99_96 : wp r 99 96 ls (vI w :: vI z :: st) x Q ↔ if w ≤ z then wp r 99 104 ls st x Q else wp r 99 99 ls st x Q := (wp_u (show cd 99 96 = some (.if_icmp .ge 8, 3, 104, 0, 0, 0) from rfl)).trans wq_d
theorem u99_99 : wp r 99 99 [a0, a1, a2, vI z, a4, a5, a6, a7, a8] st x Q ↔ wp r 99 100 [a0, a1, a2, vI z, a4, a5, a6, a7, a8] (vI z :: st) x Q := (wp_u (show cd 99 99 = some (.iload_n 3, 1, 0, 0, 0, 0) from rfl))
theorem u99_100 : wp r 99 100 ls st x Q ↔ wp r 99 101 ls (vI (-1) :: st) x Q := (wp_u (show cd 99 100 = some (.iconst (-1), 1, 0, 0, 0, 0) from rfl))
theorem u99_101 : wp r 99 101 ls (vI w :: vI z :: st) x Q ↔ if w ≤ z then wp r 99 106 ls st x Q else wp r 99 104 ls st x Q := (wp_u (show cd 99 101 = some (.if_icmp .ge 5, 3, 106, 0, 0, 0) from rfl)).trans wq_d
theorem u99_104 : wp r 99 104 ls st x Q ↔ wp r 99 105 ls (vI (-1) :: st) x Q := (wp_u (show cd 99 104 = some (.iconst (-1), 1, 0, 0, 0, 0) from rfl))
theorem u99_105 : wp r 99 105 ls [vI z] x Q ↔ Q (.inl (some (vI z))) x := (wp_u (show cd 99 105 = some (.ireturn, 1, 0, 0, 0, 0) from rfl))
theorem u99_106 : wp r 99 106 [vR o, a1, a2, a3, a4, a5, a6, a7, a8] st x Q ↔ wp r 99 107 [vR o, a1, a2, a3, a4, a5, a6, a7, a8] (vR o :: st) x Q := (wp_u (show cd 99 106 = some (.aload_n 0, 1, 0, 0, 0, 0) from rfl))
theorem u99_107 : wp r 99 107 ls (vA q :: st) x Q ↔ sbk 9 (hK x q) ∧ wp r 99 110 ls (vR (hR x q 26) :: st) x Q := (wp_u (show cd 99 107 = some (.getfield 54, 3, 9, 26, 5, 0) from rfl)).trans g_getR
theorem u99_110 : wp r 99 110 [a0, vI z, a2, a3, a4, a5, a6, a7, a8] st x Q ↔ wp r 99 111 [a0, vI z, a2, a3, a4, a5, a6, a7, a8] (vI z :: st) x Q := (wp_u (show cd 99 110 = some (.iload_n 1, 1, 0, 0, 0, 0) from rfl))
theorem u99_111 : wp r 99 111 ls (vI i :: vA q :: st) x Q ↔ ldk 20 (hK x q) i ∧ wp r 99 112 ls (vI (hI x q i) :: st) x Q := (wp_u (show cd 99 111 = some (.iaload, 1, 0, 0, 0, 0) from rfl)).trans g_ldI
theorem u99_112 : wp r 99 112 [a0, a1, vI z, a3, a4, a5, a6, a7, a8] st x Q ↔ wp r 99 113 [a0, a1, vI z, a3, a4, a5, a6, a7, a8] (vI z :: st) x Q := (wp_u (show cd 99 112 = some (.iload_n 2, 1, 0, 0, 0, 0) from rfl))
theorem u99_113 : wp r 99 113 ls (vI w :: vI z :: st) x Q ↔ inI (z + w) = true ∧ wp r 99 114 ls (vI (z + w) :: st) x Q := (wp_u (show cd 99 113 = some (.iadd, 1, 0, 0, 0, 0) from rfl)).trans wq_if
theorem u99_114 : wp r 99 114 [a0, a1, a2, a3, a4, a5, a6, a7, a8] (vI z :: st) x Q ↔ wp r 99 116 [a0, a1, a2, a3, a4, a5, vI z, a7, a8] st x Q := (wp_u (show cd 99 114 = some (.istore 6, 2, 0, 0, 0, 0) from rfl))
theorem u99_116 : wp r 99 116 [vR o, a1, a2, a3, a4, a5, a6, a7, a8] st x Q ↔ wp r 99 117 [vR o, a1, a2, a3, a4, a5, a6, a7, a8] (vR o :: st) x Q := (wp_u (show cd 99 116 = some (.aload_n 0, 1, 0, 0, 0, 0) from rfl))
theorem u99_117 : wp r 99 117 ls (vA q :: st) x Q ↔ sbk 9 (hK x q) ∧ wp r 99 120 ls (vR (hR x q 28) :: st) x Q := (wp_u (show cd 99 117 = some (.getfield 57, 3, 9, 28, 5, 0) from rfl)).trans g_getR
theorem u99_120 : wp r 99 120 [a0, a1, a2, a3, a4, a5, vI z, a7, a8] st x Q ↔ wp r 99 122 [a0, a1, a2, a3, a4, a5, vI z, a7, a8] (vI z :: st) x Q := (wp_u (show cd 99 120 = some (.iload 6, 2, 0, 0, 0, 0) from rfl))
theorem u99_122 : wp r 99 122 ls st x Q ↔ wp r 99 123 ls (vI 1 :: st) x Q := (wp_u (show cd 99 122 = some (.iconst 1, 1, 0, 0, 0, 0) from rfl))
theorem u99_123 : wp r 99 123 ls (vI w :: vI z :: st) x Q ↔ inI (z + w) = true ∧ wp r 99 124 ls (vI (z + w) :: st) x Q := (wp_u (show cd 99 123 = some (.iadd, 1, 0, 0, 0, 0) from rfl)).trans wq_if
theorem u99_124 : wp r 99 124 ls (vI i :: vA q :: st) x Q ↔ ldk 20 (hK x q) i ∧ wp r 99 125 ls (vI (hI x q i) :: st) x Q := (wp_u (show cd 99 124 = some (.iaload, 1, 0, 0, 0, 0) from rfl)).trans g_ldI
theorem u99_125 : wp r 99 125 [vR o, a1, a2, a3, a4, a5, a6, a7, a8] st x Q ↔ wp r 99 126 [vR o, a1, a2, a3, a4, a5, a6, a7, a8] (vR o :: st) x Q := (wp_u (show cd 99 125 = some (.aload_n 0, 1, 0, 0, 0, 0) from rfl))
theorem u99_126 : wp r 99 126 ls (vA q :: st) x Q ↔ sbk 9 (hK x q) ∧ wp r 99 129 ls (vR (hR x q 28) :: st) x Q := (wp_u (show cd 99 126 = some (.getfield 57, 3, 9, 28, 5, 0) from rfl)).trans g_getR
theorem u99_129 : wp r 99 129 [a0, a1, a2, a3, a4, a5, vI z, a7, a8] st x Q ↔ wp r 99 131 [a0, a1, a2, a3, a4, a5, vI z, a7, a8] (vI z :: st) x Q := (wp_u (show cd 99 129 = some (.iload 6, 2, 0, 0, 0, 0) from rfl))
theorem u99_131 : wp r 99 131 ls (vI i :: vA q :: st) x Q ↔ ldk 20 (hK x q) i ∧ wp r 99 132 ls (vI (hI x q i) :: st) x Q := (wp_u (show cd 99 131 = some (.iaload, 1, 0, 0, 0, 0) from rfl)).trans g_ldI
theorem u99_132 : wp r 99 132 ls (vI w :: vI z :: st) x Q ↔ inI (z - w) = true ∧ wp r 99 133 ls (vI (z - w) :: st) x Q := (wp_u (show cd 99 132 = some (.isub, 1, 0, 0, 0, 0) from rfl)).trans wq_if
theorem u99_133 : wp r 99 133 [a0, a1, a2, a3, a4, a5, a6, a7, a8] (vI z :: st) x Q ↔ wp r 99 135 [a0, a1, a2, a3, a4, a5, a6, vI z, a8] st x Q := (wp_u (show cd 99 133 = some (.istore 7, 2, 0, 0, 0, 0) from rfl))
theorem u99_135 : wp r 99 135 [a0, a1, a2, vI z, a4, a5, a6, a7, a8] st x Q ↔ wp r 99 136 [a0, a1, a2, vI z, a4, a5, a6, a7, a8] (vI z :: st) x Q := (wp_u (show cd 99 135 = some (.iload_n 3, 1, 0, 0, 0, 0) from rfl))
theorem u99_136 : wp r 99 136 ls (vI z :: st) x Q ↔ if z < 0 then wp r 99 151 ls st x Q else wp r 99 139 ls st x Q := (wp_u (show cd 99 136 = some (.ifCond .lt 15, 3, 151, 0, 0, 0) from rfl)).trans wq_d
theorem u99_139 : wp r 99 139 [a0, a1, a2, vI z, a4, a5, a6, a7, a8] st x Q ↔ wp r 99 140 [a0, a1, a2, vI z, a4, a5, a6, a7, a8] (vI z :: st) x Q := (wp_u (show cd 99 139 = some (.iload_n 3, 1, 0, 0, 0, 0) from rfl))
theorem u99_140 : wp r 99 140 [a0, a1, a2, a3, a4, a5, a6, vI z, a8] st x Q ↔ wp r 99 142 [a0, a1, a2, a3, a4, a5, a6, vI z, a8] (vI z :: st) x Q := (wp_u (show cd 99 140 = some (.iload 7, 2, 0, 0, 0, 0) from rfl))
theorem u99_142 : wp r 99 142 ls (vI w :: vI z :: st) x Q ↔ if w ≤ z then wp r 99 151 ls st x Q else wp r 99 145 ls st x Q := (wp_u (show cd 99 142 = some (.if_icmp .ge 9, 3, 151, 0, 0, 0) from rfl)).trans wq_d
theorem u99_145 : wp r 99 145 [a0, a1, a2, a3, vI z, a5, a6, a7, a8] st x Q ↔ wp r 99 147 [a0, a1, a2, a3, vI z, a5, a6, a7, a8] (vI z :: st) x Q := (wp_u (show cd 99 145 = some (.iload 4, 2, 0, 0, 0, 0) from rfl))
theorem u99_147 : wp r 99 147 ls st x Q ↔ wp r 99 148 ls (vI (-1) :: st) x Q := (wp_u (show cd 99 147 = some (.iconst (-1), 1, 0, 0, 0, 0) from rfl))
theorem u99_148 : wp r 99 148 ls (vI w :: vI z :: st) x Q ↔ if w ≤ z then wp r 99 162 ls st x Q else wp r 99 151 ls st x Q := (wp_u (show cd 99 148 = some (.if_icmp .ge 14, 3, 162, 0, 0, 0) from rfl)).trans wq_d
theorem u99_151 : wp r 99 151 [a0, a1, a2, vI z, a4, a5, a6, a7, a8] st x Q ↔ wp r 99 152 [a0, a1, a2, vI z, a4, a5, a6, a7, a8] (vI z :: st) x Q := (wp_u (show cd 99 151 = some (.iload_n 3, 1, 0, 0, 0, 0) from rfl))
theorem u99_152 : wp r 99 152 ls (vI z :: st) x Q ↔ if 0 ≤ z then wp r 99 160 ls st x Q else wp r 99 155 ls st x Q := (wp_u (show cd 99 152 = some (.ifCond .ge 8, 3, 160, 0, 0, 0) from rfl)).trans wq_d
theorem u99_155 : wp r 99 155 [a0, a1, a2, a3, a4, a5, a6, vI z, a8] st x Q ↔ wp r 99 157 [a0, a1, a2, a3, a4, a5, a6, vI z, a8] (vI z :: st) x Q := (wp_u (show cd 99 155 = some (.iload 7, 2, 0, 0, 0, 0) from rfl))
theorem u99_157 : wp r 99 157 ls st x Q ↔ wp r 99 161 ls st x Q := (wp_u (show cd 99 157 = some (.goto 4, 3, 161, 0, 0, 0) from rfl))
theorem u99_160 : wp r 99 160 ls st x Q ↔ wp r 99 161 ls (vI (-1) :: st) x Q := (wp_u (show cd 99 160 = some (.iconst (-1), 1, 0, 0, 0, 0) from rfl))
theorem u99_161 : wp r 99 161 ls [vI z] x Q ↔ Q (.inl (some (vI z))) x := (wp_u (show cd 99 161 = some (.ireturn, 1, 0, 0, 0, 0) from rfl))
theorem u99_162 : wp r 99 162 [vR o, a1, a2, a3, a4, a5, a6, a7, a8] st x Q ↔ wp r 99 163 [vR o, a1, a2, a3, a4, a5, a6, a7, a8] (vR o :: st) x Q := (wp_u (show cd 99 162 = some (.aload_n 0, 1, 0, 0, 0, 0) from rfl))
theorem u99_163 : wp r 99 163 [vR o, a1, a2, a3, a4, a5, a6, a7, a8] st x Q ↔ wp r 99 164 [vR o, a1, a2, a3, a4, a5, a6, a7, a8] (vR o :: st) x Q := (wp_u (show cd 99 163 = some (.aload_n 0, 1, 0, 0, 0, 0) from rfl))
theorem u99_164 : wp r 99 164 ls (vA q :: st) x Q ↔ sbk 9 (hK x q) ∧ wp r 99 167 ls (vR (hR x q 28) :: st) x Q := (wp_u (show cd 99 164 = some (.getfield 57, 3, 9, 28, 5, 0) from rfl)).trans g_getR
theorem u99_167 : wp r 99 167 [a0, a1, a2, a3, a4, a5, vI z, a7, a8] st x Q ↔ wp r 99 169 [a0, a1, a2, a3, a4, a5, vI z, a7, a8] (vI z :: st) x Q := (wp_u (show cd 99 167 = some (.iload 6, 2, 0, 0, 0, 0) from rfl))
theorem u99_169 : wp r 99 169 ls (vI i :: vA q :: st) x Q ↔ ldk 20 (hK x q) i ∧ wp r 99 170 ls (vI (hI x q i) :: st) x Q := (wp_u (show cd 99 169 = some (.iaload, 1, 0, 0, 0, 0) from rfl)).trans g_ldI
theorem u99_170 : wp r 99 170 [a0, a1, a2, vI z, a4, a5, a6, a7, a8] st x Q ↔ wp r 99 171 [a0, a1, a2, vI z, a4, a5, a6, a7, a8] (vI z :: st) x Q := (wp_u (show cd 99 170 = some (.iload_n 3, 1, 0, 0, 0, 0) from rfl))
theorem u99_171 : wp r 99 171 ls (vI w :: vI z :: st) x Q ↔ inI (z + w) = true ∧ wp r 99 172 ls (vI (z + w) :: st) x Q := (wp_u (show cd 99 171 = some (.iadd, 1, 0, 0, 0, 0) from rfl)).trans wq_if
theorem u99_172 : wp r 99 172 ls (vI z0 :: vA q :: st) x Q ↔ isk 9 (hK x q) ∧ sml st = true ∧ 1 < r ∧ wpc 1 115 [vA q, vI z0] x (wk r 99 172 ls st Q) := (wp_u (show cd 99 172 = some (.invokevirtual 202, 3, 115, 2, 1, 9) from rfl)).trans (g_virt rfl (by decide) (by simp) rfl)
theorem u99_175 : wp r 99 175 [a0, a1, a2, a3, a4, a5, a6, a7, a8] (vI z :: st) x Q ↔ wp r 99 177 [a0, a1, a2, a3, a4, a5, a6, a7, vI z] st x Q := (wp_u (show cd 99 175 = some (.istore 8, 2, 0, 0, 0, 0) from rfl))
theorem u99_177 : wp r 99 177 [a0, a1, a2, a3, vI z, a5, a6, a7, a8] st x Q ↔ wp r 99 179 [a0, a1, a2, a3, vI z, a5, a6, a7, a8] (vI z :: st) x Q := (wp_u (show cd 99 177 = some (.iload 4, 2, 0, 0, 0, 0) from rfl))
theorem u99_179 : wp r 99 179 ls (vI z :: st) x Q ↔ if 0 ≤ z then wp r 99 187 ls st x Q else wp r 99 182 ls st x Q := (wp_u (show cd 99 179 = some (.ifCond .ge 8, 3, 187, 0, 0, 0) from rfl)).trans wq_d
theorem u99_182 : wp r 99 182 [a0, a1, a2, a3, a4, a5, a6, a7, vI z] st x Q ↔ wp r 99 184 [a0, a1, a2, a3, a4, a5, a6, a7, vI z] (vI z :: st) x Q := (wp_u (show cd 99 182 = some (.iload 8, 2, 0, 0, 0, 0) from rfl))
theorem u99_184 : wp r 99 184 ls st x Q ↔ wp r 99 220 ls st x Q := (wp_u (show cd 99 184 = some (.goto 36, 3, 220, 0, 0, 0) from rfl))
theorem u99_187 : wp r 99 187 [a0, a1, a2, a3, vI z, a5, a6, a7, a8] st x Q ↔ wp r 99 189 [a0, a1, a2, a3, vI z, a5, a6, a7, a8] (vI z :: st) x Q := (wp_u (show cd 99 187 = some (.iload 4, 2, 0, 0, 0, 0) from rfl))
theorem u99_189 : wp r 99 189 [a0, a1, a2, a3, a4, a5, a6, a7, vI z] st x Q ↔ wp r 99 191 [a0, a1, a2, a3, a4, a5, a6, a7, vI z] (vI z :: st) x Q := (wp_u (show cd 99 189 = some (.iload 8, 2, 0, 0, 0, 0) from rfl))
theorem u99_191 : wp r 99 191 ls (vI w :: vI z :: st) x Q ↔ if w ≤ z then wp r 99 219 ls st x Q else wp r 99 194 ls st x Q := (wp_u (show cd 99 191 = some (.if_icmp .ge 28, 3, 219, 0, 0, 0) from rfl)).trans wq_d
theorem u99_194 : wp r 99 194 [vR o, a1, a2, a3, a4, a5, a6, a7, a8] st x Q ↔ wp r 99 195 [vR o, a1, a2, a3, a4, a5, a6, a7, a8] (vR o :: st) x Q := (wp_u (show cd 99 194 = some (.aload_n 0, 1, 0, 0, 0, 0) from rfl))
theorem u99_195 : wp r 99 195 ls (vA q :: st) x Q ↔ sbk 9 (hK x q) ∧ wp r 99 198 ls (vR (hR x q 31) :: st) x Q := (wp_u (show cd 99 195 = some (.getfield 63, 3, 9, 31, 5, 0) from rfl)).trans g_getR
theorem u99_198 : wp r 99 198 [vR o, a1, a2, a3, a4, a5, a6, a7, a8] st x Q ↔ wp r 99 199 [vR o, a1, a2, a3, a4, a5, a6, a7, a8] (vR o :: st) x Q := (wp_u (show cd 99 198 = some (.aload_n 0, 1, 0, 0, 0, 0) from rfl))
theorem u99_199 : wp r 99 199 ls (vA q :: st) x Q ↔ sbk 9 (hK x q) ∧ wp r 99 202 ls (vR (hR x q 30) :: st) x Q := (wp_u (show cd 99 199 = some (.getfield 60, 3, 9, 30, 5, 0) from rfl)).trans g_getR
theorem u99_202 : wp r 99 202 [vR o, a1, a2, a3, a4, a5, a6, a7, a8] st x Q ↔ wp r 99 203 [vR o, a1, a2, a3, a4, a5, a6, a7, a8] (vR o :: st) x Q := (wp_u (show cd 99 202 = some (.aload_n 0, 1, 0, 0, 0, 0) from rfl))
theorem u99_203 : wp r 99 203 ls (vA q :: st) x Q ↔ sbk 9 (hK x q) ∧ wp r 99 206 ls (vR (hR x q 28) :: st) x Q := (wp_u (show cd 99 203 = some (.getfield 57, 3, 9, 28, 5, 0) from rfl)).trans g_getR
theorem u99_206 : wp r 99 206 [a0, a1, a2, a3, a4, a5, vI z, a7, a8] st x Q ↔ wp r 99 208 [a0, a1, a2, a3, a4, a5, vI z, a7, a8] (vI z :: st) x Q := (wp_u (show cd 99 206 = some (.iload 6, 2, 0, 0, 0, 0) from rfl))
theorem u99_208 : wp r 99 208 ls (vI i :: vA q :: st) x Q ↔ ldk 20 (hK x q) i ∧ wp r 99 209 ls (vI (hI x q i) :: st) x Q := (wp_u (show cd 99 208 = some (.iaload, 1, 0, 0, 0, 0) from rfl)).trans g_ldI
theorem u99_209 : wp r 99 209 [a0, a1, a2, vI z, a4, a5, a6, a7, a8] st x Q ↔ wp r 99 210 [a0, a1, a2, vI z, a4, a5, a6, a7, a8] (vI z :: st) x Q := (wp_u (show cd 99 209 = some (.iload_n 3, 1, 0, 0, 0, 0) from rfl))
theorem u99_210 : wp r 99 210 ls (vI w :: vI z :: st) x Q ↔ inI (z + w) = true ∧ wp r 99 211 ls (vI (z + w) :: st) x Q := (wp_u (show cd 99 210 = some (.iadd, 1, 0, 0, 0, 0) from rfl)).trans wq_if
theorem u99_211 : wp r 99 211 ls (vI i :: vA q :: st) x Q ↔ ldk 20 (hK x q) i ∧ wp r 99 212 ls (vI (hI x q i) :: st) x Q := (wp_u (show cd 99 211 = some (.iaload, 1, 0, 0, 0, 0) from rfl)).trans g_ldI
theorem u99_212 : wp r 99 212 [a0, a1, a2, a3, vI z, a5, a6, a7, a8] st x Q ↔ wp r 99 214 [a0, a1, a2, a3, vI z, a5, a6, a7, a8] (vI z :: st) x Q := (wp_u (show cd 99 212 = some (.iload 4, 2, 0, 0, 0, 0) from rfl))
theorem u99_214 : wp r 99 214 ls (vI w :: vI z :: st) x Q ↔ inI (z + w) = true ∧ wp r 99 215 ls (vI (z + w) :: st) x Q := (wp_u (show cd 99 214 = some (.iadd, 1, 0, 0, 0, 0) from rfl)).trans wq_if
theorem u99_215 : wp r 99 215 ls (vI i :: vA q :: st) x Q ↔ ldk 20 (hK x q) i ∧ wp r 99 216 ls (vI (hI x q i) :: st) x Q := (wp_u (show cd 99 215 = some (.iaload, 1, 0, 0, 0, 0) from rfl)).trans g_ldI
theorem u99_216 : wp r 99 216 ls st x Q ↔ wp r 99 220 ls st x Q := (wp_u (show cd 99 216 = some (.goto 4, 3, 220, 0, 0, 0) from rfl))
theorem u99_219 : wp r 99 219 ls st x Q ↔ wp r 99 220 ls (vI (-1) :: st) x Q := (wp_u (show cd 99 219 = some (.iconst (-1), 1, 0, 0, 0, 0) from rfl))
theorem u99_220 : wp r 99 220 ls [vI z] x Q ↔ Q (.inl (some (vI z))) x := (wp_u (show cd 99 220 = some (.ireturn, 1, 0, 0, 0, 0) from rfl))
theorem e99 : wpc r 99 [vA q, vI z0, vI z1, vI z2, vI z3] x Q ↔ wp r 99 0 [vA q, vI z0, vI z1, vI z2, vI z3, vL jk, vL jk, vL jk, vL jk] [] x Q := Iff.rfl
/-! 100 M_print -/
theorem u100_0 : wp r 100 0 [vR o, a1] st x Q ↔ wp r 100 1 [vR o, a1] (vR o :: st) x Q := (wp_u (show cd 100 0 = some (.aload_n 0, 1, 0, 0, 0, 0) from rfl))
theorem u100_1 : wp r 100 1 [vR o, a1] st x Q ↔ wp r 100 2 [vR o, a1] (vR o :: st) x Q := (wp_u (show cd 100 1 = some (.aload_n 0, 1, 0, 0, 0, 0) from rfl))
theorem u100_2 : wp r 100 2 ls (vA q :: st) x Q ↔ sbk 9 (hK x q) ∧ wp r 100 5 ls (vI (hI x q 23) :: st) x Q := (wp_u (show cd 100 2 = some (.getfield 253, 3, 9, 23, 4, 0) from rfl)).trans g_getI
theorem u100_5 : wp r 100 5 ls (vI z :: st) x Q ↔ if z = 0 then wp r 100 12 ls st x Q else wp r 100 8 ls st x Q := (wp_u (show cd 100 5 = some (.ifCond .eq 7, 3, 12, 0, 0, 0) from rfl)).trans wq_d
theorem u100_8 : wp r 100 8 ls st x Q ↔ wp r 100 9 ls (vI 0 :: st) x Q := (wp_u (show cd 100 8 = some (.iconst 0, 1, 0, 0, 0, 0) from rfl))
theorem u100_9 : wp r 100 9 ls st x Q ↔ wp r 100 13 ls st x Q := (wp_u (show cd 100 9 = some (.goto 4, 3, 13, 0, 0, 0) from rfl))
theorem u100_12 : wp r 100 12 ls st x Q ↔ wp r 100 13 ls (vI 1 :: st) x Q := (wp_u (show cd 100 12 = some (.iconst 1, 1, 0, 0, 0, 0) from rfl))
theorem u100_13 : wp r 100 13 ls (vI z :: vA q :: st) x Q ↔ sbk 9 (hK x q) ∧ wp r 100 16 ls st (stI x q 0 z) Q := (wp_u (show cd 100 13 = some (.putfield 102, 3, 9, 0, 0, 0) from rfl)).trans g_putI0
theorem u100_16 : wp r 100 16 [vR o, a1] st x Q ↔ wp r 100 17 [vR o, a1] (vR o :: st) x Q := (wp_u (show cd 100 16 = some (.aload_n 0, 1, 0, 0, 0, 0) from rfl))
theorem u100_17 : wp r 100 17 ls (vA q :: st) x Q ↔ sbk 9 (hK x q) ∧ wp r 100 20 ls (vI (hI x q 23) :: st) x Q := (wp_u (show cd 100 17 = some (.getfield 253, 3, 9, 23, 4, 0) from rfl)).trans g_getI
theorem u100_20 : wp r 100 20 ls (vI z :: st) x Q ↔ if z = 0 then wp r 100 23 ls st x Q else wp r 100 27 ls st x Q := (wp_u (show cd 100 20 = some (.ifCond .ne 7, 3, 27, 0, 0, 0) from rfl)).trans wq_dn
theorem u100_23 : wp r 100 23 ls st x Q ↔ wp r 100 24 ls (vI 0 :: st) x Q := (wp_u (show cd 100 23 = some (.iconst 0, 1, 0, 0, 0, 0) from rfl))
theorem u100_24 : wp r 100 24 ls st x Q ↔ wp r 100 61 ls st x Q := (wp_u (show cd 100 24 = some (.goto 37, 3, 61, 0, 0, 0) from rfl))
theorem u100_27 : wp r 100 27 [a0, vI z] st x Q ↔ wp r 100 28 [a0, vI z] (vI z :: st) x Q := (wp_u (show cd 100 27 = some (.iload_n 1, 1, 0, 0, 0, 0) from rfl))
theorem u100_28 : wp r 100 28 ls st x Q ↔ wp r 100 29 ls (vI (-1) :: st) x Q := (wp_u (show cd 100 28 = some (.iconst (-1), 1, 0, 0, 0, 0) from rfl))
theorem u100_29 : wp r 100 29 ls (vI w :: vI z :: st) x Q ↔ if z = w then wp r 100 32 ls st x Q else wp r 100 39 ls st x Q := (wp_u (show cd 100 29 = some (.if_icmp .ne 10, 3, 39, 0, 0, 0) from rfl)).trans wq_dn
theorem u100_32 : wp r 100 32 [vR o, a1] st x Q ↔ wp r 100 33 [vR o, a1] (vR o :: st) x Q := (wp_u (show cd 100 32 = some (.aload_n 0, 1, 0, 0, 0, 0) from rfl))
theorem u100_33 : wp r 100 33 ls (vA q :: st) x Q ↔ sbk 9 (hK x q) ∧ wp r 100 36 ls (vI (hI x q 48) :: st) x Q := (wp_u (show cd 100 33 = some (.getfield 275, 3, 9, 48, 0, 0) from rfl)).trans g_getI
theorem u100_36 : wp r 100 36 ls st x Q ↔ wp r 100 61 ls st x Q := (wp_u (show cd 100 36 = some (.goto 25, 3, 61, 0, 0, 0) from rfl))
theorem u100_39 : wp r 100 39 [a0, vI z] st x Q ↔ wp r 100 40 [a0, vI z] (vI z :: st) x Q := (wp_u (show cd 100 39 = some (.iload_n 1, 1, 0, 0, 0, 0) from rfl))
theorem u100_40 : wp r 100 40 ls (vI z :: st) x Q ↔ if z < 0 then wp r 100 51 ls st x Q else wp r 100 43 ls st x Q := (wp_u (show cd 100 40 = some (.ifCond .lt 11, 3, 51, 0, 0, 0) from rfl)).trans wq_d
theorem u100_43 : wp r 100 43 [a0, vI z] st x Q ↔ wp r 100 44 [a0, vI z] (vI z :: st) x Q := (wp_u (show cd 100 43 = some (.iload_n 1, 1, 0, 0, 0, 0) from rfl))
theorem u100_44 : wp r 100 44 [vR o, a1] st x Q ↔ wp r 100 45 [vR o, a1] (vR o :: st) x Q := (wp_u (show cd 100 44 = some (.aload_n 0, 1, 0, 0, 0, 0) from rfl))
theorem u100_45 : wp r 100 45 ls (vA q :: st) x Q ↔ sbk 9 (hK x q) ∧ wp r 100 48 ls (vI (hI x q 48) :: st) x Q := (wp_u (show cd 100 45 = some (.getfield 275, 3, 9, 48, 0, 0) from rfl)).trans g_getI
theorem u100_48 : wp r 100 48 ls (vI w :: vI z :: st) x Q ↔ if z < w then wp r 100 55 ls st x Q else wp r 100 51 ls st x Q := (wp_u (show cd 100 48 = some (.if_icmp .lt 7, 3, 55, 0, 0, 0) from rfl)).trans wq_d
theorem u100_51 : wp r 100 51 ls st x Q ↔ wp r 100 52 ls (vI (-1) :: st) x Q := (wp_u (show cd 100 51 = some (.iconst (-1), 1, 0, 0, 0, 0) from rfl))
theorem u100_52 : wp r 100 52 ls st x Q ↔ wp r 100 61 ls st x Q := (wp_u (show cd 100 52 = some (.goto 9, 3, 61, 0, 0, 0) from rfl))
theorem u100_55 : wp r 100 55 [vR o, a1] st x Q ↔ wp r 100 56 [vR o, a1] (vR o :: st) x Q := (wp_u (show cd 100 55 = some (.aload_n 0, 1, 0, 0, 0, 0) from rfl))
theorem u100_56 : wp r 100 56 ls (vA q :: st) x Q ↔ sbk 9 (hK x q) ∧ wp r 100 59 ls (vR (hR x q 49) :: st) x Q := (wp_u (show cd 100 56 = some (.getfield 96, 3, 9, 49, 5, 0) from rfl)).trans g_getR
theorem u100_59 : wp r 100 59 [a0, vI z] st x Q ↔ wp r 100 60 [a0, vI z] (vI z :: st) x Q := (wp_u (show cd 100 59 = some (.iload_n 1, 1, 0, 0, 0, 0) from rfl))
theorem u100_60 : wp r 100 60 ls (vI i :: vA q :: st) x Q ↔ ldk 20 (hK x q) i ∧ wp r 100 61 ls (vI (hI x q i) :: st) x Q := (wp_u (show cd 100 60 = some (.iaload, 1, 0, 0, 0, 0) from rfl)).trans g_ldI
theorem u100_61 : wp r 100 61 ls [vI z] x Q ↔ Q (.inl (some (vI z))) x := (wp_u (show cd 100 61 = some (.ireturn, 1, 0, 0, 0, 0) from rfl))
theorem e100 : wpc r 100 [vA q, vI z0] x Q ↔ wp r 100 0 [vA q, vI z0] [] x Q := Iff.rfl
/-! 101 M_report -/
theorem u101_0 : wp r 101 0 [vR o, a1] st x Q ↔ wp r 101 1 [vR o, a1] (vR o :: st) x Q := (wp_u (show cd 101 0 = some (.aload_n 0, 1, 0, 0, 0, 0) from rfl))
theorem u101_1 : wp r 101 1 [vR o, a1] st x Q ↔ wp r 101 2 [vR o, a1] (vR o :: st) x Q := (wp_u (show cd 101 1 = some (.aload_n 0, 1, 0, 0, 0, 0) from rfl))
theorem u101_2 : wp r 101 2 ls (vA q :: st) x Q ↔ sbk 9 (hK x q) ∧ wp r 101 5 ls (vI (hI x q 23) :: st) x Q := (wp_u (show cd 101 2 = some (.getfield 253, 3, 9, 23, 4, 0) from rfl)).trans g_getI
theorem u101_5 : wp r 101 5 ls (vI z :: st) x Q ↔ if z = 0 then wp r 101 12 ls st x Q else wp r 101 8 ls st x Q := (wp_u (show cd 101 5 = some (.ifCond .eq 7, 3, 12, 0, 0, 0) from rfl)).trans wq_d
theorem u101_8 : wp r 101 8 ls st x Q ↔ wp r 101 9 ls (vI 0 :: st) x Q := (wp_u (show cd 101 8 = some (.iconst 0, 1, 0, 0, 0, 0) from rfl))
theorem u101_9 : wp r 101 9 ls st x Q ↔ wp r 101 13 ls st x Q := (wp_u (show cd 101 9 = some (.goto 4, 3, 13, 0, 0, 0) from rfl))
theorem u101_12 : wp r 101 12 ls st x Q ↔ wp r 101 13 ls (vI 1 :: st) x Q := (wp_u (show cd 101 12 = some (.iconst 1, 1, 0, 0, 0, 0) from rfl))
theorem u101_13 : wp r 101 13 ls (vI z :: vA q :: st) x Q ↔ sbk 9 (hK x q) ∧ wp r 101 16 ls st (stI x q 0 z) Q := (wp_u (show cd 101 13 = some (.putfield 102, 3, 9, 0, 0, 0) from rfl)).trans g_putI0
theorem u101_16 : wp r 101 16 [vR o, a1] st x Q ↔ wp r 101 17 [vR o, a1] (vR o :: st) x Q := (wp_u (show cd 101 16 = some (.aload_n 0, 1, 0, 0, 0, 0) from rfl))
theorem u101_17 : wp r 101 17 ls (vA q :: st) x Q ↔ sbk 9 (hK x q) ∧ wp r 101 20 ls (vI (hI x q 23) :: st) x Q := (wp_u (show cd 101 17 = some (.getfield 253, 3, 9, 23, 4, 0) from rfl)).trans g_getI
theorem u101_20 : wp r 101 20 ls (vI z :: st) x Q ↔ if z = 0 then wp r 101 23 ls st x Q else wp r 101 27 ls st x Q := (wp_u (show cd 101 20 = some (.ifCond .ne 7, 3, 27, 0, 0, 0) from rfl)).trans wq_dn
theorem u101_23 : wp r 101 23 ls st x Q ↔ wp r 101 24 ls (vI 0 :: st) x Q := (wp_u (show cd 101 23 = some (.iconst 0, 1, 0, 0, 0, 0) from rfl))
theorem u101_24 : wp r 101 24 ls st x Q ↔ wp r 101 61 ls st x Q := (wp_u (show cd 101 24 = some (.goto 37, 3, 61, 0, 0, 0) from rfl))
theorem u101_27 : wp r 101 27 [a0, vI z] st x Q ↔ wp r 101 28 [a0, vI z] (vI z :: st) x Q := (wp_u (show cd 101 27 = some (.iload_n 1, 1, 0, 0, 0, 0) from rfl))
theorem u101_28 : wp r 101 28 ls st x Q ↔ wp r 101 29 ls (vI (-1) :: st) x Q := (wp_u (show cd 101 28 = some (.iconst (-1), 1, 0, 0, 0, 0) from rfl))
theorem u101_29 : wp r 101 29 ls (vI w :: vI z :: st) x Q ↔ if z = w then wp r 101 32 ls st x Q else wp r 101 39 ls st x Q := (wp_u (show cd 101 29 = some (.if_icmp .ne 10, 3, 39, 0, 0, 0) from rfl)).trans wq_dn
theorem u101_32 : wp r 101 32 [vR o, a1] st x Q ↔ wp r 101 33 [vR o, a1] (vR o :: st) x Q := (wp_u (show cd 101 32 = some (.aload_n 0, 1, 0, 0, 0, 0) from rfl))
theorem u101_33 : wp r 101 33 ls (vA q :: st) x Q ↔ sbk 9 (hK x q) ∧ wp r 101 36 ls (vI (hI x q 50) :: st) x Q := (wp_u (show cd 101 33 = some (.getfield 272, 3, 9, 50, 0, 0) from rfl)).trans g_getI
theorem u101_36 : wp r 101 36 ls st x Q ↔ wp r 101 61 ls st x Q := (wp_u (show cd 101 36 = some (.goto 25, 3, 61, 0, 0, 0) from rfl))
theorem u101_39 : wp r 101 39 [a0, vI z] st x Q ↔ wp r 101 40 [a0, vI z] (vI z :: st) x Q := (wp_u (show cd 101 39 = some (.iload_n 1, 1, 0, 0, 0, 0) from rfl))
theorem u101_40 : wp r 101 40 ls (vI z :: st) x Q ↔ if z < 0 then wp r 101 51 ls st x Q else wp r 101 43 ls st x Q := (wp_u (show cd 101 40 = some (.ifCond .lt 11, 3, 51, 0, 0, 0) from rfl)).trans wq_d
theorem u101_43 : wp r 101 43 [a0, vI z] st x Q ↔ wp r 101 44 [a0, vI z] (vI z :: st) x Q := (wp_u (show cd 101 43 = some (.iload_n 1, 1, 0, 0, 0, 0) from rfl))
theorem u101_44 : wp r 101 44 [vR o, a1] st x Q ↔ wp r 101 45 [vR o, a1] (vR o :: st) x Q := (wp_u (show cd 101 44 = some (.aload_n 0, 1, 0, 0, 0, 0) from rfl))
theorem u101_45 : wp r 101 45 ls (vA q :: st) x Q ↔ sbk 9 (hK x q) ∧ wp r 101 48 ls (vI (hI x q 50) :: st) x Q := (wp_u (show cd 101 45 = some (.getfield 272, 3, 9, 50, 0, 0) from rfl)).trans g_getI
theorem u101_48 : wp r 101 48 ls (vI w :: vI z :: st) x Q ↔ if z < w then wp r 101 55 ls st x Q else wp r 101 51 ls st x Q := (wp_u (show cd 101 48 = some (.if_icmp .lt 7, 3, 55, 0, 0, 0) from rfl)).trans wq_d
theorem u101_51 : wp r 101 51 ls st x Q ↔ wp r 101 52 ls (vI (-1) :: st) x Q := (wp_u (show cd 101 51 = some (.iconst (-1), 1, 0, 0, 0, 0) from rfl))
theorem u101_52 : wp r 101 52 ls st x Q ↔ wp r 101 61 ls st x Q := (wp_u (show cd 101 52 = some (.goto 9, 3, 61, 0, 0, 0) from rfl))
theorem u101_55 : wp r 101 55 [vR o, a1] st x Q ↔ wp r 101 56 [vR o, a1] (vR o :: st) x Q := (wp_u (show cd 101 55 = some (.aload_n 0, 1, 0, 0, 0, 0) from rfl))
theorem u101_56 : wp r 101 56 ls (vA q :: st) x Q ↔ sbk 9 (hK x q) ∧ wp r 101 59 ls (vR (hR x q 51) :: st) x Q := (wp_u (show cd 101 56 = some (.getfield 99, 3, 9, 51, 5, 0) from rfl)).trans g_getR
theorem u101_59 : wp r 101 59 [a0, vI z] st x Q ↔ wp r 101 60 [a0, vI z] (vI z :: st) x Q := (wp_u (show cd 101 59 = some (.iload_n 1, 1, 0, 0, 0, 0) from rfl))
theorem u101_60 : wp r 101 60 ls (vI i :: vA q :: st) x Q ↔ ldk 20 (hK x q) i ∧ wp r 101 61 ls (vI (hI x q i) :: st) x Q := (wp_u (show cd 101 60 = some (.iaload, 1, 0, 0, 0, 0) from rfl)).trans g_ldI
theorem u101_61 : wp r 101 61 ls [vI z] x Q ↔ Q (.inl (some (vI z))) x := (wp_u (show cd 101 61 = some (.ireturn, 1, 0, 0, 0, 0) from rfl))
theorem e101 : wpc r 101 [vA q, vI z0] x Q ↔ wp r 101 0 [vA q, vI z0] [] x Q := Iff.rfl
/-! 102 M_isType -/
theorem u102_0 : wp r 102 0 [vI z] st x Q ↔ wp r 102 1 [vI z] (vI z :: st) x Q := (wp_u (show cd 102 0 = some (.iload_n 0, 1, 0, 0, 0, 0) from rfl))
theorem u102_1 : wp r 102 1 ls (vI z :: st) x Q ↔ if z < 0 then wp r 102 13 ls st x Q else wp r 102 4 ls st x Q := (wp_u (show cd 102 1 = some (.ifCond .lt 12, 3, 13, 0, 0, 0) from rfl)).trans wq_d
theorem u102_4 : wp r 102 4 [vI z] st x Q ↔ wp r 102 5 [vI z] (vI z :: st) x Q := (wp_u (show cd 102 4 = some (.iload_n 0, 1, 0, 0, 0, 0) from rfl))
theorem u102_5 : wp r 102 5 ls st x Q ↔ wp r 102 6 ls (vI 4 :: st) x Q := (wp_u (show cd 102 5 = some (.iconst 4, 1, 0, 0, 0, 0) from rfl))
theorem u102_6 : wp r 102 6 ls (vI w :: vI z :: st) x Q ↔ if w ≤ z then wp r 102 13 ls st x Q else wp r 102 9 ls st x Q := (wp_u (show cd 102 6 = some (.if_icmp .ge 7, 3, 13, 0, 0, 0) from rfl)).trans wq_d
theorem u102_9 : wp r 102 9 ls st x Q ↔ wp r 102 10 ls (vI 1 :: st) x Q := (wp_u (show cd 102 9 = some (.iconst 1, 1, 0, 0, 0, 0) from rfl))
theorem u102_10 : wp r 102 10 ls st x Q ↔ wp r 102 14 ls st x Q := (wp_u (show cd 102 10 = some (.goto 4, 3, 14, 0, 0, 0) from rfl))
theorem u102_13 : wp r 102 13 ls st x Q ↔ wp r 102 14 ls (vI 0 :: st) x Q := (wp_u (show cd 102 13 = some (.iconst 0, 1, 0, 0, 0, 0) from rfl))
theorem u102_14 : wp r 102 14 ls [vI z] x Q ↔ rg 4 z = true ∧ Q (.inl (some (vI z))) x := (wp_u (show cd 102 14 = some (.ireturn, 1, 4, 0, 0, 0) from rfl)).trans wq_if
theorem e102 : wpc r 102 [vI z0] x Q ↔ wp r 102 0 [vI z0] [] x Q := Iff.rfl
/-! 103 M_isTag -/
theorem u103_0 : wp r 103 0 [vI z] st x Q ↔ wp r 103 1 [vI z] (vI z :: st) x Q := (wp_u (show cd 103 0 = some (.iload_n 0, 1, 0, 0, 0, 0) from rfl))
theorem u103_1 : wp r 103 1 ls (vI z :: st) x Q ↔ if z < 0 then wp r 103 43 ls st x Q else wp r 103 4 ls st x Q := (wp_u (show cd 103 1 = some (.ifCond .lt 42, 3, 43, 0, 0, 0) from rfl)).trans wq_d
theorem u103_4 : wp r 103 4 [vI z] st x Q ↔ wp r 103 5 [vI z] (vI z :: st) x Q := (wp_u (show cd 103 4 = some (.iload_n 0, 1, 0, 0, 0, 0) from rfl))
theorem u103_5 : wp r 103 5 ls st x Q ↔ wp r 103 7 ls (vI 16 :: st) x Q := (wp_u (show cd 103 5 = some (.bipush 16, 2, 0, 0, 0, 0) from rfl))
theorem u103_7 : wp r 103 7 ls (vI w :: vI z :: st) x Q ↔ wp r 103 8 ls (vI (iShr z w) :: st) x Q := (wp_u (show cd 103 7 = some (.ishr, 1, 0, 0, 0, 0) from rfl)).trans (wq_if.trans (and_iff_right (inI_32 _)))
theorem u103_8 : wp r 103 8 ls (vI z0 :: st) x Q ↔ sml st = true ∧ 1 < r ∧ wpc 1 116 [vI z0] x (wk r 103 8 ls st Q) := (wp_u (show cd 103 8 = some (.invokestatic 108, 3, 116, 1, 1, 0) from rfl)).trans (g_stat (by decide) (by simp) rfl)
theorem u103_11 : wp r 103 11 ls (vI z :: st) x Q ↔ if z = 0 then wp r 103 43 ls st x Q else wp r 103 14 ls st x Q := (wp_u (show cd 103 11 = some (.ifCond .eq 32, 3, 43, 0, 0, 0) from rfl)).trans wq_d
theorem u103_14 : wp r 103 14 [vI z] st x Q ↔ wp r 103 15 [vI z] (vI z :: st) x Q := (wp_u (show cd 103 14 = some (.iload_n 0, 1, 0, 0, 0, 0) from rfl))
theorem u103_15 : wp r 103 15 ls st x Q ↔ wp r 103 17 ls (vI 8 :: st) x Q := (wp_u (show cd 103 15 = some (.bipush 8, 2, 0, 0, 0, 0) from rfl))
theorem u103_17 : wp r 103 17 ls (vI w :: vI z :: st) x Q ↔ wp r 103 18 ls (vI (iShr z w) :: st) x Q := (wp_u (show cd 103 17 = some (.ishr, 1, 0, 0, 0, 0) from rfl)).trans (wq_if.trans (and_iff_right (inI_32 _)))
theorem u103_18 : wp r 103 18 ls st x Q ↔ wp r 103 21 ls (vI 255 :: st) x Q := (wp_u (show cd 103 18 = some (.sipush 255, 3, 0, 0, 0, 0) from rfl))
theorem u103_21 : wp r 103 21 ls (vI w :: vI z :: st) x Q ↔ wp r 103 22 ls (vI (iAnd z w) :: st) x Q := (wp_u (show cd 103 21 = some (.iand, 1, 0, 0, 0, 0) from rfl)).trans (wq_if.trans (and_iff_right (inI_32 _)))
theorem u103_22 : wp r 103 22 ls (vI z0 :: st) x Q ↔ sml st = true ∧ 1 < r ∧ wpc 1 116 [vI z0] x (wk r 103 22 ls st Q) := (wp_u (show cd 103 22 = some (.invokestatic 108, 3, 116, 1, 1, 0) from rfl)).trans (g_stat (by decide) (by simp) rfl)
theorem u103_25 : wp r 103 25 ls (vI z :: st) x Q ↔ if z = 0 then wp r 103 43 ls st x Q else wp r 103 28 ls st x Q := (wp_u (show cd 103 25 = some (.ifCond .eq 18, 3, 43, 0, 0, 0) from rfl)).trans wq_d
theorem u103_28 : wp r 103 28 [vI z] st x Q ↔ wp r 103 29 [vI z] (vI z :: st) x Q := (wp_u (show cd 103 28 = some (.iload_n 0, 1, 0, 0, 0, 0) from rfl))
theorem u103_29 : wp r 103 29 ls st x Q ↔ wp r 103 32 ls (vI 255 :: st) x Q := (wp_u (show cd 103 29 = some (.sipush 255, 3, 0, 0, 0, 0) from rfl))
theorem u103_32 : wp r 103 32 ls (vI w :: vI z :: st) x Q ↔ wp r 103 33 ls (vI (iAnd z w) :: st) x Q := (wp_u (show cd 103 32 = some (.iand, 1, 0, 0, 0, 0) from rfl)).trans (wq_if.trans (and_iff_right (inI_32 _)))
theorem u103_33 : wp r 103 33 ls (vI z0 :: st) x Q ↔ sml st = true ∧ 1 < r ∧ wpc 1 116 [vI z0] x (wk r 103 33 ls st Q) := (wp_u (show cd 103 33 = some (.invokestatic 108, 3, 116, 1, 1, 0) from rfl)).trans (g_stat (by decide) (by simp) rfl)
theorem u103_36 : wp r 103 36 ls (vI z :: st) x Q ↔ if z = 0 then wp r 103 43 ls st x Q else wp r 103 39 ls st x Q := (wp_u (show cd 103 36 = some (.ifCond .eq 7, 3, 43, 0, 0, 0) from rfl)).trans wq_d
theorem u103_39 : wp r 103 39 ls st x Q ↔ wp r 103 40 ls (vI 1 :: st) x Q := (wp_u (show cd 103 39 = some (.iconst 1, 1, 0, 0, 0, 0) from rfl))
theorem u103_40 : wp r 103 40 ls st x Q ↔ wp r 103 44 ls st x Q := (wp_u (show cd 103 40 = some (.goto 4, 3, 44, 0, 0, 0) from rfl))
theorem u103_43 : wp r 103 43 ls st x Q ↔ wp r 103 44 ls (vI 0 :: st) x Q := (wp_u (show cd 103 43 = some (.iconst 0, 1, 0, 0, 0, 0) from rfl))
theorem u103_44 : wp r 103 44 ls [vI z] x Q ↔ rg 4 z = true ∧ Q (.inl (some (vI z))) x := (wp_u (show cd 103 44 = some (.ireturn, 1, 4, 0, 0, 0) from rfl)).trans wq_if
theorem e103 : wpc r 103 [vI z0] x Q ↔ wp r 103 0 [vI z0] [] x Q := Iff.rfl
/-! 104 M_isEnvelope -/
theorem u104_0 : wp r 104 0 [vI z] st x Q ↔ wp r 104 1 [vI z] (vI z :: st) x Q := (wp_u (show cd 104 0 = some (.iload_n 0, 1, 0, 0, 0, 0) from rfl))
theorem u104_1 : wp r 104 1 ls st x Q ↔ wp r 104 3 ls (vI 5590594 :: st) x Q := (wp_u (show cd 104 1 = some (.ldc 112, 2, 5590594, 0, 0, 0) from rfl))
theorem u104_3 : wp r 104 3 ls (vI w :: vI z :: st) x Q ↔ if z = w then wp r 104 36 ls st x Q else wp r 104 6 ls st x Q := (wp_u (show cd 104 3 = some (.if_icmp .eq 33, 3, 36, 0, 0, 0) from rfl)).trans wq_d
theorem u104_6 : wp r 104 6 [vI z] st x Q ↔ wp r 104 7 [vI z] (vI z :: st) x Q := (wp_u (show cd 104 6 = some (.iload_n 0, 1, 0, 0, 0, 0) from rfl))
theorem u104_7 : wp r 104 7 ls st x Q ↔ wp r 104 9 ls (vI 5590618 :: st) x Q := (wp_u (show cd 104 7 = some (.ldc 113, 2, 5590618, 0, 0, 0) from rfl))
theorem u104_9 : wp r 104 9 ls (vI w :: vI z :: st) x Q ↔ if z = w then wp r 104 36 ls st x Q else wp r 104 12 ls st x Q := (wp_u (show cd 104 9 = some (.if_icmp .eq 27, 3, 36, 0, 0, 0) from rfl)).trans wq_d
theorem u104_12 : wp r 104 12 [vI z] st x Q ↔ wp r 104 13 [vI z] (vI z :: st) x Q := (wp_u (show cd 104 12 = some (.iload_n 0, 1, 0, 0, 0, 0) from rfl))
theorem u104_13 : wp r 104 13 ls st x Q ↔ wp r 104 15 ls (vI 5590599 :: st) x Q := (wp_u (show cd 104 13 = some (.ldc 114, 2, 5590599, 0, 0, 0) from rfl))
theorem u104_15 : wp r 104 15 ls (vI w :: vI z :: st) x Q ↔ if z = w then wp r 104 36 ls st x Q else wp r 104 18 ls st x Q := (wp_u (show cd 104 15 = some (.if_icmp .eq 21, 3, 36, 0, 0, 0) from rfl)).trans wq_d
theorem u104_18 : wp r 104 18 [vI z] st x Q ↔ wp r 104 19 [vI z] (vI z :: st) x Q := (wp_u (show cd 104 18 = some (.iload_n 0, 1, 0, 0, 0, 0) from rfl))
theorem u104_19 : wp r 104 19 ls st x Q ↔ wp r 104 21 ls (vI 5590597 :: st) x Q := (wp_u (show cd 104 19 = some (.ldc 115, 2, 5590597, 0, 0, 0) from rfl))
theorem u104_21 : wp r 104 21 ls (vI w :: vI z :: st) x Q ↔ if z = w then wp r 104 36 ls st x Q else wp r 104 24 ls st x Q := (wp_u (show cd 104 21 = some (.if_icmp .eq 15, 3, 36, 0, 0, 0) from rfl)).trans wq_d
theorem u104_24 : wp r 104 24 [vI z] st x Q ↔ wp r 104 25 [vI z] (vI z :: st) x Q := (wp_u (show cd 104 24 = some (.iload_n 0, 1, 0, 0, 0, 0) from rfl))
theorem u104_25 : wp r 104 25 ls st x Q ↔ wp r 104 27 ls (vI 5590600 :: st) x Q := (wp_u (show cd 104 25 = some (.ldc 116, 2, 5590600, 0, 0, 0) from rfl))
theorem u104_27 : wp r 104 27 ls (vI w :: vI z :: st) x Q ↔ if z = w then wp r 104 36 ls st x Q else wp r 104 30 ls st x Q := (wp_u (show cd 104 27 = some (.if_icmp .eq 9, 3, 36, 0, 0, 0) from rfl)).trans wq_d
theorem u104_30 : wp r 104 30 [vI z] st x Q ↔ wp r 104 31 [vI z] (vI z :: st) x Q := (wp_u (show cd 104 30 = some (.iload_n 0, 1, 0, 0, 0, 0) from rfl))
theorem u104_31 : wp r 104 31 ls st x Q ↔ wp r 104 33 ls (vI 5590612 :: st) x Q := (wp_u (show cd 104 31 = some (.ldc 117, 2, 5590612, 0, 0, 0) from rfl))
theorem u104_33 : wp r 104 33 ls (vI w :: vI z :: st) x Q ↔ if z = w then wp r 104 36 ls st x Q else wp r 104 40 ls st x Q := (wp_u (show cd 104 33 = some (.if_icmp .ne 7, 3, 40, 0, 0, 0) from rfl)).trans wq_dn
theorem u104_36 : wp r 104 36 ls st x Q ↔ wp r 104 37 ls (vI 1 :: st) x Q := (wp_u (show cd 104 36 = some (.iconst 1, 1, 0, 0, 0, 0) from rfl))
theorem u104_37 : wp r 104 37 ls st x Q ↔ wp r 104 41 ls st x Q := (wp_u (show cd 104 37 = some (.goto 4, 3, 41, 0, 0, 0) from rfl))
theorem u104_40 : wp r 104 40 ls st x Q ↔ wp r 104 41 ls (vI 0 :: st) x Q := (wp_u (show cd 104 40 = some (.iconst 0, 1, 0, 0, 0, 0) from rfl))
theorem u104_41 : wp r 104 41 ls [vI z] x Q ↔ rg 4 z = true ∧ Q (.inl (some (vI z))) x := (wp_u (show cd 104 41 = some (.ireturn, 1, 4, 0, 0, 0) from rfl)).trans wq_if
theorem e104 : wpc r 104 [vI z0] x Q ↔ wp r 104 0 [vI z0] [] x Q := Iff.rfl
/-! 105 M_isBare -/
theorem u105_0 : wp r 105 0 [vR o, a1] st x Q ↔ wp r 105 1 [vR o, a1] (vR o :: st) x Q := (wp_u (show cd 105 0 = some (.aload_n 0, 1, 0, 0, 0, 0) from rfl))
theorem u105_1 : wp r 105 1 ls (vA q :: st) x Q ↔ sbk 9 (hK x q) ∧ wp r 105 4 ls (vR (hR x q 8) :: st) x Q := (wp_u (show cd 105 1 = some (.getfield 29, 3, 9, 8, 5, 0) from rfl)).trans g_getR
theorem u105_4 : wp r 105 4 [a0, vI z] st x Q ↔ wp r 105 5 [a0, vI z] (vI z :: st) x Q := (wp_u (show cd 105 4 = some (.iload_n 1, 1, 0, 0, 0, 0) from rfl))
theorem u105_5 : wp r 105 5 ls (vI i :: vA q :: st) x Q ↔ ldk 20 (hK x q) i ∧ wp r 105 6 ls (vI (hI x q i) :: st) x Q := (wp_u (show cd 105 5 = some (.iaload, 1, 0, 0, 0, 0) from rfl)).trans g_ldI
theorem u105_6 : wp r 105 6 ls (vI z :: st) x Q ↔ if z < 0 then wp r 105 28 ls st x Q else wp r 105 9 ls st x Q := (wp_u (show cd 105 6 = some (.ifCond .lt 22, 3, 28, 0, 0, 0) from rfl)).trans wq_d
theorem u105_9 : wp r 105 9 [vR o, a1] st x Q ↔ wp r 105 10 [vR o, a1] (vR o :: st) x Q := (wp_u (show cd 105 9 = some (.aload_n 0, 1, 0, 0, 0, 0) from rfl))
theorem u105_10 : wp r 105 10 [a0, vI z] st x Q ↔ wp r 105 11 [a0, vI z] (vI z :: st) x Q := (wp_u (show cd 105 10 = some (.iload_n 1, 1, 0, 0, 0, 0) from rfl))
theorem u105_11 : wp r 105 11 ls st x Q ↔ wp r 105 12 ls (vI (-1) :: st) x Q := (wp_u (show cd 105 11 = some (.iconst (-1), 1, 0, 0, 0, 0) from rfl))
theorem u105_12 : wp r 105 12 [vR o, a1] st x Q ↔ wp r 105 13 [vR o, a1] (vR o :: st) x Q := (wp_u (show cd 105 12 = some (.aload_n 0, 1, 0, 0, 0, 0) from rfl))
theorem u105_13 : wp r 105 13 ls (vA q :: st) x Q ↔ sbk 9 (hK x q) ∧ wp r 105 16 ls (vR (hR x q 8) :: st) x Q := (wp_u (show cd 105 13 = some (.getfield 29, 3, 9, 8, 5, 0) from rfl)).trans g_getR
theorem u105_16 : wp r 105 16 [a0, vI z] st x Q ↔ wp r 105 17 [a0, vI z] (vI z :: st) x Q := (wp_u (show cd 105 16 = some (.iload_n 1, 1, 0, 0, 0, 0) from rfl))
theorem u105_17 : wp r 105 17 ls (vI i :: vA q :: st) x Q ↔ ldk 20 (hK x q) i ∧ wp r 105 18 ls (vI (hI x q i) :: st) x Q := (wp_u (show cd 105 17 = some (.iaload, 1, 0, 0, 0, 0) from rfl)).trans g_ldI
theorem u105_18 : wp r 105 18 ls (vI z2 :: vI z1 :: vI z0 :: vA q :: st) x Q ↔ isk 9 (hK x q) ∧ sml st = true ∧ 1 < r ∧ wpc 1 117 [vA q, vI z0, vI z1, vI z2] x (wk r 105 18 ls st Q) := (wp_u (show cd 105 18 = some (.invokevirtual 118, 3, 117, 4, 1, 9) from rfl)).trans (g_virt rfl (by decide) (by simp) rfl)
theorem u105_21 : wp r 105 21 ls (vI z :: st) x Q ↔ if 0 ≤ z then wp r 105 28 ls st x Q else wp r 105 24 ls st x Q := (wp_u (show cd 105 21 = some (.ifCond .ge 7, 3, 28, 0, 0, 0) from rfl)).trans wq_d
theorem u105_24 : wp r 105 24 ls st x Q ↔ wp r 105 25 ls (vI 1 :: st) x Q := (wp_u (show cd 105 24 = some (.iconst 1, 1, 0, 0, 0, 0) from rfl))
theorem u105_25 : wp r 105 25 ls st x Q ↔ wp r 105 29 ls st x Q := (wp_u (show cd 105 25 = some (.goto 4, 3, 29, 0, 0, 0) from rfl))
theorem u105_28 : wp r 105 28 ls st x Q ↔ wp r 105 29 ls (vI 0 :: st) x Q := (wp_u (show cd 105 28 = some (.iconst 0, 1, 0, 0, 0, 0) from rfl))
theorem u105_29 : wp r 105 29 ls [vI z] x Q ↔ rg 4 z = true ∧ Q (.inl (some (vI z))) x := (wp_u (show cd 105 29 = some (.ireturn, 1, 4, 0, 0, 0) from rfl)).trans wq_if
theorem e105 : wpc r 105 [vA q, vI z0] x Q ↔ wp r 105 0 [vA q, vI z0] [] x Q := Iff.rfl
/-! 106 M_add -/
theorem u106_0 : wp r 106 0 ls st x Q ↔ wp r 106 2 ls (vI 24 :: st) x Q := (wp_u (show cd 106 0 = some (.bipush 24, 2, 0, 0, 0, 0) from rfl))
theorem u106_2 : wp r 106 2 [a0, vI z, a2, a3, a4, a5] st x Q ↔ wp r 106 3 [a0, vI z, a2, a3, a4, a5] (vI z :: st) x Q := (wp_u (show cd 106 2 = some (.iload_n 1, 1, 0, 0, 0, 0) from rfl))
theorem u106_3 : wp r 106 3 ls (vI w :: vI z :: st) x Q ↔ inI (z * w) = true ∧ wp r 106 4 ls (vI (z * w) :: st) x Q := (wp_u (show cd 106 3 = some (.imul, 1, 0, 0, 0, 0) from rfl)).trans wq_if
theorem u106_4 : wp r 106 4 [vR o, a1, a2, a3, a4, a5] st x Q ↔ wp r 106 5 [vR o, a1, a2, a3, a4, a5] (vR o :: st) x Q := (wp_u (show cd 106 4 = some (.aload_n 0, 1, 0, 0, 0, 0) from rfl))
theorem u106_5 : wp r 106 5 ls (vA q :: st) x Q ↔ sbk 9 (hK x q) ∧ wp r 106 8 ls (vR (hR x q 3) :: st) x Q := (wp_u (show cd 106 5 = some (.getfield 13, 3, 9, 3, 5, 0) from rfl)).trans g_getR
theorem u106_8 : wp r 106 8 [a0, vI z, a2, a3, a4, a5] st x Q ↔ wp r 106 9 [a0, vI z, a2, a3, a4, a5] (vI z :: st) x Q := (wp_u (show cd 106 8 = some (.iload_n 1, 1, 0, 0, 0, 0) from rfl))
theorem u106_9 : wp r 106 9 ls (vI i :: vA q :: st) x Q ↔ ldk 20 (hK x q) i ∧ wp r 106 10 ls (vI (hI x q i) :: st) x Q := (wp_u (show cd 106 9 = some (.iaload, 1, 0, 0, 0, 0) from rfl)).trans g_ldI
theorem u106_10 : wp r 106 10 ls (vI w :: vI z :: st) x Q ↔ inI (z + w) = true ∧ wp r 106 11 ls (vI (z + w) :: st) x Q := (wp_u (show cd 106 10 = some (.iadd, 1, 0, 0, 0, 0) from rfl)).trans wq_if
theorem u106_11 : wp r 106 11 [a0, a1, a2, a3, a4, a5] (vI z :: st) x Q ↔ wp r 106 13 [a0, a1, a2, a3, a4, vI z] st x Q := (wp_u (show cd 106 11 = some (.istore 5, 2, 0, 0, 0, 0) from rfl))
theorem u106_13 : wp r 106 13 [vR o, a1, a2, a3, a4, a5] st x Q ↔ wp r 106 14 [vR o, a1, a2, a3, a4, a5] (vR o :: st) x Q := (wp_u (show cd 106 13 = some (.aload_n 0, 1, 0, 0, 0, 0) from rfl))
theorem u106_14 : wp r 106 14 ls (vA q :: st) x Q ↔ sbk 9 (hK x q) ∧ wp r 106 17 ls (vR (hR x q 4) :: st) x Q := (wp_u (show cd 106 14 = some (.getfield 16, 3, 9, 4, 5, 0) from rfl)).trans g_getR
theorem u106_17 : wp r 106 17 [a0, a1, a2, a3, a4, vI z] st x Q ↔ wp r 106 19 [a0, a1, a2, a3, a4, vI z] (vI z :: st) x Q := (wp_u (show cd 106 17 = some (.iload 5, 2, 0, 0, 0, 0) from rfl))
theorem u106_19 : wp r 106 19 [a0, a1, vI z, a3, a4, a5] st x Q ↔ wp r 106 20 [a0, a1, vI z, a3, a4, a5] (vI z :: st) x Q := (wp_u (show cd 106 19 = some (.iload_n 2, 1, 0, 0, 0, 0) from rfl))
theorem u106_20 : wp r 106 20 ls (vI z :: vI i :: vA q :: st) x Q ↔ ldk 20 (hK x q) i ∧ 4 ≤ q ∧ wp r 106 21 ls st (stI x q i z) Q := (wp_u (show cd 106 20 = some (.iastore, 1, 0, 0, 0, 0) from rfl)).trans g_stI0
theorem u106_21 : wp r 106 21 [vR o, a1, a2, a3, a4, a5] st x Q ↔ wp r 106 22 [vR o, a1, a2, a3, a4, a5] (vR o :: st) x Q := (wp_u (show cd 106 21 = some (.aload_n 0, 1, 0, 0, 0, 0) from rfl))
theorem u106_22 : wp r 106 22 ls (vA q :: st) x Q ↔ sbk 9 (hK x q) ∧ wp r 106 25 ls (vR (hR x q 5) :: st) x Q := (wp_u (show cd 106 22 = some (.getfield 19, 3, 9, 5, 5, 0) from rfl)).trans g_getR
theorem u106_25 : wp r 106 25 [a0, a1, a2, a3, a4, vI z] st x Q ↔ wp r 106 27 [a0, a1, a2, a3, a4, vI z] (vI z :: st) x Q := (wp_u (show cd 106 25 = some (.iload 5, 2, 0, 0, 0, 0) from rfl))
theorem u106_27 : wp r 106 27 [a0, a1, a2, vI z, a4, a5] st x Q ↔ wp r 106 28 [a0, a1, a2, vI z, a4, a5] (vI z :: st) x Q := (wp_u (show cd 106 27 = some (.iload_n 3, 1, 0, 0, 0, 0) from rfl))
theorem u106_28 : wp r 106 28 ls (vI z :: vI i :: vA q :: st) x Q ↔ stb (hK x q) i z ∧ 4 ≤ q ∧ wp r 106 29 ls st (stI x q i z) Q := (wp_u (show cd 106 28 = some (.bastore, 1, 0, 0, 0, 0) from rfl)).trans g_stB
theorem u106_29 : wp r 106 29 [vR o, a1, a2, a3, a4, a5] st x Q ↔ wp r 106 30 [vR o, a1, a2, a3, a4, a5] (vR o :: st) x Q := (wp_u (show cd 106 29 = some (.aload_n 0, 1, 0, 0, 0, 0) from rfl))
theorem u106_30 : wp r 106 30 ls (vA q :: st) x Q ↔ sbk 9 (hK x q) ∧ wp r 106 33 ls (vR (hR x q 6) :: st) x Q := (wp_u (show cd 106 30 = some (.getfield 23, 3, 9, 6, 5, 0) from rfl)).trans g_getR
theorem u106_33 : wp r 106 33 [a0, a1, a2, a3, a4, vI z] st x Q ↔ wp r 106 35 [a0, a1, a2, a3, a4, vI z] (vI z :: st) x Q := (wp_u (show cd 106 33 = some (.iload 5, 2, 0, 0, 0, 0) from rfl))
theorem u106_35 : wp r 106 35 [a0, a1, a2, a3, vI z, a5] st x Q ↔ wp r 106 37 [a0, a1, a2, a3, vI z, a5] (vI z :: st) x Q := (wp_u (show cd 106 35 = some (.iload 4, 2, 0, 0, 0, 0) from rfl))
theorem u106_37 : wp r 106 37 ls (vI z :: vI i :: vA q :: st) x Q ↔ ldk 20 (hK x q) i ∧ 4 ≤ q ∧ wp r 106 38 ls st (stI x q i z) Q := (wp_u (show cd 106 37 = some (.iastore, 1, 0, 0, 0, 0) from rfl)).trans g_stI0
theorem u106_38 : wp r 106 38 [vR o, a1, a2, a3, a4, a5] st x Q ↔ wp r 106 39 [vR o, a1, a2, a3, a4, a5] (vR o :: st) x Q := (wp_u (show cd 106 38 = some (.aload_n 0, 1, 0, 0, 0, 0) from rfl))
theorem u106_39 : wp r 106 39 ls (vA q :: st) x Q ↔ sbk 9 (hK x q) ∧ wp r 106 42 ls (vR (hR x q 7) :: st) x Q := (wp_u (show cd 106 39 = some (.getfield 26, 3, 9, 7, 5, 0) from rfl)).trans g_getR
theorem u106_42 : wp r 106 42 [a0, a1, a2, a3, a4, vI z] st x Q ↔ wp r 106 44 [a0, a1, a2, a3, a4, vI z] (vI z :: st) x Q := (wp_u (show cd 106 42 = some (.iload 5, 2, 0, 0, 0, 0) from rfl))
theorem u106_44 : wp r 106 44 [vR o, a1, a2, a3, a4, a5] st x Q ↔ wp r 106 45 [vR o, a1, a2, a3, a4, a5] (vR o :: st) x Q := (wp_u (show cd 106 44 = some (.aload_n 0, 1, 0, 0, 0, 0) from rfl))
theorem u106_45 : wp r 106 45 ls (vA q :: st) x Q ↔ sbk 9 (hK x q) ∧ wp r 106 48 ls (vR (hR x q 8) :: st) x Q := (wp_u (show cd 106 45 = some (.getfield 29, 3, 9, 8, 5, 0) from rfl)).trans g_getR
theorem u106_48 : wp r 106 48 [a0, vI z, a2, a3, a4, a5] st x Q ↔ wp r 106 49 [a0, vI z, a2, a3, a4, a5] (vI z :: st) x Q := (wp_u (show cd 106 48 = some (.iload_n 1, 1, 0, 0, 0, 0) from rfl))
theorem u106_49 : wp r 106 49 ls (vI i :: vA q :: st) x Q ↔ ldk 20 (hK x q) i ∧ wp r 106 50 ls (vI (hI x q i) :: st) x Q := (wp_u (show cd 106 49 = some (.iaload, 1, 0, 0, 0, 0) from rfl)).trans g_ldI
theorem u106_50 : wp r 106 50 ls (vI z :: vI i :: vA q :: st) x Q ↔ ldk 20 (hK x q) i ∧ 4 ≤ q ∧ wp r 106 51 ls st (stI x q i z) Q := (wp_u (show cd 106 50 = some (.iastore, 1, 0, 0, 0, 0) from rfl)).trans g_stI0
theorem u106_51 : wp r 106 51 [vR o, a1, a2, a3, a4, a5] st x Q ↔ wp r 106 52 [vR o, a1, a2, a3, a4, a5] (vR o :: st) x Q := (wp_u (show cd 106 51 = some (.aload_n 0, 1, 0, 0, 0, 0) from rfl))
theorem u106_52 : wp r 106 52 ls (vA q :: st) x Q ↔ sbk 9 (hK x q) ∧ wp r 106 55 ls (vR (hR x q 3) :: st) x Q := (wp_u (show cd 106 52 = some (.getfield 13, 3, 9, 3, 5, 0) from rfl)).trans g_getR
theorem u106_55 : wp r 106 55 [a0, vI z, a2, a3, a4, a5] st x Q ↔ wp r 106 56 [a0, vI z, a2, a3, a4, a5] (vI z :: st) x Q := (wp_u (show cd 106 55 = some (.iload_n 1, 1, 0, 0, 0, 0) from rfl))
theorem u106_56 : wp r 106 56 ls (vI z :: vR o :: st) x Q ↔ wp r 106 57 ls (vI z :: vR o :: vI z :: vR o :: st) x Q := (wp_u (show cd 106 56 = some (.dup2, 1, 0, 0, 0, 0) from rfl))
theorem u106_57 : wp r 106 57 ls (vI i :: vA q :: st) x Q ↔ ldk 20 (hK x q) i ∧ wp r 106 58 ls (vI (hI x q i) :: st) x Q := (wp_u (show cd 106 57 = some (.iaload, 1, 0, 0, 0, 0) from rfl)).trans g_ldI
theorem u106_58 : wp r 106 58 ls st x Q ↔ wp r 106 59 ls (vI 1 :: st) x Q := (wp_u (show cd 106 58 = some (.iconst 1, 1, 0, 0, 0, 0) from rfl))
theorem u106_59 : wp r 106 59 ls (vI w :: vI z :: st) x Q ↔ inI (z + w) = true ∧ wp r 106 60 ls (vI (z + w) :: st) x Q := (wp_u (show cd 106 59 = some (.iadd, 1, 0, 0, 0, 0) from rfl)).trans wq_if
theorem u106_60 : wp r 106 60 ls (vI z :: vI i :: vA q :: st) x Q ↔ ldk 20 (hK x q) i ∧ 4 ≤ q ∧ wp r 106 61 ls st (stI x q i z) Q := (wp_u (show cd 106 60 = some (.iastore, 1, 0, 0, 0, 0) from rfl)).trans g_stI0
theorem u106_61 : wp r 106 61 [vR o, a1, a2, a3, a4, a5] st x Q ↔ wp r 106 62 [vR o, a1, a2, a3, a4, a5] (vR o :: st) x Q := (wp_u (show cd 106 61 = some (.aload_n 0, 1, 0, 0, 0, 0) from rfl))
theorem u106_62 : wp r 106 62 ls (vA q :: st) x Q ↔ sbk 9 (hK x q) ∧ wp r 106 65 ls (vR (hR x q 3) :: st) x Q := (wp_u (show cd 106 62 = some (.getfield 13, 3, 9, 3, 5, 0) from rfl)).trans g_getR
theorem u106_65 : wp r 106 65 [a0, vI z, a2, a3, a4, a5] st x Q ↔ wp r 106 66 [a0, vI z, a2, a3, a4, a5] (vI z :: st) x Q := (wp_u (show cd 106 65 = some (.iload_n 1, 1, 0, 0, 0, 0) from rfl))
theorem u106_66 : wp r 106 66 ls (vI i :: vA q :: st) x Q ↔ ldk 20 (hK x q) i ∧ wp r 106 67 ls (vI (hI x q i) :: st) x Q := (wp_u (show cd 106 66 = some (.iaload, 1, 0, 0, 0, 0) from rfl)).trans g_ldI
theorem u106_67 : wp r 106 67 ls [vI z] x Q ↔ Q (.inl (some (vI z))) x := (wp_u (show cd 106 67 = some (.ireturn, 1, 0, 0, 0, 0) from rfl))
theorem e106 : wpc r 106 [vA q, vI z0, vI z1, vI z2, vI z3] x Q ↔ wp r 106 0 [vA q, vI z0, vI z1, vI z2, vI z3, vL jk] [] x Q := Iff.rfl
/-! 107 M_openGroups -/
theorem u107_0 : wp r 107 0 ls st x Q ↔ wp r 107 1 ls (vI 0 :: st) x Q := (wp_u (show cd 107 0 = some (.iconst 0, 1, 0, 0, 0, 0) from rfl))
theorem u107_1 : wp r 107 1 [a0, a1, a2, a3] (vI z :: st) x Q ↔ wp r 107 2 [a0, a1, vI z, a3] st x Q := (wp_u (show cd 107 1 = some (.istore_n 2, 1, 0, 0, 0, 0) from rfl))
theorem u107_2 : wp r 107 2 [vR o, a1, a2, a3] st x Q ↔ wp r 107 3 [vR o, a1, a2, a3] (vR o :: st) x Q := (wp_u (show cd 107 2 = some (.aload_n 0, 1, 0, 0, 0, 0) from rfl))
theorem u107_3 : wp r 107 3 ls (vA q :: st) x Q ↔ sbk 9 (hK x q) ∧ wp r 107 6 ls (vR (hR x q 8) :: st) x Q := (wp_u (show cd 107 3 = some (.getfield 29, 3, 9, 8, 5, 0) from rfl)).trans g_getR
theorem u107_6 : wp r 107 6 [a0, vI z, a2, a3] st x Q ↔ wp r 107 7 [a0, vI z, a2, a3] (vI z :: st) x Q := (wp_u (show cd 107 6 = some (.iload_n 1, 1, 0, 0, 0, 0) from rfl))
theorem u107_7 : wp r 107 7 ls (vI i :: vA q :: st) x Q ↔ ldk 20 (hK x q) i ∧ wp r 107 8 ls (vI (hI x q i) :: st) x Q := (wp_u (show cd 107 7 = some (.iaload, 1, 0, 0, 0, 0) from rfl)).trans g_ldI
theorem u107_8 : wp r 107 8 [a0, a1, a2, a3] (vI z :: st) x Q ↔ wp r 107 9 [a0, a1, a2, vI z] st x Q := (wp_u (show cd 107 8 = some (.istore_n 3, 1, 0, 0, 0, 0) from rfl))
theorem u107_9 : wp r 107 9 [a0, a1, a2, vI z] st x Q ↔ wp r 107 10 [a0, a1, a2, vI z] (vI z :: st) x Q := (wp_u (show cd 107 9 = some (.iload_n 3, 1, 0, 0, 0, 0) from rfl))
theorem u107_10 : wp r 107 10 ls (vI z :: st) x Q ↔ if z < 0 then wp r 107 31 ls st x Q else wp r 107 13 ls st x Q := (wp_u (show cd 107 10 = some (.ifCond .lt 21, 3, 31, 0, 0, 0) from rfl)).trans wq_d
theorem u107_13 : wp r 107 13 [a0, a1, vI z, a3] st x Q ↔ inI (z + 1) = true ∧ wp r 107 16 [a0, a1, vI (z + 1), a3] st x Q := (wp_u (show cd 107 13 = some (.iinc 2 1, 3, 0, 0, 0, 0) from rfl)).trans wq_if
theorem u107_16 : wp r 107 16 [vR o, a1, a2, a3] st x Q ↔ wp r 107 17 [vR o, a1, a2, a3] (vR o :: st) x Q := (wp_u (show cd 107 16 = some (.aload_n 0, 1, 0, 0, 0, 0) from rfl))
theorem u107_17 : wp r 107 17 ls (vA q :: st) x Q ↔ sbk 9 (hK x q) ∧ wp r 107 20 ls (vR (hR x q 7) :: st) x Q := (wp_u (show cd 107 17 = some (.getfield 26, 3, 9, 7, 5, 0) from rfl)).trans g_getR
theorem u107_20 : wp r 107 20 ls st x Q ↔ wp r 107 22 ls (vI 24 :: st) x Q := (wp_u (show cd 107 20 = some (.bipush 24, 2, 0, 0, 0, 0) from rfl))
theorem u107_22 : wp r 107 22 [a0, vI z, a2, a3] st x Q ↔ wp r 107 23 [a0, vI z, a2, a3] (vI z :: st) x Q := (wp_u (show cd 107 22 = some (.iload_n 1, 1, 0, 0, 0, 0) from rfl))
theorem u107_23 : wp r 107 23 ls (vI w :: vI z :: st) x Q ↔ inI (z * w) = true ∧ wp r 107 24 ls (vI (z * w) :: st) x Q := (wp_u (show cd 107 23 = some (.imul, 1, 0, 0, 0, 0) from rfl)).trans wq_if
theorem u107_24 : wp r 107 24 [a0, a1, a2, vI z] st x Q ↔ wp r 107 25 [a0, a1, a2, vI z] (vI z :: st) x Q := (wp_u (show cd 107 24 = some (.iload_n 3, 1, 0, 0, 0, 0) from rfl))
theorem u107_25 : wp r 107 25 ls (vI w :: vI z :: st) x Q ↔ inI (z + w) = true ∧ wp r 107 26 ls (vI (z + w) :: st) x Q := (wp_u (show cd 107 25 = some (.iadd, 1, 0, 0, 0, 0) from rfl)).trans wq_if
theorem u107_26 : wp r 107 26 ls (vI i :: vA q :: st) x Q ↔ ldk 20 (hK x q) i ∧ wp r 107 27 ls (vI (hI x q i) :: st) x Q := (wp_u (show cd 107 26 = some (.iaload, 1, 0, 0, 0, 0) from rfl)).trans g_ldI
theorem u107_27 : wp r 107 27 [a0, a1, a2, a3] (vI z :: st) x Q ↔ wp r 107 28 [a0, a1, a2, vI z] st x Q := (wp_u (show cd 107 27 = some (.istore_n 3, 1, 0, 0, 0, 0) from rfl))
theorem u107_28 : wp r 107 28 ls st x Q ↔ wp r 107 9 ls st x Q := (wp_u (show cd 107 28 = some (.goto (-19), 3, 9, 0, 0, 0) from rfl))
theorem u107_31 : wp r 107 31 [a0, a1, vI z, a3] st x Q ↔ wp r 107 32 [a0, a1, vI z, a3] (vI z :: st) x Q := (wp_u (show cd 107 31 = some (.iload_n 2, 1, 0, 0, 0, 0) from rfl))
theorem u107_32 : wp r 107 32 ls [vI z] x Q ↔ Q (.inl (some (vI z))) x := (wp_u (show cd 107 32 = some (.ireturn, 1, 0, 0, 0, 0) from rfl))
theorem e107 : wpc r 107 [vA q, vI z0] x Q ↔ wp r 107 0 [vA q, vI z0, vL jk, vL jk] [] x Q := Iff.rfl
/-! 108 M_scans -/
theorem u108_0 : wp r 108 0 [vR o, a1, a2] st x Q ↔ wp r 108 1 [vR o, a1, a2] (vR o :: st) x Q := (wp_u (show cd 108 0 = some (.aload_n 0, 1, 0, 0, 0, 0) from rfl))
theorem u108_1 : wp r 108 1 ls (vA q :: st) x Q ↔ isk 9 (hK x q) ∧ sml st = true ∧ 3 < r ∧ wpc 3 118 [vA q] x (wk r 108 1 ls st Q) := (wp_u (show cd 108 1 = some (.invokevirtual 179, 3, 118, 1, 3, 9) from rfl)).trans (g_virt rfl (by decide) (by simp) rfl)
theorem u108_4 : wp r 108 4 [a0, a1, a2] (vI z :: st) x Q ↔ wp r 108 5 [a0, vI z, a2] st x Q := (wp_u (show cd 108 4 = some (.istore_n 1, 1, 0, 0, 0, 0) from rfl))
theorem u108_5 : wp r 108 5 [a0, vI z, a2] st x Q ↔ wp r 108 6 [a0, vI z, a2] (vI z :: st) x Q := (wp_u (show cd 108 5 = some (.iload_n 1, 1, 0, 0, 0, 0) from rfl))
theorem u108_6 : wp r 108 6 ls (vI z :: st) x Q ↔ if 0 ≤ z then wp r 108 11 ls st x Q else wp r 108 9 ls st x Q := (wp_u (show cd 108 6 = some (.ifCond .ge 5, 3, 11, 0, 0, 0) from rfl)).trans wq_d
theorem u108_9 : wp r 108 9 ls st x Q ↔ wp r 108 10 ls (vI 0 :: st) x Q := (wp_u (show cd 108 9 = some (.iconst 0, 1, 0, 0, 0, 0) from rfl))
theorem u108_10 : wp r 108 10 ls [vI z] x Q ↔ rg 4 z = true ∧ Q (.inl (some (vI z))) x := (wp_u (show cd 108 10 = some (.ireturn, 1, 4, 0, 0, 0) from rfl)).trans wq_if
theorem u108_11 : wp r 108 11 [vR o, a1, a2] st x Q ↔ wp r 108 12 [vR o, a1, a2] (vR o :: st) x Q := (wp_u (show cd 108 11 = some (.aload_n 0, 1, 0, 0, 0, 0) from rfl))
theorem u108_12 : wp r 108 12 ls st x Q ↔ wp r 108 13 ls (vI 0 :: st) x Q := (wp_u (show cd 108 12 = some (.iconst 0, 1, 0, 0, 0, 0) from rfl))
theorem u108_13 : wp r 108 13 ls (vI z :: vA q :: st) x Q ↔ sbk 9 (hK x q) ∧ wp r 108 16 ls st (stI x q 14 z) Q := (wp_u (show cd 108 13 = some (.putfield 169, 3, 9, 14, 0, 0) from rfl)).trans g_putI0
theorem u108_16 : wp r 108 16 [vR o, a1, a2] st x Q ↔ wp r 108 17 [vR o, a1, a2] (vR o :: st) x Q := (wp_u (show cd 108 16 = some (.aload_n 0, 1, 0, 0, 0, 0) from rfl))
theorem u108_17 : wp r 108 17 ls st x Q ↔ wp r 108 18 ls (vI 0 :: st) x Q := (wp_u (show cd 108 17 = some (.iconst 0, 1, 0, 0, 0, 0) from rfl))
theorem u108_18 : wp r 108 18 ls (vI z :: vA q :: st) x Q ↔ sbk 9 (hK x q) ∧ wp r 108 21 ls st (stI x q 17 z) Q := (wp_u (show cd 108 18 = some (.putfield 163, 3, 9, 17, 0, 0) from rfl)).trans g_putI0
theorem u108_21 : wp r 108 21 [vR o, a1, a2] st x Q ↔ wp r 108 22 [vR o, a1, a2] (vR o :: st) x Q := (wp_u (show cd 108 21 = some (.aload_n 0, 1, 0, 0, 0, 0) from rfl))
theorem u108_22 : wp r 108 22 ls st x Q ↔ wp r 108 23 ls (vI 0 :: st) x Q := (wp_u (show cd 108 22 = some (.iconst 0, 1, 0, 0, 0, 0) from rfl))
theorem u108_23 : wp r 108 23 ls (vI z :: vA q :: st) x Q ↔ sbk 9 (hK x q) ∧ wp r 108 26 ls st (stI x q 19 z) Q := (wp_u (show cd 108 23 = some (.putfield 157, 3, 9, 19, 0, 0) from rfl)).trans g_putI0
theorem u108_26 : wp r 108 26 [vR o, a1, a2] st x Q ↔ wp r 108 27 [vR o, a1, a2] (vR o :: st) x Q := (wp_u (show cd 108 26 = some (.aload_n 0, 1, 0, 0, 0, 0) from rfl))
theorem u108_27 : wp r 108 27 ls st x Q ↔ wp r 108 28 ls (vI 0 :: st) x Q := (wp_u (show cd 108 27 = some (.iconst 0, 1, 0, 0, 0, 0) from rfl))
theorem u108_28 : wp r 108 28 ls (vI z :: vA q :: st) x Q ↔ sbk 9 (hK x q) ∧ wp r 108 31 ls st (stI x q 21 z) Q := (wp_u (show cd 108 28 = some (.putfield 160, 3, 9, 21, 0, 0) from rfl)).trans g_putI0
theorem u108_31 : wp r 108 31 [vR o, a1, a2] st x Q ↔ wp r 108 32 [vR o, a1, a2] (vR o :: st) x Q := (wp_u (show cd 108 31 = some (.aload_n 0, 1, 0, 0, 0, 0) from rfl))
theorem u108_32 : wp r 108 32 ls (vA q :: st) x Q ↔ sbk 9 (hK x q) ∧ wp r 108 35 ls (vR (hR x q 16) :: st) x Q := (wp_u (show cd 108 32 = some (.getfield 39, 3, 9, 16, 5, 0) from rfl)).trans g_getR
theorem u108_35 : wp r 108 35 ls st x Q ↔ wp r 108 36 ls (vI 0 :: st) x Q := (wp_u (show cd 108 35 = some (.iconst 0, 1, 0, 0, 0, 0) from rfl))
theorem u108_36 : wp r 108 36 ls st x Q ↔ wp r 108 37 ls (vI 0 :: st) x Q := (wp_u (show cd 108 36 = some (.iconst 0, 1, 0, 0, 0, 0) from rfl))
theorem u108_37 : wp r 108 37 ls (vI z :: vI i :: vA q :: st) x Q ↔ ldk 20 (hK x q) i ∧ 4 ≤ q ∧ wp r 108 38 ls st (stI x q i z) Q := (wp_u (show cd 108 37 = some (.iastore, 1, 0, 0, 0, 0) from rfl)).trans g_stI0
theorem u108_38 : wp r 108 38 [vR o, a1, a2] st x Q ↔ wp r 108 39 [vR o, a1, a2] (vR o :: st) x Q := (wp_u (show cd 108 38 = some (.aload_n 0, 1, 0, 0, 0, 0) from rfl))
theorem u108_39 : wp r 108 39 ls (vA q :: st) x Q ↔ sbk 9 (hK x q) ∧ wp r 108 42 ls (vR (hR x q 18) :: st) x Q := (wp_u (show cd 108 39 = some (.getfield 42, 3, 9, 18, 5, 0) from rfl)).trans g_getR
theorem u108_42 : wp r 108 42 ls st x Q ↔ wp r 108 43 ls (vI 0 :: st) x Q := (wp_u (show cd 108 42 = some (.iconst 0, 1, 0, 0, 0, 0) from rfl))
theorem u108_43 : wp r 108 43 ls st x Q ↔ wp r 108 44 ls (vI 0 :: st) x Q := (wp_u (show cd 108 43 = some (.iconst 0, 1, 0, 0, 0, 0) from rfl))
theorem u108_44 : wp r 108 44 ls (vI z :: vI i :: vA q :: st) x Q ↔ ldk 20 (hK x q) i ∧ 4 ≤ q ∧ wp r 108 45 ls st (stI x q i z) Q := (wp_u (show cd 108 44 = some (.iastore, 1, 0, 0, 0, 0) from rfl)).trans g_stI0
theorem u108_45 : wp r 108 45 [vR o, a1, a2] st x Q ↔ wp r 108 46 [vR o, a1, a2] (vR o :: st) x Q := (wp_u (show cd 108 45 = some (.aload_n 0, 1, 0, 0, 0, 0) from rfl))
theorem u108_46 : wp r 108 46 ls (vA q :: st) x Q ↔ sbk 9 (hK x q) ∧ wp r 108 49 ls (vR (hR x q 20) :: st) x Q := (wp_u (show cd 108 46 = some (.getfield 45, 3, 9, 20, 5, 0) from rfl)).trans g_getR
theorem u108_49 : wp r 108 49 ls st x Q ↔ wp r 108 50 ls (vI 0 :: st) x Q := (wp_u (show cd 108 49 = some (.iconst 0, 1, 0, 0, 0, 0) from rfl))
theorem u108_50 : wp r 108 50 ls st x Q ↔ wp r 108 51 ls (vI 0 :: st) x Q := (wp_u (show cd 108 50 = some (.iconst 0, 1, 0, 0, 0, 0) from rfl))
theorem u108_51 : wp r 108 51 ls (vI z :: vI i :: vA q :: st) x Q ↔ ldk 20 (hK x q) i ∧ 4 ≤ q ∧ wp r 108 52 ls st (stI x q i z) Q := (wp_u (show cd 108 51 = some (.iastore, 1, 0, 0, 0, 0) from rfl)).trans g_stI0
theorem u108_52 : wp r 108 52 ls st x Q ↔ wp r 108 53 ls (vI 0 :: st) x Q := (wp_u (show cd 108 52 = some (.iconst 0, 1, 0, 0, 0, 0) from rfl))
theorem u108_53 : wp r 108 53 [a0, a1, a2] (vI z :: st) x Q ↔ wp r 108 54 [a0, a1, vI z] st x Q := (wp_u (show cd 108 53 = some (.istore_n 2, 1, 0, 0, 0, 0) from rfl))
theorem u108_54 : wp r 108 54 [a0, vI z, a2] st x Q ↔ wp r 108 55 [a0, vI z, a2] (vI z :: st) x Q := (wp_u (show cd 108 54 = some (.iload_n 1, 1, 0, 0, 0, 0) from rfl))
theorem u108_55 : wp r 108 55 [vR o, a1, a2] st x Q ↔ wp r 108 56 [vR o, a1, a2] (vR o :: st) x Q := (wp_u (show cd 108 55 = some (.aload_n 0, 1, 0, 0, 0, 0) from rfl))
theorem u108_56 : wp r 108 56 ls (vA q :: st) x Q ↔ sbk 9 (hK x q) ∧ wp r 108 59 ls (vI (hI x q 1) :: st) x Q := (wp_u (show cd 108 56 = some (.getfield 105, 3, 9, 1, 0, 0) from rfl)).trans g_getI
theorem u108_59 : wp r 108 59 ls (vI w :: vI z :: st) x Q ↔ if w ≤ z then wp r 108 89 ls st x Q else wp r 108 62 ls st x Q := (wp_u (show cd 108 59 = some (.if_icmp .ge 30, 3, 89, 0, 0, 0) from rfl)).trans wq_d
theorem u108_62 : wp r 108 62 [a0, a1, vI z] st x Q ↔ wp r 108 63 [a0, a1, vI z] (vI z :: st) x Q := (wp_u (show cd 108 62 = some (.iload_n 2, 1, 0, 0, 0, 0) from rfl))
theorem u108_63 : wp r 108 63 ls (vI z :: st) x Q ↔ if z < 0 then wp r 108 89 ls st x Q else wp r 108 66 ls st x Q := (wp_u (show cd 108 63 = some (.ifCond .lt 26, 3, 89, 0, 0, 0) from rfl)).trans wq_d
theorem u108_66 : wp r 108 66 [vR o, a1, a2] st x Q ↔ wp r 108 67 [vR o, a1, a2] (vR o :: st) x Q := (wp_u (show cd 108 66 = some (.aload_n 0, 1, 0, 0, 0, 0) from rfl))
theorem u108_67 : wp r 108 67 [a0, vI z, a2] st x Q ↔ wp r 108 68 [a0, vI z, a2] (vI z :: st) x Q := (wp_u (show cd 108 67 = some (.iload_n 1, 1, 0, 0, 0, 0) from rfl))
theorem u108_68 : wp r 108 68 ls (vI z :: vA q :: st) x Q ↔ sbk 9 (hK x q) ∧ wp r 108 71 ls st (stI x q 13 z) Q := (wp_u (show cd 108 68 = some (.putfield 32, 3, 9, 13, 0, 0) from rfl)).trans g_putI0
theorem u108_71 : wp r 108 71 [vR o, a1, a2] st x Q ↔ wp r 108 72 [vR o, a1, a2] (vR o :: st) x Q := (wp_u (show cd 108 71 = some (.aload_n 0, 1, 0, 0, 0, 0) from rfl))
theorem u108_72 : wp r 108 72 [a0, a1, vI z] st x Q ↔ wp r 108 73 [a0, a1, vI z] (vI z :: st) x Q := (wp_u (show cd 108 72 = some (.iload_n 2, 1, 0, 0, 0, 0) from rfl))
theorem u108_73 : wp r 108 73 [vR o, a1, a2] st x Q ↔ wp r 108 74 [vR o, a1, a2] (vR o :: st) x Q := (wp_u (show cd 108 73 = some (.aload_n 0, 1, 0, 0, 0, 0) from rfl))
theorem u108_74 : wp r 108 74 ls (vA q :: st) x Q ↔ sbk 9 (hK x q) ∧ wp r 108 77 ls (vR (hR x q 2) :: st) x Q := (wp_u (show cd 108 74 = some (.getfield 7, 3, 9, 2, 5, 0) from rfl)).trans g_getR
theorem u108_77 : wp r 108 77 [a0, vI z, a2] st x Q ↔ wp r 108 78 [a0, vI z, a2] (vI z :: st) x Q := (wp_u (show cd 108 77 = some (.iload_n 1, 1, 0, 0, 0, 0) from rfl))
theorem u108_78 : wp r 108 78 ls (vI i :: vA q :: st) x Q ↔ ldk 20 (hK x q) i ∧ wp r 108 79 ls (vI (hI x q i) :: st) x Q := (wp_u (show cd 108 78 = some (.iaload, 1, 0, 0, 0, 0) from rfl)).trans g_ldI
theorem u108_79 : wp r 108 79 ls (vI z1 :: vI z0 :: vA q :: st) x Q ↔ isk 9 (hK x q) ∧ sml st = true ∧ 3 < r ∧ wpc 3 119 [vA q, vI z0, vI z1] x (wk r 108 79 ls st Q) := (wp_u (show cd 108 79 = some (.invokevirtual 183, 3, 119, 3, 3, 9) from rfl)).trans (g_virt rfl (by decide) (by simp) rfl)
theorem u108_82 : wp r 108 82 [a0, a1, a2] (vI z :: st) x Q ↔ wp r 108 83 [a0, a1, vI z] st x Q := (wp_u (show cd 108 82 = some (.istore_n 2, 1, 0, 0, 0, 0) from rfl))
theorem u108_83 : wp r 108 83 [a0, vI z, a2] st x Q ↔ inI (z + 1) = true ∧ wp r 108 86 [a0, vI (z + 1), a2] st x Q := (wp_u (show cd 108 83 = some (.iinc 1 1, 3, 0, 0, 0, 0) from rfl)).trans wq_if
theorem u108_86 : wp r 108 86 ls st x Q ↔ wp r 108 54 ls st x Q := (wp_u (show cd 108 86 = some (.goto (-32), 3, 54, 0, 0, 0) from rfl))
theorem u108_89 : wp r 108 89 [a0, a1, vI z] st x Q ↔ wp r 108 90 [a0, a1, vI z] (vI z :: st) x Q := (wp_u (show cd 108 89 = some (.iload_n 2, 1, 0, 0, 0, 0) from rfl))
theorem u108_90 : wp r 108 90 ls (vI z :: st) x Q ↔ if 0 ≤ z then wp r 108 95 ls st x Q else wp r 108 93 ls st x Q := (wp_u (show cd 108 90 = some (.ifCond .ge 5, 3, 95, 0, 0, 0) from rfl)).trans wq_d
theorem u108_93 : wp r 108 93 ls st x Q ↔ wp r 108 94 ls (vI 0 :: st) x Q := (wp_u (show cd 108 93 = some (.iconst 0, 1, 0, 0, 0, 0) from rfl))
theorem u108_94 : wp r 108 94 ls [vI z] x Q ↔ rg 4 z = true ∧ Q (.inl (some (vI z))) x := (wp_u (show cd 108 94 = some (.ireturn, 1, 4, 0, 0, 0) from rfl)).trans wq_if
theorem u108_95 : wp r 108 95 [vR o, a1, a2] st x Q ↔ wp r 108 96 [vR o, a1, a2] (vR o :: st) x Q := (wp_u (show cd 108 95 = some (.aload_n 0, 1, 0, 0, 0, 0) from rfl))
theorem u108_96 : wp r 108 96 [vR o, a1, a2] st x Q ↔ wp r 108 97 [vR o, a1, a2] (vR o :: st) x Q := (wp_u (show cd 108 96 = some (.aload_n 0, 1, 0, 0, 0, 0) from rfl))
theorem u108_97 : wp r 108 97 ls (vA q :: st) x Q ↔ sbk 9 (hK x q) ∧ wp r 108 100 ls (vI (hI x q 1) :: st) x Q := (wp_u (show cd 108 97 = some (.getfield 105, 3, 9, 1, 0, 0) from rfl)).trans g_getI
theorem u108_100 : wp r 108 100 ls (vI z :: vA q :: st) x Q ↔ sbk 9 (hK x q) ∧ wp r 108 103 ls st (stI x q 13 z) Q := (wp_u (show cd 108 100 = some (.putfield 32, 3, 9, 13, 0, 0) from rfl)).trans g_putI0
theorem u108_103 : wp r 108 103 [a0, a1, vI z] st x Q ↔ wp r 108 104 [a0, a1, vI z] (vI z :: st) x Q := (wp_u (show cd 108 103 = some (.iload_n 2, 1, 0, 0, 0, 0) from rfl))
theorem u108_104 : wp r 108 104 ls (vI z :: st) x Q ↔ if z = 0 then wp r 108 107 ls st x Q else wp r 108 118 ls st x Q := (wp_u (show cd 108 104 = some (.ifCond .ne 14, 3, 118, 0, 0, 0) from rfl)).trans wq_dn
theorem u108_107 : wp r 108 107 [vR o, a1, a2] st x Q ↔ wp r 108 108 [vR o, a1, a2] (vR o :: st) x Q := (wp_u (show cd 108 107 = some (.aload_n 0, 1, 0, 0, 0, 0) from rfl))
theorem u108_108 : wp r 108 108 ls (vA q :: st) x Q ↔ sbk 9 (hK x q) ∧ wp r 108 111 ls (vI (hI x q 14) :: st) x Q := (wp_u (show cd 108 108 = some (.getfield 169, 3, 9, 14, 0, 0) from rfl)).trans g_getI
theorem u108_111 : wp r 108 111 ls (vI z :: st) x Q ↔ if z ≤ 0 then wp r 108 118 ls st x Q else wp r 108 114 ls st x Q := (wp_u (show cd 108 111 = some (.ifCond .le 7, 3, 118, 0, 0, 0) from rfl)).trans wq_d
theorem u108_114 : wp r 108 114 ls st x Q ↔ wp r 108 115 ls (vI 1 :: st) x Q := (wp_u (show cd 108 114 = some (.iconst 1, 1, 0, 0, 0, 0) from rfl))
theorem u108_115 : wp r 108 115 ls st x Q ↔ wp r 108 119 ls st x Q := (wp_u (show cd 108 115 = some (.goto 4, 3, 119, 0, 0, 0) from rfl))
theorem u108_118 : wp r 108 118 ls st x Q ↔ wp r 108 119 ls (vI 0 :: st) x Q := (wp_u (show cd 108 118 = some (.iconst 0, 1, 0, 0, 0, 0) from rfl))
theorem u108_119 : wp r 108 119 ls [vI z] x Q ↔ rg 4 z = true ∧ Q (.inl (some (vI z))) x := (wp_u (show cd 108 119 = some (.ireturn, 1, 4, 0, 0, 0) from rfl)).trans wq_if
theorem e108 : wpc r 108 [vA q] x Q ↔ wp r 108 0 [vA q, vL jk, vL jk] [] x Q := Iff.rfl
/-! 109 M_wraps -/
theorem u109_0 : wp r 109 0 [vR o, a1, a2, a3, a4] st x Q ↔ wp r 109 1 [vR o, a1, a2, a3, a4] (vR o :: st) x Q := (wp_u (show cd 109 0 = some (.aload_n 0, 1, 0, 0, 0, 0) from rfl))
theorem u109_1 : wp r 109 1 ls (vA q :: st) x Q ↔ sbk 9 (hK x q) ∧ wp r 109 4 ls (vI (hI x q 14) :: st) x Q := (wp_u (show cd 109 1 = some (.getfield 169, 3, 9, 14, 0, 0) from rfl)).trans g_getI
theorem u109_4 : wp r 109 4 [a0, a1, a2, a3, a4] (vI z :: st) x Q ↔ wp r 109 5 [a0, vI z, a2, a3, a4] st x Q := (wp_u (show cd 109 4 = some (.istore_n 1, 1, 0, 0, 0, 0) from rfl))
theorem u109_5 : wp r 109 5 [a0, vI z, a2, a3, a4] st x Q ↔ wp r 109 6 [a0, vI z, a2, a3, a4] (vI z :: st) x Q := (wp_u (show cd 109 5 = some (.iload_n 1, 1, 0, 0, 0, 0) from rfl))
theorem u109_6 : wp r 109 6 ls st x Q ↔ wp r 109 7 ls (vI 4 :: st) x Q := (wp_u (show cd 109 6 = some (.iconst 4, 1, 0, 0, 0, 0) from rfl))
theorem u109_7 : wp r 109 7 ls (vI w :: vI z :: st) x Q ↔ if z < w then wp r 109 34 ls st x Q else wp r 109 10 ls st x Q := (wp_u (show cd 109 7 = some (.if_icmp .lt 27, 3, 34, 0, 0, 0) from rfl)).trans wq_d
theorem u109_10 : wp r 109 10 [vR o, a1, a2, a3, a4] st x Q ↔ wp r 109 11 [vR o, a1, a2, a3, a4] (vR o :: st) x Q := (wp_u (show cd 109 10 = some (.aload_n 0, 1, 0, 0, 0, 0) from rfl))
theorem u109_11 : wp r 109 11 ls (vA q :: st) x Q ↔ sbk 9 (hK x q) ∧ wp r 109 14 ls (vR (hR x q 15) :: st) x Q := (wp_u (show cd 109 11 = some (.getfield 36, 3, 9, 15, 5, 0) from rfl)).trans g_getR
theorem u109_14 : wp r 109 14 ls st x Q ↔ wp r 109 15 ls (vI 0 :: st) x Q := (wp_u (show cd 109 14 = some (.iconst 0, 1, 0, 0, 0, 0) from rfl))
theorem u109_15 : wp r 109 15 ls (vI i :: vA q :: st) x Q ↔ ldk 20 (hK x q) i ∧ wp r 109 16 ls (vI (hI x q i) :: st) x Q := (wp_u (show cd 109 15 = some (.iaload, 1, 0, 0, 0, 0) from rfl)).trans g_ldI
theorem u109_16 : wp r 109 16 ls st x Q ↔ wp r 109 18 ls (vI 5590594 :: st) x Q := (wp_u (show cd 109 16 = some (.ldc 112, 2, 5590594, 0, 0, 0) from rfl))
theorem u109_18 : wp r 109 18 ls (vI w :: vI z :: st) x Q ↔ if z = w then wp r 109 21 ls st x Q else wp r 109 34 ls st x Q := (wp_u (show cd 109 18 = some (.if_icmp .ne 16, 3, 34, 0, 0, 0) from rfl)).trans wq_dn
theorem u109_21 : wp r 109 21 [vR o, a1, a2, a3, a4] st x Q ↔ wp r 109 22 [vR o, a1, a2, a3, a4] (vR o :: st) x Q := (wp_u (show cd 109 21 = some (.aload_n 0, 1, 0, 0, 0, 0) from rfl))
theorem u109_22 : wp r 109 22 ls (vA q :: st) x Q ↔ sbk 9 (hK x q) ∧ wp r 109 25 ls (vR (hR x q 15) :: st) x Q := (wp_u (show cd 109 22 = some (.getfield 36, 3, 9, 15, 5, 0) from rfl)).trans g_getR
theorem u109_25 : wp r 109 25 [a0, vI z, a2, a3, a4] st x Q ↔ wp r 109 26 [a0, vI z, a2, a3, a4] (vI z :: st) x Q := (wp_u (show cd 109 25 = some (.iload_n 1, 1, 0, 0, 0, 0) from rfl))
theorem u109_26 : wp r 109 26 ls st x Q ↔ wp r 109 27 ls (vI 1 :: st) x Q := (wp_u (show cd 109 26 = some (.iconst 1, 1, 0, 0, 0, 0) from rfl))
theorem u109_27 : wp r 109 27 ls (vI w :: vI z :: st) x Q ↔ inI (z - w) = true ∧ wp r 109 28 ls (vI (z - w) :: st) x Q := (wp_u (show cd 109 27 = some (.isub, 1, 0, 0, 0, 0) from rfl)).trans wq_if
theorem u109_28 : wp r 109 28 ls (vI i :: vA q :: st) x Q ↔ ldk 20 (hK x q) i ∧ wp r 109 29 ls (vI (hI x q i) :: st) x Q := (wp_u (show cd 109 28 = some (.iaload, 1, 0, 0, 0, 0) from rfl)).trans g_ldI
theorem u109_29 : wp r 109 29 ls st x Q ↔ wp r 109 31 ls (vI 5590618 :: st) x Q := (wp_u (show cd 109 29 = some (.ldc 113, 2, 5590618, 0, 0, 0) from rfl))
theorem u109_31 : wp r 109 31 ls (vI w :: vI z :: st) x Q ↔ if z = w then wp r 109 36 ls st x Q else wp r 109 34 ls st x Q := (wp_u (show cd 109 31 = some (.if_icmp .eq 5, 3, 36, 0, 0, 0) from rfl)).trans wq_d
theorem u109_34 : wp r 109 34 ls st x Q ↔ wp r 109 35 ls (vI 0 :: st) x Q := (wp_u (show cd 109 34 = some (.iconst 0, 1, 0, 0, 0, 0) from rfl))
theorem u109_35 : wp r 109 35 ls [vI z] x Q ↔ rg 4 z = true ∧ Q (.inl (some (vI z))) x := (wp_u (show cd 109 35 = some (.ireturn, 1, 4, 0, 0, 0) from rfl)).trans wq_if
theorem u109_36 : wp r 109 36 [vR o, a1, a2, a3, a4] st x Q ↔ wp r 109 37 [vR o, a1, a2, a3, a4] (vR o :: st) x Q := (wp_u (show cd 109 36 = some (.aload_n 0, 1, 0, 0, 0, 0) from rfl))
theorem u109_37 : wp r 109 37 ls (vA q :: st) x Q ↔ sbk 9 (hK x q) ∧ wp r 109 40 ls (vR (hR x q 15) :: st) x Q := (wp_u (show cd 109 37 = some (.getfield 36, 3, 9, 15, 5, 0) from rfl)).trans g_getR
theorem u109_40 : wp r 109 40 ls st x Q ↔ wp r 109 41 ls (vI 1 :: st) x Q := (wp_u (show cd 109 40 = some (.iconst 1, 1, 0, 0, 0, 0) from rfl))
theorem u109_41 : wp r 109 41 ls (vI i :: vA q :: st) x Q ↔ ldk 20 (hK x q) i ∧ wp r 109 42 ls (vI (hI x q i) :: st) x Q := (wp_u (show cd 109 41 = some (.iaload, 1, 0, 0, 0, 0) from rfl)).trans g_ldI
theorem u109_42 : wp r 109 42 ls st x Q ↔ wp r 109 44 ls (vI 5590599 :: st) x Q := (wp_u (show cd 109 42 = some (.ldc 114, 2, 5590599, 0, 0, 0) from rfl))
theorem u109_44 : wp r 109 44 ls (vI w :: vI z :: st) x Q ↔ if z = w then wp r 109 47 ls st x Q else wp r 109 51 ls st x Q := (wp_u (show cd 109 44 = some (.if_icmp .ne 7, 3, 51, 0, 0, 0) from rfl)).trans wq_dn
theorem u109_47 : wp r 109 47 ls st x Q ↔ wp r 109 48 ls (vI 1 :: st) x Q := (wp_u (show cd 109 47 = some (.iconst 1, 1, 0, 0, 0, 0) from rfl))
theorem u109_48 : wp r 109 48 ls st x Q ↔ wp r 109 52 ls st x Q := (wp_u (show cd 109 48 = some (.goto 4, 3, 52, 0, 0, 0) from rfl))
theorem u109_51 : wp r 109 51 ls st x Q ↔ wp r 109 52 ls (vI 0 :: st) x Q := (wp_u (show cd 109 51 = some (.iconst 0, 1, 0, 0, 0, 0) from rfl))
theorem u109_52 : wp r 109 52 [a0, a1, a2, a3, a4] (vI z :: st) x Q ↔ wp r 109 53 [a0, a1, vI z, a3, a4] st x Q := (wp_u (show cd 109 52 = some (.istore_n 2, 1, 0, 0, 0, 0) from rfl))
theorem u109_53 : wp r 109 53 ls st x Q ↔ wp r 109 54 ls (vI 1 :: st) x Q := (wp_u (show cd 109 53 = some (.iconst 1, 1, 0, 0, 0, 0) from rfl))
theorem u109_54 : wp r 109 54 [a0, a1, a2, a3, a4] (vI z :: st) x Q ↔ wp r 109 55 [a0, a1, a2, vI z, a4] st x Q := (wp_u (show cd 109 54 = some (.istore_n 3, 1, 0, 0, 0, 0) from rfl))
theorem u109_55 : wp r 109 55 [a0, a1, a2, vI z, a4] st x Q ↔ wp r 109 56 [a0, a1, a2, vI z, a4] (vI z :: st) x Q := (wp_u (show cd 109 55 = some (.iload_n 3, 1, 0, 0, 0, 0) from rfl))
theorem u109_56 : wp r 109 56 [a0, vI z, a2, a3, a4] st x Q ↔ wp r 109 57 [a0, vI z, a2, a3, a4] (vI z :: st) x Q := (wp_u (show cd 109 56 = some (.iload_n 1, 1, 0, 0, 0, 0) from rfl))
theorem u109_57 : wp r 109 57 ls st x Q ↔ wp r 109 58 ls (vI 1 :: st) x Q := (wp_u (show cd 109 57 = some (.iconst 1, 1, 0, 0, 0, 0) from rfl))
theorem u109_58 : wp r 109 58 ls (vI w :: vI z :: st) x Q ↔ inI (z - w) = true ∧ wp r 109 59 ls (vI (z - w) :: st) x Q := (wp_u (show cd 109 58 = some (.isub, 1, 0, 0, 0, 0) from rfl)).trans wq_if
theorem u109_59 : wp r 109 59 ls (vI w :: vI z :: st) x Q ↔ if w ≤ z then wp r 109 210 ls st x Q else wp r 109 62 ls st x Q := (wp_u (show cd 109 59 = some (.if_icmp .ge 151, 3, 210, 0, 0, 0) from rfl)).trans wq_d
theorem u109_62 : wp r 109 62 [a0, a1, vI z, a3, a4] st x Q ↔ wp r 109 63 [a0, a1, vI z, a3, a4] (vI z :: st) x Q := (wp_u (show cd 109 62 = some (.iload_n 2, 1, 0, 0, 0, 0) from rfl))
theorem u109_63 : wp r 109 63 ls (vI z :: st) x Q ↔ if z = 0 then wp r 109 79 ls st x Q else wp r 109 66 ls st x Q := (wp_u (show cd 109 63 = some (.ifCond .eq 16, 3, 79, 0, 0, 0) from rfl)).trans wq_d
theorem u109_66 : wp r 109 66 [vR o, a1, a2, a3, a4] st x Q ↔ wp r 109 67 [vR o, a1, a2, a3, a4] (vR o :: st) x Q := (wp_u (show cd 109 66 = some (.aload_n 0, 1, 0, 0, 0, 0) from rfl))
theorem u109_67 : wp r 109 67 ls (vA q :: st) x Q ↔ sbk 9 (hK x q) ∧ wp r 109 70 ls (vR (hR x q 15) :: st) x Q := (wp_u (show cd 109 67 = some (.getfield 36, 3, 9, 15, 5, 0) from rfl)).trans g_getR
theorem u109_70 : wp r 109 70 [a0, a1, a2, vI z, a4] st x Q ↔ wp r 109 71 [a0, a1, a2, vI z, a4] (vI z :: st) x Q := (wp_u (show cd 109 70 = some (.iload_n 3, 1, 0, 0, 0, 0) from rfl))
theorem u109_71 : wp r 109 71 ls (vI i :: vA q :: st) x Q ↔ ldk 20 (hK x q) i ∧ wp r 109 72 ls (vI (hI x q i) :: st) x Q := (wp_u (show cd 109 71 = some (.iaload, 1, 0, 0, 0, 0) from rfl)).trans g_ldI
theorem u109_72 : wp r 109 72 ls st x Q ↔ wp r 109 74 ls (vI 5590599 :: st) x Q := (wp_u (show cd 109 72 = some (.ldc 114, 2, 5590599, 0, 0, 0) from rfl))
theorem u109_74 : wp r 109 74 ls (vI w :: vI z :: st) x Q ↔ if z = w then wp r 109 79 ls st x Q else wp r 109 77 ls st x Q := (wp_u (show cd 109 74 = some (.if_icmp .eq 5, 3, 79, 0, 0, 0) from rfl)).trans wq_d
theorem u109_77 : wp r 109 77 ls st x Q ↔ wp r 109 78 ls (vI 0 :: st) x Q := (wp_u (show cd 109 77 = some (.iconst 0, 1, 0, 0, 0, 0) from rfl))
theorem u109_78 : wp r 109 78 ls [vI z] x Q ↔ rg 4 z = true ∧ Q (.inl (some (vI z))) x := (wp_u (show cd 109 78 = some (.ireturn, 1, 4, 0, 0, 0) from rfl)).trans wq_if
theorem u109_79 : wp r 109 79 [a0, a1, vI z, a3, a4] st x Q ↔ wp r 109 80 [a0, a1, vI z, a3, a4] (vI z :: st) x Q := (wp_u (show cd 109 79 = some (.iload_n 2, 1, 0, 0, 0, 0) from rfl))
theorem u109_80 : wp r 109 80 ls (vI z :: st) x Q ↔ if z = 0 then wp r 109 89 ls st x Q else wp r 109 83 ls st x Q := (wp_u (show cd 109 80 = some (.ifCond .eq 9, 3, 89, 0, 0, 0) from rfl)).trans wq_d
theorem u109_83 : wp r 109 83 [a0, a1, a2, vI z, a4] st x Q ↔ wp r 109 84 [a0, a1, a2, vI z, a4] (vI z :: st) x Q := (wp_u (show cd 109 83 = some (.iload_n 3, 1, 0, 0, 0, 0) from rfl))
theorem u109_84 : wp r 109 84 ls st x Q ↔ wp r 109 85 ls (vI 1 :: st) x Q := (wp_u (show cd 109 84 = some (.iconst 1, 1, 0, 0, 0, 0) from rfl))
theorem u109_85 : wp r 109 85 ls (vI w :: vI z :: st) x Q ↔ inI (z + w) = true ∧ wp r 109 86 ls (vI (z + w) :: st) x Q := (wp_u (show cd 109 85 = some (.iadd, 1, 0, 0, 0, 0) from rfl)).trans wq_if
theorem u109_86 : wp r 109 86 ls st x Q ↔ wp r 109 90 ls st x Q := (wp_u (show cd 109 86 = some (.goto 4, 3, 90, 0, 0, 0) from rfl))
theorem u109_89 : wp r 109 89 [a0, a1, a2, vI z, a4] st x Q ↔ wp r 109 90 [a0, a1, a2, vI z, a4] (vI z :: st) x Q := (wp_u (show cd 109 89 = some (.iload_n 3, 1, 0, 0, 0, 0) from rfl))
theorem u109_90 : wp r 109 90 [a0, a1, a2, a3, a4] (vI z :: st) x Q ↔ wp r 109 91 [a0, a1, a2, vI z, a4] st x Q := (wp_u (show cd 109 90 = some (.istore_n 3, 1, 0, 0, 0, 0) from rfl))
theorem u109_91 : wp r 109 91 ls st x Q ↔ wp r 109 92 ls (vI 0 :: st) x Q := (wp_u (show cd 109 91 = some (.iconst 0, 1, 0, 0, 0, 0) from rfl))
theorem u109_92 : wp r 109 92 [a0, a1, a2, a3, a4] (vI z :: st) x Q ↔ wp r 109 94 [a0, a1, a2, a3, vI z] st x Q := (wp_u (show cd 109 92 = some (.istore 4, 2, 0, 0, 0, 0) from rfl))
theorem u109_94 : wp r 109 94 [a0, a1, a2, vI z, a4] st x Q ↔ wp r 109 95 [a0, a1, a2, vI z, a4] (vI z :: st) x Q := (wp_u (show cd 109 94 = some (.iload_n 3, 1, 0, 0, 0, 0) from rfl))
theorem u109_95 : wp r 109 95 [a0, vI z, a2, a3, a4] st x Q ↔ wp r 109 96 [a0, vI z, a2, a3, a4] (vI z :: st) x Q := (wp_u (show cd 109 95 = some (.iload_n 1, 1, 0, 0, 0, 0) from rfl))
theorem u109_96 : wp r 109 96 ls st x Q ↔ wp r 109 97 ls (vI 1 :: st) x Q := (wp_u (show cd 109 96 = some (.iconst 1, 1, 0, 0, 0, 0) from rfl))
theorem u109_97 : wp r 109 97 ls (vI w :: vI z :: st) x Q ↔ inI (z - w) = true ∧ wp r 109 98 ls (vI (z - w) :: st) x Q := (wp_u (show cd 109 97 = some (.isub, 1, 0, 0, 0, 0) from rfl)).trans wq_if
theorem u109_98 : wp r 109 98 ls (vI w :: vI z :: st) x Q ↔ if w ≤ z then wp r 109 162 ls st x Q else wp r 109 101 ls st x Q := (wp_u (show cd 109 98 = some (.if_icmp .ge 64, 3, 162, 0, 0, 0) from rfl)).trans wq_d
theorem u109_101 : wp r 109 101 [vR o, a1, a2, a3, a4] st x Q ↔ wp r 109 102 [vR o, a1, a2, a3, a4] (vR o :: st) x Q := (wp_u (show cd 109 101 = some (.aload_n 0, 1, 0, 0, 0, 0) from rfl))
theorem u109_102 : wp r 109 102 ls (vA q :: st) x Q ↔ sbk 9 (hK x q) ∧ wp r 109 105 ls (vR (hR x q 15) :: st) x Q := (wp_u (show cd 109 102 = some (.getfield 36, 3, 9, 15, 5, 0) from rfl)).trans g_getR
theorem u109_105 : wp r 109 105 [a0, a1, a2, vI z, a4] st x Q ↔ wp r 109 106 [a0, a1, a2, vI z, a4] (vI z :: st) x Q := (wp_u (show cd 109 105 = some (.iload_n 3, 1, 0, 0, 0, 0) from rfl))
theorem u109_106 : wp r 109 106 ls (vI i :: vA q :: st) x Q ↔ ldk 20 (hK x q) i ∧ wp r 109 107 ls (vI (hI x q i) :: st) x Q := (wp_u (show cd 109 106 = some (.iaload, 1, 0, 0, 0, 0) from rfl)).trans g_ldI
theorem u109_107 : wp r 109 107 ls st x Q ↔ wp r 109 109 ls (vI 5590600 :: st) x Q := (wp_u (show cd 109 107 = some (.ldc 116, 2, 5590600, 0, 0, 0) from rfl))
theorem u109_109 : wp r 109 109 ls (vI w :: vI z :: st) x Q ↔ if z = w then wp r 109 112 ls st x Q else wp r 109 162 ls st x Q := (wp_u (show cd 109 109 = some (.if_icmp .ne 53, 3, 162, 0, 0, 0) from rfl)).trans wq_dn
theorem u109_112 : wp r 109 112 [a0, a1, a2, vI z, a4] st x Q ↔ inI (z + 1) = true ∧ wp r 109 115 [a0, a1, a2, vI (z + 1), a4] st x Q := (wp_u (show cd 109 112 = some (.iinc 3 1, 3, 0, 0, 0, 0) from rfl)).trans wq_if
theorem u109_115 : wp r 109 115 [a0, a1, a2, vI z, a4] st x Q ↔ wp r 109 116 [a0, a1, a2, vI z, a4] (vI z :: st) x Q := (wp_u (show cd 109 115 = some (.iload_n 3, 1, 0, 0, 0, 0) from rfl))
theorem u109_116 : wp r 109 116 [a0, vI z, a2, a3, a4] st x Q ↔ wp r 109 117 [a0, vI z, a2, a3, a4] (vI z :: st) x Q := (wp_u (show cd 109 116 = some (.iload_n 1, 1, 0, 0, 0, 0) from rfl))
theorem u109_117 : wp r 109 117 ls st x Q ↔ wp r 109 118 ls (vI 1 :: st) x Q := (wp_u (show cd 109 117 = some (.iconst 1, 1, 0, 0, 0, 0) from rfl))
theorem u109_118 : wp r 109 118 ls (vI w :: vI z :: st) x Q ↔ inI (z - w) = true ∧ wp r 109 119 ls (vI (z - w) :: st) x Q := (wp_u (show cd 109 118 = some (.isub, 1, 0, 0, 0, 0) from rfl)).trans wq_if
theorem u109_119 : wp r 109 119 ls (vI w :: vI z :: st) x Q ↔ if w ≤ z then wp r 109 140 ls st x Q else wp r 109 122 ls st x Q := (wp_u (show cd 109 119 = some (.if_icmp .ge 21, 3, 140, 0, 0, 0) from rfl)).trans wq_d
theorem u109_122 : wp r 109 122 [vR o, a1, a2, a3, a4] st x Q ↔ wp r 109 123 [vR o, a1, a2, a3, a4] (vR o :: st) x Q := (wp_u (show cd 109 122 = some (.aload_n 0, 1, 0, 0, 0, 0) from rfl))
theorem u109_123 : wp r 109 123 ls (vA q :: st) x Q ↔ sbk 9 (hK x q) ∧ wp r 109 126 ls (vR (hR x q 15) :: st) x Q := (wp_u (show cd 109 123 = some (.getfield 36, 3, 9, 15, 5, 0) from rfl)).trans g_getR
theorem u109_126 : wp r 109 126 [a0, a1, a2, vI z, a4] st x Q ↔ wp r 109 127 [a0, a1, a2, vI z, a4] (vI z :: st) x Q := (wp_u (show cd 109 126 = some (.iload_n 3, 1, 0, 0, 0, 0) from rfl))
theorem u109_127 : wp r 109 127 ls (vI i :: vA q :: st) x Q ↔ ldk 20 (hK x q) i ∧ wp r 109 128 ls (vI (hI x q i) :: st) x Q := (wp_u (show cd 109 127 = some (.iaload, 1, 0, 0, 0, 0) from rfl)).trans g_ldI
theorem u109_128 : wp r 109 128 ls (vI z0 :: st) x Q ↔ sml st = true ∧ 1 < r ∧ wpc 1 104 [vI z0] x (wk r 109 128 ls st Q) := (wp_u (show cd 109 128 = some (.invokestatic 128, 3, 104, 1, 1, 0) from rfl)).trans (g_stat (by decide) (by simp) rfl)
theorem u109_131 : wp r 109 131 ls (vI z :: st) x Q ↔ if z = 0 then wp r 109 134 ls st x Q else wp r 109 140 ls st x Q := (wp_u (show cd 109 131 = some (.ifCond .ne 9, 3, 140, 0, 0, 0) from rfl)).trans wq_dn
theorem u109_134 : wp r 109 134 [a0, a1, a2, vI z, a4] st x Q ↔ inI (z + 1) = true ∧ wp r 109 137 [a0, a1, a2, vI (z + 1), a4] st x Q := (wp_u (show cd 109 134 = some (.iinc 3 1, 3, 0, 0, 0, 0) from rfl)).trans wq_if
theorem u109_137 : wp r 109 137 ls st x Q ↔ wp r 109 115 ls st x Q := (wp_u (show cd 109 137 = some (.goto (-22), 3, 115, 0, 0, 0) from rfl))
theorem u109_140 : wp r 109 140 [vR o, a1, a2, a3, a4] st x Q ↔ wp r 109 141 [vR o, a1, a2, a3, a4] (vR o :: st) x Q := (wp_u (show cd 109 140 = some (.aload_n 0, 1, 0, 0, 0, 0) from rfl))
theorem u109_141 : wp r 109 141 ls (vA q :: st) x Q ↔ sbk 9 (hK x q) ∧ wp r 109 144 ls (vR (hR x q 15) :: st) x Q := (wp_u (show cd 109 141 = some (.getfield 36, 3, 9, 15, 5, 0) from rfl)).trans g_getR
theorem u109_144 : wp r 109 144 [a0, a1, a2, vI z, a4] st x Q ↔ wp r 109 145 [a0, a1, a2, vI z, a4] (vI z :: st) x Q := (wp_u (show cd 109 144 = some (.iload_n 3, 1, 0, 0, 0, 0) from rfl))
theorem u109_145 : wp r 109 145 ls (vI i :: vA q :: st) x Q ↔ ldk 20 (hK x q) i ∧ wp r 109 146 ls (vI (hI x q i) :: st) x Q := (wp_u (show cd 109 145 = some (.iaload, 1, 0, 0, 0, 0) from rfl)).trans g_ldI
theorem u109_146 : wp r 109 146 ls st x Q ↔ wp r 109 148 ls (vI 5590612 :: st) x Q := (wp_u (show cd 109 146 = some (.ldc 117, 2, 5590612, 0, 0, 0) from rfl))
theorem u109_148 : wp r 109 148 ls (vI w :: vI z :: st) x Q ↔ if z = w then wp r 109 153 ls st x Q else wp r 109 151 ls st x Q := (wp_u (show cd 109 148 = some (.if_icmp .eq 5, 3, 153, 0, 0, 0) from rfl)).trans wq_d
theorem u109_151 : wp r 109 151 ls st x Q ↔ wp r 109 152 ls (vI 0 :: st) x Q := (wp_u (show cd 109 151 = some (.iconst 0, 1, 0, 0, 0, 0) from rfl))
theorem u109_152 : wp r 109 152 ls [vI z] x Q ↔ rg 4 z = true ∧ Q (.inl (some (vI z))) x := (wp_u (show cd 109 152 = some (.ireturn, 1, 4, 0, 0, 0) from rfl)).trans wq_if
theorem u109_153 : wp r 109 153 [a0, a1, a2, vI z, a4] st x Q ↔ inI (z + 1) = true ∧ wp r 109 156 [a0, a1, a2, vI (z + 1), a4] st x Q := (wp_u (show cd 109 153 = some (.iinc 3 1, 3, 0, 0, 0, 0) from rfl)).trans wq_if
theorem u109_156 : wp r 109 156 [a0, a1, a2, a3, vI z] st x Q ↔ inI (z + 1) = true ∧ wp r 109 159 [a0, a1, a2, a3, vI (z + 1)] st x Q := (wp_u (show cd 109 156 = some (.iinc 4 1, 3, 0, 0, 0, 0) from rfl)).trans wq_if
theorem u109_159 : wp r 109 159 ls st x Q ↔ wp r 109 94 ls st x Q := (wp_u (show cd 109 159 = some (.goto (-65), 3, 94, 0, 0, 0) from rfl))
theorem u109_162 : wp r 109 162 [a0, a1, a2, a3, vI z] st x Q ↔ wp r 109 164 [a0, a1, a2, a3, vI z] (vI z :: st) x Q := (wp_u (show cd 109 162 = some (.iload 4, 2, 0, 0, 0, 0) from rfl))
theorem u109_164 : wp r 109 164 ls (vI z :: st) x Q ↔ if z = 0 then wp r 109 193 ls st x Q else wp r 109 167 ls st x Q := (wp_u (show cd 109 164 = some (.ifCond .eq 29, 3, 193, 0, 0, 0) from rfl)).trans wq_d
theorem u109_167 : wp r 109 167 [a0, a1, vI z, a3, a4] st x Q ↔ wp r 109 168 [a0, a1, vI z, a3, a4] (vI z :: st) x Q := (wp_u (show cd 109 167 = some (.iload_n 2, 1, 0, 0, 0, 0) from rfl))
theorem u109_168 : wp r 109 168 ls (vI z :: st) x Q ↔ if z = 0 then wp r 109 182 ls st x Q else wp r 109 171 ls st x Q := (wp_u (show cd 109 168 = some (.ifCond .eq 14, 3, 182, 0, 0, 0) from rfl)).trans wq_d
theorem u109_171 : wp r 109 171 [vR o, a1, a2, a3, a4] st x Q ↔ wp r 109 172 [vR o, a1, a2, a3, a4] (vR o :: st) x Q := (wp_u (show cd 109 171 = some (.aload_n 0, 1, 0, 0, 0, 0) from rfl))
theorem u109_172 : wp r 109 172 ls (vA q :: st) x Q ↔ sbk 9 (hK x q) ∧ wp r 109 175 ls (vR (hR x q 15) :: st) x Q := (wp_u (show cd 109 172 = some (.getfield 36, 3, 9, 15, 5, 0) from rfl)).trans g_getR
theorem u109_175 : wp r 109 175 [a0, a1, a2, vI z, a4] st x Q ↔ wp r 109 176 [a0, a1, a2, vI z, a4] (vI z :: st) x Q := (wp_u (show cd 109 175 = some (.iload_n 3, 1, 0, 0, 0, 0) from rfl))
theorem u109_176 : wp r 109 176 ls (vI i :: vA q :: st) x Q ↔ ldk 20 (hK x q) i ∧ wp r 109 177 ls (vI (hI x q i) :: st) x Q := (wp_u (show cd 109 176 = some (.iaload, 1, 0, 0, 0, 0) from rfl)).trans g_ldI
theorem u109_177 : wp r 109 177 ls st x Q ↔ wp r 109 179 ls (vI 5590597 :: st) x Q := (wp_u (show cd 109 177 = some (.ldc 115, 2, 5590597, 0, 0, 0) from rfl))
theorem u109_179 : wp r 109 179 ls (vI w :: vI z :: st) x Q ↔ if z = w then wp r 109 182 ls st x Q else wp r 109 193 ls st x Q := (wp_u (show cd 109 179 = some (.if_icmp .ne 14, 3, 193, 0, 0, 0) from rfl)).trans wq_dn
theorem u109_182 : wp r 109 182 [a0, a1, vI z, a3, a4] st x Q ↔ wp r 109 183 [a0, a1, vI z, a3, a4] (vI z :: st) x Q := (wp_u (show cd 109 182 = some (.iload_n 2, 1, 0, 0, 0, 0) from rfl))
theorem u109_183 : wp r 109 183 ls (vI z :: st) x Q ↔ if z = 0 then wp r 109 186 ls st x Q else wp r 109 195 ls st x Q := (wp_u (show cd 109 183 = some (.ifCond .ne 12, 3, 195, 0, 0, 0) from rfl)).trans wq_dn
theorem u109_186 : wp r 109 186 [a0, a1, a2, vI z, a4] st x Q ↔ wp r 109 187 [a0, a1, a2, vI z, a4] (vI z :: st) x Q := (wp_u (show cd 109 186 = some (.iload_n 3, 1, 0, 0, 0, 0) from rfl))
theorem u109_187 : wp r 109 187 [a0, vI z, a2, a3, a4] st x Q ↔ wp r 109 188 [a0, vI z, a2, a3, a4] (vI z :: st) x Q := (wp_u (show cd 109 187 = some (.iload_n 1, 1, 0, 0, 0, 0) from rfl))
theorem u109_188 : wp r 109 188 ls st x Q ↔ wp r 109 189 ls (vI 1 :: st) x Q := (wp_u (show cd 109 188 = some (.iconst 1, 1, 0, 0, 0, 0) from rfl))
theorem u109_189 : wp r 109 189 ls (vI w :: vI z :: st) x Q ↔ inI (z - w) = true ∧ wp r 109 190 ls (vI (z - w) :: st) x Q := (wp_u (show cd 109 189 = some (.isub, 1, 0, 0, 0, 0) from rfl)).trans wq_if
theorem u109_190 : wp r 109 190 ls (vI w :: vI z :: st) x Q ↔ if w ≤ z then wp r 109 195 ls st x Q else wp r 109 193 ls st x Q := (wp_u (show cd 109 190 = some (.if_icmp .ge 5, 3, 195, 0, 0, 0) from rfl)).trans wq_d
theorem u109_193 : wp r 109 193 ls st x Q ↔ wp r 109 194 ls (vI 0 :: st) x Q := (wp_u (show cd 109 193 = some (.iconst 0, 1, 0, 0, 0, 0) from rfl))
theorem u109_194 : wp r 109 194 ls [vI z] x Q ↔ rg 4 z = true ∧ Q (.inl (some (vI z))) x := (wp_u (show cd 109 194 = some (.ireturn, 1, 4, 0, 0, 0) from rfl)).trans wq_if
theorem u109_195 : wp r 109 195 [a0, a1, vI z, a3, a4] st x Q ↔ wp r 109 196 [a0, a1, vI z, a3, a4] (vI z :: st) x Q := (wp_u (show cd 109 195 = some (.iload_n 2, 1, 0, 0, 0, 0) from rfl))
theorem u109_196 : wp r 109 196 ls (vI z :: st) x Q ↔ if z = 0 then wp r 109 205 ls st x Q else wp r 109 199 ls st x Q := (wp_u (show cd 109 196 = some (.ifCond .eq 9, 3, 205, 0, 0, 0) from rfl)).trans wq_d
theorem u109_199 : wp r 109 199 [a0, a1, a2, vI z, a4] st x Q ↔ wp r 109 200 [a0, a1, a2, vI z, a4] (vI z :: st) x Q := (wp_u (show cd 109 199 = some (.iload_n 3, 1, 0, 0, 0, 0) from rfl))
theorem u109_200 : wp r 109 200 ls st x Q ↔ wp r 109 201 ls (vI 1 :: st) x Q := (wp_u (show cd 109 200 = some (.iconst 1, 1, 0, 0, 0, 0) from rfl))
theorem u109_201 : wp r 109 201 ls (vI w :: vI z :: st) x Q ↔ inI (z + w) = true ∧ wp r 109 202 ls (vI (z + w) :: st) x Q := (wp_u (show cd 109 201 = some (.iadd, 1, 0, 0, 0, 0) from rfl)).trans wq_if
theorem u109_202 : wp r 109 202 ls st x Q ↔ wp r 109 206 ls st x Q := (wp_u (show cd 109 202 = some (.goto 4, 3, 206, 0, 0, 0) from rfl))
theorem u109_205 : wp r 109 205 [a0, a1, a2, vI z, a4] st x Q ↔ wp r 109 206 [a0, a1, a2, vI z, a4] (vI z :: st) x Q := (wp_u (show cd 109 205 = some (.iload_n 3, 1, 0, 0, 0, 0) from rfl))
theorem u109_206 : wp r 109 206 [a0, a1, a2, a3, a4] (vI z :: st) x Q ↔ wp r 109 207 [a0, a1, a2, vI z, a4] st x Q := (wp_u (show cd 109 206 = some (.istore_n 3, 1, 0, 0, 0, 0) from rfl))
theorem u109_207 : wp r 109 207 ls st x Q ↔ wp r 109 55 ls st x Q := (wp_u (show cd 109 207 = some (.goto (-152), 3, 55, 0, 0, 0) from rfl))
theorem u109_210 : wp r 109 210 ls st x Q ↔ wp r 109 211 ls (vI 1 :: st) x Q := (wp_u (show cd 109 210 = some (.iconst 1, 1, 0, 0, 0, 0) from rfl))
theorem u109_211 : wp r 109 211 ls [vI z] x Q ↔ rg 4 z = true ∧ Q (.inl (some (vI z))) x := (wp_u (show cd 109 211 = some (.ireturn, 1, 4, 0, 0, 0) from rfl)).trans wq_if
theorem e109 : wpc r 109 [vA q] x Q ↔ wp r 109 0 [vA q, vL jk, vL jk, vL jk, vL jk] [] x Q := Iff.rfl
/-! 110 M_take -/
theorem u110_0 : wp r 110 0 [vR o, a1] st x Q ↔ wp r 110 1 [vR o, a1] (vR o :: st) x Q := (wp_u (show cd 110 0 = some (.aload_n 0, 1, 0, 0, 0, 0) from rfl))
theorem u110_1 : wp r 110 1 [vR o, a1] st x Q ↔ wp r 110 2 [vR o, a1] (vR o :: st) x Q := (wp_u (show cd 110 1 = some (.aload_n 0, 1, 0, 0, 0, 0) from rfl))
theorem u110_2 : wp r 110 2 ls (vA q :: st) x Q ↔ sbk 9 (hK x q) ∧ wp r 110 5 ls (vI (hI x q 14) :: st) x Q := (wp_u (show cd 110 2 = some (.getfield 169, 3, 9, 14, 0, 0) from rfl)).trans g_getI
theorem u110_5 : wp r 110 5 ls (vI z :: vA q :: st) x Q ↔ sbk 9 (hK x q) ∧ wp r 110 8 ls st (stI x q 24 z) Q := (wp_u (show cd 110 5 = some (.putfield 187, 3, 9, 24, 0, 0) from rfl)).trans g_putI0
theorem u110_8 : wp r 110 8 [vR o, a1] st x Q ↔ wp r 110 9 [vR o, a1] (vR o :: st) x Q := (wp_u (show cd 110 8 = some (.aload_n 0, 1, 0, 0, 0, 0) from rfl))
theorem u110_9 : wp r 110 9 [vR o, a1] st x Q ↔ wp r 110 10 [vR o, a1] (vR o :: st) x Q := (wp_u (show cd 110 9 = some (.aload_n 0, 1, 0, 0, 0, 0) from rfl))
theorem u110_10 : wp r 110 10 ls (vA q :: st) x Q ↔ sbk 9 (hK x q) ∧ wp r 110 13 ls (vI (hI x q 17) :: st) x Q := (wp_u (show cd 110 10 = some (.getfield 163, 3, 9, 17, 0, 0) from rfl)).trans g_getI
theorem u110_13 : wp r 110 13 ls (vI z :: vA q :: st) x Q ↔ sbk 9 (hK x q) ∧ wp r 110 16 ls st (stI x q 27 z) Q := (wp_u (show cd 110 13 = some (.putfield 190, 3, 9, 27, 0, 0) from rfl)).trans g_putI0
theorem u110_16 : wp r 110 16 [vR o, a1] st x Q ↔ wp r 110 17 [vR o, a1] (vR o :: st) x Q := (wp_u (show cd 110 16 = some (.aload_n 0, 1, 0, 0, 0, 0) from rfl))
theorem u110_17 : wp r 110 17 [vR o, a1] st x Q ↔ wp r 110 18 [vR o, a1] (vR o :: st) x Q := (wp_u (show cd 110 17 = some (.aload_n 0, 1, 0, 0, 0, 0) from rfl))
theorem u110_18 : wp r 110 18 ls (vA q :: st) x Q ↔ sbk 9 (hK x q) ∧ wp r 110 21 ls (vI (hI x q 19) :: st) x Q := (wp_u (show cd 110 18 = some (.getfield 157, 3, 9, 19, 0, 0) from rfl)).trans g_getI
theorem u110_21 : wp r 110 21 ls (vI z :: vA q :: st) x Q ↔ sbk 9 (hK x q) ∧ wp r 110 24 ls st (stI x q 29 z) Q := (wp_u (show cd 110 21 = some (.putfield 193, 3, 9, 29, 0, 0) from rfl)).trans g_putI0
theorem u110_24 : wp r 110 24 ls st x Q ↔ wp r 110 25 ls (vI 0 :: st) x Q := (wp_u (show cd 110 24 = some (.iconst 0, 1, 0, 0, 0, 0) from rfl))
theorem u110_25 : wp r 110 25 [a0, a1] (vI z :: st) x Q ↔ wp r 110 26 [a0, vI z] st x Q := (wp_u (show cd 110 25 = some (.istore_n 1, 1, 0, 0, 0, 0) from rfl))
theorem u110_26 : wp r 110 26 [a0, vI z] st x Q ↔ wp r 110 27 [a0, vI z] (vI z :: st) x Q := (wp_u (show cd 110 26 = some (.iload_n 1, 1, 0, 0, 0, 0) from rfl))
theorem u110_27 : wp r 110 27 [vR o, a1] st x Q ↔ wp r 110 28 [vR o, a1] (vR o :: st) x Q := (wp_u (show cd 110 27 = some (.aload_n 0, 1, 0, 0, 0, 0) from rfl))
theorem u110_28 : wp r 110 28 ls (vA q :: st) x Q ↔ sbk 9 (hK x q) ∧ wp r 110 31 ls (vI (hI x q 24) :: st) x Q := (wp_u (show cd 110 28 = some (.getfield 187, 3, 9, 24, 0, 0) from rfl)).trans g_getI
theorem u110_31 : wp r 110 31 ls (vI w :: vI z :: st) x Q ↔ if w < z then wp r 110 64 ls st x Q else wp r 110 34 ls st x Q := (wp_u (show cd 110 31 = some (.if_icmp .gt 33, 3, 64, 0, 0, 0) from rfl)).trans wq_d
theorem u110_34 : wp r 110 34 [vR o, a1] st x Q ↔ wp r 110 35 [vR o, a1] (vR o :: st) x Q := (wp_u (show cd 110 34 = some (.aload_n 0, 1, 0, 0, 0, 0) from rfl))
theorem u110_35 : wp r 110 35 ls (vA q :: st) x Q ↔ sbk 9 (hK x q) ∧ wp r 110 38 ls (vR (hR x q 25) :: st) x Q := (wp_u (show cd 110 35 = some (.getfield 51, 3, 9, 25, 5, 0) from rfl)).trans g_getR
theorem u110_38 : wp r 110 38 [a0, vI z] st x Q ↔ wp r 110 39 [a0, vI z] (vI z :: st) x Q := (wp_u (show cd 110 38 = some (.iload_n 1, 1, 0, 0, 0, 0) from rfl))
theorem u110_39 : wp r 110 39 [vR o, a1] st x Q ↔ wp r 110 40 [vR o, a1] (vR o :: st) x Q := (wp_u (show cd 110 39 = some (.aload_n 0, 1, 0, 0, 0, 0) from rfl))
theorem u110_40 : wp r 110 40 ls (vA q :: st) x Q ↔ sbk 9 (hK x q) ∧ wp r 110 43 ls (vR (hR x q 15) :: st) x Q := (wp_u (show cd 110 40 = some (.getfield 36, 3, 9, 15, 5, 0) from rfl)).trans g_getR
theorem u110_43 : wp r 110 43 [a0, vI z] st x Q ↔ wp r 110 44 [a0, vI z] (vI z :: st) x Q := (wp_u (show cd 110 43 = some (.iload_n 1, 1, 0, 0, 0, 0) from rfl))
theorem u110_44 : wp r 110 44 ls (vI i :: vA q :: st) x Q ↔ ldk 20 (hK x q) i ∧ wp r 110 45 ls (vI (hI x q i) :: st) x Q := (wp_u (show cd 110 44 = some (.iaload, 1, 0, 0, 0, 0) from rfl)).trans g_ldI
theorem u110_45 : wp r 110 45 ls (vI z :: vI i :: vA q :: st) x Q ↔ ldk 20 (hK x q) i ∧ 4 ≤ q ∧ wp r 110 46 ls st (stI x q i z) Q := (wp_u (show cd 110 45 = some (.iastore, 1, 0, 0, 0, 0) from rfl)).trans g_stI0
theorem u110_46 : wp r 110 46 [vR o, a1] st x Q ↔ wp r 110 47 [vR o, a1] (vR o :: st) x Q := (wp_u (show cd 110 46 = some (.aload_n 0, 1, 0, 0, 0, 0) from rfl))
theorem u110_47 : wp r 110 47 ls (vA q :: st) x Q ↔ sbk 9 (hK x q) ∧ wp r 110 50 ls (vR (hR x q 26) :: st) x Q := (wp_u (show cd 110 47 = some (.getfield 54, 3, 9, 26, 5, 0) from rfl)).trans g_getR
theorem u110_50 : wp r 110 50 [a0, vI z] st x Q ↔ wp r 110 51 [a0, vI z] (vI z :: st) x Q := (wp_u (show cd 110 50 = some (.iload_n 1, 1, 0, 0, 0, 0) from rfl))
theorem u110_51 : wp r 110 51 [vR o, a1] st x Q ↔ wp r 110 52 [vR o, a1] (vR o :: st) x Q := (wp_u (show cd 110 51 = some (.aload_n 0, 1, 0, 0, 0, 0) from rfl))
theorem u110_52 : wp r 110 52 ls (vA q :: st) x Q ↔ sbk 9 (hK x q) ∧ wp r 110 55 ls (vR (hR x q 16) :: st) x Q := (wp_u (show cd 110 52 = some (.getfield 39, 3, 9, 16, 5, 0) from rfl)).trans g_getR
theorem u110_55 : wp r 110 55 [a0, vI z] st x Q ↔ wp r 110 56 [a0, vI z] (vI z :: st) x Q := (wp_u (show cd 110 55 = some (.iload_n 1, 1, 0, 0, 0, 0) from rfl))
theorem u110_56 : wp r 110 56 ls (vI i :: vA q :: st) x Q ↔ ldk 20 (hK x q) i ∧ wp r 110 57 ls (vI (hI x q i) :: st) x Q := (wp_u (show cd 110 56 = some (.iaload, 1, 0, 0, 0, 0) from rfl)).trans g_ldI
theorem u110_57 : wp r 110 57 ls (vI z :: vI i :: vA q :: st) x Q ↔ ldk 20 (hK x q) i ∧ 4 ≤ q ∧ wp r 110 58 ls st (stI x q i z) Q := (wp_u (show cd 110 57 = some (.iastore, 1, 0, 0, 0, 0) from rfl)).trans g_stI0
theorem u110_58 : wp r 110 58 [a0, vI z] st x Q ↔ inI (z + 1) = true ∧ wp r 110 61 [a0, vI (z + 1)] st x Q := (wp_u (show cd 110 58 = some (.iinc 1 1, 3, 0, 0, 0, 0) from rfl)).trans wq_if
theorem u110_61 : wp r 110 61 ls st x Q ↔ wp r 110 26 ls st x Q := (wp_u (show cd 110 61 = some (.goto (-35), 3, 26, 0, 0, 0) from rfl))
theorem u110_64 : wp r 110 64 ls st x Q ↔ wp r 110 65 ls (vI 0 :: st) x Q := (wp_u (show cd 110 64 = some (.iconst 0, 1, 0, 0, 0, 0) from rfl))
theorem u110_65 : wp r 110 65 [a0, a1] (vI z :: st) x Q ↔ wp r 110 66 [a0, vI z] st x Q := (wp_u (show cd 110 65 = some (.istore_n 1, 1, 0, 0, 0, 0) from rfl))
theorem u110_66 : wp r 110 66 [a0, vI z] st x Q ↔ wp r 110 67 [a0, vI z] (vI z :: st) x Q := (wp_u (show cd 110 66 = some (.iload_n 1, 1, 0, 0, 0, 0) from rfl))
theorem u110_67 : wp r 110 67 [vR o, a1] st x Q ↔ wp r 110 68 [vR o, a1] (vR o :: st) x Q := (wp_u (show cd 110 67 = some (.aload_n 0, 1, 0, 0, 0, 0) from rfl))
theorem u110_68 : wp r 110 68 ls (vA q :: st) x Q ↔ sbk 9 (hK x q) ∧ wp r 110 71 ls (vI (hI x q 27) :: st) x Q := (wp_u (show cd 110 68 = some (.getfield 190, 3, 9, 27, 0, 0) from rfl)).trans g_getI
theorem u110_71 : wp r 110 71 ls (vI w :: vI z :: st) x Q ↔ if w < z then wp r 110 92 ls st x Q else wp r 110 74 ls st x Q := (wp_u (show cd 110 71 = some (.if_icmp .gt 21, 3, 92, 0, 0, 0) from rfl)).trans wq_d
theorem u110_74 : wp r 110 74 [vR o, a1] st x Q ↔ wp r 110 75 [vR o, a1] (vR o :: st) x Q := (wp_u (show cd 110 74 = some (.aload_n 0, 1, 0, 0, 0, 0) from rfl))
theorem u110_75 : wp r 110 75 ls (vA q :: st) x Q ↔ sbk 9 (hK x q) ∧ wp r 110 78 ls (vR (hR x q 28) :: st) x Q := (wp_u (show cd 110 75 = some (.getfield 57, 3, 9, 28, 5, 0) from rfl)).trans g_getR
theorem u110_78 : wp r 110 78 [a0, vI z] st x Q ↔ wp r 110 79 [a0, vI z] (vI z :: st) x Q := (wp_u (show cd 110 78 = some (.iload_n 1, 1, 0, 0, 0, 0) from rfl))
theorem u110_79 : wp r 110 79 [vR o, a1] st x Q ↔ wp r 110 80 [vR o, a1] (vR o :: st) x Q := (wp_u (show cd 110 79 = some (.aload_n 0, 1, 0, 0, 0, 0) from rfl))
theorem u110_80 : wp r 110 80 ls (vA q :: st) x Q ↔ sbk 9 (hK x q) ∧ wp r 110 83 ls (vR (hR x q 18) :: st) x Q := (wp_u (show cd 110 80 = some (.getfield 42, 3, 9, 18, 5, 0) from rfl)).trans g_getR
theorem u110_83 : wp r 110 83 [a0, vI z] st x Q ↔ wp r 110 84 [a0, vI z] (vI z :: st) x Q := (wp_u (show cd 110 83 = some (.iload_n 1, 1, 0, 0, 0, 0) from rfl))
theorem u110_84 : wp r 110 84 ls (vI i :: vA q :: st) x Q ↔ ldk 20 (hK x q) i ∧ wp r 110 85 ls (vI (hI x q i) :: st) x Q := (wp_u (show cd 110 84 = some (.iaload, 1, 0, 0, 0, 0) from rfl)).trans g_ldI
theorem u110_85 : wp r 110 85 ls (vI z :: vI i :: vA q :: st) x Q ↔ ldk 20 (hK x q) i ∧ 4 ≤ q ∧ wp r 110 86 ls st (stI x q i z) Q := (wp_u (show cd 110 85 = some (.iastore, 1, 0, 0, 0, 0) from rfl)).trans g_stI0
theorem u110_86 : wp r 110 86 [a0, vI z] st x Q ↔ inI (z + 1) = true ∧ wp r 110 89 [a0, vI (z + 1)] st x Q := (wp_u (show cd 110 86 = some (.iinc 1 1, 3, 0, 0, 0, 0) from rfl)).trans wq_if
theorem u110_89 : wp r 110 89 ls st x Q ↔ wp r 110 66 ls st x Q := (wp_u (show cd 110 89 = some (.goto (-23), 3, 66, 0, 0, 0) from rfl))
theorem u110_92 : wp r 110 92 ls st x Q ↔ wp r 110 93 ls (vI 0 :: st) x Q := (wp_u (show cd 110 92 = some (.iconst 0, 1, 0, 0, 0, 0) from rfl))
theorem u110_93 : wp r 110 93 [a0, a1] (vI z :: st) x Q ↔ wp r 110 94 [a0, vI z] st x Q := (wp_u (show cd 110 93 = some (.istore_n 1, 1, 0, 0, 0, 0) from rfl))
theorem u110_94 : wp r 110 94 [a0, vI z] st x Q ↔ wp r 110 95 [a0, vI z] (vI z :: st) x Q := (wp_u (show cd 110 94 = some (.iload_n 1, 1, 0, 0, 0, 0) from rfl))
theorem u110_95 : wp r 110 95 [vR o, a1] st x Q ↔ wp r 110 96 [vR o, a1] (vR o :: st) x Q := (wp_u (show cd 110 95 = some (.aload_n 0, 1, 0, 0, 0, 0) from rfl))
theorem u110_96 : wp r 110 96 ls (vA q :: st) x Q ↔ sbk 9 (hK x q) ∧ wp r 110 99 ls (vI (hI x q 29) :: st) x Q := (wp_u (show cd 110 96 = some (.getfield 193, 3, 9, 29, 0, 0) from rfl)).trans g_getI
theorem u110_99 : wp r 110 99 ls (vI w :: vI z :: st) x Q ↔ if w < z then wp r 110 120 ls st x Q else wp r 110 102 ls st x Q := (wp_u (show cd 110 99 = some (.if_icmp .gt 21, 3, 120, 0, 0, 0) from rfl)).trans wq_d
theorem u110_102 : wp r 110 102 [vR o, a1] st x Q ↔ wp r 110 103 [vR o, a1] (vR o :: st) x Q := (wp_u (show cd 110 102 = some (.aload_n 0, 1, 0, 0, 0, 0) from rfl))
theorem u110_103 : wp r 110 103 ls (vA q :: st) x Q ↔ sbk 9 (hK x q) ∧ wp r 110 106 ls (vR (hR x q 30) :: st) x Q := (wp_u (show cd 110 103 = some (.getfield 60, 3, 9, 30, 5, 0) from rfl)).trans g_getR
theorem u110_106 : wp r 110 106 [a0, vI z] st x Q ↔ wp r 110 107 [a0, vI z] (vI z :: st) x Q := (wp_u (show cd 110 106 = some (.iload_n 1, 1, 0, 0, 0, 0) from rfl))
theorem u110_107 : wp r 110 107 [vR o, a1] st x Q ↔ wp r 110 108 [vR o, a1] (vR o :: st) x Q := (wp_u (show cd 110 107 = some (.aload_n 0, 1, 0, 0, 0, 0) from rfl))
theorem u110_108 : wp r 110 108 ls (vA q :: st) x Q ↔ sbk 9 (hK x q) ∧ wp r 110 111 ls (vR (hR x q 20) :: st) x Q := (wp_u (show cd 110 108 = some (.getfield 45, 3, 9, 20, 5, 0) from rfl)).trans g_getR
theorem u110_111 : wp r 110 111 [a0, vI z] st x Q ↔ wp r 110 112 [a0, vI z] (vI z :: st) x Q := (wp_u (show cd 110 111 = some (.iload_n 1, 1, 0, 0, 0, 0) from rfl))
theorem u110_112 : wp r 110 112 ls (vI i :: vA q :: st) x Q ↔ ldk 20 (hK x q) i ∧ wp r 110 113 ls (vI (hI x q i) :: st) x Q := (wp_u (show cd 110 112 = some (.iaload, 1, 0, 0, 0, 0) from rfl)).trans g_ldI
theorem u110_113 : wp r 110 113 ls (vI z :: vI i :: vA q :: st) x Q ↔ ldk 20 (hK x q) i ∧ 4 ≤ q ∧ wp r 110 114 ls st (stI x q i z) Q := (wp_u (show cd 110 113 = some (.iastore, 1, 0, 0, 0, 0) from rfl)).trans g_stI0
theorem u110_114 : wp r 110 114 [a0, vI z] st x Q ↔ inI (z + 1) = true ∧ wp r 110 117 [a0, vI (z + 1)] st x Q := (wp_u (show cd 110 114 = some (.iinc 1 1, 3, 0, 0, 0, 0) from rfl)).trans wq_if
theorem u110_117 : wp r 110 117 ls st x Q ↔ wp r 110 94 ls st x Q := (wp_u (show cd 110 117 = some (.goto (-23), 3, 94, 0, 0, 0) from rfl))
theorem u110_120 : wp r 110 120 ls st x Q ↔ wp r 110 121 ls (vI 0 :: st) x Q := (wp_u (show cd 110 120 = some (.iconst 0, 1, 0, 0, 0, 0) from rfl))
theorem u110_121 : wp r 110 121 [a0, a1] (vI z :: st) x Q ↔ wp r 110 122 [a0, vI z] st x Q := (wp_u (show cd 110 121 = some (.istore_n 1, 1, 0, 0, 0, 0) from rfl))
theorem u110_122 : wp r 110 122 [a0, vI z] st x Q ↔ wp r 110 123 [a0, vI z] (vI z :: st) x Q := (wp_u (show cd 110 122 = some (.iload_n 1, 1, 0, 0, 0, 0) from rfl))
theorem u110_123 : wp r 110 123 [vR o, a1] st x Q ↔ wp r 110 124 [vR o, a1] (vR o :: st) x Q := (wp_u (show cd 110 123 = some (.aload_n 0, 1, 0, 0, 0, 0) from rfl))
theorem u110_124 : wp r 110 124 ls (vA q :: st) x Q ↔ sbk 9 (hK x q) ∧ wp r 110 127 ls (vI (hI x q 21) :: st) x Q := (wp_u (show cd 110 124 = some (.getfield 160, 3, 9, 21, 0, 0) from rfl)).trans g_getI
theorem u110_127 : wp r 110 127 ls (vI w :: vI z :: st) x Q ↔ if w ≤ z then wp r 110 148 ls st x Q else wp r 110 130 ls st x Q := (wp_u (show cd 110 127 = some (.if_icmp .ge 21, 3, 148, 0, 0, 0) from rfl)).trans wq_d
theorem u110_130 : wp r 110 130 [vR o, a1] st x Q ↔ wp r 110 131 [vR o, a1] (vR o :: st) x Q := (wp_u (show cd 110 130 = some (.aload_n 0, 1, 0, 0, 0, 0) from rfl))
theorem u110_131 : wp r 110 131 ls (vA q :: st) x Q ↔ sbk 9 (hK x q) ∧ wp r 110 134 ls (vR (hR x q 31) :: st) x Q := (wp_u (show cd 110 131 = some (.getfield 63, 3, 9, 31, 5, 0) from rfl)).trans g_getR
theorem u110_134 : wp r 110 134 [a0, vI z] st x Q ↔ wp r 110 135 [a0, vI z] (vI z :: st) x Q := (wp_u (show cd 110 134 = some (.iload_n 1, 1, 0, 0, 0, 0) from rfl))
theorem u110_135 : wp r 110 135 [vR o, a1] st x Q ↔ wp r 110 136 [vR o, a1] (vR o :: st) x Q := (wp_u (show cd 110 135 = some (.aload_n 0, 1, 0, 0, 0, 0) from rfl))
theorem u110_136 : wp r 110 136 ls (vA q :: st) x Q ↔ sbk 9 (hK x q) ∧ wp r 110 139 ls (vR (hR x q 22) :: st) x Q := (wp_u (show cd 110 136 = some (.getfield 48, 3, 9, 22, 5, 0) from rfl)).trans g_getR
theorem u110_139 : wp r 110 139 [a0, vI z] st x Q ↔ wp r 110 140 [a0, vI z] (vI z :: st) x Q := (wp_u (show cd 110 139 = some (.iload_n 1, 1, 0, 0, 0, 0) from rfl))
theorem u110_140 : wp r 110 140 ls (vI i :: vA q :: st) x Q ↔ ldk 20 (hK x q) i ∧ wp r 110 141 ls (vI (hI x q i) :: st) x Q := (wp_u (show cd 110 140 = some (.iaload, 1, 0, 0, 0, 0) from rfl)).trans g_ldI
theorem u110_141 : wp r 110 141 ls (vI z :: vI i :: vA q :: st) x Q ↔ ldk 20 (hK x q) i ∧ 4 ≤ q ∧ wp r 110 142 ls st (stI x q i z) Q := (wp_u (show cd 110 141 = some (.iastore, 1, 0, 0, 0, 0) from rfl)).trans g_stI0
theorem u110_142 : wp r 110 142 [a0, vI z] st x Q ↔ inI (z + 1) = true ∧ wp r 110 145 [a0, vI (z + 1)] st x Q := (wp_u (show cd 110 142 = some (.iinc 1 1, 3, 0, 0, 0, 0) from rfl)).trans wq_if
theorem u110_145 : wp r 110 145 ls st x Q ↔ wp r 110 122 ls st x Q := (wp_u (show cd 110 145 = some (.goto (-23), 3, 122, 0, 0, 0) from rfl))
theorem u110_148 : wp r 110 148 [vR o, a1] st x Q ↔ wp r 110 149 [vR o, a1] (vR o :: st) x Q := (wp_u (show cd 110 148 = some (.aload_n 0, 1, 0, 0, 0, 0) from rfl))
theorem u110_149 : wp r 110 149 ls st x Q ↔ wp r 110 150 ls (vI 0 :: st) x Q := (wp_u (show cd 110 149 = some (.iconst 0, 1, 0, 0, 0, 0) from rfl))
theorem u110_150 : wp r 110 150 ls (vI z :: vA q :: st) x Q ↔ sbk 9 (hK x q) ∧ wp r 110 153 ls st (stI x q 33 z) Q := (wp_u (show cd 110 150 = some (.putfield 196, 3, 9, 33, 0, 0) from rfl)).trans g_putI0
theorem u110_153 : wp r 110 153 [vR o, a1] st x Q ↔ wp r 110 154 [vR o, a1] (vR o :: st) x Q := (wp_u (show cd 110 153 = some (.aload_n 0, 1, 0, 0, 0, 0) from rfl))
theorem u110_154 : wp r 110 154 ls st x Q ↔ wp r 110 155 ls (vI 0 :: st) x Q := (wp_u (show cd 110 154 = some (.iconst 0, 1, 0, 0, 0, 0) from rfl))
theorem u110_155 : wp r 110 155 ls (vI z :: vA q :: st) x Q ↔ sbk 9 (hK x q) ∧ wp r 110 158 ls st (stI x q 39 z) Q := (wp_u (show cd 110 155 = some (.putfield 199, 3, 9, 39, 0, 0) from rfl)).trans g_putI0
theorem u110_158 : wp r 110 158 ls st x Q ↔ wp r 110 159 ls (vI 1 :: st) x Q := (wp_u (show cd 110 158 = some (.iconst 1, 1, 0, 0, 0, 0) from rfl))
theorem u110_159 : wp r 110 159 [a0, a1] (vI z :: st) x Q ↔ wp r 110 160 [a0, vI z] st x Q := (wp_u (show cd 110 159 = some (.istore_n 1, 1, 0, 0, 0, 0) from rfl))
theorem u110_160 : wp r 110 160 [a0, vI z] st x Q ↔ wp r 110 161 [a0, vI z] (vI z :: st) x Q := (wp_u (show cd 110 160 = some (.iload_n 1, 1, 0, 0, 0, 0) from rfl))
theorem u110_161 : wp r 110 161 [vR o, a1] st x Q ↔ wp r 110 162 [vR o, a1] (vR o :: st) x Q := (wp_u (show cd 110 161 = some (.aload_n 0, 1, 0, 0, 0, 0) from rfl))
theorem u110_162 : wp r 110 162 ls (vA q :: st) x Q ↔ sbk 9 (hK x q) ∧ wp r 110 165 ls (vI (hI x q 24) :: st) x Q := (wp_u (show cd 110 162 = some (.getfield 187, 3, 9, 24, 0, 0) from rfl)).trans g_getI
theorem u110_165 : wp r 110 165 ls st x Q ↔ wp r 110 166 ls (vI 1 :: st) x Q := (wp_u (show cd 110 165 = some (.iconst 1, 1, 0, 0, 0, 0) from rfl))
theorem u110_166 : wp r 110 166 ls (vI w :: vI z :: st) x Q ↔ inI (z - w) = true ∧ wp r 110 167 ls (vI (z - w) :: st) x Q := (wp_u (show cd 110 166 = some (.isub, 1, 0, 0, 0, 0) from rfl)).trans wq_if
theorem u110_167 : wp r 110 167 ls (vI w :: vI z :: st) x Q ↔ if w ≤ z then wp r 110 308 ls st x Q else wp r 110 170 ls st x Q := (wp_u (show cd 110 167 = some (.if_icmp .ge 141, 3, 308, 0, 0, 0) from rfl)).trans wq_d
theorem u110_170 : wp r 110 170 [vR o, a1] st x Q ↔ wp r 110 171 [vR o, a1] (vR o :: st) x Q := (wp_u (show cd 110 170 = some (.aload_n 0, 1, 0, 0, 0, 0) from rfl))
theorem u110_171 : wp r 110 171 ls (vA q :: st) x Q ↔ sbk 9 (hK x q) ∧ wp r 110 174 ls (vR (hR x q 25) :: st) x Q := (wp_u (show cd 110 171 = some (.getfield 51, 3, 9, 25, 5, 0) from rfl)).trans g_getR
theorem u110_174 : wp r 110 174 [a0, vI z] st x Q ↔ wp r 110 175 [a0, vI z] (vI z :: st) x Q := (wp_u (show cd 110 174 = some (.iload_n 1, 1, 0, 0, 0, 0) from rfl))
theorem u110_175 : wp r 110 175 ls (vI i :: vA q :: st) x Q ↔ ldk 20 (hK x q) i ∧ wp r 110 176 ls (vI (hI x q i) :: st) x Q := (wp_u (show cd 110 175 = some (.iaload, 1, 0, 0, 0, 0) from rfl)).trans g_ldI
theorem u110_176 : wp r 110 176 ls st x Q ↔ wp r 110 178 ls (vI 5590599 :: st) x Q := (wp_u (show cd 110 176 = some (.ldc 114, 2, 5590599, 0, 0, 0) from rfl))
theorem u110_178 : wp r 110 178 ls (vI w :: vI z :: st) x Q ↔ if z = w then wp r 110 181 ls st x Q else wp r 110 204 ls st x Q := (wp_u (show cd 110 178 = some (.if_icmp .ne 26, 3, 204, 0, 0, 0) from rfl)).trans wq_dn
theorem u110_181 : wp r 110 181 [vR o, a1] st x Q ↔ wp r 110 182 [vR o, a1] (vR o :: st) x Q := (wp_u (show cd 110 181 = some (.aload_n 0, 1, 0, 0, 0, 0) from rfl))
theorem u110_182 : wp r 110 182 ls (vA q :: st) x Q ↔ sbk 9 (hK x q) ∧ wp r 110 185 ls (vR (hR x q 40) :: st) x Q := (wp_u (show cd 110 182 = some (.getfield 81, 3, 9, 40, 5, 0) from rfl)).trans g_getR
theorem u110_185 : wp r 110 185 [vR o, a1] st x Q ↔ wp r 110 186 [vR o, a1] (vR o :: st) x Q := (wp_u (show cd 110 185 = some (.aload_n 0, 1, 0, 0, 0, 0) from rfl))
theorem u110_186 : wp r 110 186 ls (vA q :: st) x Q ↔ sbk 9 (hK x q) ∧ wp r 110 189 ls (vI (hI x q 39) :: st) x Q := (wp_u (show cd 110 186 = some (.getfield 199, 3, 9, 39, 0, 0) from rfl)).trans g_getI
theorem u110_189 : wp r 110 189 [a0, vI z] st x Q ↔ wp r 110 190 [a0, vI z] (vI z :: st) x Q := (wp_u (show cd 110 189 = some (.iload_n 1, 1, 0, 0, 0, 0) from rfl))
theorem u110_190 : wp r 110 190 ls (vI z :: vI i :: vA q :: st) x Q ↔ ldk 20 (hK x q) i ∧ 4 ≤ q ∧ wp r 110 191 ls st (stI x q i z) Q := (wp_u (show cd 110 190 = some (.iastore, 1, 0, 0, 0, 0) from rfl)).trans g_stI0
theorem u110_191 : wp r 110 191 [vR o, a1] st x Q ↔ wp r 110 192 [vR o, a1] (vR o :: st) x Q := (wp_u (show cd 110 191 = some (.aload_n 0, 1, 0, 0, 0, 0) from rfl))
theorem u110_192i : wp r 110 192 ls (vI z :: st) x Q ↔ wp r 110 193 ls (vI z :: vI z :: st) x Q := (wp_u (show cd 110 192 = some (.dup, 1, 0, 0, 0, 0) from rfl))
theorem u110_192 : wp r 110 192 ls (vR o :: st) x Q ↔ wp r 110 193 ls (vR o :: vR o :: st) x Q := (wp_u (show cd 110 192 = some (.dup, 1, 0, 0, 0, 0) from rfl))
theorem u110_193 : wp r 110 193 ls (vA q :: st) x Q ↔ sbk 9 (hK x q) ∧ wp r 110 196 ls (vI (hI x q 39) :: st) x Q := (wp_u (show cd 110 193 = some (.getfield 199, 3, 9, 39, 0, 0) from rfl)).trans g_getI
theorem u110_196 : wp r 110 196 ls st x Q ↔ wp r 110 197 ls (vI 1 :: st) x Q := (wp_u (show cd 110 196 = some (.iconst 1, 1, 0, 0, 0, 0) from rfl))
theorem u110_197 : wp r 110 197 ls (vI w :: vI z :: st) x Q ↔ inI (z + w) = true ∧ wp r 110 198 ls (vI (z + w) :: st) x Q := (wp_u (show cd 110 197 = some (.iadd, 1, 0, 0, 0, 0) from rfl)).trans wq_if
theorem u110_198 : wp r 110 198 ls (vI z :: vA q :: st) x Q ↔ sbk 9 (hK x q) ∧ wp r 110 201 ls st (stI x q 39 z) Q := (wp_u (show cd 110 198 = some (.putfield 199, 3, 9, 39, 0, 0) from rfl)).trans g_putI0
theorem u110_201 : wp r 110 201 ls st x Q ↔ wp r 110 302 ls st x Q := (wp_u (show cd 110 201 = some (.goto 101, 3, 302, 0, 0, 0) from rfl))
theorem u110_204 : wp r 110 204 [vR o, a1] st x Q ↔ wp r 110 205 [vR o, a1] (vR o :: st) x Q := (wp_u (show cd 110 204 = some (.aload_n 0, 1, 0, 0, 0, 0) from rfl))
theorem u110_205 : wp r 110 205 ls (vA q :: st) x Q ↔ sbk 9 (hK x q) ∧ wp r 110 208 ls (vR (hR x q 25) :: st) x Q := (wp_u (show cd 110 205 = some (.getfield 51, 3, 9, 25, 5, 0) from rfl)).trans g_getR
theorem u110_208 : wp r 110 208 [a0, vI z] st x Q ↔ wp r 110 209 [a0, vI z] (vI z :: st) x Q := (wp_u (show cd 110 208 = some (.iload_n 1, 1, 0, 0, 0, 0) from rfl))
theorem u110_209 : wp r 110 209 ls (vI i :: vA q :: st) x Q ↔ ldk 20 (hK x q) i ∧ wp r 110 210 ls (vI (hI x q i) :: st) x Q := (wp_u (show cd 110 209 = some (.iaload, 1, 0, 0, 0, 0) from rfl)).trans g_ldI
theorem u110_210 : wp r 110 210 ls st x Q ↔ wp r 110 212 ls (vI 5590597 :: st) x Q := (wp_u (show cd 110 210 = some (.ldc 115, 2, 5590597, 0, 0, 0) from rfl))
theorem u110_212 : wp r 110 212 ls (vI w :: vI z :: st) x Q ↔ if z = w then wp r 110 215 ls st x Q else wp r 110 230 ls st x Q := (wp_u (show cd 110 212 = some (.if_icmp .ne 18, 3, 230, 0, 0, 0) from rfl)).trans wq_dn
theorem u110_215 : wp r 110 215 [vR o, a1] st x Q ↔ wp r 110 216 [vR o, a1] (vR o :: st) x Q := (wp_u (show cd 110 215 = some (.aload_n 0, 1, 0, 0, 0, 0) from rfl))
theorem u110_216 : wp r 110 216 ls (vA q :: st) x Q ↔ sbk 9 (hK x q) ∧ wp r 110 219 ls (vR (hR x q 41) :: st) x Q := (wp_u (show cd 110 216 = some (.getfield 84, 3, 9, 41, 5, 0) from rfl)).trans g_getR
theorem u110_219 : wp r 110 219 [vR o, a1] st x Q ↔ wp r 110 220 [vR o, a1] (vR o :: st) x Q := (wp_u (show cd 110 219 = some (.aload_n 0, 1, 0, 0, 0, 0) from rfl))
theorem u110_220 : wp r 110 220 ls (vA q :: st) x Q ↔ sbk 9 (hK x q) ∧ wp r 110 223 ls (vI (hI x q 39) :: st) x Q := (wp_u (show cd 110 220 = some (.getfield 199, 3, 9, 39, 0, 0) from rfl)).trans g_getI
theorem u110_223 : wp r 110 223 ls st x Q ↔ wp r 110 224 ls (vI 1 :: st) x Q := (wp_u (show cd 110 223 = some (.iconst 1, 1, 0, 0, 0, 0) from rfl))
theorem u110_224 : wp r 110 224 ls (vI w :: vI z :: st) x Q ↔ inI (z - w) = true ∧ wp r 110 225 ls (vI (z - w) :: st) x Q := (wp_u (show cd 110 224 = some (.isub, 1, 0, 0, 0, 0) from rfl)).trans wq_if
theorem u110_225 : wp r 110 225 [a0, vI z] st x Q ↔ wp r 110 226 [a0, vI z] (vI z :: st) x Q := (wp_u (show cd 110 225 = some (.iload_n 1, 1, 0, 0, 0, 0) from rfl))
theorem u110_226 : wp r 110 226 ls (vI z :: vI i :: vA q :: st) x Q ↔ ldk 20 (hK x q) i ∧ 4 ≤ q ∧ wp r 110 227 ls st (stI x q i z) Q := (wp_u (show cd 110 226 = some (.iastore, 1, 0, 0, 0, 0) from rfl)).trans g_stI0
theorem u110_227 : wp r 110 227 ls st x Q ↔ wp r 110 302 ls st x Q := (wp_u (show cd 110 227 = some (.goto 75, 3, 302, 0, 0, 0) from rfl))
theorem u110_230 : wp r 110 230 [vR o, a1] st x Q ↔ wp r 110 231 [vR o, a1] (vR o :: st) x Q := (wp_u (show cd 110 230 = some (.aload_n 0, 1, 0, 0, 0, 0) from rfl))
theorem u110_231 : wp r 110 231 ls (vA q :: st) x Q ↔ sbk 9 (hK x q) ∧ wp r 110 234 ls (vR (hR x q 25) :: st) x Q := (wp_u (show cd 110 231 = some (.getfield 51, 3, 9, 25, 5, 0) from rfl)).trans g_getR
theorem u110_234 : wp r 110 234 [a0, vI z] st x Q ↔ wp r 110 235 [a0, vI z] (vI z :: st) x Q := (wp_u (show cd 110 234 = some (.iload_n 1, 1, 0, 0, 0, 0) from rfl))
theorem u110_235 : wp r 110 235 ls (vI i :: vA q :: st) x Q ↔ ldk 20 (hK x q) i ∧ wp r 110 236 ls (vI (hI x q i) :: st) x Q := (wp_u (show cd 110 235 = some (.iaload, 1, 0, 0, 0, 0) from rfl)).trans g_ldI
theorem u110_236 : wp r 110 236 ls st x Q ↔ wp r 110 238 ls (vI 5590600 :: st) x Q := (wp_u (show cd 110 236 = some (.ldc 116, 2, 5590600, 0, 0, 0) from rfl))
theorem u110_238 : wp r 110 238 ls (vI w :: vI z :: st) x Q ↔ if z = w then wp r 110 241 ls st x Q else wp r 110 279 ls st x Q := (wp_u (show cd 110 238 = some (.if_icmp .ne 41, 3, 279, 0, 0, 0) from rfl)).trans wq_dn
theorem u110_241 : wp r 110 241 [vR o, a1] st x Q ↔ wp r 110 242 [vR o, a1] (vR o :: st) x Q := (wp_u (show cd 110 241 = some (.aload_n 0, 1, 0, 0, 0, 0) from rfl))
theorem u110_242 : wp r 110 242 ls (vA q :: st) x Q ↔ sbk 9 (hK x q) ∧ wp r 110 245 ls (vR (hR x q 34) :: st) x Q := (wp_u (show cd 110 242 = some (.getfield 66, 3, 9, 34, 5, 0) from rfl)).trans g_getR
theorem u110_245 : wp r 110 245 [vR o, a1] st x Q ↔ wp r 110 246 [vR o, a1] (vR o :: st) x Q := (wp_u (show cd 110 245 = some (.aload_n 0, 1, 0, 0, 0, 0) from rfl))
theorem u110_246 : wp r 110 246 ls (vA q :: st) x Q ↔ sbk 9 (hK x q) ∧ wp r 110 249 ls (vI (hI x q 33) :: st) x Q := (wp_u (show cd 110 246 = some (.getfield 196, 3, 9, 33, 0, 0) from rfl)).trans g_getI
theorem u110_249 : wp r 110 249 [a0, vI z] st x Q ↔ wp r 110 250 [a0, vI z] (vI z :: st) x Q := (wp_u (show cd 110 249 = some (.iload_n 1, 1, 0, 0, 0, 0) from rfl))
theorem u110_250 : wp r 110 250 ls (vI z :: vI i :: vA q :: st) x Q ↔ ldk 20 (hK x q) i ∧ 4 ≤ q ∧ wp r 110 251 ls st (stI x q i z) Q := (wp_u (show cd 110 250 = some (.iastore, 1, 0, 0, 0, 0) from rfl)).trans g_stI0
set_option maxRecDepth 20000 in
theorem u110_251 : wp r 110 251 [vR o, a1] st x Q ↔ wp r 110 252 [vR o, a1] (vR o :: st) x Q := (wp_u (show cd 110 251 = some (.aload_n 0, 1, 0, 0, 0, 0) from rfl))
set_option maxRecDepth 20000 in
theorem u110_252 : wp r 110 252 ls (vA q :: st) x Q ↔ sbk 9 (hK x q) ∧ wp r 110 255 ls (vR (hR x q 36) :: st) x Q := (wp_u (show cd 110 252 = some (.getfield 72, 3, 9, 36, 5, 0) from rfl)).trans g_getR
set_option maxRecDepth 20000 in
theorem u110_255 : wp r 110 255 [vR o, a1] st x Q ↔ wp r 110 256 [vR o, a1] (vR o :: st) x Q := (wp_u (show cd 110 255 = some (.aload_n 0, 1, 0, 0, 0, 0) from rfl))
set_option maxRecDepth 20000 in
theorem u110_256 : wp r 110 256 ls (vA q :: st) x Q ↔ sbk 9 (hK x q) ∧ wp r 110 259 ls (vI (hI x q 33) :: st) x Q := (wp_u (show cd 110 256 = some (.getfield 196, 3, 9, 33, 0, 0) from rfl)).trans g_getI
set_option maxRecDepth 20000 in
theorem u110_259 : wp r 110 259 [vR o, a1] st x Q ↔ wp r 110 260 [vR o, a1] (vR o :: st) x Q := (wp_u (show cd 110 259 = some (.aload_n 0, 1, 0, 0, 0, 0) from rfl))
set_option maxRecDepth 20000 in
theorem u110_260 : wp r 110 260 ls (vA q :: st) x Q ↔ sbk 9 (hK x q) ∧ wp r 110 263 ls (vI (hI x q 39) :: st) x Q := (wp_u (show cd 110 260 = some (.getfield 199, 3, 9, 39, 0, 0) from rfl)).trans g_getI
set_option maxRecDepth 20000 in
theorem u110_263 : wp r 110 263 ls st x Q ↔ wp r 110 264 ls (vI 1 :: st) x Q := (wp_u (show cd 110 263 = some (.iconst 1, 1, 0, 0, 0, 0) from rfl))
set_option maxRecDepth 20000 in
theorem u110_264 : wp r 110 264 ls (vI w :: vI z :: st) x Q ↔ inI (z - w) = true ∧ wp r 110 265 ls (vI (z - w) :: st) x Q := (wp_u (show cd 110 264 = some (.isub, 1, 0, 0, 0, 0) from rfl)).trans wq_if
set_option maxRecDepth 20000 in
theorem u110_265 : wp r 110 265 ls (vI z :: vI i :: vA q :: st) x Q ↔ ldk 20 (hK x q) i ∧ 4 ≤ q ∧ wp r 110 266 ls st (stI x q i z) Q := (wp_u (show cd 110 265 = some (.iastore, 1, 0, 0, 0, 0) from rfl)).trans g_stI0
set_option maxRecDepth 20000 in
theorem u110_266 : wp r 110 266 [vR o, a1] st x Q ↔ wp r 110 267 [vR o, a1] (vR o :: st) x Q := (wp_u (show cd 110 266 = some (.aload_n 0, 1, 0, 0, 0, 0) from rfl))
set_option maxRecDepth 20000 in
theorem u110_267i : wp r 110 267 ls (vI z :: st) x Q ↔ wp r 110 268 ls (vI z :: vI z :: st) x Q := (wp_u (show cd 110 267 = some (.dup, 1, 0, 0, 0, 0) from rfl))
set_option maxRecDepth 20000 in
theorem u110_267 : wp r 110 267 ls (vR o :: st) x Q ↔ wp r 110 268 ls (vR o :: vR o :: st) x Q := (wp_u (show cd 110 267 = some (.dup, 1, 0, 0, 0, 0) from rfl))
set_option maxRecDepth 20000 in
theorem u110_268 : wp r 110 268 ls (vA q :: st) x Q ↔ sbk 9 (hK x q) ∧ wp r 110 271 ls (vI (hI x q 33) :: st) x Q := (wp_u (show cd 110 268 = some (.getfield 196, 3, 9, 33, 0, 0) from rfl)).trans g_getI
set_option maxRecDepth 20000 in
theorem u110_271 : wp r 110 271 ls st x Q ↔ wp r 110 272 ls (vI 1 :: st) x Q := (wp_u (show cd 110 271 = some (.iconst 1, 1, 0, 0, 0, 0) from rfl))
set_option maxRecDepth 20000 in
theorem u110_272 : wp r 110 272 ls (vI w :: vI z :: st) x Q ↔ inI (z + w) = true ∧ wp r 110 273 ls (vI (z + w) :: st) x Q := (wp_u (show cd 110 272 = some (.iadd, 1, 0, 0, 0, 0) from rfl)).trans wq_if
set_option maxRecDepth 20000 in
theorem u110_273 : wp r 110 273 ls (vI z :: vA q :: st) x Q ↔ sbk 9 (hK x q) ∧ wp r 110 276 ls st (stI x q 33 z) Q := (wp_u (show cd 110 273 = some (.putfield 196, 3, 9, 33, 0, 0) from rfl)).trans g_putI0
set_option maxRecDepth 20000 in
theorem u110_276 : wp r 110 276 ls st x Q ↔ wp r 110 302 ls st x Q := (wp_u (show cd 110 276 = some (.goto 26, 3, 302, 0, 0, 0) from rfl))
set_option maxRecDepth 20000 in
theorem u110_279 : wp r 110 279 [vR o, a1] st x Q ↔ wp r 110 280 [vR o, a1] (vR o :: st) x Q := (wp_u (show cd 110 279 = some (.aload_n 0, 1, 0, 0, 0, 0) from rfl))
set_option maxRecDepth 20000 in
theorem u110_280 : wp r 110 280 ls (vA q :: st) x Q ↔ sbk 9 (hK x q) ∧ wp r 110 283 ls (vR (hR x q 25) :: st) x Q := (wp_u (show cd 110 280 = some (.getfield 51, 3, 9, 25, 5, 0) from rfl)).trans g_getR
set_option maxRecDepth 20000 in
theorem u110_283 : wp r 110 283 [a0, vI z] st x Q ↔ wp r 110 284 [a0, vI z] (vI z :: st) x Q := (wp_u (show cd 110 283 = some (.iload_n 1, 1, 0, 0, 0, 0) from rfl))
set_option maxRecDepth 20000 in
theorem u110_284 : wp r 110 284 ls (vI i :: vA q :: st) x Q ↔ ldk 20 (hK x q) i ∧ wp r 110 285 ls (vI (hI x q i) :: st) x Q := (wp_u (show cd 110 284 = some (.iaload, 1, 0, 0, 0, 0) from rfl)).trans g_ldI
set_option maxRecDepth 20000 in
theorem u110_285 : wp r 110 285 ls st x Q ↔ wp r 110 287 ls (vI 5590612 :: st) x Q := (wp_u (show cd 110 285 = some (.ldc 117, 2, 5590612, 0, 0, 0) from rfl))
set_option maxRecDepth 20000 in
theorem u110_287 : wp r 110 287 ls (vI w :: vI z :: st) x Q ↔ if z = w then wp r 110 290 ls st x Q else wp r 110 302 ls st x Q := (wp_u (show cd 110 287 = some (.if_icmp .ne 15, 3, 302, 0, 0, 0) from rfl)).trans wq_dn
set_option maxRecDepth 20000 in
theorem u110_290 : wp r 110 290 [vR o, a1] st x Q ↔ wp r 110 291 [vR o, a1] (vR o :: st) x Q := (wp_u (show cd 110 290 = some (.aload_n 0, 1, 0, 0, 0, 0) from rfl))
set_option maxRecDepth 20000 in
theorem u110_291 : wp r 110 291 ls (vA q :: st) x Q ↔ sbk 9 (hK x q) ∧ wp r 110 294 ls (vR (hR x q 35) :: st) x Q := (wp_u (show cd 110 291 = some (.getfield 69, 3, 9, 35, 5, 0) from rfl)).trans g_getR
set_option maxRecDepth 20000 in
theorem u110_294 : wp r 110 294 [vR o, a1] st x Q ↔ wp r 110 295 [vR o, a1] (vR o :: st) x Q := (wp_u (show cd 110 294 = some (.aload_n 0, 1, 0, 0, 0, 0) from rfl))
set_option maxRecDepth 20000 in
theorem u110_295 : wp r 110 295 ls (vA q :: st) x Q ↔ sbk 9 (hK x q) ∧ wp r 110 298 ls (vI (hI x q 33) :: st) x Q := (wp_u (show cd 110 295 = some (.getfield 196, 3, 9, 33, 0, 0) from rfl)).trans g_getI
set_option maxRecDepth 20000 in
theorem u110_298 : wp r 110 298 ls st x Q ↔ wp r 110 299 ls (vI 1 :: st) x Q := (wp_u (show cd 110 298 = some (.iconst 1, 1, 0, 0, 0, 0) from rfl))
set_option maxRecDepth 20000 in
theorem u110_299 : wp r 110 299 ls (vI w :: vI z :: st) x Q ↔ inI (z - w) = true ∧ wp r 110 300 ls (vI (z - w) :: st) x Q := (wp_u (show cd 110 299 = some (.isub, 1, 0, 0, 0, 0) from rfl)).trans wq_if
set_option maxRecDepth 20000 in
theorem u110_300 : wp r 110 300 [a0, vI z] st x Q ↔ wp r 110 301 [a0, vI z] (vI z :: st) x Q := (wp_u (show cd 110 300 = some (.iload_n 1, 1, 0, 0, 0, 0) from rfl))
set_option maxRecDepth 20000 in
theorem u110_301 : wp r 110 301 ls (vI z :: vI i :: vA q :: st) x Q ↔ ldk 20 (hK x q) i ∧ 4 ≤ q ∧ wp r 110 302 ls st (stI x q i z) Q := (wp_u (show cd 110 301 = some (.iastore, 1, 0, 0, 0, 0) from rfl)).trans g_stI0
set_option maxRecDepth 20000 in
theorem u110_302 : wp r 110 302 [a0, vI z] st x Q ↔ inI (z + 1) = true ∧ wp r 110 305 [a0, vI (z + 1)] st x Q := (wp_u (show cd 110 302 = some (.iinc 1 1, 3, 0, 0, 0, 0) from rfl)).trans wq_if
set_option maxRecDepth 20000 in
theorem u110_305 : wp r 110 305 ls st x Q ↔ wp r 110 160 ls st x Q := (wp_u (show cd 110 305 = some (.goto (-145), 3, 160, 0, 0, 0) from rfl))
set_option maxRecDepth 20000 in
theorem u110_308 : wp r 110 308 ls [] x Q ↔ Q (.inl none) x := (wp_u (show cd 110 308 = some (.return_, 1, 0, 0, 0, 0) from rfl))
theorem e110 : wpc r 110 [vA q] x Q ↔ wp r 110 0 [vA q, vL jk] [] x Q := Iff.rfl
/-! 111 M_judge -/
theorem u111_0 : wp r 111 0 [vR o, a1, a2, a3, a4, a5, a6] st x Q ↔ wp r 111 1 [vR o, a1, a2, a3, a4, a5, a6] (vR o :: st) x Q := (wp_u (show cd 111 0 = some (.aload_n 0, 1, 0, 0, 0, 0) from rfl))
theorem u111_1 : wp r 111 1 ls (vA q :: st) x Q ↔ sbk 9 (hK x q) ∧ wp r 111 4 ls (vR (hR x q 34) :: st) x Q := (wp_u (show cd 111 1 = some (.getfield 66, 3, 9, 34, 5, 0) from rfl)).trans g_getR
theorem u111_4 : wp r 111 4 [a0, vI z, a2, a3, a4, a5, a6] st x Q ↔ wp r 111 5 [a0, vI z, a2, a3, a4, a5, a6] (vI z :: st) x Q := (wp_u (show cd 111 4 = some (.iload_n 1, 1, 0, 0, 0, 0) from rfl))
theorem u111_5 : wp r 111 5 ls (vI i :: vA q :: st) x Q ↔ ldk 20 (hK x q) i ∧ wp r 111 6 ls (vI (hI x q i) :: st) x Q := (wp_u (show cd 111 5 = some (.iaload, 1, 0, 0, 0, 0) from rfl)).trans g_ldI
theorem u111_6 : wp r 111 6 [a0, a1, a2, a3, a4, a5, a6] (vI z :: st) x Q ↔ wp r 111 7 [a0, a1, vI z, a3, a4, a5, a6] st x Q := (wp_u (show cd 111 6 = some (.istore_n 2, 1, 0, 0, 0, 0) from rfl))
theorem u111_7 : wp r 111 7 [vR o, a1, a2, a3, a4, a5, a6] st x Q ↔ wp r 111 8 [vR o, a1, a2, a3, a4, a5, a6] (vR o :: st) x Q := (wp_u (show cd 111 7 = some (.aload_n 0, 1, 0, 0, 0, 0) from rfl))
theorem u111_8 : wp r 111 8 ls (vA q :: st) x Q ↔ sbk 9 (hK x q) ∧ wp r 111 11 ls (vR (hR x q 35) :: st) x Q := (wp_u (show cd 111 8 = some (.getfield 69, 3, 9, 35, 5, 0) from rfl)).trans g_getR
theorem u111_11 : wp r 111 11 [a0, vI z, a2, a3, a4, a5, a6] st x Q ↔ wp r 111 12 [a0, vI z, a2, a3, a4, a5, a6] (vI z :: st) x Q := (wp_u (show cd 111 11 = some (.iload_n 1, 1, 0, 0, 0, 0) from rfl))
theorem u111_12 : wp r 111 12 ls (vI i :: vA q :: st) x Q ↔ ldk 20 (hK x q) i ∧ wp r 111 13 ls (vI (hI x q i) :: st) x Q := (wp_u (show cd 111 12 = some (.iaload, 1, 0, 0, 0, 0) from rfl)).trans g_ldI
theorem u111_13 : wp r 111 13 [a0, a1, a2, a3, a4, a5, a6] (vI z :: st) x Q ↔ wp r 111 14 [a0, a1, a2, vI z, a4, a5, a6] st x Q := (wp_u (show cd 111 13 = some (.istore_n 3, 1, 0, 0, 0, 0) from rfl))
theorem u111_14 : wp r 111 14 [vR o, a1, a2, a3, a4, a5, a6] st x Q ↔ wp r 111 15 [vR o, a1, a2, a3, a4, a5, a6] (vR o :: st) x Q := (wp_u (show cd 111 14 = some (.aload_n 0, 1, 0, 0, 0, 0) from rfl))
theorem u111_15 : wp r 111 15 [a0, a1, vI z, a3, a4, a5, a6] st x Q ↔ wp r 111 16 [a0, a1, vI z, a3, a4, a5, a6] (vI z :: st) x Q := (wp_u (show cd 111 15 = some (.iload_n 2, 1, 0, 0, 0, 0) from rfl))
theorem u111_16 : wp r 111 16 ls st x Q ↔ wp r 111 17 ls (vI 0 :: st) x Q := (wp_u (show cd 111 16 = some (.iconst 0, 1, 0, 0, 0, 0) from rfl))
theorem u111_17 : wp r 111 17 [a0, a1, a2, vI z, a4, a5, a6] st x Q ↔ wp r 111 18 [a0, a1, a2, vI z, a4, a5, a6] (vI z :: st) x Q := (wp_u (show cd 111 17 = some (.iload_n 3, 1, 0, 0, 0, 0) from rfl))
theorem u111_18 : wp r 111 18 [a0, a1, a2, vI z, a4, a5, a6] st x Q ↔ wp r 111 19 [a0, a1, a2, vI z, a4, a5, a6] (vI z :: st) x Q := (wp_u (show cd 111 18 = some (.iload_n 3, 1, 0, 0, 0, 0) from rfl))
theorem u111_19 : wp r 111 19 [a0, a1, vI z, a3, a4, a5, a6] st x Q ↔ wp r 111 20 [a0, a1, vI z, a3, a4, a5, a6] (vI z :: st) x Q := (wp_u (show cd 111 19 = some (.iload_n 2, 1, 0, 0, 0, 0) from rfl))
theorem u111_20 : wp r 111 20 ls (vI w :: vI z :: st) x Q ↔ inI (z - w) = true ∧ wp r 111 21 ls (vI (z - w) :: st) x Q := (wp_u (show cd 111 20 = some (.isub, 1, 0, 0, 0, 0) from rfl)).trans wq_if
theorem u111_21 : wp r 111 21 ls st x Q ↔ wp r 111 22 ls (vI 1 :: st) x Q := (wp_u (show cd 111 21 = some (.iconst 1, 1, 0, 0, 0, 0) from rfl))
theorem u111_22 : wp r 111 22 ls (vI w :: vI z :: st) x Q ↔ inI (z + w) = true ∧ wp r 111 23 ls (vI (z + w) :: st) x Q := (wp_u (show cd 111 22 = some (.iadd, 1, 0, 0, 0, 0) from rfl)).trans wq_if
theorem u111_23 : wp r 111 23 ls (vI z3 :: vI z2 :: vI z1 :: vI z0 :: vA q :: st) x Q ↔ isk 9 (hK x q) ∧ sml st = true ∧ 3 < r ∧ wpc 3 112 [vA q, vI z0, vI z1, vI z2, vI z3] x (wk r 111 23 ls st Q) := (wp_u (show cd 111 23 = some (.invokevirtual 230, 3, 112, 5, 3, 9) from rfl)).trans (g_virt rfl (by decide) (by simp) rfl)
theorem u111_26 : wp r 111 26 [a0, a1, a2, a3, a4, a5, a6] (vI z :: st) x Q ↔ wp r 111 28 [a0, a1, a2, a3, vI z, a5, a6] st x Q := (wp_u (show cd 111 26 = some (.istore 4, 2, 0, 0, 0, 0) from rfl))
theorem u111_28 : wp r 111 28 [vR o, a1, a2, a3, a4, a5, a6] st x Q ↔ wp r 111 29 [vR o, a1, a2, a3, a4, a5, a6] (vR o :: st) x Q := (wp_u (show cd 111 28 = some (.aload_n 0, 1, 0, 0, 0, 0) from rfl))
theorem u111_29 : wp r 111 29 ls (vA q :: st) x Q ↔ sbk 9 (hK x q) ∧ wp r 111 32 ls (vR (hR x q 37) :: st) x Q := (wp_u (show cd 111 29 = some (.getfield 75, 3, 9, 37, 5, 0) from rfl)).trans g_getR
theorem u111_32 : wp r 111 32 [a0, vI z, a2, a3, a4, a5, a6] st x Q ↔ wp r 111 33 [a0, vI z, a2, a3, a4, a5, a6] (vI z :: st) x Q := (wp_u (show cd 111 32 = some (.iload_n 1, 1, 0, 0, 0, 0) from rfl))
theorem u111_33 : wp r 111 33 [a0, a1, a2, a3, vI z, a5, a6] st x Q ↔ wp r 111 35 [a0, a1, a2, a3, vI z, a5, a6] (vI z :: st) x Q := (wp_u (show cd 111 33 = some (.iload 4, 2, 0, 0, 0, 0) from rfl))
theorem u111_35 : wp r 111 35 ls st x Q ↔ wp r 111 36 ls (vI 2 :: st) x Q := (wp_u (show cd 111 35 = some (.iconst 2, 1, 0, 0, 0, 0) from rfl))
theorem u111_36 : wp r 111 36 ls (vI w :: vI z :: st) x Q ↔ (0 ≤ z ∧ 0 < w) ∧ wp r 111 37 ls (vI (z % w) :: st) x Q := (wp_u (show cd 111 36 = some (.irem, 1, 0, 0, 0, 0) from rfl)).trans wq_if
theorem u111_37 : wp r 111 37 ls st x Q ↔ wp r 111 38 ls (vI 1 :: st) x Q := (wp_u (show cd 111 37 = some (.iconst 1, 1, 0, 0, 0, 0) from rfl))
theorem u111_38 : wp r 111 38 ls (vI w :: vI z :: st) x Q ↔ if z = w then wp r 111 41 ls st x Q else wp r 111 45 ls st x Q := (wp_u (show cd 111 38 = some (.if_icmp .ne 7, 3, 45, 0, 0, 0) from rfl)).trans wq_dn
theorem u111_41 : wp r 111 41 ls st x Q ↔ wp r 111 42 ls (vI 1 :: st) x Q := (wp_u (show cd 111 41 = some (.iconst 1, 1, 0, 0, 0, 0) from rfl))
theorem u111_42 : wp r 111 42 ls st x Q ↔ wp r 111 47 ls st x Q := (wp_u (show cd 111 42 = some (.goto 5, 3, 47, 0, 0, 0) from rfl))
theorem u111_45 : wp r 111 45 [a0, a1, a2, a3, vI z, a5, a6] st x Q ↔ wp r 111 47 [a0, a1, a2, a3, vI z, a5, a6] (vI z :: st) x Q := (wp_u (show cd 111 45 = some (.iload 4, 2, 0, 0, 0, 0) from rfl))
theorem u111_47 : wp r 111 47 ls (vI z :: vI i :: vA q :: st) x Q ↔ ldk 20 (hK x q) i ∧ 4 ≤ q ∧ wp r 111 48 ls st (stI x q i z) Q := (wp_u (show cd 111 47 = some (.iastore, 1, 0, 0, 0, 0) from rfl)).trans g_stI0
theorem u111_48 : wp r 111 48 [vR o, a1, a2, a3, a4, a5, a6] st x Q ↔ wp r 111 49 [vR o, a1, a2, a3, a4, a5, a6] (vR o :: st) x Q := (wp_u (show cd 111 48 = some (.aload_n 0, 1, 0, 0, 0, 0) from rfl))
theorem u111_49 : wp r 111 49 ls (vA q :: st) x Q ↔ sbk 9 (hK x q) ∧ wp r 111 52 ls (vR (hR x q 38) :: st) x Q := (wp_u (show cd 111 49 = some (.getfield 78, 3, 9, 38, 5, 0) from rfl)).trans g_getR
theorem u111_52 : wp r 111 52 [a0, vI z, a2, a3, a4, a5, a6] st x Q ↔ wp r 111 53 [a0, vI z, a2, a3, a4, a5, a6] (vI z :: st) x Q := (wp_u (show cd 111 52 = some (.iload_n 1, 1, 0, 0, 0, 0) from rfl))
theorem u111_53 : wp r 111 53 [a0, a1, a2, vI z, a4, a5, a6] st x Q ↔ wp r 111 54 [a0, a1, a2, vI z, a4, a5, a6] (vI z :: st) x Q := (wp_u (show cd 111 53 = some (.iload_n 3, 1, 0, 0, 0, 0) from rfl))
theorem u111_54 : wp r 111 54 ls (vI z :: vI i :: vA q :: st) x Q ↔ ldk 20 (hK x q) i ∧ 4 ≤ q ∧ wp r 111 55 ls st (stI x q i z) Q := (wp_u (show cd 111 54 = some (.iastore, 1, 0, 0, 0, 0) from rfl)).trans g_stI0
theorem u111_55 : wp r 111 55 [a0, a1, a2, a3, vI z, a5, a6] st x Q ↔ wp r 111 57 [a0, a1, a2, a3, vI z, a5, a6] (vI z :: st) x Q := (wp_u (show cd 111 55 = some (.iload 4, 2, 0, 0, 0, 0) from rfl))
theorem u111_57 : wp r 111 57 ls (vI z :: st) x Q ↔ if z ≤ 0 then wp r 111 61 ls st x Q else wp r 111 60 ls st x Q := (wp_u (show cd 111 57 = some (.ifCond .le 4, 3, 61, 0, 0, 0) from rfl)).trans wq_d
theorem u111_60 : wp r 111 60 ls [] x Q ↔ Q (.inl none) x := (wp_u (show cd 111 60 = some (.return_, 1, 0, 0, 0, 0) from rfl))
theorem u111_61 : wp r 111 61 [vR o, a1, a2, a3, a4, a5, a6] st x Q ↔ wp r 111 62 [vR o, a1, a2, a3, a4, a5, a6] (vR o :: st) x Q := (wp_u (show cd 111 61 = some (.aload_n 0, 1, 0, 0, 0, 0) from rfl))
theorem u111_62 : wp r 111 62 ls (vA q :: st) x Q ↔ sbk 9 (hK x q) ∧ wp r 111 65 ls (vR (hR x q 38) :: st) x Q := (wp_u (show cd 111 62 = some (.getfield 78, 3, 9, 38, 5, 0) from rfl)).trans g_getR
theorem u111_65 : wp r 111 65 [a0, vI z, a2, a3, a4, a5, a6] st x Q ↔ wp r 111 66 [a0, vI z, a2, a3, a4, a5, a6] (vI z :: st) x Q := (wp_u (show cd 111 65 = some (.iload_n 1, 1, 0, 0, 0, 0) from rfl))
theorem u111_66 : wp r 111 66 [a0, a1, vI z, a3, a4, a5, a6] st x Q ↔ wp r 111 67 [a0, a1, vI z, a3, a4, a5, a6] (vI z :: st) x Q := (wp_u (show cd 111 66 = some (.iload_n 2, 1, 0, 0, 0, 0) from rfl))
theorem u111_67 : wp r 111 67 ls (vI z :: vI i :: vA q :: st) x Q ↔ ldk 20 (hK x q) i ∧ 4 ≤ q ∧ wp r 111 68 ls st (stI x q i z) Q := (wp_u (show cd 111 67 = some (.iastore, 1, 0, 0, 0, 0) from rfl)).trans g_stI0
theorem u111_68 : wp r 111 68 ls st x Q ↔ wp r 111 69 ls (vI 0 :: st) x Q := (wp_u (show cd 111 68 = some (.iconst 0, 1, 0, 0, 0, 0) from rfl))
theorem u111_69 : wp r 111 69 [a0, a1, a2, a3, a4, a5, a6] (vI z :: st) x Q ↔ wp r 111 71 [a0, a1, a2, a3, a4, vI z, a6] st x Q := (wp_u (show cd 111 69 = some (.istore 5, 2, 0, 0, 0, 0) from rfl))
theorem u111_71 : wp r 111 71 [a0, a1, a2, a3, a4, vI z, a6] st x Q ↔ wp r 111 73 [a0, a1, a2, a3, a4, vI z, a6] (vI z :: st) x Q := (wp_u (show cd 111 71 = some (.iload 5, 2, 0, 0, 0, 0) from rfl))
theorem u111_73 : wp r 111 73 [a0, vI z, a2, a3, a4, a5, a6] st x Q ↔ wp r 111 74 [a0, vI z, a2, a3, a4, a5, a6] (vI z :: st) x Q := (wp_u (show cd 111 73 = some (.iload_n 1, 1, 0, 0, 0, 0) from rfl))
theorem u111_74 : wp r 111 74 ls (vI w :: vI z :: st) x Q ↔ if w ≤ z then wp r 111 117 ls st x Q else wp r 111 77 ls st x Q := (wp_u (show cd 111 74 = some (.if_icmp .ge 43, 3, 117, 0, 0, 0) from rfl)).trans wq_d
theorem u111_77 : wp r 111 77 [vR o, a1, a2, a3, a4, a5, a6] st x Q ↔ wp r 111 78 [vR o, a1, a2, a3, a4, a5, a6] (vR o :: st) x Q := (wp_u (show cd 111 77 = some (.aload_n 0, 1, 0, 0, 0, 0) from rfl))
theorem u111_78 : wp r 111 78 [vR o, a1, a2, a3, a4, a5, a6] st x Q ↔ wp r 111 79 [vR o, a1, a2, a3, a4, a5, a6] (vR o :: st) x Q := (wp_u (show cd 111 78 = some (.aload_n 0, 1, 0, 0, 0, 0) from rfl))
theorem u111_79 : wp r 111 79 [vR o, a1, a2, a3, a4, a5, a6] st x Q ↔ wp r 111 80 [vR o, a1, a2, a3, a4, a5, a6] (vR o :: st) x Q := (wp_u (show cd 111 79 = some (.aload_n 0, 1, 0, 0, 0, 0) from rfl))
theorem u111_80 : wp r 111 80 ls (vA q :: st) x Q ↔ sbk 9 (hK x q) ∧ wp r 111 83 ls (vR (hR x q 34) :: st) x Q := (wp_u (show cd 111 80 = some (.getfield 66, 3, 9, 34, 5, 0) from rfl)).trans g_getR
theorem u111_83 : wp r 111 83 [a0, a1, a2, a3, a4, vI z, a6] st x Q ↔ wp r 111 85 [a0, a1, a2, a3, a4, vI z, a6] (vI z :: st) x Q := (wp_u (show cd 111 83 = some (.iload 5, 2, 0, 0, 0, 0) from rfl))
theorem u111_85 : wp r 111 85 ls (vI i :: vA q :: st) x Q ↔ ldk 20 (hK x q) i ∧ wp r 111 86 ls (vI (hI x q i) :: st) x Q := (wp_u (show cd 111 85 = some (.iaload, 1, 0, 0, 0, 0) from rfl)).trans g_ldI
theorem u111_86 : wp r 111 86 ls st x Q ↔ wp r 111 87 ls (vI 0 :: st) x Q := (wp_u (show cd 111 86 = some (.iconst 0, 1, 0, 0, 0, 0) from rfl))
theorem u111_87 : wp r 111 87 ls (vI z1 :: vI z0 :: vA q :: st) x Q ↔ isk 9 (hK x q) ∧ sml st = true ∧ 1 < r ∧ wpc 1 120 [vA q, vI z0, vI z1] x (wk r 111 87 ls st Q) := (wp_u (show cd 111 87 = some (.invokevirtual 205, 3, 120, 3, 1, 9) from rfl)).trans (g_virt rfl (by decide) (by simp) rfl)
theorem u111_90 : wp r 111 90 [vR o, a1, a2, a3, a4, a5, a6] st x Q ↔ wp r 111 91 [vR o, a1, a2, a3, a4, a5, a6] (vR o :: st) x Q := (wp_u (show cd 111 90 = some (.aload_n 0, 1, 0, 0, 0, 0) from rfl))
theorem u111_91 : wp r 111 91 [a0, a1, vI z, a3, a4, a5, a6] st x Q ↔ wp r 111 92 [a0, a1, vI z, a3, a4, a5, a6] (vI z :: st) x Q := (wp_u (show cd 111 91 = some (.iload_n 2, 1, 0, 0, 0, 0) from rfl))
theorem u111_92 : wp r 111 92 ls st x Q ↔ wp r 111 93 ls (vI 0 :: st) x Q := (wp_u (show cd 111 92 = some (.iconst 0, 1, 0, 0, 0, 0) from rfl))
theorem u111_93 : wp r 111 93 ls (vI z1 :: vI z0 :: vA q :: st) x Q ↔ isk 9 (hK x q) ∧ sml st = true ∧ 1 < r ∧ wpc 1 120 [vA q, vI z0, vI z1] x (wk r 111 93 ls st Q) := (wp_u (show cd 111 93 = some (.invokevirtual 205, 3, 120, 3, 1, 9) from rfl)).trans (g_virt rfl (by decide) (by simp) rfl)
theorem u111_96 : wp r 111 96 ls (vI z1 :: vI z0 :: vA q :: st) x Q ↔ isk 9 (hK x q) ∧ sml st = true ∧ 2 < r ∧ wpc 2 121 [vA q, vI z0, vI z1] x (wk r 111 96 ls st Q) := (wp_u (show cd 111 96 = some (.invokevirtual 208, 3, 121, 3, 2, 9) from rfl)).trans (g_virt rfl (by decide) (by simp) rfl)
theorem u111_99 : wp r 111 99 ls (vI z :: st) x Q ↔ if z = 0 then wp r 111 111 ls st x Q else wp r 111 102 ls st x Q := (wp_u (show cd 111 99 = some (.ifCond .eq 12, 3, 111, 0, 0, 0) from rfl)).trans wq_d
theorem u111_102 : wp r 111 102 [vR o, a1, a2, a3, a4, a5, a6] st x Q ↔ wp r 111 103 [vR o, a1, a2, a3, a4, a5, a6] (vR o :: st) x Q := (wp_u (show cd 111 102 = some (.aload_n 0, 1, 0, 0, 0, 0) from rfl))
theorem u111_103 : wp r 111 103 ls (vA q :: st) x Q ↔ sbk 9 (hK x q) ∧ wp r 111 106 ls (vR (hR x q 37) :: st) x Q := (wp_u (show cd 111 103 = some (.getfield 75, 3, 9, 37, 5, 0) from rfl)).trans g_getR
theorem u111_106 : wp r 111 106 [a0, vI z, a2, a3, a4, a5, a6] st x Q ↔ wp r 111 107 [a0, vI z, a2, a3, a4, a5, a6] (vI z :: st) x Q := (wp_u (show cd 111 106 = some (.iload_n 1, 1, 0, 0, 0, 0) from rfl))
theorem u111_107 : wp r 111 107 ls st x Q ↔ wp r 111 109 ls (vI 7 :: st) x Q := (wp_u (show cd 111 107 = some (.bipush 7, 2, 0, 0, 0, 0) from rfl))
theorem u111_109 : wp r 111 109 ls (vI z :: vI i :: vA q :: st) x Q ↔ ldk 20 (hK x q) i ∧ 4 ≤ q ∧ wp r 111 110 ls st (stI x q i z) Q := (wp_u (show cd 111 109 = some (.iastore, 1, 0, 0, 0, 0) from rfl)).trans g_stI0
theorem u111_110 : wp r 111 110 ls [] x Q ↔ Q (.inl none) x := (wp_u (show cd 111 110 = some (.return_, 1, 0, 0, 0, 0) from rfl))
theorem u111_111 : wp r 111 111 [a0, a1, a2, a3, a4, vI z, a6] st x Q ↔ inI (z + 1) = true ∧ wp r 111 114 [a0, a1, a2, a3, a4, vI (z + 1), a6] st x Q := (wp_u (show cd 111 111 = some (.iinc 5 1, 3, 0, 0, 0, 0) from rfl)).trans wq_if
theorem u111_114 : wp r 111 114 ls st x Q ↔ wp r 111 71 ls st x Q := (wp_u (show cd 111 114 = some (.goto (-43), 3, 71, 0, 0, 0) from rfl))
theorem u111_117 : wp r 111 117 [vR o, a1, a2, a3, a4, a5, a6] st x Q ↔ wp r 111 118 [vR o, a1, a2, a3, a4, a5, a6] (vR o :: st) x Q := (wp_u (show cd 111 117 = some (.aload_n 0, 1, 0, 0, 0, 0) from rfl))
theorem u111_118 : wp r 111 118 [a0, vI z, a2, a3, a4, a5, a6] st x Q ↔ wp r 111 119 [a0, vI z, a2, a3, a4, a5, a6] (vI z :: st) x Q := (wp_u (show cd 111 118 = some (.iload_n 1, 1, 0, 0, 0, 0) from rfl))
theorem u111_119 : wp r 111 119 ls (vI z0 :: vA q :: st) x Q ↔ isk 9 (hK x q) ∧ sml st = true ∧ 2 < r ∧ wpc 2 122 [vA q, vI z0] x (wk r 111 119 ls st Q) := (wp_u (show cd 111 119 = some (.invokevirtual 234, 3, 122, 2, 2, 9) from rfl)).trans (g_virt rfl (by decide) (by simp) rfl)
theorem u111_122 : wp r 111 122 [a0, a1, a2, a3, a4, a5, a6] (vI z :: st) x Q ↔ wp r 111 124 [a0, a1, a2, a3, a4, vI z, a6] st x Q := (wp_u (show cd 111 122 = some (.istore 5, 2, 0, 0, 0, 0) from rfl))
theorem u111_124 : wp r 111 124 [a0, a1, a2, a3, a4, vI z, a6] st x Q ↔ wp r 111 126 [a0, a1, a2, a3, a4, vI z, a6] (vI z :: st) x Q := (wp_u (show cd 111 124 = some (.iload 5, 2, 0, 0, 0, 0) from rfl))
theorem u111_126 : wp r 111 126 ls (vI z :: st) x Q ↔ if 0 ≤ z then wp r 111 137 ls st x Q else wp r 111 129 ls st x Q := (wp_u (show cd 111 126 = some (.ifCond .ge 11, 3, 137, 0, 0, 0) from rfl)).trans wq_d
theorem u111_129 : wp r 111 129 [vR o, a1, a2, a3, a4, a5, a6] st x Q ↔ wp r 111 130 [vR o, a1, a2, a3, a4, a5, a6] (vR o :: st) x Q := (wp_u (show cd 111 129 = some (.aload_n 0, 1, 0, 0, 0, 0) from rfl))
theorem u111_130 : wp r 111 130 ls (vA q :: st) x Q ↔ sbk 9 (hK x q) ∧ wp r 111 133 ls (vR (hR x q 37) :: st) x Q := (wp_u (show cd 111 130 = some (.getfield 75, 3, 9, 37, 5, 0) from rfl)).trans g_getR
theorem u111_133 : wp r 111 133 [a0, vI z, a2, a3, a4, a5, a6] st x Q ↔ wp r 111 134 [a0, vI z, a2, a3, a4, a5, a6] (vI z :: st) x Q := (wp_u (show cd 111 133 = some (.iload_n 1, 1, 0, 0, 0, 0) from rfl))
theorem u111_134 : wp r 111 134 ls st x Q ↔ wp r 111 135 ls (vI 3 :: st) x Q := (wp_u (show cd 111 134 = some (.iconst 3, 1, 0, 0, 0, 0) from rfl))
theorem u111_135 : wp r 111 135 ls (vI z :: vI i :: vA q :: st) x Q ↔ ldk 20 (hK x q) i ∧ 4 ≤ q ∧ wp r 111 136 ls st (stI x q i z) Q := (wp_u (show cd 111 135 = some (.iastore, 1, 0, 0, 0, 0) from rfl)).trans g_stI0
theorem u111_136 : wp r 111 136 ls [] x Q ↔ Q (.inl none) x := (wp_u (show cd 111 136 = some (.return_, 1, 0, 0, 0, 0) from rfl))
theorem u111_137 : wp r 111 137 [vR o, a1, a2, a3, a4, a5, a6] st x Q ↔ wp r 111 138 [vR o, a1, a2, a3, a4, a5, a6] (vR o :: st) x Q := (wp_u (show cd 111 137 = some (.aload_n 0, 1, 0, 0, 0, 0) from rfl))
theorem u111_138 : wp r 111 138 ls st x Q ↔ wp r 111 139 ls (vI 0 :: st) x Q := (wp_u (show cd 111 138 = some (.iconst 0, 1, 0, 0, 0, 0) from rfl))
theorem u111_139 : wp r 111 139 ls (vI z :: vA q :: st) x Q ↔ sbk 9 (hK x q) ∧ wp r 111 142 ls st (stI x q 45 z) Q := (wp_u (show cd 111 139 = some (.putfield 215, 3, 9, 45, 0, 0) from rfl)).trans g_putI0
theorem u111_142 : wp r 111 142 [vR o, a1, a2, a3, a4, a5, a6] st x Q ↔ wp r 111 143 [vR o, a1, a2, a3, a4, a5, a6] (vR o :: st) x Q := (wp_u (show cd 111 142 = some (.aload_n 0, 1, 0, 0, 0, 0) from rfl))
theorem u111_143 : wp r 111 143 ls st x Q ↔ wp r 111 144 ls (vI 0 :: st) x Q := (wp_u (show cd 111 143 = some (.iconst 0, 1, 0, 0, 0, 0) from rfl))
theorem u111_144 : wp r 111 144 ls (vI z :: vA q :: st) x Q ↔ sbk 9 (hK x q) ∧ wp r 111 147 ls st (stI x q 44 z) Q := (wp_u (show cd 111 144 = some (.putfield 221, 3, 9, 44, 0, 0) from rfl)).trans g_putI0
theorem u111_147 : wp r 111 147 [vR o, a1, a2, a3, a4, a5, a6] st x Q ↔ wp r 111 148 [vR o, a1, a2, a3, a4, a5, a6] (vR o :: st) x Q := (wp_u (show cd 111 147 = some (.aload_n 0, 1, 0, 0, 0, 0) from rfl))
theorem u111_148 : wp r 111 148 [vR o, a1, a2, a3, a4, a5, a6] st x Q ↔ wp r 111 149 [vR o, a1, a2, a3, a4, a5, a6] (vR o :: st) x Q := (wp_u (show cd 111 148 = some (.aload_n 0, 1, 0, 0, 0, 0) from rfl))
theorem u111_149 : wp r 111 149 [a0, a1, a2, a3, a4, vI z, a6] st x Q ↔ wp r 111 151 [a0, a1, a2, a3, a4, vI z, a6] (vI z :: st) x Q := (wp_u (show cd 111 149 = some (.iload 5, 2, 0, 0, 0, 0) from rfl))
theorem u111_151 : wp r 111 151 ls st x Q ↔ wp r 111 152 ls (vI (-1) :: st) x Q := (wp_u (show cd 111 151 = some (.iconst (-1), 1, 0, 0, 0, 0) from rfl))
theorem u111_152 : wp r 111 152 ls st x Q ↔ wp r 111 153 ls (vI (-1) :: st) x Q := (wp_u (show cd 111 152 = some (.iconst (-1), 1, 0, 0, 0, 0) from rfl))
theorem u111_153 : wp r 111 153 ls (vI z2 :: vI z1 :: vI z0 :: vA q :: st) x Q ↔ isk 9 (hK x q) ∧ sml st = true ∧ 1 < r ∧ wpc 1 117 [vA q, vI z0, vI z1, vI z2] x (wk r 111 153 ls st Q) := (wp_u (show cd 111 153 = some (.invokevirtual 118, 3, 117, 4, 1, 9) from rfl)).trans (g_virt rfl (by decide) (by simp) rfl)
theorem u111_156 : wp r 111 156 ls (vI z :: vA q :: st) x Q ↔ sbk 9 (hK x q) ∧ wp r 111 159 ls st (stI x q 43 z) Q := (wp_u (show cd 111 156 = some (.putfield 218, 3, 9, 43, 0, 0) from rfl)).trans g_putI0
theorem u111_159 : wp r 111 159 [a0, a1, vI z, a3, a4, a5, a6] st x Q ↔ wp r 111 160 [a0, a1, vI z, a3, a4, a5, a6] (vI z :: st) x Q := (wp_u (show cd 111 159 = some (.iload_n 2, 1, 0, 0, 0, 0) from rfl))
theorem u111_160 : wp r 111 160 ls st x Q ↔ wp r 111 161 ls (vI 1 :: st) x Q := (wp_u (show cd 111 160 = some (.iconst 1, 1, 0, 0, 0, 0) from rfl))
theorem u111_161 : wp r 111 161 ls (vI w :: vI z :: st) x Q ↔ inI (z + w) = true ∧ wp r 111 162 ls (vI (z + w) :: st) x Q := (wp_u (show cd 111 161 = some (.iadd, 1, 0, 0, 0, 0) from rfl)).trans wq_if
theorem u111_162 : wp r 111 162 [a0, a1, a2, a3, a4, a5, a6] (vI z :: st) x Q ↔ wp r 111 164 [a0, a1, a2, a3, a4, a5, vI z] st x Q := (wp_u (show cd 111 162 = some (.istore 6, 2, 0, 0, 0, 0) from rfl))
theorem u111_164 : wp r 111 164 [a0, a1, a2, a3, a4, a5, vI z] st x Q ↔ wp r 111 166 [a0, a1, a2, a3, a4, a5, vI z] (vI z :: st) x Q := (wp_u (show cd 111 164 = some (.iload 6, 2, 0, 0, 0, 0) from rfl))
theorem u111_166 : wp r 111 166 [a0, a1, a2, vI z, a4, a5, a6] st x Q ↔ wp r 111 167 [a0, a1, a2, vI z, a4, a5, a6] (vI z :: st) x Q := (wp_u (show cd 111 166 = some (.iload_n 3, 1, 0, 0, 0, 0) from rfl))
theorem u111_167 : wp r 111 167 ls (vI w :: vI z :: st) x Q ↔ if w ≤ z then wp r 111 213 ls st x Q else wp r 111 170 ls st x Q := (wp_u (show cd 111 167 = some (.if_icmp .ge 46, 3, 213, 0, 0, 0) from rfl)).trans wq_d
theorem u111_170 : wp r 111 170 [vR o, a1, a2, a3, a4, a5, a6] st x Q ↔ wp r 111 171 [vR o, a1, a2, a3, a4, a5, a6] (vR o :: st) x Q := (wp_u (show cd 111 170 = some (.aload_n 0, 1, 0, 0, 0, 0) from rfl))
theorem u111_171 : wp r 111 171 ls (vA q :: st) x Q ↔ sbk 9 (hK x q) ∧ wp r 111 174 ls (vR (hR x q 37) :: st) x Q := (wp_u (show cd 111 171 = some (.getfield 75, 3, 9, 37, 5, 0) from rfl)).trans g_getR
theorem u111_174 : wp r 111 174 [a0, vI z, a2, a3, a4, a5, a6] st x Q ↔ wp r 111 175 [a0, vI z, a2, a3, a4, a5, a6] (vI z :: st) x Q := (wp_u (show cd 111 174 = some (.iload_n 1, 1, 0, 0, 0, 0) from rfl))
theorem u111_175 : wp r 111 175 [vR o, a1, a2, a3, a4, a5, a6] st x Q ↔ wp r 111 176 [vR o, a1, a2, a3, a4, a5, a6] (vR o :: st) x Q := (wp_u (show cd 111 175 = some (.aload_n 0, 1, 0, 0, 0, 0) from rfl))
theorem u111_176 : wp r 111 176 [a0, a1, a2, a3, a4, vI z, a6] st x Q ↔ wp r 111 178 [a0, a1, a2, a3, a4, vI z, a6] (vI z :: st) x Q := (wp_u (show cd 111 176 = some (.iload 5, 2, 0, 0, 0, 0) from rfl))
theorem u111_178 : wp r 111 178 [vR o, a1, a2, a3, a4, a5, a6] st x Q ↔ wp r 111 179 [vR o, a1, a2, a3, a4, a5, a6] (vR o :: st) x Q := (wp_u (show cd 111 178 = some (.aload_n 0, 1, 0, 0, 0, 0) from rfl))
theorem u111_179 : wp r 111 179 ls (vA q :: st) x Q ↔ sbk 9 (hK x q) ∧ wp r 111 182 ls (vR (hR x q 25) :: st) x Q := (wp_u (show cd 111 179 = some (.getfield 51, 3, 9, 25, 5, 0) from rfl)).trans g_getR
theorem u111_182 : wp r 111 182 [a0, a1, a2, a3, a4, a5, vI z] st x Q ↔ wp r 111 184 [a0, a1, a2, a3, a4, a5, vI z] (vI z :: st) x Q := (wp_u (show cd 111 182 = some (.iload 6, 2, 0, 0, 0, 0) from rfl))
theorem u111_184 : wp r 111 184 ls (vI i :: vA q :: st) x Q ↔ ldk 20 (hK x q) i ∧ wp r 111 185 ls (vI (hI x q i) :: st) x Q := (wp_u (show cd 111 184 = some (.iaload, 1, 0, 0, 0, 0) from rfl)).trans g_ldI
theorem u111_185 : wp r 111 185 ls (vI z1 :: vI z0 :: vA q :: st) x Q ↔ isk 9 (hK x q) ∧ sml st = true ∧ 3 < r ∧ wpc 3 123 [vA q, vI z0, vI z1] x (wk r 111 185 ls st Q) := (wp_u (show cd 111 185 = some (.invokevirtual 237, 3, 123, 3, 3, 9) from rfl)).trans (g_virt rfl (by decide) (by simp) rfl)
theorem u111_188 : wp r 111 188 ls (vI z :: vI i :: vA q :: st) x Q ↔ ldk 20 (hK x q) i ∧ 4 ≤ q ∧ wp r 111 189 ls st (stI x q i z) Q := (wp_u (show cd 111 188 = some (.iastore, 1, 0, 0, 0, 0) from rfl)).trans g_stI0
theorem u111_189 : wp r 111 189 [vR o, a1, a2, a3, a4, a5, a6] st x Q ↔ wp r 111 190 [vR o, a1, a2, a3, a4, a5, a6] (vR o :: st) x Q := (wp_u (show cd 111 189 = some (.aload_n 0, 1, 0, 0, 0, 0) from rfl))
theorem u111_190 : wp r 111 190 ls (vA q :: st) x Q ↔ sbk 9 (hK x q) ∧ wp r 111 193 ls (vR (hR x q 38) :: st) x Q := (wp_u (show cd 111 190 = some (.getfield 78, 3, 9, 38, 5, 0) from rfl)).trans g_getR
theorem u111_193 : wp r 111 193 [a0, vI z, a2, a3, a4, a5, a6] st x Q ↔ wp r 111 194 [a0, vI z, a2, a3, a4, a5, a6] (vI z :: st) x Q := (wp_u (show cd 111 193 = some (.iload_n 1, 1, 0, 0, 0, 0) from rfl))
theorem u111_194 : wp r 111 194 [a0, a1, a2, a3, a4, a5, vI z] st x Q ↔ wp r 111 196 [a0, a1, a2, a3, a4, a5, vI z] (vI z :: st) x Q := (wp_u (show cd 111 194 = some (.iload 6, 2, 0, 0, 0, 0) from rfl))
theorem u111_196 : wp r 111 196 ls (vI z :: vI i :: vA q :: st) x Q ↔ ldk 20 (hK x q) i ∧ 4 ≤ q ∧ wp r 111 197 ls st (stI x q i z) Q := (wp_u (show cd 111 196 = some (.iastore, 1, 0, 0, 0, 0) from rfl)).trans g_stI0
theorem u111_197 : wp r 111 197 [vR o, a1, a2, a3, a4, a5, a6] st x Q ↔ wp r 111 198 [vR o, a1, a2, a3, a4, a5, a6] (vR o :: st) x Q := (wp_u (show cd 111 197 = some (.aload_n 0, 1, 0, 0, 0, 0) from rfl))
theorem u111_198 : wp r 111 198 ls (vA q :: st) x Q ↔ sbk 9 (hK x q) ∧ wp r 111 201 ls (vR (hR x q 37) :: st) x Q := (wp_u (show cd 111 198 = some (.getfield 75, 3, 9, 37, 5, 0) from rfl)).trans g_getR
theorem u111_201 : wp r 111 201 [a0, vI z, a2, a3, a4, a5, a6] st x Q ↔ wp r 111 202 [a0, vI z, a2, a3, a4, a5, a6] (vI z :: st) x Q := (wp_u (show cd 111 201 = some (.iload_n 1, 1, 0, 0, 0, 0) from rfl))
theorem u111_202 : wp r 111 202 ls (vI i :: vA q :: st) x Q ↔ ldk 20 (hK x q) i ∧ wp r 111 203 ls (vI (hI x q i) :: st) x Q := (wp_u (show cd 111 202 = some (.iaload, 1, 0, 0, 0, 0) from rfl)).trans g_ldI
theorem u111_203 : wp r 111 203 ls (vI z :: st) x Q ↔ if z ≤ 0 then wp r 111 207 ls st x Q else wp r 111 206 ls st x Q := (wp_u (show cd 111 203 = some (.ifCond .le 4, 3, 207, 0, 0, 0) from rfl)).trans wq_d
theorem u111_206 : wp r 111 206 ls [] x Q ↔ Q (.inl none) x := (wp_u (show cd 111 206 = some (.return_, 1, 0, 0, 0, 0) from rfl))
theorem u111_207 : wp r 111 207 [a0, a1, a2, a3, a4, a5, vI z] st x Q ↔ inI (z + 1) = true ∧ wp r 111 210 [a0, a1, a2, a3, a4, a5, vI (z + 1)] st x Q := (wp_u (show cd 111 207 = some (.iinc 6 1, 3, 0, 0, 0, 0) from rfl)).trans wq_if
theorem u111_210 : wp r 111 210 ls st x Q ↔ wp r 111 164 ls st x Q := (wp_u (show cd 111 210 = some (.goto (-46), 3, 164, 0, 0, 0) from rfl))
theorem u111_213 : wp r 111 213 [vR o, a1, a2, a3, a4, a5, a6] st x Q ↔ wp r 111 214 [vR o, a1, a2, a3, a4, a5, a6] (vR o :: st) x Q := (wp_u (show cd 111 213 = some (.aload_n 0, 1, 0, 0, 0, 0) from rfl))
theorem u111_214 : wp r 111 214 [a0, a1, a2, a3, a4, vI z, a6] st x Q ↔ wp r 111 216 [a0, a1, a2, a3, a4, vI z, a6] (vI z :: st) x Q := (wp_u (show cd 111 214 = some (.iload 5, 2, 0, 0, 0, 0) from rfl))
theorem u111_216 : wp r 111 216 ls (vI z0 :: vA q :: st) x Q ↔ isk 9 (hK x q) ∧ sml st = true ∧ 3 < r ∧ wpc 3 124 [vA q, vI z0] x (wk r 111 216 ls st Q) := (wp_u (show cd 111 216 = some (.invokevirtual 240, 3, 124, 2, 3, 9) from rfl)).trans (g_virt rfl (by decide) (by simp) rfl)
theorem u111_219 : wp r 111 219 [a0, a1, a2, a3, a4, a5, a6] (vI z :: st) x Q ↔ wp r 111 221 [a0, a1, a2, a3, a4, a5, vI z] st x Q := (wp_u (show cd 111 219 = some (.istore 6, 2, 0, 0, 0, 0) from rfl))
theorem u111_221 : wp r 111 221 [vR o, a1, a2, a3, a4, a5, a6] st x Q ↔ wp r 111 222 [vR o, a1, a2, a3, a4, a5, a6] (vR o :: st) x Q := (wp_u (show cd 111 221 = some (.aload_n 0, 1, 0, 0, 0, 0) from rfl))
theorem u111_222 : wp r 111 222 ls (vA q :: st) x Q ↔ sbk 9 (hK x q) ∧ wp r 111 225 ls (vR (hR x q 37) :: st) x Q := (wp_u (show cd 111 222 = some (.getfield 75, 3, 9, 37, 5, 0) from rfl)).trans g_getR
theorem u111_225 : wp r 111 225 [a0, vI z, a2, a3, a4, a5, a6] st x Q ↔ wp r 111 226 [a0, vI z, a2, a3, a4, a5, a6] (vI z :: st) x Q := (wp_u (show cd 111 225 = some (.iload_n 1, 1, 0, 0, 0, 0) from rfl))
theorem u111_226 : wp r 111 226 [a0, a1, a2, a3, a4, a5, vI z] st x Q ↔ wp r 111 228 [a0, a1, a2, a3, a4, a5, vI z] (vI z :: st) x Q := (wp_u (show cd 111 226 = some (.iload 6, 2, 0, 0, 0, 0) from rfl))
theorem u111_228 : wp r 111 228 ls (vI z :: st) x Q ↔ if z = 0 then wp r 111 235 ls st x Q else wp r 111 231 ls st x Q := (wp_u (show cd 111 228 = some (.ifCond .eq 7, 3, 235, 0, 0, 0) from rfl)).trans wq_d
theorem u111_231 : wp r 111 231 ls st x Q ↔ wp r 111 232 ls (vI 5 :: st) x Q := (wp_u (show cd 111 231 = some (.iconst 5, 1, 0, 0, 0, 0) from rfl))
theorem u111_232 : wp r 111 232 ls st x Q ↔ wp r 111 236 ls st x Q := (wp_u (show cd 111 232 = some (.goto 4, 3, 236, 0, 0, 0) from rfl))
theorem u111_235 : wp r 111 235 ls st x Q ↔ wp r 111 236 ls (vI 0 :: st) x Q := (wp_u (show cd 111 235 = some (.iconst 0, 1, 0, 0, 0, 0) from rfl))
theorem u111_236 : wp r 111 236 ls (vI z :: vI i :: vA q :: st) x Q ↔ ldk 20 (hK x q) i ∧ 4 ≤ q ∧ wp r 111 237 ls st (stI x q i z) Q := (wp_u (show cd 111 236 = some (.iastore, 1, 0, 0, 0, 0) from rfl)).trans g_stI0
theorem u111_237 : wp r 111 237 [vR o, a1, a2, a3, a4, a5, a6] st x Q ↔ wp r 111 238 [vR o, a1, a2, a3, a4, a5, a6] (vR o :: st) x Q := (wp_u (show cd 111 237 = some (.aload_n 0, 1, 0, 0, 0, 0) from rfl))
theorem u111_238 : wp r 111 238 ls (vA q :: st) x Q ↔ sbk 9 (hK x q) ∧ wp r 111 241 ls (vR (hR x q 38) :: st) x Q := (wp_u (show cd 111 238 = some (.getfield 78, 3, 9, 38, 5, 0) from rfl)).trans g_getR
theorem u111_241 : wp r 111 241 [a0, vI z, a2, a3, a4, a5, a6] st x Q ↔ wp r 111 242 [a0, vI z, a2, a3, a4, a5, a6] (vI z :: st) x Q := (wp_u (show cd 111 241 = some (.iload_n 1, 1, 0, 0, 0, 0) from rfl))
theorem u111_242 : wp r 111 242 [a0, a1, a2, a3, a4, a5, vI z] st x Q ↔ wp r 111 244 [a0, a1, a2, a3, a4, a5, vI z] (vI z :: st) x Q := (wp_u (show cd 111 242 = some (.iload 6, 2, 0, 0, 0, 0) from rfl))
theorem u111_244 : wp r 111 244 ls (vI z :: st) x Q ↔ if z = 0 then wp r 111 251 ls st x Q else wp r 111 247 ls st x Q := (wp_u (show cd 111 244 = some (.ifCond .eq 7, 3, 251, 0, 0, 0) from rfl)).trans wq_d
theorem u111_247 : wp r 111 247 [a0, a1, a2, vI z, a4, a5, a6] st x Q ↔ wp r 111 248 [a0, a1, a2, vI z, a4, a5, a6] (vI z :: st) x Q := (wp_u (show cd 111 247 = some (.iload_n 3, 1, 0, 0, 0, 0) from rfl))
theorem u111_248 : wp r 111 248 ls st x Q ↔ wp r 111 252 ls st x Q := (wp_u (show cd 111 248 = some (.goto 4, 3, 252, 0, 0, 0) from rfl))
set_option maxRecDepth 20000 in
theorem u111_251 : wp r 111 251 ls st x Q ↔ wp r 111 252 ls (vI (-1) :: st) x Q := (wp_u (show cd 111 251 = some (.iconst (-1), 1, 0, 0, 0, 0) from rfl))
set_option maxRecDepth 20000 in
theorem u111_252 : wp r 111 252 ls (vI z :: vI i :: vA q :: st) x Q ↔ ldk 20 (hK x q) i ∧ 4 ≤ q ∧ wp r 111 253 ls st (stI x q i z) Q := (wp_u (show cd 111 252 = some (.iastore, 1, 0, 0, 0, 0) from rfl)).trans g_stI0
set_option maxRecDepth 20000 in
theorem u111_253 : wp r 111 253 ls [] x Q ↔ Q (.inl none) x := (wp_u (show cd 111 253 = some (.return_, 1, 0, 0, 0, 0) from rfl))
theorem e111 : wpc r 111 [vA q, vI z0] x Q ↔ wp r 111 0 [vA q, vI z0, vL jk, vL jk, vL jk, vL jk, vL jk] [] x Q := Iff.rfl
end
