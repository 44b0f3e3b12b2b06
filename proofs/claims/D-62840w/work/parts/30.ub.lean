/-! rules of instructions, printed by gen/gen05.py -/
section
variable {r q p d s : Nat} {a0 a1 a2 a3 a4 a5 a6 a7 a8 b0 b1 b2 b3 b4 b5 b6 : AV} {ls st : List AV} {x : HP} {Q : AO → HP → Prop} {z w i n sp dp z0 z1 z2 z3 z4 z5 : Int} {o o0 o1 o2 o3 o4 o5 : Option Nat}
/-! 13 D_init -/
theorem u13_0 : wp r 13 0 [vR o, a1] st x Q ↔ wp r 13 1 [vR o, a1] (vR o :: st) x Q := (wp_u (show cd 13 0 = some (.aload_n 0, 1, 0, 0, 0, 0) from rfl))
theorem u13_1 : wp r 13 1 ls (vA q :: st) x Q ↔ nnk (hK x q) ∧ sml st = true ∧ wp r 13 4 ls st x Q := (wp_u (show cd 13 1 = some (.invokespecial 9, 3, 1000, 1, 0, 0) from rfl)).trans (g_obj rfl)
theorem u13_4 : wp r 13 4 [vR o, a1] st x Q ↔ wp r 13 5 [vR o, a1] (vR o :: st) x Q := (wp_u (show cd 13 4 = some (.aload_n 0, 1, 0, 0, 0, 0) from rfl))
theorem u13_5 : wp r 13 5 ls st x Q ↔ nok x 7 ∧ wp r 13 8 ls (vA (hN x) :: st) (nwO x 1 7) Q := (wp_u (show cd 13 5 = some (.new 15, 3, 1, 7, 0, 0) from rfl)).trans g_new
theorem u13_8i : wp r 13 8 ls (vI z :: st) x Q ↔ wp r 13 9 ls (vI z :: vI z :: st) x Q := (wp_u (show cd 13 8 = some (.dup, 1, 0, 0, 0, 0) from rfl))
theorem u13_8 : wp r 13 8 ls (vR o :: st) x Q ↔ wp r 13 9 ls (vR o :: vR o :: st) x Q := (wp_u (show cd 13 8 = some (.dup, 1, 0, 0, 0, 0) from rfl))
theorem u13_9 : wp r 13 9 ls (vA q :: st) x Q ↔ nnk (hK x q) ∧ sml st = true ∧ 1 < r ∧ wpc 1 18 [vA q] x (wk r 13 9 ls st Q) := (wp_u (show cd 13 9 = some (.invokespecial 17, 3, 18, 1, 1, 0) from rfl)).trans (g_special rfl (by decide) (by simp) rfl)
theorem u13_12 : wp r 13 12 ls (vR o :: vA q :: st) x Q ↔ sbk 0 (hK x q) ∧ wp r 13 15 ls st (stR x q 0 o) Q := (wp_u (show cd 13 12 = some (.putfield 18, 3, 0, 0, 5, 0) from rfl)).trans g_putR
theorem u13_15 : wp r 13 15 [vR o, a1] st x Q ↔ wp r 13 16 [vR o, a1] (vR o :: st) x Q := (wp_u (show cd 13 15 = some (.aload_n 0, 1, 0, 0, 0, 0) from rfl))
theorem u13_16 : wp r 13 16 ls st x Q ↔ nok x 22 ∧ wp r 13 19 ls (vA (hN x) :: st) (nwO x 2 22) Q := (wp_u (show cd 13 16 = some (.new 22, 3, 2, 22, 0, 0) from rfl)).trans g_new
theorem u13_19i : wp r 13 19 ls (vI z :: st) x Q ↔ wp r 13 20 ls (vI z :: vI z :: st) x Q := (wp_u (show cd 13 19 = some (.dup, 1, 0, 0, 0, 0) from rfl))
theorem u13_19 : wp r 13 19 ls (vR o :: st) x Q ↔ wp r 13 20 ls (vR o :: vR o :: st) x Q := (wp_u (show cd 13 19 = some (.dup, 1, 0, 0, 0, 0) from rfl))
theorem u13_20 : wp r 13 20 ls (vA q :: st) x Q ↔ nnk (hK x q) ∧ sml st = true ∧ 3 < r ∧ wpc 3 19 [vA q] x (wk r 13 20 ls st Q) := (wp_u (show cd 13 20 = some (.invokespecial 24, 3, 19, 1, 3, 0) from rfl)).trans (g_special rfl (by decide) (by simp) rfl)
theorem u13_23 : wp r 13 23 ls (vR o :: vA q :: st) x Q ↔ sbk 0 (hK x q) ∧ wp r 13 26 ls st (stR x q 1 o) Q := (wp_u (show cd 13 23 = some (.putfield 25, 3, 0, 1, 5, 0) from rfl)).trans g_putR
theorem u13_26 : wp r 13 26 [vR o, a1] st x Q ↔ wp r 13 27 [vR o, a1] (vR o :: st) x Q := (wp_u (show cd 13 26 = some (.aload_n 0, 1, 0, 0, 0, 0) from rfl))
theorem u13_27 : wp r 13 27 ls st x Q ↔ nok x 22 ∧ wp r 13 30 ls (vA (hN x) :: st) (nwO x 2 22) Q := (wp_u (show cd 13 27 = some (.new 22, 3, 2, 22, 0, 0) from rfl)).trans g_new
theorem u13_30i : wp r 13 30 ls (vI z :: st) x Q ↔ wp r 13 31 ls (vI z :: vI z :: st) x Q := (wp_u (show cd 13 30 = some (.dup, 1, 0, 0, 0, 0) from rfl))
theorem u13_30 : wp r 13 30 ls (vR o :: st) x Q ↔ wp r 13 31 ls (vR o :: vR o :: st) x Q := (wp_u (show cd 13 30 = some (.dup, 1, 0, 0, 0, 0) from rfl))
theorem u13_31 : wp r 13 31 ls (vA q :: st) x Q ↔ nnk (hK x q) ∧ sml st = true ∧ 3 < r ∧ wpc 3 19 [vA q] x (wk r 13 31 ls st Q) := (wp_u (show cd 13 31 = some (.invokespecial 24, 3, 19, 1, 3, 0) from rfl)).trans (g_special rfl (by decide) (by simp) rfl)
theorem u13_34 : wp r 13 34 ls (vR o :: vA q :: st) x Q ↔ sbk 0 (hK x q) ∧ wp r 13 37 ls st (stR x q 2 o) Q := (wp_u (show cd 13 34 = some (.putfield 29, 3, 0, 2, 5, 0) from rfl)).trans g_putR
theorem u13_37 : wp r 13 37 [vR o, a1] st x Q ↔ wp r 13 38 [vR o, a1] (vR o :: st) x Q := (wp_u (show cd 13 37 = some (.aload_n 0, 1, 0, 0, 0, 0) from rfl))
theorem u13_38 : wp r 13 38 ls st x Q ↔ wp r 13 39 ls (vI (-1) :: st) x Q := (wp_u (show cd 13 38 = some (.iconst (-1), 1, 0, 0, 0, 0) from rfl))
theorem u13_39 : wp r 13 39 ls (vI z :: vA q :: st) x Q ↔ sbk 0 (hK x q) ∧ wp r 13 42 ls st (stI x q 4 z) Q := (wp_u (show cd 13 39 = some (.putfield 32, 3, 0, 4, 0, 0) from rfl)).trans g_putI0
theorem u13_42 : wp r 13 42 [vR o, a1] st x Q ↔ wp r 13 43 [vR o, a1] (vR o :: st) x Q := (wp_u (show cd 13 42 = some (.aload_n 0, 1, 0, 0, 0, 0) from rfl))
theorem u13_43 : wp r 13 43 ls st x Q ↔ wp r 13 44 ls (vI 4 :: st) x Q := (wp_u (show cd 13 43 = some (.iconst 4, 1, 0, 0, 0, 0) from rfl))
theorem u13_44 : wp r 13 44 ls (vI z :: st) x Q ↔ (0 ≤ z ∧ z ≤ 100000) ∧ nok x z.toNat ∧ wp r 13 47 ls (vA (hN x) :: st) (nwO x 27 z.toNat) Q := (wp_u (show cd 13 44 = some (.anewarray 36, 3, 27, 0, 0, 0) from rfl)).trans g_newA
theorem u13_47 : wp r 13 47 ls (vR o :: vA q :: st) x Q ↔ sbk 0 (hK x q) ∧ wp r 13 50 ls st (stR x q 5 o) Q := (wp_u (show cd 13 47 = some (.putfield 38, 3, 0, 5, 5, 0) from rfl)).trans g_putR
theorem u13_50 : wp r 13 50 [vR o, a1] st x Q ↔ wp r 13 51 [vR o, a1] (vR o :: st) x Q := (wp_u (show cd 13 50 = some (.aload_n 0, 1, 0, 0, 0, 0) from rfl))
theorem u13_51 : wp r 13 51 ls st x Q ↔ nok x 5 ∧ wp r 13 54 ls (vA (hN x) :: st) (nwO x 8 5) Q := (wp_u (show cd 13 51 = some (.new 42, 3, 8, 5, 0, 0) from rfl)).trans g_new
theorem u13_54i : wp r 13 54 ls (vI z :: st) x Q ↔ wp r 13 55 ls (vI z :: vI z :: st) x Q := (wp_u (show cd 13 54 = some (.dup, 1, 0, 0, 0, 0) from rfl))
theorem u13_54 : wp r 13 54 ls (vR o :: st) x Q ↔ wp r 13 55 ls (vR o :: vR o :: st) x Q := (wp_u (show cd 13 54 = some (.dup, 1, 0, 0, 0, 0) from rfl))
theorem u13_55 : wp r 13 55 ls (vA q :: st) x Q ↔ nnk (hK x q) ∧ sml st = true ∧ 1 < r ∧ wpc 1 20 [vA q] x (wk r 13 55 ls st Q) := (wp_u (show cd 13 55 = some (.invokespecial 44, 3, 20, 1, 1, 0) from rfl)).trans (g_special rfl (by decide) (by simp) rfl)
theorem u13_58 : wp r 13 58 ls (vR o :: vA q :: st) x Q ↔ sbk 0 (hK x q) ∧ wp r 13 61 ls st (stR x q 6 o) Q := (wp_u (show cd 13 58 = some (.putfield 45, 3, 0, 6, 5, 0) from rfl)).trans g_putR
theorem u13_61 : wp r 13 61 ls st x Q ↔ wp r 13 62 ls (vI 0 :: st) x Q := (wp_u (show cd 13 61 = some (.iconst 0, 1, 0, 0, 0, 0) from rfl))
theorem u13_62 : wp r 13 62 [a0, a1] (vI z :: st) x Q ↔ wp r 13 63 [a0, vI z] st x Q := (wp_u (show cd 13 62 = some (.istore_n 1, 1, 0, 0, 0, 0) from rfl))
theorem u13_63 : wp r 13 63 [a0, vI z] st x Q ↔ wp r 13 64 [a0, vI z] (vI z :: st) x Q := (wp_u (show cd 13 63 = some (.iload_n 1, 1, 0, 0, 0, 0) from rfl))
theorem u13_64 : wp r 13 64 ls st x Q ↔ wp r 13 65 ls (vI 4 :: st) x Q := (wp_u (show cd 13 64 = some (.iconst 4, 1, 0, 0, 0, 0) from rfl))
theorem u13_65 : wp r 13 65 ls (vI w :: vI z :: st) x Q ↔ if w ≤ z then wp r 13 87 ls st x Q else wp r 13 68 ls st x Q := (wp_u (show cd 13 65 = some (.if_icmp .ge 22, 3, 87, 0, 0, 0) from rfl)).trans wq_d
theorem u13_68 : wp r 13 68 [vR o, a1] st x Q ↔ wp r 13 69 [vR o, a1] (vR o :: st) x Q := (wp_u (show cd 13 68 = some (.aload_n 0, 1, 0, 0, 0, 0) from rfl))
theorem u13_69 : wp r 13 69 ls (vA q :: st) x Q ↔ sbk 0 (hK x q) ∧ wp r 13 72 ls (vR (hR x q 5) :: st) x Q := (wp_u (show cd 13 69 = some (.getfield 38, 3, 0, 5, 5, 0) from rfl)).trans g_getR
theorem u13_72 : wp r 13 72 [a0, vI z] st x Q ↔ wp r 13 73 [a0, vI z] (vI z :: st) x Q := (wp_u (show cd 13 72 = some (.iload_n 1, 1, 0, 0, 0, 0) from rfl))
theorem u13_73 : wp r 13 73 ls st x Q ↔ nok x 4 ∧ wp r 13 76 ls (vA (hN x) :: st) (nwO x 7 4) Q := (wp_u (show cd 13 73 = some (.new 36, 3, 7, 4, 0, 0) from rfl)).trans g_new
theorem u13_76i : wp r 13 76 ls (vI z :: st) x Q ↔ wp r 13 77 ls (vI z :: vI z :: st) x Q := (wp_u (show cd 13 76 = some (.dup, 1, 0, 0, 0, 0) from rfl))
theorem u13_76 : wp r 13 76 ls (vR o :: st) x Q ↔ wp r 13 77 ls (vR o :: vR o :: st) x Q := (wp_u (show cd 13 76 = some (.dup, 1, 0, 0, 0, 0) from rfl))
theorem u13_77 : wp r 13 77 ls (vA q :: st) x Q ↔ nnk (hK x q) ∧ sml st = true ∧ 3 < r ∧ wpc 3 21 [vA q] x (wk r 13 77 ls st Q) := (wp_u (show cd 13 77 = some (.invokespecial 49, 3, 21, 1, 3, 0) from rfl)).trans (g_special rfl (by decide) (by simp) rfl)
theorem u13_80 : wp r 13 80 ls (vA p :: vI i :: vA q :: st) x Q ↔ str (hK x q) (hK x p) i ∧ 4 ≤ q ∧ wp r 13 81 ls st (stR x q i (some p)) Q := (wp_u (show cd 13 80 = some (.aastore, 1, 0, 0, 0, 0) from rfl)).trans g_stR
theorem u13_81 : wp r 13 81 [a0, vI z] st x Q ↔ inI (z + 1) = true ∧ wp r 13 84 [a0, vI (z + 1)] st x Q := (wp_u (show cd 13 81 = some (.iinc 1 1, 3, 0, 0, 0, 0) from rfl)).trans wq_if
theorem u13_84 : wp r 13 84 ls st x Q ↔ wp r 13 63 ls st x Q := (wp_u (show cd 13 84 = some (.goto (-21), 3, 63, 0, 0, 0) from rfl))
theorem u13_87 : wp r 13 87 ls [] x Q ↔ Q (.inl none) x := (wp_u (show cd 13 87 = some (.return_, 1, 0, 0, 0, 0) from rfl))
theorem e13 : wpc r 13 [vA q] x Q ↔ wp r 13 0 [vA q, vL jk] [] x Q := Iff.rfl
/-! 14 D_type -/
theorem u14_0 : wp r 14 0 [vR o, a1, a2, a3, a4, a5] st x Q ↔ wp r 14 1 [vR o, a1, a2, a3, a4, a5] (vR o :: st) x Q := (wp_u (show cd 14 0 = some (.aload_n 0, 1, 0, 0, 0, 0) from rfl))
theorem u14_1 : wp r 14 1 ls (vA q :: st) x Q ↔ sbk 0 (hK x q) ∧ wp r 14 4 ls (vR (hR x q 0) :: st) x Q := (wp_u (show cd 14 1 = some (.getfield 18, 3, 0, 0, 5, 0) from rfl)).trans g_getR
theorem u14_4 : wp r 14 4 ls (vA q :: st) x Q ↔ sbk 1 (hK x q) ∧ wp r 14 7 ls (vI (hI x q 1) :: st) x Q := (wp_u (show cd 14 4 = some (.getfield 50, 3, 1, 1, 0, 0) from rfl)).trans g_getI
theorem u14_7 : wp r 14 7 [a0, a1, a2, a3, a4, a5] (vI z :: st) x Q ↔ wp r 14 8 [a0, a1, a2, vI z, a4, a5] st x Q := (wp_u (show cd 14 7 = some (.istore_n 3, 1, 0, 0, 0, 0) from rfl))
theorem u14_8 : wp r 14 8 ls st x Q ↔ wp r 14 10 ls (vI 56 :: st) x Q := (wp_u (show cd 14 8 = some (.bipush 56, 2, 0, 0, 0, 0) from rfl))
theorem u14_10 : wp r 14 10 [a0, a1, a2, a3, a4, a5] (vI z :: st) x Q ↔ wp r 14 12 [a0, a1, a2, a3, vI z, a5] st x Q := (wp_u (show cd 14 10 = some (.istore 4, 2, 0, 0, 0, 0) from rfl))
theorem u14_12 : wp r 14 12 [a0, a1, a2, a3, vI z, a5] st x Q ↔ wp r 14 14 [a0, a1, a2, a3, vI z, a5] (vI z :: st) x Q := (wp_u (show cd 14 12 = some (.iload 4, 2, 0, 0, 0, 0) from rfl))
theorem u14_14 : wp r 14 14 ls (vI z :: st) x Q ↔ if z < 0 then wp r 14 77 ls st x Q else wp r 14 17 ls st x Q := (wp_u (show cd 14 14 = some (.ifCond .lt 63, 3, 77, 0, 0, 0) from rfl)).trans wq_d
theorem u14_17 : wp r 14 17 [a0, vL z, a2, a3, a4, a5] st x Q ↔ inLb z = true ∧ wp r 14 18 [a0, vL z, a2, a3, a4, a5] (vL z :: st) x Q := (wp_u (show cd 14 17 = some (.lload_n 1, 1, 0, 0, 0, 0) from rfl)).trans wq_if
theorem u14_18 : wp r 14 18 [a0, a1, a2, a3, vI z, a5] st x Q ↔ wp r 14 20 [a0, a1, a2, a3, vI z, a5] (vI z :: st) x Q := (wp_u (show cd 14 18 = some (.iload 4, 2, 0, 0, 0, 0) from rfl))
theorem u14_20 : wp r 14 20 ls (vI w :: vL z :: st) x Q ↔ wp r 14 21 ls (vL (lShr z w) :: st) x Q := (wp_u (show cd 14 20 = some (.lshr, 1, 0, 0, 0, 0) from rfl))
theorem u14_21 : wp r 14 21 ls st x Q ↔ wp r 14 24 ls (vL 255 :: st) x Q := (wp_u (show cd 14 21 = some (.ldc2_w 53, 3, 255, 0, 0, 0) from rfl))
theorem u14_24 : wp r 14 24 ls (vL w :: vL z :: st) x Q ↔ wp r 14 25 ls (vL (lAnd z w) :: st) x Q := (wp_u (show cd 14 24 = some (.land, 1, 0, 0, 0, 0) from rfl))
theorem u14_25 : wp r 14 25 ls (vL z :: st) x Q ↔ wp r 14 26 ls (vI (iL2i z) :: st) x Q := (wp_u (show cd 14 25 = some (.l2i, 1, 0, 0, 0, 0) from rfl))
theorem u14_26 : wp r 14 26 ls (vI z :: st) x Q ↔ wp r 14 27 ls (vI (iI2c z) :: st) x Q := (wp_u (show cd 14 26 = some (.i2c, 1, 0, 0, 0, 0) from rfl)).trans (wq_if.trans (and_iff_right (inI_32 _)))
theorem u14_27 : wp r 14 27 [a0, a1, a2, a3, a4, a5] (vI z :: st) x Q ↔ wp r 14 29 [a0, a1, a2, a3, a4, vI z] st x Q := (wp_u (show cd 14 27 = some (.istore 5, 2, 0, 0, 0, 0) from rfl))
theorem u14_29 : wp r 14 29 [a0, a1, a2, a3, a4, vI z] st x Q ↔ wp r 14 31 [a0, a1, a2, a3, a4, vI z] (vI z :: st) x Q := (wp_u (show cd 14 29 = some (.iload 5, 2, 0, 0, 0, 0) from rfl))
theorem u14_31 : wp r 14 31 ls (vI z :: st) x Q ↔ if z = 0 then wp r 14 71 ls st x Q else wp r 14 34 ls st x Q := (wp_u (show cd 14 31 = some (.ifCond .eq 40, 3, 71, 0, 0, 0) from rfl)).trans wq_d
theorem u14_34 : wp r 14 34 [a0, a1, a2, a3, a4, vI z] st x Q ↔ wp r 14 36 [a0, a1, a2, a3, a4, vI z] (vI z :: st) x Q := (wp_u (show cd 14 34 = some (.iload 5, 2, 0, 0, 0, 0) from rfl))
theorem u14_36 : wp r 14 36 ls st x Q ↔ wp r 14 38 ls (vI 32 :: st) x Q := (wp_u (show cd 14 36 = some (.bipush 32, 2, 0, 0, 0, 0) from rfl))
theorem u14_38 : wp r 14 38 ls (vI w :: vI z :: st) x Q ↔ if z < w then wp r 14 55 ls st x Q else wp r 14 41 ls st x Q := (wp_u (show cd 14 38 = some (.if_icmp .lt 17, 3, 55, 0, 0, 0) from rfl)).trans wq_d
theorem u14_41 : wp r 14 41 [a0, a1, a2, a3, a4, vI z] st x Q ↔ wp r 14 43 [a0, a1, a2, a3, a4, vI z] (vI z :: st) x Q := (wp_u (show cd 14 41 = some (.iload 5, 2, 0, 0, 0, 0) from rfl))
theorem u14_43 : wp r 14 43 ls st x Q ↔ wp r 14 45 ls (vI 126 :: st) x Q := (wp_u (show cd 14 43 = some (.bipush 126, 2, 0, 0, 0, 0) from rfl))
theorem u14_45 : wp r 14 45 ls (vI w :: vI z :: st) x Q ↔ if w < z then wp r 14 55 ls st x Q else wp r 14 48 ls st x Q := (wp_u (show cd 14 45 = some (.if_icmp .gt 10, 3, 55, 0, 0, 0) from rfl)).trans wq_d
theorem u14_48 : wp r 14 48 [a0, a1, a2, vI z, a4, a5] st x Q ↔ wp r 14 49 [a0, a1, a2, vI z, a4, a5] (vI z :: st) x Q := (wp_u (show cd 14 48 = some (.iload_n 3, 1, 0, 0, 0, 0) from rfl))
theorem u14_49 : wp r 14 49 ls st x Q ↔ wp r 14 52 ls (vI 400 :: st) x Q := (wp_u (show cd 14 49 = some (.sipush 400, 3, 0, 0, 0, 0) from rfl))
theorem u14_52 : wp r 14 52 ls (vI w :: vI z :: st) x Q ↔ if z < w then wp r 14 57 ls st x Q else wp r 14 55 ls st x Q := (wp_u (show cd 14 52 = some (.if_icmp .lt 5, 3, 57, 0, 0, 0) from rfl)).trans wq_d
theorem u14_55 : wp r 14 55 ls st x Q ↔ wp r 14 56 ls (vI 0 :: st) x Q := (wp_u (show cd 14 55 = some (.iconst 0, 1, 0, 0, 0, 0) from rfl))
theorem u14_56 : wp r 14 56 ls [vI z] x Q ↔ rg 4 z = true ∧ Q (.inl (some (vI z))) x := (wp_u (show cd 14 56 = some (.ireturn, 1, 4, 0, 0, 0) from rfl)).trans wq_if
theorem u14_57 : wp r 14 57 [vR o, a1, a2, a3, a4, a5] st x Q ↔ wp r 14 58 [vR o, a1, a2, a3, a4, a5] (vR o :: st) x Q := (wp_u (show cd 14 57 = some (.aload_n 0, 1, 0, 0, 0, 0) from rfl))
theorem u14_58 : wp r 14 58 ls (vA q :: st) x Q ↔ sbk 0 (hK x q) ∧ wp r 14 61 ls (vR (hR x q 0) :: st) x Q := (wp_u (show cd 14 58 = some (.getfield 18, 3, 0, 0, 5, 0) from rfl)).trans g_getR
theorem u14_61 : wp r 14 61 ls (vA q :: st) x Q ↔ sbk 1 (hK x q) ∧ wp r 14 64 ls (vR (hR x q 0) :: st) x Q := (wp_u (show cd 14 61 = some (.getfield 55, 3, 1, 0, 5, 0) from rfl)).trans g_getR
theorem u14_64 : wp r 14 64 [a0, a1, a2, vI z, a4, a5] st x Q ↔ wp r 14 65 [a0, a1, a2, vI z, a4, a5] (vI z :: st) x Q := (wp_u (show cd 14 64 = some (.iload_n 3, 1, 0, 0, 0, 0) from rfl))
theorem u14_65 : wp r 14 65 [a0, a1, a2, a3, a4, vI z] st x Q ↔ wp r 14 67 [a0, a1, a2, a3, a4, vI z] (vI z :: st) x Q := (wp_u (show cd 14 65 = some (.iload 5, 2, 0, 0, 0, 0) from rfl))
theorem u14_67 : wp r 14 67 ls (vI z :: vI i :: vA q :: st) x Q ↔ ldk 21 (hK x q) i ∧ 4 ≤ q ∧ rg 1 z = true ∧ wp r 14 68 ls st (stI x q i z) Q := (wp_u (show cd 14 67 = some (.castore, 1, 0, 0, 0, 0) from rfl)).trans g_stI
theorem u14_68 : wp r 14 68 [a0, a1, a2, vI z, a4, a5] st x Q ↔ inI (z + 1) = true ∧ wp r 14 71 [a0, a1, a2, vI (z + 1), a4, a5] st x Q := (wp_u (show cd 14 68 = some (.iinc 3 1, 3, 0, 0, 0, 0) from rfl)).trans wq_if
theorem u14_71 : wp r 14 71 [a0, a1, a2, a3, vI z, a5] st x Q ↔ inI (z + (-8)) = true ∧ wp r 14 74 [a0, a1, a2, a3, vI (z + (-8)), a5] st x Q := (wp_u (show cd 14 71 = some (.iinc 4 (-8), 3, 0, 0, 0, 0) from rfl)).trans wq_if
theorem u14_74 : wp r 14 74 ls st x Q ↔ wp r 14 12 ls st x Q := (wp_u (show cd 14 74 = some (.goto (-62), 3, 12, 0, 0, 0) from rfl))
theorem u14_77 : wp r 14 77 [vR o, a1, a2, a3, a4, a5] st x Q ↔ wp r 14 78 [vR o, a1, a2, a3, a4, a5] (vR o :: st) x Q := (wp_u (show cd 14 77 = some (.aload_n 0, 1, 0, 0, 0, 0) from rfl))
theorem u14_78 : wp r 14 78 ls (vA q :: st) x Q ↔ sbk 0 (hK x q) ∧ wp r 14 81 ls (vR (hR x q 0) :: st) x Q := (wp_u (show cd 14 78 = some (.getfield 18, 3, 0, 0, 5, 0) from rfl)).trans g_getR
theorem u14_81 : wp r 14 81 [a0, a1, a2, vI z, a4, a5] st x Q ↔ wp r 14 82 [a0, a1, a2, vI z, a4, a5] (vI z :: st) x Q := (wp_u (show cd 14 81 = some (.iload_n 3, 1, 0, 0, 0, 0) from rfl))
theorem u14_82 : wp r 14 82 ls (vI z :: vA q :: st) x Q ↔ sbk 1 (hK x q) ∧ wp r 14 85 ls st (stI x q 1 z) Q := (wp_u (show cd 14 82 = some (.putfield 50, 3, 1, 1, 0, 0) from rfl)).trans g_putI0
theorem u14_85 : wp r 14 85 ls st x Q ↔ wp r 14 86 ls (vI 1 :: st) x Q := (wp_u (show cd 14 85 = some (.iconst 1, 1, 0, 0, 0, 0) from rfl))
theorem u14_86 : wp r 14 86 ls [vI z] x Q ↔ rg 4 z = true ∧ Q (.inl (some (vI z))) x := (wp_u (show cd 14 86 = some (.ireturn, 1, 4, 0, 0, 0) from rfl)).trans wq_if
theorem e14 : wpc r 14 [vA q, vL z] x Q ↔ wp r 14 0 [vA q, vL z, vL jk, vL jk, vL jk, vL jk] [] x Q := Iff.rfl
/-! 15 D_wipe -/
theorem u15_0 : wp r 15 0 [vR o] st x Q ↔ wp r 15 1 [vR o] (vR o :: st) x Q := (wp_u (show cd 15 0 = some (.aload_n 0, 1, 0, 0, 0, 0) from rfl))
theorem u15_1 : wp r 15 1 ls (vA q :: st) x Q ↔ sbk 0 (hK x q) ∧ wp r 15 4 ls (vR (hR x q 0) :: st) x Q := (wp_u (show cd 15 1 = some (.getfield 18, 3, 0, 0, 5, 0) from rfl)).trans g_getR
theorem u15_4 : wp r 15 4 ls st x Q ↔ wp r 15 5 ls (vI 0 :: st) x Q := (wp_u (show cd 15 4 = some (.iconst 0, 1, 0, 0, 0, 0) from rfl))
theorem u15_5 : wp r 15 5 ls (vI z :: vA q :: st) x Q ↔ sbk 1 (hK x q) ∧ wp r 15 8 ls st (stI x q 1 z) Q := (wp_u (show cd 15 5 = some (.putfield 50, 3, 1, 1, 0, 0) from rfl)).trans g_putI0
theorem u15_8 : wp r 15 8 ls [] x Q ↔ Q (.inl none) x := (wp_u (show cd 15 8 = some (.return_, 1, 0, 0, 0, 0) from rfl))
theorem e15 : wpc r 15 [vA q] x Q ↔ wp r 15 0 [vA q] [] x Q := Iff.rfl
/-! 16 D_length -/
theorem u16_0 : wp r 16 0 [vR o] st x Q ↔ wp r 16 1 [vR o] (vR o :: st) x Q := (wp_u (show cd 16 0 = some (.aload_n 0, 1, 0, 0, 0, 0) from rfl))
theorem u16_1 : wp r 16 1 ls (vA q :: st) x Q ↔ sbk 0 (hK x q) ∧ wp r 16 4 ls (vR (hR x q 0) :: st) x Q := (wp_u (show cd 16 1 = some (.getfield 18, 3, 0, 0, 5, 0) from rfl)).trans g_getR
theorem u16_4 : wp r 16 4 ls (vA q :: st) x Q ↔ sbk 1 (hK x q) ∧ wp r 16 7 ls (vI (hI x q 1) :: st) x Q := (wp_u (show cd 16 4 = some (.getfield 50, 3, 1, 1, 0, 0) from rfl)).trans g_getI
theorem u16_7 : wp r 16 7 ls [vI z] x Q ↔ Q (.inl (some (vI z))) x := (wp_u (show cd 16 7 = some (.ireturn, 1, 0, 0, 0, 0) from rfl))
theorem e16 : wpc r 16 [vA q] x Q ↔ wp r 16 0 [vA q] [] x Q := Iff.rfl
/-! 17 D_fault -/
theorem u17_0 : wp r 17 0 [vR o] st x Q ↔ wp r 17 1 [vR o] (vR o :: st) x Q := (wp_u (show cd 17 0 = some (.aload_n 0, 1, 0, 0, 0, 0) from rfl))
theorem u17_1 : wp r 17 1 ls (vA q :: st) x Q ↔ sbk 0 (hK x q) ∧ wp r 17 4 ls (vI (hI x q 4) :: st) x Q := (wp_u (show cd 17 1 = some (.getfield 32, 3, 0, 4, 0, 0) from rfl)).trans g_getI
theorem u17_4 : wp r 17 4 ls [vI z] x Q ↔ Q (.inl (some (vI z))) x := (wp_u (show cd 17 4 = some (.ireturn, 1, 0, 0, 0, 0) from rfl))
theorem e17 : wpc r 17 [vA q] x Q ↔ wp r 17 0 [vA q] [] x Q := Iff.rfl
/-! 18 Sc_init -/
theorem u18_0 : wp r 18 0 [vR o] st x Q ↔ wp r 18 1 [vR o] (vR o :: st) x Q := (wp_u (show cd 18 0 = some (.aload_n 0, 1, 0, 0, 0, 0) from rfl))
theorem u18_1 : wp r 18 1 ls (vA q :: st) x Q ↔ nnk (hK x q) ∧ sml st = true ∧ wp r 18 4 ls st x Q := (wp_u (show cd 18 1 = some (.invokespecial 3, 3, 1000, 1, 0, 0) from rfl)).trans (g_obj rfl)
theorem u18_4 : wp r 18 4 [vR o] st x Q ↔ wp r 18 5 [vR o] (vR o :: st) x Q := (wp_u (show cd 18 4 = some (.aload_n 0, 1, 0, 0, 0, 0) from rfl))
theorem u18_5 : wp r 18 5 ls st x Q ↔ wp r 18 8 ls (vI 400 :: st) x Q := (wp_u (show cd 18 5 = some (.sipush 400, 3, 0, 0, 0, 0) from rfl))
theorem u18_8 : wp r 18 8 ls (vI z :: st) x Q ↔ (0 ≤ z ∧ z ≤ 100000) ∧ nok x z.toNat ∧ wp r 18 10 ls (vA (hN x) :: st) (nwO x 21 z.toNat) Q := (wp_u (show cd 18 8 = some (.newarray .char, 2, 21, 0, 0, 0) from rfl)).trans g_newA
theorem u18_10 : wp r 18 10 ls (vR o :: vA q :: st) x Q ↔ sbk 1 (hK x q) ∧ wp r 18 13 ls st (stR x q 0 o) Q := (wp_u (show cd 18 10 = some (.putfield 9, 3, 1, 0, 5, 0) from rfl)).trans g_putR
theorem u18_13 : wp r 18 13 ls [] x Q ↔ Q (.inl none) x := (wp_u (show cd 18 13 = some (.return_, 1, 0, 0, 0, 0) from rfl))
theorem e18 : wpc r 18 [vA q] x Q ↔ wp r 18 0 [vA q] [] x Q := Iff.rfl
/-! 19 Ic_init -/
theorem u19_0 : wp r 19 0 [vR o, a1] st x Q ↔ wp r 19 1 [vR o, a1] (vR o :: st) x Q := (wp_u (show cd 19 0 = some (.aload_n 0, 1, 0, 0, 0, 0) from rfl))
theorem u19_1 : wp r 19 1 ls (vA q :: st) x Q ↔ nnk (hK x q) ∧ sml st = true ∧ wp r 19 4 ls st x Q := (wp_u (show cd 19 1 = some (.invokespecial 3, 3, 1000, 1, 0, 0) from rfl)).trans (g_obj rfl)
theorem u19_4 : wp r 19 4 [vR o, a1] st x Q ↔ wp r 19 5 [vR o, a1] (vR o :: st) x Q := (wp_u (show cd 19 4 = some (.aload_n 0, 1, 0, 0, 0, 0) from rfl))
theorem u19_5 : wp r 19 5 ls st x Q ↔ wp r 19 8 ls (vI 400 :: st) x Q := (wp_u (show cd 19 5 = some (.sipush 400, 3, 0, 0, 0, 0) from rfl))
theorem u19_8 : wp r 19 8 ls (vI z :: st) x Q ↔ (0 ≤ z ∧ z ≤ 100000) ∧ nok x z.toNat ∧ wp r 19 10 ls (vA (hN x) :: st) (nwO x 21 z.toNat) Q := (wp_u (show cd 19 8 = some (.newarray .char, 2, 21, 0, 0, 0) from rfl)).trans g_newA
theorem u19_10 : wp r 19 10 ls (vR o :: vA q :: st) x Q ↔ sbk 2 (hK x q) ∧ wp r 19 13 ls st (stR x q 0 o) Q := (wp_u (show cd 19 10 = some (.putfield 9, 3, 2, 0, 5, 0) from rfl)).trans g_putR
theorem u19_13 : wp r 19 13 [vR o, a1] st x Q ↔ wp r 19 14 [vR o, a1] (vR o :: st) x Q := (wp_u (show cd 19 13 = some (.aload_n 0, 1, 0, 0, 0, 0) from rfl))
theorem u19_14 : wp r 19 14 ls st x Q ↔ wp r 19 16 ls (vI 40 :: st) x Q := (wp_u (show cd 19 14 = some (.bipush 40, 2, 0, 0, 0, 0) from rfl))
theorem u19_16 : wp r 19 16 ls (vI z :: st) x Q ↔ (0 ≤ z ∧ z ≤ 100000) ∧ nok x z.toNat ∧ wp r 19 19 ls (vA (hN x) :: st) (nwO x 26 z.toNat) Q := (wp_u (show cd 19 16 = some (.anewarray 15, 3, 26, 0, 0, 0) from rfl)).trans g_newA
theorem u19_19 : wp r 19 19 ls (vR o :: vA q :: st) x Q ↔ sbk 2 (hK x q) ∧ wp r 19 22 ls st (stR x q 2 o) Q := (wp_u (show cd 19 19 = some (.putfield 17, 3, 2, 2, 5, 0) from rfl)).trans g_putR
theorem u19_22 : wp r 19 22 [vR o, a1] st x Q ↔ wp r 19 23 [vR o, a1] (vR o :: st) x Q := (wp_u (show cd 19 22 = some (.aload_n 0, 1, 0, 0, 0, 0) from rfl))
theorem u19_23 : wp r 19 23 ls st x Q ↔ wp r 19 25 ls (vI 120 :: st) x Q := (wp_u (show cd 19 23 = some (.bipush 120, 2, 0, 0, 0, 0) from rfl))
theorem u19_25 : wp r 19 25 ls (vI z :: st) x Q ↔ (0 ≤ z ∧ z ≤ 100000) ∧ nok x z.toNat ∧ wp r 19 27 ls (vA (hN x) :: st) (nwO x 22 z.toNat) Q := (wp_u (show cd 19 25 = some (.newarray .short, 2, 22, 0, 0, 0) from rfl)).trans g_newA
theorem u19_27 : wp r 19 27 ls (vR o :: vA q :: st) x Q ↔ sbk 2 (hK x q) ∧ wp r 19 30 ls st (stR x q 4 o) Q := (wp_u (show cd 19 27 = some (.putfield 21, 3, 2, 4, 5, 0) from rfl)).trans g_putR
theorem u19_30 : wp r 19 30 [vR o, a1] st x Q ↔ wp r 19 31 [vR o, a1] (vR o :: st) x Q := (wp_u (show cd 19 30 = some (.aload_n 0, 1, 0, 0, 0, 0) from rfl))
theorem u19_31 : wp r 19 31 ls st x Q ↔ wp r 19 33 ls (vI 120 :: st) x Q := (wp_u (show cd 19 31 = some (.bipush 120, 2, 0, 0, 0, 0) from rfl))
theorem u19_33 : wp r 19 33 ls (vI z :: st) x Q ↔ (0 ≤ z ∧ z ≤ 100000) ∧ nok x z.toNat ∧ wp r 19 35 ls (vA (hN x) :: st) (nwO x 22 z.toNat) Q := (wp_u (show cd 19 33 = some (.newarray .short, 2, 22, 0, 0, 0) from rfl)).trans g_newA
theorem u19_35 : wp r 19 35 ls (vR o :: vA q :: st) x Q ↔ sbk 2 (hK x q) ∧ wp r 19 38 ls st (stR x q 5 o) Q := (wp_u (show cd 19 35 = some (.putfield 25, 3, 2, 5, 5, 0) from rfl)).trans g_putR
theorem u19_38 : wp r 19 38 [vR o, a1] st x Q ↔ wp r 19 39 [vR o, a1] (vR o :: st) x Q := (wp_u (show cd 19 38 = some (.aload_n 0, 1, 0, 0, 0, 0) from rfl))
theorem u19_39 : wp r 19 39 ls st x Q ↔ wp r 19 41 ls (vI 120 :: st) x Q := (wp_u (show cd 19 39 = some (.bipush 120, 2, 0, 0, 0, 0) from rfl))
theorem u19_41 : wp r 19 41 ls (vI z :: st) x Q ↔ (0 ≤ z ∧ z ≤ 100000) ∧ nok x z.toNat ∧ wp r 19 43 ls (vA (hN x) :: st) (nwO x 22 z.toNat) Q := (wp_u (show cd 19 41 = some (.newarray .short, 2, 22, 0, 0, 0) from rfl)).trans g_newA
theorem u19_43 : wp r 19 43 ls (vR o :: vA q :: st) x Q ↔ sbk 2 (hK x q) ∧ wp r 19 46 ls st (stR x q 7 o) Q := (wp_u (show cd 19 43 = some (.putfield 28, 3, 2, 7, 5, 0) from rfl)).trans g_putR
theorem u19_46 : wp r 19 46 [vR o, a1] st x Q ↔ wp r 19 47 [vR o, a1] (vR o :: st) x Q := (wp_u (show cd 19 46 = some (.aload_n 0, 1, 0, 0, 0, 0) from rfl))
theorem u19_47 : wp r 19 47 ls st x Q ↔ wp r 19 49 ls (vI 120 :: st) x Q := (wp_u (show cd 19 47 = some (.bipush 120, 2, 0, 0, 0, 0) from rfl))
theorem u19_49 : wp r 19 49 ls (vI z :: st) x Q ↔ (0 ≤ z ∧ z ≤ 100000) ∧ nok x z.toNat ∧ wp r 19 51 ls (vA (hN x) :: st) (nwO x 22 z.toNat) Q := (wp_u (show cd 19 49 = some (.newarray .short, 2, 22, 0, 0, 0) from rfl)).trans g_newA
theorem u19_51 : wp r 19 51 ls (vR o :: vA q :: st) x Q ↔ sbk 2 (hK x q) ∧ wp r 19 54 ls st (stR x q 8 o) Q := (wp_u (show cd 19 51 = some (.putfield 31, 3, 2, 8, 5, 0) from rfl)).trans g_putR
theorem u19_54 : wp r 19 54 [vR o, a1] st x Q ↔ wp r 19 55 [vR o, a1] (vR o :: st) x Q := (wp_u (show cd 19 54 = some (.aload_n 0, 1, 0, 0, 0, 0) from rfl))
theorem u19_55 : wp r 19 55 ls st x Q ↔ wp r 19 57 ls (vI 20 :: st) x Q := (wp_u (show cd 19 55 = some (.bipush 20, 2, 0, 0, 0, 0) from rfl))
theorem u19_57 : wp r 19 57 ls (vI z :: st) x Q ↔ (0 ≤ z ∧ z ≤ 100000) ∧ nok x z.toNat ∧ wp r 19 59 ls (vA (hN x) :: st) (nwO x 20 z.toNat) Q := (wp_u (show cd 19 57 = some (.newarray .int, 2, 20, 0, 0, 0) from rfl)).trans g_newA
theorem u19_59 : wp r 19 59 ls (vR o :: vA q :: st) x Q ↔ sbk 2 (hK x q) ∧ wp r 19 62 ls st (stR x q 10 o) Q := (wp_u (show cd 19 59 = some (.putfield 34, 3, 2, 10, 5, 0) from rfl)).trans g_putR
theorem u19_62 : wp r 19 62 [vR o, a1] st x Q ↔ wp r 19 63 [vR o, a1] (vR o :: st) x Q := (wp_u (show cd 19 62 = some (.aload_n 0, 1, 0, 0, 0, 0) from rfl))
theorem u19_63 : wp r 19 63 ls st x Q ↔ wp r 19 65 ls (vI 20 :: st) x Q := (wp_u (show cd 19 63 = some (.bipush 20, 2, 0, 0, 0, 0) from rfl))
theorem u19_65 : wp r 19 65 ls (vI z :: st) x Q ↔ (0 ≤ z ∧ z ≤ 100000) ∧ nok x z.toNat ∧ wp r 19 67 ls (vA (hN x) :: st) (nwO x 20 z.toNat) Q := (wp_u (show cd 19 65 = some (.newarray .int, 2, 20, 0, 0, 0) from rfl)).trans g_newA
theorem u19_67 : wp r 19 67 ls (vR o :: vA q :: st) x Q ↔ sbk 2 (hK x q) ∧ wp r 19 70 ls st (stR x q 11 o) Q := (wp_u (show cd 19 67 = some (.putfield 38, 3, 2, 11, 5, 0) from rfl)).trans g_putR
theorem u19_70 : wp r 19 70 [vR o, a1] st x Q ↔ wp r 19 71 [vR o, a1] (vR o :: st) x Q := (wp_u (show cd 19 70 = some (.aload_n 0, 1, 0, 0, 0, 0) from rfl))
theorem u19_71 : wp r 19 71 ls st x Q ↔ wp r 19 73 ls (vI 20 :: st) x Q := (wp_u (show cd 19 71 = some (.bipush 20, 2, 0, 0, 0, 0) from rfl))
theorem u19_73 : wp r 19 73 ls (vI z :: st) x Q ↔ (0 ≤ z ∧ z ≤ 100000) ∧ nok x z.toNat ∧ wp r 19 75 ls (vA (hN x) :: st) (nwO x 20 z.toNat) Q := (wp_u (show cd 19 73 = some (.newarray .int, 2, 20, 0, 0, 0) from rfl)).trans g_newA
theorem u19_75 : wp r 19 75 ls (vR o :: vA q :: st) x Q ↔ sbk 2 (hK x q) ∧ wp r 19 78 ls st (stR x q 12 o) Q := (wp_u (show cd 19 75 = some (.putfield 41, 3, 2, 12, 5, 0) from rfl)).trans g_putR
theorem u19_78 : wp r 19 78 [vR o, a1] st x Q ↔ wp r 19 79 [vR o, a1] (vR o :: st) x Q := (wp_u (show cd 19 78 = some (.aload_n 0, 1, 0, 0, 0, 0) from rfl))
theorem u19_79 : wp r 19 79 ls st x Q ↔ wp r 19 81 ls (vI 20 :: st) x Q := (wp_u (show cd 19 79 = some (.bipush 20, 2, 0, 0, 0, 0) from rfl))
theorem u19_81 : wp r 19 81 ls (vI z :: st) x Q ↔ (0 ≤ z ∧ z ≤ 100000) ∧ nok x z.toNat ∧ wp r 19 83 ls (vA (hN x) :: st) (nwO x 20 z.toNat) Q := (wp_u (show cd 19 81 = some (.newarray .int, 2, 20, 0, 0, 0) from rfl)).trans g_newA
theorem u19_83 : wp r 19 83 ls (vR o :: vA q :: st) x Q ↔ sbk 2 (hK x q) ∧ wp r 19 86 ls st (stR x q 13 o) Q := (wp_u (show cd 19 83 = some (.putfield 44, 3, 2, 13, 5, 0) from rfl)).trans g_putR
theorem u19_86 : wp r 19 86 [vR o, a1] st x Q ↔ wp r 19 87 [vR o, a1] (vR o :: st) x Q := (wp_u (show cd 19 86 = some (.aload_n 0, 1, 0, 0, 0, 0) from rfl))
theorem u19_87 : wp r 19 87 ls st x Q ↔ wp r 19 89 ls (vI 20 :: st) x Q := (wp_u (show cd 19 87 = some (.bipush 20, 2, 0, 0, 0, 0) from rfl))
theorem u19_89 : wp r 19 89 ls (vI z :: st) x Q ↔ (0 ≤ z ∧ z ≤ 100000) ∧ nok x z.toNat ∧ wp r 19 91 ls (vA (hN x) :: st) (nwO x 20 z.toNat) Q := (wp_u (show cd 19 89 = some (.newarray .int, 2, 20, 0, 0, 0) from rfl)).trans g_newA
theorem u19_91 : wp r 19 91 ls (vR o :: vA q :: st) x Q ↔ sbk 2 (hK x q) ∧ wp r 19 94 ls st (stR x q 14 o) Q := (wp_u (show cd 19 91 = some (.putfield 47, 3, 2, 14, 5, 0) from rfl)).trans g_putR
theorem u19_94 : wp r 19 94 [vR o, a1] st x Q ↔ wp r 19 95 [vR o, a1] (vR o :: st) x Q := (wp_u (show cd 19 94 = some (.aload_n 0, 1, 0, 0, 0, 0) from rfl))
theorem u19_95 : wp r 19 95 ls st x Q ↔ wp r 19 97 ls (vI 20 :: st) x Q := (wp_u (show cd 19 95 = some (.bipush 20, 2, 0, 0, 0, 0) from rfl))
theorem u19_97 : wp r 19 97 ls (vI z :: st) x Q ↔ (0 ≤ z ∧ z ≤ 100000) ∧ nok x z.toNat ∧ wp r 19 99 ls (vA (hN x) :: st) (nwO x 20 z.toNat) Q := (wp_u (show cd 19 97 = some (.newarray .int, 2, 20, 0, 0, 0) from rfl)).trans g_newA
theorem u19_99 : wp r 19 99 ls (vR o :: vA q :: st) x Q ↔ sbk 2 (hK x q) ∧ wp r 19 102 ls st (stR x q 16 o) Q := (wp_u (show cd 19 99 = some (.putfield 50, 3, 2, 16, 5, 0) from rfl)).trans g_putR
theorem u19_102 : wp r 19 102 [vR o, a1] st x Q ↔ wp r 19 103 [vR o, a1] (vR o :: st) x Q := (wp_u (show cd 19 102 = some (.aload_n 0, 1, 0, 0, 0, 0) from rfl))
theorem u19_103 : wp r 19 103 ls st x Q ↔ wp r 19 105 ls (vI 20 :: st) x Q := (wp_u (show cd 19 103 = some (.bipush 20, 2, 0, 0, 0, 0) from rfl))
theorem u19_105 : wp r 19 105 ls (vI z :: st) x Q ↔ (0 ≤ z ∧ z ≤ 100000) ∧ nok x z.toNat ∧ wp r 19 107 ls (vA (hN x) :: st) (nwO x 20 z.toNat) Q := (wp_u (show cd 19 105 = some (.newarray .int, 2, 20, 0, 0, 0) from rfl)).trans g_newA
theorem u19_107 : wp r 19 107 ls (vR o :: vA q :: st) x Q ↔ sbk 2 (hK x q) ∧ wp r 19 110 ls st (stR x q 17 o) Q := (wp_u (show cd 19 107 = some (.putfield 53, 3, 2, 17, 5, 0) from rfl)).trans g_putR
theorem u19_110 : wp r 19 110 [vR o, a1] st x Q ↔ wp r 19 111 [vR o, a1] (vR o :: st) x Q := (wp_u (show cd 19 110 = some (.aload_n 0, 1, 0, 0, 0, 0) from rfl))
theorem u19_111 : wp r 19 111 ls st x Q ↔ nok x 4 ∧ wp r 19 114 ls (vA (hN x) :: st) (nwO x 10 4) Q := (wp_u (show cd 19 111 = some (.new 56, 3, 10, 4, 0, 0) from rfl)).trans g_new
theorem u19_114i : wp r 19 114 ls (vI z :: st) x Q ↔ wp r 19 115 ls (vI z :: vI z :: st) x Q := (wp_u (show cd 19 114 = some (.dup, 1, 0, 0, 0, 0) from rfl))
theorem u19_114 : wp r 19 114 ls (vR o :: st) x Q ↔ wp r 19 115 ls (vR o :: vR o :: st) x Q := (wp_u (show cd 19 114 = some (.dup, 1, 0, 0, 0, 0) from rfl))
theorem u19_115 : wp r 19 115 ls st x Q ↔ wp r 19 118 ls (vI 800 :: st) x Q := (wp_u (show cd 19 115 = some (.sipush 800, 3, 0, 0, 0, 0) from rfl))
theorem u19_118 : wp r 19 118 ls (vI z0 :: vA q :: st) x Q ↔ nnk (hK x q) ∧ sml st = true ∧ 2 < r ∧ wpc 2 138 [vA q, vI z0] x (wk r 19 118 ls st Q) := (wp_u (show cd 19 118 = some (.invokespecial 58, 3, 138, 2, 2, 0) from rfl)).trans (g_special rfl (by decide) (by simp) rfl)
theorem u19_121 : wp r 19 121 ls (vR o :: vA q :: st) x Q ↔ sbk 2 (hK x q) ∧ wp r 19 124 ls st (stR x q 20 o) Q := (wp_u (show cd 19 121 = some (.putfield 61, 3, 2, 20, 5, 0) from rfl)).trans g_putR
theorem u19_124 : wp r 19 124 [vR o, a1] st x Q ↔ wp r 19 125 [vR o, a1] (vR o :: st) x Q := (wp_u (show cd 19 124 = some (.aload_n 0, 1, 0, 0, 0, 0) from rfl))
theorem u19_125 : wp r 19 125 ls st x Q ↔ nok x 4 ∧ wp r 19 128 ls (vA (hN x) :: st) (nwO x 10 4) Q := (wp_u (show cd 19 125 = some (.new 56, 3, 10, 4, 0, 0) from rfl)).trans g_new
theorem u19_128i : wp r 19 128 ls (vI z :: st) x Q ↔ wp r 19 129 ls (vI z :: vI z :: st) x Q := (wp_u (show cd 19 128 = some (.dup, 1, 0, 0, 0, 0) from rfl))
theorem u19_128 : wp r 19 128 ls (vR o :: st) x Q ↔ wp r 19 129 ls (vR o :: vR o :: st) x Q := (wp_u (show cd 19 128 = some (.dup, 1, 0, 0, 0, 0) from rfl))
theorem u19_129 : wp r 19 129 ls st x Q ↔ wp r 19 132 ls (vI 400 :: st) x Q := (wp_u (show cd 19 129 = some (.sipush 400, 3, 0, 0, 0, 0) from rfl))
theorem u19_132 : wp r 19 132 ls (vI z0 :: vA q :: st) x Q ↔ nnk (hK x q) ∧ sml st = true ∧ 2 < r ∧ wpc 2 138 [vA q, vI z0] x (wk r 19 132 ls st Q) := (wp_u (show cd 19 132 = some (.invokespecial 58, 3, 138, 2, 2, 0) from rfl)).trans (g_special rfl (by decide) (by simp) rfl)
theorem u19_135 : wp r 19 135 ls (vR o :: vA q :: st) x Q ↔ sbk 2 (hK x q) ∧ wp r 19 138 ls st (stR x q 21 o) Q := (wp_u (show cd 19 135 = some (.putfield 65, 3, 2, 21, 5, 0) from rfl)).trans g_putR
theorem u19_138 : wp r 19 138 ls st x Q ↔ wp r 19 139 ls (vI 0 :: st) x Q := (wp_u (show cd 19 138 = some (.iconst 0, 1, 0, 0, 0, 0) from rfl))
theorem u19_139 : wp r 19 139 [a0, a1] (vI z :: st) x Q ↔ wp r 19 140 [a0, vI z] st x Q := (wp_u (show cd 19 139 = some (.istore_n 1, 1, 0, 0, 0, 0) from rfl))
theorem u19_140 : wp r 19 140 [a0, vI z] st x Q ↔ wp r 19 141 [a0, vI z] (vI z :: st) x Q := (wp_u (show cd 19 140 = some (.iload_n 1, 1, 0, 0, 0, 0) from rfl))
theorem u19_141 : wp r 19 141 ls st x Q ↔ wp r 19 143 ls (vI 40 :: st) x Q := (wp_u (show cd 19 141 = some (.bipush 40, 2, 0, 0, 0, 0) from rfl))
theorem u19_143 : wp r 19 143 ls (vI w :: vI z :: st) x Q ↔ if w ≤ z then wp r 19 165 ls st x Q else wp r 19 146 ls st x Q := (wp_u (show cd 19 143 = some (.if_icmp .ge 22, 3, 165, 0, 0, 0) from rfl)).trans wq_d
theorem u19_146 : wp r 19 146 [vR o, a1] st x Q ↔ wp r 19 147 [vR o, a1] (vR o :: st) x Q := (wp_u (show cd 19 146 = some (.aload_n 0, 1, 0, 0, 0, 0) from rfl))
theorem u19_147 : wp r 19 147 ls (vA q :: st) x Q ↔ sbk 2 (hK x q) ∧ wp r 19 150 ls (vR (hR x q 2) :: st) x Q := (wp_u (show cd 19 147 = some (.getfield 17, 3, 2, 2, 5, 0) from rfl)).trans g_getR
theorem u19_150 : wp r 19 150 [a0, vI z] st x Q ↔ wp r 19 151 [a0, vI z] (vI z :: st) x Q := (wp_u (show cd 19 150 = some (.iload_n 1, 1, 0, 0, 0, 0) from rfl))
theorem u19_151 : wp r 19 151 ls st x Q ↔ nok x 3 ∧ wp r 19 154 ls (vA (hN x) :: st) (nwO x 3 3) Q := (wp_u (show cd 19 151 = some (.new 15, 3, 3, 3, 0, 0) from rfl)).trans g_new
theorem u19_154i : wp r 19 154 ls (vI z :: st) x Q ↔ wp r 19 155 ls (vI z :: vI z :: st) x Q := (wp_u (show cd 19 154 = some (.dup, 1, 0, 0, 0, 0) from rfl))
theorem u19_154 : wp r 19 154 ls (vR o :: st) x Q ↔ wp r 19 155 ls (vR o :: vR o :: st) x Q := (wp_u (show cd 19 154 = some (.dup, 1, 0, 0, 0, 0) from rfl))
theorem u19_155 : wp r 19 155 ls (vA q :: st) x Q ↔ nnk (hK x q) ∧ sml st = true ∧ 1 < r ∧ wpc 1 33 [vA q] x (wk r 19 155 ls st Q) := (wp_u (show cd 19 155 = some (.invokespecial 68, 3, 33, 1, 1, 0) from rfl)).trans (g_special rfl (by decide) (by simp) rfl)
theorem u19_158 : wp r 19 158 ls (vA p :: vI i :: vA q :: st) x Q ↔ str (hK x q) (hK x p) i ∧ 4 ≤ q ∧ wp r 19 159 ls st (stR x q i (some p)) Q := (wp_u (show cd 19 158 = some (.aastore, 1, 0, 0, 0, 0) from rfl)).trans g_stR
theorem u19_159 : wp r 19 159 [a0, vI z] st x Q ↔ inI (z + 1) = true ∧ wp r 19 162 [a0, vI (z + 1)] st x Q := (wp_u (show cd 19 159 = some (.iinc 1 1, 3, 0, 0, 0, 0) from rfl)).trans wq_if
theorem u19_162 : wp r 19 162 ls st x Q ↔ wp r 19 140 ls st x Q := (wp_u (show cd 19 162 = some (.goto (-22), 3, 140, 0, 0, 0) from rfl))
theorem u19_165 : wp r 19 165 ls [] x Q ↔ Q (.inl none) x := (wp_u (show cd 19 165 = some (.return_, 1, 0, 0, 0, 0) from rfl))
theorem e19 : wpc r 19 [vA q] x Q ↔ wp r 19 0 [vA q, vL jk] [] x Q := Iff.rfl
/-! 20 Wk_init -/
theorem u20_0 : wp r 20 0 [vR o] st x Q ↔ wp r 20 1 [vR o] (vR o :: st) x Q := (wp_u (show cd 20 0 = some (.aload_n 0, 1, 0, 0, 0, 0) from rfl))
theorem u20_1 : wp r 20 1 ls (vA q :: st) x Q ↔ nnk (hK x q) ∧ sml st = true ∧ wp r 20 4 ls st x Q := (wp_u (show cd 20 1 = some (.invokespecial 3, 3, 1000, 1, 0, 0) from rfl)).trans (g_obj rfl)
theorem u20_4 : wp r 20 4 [vR o] st x Q ↔ wp r 20 5 [vR o] (vR o :: st) x Q := (wp_u (show cd 20 4 = some (.aload_n 0, 1, 0, 0, 0, 0) from rfl))
theorem u20_5 : wp r 20 5 ls st x Q ↔ wp r 20 6 ls (vI 4 :: st) x Q := (wp_u (show cd 20 5 = some (.iconst 4, 1, 0, 0, 0, 0) from rfl))
theorem u20_6 : wp r 20 6 ls (vI z :: st) x Q ↔ (0 ≤ z ∧ z ≤ 100000) ∧ nok x z.toNat ∧ wp r 20 8 ls (vA (hN x) :: st) (nwO x 20 z.toNat) Q := (wp_u (show cd 20 6 = some (.newarray .int, 2, 20, 0, 0, 0) from rfl)).trans g_newA
theorem u20_8 : wp r 20 8 ls (vR o :: vA q :: st) x Q ↔ sbk 8 (hK x q) ∧ wp r 20 11 ls st (stR x q 3 o) Q := (wp_u (show cd 20 8 = some (.putfield 9, 3, 8, 3, 5, 0) from rfl)).trans g_putR
theorem u20_11 : wp r 20 11 ls [] x Q ↔ Q (.inl none) x := (wp_u (show cd 20 11 = some (.return_, 1, 0, 0, 0, 0) from rfl))
theorem e20 : wpc r 20 [vA q] x Q ↔ wp r 20 0 [vA q] [] x Q := Iff.rfl
/-! 21 Tb_init -/
theorem u21_0 : wp r 21 0 [vR o] st x Q ↔ wp r 21 1 [vR o] (vR o :: st) x Q := (wp_u (show cd 21 0 = some (.aload_n 0, 1, 0, 0, 0, 0) from rfl))
theorem u21_1 : wp r 21 1 ls (vA q :: st) x Q ↔ nnk (hK x q) ∧ sml st = true ∧ wp r 21 4 ls st x Q := (wp_u (show cd 21 1 = some (.invokespecial 1, 3, 1000, 1, 0, 0) from rfl)).trans (g_obj rfl)
theorem u21_4 : wp r 21 4 [vR o] st x Q ↔ wp r 21 5 [vR o] (vR o :: st) x Q := (wp_u (show cd 21 4 = some (.aload_n 0, 1, 0, 0, 0, 0) from rfl))
theorem u21_5 : wp r 21 5 ls st x Q ↔ nok x 6 ∧ wp r 21 8 ls (vA (hN x) :: st) (nwO x 6 6) Q := (wp_u (show cd 21 5 = some (.new 7, 3, 6, 6, 0, 0) from rfl)).trans g_new
theorem u21_8i : wp r 21 8 ls (vI z :: st) x Q ↔ wp r 21 9 ls (vI z :: vI z :: st) x Q := (wp_u (show cd 21 8 = some (.dup, 1, 0, 0, 0, 0) from rfl))
theorem u21_8 : wp r 21 8 ls (vR o :: st) x Q ↔ wp r 21 9 ls (vR o :: vR o :: st) x Q := (wp_u (show cd 21 8 = some (.dup, 1, 0, 0, 0, 0) from rfl))
theorem u21_9 : wp r 21 9 ls (vA q :: st) x Q ↔ nnk (hK x q) ∧ sml st = true ∧ 2 < r ∧ wpc 2 34 [vA q] x (wk r 21 9 ls st Q) := (wp_u (show cd 21 9 = some (.invokespecial 9, 3, 34, 1, 2, 0) from rfl)).trans (g_special rfl (by decide) (by simp) rfl)
theorem u21_12 : wp r 21 12 ls (vR o :: vA q :: st) x Q ↔ sbk 7 (hK x q) ∧ wp r 21 15 ls st (stR x q 0 o) Q := (wp_u (show cd 21 12 = some (.putfield 10, 3, 7, 0, 5, 0) from rfl)).trans g_putR
theorem u21_15 : wp r 21 15 [vR o] st x Q ↔ wp r 21 16 [vR o] (vR o :: st) x Q := (wp_u (show cd 21 15 = some (.aload_n 0, 1, 0, 0, 0, 0) from rfl))
theorem u21_16 : wp r 21 16 [vR o] st x Q ↔ wp r 21 17 [vR o] (vR o :: st) x Q := (wp_u (show cd 21 16 = some (.aload_n 0, 1, 0, 0, 0, 0) from rfl))
theorem u21_17 : wp r 21 17 ls (vA q :: st) x Q ↔ sbk 7 (hK x q) ∧ wp r 21 20 ls (vR (hR x q 0) :: st) x Q := (wp_u (show cd 21 17 = some (.getfield 10, 3, 7, 0, 5, 0) from rfl)).trans g_getR
theorem u21_20 : wp r 21 20 ls (vR o :: vA q :: st) x Q ↔ sbk 7 (hK x q) ∧ wp r 21 23 ls st (stR x q 1 o) Q := (wp_u (show cd 21 20 = some (.putfield 16, 3, 7, 1, 5, 0) from rfl)).trans g_putR
theorem u21_23 : wp r 21 23 ls [] x Q ↔ Q (.inl none) x := (wp_u (show cd 21 23 = some (.return_, 1, 0, 0, 0, 0) from rfl))
theorem e21 : wpc r 21 [vA q] x Q ↔ wp r 21 0 [vA q] [] x Q := Iff.rfl
/-! 22 D_slot -/
theorem u22_0 : wp r 22 0 [vR o, a1, a2, a3, a4, a5, a6, a7] st x Q ↔ wp r 22 1 [vR o, a1, a2, a3, a4, a5, a6, a7] (vR o :: st) x Q := (wp_u (show cd 22 0 = some (.aload_n 0, 1, 0, 0, 0, 0) from rfl))
theorem u22_1 : wp r 22 1 [a0, vI z, a2, a3, a4, a5, a6, a7] st x Q ↔ wp r 22 2 [a0, vI z, a2, a3, a4, a5, a6, a7] (vI z :: st) x Q := (wp_u (show cd 22 1 = some (.iload_n 1, 1, 0, 0, 0, 0) from rfl))
theorem u22_2 : wp r 22 2 ls (vI z0 :: vA q :: st) x Q ↔ isk 0 (hK x q) ∧ sml st = true ∧ 2 < r ∧ wpc 2 35 [vA q, vI z0] x (wk r 22 2 ls st Q) := (wp_u (show cd 22 2 = some (.invokevirtual 111, 3, 35, 2, 2, 0) from rfl)).trans (g_virt rfl (by decide) (by simp) rfl)
theorem u22_5 : wp r 22 5 [a0, a1, a2, a3, a4, a5, a6, a7] (vR o :: st) x Q ↔ wp r 22 7 [a0, a1, a2, a3, a4, vR o, a6, a7] st x Q := (wp_u (show cd 22 5 = some (.astore 5, 2, 0, 0, 0, 0) from rfl))
theorem u22_7 : wp r 22 7 [a0, a1, vI z, a3, a4, a5, a6, a7] st x Q ↔ wp r 22 8 [a0, a1, vI z, a3, a4, a5, a6, a7] (vI z :: st) x Q := (wp_u (show cd 22 7 = some (.iload_n 2, 1, 0, 0, 0, 0) from rfl))
theorem u22_8 : wp r 22 8 ls (vI z0 :: st) x Q ↔ sml st = true ∧ 1 < r ∧ wpc 1 36 [vI z0] x (wk r 22 8 ls st Q) := (wp_u (show cd 22 8 = some (.invokestatic 115, 3, 36, 1, 1, 0) from rfl)).trans (g_stat (by decide) (by simp) rfl)
theorem u22_11 : wp r 22 11 ls (vI z :: st) x Q ↔ if z = 0 then wp r 22 38 ls st x Q else wp r 22 14 ls st x Q := (wp_u (show cd 22 11 = some (.ifCond .eq 27, 3, 38, 0, 0, 0) from rfl)).trans wq_d
theorem u22_14 : wp r 22 14 [a0, a1, vI z, a3, a4, a5, a6, a7] st x Q ↔ wp r 22 15 [a0, a1, vI z, a3, a4, a5, a6, a7] (vI z :: st) x Q := (wp_u (show cd 22 14 = some (.iload_n 2, 1, 0, 0, 0, 0) from rfl))
theorem u22_15 : wp r 22 15 ls (vI z0 :: st) x Q ↔ sml st = true ∧ 1 < r ∧ wpc 1 37 [vI z0] x (wk r 22 15 ls st Q) := (wp_u (show cd 22 15 = some (.invokestatic 119, 3, 37, 1, 1, 0) from rfl)).trans (g_stat (by decide) (by simp) rfl)
theorem u22_18 : wp r 22 18 ls (vI z :: st) x Q ↔ if z = 0 then wp r 22 21 ls st x Q else wp r 22 38 ls st x Q := (wp_u (show cd 22 18 = some (.ifCond .ne 20, 3, 38, 0, 0, 0) from rfl)).trans wq_dn
theorem u22_21 : wp r 22 21 [a0, a1, a2, a3, vI z, a5, a6, a7] st x Q ↔ wp r 22 23 [a0, a1, a2, a3, vI z, a5, a6, a7] (vI z :: st) x Q := (wp_u (show cd 22 21 = some (.iload 4, 2, 0, 0, 0, 0) from rfl))
theorem u22_23 : wp r 22 23 ls st x Q ↔ wp r 22 24 ls (vI 1 :: st) x Q := (wp_u (show cd 22 23 = some (.iconst 1, 1, 0, 0, 0, 0) from rfl))
theorem u22_24 : wp r 22 24 ls (vI w :: vI z :: st) x Q ↔ if z < w then wp r 22 38 ls st x Q else wp r 22 27 ls st x Q := (wp_u (show cd 22 24 = some (.if_icmp .lt 14, 3, 38, 0, 0, 0) from rfl)).trans wq_d
theorem u22_27 : wp r 22 27 [a0, a1, a2, a3, vI z, a5, a6, a7] st x Q ↔ wp r 22 29 [a0, a1, a2, a3, vI z, a5, a6, a7] (vI z :: st) x Q := (wp_u (show cd 22 27 = some (.iload 4, 2, 0, 0, 0, 0) from rfl))
theorem u22_29 : wp r 22 29 ls st x Q ↔ wp r 22 31 ls (vI 99 :: st) x Q := (wp_u (show cd 22 29 = some (.bipush 99, 2, 0, 0, 0, 0) from rfl))
theorem u22_31 : wp r 22 31 ls (vI w :: vI z :: st) x Q ↔ if w < z then wp r 22 38 ls st x Q else wp r 22 34 ls st x Q := (wp_u (show cd 22 31 = some (.if_icmp .gt 7, 3, 38, 0, 0, 0) from rfl)).trans wq_d
theorem u22_34 : wp r 22 34 ls st x Q ↔ wp r 22 35 ls (vI 1 :: st) x Q := (wp_u (show cd 22 34 = some (.iconst 1, 1, 0, 0, 0, 0) from rfl))
theorem u22_35 : wp r 22 35 ls st x Q ↔ wp r 22 39 ls st x Q := (wp_u (show cd 22 35 = some (.goto 4, 3, 39, 0, 0, 0) from rfl))
theorem u22_38 : wp r 22 38 ls st x Q ↔ wp r 22 39 ls (vI 0 :: st) x Q := (wp_u (show cd 22 38 = some (.iconst 0, 1, 0, 0, 0, 0) from rfl))
theorem u22_39 : wp r 22 39 ls (vI z0 :: st) x Q ↔ sml st = true ∧ 1 < r ∧ wpc 1 38 [vI z0] x (wk r 22 39 ls st Q) := (wp_u (show cd 22 39 = some (.invokestatic 65, 3, 38, 1, 1, 0) from rfl)).trans (g_stat (by decide) (by simp) rfl)
theorem u22_42 : wp r 22 42 [a0, a1, a2, a3, a4, vR o, a6, a7] st x Q ↔ wp r 22 44 [a0, a1, a2, a3, a4, vR o, a6, a7] (vR o :: st) x Q := (wp_u (show cd 22 42 = some (.aload 5, 2, 0, 0, 0, 0) from rfl))
theorem u22_44 : wp r 22 44 ls (vA q :: st) x Q ↔ sbk 7 (hK x q) ∧ wp r 22 47 ls (vI (hI x q 2) :: st) x Q := (wp_u (show cd 22 44 = some (.getfield 122, 3, 7, 2, 0, 0) from rfl)).trans g_getI
theorem u22_47 : wp r 22 47 ls (vI z :: st) x Q ↔ if z ≤ 0 then wp r 22 65 ls st x Q else wp r 22 50 ls st x Q := (wp_u (show cd 22 47 = some (.ifCond .le 18, 3, 65, 0, 0, 0) from rfl)).trans wq_d
theorem u22_50 : wp r 22 50 [a0, a1, a2, a3, a4, vR o, a6, a7] st x Q ↔ wp r 22 52 [a0, a1, a2, a3, a4, vR o, a6, a7] (vR o :: st) x Q := (wp_u (show cd 22 50 = some (.aload 5, 2, 0, 0, 0, 0) from rfl))
theorem u22_52 : wp r 22 52 ls (vA q :: st) x Q ↔ sbk 7 (hK x q) ∧ wp r 22 55 ls (vR (hR x q 1) :: st) x Q := (wp_u (show cd 22 52 = some (.getfield 100, 3, 7, 1, 5, 0) from rfl)).trans g_getR
theorem u22_55 : wp r 22 55 ls (vA q :: st) x Q ↔ sbk 6 (hK x q) ∧ wp r 22 58 ls (vR (hR x q 4) :: st) x Q := (wp_u (show cd 22 55 = some (.getfield 86, 3, 6, 4, 5, 0) from rfl)).trans g_getR
theorem u22_58n : wp r 22 58 ls (vN :: st) x Q ↔ wp r 22 61 ls st x Q := (wp_u (show cd 22 58 = some (.ifnonnull 7, 3, 65, 0, 0, 0) from rfl))
theorem u22_58 : wp r 22 58 ls (vA q :: st) x Q ↔ nnk (hK x q) ∧ wp r 22 65 ls st x Q := (wp_u (show cd 22 58 = some (.ifnonnull 7, 3, 65, 0, 0, 0) from rfl)).trans g_nnul
theorem u22_61 : wp r 22 61 ls st x Q ↔ wp r 22 62 ls (vI 1 :: st) x Q := (wp_u (show cd 22 61 = some (.iconst 1, 1, 0, 0, 0, 0) from rfl))
theorem u22_62 : wp r 22 62 ls st x Q ↔ wp r 22 66 ls st x Q := (wp_u (show cd 22 62 = some (.goto 4, 3, 66, 0, 0, 0) from rfl))
theorem u22_65 : wp r 22 65 ls st x Q ↔ wp r 22 66 ls (vI 0 :: st) x Q := (wp_u (show cd 22 65 = some (.iconst 0, 1, 0, 0, 0, 0) from rfl))
theorem u22_66 : wp r 22 66 [a0, a1, a2, a3, a4, a5, a6, a7] (vI z :: st) x Q ↔ wp r 22 68 [a0, a1, a2, a3, a4, a5, vI z, a7] st x Q := (wp_u (show cd 22 66 = some (.istore 6, 2, 0, 0, 0, 0) from rfl))
theorem u22_68 : wp r 22 68 [a0, a1, a2, a3, a4, vR o, a6, a7] st x Q ↔ wp r 22 70 [a0, a1, a2, a3, a4, vR o, a6, a7] (vR o :: st) x Q := (wp_u (show cd 22 68 = some (.aload 5, 2, 0, 0, 0, 0) from rfl))
theorem u22_70 : wp r 22 70 ls (vA q :: st) x Q ↔ sbk 7 (hK x q) ∧ wp r 22 73 ls (vI (hI x q 3) :: st) x Q := (wp_u (show cd 22 70 = some (.getfield 108, 3, 7, 3, 0, 0) from rfl)).trans g_getI
theorem u22_73 : wp r 22 73 ls st x Q ↔ wp r 22 75 ls (vI 24 :: st) x Q := (wp_u (show cd 22 73 = some (.bipush 24, 2, 0, 0, 0, 0) from rfl))
theorem u22_75 : wp r 22 75 ls (vI w :: vI z :: st) x Q ↔ if w ≤ z then wp r 22 97 ls st x Q else wp r 22 78 ls st x Q := (wp_u (show cd 22 75 = some (.if_icmp .ge 22, 3, 97, 0, 0, 0) from rfl)).trans wq_d
theorem u22_78 : wp r 22 78 [a0, a1, a2, a3, a4, a5, vI z, a7] st x Q ↔ wp r 22 80 [a0, a1, a2, a3, a4, a5, vI z, a7] (vI z :: st) x Q := (wp_u (show cd 22 78 = some (.iload 6, 2, 0, 0, 0, 0) from rfl))
theorem u22_80 : wp r 22 80 ls (vI z :: st) x Q ↔ if z = 0 then wp r 22 93 ls st x Q else wp r 22 83 ls st x Q := (wp_u (show cd 22 80 = some (.ifCond .eq 13, 3, 93, 0, 0, 0) from rfl)).trans wq_d
theorem u22_83 : wp r 22 83 [a0, a1, a2, vI z, a4, a5, a6, a7] st x Q ↔ wp r 22 84 [a0, a1, a2, vI z, a4, a5, a6, a7] (vI z :: st) x Q := (wp_u (show cd 22 83 = some (.iload_n 3, 1, 0, 0, 0, 0) from rfl))
theorem u22_84 : wp r 22 84 ls (vI z :: st) x Q ↔ if z = 0 then wp r 22 97 ls st x Q else wp r 22 87 ls st x Q := (wp_u (show cd 22 84 = some (.ifCond .eq 13, 3, 97, 0, 0, 0) from rfl)).trans wq_d
theorem u22_87 : wp r 22 87 [a0, a1, a2, a3, vI z, a5, a6, a7] st x Q ↔ wp r 22 89 [a0, a1, a2, a3, vI z, a5, a6, a7] (vI z :: st) x Q := (wp_u (show cd 22 87 = some (.iload 4, 2, 0, 0, 0, 0) from rfl))
theorem u22_89 : wp r 22 89 ls st x Q ↔ wp r 22 90 ls (vI 1 :: st) x Q := (wp_u (show cd 22 89 = some (.iconst 1, 1, 0, 0, 0, 0) from rfl))
theorem u22_90 : wp r 22 90 ls (vI w :: vI z :: st) x Q ↔ if z = w then wp r 22 93 ls st x Q else wp r 22 97 ls st x Q := (wp_u (show cd 22 90 = some (.if_icmp .ne 7, 3, 97, 0, 0, 0) from rfl)).trans wq_dn
theorem u22_93 : wp r 22 93 ls st x Q ↔ wp r 22 94 ls (vI 1 :: st) x Q := (wp_u (show cd 22 93 = some (.iconst 1, 1, 0, 0, 0, 0) from rfl))
theorem u22_94 : wp r 22 94 ls st x Q ↔ wp r 22 98 ls st x Q := (wp_u (show cd 22 94 = some (.goto 4, 3, 98, 0, 0, 0) from rfl))
theorem u22_97 : wp r 22 97 ls st x Q ↔ wp r 22 98 ls (vI 0 :: st) x Q := (wp_u (show cd 22 97 = some (.iconst 0, 1, 0, 0, 0, 0) from rfl))
theorem u22_98 : wp r 22 98 ls (vI z0 :: st) x Q ↔ sml st = true ∧ 1 < r ∧ wpc 1 39 [vI z0] x (wk r 22 98 ls st Q) := (wp_u (show cd 22 98 = some (.invokestatic 125, 3, 39, 1, 1, 0) from rfl)).trans (g_stat (by decide) (by simp) rfl)
theorem u22_101 : wp r 22 101 [vR o, a1, a2, a3, a4, a5, a6, a7] st x Q ↔ wp r 22 102 [vR o, a1, a2, a3, a4, a5, a6, a7] (vR o :: st) x Q := (wp_u (show cd 22 101 = some (.aload_n 0, 1, 0, 0, 0, 0) from rfl))
theorem u22_102 : wp r 22 102 ls (vA q :: st) x Q ↔ isk 0 (hK x q) ∧ sml st = true ∧ 3 < r ∧ wpc 3 40 [vA q] x (wk r 22 102 ls st Q) := (wp_u (show cd 22 102 = some (.invokevirtual 128, 3, 40, 1, 3, 0) from rfl)).trans (g_virt rfl (by decide) (by simp) rfl)
theorem u22_105 : wp r 22 105 [a0, a1, a2, a3, a4, a5, a6, a7] (vR o :: st) x Q ↔ wp r 22 107 [a0, a1, a2, a3, a4, a5, a6, vR o] st x Q := (wp_u (show cd 22 105 = some (.astore 7, 2, 0, 0, 0, 0) from rfl))
theorem u22_107 : wp r 22 107 [a0, a1, a2, a3, a4, a5, a6, vR o] st x Q ↔ wp r 22 109 [a0, a1, a2, a3, a4, a5, a6, vR o] (vR o :: st) x Q := (wp_u (show cd 22 107 = some (.aload 7, 2, 0, 0, 0, 0) from rfl))
theorem u22_109 : wp r 22 109 [a0, a1, vI z, a3, a4, a5, a6, a7] st x Q ↔ wp r 22 110 [a0, a1, vI z, a3, a4, a5, a6, a7] (vI z :: st) x Q := (wp_u (show cd 22 109 = some (.iload_n 2, 1, 0, 0, 0, 0) from rfl))
theorem u22_110 : wp r 22 110 ls (vI z :: vA q :: st) x Q ↔ sbk 5 (hK x q) ∧ wp r 22 113 ls st (stI x q 4 z) Q := (wp_u (show cd 22 110 = some (.putfield 132, 3, 5, 4, 0, 0) from rfl)).trans g_putI0
theorem u22_113 : wp r 22 113 [a0, a1, a2, a3, a4, vR o, a6, a7] st x Q ↔ wp r 22 115 [a0, a1, a2, a3, a4, vR o, a6, a7] (vR o :: st) x Q := (wp_u (show cd 22 113 = some (.aload 5, 2, 0, 0, 0, 0) from rfl))
theorem u22_115 : wp r 22 115 [a0, a1, a2, a3, a4, a5, a6, vR o] st x Q ↔ wp r 22 117 [a0, a1, a2, a3, a4, a5, a6, vR o] (vR o :: st) x Q := (wp_u (show cd 22 115 = some (.aload 7, 2, 0, 0, 0, 0) from rfl))
theorem u22_117 : wp r 22 117 [a0, a1, a2, vI z, a4, a5, a6, a7] st x Q ↔ wp r 22 118 [a0, a1, a2, vI z, a4, a5, a6, a7] (vI z :: st) x Q := (wp_u (show cd 22 117 = some (.iload_n 3, 1, 0, 0, 0, 0) from rfl))
theorem u22_118 : wp r 22 118 [a0, a1, a2, a3, vI z, a5, a6, a7] st x Q ↔ wp r 22 120 [a0, a1, a2, a3, vI z, a5, a6, a7] (vI z :: st) x Q := (wp_u (show cd 22 118 = some (.iload 4, 2, 0, 0, 0, 0) from rfl))
theorem u22_120 : wp r 22 120 ls (vI z3 :: vI z2 :: vR o1 :: vR o0 :: st) x Q ↔ sml st = true ∧ 2 < r ∧ wpc 2 41 [vR o0, vR o1, vI z2, vI z3] x (wk r 22 120 ls st Q) := (wp_u (show cd 22 120 = some (.invokestatic 135, 3, 41, 4, 2, 0) from rfl)).trans (g_stat (by decide) (by simp) rfl)
theorem u22_123 : wp r 22 123 ls [vI z] x Q ↔ Q (.inl (some (vI z))) x := (wp_u (show cd 22 123 = some (.ireturn, 1, 0, 0, 0, 0) from rfl))
theorem e22 : wpc r 22 [vA q, vI z0, vI z1, vI z2, vI z3] x Q ↔ wp r 22 0 [vA q, vI z0, vI z1, vI z2, vI z3, vL jk, vL jk, vL jk] [] x Q := Iff.rfl
/-! 23 D_open -/
theorem u23_0 : wp r 23 0 [vR o, a1, a2, a3, a4, a5, a6] st x Q ↔ wp r 23 1 [vR o, a1, a2, a3, a4, a5, a6] (vR o :: st) x Q := (wp_u (show cd 23 0 = some (.aload_n 0, 1, 0, 0, 0, 0) from rfl))
theorem u23_1 : wp r 23 1 [a0, vI z, a2, a3, a4, a5, a6] st x Q ↔ wp r 23 2 [a0, vI z, a2, a3, a4, a5, a6] (vI z :: st) x Q := (wp_u (show cd 23 1 = some (.iload_n 1, 1, 0, 0, 0, 0) from rfl))
theorem u23_2 : wp r 23 2 ls (vI z0 :: vA q :: st) x Q ↔ isk 0 (hK x q) ∧ sml st = true ∧ 2 < r ∧ wpc 2 35 [vA q, vI z0] x (wk r 23 2 ls st Q) := (wp_u (show cd 23 2 = some (.invokevirtual 111, 3, 35, 2, 2, 0) from rfl)).trans (g_virt rfl (by decide) (by simp) rfl)
theorem u23_5 : wp r 23 5 [a0, a1, a2, a3, a4, a5, a6] (vR o :: st) x Q ↔ wp r 23 7 [a0, a1, a2, a3, vR o, a5, a6] st x Q := (wp_u (show cd 23 5 = some (.astore 4, 2, 0, 0, 0, 0) from rfl))
theorem u23_7 : wp r 23 7 [a0, a1, a2, vI z, a4, a5, a6] st x Q ↔ wp r 23 8 [a0, a1, a2, vI z, a4, a5, a6] (vI z :: st) x Q := (wp_u (show cd 23 7 = some (.iload_n 3, 1, 0, 0, 0, 0) from rfl))
theorem u23_8 : wp r 23 8 ls st x Q ↔ wp r 23 9 ls (vI 1 :: st) x Q := (wp_u (show cd 23 8 = some (.iconst 1, 1, 0, 0, 0, 0) from rfl))
theorem u23_9 : wp r 23 9 ls (vI w :: vI z :: st) x Q ↔ if z < w then wp r 23 22 ls st x Q else wp r 23 12 ls st x Q := (wp_u (show cd 23 9 = some (.if_icmp .lt 13, 3, 22, 0, 0, 0) from rfl)).trans wq_d
theorem u23_12 : wp r 23 12 [a0, a1, a2, vI z, a4, a5, a6] st x Q ↔ wp r 23 13 [a0, a1, a2, vI z, a4, a5, a6] (vI z :: st) x Q := (wp_u (show cd 23 12 = some (.iload_n 3, 1, 0, 0, 0, 0) from rfl))
theorem u23_13 : wp r 23 13 ls st x Q ↔ wp r 23 15 ls (vI 99 :: st) x Q := (wp_u (show cd 23 13 = some (.bipush 99, 2, 0, 0, 0, 0) from rfl))
theorem u23_15 : wp r 23 15 ls (vI w :: vI z :: st) x Q ↔ if w < z then wp r 23 22 ls st x Q else wp r 23 18 ls st x Q := (wp_u (show cd 23 15 = some (.if_icmp .gt 7, 3, 22, 0, 0, 0) from rfl)).trans wq_d
theorem u23_18 : wp r 23 18 ls st x Q ↔ wp r 23 19 ls (vI 1 :: st) x Q := (wp_u (show cd 23 18 = some (.iconst 1, 1, 0, 0, 0, 0) from rfl))
theorem u23_19 : wp r 23 19 ls st x Q ↔ wp r 23 23 ls st x Q := (wp_u (show cd 23 19 = some (.goto 4, 3, 23, 0, 0, 0) from rfl))
theorem u23_22 : wp r 23 22 ls st x Q ↔ wp r 23 23 ls (vI 0 :: st) x Q := (wp_u (show cd 23 22 = some (.iconst 0, 1, 0, 0, 0, 0) from rfl))
theorem u23_23 : wp r 23 23 ls (vI z0 :: st) x Q ↔ sml st = true ∧ 1 < r ∧ wpc 1 38 [vI z0] x (wk r 23 23 ls st Q) := (wp_u (show cd 23 23 = some (.invokestatic 65, 3, 38, 1, 1, 0) from rfl)).trans (g_stat (by decide) (by simp) rfl)
theorem u23_26 : wp r 23 26 [a0, a1, a2, a3, vR o, a5, a6] st x Q ↔ wp r 23 28 [a0, a1, a2, a3, vR o, a5, a6] (vR o :: st) x Q := (wp_u (show cd 23 26 = some (.aload 4, 2, 0, 0, 0, 0) from rfl))
theorem u23_28 : wp r 23 28 ls (vA q :: st) x Q ↔ sbk 7 (hK x q) ∧ wp r 23 31 ls (vI (hI x q 3) :: st) x Q := (wp_u (show cd 23 28 = some (.getfield 108, 3, 7, 3, 0, 0) from rfl)).trans g_getI
theorem u23_31 : wp r 23 31 ls st x Q ↔ wp r 23 33 ls (vI 24 :: st) x Q := (wp_u (show cd 23 31 = some (.bipush 24, 2, 0, 0, 0, 0) from rfl))
theorem u23_33 : wp r 23 33 ls (vI w :: vI z :: st) x Q ↔ if w ≤ z then wp r 23 68 ls st x Q else wp r 23 36 ls st x Q := (wp_u (show cd 23 33 = some (.if_icmp .ge 35, 3, 68, 0, 0, 0) from rfl)).trans wq_d
theorem u23_36 : wp r 23 36 [a0, a1, a2, a3, vR o, a5, a6] st x Q ↔ wp r 23 38 [a0, a1, a2, a3, vR o, a5, a6] (vR o :: st) x Q := (wp_u (show cd 23 36 = some (.aload 4, 2, 0, 0, 0, 0) from rfl))
theorem u23_38 : wp r 23 38 ls (vA q :: st) x Q ↔ sbk 7 (hK x q) ∧ wp r 23 41 ls (vI (hI x q 2) :: st) x Q := (wp_u (show cd 23 38 = some (.getfield 122, 3, 7, 2, 0, 0) from rfl)).trans g_getI
theorem u23_41 : wp r 23 41 ls st x Q ↔ wp r 23 42 ls (vI 3 :: st) x Q := (wp_u (show cd 23 41 = some (.iconst 3, 1, 0, 0, 0, 0) from rfl))
theorem u23_42 : wp r 23 42 ls (vI w :: vI z :: st) x Q ↔ if w ≤ z then wp r 23 68 ls st x Q else wp r 23 45 ls st x Q := (wp_u (show cd 23 42 = some (.if_icmp .ge 26, 3, 68, 0, 0, 0) from rfl)).trans wq_d
theorem u23_45 : wp r 23 45 [a0, a1, a2, a3, vR o, a5, a6] st x Q ↔ wp r 23 47 [a0, a1, a2, a3, vR o, a5, a6] (vR o :: st) x Q := (wp_u (show cd 23 45 = some (.aload 4, 2, 0, 0, 0, 0) from rfl))
theorem u23_47 : wp r 23 47 ls (vA q :: st) x Q ↔ sbk 7 (hK x q) ∧ wp r 23 50 ls (vI (hI x q 2) :: st) x Q := (wp_u (show cd 23 47 = some (.getfield 122, 3, 7, 2, 0, 0) from rfl)).trans g_getI
theorem u23_50 : wp r 23 50 ls (vI z :: st) x Q ↔ if z = 0 then wp r 23 64 ls st x Q else wp r 23 53 ls st x Q := (wp_u (show cd 23 50 = some (.ifCond .eq 14, 3, 64, 0, 0, 0) from rfl)).trans wq_d
theorem u23_53 : wp r 23 53 [a0, a1, a2, a3, vR o, a5, a6] st x Q ↔ wp r 23 55 [a0, a1, a2, a3, vR o, a5, a6] (vR o :: st) x Q := (wp_u (show cd 23 53 = some (.aload 4, 2, 0, 0, 0, 0) from rfl))
theorem u23_55 : wp r 23 55 ls (vA q :: st) x Q ↔ sbk 7 (hK x q) ∧ wp r 23 58 ls (vR (hR x q 1) :: st) x Q := (wp_u (show cd 23 55 = some (.getfield 100, 3, 7, 1, 5, 0) from rfl)).trans g_getR
theorem u23_58 : wp r 23 58 ls (vA q :: st) x Q ↔ sbk 6 (hK x q) ∧ wp r 23 61 ls (vR (hR x q 4) :: st) x Q := (wp_u (show cd 23 58 = some (.getfield 86, 3, 6, 4, 5, 0) from rfl)).trans g_getR
theorem u23_61n : wp r 23 61 ls (vN :: st) x Q ↔ wp r 23 68 ls st x Q := (wp_u (show cd 23 61 = some (.ifnull 7, 3, 68, 0, 0, 0) from rfl))
theorem u23_61 : wp r 23 61 ls (vA q :: st) x Q ↔ nnk (hK x q) ∧ wp r 23 64 ls st x Q := (wp_u (show cd 23 61 = some (.ifnull 7, 3, 68, 0, 0, 0) from rfl)).trans (g_nul Iff.rfl)
theorem u23_64 : wp r 23 64 ls st x Q ↔ wp r 23 65 ls (vI 1 :: st) x Q := (wp_u (show cd 23 64 = some (.iconst 1, 1, 0, 0, 0, 0) from rfl))
theorem u23_65 : wp r 23 65 ls st x Q ↔ wp r 23 69 ls st x Q := (wp_u (show cd 23 65 = some (.goto 4, 3, 69, 0, 0, 0) from rfl))
theorem u23_68 : wp r 23 68 ls st x Q ↔ wp r 23 69 ls (vI 0 :: st) x Q := (wp_u (show cd 23 68 = some (.iconst 0, 1, 0, 0, 0, 0) from rfl))
theorem u23_69 : wp r 23 69 ls (vI z0 :: st) x Q ↔ sml st = true ∧ 1 < r ∧ wpc 1 39 [vI z0] x (wk r 23 69 ls st Q) := (wp_u (show cd 23 69 = some (.invokestatic 125, 3, 39, 1, 1, 0) from rfl)).trans (g_stat (by decide) (by simp) rfl)
theorem u23_72 : wp r 23 72 [vR o, a1, a2, a3, a4, a5, a6] st x Q ↔ wp r 23 73 [vR o, a1, a2, a3, a4, a5, a6] (vR o :: st) x Q := (wp_u (show cd 23 72 = some (.aload_n 0, 1, 0, 0, 0, 0) from rfl))
theorem u23_73 : wp r 23 73 ls (vA q :: st) x Q ↔ isk 0 (hK x q) ∧ sml st = true ∧ 3 < r ∧ wpc 3 42 [vA q] x (wk r 23 73 ls st Q) := (wp_u (show cd 23 73 = some (.invokevirtual 139, 3, 42, 1, 3, 0) from rfl)).trans (g_virt rfl (by decide) (by simp) rfl)
theorem u23_76 : wp r 23 76 [a0, a1, a2, a3, a4, a5, a6] (vR o :: st) x Q ↔ wp r 23 78 [a0, a1, a2, a3, a4, vR o, a6] st x Q := (wp_u (show cd 23 76 = some (.astore 5, 2, 0, 0, 0, 0) from rfl))
theorem u23_78 : wp r 23 78 [a0, a1, a2, a3, vR o, a5, a6] st x Q ↔ wp r 23 80 [a0, a1, a2, a3, vR o, a5, a6] (vR o :: st) x Q := (wp_u (show cd 23 78 = some (.aload 4, 2, 0, 0, 0, 0) from rfl))
theorem u23_80 : wp r 23 80 [a0, a1, a2, a3, a4, vR o, a6] st x Q ↔ wp r 23 82 [a0, a1, a2, a3, a4, vR o, a6] (vR o :: st) x Q := (wp_u (show cd 23 80 = some (.aload 5, 2, 0, 0, 0, 0) from rfl))
theorem u23_82 : wp r 23 82 [a0, a1, vI z, a3, a4, a5, a6] st x Q ↔ wp r 23 83 [a0, a1, vI z, a3, a4, a5, a6] (vI z :: st) x Q := (wp_u (show cd 23 82 = some (.iload_n 2, 1, 0, 0, 0, 0) from rfl))
theorem u23_83 : wp r 23 83 [a0, a1, a2, vI z, a4, a5, a6] st x Q ↔ wp r 23 84 [a0, a1, a2, vI z, a4, a5, a6] (vI z :: st) x Q := (wp_u (show cd 23 83 = some (.iload_n 3, 1, 0, 0, 0, 0) from rfl))
theorem u23_84 : wp r 23 84 ls (vI z3 :: vI z2 :: vR o1 :: vR o0 :: st) x Q ↔ sml st = true ∧ 2 < r ∧ wpc 2 41 [vR o0, vR o1, vI z2, vI z3] x (wk r 23 84 ls st Q) := (wp_u (show cd 23 84 = some (.invokestatic 135, 3, 41, 4, 2, 0) from rfl)).trans (g_stat (by decide) (by simp) rfl)
theorem u23_87 : wp r 23 87 [a0, a1, a2, a3, a4, a5, a6] (vI z :: st) x Q ↔ wp r 23 89 [a0, a1, a2, a3, a4, a5, vI z] st x Q := (wp_u (show cd 23 87 = some (.istore 6, 2, 0, 0, 0, 0) from rfl))
theorem u23_89 : wp r 23 89 [a0, a1, a2, a3, vR o, a5, a6] st x Q ↔ wp r 23 91 [a0, a1, a2, a3, vR o, a5, a6] (vR o :: st) x Q := (wp_u (show cd 23 89 = some (.aload 4, 2, 0, 0, 0, 0) from rfl))
theorem u23_91 : wp r 23 91 [a0, a1, a2, a3, a4, vR o, a6] st x Q ↔ wp r 23 93 [a0, a1, a2, a3, a4, vR o, a6] (vR o :: st) x Q := (wp_u (show cd 23 91 = some (.aload 5, 2, 0, 0, 0, 0) from rfl))
theorem u23_93 : wp r 23 93 ls (vR o :: vA q :: st) x Q ↔ sbk 7 (hK x q) ∧ wp r 23 96 ls st (stR x q 1 o) Q := (wp_u (show cd 23 93 = some (.putfield 100, 3, 7, 1, 5, 0) from rfl)).trans g_putR
theorem u23_96 : wp r 23 96 [a0, a1, a2, a3, vR o, a5, a6] st x Q ↔ wp r 23 98 [a0, a1, a2, a3, vR o, a5, a6] (vR o :: st) x Q := (wp_u (show cd 23 96 = some (.aload 4, 2, 0, 0, 0, 0) from rfl))
theorem u23_98i : wp r 23 98 ls (vI z :: st) x Q ↔ wp r 23 99 ls (vI z :: vI z :: st) x Q := (wp_u (show cd 23 98 = some (.dup, 1, 0, 0, 0, 0) from rfl))
theorem u23_98 : wp r 23 98 ls (vR o :: st) x Q ↔ wp r 23 99 ls (vR o :: vR o :: st) x Q := (wp_u (show cd 23 98 = some (.dup, 1, 0, 0, 0, 0) from rfl))
theorem u23_99 : wp r 23 99 ls (vA q :: st) x Q ↔ sbk 7 (hK x q) ∧ wp r 23 102 ls (vI (hI x q 2) :: st) x Q := (wp_u (show cd 23 99 = some (.getfield 122, 3, 7, 2, 0, 0) from rfl)).trans g_getI
theorem u23_102 : wp r 23 102 ls st x Q ↔ wp r 23 103 ls (vI 1 :: st) x Q := (wp_u (show cd 23 102 = some (.iconst 1, 1, 0, 0, 0, 0) from rfl))
theorem u23_103 : wp r 23 103 ls (vI w :: vI z :: st) x Q ↔ inI (z + w) = true ∧ wp r 23 104 ls (vI (z + w) :: st) x Q := (wp_u (show cd 23 103 = some (.iadd, 1, 0, 0, 0, 0) from rfl)).trans wq_if
theorem u23_104 : wp r 23 104 ls (vI z :: vA q :: st) x Q ↔ sbk 7 (hK x q) ∧ wp r 23 107 ls st (stI x q 2 z) Q := (wp_u (show cd 23 104 = some (.putfield 122, 3, 7, 2, 0, 0) from rfl)).trans g_putI0
theorem u23_107 : wp r 23 107 [a0, a1, a2, a3, a4, a5, vI z] st x Q ↔ wp r 23 109 [a0, a1, a2, a3, a4, a5, vI z] (vI z :: st) x Q := (wp_u (show cd 23 107 = some (.iload 6, 2, 0, 0, 0, 0) from rfl))
theorem u23_109 : wp r 23 109 ls [vI z] x Q ↔ Q (.inl (some (vI z))) x := (wp_u (show cd 23 109 = some (.ireturn, 1, 0, 0, 0, 0) from rfl))
theorem e23 : wpc r 23 [vA q, vI z0, vI z1, vI z2] x Q ↔ wp r 23 0 [vA q, vI z0, vI z1, vI z2, vL jk, vL jk, vL jk] [] x Q := Iff.rfl
/-! 24 D_close -/
theorem u24_0 : wp r 24 0 [vR o, a1, a2] st x Q ↔ wp r 24 1 [vR o, a1, a2] (vR o :: st) x Q := (wp_u (show cd 24 0 = some (.aload_n 0, 1, 0, 0, 0, 0) from rfl))
theorem u24_1 : wp r 24 1 [a0, vI z, a2] st x Q ↔ wp r 24 2 [a0, vI z, a2] (vI z :: st) x Q := (wp_u (show cd 24 1 = some (.iload_n 1, 1, 0, 0, 0, 0) from rfl))
theorem u24_2 : wp r 24 2 ls (vI z0 :: vA q :: st) x Q ↔ isk 0 (hK x q) ∧ sml st = true ∧ 2 < r ∧ wpc 2 35 [vA q, vI z0] x (wk r 24 2 ls st Q) := (wp_u (show cd 24 2 = some (.invokevirtual 111, 3, 35, 2, 2, 0) from rfl)).trans (g_virt rfl (by decide) (by simp) rfl)
theorem u24_5 : wp r 24 5 [a0, a1, a2] (vR o :: st) x Q ↔ wp r 24 6 [a0, a1, vR o] st x Q := (wp_u (show cd 24 5 = some (.astore_n 2, 1, 0, 0, 0, 0) from rfl))
theorem u24_6 : wp r 24 6 [a0, a1, vR o] st x Q ↔ wp r 24 7 [a0, a1, vR o] (vR o :: st) x Q := (wp_u (show cd 24 6 = some (.aload_n 2, 1, 0, 0, 0, 0) from rfl))
theorem u24_7 : wp r 24 7 ls (vA q :: st) x Q ↔ sbk 7 (hK x q) ∧ wp r 24 10 ls (vI (hI x q 2) :: st) x Q := (wp_u (show cd 24 7 = some (.getfield 122, 3, 7, 2, 0, 0) from rfl)).trans g_getI
theorem u24_10 : wp r 24 10 ls (vI z :: st) x Q ↔ if z = 0 then wp r 24 23 ls st x Q else wp r 24 13 ls st x Q := (wp_u (show cd 24 10 = some (.ifCond .eq 13, 3, 23, 0, 0, 0) from rfl)).trans wq_d
theorem u24_13 : wp r 24 13 [a0, a1, vR o] st x Q ↔ wp r 24 14 [a0, a1, vR o] (vR o :: st) x Q := (wp_u (show cd 24 13 = some (.aload_n 2, 1, 0, 0, 0, 0) from rfl))
theorem u24_14 : wp r 24 14 ls (vA q :: st) x Q ↔ sbk 7 (hK x q) ∧ wp r 24 17 ls (vR (hR x q 1) :: st) x Q := (wp_u (show cd 24 14 = some (.getfield 100, 3, 7, 1, 5, 0) from rfl)).trans g_getR
theorem u24_17 : wp r 24 17 ls (vA q :: st) x Q ↔ sbk 6 (hK x q) ∧ wp r 24 20 ls (vR (hR x q 4) :: st) x Q := (wp_u (show cd 24 17 = some (.getfield 86, 3, 6, 4, 5, 0) from rfl)).trans g_getR
theorem u24_20n : wp r 24 20 ls (vN :: st) x Q ↔ wp r 24 23 ls st x Q := (wp_u (show cd 24 20 = some (.ifnonnull 5, 3, 25, 0, 0, 0) from rfl))
theorem u24_20 : wp r 24 20 ls (vA q :: st) x Q ↔ nnk (hK x q) ∧ wp r 24 25 ls st x Q := (wp_u (show cd 24 20 = some (.ifnonnull 5, 3, 25, 0, 0, 0) from rfl)).trans g_nnul
theorem u24_23 : wp r 24 23 ls st x Q ↔ wp r 24 24 ls (vI 0 :: st) x Q := (wp_u (show cd 24 23 = some (.iconst 0, 1, 0, 0, 0, 0) from rfl))
theorem u24_24 : wp r 24 24 ls [vI z] x Q ↔ rg 4 z = true ∧ Q (.inl (some (vI z))) x := (wp_u (show cd 24 24 = some (.ireturn, 1, 4, 0, 0, 0) from rfl)).trans wq_if
theorem u24_25 : wp r 24 25 [a0, a1, vR o] st x Q ↔ wp r 24 26 [a0, a1, vR o] (vR o :: st) x Q := (wp_u (show cd 24 25 = some (.aload_n 2, 1, 0, 0, 0, 0) from rfl))
theorem u24_26 : wp r 24 26 [a0, a1, vR o] st x Q ↔ wp r 24 27 [a0, a1, vR o] (vR o :: st) x Q := (wp_u (show cd 24 26 = some (.aload_n 2, 1, 0, 0, 0, 0) from rfl))
theorem u24_27 : wp r 24 27 ls (vA q :: st) x Q ↔ sbk 7 (hK x q) ∧ wp r 24 30 ls (vR (hR x q 1) :: st) x Q := (wp_u (show cd 24 27 = some (.getfield 100, 3, 7, 1, 5, 0) from rfl)).trans g_getR
theorem u24_30 : wp r 24 30 ls (vA q :: st) x Q ↔ sbk 6 (hK x q) ∧ wp r 24 33 ls (vR (hR x q 1) :: st) x Q := (wp_u (show cd 24 30 = some (.getfield 143, 3, 6, 1, 5, 0) from rfl)).trans g_getR
theorem u24_33 : wp r 24 33 ls (vR o :: vA q :: st) x Q ↔ sbk 7 (hK x q) ∧ wp r 24 36 ls st (stR x q 1 o) Q := (wp_u (show cd 24 33 = some (.putfield 100, 3, 7, 1, 5, 0) from rfl)).trans g_putR
theorem u24_36 : wp r 24 36 [a0, a1, vR o] st x Q ↔ wp r 24 37 [a0, a1, vR o] (vR o :: st) x Q := (wp_u (show cd 24 36 = some (.aload_n 2, 1, 0, 0, 0, 0) from rfl))
theorem u24_37i : wp r 24 37 ls (vI z :: st) x Q ↔ wp r 24 38 ls (vI z :: vI z :: st) x Q := (wp_u (show cd 24 37 = some (.dup, 1, 0, 0, 0, 0) from rfl))
theorem u24_37 : wp r 24 37 ls (vR o :: st) x Q ↔ wp r 24 38 ls (vR o :: vR o :: st) x Q := (wp_u (show cd 24 37 = some (.dup, 1, 0, 0, 0, 0) from rfl))
theorem u24_38 : wp r 24 38 ls (vA q :: st) x Q ↔ sbk 7 (hK x q) ∧ wp r 24 41 ls (vI (hI x q 2) :: st) x Q := (wp_u (show cd 24 38 = some (.getfield 122, 3, 7, 2, 0, 0) from rfl)).trans g_getI
theorem u24_41 : wp r 24 41 ls st x Q ↔ wp r 24 42 ls (vI 1 :: st) x Q := (wp_u (show cd 24 41 = some (.iconst 1, 1, 0, 0, 0, 0) from rfl))
theorem u24_42 : wp r 24 42 ls (vI w :: vI z :: st) x Q ↔ inI (z - w) = true ∧ wp r 24 43 ls (vI (z - w) :: st) x Q := (wp_u (show cd 24 42 = some (.isub, 1, 0, 0, 0, 0) from rfl)).trans wq_if
theorem u24_43 : wp r 24 43 ls (vI z :: vA q :: st) x Q ↔ sbk 7 (hK x q) ∧ wp r 24 46 ls st (stI x q 2 z) Q := (wp_u (show cd 24 43 = some (.putfield 122, 3, 7, 2, 0, 0) from rfl)).trans g_putI0
theorem u24_46 : wp r 24 46 ls st x Q ↔ wp r 24 47 ls (vI 1 :: st) x Q := (wp_u (show cd 24 46 = some (.iconst 1, 1, 0, 0, 0, 0) from rfl))
theorem u24_47 : wp r 24 47 ls [vI z] x Q ↔ rg 4 z = true ∧ Q (.inl (some (vI z))) x := (wp_u (show cd 24 47 = some (.ireturn, 1, 4, 0, 0, 0) from rfl)).trans wq_if
theorem e24 : wpc r 24 [vA q, vI z0] x Q ↔ wp r 24 0 [vA q, vI z0, vL jk] [] x Q := Iff.rfl
/-! 25 D_clear -/
theorem u25_0 : wp r 25 0 [vR o, a1, a2] st x Q ↔ wp r 25 1 [vR o, a1, a2] (vR o :: st) x Q := (wp_u (show cd 25 0 = some (.aload_n 0, 1, 0, 0, 0, 0) from rfl))
theorem u25_1 : wp r 25 1 [a0, vI z, a2] st x Q ↔ wp r 25 2 [a0, vI z, a2] (vI z :: st) x Q := (wp_u (show cd 25 1 = some (.iload_n 1, 1, 0, 0, 0, 0) from rfl))
theorem u25_2 : wp r 25 2 ls (vI z0 :: vA q :: st) x Q ↔ isk 0 (hK x q) ∧ sml st = true ∧ 2 < r ∧ wpc 2 35 [vA q, vI z0] x (wk r 25 2 ls st Q) := (wp_u (show cd 25 2 = some (.invokevirtual 111, 3, 35, 2, 2, 0) from rfl)).trans (g_virt rfl (by decide) (by simp) rfl)
theorem u25_5 : wp r 25 5 [a0, a1, a2] (vR o :: st) x Q ↔ wp r 25 6 [a0, a1, vR o] st x Q := (wp_u (show cd 25 5 = some (.astore_n 2, 1, 0, 0, 0, 0) from rfl))
theorem u25_6 : wp r 25 6 [a0, a1, vR o] st x Q ↔ wp r 25 7 [a0, a1, vR o] (vR o :: st) x Q := (wp_u (show cd 25 6 = some (.aload_n 2, 1, 0, 0, 0, 0) from rfl))
theorem u25_7 : wp r 25 7 ls (vA q :: st) x Q ↔ sbk 7 (hK x q) ∧ wp r 25 10 ls (vI (hI x q 3) :: st) x Q := (wp_u (show cd 25 7 = some (.getfield 108, 3, 7, 3, 0, 0) from rfl)).trans g_getI
theorem u25_10 : wp r 25 10 ls (vI z :: st) x Q ↔ if z = 0 then wp r 25 13 ls st x Q else wp r 25 15 ls st x Q := (wp_u (show cd 25 10 = some (.ifCond .ne 5, 3, 15, 0, 0, 0) from rfl)).trans wq_dn
theorem u25_13 : wp r 25 13 ls st x Q ↔ wp r 25 14 ls (vI 0 :: st) x Q := (wp_u (show cd 25 13 = some (.iconst 0, 1, 0, 0, 0, 0) from rfl))
theorem u25_14 : wp r 25 14 ls [vI z] x Q ↔ rg 4 z = true ∧ Q (.inl (some (vI z))) x := (wp_u (show cd 25 14 = some (.ireturn, 1, 4, 0, 0, 0) from rfl)).trans wq_if
theorem u25_15 : wp r 25 15 [vR o, a1, a2] st x Q ↔ wp r 25 16 [vR o, a1, a2] (vR o :: st) x Q := (wp_u (show cd 25 15 = some (.aload_n 0, 1, 0, 0, 0, 0) from rfl))
theorem u25_16 : wp r 25 16 [a0, a1, vR o] st x Q ↔ wp r 25 17 [a0, a1, vR o] (vR o :: st) x Q := (wp_u (show cd 25 16 = some (.aload_n 2, 1, 0, 0, 0, 0) from rfl))
theorem u25_17 : wp r 25 17 ls (vA q :: st) x Q ↔ sbk 7 (hK x q) ∧ wp r 25 20 ls (vR (hR x q 0) :: st) x Q := (wp_u (show cd 25 17 = some (.getfield 150, 3, 7, 0, 5, 0) from rfl)).trans g_getR
theorem u25_20 : wp r 25 20 ls (vA q :: st) x Q ↔ sbk 6 (hK x q) ∧ wp r 25 23 ls (vR (hR x q 4) :: st) x Q := (wp_u (show cd 25 20 = some (.getfield 86, 3, 6, 4, 5, 0) from rfl)).trans g_getR
theorem u25_23 : wp r 25 23 ls st x Q ↔ wp r 25 24 ls (vI 0 :: st) x Q := (wp_u (show cd 25 23 = some (.iconst 0, 1, 0, 0, 0, 0) from rfl))
theorem u25_24 : wp r 25 24 ls (vI z2 :: vR o1 :: vR o0 :: st) x Q ↔ sml st = true ∧ 6 < r ∧ wpc 6 43 [vR o0, vR o1, vI z2] x (wk r 25 24 ls st Q) := (wp_u (show cd 25 24 = some (.invokestatic 146, 3, 43, 3, 6, 0) from rfl)).trans (g_stat (by decide) (by simp) rfl)
theorem u25_27 : wp r 25 27 [a0, a1, vR o] st x Q ↔ wp r 25 28 [a0, a1, vR o] (vR o :: st) x Q := (wp_u (show cd 25 27 = some (.aload_n 2, 1, 0, 0, 0, 0) from rfl))
theorem u25_28 : wp r 25 28 ls (vA q :: st) x Q ↔ sbk 7 (hK x q) ∧ wp r 25 31 ls (vR (hR x q 0) :: st) x Q := (wp_u (show cd 25 28 = some (.getfield 150, 3, 7, 0, 5, 0) from rfl)).trans g_getR
theorem u25_31 : wp r 25 31 ls st x Q ↔ wp r 25 32 ls (vN :: st) x Q := (wp_u (show cd 25 31 = some (.aconst_null, 1, 0, 0, 0, 0) from rfl))
theorem u25_32 : wp r 25 32 ls (vR o :: vA q :: st) x Q ↔ sbk 6 (hK x q) ∧ wp r 25 35 ls st (stR x q 4 o) Q := (wp_u (show cd 25 32 = some (.putfield 86, 3, 6, 4, 5, 0) from rfl)).trans g_putR
theorem u25_35 : wp r 25 35 [a0, a1, vR o] st x Q ↔ wp r 25 36 [a0, a1, vR o] (vR o :: st) x Q := (wp_u (show cd 25 35 = some (.aload_n 2, 1, 0, 0, 0, 0) from rfl))
theorem u25_36 : wp r 25 36 ls (vA q :: st) x Q ↔ sbk 7 (hK x q) ∧ wp r 25 39 ls (vR (hR x q 0) :: st) x Q := (wp_u (show cd 25 36 = some (.getfield 150, 3, 7, 0, 5, 0) from rfl)).trans g_getR
theorem u25_39 : wp r 25 39 ls st x Q ↔ wp r 25 40 ls (vN :: st) x Q := (wp_u (show cd 25 39 = some (.aconst_null, 1, 0, 0, 0, 0) from rfl))
theorem u25_40 : wp r 25 40 ls (vR o :: vA q :: st) x Q ↔ sbk 6 (hK x q) ∧ wp r 25 43 ls st (stR x q 5 o) Q := (wp_u (show cd 25 40 = some (.putfield 89, 3, 6, 5, 5, 0) from rfl)).trans g_putR
theorem u25_43 : wp r 25 43 [a0, a1, vR o] st x Q ↔ wp r 25 44 [a0, a1, vR o] (vR o :: st) x Q := (wp_u (show cd 25 43 = some (.aload_n 2, 1, 0, 0, 0, 0) from rfl))
theorem u25_44 : wp r 25 44 [a0, a1, vR o] st x Q ↔ wp r 25 45 [a0, a1, vR o] (vR o :: st) x Q := (wp_u (show cd 25 44 = some (.aload_n 2, 1, 0, 0, 0, 0) from rfl))
theorem u25_45 : wp r 25 45 ls (vA q :: st) x Q ↔ sbk 7 (hK x q) ∧ wp r 25 48 ls (vR (hR x q 0) :: st) x Q := (wp_u (show cd 25 45 = some (.getfield 150, 3, 7, 0, 5, 0) from rfl)).trans g_getR
theorem u25_48 : wp r 25 48 ls (vR o :: vA q :: st) x Q ↔ sbk 7 (hK x q) ∧ wp r 25 51 ls st (stR x q 1 o) Q := (wp_u (show cd 25 48 = some (.putfield 100, 3, 7, 1, 5, 0) from rfl)).trans g_putR
theorem u25_51 : wp r 25 51 [a0, a1, vR o] st x Q ↔ wp r 25 52 [a0, a1, vR o] (vR o :: st) x Q := (wp_u (show cd 25 51 = some (.aload_n 2, 1, 0, 0, 0, 0) from rfl))
theorem u25_52 : wp r 25 52 ls st x Q ↔ wp r 25 53 ls (vI 0 :: st) x Q := (wp_u (show cd 25 52 = some (.iconst 0, 1, 0, 0, 0, 0) from rfl))
theorem u25_53 : wp r 25 53 ls (vI z :: vA q :: st) x Q ↔ sbk 7 (hK x q) ∧ wp r 25 56 ls st (stI x q 2 z) Q := (wp_u (show cd 25 53 = some (.putfield 122, 3, 7, 2, 0, 0) from rfl)).trans g_putI0
theorem u25_56 : wp r 25 56 [a0, a1, vR o] st x Q ↔ wp r 25 57 [a0, a1, vR o] (vR o :: st) x Q := (wp_u (show cd 25 56 = some (.aload_n 2, 1, 0, 0, 0, 0) from rfl))
theorem u25_57 : wp r 25 57 ls st x Q ↔ wp r 25 58 ls (vI 0 :: st) x Q := (wp_u (show cd 25 57 = some (.iconst 0, 1, 0, 0, 0, 0) from rfl))
theorem u25_58 : wp r 25 58 ls (vI z :: vA q :: st) x Q ↔ sbk 7 (hK x q) ∧ wp r 25 61 ls st (stI x q 3 z) Q := (wp_u (show cd 25 58 = some (.putfield 108, 3, 7, 3, 0, 0) from rfl)).trans g_putI0
theorem u25_61 : wp r 25 61 ls st x Q ↔ wp r 25 62 ls (vI 1 :: st) x Q := (wp_u (show cd 25 61 = some (.iconst 1, 1, 0, 0, 0, 0) from rfl))
theorem u25_62 : wp r 25 62 ls [vI z] x Q ↔ rg 4 z = true ∧ Q (.inl (some (vI z))) x := (wp_u (show cd 25 62 = some (.ireturn, 1, 4, 0, 0, 0) from rfl)).trans wq_if
theorem e25 : wpc r 25 [vA q, vI z0] x Q ↔ wp r 25 0 [vA q, vI z0, vL jk] [] x Q := Iff.rfl
/-! 26 D_read -/
theorem u26_0 : wp r 26 0 [vR o, a1, a2] st x Q ↔ wp r 26 1 [vR o, a1, a2] (vR o :: st) x Q := (wp_u (show cd 26 0 = some (.aload_n 0, 1, 0, 0, 0, 0) from rfl))
theorem u26_1 : wp r 26 1 ls (vA q :: st) x Q ↔ isk 0 (hK x q) ∧ sml st = true ∧ 9 < r ∧ wpc 9 12 [vA q] x (wk r 26 1 ls st Q) := (wp_u (show cd 26 1 = some (.invokevirtual 153, 3, 12, 1, 9, 0) from rfl)).trans (g_virt rfl (by decide) (by simp) rfl)
theorem u26_4 : wp r 26 4 [a0, a1, a2] (vI z :: st) x Q ↔ wp r 26 5 [a0, vI z, a2] st x Q := (wp_u (show cd 26 4 = some (.istore_n 1, 1, 0, 0, 0, 0) from rfl))
theorem u26_5 : wp r 26 5 [vR o, a1, a2] st x Q ↔ wp r 26 6 [vR o, a1, a2] (vR o :: st) x Q := (wp_u (show cd 26 5 = some (.aload_n 0, 1, 0, 0, 0, 0) from rfl))
theorem u26_6 : wp r 26 6 [a0, vI z, a2] st x Q ↔ wp r 26 7 [a0, vI z, a2] (vI z :: st) x Q := (wp_u (show cd 26 6 = some (.iload_n 1, 1, 0, 0, 0, 0) from rfl))
theorem u26_7 : wp r 26 7 ls (vI z :: st) x Q ↔ if z = 0 then wp r 26 14 ls st x Q else wp r 26 10 ls st x Q := (wp_u (show cd 26 7 = some (.ifCond .eq 7, 3, 14, 0, 0, 0) from rfl)).trans wq_d
theorem u26_10 : wp r 26 10 ls st x Q ↔ wp r 26 11 ls (vI (-1) :: st) x Q := (wp_u (show cd 26 10 = some (.iconst (-1), 1, 0, 0, 0, 0) from rfl))
theorem u26_11 : wp r 26 11 ls st x Q ↔ wp r 26 21 ls st x Q := (wp_u (show cd 26 11 = some (.goto 10, 3, 21, 0, 0, 0) from rfl))
theorem u26_14 : wp r 26 14 [vR o, a1, a2] st x Q ↔ wp r 26 15 [vR o, a1, a2] (vR o :: st) x Q := (wp_u (show cd 26 14 = some (.aload_n 0, 1, 0, 0, 0, 0) from rfl))
theorem u26_15 : wp r 26 15 ls (vA q :: st) x Q ↔ sbk 0 (hK x q) ∧ wp r 26 18 ls (vR (hR x q 0) :: st) x Q := (wp_u (show cd 26 15 = some (.getfield 18, 3, 0, 0, 5, 0) from rfl)).trans g_getR
theorem u26_18 : wp r 26 18 ls (vA q :: st) x Q ↔ sbk 1 (hK x q) ∧ wp r 26 21 ls (vI (hI x q 2) :: st) x Q := (wp_u (show cd 26 18 = some (.getfield 157, 3, 1, 2, 0, 0) from rfl)).trans g_getI
theorem u26_21 : wp r 26 21 ls (vI z :: vA q :: st) x Q ↔ sbk 0 (hK x q) ∧ wp r 26 24 ls st (stI x q 4 z) Q := (wp_u (show cd 26 21 = some (.putfield 32, 3, 0, 4, 0, 0) from rfl)).trans g_putI0
theorem u26_24 : wp r 26 24 [a0, vI z, a2] st x Q ↔ wp r 26 25 [a0, vI z, a2] (vI z :: st) x Q := (wp_u (show cd 26 24 = some (.iload_n 1, 1, 0, 0, 0, 0) from rfl))
theorem u26_25 : wp r 26 25 ls (vI z0 :: st) x Q ↔ sml st = true ∧ 1 < r ∧ wpc 1 38 [vI z0] x (wk r 26 25 ls st Q) := (wp_u (show cd 26 25 = some (.invokestatic 65, 3, 38, 1, 1, 0) from rfl)).trans (g_stat (by decide) (by simp) rfl)
theorem u26_28 : wp r 26 28 [vR o, a1, a2] st x Q ↔ wp r 26 29 [vR o, a1, a2] (vR o :: st) x Q := (wp_u (show cd 26 28 = some (.aload_n 0, 1, 0, 0, 0, 0) from rfl))
theorem u26_29 : wp r 26 29 ls (vA q :: st) x Q ↔ sbk 0 (hK x q) ∧ wp r 26 32 ls (vR (hR x q 2) :: st) x Q := (wp_u (show cd 26 29 = some (.getfield 29, 3, 0, 2, 5, 0) from rfl)).trans g_getR
theorem u26_32 : wp r 26 32 [a0, a1, a2] (vR o :: st) x Q ↔ wp r 26 33 [a0, a1, vR o] st x Q := (wp_u (show cd 26 32 = some (.astore_n 2, 1, 0, 0, 0, 0) from rfl))
theorem u26_33 : wp r 26 33 [a0, a1, vR o] st x Q ↔ wp r 26 34 [a0, a1, vR o] (vR o :: st) x Q := (wp_u (show cd 26 33 = some (.aload_n 2, 1, 0, 0, 0, 0) from rfl))
theorem u26_34 : wp r 26 34 ls (vR o0 :: st) x Q ↔ sml st = true ∧ 5 < r ∧ wpc 5 44 [vR o0] x (wk r 26 34 ls st Q) := (wp_u (show cd 26 34 = some (.invokestatic 160, 3, 44, 1, 5, 0) from rfl)).trans (g_stat (by decide) (by simp) rfl)
theorem u26_37 : wp r 26 37 ls (vI z :: st) x Q ↔ if z = 0 then wp r 26 40 ls st x Q else wp r 26 48 ls st x Q := (wp_u (show cd 26 37 = some (.ifCond .ne 11, 3, 48, 0, 0, 0) from rfl)).trans wq_dn
theorem u26_40 : wp r 26 40 ls st x Q ↔ nok x 6 ∧ wp r 26 43 ls (vA (hN x) :: st) (nwO x 13 6) Q := (wp_u (show cd 26 40 = some (.new 164, 3, 13, 6, 0, 0) from rfl)).trans g_new
theorem u26_43i : wp r 26 43 ls (vI z :: st) x Q ↔ wp r 26 44 ls (vI z :: vI z :: st) x Q := (wp_u (show cd 26 43 = some (.dup, 1, 0, 0, 0, 0) from rfl))
theorem u26_43 : wp r 26 43 ls (vR o :: st) x Q ↔ wp r 26 44 ls (vR o :: vR o :: st) x Q := (wp_u (show cd 26 43 = some (.dup, 1, 0, 0, 0, 0) from rfl))
theorem u26_44 : wp r 26 44 ls (vA q :: vA q :: st) x Q ↔ hK x q = some (13, 6) ∧ sml st = true ∧ Q (.inr q) (stK x q 16 6) := (wp_u (show cd 26 44 = some (.invokespecial 166, 3, 1001, 1, 0, 13) from rfl)).trans (g_exi (t := st) (by decide))
theorem u26_48 : wp r 26 48 [vR o, a1, a2] st x Q ↔ wp r 26 49 [vR o, a1, a2] (vR o :: st) x Q := (wp_u (show cd 26 48 = some (.aload_n 0, 1, 0, 0, 0, 0) from rfl))
theorem u26_49 : wp r 26 49 [vR o, a1, a2] st x Q ↔ wp r 26 50 [vR o, a1, a2] (vR o :: st) x Q := (wp_u (show cd 26 49 = some (.aload_n 0, 1, 0, 0, 0, 0) from rfl))
theorem u26_50 : wp r 26 50 ls (vA q :: st) x Q ↔ sbk 0 (hK x q) ∧ wp r 26 53 ls (vR (hR x q 1) :: st) x Q := (wp_u (show cd 26 50 = some (.getfield 25, 3, 0, 1, 5, 0) from rfl)).trans g_getR
theorem u26_53 : wp r 26 53 ls (vR o :: vA q :: st) x Q ↔ sbk 0 (hK x q) ∧ wp r 26 56 ls st (stR x q 2 o) Q := (wp_u (show cd 26 53 = some (.putfield 29, 3, 0, 2, 5, 0) from rfl)).trans g_putR
theorem u26_56 : wp r 26 56 [vR o, a1, a2] st x Q ↔ wp r 26 57 [vR o, a1, a2] (vR o :: st) x Q := (wp_u (show cd 26 56 = some (.aload_n 0, 1, 0, 0, 0, 0) from rfl))
theorem u26_57 : wp r 26 57 [a0, a1, vR o] st x Q ↔ wp r 26 58 [a0, a1, vR o] (vR o :: st) x Q := (wp_u (show cd 26 57 = some (.aload_n 2, 1, 0, 0, 0, 0) from rfl))
theorem u26_58 : wp r 26 58 ls (vR o :: vA q :: st) x Q ↔ sbk 0 (hK x q) ∧ wp r 26 61 ls st (stR x q 1 o) Q := (wp_u (show cd 26 58 = some (.putfield 25, 3, 0, 1, 5, 0) from rfl)).trans g_putR
theorem u26_61 : wp r 26 61 [vR o, a1, a2] st x Q ↔ wp r 26 62 [vR o, a1, a2] (vR o :: st) x Q := (wp_u (show cd 26 61 = some (.aload_n 0, 1, 0, 0, 0, 0) from rfl))
theorem u26_62 : wp r 26 62 ls st x Q ↔ wp r 26 63 ls (vI 1 :: st) x Q := (wp_u (show cd 26 62 = some (.iconst 1, 1, 0, 0, 0, 0) from rfl))
theorem u26_63 : wp r 26 63 ls (vI z :: vA q :: st) x Q ↔ sbk 0 (hK x q) ∧ rg 4 z = true ∧ wp r 26 66 ls st (stI x q 3 z) Q := (wp_u (show cd 26 63 = some (.putfield 167, 3, 0, 3, 4, 0) from rfl)).trans g_putI
theorem u26_66 : wp r 26 66 [vR o, a1, a2] st x Q ↔ wp r 26 67 [vR o, a1, a2] (vR o :: st) x Q := (wp_u (show cd 26 66 = some (.aload_n 0, 1, 0, 0, 0, 0) from rfl))
theorem u26_67 : wp r 26 67 ls (vA q :: st) x Q ↔ sbk 0 (hK x q) ∧ wp r 26 70 ls (vR (hR x q 0) :: st) x Q := (wp_u (show cd 26 67 = some (.getfield 18, 3, 0, 0, 5, 0) from rfl)).trans g_getR
theorem u26_70 : wp r 26 70 ls st x Q ↔ wp r 26 71 ls (vI 0 :: st) x Q := (wp_u (show cd 26 70 = some (.iconst 0, 1, 0, 0, 0, 0) from rfl))
theorem u26_71 : wp r 26 71 ls (vI z :: vA q :: st) x Q ↔ sbk 1 (hK x q) ∧ wp r 26 74 ls st (stI x q 1 z) Q := (wp_u (show cd 26 71 = some (.putfield 50, 3, 1, 1, 0, 0) from rfl)).trans g_putI0
theorem u26_74 : wp r 26 74 [vR o, a1, a2] st x Q ↔ wp r 26 75 [vR o, a1, a2] (vR o :: st) x Q := (wp_u (show cd 26 74 = some (.aload_n 0, 1, 0, 0, 0, 0) from rfl))
theorem u26_75 : wp r 26 75 [a0, a1, vR o] st x Q ↔ wp r 26 76 [a0, a1, vR o] (vR o :: st) x Q := (wp_u (show cd 26 75 = some (.aload_n 2, 1, 0, 0, 0, 0) from rfl))
theorem u26_76 : wp r 26 76 ls (vR o0 :: vA q :: st) x Q ↔ isk 0 (hK x q) ∧ sml st = true ∧ 5 < r ∧ wpc 5 45 [vA q, vR o0] x (wk r 26 76 ls st Q) := (wp_u (show cd 26 76 = some (.invokevirtual 170, 3, 45, 2, 5, 0) from rfl)).trans (g_virt rfl (by decide) (by simp) rfl)
theorem u26_79 : wp r 26 79 [a0, a1, vR o] st x Q ↔ wp r 26 80 [a0, a1, vR o] (vR o :: st) x Q := (wp_u (show cd 26 79 = some (.aload_n 2, 1, 0, 0, 0, 0) from rfl))
theorem u26_80 : wp r 26 80 ls (vR o0 :: st) x Q ↔ sml st = true ∧ 8 < r ∧ wpc 8 46 [vR o0] x (wk r 26 80 ls st Q) := (wp_u (show cd 26 80 = some (.invokestatic 174, 3, 46, 1, 8, 0) from rfl)).trans (g_stat (by decide) (by simp) rfl)
theorem u26_83 : wp r 26 83 [a0, a1, vR o] st x Q ↔ wp r 26 84 [a0, a1, vR o] (vR o :: st) x Q := (wp_u (show cd 26 83 = some (.aload_n 2, 1, 0, 0, 0, 0) from rfl))
theorem u26_84 : wp r 26 84 ls (vR o0 :: st) x Q ↔ sml st = true ∧ 9 < r ∧ wpc 9 47 [vR o0] x (wk r 26 84 ls st Q) := (wp_u (show cd 26 84 = some (.invokestatic 177, 3, 47, 1, 9, 0) from rfl)).trans (g_stat (by decide) (by simp) rfl)
theorem u26_87 : wp r 26 87 [a0, a1, vR o] st x Q ↔ wp r 26 88 [a0, a1, vR o] (vR o :: st) x Q := (wp_u (show cd 26 87 = some (.aload_n 2, 1, 0, 0, 0, 0) from rfl))
theorem u26_88 : wp r 26 88 ls (vA q :: st) x Q ↔ sbk 2 (hK x q) ∧ wp r 26 91 ls (vI (hI x q 15) :: st) x Q := (wp_u (show cd 26 88 = some (.getfield 180, 3, 2, 15, 0, 0) from rfl)).trans g_getI
theorem u26_91 : wp r 26 91 ls [vI z] x Q ↔ Q (.inl (some (vI z))) x := (wp_u (show cd 26 91 = some (.ireturn, 1, 0, 0, 0, 0) from rfl))
theorem e26 : wpc r 26 [vA q] x Q ↔ wp r 26 0 [vA q, vL jk, vL jk] [] x Q := Iff.rfl
/-! 27 D_interchange -/
theorem u27_0 : wp r 27 0 [vR o, a1] st x Q ↔ wp r 27 1 [vR o, a1] (vR o :: st) x Q := (wp_u (show cd 27 0 = some (.aload_n 0, 1, 0, 0, 0, 0) from rfl))
theorem u27_1 : wp r 27 1 ls (vA q :: st) x Q ↔ sbk 0 (hK x q) ∧ wp r 27 4 ls (vI (hI x q 3) :: st) x Q := (wp_u (show cd 27 1 = some (.getfield 167, 3, 0, 3, 4, 0) from rfl)).trans g_getI
theorem u27_4 : wp r 27 4 ls (vI z0 :: st) x Q ↔ sml st = true ∧ 1 < r ∧ wpc 1 39 [vI z0] x (wk r 27 4 ls st Q) := (wp_u (show cd 27 4 = some (.invokestatic 125, 3, 39, 1, 1, 0) from rfl)).trans (g_stat (by decide) (by simp) rfl)
theorem u27_7 : wp r 27 7 [a0, vI z] st x Q ↔ wp r 27 8 [a0, vI z] (vI z :: st) x Q := (wp_u (show cd 27 7 = some (.iload_n 1, 1, 0, 0, 0, 0) from rfl))
theorem u27_8 : wp r 27 8 ls (vI z :: st) x Q ↔ wp r 27 (tgt 8 (tsw z 0 64 [32, 40, 48, 56])) ls st x Q := (wp_u (show cd 27 8 = some (.tableswitch 64 0 3 #[32, 40, 48, 56], 32, 0, 0, 0, 0) from rfl))
theorem u27_40 : wp r 27 40 [vR o, a1] st x Q ↔ wp r 27 41 [vR o, a1] (vR o :: st) x Q := (wp_u (show cd 27 40 = some (.aload_n 0, 1, 0, 0, 0, 0) from rfl))
theorem u27_41 : wp r 27 41 ls (vA q :: st) x Q ↔ sbk 0 (hK x q) ∧ wp r 27 44 ls (vR (hR x q 1) :: st) x Q := (wp_u (show cd 27 41 = some (.getfield 25, 3, 0, 1, 5, 0) from rfl)).trans g_getR
theorem u27_44 : wp r 27 44 ls (vA q :: st) x Q ↔ sbk 2 (hK x q) ∧ wp r 27 47 ls (vI (hI x q 3) :: st) x Q := (wp_u (show cd 27 44 = some (.getfield 186, 3, 2, 3, 0, 0) from rfl)).trans g_getI
theorem u27_47 : wp r 27 47 ls [vI z] x Q ↔ Q (.inl (some (vI z))) x := (wp_u (show cd 27 47 = some (.ireturn, 1, 0, 0, 0, 0) from rfl))
theorem u27_48 : wp r 27 48 [vR o, a1] st x Q ↔ wp r 27 49 [vR o, a1] (vR o :: st) x Q := (wp_u (show cd 27 48 = some (.aload_n 0, 1, 0, 0, 0, 0) from rfl))
theorem u27_49 : wp r 27 49 ls (vA q :: st) x Q ↔ sbk 0 (hK x q) ∧ wp r 27 52 ls (vR (hR x q 1) :: st) x Q := (wp_u (show cd 27 49 = some (.getfield 25, 3, 0, 1, 5, 0) from rfl)).trans g_getR
theorem u27_52 : wp r 27 52 ls (vA q :: st) x Q ↔ sbk 2 (hK x q) ∧ wp r 27 55 ls (vI (hI x q 15) :: st) x Q := (wp_u (show cd 27 52 = some (.getfield 180, 3, 2, 15, 0, 0) from rfl)).trans g_getI
theorem u27_55 : wp r 27 55 ls [vI z] x Q ↔ Q (.inl (some (vI z))) x := (wp_u (show cd 27 55 = some (.ireturn, 1, 0, 0, 0, 0) from rfl))
theorem u27_56 : wp r 27 56 [vR o, a1] st x Q ↔ wp r 27 57 [vR o, a1] (vR o :: st) x Q := (wp_u (show cd 27 56 = some (.aload_n 0, 1, 0, 0, 0, 0) from rfl))
theorem u27_57 : wp r 27 57 ls (vA q :: st) x Q ↔ sbk 0 (hK x q) ∧ wp r 27 60 ls (vR (hR x q 1) :: st) x Q := (wp_u (show cd 27 57 = some (.getfield 25, 3, 0, 1, 5, 0) from rfl)).trans g_getR
theorem u27_60 : wp r 27 60 ls (vA q :: st) x Q ↔ sbk 2 (hK x q) ∧ wp r 27 63 ls (vI (hI x q 18) :: st) x Q := (wp_u (show cd 27 60 = some (.getfield 204, 3, 2, 18, 0, 0) from rfl)).trans g_getI
theorem u27_63 : wp r 27 63 ls [vI z] x Q ↔ Q (.inl (some (vI z))) x := (wp_u (show cd 27 63 = some (.ireturn, 1, 0, 0, 0, 0) from rfl))
theorem u27_64 : wp r 27 64 [vR o, a1] st x Q ↔ wp r 27 65 [vR o, a1] (vR o :: st) x Q := (wp_u (show cd 27 64 = some (.aload_n 0, 1, 0, 0, 0, 0) from rfl))
theorem u27_65 : wp r 27 65 ls (vA q :: st) x Q ↔ sbk 0 (hK x q) ∧ wp r 27 68 ls (vR (hR x q 1) :: st) x Q := (wp_u (show cd 27 65 = some (.getfield 25, 3, 0, 1, 5, 0) from rfl)).trans g_getR
theorem u27_68 : wp r 27 68 ls (vA q :: st) x Q ↔ sbk 2 (hK x q) ∧ wp r 27 71 ls (vI (hI x q 19) :: st) x Q := (wp_u (show cd 27 68 = some (.getfield 221, 3, 2, 19, 0, 0) from rfl)).trans g_getI
theorem u27_71 : wp r 27 71 ls [vI z] x Q ↔ Q (.inl (some (vI z))) x := (wp_u (show cd 27 71 = some (.ireturn, 1, 0, 0, 0, 0) from rfl))
theorem u27_72 : wp r 27 72 ls st x Q ↔ wp r 27 73 ls (vI (-1) :: st) x Q := (wp_u (show cd 27 72 = some (.iconst (-1), 1, 0, 0, 0, 0) from rfl))
theorem u27_73 : wp r 27 73 ls [vI z] x Q ↔ Q (.inl (some (vI z))) x := (wp_u (show cd 27 73 = some (.ireturn, 1, 0, 0, 0, 0) from rfl))
theorem e27 : wpc r 27 [vA q, vI z0] x Q ↔ wp r 27 0 [vA q, vI z0] [] x Q := Iff.rfl
/-! 28 D_message -/
theorem u28_0 : wp r 28 0 [vR o, a1, a2] st x Q ↔ wp r 28 1 [vR o, a1, a2] (vR o :: st) x Q := (wp_u (show cd 28 0 = some (.aload_n 0, 1, 0, 0, 0, 0) from rfl))
theorem u28_1 : wp r 28 1 ls (vA q :: st) x Q ↔ sbk 0 (hK x q) ∧ wp r 28 4 ls (vI (hI x q 3) :: st) x Q := (wp_u (show cd 28 1 = some (.getfield 167, 3, 0, 3, 4, 0) from rfl)).trans g_getI
theorem u28_4 : wp r 28 4 ls (vI z0 :: st) x Q ↔ sml st = true ∧ 1 < r ∧ wpc 1 39 [vI z0] x (wk r 28 4 ls st Q) := (wp_u (show cd 28 4 = some (.invokestatic 125, 3, 39, 1, 1, 0) from rfl)).trans (g_stat (by decide) (by simp) rfl)
theorem u28_7 : wp r 28 7 [a0, vI z, a2] st x Q ↔ wp r 28 8 [a0, vI z, a2] (vI z :: st) x Q := (wp_u (show cd 28 7 = some (.iload_n 1, 1, 0, 0, 0, 0) from rfl))
theorem u28_8 : wp r 28 8 ls (vI z :: st) x Q ↔ if z < 0 then wp r 28 22 ls st x Q else wp r 28 11 ls st x Q := (wp_u (show cd 28 8 = some (.ifCond .lt 14, 3, 22, 0, 0, 0) from rfl)).trans wq_d
theorem u28_11 : wp r 28 11 [a0, vI z, a2] st x Q ↔ wp r 28 12 [a0, vI z, a2] (vI z :: st) x Q := (wp_u (show cd 28 11 = some (.iload_n 1, 1, 0, 0, 0, 0) from rfl))
theorem u28_12 : wp r 28 12 [vR o, a1, a2] st x Q ↔ wp r 28 13 [vR o, a1, a2] (vR o :: st) x Q := (wp_u (show cd 28 12 = some (.aload_n 0, 1, 0, 0, 0, 0) from rfl))
theorem u28_13 : wp r 28 13 ls (vA q :: st) x Q ↔ sbk 0 (hK x q) ∧ wp r 28 16 ls (vR (hR x q 1) :: st) x Q := (wp_u (show cd 28 13 = some (.getfield 25, 3, 0, 1, 5, 0) from rfl)).trans g_getR
theorem u28_16 : wp r 28 16 ls (vA q :: st) x Q ↔ sbk 2 (hK x q) ∧ wp r 28 19 ls (vI (hI x q 15) :: st) x Q := (wp_u (show cd 28 16 = some (.getfield 180, 3, 2, 15, 0, 0) from rfl)).trans g_getI
theorem u28_19 : wp r 28 19 ls (vI w :: vI z :: st) x Q ↔ if z < w then wp r 28 24 ls st x Q else wp r 28 22 ls st x Q := (wp_u (show cd 28 19 = some (.if_icmp .lt 5, 3, 24, 0, 0, 0) from rfl)).trans wq_d
theorem u28_22 : wp r 28 22 ls st x Q ↔ wp r 28 23 ls (vI (-1) :: st) x Q := (wp_u (show cd 28 22 = some (.iconst (-1), 1, 0, 0, 0, 0) from rfl))
theorem u28_23 : wp r 28 23 ls [vI z] x Q ↔ Q (.inl (some (vI z))) x := (wp_u (show cd 28 23 = some (.ireturn, 1, 0, 0, 0, 0) from rfl))
theorem u28_24 : wp r 28 24 [a0, a1, vI z] st x Q ↔ wp r 28 25 [a0, a1, vI z] (vI z :: st) x Q := (wp_u (show cd 28 24 = some (.iload_n 2, 1, 0, 0, 0, 0) from rfl))
theorem u28_25 : wp r 28 25 ls (vI z :: st) x Q ↔ wp r 28 (tgt 25 (tsw z 0 83 [31, 41, 51, 73])) ls st x Q := (wp_u (show cd 28 25 = some (.tableswitch 83 0 3 #[31, 41, 51, 73], 31, 0, 0, 0, 0) from rfl))
theorem u28_56 : wp r 28 56 [vR o, a1, a2] st x Q ↔ wp r 28 57 [vR o, a1, a2] (vR o :: st) x Q := (wp_u (show cd 28 56 = some (.aload_n 0, 1, 0, 0, 0, 0) from rfl))
theorem u28_57 : wp r 28 57 ls (vA q :: st) x Q ↔ sbk 0 (hK x q) ∧ wp r 28 60 ls (vR (hR x q 1) :: st) x Q := (wp_u (show cd 28 57 = some (.getfield 25, 3, 0, 1, 5, 0) from rfl)).trans g_getR
theorem u28_60 : wp r 28 60 ls (vA q :: st) x Q ↔ sbk 2 (hK x q) ∧ wp r 28 63 ls (vR (hR x q 13) :: st) x Q := (wp_u (show cd 28 60 = some (.getfield 239, 3, 2, 13, 5, 0) from rfl)).trans g_getR
theorem u28_63 : wp r 28 63 [a0, vI z, a2] st x Q ↔ wp r 28 64 [a0, vI z, a2] (vI z :: st) x Q := (wp_u (show cd 28 63 = some (.iload_n 1, 1, 0, 0, 0, 0) from rfl))
theorem u28_64 : wp r 28 64 ls (vI i :: vA q :: st) x Q ↔ ldk 20 (hK x q) i ∧ wp r 28 65 ls (vI (hI x q i) :: st) x Q := (wp_u (show cd 28 64 = some (.iaload, 1, 0, 0, 0, 0) from rfl)).trans g_ldI
theorem u28_65 : wp r 28 65 ls [vI z] x Q ↔ Q (.inl (some (vI z))) x := (wp_u (show cd 28 65 = some (.ireturn, 1, 0, 0, 0, 0) from rfl))
theorem u28_66 : wp r 28 66 [vR o, a1, a2] st x Q ↔ wp r 28 67 [vR o, a1, a2] (vR o :: st) x Q := (wp_u (show cd 28 66 = some (.aload_n 0, 1, 0, 0, 0, 0) from rfl))
theorem u28_67 : wp r 28 67 ls (vA q :: st) x Q ↔ sbk 0 (hK x q) ∧ wp r 28 70 ls (vR (hR x q 1) :: st) x Q := (wp_u (show cd 28 67 = some (.getfield 25, 3, 0, 1, 5, 0) from rfl)).trans g_getR
theorem u28_70 : wp r 28 70 ls (vA q :: st) x Q ↔ sbk 2 (hK x q) ∧ wp r 28 73 ls (vR (hR x q 14) :: st) x Q := (wp_u (show cd 28 70 = some (.getfield 224, 3, 2, 14, 5, 0) from rfl)).trans g_getR
theorem u28_73 : wp r 28 73 [a0, vI z, a2] st x Q ↔ wp r 28 74 [a0, vI z, a2] (vI z :: st) x Q := (wp_u (show cd 28 73 = some (.iload_n 1, 1, 0, 0, 0, 0) from rfl))
theorem u28_74 : wp r 28 74 ls (vI i :: vA q :: st) x Q ↔ ldk 20 (hK x q) i ∧ wp r 28 75 ls (vI (hI x q i) :: st) x Q := (wp_u (show cd 28 74 = some (.iaload, 1, 0, 0, 0, 0) from rfl)).trans g_ldI
theorem u28_75 : wp r 28 75 ls [vI z] x Q ↔ Q (.inl (some (vI z))) x := (wp_u (show cd 28 75 = some (.ireturn, 1, 0, 0, 0, 0) from rfl))
theorem u28_76 : wp r 28 76 [vR o, a1, a2] st x Q ↔ wp r 28 77 [vR o, a1, a2] (vR o :: st) x Q := (wp_u (show cd 28 76 = some (.aload_n 0, 1, 0, 0, 0, 0) from rfl))
theorem u28_77 : wp r 28 77 ls (vA q :: st) x Q ↔ sbk 0 (hK x q) ∧ wp r 28 80 ls (vR (hR x q 1) :: st) x Q := (wp_u (show cd 28 77 = some (.getfield 25, 3, 0, 1, 5, 0) from rfl)).trans g_getR
theorem u28_80 : wp r 28 80 ls (vA q :: st) x Q ↔ sbk 2 (hK x q) ∧ wp r 28 83 ls (vR (hR x q 11) :: st) x Q := (wp_u (show cd 28 80 = some (.getfield 194, 3, 2, 11, 5, 0) from rfl)).trans g_getR
theorem u28_83 : wp r 28 83 [a0, vI z, a2] st x Q ↔ wp r 28 84 [a0, vI z, a2] (vI z :: st) x Q := (wp_u (show cd 28 83 = some (.iload_n 1, 1, 0, 0, 0, 0) from rfl))
theorem u28_84 : wp r 28 84 ls (vI i :: vA q :: st) x Q ↔ ldk 20 (hK x q) i ∧ wp r 28 85 ls (vI (hI x q i) :: st) x Q := (wp_u (show cd 28 84 = some (.iaload, 1, 0, 0, 0, 0) from rfl)).trans g_ldI
theorem u28_85 : wp r 28 85 [vR o, a1, a2] st x Q ↔ wp r 28 86 [vR o, a1, a2] (vR o :: st) x Q := (wp_u (show cd 28 85 = some (.aload_n 0, 1, 0, 0, 0, 0) from rfl))
theorem u28_86 : wp r 28 86 ls (vA q :: st) x Q ↔ sbk 0 (hK x q) ∧ wp r 28 89 ls (vR (hR x q 1) :: st) x Q := (wp_u (show cd 28 86 = some (.getfield 25, 3, 0, 1, 5, 0) from rfl)).trans g_getR
theorem u28_89 : wp r 28 89 ls (vA q :: st) x Q ↔ sbk 2 (hK x q) ∧ wp r 28 92 ls (vR (hR x q 10) :: st) x Q := (wp_u (show cd 28 89 = some (.getfield 198, 3, 2, 10, 5, 0) from rfl)).trans g_getR
theorem u28_92 : wp r 28 92 [a0, vI z, a2] st x Q ↔ wp r 28 93 [a0, vI z, a2] (vI z :: st) x Q := (wp_u (show cd 28 92 = some (.iload_n 1, 1, 0, 0, 0, 0) from rfl))
theorem u28_93 : wp r 28 93 ls (vI i :: vA q :: st) x Q ↔ ldk 20 (hK x q) i ∧ wp r 28 94 ls (vI (hI x q i) :: st) x Q := (wp_u (show cd 28 93 = some (.iaload, 1, 0, 0, 0, 0) from rfl)).trans g_ldI
theorem u28_94 : wp r 28 94 ls (vI w :: vI z :: st) x Q ↔ inI (z - w) = true ∧ wp r 28 95 ls (vI (z - w) :: st) x Q := (wp_u (show cd 28 94 = some (.isub, 1, 0, 0, 0, 0) from rfl)).trans wq_if
theorem u28_95 : wp r 28 95 ls st x Q ↔ wp r 28 96 ls (vI 1 :: st) x Q := (wp_u (show cd 28 95 = some (.iconst 1, 1, 0, 0, 0, 0) from rfl))
theorem u28_96 : wp r 28 96 ls (vI w :: vI z :: st) x Q ↔ inI (z + w) = true ∧ wp r 28 97 ls (vI (z + w) :: st) x Q := (wp_u (show cd 28 96 = some (.iadd, 1, 0, 0, 0, 0) from rfl)).trans wq_if
theorem u28_97 : wp r 28 97 ls [vI z] x Q ↔ Q (.inl (some (vI z))) x := (wp_u (show cd 28 97 = some (.ireturn, 1, 0, 0, 0, 0) from rfl))
theorem u28_98 : wp r 28 98 [vR o, a1, a2] st x Q ↔ wp r 28 99 [vR o, a1, a2] (vR o :: st) x Q := (wp_u (show cd 28 98 = some (.aload_n 0, 1, 0, 0, 0, 0) from rfl))
theorem u28_99 : wp r 28 99 ls (vA q :: st) x Q ↔ sbk 0 (hK x q) ∧ wp r 28 102 ls (vR (hR x q 1) :: st) x Q := (wp_u (show cd 28 99 = some (.getfield 25, 3, 0, 1, 5, 0) from rfl)).trans g_getR
theorem u28_102 : wp r 28 102 ls (vA q :: st) x Q ↔ sbk 2 (hK x q) ∧ wp r 28 105 ls (vR (hR x q 12) :: st) x Q := (wp_u (show cd 28 102 = some (.getfield 201, 3, 2, 12, 5, 0) from rfl)).trans g_getR
theorem u28_105 : wp r 28 105 [a0, vI z, a2] st x Q ↔ wp r 28 106 [a0, vI z, a2] (vI z :: st) x Q := (wp_u (show cd 28 105 = some (.iload_n 1, 1, 0, 0, 0, 0) from rfl))
theorem u28_106 : wp r 28 106 ls (vI i :: vA q :: st) x Q ↔ ldk 20 (hK x q) i ∧ wp r 28 107 ls (vI (hI x q i) :: st) x Q := (wp_u (show cd 28 106 = some (.iaload, 1, 0, 0, 0, 0) from rfl)).trans g_ldI
theorem u28_107 : wp r 28 107 ls [vI z] x Q ↔ Q (.inl (some (vI z))) x := (wp_u (show cd 28 107 = some (.ireturn, 1, 0, 0, 0, 0) from rfl))
theorem u28_108 : wp r 28 108 ls st x Q ↔ wp r 28 109 ls (vI (-1) :: st) x Q := (wp_u (show cd 28 108 = some (.iconst (-1), 1, 0, 0, 0, 0) from rfl))
theorem u28_109 : wp r 28 109 ls [vI z] x Q ↔ Q (.inl (some (vI z))) x := (wp_u (show cd 28 109 = some (.ireturn, 1, 0, 0, 0, 0) from rfl))
theorem e28 : wpc r 28 [vA q, vI z0, vI z1] x Q ↔ wp r 28 0 [vA q, vI z0, vI z1] [] x Q := Iff.rfl
/-! 29 D_group -/
theorem u29_0 : wp r 29 0 [vR o, a1] st x Q ↔ wp r 29 1 [vR o, a1] (vR o :: st) x Q := (wp_u (show cd 29 0 = some (.aload_n 0, 1, 0, 0, 0, 0) from rfl))
theorem u29_1 : wp r 29 1 ls (vA q :: st) x Q ↔ sbk 0 (hK x q) ∧ wp r 29 4 ls (vI (hI x q 3) :: st) x Q := (wp_u (show cd 29 1 = some (.getfield 167, 3, 0, 3, 4, 0) from rfl)).trans g_getI
theorem u29_4 : wp r 29 4 ls (vI z0 :: st) x Q ↔ sml st = true ∧ 1 < r ∧ wpc 1 39 [vI z0] x (wk r 29 4 ls st Q) := (wp_u (show cd 29 4 = some (.invokestatic 125, 3, 39, 1, 1, 0) from rfl)).trans (g_stat (by decide) (by simp) rfl)
theorem u29_7 : wp r 29 7 [a0, vI z] st x Q ↔ wp r 29 8 [a0, vI z] (vI z :: st) x Q := (wp_u (show cd 29 7 = some (.iload_n 1, 1, 0, 0, 0, 0) from rfl))
theorem u29_8 : wp r 29 8 ls (vI z :: st) x Q ↔ if z < 0 then wp r 29 22 ls st x Q else wp r 29 11 ls st x Q := (wp_u (show cd 29 8 = some (.ifCond .lt 14, 3, 22, 0, 0, 0) from rfl)).trans wq_d
theorem u29_11 : wp r 29 11 [a0, vI z] st x Q ↔ wp r 29 12 [a0, vI z] (vI z :: st) x Q := (wp_u (show cd 29 11 = some (.iload_n 1, 1, 0, 0, 0, 0) from rfl))
theorem u29_12 : wp r 29 12 [vR o, a1] st x Q ↔ wp r 29 13 [vR o, a1] (vR o :: st) x Q := (wp_u (show cd 29 12 = some (.aload_n 0, 1, 0, 0, 0, 0) from rfl))
theorem u29_13 : wp r 29 13 ls (vA q :: st) x Q ↔ sbk 0 (hK x q) ∧ wp r 29 16 ls (vR (hR x q 1) :: st) x Q := (wp_u (show cd 29 13 = some (.getfield 25, 3, 0, 1, 5, 0) from rfl)).trans g_getR
theorem u29_16 : wp r 29 16 ls (vA q :: st) x Q ↔ sbk 2 (hK x q) ∧ wp r 29 19 ls (vI (hI x q 18) :: st) x Q := (wp_u (show cd 29 16 = some (.getfield 204, 3, 2, 18, 0, 0) from rfl)).trans g_getI
theorem u29_19 : wp r 29 19 ls (vI w :: vI z :: st) x Q ↔ if z < w then wp r 29 26 ls st x Q else wp r 29 22 ls st x Q := (wp_u (show cd 29 19 = some (.if_icmp .lt 7, 3, 26, 0, 0, 0) from rfl)).trans wq_d
theorem u29_22 : wp r 29 22 ls st x Q ↔ wp r 29 23 ls (vI (-1) :: st) x Q := (wp_u (show cd 29 22 = some (.iconst (-1), 1, 0, 0, 0, 0) from rfl))
theorem u29_23 : wp r 29 23 ls st x Q ↔ wp r 29 35 ls st x Q := (wp_u (show cd 29 23 = some (.goto 12, 3, 35, 0, 0, 0) from rfl))
theorem u29_26 : wp r 29 26 [vR o, a1] st x Q ↔ wp r 29 27 [vR o, a1] (vR o :: st) x Q := (wp_u (show cd 29 26 = some (.aload_n 0, 1, 0, 0, 0, 0) from rfl))
theorem u29_27 : wp r 29 27 ls (vA q :: st) x Q ↔ sbk 0 (hK x q) ∧ wp r 29 30 ls (vR (hR x q 1) :: st) x Q := (wp_u (show cd 29 27 = some (.getfield 25, 3, 0, 1, 5, 0) from rfl)).trans g_getR
theorem u29_30 : wp r 29 30 ls (vA q :: st) x Q ↔ sbk 2 (hK x q) ∧ wp r 29 33 ls (vR (hR x q 17) :: st) x Q := (wp_u (show cd 29 30 = some (.getfield 210, 3, 2, 17, 5, 0) from rfl)).trans g_getR
theorem u29_33 : wp r 29 33 [a0, vI z] st x Q ↔ wp r 29 34 [a0, vI z] (vI z :: st) x Q := (wp_u (show cd 29 33 = some (.iload_n 1, 1, 0, 0, 0, 0) from rfl))
theorem u29_34 : wp r 29 34 ls (vI i :: vA q :: st) x Q ↔ ldk 20 (hK x q) i ∧ wp r 29 35 ls (vI (hI x q i) :: st) x Q := (wp_u (show cd 29 34 = some (.iaload, 1, 0, 0, 0, 0) from rfl)).trans g_ldI
theorem u29_35 : wp r 29 35 ls [vI z] x Q ↔ Q (.inl (some (vI z))) x := (wp_u (show cd 29 35 = some (.ireturn, 1, 0, 0, 0, 0) from rfl))
theorem e29 : wpc r 29 [vA q, vI z0] x Q ↔ wp r 29 0 [vA q, vI z0] [] x Q := Iff.rfl
/-! 30 D_segment -/
theorem u30_0 : wp r 30 0 [vR o, a1, a2, a3, a4, a5, a6] st x Q ↔ wp r 30 1 [vR o, a1, a2, a3, a4, a5, a6] (vR o :: st) x Q := (wp_u (show cd 30 0 = some (.aload_n 0, 1, 0, 0, 0, 0) from rfl))
theorem u30_1 : wp r 30 1 ls (vA q :: st) x Q ↔ sbk 0 (hK x q) ∧ wp r 30 4 ls (vI (hI x q 3) :: st) x Q := (wp_u (show cd 30 1 = some (.getfield 167, 3, 0, 3, 4, 0) from rfl)).trans g_getI
theorem u30_4 : wp r 30 4 ls (vI z0 :: st) x Q ↔ sml st = true ∧ 1 < r ∧ wpc 1 39 [vI z0] x (wk r 30 4 ls st Q) := (wp_u (show cd 30 4 = some (.invokestatic 125, 3, 39, 1, 1, 0) from rfl)).trans (g_stat (by decide) (by simp) rfl)
theorem u30_7 : wp r 30 7 [a0, vI z, a2, a3, a4, a5, a6] st x Q ↔ wp r 30 8 [a0, vI z, a2, a3, a4, a5, a6] (vI z :: st) x Q := (wp_u (show cd 30 7 = some (.iload_n 1, 1, 0, 0, 0, 0) from rfl))
theorem u30_8 : wp r 30 8 ls (vI z :: st) x Q ↔ if z < 0 then wp r 30 22 ls st x Q else wp r 30 11 ls st x Q := (wp_u (show cd 30 8 = some (.ifCond .lt 14, 3, 22, 0, 0, 0) from rfl)).trans wq_d
theorem u30_11 : wp r 30 11 [a0, vI z, a2, a3, a4, a5, a6] st x Q ↔ wp r 30 12 [a0, vI z, a2, a3, a4, a5, a6] (vI z :: st) x Q := (wp_u (show cd 30 11 = some (.iload_n 1, 1, 0, 0, 0, 0) from rfl))
theorem u30_12 : wp r 30 12 [vR o, a1, a2, a3, a4, a5, a6] st x Q ↔ wp r 30 13 [vR o, a1, a2, a3, a4, a5, a6] (vR o :: st) x Q := (wp_u (show cd 30 12 = some (.aload_n 0, 1, 0, 0, 0, 0) from rfl))
theorem u30_13 : wp r 30 13 ls (vA q :: st) x Q ↔ sbk 0 (hK x q) ∧ wp r 30 16 ls (vR (hR x q 1) :: st) x Q := (wp_u (show cd 30 13 = some (.getfield 25, 3, 0, 1, 5, 0) from rfl)).trans g_getR
theorem u30_16 : wp r 30 16 ls (vA q :: st) x Q ↔ sbk 2 (hK x q) ∧ wp r 30 19 ls (vI (hI x q 3) :: st) x Q := (wp_u (show cd 30 16 = some (.getfield 186, 3, 2, 3, 0, 0) from rfl)).trans g_getI
theorem u30_19 : wp r 30 19 ls (vI w :: vI z :: st) x Q ↔ if z < w then wp r 30 24 ls st x Q else wp r 30 22 ls st x Q := (wp_u (show cd 30 19 = some (.if_icmp .lt 5, 3, 24, 0, 0, 0) from rfl)).trans wq_d
theorem u30_22 : wp r 30 22 ls st x Q ↔ wp r 30 23 ls (vI (-1) :: st) x Q := (wp_u (show cd 30 22 = some (.iconst (-1), 1, 0, 0, 0, 0) from rfl))
theorem u30_23 : wp r 30 23 ls [vI z] x Q ↔ Q (.inl (some (vI z))) x := (wp_u (show cd 30 23 = some (.ireturn, 1, 0, 0, 0, 0) from rfl))
theorem u30_24 : wp r 30 24 [vR o, a1, a2, a3, a4, a5, a6] st x Q ↔ wp r 30 25 [vR o, a1, a2, a3, a4, a5, a6] (vR o :: st) x Q := (wp_u (show cd 30 24 = some (.aload_n 0, 1, 0, 0, 0, 0) from rfl))
theorem u30_25 : wp r 30 25 ls (vA q :: st) x Q ↔ sbk 0 (hK x q) ∧ wp r 30 28 ls (vR (hR x q 1) :: st) x Q := (wp_u (show cd 30 25 = some (.getfield 25, 3, 0, 1, 5, 0) from rfl)).trans g_getR
theorem u30_28 : wp r 30 28 ls (vA q :: st) x Q ↔ sbk 2 (hK x q) ∧ wp r 30 31 ls (vR (hR x q 2) :: st) x Q := (wp_u (show cd 30 28 = some (.getfield 187, 3, 2, 2, 5, 0) from rfl)).trans g_getR
theorem u30_31 : wp r 30 31 [a0, vI z, a2, a3, a4, a5, a6] st x Q ↔ wp r 30 32 [a0, vI z, a2, a3, a4, a5, a6] (vI z :: st) x Q := (wp_u (show cd 30 31 = some (.iload_n 1, 1, 0, 0, 0, 0) from rfl))
theorem u30_32 : wp r 30 32 ls (vI i :: vA q :: st) x Q ↔ ldr (hK x q) i ∧ wp r 30 33 ls (vR (hR x q i) :: st) x Q := (wp_u (show cd 30 32 = some (.aaload, 1, 0, 0, 0, 0) from rfl)).trans g_ldR
theorem u30_33 : wp r 30 33 [a0, a1, a2, a3, a4, a5, a6] (vR o :: st) x Q ↔ wp r 30 35 [a0, a1, a2, a3, a4, vR o, a6] st x Q := (wp_u (show cd 30 33 = some (.astore 5, 2, 0, 0, 0, 0) from rfl))
theorem u30_35 : wp r 30 35 [a0, a1, vI z, a3, a4, a5, a6] st x Q ↔ wp r 30 36 [a0, a1, vI z, a3, a4, a5, a6] (vI z :: st) x Q := (wp_u (show cd 30 35 = some (.iload_n 2, 1, 0, 0, 0, 0) from rfl))
theorem u30_36 : wp r 30 36 ls st x Q ↔ wp r 30 37 ls (vI (-1) :: st) x Q := (wp_u (show cd 30 36 = some (.iconst (-1), 1, 0, 0, 0, 0) from rfl))
theorem u30_37 : wp r 30 37 ls (vI w :: vI z :: st) x Q ↔ if z = w then wp r 30 46 ls st x Q else wp r 30 40 ls st x Q := (wp_u (show cd 30 37 = some (.if_icmp .eq 9, 3, 46, 0, 0, 0) from rfl)).trans wq_d
theorem u30_40 : wp r 30 40 [a0, a1, vI z, a3, a4, a5, a6] st x Q ↔ wp r 30 41 [a0, a1, vI z, a3, a4, a5, a6] (vI z :: st) x Q := (wp_u (show cd 30 40 = some (.iload_n 2, 1, 0, 0, 0, 0) from rfl))
theorem u30_41 : wp r 30 41 ls st x Q ↔ wp r 30 43 ls (vI (-2) :: st) x Q := (wp_u (show cd 30 41 = some (.bipush (-2), 2, 0, 0, 0, 0) from rfl))
theorem u30_43 : wp r 30 43 ls (vI w :: vI z :: st) x Q ↔ if z = w then wp r 30 46 ls st x Q else wp r 30 65 ls st x Q := (wp_u (show cd 30 43 = some (.if_icmp .ne 22, 3, 65, 0, 0, 0) from rfl)).trans wq_dn
theorem u30_46 : wp r 30 46 [a0, a1, vI z, a3, a4, a5, a6] st x Q ↔ wp r 30 47 [a0, a1, vI z, a3, a4, a5, a6] (vI z :: st) x Q := (wp_u (show cd 30 46 = some (.iload_n 2, 1, 0, 0, 0, 0) from rfl))
theorem u30_47 : wp r 30 47 ls st x Q ↔ wp r 30 48 ls (vI (-1) :: st) x Q := (wp_u (show cd 30 47 = some (.iconst (-1), 1, 0, 0, 0, 0) from rfl))
theorem u30_48 : wp r 30 48 ls (vI w :: vI z :: st) x Q ↔ if z = w then wp r 30 51 ls st x Q else wp r 30 59 ls st x Q := (wp_u (show cd 30 48 = some (.if_icmp .ne 11, 3, 59, 0, 0, 0) from rfl)).trans wq_dn
theorem u30_51 : wp r 30 51 [a0, a1, a2, a3, a4, vR o, a6] st x Q ↔ wp r 30 53 [a0, a1, a2, a3, a4, vR o, a6] (vR o :: st) x Q := (wp_u (show cd 30 51 = some (.aload 5, 2, 0, 0, 0, 0) from rfl))
theorem u30_53 : wp r 30 53 ls (vA q :: st) x Q ↔ sbk 3 (hK x q) ∧ wp r 30 56 ls (vI (hI x q 2) :: st) x Q := (wp_u (show cd 30 53 = some (.getfield 292, 3, 3, 2, 0, 0) from rfl)).trans g_getI
theorem u30_56 : wp r 30 56 ls st x Q ↔ wp r 30 64 ls st x Q := (wp_u (show cd 30 56 = some (.goto 8, 3, 64, 0, 0, 0) from rfl))
theorem u30_59 : wp r 30 59 [a0, a1, a2, a3, a4, vR o, a6] st x Q ↔ wp r 30 61 [a0, a1, a2, a3, a4, vR o, a6] (vR o :: st) x Q := (wp_u (show cd 30 59 = some (.aload 5, 2, 0, 0, 0, 0) from rfl))
theorem u30_61 : wp r 30 61 ls (vA q :: st) x Q ↔ sbk 3 (hK x q) ∧ wp r 30 64 ls (vI (hI x q 0) :: st) x Q := (wp_u (show cd 30 61 = some (.getfield 191, 3, 3, 0, 0, 0) from rfl)).trans g_getI
theorem u30_64 : wp r 30 64 ls [vI z] x Q ↔ Q (.inl (some (vI z))) x := (wp_u (show cd 30 64 = some (.ireturn, 1, 0, 0, 0, 0) from rfl))
theorem u30_65 : wp r 30 65 [a0, a1, vI z, a3, a4, a5, a6] st x Q ↔ wp r 30 66 [a0, a1, vI z, a3, a4, a5, a6] (vI z :: st) x Q := (wp_u (show cd 30 65 = some (.iload_n 2, 1, 0, 0, 0, 0) from rfl))
theorem u30_66 : wp r 30 66 ls (vI z :: st) x Q ↔ if z < 0 then wp r 30 78 ls st x Q else wp r 30 69 ls st x Q := (wp_u (show cd 30 66 = some (.ifCond .lt 12, 3, 78, 0, 0, 0) from rfl)).trans wq_d
theorem u30_69 : wp r 30 69 [a0, a1, vI z, a3, a4, a5, a6] st x Q ↔ wp r 30 70 [a0, a1, vI z, a3, a4, a5, a6] (vI z :: st) x Q := (wp_u (show cd 30 69 = some (.iload_n 2, 1, 0, 0, 0, 0) from rfl))
theorem u30_70 : wp r 30 70 [a0, a1, a2, a3, a4, vR o, a6] st x Q ↔ wp r 30 72 [a0, a1, a2, a3, a4, vR o, a6] (vR o :: st) x Q := (wp_u (show cd 30 70 = some (.aload 5, 2, 0, 0, 0, 0) from rfl))
theorem u30_72 : wp r 30 72 ls (vA q :: st) x Q ↔ sbk 3 (hK x q) ∧ wp r 30 75 ls (vI (hI x q 2) :: st) x Q := (wp_u (show cd 30 72 = some (.getfield 292, 3, 3, 2, 0, 0) from rfl)).trans g_getI
theorem u30_75 : wp r 30 75 ls (vI w :: vI z :: st) x Q ↔ if z < w then wp r 30 80 ls st x Q else wp r 30 78 ls st x Q := (wp_u (show cd 30 75 = some (.if_icmp .lt 5, 3, 80, 0, 0, 0) from rfl)).trans wq_d
theorem u30_78 : wp r 30 78 ls st x Q ↔ wp r 30 79 ls (vI (-1) :: st) x Q := (wp_u (show cd 30 78 = some (.iconst (-1), 1, 0, 0, 0, 0) from rfl))
theorem u30_79 : wp r 30 79 ls [vI z] x Q ↔ Q (.inl (some (vI z))) x := (wp_u (show cd 30 79 = some (.ireturn, 1, 0, 0, 0, 0) from rfl))
theorem u30_80 : wp r 30 80 [a0, a1, a2, vI z, a4, a5, a6] st x Q ↔ wp r 30 81 [a0, a1, a2, vI z, a4, a5, a6] (vI z :: st) x Q := (wp_u (show cd 30 80 = some (.iload_n 3, 1, 0, 0, 0, 0) from rfl))
theorem u30_81 : wp r 30 81 ls st x Q ↔ wp r 30 82 ls (vI (-1) :: st) x Q := (wp_u (show cd 30 81 = some (.iconst (-1), 1, 0, 0, 0, 0) from rfl))
theorem u30_82 : wp r 30 82 ls (vI w :: vI z :: st) x Q ↔ if z = w then wp r 30 85 ls st x Q else wp r 30 101 ls st x Q := (wp_u (show cd 30 82 = some (.if_icmp .ne 19, 3, 101, 0, 0, 0) from rfl)).trans wq_dn
theorem u30_85 : wp r 30 85 [vR o, a1, a2, a3, a4, a5, a6] st x Q ↔ wp r 30 86 [vR o, a1, a2, a3, a4, a5, a6] (vR o :: st) x Q := (wp_u (show cd 30 85 = some (.aload_n 0, 1, 0, 0, 0, 0) from rfl))
theorem u30_86 : wp r 30 86 ls (vA q :: st) x Q ↔ sbk 0 (hK x q) ∧ wp r 30 89 ls (vR (hR x q 1) :: st) x Q := (wp_u (show cd 30 86 = some (.getfield 25, 3, 0, 1, 5, 0) from rfl)).trans g_getR
theorem u30_89 : wp r 30 89 ls (vA q :: st) x Q ↔ sbk 2 (hK x q) ∧ wp r 30 92 ls (vR (hR x q 5) :: st) x Q := (wp_u (show cd 30 89 = some (.getfield 278, 3, 2, 5, 5, 0) from rfl)).trans g_getR
theorem u30_92 : wp r 30 92 [a0, a1, a2, a3, a4, vR o, a6] st x Q ↔ wp r 30 94 [a0, a1, a2, a3, a4, vR o, a6] (vR o :: st) x Q := (wp_u (show cd 30 92 = some (.aload 5, 2, 0, 0, 0, 0) from rfl))
theorem u30_94 : wp r 30 94 ls (vA q :: st) x Q ↔ sbk 3 (hK x q) ∧ wp r 30 97 ls (vI (hI x q 1) :: st) x Q := (wp_u (show cd 30 94 = some (.getfield 293, 3, 3, 1, 0, 0) from rfl)).trans g_getI
theorem u30_97 : wp r 30 97 [a0, a1, vI z, a3, a4, a5, a6] st x Q ↔ wp r 30 98 [a0, a1, vI z, a3, a4, a5, a6] (vI z :: st) x Q := (wp_u (show cd 30 97 = some (.iload_n 2, 1, 0, 0, 0, 0) from rfl))
theorem u30_98 : wp r 30 98 ls (vI w :: vI z :: st) x Q ↔ inI (z + w) = true ∧ wp r 30 99 ls (vI (z + w) :: st) x Q := (wp_u (show cd 30 98 = some (.iadd, 1, 0, 0, 0, 0) from rfl)).trans wq_if
theorem u30_99 : wp r 30 99 ls (vI i :: vA q :: st) x Q ↔ ldk 22 (hK x q) i ∧ wp r 30 100 ls (vI (hI x q i) :: st) x Q := (wp_u (show cd 30 99 = some (.saload, 1, 0, 0, 0, 0) from rfl)).trans g_ldI
theorem u30_100 : wp r 30 100 ls [vI z] x Q ↔ Q (.inl (some (vI z))) x := (wp_u (show cd 30 100 = some (.ireturn, 1, 0, 0, 0, 0) from rfl))
theorem u30_101 : wp r 30 101 [vR o, a1, a2, a3, a4, a5, a6] st x Q ↔ wp r 30 102 [vR o, a1, a2, a3, a4, a5, a6] (vR o :: st) x Q := (wp_u (show cd 30 101 = some (.aload_n 0, 1, 0, 0, 0, 0) from rfl))
theorem u30_102 : wp r 30 102 ls (vA q :: st) x Q ↔ sbk 0 (hK x q) ∧ wp r 30 105 ls (vR (hR x q 1) :: st) x Q := (wp_u (show cd 30 102 = some (.getfield 25, 3, 0, 1, 5, 0) from rfl)).trans g_getR
theorem u30_105 : wp r 30 105 [a0, vI z, a2, a3, a4, a5, a6] st x Q ↔ wp r 30 106 [a0, vI z, a2, a3, a4, a5, a6] (vI z :: st) x Q := (wp_u (show cd 30 105 = some (.iload_n 1, 1, 0, 0, 0, 0) from rfl))
theorem u30_106 : wp r 30 106 [a0, a1, vI z, a3, a4, a5, a6] st x Q ↔ wp r 30 107 [a0, a1, vI z, a3, a4, a5, a6] (vI z :: st) x Q := (wp_u (show cd 30 106 = some (.iload_n 2, 1, 0, 0, 0, 0) from rfl))
theorem u30_107 : wp r 30 107 [a0, a1, a2, vI z, a4, a5, a6] st x Q ↔ wp r 30 108 [a0, a1, a2, vI z, a4, a5, a6] (vI z :: st) x Q := (wp_u (show cd 30 107 = some (.iload_n 3, 1, 0, 0, 0, 0) from rfl))
theorem u30_108 : wp r 30 108 ls (vI z2 :: vI z1 :: vI z0 :: vA q :: st) x Q ↔ isk 2 (hK x q) ∧ sml st = true ∧ 1 < r ∧ wpc 1 48 [vA q, vI z0, vI z1, vI z2] x (wk r 30 108 ls st Q) := (wp_u (show cd 30 108 = some (.invokevirtual 306, 3, 48, 4, 1, 2) from rfl)).trans (g_virt rfl (by decide) (by simp) rfl)
theorem u30_111 : wp r 30 111 [a0, a1, a2, a3, a4, a5, a6] (vI z :: st) x Q ↔ wp r 30 113 [a0, a1, a2, a3, a4, a5, vI z] st x Q := (wp_u (show cd 30 111 = some (.istore 6, 2, 0, 0, 0, 0) from rfl))
theorem u30_113 : wp r 30 113 [a0, a1, a2, a3, a4, a5, vI z] st x Q ↔ wp r 30 115 [a0, a1, a2, a3, a4, a5, vI z] (vI z :: st) x Q := (wp_u (show cd 30 113 = some (.iload 6, 2, 0, 0, 0, 0) from rfl))
theorem u30_115 : wp r 30 115 ls st x Q ↔ wp r 30 116 ls (vI (-1) :: st) x Q := (wp_u (show cd 30 115 = some (.iconst (-1), 1, 0, 0, 0, 0) from rfl))
theorem u30_116 : wp r 30 116 ls (vI w :: vI z :: st) x Q ↔ if z = w then wp r 30 140 ls st x Q else wp r 30 119 ls st x Q := (wp_u (show cd 30 116 = some (.if_icmp .eq 24, 3, 140, 0, 0, 0) from rfl)).trans wq_d
theorem u30_119 : wp r 30 119 [a0, a1, a2, a3, vI z, a5, a6] st x Q ↔ wp r 30 121 [a0, a1, a2, a3, vI z, a5, a6] (vI z :: st) x Q := (wp_u (show cd 30 119 = some (.iload 4, 2, 0, 0, 0, 0) from rfl))
theorem u30_121 : wp r 30 121 ls st x Q ↔ wp r 30 122 ls (vI (-1) :: st) x Q := (wp_u (show cd 30 121 = some (.iconst (-1), 1, 0, 0, 0, 0) from rfl))
theorem u30_122 : wp r 30 122 ls (vI w :: vI z :: st) x Q ↔ if z < w then wp r 30 140 ls st x Q else wp r 30 125 ls st x Q := (wp_u (show cd 30 122 = some (.if_icmp .lt 18, 3, 140, 0, 0, 0) from rfl)).trans wq_d
theorem u30_125 : wp r 30 125 [a0, a1, a2, a3, vI z, a5, a6] st x Q ↔ wp r 30 127 [a0, a1, a2, a3, vI z, a5, a6] (vI z :: st) x Q := (wp_u (show cd 30 125 = some (.iload 4, 2, 0, 0, 0, 0) from rfl))
theorem u30_127 : wp r 30 127 [vR o, a1, a2, a3, a4, a5, a6] st x Q ↔ wp r 30 128 [vR o, a1, a2, a3, a4, a5, a6] (vR o :: st) x Q := (wp_u (show cd 30 127 = some (.aload_n 0, 1, 0, 0, 0, 0) from rfl))
theorem u30_128 : wp r 30 128 ls (vA q :: st) x Q ↔ sbk 0 (hK x q) ∧ wp r 30 131 ls (vR (hR x q 1) :: st) x Q := (wp_u (show cd 30 128 = some (.getfield 25, 3, 0, 1, 5, 0) from rfl)).trans g_getR
theorem u30_131 : wp r 30 131 ls (vA q :: st) x Q ↔ sbk 2 (hK x q) ∧ wp r 30 134 ls (vR (hR x q 8) :: st) x Q := (wp_u (show cd 30 131 = some (.getfield 263, 3, 2, 8, 5, 0) from rfl)).trans g_getR
theorem u30_134 : wp r 30 134 [a0, a1, a2, a3, a4, a5, vI z] st x Q ↔ wp r 30 136 [a0, a1, a2, a3, a4, a5, vI z] (vI z :: st) x Q := (wp_u (show cd 30 134 = some (.iload 6, 2, 0, 0, 0, 0) from rfl))
theorem u30_136 : wp r 30 136 ls (vI i :: vA q :: st) x Q ↔ ldk 22 (hK x q) i ∧ wp r 30 137 ls (vI (hI x q i) :: st) x Q := (wp_u (show cd 30 136 = some (.saload, 1, 0, 0, 0, 0) from rfl)).trans g_ldI
theorem u30_137 : wp r 30 137 ls (vI w :: vI z :: st) x Q ↔ if z < w then wp r 30 142 ls st x Q else wp r 30 140 ls st x Q := (wp_u (show cd 30 137 = some (.if_icmp .lt 5, 3, 142, 0, 0, 0) from rfl)).trans wq_d
theorem u30_140 : wp r 30 140 ls st x Q ↔ wp r 30 141 ls (vI (-1) :: st) x Q := (wp_u (show cd 30 140 = some (.iconst (-1), 1, 0, 0, 0, 0) from rfl))
theorem u30_141 : wp r 30 141 ls [vI z] x Q ↔ Q (.inl (some (vI z))) x := (wp_u (show cd 30 141 = some (.ireturn, 1, 0, 0, 0, 0) from rfl))
theorem u30_142 : wp r 30 142 [a0, a1, a2, a3, vI z, a5, a6] st x Q ↔ wp r 30 144 [a0, a1, a2, a3, vI z, a5, a6] (vI z :: st) x Q := (wp_u (show cd 30 142 = some (.iload 4, 2, 0, 0, 0, 0) from rfl))
theorem u30_144 : wp r 30 144 ls st x Q ↔ wp r 30 145 ls (vI (-1) :: st) x Q := (wp_u (show cd 30 144 = some (.iconst (-1), 1, 0, 0, 0, 0) from rfl))
theorem u30_145 : wp r 30 145 ls (vI w :: vI z :: st) x Q ↔ if z = w then wp r 30 148 ls st x Q else wp r 30 161 ls st x Q := (wp_u (show cd 30 145 = some (.if_icmp .ne 16, 3, 161, 0, 0, 0) from rfl)).trans wq_dn
theorem u30_148 : wp r 30 148 [vR o, a1, a2, a3, a4, a5, a6] st x Q ↔ wp r 30 149 [vR o, a1, a2, a3, a4, a5, a6] (vR o :: st) x Q := (wp_u (show cd 30 148 = some (.aload_n 0, 1, 0, 0, 0, 0) from rfl))
theorem u30_149 : wp r 30 149 ls (vA q :: st) x Q ↔ sbk 0 (hK x q) ∧ wp r 30 152 ls (vR (hR x q 1) :: st) x Q := (wp_u (show cd 30 149 = some (.getfield 25, 3, 0, 1, 5, 0) from rfl)).trans g_getR
theorem u30_152 : wp r 30 152 ls (vA q :: st) x Q ↔ sbk 2 (hK x q) ∧ wp r 30 155 ls (vR (hR x q 8) :: st) x Q := (wp_u (show cd 30 152 = some (.getfield 263, 3, 2, 8, 5, 0) from rfl)).trans g_getR
theorem u30_155 : wp r 30 155 [a0, a1, a2, a3, a4, a5, vI z] st x Q ↔ wp r 30 157 [a0, a1, a2, a3, a4, a5, vI z] (vI z :: st) x Q := (wp_u (show cd 30 155 = some (.iload 6, 2, 0, 0, 0, 0) from rfl))
theorem u30_157 : wp r 30 157 ls (vI i :: vA q :: st) x Q ↔ ldk 22 (hK x q) i ∧ wp r 30 158 ls (vI (hI x q i) :: st) x Q := (wp_u (show cd 30 157 = some (.saload, 1, 0, 0, 0, 0) from rfl)).trans g_ldI
theorem u30_158 : wp r 30 158 ls st x Q ↔ wp r 30 182 ls st x Q := (wp_u (show cd 30 158 = some (.goto 24, 3, 182, 0, 0, 0) from rfl))
theorem u30_161 : wp r 30 161 [vR o, a1, a2, a3, a4, a5, a6] st x Q ↔ wp r 30 162 [vR o, a1, a2, a3, a4, a5, a6] (vR o :: st) x Q := (wp_u (show cd 30 161 = some (.aload_n 0, 1, 0, 0, 0, 0) from rfl))
theorem u30_162 : wp r 30 162 ls (vA q :: st) x Q ↔ sbk 0 (hK x q) ∧ wp r 30 165 ls (vR (hR x q 1) :: st) x Q := (wp_u (show cd 30 162 = some (.getfield 25, 3, 0, 1, 5, 0) from rfl)).trans g_getR
theorem u30_165 : wp r 30 165 ls (vA q :: st) x Q ↔ sbk 2 (hK x q) ∧ wp r 30 168 ls (vR (hR x q 0) :: st) x Q := (wp_u (show cd 30 165 = some (.getfield 266, 3, 2, 0, 5, 0) from rfl)).trans g_getR
theorem u30_168 : wp r 30 168 [vR o, a1, a2, a3, a4, a5, a6] st x Q ↔ wp r 30 169 [vR o, a1, a2, a3, a4, a5, a6] (vR o :: st) x Q := (wp_u (show cd 30 168 = some (.aload_n 0, 1, 0, 0, 0, 0) from rfl))
theorem u30_169 : wp r 30 169 ls (vA q :: st) x Q ↔ sbk 0 (hK x q) ∧ wp r 30 172 ls (vR (hR x q 1) :: st) x Q := (wp_u (show cd 30 169 = some (.getfield 25, 3, 0, 1, 5, 0) from rfl)).trans g_getR
theorem u30_172 : wp r 30 172 ls (vA q :: st) x Q ↔ sbk 2 (hK x q) ∧ wp r 30 175 ls (vR (hR x q 7) :: st) x Q := (wp_u (show cd 30 172 = some (.getfield 259, 3, 2, 7, 5, 0) from rfl)).trans g_getR
theorem u30_175 : wp r 30 175 [a0, a1, a2, a3, a4, a5, vI z] st x Q ↔ wp r 30 177 [a0, a1, a2, a3, a4, a5, vI z] (vI z :: st) x Q := (wp_u (show cd 30 175 = some (.iload 6, 2, 0, 0, 0, 0) from rfl))
theorem u30_177 : wp r 30 177 ls (vI i :: vA q :: st) x Q ↔ ldk 22 (hK x q) i ∧ wp r 30 178 ls (vI (hI x q i) :: st) x Q := (wp_u (show cd 30 177 = some (.saload, 1, 0, 0, 0, 0) from rfl)).trans g_ldI
theorem u30_178 : wp r 30 178 [a0, a1, a2, a3, vI z, a5, a6] st x Q ↔ wp r 30 180 [a0, a1, a2, a3, vI z, a5, a6] (vI z :: st) x Q := (wp_u (show cd 30 178 = some (.iload 4, 2, 0, 0, 0, 0) from rfl))
theorem u30_180 : wp r 30 180 ls (vI w :: vI z :: st) x Q ↔ inI (z + w) = true ∧ wp r 30 181 ls (vI (z + w) :: st) x Q := (wp_u (show cd 30 180 = some (.iadd, 1, 0, 0, 0, 0) from rfl)).trans wq_if
theorem u30_181 : wp r 30 181 ls (vI i :: vA q :: st) x Q ↔ ldk 21 (hK x q) i ∧ wp r 30 182 ls (vI (hI x q i) :: st) x Q := (wp_u (show cd 30 181 = some (.caload, 1, 0, 0, 0, 0) from rfl)).trans g_ldI
theorem u30_182 : wp r 30 182 ls [vI z] x Q ↔ Q (.inl (some (vI z))) x := (wp_u (show cd 30 182 = some (.ireturn, 1, 0, 0, 0, 0) from rfl))
theorem e30 : wpc r 30 [vA q, vI z0, vI z1, vI z2, vI z3] x Q ↔ wp r 30 0 [vA q, vI z0, vI z1, vI z2, vI z3, vL jk, vL jk] [] x Q := Iff.rfl
/-! 31 D_print -/
theorem u31_0 : wp r 31 0 [vR o, a1] st x Q ↔ wp r 31 1 [vR o, a1] (vR o :: st) x Q := (wp_u (show cd 31 0 = some (.aload_n 0, 1, 0, 0, 0, 0) from rfl))
theorem u31_1 : wp r 31 1 ls (vA q :: st) x Q ↔ sbk 0 (hK x q) ∧ wp r 31 4 ls (vI (hI x q 3) :: st) x Q := (wp_u (show cd 31 1 = some (.getfield 167, 3, 0, 3, 4, 0) from rfl)).trans g_getI
theorem u31_4 : wp r 31 4 ls (vI z0 :: st) x Q ↔ sml st = true ∧ 1 < r ∧ wpc 1 39 [vI z0] x (wk r 31 4 ls st Q) := (wp_u (show cd 31 4 = some (.invokestatic 125, 3, 39, 1, 1, 0) from rfl)).trans (g_stat (by decide) (by simp) rfl)
theorem u31_7 : wp r 31 7 [vR o, a1] st x Q ↔ wp r 31 8 [vR o, a1] (vR o :: st) x Q := (wp_u (show cd 31 7 = some (.aload_n 0, 1, 0, 0, 0, 0) from rfl))
theorem u31_8 : wp r 31 8 ls (vA q :: st) x Q ↔ sbk 0 (hK x q) ∧ wp r 31 11 ls (vR (hR x q 1) :: st) x Q := (wp_u (show cd 31 8 = some (.getfield 25, 3, 0, 1, 5, 0) from rfl)).trans g_getR
theorem u31_11 : wp r 31 11 ls (vA q :: st) x Q ↔ sbk 2 (hK x q) ∧ wp r 31 14 ls (vR (hR x q 20) :: st) x Q := (wp_u (show cd 31 11 = some (.getfield 284, 3, 2, 20, 5, 0) from rfl)).trans g_getR
theorem u31_14 : wp r 31 14 [a0, vI z] st x Q ↔ wp r 31 15 [a0, vI z] (vI z :: st) x Q := (wp_u (show cd 31 14 = some (.iload_n 1, 1, 0, 0, 0, 0) from rfl))
theorem u31_15 : wp r 31 15 ls (vI z1 :: vR o0 :: st) x Q ↔ sml st = true ∧ 5 < r ∧ wpc 5 49 [vR o0, vI z1] x (wk r 31 15 ls st Q) := (wp_u (show cd 31 15 = some (.invokestatic 324, 3, 49, 2, 5, 0) from rfl)).trans (g_stat (by decide) (by simp) rfl)
theorem u31_18 : wp r 31 18 ls [vI z] x Q ↔ Q (.inl (some (vI z))) x := (wp_u (show cd 31 18 = some (.ireturn, 1, 0, 0, 0, 0) from rfl))
theorem e31 : wpc r 31 [vA q, vI z0] x Q ↔ wp r 31 0 [vA q, vI z0] [] x Q := Iff.rfl
/-! 32 D_report -/
theorem u32_0 : wp r 32 0 [vR o, a1] st x Q ↔ wp r 32 1 [vR o, a1] (vR o :: st) x Q := (wp_u (show cd 32 0 = some (.aload_n 0, 1, 0, 0, 0, 0) from rfl))
theorem u32_1 : wp r 32 1 ls (vA q :: st) x Q ↔ sbk 0 (hK x q) ∧ wp r 32 4 ls (vI (hI x q 3) :: st) x Q := (wp_u (show cd 32 1 = some (.getfield 167, 3, 0, 3, 4, 0) from rfl)).trans g_getI
theorem u32_4 : wp r 32 4 ls (vI z0 :: st) x Q ↔ sml st = true ∧ 1 < r ∧ wpc 1 39 [vI z0] x (wk r 32 4 ls st Q) := (wp_u (show cd 32 4 = some (.invokestatic 125, 3, 39, 1, 1, 0) from rfl)).trans (g_stat (by decide) (by simp) rfl)
theorem u32_7 : wp r 32 7 [vR o, a1] st x Q ↔ wp r 32 8 [vR o, a1] (vR o :: st) x Q := (wp_u (show cd 32 7 = some (.aload_n 0, 1, 0, 0, 0, 0) from rfl))
theorem u32_8 : wp r 32 8 ls (vA q :: st) x Q ↔ sbk 0 (hK x q) ∧ wp r 32 11 ls (vR (hR x q 1) :: st) x Q := (wp_u (show cd 32 8 = some (.getfield 25, 3, 0, 1, 5, 0) from rfl)).trans g_getR
theorem u32_11 : wp r 32 11 ls (vA q :: st) x Q ↔ sbk 2 (hK x q) ∧ wp r 32 14 ls (vR (hR x q 21) :: st) x Q := (wp_u (show cd 32 11 = some (.getfield 303, 3, 2, 21, 5, 0) from rfl)).trans g_getR
theorem u32_14 : wp r 32 14 [a0, vI z] st x Q ↔ wp r 32 15 [a0, vI z] (vI z :: st) x Q := (wp_u (show cd 32 14 = some (.iload_n 1, 1, 0, 0, 0, 0) from rfl))
theorem u32_15 : wp r 32 15 ls (vI z1 :: vR o0 :: st) x Q ↔ sml st = true ∧ 5 < r ∧ wpc 5 49 [vR o0, vI z1] x (wk r 32 15 ls st Q) := (wp_u (show cd 32 15 = some (.invokestatic 324, 3, 49, 2, 5, 0) from rfl)).trans (g_stat (by decide) (by simp) rfl)
theorem u32_18 : wp r 32 18 ls [vI z] x Q ↔ Q (.inl (some (vI z))) x := (wp_u (show cd 32 18 = some (.ireturn, 1, 0, 0, 0, 0) from rfl))
theorem e32 : wpc r 32 [vA q, vI z0] x Q ↔ wp r 32 0 [vA q, vI z0] [] x Q := Iff.rfl
/-! 33 Sg_init -/
theorem u33_0 : wp r 33 0 [vR o] st x Q ↔ wp r 33 1 [vR o] (vR o :: st) x Q := (wp_u (show cd 33 0 = some (.aload_n 0, 1, 0, 0, 0, 0) from rfl))
theorem u33_1 : wp r 33 1 ls (vA q :: st) x Q ↔ nnk (hK x q) ∧ sml st = true ∧ wp r 33 4 ls st x Q := (wp_u (show cd 33 1 = some (.invokespecial 1, 3, 1000, 1, 0, 0) from rfl)).trans (g_obj rfl)
theorem u33_4 : wp r 33 4 ls [] x Q ↔ Q (.inl none) x := (wp_u (show cd 33 4 = some (.return_, 1, 0, 0, 0, 0) from rfl))
theorem e33 : wpc r 33 [vA q] x Q ↔ wp r 33 0 [vA q] [] x Q := Iff.rfl
/-! 34 Gr_init -/
theorem u34_0 : wp r 34 0 [vR o] st x Q ↔ wp r 34 1 [vR o] (vR o :: st) x Q := (wp_u (show cd 34 0 = some (.aload_n 0, 1, 0, 0, 0, 0) from rfl))
theorem u34_1 : wp r 34 1 ls (vA q :: st) x Q ↔ nnk (hK x q) ∧ sml st = true ∧ 1 < r ∧ wpc 1 50 [vA q] x (wk r 34 1 ls st Q) := (wp_u (show cd 34 1 = some (.invokespecial 1, 3, 50, 1, 1, 0) from rfl)).trans (g_special rfl (by decide) (by simp) rfl)
theorem u34_4 : wp r 34 4 ls [] x Q ↔ Q (.inl none) x := (wp_u (show cd 34 4 = some (.return_, 1, 0, 0, 0, 0) from rfl))
theorem e34 : wpc r 34 [vA q] x Q ↔ wp r 34 0 [vA q] [] x Q := Iff.rfl
/-! 35 D_tableOf -/
theorem u35_0 : wp r 35 0 [a0, vI z] st x Q ↔ wp r 35 1 [a0, vI z] (vI z :: st) x Q := (wp_u (show cd 35 0 = some (.iload_n 1, 1, 0, 0, 0, 0) from rfl))
theorem u35_1 : wp r 35 1 ls (vI z :: st) x Q ↔ if z < 0 then wp r 35 13 ls st x Q else wp r 35 4 ls st x Q := (wp_u (show cd 35 1 = some (.ifCond .lt 12, 3, 13, 0, 0, 0) from rfl)).trans wq_d
theorem u35_4 : wp r 35 4 [a0, vI z] st x Q ↔ wp r 35 5 [a0, vI z] (vI z :: st) x Q := (wp_u (show cd 35 4 = some (.iload_n 1, 1, 0, 0, 0, 0) from rfl))
theorem u35_5 : wp r 35 5 ls st x Q ↔ wp r 35 6 ls (vI 4 :: st) x Q := (wp_u (show cd 35 5 = some (.iconst 4, 1, 0, 0, 0, 0) from rfl))
theorem u35_6 : wp r 35 6 ls (vI w :: vI z :: st) x Q ↔ if w ≤ z then wp r 35 13 ls st x Q else wp r 35 9 ls st x Q := (wp_u (show cd 35 6 = some (.if_icmp .ge 7, 3, 13, 0, 0, 0) from rfl)).trans wq_d
theorem u35_9 : wp r 35 9 ls st x Q ↔ wp r 35 10 ls (vI 1 :: st) x Q := (wp_u (show cd 35 9 = some (.iconst 1, 1, 0, 0, 0, 0) from rfl))
theorem u35_10 : wp r 35 10 ls st x Q ↔ wp r 35 14 ls st x Q := (wp_u (show cd 35 10 = some (.goto 4, 3, 14, 0, 0, 0) from rfl))
theorem u35_13 : wp r 35 13 ls st x Q ↔ wp r 35 14 ls (vI 0 :: st) x Q := (wp_u (show cd 35 13 = some (.iconst 0, 1, 0, 0, 0, 0) from rfl))
theorem u35_14 : wp r 35 14 ls (vI z0 :: st) x Q ↔ sml st = true ∧ 1 < r ∧ wpc 1 38 [vI z0] x (wk r 35 14 ls st Q) := (wp_u (show cd 35 14 = some (.invokestatic 65, 3, 38, 1, 1, 0) from rfl)).trans (g_stat (by decide) (by simp) rfl)
theorem u35_17 : wp r 35 17 [vR o, a1] st x Q ↔ wp r 35 18 [vR o, a1] (vR o :: st) x Q := (wp_u (show cd 35 17 = some (.aload_n 0, 1, 0, 0, 0, 0) from rfl))
theorem u35_18 : wp r 35 18 ls (vA q :: st) x Q ↔ sbk 0 (hK x q) ∧ wp r 35 21 ls (vR (hR x q 5) :: st) x Q := (wp_u (show cd 35 18 = some (.getfield 38, 3, 0, 5, 5, 0) from rfl)).trans g_getR
theorem u35_21 : wp r 35 21 [a0, vI z] st x Q ↔ wp r 35 22 [a0, vI z] (vI z :: st) x Q := (wp_u (show cd 35 21 = some (.iload_n 1, 1, 0, 0, 0, 0) from rfl))
theorem u35_22 : wp r 35 22 ls (vI i :: vA q :: st) x Q ↔ ldr (hK x q) i ∧ wp r 35 23 ls (vR (hR x q i) :: st) x Q := (wp_u (show cd 35 22 = some (.aaload, 1, 0, 0, 0, 0) from rfl)).trans g_ldR
theorem u35_23 : wp r 35 23 ls [vR o] x Q ↔ Q (.inl (some (vR o))) x := (wp_u (show cd 35 23 = some (.areturn, 1, 0, 0, 0, 0) from rfl))
theorem e35 : wpc r 35 [vA q, vI z0] x Q ↔ wp r 35 0 [vA q, vI z0] [] x Q := Iff.rfl
/-! 36 D_isTag -/
theorem u36_0 : wp r 36 0 [vI z, a1, a2, a3] st x Q ↔ wp r 36 1 [vI z, a1, a2, a3] (vI z :: st) x Q := (wp_u (show cd 36 0 = some (.iload_n 0, 1, 0, 0, 0, 0) from rfl))
theorem u36_1 : wp r 36 1 ls (vI z :: st) x Q ↔ if z < 0 then wp r 36 15 ls st x Q else wp r 36 4 ls st x Q := (wp_u (show cd 36 1 = some (.ifCond .lt 14, 3, 15, 0, 0, 0) from rfl)).trans wq_d
theorem u36_4 : wp r 36 4 [vI z, a1, a2, a3] st x Q ↔ wp r 36 5 [vI z, a1, a2, a3] (vI z :: st) x Q := (wp_u (show cd 36 4 = some (.iload_n 0, 1, 0, 0, 0, 0) from rfl))
theorem u36_5 : wp r 36 5 ls st x Q ↔ wp r 36 7 ls (vI 24 :: st) x Q := (wp_u (show cd 36 5 = some (.bipush 24, 2, 0, 0, 0, 0) from rfl))
theorem u36_7 : wp r 36 7 ls (vI w :: vI z :: st) x Q ↔ wp r 36 8 ls (vI (iShr z w) :: st) x Q := (wp_u (show cd 36 7 = some (.ishr, 1, 0, 0, 0, 0) from rfl)).trans (wq_if.trans (and_iff_right (inI_32 _)))
theorem u36_8 : wp r 36 8 ls (vI z :: st) x Q ↔ if z = 0 then wp r 36 11 ls st x Q else wp r 36 15 ls st x Q := (wp_u (show cd 36 8 = some (.ifCond .ne 7, 3, 15, 0, 0, 0) from rfl)).trans wq_dn
theorem u36_11 : wp r 36 11 ls st x Q ↔ wp r 36 12 ls (vI 1 :: st) x Q := (wp_u (show cd 36 11 = some (.iconst 1, 1, 0, 0, 0, 0) from rfl))
theorem u36_12 : wp r 36 12 ls st x Q ↔ wp r 36 16 ls st x Q := (wp_u (show cd 36 12 = some (.goto 4, 3, 16, 0, 0, 0) from rfl))
theorem u36_15 : wp r 36 15 ls st x Q ↔ wp r 36 16 ls (vI 0 :: st) x Q := (wp_u (show cd 36 15 = some (.iconst 0, 1, 0, 0, 0, 0) from rfl))
theorem u36_16 : wp r 36 16 [a0, a1, a2, a3] (vI z :: st) x Q ↔ wp r 36 17 [a0, vI z, a2, a3] st x Q := (wp_u (show cd 36 16 = some (.istore_n 1, 1, 0, 0, 0, 0) from rfl))
theorem u36_17 : wp r 36 17 ls st x Q ↔ wp r 36 18 ls (vI 0 :: st) x Q := (wp_u (show cd 36 17 = some (.iconst 0, 1, 0, 0, 0, 0) from rfl))
theorem u36_18 : wp r 36 18 [a0, a1, a2, a3] (vI z :: st) x Q ↔ wp r 36 19 [a0, a1, vI z, a3] st x Q := (wp_u (show cd 36 18 = some (.istore_n 2, 1, 0, 0, 0, 0) from rfl))
theorem u36_19 : wp r 36 19 [a0, a1, vI z, a3] st x Q ↔ wp r 36 20 [a0, a1, vI z, a3] (vI z :: st) x Q := (wp_u (show cd 36 19 = some (.iload_n 2, 1, 0, 0, 0, 0) from rfl))
theorem u36_20 : wp r 36 20 ls st x Q ↔ wp r 36 21 ls (vI 3 :: st) x Q := (wp_u (show cd 36 20 = some (.iconst 3, 1, 0, 0, 0, 0) from rfl))
theorem u36_21 : wp r 36 21 ls (vI w :: vI z :: st) x Q ↔ if w ≤ z then wp r 36 63 ls st x Q else wp r 36 24 ls st x Q := (wp_u (show cd 36 21 = some (.if_icmp .ge 42, 3, 63, 0, 0, 0) from rfl)).trans wq_d
theorem u36_24 : wp r 36 24 [vI z, a1, a2, a3] st x Q ↔ wp r 36 25 [vI z, a1, a2, a3] (vI z :: st) x Q := (wp_u (show cd 36 24 = some (.iload_n 0, 1, 0, 0, 0, 0) from rfl))
theorem u36_25 : wp r 36 25 ls st x Q ↔ wp r 36 27 ls (vI 8 :: st) x Q := (wp_u (show cd 36 25 = some (.bipush 8, 2, 0, 0, 0, 0) from rfl))
theorem u36_27 : wp r 36 27 [a0, a1, vI z, a3] st x Q ↔ wp r 36 28 [a0, a1, vI z, a3] (vI z :: st) x Q := (wp_u (show cd 36 27 = some (.iload_n 2, 1, 0, 0, 0, 0) from rfl))
theorem u36_28 : wp r 36 28 ls (vI w :: vI z :: st) x Q ↔ inI (z * w) = true ∧ wp r 36 29 ls (vI (z * w) :: st) x Q := (wp_u (show cd 36 28 = some (.imul, 1, 0, 0, 0, 0) from rfl)).trans wq_if
theorem u36_29 : wp r 36 29 ls (vI w :: vI z :: st) x Q ↔ wp r 36 30 ls (vI (iShr z w) :: st) x Q := (wp_u (show cd 36 29 = some (.ishr, 1, 0, 0, 0, 0) from rfl)).trans (wq_if.trans (and_iff_right (inI_32 _)))
theorem u36_30 : wp r 36 30 ls st x Q ↔ wp r 36 33 ls (vI 255 :: st) x Q := (wp_u (show cd 36 30 = some (.sipush 255, 3, 0, 0, 0, 0) from rfl))
theorem u36_33 : wp r 36 33 ls (vI w :: vI z :: st) x Q ↔ wp r 36 34 ls (vI (iAnd z w) :: st) x Q := (wp_u (show cd 36 33 = some (.iand, 1, 0, 0, 0, 0) from rfl)).trans (wq_if.trans (and_iff_right (inI_32 _)))
theorem u36_34 : wp r 36 34 [a0, a1, a2, a3] (vI z :: st) x Q ↔ wp r 36 35 [a0, a1, a2, vI z] st x Q := (wp_u (show cd 36 34 = some (.istore_n 3, 1, 0, 0, 0, 0) from rfl))
theorem u36_35 : wp r 36 35 [a0, vI z, a2, a3] st x Q ↔ wp r 36 36 [a0, vI z, a2, a3] (vI z :: st) x Q := (wp_u (show cd 36 35 = some (.iload_n 1, 1, 0, 0, 0, 0) from rfl))
theorem u36_36 : wp r 36 36 ls (vI z :: st) x Q ↔ if z = 0 then wp r 36 55 ls st x Q else wp r 36 39 ls st x Q := (wp_u (show cd 36 36 = some (.ifCond .eq 19, 3, 55, 0, 0, 0) from rfl)).trans wq_d
theorem u36_39 : wp r 36 39 [a0, a1, a2, vI z] st x Q ↔ wp r 36 40 [a0, a1, a2, vI z] (vI z :: st) x Q := (wp_u (show cd 36 39 = some (.iload_n 3, 1, 0, 0, 0, 0) from rfl))
theorem u36_40 : wp r 36 40 ls st x Q ↔ wp r 36 42 ls (vI 65 :: st) x Q := (wp_u (show cd 36 40 = some (.bipush 65, 2, 0, 0, 0, 0) from rfl))
theorem u36_42 : wp r 36 42 ls (vI w :: vI z :: st) x Q ↔ if z < w then wp r 36 55 ls st x Q else wp r 36 45 ls st x Q := (wp_u (show cd 36 42 = some (.if_icmp .lt 13, 3, 55, 0, 0, 0) from rfl)).trans wq_d
theorem u36_45 : wp r 36 45 [a0, a1, a2, vI z] st x Q ↔ wp r 36 46 [a0, a1, a2, vI z] (vI z :: st) x Q := (wp_u (show cd 36 45 = some (.iload_n 3, 1, 0, 0, 0, 0) from rfl))
theorem u36_46 : wp r 36 46 ls st x Q ↔ wp r 36 48 ls (vI 90 :: st) x Q := (wp_u (show cd 36 46 = some (.bipush 90, 2, 0, 0, 0, 0) from rfl))
theorem u36_48 : wp r 36 48 ls (vI w :: vI z :: st) x Q ↔ if w < z then wp r 36 55 ls st x Q else wp r 36 51 ls st x Q := (wp_u (show cd 36 48 = some (.if_icmp .gt 7, 3, 55, 0, 0, 0) from rfl)).trans wq_d
theorem u36_51 : wp r 36 51 ls st x Q ↔ wp r 36 52 ls (vI 1 :: st) x Q := (wp_u (show cd 36 51 = some (.iconst 1, 1, 0, 0, 0, 0) from rfl))
theorem u36_52 : wp r 36 52 ls st x Q ↔ wp r 36 56 ls st x Q := (wp_u (show cd 36 52 = some (.goto 4, 3, 56, 0, 0, 0) from rfl))
theorem u36_55 : wp r 36 55 ls st x Q ↔ wp r 36 56 ls (vI 0 :: st) x Q := (wp_u (show cd 36 55 = some (.iconst 0, 1, 0, 0, 0, 0) from rfl))
theorem u36_56 : wp r 36 56 [a0, a1, a2, a3] (vI z :: st) x Q ↔ wp r 36 57 [a0, vI z, a2, a3] st x Q := (wp_u (show cd 36 56 = some (.istore_n 1, 1, 0, 0, 0, 0) from rfl))
theorem u36_57 : wp r 36 57 [a0, a1, vI z, a3] st x Q ↔ inI (z + 1) = true ∧ wp r 36 60 [a0, a1, vI (z + 1), a3] st x Q := (wp_u (show cd 36 57 = some (.iinc 2 1, 3, 0, 0, 0, 0) from rfl)).trans wq_if
theorem u36_60 : wp r 36 60 ls st x Q ↔ wp r 36 19 ls st x Q := (wp_u (show cd 36 60 = some (.goto (-41), 3, 19, 0, 0, 0) from rfl))
theorem u36_63 : wp r 36 63 [a0, vI z, a2, a3] st x Q ↔ wp r 36 64 [a0, vI z, a2, a3] (vI z :: st) x Q := (wp_u (show cd 36 63 = some (.iload_n 1, 1, 0, 0, 0, 0) from rfl))
theorem u36_64 : wp r 36 64 ls [vI z] x Q ↔ rg 4 z = true ∧ Q (.inl (some (vI z))) x := (wp_u (show cd 36 64 = some (.ireturn, 1, 4, 0, 0, 0) from rfl)).trans wq_if
theorem e36 : wpc r 36 [vI z0] x Q ↔ wp r 36 0 [vI z0, vL jk, vL jk, vL jk] [] x Q := Iff.rfl
/-! 37 D_isEnvelope -/
theorem u37_0 : wp r 37 0 [vI z] st x Q ↔ wp r 37 1 [vI z] (vI z :: st) x Q := (wp_u (show cd 37 0 = some (.iload_n 0, 1, 0, 0, 0, 0) from rfl))
theorem u37_1 : wp r 37 1 ls st x Q ↔ wp r 37 3 ls (vI 5590594 :: st) x Q := (wp_u (show cd 37 1 = some (.ldc 3, 2, 5590594, 0, 0, 0) from rfl))
theorem u37_3 : wp r 37 3 ls (vI w :: vI z :: st) x Q ↔ if z = w then wp r 37 36 ls st x Q else wp r 37 6 ls st x Q := (wp_u (show cd 37 3 = some (.if_icmp .eq 33, 3, 36, 0, 0, 0) from rfl)).trans wq_d
theorem u37_6 : wp r 37 6 [vI z] st x Q ↔ wp r 37 7 [vI z] (vI z :: st) x Q := (wp_u (show cd 37 6 = some (.iload_n 0, 1, 0, 0, 0, 0) from rfl))
theorem u37_7 : wp r 37 7 ls st x Q ↔ wp r 37 9 ls (vI 5590597 :: st) x Q := (wp_u (show cd 37 7 = some (.ldc 4, 2, 5590597, 0, 0, 0) from rfl))
theorem u37_9 : wp r 37 9 ls (vI w :: vI z :: st) x Q ↔ if z = w then wp r 37 36 ls st x Q else wp r 37 12 ls st x Q := (wp_u (show cd 37 9 = some (.if_icmp .eq 27, 3, 36, 0, 0, 0) from rfl)).trans wq_d
theorem u37_12 : wp r 37 12 [vI z] st x Q ↔ wp r 37 13 [vI z] (vI z :: st) x Q := (wp_u (show cd 37 12 = some (.iload_n 0, 1, 0, 0, 0, 0) from rfl))
theorem u37_13 : wp r 37 13 ls st x Q ↔ wp r 37 15 ls (vI 5590599 :: st) x Q := (wp_u (show cd 37 13 = some (.ldc 5, 2, 5590599, 0, 0, 0) from rfl))
theorem u37_15 : wp r 37 15 ls (vI w :: vI z :: st) x Q ↔ if z = w then wp r 37 36 ls st x Q else wp r 37 18 ls st x Q := (wp_u (show cd 37 15 = some (.if_icmp .eq 21, 3, 36, 0, 0, 0) from rfl)).trans wq_d
theorem u37_18 : wp r 37 18 [vI z] st x Q ↔ wp r 37 19 [vI z] (vI z :: st) x Q := (wp_u (show cd 37 18 = some (.iload_n 0, 1, 0, 0, 0, 0) from rfl))
theorem u37_19 : wp r 37 19 ls st x Q ↔ wp r 37 21 ls (vI 5590600 :: st) x Q := (wp_u (show cd 37 19 = some (.ldc 6, 2, 5590600, 0, 0, 0) from rfl))
theorem u37_21 : wp r 37 21 ls (vI w :: vI z :: st) x Q ↔ if z = w then wp r 37 36 ls st x Q else wp r 37 24 ls st x Q := (wp_u (show cd 37 21 = some (.if_icmp .eq 15, 3, 36, 0, 0, 0) from rfl)).trans wq_d
theorem u37_24 : wp r 37 24 [vI z] st x Q ↔ wp r 37 25 [vI z] (vI z :: st) x Q := (wp_u (show cd 37 24 = some (.iload_n 0, 1, 0, 0, 0, 0) from rfl))
theorem u37_25 : wp r 37 25 ls st x Q ↔ wp r 37 27 ls (vI 5590612 :: st) x Q := (wp_u (show cd 37 25 = some (.ldc 7, 2, 5590612, 0, 0, 0) from rfl))
theorem u37_27 : wp r 37 27 ls (vI w :: vI z :: st) x Q ↔ if z = w then wp r 37 36 ls st x Q else wp r 37 30 ls st x Q := (wp_u (show cd 37 27 = some (.if_icmp .eq 9, 3, 36, 0, 0, 0) from rfl)).trans wq_d
theorem u37_30 : wp r 37 30 [vI z] st x Q ↔ wp r 37 31 [vI z] (vI z :: st) x Q := (wp_u (show cd 37 30 = some (.iload_n 0, 1, 0, 0, 0, 0) from rfl))
theorem u37_31 : wp r 37 31 ls st x Q ↔ wp r 37 33 ls (vI 5590618 :: st) x Q := (wp_u (show cd 37 31 = some (.ldc 8, 2, 5590618, 0, 0, 0) from rfl))
theorem u37_33 : wp r 37 33 ls (vI w :: vI z :: st) x Q ↔ if z = w then wp r 37 36 ls st x Q else wp r 37 40 ls st x Q := (wp_u (show cd 37 33 = some (.if_icmp .ne 7, 3, 40, 0, 0, 0) from rfl)).trans wq_dn
theorem u37_36 : wp r 37 36 ls st x Q ↔ wp r 37 37 ls (vI 1 :: st) x Q := (wp_u (show cd 37 36 = some (.iconst 1, 1, 0, 0, 0, 0) from rfl))
theorem u37_37 : wp r 37 37 ls st x Q ↔ wp r 37 41 ls st x Q := (wp_u (show cd 37 37 = some (.goto 4, 3, 41, 0, 0, 0) from rfl))
theorem u37_40 : wp r 37 40 ls st x Q ↔ wp r 37 41 ls (vI 0 :: st) x Q := (wp_u (show cd 37 40 = some (.iconst 0, 1, 0, 0, 0, 0) from rfl))
theorem u37_41 : wp r 37 41 ls [vI z] x Q ↔ rg 4 z = true ∧ Q (.inl (some (vI z))) x := (wp_u (show cd 37 41 = some (.ireturn, 1, 4, 0, 0, 0) from rfl)).trans wq_if
theorem e37 : wpc r 37 [vI z0] x Q ↔ wp r 37 0 [vI z0] [] x Q := Iff.rfl
/-! 38 D_need -/
theorem u38_0 : wp r 38 0 [vI z] st x Q ↔ wp r 38 1 [vI z] (vI z :: st) x Q := (wp_u (show cd 38 0 = some (.iload_n 0, 1, 0, 0, 0, 0) from rfl))
theorem u38_1 : wp r 38 1 ls (vI z :: st) x Q ↔ if z = 0 then wp r 38 4 ls st x Q else wp r 38 12 ls st x Q := (wp_u (show cd 38 1 = some (.ifCond .ne 11, 3, 12, 0, 0, 0) from rfl)).trans wq_dn
theorem u38_4 : wp r 38 4 ls st x Q ↔ nok x 6 ∧ wp r 38 7 ls (vA (hN x) :: st) (nwO x 11 6) Q := (wp_u (show cd 38 4 = some (.new 59, 3, 11, 6, 0, 0) from rfl)).trans g_new
theorem u38_7i : wp r 38 7 ls (vI z :: st) x Q ↔ wp r 38 8 ls (vI z :: vI z :: st) x Q := (wp_u (show cd 38 7 = some (.dup, 1, 0, 0, 0, 0) from rfl))
theorem u38_7 : wp r 38 7 ls (vR o :: st) x Q ↔ wp r 38 8 ls (vR o :: vR o :: st) x Q := (wp_u (show cd 38 7 = some (.dup, 1, 0, 0, 0, 0) from rfl))
theorem u38_8 : wp r 38 8 ls (vA q :: vA q :: st) x Q ↔ hK x q = some (11, 6) ∧ sml st = true ∧ Q (.inr q) (stK x q 14 6) := (wp_u (show cd 38 8 = some (.invokespecial 61, 3, 1001, 1, 0, 11) from rfl)).trans (g_exi (t := st) (by decide))
theorem u38_12 : wp r 38 12 ls [] x Q ↔ Q (.inl none) x := (wp_u (show cd 38 12 = some (.return_, 1, 0, 0, 0, 0) from rfl))
theorem e38 : wpc r 38 [vI z0] x Q ↔ wp r 38 0 [vI z0] [] x Q := Iff.rfl
/-! 39 D_needState -/
theorem u39_0 : wp r 39 0 [vI z] st x Q ↔ wp r 39 1 [vI z] (vI z :: st) x Q := (wp_u (show cd 39 0 = some (.iload_n 0, 1, 0, 0, 0, 0) from rfl))
theorem u39_1 : wp r 39 1 ls (vI z :: st) x Q ↔ if z = 0 then wp r 39 4 ls st x Q else wp r 39 12 ls st x Q := (wp_u (show cd 39 1 = some (.ifCond .ne 11, 3, 12, 0, 0, 0) from rfl)).trans wq_dn
theorem u39_4 : wp r 39 4 ls st x Q ↔ nok x 6 ∧ wp r 39 7 ls (vA (hN x) :: st) (nwO x 12 6) Q := (wp_u (show cd 39 4 = some (.new 62, 3, 12, 6, 0, 0) from rfl)).trans g_new
theorem u39_7i : wp r 39 7 ls (vI z :: st) x Q ↔ wp r 39 8 ls (vI z :: vI z :: st) x Q := (wp_u (show cd 39 7 = some (.dup, 1, 0, 0, 0, 0) from rfl))
theorem u39_7 : wp r 39 7 ls (vR o :: st) x Q ↔ wp r 39 8 ls (vR o :: vR o :: st) x Q := (wp_u (show cd 39 7 = some (.dup, 1, 0, 0, 0, 0) from rfl))
theorem u39_8 : wp r 39 8 ls (vA q :: vA q :: st) x Q ↔ hK x q = some (12, 6) ∧ sml st = true ∧ Q (.inr q) (stK x q 15 6) := (wp_u (show cd 39 8 = some (.invokespecial 64, 3, 1001, 1, 0, 12) from rfl)).trans (g_exi (t := st) (by decide))
theorem u39_12 : wp r 39 12 ls [] x Q ↔ Q (.inl none) x := (wp_u (show cd 39 12 = some (.return_, 1, 0, 0, 0, 0) from rfl))
theorem e39 : wpc r 39 [vI z0] x Q ↔ wp r 39 0 [vI z0] [] x Q := Iff.rfl
/-! 40 D_newSlot -/
theorem u40_0 : wp r 40 0 [vR o, a1] st x Q ↔ wp r 40 1 [vR o, a1] (vR o :: st) x Q := (wp_u (show cd 40 0 = some (.aload_n 0, 1, 0, 0, 0, 0) from rfl))
theorem u40_1 : wp r 40 1 ls (vA q :: st) x Q ↔ sbk 0 (hK x q) ∧ wp r 40 4 ls (vR (hR x q 7) :: st) x Q := (wp_u (show cd 40 1 = some (.getfield 69, 3, 0, 7, 5, 0) from rfl)).trans g_getR
theorem u40_4 : wp r 40 4 [a0, a1] (vR o :: st) x Q ↔ wp r 40 5 [a0, vR o] st x Q := (wp_u (show cd 40 4 = some (.astore_n 1, 1, 0, 0, 0, 0) from rfl))
theorem u40_5 : wp r 40 5 [a0, vR o] st x Q ↔ wp r 40 6 [a0, vR o] (vR o :: st) x Q := (wp_u (show cd 40 5 = some (.aload_n 1, 1, 0, 0, 0, 0) from rfl))
theorem u40_6n : wp r 40 6 ls (vN :: st) x Q ↔ wp r 40 9 ls (vI 0 :: st) x Q := (wp_u (show cd 40 6 = some (.instanceof 73, 3, 5, 0, 0, 0) from rfl))
theorem u40_6 : wp r 40 6 ls (vA q :: st) x Q ↔ i56 (hK x q) ∧ wp r 40 9 ls (vI (ink 5 (hK x q)) :: st) x Q := (wp_u (show cd 40 6 = some (.instanceof 73, 3, 5, 0, 0, 0) from rfl)).trans g_inst
theorem u40_9 : wp r 40 9 ls (vI z :: st) x Q ↔ if z = 0 then wp r 40 25 ls st x Q else wp r 40 12 ls st x Q := (wp_u (show cd 40 9 = some (.ifCond .eq 16, 3, 25, 0, 0, 0) from rfl)).trans wq_d
theorem u40_12 : wp r 40 12 [vR o, a1] st x Q ↔ wp r 40 13 [vR o, a1] (vR o :: st) x Q := (wp_u (show cd 40 12 = some (.aload_n 0, 1, 0, 0, 0, 0) from rfl))
theorem u40_13 : wp r 40 13 [a0, vR o] st x Q ↔ wp r 40 14 [a0, vR o] (vR o :: st) x Q := (wp_u (show cd 40 13 = some (.aload_n 1, 1, 0, 0, 0, 0) from rfl))
theorem u40_14 : wp r 40 14 ls (vA q :: st) x Q ↔ sbk 4 (hK x q) ∧ wp r 40 17 ls (vR (hR x q 0) :: st) x Q := (wp_u (show cd 40 14 = some (.getfield 75, 3, 4, 0, 5, 0) from rfl)).trans g_getR
theorem u40_17 : wp r 40 17 ls (vR o :: vA q :: st) x Q ↔ sbk 0 (hK x q) ∧ wp r 40 20 ls st (stR x q 7 o) Q := (wp_u (show cd 40 17 = some (.putfield 69, 3, 0, 7, 5, 0) from rfl)).trans g_putR
theorem u40_20 : wp r 40 20 [a0, vR o] st x Q ↔ wp r 40 21 [a0, vR o] (vR o :: st) x Q := (wp_u (show cd 40 20 = some (.aload_n 1, 1, 0, 0, 0, 0) from rfl))
theorem u40_21 : wp r 40 21 ls (vA q :: st) x Q ↔ isk 5 (hK x q) ∧ wp r 40 24 ls (vA q :: st) x Q := (wp_u (show cd 40 21 = some (.checkcast 73, 3, 5, 0, 0, 0) from rfl)).trans g_cast
theorem u40_24 : wp r 40 24 ls [vR o] x Q ↔ Q (.inl (some (vR o))) x := (wp_u (show cd 40 24 = some (.areturn, 1, 0, 0, 0, 0) from rfl))
theorem u40_25 : wp r 40 25 ls st x Q ↔ nok x 5 ∧ wp r 40 28 ls (vA (hN x) :: st) (nwO x 5 5) Q := (wp_u (show cd 40 25 = some (.new 73, 3, 5, 5, 0, 0) from rfl)).trans g_new
theorem u40_28i : wp r 40 28 ls (vI z :: st) x Q ↔ wp r 40 29 ls (vI z :: vI z :: st) x Q := (wp_u (show cd 40 28 = some (.dup, 1, 0, 0, 0, 0) from rfl))
theorem u40_28 : wp r 40 28 ls (vR o :: st) x Q ↔ wp r 40 29 ls (vR o :: vR o :: st) x Q := (wp_u (show cd 40 28 = some (.dup, 1, 0, 0, 0, 0) from rfl))
theorem u40_29 : wp r 40 29 ls (vA q :: st) x Q ↔ nnk (hK x q) ∧ sml st = true ∧ 2 < r ∧ wpc 2 51 [vA q] x (wk r 40 29 ls st Q) := (wp_u (show cd 40 29 = some (.invokespecial 80, 3, 51, 1, 2, 0) from rfl)).trans (g_special rfl (by decide) (by simp) rfl)
theorem u40_32 : wp r 40 32 ls [vR o] x Q ↔ Q (.inl (some (vR o))) x := (wp_u (show cd 40 32 = some (.areturn, 1, 0, 0, 0, 0) from rfl))
theorem e40 : wpc r 40 [vA q] x Q ↔ wp r 40 0 [vA q, vL jk] [] x Q := Iff.rfl
/-! 41 D_add -/
theorem u41_0 : wp r 41 0 [a0, vR o, a2, a3] st x Q ↔ wp r 41 1 [a0, vR o, a2, a3] (vR o :: st) x Q := (wp_u (show cd 41 0 = some (.aload_n 1, 1, 0, 0, 0, 0) from rfl))
theorem u41_1 : wp r 41 1 [a0, a1, vI z, a3] st x Q ↔ wp r 41 2 [a0, a1, vI z, a3] (vI z :: st) x Q := (wp_u (show cd 41 1 = some (.iload_n 2, 1, 0, 0, 0, 0) from rfl))
theorem u41_2 : wp r 41 2 ls (vI z :: vA q :: st) x Q ↔ sbk 4 (hK x q) ∧ rg 4 z = true ∧ wp r 41 5 ls st (stI x q 2 z) Q := (wp_u (show cd 41 2 = some (.putfield 93, 3, 4, 2, 4, 0) from rfl)).trans g_putI
theorem u41_5 : wp r 41 5 [a0, vR o, a2, a3] st x Q ↔ wp r 41 6 [a0, vR o, a2, a3] (vR o :: st) x Q := (wp_u (show cd 41 5 = some (.aload_n 1, 1, 0, 0, 0, 0) from rfl))
theorem u41_6 : wp r 41 6 [a0, a1, a2, vI z] st x Q ↔ wp r 41 7 [a0, a1, a2, vI z] (vI z :: st) x Q := (wp_u (show cd 41 6 = some (.iload_n 3, 1, 0, 0, 0, 0) from rfl))
theorem u41_7 : wp r 41 7 ls (vI z :: vA q :: st) x Q ↔ sbk 4 (hK x q) ∧ wp r 41 10 ls st (stI x q 3 z) Q := (wp_u (show cd 41 7 = some (.putfield 97, 3, 4, 3, 0, 0) from rfl)).trans g_putI0
theorem u41_10 : wp r 41 10 [vR o, a1, a2, a3] st x Q ↔ wp r 41 11 [vR o, a1, a2, a3] (vR o :: st) x Q := (wp_u (show cd 41 10 = some (.aload_n 0, 1, 0, 0, 0, 0) from rfl))
theorem u41_11 : wp r 41 11 ls (vA q :: st) x Q ↔ sbk 7 (hK x q) ∧ wp r 41 14 ls (vR (hR x q 1) :: st) x Q := (wp_u (show cd 41 11 = some (.getfield 100, 3, 7, 1, 5, 0) from rfl)).trans g_getR
theorem u41_14 : wp r 41 14 [a0, vR o, a2, a3] st x Q ↔ wp r 41 15 [a0, vR o, a2, a3] (vR o :: st) x Q := (wp_u (show cd 41 14 = some (.aload_n 1, 1, 0, 0, 0, 0) from rfl))
theorem u41_15 : wp r 41 15 ls (vR o0 :: vA q :: st) x Q ↔ isk 6 (hK x q) ∧ sml st = true ∧ 1 < r ∧ wpc 1 52 [vA q, vR o0] x (wk r 41 15 ls st Q) := (wp_u (show cd 41 15 = some (.invokevirtual 104, 3, 52, 2, 1, 6) from rfl)).trans (g_virt rfl (by decide) (by simp) rfl)
theorem u41_18 : wp r 41 18 [vR o, a1, a2, a3] st x Q ↔ wp r 41 19 [vR o, a1, a2, a3] (vR o :: st) x Q := (wp_u (show cd 41 18 = some (.aload_n 0, 1, 0, 0, 0, 0) from rfl))
theorem u41_19i : wp r 41 19 ls (vI z :: st) x Q ↔ wp r 41 20 ls (vI z :: vI z :: st) x Q := (wp_u (show cd 41 19 = some (.dup, 1, 0, 0, 0, 0) from rfl))
theorem u41_19 : wp r 41 19 ls (vR o :: st) x Q ↔ wp r 41 20 ls (vR o :: vR o :: st) x Q := (wp_u (show cd 41 19 = some (.dup, 1, 0, 0, 0, 0) from rfl))
theorem u41_20 : wp r 41 20 ls (vA q :: st) x Q ↔ sbk 7 (hK x q) ∧ wp r 41 23 ls (vI (hI x q 3) :: st) x Q := (wp_u (show cd 41 20 = some (.getfield 108, 3, 7, 3, 0, 0) from rfl)).trans g_getI
theorem u41_23 : wp r 41 23 ls st x Q ↔ wp r 41 24 ls (vI 1 :: st) x Q := (wp_u (show cd 41 23 = some (.iconst 1, 1, 0, 0, 0, 0) from rfl))
theorem u41_24 : wp r 41 24 ls (vI w :: vI z :: st) x Q ↔ inI (z + w) = true ∧ wp r 41 25 ls (vI (z + w) :: st) x Q := (wp_u (show cd 41 24 = some (.iadd, 1, 0, 0, 0, 0) from rfl)).trans wq_if
theorem u41_25 : wp r 41 25 ls (vI z :: vA q :: st) x Q ↔ sbk 7 (hK x q) ∧ wp r 41 28 ls st (stI x q 3 z) Q := (wp_u (show cd 41 25 = some (.putfield 108, 3, 7, 3, 0, 0) from rfl)).trans g_putI0
theorem u41_28 : wp r 41 28 [vR o, a1, a2, a3] st x Q ↔ wp r 41 29 [vR o, a1, a2, a3] (vR o :: st) x Q := (wp_u (show cd 41 28 = some (.aload_n 0, 1, 0, 0, 0, 0) from rfl))
theorem u41_29 : wp r 41 29 ls (vA q :: st) x Q ↔ sbk 7 (hK x q) ∧ wp r 41 32 ls (vI (hI x q 3) :: st) x Q := (wp_u (show cd 41 29 = some (.getfield 108, 3, 7, 3, 0, 0) from rfl)).trans g_getI
theorem u41_32 : wp r 41 32 ls [vI z] x Q ↔ Q (.inl (some (vI z))) x := (wp_u (show cd 41 32 = some (.ireturn, 1, 0, 0, 0, 0) from rfl))
theorem e41 : wpc r 41 [vR o0, vR o1, vI z2, vI z3] x Q ↔ wp r 41 0 [vR o0, vR o1, vI z2, vI z3] [] x Q := Iff.rfl
/-! 42 D_newGroup -/
theorem u42_0 : wp r 42 0 [vR o, a1, a2] st x Q ↔ wp r 42 1 [vR o, a1, a2] (vR o :: st) x Q := (wp_u (show cd 42 0 = some (.aload_n 0, 1, 0, 0, 0, 0) from rfl))
theorem u42_1 : wp r 42 1 ls (vA q :: st) x Q ↔ sbk 0 (hK x q) ∧ wp r 42 4 ls (vR (hR x q 8) :: st) x Q := (wp_u (show cd 42 1 = some (.getfield 81, 3, 0, 8, 5, 0) from rfl)).trans g_getR
theorem u42_4 : wp r 42 4 [a0, a1, a2] (vR o :: st) x Q ↔ wp r 42 5 [a0, vR o, a2] st x Q := (wp_u (show cd 42 4 = some (.astore_n 1, 1, 0, 0, 0, 0) from rfl))
theorem u42_5 : wp r 42 5 [a0, vR o, a2] st x Q ↔ wp r 42 6 [a0, vR o, a2] (vR o :: st) x Q := (wp_u (show cd 42 5 = some (.aload_n 1, 1, 0, 0, 0, 0) from rfl))
theorem u42_6n : wp r 42 6 ls (vN :: st) x Q ↔ wp r 42 9 ls (vI 0 :: st) x Q := (wp_u (show cd 42 6 = some (.instanceof 84, 3, 6, 0, 0, 0) from rfl))
theorem u42_6 : wp r 42 6 ls (vA q :: st) x Q ↔ i56 (hK x q) ∧ wp r 42 9 ls (vI (ink 6 (hK x q)) :: st) x Q := (wp_u (show cd 42 6 = some (.instanceof 84, 3, 6, 0, 0, 0) from rfl)).trans g_inst
theorem u42_9 : wp r 42 9 ls (vI z :: st) x Q ↔ if z = 0 then wp r 42 37 ls st x Q else wp r 42 12 ls st x Q := (wp_u (show cd 42 9 = some (.ifCond .eq 28, 3, 37, 0, 0, 0) from rfl)).trans wq_d
theorem u42_12 : wp r 42 12 [vR o, a1, a2] st x Q ↔ wp r 42 13 [vR o, a1, a2] (vR o :: st) x Q := (wp_u (show cd 42 12 = some (.aload_n 0, 1, 0, 0, 0, 0) from rfl))
theorem u42_13 : wp r 42 13 [a0, vR o, a2] st x Q ↔ wp r 42 14 [a0, vR o, a2] (vR o :: st) x Q := (wp_u (show cd 42 13 = some (.aload_n 1, 1, 0, 0, 0, 0) from rfl))
theorem u42_14 : wp r 42 14 ls (vA q :: st) x Q ↔ sbk 4 (hK x q) ∧ wp r 42 17 ls (vR (hR x q 0) :: st) x Q := (wp_u (show cd 42 14 = some (.getfield 75, 3, 4, 0, 5, 0) from rfl)).trans g_getR
theorem u42_17 : wp r 42 17 ls (vR o :: vA q :: st) x Q ↔ sbk 0 (hK x q) ∧ wp r 42 20 ls st (stR x q 8 o) Q := (wp_u (show cd 42 17 = some (.putfield 81, 3, 0, 8, 5, 0) from rfl)).trans g_putR
theorem u42_20 : wp r 42 20 [a0, vR o, a2] st x Q ↔ wp r 42 21 [a0, vR o, a2] (vR o :: st) x Q := (wp_u (show cd 42 20 = some (.aload_n 1, 1, 0, 0, 0, 0) from rfl))
theorem u42_21 : wp r 42 21 ls (vA q :: st) x Q ↔ isk 6 (hK x q) ∧ wp r 42 24 ls (vA q :: st) x Q := (wp_u (show cd 42 21 = some (.checkcast 84, 3, 6, 0, 0, 0) from rfl)).trans g_cast
theorem u42_24 : wp r 42 24 [a0, a1, a2] (vR o :: st) x Q ↔ wp r 42 25 [a0, a1, vR o] st x Q := (wp_u (show cd 42 24 = some (.astore_n 2, 1, 0, 0, 0, 0) from rfl))
theorem u42_25 : wp r 42 25 [a0, a1, vR o] st x Q ↔ wp r 42 26 [a0, a1, vR o] (vR o :: st) x Q := (wp_u (show cd 42 25 = some (.aload_n 2, 1, 0, 0, 0, 0) from rfl))
theorem u42_26 : wp r 42 26 ls st x Q ↔ wp r 42 27 ls (vN :: st) x Q := (wp_u (show cd 42 26 = some (.aconst_null, 1, 0, 0, 0, 0) from rfl))
theorem u42_27 : wp r 42 27 ls (vR o :: vA q :: st) x Q ↔ sbk 6 (hK x q) ∧ wp r 42 30 ls st (stR x q 4 o) Q := (wp_u (show cd 42 27 = some (.putfield 86, 3, 6, 4, 5, 0) from rfl)).trans g_putR
theorem u42_30 : wp r 42 30 [a0, a1, vR o] st x Q ↔ wp r 42 31 [a0, a1, vR o] (vR o :: st) x Q := (wp_u (show cd 42 30 = some (.aload_n 2, 1, 0, 0, 0, 0) from rfl))
theorem u42_31 : wp r 42 31 ls st x Q ↔ wp r 42 32 ls (vN :: st) x Q := (wp_u (show cd 42 31 = some (.aconst_null, 1, 0, 0, 0, 0) from rfl))
theorem u42_32 : wp r 42 32 ls (vR o :: vA q :: st) x Q ↔ sbk 6 (hK x q) ∧ wp r 42 35 ls st (stR x q 5 o) Q := (wp_u (show cd 42 32 = some (.putfield 89, 3, 6, 5, 5, 0) from rfl)).trans g_putR
theorem u42_35 : wp r 42 35 [a0, a1, vR o] st x Q ↔ wp r 42 36 [a0, a1, vR o] (vR o :: st) x Q := (wp_u (show cd 42 35 = some (.aload_n 2, 1, 0, 0, 0, 0) from rfl))
theorem u42_36 : wp r 42 36 ls [vR o] x Q ↔ Q (.inl (some (vR o))) x := (wp_u (show cd 42 36 = some (.areturn, 1, 0, 0, 0, 0) from rfl))
theorem u42_37 : wp r 42 37 ls st x Q ↔ nok x 6 ∧ wp r 42 40 ls (vA (hN x) :: st) (nwO x 6 6) Q := (wp_u (show cd 42 37 = some (.new 84, 3, 6, 6, 0, 0) from rfl)).trans g_new
theorem u42_40i : wp r 42 40 ls (vI z :: st) x Q ↔ wp r 42 41 ls (vI z :: vI z :: st) x Q := (wp_u (show cd 42 40 = some (.dup, 1, 0, 0, 0, 0) from rfl))
theorem u42_40 : wp r 42 40 ls (vR o :: st) x Q ↔ wp r 42 41 ls (vR o :: vR o :: st) x Q := (wp_u (show cd 42 40 = some (.dup, 1, 0, 0, 0, 0) from rfl))
theorem u42_41 : wp r 42 41 ls (vA q :: st) x Q ↔ nnk (hK x q) ∧ sml st = true ∧ 2 < r ∧ wpc 2 34 [vA q] x (wk r 42 41 ls st Q) := (wp_u (show cd 42 41 = some (.invokespecial 92, 3, 34, 1, 2, 0) from rfl)).trans (g_special rfl (by decide) (by simp) rfl)
theorem u42_44 : wp r 42 44 ls [vR o] x Q ↔ Q (.inl (some (vR o))) x := (wp_u (show cd 42 44 = some (.areturn, 1, 0, 0, 0, 0) from rfl))
theorem e42 : wpc r 42 [vA q] x Q ↔ wp r 42 0 [vA q, vL jk, vL jk] [] x Q := Iff.rfl
/-! 43 D_give -/
theorem u43_0 : wp r 43 0 [a0, vR o, a2, a3, a4] st x Q ↔ wp r 43 1 [a0, vR o, a2, a3, a4] (vR o :: st) x Q := (wp_u (show cd 43 0 = some (.aload_n 1, 1, 0, 0, 0, 0) from rfl))
theorem u43_1 : wp r 43 1 [a0, a1, a2, a3, a4] (vR o :: st) x Q ↔ wp r 43 2 [a0, a1, a2, vR o, a4] st x Q := (wp_u (show cd 43 1 = some (.astore_n 3, 1, 0, 0, 0, 0) from rfl))
theorem u43_2 : wp r 43 2 [a0, a1, a2, vR o, a4] st x Q ↔ wp r 43 3 [a0, a1, a2, vR o, a4] (vR o :: st) x Q := (wp_u (show cd 43 2 = some (.aload_n 3, 1, 0, 0, 0, 0) from rfl))
theorem u43_3n : wp r 43 3 ls (vN :: st) x Q ↔ wp r 43 73 ls st x Q := (wp_u (show cd 43 3 = some (.ifnull 70, 3, 73, 0, 0, 0) from rfl))
theorem u43_3 : wp r 43 3 ls (vA q :: st) x Q ↔ nnk (hK x q) ∧ wp r 43 6 ls st x Q := (wp_u (show cd 43 3 = some (.ifnull 70, 3, 73, 0, 0, 0) from rfl)).trans (g_nul Iff.rfl)
theorem u43_6 : wp r 43 6 [a0, a1, vI z, a3, a4] st x Q ↔ wp r 43 7 [a0, a1, vI z, a3, a4] (vI z :: st) x Q := (wp_u (show cd 43 6 = some (.iload_n 2, 1, 0, 0, 0, 0) from rfl))
theorem u43_7 : wp r 43 7 ls st x Q ↔ wp r 43 8 ls (vI 3 :: st) x Q := (wp_u (show cd 43 7 = some (.iconst 3, 1, 0, 0, 0, 0) from rfl))
theorem u43_8 : wp r 43 8 ls (vI w :: vI z :: st) x Q ↔ if w < z then wp r 43 73 ls st x Q else wp r 43 11 ls st x Q := (wp_u (show cd 43 8 = some (.if_icmp .gt 65, 3, 73, 0, 0, 0) from rfl)).trans wq_d
theorem u43_11 : wp r 43 11 [a0, a1, a2, vR o, a4] st x Q ↔ wp r 43 12 [a0, a1, a2, vR o, a4] (vR o :: st) x Q := (wp_u (show cd 43 11 = some (.aload_n 3, 1, 0, 0, 0, 0) from rfl))
theorem u43_12 : wp r 43 12 ls (vA q :: st) x Q ↔ sbk 4 (hK x q) ∧ wp r 43 15 ls (vR (hR x q 0) :: st) x Q := (wp_u (show cd 43 12 = some (.getfield 75, 3, 4, 0, 5, 0) from rfl)).trans g_getR
theorem u43_15 : wp r 43 15 [a0, a1, a2, a3, a4] (vR o :: st) x Q ↔ wp r 43 17 [a0, a1, a2, a3, vR o] st x Q := (wp_u (show cd 43 15 = some (.astore 4, 2, 0, 0, 0, 0) from rfl))
theorem u43_17 : wp r 43 17 [a0, a1, a2, vR o, a4] st x Q ↔ wp r 43 18 [a0, a1, a2, vR o, a4] (vR o :: st) x Q := (wp_u (show cd 43 17 = some (.aload_n 3, 1, 0, 0, 0, 0) from rfl))
theorem u43_18n : wp r 43 18 ls (vN :: st) x Q ↔ wp r 43 21 ls (vI 0 :: st) x Q := (wp_u (show cd 43 18 = some (.instanceof 84, 3, 6, 0, 0, 0) from rfl))
theorem u43_18 : wp r 43 18 ls (vA q :: st) x Q ↔ i56 (hK x q) ∧ wp r 43 21 ls (vI (ink 6 (hK x q)) :: st) x Q := (wp_u (show cd 43 18 = some (.instanceof 84, 3, 6, 0, 0, 0) from rfl)).trans g_inst
theorem u43_21 : wp r 43 21 ls (vI z :: st) x Q ↔ if z = 0 then wp r 43 54 ls st x Q else wp r 43 24 ls st x Q := (wp_u (show cd 43 21 = some (.ifCond .eq 33, 3, 54, 0, 0, 0) from rfl)).trans wq_d
theorem u43_24 : wp r 43 24 [vR o, a1, a2, a3, a4] st x Q ↔ wp r 43 25 [vR o, a1, a2, a3, a4] (vR o :: st) x Q := (wp_u (show cd 43 24 = some (.aload_n 0, 1, 0, 0, 0, 0) from rfl))
theorem u43_25 : wp r 43 25 [a0, a1, a2, vR o, a4] st x Q ↔ wp r 43 26 [a0, a1, a2, vR o, a4] (vR o :: st) x Q := (wp_u (show cd 43 25 = some (.aload_n 3, 1, 0, 0, 0, 0) from rfl))
theorem u43_26 : wp r 43 26 ls (vA q :: st) x Q ↔ isk 6 (hK x q) ∧ wp r 43 29 ls (vA q :: st) x Q := (wp_u (show cd 43 26 = some (.checkcast 84, 3, 6, 0, 0, 0) from rfl)).trans g_cast
theorem u43_29 : wp r 43 29 ls (vA q :: st) x Q ↔ sbk 6 (hK x q) ∧ wp r 43 32 ls (vR (hR x q 4) :: st) x Q := (wp_u (show cd 43 29 = some (.getfield 86, 3, 6, 4, 5, 0) from rfl)).trans g_getR
theorem u43_32 : wp r 43 32 [a0, a1, vI z, a3, a4] st x Q ↔ wp r 43 33 [a0, a1, vI z, a3, a4] (vI z :: st) x Q := (wp_u (show cd 43 32 = some (.iload_n 2, 1, 0, 0, 0, 0) from rfl))
theorem u43_33 : wp r 43 33 ls st x Q ↔ wp r 43 34 ls (vI 1 :: st) x Q := (wp_u (show cd 43 33 = some (.iconst 1, 1, 0, 0, 0, 0) from rfl))
theorem u43_34 : wp r 43 34 ls (vI w :: vI z :: st) x Q ↔ inI (z + w) = true ∧ wp r 43 35 ls (vI (z + w) :: st) x Q := (wp_u (show cd 43 34 = some (.iadd, 1, 0, 0, 0, 0) from rfl)).trans wq_if
theorem u43_35 : wp r 43 35 ls (vI z2 :: vR o1 :: vR o0 :: st) x Q ↔ sml st = true ∧ (r - 1) < r ∧ wpc (r - 1) 43 [vR o0, vR o1, vI z2] x (wk r 43 35 ls st Q) := (wp_u (show cd 43 35 = some (.invokestatic 146, 3, 43, 3, 999, 0) from rfl)).trans (g_stat (by decide) (by simp) rfl)
theorem u43_38 : wp r 43 38 [a0, a1, a2, vR o, a4] st x Q ↔ wp r 43 39 [a0, a1, a2, vR o, a4] (vR o :: st) x Q := (wp_u (show cd 43 38 = some (.aload_n 3, 1, 0, 0, 0, 0) from rfl))
theorem u43_39 : wp r 43 39 [vR o, a1, a2, a3, a4] st x Q ↔ wp r 43 40 [vR o, a1, a2, a3, a4] (vR o :: st) x Q := (wp_u (show cd 43 39 = some (.aload_n 0, 1, 0, 0, 0, 0) from rfl))
theorem u43_40 : wp r 43 40 ls (vA q :: st) x Q ↔ sbk 0 (hK x q) ∧ wp r 43 43 ls (vR (hR x q 8) :: st) x Q := (wp_u (show cd 43 40 = some (.getfield 81, 3, 0, 8, 5, 0) from rfl)).trans g_getR
theorem u43_43 : wp r 43 43 ls (vR o :: vA q :: st) x Q ↔ sbk 4 (hK x q) ∧ wp r 43 46 ls st (stR x q 0 o) Q := (wp_u (show cd 43 43 = some (.putfield 75, 3, 4, 0, 5, 0) from rfl)).trans g_putR
theorem u43_46 : wp r 43 46 [vR o, a1, a2, a3, a4] st x Q ↔ wp r 43 47 [vR o, a1, a2, a3, a4] (vR o :: st) x Q := (wp_u (show cd 43 46 = some (.aload_n 0, 1, 0, 0, 0, 0) from rfl))
theorem u43_47 : wp r 43 47 [a0, a1, a2, vR o, a4] st x Q ↔ wp r 43 48 [a0, a1, a2, vR o, a4] (vR o :: st) x Q := (wp_u (show cd 43 47 = some (.aload_n 3, 1, 0, 0, 0, 0) from rfl))
theorem u43_48 : wp r 43 48 ls (vR o :: vA q :: st) x Q ↔ sbk 0 (hK x q) ∧ wp r 43 51 ls st (stR x q 8 o) Q := (wp_u (show cd 43 48 = some (.putfield 81, 3, 0, 8, 5, 0) from rfl)).trans g_putR
theorem u43_51 : wp r 43 51 ls st x Q ↔ wp r 43 67 ls st x Q := (wp_u (show cd 43 51 = some (.goto 16, 3, 67, 0, 0, 0) from rfl))
theorem u43_54 : wp r 43 54 [a0, a1, a2, vR o, a4] st x Q ↔ wp r 43 55 [a0, a1, a2, vR o, a4] (vR o :: st) x Q := (wp_u (show cd 43 54 = some (.aload_n 3, 1, 0, 0, 0, 0) from rfl))
theorem u43_55 : wp r 43 55 [vR o, a1, a2, a3, a4] st x Q ↔ wp r 43 56 [vR o, a1, a2, a3, a4] (vR o :: st) x Q := (wp_u (show cd 43 55 = some (.aload_n 0, 1, 0, 0, 0, 0) from rfl))
theorem u43_56 : wp r 43 56 ls (vA q :: st) x Q ↔ sbk 0 (hK x q) ∧ wp r 43 59 ls (vR (hR x q 7) :: st) x Q := (wp_u (show cd 43 56 = some (.getfield 69, 3, 0, 7, 5, 0) from rfl)).trans g_getR
theorem u43_59 : wp r 43 59 ls (vR o :: vA q :: st) x Q ↔ sbk 4 (hK x q) ∧ wp r 43 62 ls st (stR x q 0 o) Q := (wp_u (show cd 43 59 = some (.putfield 75, 3, 4, 0, 5, 0) from rfl)).trans g_putR
theorem u43_62 : wp r 43 62 [vR o, a1, a2, a3, a4] st x Q ↔ wp r 43 63 [vR o, a1, a2, a3, a4] (vR o :: st) x Q := (wp_u (show cd 43 62 = some (.aload_n 0, 1, 0, 0, 0, 0) from rfl))
theorem u43_63 : wp r 43 63 [a0, a1, a2, vR o, a4] st x Q ↔ wp r 43 64 [a0, a1, a2, vR o, a4] (vR o :: st) x Q := (wp_u (show cd 43 63 = some (.aload_n 3, 1, 0, 0, 0, 0) from rfl))
theorem u43_64 : wp r 43 64 ls (vR o :: vA q :: st) x Q ↔ sbk 0 (hK x q) ∧ wp r 43 67 ls st (stR x q 7 o) Q := (wp_u (show cd 43 64 = some (.putfield 69, 3, 0, 7, 5, 0) from rfl)).trans g_putR
theorem u43_67 : wp r 43 67 [a0, a1, a2, a3, vR o] st x Q ↔ wp r 43 69 [a0, a1, a2, a3, vR o] (vR o :: st) x Q := (wp_u (show cd 43 67 = some (.aload 4, 2, 0, 0, 0, 0) from rfl))
theorem u43_69 : wp r 43 69 [a0, a1, a2, a3, a4] (vR o :: st) x Q ↔ wp r 43 70 [a0, a1, a2, vR o, a4] st x Q := (wp_u (show cd 43 69 = some (.astore_n 3, 1, 0, 0, 0, 0) from rfl))
theorem u43_70 : wp r 43 70 ls st x Q ↔ wp r 43 2 ls st x Q := (wp_u (show cd 43 70 = some (.goto (-68), 3, 2, 0, 0, 0) from rfl))
theorem u43_73 : wp r 43 73 ls [] x Q ↔ Q (.inl none) x := (wp_u (show cd 43 73 = some (.return_, 1, 0, 0, 0, 0) from rfl))
theorem e43 : wpc r 43 [vR o0, vR o1, vI z2] x Q ↔ wp r 43 0 [vR o0, vR o1, vI z2, vL jk, vL jk] [] x Q := Iff.rfl
/-! 44 D_nests -/
theorem u44_0 : wp r 44 0 [vR o, a1, a2, a3, a4, a5, a6] st x Q ↔ wp r 44 1 [vR o, a1, a2, a3, a4, a5, a6] (vR o :: st) x Q := (wp_u (show cd 44 0 = some (.aload_n 0, 1, 0, 0, 0, 0) from rfl))
theorem u44_1 : wp r 44 1 ls (vA q :: st) x Q ↔ sbk 2 (hK x q) ∧ wp r 44 4 ls (vI (hI x q 3) :: st) x Q := (wp_u (show cd 44 1 = some (.getfield 186, 3, 2, 3, 0, 0) from rfl)).trans g_getI
theorem u44_4 : wp r 44 4 ls st x Q ↔ wp r 44 5 ls (vI 1 :: st) x Q := (wp_u (show cd 44 4 = some (.iconst 1, 1, 0, 0, 0, 0) from rfl))
theorem u44_5 : wp r 44 5 ls (vI w :: vI z :: st) x Q ↔ inI (z - w) = true ∧ wp r 44 6 ls (vI (z - w) :: st) x Q := (wp_u (show cd 44 5 = some (.isub, 1, 0, 0, 0, 0) from rfl)).trans wq_if
theorem u44_6 : wp r 44 6 [a0, a1, a2, a3, a4, a5, a6] (vI z :: st) x Q ↔ wp r 44 7 [a0, vI z, a2, a3, a4, a5, a6] st x Q := (wp_u (show cd 44 6 = some (.istore_n 1, 1, 0, 0, 0, 0) from rfl))
theorem u44_7 : wp r 44 7 [a0, vI z, a2, a3, a4, a5, a6] st x Q ↔ wp r 44 8 [a0, vI z, a2, a3, a4, a5, a6] (vI z :: st) x Q := (wp_u (show cd 44 7 = some (.iload_n 1, 1, 0, 0, 0, 0) from rfl))
theorem u44_8 : wp r 44 8 ls st x Q ↔ wp r 44 9 ls (vI 1 :: st) x Q := (wp_u (show cd 44 8 = some (.iconst 1, 1, 0, 0, 0, 0) from rfl))
theorem u44_9 : wp r 44 9 ls (vI w :: vI z :: st) x Q ↔ if z < w then wp r 44 40 ls st x Q else wp r 44 12 ls st x Q := (wp_u (show cd 44 9 = some (.if_icmp .lt 31, 3, 40, 0, 0, 0) from rfl)).trans wq_d
theorem u44_12 : wp r 44 12 [vR o, a1, a2, a3, a4, a5, a6] st x Q ↔ wp r 44 13 [vR o, a1, a2, a3, a4, a5, a6] (vR o :: st) x Q := (wp_u (show cd 44 12 = some (.aload_n 0, 1, 0, 0, 0, 0) from rfl))
theorem u44_13 : wp r 44 13 ls (vA q :: st) x Q ↔ sbk 2 (hK x q) ∧ wp r 44 16 ls (vR (hR x q 2) :: st) x Q := (wp_u (show cd 44 13 = some (.getfield 187, 3, 2, 2, 5, 0) from rfl)).trans g_getR
theorem u44_16 : wp r 44 16 ls st x Q ↔ wp r 44 17 ls (vI 0 :: st) x Q := (wp_u (show cd 44 16 = some (.iconst 0, 1, 0, 0, 0, 0) from rfl))
theorem u44_17 : wp r 44 17 ls (vI i :: vA q :: st) x Q ↔ ldr (hK x q) i ∧ wp r 44 18 ls (vR (hR x q i) :: st) x Q := (wp_u (show cd 44 17 = some (.aaload, 1, 0, 0, 0, 0) from rfl)).trans g_ldR
theorem u44_18 : wp r 44 18 ls (vA q :: st) x Q ↔ sbk 3 (hK x q) ∧ wp r 44 21 ls (vI (hI x q 0) :: st) x Q := (wp_u (show cd 44 18 = some (.getfield 191, 3, 3, 0, 0, 0) from rfl)).trans g_getI
theorem u44_21 : wp r 44 21 ls st x Q ↔ wp r 44 23 ls (vI 5590594 :: st) x Q := (wp_u (show cd 44 21 = some (.ldc 3, 2, 5590594, 0, 0, 0) from rfl))
theorem u44_23 : wp r 44 23 ls (vI w :: vI z :: st) x Q ↔ if z = w then wp r 44 26 ls st x Q else wp r 44 40 ls st x Q := (wp_u (show cd 44 23 = some (.if_icmp .ne 17, 3, 40, 0, 0, 0) from rfl)).trans wq_dn
theorem u44_26 : wp r 44 26 [vR o, a1, a2, a3, a4, a5, a6] st x Q ↔ wp r 44 27 [vR o, a1, a2, a3, a4, a5, a6] (vR o :: st) x Q := (wp_u (show cd 44 26 = some (.aload_n 0, 1, 0, 0, 0, 0) from rfl))
theorem u44_27 : wp r 44 27 ls (vA q :: st) x Q ↔ sbk 2 (hK x q) ∧ wp r 44 30 ls (vR (hR x q 2) :: st) x Q := (wp_u (show cd 44 27 = some (.getfield 187, 3, 2, 2, 5, 0) from rfl)).trans g_getR
theorem u44_30 : wp r 44 30 [a0, vI z, a2, a3, a4, a5, a6] st x Q ↔ wp r 44 31 [a0, vI z, a2, a3, a4, a5, a6] (vI z :: st) x Q := (wp_u (show cd 44 30 = some (.iload_n 1, 1, 0, 0, 0, 0) from rfl))
theorem u44_31 : wp r 44 31 ls (vI i :: vA q :: st) x Q ↔ ldr (hK x q) i ∧ wp r 44 32 ls (vR (hR x q i) :: st) x Q := (wp_u (show cd 44 31 = some (.aaload, 1, 0, 0, 0, 0) from rfl)).trans g_ldR
theorem u44_32 : wp r 44 32 ls (vA q :: st) x Q ↔ sbk 3 (hK x q) ∧ wp r 44 35 ls (vI (hI x q 0) :: st) x Q := (wp_u (show cd 44 32 = some (.getfield 191, 3, 3, 0, 0, 0) from rfl)).trans g_getI
theorem u44_35 : wp r 44 35 ls st x Q ↔ wp r 44 37 ls (vI 5590618 :: st) x Q := (wp_u (show cd 44 35 = some (.ldc 8, 2, 5590618, 0, 0, 0) from rfl))
theorem u44_37 : wp r 44 37 ls (vI w :: vI z :: st) x Q ↔ if z = w then wp r 44 42 ls st x Q else wp r 44 40 ls st x Q := (wp_u (show cd 44 37 = some (.if_icmp .eq 5, 3, 42, 0, 0, 0) from rfl)).trans wq_d
theorem u44_40 : wp r 44 40 ls st x Q ↔ wp r 44 41 ls (vI 0 :: st) x Q := (wp_u (show cd 44 40 = some (.iconst 0, 1, 0, 0, 0, 0) from rfl))
theorem u44_41 : wp r 44 41 ls [vI z] x Q ↔ rg 4 z = true ∧ Q (.inl (some (vI z))) x := (wp_u (show cd 44 41 = some (.ireturn, 1, 4, 0, 0, 0) from rfl)).trans wq_if
theorem u44_42 : wp r 44 42 [vR o, a1, a2, a3, a4, a5, a6] st x Q ↔ wp r 44 43 [vR o, a1, a2, a3, a4, a5, a6] (vR o :: st) x Q := (wp_u (show cd 44 42 = some (.aload_n 0, 1, 0, 0, 0, 0) from rfl))
theorem u44_43 : wp r 44 43 ls (vA q :: st) x Q ↔ sbk 2 (hK x q) ∧ wp r 44 46 ls (vR (hR x q 2) :: st) x Q := (wp_u (show cd 44 43 = some (.getfield 187, 3, 2, 2, 5, 0) from rfl)).trans g_getR
theorem u44_46 : wp r 44 46 ls st x Q ↔ wp r 44 47 ls (vI 1 :: st) x Q := (wp_u (show cd 44 46 = some (.iconst 1, 1, 0, 0, 0, 0) from rfl))
theorem u44_47 : wp r 44 47 ls (vI i :: vA q :: st) x Q ↔ ldr (hK x q) i ∧ wp r 44 48 ls (vR (hR x q i) :: st) x Q := (wp_u (show cd 44 47 = some (.aaload, 1, 0, 0, 0, 0) from rfl)).trans g_ldR
theorem u44_48 : wp r 44 48 ls (vA q :: st) x Q ↔ sbk 3 (hK x q) ∧ wp r 44 51 ls (vI (hI x q 0) :: st) x Q := (wp_u (show cd 44 48 = some (.getfield 191, 3, 3, 0, 0, 0) from rfl)).trans g_getI
theorem u44_51 : wp r 44 51 ls st x Q ↔ wp r 44 53 ls (vI 5590599 :: st) x Q := (wp_u (show cd 44 51 = some (.ldc 5, 2, 5590599, 0, 0, 0) from rfl))
theorem u44_53 : wp r 44 53 ls (vI w :: vI z :: st) x Q ↔ if z = w then wp r 44 56 ls st x Q else wp r 44 60 ls st x Q := (wp_u (show cd 44 53 = some (.if_icmp .ne 7, 3, 60, 0, 0, 0) from rfl)).trans wq_dn
theorem u44_56 : wp r 44 56 ls st x Q ↔ wp r 44 57 ls (vI 1 :: st) x Q := (wp_u (show cd 44 56 = some (.iconst 1, 1, 0, 0, 0, 0) from rfl))
theorem u44_57 : wp r 44 57 ls st x Q ↔ wp r 44 61 ls st x Q := (wp_u (show cd 44 57 = some (.goto 4, 3, 61, 0, 0, 0) from rfl))
theorem u44_60 : wp r 44 60 ls st x Q ↔ wp r 44 61 ls (vI 0 :: st) x Q := (wp_u (show cd 44 60 = some (.iconst 0, 1, 0, 0, 0, 0) from rfl))
theorem u44_61 : wp r 44 61 [a0, a1, a2, a3, a4, a5, a6] (vI z :: st) x Q ↔ wp r 44 62 [a0, a1, vI z, a3, a4, a5, a6] st x Q := (wp_u (show cd 44 61 = some (.istore_n 2, 1, 0, 0, 0, 0) from rfl))
theorem u44_62 : wp r 44 62 ls st x Q ↔ wp r 44 63 ls (vI 0 :: st) x Q := (wp_u (show cd 44 62 = some (.iconst 0, 1, 0, 0, 0, 0) from rfl))
theorem u44_63 : wp r 44 63 [a0, a1, a2, a3, a4, a5, a6] (vI z :: st) x Q ↔ wp r 44 64 [a0, a1, a2, vI z, a4, a5, a6] st x Q := (wp_u (show cd 44 63 = some (.istore_n 3, 1, 0, 0, 0, 0) from rfl))
theorem u44_64 : wp r 44 64 ls st x Q ↔ wp r 44 65 ls (vI 0 :: st) x Q := (wp_u (show cd 44 64 = some (.iconst 0, 1, 0, 0, 0, 0) from rfl))
theorem u44_65 : wp r 44 65 [a0, a1, a2, a3, a4, a5, a6] (vI z :: st) x Q ↔ wp r 44 67 [a0, a1, a2, a3, vI z, a5, a6] st x Q := (wp_u (show cd 44 65 = some (.istore 4, 2, 0, 0, 0, 0) from rfl))
theorem u44_67 : wp r 44 67 ls st x Q ↔ wp r 44 68 ls (vI 1 :: st) x Q := (wp_u (show cd 44 67 = some (.iconst 1, 1, 0, 0, 0, 0) from rfl))
theorem u44_68 : wp r 44 68 [a0, a1, a2, a3, a4, a5, a6] (vI z :: st) x Q ↔ wp r 44 70 [a0, a1, a2, a3, a4, vI z, a6] st x Q := (wp_u (show cd 44 68 = some (.istore 5, 2, 0, 0, 0, 0) from rfl))
theorem u44_70 : wp r 44 70 [a0, a1, a2, a3, a4, vI z, a6] st x Q ↔ wp r 44 72 [a0, a1, a2, a3, a4, vI z, a6] (vI z :: st) x Q := (wp_u (show cd 44 70 = some (.iload 5, 2, 0, 0, 0, 0) from rfl))
theorem u44_72 : wp r 44 72 [a0, vI z, a2, a3, a4, a5, a6] st x Q ↔ wp r 44 73 [a0, vI z, a2, a3, a4, a5, a6] (vI z :: st) x Q := (wp_u (show cd 44 72 = some (.iload_n 1, 1, 0, 0, 0, 0) from rfl))
theorem u44_73 : wp r 44 73 ls (vI w :: vI z :: st) x Q ↔ if w ≤ z then wp r 44 306 ls st x Q else wp r 44 76 ls st x Q := (wp_u (show cd 44 73 = some (.if_icmp .ge 233, 3, 306, 0, 0, 0) from rfl)).trans wq_d
theorem u44_76 : wp r 44 76 [vR o, a1, a2, a3, a4, a5, a6] st x Q ↔ wp r 44 77 [vR o, a1, a2, a3, a4, a5, a6] (vR o :: st) x Q := (wp_u (show cd 44 76 = some (.aload_n 0, 1, 0, 0, 0, 0) from rfl))
theorem u44_77 : wp r 44 77 ls (vA q :: st) x Q ↔ sbk 2 (hK x q) ∧ wp r 44 80 ls (vR (hR x q 2) :: st) x Q := (wp_u (show cd 44 77 = some (.getfield 187, 3, 2, 2, 5, 0) from rfl)).trans g_getR
theorem u44_80 : wp r 44 80 [a0, a1, a2, a3, a4, vI z, a6] st x Q ↔ wp r 44 82 [a0, a1, a2, a3, a4, vI z, a6] (vI z :: st) x Q := (wp_u (show cd 44 80 = some (.iload 5, 2, 0, 0, 0, 0) from rfl))
theorem u44_82 : wp r 44 82 ls (vI i :: vA q :: st) x Q ↔ ldr (hK x q) i ∧ wp r 44 83 ls (vR (hR x q i) :: st) x Q := (wp_u (show cd 44 82 = some (.aaload, 1, 0, 0, 0, 0) from rfl)).trans g_ldR
theorem u44_83 : wp r 44 83 ls (vA q :: st) x Q ↔ sbk 3 (hK x q) ∧ wp r 44 86 ls (vI (hI x q 0) :: st) x Q := (wp_u (show cd 44 83 = some (.getfield 191, 3, 3, 0, 0, 0) from rfl)).trans g_getI
theorem u44_86 : wp r 44 86 [a0, a1, a2, a3, a4, a5, a6] (vI z :: st) x Q ↔ wp r 44 88 [a0, a1, a2, a3, a4, a5, vI z] st x Q := (wp_u (show cd 44 86 = some (.istore 6, 2, 0, 0, 0, 0) from rfl))
theorem u44_88 : wp r 44 88 [a0, a1, a2, a3, vI z, a5, a6] st x Q ↔ wp r 44 90 [a0, a1, a2, a3, vI z, a5, a6] (vI z :: st) x Q := (wp_u (show cd 44 88 = some (.iload 4, 2, 0, 0, 0, 0) from rfl))
theorem u44_90 : wp r 44 90 ls (vI z :: st) x Q ↔ if z = 0 then wp r 44 137 ls st x Q else wp r 44 93 ls st x Q := (wp_u (show cd 44 90 = some (.ifCond .eq 47, 3, 137, 0, 0, 0) from rfl)).trans wq_d
theorem u44_93 : wp r 44 93 [a0, a1, a2, a3, a4, a5, vI z] st x Q ↔ wp r 44 95 [a0, a1, a2, a3, a4, a5, vI z] (vI z :: st) x Q := (wp_u (show cd 44 93 = some (.iload 6, 2, 0, 0, 0, 0) from rfl))
theorem u44_95 : wp r 44 95 ls st x Q ↔ wp r 44 97 ls (vI 5590612 :: st) x Q := (wp_u (show cd 44 95 = some (.ldc 7, 2, 5590612, 0, 0, 0) from rfl))
theorem u44_97 : wp r 44 97 ls (vI w :: vI z :: st) x Q ↔ if z = w then wp r 44 100 ls st x Q else wp r 44 127 ls st x Q := (wp_u (show cd 44 97 = some (.if_icmp .ne 30, 3, 127, 0, 0, 0) from rfl)).trans wq_dn
theorem u44_100 : wp r 44 100 [vR o, a1, a2, a3, a4, a5, a6] st x Q ↔ wp r 44 101 [vR o, a1, a2, a3, a4, a5, a6] (vR o :: st) x Q := (wp_u (show cd 44 100 = some (.aload_n 0, 1, 0, 0, 0, 0) from rfl))
theorem u44_101 : wp r 44 101 ls (vA q :: st) x Q ↔ sbk 2 (hK x q) ∧ wp r 44 104 ls (vR (hR x q 11) :: st) x Q := (wp_u (show cd 44 101 = some (.getfield 194, 3, 2, 11, 5, 0) from rfl)).trans g_getR
theorem u44_104 : wp r 44 104 [vR o, a1, a2, a3, a4, a5, a6] st x Q ↔ wp r 44 105 [vR o, a1, a2, a3, a4, a5, a6] (vR o :: st) x Q := (wp_u (show cd 44 104 = some (.aload_n 0, 1, 0, 0, 0, 0) from rfl))
theorem u44_105 : wp r 44 105 ls (vA q :: st) x Q ↔ sbk 2 (hK x q) ∧ wp r 44 108 ls (vI (hI x q 15) :: st) x Q := (wp_u (show cd 44 105 = some (.getfield 180, 3, 2, 15, 0, 0) from rfl)).trans g_getI
theorem u44_108 : wp r 44 108 [a0, a1, a2, a3, a4, vI z, a6] st x Q ↔ wp r 44 110 [a0, a1, a2, a3, a4, vI z, a6] (vI z :: st) x Q := (wp_u (show cd 44 108 = some (.iload 5, 2, 0, 0, 0, 0) from rfl))
theorem u44_110 : wp r 44 110 ls (vI z :: vI i :: vA q :: st) x Q ↔ ldk 20 (hK x q) i ∧ 4 ≤ q ∧ wp r 44 111 ls st (stI x q i z) Q := (wp_u (show cd 44 110 = some (.iastore, 1, 0, 0, 0, 0) from rfl)).trans g_stI0
theorem u44_111 : wp r 44 111 [vR o, a1, a2, a3, a4, a5, a6] st x Q ↔ wp r 44 112 [vR o, a1, a2, a3, a4, a5, a6] (vR o :: st) x Q := (wp_u (show cd 44 111 = some (.aload_n 0, 1, 0, 0, 0, 0) from rfl))
theorem u44_112i : wp r 44 112 ls (vI z :: st) x Q ↔ wp r 44 113 ls (vI z :: vI z :: st) x Q := (wp_u (show cd 44 112 = some (.dup, 1, 0, 0, 0, 0) from rfl))
theorem u44_112 : wp r 44 112 ls (vR o :: st) x Q ↔ wp r 44 113 ls (vR o :: vR o :: st) x Q := (wp_u (show cd 44 112 = some (.dup, 1, 0, 0, 0, 0) from rfl))
theorem u44_113 : wp r 44 113 ls (vA q :: st) x Q ↔ sbk 2 (hK x q) ∧ wp r 44 116 ls (vI (hI x q 15) :: st) x Q := (wp_u (show cd 44 113 = some (.getfield 180, 3, 2, 15, 0, 0) from rfl)).trans g_getI
theorem u44_116 : wp r 44 116 ls st x Q ↔ wp r 44 117 ls (vI 1 :: st) x Q := (wp_u (show cd 44 116 = some (.iconst 1, 1, 0, 0, 0, 0) from rfl))
theorem u44_117 : wp r 44 117 ls (vI w :: vI z :: st) x Q ↔ inI (z + w) = true ∧ wp r 44 118 ls (vI (z + w) :: st) x Q := (wp_u (show cd 44 117 = some (.iadd, 1, 0, 0, 0, 0) from rfl)).trans wq_if
theorem u44_118 : wp r 44 118 ls (vI z :: vA q :: st) x Q ↔ sbk 2 (hK x q) ∧ wp r 44 121 ls st (stI x q 15 z) Q := (wp_u (show cd 44 118 = some (.putfield 180, 3, 2, 15, 0, 0) from rfl)).trans g_putI0
theorem u44_121 : wp r 44 121 ls st x Q ↔ wp r 44 122 ls (vI 0 :: st) x Q := (wp_u (show cd 44 121 = some (.iconst 0, 1, 0, 0, 0, 0) from rfl))
theorem u44_122 : wp r 44 122 [a0, a1, a2, a3, a4, a5, a6] (vI z :: st) x Q ↔ wp r 44 124 [a0, a1, a2, a3, vI z, a5, a6] st x Q := (wp_u (show cd 44 122 = some (.istore 4, 2, 0, 0, 0, 0) from rfl))
theorem u44_124 : wp r 44 124 ls st x Q ↔ wp r 44 300 ls st x Q := (wp_u (show cd 44 124 = some (.goto 176, 3, 300, 0, 0, 0) from rfl))
theorem u44_127 : wp r 44 127 [a0, a1, a2, a3, a4, a5, vI z] st x Q ↔ wp r 44 129 [a0, a1, a2, a3, a4, a5, vI z] (vI z :: st) x Q := (wp_u (show cd 44 127 = some (.iload 6, 2, 0, 0, 0, 0) from rfl))
theorem u44_129 : wp r 44 129 ls (vI z0 :: st) x Q ↔ sml st = true ∧ 1 < r ∧ wpc 1 37 [vI z0] x (wk r 44 129 ls st Q) := (wp_u (show cd 44 129 = some (.invokestatic 119, 3, 37, 1, 1, 0) from rfl)).trans (g_stat (by decide) (by simp) rfl)
theorem u44_132 : wp r 44 132 ls (vI z :: st) x Q ↔ if z = 0 then wp r 44 300 ls st x Q else wp r 44 135 ls st x Q := (wp_u (show cd 44 132 = some (.ifCond .eq 168, 3, 300, 0, 0, 0) from rfl)).trans wq_d
theorem u44_135 : wp r 44 135 ls st x Q ↔ wp r 44 136 ls (vI 0 :: st) x Q := (wp_u (show cd 44 135 = some (.iconst 0, 1, 0, 0, 0, 0) from rfl))
theorem u44_136 : wp r 44 136 ls [vI z] x Q ↔ rg 4 z = true ∧ Q (.inl (some (vI z))) x := (wp_u (show cd 44 136 = some (.ireturn, 1, 4, 0, 0, 0) from rfl)).trans wq_if
theorem u44_137 : wp r 44 137 [a0, a1, a2, a3, a4, a5, vI z] st x Q ↔ wp r 44 139 [a0, a1, a2, a3, a4, a5, vI z] (vI z :: st) x Q := (wp_u (show cd 44 137 = some (.iload 6, 2, 0, 0, 0, 0) from rfl))
theorem u44_139 : wp r 44 139 ls st x Q ↔ wp r 44 141 ls (vI 5590600 :: st) x Q := (wp_u (show cd 44 139 = some (.ldc 6, 2, 5590600, 0, 0, 0) from rfl))
theorem u44_141 : wp r 44 141 ls (vI w :: vI z :: st) x Q ↔ if z = w then wp r 44 144 ls st x Q else wp r 44 187 ls st x Q := (wp_u (show cd 44 141 = some (.if_icmp .ne 46, 3, 187, 0, 0, 0) from rfl)).trans wq_dn
theorem u44_144 : wp r 44 144 [a0, a1, a2, vI z, a4, a5, a6] st x Q ↔ wp r 44 145 [a0, a1, a2, vI z, a4, a5, a6] (vI z :: st) x Q := (wp_u (show cd 44 144 = some (.iload_n 3, 1, 0, 0, 0, 0) from rfl))
theorem u44_145 : wp r 44 145 [a0, a1, vI z, a3, a4, a5, a6] st x Q ↔ wp r 44 146 [a0, a1, vI z, a3, a4, a5, a6] (vI z :: st) x Q := (wp_u (show cd 44 145 = some (.iload_n 2, 1, 0, 0, 0, 0) from rfl))
theorem u44_146 : wp r 44 146 ls (vI w :: vI z :: st) x Q ↔ if z = w then wp r 44 149 ls st x Q else wp r 44 187 ls st x Q := (wp_u (show cd 44 146 = some (.if_icmp .ne 41, 3, 187, 0, 0, 0) from rfl)).trans wq_dn
theorem u44_149 : wp r 44 149 [vR o, a1, a2, a3, a4, a5, a6] st x Q ↔ wp r 44 150 [vR o, a1, a2, a3, a4, a5, a6] (vR o :: st) x Q := (wp_u (show cd 44 149 = some (.aload_n 0, 1, 0, 0, 0, 0) from rfl))
theorem u44_150 : wp r 44 150 ls (vA q :: st) x Q ↔ sbk 2 (hK x q) ∧ wp r 44 153 ls (vR (hR x q 10) :: st) x Q := (wp_u (show cd 44 150 = some (.getfield 198, 3, 2, 10, 5, 0) from rfl)).trans g_getR
theorem u44_153 : wp r 44 153 [vR o, a1, a2, a3, a4, a5, a6] st x Q ↔ wp r 44 154 [vR o, a1, a2, a3, a4, a5, a6] (vR o :: st) x Q := (wp_u (show cd 44 153 = some (.aload_n 0, 1, 0, 0, 0, 0) from rfl))
theorem u44_154 : wp r 44 154 ls (vA q :: st) x Q ↔ sbk 2 (hK x q) ∧ wp r 44 157 ls (vI (hI x q 15) :: st) x Q := (wp_u (show cd 44 154 = some (.getfield 180, 3, 2, 15, 0, 0) from rfl)).trans g_getI
theorem u44_157 : wp r 44 157 [a0, a1, a2, a3, a4, vI z, a6] st x Q ↔ wp r 44 159 [a0, a1, a2, a3, a4, vI z, a6] (vI z :: st) x Q := (wp_u (show cd 44 157 = some (.iload 5, 2, 0, 0, 0, 0) from rfl))
theorem u44_159 : wp r 44 159 ls (vI z :: vI i :: vA q :: st) x Q ↔ ldk 20 (hK x q) i ∧ 4 ≤ q ∧ wp r 44 160 ls st (stI x q i z) Q := (wp_u (show cd 44 159 = some (.iastore, 1, 0, 0, 0, 0) from rfl)).trans g_stI0
theorem u44_160 : wp r 44 160 [vR o, a1, a2, a3, a4, a5, a6] st x Q ↔ wp r 44 161 [vR o, a1, a2, a3, a4, a5, a6] (vR o :: st) x Q := (wp_u (show cd 44 160 = some (.aload_n 0, 1, 0, 0, 0, 0) from rfl))
theorem u44_161 : wp r 44 161 ls (vA q :: st) x Q ↔ sbk 2 (hK x q) ∧ wp r 44 164 ls (vR (hR x q 12) :: st) x Q := (wp_u (show cd 44 161 = some (.getfield 201, 3, 2, 12, 5, 0) from rfl)).trans g_getR
theorem u44_164 : wp r 44 164 [vR o, a1, a2, a3, a4, a5, a6] st x Q ↔ wp r 44 165 [vR o, a1, a2, a3, a4, a5, a6] (vR o :: st) x Q := (wp_u (show cd 44 164 = some (.aload_n 0, 1, 0, 0, 0, 0) from rfl))
theorem u44_165 : wp r 44 165 ls (vA q :: st) x Q ↔ sbk 2 (hK x q) ∧ wp r 44 168 ls (vI (hI x q 15) :: st) x Q := (wp_u (show cd 44 165 = some (.getfield 180, 3, 2, 15, 0, 0) from rfl)).trans g_getI
theorem u44_168 : wp r 44 168 [a0, a1, vI z, a3, a4, a5, a6] st x Q ↔ wp r 44 169 [a0, a1, vI z, a3, a4, a5, a6] (vI z :: st) x Q := (wp_u (show cd 44 168 = some (.iload_n 2, 1, 0, 0, 0, 0) from rfl))
theorem u44_169 : wp r 44 169 ls (vI z :: st) x Q ↔ if z = 0 then wp r 44 179 ls st x Q else wp r 44 172 ls st x Q := (wp_u (show cd 44 169 = some (.ifCond .eq 10, 3, 179, 0, 0, 0) from rfl)).trans wq_d
theorem u44_172 : wp r 44 172 [vR o, a1, a2, a3, a4, a5, a6] st x Q ↔ wp r 44 173 [vR o, a1, a2, a3, a4, a5, a6] (vR o :: st) x Q := (wp_u (show cd 44 172 = some (.aload_n 0, 1, 0, 0, 0, 0) from rfl))
theorem u44_173 : wp r 44 173 ls (vA q :: st) x Q ↔ sbk 2 (hK x q) ∧ wp r 44 176 ls (vI (hI x q 18) :: st) x Q := (wp_u (show cd 44 173 = some (.getfield 204, 3, 2, 18, 0, 0) from rfl)).trans g_getI
theorem u44_176 : wp r 44 176 ls st x Q ↔ wp r 44 180 ls st x Q := (wp_u (show cd 44 176 = some (.goto 4, 3, 180, 0, 0, 0) from rfl))
theorem u44_179 : wp r 44 179 ls st x Q ↔ wp r 44 180 ls (vI (-1) :: st) x Q := (wp_u (show cd 44 179 = some (.iconst (-1), 1, 0, 0, 0, 0) from rfl))
theorem u44_180 : wp r 44 180 ls (vI z :: vI i :: vA q :: st) x Q ↔ ldk 20 (hK x q) i ∧ 4 ≤ q ∧ wp r 44 181 ls st (stI x q i z) Q := (wp_u (show cd 44 180 = some (.iastore, 1, 0, 0, 0, 0) from rfl)).trans g_stI0
theorem u44_181 : wp r 44 181 ls st x Q ↔ wp r 44 182 ls (vI 1 :: st) x Q := (wp_u (show cd 44 181 = some (.iconst 1, 1, 0, 0, 0, 0) from rfl))
theorem u44_182 : wp r 44 182 [a0, a1, a2, a3, a4, a5, a6] (vI z :: st) x Q ↔ wp r 44 184 [a0, a1, a2, a3, vI z, a5, a6] st x Q := (wp_u (show cd 44 182 = some (.istore 4, 2, 0, 0, 0, 0) from rfl))
theorem u44_184 : wp r 44 184 ls st x Q ↔ wp r 44 300 ls st x Q := (wp_u (show cd 44 184 = some (.goto 116, 3, 300, 0, 0, 0) from rfl))
theorem u44_187 : wp r 44 187 [a0, a1, a2, a3, a4, a5, vI z] st x Q ↔ wp r 44 189 [a0, a1, a2, a3, a4, a5, vI z] (vI z :: st) x Q := (wp_u (show cd 44 187 = some (.iload 6, 2, 0, 0, 0, 0) from rfl))
theorem u44_189 : wp r 44 189 ls st x Q ↔ wp r 44 191 ls (vI 5590599 :: st) x Q := (wp_u (show cd 44 189 = some (.ldc 5, 2, 5590599, 0, 0, 0) from rfl))
theorem u44_191 : wp r 44 191 ls (vI w :: vI z :: st) x Q ↔ if z = w then wp r 44 194 ls st x Q else wp r 44 218 ls st x Q := (wp_u (show cd 44 191 = some (.if_icmp .ne 27, 3, 218, 0, 0, 0) from rfl)).trans wq_dn
theorem u44_194 : wp r 44 194 [a0, a1, vI z, a3, a4, a5, a6] st x Q ↔ wp r 44 195 [a0, a1, vI z, a3, a4, a5, a6] (vI z :: st) x Q := (wp_u (show cd 44 194 = some (.iload_n 2, 1, 0, 0, 0, 0) from rfl))
theorem u44_195 : wp r 44 195 ls (vI z :: st) x Q ↔ if z = 0 then wp r 44 218 ls st x Q else wp r 44 198 ls st x Q := (wp_u (show cd 44 195 = some (.ifCond .eq 23, 3, 218, 0, 0, 0) from rfl)).trans wq_d
theorem u44_198 : wp r 44 198 [a0, a1, a2, vI z, a4, a5, a6] st x Q ↔ wp r 44 199 [a0, a1, a2, vI z, a4, a5, a6] (vI z :: st) x Q := (wp_u (show cd 44 198 = some (.iload_n 3, 1, 0, 0, 0, 0) from rfl))
theorem u44_199 : wp r 44 199 ls (vI z :: st) x Q ↔ if z = 0 then wp r 44 202 ls st x Q else wp r 44 218 ls st x Q := (wp_u (show cd 44 199 = some (.ifCond .ne 19, 3, 218, 0, 0, 0) from rfl)).trans wq_dn
theorem u44_202 : wp r 44 202 [vR o, a1, a2, a3, a4, a5, a6] st x Q ↔ wp r 44 203 [vR o, a1, a2, a3, a4, a5, a6] (vR o :: st) x Q := (wp_u (show cd 44 202 = some (.aload_n 0, 1, 0, 0, 0, 0) from rfl))
theorem u44_203 : wp r 44 203 ls (vA q :: st) x Q ↔ sbk 2 (hK x q) ∧ wp r 44 206 ls (vR (hR x q 16) :: st) x Q := (wp_u (show cd 44 203 = some (.getfield 207, 3, 2, 16, 5, 0) from rfl)).trans g_getR
theorem u44_206 : wp r 44 206 [vR o, a1, a2, a3, a4, a5, a6] st x Q ↔ wp r 44 207 [vR o, a1, a2, a3, a4, a5, a6] (vR o :: st) x Q := (wp_u (show cd 44 206 = some (.aload_n 0, 1, 0, 0, 0, 0) from rfl))
theorem u44_207 : wp r 44 207 ls (vA q :: st) x Q ↔ sbk 2 (hK x q) ∧ wp r 44 210 ls (vI (hI x q 18) :: st) x Q := (wp_u (show cd 44 207 = some (.getfield 204, 3, 2, 18, 0, 0) from rfl)).trans g_getI
theorem u44_210 : wp r 44 210 [a0, a1, a2, a3, a4, vI z, a6] st x Q ↔ wp r 44 212 [a0, a1, a2, a3, a4, vI z, a6] (vI z :: st) x Q := (wp_u (show cd 44 210 = some (.iload 5, 2, 0, 0, 0, 0) from rfl))
theorem u44_212 : wp r 44 212 ls (vI z :: vI i :: vA q :: st) x Q ↔ ldk 20 (hK x q) i ∧ 4 ≤ q ∧ wp r 44 213 ls st (stI x q i z) Q := (wp_u (show cd 44 212 = some (.iastore, 1, 0, 0, 0, 0) from rfl)).trans g_stI0
theorem u44_213 : wp r 44 213 ls st x Q ↔ wp r 44 214 ls (vI 1 :: st) x Q := (wp_u (show cd 44 213 = some (.iconst 1, 1, 0, 0, 0, 0) from rfl))
theorem u44_214 : wp r 44 214 [a0, a1, a2, a3, a4, a5, a6] (vI z :: st) x Q ↔ wp r 44 215 [a0, a1, a2, vI z, a4, a5, a6] st x Q := (wp_u (show cd 44 214 = some (.istore_n 3, 1, 0, 0, 0, 0) from rfl))
theorem u44_215 : wp r 44 215 ls st x Q ↔ wp r 44 300 ls st x Q := (wp_u (show cd 44 215 = some (.goto 85, 3, 300, 0, 0, 0) from rfl))
theorem u44_218 : wp r 44 218 [a0, a1, a2, a3, a4, a5, vI z] st x Q ↔ wp r 44 220 [a0, a1, a2, a3, a4, a5, vI z] (vI z :: st) x Q := (wp_u (show cd 44 218 = some (.iload 6, 2, 0, 0, 0, 0) from rfl))
theorem u44_220 : wp r 44 220 ls st x Q ↔ wp r 44 222 ls (vI 5590597 :: st) x Q := (wp_u (show cd 44 220 = some (.ldc 4, 2, 5590597, 0, 0, 0) from rfl))
theorem u44_222 : wp r 44 222 ls (vI w :: vI z :: st) x Q ↔ if z = w then wp r 44 225 ls st x Q else wp r 44 298 ls st x Q := (wp_u (show cd 44 222 = some (.if_icmp .ne 76, 3, 298, 0, 0, 0) from rfl)).trans wq_dn
theorem u44_225 : wp r 44 225 [a0, a1, a2, vI z, a4, a5, a6] st x Q ↔ wp r 44 226 [a0, a1, a2, vI z, a4, a5, a6] (vI z :: st) x Q := (wp_u (show cd 44 225 = some (.iload_n 3, 1, 0, 0, 0, 0) from rfl))
theorem u44_226 : wp r 44 226 ls (vI z :: st) x Q ↔ if z = 0 then wp r 44 298 ls st x Q else wp r 44 229 ls st x Q := (wp_u (show cd 44 226 = some (.ifCond .eq 72, 3, 298, 0, 0, 0) from rfl)).trans wq_d
theorem u44_229 : wp r 44 229 [vR o, a1, a2, a3, a4, a5, a6] st x Q ↔ wp r 44 230 [vR o, a1, a2, a3, a4, a5, a6] (vR o :: st) x Q := (wp_u (show cd 44 229 = some (.aload_n 0, 1, 0, 0, 0, 0) from rfl))
theorem u44_230 : wp r 44 230 ls (vA q :: st) x Q ↔ sbk 2 (hK x q) ∧ wp r 44 233 ls (vI (hI x q 15) :: st) x Q := (wp_u (show cd 44 230 = some (.getfield 180, 3, 2, 15, 0, 0) from rfl)).trans g_getI
theorem u44_233 : wp r 44 233 ls (vI z :: st) x Q ↔ if z ≤ 0 then wp r 44 298 ls st x Q else wp r 44 236 ls st x Q := (wp_u (show cd 44 233 = some (.ifCond .le 65, 3, 298, 0, 0, 0) from rfl)).trans wq_d
theorem u44_236 : wp r 44 236 [vR o, a1, a2, a3, a4, a5, a6] st x Q ↔ wp r 44 237 [vR o, a1, a2, a3, a4, a5, a6] (vR o :: st) x Q := (wp_u (show cd 44 236 = some (.aload_n 0, 1, 0, 0, 0, 0) from rfl))
theorem u44_237 : wp r 44 237 ls (vA q :: st) x Q ↔ sbk 2 (hK x q) ∧ wp r 44 240 ls (vR (hR x q 12) :: st) x Q := (wp_u (show cd 44 237 = some (.getfield 201, 3, 2, 12, 5, 0) from rfl)).trans g_getR
theorem u44_240 : wp r 44 240 [vR o, a1, a2, a3, a4, a5, a6] st x Q ↔ wp r 44 241 [vR o, a1, a2, a3, a4, a5, a6] (vR o :: st) x Q := (wp_u (show cd 44 240 = some (.aload_n 0, 1, 0, 0, 0, 0) from rfl))
theorem u44_241 : wp r 44 241 ls (vA q :: st) x Q ↔ sbk 2 (hK x q) ∧ wp r 44 244 ls (vI (hI x q 15) :: st) x Q := (wp_u (show cd 44 241 = some (.getfield 180, 3, 2, 15, 0, 0) from rfl)).trans g_getI
theorem u44_244 : wp r 44 244 ls st x Q ↔ wp r 44 245 ls (vI 1 :: st) x Q := (wp_u (show cd 44 244 = some (.iconst 1, 1, 0, 0, 0, 0) from rfl))
theorem u44_245 : wp r 44 245 ls (vI w :: vI z :: st) x Q ↔ inI (z - w) = true ∧ wp r 44 246 ls (vI (z - w) :: st) x Q := (wp_u (show cd 44 245 = some (.isub, 1, 0, 0, 0, 0) from rfl)).trans wq_if
theorem u44_246 : wp r 44 246 ls (vI i :: vA q :: st) x Q ↔ ldk 20 (hK x q) i ∧ wp r 44 247 ls (vI (hI x q i) :: st) x Q := (wp_u (show cd 44 246 = some (.iaload, 1, 0, 0, 0, 0) from rfl)).trans g_ldI
theorem u44_247 : wp r 44 247 [vR o, a1, a2, a3, a4, a5, a6] st x Q ↔ wp r 44 248 [vR o, a1, a2, a3, a4, a5, a6] (vR o :: st) x Q := (wp_u (show cd 44 247 = some (.aload_n 0, 1, 0, 0, 0, 0) from rfl))
theorem u44_248 : wp r 44 248 ls (vA q :: st) x Q ↔ sbk 2 (hK x q) ∧ wp r 44 251 ls (vI (hI x q 18) :: st) x Q := (wp_u (show cd 44 248 = some (.getfield 204, 3, 2, 18, 0, 0) from rfl)).trans g_getI
set_option maxRecDepth 20000 in
theorem u44_251 : wp r 44 251 ls (vI w :: vI z :: st) x Q ↔ if z = w then wp r 44 254 ls st x Q else wp r 44 298 ls st x Q := (wp_u (show cd 44 251 = some (.if_icmp .ne 47, 3, 298, 0, 0, 0) from rfl)).trans wq_dn
set_option maxRecDepth 20000 in
theorem u44_254 : wp r 44 254 [vR o, a1, a2, a3, a4, a5, a6] st x Q ↔ wp r 44 255 [vR o, a1, a2, a3, a4, a5, a6] (vR o :: st) x Q := (wp_u (show cd 44 254 = some (.aload_n 0, 1, 0, 0, 0, 0) from rfl))
set_option maxRecDepth 20000 in
theorem u44_255 : wp r 44 255 ls (vA q :: st) x Q ↔ sbk 2 (hK x q) ∧ wp r 44 258 ls (vR (hR x q 17) :: st) x Q := (wp_u (show cd 44 255 = some (.getfield 210, 3, 2, 17, 5, 0) from rfl)).trans g_getR
set_option maxRecDepth 20000 in
theorem u44_258 : wp r 44 258 [vR o, a1, a2, a3, a4, a5, a6] st x Q ↔ wp r 44 259 [vR o, a1, a2, a3, a4, a5, a6] (vR o :: st) x Q := (wp_u (show cd 44 258 = some (.aload_n 0, 1, 0, 0, 0, 0) from rfl))
set_option maxRecDepth 20000 in
theorem u44_259 : wp r 44 259 ls (vA q :: st) x Q ↔ sbk 2 (hK x q) ∧ wp r 44 262 ls (vI (hI x q 18) :: st) x Q := (wp_u (show cd 44 259 = some (.getfield 204, 3, 2, 18, 0, 0) from rfl)).trans g_getI
set_option maxRecDepth 20000 in
theorem u44_262 : wp r 44 262 [vR o, a1, a2, a3, a4, a5, a6] st x Q ↔ wp r 44 263 [vR o, a1, a2, a3, a4, a5, a6] (vR o :: st) x Q := (wp_u (show cd 44 262 = some (.aload_n 0, 1, 0, 0, 0, 0) from rfl))
set_option maxRecDepth 20000 in
theorem u44_263 : wp r 44 263 [vR o, a1, a2, a3, a4, a5, a6] st x Q ↔ wp r 44 264 [vR o, a1, a2, a3, a4, a5, a6] (vR o :: st) x Q := (wp_u (show cd 44 263 = some (.aload_n 0, 1, 0, 0, 0, 0) from rfl))
set_option maxRecDepth 20000 in
theorem u44_264 : wp r 44 264 ls (vA q :: st) x Q ↔ sbk 2 (hK x q) ∧ wp r 44 267 ls (vR (hR x q 16) :: st) x Q := (wp_u (show cd 44 264 = some (.getfield 207, 3, 2, 16, 5, 0) from rfl)).trans g_getR
set_option maxRecDepth 20000 in
theorem u44_267 : wp r 44 267 [vR o, a1, a2, a3, a4, a5, a6] st x Q ↔ wp r 44 268 [vR o, a1, a2, a3, a4, a5, a6] (vR o :: st) x Q := (wp_u (show cd 44 267 = some (.aload_n 0, 1, 0, 0, 0, 0) from rfl))
set_option maxRecDepth 20000 in
theorem u44_268 : wp r 44 268 ls (vA q :: st) x Q ↔ sbk 2 (hK x q) ∧ wp r 44 271 ls (vI (hI x q 18) :: st) x Q := (wp_u (show cd 44 268 = some (.getfield 204, 3, 2, 18, 0, 0) from rfl)).trans g_getI
set_option maxRecDepth 20000 in
theorem u44_271 : wp r 44 271 ls (vI i :: vA q :: st) x Q ↔ ldk 20 (hK x q) i ∧ wp r 44 272 ls (vI (hI x q i) :: st) x Q := (wp_u (show cd 44 271 = some (.iaload, 1, 0, 0, 0, 0) from rfl)).trans g_ldI
set_option maxRecDepth 20000 in
theorem u44_272 : wp r 44 272 ls st x Q ↔ wp r 44 273 ls (vI 0 :: st) x Q := (wp_u (show cd 44 272 = some (.iconst 0, 1, 0, 0, 0, 0) from rfl))
set_option maxRecDepth 20000 in
theorem u44_273 : wp r 44 273 [a0, a1, a2, a3, a4, vI z, a6] st x Q ↔ wp r 44 275 [a0, a1, a2, a3, a4, vI z, a6] (vI z :: st) x Q := (wp_u (show cd 44 273 = some (.iload 5, 2, 0, 0, 0, 0) from rfl))
set_option maxRecDepth 20000 in
theorem u44_275 : wp r 44 275 [vR o, a1, a2, a3, a4, a5, a6] st x Q ↔ wp r 44 276 [vR o, a1, a2, a3, a4, a5, a6] (vR o :: st) x Q := (wp_u (show cd 44 275 = some (.aload_n 0, 1, 0, 0, 0, 0) from rfl))
set_option maxRecDepth 20000 in
theorem u44_276 : wp r 44 276 ls (vR o0 :: st) x Q ↔ sml st = true ∧ 1 < r ∧ wpc 1 54 [vR o0] x (wk r 44 276 ls st Q) := (wp_u (show cd 44 276 = some (.invokestatic 213, 3, 54, 1, 1, 0) from rfl)).trans (g_stat (by decide) (by simp) rfl)
set_option maxRecDepth 20000 in
theorem u44_279 : wp r 44 279 ls (vI z3 :: vI z2 :: vI z1 :: vI z0 :: vA q :: st) x Q ↔ isk 2 (hK x q) ∧ sml st = true ∧ 4 < r ∧ wpc 4 55 [vA q, vI z0, vI z1, vI z2, vI z3] x (wk r 44 279 ls st Q) := (wp_u (show cd 44 279 = some (.invokevirtual 217, 3, 55, 5, 4, 2) from rfl)).trans (g_virt rfl (by decide) (by simp) rfl)
set_option maxRecDepth 20000 in
theorem u44_282 : wp r 44 282 ls (vI z :: vI i :: vA q :: st) x Q ↔ ldk 20 (hK x q) i ∧ 4 ≤ q ∧ wp r 44 283 ls st (stI x q i z) Q := (wp_u (show cd 44 282 = some (.iastore, 1, 0, 0, 0, 0) from rfl)).trans g_stI0
set_option maxRecDepth 20000 in
theorem u44_283 : wp r 44 283 [vR o, a1, a2, a3, a4, a5, a6] st x Q ↔ wp r 44 284 [vR o, a1, a2, a3, a4, a5, a6] (vR o :: st) x Q := (wp_u (show cd 44 283 = some (.aload_n 0, 1, 0, 0, 0, 0) from rfl))
set_option maxRecDepth 20000 in
theorem u44_284i : wp r 44 284 ls (vI z :: st) x Q ↔ wp r 44 285 ls (vI z :: vI z :: st) x Q := (wp_u (show cd 44 284 = some (.dup, 1, 0, 0, 0, 0) from rfl))
set_option maxRecDepth 20000 in
theorem u44_284 : wp r 44 284 ls (vR o :: st) x Q ↔ wp r 44 285 ls (vR o :: vR o :: st) x Q := (wp_u (show cd 44 284 = some (.dup, 1, 0, 0, 0, 0) from rfl))
set_option maxRecDepth 20000 in
theorem u44_285 : wp r 44 285 ls (vA q :: st) x Q ↔ sbk 2 (hK x q) ∧ wp r 44 288 ls (vI (hI x q 18) :: st) x Q := (wp_u (show cd 44 285 = some (.getfield 204, 3, 2, 18, 0, 0) from rfl)).trans g_getI
set_option maxRecDepth 20000 in
theorem u44_288 : wp r 44 288 ls st x Q ↔ wp r 44 289 ls (vI 1 :: st) x Q := (wp_u (show cd 44 288 = some (.iconst 1, 1, 0, 0, 0, 0) from rfl))
set_option maxRecDepth 20000 in
theorem u44_289 : wp r 44 289 ls (vI w :: vI z :: st) x Q ↔ inI (z + w) = true ∧ wp r 44 290 ls (vI (z + w) :: st) x Q := (wp_u (show cd 44 289 = some (.iadd, 1, 0, 0, 0, 0) from rfl)).trans wq_if
set_option maxRecDepth 20000 in
theorem u44_290 : wp r 44 290 ls (vI z :: vA q :: st) x Q ↔ sbk 2 (hK x q) ∧ wp r 44 293 ls st (stI x q 18 z) Q := (wp_u (show cd 44 290 = some (.putfield 204, 3, 2, 18, 0, 0) from rfl)).trans g_putI0
set_option maxRecDepth 20000 in
theorem u44_293 : wp r 44 293 ls st x Q ↔ wp r 44 294 ls (vI 0 :: st) x Q := (wp_u (show cd 44 293 = some (.iconst 0, 1, 0, 0, 0, 0) from rfl))
set_option maxRecDepth 20000 in
theorem u44_294 : wp r 44 294 [a0, a1, a2, a3, a4, a5, a6] (vI z :: st) x Q ↔ wp r 44 295 [a0, a1, a2, vI z, a4, a5, a6] st x Q := (wp_u (show cd 44 294 = some (.istore_n 3, 1, 0, 0, 0, 0) from rfl))
set_option maxRecDepth 20000 in
theorem u44_295 : wp r 44 295 ls st x Q ↔ wp r 44 300 ls st x Q := (wp_u (show cd 44 295 = some (.goto 5, 3, 300, 0, 0, 0) from rfl))
set_option maxRecDepth 20000 in
theorem u44_298 : wp r 44 298 ls st x Q ↔ wp r 44 299 ls (vI 0 :: st) x Q := (wp_u (show cd 44 298 = some (.iconst 0, 1, 0, 0, 0, 0) from rfl))
set_option maxRecDepth 20000 in
theorem u44_299 : wp r 44 299 ls [vI z] x Q ↔ rg 4 z = true ∧ Q (.inl (some (vI z))) x := (wp_u (show cd 44 299 = some (.ireturn, 1, 4, 0, 0, 0) from rfl)).trans wq_if
set_option maxRecDepth 20000 in
theorem u44_300 : wp r 44 300 [a0, a1, a2, a3, a4, vI z, a6] st x Q ↔ inI (z + 1) = true ∧ wp r 44 303 [a0, a1, a2, a3, a4, vI (z + 1), a6] st x Q := (wp_u (show cd 44 300 = some (.iinc 5 1, 3, 0, 0, 0, 0) from rfl)).trans wq_if
set_option maxRecDepth 20000 in
theorem u44_303 : wp r 44 303 ls st x Q ↔ wp r 44 70 ls st x Q := (wp_u (show cd 44 303 = some (.goto (-233), 3, 70, 0, 0, 0) from rfl))
set_option maxRecDepth 20000 in
theorem u44_306 : wp r 44 306 [vR o, a1, a2, a3, a4, a5, a6] st x Q ↔ wp r 44 307 [vR o, a1, a2, a3, a4, a5, a6] (vR o :: st) x Q := (wp_u (show cd 44 306 = some (.aload_n 0, 1, 0, 0, 0, 0) from rfl))
set_option maxRecDepth 20000 in
theorem u44_307 : wp r 44 307 [a0, a1, a2, a3, vI z, a5, a6] st x Q ↔ wp r 44 309 [a0, a1, a2, a3, vI z, a5, a6] (vI z :: st) x Q := (wp_u (show cd 44 307 = some (.iload 4, 2, 0, 0, 0, 0) from rfl))
set_option maxRecDepth 20000 in
theorem u44_309 : wp r 44 309 ls (vI z :: st) x Q ↔ if z = 0 then wp r 44 312 ls st x Q else wp r 44 316 ls st x Q := (wp_u (show cd 44 309 = some (.ifCond .ne 7, 3, 316, 0, 0, 0) from rfl)).trans wq_dn
set_option maxRecDepth 20000 in
theorem u44_312 : wp r 44 312 [a0, a1, a2, vI z, a4, a5, a6] st x Q ↔ wp r 44 313 [a0, a1, a2, vI z, a4, a5, a6] (vI z :: st) x Q := (wp_u (show cd 44 312 = some (.iload_n 3, 1, 0, 0, 0, 0) from rfl))
set_option maxRecDepth 20000 in
theorem u44_313 : wp r 44 313 ls (vI z :: st) x Q ↔ if z = 0 then wp r 44 320 ls st x Q else wp r 44 316 ls st x Q := (wp_u (show cd 44 313 = some (.ifCond .eq 7, 3, 320, 0, 0, 0) from rfl)).trans wq_d
set_option maxRecDepth 20000 in
theorem u44_316 : wp r 44 316 ls st x Q ↔ wp r 44 317 ls (vI 0 :: st) x Q := (wp_u (show cd 44 316 = some (.iconst 0, 1, 0, 0, 0, 0) from rfl))
set_option maxRecDepth 20000 in
theorem u44_317 : wp r 44 317 ls st x Q ↔ wp r 44 342 ls st x Q := (wp_u (show cd 44 317 = some (.goto 25, 3, 342, 0, 0, 0) from rfl))
set_option maxRecDepth 20000 in
theorem u44_320 : wp r 44 320 [vR o, a1, a2, a3, a4, a5, a6] st x Q ↔ wp r 44 321 [vR o, a1, a2, a3, a4, a5, a6] (vR o :: st) x Q := (wp_u (show cd 44 320 = some (.aload_n 0, 1, 0, 0, 0, 0) from rfl))
set_option maxRecDepth 20000 in
theorem u44_321 : wp r 44 321 ls st x Q ↔ wp r 44 322 ls (vI 0 :: st) x Q := (wp_u (show cd 44 321 = some (.iconst 0, 1, 0, 0, 0, 0) from rfl))
set_option maxRecDepth 20000 in
theorem u44_322 : wp r 44 322 ls st x Q ↔ wp r 44 323 ls (vI 2 :: st) x Q := (wp_u (show cd 44 322 = some (.iconst 2, 1, 0, 0, 0, 0) from rfl))
set_option maxRecDepth 20000 in
theorem u44_323 : wp r 44 323 [a0, vI z, a2, a3, a4, a5, a6] st x Q ↔ wp r 44 324 [a0, vI z, a2, a3, a4, a5, a6] (vI z :: st) x Q := (wp_u (show cd 44 323 = some (.iload_n 1, 1, 0, 0, 0, 0) from rfl))
set_option maxRecDepth 20000 in
theorem u44_324 : wp r 44 324 [a0, a1, vI z, a3, a4, a5, a6] st x Q ↔ wp r 44 325 [a0, a1, vI z, a3, a4, a5, a6] (vI z :: st) x Q := (wp_u (show cd 44 324 = some (.iload_n 2, 1, 0, 0, 0, 0) from rfl))
set_option maxRecDepth 20000 in
theorem u44_325 : wp r 44 325 ls (vI z :: st) x Q ↔ if z = 0 then wp r 44 335 ls st x Q else wp r 44 328 ls st x Q := (wp_u (show cd 44 325 = some (.ifCond .eq 10, 3, 335, 0, 0, 0) from rfl)).trans wq_d
set_option maxRecDepth 20000 in
theorem u44_328 : wp r 44 328 [vR o, a1, a2, a3, a4, a5, a6] st x Q ↔ wp r 44 329 [vR o, a1, a2, a3, a4, a5, a6] (vR o :: st) x Q := (wp_u (show cd 44 328 = some (.aload_n 0, 1, 0, 0, 0, 0) from rfl))
set_option maxRecDepth 20000 in
theorem u44_329 : wp r 44 329 ls (vA q :: st) x Q ↔ sbk 2 (hK x q) ∧ wp r 44 332 ls (vI (hI x q 18) :: st) x Q := (wp_u (show cd 44 329 = some (.getfield 204, 3, 2, 18, 0, 0) from rfl)).trans g_getI
set_option maxRecDepth 20000 in
theorem u44_332 : wp r 44 332 ls st x Q ↔ wp r 44 339 ls st x Q := (wp_u (show cd 44 332 = some (.goto 7, 3, 339, 0, 0, 0) from rfl))
set_option maxRecDepth 20000 in
theorem u44_335 : wp r 44 335 [vR o, a1, a2, a3, a4, a5, a6] st x Q ↔ wp r 44 336 [vR o, a1, a2, a3, a4, a5, a6] (vR o :: st) x Q := (wp_u (show cd 44 335 = some (.aload_n 0, 1, 0, 0, 0, 0) from rfl))
set_option maxRecDepth 20000 in
theorem u44_336 : wp r 44 336 ls (vA q :: st) x Q ↔ sbk 2 (hK x q) ∧ wp r 44 339 ls (vI (hI x q 15) :: st) x Q := (wp_u (show cd 44 336 = some (.getfield 180, 3, 2, 15, 0, 0) from rfl)).trans g_getI
set_option maxRecDepth 20000 in
theorem u44_339 : wp r 44 339 ls (vI z3 :: vI z2 :: vI z1 :: vI z0 :: vA q :: st) x Q ↔ isk 2 (hK x q) ∧ sml st = true ∧ 4 < r ∧ wpc 4 55 [vA q, vI z0, vI z1, vI z2, vI z3] x (wk r 44 339 ls st Q) := (wp_u (show cd 44 339 = some (.invokevirtual 217, 3, 55, 5, 4, 2) from rfl)).trans (g_virt rfl (by decide) (by simp) rfl)
set_option maxRecDepth 20000 in
theorem u44_342 : wp r 44 342 ls (vI z :: vA q :: st) x Q ↔ sbk 2 (hK x q) ∧ wp r 44 345 ls st (stI x q 19 z) Q := (wp_u (show cd 44 342 = some (.putfield 221, 3, 2, 19, 0, 0) from rfl)).trans g_putI0
set_option maxRecDepth 20000 in
theorem u44_345 : wp r 44 345 [a0, a1, a2, a3, vI z, a5, a6] st x Q ↔ wp r 44 347 [a0, a1, a2, a3, vI z, a5, a6] (vI z :: st) x Q := (wp_u (show cd 44 345 = some (.iload 4, 2, 0, 0, 0, 0) from rfl))
set_option maxRecDepth 20000 in
theorem u44_347 : wp r 44 347 ls (vI z :: st) x Q ↔ if z = 0 then wp r 44 350 ls st x Q else wp r 44 365 ls st x Q := (wp_u (show cd 44 347 = some (.ifCond .ne 18, 3, 365, 0, 0, 0) from rfl)).trans wq_dn
set_option maxRecDepth 20000 in
theorem u44_350 : wp r 44 350 [a0, a1, a2, vI z, a4, a5, a6] st x Q ↔ wp r 44 351 [a0, a1, a2, vI z, a4, a5, a6] (vI z :: st) x Q := (wp_u (show cd 44 350 = some (.iload_n 3, 1, 0, 0, 0, 0) from rfl))
set_option maxRecDepth 20000 in
theorem u44_351 : wp r 44 351 ls (vI z :: st) x Q ↔ if z = 0 then wp r 44 354 ls st x Q else wp r 44 365 ls st x Q := (wp_u (show cd 44 351 = some (.ifCond .ne 14, 3, 365, 0, 0, 0) from rfl)).trans wq_dn
set_option maxRecDepth 20000 in
theorem u44_354 : wp r 44 354 [vR o, a1, a2, a3, a4, a5, a6] st x Q ↔ wp r 44 355 [vR o, a1, a2, a3, a4, a5, a6] (vR o :: st) x Q := (wp_u (show cd 44 354 = some (.aload_n 0, 1, 0, 0, 0, 0) from rfl))
set_option maxRecDepth 20000 in
theorem u44_355 : wp r 44 355 ls (vA q :: st) x Q ↔ sbk 2 (hK x q) ∧ wp r 44 358 ls (vI (hI x q 15) :: st) x Q := (wp_u (show cd 44 355 = some (.getfield 180, 3, 2, 15, 0, 0) from rfl)).trans g_getI
set_option maxRecDepth 20000 in
theorem u44_358 : wp r 44 358 ls (vI z :: st) x Q ↔ if z ≤ 0 then wp r 44 365 ls st x Q else wp r 44 361 ls st x Q := (wp_u (show cd 44 358 = some (.ifCond .le 7, 3, 365, 0, 0, 0) from rfl)).trans wq_d
set_option maxRecDepth 20000 in
theorem u44_361 : wp r 44 361 ls st x Q ↔ wp r 44 362 ls (vI 1 :: st) x Q := (wp_u (show cd 44 361 = some (.iconst 1, 1, 0, 0, 0, 0) from rfl))
set_option maxRecDepth 20000 in
theorem u44_362 : wp r 44 362 ls st x Q ↔ wp r 44 366 ls st x Q := (wp_u (show cd 44 362 = some (.goto 4, 3, 366, 0, 0, 0) from rfl))
set_option maxRecDepth 20000 in
theorem u44_365 : wp r 44 365 ls st x Q ↔ wp r 44 366 ls (vI 0 :: st) x Q := (wp_u (show cd 44 365 = some (.iconst 0, 1, 0, 0, 0, 0) from rfl))
set_option maxRecDepth 20000 in
theorem u44_366 : wp r 44 366 ls [vI z] x Q ↔ rg 4 z = true ∧ Q (.inl (some (vI z))) x := (wp_u (show cd 44 366 = some (.ireturn, 1, 4, 0, 0, 0) from rfl)).trans wq_if
theorem e44 : wpc r 44 [vR o0] x Q ↔ wp r 44 0 [vR o0, vL jk, vL jk, vL jk, vL jk, vL jk, vL jk] [] x Q := Iff.rfl
/-! 45 D_judge -/
theorem u45_0 : wp r 45 0 ls st x Q ↔ wp r 45 1 ls (vI 0 :: st) x Q := (wp_u (show cd 45 0 = some (.iconst 0, 1, 0, 0, 0, 0) from rfl))
theorem u45_1 : wp r 45 1 [a0, a1, a2, a3, a4, a5, a6, a7] (vI z :: st) x Q ↔ wp r 45 2 [a0, a1, vI z, a3, a4, a5, a6, a7] st x Q := (wp_u (show cd 45 1 = some (.istore_n 2, 1, 0, 0, 0, 0) from rfl))
theorem u45_2 : wp r 45 2 [a0, a1, vI z, a3, a4, a5, a6, a7] st x Q ↔ wp r 45 3 [a0, a1, vI z, a3, a4, a5, a6, a7] (vI z :: st) x Q := (wp_u (show cd 45 2 = some (.iload_n 2, 1, 0, 0, 0, 0) from rfl))
theorem u45_3 : wp r 45 3 [a0, vR o, a2, a3, a4, a5, a6, a7] st x Q ↔ wp r 45 4 [a0, vR o, a2, a3, a4, a5, a6, a7] (vR o :: st) x Q := (wp_u (show cd 45 3 = some (.aload_n 1, 1, 0, 0, 0, 0) from rfl))
theorem u45_4 : wp r 45 4 ls (vA q :: st) x Q ↔ sbk 2 (hK x q) ∧ wp r 45 7 ls (vI (hI x q 15) :: st) x Q := (wp_u (show cd 45 4 = some (.getfield 180, 3, 2, 15, 0, 0) from rfl)).trans g_getI
theorem u45_7 : wp r 45 7 ls (vI w :: vI z :: st) x Q ↔ if w ≤ z then wp r 45 220 ls st x Q else wp r 45 10 ls st x Q := (wp_u (show cd 45 7 = some (.if_icmp .ge 213, 3, 220, 0, 0, 0) from rfl)).trans wq_d
theorem u45_10 : wp r 45 10 [a0, vR o, a2, a3, a4, a5, a6, a7] st x Q ↔ wp r 45 11 [a0, vR o, a2, a3, a4, a5, a6, a7] (vR o :: st) x Q := (wp_u (show cd 45 10 = some (.aload_n 1, 1, 0, 0, 0, 0) from rfl))
theorem u45_11 : wp r 45 11 ls (vA q :: st) x Q ↔ sbk 2 (hK x q) ∧ wp r 45 14 ls (vR (hR x q 10) :: st) x Q := (wp_u (show cd 45 11 = some (.getfield 198, 3, 2, 10, 5, 0) from rfl)).trans g_getR
theorem u45_14 : wp r 45 14 [a0, a1, vI z, a3, a4, a5, a6, a7] st x Q ↔ wp r 45 15 [a0, a1, vI z, a3, a4, a5, a6, a7] (vI z :: st) x Q := (wp_u (show cd 45 14 = some (.iload_n 2, 1, 0, 0, 0, 0) from rfl))
theorem u45_15 : wp r 45 15 ls (vI i :: vA q :: st) x Q ↔ ldk 20 (hK x q) i ∧ wp r 45 16 ls (vI (hI x q i) :: st) x Q := (wp_u (show cd 45 15 = some (.iaload, 1, 0, 0, 0, 0) from rfl)).trans g_ldI
theorem u45_16 : wp r 45 16 [a0, a1, a2, a3, a4, a5, a6, a7] (vI z :: st) x Q ↔ wp r 45 17 [a0, a1, a2, vI z, a4, a5, a6, a7] st x Q := (wp_u (show cd 45 16 = some (.istore_n 3, 1, 0, 0, 0, 0) from rfl))
theorem u45_17 : wp r 45 17 [a0, vR o, a2, a3, a4, a5, a6, a7] st x Q ↔ wp r 45 18 [a0, vR o, a2, a3, a4, a5, a6, a7] (vR o :: st) x Q := (wp_u (show cd 45 17 = some (.aload_n 1, 1, 0, 0, 0, 0) from rfl))
theorem u45_18 : wp r 45 18 ls (vA q :: st) x Q ↔ sbk 2 (hK x q) ∧ wp r 45 21 ls (vR (hR x q 11) :: st) x Q := (wp_u (show cd 45 18 = some (.getfield 194, 3, 2, 11, 5, 0) from rfl)).trans g_getR
theorem u45_21 : wp r 45 21 [a0, a1, vI z, a3, a4, a5, a6, a7] st x Q ↔ wp r 45 22 [a0, a1, vI z, a3, a4, a5, a6, a7] (vI z :: st) x Q := (wp_u (show cd 45 21 = some (.iload_n 2, 1, 0, 0, 0, 0) from rfl))
theorem u45_22 : wp r 45 22 ls (vI i :: vA q :: st) x Q ↔ ldk 20 (hK x q) i ∧ wp r 45 23 ls (vI (hI x q i) :: st) x Q := (wp_u (show cd 45 22 = some (.iaload, 1, 0, 0, 0, 0) from rfl)).trans g_ldI
theorem u45_23 : wp r 45 23 [a0, a1, a2, a3, a4, a5, a6, a7] (vI z :: st) x Q ↔ wp r 45 25 [a0, a1, a2, a3, vI z, a5, a6, a7] st x Q := (wp_u (show cd 45 23 = some (.istore 4, 2, 0, 0, 0, 0) from rfl))
theorem u45_25 : wp r 45 25 [a0, vR o, a2, a3, a4, a5, a6, a7] st x Q ↔ wp r 45 26 [a0, vR o, a2, a3, a4, a5, a6, a7] (vR o :: st) x Q := (wp_u (show cd 45 25 = some (.aload_n 1, 1, 0, 0, 0, 0) from rfl))
theorem u45_26 : wp r 45 26 [a0, a1, a2, vI z, a4, a5, a6, a7] st x Q ↔ wp r 45 27 [a0, a1, a2, vI z, a4, a5, a6, a7] (vI z :: st) x Q := (wp_u (show cd 45 26 = some (.iload_n 3, 1, 0, 0, 0, 0) from rfl))
theorem u45_27 : wp r 45 27 ls st x Q ↔ wp r 45 28 ls (vI 0 :: st) x Q := (wp_u (show cd 45 27 = some (.iconst 0, 1, 0, 0, 0, 0) from rfl))
theorem u45_28 : wp r 45 28 [a0, a1, a2, a3, vI z, a5, a6, a7] st x Q ↔ wp r 45 30 [a0, a1, a2, a3, vI z, a5, a6, a7] (vI z :: st) x Q := (wp_u (show cd 45 28 = some (.iload 4, 2, 0, 0, 0, 0) from rfl))
theorem u45_30 : wp r 45 30 [a0, a1, a2, a3, vI z, a5, a6, a7] st x Q ↔ wp r 45 32 [a0, a1, a2, a3, vI z, a5, a6, a7] (vI z :: st) x Q := (wp_u (show cd 45 30 = some (.iload 4, 2, 0, 0, 0, 0) from rfl))
theorem u45_32 : wp r 45 32 [a0, a1, a2, vI z, a4, a5, a6, a7] st x Q ↔ wp r 45 33 [a0, a1, a2, vI z, a4, a5, a6, a7] (vI z :: st) x Q := (wp_u (show cd 45 32 = some (.iload_n 3, 1, 0, 0, 0, 0) from rfl))
theorem u45_33 : wp r 45 33 ls (vI w :: vI z :: st) x Q ↔ inI (z - w) = true ∧ wp r 45 34 ls (vI (z - w) :: st) x Q := (wp_u (show cd 45 33 = some (.isub, 1, 0, 0, 0, 0) from rfl)).trans wq_if
theorem u45_34 : wp r 45 34 ls st x Q ↔ wp r 45 35 ls (vI 1 :: st) x Q := (wp_u (show cd 45 34 = some (.iconst 1, 1, 0, 0, 0, 0) from rfl))
theorem u45_35 : wp r 45 35 ls (vI w :: vI z :: st) x Q ↔ inI (z + w) = true ∧ wp r 45 36 ls (vI (z + w) :: st) x Q := (wp_u (show cd 45 35 = some (.iadd, 1, 0, 0, 0, 0) from rfl)).trans wq_if
theorem u45_36 : wp r 45 36 ls (vI z3 :: vI z2 :: vI z1 :: vI z0 :: vA q :: st) x Q ↔ isk 2 (hK x q) ∧ sml st = true ∧ 4 < r ∧ wpc 4 55 [vA q, vI z0, vI z1, vI z2, vI z3] x (wk r 45 36 ls st Q) := (wp_u (show cd 45 36 = some (.invokevirtual 217, 3, 55, 5, 4, 2) from rfl)).trans (g_virt rfl (by decide) (by simp) rfl)
theorem u45_39 : wp r 45 39 [a0, a1, a2, a3, a4, a5, a6, a7] (vI z :: st) x Q ↔ wp r 45 41 [a0, a1, a2, a3, a4, vI z, a6, a7] st x Q := (wp_u (show cd 45 39 = some (.istore 5, 2, 0, 0, 0, 0) from rfl))
theorem u45_41 : wp r 45 41 [a0, a1, a2, a3, a4, vI z, a6, a7] st x Q ↔ wp r 45 43 [a0, a1, a2, a3, a4, vI z, a6, a7] (vI z :: st) x Q := (wp_u (show cd 45 41 = some (.iload 5, 2, 0, 0, 0, 0) from rfl))
theorem u45_43 : wp r 45 43 ls st x Q ↔ wp r 45 44 ls (vI 1 :: st) x Q := (wp_u (show cd 45 43 = some (.iconst 1, 1, 0, 0, 0, 0) from rfl))
theorem u45_44 : wp r 45 44 ls (vI w :: vI z :: st) x Q ↔ wp r 45 45 ls (vI (iAnd z w) :: st) x Q := (wp_u (show cd 45 44 = some (.iand, 1, 0, 0, 0, 0) from rfl)).trans (wq_if.trans (and_iff_right (inI_32 _)))
theorem u45_45 : wp r 45 45 ls st x Q ↔ wp r 45 46 ls (vI 1 :: st) x Q := (wp_u (show cd 45 45 = some (.iconst 1, 1, 0, 0, 0, 0) from rfl))
theorem u45_46 : wp r 45 46 ls (vI w :: vI z :: st) x Q ↔ if z = w then wp r 45 49 ls st x Q else wp r 45 53 ls st x Q := (wp_u (show cd 45 46 = some (.if_icmp .ne 7, 3, 53, 0, 0, 0) from rfl)).trans wq_dn
theorem u45_49 : wp r 45 49 ls st x Q ↔ wp r 45 50 ls (vI 1 :: st) x Q := (wp_u (show cd 45 49 = some (.iconst 1, 1, 0, 0, 0, 0) from rfl))
theorem u45_50 : wp r 45 50 ls st x Q ↔ wp r 45 64 ls st x Q := (wp_u (show cd 45 50 = some (.goto 14, 3, 64, 0, 0, 0) from rfl))
theorem u45_53 : wp r 45 53 [a0, a1, a2, a3, a4, vI z, a6, a7] st x Q ↔ wp r 45 55 [a0, a1, a2, a3, a4, vI z, a6, a7] (vI z :: st) x Q := (wp_u (show cd 45 53 = some (.iload 5, 2, 0, 0, 0, 0) from rfl))
theorem u45_55 : wp r 45 55 ls st x Q ↔ wp r 45 56 ls (vI 2 :: st) x Q := (wp_u (show cd 45 55 = some (.iconst 2, 1, 0, 0, 0, 0) from rfl))
theorem u45_56 : wp r 45 56 ls (vI w :: vI z :: st) x Q ↔ if z = w then wp r 45 59 ls st x Q else wp r 45 63 ls st x Q := (wp_u (show cd 45 56 = some (.if_icmp .ne 7, 3, 63, 0, 0, 0) from rfl)).trans wq_dn
theorem u45_59 : wp r 45 59 ls st x Q ↔ wp r 45 60 ls (vI 2 :: st) x Q := (wp_u (show cd 45 59 = some (.iconst 2, 1, 0, 0, 0, 0) from rfl))
theorem u45_60 : wp r 45 60 ls st x Q ↔ wp r 45 64 ls st x Q := (wp_u (show cd 45 60 = some (.goto 4, 3, 64, 0, 0, 0) from rfl))
theorem u45_63 : wp r 45 63 ls st x Q ↔ wp r 45 64 ls (vI 0 :: st) x Q := (wp_u (show cd 45 63 = some (.iconst 0, 1, 0, 0, 0, 0) from rfl))
theorem u45_64 : wp r 45 64 [a0, a1, a2, a3, a4, a5, a6, a7] (vI z :: st) x Q ↔ wp r 45 66 [a0, a1, a2, a3, a4, a5, vI z, a7] st x Q := (wp_u (show cd 45 64 = some (.istore 6, 2, 0, 0, 0, 0) from rfl))
theorem u45_66 : wp r 45 66 [a0, vR o, a2, a3, a4, a5, a6, a7] st x Q ↔ wp r 45 67 [a0, vR o, a2, a3, a4, a5, a6, a7] (vR o :: st) x Q := (wp_u (show cd 45 66 = some (.aload_n 1, 1, 0, 0, 0, 0) from rfl))
theorem u45_67 : wp r 45 67 ls (vA q :: st) x Q ↔ sbk 2 (hK x q) ∧ wp r 45 70 ls (vR (hR x q 14) :: st) x Q := (wp_u (show cd 45 67 = some (.getfield 224, 3, 2, 14, 5, 0) from rfl)).trans g_getR
theorem u45_70 : wp r 45 70 [a0, a1, vI z, a3, a4, a5, a6, a7] st x Q ↔ wp r 45 71 [a0, a1, vI z, a3, a4, a5, a6, a7] (vI z :: st) x Q := (wp_u (show cd 45 70 = some (.iload_n 2, 1, 0, 0, 0, 0) from rfl))
theorem u45_71 : wp r 45 71 [a0, a1, a2, a3, vI z, a5, a6, a7] st x Q ↔ wp r 45 73 [a0, a1, a2, a3, vI z, a5, a6, a7] (vI z :: st) x Q := (wp_u (show cd 45 71 = some (.iload 4, 2, 0, 0, 0, 0) from rfl))
theorem u45_73 : wp r 45 73 ls (vI z :: vI i :: vA q :: st) x Q ↔ ldk 20 (hK x q) i ∧ 4 ≤ q ∧ wp r 45 74 ls st (stI x q i z) Q := (wp_u (show cd 45 73 = some (.iastore, 1, 0, 0, 0, 0) from rfl)).trans g_stI0
theorem u45_74 : wp r 45 74 ls st x Q ↔ wp r 45 75 ls (vI 0 :: st) x Q := (wp_u (show cd 45 74 = some (.iconst 0, 1, 0, 0, 0, 0) from rfl))
theorem u45_75 : wp r 45 75 [a0, a1, a2, a3, a4, a5, a6, a7] (vI z :: st) x Q ↔ wp r 45 77 [a0, a1, a2, a3, a4, a5, a6, vI z] st x Q := (wp_u (show cd 45 75 = some (.istore 7, 2, 0, 0, 0, 0) from rfl))
theorem u45_77 : wp r 45 77 [a0, a1, a2, a3, a4, a5, a6, vI z] st x Q ↔ wp r 45 79 [a0, a1, a2, a3, a4, a5, a6, vI z] (vI z :: st) x Q := (wp_u (show cd 45 77 = some (.iload 7, 2, 0, 0, 0, 0) from rfl))
theorem u45_79 : wp r 45 79 [a0, a1, vI z, a3, a4, a5, a6, a7] st x Q ↔ wp r 45 80 [a0, a1, vI z, a3, a4, a5, a6, a7] (vI z :: st) x Q := (wp_u (show cd 45 79 = some (.iload_n 2, 1, 0, 0, 0, 0) from rfl))
theorem u45_80 : wp r 45 80 ls (vI w :: vI z :: st) x Q ↔ if w ≤ z then wp r 45 119 ls st x Q else wp r 45 83 ls st x Q := (wp_u (show cd 45 80 = some (.if_icmp .ge 39, 3, 119, 0, 0, 0) from rfl)).trans wq_d
theorem u45_83 : wp r 45 83 [a0, a1, a2, a3, a4, a5, vI z, a7] st x Q ↔ wp r 45 85 [a0, a1, a2, a3, a4, a5, vI z, a7] (vI z :: st) x Q := (wp_u (show cd 45 83 = some (.iload 6, 2, 0, 0, 0, 0) from rfl))
theorem u45_85 : wp r 45 85 ls (vI z :: st) x Q ↔ if z = 0 then wp r 45 88 ls st x Q else wp r 45 119 ls st x Q := (wp_u (show cd 45 85 = some (.ifCond .ne 34, 3, 119, 0, 0, 0) from rfl)).trans wq_dn
theorem u45_88 : wp r 45 88 [a0, vR o, a2, a3, a4, a5, a6, a7] st x Q ↔ wp r 45 89 [a0, vR o, a2, a3, a4, a5, a6, a7] (vR o :: st) x Q := (wp_u (show cd 45 88 = some (.aload_n 1, 1, 0, 0, 0, 0) from rfl))
theorem u45_89 : wp r 45 89 [a0, vR o, a2, a3, a4, a5, a6, a7] st x Q ↔ wp r 45 90 [a0, vR o, a2, a3, a4, a5, a6, a7] (vR o :: st) x Q := (wp_u (show cd 45 89 = some (.aload_n 1, 1, 0, 0, 0, 0) from rfl))
theorem u45_90 : wp r 45 90 ls (vA q :: st) x Q ↔ sbk 2 (hK x q) ∧ wp r 45 93 ls (vR (hR x q 10) :: st) x Q := (wp_u (show cd 45 90 = some (.getfield 198, 3, 2, 10, 5, 0) from rfl)).trans g_getR
theorem u45_93 : wp r 45 93 [a0, a1, a2, a3, a4, a5, a6, vI z] st x Q ↔ wp r 45 95 [a0, a1, a2, a3, a4, a5, a6, vI z] (vI z :: st) x Q := (wp_u (show cd 45 93 = some (.iload 7, 2, 0, 0, 0, 0) from rfl))
theorem u45_95 : wp r 45 95 ls (vI i :: vA q :: st) x Q ↔ ldk 20 (hK x q) i ∧ wp r 45 96 ls (vI (hI x q i) :: st) x Q := (wp_u (show cd 45 95 = some (.iaload, 1, 0, 0, 0, 0) from rfl)).trans g_ldI
theorem u45_96 : wp r 45 96 ls st x Q ↔ wp r 45 97 ls (vI 0 :: st) x Q := (wp_u (show cd 45 96 = some (.iconst 0, 1, 0, 0, 0, 0) from rfl))
theorem u45_97 : wp r 45 97 [a0, a1, a2, vI z, a4, a5, a6, a7] st x Q ↔ wp r 45 98 [a0, a1, a2, vI z, a4, a5, a6, a7] (vI z :: st) x Q := (wp_u (show cd 45 97 = some (.iload_n 3, 1, 0, 0, 0, 0) from rfl))
theorem u45_98 : wp r 45 98 ls st x Q ↔ wp r 45 99 ls (vI 0 :: st) x Q := (wp_u (show cd 45 98 = some (.iconst 0, 1, 0, 0, 0, 0) from rfl))
theorem u45_99 : wp r 45 99 ls (vI z3 :: vI z2 :: vI z1 :: vI z0 :: vA q :: st) x Q ↔ isk 2 (hK x q) ∧ sml st = true ∧ 3 < r ∧ wpc 3 56 [vA q, vI z0, vI z1, vI z2, vI z3] x (wk r 45 99 ls st Q) := (wp_u (show cd 45 99 = some (.invokevirtual 227, 3, 56, 5, 3, 2) from rfl)).trans (g_virt rfl (by decide) (by simp) rfl)
theorem u45_102 : wp r 45 102 ls (vI z :: st) x Q ↔ if z = 0 then wp r 45 110 ls st x Q else wp r 45 105 ls st x Q := (wp_u (show cd 45 102 = some (.ifCond .eq 8, 3, 110, 0, 0, 0) from rfl)).trans wq_d
theorem u45_105 : wp r 45 105 ls st x Q ↔ wp r 45 107 ls (vI 7 :: st) x Q := (wp_u (show cd 45 105 = some (.bipush 7, 2, 0, 0, 0, 0) from rfl))
theorem u45_107 : wp r 45 107 ls st x Q ↔ wp r 45 111 ls st x Q := (wp_u (show cd 45 107 = some (.goto 4, 3, 111, 0, 0, 0) from rfl))
theorem u45_110 : wp r 45 110 ls st x Q ↔ wp r 45 111 ls (vI 0 :: st) x Q := (wp_u (show cd 45 110 = some (.iconst 0, 1, 0, 0, 0, 0) from rfl))
theorem u45_111 : wp r 45 111 [a0, a1, a2, a3, a4, a5, a6, a7] (vI z :: st) x Q ↔ wp r 45 113 [a0, a1, a2, a3, a4, a5, vI z, a7] st x Q := (wp_u (show cd 45 111 = some (.istore 6, 2, 0, 0, 0, 0) from rfl))
theorem u45_113 : wp r 45 113 [a0, a1, a2, a3, a4, a5, a6, vI z] st x Q ↔ inI (z + 1) = true ∧ wp r 45 116 [a0, a1, a2, a3, a4, a5, a6, vI (z + 1)] st x Q := (wp_u (show cd 45 113 = some (.iinc 7 1, 3, 0, 0, 0, 0) from rfl)).trans wq_if
theorem u45_116 : wp r 45 116 ls st x Q ↔ wp r 45 77 ls st x Q := (wp_u (show cd 45 116 = some (.goto (-39), 3, 77, 0, 0, 0) from rfl))
theorem u45_119 : wp r 45 119 [vR o, a1, a2, a3, a4, a5, a6, a7] st x Q ↔ wp r 45 120 [vR o, a1, a2, a3, a4, a5, a6, a7] (vR o :: st) x Q := (wp_u (show cd 45 119 = some (.aload_n 0, 1, 0, 0, 0, 0) from rfl))
theorem u45_120 : wp r 45 120 [a0, vR o, a2, a3, a4, a5, a6, a7] st x Q ↔ wp r 45 121 [a0, vR o, a2, a3, a4, a5, a6, a7] (vR o :: st) x Q := (wp_u (show cd 45 120 = some (.aload_n 1, 1, 0, 0, 0, 0) from rfl))
theorem u45_121 : wp r 45 121 [a0, a1, a2, vI z, a4, a5, a6, a7] st x Q ↔ wp r 45 122 [a0, a1, a2, vI z, a4, a5, a6, a7] (vI z :: st) x Q := (wp_u (show cd 45 121 = some (.iload_n 3, 1, 0, 0, 0, 0) from rfl))
theorem u45_122 : wp r 45 122 ls (vI z1 :: vR o0 :: vA q :: st) x Q ↔ isk 0 (hK x q) ∧ sml st = true ∧ 3 < r ∧ wpc 3 57 [vA q, vR o0, vI z1] x (wk r 45 122 ls st Q) := (wp_u (show cd 45 122 = some (.invokevirtual 231, 3, 57, 3, 3, 0) from rfl)).trans (g_virt rfl (by decide) (by simp) rfl)
theorem u45_125 : wp r 45 125 [a0, a1, a2, a3, a4, a5, a6, a7] (vR o :: st) x Q ↔ wp r 45 127 [a0, a1, a2, a3, a4, a5, a6, vR o] st x Q := (wp_u (show cd 45 125 = some (.astore 7, 2, 0, 0, 0, 0) from rfl))
theorem u45_127 : wp r 45 127 [a0, a1, a2, a3, a4, a5, vI z, a7] st x Q ↔ wp r 45 129 [a0, a1, a2, a3, a4, a5, vI z, a7] (vI z :: st) x Q := (wp_u (show cd 45 127 = some (.iload 6, 2, 0, 0, 0, 0) from rfl))
theorem u45_129 : wp r 45 129 ls (vI z :: st) x Q ↔ if z = 0 then wp r 45 132 ls st x Q else wp r 45 141 ls st x Q := (wp_u (show cd 45 129 = some (.ifCond .ne 12, 3, 141, 0, 0, 0) from rfl)).trans wq_dn
theorem u45_132 : wp r 45 132 [a0, a1, a2, a3, a4, a5, a6, vR o] st x Q ↔ wp r 45 134 [a0, a1, a2, a3, a4, a5, a6, vR o] (vR o :: st) x Q := (wp_u (show cd 45 132 = some (.aload 7, 2, 0, 0, 0, 0) from rfl))
theorem u45_134n : wp r 45 134 ls (vN :: st) x Q ↔ wp r 45 137 ls st x Q := (wp_u (show cd 45 134 = some (.ifnonnull 7, 3, 141, 0, 0, 0) from rfl))
theorem u45_134 : wp r 45 134 ls (vA q :: st) x Q ↔ nnk (hK x q) ∧ wp r 45 141 ls st x Q := (wp_u (show cd 45 134 = some (.ifnonnull 7, 3, 141, 0, 0, 0) from rfl)).trans g_nnul
theorem u45_137 : wp r 45 137 ls st x Q ↔ wp r 45 138 ls (vI 3 :: st) x Q := (wp_u (show cd 45 137 = some (.iconst 3, 1, 0, 0, 0, 0) from rfl))
theorem u45_138 : wp r 45 138 ls st x Q ↔ wp r 45 143 ls st x Q := (wp_u (show cd 45 138 = some (.goto 5, 3, 143, 0, 0, 0) from rfl))
theorem u45_141 : wp r 45 141 [a0, a1, a2, a3, a4, a5, vI z, a7] st x Q ↔ wp r 45 143 [a0, a1, a2, a3, a4, a5, vI z, a7] (vI z :: st) x Q := (wp_u (show cd 45 141 = some (.iload 6, 2, 0, 0, 0, 0) from rfl))
theorem u45_143 : wp r 45 143 [a0, a1, a2, a3, a4, a5, a6, a7] (vI z :: st) x Q ↔ wp r 45 145 [a0, a1, a2, a3, a4, a5, vI z, a7] st x Q := (wp_u (show cd 45 143 = some (.istore 6, 2, 0, 0, 0, 0) from rfl))
theorem u45_145 : wp r 45 145 [a0, vR o, a2, a3, a4, a5, a6, a7] st x Q ↔ wp r 45 146 [a0, vR o, a2, a3, a4, a5, a6, a7] (vR o :: st) x Q := (wp_u (show cd 45 145 = some (.aload_n 1, 1, 0, 0, 0, 0) from rfl))
theorem u45_146 : wp r 45 146 ls (vA q :: st) x Q ↔ sbk 2 (hK x q) ∧ wp r 45 149 ls (vR (hR x q 14) :: st) x Q := (wp_u (show cd 45 146 = some (.getfield 224, 3, 2, 14, 5, 0) from rfl)).trans g_getR
theorem u45_149 : wp r 45 149 [a0, a1, vI z, a3, a4, a5, a6, a7] st x Q ↔ wp r 45 150 [a0, a1, vI z, a3, a4, a5, a6, a7] (vI z :: st) x Q := (wp_u (show cd 45 149 = some (.iload_n 2, 1, 0, 0, 0, 0) from rfl))
theorem u45_150 : wp r 45 150 [a0, a1, a2, a3, a4, a5, vI z, a7] st x Q ↔ wp r 45 152 [a0, a1, a2, a3, a4, a5, vI z, a7] (vI z :: st) x Q := (wp_u (show cd 45 150 = some (.iload 6, 2, 0, 0, 0, 0) from rfl))
theorem u45_152 : wp r 45 152 ls st x Q ↔ wp r 45 154 ls (vI 7 :: st) x Q := (wp_u (show cd 45 152 = some (.bipush 7, 2, 0, 0, 0, 0) from rfl))
theorem u45_154 : wp r 45 154 ls (vI w :: vI z :: st) x Q ↔ if z = w then wp r 45 163 ls st x Q else wp r 45 157 ls st x Q := (wp_u (show cd 45 154 = some (.if_icmp .eq 9, 3, 163, 0, 0, 0) from rfl)).trans wq_d
theorem u45_157 : wp r 45 157 [a0, a1, a2, a3, a4, a5, vI z, a7] st x Q ↔ wp r 45 159 [a0, a1, a2, a3, a4, a5, vI z, a7] (vI z :: st) x Q := (wp_u (show cd 45 157 = some (.iload 6, 2, 0, 0, 0, 0) from rfl))
theorem u45_159 : wp r 45 159 ls st x Q ↔ wp r 45 160 ls (vI 3 :: st) x Q := (wp_u (show cd 45 159 = some (.iconst 3, 1, 0, 0, 0, 0) from rfl))
theorem u45_160 : wp r 45 160 ls (vI w :: vI z :: st) x Q ↔ if z = w then wp r 45 163 ls st x Q else wp r 45 167 ls st x Q := (wp_u (show cd 45 160 = some (.if_icmp .ne 7, 3, 167, 0, 0, 0) from rfl)).trans wq_dn
theorem u45_163 : wp r 45 163 [a0, a1, a2, vI z, a4, a5, a6, a7] st x Q ↔ wp r 45 164 [a0, a1, a2, vI z, a4, a5, a6, a7] (vI z :: st) x Q := (wp_u (show cd 45 163 = some (.iload_n 3, 1, 0, 0, 0, 0) from rfl))
theorem u45_164 : wp r 45 164 ls st x Q ↔ wp r 45 169 ls st x Q := (wp_u (show cd 45 164 = some (.goto 5, 3, 169, 0, 0, 0) from rfl))
theorem u45_167 : wp r 45 167 [a0, a1, a2, a3, vI z, a5, a6, a7] st x Q ↔ wp r 45 169 [a0, a1, a2, a3, vI z, a5, a6, a7] (vI z :: st) x Q := (wp_u (show cd 45 167 = some (.iload 4, 2, 0, 0, 0, 0) from rfl))
theorem u45_169 : wp r 45 169 ls (vI z :: vI i :: vA q :: st) x Q ↔ ldk 20 (hK x q) i ∧ 4 ≤ q ∧ wp r 45 170 ls st (stI x q i z) Q := (wp_u (show cd 45 169 = some (.iastore, 1, 0, 0, 0, 0) from rfl)).trans g_stI0
theorem u45_170 : wp r 45 170 [a0, a1, a2, a3, a4, a5, vI z, a7] st x Q ↔ wp r 45 172 [a0, a1, a2, a3, a4, a5, vI z, a7] (vI z :: st) x Q := (wp_u (show cd 45 170 = some (.iload 6, 2, 0, 0, 0, 0) from rfl))
theorem u45_172 : wp r 45 172 ls (vI z :: st) x Q ↔ if z = 0 then wp r 45 175 ls st x Q else wp r 45 185 ls st x Q := (wp_u (show cd 45 172 = some (.ifCond .ne 13, 3, 185, 0, 0, 0) from rfl)).trans wq_dn
theorem u45_175 : wp r 45 175 [vR o, a1, a2, a3, a4, a5, a6, a7] st x Q ↔ wp r 45 176 [vR o, a1, a2, a3, a4, a5, a6, a7] (vR o :: st) x Q := (wp_u (show cd 45 175 = some (.aload_n 0, 1, 0, 0, 0, 0) from rfl))
theorem u45_176 : wp r 45 176 [a0, vR o, a2, a3, a4, a5, a6, a7] st x Q ↔ wp r 45 177 [a0, vR o, a2, a3, a4, a5, a6, a7] (vR o :: st) x Q := (wp_u (show cd 45 176 = some (.aload_n 1, 1, 0, 0, 0, 0) from rfl))
theorem u45_177 : wp r 45 177 [a0, a1, vI z, a3, a4, a5, a6, a7] st x Q ↔ wp r 45 178 [a0, a1, vI z, a3, a4, a5, a6, a7] (vI z :: st) x Q := (wp_u (show cd 45 177 = some (.iload_n 2, 1, 0, 0, 0, 0) from rfl))
theorem u45_178 : wp r 45 178 [a0, a1, a2, a3, a4, a5, a6, vR o] st x Q ↔ wp r 45 180 [a0, a1, a2, a3, a4, a5, a6, vR o] (vR o :: st) x Q := (wp_u (show cd 45 178 = some (.aload 7, 2, 0, 0, 0, 0) from rfl))
theorem u45_180 : wp r 45 180 ls (vR o2 :: vI z1 :: vR o0 :: vA q :: st) x Q ↔ isk 0 (hK x q) ∧ sml st = true ∧ 4 < r ∧ wpc 4 58 [vA q, vR o0, vI z1, vR o2] x (wk r 45 180 ls st Q) := (wp_u (show cd 45 180 = some (.invokevirtual 235, 3, 58, 4, 4, 0) from rfl)).trans (g_virt rfl (by decide) (by simp) rfl)
theorem u45_183 : wp r 45 183 [a0, a1, a2, a3, a4, a5, a6, a7] (vI z :: st) x Q ↔ wp r 45 185 [a0, a1, a2, a3, a4, a5, vI z, a7] st x Q := (wp_u (show cd 45 183 = some (.istore 6, 2, 0, 0, 0, 0) from rfl))
theorem u45_185 : wp r 45 185 [a0, vR o, a2, a3, a4, a5, a6, a7] st x Q ↔ wp r 45 186 [a0, vR o, a2, a3, a4, a5, a6, a7] (vR o :: st) x Q := (wp_u (show cd 45 185 = some (.aload_n 1, 1, 0, 0, 0, 0) from rfl))
theorem u45_186 : wp r 45 186 ls (vA q :: st) x Q ↔ sbk 2 (hK x q) ∧ wp r 45 189 ls (vR (hR x q 13) :: st) x Q := (wp_u (show cd 45 186 = some (.getfield 239, 3, 2, 13, 5, 0) from rfl)).trans g_getR
theorem u45_189 : wp r 45 189 [a0, a1, vI z, a3, a4, a5, a6, a7] st x Q ↔ wp r 45 190 [a0, a1, vI z, a3, a4, a5, a6, a7] (vI z :: st) x Q := (wp_u (show cd 45 189 = some (.iload_n 2, 1, 0, 0, 0, 0) from rfl))
theorem u45_190 : wp r 45 190 [a0, a1, a2, a3, a4, a5, vI z, a7] st x Q ↔ wp r 45 192 [a0, a1, a2, a3, a4, a5, vI z, a7] (vI z :: st) x Q := (wp_u (show cd 45 190 = some (.iload 6, 2, 0, 0, 0, 0) from rfl))
theorem u45_192 : wp r 45 192 ls (vI z :: vI i :: vA q :: st) x Q ↔ ldk 20 (hK x q) i ∧ 4 ≤ q ∧ wp r 45 193 ls st (stI x q i z) Q := (wp_u (show cd 45 192 = some (.iastore, 1, 0, 0, 0, 0) from rfl)).trans g_stI0
theorem u45_193 : wp r 45 193 [a0, vR o, a2, a3, a4, a5, a6, a7] st x Q ↔ wp r 45 194 [a0, vR o, a2, a3, a4, a5, a6, a7] (vR o :: st) x Q := (wp_u (show cd 45 193 = some (.aload_n 1, 1, 0, 0, 0, 0) from rfl))
theorem u45_194 : wp r 45 194 ls (vA q :: st) x Q ↔ sbk 2 (hK x q) ∧ wp r 45 197 ls (vR (hR x q 14) :: st) x Q := (wp_u (show cd 45 194 = some (.getfield 224, 3, 2, 14, 5, 0) from rfl)).trans g_getR
theorem u45_197 : wp r 45 197 [a0, a1, vI z, a3, a4, a5, a6, a7] st x Q ↔ wp r 45 198 [a0, a1, vI z, a3, a4, a5, a6, a7] (vI z :: st) x Q := (wp_u (show cd 45 197 = some (.iload_n 2, 1, 0, 0, 0, 0) from rfl))
theorem u45_198 : wp r 45 198 [a0, a1, a2, a3, a4, a5, vI z, a7] st x Q ↔ wp r 45 200 [a0, a1, a2, a3, a4, a5, vI z, a7] (vI z :: st) x Q := (wp_u (show cd 45 198 = some (.iload 6, 2, 0, 0, 0, 0) from rfl))
theorem u45_200 : wp r 45 200 ls (vI z :: st) x Q ↔ if z = 0 then wp r 45 203 ls st x Q else wp r 45 207 ls st x Q := (wp_u (show cd 45 200 = some (.ifCond .ne 7, 3, 207, 0, 0, 0) from rfl)).trans wq_dn
theorem u45_203 : wp r 45 203 ls st x Q ↔ wp r 45 204 ls (vI (-1) :: st) x Q := (wp_u (show cd 45 203 = some (.iconst (-1), 1, 0, 0, 0, 0) from rfl))
theorem u45_204 : wp r 45 204 ls st x Q ↔ wp r 45 213 ls st x Q := (wp_u (show cd 45 204 = some (.goto 9, 3, 213, 0, 0, 0) from rfl))
theorem u45_207 : wp r 45 207 [a0, vR o, a2, a3, a4, a5, a6, a7] st x Q ↔ wp r 45 208 [a0, vR o, a2, a3, a4, a5, a6, a7] (vR o :: st) x Q := (wp_u (show cd 45 207 = some (.aload_n 1, 1, 0, 0, 0, 0) from rfl))
theorem u45_208 : wp r 45 208 ls (vA q :: st) x Q ↔ sbk 2 (hK x q) ∧ wp r 45 211 ls (vR (hR x q 14) :: st) x Q := (wp_u (show cd 45 208 = some (.getfield 224, 3, 2, 14, 5, 0) from rfl)).trans g_getR
theorem u45_211 : wp r 45 211 [a0, a1, vI z, a3, a4, a5, a6, a7] st x Q ↔ wp r 45 212 [a0, a1, vI z, a3, a4, a5, a6, a7] (vI z :: st) x Q := (wp_u (show cd 45 211 = some (.iload_n 2, 1, 0, 0, 0, 0) from rfl))
theorem u45_212 : wp r 45 212 ls (vI i :: vA q :: st) x Q ↔ ldk 20 (hK x q) i ∧ wp r 45 213 ls (vI (hI x q i) :: st) x Q := (wp_u (show cd 45 212 = some (.iaload, 1, 0, 0, 0, 0) from rfl)).trans g_ldI
theorem u45_213 : wp r 45 213 ls (vI z :: vI i :: vA q :: st) x Q ↔ ldk 20 (hK x q) i ∧ 4 ≤ q ∧ wp r 45 214 ls st (stI x q i z) Q := (wp_u (show cd 45 213 = some (.iastore, 1, 0, 0, 0, 0) from rfl)).trans g_stI0
theorem u45_214 : wp r 45 214 [a0, a1, vI z, a3, a4, a5, a6, a7] st x Q ↔ inI (z + 1) = true ∧ wp r 45 217 [a0, a1, vI (z + 1), a3, a4, a5, a6, a7] st x Q := (wp_u (show cd 45 214 = some (.iinc 2 1, 3, 0, 0, 0, 0) from rfl)).trans wq_if
theorem u45_217 : wp r 45 217 ls st x Q ↔ wp r 45 2 ls st x Q := (wp_u (show cd 45 217 = some (.goto (-215), 3, 2, 0, 0, 0) from rfl))
theorem u45_220 : wp r 45 220 ls [] x Q ↔ Q (.inl none) x := (wp_u (show cd 45 220 = some (.return_, 1, 0, 0, 0, 0) from rfl))
theorem e45 : wpc r 45 [vA q, vR o0] x Q ↔ wp r 45 0 [vA q, vR o0, vL jk, vL jk, vL jk, vL jk, vL jk, vL jk] [] x Q := Iff.rfl
/-! 46 D_printAll -/
theorem u46_0 : wp r 46 0 ls st x Q ↔ wp r 46 1 ls (vI 0 :: st) x Q := (wp_u (show cd 46 0 = some (.iconst 0, 1, 0, 0, 0, 0) from rfl))
theorem u46_1 : wp r 46 1 [a0, a1, a2, a3, a4, a5, a6] (vI z :: st) x Q ↔ wp r 46 2 [a0, vI z, a2, a3, a4, a5, a6] st x Q := (wp_u (show cd 46 1 = some (.istore_n 1, 1, 0, 0, 0, 0) from rfl))
theorem u46_2 : wp r 46 2 [a0, vI z, a2, a3, a4, a5, a6] st x Q ↔ wp r 46 3 [a0, vI z, a2, a3, a4, a5, a6] (vI z :: st) x Q := (wp_u (show cd 46 2 = some (.iload_n 1, 1, 0, 0, 0, 0) from rfl))
theorem u46_3 : wp r 46 3 [vR o, a1, a2, a3, a4, a5, a6] st x Q ↔ wp r 46 4 [vR o, a1, a2, a3, a4, a5, a6] (vR o :: st) x Q := (wp_u (show cd 46 3 = some (.aload_n 0, 1, 0, 0, 0, 0) from rfl))
theorem u46_4 : wp r 46 4 ls (vA q :: st) x Q ↔ sbk 2 (hK x q) ∧ wp r 46 7 ls (vI (hI x q 3) :: st) x Q := (wp_u (show cd 46 4 = some (.getfield 186, 3, 2, 3, 0, 0) from rfl)).trans g_getI
theorem u46_7 : wp r 46 7 ls (vI w :: vI z :: st) x Q ↔ if w ≤ z then wp r 46 164 ls st x Q else wp r 46 10 ls st x Q := (wp_u (show cd 46 7 = some (.if_icmp .ge 157, 3, 164, 0, 0, 0) from rfl)).trans wq_d
theorem u46_10 : wp r 46 10 [vR o, a1, a2, a3, a4, a5, a6] st x Q ↔ wp r 46 11 [vR o, a1, a2, a3, a4, a5, a6] (vR o :: st) x Q := (wp_u (show cd 46 10 = some (.aload_n 0, 1, 0, 0, 0, 0) from rfl))
theorem u46_11 : wp r 46 11 ls (vA q :: st) x Q ↔ sbk 2 (hK x q) ∧ wp r 46 14 ls (vR (hR x q 2) :: st) x Q := (wp_u (show cd 46 11 = some (.getfield 187, 3, 2, 2, 5, 0) from rfl)).trans g_getR
theorem u46_14 : wp r 46 14 [a0, vI z, a2, a3, a4, a5, a6] st x Q ↔ wp r 46 15 [a0, vI z, a2, a3, a4, a5, a6] (vI z :: st) x Q := (wp_u (show cd 46 14 = some (.iload_n 1, 1, 0, 0, 0, 0) from rfl))
theorem u46_15 : wp r 46 15 ls (vI i :: vA q :: st) x Q ↔ ldr (hK x q) i ∧ wp r 46 16 ls (vR (hR x q i) :: st) x Q := (wp_u (show cd 46 15 = some (.aaload, 1, 0, 0, 0, 0) from rfl)).trans g_ldR
theorem u46_16 : wp r 46 16 [a0, a1, a2, a3, a4, a5, a6] (vR o :: st) x Q ↔ wp r 46 17 [a0, a1, vR o, a3, a4, a5, a6] st x Q := (wp_u (show cd 46 16 = some (.astore_n 2, 1, 0, 0, 0, 0) from rfl))
theorem u46_17 : wp r 46 17 [vR o, a1, a2, a3, a4, a5, a6] st x Q ↔ wp r 46 18 [vR o, a1, a2, a3, a4, a5, a6] (vR o :: st) x Q := (wp_u (show cd 46 17 = some (.aload_n 0, 1, 0, 0, 0, 0) from rfl))
theorem u46_18 : wp r 46 18 ls (vA q :: st) x Q ↔ sbk 2 (hK x q) ∧ wp r 46 21 ls (vR (hR x q 20) :: st) x Q := (wp_u (show cd 46 18 = some (.getfield 284, 3, 2, 20, 5, 0) from rfl)).trans g_getR
theorem u46_21 : wp r 46 21 [a0, a1, vR o, a3, a4, a5, a6] st x Q ↔ wp r 46 22 [a0, a1, vR o, a3, a4, a5, a6] (vR o :: st) x Q := (wp_u (show cd 46 21 = some (.aload_n 2, 1, 0, 0, 0, 0) from rfl))
theorem u46_22 : wp r 46 22 ls (vA q :: st) x Q ↔ sbk 3 (hK x q) ∧ wp r 46 25 ls (vI (hI x q 0) :: st) x Q := (wp_u (show cd 46 22 = some (.getfield 191, 3, 3, 0, 0, 0) from rfl)).trans g_getI
theorem u46_25 : wp r 46 25 ls (vI z1 :: vR o0 :: st) x Q ↔ sml st = true ∧ 7 < r ∧ wpc 7 59 [vR o0, vI z1] x (wk r 46 25 ls st Q) := (wp_u (show cd 46 25 = some (.invokestatic 288, 3, 59, 2, 7, 0) from rfl)).trans (g_stat (by decide) (by simp) rfl)
theorem u46_28 : wp r 46 28 [a0, a1, vR o, a3, a4, a5, a6] st x Q ↔ wp r 46 29 [a0, a1, vR o, a3, a4, a5, a6] (vR o :: st) x Q := (wp_u (show cd 46 28 = some (.aload_n 2, 1, 0, 0, 0, 0) from rfl))
theorem u46_29 : wp r 46 29 ls (vA q :: st) x Q ↔ sbk 3 (hK x q) ∧ wp r 46 32 ls (vI (hI x q 2) :: st) x Q := (wp_u (show cd 46 29 = some (.getfield 292, 3, 3, 2, 0, 0) from rfl)).trans g_getI
theorem u46_32 : wp r 46 32 [a0, a1, a2, a3, a4, a5, a6] (vI z :: st) x Q ↔ wp r 46 33 [a0, a1, a2, vI z, a4, a5, a6] st x Q := (wp_u (show cd 46 32 = some (.istore_n 3, 1, 0, 0, 0, 0) from rfl))
theorem u46_33 : wp r 46 33 [a0, a1, a2, vI z, a4, a5, a6] st x Q ↔ wp r 46 34 [a0, a1, a2, vI z, a4, a5, a6] (vI z :: st) x Q := (wp_u (show cd 46 33 = some (.iload_n 3, 1, 0, 0, 0, 0) from rfl))
theorem u46_34 : wp r 46 34 ls (vI z :: st) x Q ↔ if z ≤ 0 then wp r 46 58 ls st x Q else wp r 46 37 ls st x Q := (wp_u (show cd 46 34 = some (.ifCond .le 24, 3, 58, 0, 0, 0) from rfl)).trans wq_d
theorem u46_37 : wp r 46 37 [vR o, a1, a2, a3, a4, a5, a6] st x Q ↔ wp r 46 38 [vR o, a1, a2, a3, a4, a5, a6] (vR o :: st) x Q := (wp_u (show cd 46 37 = some (.aload_n 0, 1, 0, 0, 0, 0) from rfl))
theorem u46_38 : wp r 46 38 [a0, a1, vR o, a3, a4, a5, a6] st x Q ↔ wp r 46 39 [a0, a1, vR o, a3, a4, a5, a6] (vR o :: st) x Q := (wp_u (show cd 46 38 = some (.aload_n 2, 1, 0, 0, 0, 0) from rfl))
theorem u46_39 : wp r 46 39 ls (vA q :: st) x Q ↔ sbk 3 (hK x q) ∧ wp r 46 42 ls (vI (hI x q 1) :: st) x Q := (wp_u (show cd 46 39 = some (.getfield 293, 3, 3, 1, 0, 0) from rfl)).trans g_getI
theorem u46_42 : wp r 46 42 [a0, a1, a2, vI z, a4, a5, a6] st x Q ↔ wp r 46 43 [a0, a1, a2, vI z, a4, a5, a6] (vI z :: st) x Q := (wp_u (show cd 46 42 = some (.iload_n 3, 1, 0, 0, 0, 0) from rfl))
theorem u46_43 : wp r 46 43 ls (vI w :: vI z :: st) x Q ↔ inI (z + w) = true ∧ wp r 46 44 ls (vI (z + w) :: st) x Q := (wp_u (show cd 46 43 = some (.iadd, 1, 0, 0, 0, 0) from rfl)).trans wq_if
theorem u46_44 : wp r 46 44 ls st x Q ↔ wp r 46 45 ls (vI 1 :: st) x Q := (wp_u (show cd 46 44 = some (.iconst 1, 1, 0, 0, 0, 0) from rfl))
theorem u46_45 : wp r 46 45 ls (vI w :: vI z :: st) x Q ↔ inI (z - w) = true ∧ wp r 46 46 ls (vI (z - w) :: st) x Q := (wp_u (show cd 46 45 = some (.isub, 1, 0, 0, 0, 0) from rfl)).trans wq_if
theorem u46_46 : wp r 46 46 ls (vI z1 :: vR o0 :: st) x Q ↔ sml st = true ∧ 1 < r ∧ wpc 1 60 [vR o0, vI z1] x (wk r 46 46 ls st Q) := (wp_u (show cd 46 46 = some (.invokestatic 295, 3, 60, 2, 1, 0) from rfl)).trans (g_stat (by decide) (by simp) rfl)
theorem u46_49 : wp r 46 49 ls (vI z :: st) x Q ↔ if z = 0 then wp r 46 52 ls st x Q else wp r 46 58 ls st x Q := (wp_u (show cd 46 49 = some (.ifCond .ne 9, 3, 58, 0, 0, 0) from rfl)).trans wq_dn
theorem u46_52 : wp r 46 52 [a0, a1, a2, vI z, a4, a5, a6] st x Q ↔ inI (z + (-1)) = true ∧ wp r 46 55 [a0, a1, a2, vI (z + (-1)), a4, a5, a6] st x Q := (wp_u (show cd 46 52 = some (.iinc 3 (-1), 3, 0, 0, 0, 0) from rfl)).trans wq_if
theorem u46_55 : wp r 46 55 ls st x Q ↔ wp r 46 33 ls st x Q := (wp_u (show cd 46 55 = some (.goto (-22), 3, 33, 0, 0, 0) from rfl))
theorem u46_58 : wp r 46 58 [a0, a1, vR o, a3, a4, a5, a6] st x Q ↔ wp r 46 59 [a0, a1, vR o, a3, a4, a5, a6] (vR o :: st) x Q := (wp_u (show cd 46 58 = some (.aload_n 2, 1, 0, 0, 0, 0) from rfl))
theorem u46_59 : wp r 46 59 ls (vA q :: st) x Q ↔ sbk 3 (hK x q) ∧ wp r 46 62 ls (vI (hI x q 1) :: st) x Q := (wp_u (show cd 46 59 = some (.getfield 293, 3, 3, 1, 0, 0) from rfl)).trans g_getI
theorem u46_62 : wp r 46 62 [a0, a1, a2, a3, a4, a5, a6] (vI z :: st) x Q ↔ wp r 46 64 [a0, a1, a2, a3, vI z, a5, a6] st x Q := (wp_u (show cd 46 62 = some (.istore 4, 2, 0, 0, 0, 0) from rfl))
theorem u46_64 : wp r 46 64 [a0, a1, a2, a3, vI z, a5, a6] st x Q ↔ wp r 46 66 [a0, a1, a2, a3, vI z, a5, a6] (vI z :: st) x Q := (wp_u (show cd 46 64 = some (.iload 4, 2, 0, 0, 0, 0) from rfl))
theorem u46_66 : wp r 46 66 [a0, a1, vR o, a3, a4, a5, a6] st x Q ↔ wp r 46 67 [a0, a1, vR o, a3, a4, a5, a6] (vR o :: st) x Q := (wp_u (show cd 46 66 = some (.aload_n 2, 1, 0, 0, 0, 0) from rfl))
theorem u46_67 : wp r 46 67 ls (vA q :: st) x Q ↔ sbk 3 (hK x q) ∧ wp r 46 70 ls (vI (hI x q 1) :: st) x Q := (wp_u (show cd 46 67 = some (.getfield 293, 3, 3, 1, 0, 0) from rfl)).trans g_getI
theorem u46_70 : wp r 46 70 [a0, a1, a2, vI z, a4, a5, a6] st x Q ↔ wp r 46 71 [a0, a1, a2, vI z, a4, a5, a6] (vI z :: st) x Q := (wp_u (show cd 46 70 = some (.iload_n 3, 1, 0, 0, 0, 0) from rfl))
theorem u46_71 : wp r 46 71 ls (vI w :: vI z :: st) x Q ↔ inI (z + w) = true ∧ wp r 46 72 ls (vI (z + w) :: st) x Q := (wp_u (show cd 46 71 = some (.iadd, 1, 0, 0, 0, 0) from rfl)).trans wq_if
theorem u46_72 : wp r 46 72 ls (vI w :: vI z :: st) x Q ↔ if w ≤ z then wp r 46 148 ls st x Q else wp r 46 75 ls st x Q := (wp_u (show cd 46 72 = some (.if_icmp .ge 76, 3, 148, 0, 0, 0) from rfl)).trans wq_d
theorem u46_75 : wp r 46 75 [vR o, a1, a2, a3, a4, a5, a6] st x Q ↔ wp r 46 76 [vR o, a1, a2, a3, a4, a5, a6] (vR o :: st) x Q := (wp_u (show cd 46 75 = some (.aload_n 0, 1, 0, 0, 0, 0) from rfl))
theorem u46_76 : wp r 46 76 ls (vA q :: st) x Q ↔ sbk 2 (hK x q) ∧ wp r 46 79 ls (vR (hR x q 20) :: st) x Q := (wp_u (show cd 46 76 = some (.getfield 284, 3, 2, 20, 5, 0) from rfl)).trans g_getR
theorem u46_79 : wp r 46 79 ls st x Q ↔ wp r 46 81 ls (vI 43 :: st) x Q := (wp_u (show cd 46 79 = some (.bipush 43, 2, 0, 0, 0, 0) from rfl))
theorem u46_81 : wp r 46 81 ls (vI z0 :: vA q :: st) x Q ↔ isk 10 (hK x q) ∧ sml st = true ∧ 6 < r ∧ wpc 6 140 [vA q, vI z0] x (wk r 46 81 ls st Q) := (wp_u (show cd 46 81 = some (.invokevirtual 273, 3, 140, 2, 6, 10) from rfl)).trans (g_virt rfl (by decide) (by simp) rfl)
theorem u46_84i : wp r 46 84 ls (vI z :: st) x Q ↔ wp r 46 85 ls st x Q := (wp_u (show cd 46 84 = some (.pop, 1, 0, 0, 0, 0) from rfl))
theorem u46_84 : wp r 46 84 ls (vR o :: st) x Q ↔ wp r 46 85 ls st x Q := (wp_u (show cd 46 84 = some (.pop, 1, 0, 0, 0, 0) from rfl))
theorem u46_85 : wp r 46 85 [vR o, a1, a2, a3, a4, a5, a6] st x Q ↔ wp r 46 86 [vR o, a1, a2, a3, a4, a5, a6] (vR o :: st) x Q := (wp_u (show cd 46 85 = some (.aload_n 0, 1, 0, 0, 0, 0) from rfl))
theorem u46_86 : wp r 46 86 [a0, a1, a2, a3, vI z, a5, a6] st x Q ↔ wp r 46 88 [a0, a1, a2, a3, vI z, a5, a6] (vI z :: st) x Q := (wp_u (show cd 46 86 = some (.iload 4, 2, 0, 0, 0, 0) from rfl))
theorem u46_88 : wp r 46 88 ls (vI z1 :: vR o0 :: st) x Q ↔ sml st = true ∧ 1 < r ∧ wpc 1 60 [vR o0, vI z1] x (wk r 46 88 ls st Q) := (wp_u (show cd 46 88 = some (.invokestatic 295, 3, 60, 2, 1, 0) from rfl)).trans (g_stat (by decide) (by simp) rfl)
theorem u46_91 : wp r 46 91 [a0, a1, a2, a3, a4, a5, a6] (vI z :: st) x Q ↔ wp r 46 93 [a0, a1, a2, a3, a4, vI z, a6] st x Q := (wp_u (show cd 46 91 = some (.istore 5, 2, 0, 0, 0, 0) from rfl))
theorem u46_93 : wp r 46 93 ls st x Q ↔ wp r 46 94 ls (vI 0 :: st) x Q := (wp_u (show cd 46 93 = some (.iconst 0, 1, 0, 0, 0, 0) from rfl))
theorem u46_94 : wp r 46 94 [a0, a1, a2, a3, a4, a5, a6] (vI z :: st) x Q ↔ wp r 46 96 [a0, a1, a2, a3, a4, a5, vI z] st x Q := (wp_u (show cd 46 94 = some (.istore 6, 2, 0, 0, 0, 0) from rfl))
theorem u46_96 : wp r 46 96 [a0, a1, a2, a3, a4, a5, vI z] st x Q ↔ wp r 46 98 [a0, a1, a2, a3, a4, a5, vI z] (vI z :: st) x Q := (wp_u (show cd 46 96 = some (.iload 6, 2, 0, 0, 0, 0) from rfl))
theorem u46_98 : wp r 46 98 [a0, a1, a2, a3, a4, vI z, a6] st x Q ↔ wp r 46 100 [a0, a1, a2, a3, a4, vI z, a6] (vI z :: st) x Q := (wp_u (show cd 46 98 = some (.iload 5, 2, 0, 0, 0, 0) from rfl))
theorem u46_100 : wp r 46 100 ls (vI w :: vI z :: st) x Q ↔ if w ≤ z then wp r 46 142 ls st x Q else wp r 46 103 ls st x Q := (wp_u (show cd 46 100 = some (.if_icmp .ge 42, 3, 142, 0, 0, 0) from rfl)).trans wq_d
theorem u46_103 : wp r 46 103 [a0, a1, a2, a3, a4, a5, vI z] st x Q ↔ wp r 46 105 [a0, a1, a2, a3, a4, a5, vI z] (vI z :: st) x Q := (wp_u (show cd 46 103 = some (.iload 6, 2, 0, 0, 0, 0) from rfl))
theorem u46_105 : wp r 46 105 ls (vI z :: st) x Q ↔ if z ≤ 0 then wp r 46 118 ls st x Q else wp r 46 108 ls st x Q := (wp_u (show cd 46 105 = some (.ifCond .le 13, 3, 118, 0, 0, 0) from rfl)).trans wq_d
theorem u46_108 : wp r 46 108 [vR o, a1, a2, a3, a4, a5, a6] st x Q ↔ wp r 46 109 [vR o, a1, a2, a3, a4, a5, a6] (vR o :: st) x Q := (wp_u (show cd 46 108 = some (.aload_n 0, 1, 0, 0, 0, 0) from rfl))
theorem u46_109 : wp r 46 109 ls (vA q :: st) x Q ↔ sbk 2 (hK x q) ∧ wp r 46 112 ls (vR (hR x q 20) :: st) x Q := (wp_u (show cd 46 109 = some (.getfield 284, 3, 2, 20, 5, 0) from rfl)).trans g_getR
theorem u46_112 : wp r 46 112 ls st x Q ↔ wp r 46 114 ls (vI 58 :: st) x Q := (wp_u (show cd 46 112 = some (.bipush 58, 2, 0, 0, 0, 0) from rfl))
theorem u46_114 : wp r 46 114 ls (vI z0 :: vA q :: st) x Q ↔ isk 10 (hK x q) ∧ sml st = true ∧ 6 < r ∧ wpc 6 140 [vA q, vI z0] x (wk r 46 114 ls st Q) := (wp_u (show cd 46 114 = some (.invokevirtual 273, 3, 140, 2, 6, 10) from rfl)).trans (g_virt rfl (by decide) (by simp) rfl)
theorem u46_117i : wp r 46 117 ls (vI z :: st) x Q ↔ wp r 46 118 ls st x Q := (wp_u (show cd 46 117 = some (.pop, 1, 0, 0, 0, 0) from rfl))
theorem u46_117 : wp r 46 117 ls (vR o :: st) x Q ↔ wp r 46 118 ls st x Q := (wp_u (show cd 46 117 = some (.pop, 1, 0, 0, 0, 0) from rfl))
theorem u46_118 : wp r 46 118 [vR o, a1, a2, a3, a4, a5, a6] st x Q ↔ wp r 46 119 [vR o, a1, a2, a3, a4, a5, a6] (vR o :: st) x Q := (wp_u (show cd 46 118 = some (.aload_n 0, 1, 0, 0, 0, 0) from rfl))
theorem u46_119 : wp r 46 119 ls (vA q :: st) x Q ↔ sbk 2 (hK x q) ∧ wp r 46 122 ls (vR (hR x q 20) :: st) x Q := (wp_u (show cd 46 119 = some (.getfield 284, 3, 2, 20, 5, 0) from rfl)).trans g_getR
theorem u46_122 : wp r 46 122 [vR o, a1, a2, a3, a4, a5, a6] st x Q ↔ wp r 46 123 [vR o, a1, a2, a3, a4, a5, a6] (vR o :: st) x Q := (wp_u (show cd 46 122 = some (.aload_n 0, 1, 0, 0, 0, 0) from rfl))
theorem u46_123 : wp r 46 123 [vR o, a1, a2, a3, a4, a5, a6] st x Q ↔ wp r 46 124 [vR o, a1, a2, a3, a4, a5, a6] (vR o :: st) x Q := (wp_u (show cd 46 123 = some (.aload_n 0, 1, 0, 0, 0, 0) from rfl))
theorem u46_124 : wp r 46 124 ls (vA q :: st) x Q ↔ sbk 2 (hK x q) ∧ wp r 46 127 ls (vR (hR x q 4) :: st) x Q := (wp_u (show cd 46 124 = some (.getfield 281, 3, 2, 4, 5, 0) from rfl)).trans g_getR
theorem u46_127 : wp r 46 127 [a0, a1, a2, a3, vI z, a5, a6] st x Q ↔ wp r 46 129 [a0, a1, a2, a3, vI z, a5, a6] (vI z :: st) x Q := (wp_u (show cd 46 127 = some (.iload 4, 2, 0, 0, 0, 0) from rfl))
theorem u46_129 : wp r 46 129 ls (vI i :: vA q :: st) x Q ↔ ldk 22 (hK x q) i ∧ wp r 46 130 ls (vI (hI x q i) :: st) x Q := (wp_u (show cd 46 129 = some (.saload, 1, 0, 0, 0, 0) from rfl)).trans g_ldI
theorem u46_130 : wp r 46 130 [a0, a1, a2, a3, a4, a5, vI z] st x Q ↔ wp r 46 132 [a0, a1, a2, a3, a4, a5, vI z] (vI z :: st) x Q := (wp_u (show cd 46 130 = some (.iload 6, 2, 0, 0, 0, 0) from rfl))
theorem u46_132 : wp r 46 132 ls (vI w :: vI z :: st) x Q ↔ inI (z + w) = true ∧ wp r 46 133 ls (vI (z + w) :: st) x Q := (wp_u (show cd 46 132 = some (.iadd, 1, 0, 0, 0, 0) from rfl)).trans wq_if
theorem u46_133 : wp r 46 133 ls (vI z2 :: vR o1 :: vR o0 :: st) x Q ↔ sml st = true ∧ 7 < r ∧ wpc 7 61 [vR o0, vR o1, vI z2] x (wk r 46 133 ls st Q) := (wp_u (show cd 46 133 = some (.invokestatic 299, 3, 61, 3, 7, 0) from rfl)).trans (g_stat (by decide) (by simp) rfl)
theorem u46_136 : wp r 46 136 [a0, a1, a2, a3, a4, a5, vI z] st x Q ↔ inI (z + 1) = true ∧ wp r 46 139 [a0, a1, a2, a3, a4, a5, vI (z + 1)] st x Q := (wp_u (show cd 46 136 = some (.iinc 6 1, 3, 0, 0, 0, 0) from rfl)).trans wq_if
theorem u46_139 : wp r 46 139 ls st x Q ↔ wp r 46 96 ls st x Q := (wp_u (show cd 46 139 = some (.goto (-43), 3, 96, 0, 0, 0) from rfl))
theorem u46_142 : wp r 46 142 [a0, a1, a2, a3, vI z, a5, a6] st x Q ↔ inI (z + 1) = true ∧ wp r 46 145 [a0, a1, a2, a3, vI (z + 1), a5, a6] st x Q := (wp_u (show cd 46 142 = some (.iinc 4 1, 3, 0, 0, 0, 0) from rfl)).trans wq_if
theorem u46_145 : wp r 46 145 ls st x Q ↔ wp r 46 64 ls st x Q := (wp_u (show cd 46 145 = some (.goto (-81), 3, 64, 0, 0, 0) from rfl))
theorem u46_148 : wp r 46 148 [vR o, a1, a2, a3, a4, a5, a6] st x Q ↔ wp r 46 149 [vR o, a1, a2, a3, a4, a5, a6] (vR o :: st) x Q := (wp_u (show cd 46 148 = some (.aload_n 0, 1, 0, 0, 0, 0) from rfl))
theorem u46_149 : wp r 46 149 ls (vA q :: st) x Q ↔ sbk 2 (hK x q) ∧ wp r 46 152 ls (vR (hR x q 20) :: st) x Q := (wp_u (show cd 46 149 = some (.getfield 284, 3, 2, 20, 5, 0) from rfl)).trans g_getR
theorem u46_152 : wp r 46 152 ls st x Q ↔ wp r 46 154 ls (vI 39 :: st) x Q := (wp_u (show cd 46 152 = some (.bipush 39, 2, 0, 0, 0, 0) from rfl))
theorem u46_154 : wp r 46 154 ls (vI z0 :: vA q :: st) x Q ↔ isk 10 (hK x q) ∧ sml st = true ∧ 6 < r ∧ wpc 6 140 [vA q, vI z0] x (wk r 46 154 ls st Q) := (wp_u (show cd 46 154 = some (.invokevirtual 273, 3, 140, 2, 6, 10) from rfl)).trans (g_virt rfl (by decide) (by simp) rfl)
theorem u46_157i : wp r 46 157 ls (vI z :: st) x Q ↔ wp r 46 158 ls st x Q := (wp_u (show cd 46 157 = some (.pop, 1, 0, 0, 0, 0) from rfl))
theorem u46_157 : wp r 46 157 ls (vR o :: st) x Q ↔ wp r 46 158 ls st x Q := (wp_u (show cd 46 157 = some (.pop, 1, 0, 0, 0, 0) from rfl))
theorem u46_158 : wp r 46 158 [a0, vI z, a2, a3, a4, a5, a6] st x Q ↔ inI (z + 1) = true ∧ wp r 46 161 [a0, vI (z + 1), a2, a3, a4, a5, a6] st x Q := (wp_u (show cd 46 158 = some (.iinc 1 1, 3, 0, 0, 0, 0) from rfl)).trans wq_if
theorem u46_161 : wp r 46 161 ls st x Q ↔ wp r 46 2 ls st x Q := (wp_u (show cd 46 161 = some (.goto (-159), 3, 2, 0, 0, 0) from rfl))
theorem u46_164 : wp r 46 164 ls [] x Q ↔ Q (.inl none) x := (wp_u (show cd 46 164 = some (.return_, 1, 0, 0, 0, 0) from rfl))
theorem e46 : wpc r 46 [vR o0] x Q ↔ wp r 46 0 [vR o0, vL jk, vL jk, vL jk, vL jk, vL jk, vL jk] [] x Q := Iff.rfl
/-! 47 D_reportAll -/
theorem u47_0 : wp r 47 0 [vR o, a1, a2] st x Q ↔ wp r 47 1 [vR o, a1, a2] (vR o :: st) x Q := (wp_u (show cd 47 0 = some (.aload_n 0, 1, 0, 0, 0, 0) from rfl))
theorem u47_1 : wp r 47 1 ls st x Q ↔ wp r 47 3 ls (vI 73 :: st) x Q := (wp_u (show cd 47 1 = some (.bipush 73, 2, 0, 0, 0, 0) from rfl))
theorem u47_3 : wp r 47 3 ls st x Q ↔ wp r 47 4 ls (vI 0 :: st) x Q := (wp_u (show cd 47 3 = some (.iconst 0, 1, 0, 0, 0, 0) from rfl))
theorem u47_4 : wp r 47 4 ls st x Q ↔ wp r 47 5 ls (vI 2 :: st) x Q := (wp_u (show cd 47 4 = some (.iconst 2, 1, 0, 0, 0, 0) from rfl))
theorem u47_5 : wp r 47 5 [vR o, a1, a2] st x Q ↔ wp r 47 6 [vR o, a1, a2] (vR o :: st) x Q := (wp_u (show cd 47 5 = some (.aload_n 0, 1, 0, 0, 0, 0) from rfl))
theorem u47_6 : wp r 47 6 ls (vA q :: st) x Q ↔ sbk 2 (hK x q) ∧ wp r 47 9 ls (vI (hI x q 19) :: st) x Q := (wp_u (show cd 47 6 = some (.getfield 221, 3, 2, 19, 0, 0) from rfl)).trans g_getI
theorem u47_9 : wp r 47 9 ls st x Q ↔ wp r 47 10 ls (vI (-1) :: st) x Q := (wp_u (show cd 47 9 = some (.iconst (-1), 1, 0, 0, 0, 0) from rfl))
theorem u47_10 : wp r 47 10 ls (vI z5 :: vI z4 :: vI z3 :: vI z2 :: vI z1 :: vR o0 :: st) x Q ↔ sml st = true ∧ 8 < r ∧ wpc 8 62 [vR o0, vI z1, vI z2, vI z3, vI z4, vI z5] x (wk r 47 10 ls st Q) := (wp_u (show cd 47 10 = some (.invokestatic 313, 3, 62, 6, 8, 0) from rfl)).trans (g_stat (by decide) (by simp) rfl)
theorem u47_13 : wp r 47 13 ls st x Q ↔ wp r 47 14 ls (vI (-1) :: st) x Q := (wp_u (show cd 47 13 = some (.iconst (-1), 1, 0, 0, 0, 0) from rfl))
theorem u47_14 : wp r 47 14 [a0, a1, a2] (vI z :: st) x Q ↔ wp r 47 15 [a0, vI z, a2] st x Q := (wp_u (show cd 47 14 = some (.istore_n 1, 1, 0, 0, 0, 0) from rfl))
theorem u47_15 : wp r 47 15 ls st x Q ↔ wp r 47 16 ls (vI 0 :: st) x Q := (wp_u (show cd 47 15 = some (.iconst 0, 1, 0, 0, 0, 0) from rfl))
theorem u47_16 : wp r 47 16 [a0, a1, a2] (vI z :: st) x Q ↔ wp r 47 17 [a0, a1, vI z] st x Q := (wp_u (show cd 47 16 = some (.istore_n 2, 1, 0, 0, 0, 0) from rfl))
theorem u47_17 : wp r 47 17 [a0, a1, vI z] st x Q ↔ wp r 47 18 [a0, a1, vI z] (vI z :: st) x Q := (wp_u (show cd 47 17 = some (.iload_n 2, 1, 0, 0, 0, 0) from rfl))
theorem u47_18 : wp r 47 18 [vR o, a1, a2] st x Q ↔ wp r 47 19 [vR o, a1, a2] (vR o :: st) x Q := (wp_u (show cd 47 18 = some (.aload_n 0, 1, 0, 0, 0, 0) from rfl))
theorem u47_19 : wp r 47 19 ls (vA q :: st) x Q ↔ sbk 2 (hK x q) ∧ wp r 47 22 ls (vI (hI x q 15) :: st) x Q := (wp_u (show cd 47 19 = some (.getfield 180, 3, 2, 15, 0, 0) from rfl)).trans g_getI
theorem u47_22 : wp r 47 22 ls (vI w :: vI z :: st) x Q ↔ if w ≤ z then wp r 47 93 ls st x Q else wp r 47 25 ls st x Q := (wp_u (show cd 47 22 = some (.if_icmp .ge 71, 3, 93, 0, 0, 0) from rfl)).trans wq_d
theorem u47_25 : wp r 47 25 [vR o, a1, a2] st x Q ↔ wp r 47 26 [vR o, a1, a2] (vR o :: st) x Q := (wp_u (show cd 47 25 = some (.aload_n 0, 1, 0, 0, 0, 0) from rfl))
theorem u47_26 : wp r 47 26 ls (vA q :: st) x Q ↔ sbk 2 (hK x q) ∧ wp r 47 29 ls (vR (hR x q 12) :: st) x Q := (wp_u (show cd 47 26 = some (.getfield 201, 3, 2, 12, 5, 0) from rfl)).trans g_getR
theorem u47_29 : wp r 47 29 [a0, a1, vI z] st x Q ↔ wp r 47 30 [a0, a1, vI z] (vI z :: st) x Q := (wp_u (show cd 47 29 = some (.iload_n 2, 1, 0, 0, 0, 0) from rfl))
theorem u47_30 : wp r 47 30 ls (vI i :: vA q :: st) x Q ↔ ldk 20 (hK x q) i ∧ wp r 47 31 ls (vI (hI x q i) :: st) x Q := (wp_u (show cd 47 30 = some (.iaload, 1, 0, 0, 0, 0) from rfl)).trans g_ldI
theorem u47_31 : wp r 47 31 [a0, vI z, a2] st x Q ↔ wp r 47 32 [a0, vI z, a2] (vI z :: st) x Q := (wp_u (show cd 47 31 = some (.iload_n 1, 1, 0, 0, 0, 0) from rfl))
theorem u47_32 : wp r 47 32 ls (vI w :: vI z :: st) x Q ↔ if z = w then wp r 47 62 ls st x Q else wp r 47 35 ls st x Q := (wp_u (show cd 47 32 = some (.if_icmp .eq 30, 3, 62, 0, 0, 0) from rfl)).trans wq_d
theorem u47_35 : wp r 47 35 [vR o, a1, a2] st x Q ↔ wp r 47 36 [vR o, a1, a2] (vR o :: st) x Q := (wp_u (show cd 47 35 = some (.aload_n 0, 1, 0, 0, 0, 0) from rfl))
theorem u47_36 : wp r 47 36 ls (vA q :: st) x Q ↔ sbk 2 (hK x q) ∧ wp r 47 39 ls (vR (hR x q 12) :: st) x Q := (wp_u (show cd 47 36 = some (.getfield 201, 3, 2, 12, 5, 0) from rfl)).trans g_getR
theorem u47_39 : wp r 47 39 [a0, a1, vI z] st x Q ↔ wp r 47 40 [a0, a1, vI z] (vI z :: st) x Q := (wp_u (show cd 47 39 = some (.iload_n 2, 1, 0, 0, 0, 0) from rfl))
theorem u47_40 : wp r 47 40 ls (vI i :: vA q :: st) x Q ↔ ldk 20 (hK x q) i ∧ wp r 47 41 ls (vI (hI x q i) :: st) x Q := (wp_u (show cd 47 40 = some (.iaload, 1, 0, 0, 0, 0) from rfl)).trans g_ldI
theorem u47_41 : wp r 47 41 [a0, a1, a2] (vI z :: st) x Q ↔ wp r 47 42 [a0, vI z, a2] st x Q := (wp_u (show cd 47 41 = some (.istore_n 1, 1, 0, 0, 0, 0) from rfl))
theorem u47_42 : wp r 47 42 [vR o, a1, a2] st x Q ↔ wp r 47 43 [vR o, a1, a2] (vR o :: st) x Q := (wp_u (show cd 47 42 = some (.aload_n 0, 1, 0, 0, 0, 0) from rfl))
theorem u47_43 : wp r 47 43 ls st x Q ↔ wp r 47 45 ls (vI 70 :: st) x Q := (wp_u (show cd 47 43 = some (.bipush 70, 2, 0, 0, 0, 0) from rfl))
theorem u47_45 : wp r 47 45 [vR o, a1, a2] st x Q ↔ wp r 47 46 [vR o, a1, a2] (vR o :: st) x Q := (wp_u (show cd 47 45 = some (.aload_n 0, 1, 0, 0, 0, 0) from rfl))
theorem u47_46 : wp r 47 46 ls (vA q :: st) x Q ↔ sbk 2 (hK x q) ∧ wp r 47 49 ls (vR (hR x q 16) :: st) x Q := (wp_u (show cd 47 46 = some (.getfield 207, 3, 2, 16, 5, 0) from rfl)).trans g_getR
theorem u47_49 : wp r 47 49 [a0, vI z, a2] st x Q ↔ wp r 47 50 [a0, vI z, a2] (vI z :: st) x Q := (wp_u (show cd 47 49 = some (.iload_n 1, 1, 0, 0, 0, 0) from rfl))
theorem u47_50 : wp r 47 50 ls (vI i :: vA q :: st) x Q ↔ ldk 20 (hK x q) i ∧ wp r 47 51 ls (vI (hI x q i) :: st) x Q := (wp_u (show cd 47 50 = some (.iaload, 1, 0, 0, 0, 0) from rfl)).trans g_ldI
theorem u47_51 : wp r 47 51 ls st x Q ↔ wp r 47 52 ls (vI 0 :: st) x Q := (wp_u (show cd 47 51 = some (.iconst 0, 1, 0, 0, 0, 0) from rfl))
theorem u47_52 : wp r 47 52 [vR o, a1, a2] st x Q ↔ wp r 47 53 [vR o, a1, a2] (vR o :: st) x Q := (wp_u (show cd 47 52 = some (.aload_n 0, 1, 0, 0, 0, 0) from rfl))
theorem u47_53 : wp r 47 53 ls (vA q :: st) x Q ↔ sbk 2 (hK x q) ∧ wp r 47 56 ls (vR (hR x q 17) :: st) x Q := (wp_u (show cd 47 53 = some (.getfield 210, 3, 2, 17, 5, 0) from rfl)).trans g_getR
theorem u47_56 : wp r 47 56 [a0, vI z, a2] st x Q ↔ wp r 47 57 [a0, vI z, a2] (vI z :: st) x Q := (wp_u (show cd 47 56 = some (.iload_n 1, 1, 0, 0, 0, 0) from rfl))
theorem u47_57 : wp r 47 57 ls (vI i :: vA q :: st) x Q ↔ ldk 20 (hK x q) i ∧ wp r 47 58 ls (vI (hI x q i) :: st) x Q := (wp_u (show cd 47 57 = some (.iaload, 1, 0, 0, 0, 0) from rfl)).trans g_ldI
theorem u47_58 : wp r 47 58 ls st x Q ↔ wp r 47 59 ls (vI (-1) :: st) x Q := (wp_u (show cd 47 58 = some (.iconst (-1), 1, 0, 0, 0, 0) from rfl))
theorem u47_59 : wp r 47 59 ls (vI z5 :: vI z4 :: vI z3 :: vI z2 :: vI z1 :: vR o0 :: st) x Q ↔ sml st = true ∧ 8 < r ∧ wpc 8 62 [vR o0, vI z1, vI z2, vI z3, vI z4, vI z5] x (wk r 47 59 ls st Q) := (wp_u (show cd 47 59 = some (.invokestatic 313, 3, 62, 6, 8, 0) from rfl)).trans (g_stat (by decide) (by simp) rfl)
theorem u47_62 : wp r 47 62 [vR o, a1, a2] st x Q ↔ wp r 47 63 [vR o, a1, a2] (vR o :: st) x Q := (wp_u (show cd 47 62 = some (.aload_n 0, 1, 0, 0, 0, 0) from rfl))
theorem u47_63 : wp r 47 63 ls st x Q ↔ wp r 47 65 ls (vI 77 :: st) x Q := (wp_u (show cd 47 63 = some (.bipush 77, 2, 0, 0, 0, 0) from rfl))
theorem u47_65 : wp r 47 65 [vR o, a1, a2] st x Q ↔ wp r 47 66 [vR o, a1, a2] (vR o :: st) x Q := (wp_u (show cd 47 65 = some (.aload_n 0, 1, 0, 0, 0, 0) from rfl))
theorem u47_66 : wp r 47 66 ls (vA q :: st) x Q ↔ sbk 2 (hK x q) ∧ wp r 47 69 ls (vR (hR x q 10) :: st) x Q := (wp_u (show cd 47 66 = some (.getfield 198, 3, 2, 10, 5, 0) from rfl)).trans g_getR
theorem u47_69 : wp r 47 69 [a0, a1, vI z] st x Q ↔ wp r 47 70 [a0, a1, vI z] (vI z :: st) x Q := (wp_u (show cd 47 69 = some (.iload_n 2, 1, 0, 0, 0, 0) from rfl))
theorem u47_70 : wp r 47 70 ls (vI i :: vA q :: st) x Q ↔ ldk 20 (hK x q) i ∧ wp r 47 71 ls (vI (hI x q i) :: st) x Q := (wp_u (show cd 47 70 = some (.iaload, 1, 0, 0, 0, 0) from rfl)).trans g_ldI
theorem u47_71 : wp r 47 71 ls st x Q ↔ wp r 47 72 ls (vI 0 :: st) x Q := (wp_u (show cd 47 71 = some (.iconst 0, 1, 0, 0, 0, 0) from rfl))
theorem u47_72 : wp r 47 72 [vR o, a1, a2] st x Q ↔ wp r 47 73 [vR o, a1, a2] (vR o :: st) x Q := (wp_u (show cd 47 72 = some (.aload_n 0, 1, 0, 0, 0, 0) from rfl))
theorem u47_73 : wp r 47 73 ls (vA q :: st) x Q ↔ sbk 2 (hK x q) ∧ wp r 47 76 ls (vR (hR x q 13) :: st) x Q := (wp_u (show cd 47 73 = some (.getfield 239, 3, 2, 13, 5, 0) from rfl)).trans g_getR
theorem u47_76 : wp r 47 76 [a0, a1, vI z] st x Q ↔ wp r 47 77 [a0, a1, vI z] (vI z :: st) x Q := (wp_u (show cd 47 76 = some (.iload_n 2, 1, 0, 0, 0, 0) from rfl))
theorem u47_77 : wp r 47 77 ls (vI i :: vA q :: st) x Q ↔ ldk 20 (hK x q) i ∧ wp r 47 78 ls (vI (hI x q i) :: st) x Q := (wp_u (show cd 47 77 = some (.iaload, 1, 0, 0, 0, 0) from rfl)).trans g_ldI
theorem u47_78 : wp r 47 78 [vR o, a1, a2] st x Q ↔ wp r 47 79 [vR o, a1, a2] (vR o :: st) x Q := (wp_u (show cd 47 78 = some (.aload_n 0, 1, 0, 0, 0, 0) from rfl))
theorem u47_79 : wp r 47 79 ls (vA q :: st) x Q ↔ sbk 2 (hK x q) ∧ wp r 47 82 ls (vR (hR x q 14) :: st) x Q := (wp_u (show cd 47 79 = some (.getfield 224, 3, 2, 14, 5, 0) from rfl)).trans g_getR
theorem u47_82 : wp r 47 82 [a0, a1, vI z] st x Q ↔ wp r 47 83 [a0, a1, vI z] (vI z :: st) x Q := (wp_u (show cd 47 82 = some (.iload_n 2, 1, 0, 0, 0, 0) from rfl))
theorem u47_83 : wp r 47 83 ls (vI i :: vA q :: st) x Q ↔ ldk 20 (hK x q) i ∧ wp r 47 84 ls (vI (hI x q i) :: st) x Q := (wp_u (show cd 47 83 = some (.iaload, 1, 0, 0, 0, 0) from rfl)).trans g_ldI
theorem u47_84 : wp r 47 84 ls (vI z5 :: vI z4 :: vI z3 :: vI z2 :: vI z1 :: vR o0 :: st) x Q ↔ sml st = true ∧ 8 < r ∧ wpc 8 62 [vR o0, vI z1, vI z2, vI z3, vI z4, vI z5] x (wk r 47 84 ls st Q) := (wp_u (show cd 47 84 = some (.invokestatic 313, 3, 62, 6, 8, 0) from rfl)).trans (g_stat (by decide) (by simp) rfl)
theorem u47_87 : wp r 47 87 [a0, a1, vI z] st x Q ↔ inI (z + 1) = true ∧ wp r 47 90 [a0, a1, vI (z + 1)] st x Q := (wp_u (show cd 47 87 = some (.iinc 2 1, 3, 0, 0, 0, 0) from rfl)).trans wq_if
theorem u47_90 : wp r 47 90 ls st x Q ↔ wp r 47 17 ls st x Q := (wp_u (show cd 47 90 = some (.goto (-73), 3, 17, 0, 0, 0) from rfl))
theorem u47_93 : wp r 47 93 ls [] x Q ↔ Q (.inl none) x := (wp_u (show cd 47 93 = some (.return_, 1, 0, 0, 0, 0) from rfl))
theorem e47 : wpc r 47 [vR o0] x Q ↔ wp r 47 0 [vR o0, vL jk, vL jk] [] x Q := Iff.rfl
end
