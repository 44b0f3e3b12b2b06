/-! rules of instructions, printed by gen/gen05.py -/
section
variable {r q p d s : Nat} {a0 a1 a2 a3 a4 a5 a6 a7 a8 b0 b1 b2 b3 b4 b5 b6 : AV} {ls st : List AV} {x : HP} {Q : AO → HP → Prop} {z w i n sp dp z0 z1 z2 z3 z4 z5 : Int} {o o0 o1 o2 o3 o4 o5 : Option Nat}
/-! 112 M_check -/
theorem u112_0 : wp r 112 0 [vR o, a1, a2, a3, a4, a5, a6] st x Q ↔ wp r 112 1 [vR o, a1, a2, a3, a4, a5, a6] (vR o :: st) x Q := (wp_u (show cd 112 0 = some (.aload_n 0, 1, 0, 0, 0, 0) from rfl))
theorem u112_1 : wp r 112 1 [a0, a1, a2, vI z, a4, a5, a6] st x Q ↔ wp r 112 2 [a0, a1, a2, vI z, a4, a5, a6] (vI z :: st) x Q := (wp_u (show cd 112 1 = some (.iload_n 3, 1, 0, 0, 0, 0) from rfl))
theorem u112_2 : wp r 112 2 ls st x Q ↔ wp r 112 3 ls (vI 1 :: st) x Q := (wp_u (show cd 112 2 = some (.iconst 1, 1, 0, 0, 0, 0) from rfl))
theorem u112_3 : wp r 112 3 ls (vI z1 :: vI z0 :: vA q :: st) x Q ↔ isk 9 (hK x q) ∧ sml st = true ∧ 1 < r ∧ wpc 1 120 [vA q, vI z0, vI z1] x (wk r 112 3 ls st Q) := (wp_u (show cd 112 3 = some (.invokevirtual 205, 3, 120, 3, 1, 9) from rfl)).trans (g_virt rfl (by decide) (by simp) rfl)
theorem u112_6 : wp r 112 6 [a0, a1, a2, a3, a4, a5, a6] (vI z :: st) x Q ↔ wp r 112 8 [a0, a1, a2, a3, a4, vI z, a6] st x Q := (wp_u (show cd 112 6 = some (.istore 5, 2, 0, 0, 0, 0) from rfl))
theorem u112_8 : wp r 112 8 [vR o, a1, a2, a3, a4, a5, a6] st x Q ↔ wp r 112 9 [vR o, a1, a2, a3, a4, a5, a6] (vR o :: st) x Q := (wp_u (show cd 112 8 = some (.aload_n 0, 1, 0, 0, 0, 0) from rfl))
theorem u112_9 : wp r 112 9 [a0, a1, a2, a3, a4, vI z, a6] st x Q ↔ wp r 112 11 [a0, a1, a2, a3, a4, vI z, a6] (vI z :: st) x Q := (wp_u (show cd 112 9 = some (.iload 5, 2, 0, 0, 0, 0) from rfl))
theorem u112_11 : wp r 112 11 ls (vI z0 :: vA q :: st) x Q ↔ isk 9 (hK x q) ∧ sml st = true ∧ 1 < r ∧ wpc 1 115 [vA q, vI z0] x (wk r 112 11 ls st Q) := (wp_u (show cd 112 11 = some (.invokevirtual 202, 3, 115, 2, 1, 9) from rfl)).trans (g_virt rfl (by decide) (by simp) rfl)
theorem u112_14 : wp r 112 14 ls (vI z :: st) x Q ↔ if z ≤ 0 then wp r 112 36 ls st x Q else wp r 112 17 ls st x Q := (wp_u (show cd 112 14 = some (.ifCond .le 22, 3, 36, 0, 0, 0) from rfl)).trans wq_d
theorem u112_17 : wp r 112 17 [vR o, a1, a2, a3, a4, a5, a6] st x Q ↔ wp r 112 18 [vR o, a1, a2, a3, a4, a5, a6] (vR o :: st) x Q := (wp_u (show cd 112 17 = some (.aload_n 0, 1, 0, 0, 0, 0) from rfl))
theorem u112_18 : wp r 112 18 [a0, a1, a2, a3, a4, vI z, a6] st x Q ↔ wp r 112 20 [a0, a1, a2, a3, a4, vI z, a6] (vI z :: st) x Q := (wp_u (show cd 112 18 = some (.iload 5, 2, 0, 0, 0, 0) from rfl))
theorem u112_20 : wp r 112 20 [vR o, a1, a2, a3, a4, a5, a6] st x Q ↔ wp r 112 21 [vR o, a1, a2, a3, a4, a5, a6] (vR o :: st) x Q := (wp_u (show cd 112 20 = some (.aload_n 0, 1, 0, 0, 0, 0) from rfl))
theorem u112_21 : wp r 112 21 [a0, vI z, a2, a3, a4, a5, a6] st x Q ↔ wp r 112 22 [a0, vI z, a2, a3, a4, a5, a6] (vI z :: st) x Q := (wp_u (show cd 112 21 = some (.iload_n 1, 1, 0, 0, 0, 0) from rfl))
theorem u112_22 : wp r 112 22 [a0, a1, vI z, a3, a4, a5, a6] st x Q ↔ wp r 112 23 [a0, a1, vI z, a3, a4, a5, a6] (vI z :: st) x Q := (wp_u (show cd 112 22 = some (.iload_n 2, 1, 0, 0, 0, 0) from rfl))
theorem u112_23 : wp r 112 23 ls (vI z1 :: vI z0 :: vA q :: st) x Q ↔ isk 9 (hK x q) ∧ sml st = true ∧ 1 < r ∧ wpc 1 120 [vA q, vI z0, vI z1] x (wk r 112 23 ls st Q) := (wp_u (show cd 112 23 = some (.invokevirtual 205, 3, 120, 3, 1, 9) from rfl)).trans (g_virt rfl (by decide) (by simp) rfl)
theorem u112_26 : wp r 112 26 ls (vI z1 :: vI z0 :: vA q :: st) x Q ↔ isk 9 (hK x q) ∧ sml st = true ∧ 2 < r ∧ wpc 2 121 [vA q, vI z0, vI z1] x (wk r 112 26 ls st Q) := (wp_u (show cd 112 26 = some (.invokevirtual 208, 3, 121, 3, 2, 9) from rfl)).trans (g_virt rfl (by decide) (by simp) rfl)
theorem u112_29 : wp r 112 29 ls (vI z :: st) x Q ↔ if z = 0 then wp r 112 36 ls st x Q else wp r 112 32 ls st x Q := (wp_u (show cd 112 29 = some (.ifCond .eq 7, 3, 36, 0, 0, 0) from rfl)).trans wq_d
theorem u112_32 : wp r 112 32 ls st x Q ↔ wp r 112 33 ls (vI 1 :: st) x Q := (wp_u (show cd 112 32 = some (.iconst 1, 1, 0, 0, 0, 0) from rfl))
theorem u112_33 : wp r 112 33 ls st x Q ↔ wp r 112 37 ls st x Q := (wp_u (show cd 112 33 = some (.goto 4, 3, 37, 0, 0, 0) from rfl))
theorem u112_36 : wp r 112 36 ls st x Q ↔ wp r 112 37 ls (vI 0 :: st) x Q := (wp_u (show cd 112 36 = some (.iconst 0, 1, 0, 0, 0, 0) from rfl))
theorem u112_37 : wp r 112 37 [a0, a1, a2, a3, a4, a5, a6] (vI z :: st) x Q ↔ wp r 112 39 [a0, a1, a2, a3, a4, a5, vI z] st x Q := (wp_u (show cd 112 37 = some (.istore 6, 2, 0, 0, 0, 0) from rfl))
theorem u112_39 : wp r 112 39 [a0, a1, a2, a3, a4, a5, vI z] st x Q ↔ wp r 112 41 [a0, a1, a2, a3, a4, a5, vI z] (vI z :: st) x Q := (wp_u (show cd 112 39 = some (.iload 6, 2, 0, 0, 0, 0) from rfl))
theorem u112_41 : wp r 112 41 ls (vI z :: st) x Q ↔ if z = 0 then wp r 112 48 ls st x Q else wp r 112 44 ls st x Q := (wp_u (show cd 112 41 = some (.ifCond .eq 7, 3, 48, 0, 0, 0) from rfl)).trans wq_d
theorem u112_44 : wp r 112 44 ls st x Q ↔ wp r 112 45 ls (vI 0 :: st) x Q := (wp_u (show cd 112 44 = some (.iconst 0, 1, 0, 0, 0, 0) from rfl))
theorem u112_45 : wp r 112 45 ls st x Q ↔ wp r 112 49 ls st x Q := (wp_u (show cd 112 45 = some (.goto 4, 3, 49, 0, 0, 0) from rfl))
theorem u112_48 : wp r 112 48 ls st x Q ↔ wp r 112 49 ls (vI 1 :: st) x Q := (wp_u (show cd 112 48 = some (.iconst 1, 1, 0, 0, 0, 0) from rfl))
theorem u112_49 : wp r 112 49 [vR o, a1, a2, a3, a4, a5, a6] st x Q ↔ wp r 112 50 [vR o, a1, a2, a3, a4, a5, a6] (vR o :: st) x Q := (wp_u (show cd 112 49 = some (.aload_n 0, 1, 0, 0, 0, 0) from rfl))
theorem u112_50 : wp r 112 50 [vR o, a1, a2, a3, a4, a5, a6] st x Q ↔ wp r 112 51 [vR o, a1, a2, a3, a4, a5, a6] (vR o :: st) x Q := (wp_u (show cd 112 50 = some (.aload_n 0, 1, 0, 0, 0, 0) from rfl))
theorem u112_51 : wp r 112 51 [a0, a1, a2, vI z, a4, a5, a6] st x Q ↔ wp r 112 52 [a0, a1, a2, vI z, a4, a5, a6] (vI z :: st) x Q := (wp_u (show cd 112 51 = some (.iload_n 3, 1, 0, 0, 0, 0) from rfl))
theorem u112_52 : wp r 112 52 ls st x Q ↔ wp r 112 53 ls (vI 0 :: st) x Q := (wp_u (show cd 112 52 = some (.iconst 0, 1, 0, 0, 0, 0) from rfl))
theorem u112_53 : wp r 112 53 ls (vI z1 :: vI z0 :: vA q :: st) x Q ↔ isk 9 (hK x q) ∧ sml st = true ∧ 1 < r ∧ wpc 1 120 [vA q, vI z0, vI z1] x (wk r 112 53 ls st Q) := (wp_u (show cd 112 53 = some (.invokevirtual 205, 3, 120, 3, 1, 9) from rfl)).trans (g_virt rfl (by decide) (by simp) rfl)
theorem u112_56 : wp r 112 56 [a0, a1, a2, a3, vI z, a5, a6] st x Q ↔ wp r 112 58 [a0, a1, a2, a3, vI z, a5, a6] (vI z :: st) x Q := (wp_u (show cd 112 56 = some (.iload 4, 2, 0, 0, 0, 0) from rfl))
theorem u112_58 : wp r 112 58 ls (vI z1 :: vI z0 :: vA q :: st) x Q ↔ isk 9 (hK x q) ∧ sml st = true ∧ 2 < r ∧ wpc 2 125 [vA q, vI z0, vI z1] x (wk r 112 58 ls st Q) := (wp_u (show cd 112 58 = some (.invokevirtual 212, 3, 125, 3, 2, 9) from rfl)).trans (g_virt rfl (by decide) (by simp) rfl)
theorem u112_61 : wp r 112 61 ls (vI z :: st) x Q ↔ if z = 0 then wp r 112 68 ls st x Q else wp r 112 64 ls st x Q := (wp_u (show cd 112 61 = some (.ifCond .eq 7, 3, 68, 0, 0, 0) from rfl)).trans wq_d
theorem u112_64 : wp r 112 64 ls st x Q ↔ wp r 112 65 ls (vI 0 :: st) x Q := (wp_u (show cd 112 64 = some (.iconst 0, 1, 0, 0, 0, 0) from rfl))
theorem u112_65 : wp r 112 65 ls st x Q ↔ wp r 112 69 ls st x Q := (wp_u (show cd 112 65 = some (.goto 4, 3, 69, 0, 0, 0) from rfl))
theorem u112_68 : wp r 112 68 ls st x Q ↔ wp r 112 69 ls (vI 2 :: st) x Q := (wp_u (show cd 112 68 = some (.iconst 2, 1, 0, 0, 0, 0) from rfl))
theorem u112_69 : wp r 112 69 ls (vI w :: vI z :: st) x Q ↔ inI (z + w) = true ∧ wp r 112 70 ls (vI (z + w) :: st) x Q := (wp_u (show cd 112 69 = some (.iadd, 1, 0, 0, 0, 0) from rfl)).trans wq_if
theorem u112_70 : wp r 112 70 ls [vI z] x Q ↔ Q (.inl (some (vI z))) x := (wp_u (show cd 112 70 = some (.ireturn, 1, 0, 0, 0, 0) from rfl))
theorem e112 : wpc r 112 [vA q, vI z0, vI z1, vI z2, vI z3] x Q ↔ wp r 112 0 [vA q, vI z0, vI z1, vI z2, vI z3, vL jk, vL jk] [] x Q := Iff.rfl
/-! 113 M_writePrint -/
theorem u113_0 : wp r 113 0 [vR o, a1, a2, a3, a4, a5] st x Q ↔ wp r 113 1 [vR o, a1, a2, a3, a4, a5] (vR o :: st) x Q := (wp_u (show cd 113 0 = some (.aload_n 0, 1, 0, 0, 0, 0) from rfl))
theorem u113_1 : wp r 113 1 ls st x Q ↔ wp r 113 2 ls (vI 0 :: st) x Q := (wp_u (show cd 113 1 = some (.iconst 0, 1, 0, 0, 0, 0) from rfl))
theorem u113_2 : wp r 113 2 ls (vI z :: vA q :: st) x Q ↔ sbk 9 (hK x q) ∧ rg 4 z = true ∧ wp r 113 5 ls st (stI x q 52 z) Q := (wp_u (show cd 113 2 = some (.putfield 269, 3, 9, 52, 4, 0) from rfl)).trans g_putI
theorem u113_5 : wp r 113 5 [vR o, a1, a2, a3, a4, a5] st x Q ↔ wp r 113 6 [vR o, a1, a2, a3, a4, a5] (vR o :: st) x Q := (wp_u (show cd 113 5 = some (.aload_n 0, 1, 0, 0, 0, 0) from rfl))
theorem u113_6 : wp r 113 6 ls st x Q ↔ wp r 113 7 ls (vI 0 :: st) x Q := (wp_u (show cd 113 6 = some (.iconst 0, 1, 0, 0, 0, 0) from rfl))
theorem u113_7 : wp r 113 7 ls (vI z :: vA q :: st) x Q ↔ sbk 9 (hK x q) ∧ wp r 113 10 ls st (stI x q 48 z) Q := (wp_u (show cd 113 7 = some (.putfield 275, 3, 9, 48, 0, 0) from rfl)).trans g_putI0
theorem u113_10 : wp r 113 10 ls st x Q ↔ wp r 113 11 ls (vI 0 :: st) x Q := (wp_u (show cd 113 10 = some (.iconst 0, 1, 0, 0, 0, 0) from rfl))
theorem u113_11 : wp r 113 11 [a0, a1, a2, a3, a4, a5] (vI z :: st) x Q ↔ wp r 113 12 [a0, vI z, a2, a3, a4, a5] st x Q := (wp_u (show cd 113 11 = some (.istore_n 1, 1, 0, 0, 0, 0) from rfl))
theorem u113_12 : wp r 113 12 [a0, vI z, a2, a3, a4, a5] st x Q ↔ wp r 113 13 [a0, vI z, a2, a3, a4, a5] (vI z :: st) x Q := (wp_u (show cd 113 12 = some (.iload_n 1, 1, 0, 0, 0, 0) from rfl))
theorem u113_13 : wp r 113 13 [vR o, a1, a2, a3, a4, a5] st x Q ↔ wp r 113 14 [vR o, a1, a2, a3, a4, a5] (vR o :: st) x Q := (wp_u (show cd 113 13 = some (.aload_n 0, 1, 0, 0, 0, 0) from rfl))
theorem u113_14 : wp r 113 14 ls (vA q :: st) x Q ↔ sbk 9 (hK x q) ∧ wp r 113 17 ls (vI (hI x q 24) :: st) x Q := (wp_u (show cd 113 14 = some (.getfield 187, 3, 9, 24, 0, 0) from rfl)).trans g_getI
theorem u113_17 : wp r 113 17 ls (vI w :: vI z :: st) x Q ↔ if w ≤ z then wp r 113 148 ls st x Q else wp r 113 20 ls st x Q := (wp_u (show cd 113 17 = some (.if_icmp .ge 131, 3, 148, 0, 0, 0) from rfl)).trans wq_d
theorem u113_20 : wp r 113 20 [vR o, a1, a2, a3, a4, a5] st x Q ↔ wp r 113 21 [vR o, a1, a2, a3, a4, a5] (vR o :: st) x Q := (wp_u (show cd 113 20 = some (.aload_n 0, 1, 0, 0, 0, 0) from rfl))
theorem u113_21 : wp r 113 21 [vR o, a1, a2, a3, a4, a5] st x Q ↔ wp r 113 22 [vR o, a1, a2, a3, a4, a5] (vR o :: st) x Q := (wp_u (show cd 113 21 = some (.aload_n 0, 1, 0, 0, 0, 0) from rfl))
theorem u113_22 : wp r 113 22 ls (vA q :: st) x Q ↔ sbk 9 (hK x q) ∧ wp r 113 25 ls (vR (hR x q 25) :: st) x Q := (wp_u (show cd 113 22 = some (.getfield 51, 3, 9, 25, 5, 0) from rfl)).trans g_getR
theorem u113_25 : wp r 113 25 [a0, vI z, a2, a3, a4, a5] st x Q ↔ wp r 113 26 [a0, vI z, a2, a3, a4, a5] (vI z :: st) x Q := (wp_u (show cd 113 25 = some (.iload_n 1, 1, 0, 0, 0, 0) from rfl))
theorem u113_26 : wp r 113 26 ls (vI i :: vA q :: st) x Q ↔ ldk 20 (hK x q) i ∧ wp r 113 27 ls (vI (hI x q i) :: st) x Q := (wp_u (show cd 113 26 = some (.iaload, 1, 0, 0, 0, 0) from rfl)).trans g_ldI
theorem u113_27 : wp r 113 27 ls (vI z0 :: vA q :: st) x Q ↔ isk 9 (hK x q) ∧ sml st = true ∧ 2 < r ∧ wpc 2 126 [vA q, vI z0] x (wk r 113 27 ls st Q) := (wp_u (show cd 113 27 = some (.invokevirtual 281, 3, 126, 2, 2, 9) from rfl)).trans (g_virt rfl (by decide) (by simp) rfl)
theorem u113_30 : wp r 113 30 [vR o, a1, a2, a3, a4, a5] st x Q ↔ wp r 113 31 [vR o, a1, a2, a3, a4, a5] (vR o :: st) x Q := (wp_u (show cd 113 30 = some (.aload_n 0, 1, 0, 0, 0, 0) from rfl))
theorem u113_31 : wp r 113 31 ls (vA q :: st) x Q ↔ sbk 9 (hK x q) ∧ wp r 113 34 ls (vR (hR x q 26) :: st) x Q := (wp_u (show cd 113 31 = some (.getfield 54, 3, 9, 26, 5, 0) from rfl)).trans g_getR
theorem u113_34 : wp r 113 34 [a0, vI z, a2, a3, a4, a5] st x Q ↔ wp r 113 35 [a0, vI z, a2, a3, a4, a5] (vI z :: st) x Q := (wp_u (show cd 113 34 = some (.iload_n 1, 1, 0, 0, 0, 0) from rfl))
theorem u113_35 : wp r 113 35 ls st x Q ↔ wp r 113 36 ls (vI 1 :: st) x Q := (wp_u (show cd 113 35 = some (.iconst 1, 1, 0, 0, 0, 0) from rfl))
theorem u113_36 : wp r 113 36 ls (vI w :: vI z :: st) x Q ↔ inI (z + w) = true ∧ wp r 113 37 ls (vI (z + w) :: st) x Q := (wp_u (show cd 113 36 = some (.iadd, 1, 0, 0, 0, 0) from rfl)).trans wq_if
theorem u113_37 : wp r 113 37 ls (vI i :: vA q :: st) x Q ↔ ldk 20 (hK x q) i ∧ wp r 113 38 ls (vI (hI x q i) :: st) x Q := (wp_u (show cd 113 37 = some (.iaload, 1, 0, 0, 0, 0) from rfl)).trans g_ldI
theorem u113_38 : wp r 113 38 [a0, a1, a2, a3, a4, a5] (vI z :: st) x Q ↔ wp r 113 39 [a0, a1, vI z, a3, a4, a5] st x Q := (wp_u (show cd 113 38 = some (.istore_n 2, 1, 0, 0, 0, 0) from rfl))
theorem u113_39 : wp r 113 39 [a0, a1, vI z, a3, a4, a5] st x Q ↔ wp r 113 40 [a0, a1, vI z, a3, a4, a5] (vI z :: st) x Q := (wp_u (show cd 113 39 = some (.iload_n 2, 1, 0, 0, 0, 0) from rfl))
theorem u113_40 : wp r 113 40 [vR o, a1, a2, a3, a4, a5] st x Q ↔ wp r 113 41 [vR o, a1, a2, a3, a4, a5] (vR o :: st) x Q := (wp_u (show cd 113 40 = some (.aload_n 0, 1, 0, 0, 0, 0) from rfl))
theorem u113_41 : wp r 113 41 ls (vA q :: st) x Q ↔ sbk 9 (hK x q) ∧ wp r 113 44 ls (vR (hR x q 26) :: st) x Q := (wp_u (show cd 113 41 = some (.getfield 54, 3, 9, 26, 5, 0) from rfl)).trans g_getR
theorem u113_44 : wp r 113 44 [a0, vI z, a2, a3, a4, a5] st x Q ↔ wp r 113 45 [a0, vI z, a2, a3, a4, a5] (vI z :: st) x Q := (wp_u (show cd 113 44 = some (.iload_n 1, 1, 0, 0, 0, 0) from rfl))
theorem u113_45 : wp r 113 45 ls (vI i :: vA q :: st) x Q ↔ ldk 20 (hK x q) i ∧ wp r 113 46 ls (vI (hI x q i) :: st) x Q := (wp_u (show cd 113 45 = some (.iaload, 1, 0, 0, 0, 0) from rfl)).trans g_ldI
theorem u113_46 : wp r 113 46 ls (vI w :: vI z :: st) x Q ↔ if z ≤ w then wp r 113 65 ls st x Q else wp r 113 49 ls st x Q := (wp_u (show cd 113 46 = some (.if_icmp .le 19, 3, 65, 0, 0, 0) from rfl)).trans wq_d
theorem u113_49 : wp r 113 49 [vR o, a1, a2, a3, a4, a5] st x Q ↔ wp r 113 50 [vR o, a1, a2, a3, a4, a5] (vR o :: st) x Q := (wp_u (show cd 113 49 = some (.aload_n 0, 1, 0, 0, 0, 0) from rfl))
theorem u113_50 : wp r 113 50 [a0, a1, vI z, a3, a4, a5] st x Q ↔ wp r 113 51 [a0, a1, vI z, a3, a4, a5] (vI z :: st) x Q := (wp_u (show cd 113 50 = some (.iload_n 2, 1, 0, 0, 0, 0) from rfl))
theorem u113_51 : wp r 113 51 ls st x Q ↔ wp r 113 52 ls (vI 1 :: st) x Q := (wp_u (show cd 113 51 = some (.iconst 1, 1, 0, 0, 0, 0) from rfl))
theorem u113_52 : wp r 113 52 ls (vI w :: vI z :: st) x Q ↔ inI (z - w) = true ∧ wp r 113 53 ls (vI (z - w) :: st) x Q := (wp_u (show cd 113 52 = some (.isub, 1, 0, 0, 0, 0) from rfl)).trans wq_if
theorem u113_53 : wp r 113 53 ls (vI z0 :: vA q :: st) x Q ↔ isk 9 (hK x q) ∧ sml st = true ∧ 2 < r ∧ wpc 2 127 [vA q, vI z0] x (wk r 113 53 ls st Q) := (wp_u (show cd 113 53 = some (.invokevirtual 284, 3, 127, 2, 2, 9) from rfl)).trans (g_virt rfl (by decide) (by simp) rfl)
theorem u113_56 : wp r 113 56 ls (vI z :: st) x Q ↔ if z = 0 then wp r 113 59 ls st x Q else wp r 113 65 ls st x Q := (wp_u (show cd 113 56 = some (.ifCond .ne 9, 3, 65, 0, 0, 0) from rfl)).trans wq_dn
theorem u113_59 : wp r 113 59 [a0, a1, vI z, a3, a4, a5] st x Q ↔ inI (z + (-1)) = true ∧ wp r 113 62 [a0, a1, vI (z + (-1)), a3, a4, a5] st x Q := (wp_u (show cd 113 59 = some (.iinc 2 (-1), 3, 0, 0, 0, 0) from rfl)).trans wq_if
theorem u113_62 : wp r 113 62 ls st x Q ↔ wp r 113 39 ls st x Q := (wp_u (show cd 113 62 = some (.goto (-23), 3, 39, 0, 0, 0) from rfl))
theorem u113_65 : wp r 113 65 [vR o, a1, a2, a3, a4, a5] st x Q ↔ wp r 113 66 [vR o, a1, a2, a3, a4, a5] (vR o :: st) x Q := (wp_u (show cd 113 65 = some (.aload_n 0, 1, 0, 0, 0, 0) from rfl))
theorem u113_66 : wp r 113 66 ls (vA q :: st) x Q ↔ sbk 9 (hK x q) ∧ wp r 113 69 ls (vR (hR x q 26) :: st) x Q := (wp_u (show cd 113 66 = some (.getfield 54, 3, 9, 26, 5, 0) from rfl)).trans g_getR
theorem u113_69 : wp r 113 69 [a0, vI z, a2, a3, a4, a5] st x Q ↔ wp r 113 70 [a0, vI z, a2, a3, a4, a5] (vI z :: st) x Q := (wp_u (show cd 113 69 = some (.iload_n 1, 1, 0, 0, 0, 0) from rfl))
theorem u113_70 : wp r 113 70 ls (vI i :: vA q :: st) x Q ↔ ldk 20 (hK x q) i ∧ wp r 113 71 ls (vI (hI x q i) :: st) x Q := (wp_u (show cd 113 70 = some (.iaload, 1, 0, 0, 0, 0) from rfl)).trans g_ldI
theorem u113_71 : wp r 113 71 [a0, a1, a2, a3, a4, a5] (vI z :: st) x Q ↔ wp r 113 72 [a0, a1, a2, vI z, a4, a5] st x Q := (wp_u (show cd 113 71 = some (.istore_n 3, 1, 0, 0, 0, 0) from rfl))
theorem u113_72 : wp r 113 72 [a0, a1, a2, vI z, a4, a5] st x Q ↔ wp r 113 73 [a0, a1, a2, vI z, a4, a5] (vI z :: st) x Q := (wp_u (show cd 113 72 = some (.iload_n 3, 1, 0, 0, 0, 0) from rfl))
theorem u113_73 : wp r 113 73 [a0, a1, vI z, a3, a4, a5] st x Q ↔ wp r 113 74 [a0, a1, vI z, a3, a4, a5] (vI z :: st) x Q := (wp_u (show cd 113 73 = some (.iload_n 2, 1, 0, 0, 0, 0) from rfl))
theorem u113_74 : wp r 113 74 ls (vI w :: vI z :: st) x Q ↔ if w ≤ z then wp r 113 136 ls st x Q else wp r 113 77 ls st x Q := (wp_u (show cd 113 74 = some (.if_icmp .ge 62, 3, 136, 0, 0, 0) from rfl)).trans wq_d
theorem u113_77 : wp r 113 77 [vR o, a1, a2, a3, a4, a5] st x Q ↔ wp r 113 78 [vR o, a1, a2, a3, a4, a5] (vR o :: st) x Q := (wp_u (show cd 113 77 = some (.aload_n 0, 1, 0, 0, 0, 0) from rfl))
theorem u113_78 : wp r 113 78 ls st x Q ↔ wp r 113 80 ls (vI 43 :: st) x Q := (wp_u (show cd 113 78 = some (.bipush 43, 2, 0, 0, 0, 0) from rfl))
theorem u113_80 : wp r 113 80 ls (vI z0 :: vA q :: st) x Q ↔ isk 9 (hK x q) ∧ sml st = true ∧ 1 < r ∧ wpc 1 128 [vA q, vI z0] x (wk r 113 80 ls st Q) := (wp_u (show cd 113 80 = some (.invokevirtual 278, 3, 128, 2, 1, 9) from rfl)).trans (g_virt rfl (by decide) (by simp) rfl)
theorem u113_83 : wp r 113 83 [vR o, a1, a2, a3, a4, a5] st x Q ↔ wp r 113 84 [vR o, a1, a2, a3, a4, a5] (vR o :: st) x Q := (wp_u (show cd 113 83 = some (.aload_n 0, 1, 0, 0, 0, 0) from rfl))
theorem u113_84 : wp r 113 84 [a0, a1, a2, vI z, a4, a5] st x Q ↔ wp r 113 85 [a0, a1, a2, vI z, a4, a5] (vI z :: st) x Q := (wp_u (show cd 113 84 = some (.iload_n 3, 1, 0, 0, 0, 0) from rfl))
theorem u113_85 : wp r 113 85 ls (vI z0 :: vA q :: st) x Q ↔ isk 9 (hK x q) ∧ sml st = true ∧ 2 < r ∧ wpc 2 127 [vA q, vI z0] x (wk r 113 85 ls st Q) := (wp_u (show cd 113 85 = some (.invokevirtual 284, 3, 127, 2, 2, 9) from rfl)).trans (g_virt rfl (by decide) (by simp) rfl)
theorem u113_88 : wp r 113 88 [a0, a1, a2, a3, a4, a5] (vI z :: st) x Q ↔ wp r 113 90 [a0, a1, a2, a3, vI z, a5] st x Q := (wp_u (show cd 113 88 = some (.istore 4, 2, 0, 0, 0, 0) from rfl))
theorem u113_90 : wp r 113 90 ls st x Q ↔ wp r 113 91 ls (vI 0 :: st) x Q := (wp_u (show cd 113 90 = some (.iconst 0, 1, 0, 0, 0, 0) from rfl))
theorem u113_91 : wp r 113 91 [a0, a1, a2, a3, a4, a5] (vI z :: st) x Q ↔ wp r 113 93 [a0, a1, a2, a3, a4, vI z] st x Q := (wp_u (show cd 113 91 = some (.istore 5, 2, 0, 0, 0, 0) from rfl))
theorem u113_93 : wp r 113 93 [a0, a1, a2, a3, a4, vI z] st x Q ↔ wp r 113 95 [a0, a1, a2, a3, a4, vI z] (vI z :: st) x Q := (wp_u (show cd 113 93 = some (.iload 5, 2, 0, 0, 0, 0) from rfl))
theorem u113_95 : wp r 113 95 [a0, a1, a2, a3, vI z, a5] st x Q ↔ wp r 113 97 [a0, a1, a2, a3, vI z, a5] (vI z :: st) x Q := (wp_u (show cd 113 95 = some (.iload 4, 2, 0, 0, 0, 0) from rfl))
theorem u113_97 : wp r 113 97 ls (vI w :: vI z :: st) x Q ↔ if w ≤ z then wp r 113 130 ls st x Q else wp r 113 100 ls st x Q := (wp_u (show cd 113 97 = some (.if_icmp .ge 33, 3, 130, 0, 0, 0) from rfl)).trans wq_d
theorem u113_100 : wp r 113 100 [a0, a1, a2, a3, a4, vI z] st x Q ↔ wp r 113 102 [a0, a1, a2, a3, a4, vI z] (vI z :: st) x Q := (wp_u (show cd 113 100 = some (.iload 5, 2, 0, 0, 0, 0) from rfl))
theorem u113_102 : wp r 113 102 ls (vI z :: st) x Q ↔ if z ≤ 0 then wp r 113 111 ls st x Q else wp r 113 105 ls st x Q := (wp_u (show cd 113 102 = some (.ifCond .le 9, 3, 111, 0, 0, 0) from rfl)).trans wq_d
theorem u113_105 : wp r 113 105 [vR o, a1, a2, a3, a4, a5] st x Q ↔ wp r 113 106 [vR o, a1, a2, a3, a4, a5] (vR o :: st) x Q := (wp_u (show cd 113 105 = some (.aload_n 0, 1, 0, 0, 0, 0) from rfl))
theorem u113_106 : wp r 113 106 ls st x Q ↔ wp r 113 108 ls (vI 58 :: st) x Q := (wp_u (show cd 113 106 = some (.bipush 58, 2, 0, 0, 0, 0) from rfl))
theorem u113_108 : wp r 113 108 ls (vI z0 :: vA q :: st) x Q ↔ isk 9 (hK x q) ∧ sml st = true ∧ 1 < r ∧ wpc 1 128 [vA q, vI z0] x (wk r 113 108 ls st Q) := (wp_u (show cd 113 108 = some (.invokevirtual 278, 3, 128, 2, 1, 9) from rfl)).trans (g_virt rfl (by decide) (by simp) rfl)
theorem u113_111 : wp r 113 111 [vR o, a1, a2, a3, a4, a5] st x Q ↔ wp r 113 112 [vR o, a1, a2, a3, a4, a5] (vR o :: st) x Q := (wp_u (show cd 113 111 = some (.aload_n 0, 1, 0, 0, 0, 0) from rfl))
theorem u113_112 : wp r 113 112 [vR o, a1, a2, a3, a4, a5] st x Q ↔ wp r 113 113 [vR o, a1, a2, a3, a4, a5] (vR o :: st) x Q := (wp_u (show cd 113 112 = some (.aload_n 0, 1, 0, 0, 0, 0) from rfl))
theorem u113_113 : wp r 113 113 ls (vA q :: st) x Q ↔ sbk 9 (hK x q) ∧ wp r 113 116 ls (vR (hR x q 28) :: st) x Q := (wp_u (show cd 113 113 = some (.getfield 57, 3, 9, 28, 5, 0) from rfl)).trans g_getR
theorem u113_116 : wp r 113 116 [a0, a1, a2, vI z, a4, a5] st x Q ↔ wp r 113 117 [a0, a1, a2, vI z, a4, a5] (vI z :: st) x Q := (wp_u (show cd 113 116 = some (.iload_n 3, 1, 0, 0, 0, 0) from rfl))
theorem u113_117 : wp r 113 117 ls (vI i :: vA q :: st) x Q ↔ ldk 20 (hK x q) i ∧ wp r 113 118 ls (vI (hI x q i) :: st) x Q := (wp_u (show cd 113 117 = some (.iaload, 1, 0, 0, 0, 0) from rfl)).trans g_ldI
theorem u113_118 : wp r 113 118 [a0, a1, a2, a3, a4, vI z] st x Q ↔ wp r 113 120 [a0, a1, a2, a3, a4, vI z] (vI z :: st) x Q := (wp_u (show cd 113 118 = some (.iload 5, 2, 0, 0, 0, 0) from rfl))
theorem u113_120 : wp r 113 120 ls (vI w :: vI z :: st) x Q ↔ inI (z + w) = true ∧ wp r 113 121 ls (vI (z + w) :: st) x Q := (wp_u (show cd 113 120 = some (.iadd, 1, 0, 0, 0, 0) from rfl)).trans wq_if
theorem u113_121 : wp r 113 121 ls (vI z0 :: vA q :: st) x Q ↔ isk 9 (hK x q) ∧ sml st = true ∧ 2 < r ∧ wpc 2 129 [vA q, vI z0] x (wk r 113 121 ls st Q) := (wp_u (show cd 113 121 = some (.invokevirtual 287, 3, 129, 2, 2, 9) from rfl)).trans (g_virt rfl (by decide) (by simp) rfl)
theorem u113_124 : wp r 113 124 [a0, a1, a2, a3, a4, vI z] st x Q ↔ inI (z + 1) = true ∧ wp r 113 127 [a0, a1, a2, a3, a4, vI (z + 1)] st x Q := (wp_u (show cd 113 124 = some (.iinc 5 1, 3, 0, 0, 0, 0) from rfl)).trans wq_if
theorem u113_127 : wp r 113 127 ls st x Q ↔ wp r 113 93 ls st x Q := (wp_u (show cd 113 127 = some (.goto (-34), 3, 93, 0, 0, 0) from rfl))
theorem u113_130 : wp r 113 130 [a0, a1, a2, vI z, a4, a5] st x Q ↔ inI (z + 1) = true ∧ wp r 113 133 [a0, a1, a2, vI (z + 1), a4, a5] st x Q := (wp_u (show cd 113 130 = some (.iinc 3 1, 3, 0, 0, 0, 0) from rfl)).trans wq_if
theorem u113_133 : wp r 113 133 ls st x Q ↔ wp r 113 72 ls st x Q := (wp_u (show cd 113 133 = some (.goto (-61), 3, 72, 0, 0, 0) from rfl))
theorem u113_136 : wp r 113 136 [vR o, a1, a2, a3, a4, a5] st x Q ↔ wp r 113 137 [vR o, a1, a2, a3, a4, a5] (vR o :: st) x Q := (wp_u (show cd 113 136 = some (.aload_n 0, 1, 0, 0, 0, 0) from rfl))
theorem u113_137 : wp r 113 137 ls st x Q ↔ wp r 113 139 ls (vI 39 :: st) x Q := (wp_u (show cd 113 137 = some (.bipush 39, 2, 0, 0, 0, 0) from rfl))
theorem u113_139 : wp r 113 139 ls (vI z0 :: vA q :: st) x Q ↔ isk 9 (hK x q) ∧ sml st = true ∧ 1 < r ∧ wpc 1 128 [vA q, vI z0] x (wk r 113 139 ls st Q) := (wp_u (show cd 113 139 = some (.invokevirtual 278, 3, 128, 2, 1, 9) from rfl)).trans (g_virt rfl (by decide) (by simp) rfl)
theorem u113_142 : wp r 113 142 [a0, vI z, a2, a3, a4, a5] st x Q ↔ inI (z + 1) = true ∧ wp r 113 145 [a0, vI (z + 1), a2, a3, a4, a5] st x Q := (wp_u (show cd 113 142 = some (.iinc 1 1, 3, 0, 0, 0, 0) from rfl)).trans wq_if
theorem u113_145 : wp r 113 145 ls st x Q ↔ wp r 113 12 ls st x Q := (wp_u (show cd 113 145 = some (.goto (-133), 3, 12, 0, 0, 0) from rfl))
theorem u113_148 : wp r 113 148 ls [] x Q ↔ Q (.inl none) x := (wp_u (show cd 113 148 = some (.return_, 1, 0, 0, 0, 0) from rfl))
theorem e113 : wpc r 113 [vA q] x Q ↔ wp r 113 0 [vA q, vL jk, vL jk, vL jk, vL jk, vL jk] [] x Q := Iff.rfl
/-! 114 M_writeReport -/
theorem u114_0 : wp r 114 0 [vR o, a1, a2] st x Q ↔ wp r 114 1 [vR o, a1, a2] (vR o :: st) x Q := (wp_u (show cd 114 0 = some (.aload_n 0, 1, 0, 0, 0, 0) from rfl))
theorem u114_1 : wp r 114 1 ls st x Q ↔ wp r 114 2 ls (vI 1 :: st) x Q := (wp_u (show cd 114 1 = some (.iconst 1, 1, 0, 0, 0, 0) from rfl))
theorem u114_2 : wp r 114 2 ls (vI z :: vA q :: st) x Q ↔ sbk 9 (hK x q) ∧ rg 4 z = true ∧ wp r 114 5 ls st (stI x q 52 z) Q := (wp_u (show cd 114 2 = some (.putfield 269, 3, 9, 52, 4, 0) from rfl)).trans g_putI
theorem u114_5 : wp r 114 5 [vR o, a1, a2] st x Q ↔ wp r 114 6 [vR o, a1, a2] (vR o :: st) x Q := (wp_u (show cd 114 5 = some (.aload_n 0, 1, 0, 0, 0, 0) from rfl))
theorem u114_6 : wp r 114 6 ls st x Q ↔ wp r 114 7 ls (vI 0 :: st) x Q := (wp_u (show cd 114 6 = some (.iconst 0, 1, 0, 0, 0, 0) from rfl))
theorem u114_7 : wp r 114 7 ls (vI z :: vA q :: st) x Q ↔ sbk 9 (hK x q) ∧ wp r 114 10 ls st (stI x q 50 z) Q := (wp_u (show cd 114 7 = some (.putfield 272, 3, 9, 50, 0, 0) from rfl)).trans g_putI0
theorem u114_10 : wp r 114 10 [vR o, a1, a2] st x Q ↔ wp r 114 11 [vR o, a1, a2] (vR o :: st) x Q := (wp_u (show cd 114 10 = some (.aload_n 0, 1, 0, 0, 0, 0) from rfl))
theorem u114_11 : wp r 114 11 ls st x Q ↔ wp r 114 14 ls (vI 5587785 :: st) x Q := (wp_u (show cd 114 11 = some (.ldc_w 293, 3, 5587785, 0, 0, 0) from rfl))
theorem u114_14 : wp r 114 14 [vR o, a1, a2] st x Q ↔ wp r 114 15 [vR o, a1, a2] (vR o :: st) x Q := (wp_u (show cd 114 14 = some (.aload_n 0, 1, 0, 0, 0, 0) from rfl))
theorem u114_15 : wp r 114 15 ls st x Q ↔ wp r 114 16 ls (vI 0 :: st) x Q := (wp_u (show cd 114 15 = some (.iconst 0, 1, 0, 0, 0, 0) from rfl))
theorem u114_16 : wp r 114 16 ls st x Q ↔ wp r 114 17 ls (vI 2 :: st) x Q := (wp_u (show cd 114 16 = some (.iconst 2, 1, 0, 0, 0, 0) from rfl))
theorem u114_17 : wp r 114 17 ls (vI z1 :: vI z0 :: vA q :: st) x Q ↔ isk 9 (hK x q) ∧ sml st = true ∧ 1 < r ∧ wpc 1 120 [vA q, vI z0, vI z1] x (wk r 114 17 ls st Q) := (wp_u (show cd 114 17 = some (.invokevirtual 205, 3, 120, 3, 1, 9) from rfl)).trans (g_virt rfl (by decide) (by simp) rfl)
theorem u114_20 : wp r 114 20 [vR o, a1, a2] st x Q ↔ wp r 114 21 [vR o, a1, a2] (vR o :: st) x Q := (wp_u (show cd 114 20 = some (.aload_n 0, 1, 0, 0, 0, 0) from rfl))
theorem u114_21 : wp r 114 21 ls (vA q :: st) x Q ↔ sbk 9 (hK x q) ∧ wp r 114 24 ls (vI (hI x q 32) :: st) x Q := (wp_u (show cd 114 21 = some (.getfield 260, 3, 9, 32, 0, 0) from rfl)).trans g_getI
theorem u114_24 : wp r 114 24 ls st x Q ↔ wp r 114 25 ls (vI (-1) :: st) x Q := (wp_u (show cd 114 24 = some (.iconst (-1), 1, 0, 0, 0, 0) from rfl))
theorem u114_25 : wp r 114 25 ls (vI z3 :: vI z2 :: vI z1 :: vI z0 :: vA q :: st) x Q ↔ isk 9 (hK x q) ∧ sml st = true ∧ 3 < r ∧ wpc 3 130 [vA q, vI z0, vI z1, vI z2, vI z3] x (wk r 114 25 ls st Q) := (wp_u (show cd 114 25 = some (.invokevirtual 294, 3, 130, 5, 3, 9) from rfl)).trans (g_virt rfl (by decide) (by simp) rfl)
theorem u114_28 : wp r 114 28 ls st x Q ↔ wp r 114 29 ls (vI (-1) :: st) x Q := (wp_u (show cd 114 28 = some (.iconst (-1), 1, 0, 0, 0, 0) from rfl))
theorem u114_29 : wp r 114 29 [a0, a1, a2] (vI z :: st) x Q ↔ wp r 114 30 [a0, vI z, a2] st x Q := (wp_u (show cd 114 29 = some (.istore_n 1, 1, 0, 0, 0, 0) from rfl))
theorem u114_30 : wp r 114 30 ls st x Q ↔ wp r 114 31 ls (vI 0 :: st) x Q := (wp_u (show cd 114 30 = some (.iconst 0, 1, 0, 0, 0, 0) from rfl))
theorem u114_31 : wp r 114 31 [a0, a1, a2] (vI z :: st) x Q ↔ wp r 114 32 [a0, a1, vI z] st x Q := (wp_u (show cd 114 31 = some (.istore_n 2, 1, 0, 0, 0, 0) from rfl))
theorem u114_32 : wp r 114 32 [a0, a1, vI z] st x Q ↔ wp r 114 33 [a0, a1, vI z] (vI z :: st) x Q := (wp_u (show cd 114 32 = some (.iload_n 2, 1, 0, 0, 0, 0) from rfl))
theorem u114_33 : wp r 114 33 [vR o, a1, a2] st x Q ↔ wp r 114 34 [vR o, a1, a2] (vR o :: st) x Q := (wp_u (show cd 114 33 = some (.aload_n 0, 1, 0, 0, 0, 0) from rfl))
theorem u114_34 : wp r 114 34 ls (vA q :: st) x Q ↔ sbk 9 (hK x q) ∧ wp r 114 37 ls (vI (hI x q 33) :: st) x Q := (wp_u (show cd 114 34 = some (.getfield 196, 3, 9, 33, 0, 0) from rfl)).trans g_getI
theorem u114_37 : wp r 114 37 ls (vI w :: vI z :: st) x Q ↔ if w ≤ z then wp r 114 131 ls st x Q else wp r 114 40 ls st x Q := (wp_u (show cd 114 37 = some (.if_icmp .ge 94, 3, 131, 0, 0, 0) from rfl)).trans wq_d
theorem u114_40 : wp r 114 40 [vR o, a1, a2] st x Q ↔ wp r 114 41 [vR o, a1, a2] (vR o :: st) x Q := (wp_u (show cd 114 40 = some (.aload_n 0, 1, 0, 0, 0, 0) from rfl))
theorem u114_41 : wp r 114 41 ls (vA q :: st) x Q ↔ sbk 9 (hK x q) ∧ wp r 114 44 ls (vR (hR x q 36) :: st) x Q := (wp_u (show cd 114 41 = some (.getfield 72, 3, 9, 36, 5, 0) from rfl)).trans g_getR
theorem u114_44 : wp r 114 44 [a0, a1, vI z] st x Q ↔ wp r 114 45 [a0, a1, vI z] (vI z :: st) x Q := (wp_u (show cd 114 44 = some (.iload_n 2, 1, 0, 0, 0, 0) from rfl))
theorem u114_45 : wp r 114 45 ls (vI i :: vA q :: st) x Q ↔ ldk 20 (hK x q) i ∧ wp r 114 46 ls (vI (hI x q i) :: st) x Q := (wp_u (show cd 114 45 = some (.iaload, 1, 0, 0, 0, 0) from rfl)).trans g_ldI
theorem u114_46 : wp r 114 46 [a0, vI z, a2] st x Q ↔ wp r 114 47 [a0, vI z, a2] (vI z :: st) x Q := (wp_u (show cd 114 46 = some (.iload_n 1, 1, 0, 0, 0, 0) from rfl))
theorem u114_47 : wp r 114 47 ls (vI w :: vI z :: st) x Q ↔ if z ≤ w then wp r 114 82 ls st x Q else wp r 114 50 ls st x Q := (wp_u (show cd 114 47 = some (.if_icmp .le 35, 3, 82, 0, 0, 0) from rfl)).trans wq_d
theorem u114_50 : wp r 114 50 [vR o, a1, a2] st x Q ↔ wp r 114 51 [vR o, a1, a2] (vR o :: st) x Q := (wp_u (show cd 114 50 = some (.aload_n 0, 1, 0, 0, 0, 0) from rfl))
theorem u114_51 : wp r 114 51 ls (vA q :: st) x Q ↔ sbk 9 (hK x q) ∧ wp r 114 54 ls (vR (hR x q 36) :: st) x Q := (wp_u (show cd 114 51 = some (.getfield 72, 3, 9, 36, 5, 0) from rfl)).trans g_getR
theorem u114_54 : wp r 114 54 [a0, a1, vI z] st x Q ↔ wp r 114 55 [a0, a1, vI z] (vI z :: st) x Q := (wp_u (show cd 114 54 = some (.iload_n 2, 1, 0, 0, 0, 0) from rfl))
theorem u114_55 : wp r 114 55 ls (vI i :: vA q :: st) x Q ↔ ldk 20 (hK x q) i ∧ wp r 114 56 ls (vI (hI x q i) :: st) x Q := (wp_u (show cd 114 55 = some (.iaload, 1, 0, 0, 0, 0) from rfl)).trans g_ldI
theorem u114_56 : wp r 114 56 [a0, a1, a2] (vI z :: st) x Q ↔ wp r 114 57 [a0, vI z, a2] st x Q := (wp_u (show cd 114 56 = some (.istore_n 1, 1, 0, 0, 0, 0) from rfl))
theorem u114_57 : wp r 114 57 [vR o, a1, a2] st x Q ↔ wp r 114 58 [vR o, a1, a2] (vR o :: st) x Q := (wp_u (show cd 114 57 = some (.aload_n 0, 1, 0, 0, 0, 0) from rfl))
theorem u114_58 : wp r 114 58 ls st x Q ↔ wp r 114 61 ls (vI 5587782 :: st) x Q := (wp_u (show cd 114 58 = some (.ldc_w 298, 3, 5587782, 0, 0, 0) from rfl))
theorem u114_61 : wp r 114 61 [vR o, a1, a2] st x Q ↔ wp r 114 62 [vR o, a1, a2] (vR o :: st) x Q := (wp_u (show cd 114 61 = some (.aload_n 0, 1, 0, 0, 0, 0) from rfl))
theorem u114_62 : wp r 114 62 [vR o, a1, a2] st x Q ↔ wp r 114 63 [vR o, a1, a2] (vR o :: st) x Q := (wp_u (show cd 114 62 = some (.aload_n 0, 1, 0, 0, 0, 0) from rfl))
theorem u114_63 : wp r 114 63 ls (vA q :: st) x Q ↔ sbk 9 (hK x q) ∧ wp r 114 66 ls (vR (hR x q 40) :: st) x Q := (wp_u (show cd 114 63 = some (.getfield 81, 3, 9, 40, 5, 0) from rfl)).trans g_getR
theorem u114_66 : wp r 114 66 [a0, vI z, a2] st x Q ↔ wp r 114 67 [a0, vI z, a2] (vI z :: st) x Q := (wp_u (show cd 114 66 = some (.iload_n 1, 1, 0, 0, 0, 0) from rfl))
theorem u114_67 : wp r 114 67 ls (vI i :: vA q :: st) x Q ↔ ldk 20 (hK x q) i ∧ wp r 114 68 ls (vI (hI x q i) :: st) x Q := (wp_u (show cd 114 67 = some (.iaload, 1, 0, 0, 0, 0) from rfl)).trans g_ldI
theorem u114_68 : wp r 114 68 ls st x Q ↔ wp r 114 69 ls (vI 0 :: st) x Q := (wp_u (show cd 114 68 = some (.iconst 0, 1, 0, 0, 0, 0) from rfl))
theorem u114_69 : wp r 114 69 ls (vI z1 :: vI z0 :: vA q :: st) x Q ↔ isk 9 (hK x q) ∧ sml st = true ∧ 1 < r ∧ wpc 1 120 [vA q, vI z0, vI z1] x (wk r 114 69 ls st Q) := (wp_u (show cd 114 69 = some (.invokevirtual 205, 3, 120, 3, 1, 9) from rfl)).trans (g_virt rfl (by decide) (by simp) rfl)
theorem u114_72 : wp r 114 72 [vR o, a1, a2] st x Q ↔ wp r 114 73 [vR o, a1, a2] (vR o :: st) x Q := (wp_u (show cd 114 72 = some (.aload_n 0, 1, 0, 0, 0, 0) from rfl))
theorem u114_73 : wp r 114 73 ls (vA q :: st) x Q ↔ sbk 9 (hK x q) ∧ wp r 114 76 ls (vR (hR x q 42) :: st) x Q := (wp_u (show cd 114 73 = some (.getfield 87, 3, 9, 42, 5, 0) from rfl)).trans g_getR
theorem u114_76 : wp r 114 76 [a0, vI z, a2] st x Q ↔ wp r 114 77 [a0, vI z, a2] (vI z :: st) x Q := (wp_u (show cd 114 76 = some (.iload_n 1, 1, 0, 0, 0, 0) from rfl))
theorem u114_77 : wp r 114 77 ls (vI i :: vA q :: st) x Q ↔ ldk 20 (hK x q) i ∧ wp r 114 78 ls (vI (hI x q i) :: st) x Q := (wp_u (show cd 114 77 = some (.iaload, 1, 0, 0, 0, 0) from rfl)).trans g_ldI
theorem u114_78 : wp r 114 78 ls st x Q ↔ wp r 114 79 ls (vI (-1) :: st) x Q := (wp_u (show cd 114 78 = some (.iconst (-1), 1, 0, 0, 0, 0) from rfl))
theorem u114_79 : wp r 114 79 ls (vI z3 :: vI z2 :: vI z1 :: vI z0 :: vA q :: st) x Q ↔ isk 9 (hK x q) ∧ sml st = true ∧ 3 < r ∧ wpc 3 130 [vA q, vI z0, vI z1, vI z2, vI z3] x (wk r 114 79 ls st Q) := (wp_u (show cd 114 79 = some (.invokevirtual 294, 3, 130, 5, 3, 9) from rfl)).trans (g_virt rfl (by decide) (by simp) rfl)
theorem u114_82 : wp r 114 82 [vR o, a1, a2] st x Q ↔ wp r 114 83 [vR o, a1, a2] (vR o :: st) x Q := (wp_u (show cd 114 82 = some (.aload_n 0, 1, 0, 0, 0, 0) from rfl))
theorem u114_83 : wp r 114 83 ls st x Q ↔ wp r 114 86 ls (vI 5587789 :: st) x Q := (wp_u (show cd 114 83 = some (.ldc_w 299, 3, 5587789, 0, 0, 0) from rfl))
theorem u114_86 : wp r 114 86 [vR o, a1, a2] st x Q ↔ wp r 114 87 [vR o, a1, a2] (vR o :: st) x Q := (wp_u (show cd 114 86 = some (.aload_n 0, 1, 0, 0, 0, 0) from rfl))
theorem u114_87 : wp r 114 87 [vR o, a1, a2] st x Q ↔ wp r 114 88 [vR o, a1, a2] (vR o :: st) x Q := (wp_u (show cd 114 87 = some (.aload_n 0, 1, 0, 0, 0, 0) from rfl))
theorem u114_88 : wp r 114 88 ls (vA q :: st) x Q ↔ sbk 9 (hK x q) ∧ wp r 114 91 ls (vR (hR x q 34) :: st) x Q := (wp_u (show cd 114 88 = some (.getfield 66, 3, 9, 34, 5, 0) from rfl)).trans g_getR
theorem u114_91 : wp r 114 91 [a0, a1, vI z] st x Q ↔ wp r 114 92 [a0, a1, vI z] (vI z :: st) x Q := (wp_u (show cd 114 91 = some (.iload_n 2, 1, 0, 0, 0, 0) from rfl))
theorem u114_92 : wp r 114 92 ls (vI i :: vA q :: st) x Q ↔ ldk 20 (hK x q) i ∧ wp r 114 93 ls (vI (hI x q i) :: st) x Q := (wp_u (show cd 114 92 = some (.iaload, 1, 0, 0, 0, 0) from rfl)).trans g_ldI
theorem u114_93 : wp r 114 93 ls st x Q ↔ wp r 114 94 ls (vI 0 :: st) x Q := (wp_u (show cd 114 93 = some (.iconst 0, 1, 0, 0, 0, 0) from rfl))
theorem u114_94 : wp r 114 94 ls (vI z1 :: vI z0 :: vA q :: st) x Q ↔ isk 9 (hK x q) ∧ sml st = true ∧ 1 < r ∧ wpc 1 120 [vA q, vI z0, vI z1] x (wk r 114 94 ls st Q) := (wp_u (show cd 114 94 = some (.invokevirtual 205, 3, 120, 3, 1, 9) from rfl)).trans (g_virt rfl (by decide) (by simp) rfl)
theorem u114_97 : wp r 114 97 [vR o, a1, a2] st x Q ↔ wp r 114 98 [vR o, a1, a2] (vR o :: st) x Q := (wp_u (show cd 114 97 = some (.aload_n 0, 1, 0, 0, 0, 0) from rfl))
theorem u114_98 : wp r 114 98 ls (vA q :: st) x Q ↔ sbk 9 (hK x q) ∧ wp r 114 101 ls (vR (hR x q 37) :: st) x Q := (wp_u (show cd 114 98 = some (.getfield 75, 3, 9, 37, 5, 0) from rfl)).trans g_getR
theorem u114_101 : wp r 114 101 [a0, a1, vI z] st x Q ↔ wp r 114 102 [a0, a1, vI z] (vI z :: st) x Q := (wp_u (show cd 114 101 = some (.iload_n 2, 1, 0, 0, 0, 0) from rfl))
theorem u114_102 : wp r 114 102 ls (vI i :: vA q :: st) x Q ↔ ldk 20 (hK x q) i ∧ wp r 114 103 ls (vI (hI x q i) :: st) x Q := (wp_u (show cd 114 102 = some (.iaload, 1, 0, 0, 0, 0) from rfl)).trans g_ldI
theorem u114_103 : wp r 114 103 [vR o, a1, a2] st x Q ↔ wp r 114 104 [vR o, a1, a2] (vR o :: st) x Q := (wp_u (show cd 114 103 = some (.aload_n 0, 1, 0, 0, 0, 0) from rfl))
theorem u114_104 : wp r 114 104 ls (vA q :: st) x Q ↔ sbk 9 (hK x q) ∧ wp r 114 107 ls (vR (hR x q 37) :: st) x Q := (wp_u (show cd 114 104 = some (.getfield 75, 3, 9, 37, 5, 0) from rfl)).trans g_getR
theorem u114_107 : wp r 114 107 [a0, a1, vI z] st x Q ↔ wp r 114 108 [a0, a1, vI z] (vI z :: st) x Q := (wp_u (show cd 114 107 = some (.iload_n 2, 1, 0, 0, 0, 0) from rfl))
theorem u114_108 : wp r 114 108 ls (vI i :: vA q :: st) x Q ↔ ldk 20 (hK x q) i ∧ wp r 114 109 ls (vI (hI x q i) :: st) x Q := (wp_u (show cd 114 108 = some (.iaload, 1, 0, 0, 0, 0) from rfl)).trans g_ldI
theorem u114_109 : wp r 114 109 ls (vI z :: st) x Q ↔ if z ≤ 0 then wp r 114 121 ls st x Q else wp r 114 112 ls st x Q := (wp_u (show cd 114 109 = some (.ifCond .le 12, 3, 121, 0, 0, 0) from rfl)).trans wq_d
theorem u114_112 : wp r 114 112 [vR o, a1, a2] st x Q ↔ wp r 114 113 [vR o, a1, a2] (vR o :: st) x Q := (wp_u (show cd 114 112 = some (.aload_n 0, 1, 0, 0, 0, 0) from rfl))
theorem u114_113 : wp r 114 113 ls (vA q :: st) x Q ↔ sbk 9 (hK x q) ∧ wp r 114 116 ls (vR (hR x q 38) :: st) x Q := (wp_u (show cd 114 113 = some (.getfield 78, 3, 9, 38, 5, 0) from rfl)).trans g_getR
theorem u114_116 : wp r 114 116 [a0, a1, vI z] st x Q ↔ wp r 114 117 [a0, a1, vI z] (vI z :: st) x Q := (wp_u (show cd 114 116 = some (.iload_n 2, 1, 0, 0, 0, 0) from rfl))
theorem u114_117 : wp r 114 117 ls (vI i :: vA q :: st) x Q ↔ ldk 20 (hK x q) i ∧ wp r 114 118 ls (vI (hI x q i) :: st) x Q := (wp_u (show cd 114 117 = some (.iaload, 1, 0, 0, 0, 0) from rfl)).trans g_ldI
theorem u114_118 : wp r 114 118 ls st x Q ↔ wp r 114 122 ls st x Q := (wp_u (show cd 114 118 = some (.goto 4, 3, 122, 0, 0, 0) from rfl))
theorem u114_121 : wp r 114 121 ls st x Q ↔ wp r 114 122 ls (vI (-1) :: st) x Q := (wp_u (show cd 114 121 = some (.iconst (-1), 1, 0, 0, 0, 0) from rfl))
theorem u114_122 : wp r 114 122 ls (vI z3 :: vI z2 :: vI z1 :: vI z0 :: vA q :: st) x Q ↔ isk 9 (hK x q) ∧ sml st = true ∧ 3 < r ∧ wpc 3 130 [vA q, vI z0, vI z1, vI z2, vI z3] x (wk r 114 122 ls st Q) := (wp_u (show cd 114 122 = some (.invokevirtual 294, 3, 130, 5, 3, 9) from rfl)).trans (g_virt rfl (by decide) (by simp) rfl)
theorem u114_125 : wp r 114 125 [a0, a1, vI z] st x Q ↔ inI (z + 1) = true ∧ wp r 114 128 [a0, a1, vI (z + 1)] st x Q := (wp_u (show cd 114 125 = some (.iinc 2 1, 3, 0, 0, 0, 0) from rfl)).trans wq_if
theorem u114_128 : wp r 114 128 ls st x Q ↔ wp r 114 32 ls st x Q := (wp_u (show cd 114 128 = some (.goto (-96), 3, 32, 0, 0, 0) from rfl))
theorem u114_131 : wp r 114 131 ls [] x Q ↔ Q (.inl none) x := (wp_u (show cd 114 131 = some (.return_, 1, 0, 0, 0, 0) from rfl))
theorem e114 : wpc r 114 [vA q] x Q ↔ wp r 114 0 [vA q, vL jk, vL jk] [] x Q := Iff.rfl
/-! 115 M_sizeOf -/
theorem u115_0 : wp r 115 0 [a0, vI z] st x Q ↔ wp r 115 1 [a0, vI z] (vI z :: st) x Q := (wp_u (show cd 115 0 = some (.iload_n 1, 1, 0, 0, 0, 0) from rfl))
theorem u115_1 : wp r 115 1 ls (vI z :: st) x Q ↔ if 0 ≤ z then wp r 115 8 ls st x Q else wp r 115 4 ls st x Q := (wp_u (show cd 115 1 = some (.ifCond .ge 7, 3, 8, 0, 0, 0) from rfl)).trans wq_d
theorem u115_4 : wp r 115 4 ls st x Q ↔ wp r 115 5 ls (vI 0 :: st) x Q := (wp_u (show cd 115 4 = some (.iconst 0, 1, 0, 0, 0, 0) from rfl))
theorem u115_5 : wp r 115 5 ls st x Q ↔ wp r 115 23 ls st x Q := (wp_u (show cd 115 5 = some (.goto 18, 3, 23, 0, 0, 0) from rfl))
theorem u115_8 : wp r 115 8 [vR o, a1] st x Q ↔ wp r 115 9 [vR o, a1] (vR o :: st) x Q := (wp_u (show cd 115 8 = some (.aload_n 0, 1, 0, 0, 0, 0) from rfl))
theorem u115_9 : wp r 115 9 ls (vA q :: st) x Q ↔ sbk 9 (hK x q) ∧ wp r 115 12 ls (vR (hR x q 30) :: st) x Q := (wp_u (show cd 115 9 = some (.getfield 60, 3, 9, 30, 5, 0) from rfl)).trans g_getR
theorem u115_12 : wp r 115 12 [a0, vI z] st x Q ↔ wp r 115 13 [a0, vI z] (vI z :: st) x Q := (wp_u (show cd 115 12 = some (.iload_n 1, 1, 0, 0, 0, 0) from rfl))
theorem u115_13 : wp r 115 13 ls st x Q ↔ wp r 115 14 ls (vI 1 :: st) x Q := (wp_u (show cd 115 13 = some (.iconst 1, 1, 0, 0, 0, 0) from rfl))
theorem u115_14 : wp r 115 14 ls (vI w :: vI z :: st) x Q ↔ inI (z + w) = true ∧ wp r 115 15 ls (vI (z + w) :: st) x Q := (wp_u (show cd 115 14 = some (.iadd, 1, 0, 0, 0, 0) from rfl)).trans wq_if
theorem u115_15 : wp r 115 15 ls (vI i :: vA q :: st) x Q ↔ ldk 20 (hK x q) i ∧ wp r 115 16 ls (vI (hI x q i) :: st) x Q := (wp_u (show cd 115 15 = some (.iaload, 1, 0, 0, 0, 0) from rfl)).trans g_ldI
theorem u115_16 : wp r 115 16 [vR o, a1] st x Q ↔ wp r 115 17 [vR o, a1] (vR o :: st) x Q := (wp_u (show cd 115 16 = some (.aload_n 0, 1, 0, 0, 0, 0) from rfl))
theorem u115_17 : wp r 115 17 ls (vA q :: st) x Q ↔ sbk 9 (hK x q) ∧ wp r 115 20 ls (vR (hR x q 30) :: st) x Q := (wp_u (show cd 115 17 = some (.getfield 60, 3, 9, 30, 5, 0) from rfl)).trans g_getR
theorem u115_20 : wp r 115 20 [a0, vI z] st x Q ↔ wp r 115 21 [a0, vI z] (vI z :: st) x Q := (wp_u (show cd 115 20 = some (.iload_n 1, 1, 0, 0, 0, 0) from rfl))
theorem u115_21 : wp r 115 21 ls (vI i :: vA q :: st) x Q ↔ ldk 20 (hK x q) i ∧ wp r 115 22 ls (vI (hI x q i) :: st) x Q := (wp_u (show cd 115 21 = some (.iaload, 1, 0, 0, 0, 0) from rfl)).trans g_ldI
theorem u115_22 : wp r 115 22 ls (vI w :: vI z :: st) x Q ↔ inI (z - w) = true ∧ wp r 115 23 ls (vI (z - w) :: st) x Q := (wp_u (show cd 115 22 = some (.isub, 1, 0, 0, 0, 0) from rfl)).trans wq_if
theorem u115_23 : wp r 115 23 ls [vI z] x Q ↔ Q (.inl (some (vI z))) x := (wp_u (show cd 115 23 = some (.ireturn, 1, 0, 0, 0, 0) from rfl))
theorem e115 : wpc r 115 [vA q, vI z0] x Q ↔ wp r 115 0 [vA q, vI z0] [] x Q := Iff.rfl
/-! 116 M_isLetter -/
theorem u116_0 : wp r 116 0 [vI z] st x Q ↔ wp r 116 1 [vI z] (vI z :: st) x Q := (wp_u (show cd 116 0 = some (.iload_n 0, 1, 0, 0, 0, 0) from rfl))
theorem u116_1 : wp r 116 1 ls st x Q ↔ wp r 116 3 ls (vI 65 :: st) x Q := (wp_u (show cd 116 1 = some (.bipush 65, 2, 0, 0, 0, 0) from rfl))
theorem u116_3 : wp r 116 3 ls (vI w :: vI z :: st) x Q ↔ if z < w then wp r 116 16 ls st x Q else wp r 116 6 ls st x Q := (wp_u (show cd 116 3 = some (.if_icmp .lt 13, 3, 16, 0, 0, 0) from rfl)).trans wq_d
theorem u116_6 : wp r 116 6 [vI z] st x Q ↔ wp r 116 7 [vI z] (vI z :: st) x Q := (wp_u (show cd 116 6 = some (.iload_n 0, 1, 0, 0, 0, 0) from rfl))
theorem u116_7 : wp r 116 7 ls st x Q ↔ wp r 116 9 ls (vI 90 :: st) x Q := (wp_u (show cd 116 7 = some (.bipush 90, 2, 0, 0, 0, 0) from rfl))
theorem u116_9 : wp r 116 9 ls (vI w :: vI z :: st) x Q ↔ if w < z then wp r 116 16 ls st x Q else wp r 116 12 ls st x Q := (wp_u (show cd 116 9 = some (.if_icmp .gt 7, 3, 16, 0, 0, 0) from rfl)).trans wq_d
theorem u116_12 : wp r 116 12 ls st x Q ↔ wp r 116 13 ls (vI 1 :: st) x Q := (wp_u (show cd 116 12 = some (.iconst 1, 1, 0, 0, 0, 0) from rfl))
theorem u116_13 : wp r 116 13 ls st x Q ↔ wp r 116 17 ls st x Q := (wp_u (show cd 116 13 = some (.goto 4, 3, 17, 0, 0, 0) from rfl))
theorem u116_16 : wp r 116 16 ls st x Q ↔ wp r 116 17 ls (vI 0 :: st) x Q := (wp_u (show cd 116 16 = some (.iconst 0, 1, 0, 0, 0, 0) from rfl))
theorem u116_17 : wp r 116 17 ls [vI z] x Q ↔ rg 4 z = true ∧ Q (.inl (some (vI z))) x := (wp_u (show cd 116 17 = some (.ireturn, 1, 4, 0, 0, 0) from rfl)).trans wq_if
theorem e116 : wpc r 116 [vI z0] x Q ↔ wp r 116 0 [vI z0] [] x Q := Iff.rfl
/-! 117 M_following -/
theorem u117_0 : wp r 117 0 [a0, a1, vI z, a3, a4] st x Q ↔ wp r 117 1 [a0, a1, vI z, a3, a4] (vI z :: st) x Q := (wp_u (show cd 117 0 = some (.iload_n 2, 1, 0, 0, 0, 0) from rfl))
theorem u117_1 : wp r 117 1 ls st x Q ↔ wp r 117 2 ls (vI 1 :: st) x Q := (wp_u (show cd 117 1 = some (.iconst 1, 1, 0, 0, 0, 0) from rfl))
theorem u117_2 : wp r 117 2 ls (vI w :: vI z :: st) x Q ↔ inI (z + w) = true ∧ wp r 117 3 ls (vI (z + w) :: st) x Q := (wp_u (show cd 117 2 = some (.iadd, 1, 0, 0, 0, 0) from rfl)).trans wq_if
theorem u117_3 : wp r 117 3 [a0, a1, a2, a3, a4] (vI z :: st) x Q ↔ wp r 117 5 [a0, a1, a2, a3, vI z] st x Q := (wp_u (show cd 117 3 = some (.istore 4, 2, 0, 0, 0, 0) from rfl))
theorem u117_5 : wp r 117 5 [a0, a1, a2, a3, vI z] st x Q ↔ wp r 117 7 [a0, a1, a2, a3, vI z] (vI z :: st) x Q := (wp_u (show cd 117 5 = some (.iload 4, 2, 0, 0, 0, 0) from rfl))
theorem u117_7 : wp r 117 7 [vR o, a1, a2, a3, a4] st x Q ↔ wp r 117 8 [vR o, a1, a2, a3, a4] (vR o :: st) x Q := (wp_u (show cd 117 7 = some (.aload_n 0, 1, 0, 0, 0, 0) from rfl))
theorem u117_8 : wp r 117 8 ls (vA q :: st) x Q ↔ sbk 9 (hK x q) ∧ wp r 117 11 ls (vR (hR x q 3) :: st) x Q := (wp_u (show cd 117 8 = some (.getfield 13, 3, 9, 3, 5, 0) from rfl)).trans g_getR
theorem u117_11 : wp r 117 11 [a0, vI z, a2, a3, a4] st x Q ↔ wp r 117 12 [a0, vI z, a2, a3, a4] (vI z :: st) x Q := (wp_u (show cd 117 11 = some (.iload_n 1, 1, 0, 0, 0, 0) from rfl))
theorem u117_12 : wp r 117 12 ls (vI i :: vA q :: st) x Q ↔ ldk 20 (hK x q) i ∧ wp r 117 13 ls (vI (hI x q i) :: st) x Q := (wp_u (show cd 117 12 = some (.iaload, 1, 0, 0, 0, 0) from rfl)).trans g_ldI
theorem u117_13 : wp r 117 13 ls (vI w :: vI z :: st) x Q ↔ if w ≤ z then wp r 117 41 ls st x Q else wp r 117 16 ls st x Q := (wp_u (show cd 117 13 = some (.if_icmp .ge 28, 3, 41, 0, 0, 0) from rfl)).trans wq_d
theorem u117_16 : wp r 117 16 [vR o, a1, a2, a3, a4] st x Q ↔ wp r 117 17 [vR o, a1, a2, a3, a4] (vR o :: st) x Q := (wp_u (show cd 117 16 = some (.aload_n 0, 1, 0, 0, 0, 0) from rfl))
theorem u117_17 : wp r 117 17 ls (vA q :: st) x Q ↔ sbk 9 (hK x q) ∧ wp r 117 20 ls (vR (hR x q 7) :: st) x Q := (wp_u (show cd 117 17 = some (.getfield 26, 3, 9, 7, 5, 0) from rfl)).trans g_getR
theorem u117_20 : wp r 117 20 ls st x Q ↔ wp r 117 22 ls (vI 24 :: st) x Q := (wp_u (show cd 117 20 = some (.bipush 24, 2, 0, 0, 0, 0) from rfl))
theorem u117_22 : wp r 117 22 [a0, vI z, a2, a3, a4] st x Q ↔ wp r 117 23 [a0, vI z, a2, a3, a4] (vI z :: st) x Q := (wp_u (show cd 117 22 = some (.iload_n 1, 1, 0, 0, 0, 0) from rfl))
theorem u117_23 : wp r 117 23 ls (vI w :: vI z :: st) x Q ↔ inI (z * w) = true ∧ wp r 117 24 ls (vI (z * w) :: st) x Q := (wp_u (show cd 117 23 = some (.imul, 1, 0, 0, 0, 0) from rfl)).trans wq_if
theorem u117_24 : wp r 117 24 [a0, a1, a2, a3, vI z] st x Q ↔ wp r 117 26 [a0, a1, a2, a3, vI z] (vI z :: st) x Q := (wp_u (show cd 117 24 = some (.iload 4, 2, 0, 0, 0, 0) from rfl))
theorem u117_26 : wp r 117 26 ls (vI w :: vI z :: st) x Q ↔ inI (z + w) = true ∧ wp r 117 27 ls (vI (z + w) :: st) x Q := (wp_u (show cd 117 26 = some (.iadd, 1, 0, 0, 0, 0) from rfl)).trans wq_if
theorem u117_27 : wp r 117 27 ls (vI i :: vA q :: st) x Q ↔ ldk 20 (hK x q) i ∧ wp r 117 28 ls (vI (hI x q i) :: st) x Q := (wp_u (show cd 117 27 = some (.iaload, 1, 0, 0, 0, 0) from rfl)).trans g_ldI
theorem u117_28 : wp r 117 28 [a0, a1, a2, vI z, a4] st x Q ↔ wp r 117 29 [a0, a1, a2, vI z, a4] (vI z :: st) x Q := (wp_u (show cd 117 28 = some (.iload_n 3, 1, 0, 0, 0, 0) from rfl))
theorem u117_29 : wp r 117 29 ls (vI w :: vI z :: st) x Q ↔ if z = w then wp r 117 32 ls st x Q else wp r 117 35 ls st x Q := (wp_u (show cd 117 29 = some (.if_icmp .ne 6, 3, 35, 0, 0, 0) from rfl)).trans wq_dn
theorem u117_32 : wp r 117 32 [a0, a1, a2, a3, vI z] st x Q ↔ wp r 117 34 [a0, a1, a2, a3, vI z] (vI z :: st) x Q := (wp_u (show cd 117 32 = some (.iload 4, 2, 0, 0, 0, 0) from rfl))
theorem u117_34 : wp r 117 34 ls [vI z] x Q ↔ Q (.inl (some (vI z))) x := (wp_u (show cd 117 34 = some (.ireturn, 1, 0, 0, 0, 0) from rfl))
theorem u117_35 : wp r 117 35 [a0, a1, a2, a3, vI z] st x Q ↔ inI (z + 1) = true ∧ wp r 117 38 [a0, a1, a2, a3, vI (z + 1)] st x Q := (wp_u (show cd 117 35 = some (.iinc 4 1, 3, 0, 0, 0, 0) from rfl)).trans wq_if
theorem u117_38 : wp r 117 38 ls st x Q ↔ wp r 117 5 ls st x Q := (wp_u (show cd 117 38 = some (.goto (-33), 3, 5, 0, 0, 0) from rfl))
theorem u117_41 : wp r 117 41 ls st x Q ↔ wp r 117 42 ls (vI (-1) :: st) x Q := (wp_u (show cd 117 41 = some (.iconst (-1), 1, 0, 0, 0, 0) from rfl))
theorem u117_42 : wp r 117 42 ls [vI z] x Q ↔ Q (.inl (some (vI z))) x := (wp_u (show cd 117 42 = some (.ireturn, 1, 0, 0, 0, 0) from rfl))
theorem e117 : wpc r 117 [vA q, vI z0, vI z1, vI z2] x Q ↔ wp r 117 0 [vA q, vI z0, vI z1, vI z2, vL jk] [] x Q := Iff.rfl
/-! 118 M_marks -/
theorem u118_0 : wp r 118 0 [vR o, a1, a2, a3] st x Q ↔ wp r 118 1 [vR o, a1, a2, a3] (vR o :: st) x Q := (wp_u (show cd 118 0 = some (.aload_n 0, 1, 0, 0, 0, 0) from rfl))
theorem u118_1 : wp r 118 1 ls st x Q ↔ wp r 118 3 ls (vI 58 :: st) x Q := (wp_u (show cd 118 1 = some (.bipush 58, 2, 0, 0, 0, 0) from rfl))
theorem u118_3 : wp r 118 3 ls (vI z :: vA q :: st) x Q ↔ sbk 9 (hK x q) ∧ wp r 118 6 ls st (stI x q 9 z) Q := (wp_u (show cd 118 3 = some (.putfield 142, 3, 9, 9, 0, 0) from rfl)).trans g_putI0
theorem u118_6 : wp r 118 6 [vR o, a1, a2, a3] st x Q ↔ wp r 118 7 [vR o, a1, a2, a3] (vR o :: st) x Q := (wp_u (show cd 118 6 = some (.aload_n 0, 1, 0, 0, 0, 0) from rfl))
theorem u118_7 : wp r 118 7 ls st x Q ↔ wp r 118 9 ls (vI 43 :: st) x Q := (wp_u (show cd 118 7 = some (.bipush 43, 2, 0, 0, 0, 0) from rfl))
theorem u118_9 : wp r 118 9 ls (vI z :: vA q :: st) x Q ↔ sbk 9 (hK x q) ∧ wp r 118 12 ls st (stI x q 10 z) Q := (wp_u (show cd 118 9 = some (.putfield 145, 3, 9, 10, 0, 0) from rfl)).trans g_putI0
theorem u118_12 : wp r 118 12 [vR o, a1, a2, a3] st x Q ↔ wp r 118 13 [vR o, a1, a2, a3] (vR o :: st) x Q := (wp_u (show cd 118 12 = some (.aload_n 0, 1, 0, 0, 0, 0) from rfl))
theorem u118_13 : wp r 118 13 ls st x Q ↔ wp r 118 15 ls (vI 63 :: st) x Q := (wp_u (show cd 118 13 = some (.bipush 63, 2, 0, 0, 0, 0) from rfl))
theorem u118_15 : wp r 118 15 ls (vI z :: vA q :: st) x Q ↔ sbk 9 (hK x q) ∧ wp r 118 18 ls st (stI x q 11 z) Q := (wp_u (show cd 118 15 = some (.putfield 148, 3, 9, 11, 0, 0) from rfl)).trans g_putI0
theorem u118_18 : wp r 118 18 [vR o, a1, a2, a3] st x Q ↔ wp r 118 19 [vR o, a1, a2, a3] (vR o :: st) x Q := (wp_u (show cd 118 18 = some (.aload_n 0, 1, 0, 0, 0, 0) from rfl))
theorem u118_19 : wp r 118 19 ls st x Q ↔ wp r 118 21 ls (vI 39 :: st) x Q := (wp_u (show cd 118 19 = some (.bipush 39, 2, 0, 0, 0, 0) from rfl))
theorem u118_21 : wp r 118 21 ls (vI z :: vA q :: st) x Q ↔ sbk 9 (hK x q) ∧ wp r 118 24 ls st (stI x q 12 z) Q := (wp_u (show cd 118 21 = some (.putfield 151, 3, 9, 12, 0, 0) from rfl)).trans g_putI0
theorem u118_24 : wp r 118 24 [vR o, a1, a2, a3] st x Q ↔ wp r 118 25 [vR o, a1, a2, a3] (vR o :: st) x Q := (wp_u (show cd 118 24 = some (.aload_n 0, 1, 0, 0, 0, 0) from rfl))
theorem u118_25 : wp r 118 25 ls (vA q :: st) x Q ↔ sbk 9 (hK x q) ∧ wp r 118 28 ls (vI (hI x q 1) :: st) x Q := (wp_u (show cd 118 25 = some (.getfield 105, 3, 9, 1, 0, 0) from rfl)).trans g_getI
theorem u118_28 : wp r 118 28 ls st x Q ↔ wp r 118 29 ls (vI 3 :: st) x Q := (wp_u (show cd 118 28 = some (.iconst 3, 1, 0, 0, 0, 0) from rfl))
theorem u118_29 : wp r 118 29 ls (vI w :: vI z :: st) x Q ↔ if z < w then wp r 118 65 ls st x Q else wp r 118 32 ls st x Q := (wp_u (show cd 118 29 = some (.if_icmp .lt 36, 3, 65, 0, 0, 0) from rfl)).trans wq_d
theorem u118_32 : wp r 118 32 [vR o, a1, a2, a3] st x Q ↔ wp r 118 33 [vR o, a1, a2, a3] (vR o :: st) x Q := (wp_u (show cd 118 32 = some (.aload_n 0, 1, 0, 0, 0, 0) from rfl))
theorem u118_33 : wp r 118 33 ls (vA q :: st) x Q ↔ sbk 9 (hK x q) ∧ wp r 118 36 ls (vR (hR x q 2) :: st) x Q := (wp_u (show cd 118 33 = some (.getfield 7, 3, 9, 2, 5, 0) from rfl)).trans g_getR
theorem u118_36 : wp r 118 36 ls st x Q ↔ wp r 118 37 ls (vI 0 :: st) x Q := (wp_u (show cd 118 36 = some (.iconst 0, 1, 0, 0, 0, 0) from rfl))
theorem u118_37 : wp r 118 37 ls (vI i :: vA q :: st) x Q ↔ ldk 20 (hK x q) i ∧ wp r 118 38 ls (vI (hI x q i) :: st) x Q := (wp_u (show cd 118 37 = some (.iaload, 1, 0, 0, 0, 0) from rfl)).trans g_ldI
theorem u118_38 : wp r 118 38 ls st x Q ↔ wp r 118 40 ls (vI 85 :: st) x Q := (wp_u (show cd 118 38 = some (.bipush 85, 2, 0, 0, 0, 0) from rfl))
theorem u118_40 : wp r 118 40 ls (vI w :: vI z :: st) x Q ↔ if z = w then wp r 118 43 ls st x Q else wp r 118 65 ls st x Q := (wp_u (show cd 118 40 = some (.if_icmp .ne 25, 3, 65, 0, 0, 0) from rfl)).trans wq_dn
theorem u118_43 : wp r 118 43 [vR o, a1, a2, a3] st x Q ↔ wp r 118 44 [vR o, a1, a2, a3] (vR o :: st) x Q := (wp_u (show cd 118 43 = some (.aload_n 0, 1, 0, 0, 0, 0) from rfl))
theorem u118_44 : wp r 118 44 ls (vA q :: st) x Q ↔ sbk 9 (hK x q) ∧ wp r 118 47 ls (vR (hR x q 2) :: st) x Q := (wp_u (show cd 118 44 = some (.getfield 7, 3, 9, 2, 5, 0) from rfl)).trans g_getR
theorem u118_47 : wp r 118 47 ls st x Q ↔ wp r 118 48 ls (vI 1 :: st) x Q := (wp_u (show cd 118 47 = some (.iconst 1, 1, 0, 0, 0, 0) from rfl))
theorem u118_48 : wp r 118 48 ls (vI i :: vA q :: st) x Q ↔ ldk 20 (hK x q) i ∧ wp r 118 49 ls (vI (hI x q i) :: st) x Q := (wp_u (show cd 118 48 = some (.iaload, 1, 0, 0, 0, 0) from rfl)).trans g_ldI
theorem u118_49 : wp r 118 49 ls st x Q ↔ wp r 118 51 ls (vI 78 :: st) x Q := (wp_u (show cd 118 49 = some (.bipush 78, 2, 0, 0, 0, 0) from rfl))
theorem u118_51 : wp r 118 51 ls (vI w :: vI z :: st) x Q ↔ if z = w then wp r 118 54 ls st x Q else wp r 118 65 ls st x Q := (wp_u (show cd 118 51 = some (.if_icmp .ne 14, 3, 65, 0, 0, 0) from rfl)).trans wq_dn
theorem u118_54 : wp r 118 54 [vR o, a1, a2, a3] st x Q ↔ wp r 118 55 [vR o, a1, a2, a3] (vR o :: st) x Q := (wp_u (show cd 118 54 = some (.aload_n 0, 1, 0, 0, 0, 0) from rfl))
theorem u118_55 : wp r 118 55 ls (vA q :: st) x Q ↔ sbk 9 (hK x q) ∧ wp r 118 58 ls (vR (hR x q 2) :: st) x Q := (wp_u (show cd 118 55 = some (.getfield 7, 3, 9, 2, 5, 0) from rfl)).trans g_getR
theorem u118_58 : wp r 118 58 ls st x Q ↔ wp r 118 59 ls (vI 2 :: st) x Q := (wp_u (show cd 118 58 = some (.iconst 2, 1, 0, 0, 0, 0) from rfl))
theorem u118_59 : wp r 118 59 ls (vI i :: vA q :: st) x Q ↔ ldk 20 (hK x q) i ∧ wp r 118 60 ls (vI (hI x q i) :: st) x Q := (wp_u (show cd 118 59 = some (.iaload, 1, 0, 0, 0, 0) from rfl)).trans g_ldI
theorem u118_60 : wp r 118 60 ls st x Q ↔ wp r 118 62 ls (vI 65 :: st) x Q := (wp_u (show cd 118 60 = some (.bipush 65, 2, 0, 0, 0, 0) from rfl))
theorem u118_62 : wp r 118 62 ls (vI w :: vI z :: st) x Q ↔ if z = w then wp r 118 67 ls st x Q else wp r 118 65 ls st x Q := (wp_u (show cd 118 62 = some (.if_icmp .eq 5, 3, 67, 0, 0, 0) from rfl)).trans wq_d
theorem u118_65 : wp r 118 65 ls st x Q ↔ wp r 118 66 ls (vI 0 :: st) x Q := (wp_u (show cd 118 65 = some (.iconst 0, 1, 0, 0, 0, 0) from rfl))
theorem u118_66 : wp r 118 66 ls [vI z] x Q ↔ Q (.inl (some (vI z))) x := (wp_u (show cd 118 66 = some (.ireturn, 1, 0, 0, 0, 0) from rfl))
theorem u118_67 : wp r 118 67 ls st x Q ↔ wp r 118 68 ls (vI 3 :: st) x Q := (wp_u (show cd 118 67 = some (.iconst 3, 1, 0, 0, 0, 0) from rfl))
theorem u118_68 : wp r 118 68 [a0, a1, a2, a3] (vI z :: st) x Q ↔ wp r 118 69 [a0, vI z, a2, a3] st x Q := (wp_u (show cd 118 68 = some (.istore_n 1, 1, 0, 0, 0, 0) from rfl))
theorem u118_69 : wp r 118 69 [a0, vI z, a2, a3] st x Q ↔ wp r 118 70 [a0, vI z, a2, a3] (vI z :: st) x Q := (wp_u (show cd 118 69 = some (.iload_n 1, 1, 0, 0, 0, 0) from rfl))
theorem u118_70 : wp r 118 70 ls st x Q ↔ wp r 118 72 ls (vI 9 :: st) x Q := (wp_u (show cd 118 70 = some (.bipush 9, 2, 0, 0, 0, 0) from rfl))
theorem u118_72 : wp r 118 72 ls (vI w :: vI z :: st) x Q ↔ if w ≤ z then wp r 118 229 ls st x Q else wp r 118 75 ls st x Q := (wp_u (show cd 118 72 = some (.if_icmp .ge 157, 3, 229, 0, 0, 0) from rfl)).trans wq_d
theorem u118_75 : wp r 118 75 [vR o, a1, a2, a3] st x Q ↔ wp r 118 76 [vR o, a1, a2, a3] (vR o :: st) x Q := (wp_u (show cd 118 75 = some (.aload_n 0, 1, 0, 0, 0, 0) from rfl))
theorem u118_76 : wp r 118 76 [a0, vI z, a2, a3] st x Q ↔ wp r 118 77 [a0, vI z, a2, a3] (vI z :: st) x Q := (wp_u (show cd 118 76 = some (.iload_n 1, 1, 0, 0, 0, 0) from rfl))
theorem u118_77 : wp r 118 77 ls (vI z :: vA q :: st) x Q ↔ sbk 9 (hK x q) ∧ wp r 118 80 ls st (stI x q 13 z) Q := (wp_u (show cd 118 77 = some (.putfield 32, 3, 9, 13, 0, 0) from rfl)).trans g_putI0
theorem u118_80 : wp r 118 80 [a0, vI z, a2, a3] st x Q ↔ wp r 118 81 [a0, vI z, a2, a3] (vI z :: st) x Q := (wp_u (show cd 118 80 = some (.iload_n 1, 1, 0, 0, 0, 0) from rfl))
theorem u118_81 : wp r 118 81 [vR o, a1, a2, a3] st x Q ↔ wp r 118 82 [vR o, a1, a2, a3] (vR o :: st) x Q := (wp_u (show cd 118 81 = some (.aload_n 0, 1, 0, 0, 0, 0) from rfl))
theorem u118_82 : wp r 118 82 ls (vA q :: st) x Q ↔ sbk 9 (hK x q) ∧ wp r 118 85 ls (vI (hI x q 1) :: st) x Q := (wp_u (show cd 118 82 = some (.getfield 105, 3, 9, 1, 0, 0) from rfl)).trans g_getI
theorem u118_85 : wp r 118 85 ls (vI w :: vI z :: st) x Q ↔ if z = w then wp r 118 88 ls st x Q else wp r 118 90 ls st x Q := (wp_u (show cd 118 85 = some (.if_icmp .ne 5, 3, 90, 0, 0, 0) from rfl)).trans wq_dn
theorem u118_88 : wp r 118 88 ls st x Q ↔ wp r 118 89 ls (vI (-1) :: st) x Q := (wp_u (show cd 118 88 = some (.iconst (-1), 1, 0, 0, 0, 0) from rfl))
theorem u118_89 : wp r 118 89 ls [vI z] x Q ↔ Q (.inl (some (vI z))) x := (wp_u (show cd 118 89 = some (.ireturn, 1, 0, 0, 0, 0) from rfl))
theorem u118_90 : wp r 118 90 [vR o, a1, a2, a3] st x Q ↔ wp r 118 91 [vR o, a1, a2, a3] (vR o :: st) x Q := (wp_u (show cd 118 90 = some (.aload_n 0, 1, 0, 0, 0, 0) from rfl))
theorem u118_91 : wp r 118 91 ls (vA q :: st) x Q ↔ sbk 9 (hK x q) ∧ wp r 118 94 ls (vR (hR x q 2) :: st) x Q := (wp_u (show cd 118 91 = some (.getfield 7, 3, 9, 2, 5, 0) from rfl)).trans g_getR
theorem u118_94 : wp r 118 94 [a0, vI z, a2, a3] st x Q ↔ wp r 118 95 [a0, vI z, a2, a3] (vI z :: st) x Q := (wp_u (show cd 118 94 = some (.iload_n 1, 1, 0, 0, 0, 0) from rfl))
theorem u118_95 : wp r 118 95 ls (vI i :: vA q :: st) x Q ↔ ldk 20 (hK x q) i ∧ wp r 118 96 ls (vI (hI x q i) :: st) x Q := (wp_u (show cd 118 95 = some (.iaload, 1, 0, 0, 0, 0) from rfl)).trans g_ldI
theorem u118_96 : wp r 118 96 [a0, a1, a2, a3] (vI z :: st) x Q ↔ wp r 118 97 [a0, a1, vI z, a3] st x Q := (wp_u (show cd 118 96 = some (.istore_n 2, 1, 0, 0, 0, 0) from rfl))
theorem u118_97 : wp r 118 97 [a0, vI z, a2, a3] st x Q ↔ wp r 118 98 [a0, vI z, a2, a3] (vI z :: st) x Q := (wp_u (show cd 118 97 = some (.iload_n 1, 1, 0, 0, 0, 0) from rfl))
theorem u118_98 : wp r 118 98 ls st x Q ↔ wp r 118 99 ls (vI 5 :: st) x Q := (wp_u (show cd 118 98 = some (.iconst 5, 1, 0, 0, 0, 0) from rfl))
theorem u118_99 : wp r 118 99 ls (vI w :: vI z :: st) x Q ↔ if z = w then wp r 118 136 ls st x Q else wp r 118 102 ls st x Q := (wp_u (show cd 118 99 = some (.if_icmp .eq 37, 3, 136, 0, 0, 0) from rfl)).trans wq_d
theorem u118_102 : wp r 118 102 [a0, vI z, a2, a3] st x Q ↔ wp r 118 103 [a0, vI z, a2, a3] (vI z :: st) x Q := (wp_u (show cd 118 102 = some (.iload_n 1, 1, 0, 0, 0, 0) from rfl))
theorem u118_103 : wp r 118 103 ls st x Q ↔ wp r 118 105 ls (vI 7 :: st) x Q := (wp_u (show cd 118 103 = some (.bipush 7, 2, 0, 0, 0, 0) from rfl))
theorem u118_105 : wp r 118 105 ls (vI w :: vI z :: st) x Q ↔ if z = w then wp r 118 108 ls st x Q else wp r 118 117 ls st x Q := (wp_u (show cd 118 105 = some (.if_icmp .ne 12, 3, 117, 0, 0, 0) from rfl)).trans wq_dn
theorem u118_108 : wp r 118 108 [a0, a1, vI z, a3] st x Q ↔ wp r 118 109 [a0, a1, vI z, a3] (vI z :: st) x Q := (wp_u (show cd 118 108 = some (.iload_n 2, 1, 0, 0, 0, 0) from rfl))
theorem u118_109 : wp r 118 109 ls st x Q ↔ wp r 118 111 ls (vI 32 :: st) x Q := (wp_u (show cd 118 109 = some (.bipush 32, 2, 0, 0, 0, 0) from rfl))
theorem u118_111 : wp r 118 111 ls (vI w :: vI z :: st) x Q ↔ if z = w then wp r 118 114 ls st x Q else wp r 118 140 ls st x Q := (wp_u (show cd 118 111 = some (.if_icmp .ne 29, 3, 140, 0, 0, 0) from rfl)).trans wq_dn
theorem u118_114 : wp r 118 114 ls st x Q ↔ wp r 118 136 ls st x Q := (wp_u (show cd 118 114 = some (.goto 22, 3, 136, 0, 0, 0) from rfl))
theorem u118_117 : wp r 118 117 [a0, a1, vI z, a3] st x Q ↔ wp r 118 118 [a0, a1, vI z, a3] (vI z :: st) x Q := (wp_u (show cd 118 117 = some (.iload_n 2, 1, 0, 0, 0, 0) from rfl))
theorem u118_118 : wp r 118 118 ls (vI z0 :: st) x Q ↔ sml st = true ∧ 2 < r ∧ wpc 2 131 [vI z0] x (wk r 118 118 ls st Q) := (wp_u (show cd 118 118 = some (.invokestatic 154, 3, 131, 1, 2, 0) from rfl)).trans (g_stat (by decide) (by simp) rfl)
theorem u118_121 : wp r 118 121 ls (vI z :: st) x Q ↔ if z = 0 then wp r 118 124 ls st x Q else wp r 118 136 ls st x Q := (wp_u (show cd 118 121 = some (.ifCond .ne 15, 3, 136, 0, 0, 0) from rfl)).trans wq_dn
theorem u118_124 : wp r 118 124 [a0, vI z, a2, a3] st x Q ↔ wp r 118 125 [a0, vI z, a2, a3] (vI z :: st) x Q := (wp_u (show cd 118 124 = some (.iload_n 1, 1, 0, 0, 0, 0) from rfl))
theorem u118_125 : wp r 118 125 ls st x Q ↔ wp r 118 127 ls (vI 6 :: st) x Q := (wp_u (show cd 118 125 = some (.bipush 6, 2, 0, 0, 0, 0) from rfl))
theorem u118_127 : wp r 118 127 ls (vI w :: vI z :: st) x Q ↔ if z = w then wp r 118 130 ls st x Q else wp r 118 140 ls st x Q := (wp_u (show cd 118 127 = some (.if_icmp .ne 13, 3, 140, 0, 0, 0) from rfl)).trans wq_dn
theorem u118_130 : wp r 118 130 [a0, a1, vI z, a3] st x Q ↔ wp r 118 131 [a0, a1, vI z, a3] (vI z :: st) x Q := (wp_u (show cd 118 130 = some (.iload_n 2, 1, 0, 0, 0, 0) from rfl))
theorem u118_131 : wp r 118 131 ls st x Q ↔ wp r 118 133 ls (vI 32 :: st) x Q := (wp_u (show cd 118 131 = some (.bipush 32, 2, 0, 0, 0, 0) from rfl))
theorem u118_133 : wp r 118 133 ls (vI w :: vI z :: st) x Q ↔ if z = w then wp r 118 136 ls st x Q else wp r 118 140 ls st x Q := (wp_u (show cd 118 133 = some (.if_icmp .ne 7, 3, 140, 0, 0, 0) from rfl)).trans wq_dn
theorem u118_136 : wp r 118 136 ls st x Q ↔ wp r 118 137 ls (vI 1 :: st) x Q := (wp_u (show cd 118 136 = some (.iconst 1, 1, 0, 0, 0, 0) from rfl))
theorem u118_137 : wp r 118 137 ls st x Q ↔ wp r 118 141 ls st x Q := (wp_u (show cd 118 137 = some (.goto 4, 3, 141, 0, 0, 0) from rfl))
theorem u118_140 : wp r 118 140 ls st x Q ↔ wp r 118 141 ls (vI 0 :: st) x Q := (wp_u (show cd 118 140 = some (.iconst 0, 1, 0, 0, 0, 0) from rfl))
theorem u118_141 : wp r 118 141 [a0, a1, a2, a3] (vI z :: st) x Q ↔ wp r 118 142 [a0, a1, a2, vI z] st x Q := (wp_u (show cd 118 141 = some (.istore_n 3, 1, 0, 0, 0, 0) from rfl))
theorem u118_142 : wp r 118 142 [a0, a1, a2, vI z] st x Q ↔ wp r 118 143 [a0, a1, a2, vI z] (vI z :: st) x Q := (wp_u (show cd 118 142 = some (.iload_n 3, 1, 0, 0, 0, 0) from rfl))
theorem u118_143 : wp r 118 143 ls (vI z :: st) x Q ↔ if z = 0 then wp r 118 215 ls st x Q else wp r 118 146 ls st x Q := (wp_u (show cd 118 143 = some (.ifCond .eq 72, 3, 215, 0, 0, 0) from rfl)).trans wq_d
theorem u118_146 : wp r 118 146 [a0, vI z, a2, a3] st x Q ↔ wp r 118 147 [a0, vI z, a2, a3] (vI z :: st) x Q := (wp_u (show cd 118 146 = some (.iload_n 1, 1, 0, 0, 0, 0) from rfl))
theorem u118_147 : wp r 118 147 ls st x Q ↔ wp r 118 148 ls (vI 4 :: st) x Q := (wp_u (show cd 118 147 = some (.iconst 4, 1, 0, 0, 0, 0) from rfl))
theorem u118_148 : wp r 118 148 ls (vI w :: vI z :: st) x Q ↔ if z < w then wp r 118 172 ls st x Q else wp r 118 151 ls st x Q := (wp_u (show cd 118 148 = some (.if_icmp .lt 24, 3, 172, 0, 0, 0) from rfl)).trans wq_d
theorem u118_151 : wp r 118 151 [a0, vI z, a2, a3] st x Q ↔ wp r 118 152 [a0, vI z, a2, a3] (vI z :: st) x Q := (wp_u (show cd 118 151 = some (.iload_n 1, 1, 0, 0, 0, 0) from rfl))
theorem u118_152 : wp r 118 152 ls st x Q ↔ wp r 118 153 ls (vI 5 :: st) x Q := (wp_u (show cd 118 152 = some (.iconst 5, 1, 0, 0, 0, 0) from rfl))
theorem u118_153 : wp r 118 153 ls (vI w :: vI z :: st) x Q ↔ if z = w then wp r 118 172 ls st x Q else wp r 118 156 ls st x Q := (wp_u (show cd 118 153 = some (.if_icmp .eq 19, 3, 172, 0, 0, 0) from rfl)).trans wq_d
theorem u118_156 : wp r 118 156 [a0, vI z, a2, a3] st x Q ↔ wp r 118 157 [a0, vI z, a2, a3] (vI z :: st) x Q := (wp_u (show cd 118 156 = some (.iload_n 1, 1, 0, 0, 0, 0) from rfl))
theorem u118_157 : wp r 118 157 ls st x Q ↔ wp r 118 159 ls (vI 7 :: st) x Q := (wp_u (show cd 118 157 = some (.bipush 7, 2, 0, 0, 0, 0) from rfl))
theorem u118_159 : wp r 118 159 ls (vI w :: vI z :: st) x Q ↔ if z = w then wp r 118 172 ls st x Q else wp r 118 162 ls st x Q := (wp_u (show cd 118 159 = some (.if_icmp .eq 13, 3, 172, 0, 0, 0) from rfl)).trans wq_d
theorem u118_162 : wp r 118 162 [a0, a1, vI z, a3] st x Q ↔ wp r 118 163 [a0, a1, vI z, a3] (vI z :: st) x Q := (wp_u (show cd 118 162 = some (.iload_n 2, 1, 0, 0, 0, 0) from rfl))
theorem u118_163 : wp r 118 163 [vR o, a1, a2, a3] st x Q ↔ wp r 118 164 [vR o, a1, a2, a3] (vR o :: st) x Q := (wp_u (show cd 118 163 = some (.aload_n 0, 1, 0, 0, 0, 0) from rfl))
theorem u118_164 : wp r 118 164 ls (vA q :: st) x Q ↔ sbk 9 (hK x q) ∧ wp r 118 167 ls (vR (hR x q 2) :: st) x Q := (wp_u (show cd 118 164 = some (.getfield 7, 3, 9, 2, 5, 0) from rfl)).trans g_getR
theorem u118_167 : wp r 118 167 ls st x Q ↔ wp r 118 168 ls (vI 3 :: st) x Q := (wp_u (show cd 118 167 = some (.iconst 3, 1, 0, 0, 0, 0) from rfl))
theorem u118_168 : wp r 118 168 ls (vI i :: vA q :: st) x Q ↔ ldk 20 (hK x q) i ∧ wp r 118 169 ls (vI (hI x q i) :: st) x Q := (wp_u (show cd 118 168 = some (.iaload, 1, 0, 0, 0, 0) from rfl)).trans g_ldI
theorem u118_169 : wp r 118 169 ls (vI w :: vI z :: st) x Q ↔ if z = w then wp r 118 215 ls st x Q else wp r 118 172 ls st x Q := (wp_u (show cd 118 169 = some (.if_icmp .eq 46, 3, 215, 0, 0, 0) from rfl)).trans wq_d
theorem u118_172 : wp r 118 172 [a0, vI z, a2, a3] st x Q ↔ wp r 118 173 [a0, vI z, a2, a3] (vI z :: st) x Q := (wp_u (show cd 118 172 = some (.iload_n 1, 1, 0, 0, 0, 0) from rfl))
theorem u118_173 : wp r 118 173 ls st x Q ↔ wp r 118 175 ls (vI 6 :: st) x Q := (wp_u (show cd 118 173 = some (.bipush 6, 2, 0, 0, 0, 0) from rfl))
theorem u118_175 : wp r 118 175 ls (vI w :: vI z :: st) x Q ↔ if z < w then wp r 118 194 ls st x Q else wp r 118 178 ls st x Q := (wp_u (show cd 118 175 = some (.if_icmp .lt 19, 3, 194, 0, 0, 0) from rfl)).trans wq_d
theorem u118_178 : wp r 118 178 [a0, vI z, a2, a3] st x Q ↔ wp r 118 179 [a0, vI z, a2, a3] (vI z :: st) x Q := (wp_u (show cd 118 178 = some (.iload_n 1, 1, 0, 0, 0, 0) from rfl))
theorem u118_179 : wp r 118 179 ls st x Q ↔ wp r 118 181 ls (vI 7 :: st) x Q := (wp_u (show cd 118 179 = some (.bipush 7, 2, 0, 0, 0, 0) from rfl))
theorem u118_181 : wp r 118 181 ls (vI w :: vI z :: st) x Q ↔ if z = w then wp r 118 194 ls st x Q else wp r 118 184 ls st x Q := (wp_u (show cd 118 181 = some (.if_icmp .eq 13, 3, 194, 0, 0, 0) from rfl)).trans wq_d
theorem u118_184 : wp r 118 184 [a0, a1, vI z, a3] st x Q ↔ wp r 118 185 [a0, a1, vI z, a3] (vI z :: st) x Q := (wp_u (show cd 118 184 = some (.iload_n 2, 1, 0, 0, 0, 0) from rfl))
theorem u118_185 : wp r 118 185 [vR o, a1, a2, a3] st x Q ↔ wp r 118 186 [vR o, a1, a2, a3] (vR o :: st) x Q := (wp_u (show cd 118 185 = some (.aload_n 0, 1, 0, 0, 0, 0) from rfl))
theorem u118_186 : wp r 118 186 ls (vA q :: st) x Q ↔ sbk 9 (hK x q) ∧ wp r 118 189 ls (vR (hR x q 2) :: st) x Q := (wp_u (show cd 118 186 = some (.getfield 7, 3, 9, 2, 5, 0) from rfl)).trans g_getR
theorem u118_189 : wp r 118 189 ls st x Q ↔ wp r 118 190 ls (vI 4 :: st) x Q := (wp_u (show cd 118 189 = some (.iconst 4, 1, 0, 0, 0, 0) from rfl))
theorem u118_190 : wp r 118 190 ls (vI i :: vA q :: st) x Q ↔ ldk 20 (hK x q) i ∧ wp r 118 191 ls (vI (hI x q i) :: st) x Q := (wp_u (show cd 118 190 = some (.iaload, 1, 0, 0, 0, 0) from rfl)).trans g_ldI
theorem u118_191 : wp r 118 191 ls (vI w :: vI z :: st) x Q ↔ if z = w then wp r 118 215 ls st x Q else wp r 118 194 ls st x Q := (wp_u (show cd 118 191 = some (.if_icmp .eq 24, 3, 215, 0, 0, 0) from rfl)).trans wq_d
theorem u118_194 : wp r 118 194 [a0, vI z, a2, a3] st x Q ↔ wp r 118 195 [a0, vI z, a2, a3] (vI z :: st) x Q := (wp_u (show cd 118 194 = some (.iload_n 1, 1, 0, 0, 0, 0) from rfl))
theorem u118_195 : wp r 118 195 ls st x Q ↔ wp r 118 197 ls (vI 8 :: st) x Q := (wp_u (show cd 118 195 = some (.bipush 8, 2, 0, 0, 0, 0) from rfl))
theorem u118_197 : wp r 118 197 ls (vI w :: vI z :: st) x Q ↔ if z < w then wp r 118 211 ls st x Q else wp r 118 200 ls st x Q := (wp_u (show cd 118 197 = some (.if_icmp .lt 14, 3, 211, 0, 0, 0) from rfl)).trans wq_d
theorem u118_200 : wp r 118 200 [a0, a1, vI z, a3] st x Q ↔ wp r 118 201 [a0, a1, vI z, a3] (vI z :: st) x Q := (wp_u (show cd 118 200 = some (.iload_n 2, 1, 0, 0, 0, 0) from rfl))
theorem u118_201 : wp r 118 201 [vR o, a1, a2, a3] st x Q ↔ wp r 118 202 [vR o, a1, a2, a3] (vR o :: st) x Q := (wp_u (show cd 118 201 = some (.aload_n 0, 1, 0, 0, 0, 0) from rfl))
theorem u118_202 : wp r 118 202 ls (vA q :: st) x Q ↔ sbk 9 (hK x q) ∧ wp r 118 205 ls (vR (hR x q 2) :: st) x Q := (wp_u (show cd 118 202 = some (.getfield 7, 3, 9, 2, 5, 0) from rfl)).trans g_getR
theorem u118_205 : wp r 118 205 ls st x Q ↔ wp r 118 207 ls (vI 6 :: st) x Q := (wp_u (show cd 118 205 = some (.bipush 6, 2, 0, 0, 0, 0) from rfl))
theorem u118_207 : wp r 118 207 ls (vI i :: vA q :: st) x Q ↔ ldk 20 (hK x q) i ∧ wp r 118 208 ls (vI (hI x q i) :: st) x Q := (wp_u (show cd 118 207 = some (.iaload, 1, 0, 0, 0, 0) from rfl)).trans g_ldI
theorem u118_208 : wp r 118 208 ls (vI w :: vI z :: st) x Q ↔ if z = w then wp r 118 215 ls st x Q else wp r 118 211 ls st x Q := (wp_u (show cd 118 208 = some (.if_icmp .eq 7, 3, 215, 0, 0, 0) from rfl)).trans wq_d
theorem u118_211 : wp r 118 211 ls st x Q ↔ wp r 118 212 ls (vI 1 :: st) x Q := (wp_u (show cd 118 211 = some (.iconst 1, 1, 0, 0, 0, 0) from rfl))
theorem u118_212 : wp r 118 212 ls st x Q ↔ wp r 118 216 ls st x Q := (wp_u (show cd 118 212 = some (.goto 4, 3, 216, 0, 0, 0) from rfl))
theorem u118_215 : wp r 118 215 ls st x Q ↔ wp r 118 216 ls (vI 0 :: st) x Q := (wp_u (show cd 118 215 = some (.iconst 0, 1, 0, 0, 0, 0) from rfl))
theorem u118_216 : wp r 118 216 [a0, a1, a2, a3] (vI z :: st) x Q ↔ wp r 118 217 [a0, a1, a2, vI z] st x Q := (wp_u (show cd 118 216 = some (.istore_n 3, 1, 0, 0, 0, 0) from rfl))
theorem u118_217 : wp r 118 217 [a0, a1, a2, vI z] st x Q ↔ wp r 118 218 [a0, a1, a2, vI z] (vI z :: st) x Q := (wp_u (show cd 118 217 = some (.iload_n 3, 1, 0, 0, 0, 0) from rfl))
theorem u118_218 : wp r 118 218 ls (vI z :: st) x Q ↔ if z = 0 then wp r 118 221 ls st x Q else wp r 118 223 ls st x Q := (wp_u (show cd 118 218 = some (.ifCond .ne 5, 3, 223, 0, 0, 0) from rfl)).trans wq_dn
theorem u118_221 : wp r 118 221 ls st x Q ↔ wp r 118 222 ls (vI (-1) :: st) x Q := (wp_u (show cd 118 221 = some (.iconst (-1), 1, 0, 0, 0, 0) from rfl))
theorem u118_222 : wp r 118 222 ls [vI z] x Q ↔ Q (.inl (some (vI z))) x := (wp_u (show cd 118 222 = some (.ireturn, 1, 0, 0, 0, 0) from rfl))
theorem u118_223 : wp r 118 223 [a0, vI z, a2, a3] st x Q ↔ inI (z + 1) = true ∧ wp r 118 226 [a0, vI (z + 1), a2, a3] st x Q := (wp_u (show cd 118 223 = some (.iinc 1 1, 3, 0, 0, 0, 0) from rfl)).trans wq_if
theorem u118_226 : wp r 118 226 ls st x Q ↔ wp r 118 69 ls st x Q := (wp_u (show cd 118 226 = some (.goto (-157), 3, 69, 0, 0, 0) from rfl))
theorem u118_229 : wp r 118 229 [vR o, a1, a2, a3] st x Q ↔ wp r 118 230 [vR o, a1, a2, a3] (vR o :: st) x Q := (wp_u (show cd 118 229 = some (.aload_n 0, 1, 0, 0, 0, 0) from rfl))
theorem u118_230 : wp r 118 230 [vR o, a1, a2, a3] st x Q ↔ wp r 118 231 [vR o, a1, a2, a3] (vR o :: st) x Q := (wp_u (show cd 118 230 = some (.aload_n 0, 1, 0, 0, 0, 0) from rfl))
theorem u118_231 : wp r 118 231 ls (vA q :: st) x Q ↔ sbk 9 (hK x q) ∧ wp r 118 234 ls (vR (hR x q 2) :: st) x Q := (wp_u (show cd 118 231 = some (.getfield 7, 3, 9, 2, 5, 0) from rfl)).trans g_getR
theorem u118_234 : wp r 118 234 ls st x Q ↔ wp r 118 235 ls (vI 3 :: st) x Q := (wp_u (show cd 118 234 = some (.iconst 3, 1, 0, 0, 0, 0) from rfl))
theorem u118_235 : wp r 118 235 ls (vI i :: vA q :: st) x Q ↔ ldk 20 (hK x q) i ∧ wp r 118 236 ls (vI (hI x q i) :: st) x Q := (wp_u (show cd 118 235 = some (.iaload, 1, 0, 0, 0, 0) from rfl)).trans g_ldI
theorem u118_236 : wp r 118 236 ls (vI z :: vA q :: st) x Q ↔ sbk 9 (hK x q) ∧ wp r 118 239 ls st (stI x q 9 z) Q := (wp_u (show cd 118 236 = some (.putfield 142, 3, 9, 9, 0, 0) from rfl)).trans g_putI0
theorem u118_239 : wp r 118 239 [vR o, a1, a2, a3] st x Q ↔ wp r 118 240 [vR o, a1, a2, a3] (vR o :: st) x Q := (wp_u (show cd 118 239 = some (.aload_n 0, 1, 0, 0, 0, 0) from rfl))
theorem u118_240 : wp r 118 240 [vR o, a1, a2, a3] st x Q ↔ wp r 118 241 [vR o, a1, a2, a3] (vR o :: st) x Q := (wp_u (show cd 118 240 = some (.aload_n 0, 1, 0, 0, 0, 0) from rfl))
theorem u118_241 : wp r 118 241 ls (vA q :: st) x Q ↔ sbk 9 (hK x q) ∧ wp r 118 244 ls (vR (hR x q 2) :: st) x Q := (wp_u (show cd 118 241 = some (.getfield 7, 3, 9, 2, 5, 0) from rfl)).trans g_getR
theorem u118_244 : wp r 118 244 ls st x Q ↔ wp r 118 245 ls (vI 4 :: st) x Q := (wp_u (show cd 118 244 = some (.iconst 4, 1, 0, 0, 0, 0) from rfl))
theorem u118_245 : wp r 118 245 ls (vI i :: vA q :: st) x Q ↔ ldk 20 (hK x q) i ∧ wp r 118 246 ls (vI (hI x q i) :: st) x Q := (wp_u (show cd 118 245 = some (.iaload, 1, 0, 0, 0, 0) from rfl)).trans g_ldI
theorem u118_246 : wp r 118 246 ls (vI z :: vA q :: st) x Q ↔ sbk 9 (hK x q) ∧ wp r 118 249 ls st (stI x q 10 z) Q := (wp_u (show cd 118 246 = some (.putfield 145, 3, 9, 10, 0, 0) from rfl)).trans g_putI0
theorem u118_249 : wp r 118 249 [vR o, a1, a2, a3] st x Q ↔ wp r 118 250 [vR o, a1, a2, a3] (vR o :: st) x Q := (wp_u (show cd 118 249 = some (.aload_n 0, 1, 0, 0, 0, 0) from rfl))
theorem u118_250 : wp r 118 250 [vR o, a1, a2, a3] st x Q ↔ wp r 118 251 [vR o, a1, a2, a3] (vR o :: st) x Q := (wp_u (show cd 118 250 = some (.aload_n 0, 1, 0, 0, 0, 0) from rfl))
set_option maxRecDepth 20000 in
theorem u118_251 : wp r 118 251 ls (vA q :: st) x Q ↔ sbk 9 (hK x q) ∧ wp r 118 254 ls (vR (hR x q 2) :: st) x Q := (wp_u (show cd 118 251 = some (.getfield 7, 3, 9, 2, 5, 0) from rfl)).trans g_getR
set_option maxRecDepth 20000 in
theorem u118_254 : wp r 118 254 ls st x Q ↔ wp r 118 256 ls (vI 6 :: st) x Q := (wp_u (show cd 118 254 = some (.bipush 6, 2, 0, 0, 0, 0) from rfl))
set_option maxRecDepth 20000 in
theorem u118_256 : wp r 118 256 ls (vI i :: vA q :: st) x Q ↔ ldk 20 (hK x q) i ∧ wp r 118 257 ls (vI (hI x q i) :: st) x Q := (wp_u (show cd 118 256 = some (.iaload, 1, 0, 0, 0, 0) from rfl)).trans g_ldI
set_option maxRecDepth 20000 in
theorem u118_257 : wp r 118 257 ls st x Q ↔ wp r 118 259 ls (vI 32 :: st) x Q := (wp_u (show cd 118 257 = some (.bipush 32, 2, 0, 0, 0, 0) from rfl))
set_option maxRecDepth 20000 in
theorem u118_259 : wp r 118 259 ls (vI w :: vI z :: st) x Q ↔ if z = w then wp r 118 262 ls st x Q else wp r 118 266 ls st x Q := (wp_u (show cd 118 259 = some (.if_icmp .ne 7, 3, 266, 0, 0, 0) from rfl)).trans wq_dn
set_option maxRecDepth 20000 in
theorem u118_262 : wp r 118 262 ls st x Q ↔ wp r 118 263 ls (vI 0 :: st) x Q := (wp_u (show cd 118 262 = some (.iconst 0, 1, 0, 0, 0, 0) from rfl))
set_option maxRecDepth 20000 in
theorem u118_263 : wp r 118 263 ls st x Q ↔ wp r 118 273 ls st x Q := (wp_u (show cd 118 263 = some (.goto 10, 3, 273, 0, 0, 0) from rfl))
set_option maxRecDepth 20000 in
theorem u118_266 : wp r 118 266 [vR o, a1, a2, a3] st x Q ↔ wp r 118 267 [vR o, a1, a2, a3] (vR o :: st) x Q := (wp_u (show cd 118 266 = some (.aload_n 0, 1, 0, 0, 0, 0) from rfl))
set_option maxRecDepth 20000 in
theorem u118_267 : wp r 118 267 ls (vA q :: st) x Q ↔ sbk 9 (hK x q) ∧ wp r 118 270 ls (vR (hR x q 2) :: st) x Q := (wp_u (show cd 118 267 = some (.getfield 7, 3, 9, 2, 5, 0) from rfl)).trans g_getR
set_option maxRecDepth 20000 in
theorem u118_270 : wp r 118 270 ls st x Q ↔ wp r 118 272 ls (vI 6 :: st) x Q := (wp_u (show cd 118 270 = some (.bipush 6, 2, 0, 0, 0, 0) from rfl))
set_option maxRecDepth 20000 in
theorem u118_272 : wp r 118 272 ls (vI i :: vA q :: st) x Q ↔ ldk 20 (hK x q) i ∧ wp r 118 273 ls (vI (hI x q i) :: st) x Q := (wp_u (show cd 118 272 = some (.iaload, 1, 0, 0, 0, 0) from rfl)).trans g_ldI
set_option maxRecDepth 20000 in
theorem u118_273 : wp r 118 273 ls (vI z :: vA q :: st) x Q ↔ sbk 9 (hK x q) ∧ wp r 118 276 ls st (stI x q 11 z) Q := (wp_u (show cd 118 273 = some (.putfield 148, 3, 9, 11, 0, 0) from rfl)).trans g_putI0
set_option maxRecDepth 20000 in
theorem u118_276 : wp r 118 276 [vR o, a1, a2, a3] st x Q ↔ wp r 118 277 [vR o, a1, a2, a3] (vR o :: st) x Q := (wp_u (show cd 118 276 = some (.aload_n 0, 1, 0, 0, 0, 0) from rfl))
set_option maxRecDepth 20000 in
theorem u118_277 : wp r 118 277 [vR o, a1, a2, a3] st x Q ↔ wp r 118 278 [vR o, a1, a2, a3] (vR o :: st) x Q := (wp_u (show cd 118 277 = some (.aload_n 0, 1, 0, 0, 0, 0) from rfl))
set_option maxRecDepth 20000 in
theorem u118_278 : wp r 118 278 ls (vA q :: st) x Q ↔ sbk 9 (hK x q) ∧ wp r 118 281 ls (vR (hR x q 2) :: st) x Q := (wp_u (show cd 118 278 = some (.getfield 7, 3, 9, 2, 5, 0) from rfl)).trans g_getR
set_option maxRecDepth 20000 in
theorem u118_281 : wp r 118 281 ls st x Q ↔ wp r 118 283 ls (vI 8 :: st) x Q := (wp_u (show cd 118 281 = some (.bipush 8, 2, 0, 0, 0, 0) from rfl))
set_option maxRecDepth 20000 in
theorem u118_283 : wp r 118 283 ls (vI i :: vA q :: st) x Q ↔ ldk 20 (hK x q) i ∧ wp r 118 284 ls (vI (hI x q i) :: st) x Q := (wp_u (show cd 118 283 = some (.iaload, 1, 0, 0, 0, 0) from rfl)).trans g_ldI
set_option maxRecDepth 20000 in
theorem u118_284 : wp r 118 284 ls (vI z :: vA q :: st) x Q ↔ sbk 9 (hK x q) ∧ wp r 118 287 ls st (stI x q 12 z) Q := (wp_u (show cd 118 284 = some (.putfield 151, 3, 9, 12, 0, 0) from rfl)).trans g_putI0
set_option maxRecDepth 20000 in
theorem u118_287 : wp r 118 287 ls st x Q ↔ wp r 118 289 ls (vI 9 :: st) x Q := (wp_u (show cd 118 287 = some (.bipush 9, 2, 0, 0, 0, 0) from rfl))
set_option maxRecDepth 20000 in
theorem u118_289 : wp r 118 289 ls [vI z] x Q ↔ Q (.inl (some (vI z))) x := (wp_u (show cd 118 289 = some (.ireturn, 1, 0, 0, 0, 0) from rfl))
theorem e118 : wpc r 118 [vA q] x Q ↔ wp r 118 0 [vA q, vL jk, vL jk, vL jk] [] x Q := Iff.rfl
/-! 119 M_next -/
theorem u119_0 : wp r 119 0 [a0, vI z, a2] st x Q ↔ wp r 119 1 [a0, vI z, a2] (vI z :: st) x Q := (wp_u (show cd 119 0 = some (.iload_n 1, 1, 0, 0, 0, 0) from rfl))
theorem u119_1 : wp r 119 1 ls st x Q ↔ wp r 119 2 ls (vI 3 :: st) x Q := (wp_u (show cd 119 1 = some (.iconst 3, 1, 0, 0, 0, 0) from rfl))
theorem u119_2 : wp r 119 2 ls (vI w :: vI z :: st) x Q ↔ if w ≤ z then wp r 119 58 ls st x Q else wp r 119 5 ls st x Q := (wp_u (show cd 119 2 = some (.if_icmp .ge 56, 3, 58, 0, 0, 0) from rfl)).trans wq_d
theorem u119_5 : wp r 119 5 [a0, a1, vI z] st x Q ↔ wp r 119 6 [a0, a1, vI z] (vI z :: st) x Q := (wp_u (show cd 119 5 = some (.iload_n 2, 1, 0, 0, 0, 0) from rfl))
theorem u119_6 : wp r 119 6 ls (vI z0 :: st) x Q ↔ sml st = true ∧ 1 < r ∧ wpc 1 116 [vI z0] x (wk r 119 6 ls st Q) := (wp_u (show cd 119 6 = some (.invokestatic 108, 3, 116, 1, 1, 0) from rfl)).trans (g_stat (by decide) (by simp) rfl)
theorem u119_9 : wp r 119 9 ls (vI z :: st) x Q ↔ if z = 0 then wp r 119 21 ls st x Q else wp r 119 12 ls st x Q := (wp_u (show cd 119 9 = some (.ifCond .eq 12, 3, 21, 0, 0, 0) from rfl)).trans wq_d
theorem u119_12 : wp r 119 12 [vR o, a1, a2] st x Q ↔ wp r 119 13 [vR o, a1, a2] (vR o :: st) x Q := (wp_u (show cd 119 12 = some (.aload_n 0, 1, 0, 0, 0, 0) from rfl))
theorem u119_13 : wp r 119 13 ls (vA q :: st) x Q ↔ sbk 9 (hK x q) ∧ wp r 119 16 ls (vI (hI x q 14) :: st) x Q := (wp_u (show cd 119 13 = some (.getfield 169, 3, 9, 14, 0, 0) from rfl)).trans g_getI
theorem u119_16 : wp r 119 16 ls st x Q ↔ wp r 119 18 ls (vI 40 :: st) x Q := (wp_u (show cd 119 16 = some (.bipush 40, 2, 0, 0, 0, 0) from rfl))
theorem u119_18 : wp r 119 18 ls (vI w :: vI z :: st) x Q ↔ if z = w then wp r 119 21 ls st x Q else wp r 119 23 ls st x Q := (wp_u (show cd 119 18 = some (.if_icmp .ne 5, 3, 23, 0, 0, 0) from rfl)).trans wq_dn
theorem u119_21 : wp r 119 21 ls st x Q ↔ wp r 119 22 ls (vI (-1) :: st) x Q := (wp_u (show cd 119 21 = some (.iconst (-1), 1, 0, 0, 0, 0) from rfl))
theorem u119_22 : wp r 119 22 ls [vI z] x Q ↔ Q (.inl (some (vI z))) x := (wp_u (show cd 119 22 = some (.ireturn, 1, 0, 0, 0, 0) from rfl))
theorem u119_23 : wp r 119 23 [vR o, a1, a2] st x Q ↔ wp r 119 24 [vR o, a1, a2] (vR o :: st) x Q := (wp_u (show cd 119 23 = some (.aload_n 0, 1, 0, 0, 0, 0) from rfl))
theorem u119_24 : wp r 119 24 ls (vA q :: st) x Q ↔ sbk 9 (hK x q) ∧ wp r 119 27 ls (vR (hR x q 15) :: st) x Q := (wp_u (show cd 119 24 = some (.getfield 36, 3, 9, 15, 5, 0) from rfl)).trans g_getR
theorem u119_27 : wp r 119 27 [vR o, a1, a2] st x Q ↔ wp r 119 28 [vR o, a1, a2] (vR o :: st) x Q := (wp_u (show cd 119 27 = some (.aload_n 0, 1, 0, 0, 0, 0) from rfl))
theorem u119_28 : wp r 119 28 ls (vA q :: st) x Q ↔ sbk 9 (hK x q) ∧ wp r 119 31 ls (vI (hI x q 14) :: st) x Q := (wp_u (show cd 119 28 = some (.getfield 169, 3, 9, 14, 0, 0) from rfl)).trans g_getI
theorem u119_31 : wp r 119 31 [a0, vI z, a2] st x Q ↔ wp r 119 32 [a0, vI z, a2] (vI z :: st) x Q := (wp_u (show cd 119 31 = some (.iload_n 1, 1, 0, 0, 0, 0) from rfl))
theorem u119_32 : wp r 119 32 ls (vI z :: st) x Q ↔ if z = 0 then wp r 119 35 ls st x Q else wp r 119 39 ls st x Q := (wp_u (show cd 119 32 = some (.ifCond .ne 7, 3, 39, 0, 0, 0) from rfl)).trans wq_dn
theorem u119_35 : wp r 119 35 [a0, a1, vI z] st x Q ↔ wp r 119 36 [a0, a1, vI z] (vI z :: st) x Q := (wp_u (show cd 119 35 = some (.iload_n 2, 1, 0, 0, 0, 0) from rfl))
theorem u119_36 : wp r 119 36 ls st x Q ↔ wp r 119 53 ls st x Q := (wp_u (show cd 119 36 = some (.goto 17, 3, 53, 0, 0, 0) from rfl))
theorem u119_39 : wp r 119 39 [vR o, a1, a2] st x Q ↔ wp r 119 40 [vR o, a1, a2] (vR o :: st) x Q := (wp_u (show cd 119 39 = some (.aload_n 0, 1, 0, 0, 0, 0) from rfl))
theorem u119_40 : wp r 119 40 ls (vA q :: st) x Q ↔ sbk 9 (hK x q) ∧ wp r 119 43 ls (vR (hR x q 15) :: st) x Q := (wp_u (show cd 119 40 = some (.getfield 36, 3, 9, 15, 5, 0) from rfl)).trans g_getR
theorem u119_43 : wp r 119 43 [vR o, a1, a2] st x Q ↔ wp r 119 44 [vR o, a1, a2] (vR o :: st) x Q := (wp_u (show cd 119 43 = some (.aload_n 0, 1, 0, 0, 0, 0) from rfl))
theorem u119_44 : wp r 119 44 ls (vA q :: st) x Q ↔ sbk 9 (hK x q) ∧ wp r 119 47 ls (vI (hI x q 14) :: st) x Q := (wp_u (show cd 119 44 = some (.getfield 169, 3, 9, 14, 0, 0) from rfl)).trans g_getI
theorem u119_47 : wp r 119 47 ls (vI i :: vA q :: st) x Q ↔ ldk 20 (hK x q) i ∧ wp r 119 48 ls (vI (hI x q i) :: st) x Q := (wp_u (show cd 119 47 = some (.iaload, 1, 0, 0, 0, 0) from rfl)).trans g_ldI
theorem u119_48 : wp r 119 48 ls st x Q ↔ wp r 119 50 ls (vI 8 :: st) x Q := (wp_u (show cd 119 48 = some (.bipush 8, 2, 0, 0, 0, 0) from rfl))
theorem u119_50 : wp r 119 50 ls (vI w :: vI z :: st) x Q ↔ wp r 119 51 ls (vI (iShl z w) :: st) x Q := (wp_u (show cd 119 50 = some (.ishl, 1, 0, 0, 0, 0) from rfl)).trans (wq_if.trans (and_iff_right (inI_32 _)))
theorem u119_51 : wp r 119 51 [a0, a1, vI z] st x Q ↔ wp r 119 52 [a0, a1, vI z] (vI z :: st) x Q := (wp_u (show cd 119 51 = some (.iload_n 2, 1, 0, 0, 0, 0) from rfl))
theorem u119_52 : wp r 119 52 ls (vI w :: vI z :: st) x Q ↔ wp r 119 53 ls (vI (iOr z w) :: st) x Q := (wp_u (show cd 119 52 = some (.ior, 1, 0, 0, 0, 0) from rfl)).trans (wq_if.trans (and_iff_right (inI_32 _)))
theorem u119_53 : wp r 119 53 ls (vI z :: vI i :: vA q :: st) x Q ↔ ldk 20 (hK x q) i ∧ 4 ≤ q ∧ wp r 119 54 ls st (stI x q i z) Q := (wp_u (show cd 119 53 = some (.iastore, 1, 0, 0, 0, 0) from rfl)).trans g_stI0
theorem u119_54 : wp r 119 54 [a0, vI z, a2] st x Q ↔ wp r 119 55 [a0, vI z, a2] (vI z :: st) x Q := (wp_u (show cd 119 54 = some (.iload_n 1, 1, 0, 0, 0, 0) from rfl))
theorem u119_55 : wp r 119 55 ls st x Q ↔ wp r 119 56 ls (vI 1 :: st) x Q := (wp_u (show cd 119 55 = some (.iconst 1, 1, 0, 0, 0, 0) from rfl))
theorem u119_56 : wp r 119 56 ls (vI w :: vI z :: st) x Q ↔ inI (z + w) = true ∧ wp r 119 57 ls (vI (z + w) :: st) x Q := (wp_u (show cd 119 56 = some (.iadd, 1, 0, 0, 0, 0) from rfl)).trans wq_if
theorem u119_57 : wp r 119 57 ls [vI z] x Q ↔ Q (.inl (some (vI z))) x := (wp_u (show cd 119 57 = some (.ireturn, 1, 0, 0, 0, 0) from rfl))
theorem u119_58 : wp r 119 58 [a0, vI z, a2] st x Q ↔ wp r 119 59 [a0, vI z, a2] (vI z :: st) x Q := (wp_u (show cd 119 58 = some (.iload_n 1, 1, 0, 0, 0, 0) from rfl))
theorem u119_59 : wp r 119 59 ls st x Q ↔ wp r 119 60 ls (vI 5 :: st) x Q := (wp_u (show cd 119 59 = some (.iconst 5, 1, 0, 0, 0, 0) from rfl))
theorem u119_60 : wp r 119 60 ls (vI w :: vI z :: st) x Q ↔ if z = w then wp r 119 63 ls st x Q else wp r 119 70 ls st x Q := (wp_u (show cd 119 60 = some (.if_icmp .ne 10, 3, 70, 0, 0, 0) from rfl)).trans wq_dn
theorem u119_63 : wp r 119 63 [vR o, a1, a2] st x Q ↔ wp r 119 64 [vR o, a1, a2] (vR o :: st) x Q := (wp_u (show cd 119 63 = some (.aload_n 0, 1, 0, 0, 0, 0) from rfl))
theorem u119_64 : wp r 119 64 [a0, a1, vI z] st x Q ↔ wp r 119 65 [a0, a1, vI z] (vI z :: st) x Q := (wp_u (show cd 119 64 = some (.iload_n 2, 1, 0, 0, 0, 0) from rfl))
theorem u119_65 : wp r 119 65 ls (vI z0 :: vA q :: st) x Q ↔ isk 9 (hK x q) ∧ sml st = true ∧ 1 < r ∧ wpc 1 132 [vA q, vI z0] x (wk r 119 65 ls st Q) := (wp_u (show cd 119 65 = some (.invokevirtual 172, 3, 132, 2, 1, 9) from rfl)).trans (g_virt rfl (by decide) (by simp) rfl)
theorem u119_68 : wp r 119 68 ls st x Q ↔ wp r 119 69 ls (vI 4 :: st) x Q := (wp_u (show cd 119 68 = some (.iconst 4, 1, 0, 0, 0, 0) from rfl))
theorem u119_69 : wp r 119 69 ls [vI z] x Q ↔ Q (.inl (some (vI z))) x := (wp_u (show cd 119 69 = some (.ireturn, 1, 0, 0, 0, 0) from rfl))
theorem u119_70 : wp r 119 70 [a0, a1, vI z] st x Q ↔ wp r 119 71 [a0, a1, vI z] (vI z :: st) x Q := (wp_u (show cd 119 70 = some (.iload_n 2, 1, 0, 0, 0, 0) from rfl))
theorem u119_71 : wp r 119 71 [vR o, a1, a2] st x Q ↔ wp r 119 72 [vR o, a1, a2] (vR o :: st) x Q := (wp_u (show cd 119 71 = some (.aload_n 0, 1, 0, 0, 0, 0) from rfl))
theorem u119_72 : wp r 119 72 ls (vA q :: st) x Q ↔ sbk 9 (hK x q) ∧ wp r 119 75 ls (vI (hI x q 12) :: st) x Q := (wp_u (show cd 119 72 = some (.getfield 151, 3, 9, 12, 0, 0) from rfl)).trans g_getI
theorem u119_75 : wp r 119 75 ls (vI w :: vI z :: st) x Q ↔ if z = w then wp r 119 78 ls st x Q else wp r 119 103 ls st x Q := (wp_u (show cd 119 75 = some (.if_icmp .ne 28, 3, 103, 0, 0, 0) from rfl)).trans wq_dn
theorem u119_78 : wp r 119 78 [vR o, a1, a2] st x Q ↔ wp r 119 79 [vR o, a1, a2] (vR o :: st) x Q := (wp_u (show cd 119 78 = some (.aload_n 0, 1, 0, 0, 0, 0) from rfl))
theorem u119_79i : wp r 119 79 ls (vI z :: st) x Q ↔ wp r 119 80 ls (vI z :: vI z :: st) x Q := (wp_u (show cd 119 79 = some (.dup, 1, 0, 0, 0, 0) from rfl))
theorem u119_79 : wp r 119 79 ls (vR o :: st) x Q ↔ wp r 119 80 ls (vR o :: vR o :: st) x Q := (wp_u (show cd 119 79 = some (.dup, 1, 0, 0, 0, 0) from rfl))
theorem u119_80 : wp r 119 80 ls (vA q :: st) x Q ↔ sbk 9 (hK x q) ∧ wp r 119 83 ls (vI (hI x q 14) :: st) x Q := (wp_u (show cd 119 80 = some (.getfield 169, 3, 9, 14, 0, 0) from rfl)).trans g_getI
theorem u119_83 : wp r 119 83 ls st x Q ↔ wp r 119 84 ls (vI 1 :: st) x Q := (wp_u (show cd 119 83 = some (.iconst 1, 1, 0, 0, 0, 0) from rfl))
theorem u119_84 : wp r 119 84 ls (vI w :: vI z :: st) x Q ↔ inI (z + w) = true ∧ wp r 119 85 ls (vI (z + w) :: st) x Q := (wp_u (show cd 119 84 = some (.iadd, 1, 0, 0, 0, 0) from rfl)).trans wq_if
theorem u119_85 : wp r 119 85 ls (vI z :: vA q :: st) x Q ↔ sbk 9 (hK x q) ∧ wp r 119 88 ls st (stI x q 14 z) Q := (wp_u (show cd 119 85 = some (.putfield 169, 3, 9, 14, 0, 0) from rfl)).trans g_putI0
theorem u119_88 : wp r 119 88 [vR o, a1, a2] st x Q ↔ wp r 119 89 [vR o, a1, a2] (vR o :: st) x Q := (wp_u (show cd 119 88 = some (.aload_n 0, 1, 0, 0, 0, 0) from rfl))
theorem u119_89 : wp r 119 89 ls (vA q :: st) x Q ↔ sbk 9 (hK x q) ∧ wp r 119 92 ls (vR (hR x q 16) :: st) x Q := (wp_u (show cd 119 89 = some (.getfield 39, 3, 9, 16, 5, 0) from rfl)).trans g_getR
theorem u119_92 : wp r 119 92 [vR o, a1, a2] st x Q ↔ wp r 119 93 [vR o, a1, a2] (vR o :: st) x Q := (wp_u (show cd 119 92 = some (.aload_n 0, 1, 0, 0, 0, 0) from rfl))
theorem u119_93 : wp r 119 93 ls (vA q :: st) x Q ↔ sbk 9 (hK x q) ∧ wp r 119 96 ls (vI (hI x q 14) :: st) x Q := (wp_u (show cd 119 93 = some (.getfield 169, 3, 9, 14, 0, 0) from rfl)).trans g_getI
theorem u119_96 : wp r 119 96 [vR o, a1, a2] st x Q ↔ wp r 119 97 [vR o, a1, a2] (vR o :: st) x Q := (wp_u (show cd 119 96 = some (.aload_n 0, 1, 0, 0, 0, 0) from rfl))
theorem u119_97 : wp r 119 97 ls (vA q :: st) x Q ↔ sbk 9 (hK x q) ∧ wp r 119 100 ls (vI (hI x q 17) :: st) x Q := (wp_u (show cd 119 97 = some (.getfield 163, 3, 9, 17, 0, 0) from rfl)).trans g_getI
theorem u119_100 : wp r 119 100 ls (vI z :: vI i :: vA q :: st) x Q ↔ ldk 20 (hK x q) i ∧ 4 ≤ q ∧ wp r 119 101 ls st (stI x q i z) Q := (wp_u (show cd 119 100 = some (.iastore, 1, 0, 0, 0, 0) from rfl)).trans g_stI0
theorem u119_101 : wp r 119 101 ls st x Q ↔ wp r 119 102 ls (vI 0 :: st) x Q := (wp_u (show cd 119 101 = some (.iconst 0, 1, 0, 0, 0, 0) from rfl))
theorem u119_102 : wp r 119 102 ls [vI z] x Q ↔ Q (.inl (some (vI z))) x := (wp_u (show cd 119 102 = some (.ireturn, 1, 0, 0, 0, 0) from rfl))
theorem u119_103 : wp r 119 103 [a0, a1, vI z] st x Q ↔ wp r 119 104 [a0, a1, vI z] (vI z :: st) x Q := (wp_u (show cd 119 103 = some (.iload_n 2, 1, 0, 0, 0, 0) from rfl))
theorem u119_104 : wp r 119 104 [vR o, a1, a2] st x Q ↔ wp r 119 105 [vR o, a1, a2] (vR o :: st) x Q := (wp_u (show cd 119 104 = some (.aload_n 0, 1, 0, 0, 0, 0) from rfl))
theorem u119_105 : wp r 119 105 ls (vA q :: st) x Q ↔ sbk 9 (hK x q) ∧ wp r 119 108 ls (vI (hI x q 10) :: st) x Q := (wp_u (show cd 119 105 = some (.getfield 145, 3, 9, 10, 0, 0) from rfl)).trans g_getI
theorem u119_108 : wp r 119 108 ls (vI w :: vI z :: st) x Q ↔ if z = w then wp r 119 111 ls st x Q else wp r 119 128 ls st x Q := (wp_u (show cd 119 108 = some (.if_icmp .ne 20, 3, 128, 0, 0, 0) from rfl)).trans wq_dn
theorem u119_111 : wp r 119 111 [vR o, a1, a2] st x Q ↔ wp r 119 112 [vR o, a1, a2] (vR o :: st) x Q := (wp_u (show cd 119 111 = some (.aload_n 0, 1, 0, 0, 0, 0) from rfl))
theorem u119_112 : wp r 119 112 ls (vA q :: st) x Q ↔ sbk 9 (hK x q) ∧ wp r 119 115 ls (vI (hI x q 19) :: st) x Q := (wp_u (show cd 119 112 = some (.getfield 157, 3, 9, 19, 0, 0) from rfl)).trans g_getI
theorem u119_115 : wp r 119 115 ls st x Q ↔ wp r 119 117 ls (vI 120 :: st) x Q := (wp_u (show cd 119 115 = some (.bipush 120, 2, 0, 0, 0, 0) from rfl))
theorem u119_117 : wp r 119 117 ls (vI w :: vI z :: st) x Q ↔ if z = w then wp r 119 120 ls st x Q else wp r 119 122 ls st x Q := (wp_u (show cd 119 117 = some (.if_icmp .ne 5, 3, 122, 0, 0, 0) from rfl)).trans wq_dn
theorem u119_120 : wp r 119 120 ls st x Q ↔ wp r 119 121 ls (vI (-1) :: st) x Q := (wp_u (show cd 119 120 = some (.iconst (-1), 1, 0, 0, 0, 0) from rfl))
theorem u119_121 : wp r 119 121 ls [vI z] x Q ↔ Q (.inl (some (vI z))) x := (wp_u (show cd 119 121 = some (.ireturn, 1, 0, 0, 0, 0) from rfl))
theorem u119_122 : wp r 119 122 [vR o, a1, a2] st x Q ↔ wp r 119 123 [vR o, a1, a2] (vR o :: st) x Q := (wp_u (show cd 119 122 = some (.aload_n 0, 1, 0, 0, 0, 0) from rfl))
theorem u119_123 : wp r 119 123 ls (vA q :: st) x Q ↔ isk 9 (hK x q) ∧ sml st = true ∧ 2 < r ∧ wpc 2 133 [vA q] x (wk r 119 123 ls st Q) := (wp_u (show cd 119 123 = some (.invokevirtual 176, 3, 133, 1, 2, 9) from rfl)).trans (g_virt rfl (by decide) (by simp) rfl)
theorem u119_126 : wp r 119 126 ls st x Q ↔ wp r 119 127 ls (vI 4 :: st) x Q := (wp_u (show cd 119 126 = some (.iconst 4, 1, 0, 0, 0, 0) from rfl))
theorem u119_127 : wp r 119 127 ls [vI z] x Q ↔ Q (.inl (some (vI z))) x := (wp_u (show cd 119 127 = some (.ireturn, 1, 0, 0, 0, 0) from rfl))
theorem u119_128 : wp r 119 128 [a0, vI z, a2] st x Q ↔ wp r 119 129 [a0, vI z, a2] (vI z :: st) x Q := (wp_u (show cd 119 128 = some (.iload_n 1, 1, 0, 0, 0, 0) from rfl))
theorem u119_129 : wp r 119 129 ls st x Q ↔ wp r 119 130 ls (vI 3 :: st) x Q := (wp_u (show cd 119 129 = some (.iconst 3, 1, 0, 0, 0, 0) from rfl))
theorem u119_130 : wp r 119 130 ls (vI w :: vI z :: st) x Q ↔ if z = w then wp r 119 133 ls st x Q else wp r 119 135 ls st x Q := (wp_u (show cd 119 130 = some (.if_icmp .ne 5, 3, 135, 0, 0, 0) from rfl)).trans wq_dn
theorem u119_133 : wp r 119 133 ls st x Q ↔ wp r 119 134 ls (vI (-1) :: st) x Q := (wp_u (show cd 119 133 = some (.iconst (-1), 1, 0, 0, 0, 0) from rfl))
theorem u119_134 : wp r 119 134 ls [vI z] x Q ↔ Q (.inl (some (vI z))) x := (wp_u (show cd 119 134 = some (.ireturn, 1, 0, 0, 0, 0) from rfl))
theorem u119_135 : wp r 119 135 [a0, a1, vI z] st x Q ↔ wp r 119 136 [a0, a1, vI z] (vI z :: st) x Q := (wp_u (show cd 119 135 = some (.iload_n 2, 1, 0, 0, 0, 0) from rfl))
theorem u119_136 : wp r 119 136 [vR o, a1, a2] st x Q ↔ wp r 119 137 [vR o, a1, a2] (vR o :: st) x Q := (wp_u (show cd 119 136 = some (.aload_n 0, 1, 0, 0, 0, 0) from rfl))
theorem u119_137 : wp r 119 137 ls (vA q :: st) x Q ↔ sbk 9 (hK x q) ∧ wp r 119 140 ls (vI (hI x q 9) :: st) x Q := (wp_u (show cd 119 137 = some (.getfield 142, 3, 9, 9, 0, 0) from rfl)).trans g_getI
theorem u119_140 : wp r 119 140 ls (vI w :: vI z :: st) x Q ↔ if z = w then wp r 119 143 ls st x Q else wp r 119 173 ls st x Q := (wp_u (show cd 119 140 = some (.if_icmp .ne 33, 3, 173, 0, 0, 0) from rfl)).trans wq_dn
theorem u119_143 : wp r 119 143 [vR o, a1, a2] st x Q ↔ wp r 119 144 [vR o, a1, a2] (vR o :: st) x Q := (wp_u (show cd 119 143 = some (.aload_n 0, 1, 0, 0, 0, 0) from rfl))
theorem u119_144 : wp r 119 144 ls (vA q :: st) x Q ↔ sbk 9 (hK x q) ∧ wp r 119 147 ls (vI (hI x q 19) :: st) x Q := (wp_u (show cd 119 144 = some (.getfield 157, 3, 9, 19, 0, 0) from rfl)).trans g_getI
theorem u119_147 : wp r 119 147 ls st x Q ↔ wp r 119 149 ls (vI 120 :: st) x Q := (wp_u (show cd 119 147 = some (.bipush 120, 2, 0, 0, 0, 0) from rfl))
theorem u119_149 : wp r 119 149 ls (vI w :: vI z :: st) x Q ↔ if z = w then wp r 119 152 ls st x Q else wp r 119 154 ls st x Q := (wp_u (show cd 119 149 = some (.if_icmp .ne 5, 3, 154, 0, 0, 0) from rfl)).trans wq_dn
theorem u119_152 : wp r 119 152 ls st x Q ↔ wp r 119 153 ls (vI (-1) :: st) x Q := (wp_u (show cd 119 152 = some (.iconst (-1), 1, 0, 0, 0, 0) from rfl))
theorem u119_153 : wp r 119 153 ls [vI z] x Q ↔ Q (.inl (some (vI z))) x := (wp_u (show cd 119 153 = some (.ireturn, 1, 0, 0, 0, 0) from rfl))
theorem u119_154 : wp r 119 154 [vR o, a1, a2] st x Q ↔ wp r 119 155 [vR o, a1, a2] (vR o :: st) x Q := (wp_u (show cd 119 154 = some (.aload_n 0, 1, 0, 0, 0, 0) from rfl))
theorem u119_155 : wp r 119 155 ls (vA q :: st) x Q ↔ isk 9 (hK x q) ∧ sml st = true ∧ 1 < r ∧ wpc 1 134 [vA q] x (wk r 119 155 ls st Q) := (wp_u (show cd 119 155 = some (.invokevirtual 166, 3, 134, 1, 1, 9) from rfl)).trans (g_virt rfl (by decide) (by simp) rfl)
theorem u119_158 : wp r 119 158 [vR o, a1, a2] st x Q ↔ wp r 119 159 [vR o, a1, a2] (vR o :: st) x Q := (wp_u (show cd 119 158 = some (.aload_n 0, 1, 0, 0, 0, 0) from rfl))
theorem u119_159 : wp r 119 159 ls (vA q :: st) x Q ↔ sbk 9 (hK x q) ∧ wp r 119 162 ls (vR (hR x q 18) :: st) x Q := (wp_u (show cd 119 159 = some (.getfield 42, 3, 9, 18, 5, 0) from rfl)).trans g_getR
theorem u119_162 : wp r 119 162 [vR o, a1, a2] st x Q ↔ wp r 119 163 [vR o, a1, a2] (vR o :: st) x Q := (wp_u (show cd 119 162 = some (.aload_n 0, 1, 0, 0, 0, 0) from rfl))
theorem u119_163 : wp r 119 163 ls (vA q :: st) x Q ↔ sbk 9 (hK x q) ∧ wp r 119 166 ls (vI (hI x q 17) :: st) x Q := (wp_u (show cd 119 163 = some (.getfield 163, 3, 9, 17, 0, 0) from rfl)).trans g_getI
theorem u119_166 : wp r 119 166 [vR o, a1, a2] st x Q ↔ wp r 119 167 [vR o, a1, a2] (vR o :: st) x Q := (wp_u (show cd 119 166 = some (.aload_n 0, 1, 0, 0, 0, 0) from rfl))
theorem u119_167 : wp r 119 167 ls (vA q :: st) x Q ↔ sbk 9 (hK x q) ∧ wp r 119 170 ls (vI (hI x q 19) :: st) x Q := (wp_u (show cd 119 167 = some (.getfield 157, 3, 9, 19, 0, 0) from rfl)).trans g_getI
theorem u119_170 : wp r 119 170 ls (vI z :: vI i :: vA q :: st) x Q ↔ ldk 20 (hK x q) i ∧ 4 ≤ q ∧ wp r 119 171 ls st (stI x q i z) Q := (wp_u (show cd 119 170 = some (.iastore, 1, 0, 0, 0, 0) from rfl)).trans g_stI0
theorem u119_171 : wp r 119 171 ls st x Q ↔ wp r 119 172 ls (vI 4 :: st) x Q := (wp_u (show cd 119 171 = some (.iconst 4, 1, 0, 0, 0, 0) from rfl))
theorem u119_172 : wp r 119 172 ls [vI z] x Q ↔ Q (.inl (some (vI z))) x := (wp_u (show cd 119 172 = some (.ireturn, 1, 0, 0, 0, 0) from rfl))
theorem u119_173 : wp r 119 173 [a0, a1, vI z] st x Q ↔ wp r 119 174 [a0, a1, vI z] (vI z :: st) x Q := (wp_u (show cd 119 173 = some (.iload_n 2, 1, 0, 0, 0, 0) from rfl))
theorem u119_174 : wp r 119 174 [vR o, a1, a2] st x Q ↔ wp r 119 175 [vR o, a1, a2] (vR o :: st) x Q := (wp_u (show cd 119 174 = some (.aload_n 0, 1, 0, 0, 0, 0) from rfl))
theorem u119_175 : wp r 119 175 ls (vA q :: st) x Q ↔ sbk 9 (hK x q) ∧ wp r 119 178 ls (vI (hI x q 11) :: st) x Q := (wp_u (show cd 119 175 = some (.getfield 148, 3, 9, 11, 0, 0) from rfl)).trans g_getI
theorem u119_178 : wp r 119 178 ls (vI w :: vI z :: st) x Q ↔ if z = w then wp r 119 181 ls st x Q else wp r 119 183 ls st x Q := (wp_u (show cd 119 178 = some (.if_icmp .ne 5, 3, 183, 0, 0, 0) from rfl)).trans wq_dn
theorem u119_181 : wp r 119 181 ls st x Q ↔ wp r 119 182 ls (vI 5 :: st) x Q := (wp_u (show cd 119 181 = some (.iconst 5, 1, 0, 0, 0, 0) from rfl))
theorem u119_182 : wp r 119 182 ls [vI z] x Q ↔ Q (.inl (some (vI z))) x := (wp_u (show cd 119 182 = some (.ireturn, 1, 0, 0, 0, 0) from rfl))
theorem u119_183 : wp r 119 183 [vR o, a1, a2] st x Q ↔ wp r 119 184 [vR o, a1, a2] (vR o :: st) x Q := (wp_u (show cd 119 183 = some (.aload_n 0, 1, 0, 0, 0, 0) from rfl))
theorem u119_184 : wp r 119 184 [a0, a1, vI z] st x Q ↔ wp r 119 185 [a0, a1, vI z] (vI z :: st) x Q := (wp_u (show cd 119 184 = some (.iload_n 2, 1, 0, 0, 0, 0) from rfl))
theorem u119_185 : wp r 119 185 ls (vI z0 :: vA q :: st) x Q ↔ isk 9 (hK x q) ∧ sml st = true ∧ 1 < r ∧ wpc 1 132 [vA q, vI z0] x (wk r 119 185 ls st Q) := (wp_u (show cd 119 185 = some (.invokevirtual 172, 3, 132, 2, 1, 9) from rfl)).trans (g_virt rfl (by decide) (by simp) rfl)
theorem u119_188 : wp r 119 188 ls st x Q ↔ wp r 119 189 ls (vI 4 :: st) x Q := (wp_u (show cd 119 188 = some (.iconst 4, 1, 0, 0, 0, 0) from rfl))
theorem u119_189 : wp r 119 189 ls [vI z] x Q ↔ Q (.inl (some (vI z))) x := (wp_u (show cd 119 189 = some (.ireturn, 1, 0, 0, 0, 0) from rfl))
theorem e119 : wpc r 119 [vA q, vI z0, vI z1] x Q ↔ wp r 119 0 [vA q, vI z0, vI z1] [] x Q := Iff.rfl
/-! 120 M_component -/
theorem u120_0 : wp r 120 0 [vR o, a1, a2, a3] st x Q ↔ wp r 120 1 [vR o, a1, a2, a3] (vR o :: st) x Q := (wp_u (show cd 120 0 = some (.aload_n 0, 1, 0, 0, 0, 0) from rfl))
theorem u120_1 : wp r 120 1 ls (vA q :: st) x Q ↔ sbk 9 (hK x q) ∧ wp r 120 4 ls (vR (hR x q 26) :: st) x Q := (wp_u (show cd 120 1 = some (.getfield 54, 3, 9, 26, 5, 0) from rfl)).trans g_getR
theorem u120_4 : wp r 120 4 [a0, vI z, a2, a3] st x Q ↔ wp r 120 5 [a0, vI z, a2, a3] (vI z :: st) x Q := (wp_u (show cd 120 4 = some (.iload_n 1, 1, 0, 0, 0, 0) from rfl))
theorem u120_5 : wp r 120 5 ls (vI i :: vA q :: st) x Q ↔ ldk 20 (hK x q) i ∧ wp r 120 6 ls (vI (hI x q i) :: st) x Q := (wp_u (show cd 120 5 = some (.iaload, 1, 0, 0, 0, 0) from rfl)).trans g_ldI
theorem u120_6 : wp r 120 6 [a0, a1, vI z, a3] st x Q ↔ wp r 120 7 [a0, a1, vI z, a3] (vI z :: st) x Q := (wp_u (show cd 120 6 = some (.iload_n 2, 1, 0, 0, 0, 0) from rfl))
theorem u120_7 : wp r 120 7 ls (vI w :: vI z :: st) x Q ↔ inI (z + w) = true ∧ wp r 120 8 ls (vI (z + w) :: st) x Q := (wp_u (show cd 120 7 = some (.iadd, 1, 0, 0, 0, 0) from rfl)).trans wq_if
theorem u120_8 : wp r 120 8 [a0, a1, a2, a3] (vI z :: st) x Q ↔ wp r 120 9 [a0, a1, a2, vI z] st x Q := (wp_u (show cd 120 8 = some (.istore_n 3, 1, 0, 0, 0, 0) from rfl))
theorem u120_9 : wp r 120 9 [a0, a1, a2, vI z] st x Q ↔ wp r 120 10 [a0, a1, a2, vI z] (vI z :: st) x Q := (wp_u (show cd 120 9 = some (.iload_n 3, 1, 0, 0, 0, 0) from rfl))
theorem u120_10 : wp r 120 10 [vR o, a1, a2, a3] st x Q ↔ wp r 120 11 [vR o, a1, a2, a3] (vR o :: st) x Q := (wp_u (show cd 120 10 = some (.aload_n 0, 1, 0, 0, 0, 0) from rfl))
theorem u120_11 : wp r 120 11 ls (vA q :: st) x Q ↔ sbk 9 (hK x q) ∧ wp r 120 14 ls (vR (hR x q 26) :: st) x Q := (wp_u (show cd 120 11 = some (.getfield 54, 3, 9, 26, 5, 0) from rfl)).trans g_getR
theorem u120_14 : wp r 120 14 [a0, vI z, a2, a3] st x Q ↔ wp r 120 15 [a0, vI z, a2, a3] (vI z :: st) x Q := (wp_u (show cd 120 14 = some (.iload_n 1, 1, 0, 0, 0, 0) from rfl))
theorem u120_15 : wp r 120 15 ls st x Q ↔ wp r 120 16 ls (vI 1 :: st) x Q := (wp_u (show cd 120 15 = some (.iconst 1, 1, 0, 0, 0, 0) from rfl))
theorem u120_16 : wp r 120 16 ls (vI w :: vI z :: st) x Q ↔ inI (z + w) = true ∧ wp r 120 17 ls (vI (z + w) :: st) x Q := (wp_u (show cd 120 16 = some (.iadd, 1, 0, 0, 0, 0) from rfl)).trans wq_if
theorem u120_17 : wp r 120 17 ls (vI i :: vA q :: st) x Q ↔ ldk 20 (hK x q) i ∧ wp r 120 18 ls (vI (hI x q i) :: st) x Q := (wp_u (show cd 120 17 = some (.iaload, 1, 0, 0, 0, 0) from rfl)).trans g_ldI
theorem u120_18 : wp r 120 18 ls (vI w :: vI z :: st) x Q ↔ if w ≤ z then wp r 120 30 ls st x Q else wp r 120 21 ls st x Q := (wp_u (show cd 120 18 = some (.if_icmp .ge 12, 3, 30, 0, 0, 0) from rfl)).trans wq_d
theorem u120_21 : wp r 120 21 [vR o, a1, a2, a3] st x Q ↔ wp r 120 22 [vR o, a1, a2, a3] (vR o :: st) x Q := (wp_u (show cd 120 21 = some (.aload_n 0, 1, 0, 0, 0, 0) from rfl))
theorem u120_22 : wp r 120 22 ls (vA q :: st) x Q ↔ sbk 9 (hK x q) ∧ wp r 120 25 ls (vR (hR x q 28) :: st) x Q := (wp_u (show cd 120 22 = some (.getfield 57, 3, 9, 28, 5, 0) from rfl)).trans g_getR
theorem u120_25 : wp r 120 25 [a0, a1, a2, vI z] st x Q ↔ wp r 120 26 [a0, a1, a2, vI z] (vI z :: st) x Q := (wp_u (show cd 120 25 = some (.iload_n 3, 1, 0, 0, 0, 0) from rfl))
theorem u120_26 : wp r 120 26 ls (vI i :: vA q :: st) x Q ↔ ldk 20 (hK x q) i ∧ wp r 120 27 ls (vI (hI x q i) :: st) x Q := (wp_u (show cd 120 26 = some (.iaload, 1, 0, 0, 0, 0) from rfl)).trans g_ldI
theorem u120_27 : wp r 120 27 ls st x Q ↔ wp r 120 31 ls st x Q := (wp_u (show cd 120 27 = some (.goto 4, 3, 31, 0, 0, 0) from rfl))
theorem u120_30 : wp r 120 30 ls st x Q ↔ wp r 120 31 ls (vI (-1) :: st) x Q := (wp_u (show cd 120 30 = some (.iconst (-1), 1, 0, 0, 0, 0) from rfl))
theorem u120_31 : wp r 120 31 ls [vI z] x Q ↔ Q (.inl (some (vI z))) x := (wp_u (show cd 120 31 = some (.ireturn, 1, 0, 0, 0, 0) from rfl))
theorem e120 : wpc r 120 [vA q, vI z0, vI z1] x Q ↔ wp r 120 0 [vA q, vI z0, vI z1, vL jk] [] x Q := Iff.rfl
/-! 121 M_same -/
theorem u121_0 : wp r 121 0 [vR o, a1, a2, a3, a4, a5] st x Q ↔ wp r 121 1 [vR o, a1, a2, a3, a4, a5] (vR o :: st) x Q := (wp_u (show cd 121 0 = some (.aload_n 0, 1, 0, 0, 0, 0) from rfl))
theorem u121_1 : wp r 121 1 [a0, vI z, a2, a3, a4, a5] st x Q ↔ wp r 121 2 [a0, vI z, a2, a3, a4, a5] (vI z :: st) x Q := (wp_u (show cd 121 1 = some (.iload_n 1, 1, 0, 0, 0, 0) from rfl))
theorem u121_2 : wp r 121 2 ls (vI z0 :: vA q :: st) x Q ↔ isk 9 (hK x q) ∧ sml st = true ∧ 1 < r ∧ wpc 1 115 [vA q, vI z0] x (wk r 121 2 ls st Q) := (wp_u (show cd 121 2 = some (.invokevirtual 202, 3, 115, 2, 1, 9) from rfl)).trans (g_virt rfl (by decide) (by simp) rfl)
theorem u121_5 : wp r 121 5 [a0, a1, a2, a3, a4, a5] (vI z :: st) x Q ↔ wp r 121 6 [a0, a1, a2, vI z, a4, a5] st x Q := (wp_u (show cd 121 5 = some (.istore_n 3, 1, 0, 0, 0, 0) from rfl))
theorem u121_6 : wp r 121 6 [a0, a1, a2, vI z, a4, a5] st x Q ↔ wp r 121 7 [a0, a1, a2, vI z, a4, a5] (vI z :: st) x Q := (wp_u (show cd 121 6 = some (.iload_n 3, 1, 0, 0, 0, 0) from rfl))
theorem u121_7 : wp r 121 7 [vR o, a1, a2, a3, a4, a5] st x Q ↔ wp r 121 8 [vR o, a1, a2, a3, a4, a5] (vR o :: st) x Q := (wp_u (show cd 121 7 = some (.aload_n 0, 1, 0, 0, 0, 0) from rfl))
theorem u121_8 : wp r 121 8 [a0, a1, vI z, a3, a4, a5] st x Q ↔ wp r 121 9 [a0, a1, vI z, a3, a4, a5] (vI z :: st) x Q := (wp_u (show cd 121 8 = some (.iload_n 2, 1, 0, 0, 0, 0) from rfl))
theorem u121_9 : wp r 121 9 ls (vI z0 :: vA q :: st) x Q ↔ isk 9 (hK x q) ∧ sml st = true ∧ 1 < r ∧ wpc 1 115 [vA q, vI z0] x (wk r 121 9 ls st Q) := (wp_u (show cd 121 9 = some (.invokevirtual 202, 3, 115, 2, 1, 9) from rfl)).trans (g_virt rfl (by decide) (by simp) rfl)
theorem u121_12 : wp r 121 12 ls (vI w :: vI z :: st) x Q ↔ if z = w then wp r 121 15 ls st x Q else wp r 121 19 ls st x Q := (wp_u (show cd 121 12 = some (.if_icmp .ne 7, 3, 19, 0, 0, 0) from rfl)).trans wq_dn
theorem u121_15 : wp r 121 15 ls st x Q ↔ wp r 121 16 ls (vI 1 :: st) x Q := (wp_u (show cd 121 15 = some (.iconst 1, 1, 0, 0, 0, 0) from rfl))
theorem u121_16 : wp r 121 16 ls st x Q ↔ wp r 121 20 ls st x Q := (wp_u (show cd 121 16 = some (.goto 4, 3, 20, 0, 0, 0) from rfl))
theorem u121_19 : wp r 121 19 ls st x Q ↔ wp r 121 20 ls (vI 0 :: st) x Q := (wp_u (show cd 121 19 = some (.iconst 0, 1, 0, 0, 0, 0) from rfl))
theorem u121_20 : wp r 121 20 [a0, a1, a2, a3, a4, a5] (vI z :: st) x Q ↔ wp r 121 22 [a0, a1, a2, a3, vI z, a5] st x Q := (wp_u (show cd 121 20 = some (.istore 4, 2, 0, 0, 0, 0) from rfl))
theorem u121_22 : wp r 121 22 ls st x Q ↔ wp r 121 23 ls (vI 0 :: st) x Q := (wp_u (show cd 121 22 = some (.iconst 0, 1, 0, 0, 0, 0) from rfl))
theorem u121_23 : wp r 121 23 [a0, a1, a2, a3, a4, a5] (vI z :: st) x Q ↔ wp r 121 25 [a0, a1, a2, a3, a4, vI z] st x Q := (wp_u (show cd 121 23 = some (.istore 5, 2, 0, 0, 0, 0) from rfl))
theorem u121_25 : wp r 121 25 [a0, a1, a2, a3, a4, vI z] st x Q ↔ wp r 121 27 [a0, a1, a2, a3, a4, vI z] (vI z :: st) x Q := (wp_u (show cd 121 25 = some (.iload 5, 2, 0, 0, 0, 0) from rfl))
theorem u121_27 : wp r 121 27 [a0, a1, a2, vI z, a4, a5] st x Q ↔ wp r 121 28 [a0, a1, a2, vI z, a4, a5] (vI z :: st) x Q := (wp_u (show cd 121 27 = some (.iload_n 3, 1, 0, 0, 0, 0) from rfl))
theorem u121_28 : wp r 121 28 ls (vI w :: vI z :: st) x Q ↔ if w ≤ z then wp r 121 80 ls st x Q else wp r 121 31 ls st x Q := (wp_u (show cd 121 28 = some (.if_icmp .ge 52, 3, 80, 0, 0, 0) from rfl)).trans wq_d
theorem u121_31 : wp r 121 31 [a0, a1, a2, a3, vI z, a5] st x Q ↔ wp r 121 33 [a0, a1, a2, a3, vI z, a5] (vI z :: st) x Q := (wp_u (show cd 121 31 = some (.iload 4, 2, 0, 0, 0, 0) from rfl))
theorem u121_33 : wp r 121 33 ls (vI z :: st) x Q ↔ if z = 0 then wp r 121 80 ls st x Q else wp r 121 36 ls st x Q := (wp_u (show cd 121 33 = some (.ifCond .eq 47, 3, 80, 0, 0, 0) from rfl)).trans wq_d
theorem u121_36 : wp r 121 36 [vR o, a1, a2, a3, a4, a5] st x Q ↔ wp r 121 37 [vR o, a1, a2, a3, a4, a5] (vR o :: st) x Q := (wp_u (show cd 121 36 = some (.aload_n 0, 1, 0, 0, 0, 0) from rfl))
theorem u121_37 : wp r 121 37 ls (vA q :: st) x Q ↔ sbk 9 (hK x q) ∧ wp r 121 40 ls (vR (hR x q 31) :: st) x Q := (wp_u (show cd 121 37 = some (.getfield 63, 3, 9, 31, 5, 0) from rfl)).trans g_getR
theorem u121_40 : wp r 121 40 [vR o, a1, a2, a3, a4, a5] st x Q ↔ wp r 121 41 [vR o, a1, a2, a3, a4, a5] (vR o :: st) x Q := (wp_u (show cd 121 40 = some (.aload_n 0, 1, 0, 0, 0, 0) from rfl))
theorem u121_41 : wp r 121 41 ls (vA q :: st) x Q ↔ sbk 9 (hK x q) ∧ wp r 121 44 ls (vR (hR x q 30) :: st) x Q := (wp_u (show cd 121 41 = some (.getfield 60, 3, 9, 30, 5, 0) from rfl)).trans g_getR
theorem u121_44 : wp r 121 44 [a0, vI z, a2, a3, a4, a5] st x Q ↔ wp r 121 45 [a0, vI z, a2, a3, a4, a5] (vI z :: st) x Q := (wp_u (show cd 121 44 = some (.iload_n 1, 1, 0, 0, 0, 0) from rfl))
theorem u121_45 : wp r 121 45 ls (vI i :: vA q :: st) x Q ↔ ldk 20 (hK x q) i ∧ wp r 121 46 ls (vI (hI x q i) :: st) x Q := (wp_u (show cd 121 45 = some (.iaload, 1, 0, 0, 0, 0) from rfl)).trans g_ldI
theorem u121_46 : wp r 121 46 [a0, a1, a2, a3, a4, vI z] st x Q ↔ wp r 121 48 [a0, a1, a2, a3, a4, vI z] (vI z :: st) x Q := (wp_u (show cd 121 46 = some (.iload 5, 2, 0, 0, 0, 0) from rfl))
theorem u121_48 : wp r 121 48 ls (vI w :: vI z :: st) x Q ↔ inI (z + w) = true ∧ wp r 121 49 ls (vI (z + w) :: st) x Q := (wp_u (show cd 121 48 = some (.iadd, 1, 0, 0, 0, 0) from rfl)).trans wq_if
theorem u121_49 : wp r 121 49 ls (vI i :: vA q :: st) x Q ↔ ldk 20 (hK x q) i ∧ wp r 121 50 ls (vI (hI x q i) :: st) x Q := (wp_u (show cd 121 49 = some (.iaload, 1, 0, 0, 0, 0) from rfl)).trans g_ldI
theorem u121_50 : wp r 121 50 [vR o, a1, a2, a3, a4, a5] st x Q ↔ wp r 121 51 [vR o, a1, a2, a3, a4, a5] (vR o :: st) x Q := (wp_u (show cd 121 50 = some (.aload_n 0, 1, 0, 0, 0, 0) from rfl))
theorem u121_51 : wp r 121 51 ls (vA q :: st) x Q ↔ sbk 9 (hK x q) ∧ wp r 121 54 ls (vR (hR x q 31) :: st) x Q := (wp_u (show cd 121 51 = some (.getfield 63, 3, 9, 31, 5, 0) from rfl)).trans g_getR
theorem u121_54 : wp r 121 54 [vR o, a1, a2, a3, a4, a5] st x Q ↔ wp r 121 55 [vR o, a1, a2, a3, a4, a5] (vR o :: st) x Q := (wp_u (show cd 121 54 = some (.aload_n 0, 1, 0, 0, 0, 0) from rfl))
theorem u121_55 : wp r 121 55 ls (vA q :: st) x Q ↔ sbk 9 (hK x q) ∧ wp r 121 58 ls (vR (hR x q 30) :: st) x Q := (wp_u (show cd 121 55 = some (.getfield 60, 3, 9, 30, 5, 0) from rfl)).trans g_getR
theorem u121_58 : wp r 121 58 [a0, a1, vI z, a3, a4, a5] st x Q ↔ wp r 121 59 [a0, a1, vI z, a3, a4, a5] (vI z :: st) x Q := (wp_u (show cd 121 58 = some (.iload_n 2, 1, 0, 0, 0, 0) from rfl))
theorem u121_59 : wp r 121 59 ls (vI i :: vA q :: st) x Q ↔ ldk 20 (hK x q) i ∧ wp r 121 60 ls (vI (hI x q i) :: st) x Q := (wp_u (show cd 121 59 = some (.iaload, 1, 0, 0, 0, 0) from rfl)).trans g_ldI
theorem u121_60 : wp r 121 60 [a0, a1, a2, a3, a4, vI z] st x Q ↔ wp r 121 62 [a0, a1, a2, a3, a4, vI z] (vI z :: st) x Q := (wp_u (show cd 121 60 = some (.iload 5, 2, 0, 0, 0, 0) from rfl))
theorem u121_62 : wp r 121 62 ls (vI w :: vI z :: st) x Q ↔ inI (z + w) = true ∧ wp r 121 63 ls (vI (z + w) :: st) x Q := (wp_u (show cd 121 62 = some (.iadd, 1, 0, 0, 0, 0) from rfl)).trans wq_if
theorem u121_63 : wp r 121 63 ls (vI i :: vA q :: st) x Q ↔ ldk 20 (hK x q) i ∧ wp r 121 64 ls (vI (hI x q i) :: st) x Q := (wp_u (show cd 121 63 = some (.iaload, 1, 0, 0, 0, 0) from rfl)).trans g_ldI
theorem u121_64 : wp r 121 64 ls (vI w :: vI z :: st) x Q ↔ if z = w then wp r 121 67 ls st x Q else wp r 121 71 ls st x Q := (wp_u (show cd 121 64 = some (.if_icmp .ne 7, 3, 71, 0, 0, 0) from rfl)).trans wq_dn
theorem u121_67 : wp r 121 67 ls st x Q ↔ wp r 121 68 ls (vI 1 :: st) x Q := (wp_u (show cd 121 67 = some (.iconst 1, 1, 0, 0, 0, 0) from rfl))
theorem u121_68 : wp r 121 68 ls st x Q ↔ wp r 121 72 ls st x Q := (wp_u (show cd 121 68 = some (.goto 4, 3, 72, 0, 0, 0) from rfl))
theorem u121_71 : wp r 121 71 ls st x Q ↔ wp r 121 72 ls (vI 0 :: st) x Q := (wp_u (show cd 121 71 = some (.iconst 0, 1, 0, 0, 0, 0) from rfl))
theorem u121_72 : wp r 121 72 [a0, a1, a2, a3, a4, a5] (vI z :: st) x Q ↔ wp r 121 74 [a0, a1, a2, a3, vI z, a5] st x Q := (wp_u (show cd 121 72 = some (.istore 4, 2, 0, 0, 0, 0) from rfl))
theorem u121_74 : wp r 121 74 [a0, a1, a2, a3, a4, vI z] st x Q ↔ inI (z + 1) = true ∧ wp r 121 77 [a0, a1, a2, a3, a4, vI (z + 1)] st x Q := (wp_u (show cd 121 74 = some (.iinc 5 1, 3, 0, 0, 0, 0) from rfl)).trans wq_if
theorem u121_77 : wp r 121 77 ls st x Q ↔ wp r 121 25 ls st x Q := (wp_u (show cd 121 77 = some (.goto (-52), 3, 25, 0, 0, 0) from rfl))
theorem u121_80 : wp r 121 80 [a0, a1, a2, a3, vI z, a5] st x Q ↔ wp r 121 82 [a0, a1, a2, a3, vI z, a5] (vI z :: st) x Q := (wp_u (show cd 121 80 = some (.iload 4, 2, 0, 0, 0, 0) from rfl))
theorem u121_82 : wp r 121 82 ls [vI z] x Q ↔ rg 4 z = true ∧ Q (.inl (some (vI z))) x := (wp_u (show cd 121 82 = some (.ireturn, 1, 4, 0, 0, 0) from rfl)).trans wq_if
theorem e121 : wpc r 121 [vA q, vI z0, vI z1] x Q ↔ wp r 121 0 [vA q, vI z0, vI z1, vL jk, vL jk, vL jk] [] x Q := Iff.rfl
/-! 122 M_typeOf -/
theorem u122_0 : wp r 122 0 [vR o, a1, a2, a3] st x Q ↔ wp r 122 1 [vR o, a1, a2, a3] (vR o :: st) x Q := (wp_u (show cd 122 0 = some (.aload_n 0, 1, 0, 0, 0, 0) from rfl))
theorem u122_1 : wp r 122 1 [vR o, a1, a2, a3] st x Q ↔ wp r 122 2 [vR o, a1, a2, a3] (vR o :: st) x Q := (wp_u (show cd 122 1 = some (.aload_n 0, 1, 0, 0, 0, 0) from rfl))
theorem u122_2 : wp r 122 2 ls (vA q :: st) x Q ↔ sbk 9 (hK x q) ∧ wp r 122 5 ls (vR (hR x q 34) :: st) x Q := (wp_u (show cd 122 2 = some (.getfield 66, 3, 9, 34, 5, 0) from rfl)).trans g_getR
theorem u122_5 : wp r 122 5 [a0, vI z, a2, a3] st x Q ↔ wp r 122 6 [a0, vI z, a2, a3] (vI z :: st) x Q := (wp_u (show cd 122 5 = some (.iload_n 1, 1, 0, 0, 0, 0) from rfl))
theorem u122_6 : wp r 122 6 ls (vI i :: vA q :: st) x Q ↔ ldk 20 (hK x q) i ∧ wp r 122 7 ls (vI (hI x q i) :: st) x Q := (wp_u (show cd 122 6 = some (.iaload, 1, 0, 0, 0, 0) from rfl)).trans g_ldI
theorem u122_7 : wp r 122 7 ls st x Q ↔ wp r 122 8 ls (vI 1 :: st) x Q := (wp_u (show cd 122 7 = some (.iconst 1, 1, 0, 0, 0, 0) from rfl))
theorem u122_8 : wp r 122 8 ls (vI z1 :: vI z0 :: vA q :: st) x Q ↔ isk 9 (hK x q) ∧ sml st = true ∧ 1 < r ∧ wpc 1 120 [vA q, vI z0, vI z1] x (wk r 122 8 ls st Q) := (wp_u (show cd 122 8 = some (.invokevirtual 205, 3, 120, 3, 1, 9) from rfl)).trans (g_virt rfl (by decide) (by simp) rfl)
theorem u122_11 : wp r 122 11 [a0, a1, a2, a3] (vI z :: st) x Q ↔ wp r 122 12 [a0, a1, vI z, a3] st x Q := (wp_u (show cd 122 11 = some (.istore_n 2, 1, 0, 0, 0, 0) from rfl))
theorem u122_12 : wp r 122 12 [vR o, a1, a2, a3] st x Q ↔ wp r 122 13 [vR o, a1, a2, a3] (vR o :: st) x Q := (wp_u (show cd 122 12 = some (.aload_n 0, 1, 0, 0, 0, 0) from rfl))
theorem u122_13 : wp r 122 13 [a0, a1, vI z, a3] st x Q ↔ wp r 122 14 [a0, a1, vI z, a3] (vI z :: st) x Q := (wp_u (show cd 122 13 = some (.iload_n 2, 1, 0, 0, 0, 0) from rfl))
theorem u122_14 : wp r 122 14 ls (vI z0 :: vA q :: st) x Q ↔ isk 9 (hK x q) ∧ sml st = true ∧ 1 < r ∧ wpc 1 115 [vA q, vI z0] x (wk r 122 14 ls st Q) := (wp_u (show cd 122 14 = some (.invokevirtual 202, 3, 115, 2, 1, 9) from rfl)).trans (g_virt rfl (by decide) (by simp) rfl)
theorem u122_17 : wp r 122 17 ls st x Q ↔ wp r 122 18 ls (vI 1 :: st) x Q := (wp_u (show cd 122 17 = some (.iconst 1, 1, 0, 0, 0, 0) from rfl))
theorem u122_18 : wp r 122 18 ls (vI w :: vI z :: st) x Q ↔ if z = w then wp r 122 21 ls st x Q else wp r 122 38 ls st x Q := (wp_u (show cd 122 18 = some (.if_icmp .ne 20, 3, 38, 0, 0, 0) from rfl)).trans wq_dn
theorem u122_21 : wp r 122 21 [vR o, a1, a2, a3] st x Q ↔ wp r 122 22 [vR o, a1, a2, a3] (vR o :: st) x Q := (wp_u (show cd 122 21 = some (.aload_n 0, 1, 0, 0, 0, 0) from rfl))
theorem u122_22 : wp r 122 22 ls (vA q :: st) x Q ↔ sbk 9 (hK x q) ∧ wp r 122 25 ls (vR (hR x q 31) :: st) x Q := (wp_u (show cd 122 22 = some (.getfield 63, 3, 9, 31, 5, 0) from rfl)).trans g_getR
theorem u122_25 : wp r 122 25 [vR o, a1, a2, a3] st x Q ↔ wp r 122 26 [vR o, a1, a2, a3] (vR o :: st) x Q := (wp_u (show cd 122 25 = some (.aload_n 0, 1, 0, 0, 0, 0) from rfl))
theorem u122_26 : wp r 122 26 ls (vA q :: st) x Q ↔ sbk 9 (hK x q) ∧ wp r 122 29 ls (vR (hR x q 30) :: st) x Q := (wp_u (show cd 122 26 = some (.getfield 60, 3, 9, 30, 5, 0) from rfl)).trans g_getR
theorem u122_29 : wp r 122 29 [a0, a1, vI z, a3] st x Q ↔ wp r 122 30 [a0, a1, vI z, a3] (vI z :: st) x Q := (wp_u (show cd 122 29 = some (.iload_n 2, 1, 0, 0, 0, 0) from rfl))
theorem u122_30 : wp r 122 30 ls (vI i :: vA q :: st) x Q ↔ ldk 20 (hK x q) i ∧ wp r 122 31 ls (vI (hI x q i) :: st) x Q := (wp_u (show cd 122 30 = some (.iaload, 1, 0, 0, 0, 0) from rfl)).trans g_ldI
theorem u122_31 : wp r 122 31 ls (vI i :: vA q :: st) x Q ↔ ldk 20 (hK x q) i ∧ wp r 122 32 ls (vI (hI x q i) :: st) x Q := (wp_u (show cd 122 31 = some (.iaload, 1, 0, 0, 0, 0) from rfl)).trans g_ldI
theorem u122_32 : wp r 122 32 ls st x Q ↔ wp r 122 34 ls (vI 48 :: st) x Q := (wp_u (show cd 122 32 = some (.bipush 48, 2, 0, 0, 0, 0) from rfl))
theorem u122_34 : wp r 122 34 ls (vI w :: vI z :: st) x Q ↔ inI (z - w) = true ∧ wp r 122 35 ls (vI (z - w) :: st) x Q := (wp_u (show cd 122 34 = some (.isub, 1, 0, 0, 0, 0) from rfl)).trans wq_if
theorem u122_35 : wp r 122 35 ls st x Q ↔ wp r 122 39 ls st x Q := (wp_u (show cd 122 35 = some (.goto 4, 3, 39, 0, 0, 0) from rfl))
theorem u122_38 : wp r 122 38 ls st x Q ↔ wp r 122 39 ls (vI (-1) :: st) x Q := (wp_u (show cd 122 38 = some (.iconst (-1), 1, 0, 0, 0, 0) from rfl))
theorem u122_39 : wp r 122 39 [a0, a1, a2, a3] (vI z :: st) x Q ↔ wp r 122 40 [a0, a1, a2, vI z] st x Q := (wp_u (show cd 122 39 = some (.istore_n 3, 1, 0, 0, 0, 0) from rfl))
theorem u122_40 : wp r 122 40 [a0, a1, a2, vI z] st x Q ↔ wp r 122 41 [a0, a1, a2, vI z] (vI z :: st) x Q := (wp_u (show cd 122 40 = some (.iload_n 3, 1, 0, 0, 0, 0) from rfl))
theorem u122_41 : wp r 122 41 ls (vI z0 :: st) x Q ↔ sml st = true ∧ 1 < r ∧ wpc 1 102 [vI z0] x (wk r 122 41 ls st Q) := (wp_u (show cd 122 41 = some (.invokestatic 122, 3, 102, 1, 1, 0) from rfl)).trans (g_stat (by decide) (by simp) rfl)
theorem u122_44 : wp r 122 44 ls (vI z :: st) x Q ↔ if z = 0 then wp r 122 71 ls st x Q else wp r 122 47 ls st x Q := (wp_u (show cd 122 44 = some (.ifCond .eq 27, 3, 71, 0, 0, 0) from rfl)).trans wq_d
theorem u122_47 : wp r 122 47 [vR o, a1, a2, a3] st x Q ↔ wp r 122 48 [vR o, a1, a2, a3] (vR o :: st) x Q := (wp_u (show cd 122 47 = some (.aload_n 0, 1, 0, 0, 0, 0) from rfl))
theorem u122_48 : wp r 122 48 ls (vA q :: st) x Q ↔ sbk 9 (hK x q) ∧ wp r 122 51 ls (vR (hR x q 3) :: st) x Q := (wp_u (show cd 122 48 = some (.getfield 13, 3, 9, 3, 5, 0) from rfl)).trans g_getR
theorem u122_51 : wp r 122 51 [a0, a1, a2, vI z] st x Q ↔ wp r 122 52 [a0, a1, a2, vI z] (vI z :: st) x Q := (wp_u (show cd 122 51 = some (.iload_n 3, 1, 0, 0, 0, 0) from rfl))
theorem u122_52 : wp r 122 52 ls (vI z0 :: st) x Q ↔ sml st = true ∧ 1 < r ∧ wpc 1 102 [vI z0] x (wk r 122 52 ls st Q) := (wp_u (show cd 122 52 = some (.invokestatic 122, 3, 102, 1, 1, 0) from rfl)).trans (g_stat (by decide) (by simp) rfl)
theorem u122_55 : wp r 122 55 ls (vI z :: st) x Q ↔ if z = 0 then wp r 122 62 ls st x Q else wp r 122 58 ls st x Q := (wp_u (show cd 122 55 = some (.ifCond .eq 7, 3, 62, 0, 0, 0) from rfl)).trans wq_d
theorem u122_58 : wp r 122 58 [a0, a1, a2, vI z] st x Q ↔ wp r 122 59 [a0, a1, a2, vI z] (vI z :: st) x Q := (wp_u (show cd 122 58 = some (.iload_n 3, 1, 0, 0, 0, 0) from rfl))
theorem u122_59 : wp r 122 59 ls st x Q ↔ wp r 122 63 ls st x Q := (wp_u (show cd 122 59 = some (.goto 4, 3, 63, 0, 0, 0) from rfl))
theorem u122_62 : wp r 122 62 ls st x Q ↔ wp r 122 63 ls (vI 0 :: st) x Q := (wp_u (show cd 122 62 = some (.iconst 0, 1, 0, 0, 0, 0) from rfl))
theorem u122_63 : wp r 122 63 ls (vI i :: vA q :: st) x Q ↔ ldk 20 (hK x q) i ∧ wp r 122 64 ls (vI (hI x q i) :: st) x Q := (wp_u (show cd 122 63 = some (.iaload, 1, 0, 0, 0, 0) from rfl)).trans g_ldI
theorem u122_64 : wp r 122 64 ls (vI z :: st) x Q ↔ if z ≤ 0 then wp r 122 71 ls st x Q else wp r 122 67 ls st x Q := (wp_u (show cd 122 64 = some (.ifCond .le 7, 3, 71, 0, 0, 0) from rfl)).trans wq_d
theorem u122_67 : wp r 122 67 [a0, a1, a2, vI z] st x Q ↔ wp r 122 68 [a0, a1, a2, vI z] (vI z :: st) x Q := (wp_u (show cd 122 67 = some (.iload_n 3, 1, 0, 0, 0, 0) from rfl))
theorem u122_68 : wp r 122 68 ls st x Q ↔ wp r 122 72 ls st x Q := (wp_u (show cd 122 68 = some (.goto 4, 3, 72, 0, 0, 0) from rfl))
theorem u122_71 : wp r 122 71 ls st x Q ↔ wp r 122 72 ls (vI (-1) :: st) x Q := (wp_u (show cd 122 71 = some (.iconst (-1), 1, 0, 0, 0, 0) from rfl))
theorem u122_72 : wp r 122 72 ls [vI z] x Q ↔ Q (.inl (some (vI z))) x := (wp_u (show cd 122 72 = some (.ireturn, 1, 0, 0, 0, 0) from rfl))
theorem e122 : wpc r 122 [vA q, vI z0] x Q ↔ wp r 122 0 [vA q, vI z0, vL jk, vL jk] [] x Q := Iff.rfl
/-! 123 M_comes -/
theorem u123_0 : wp r 123 0 ls st x Q ↔ wp r 123 1 ls (vI 0 :: st) x Q := (wp_u (show cd 123 0 = some (.iconst 0, 1, 0, 0, 0, 0) from rfl))
theorem u123_1 : wp r 123 1 [a0, a1, a2, a3, a4] (vI z :: st) x Q ↔ wp r 123 2 [a0, a1, a2, vI z, a4] st x Q := (wp_u (show cd 123 1 = some (.istore_n 3, 1, 0, 0, 0, 0) from rfl))
theorem u123_2 : wp r 123 2 [a0, a1, a2, vI z, a4] st x Q ↔ wp r 123 3 [a0, a1, a2, vI z, a4] (vI z :: st) x Q := (wp_u (show cd 123 2 = some (.iload_n 3, 1, 0, 0, 0, 0) from rfl))
theorem u123_3 : wp r 123 3 ls st x Q ↔ wp r 123 6 ls (vI 200 :: st) x Q := (wp_u (show cd 123 3 = some (.sipush 200, 3, 0, 0, 0, 0) from rfl))
theorem u123_6 : wp r 123 6 ls (vI w :: vI z :: st) x Q ↔ if w ≤ z then wp r 123 221 ls st x Q else wp r 123 9 ls st x Q := (wp_u (show cd 123 6 = some (.if_icmp .ge 215, 3, 221, 0, 0, 0) from rfl)).trans wq_d
theorem u123_9 : wp r 123 9 [vR o, a1, a2, a3, a4] st x Q ↔ wp r 123 10 [vR o, a1, a2, a3, a4] (vR o :: st) x Q := (wp_u (show cd 123 9 = some (.aload_n 0, 1, 0, 0, 0, 0) from rfl))
theorem u123_10 : wp r 123 10 ls (vA q :: st) x Q ↔ sbk 9 (hK x q) ∧ wp r 123 13 ls (vI (hI x q 43) :: st) x Q := (wp_u (show cd 123 10 = some (.getfield 218, 3, 9, 43, 0, 0) from rfl)).trans g_getI
theorem u123_13 : wp r 123 13 ls (vI z :: st) x Q ↔ if 0 ≤ z then wp r 123 64 ls st x Q else wp r 123 16 ls st x Q := (wp_u (show cd 123 13 = some (.ifCond .ge 51, 3, 64, 0, 0, 0) from rfl)).trans wq_d
theorem u123_16 : wp r 123 16 [vR o, a1, a2, a3, a4] st x Q ↔ wp r 123 17 [vR o, a1, a2, a3, a4] (vR o :: st) x Q := (wp_u (show cd 123 16 = some (.aload_n 0, 1, 0, 0, 0, 0) from rfl))
theorem u123_17 : wp r 123 17 ls (vA q :: st) x Q ↔ sbk 9 (hK x q) ∧ wp r 123 20 ls (vI (hI x q 45) :: st) x Q := (wp_u (show cd 123 17 = some (.getfield 215, 3, 9, 45, 0, 0) from rfl)).trans g_getI
theorem u123_20 : wp r 123 20 ls (vI z :: st) x Q ↔ if z = 0 then wp r 123 23 ls st x Q else wp r 123 25 ls st x Q := (wp_u (show cd 123 20 = some (.ifCond .ne 5, 3, 25, 0, 0, 0) from rfl)).trans wq_dn
theorem u123_23 : wp r 123 23 ls st x Q ↔ wp r 123 24 ls (vI 4 :: st) x Q := (wp_u (show cd 123 23 = some (.iconst 4, 1, 0, 0, 0, 0) from rfl))
theorem u123_24 : wp r 123 24 ls [vI z] x Q ↔ Q (.inl (some (vI z))) x := (wp_u (show cd 123 24 = some (.ireturn, 1, 0, 0, 0, 0) from rfl))
theorem u123_25 : wp r 123 25 [vR o, a1, a2, a3, a4] st x Q ↔ wp r 123 26 [vR o, a1, a2, a3, a4] (vR o :: st) x Q := (wp_u (show cd 123 25 = some (.aload_n 0, 1, 0, 0, 0, 0) from rfl))
theorem u123_26i : wp r 123 26 ls (vI z :: st) x Q ↔ wp r 123 27 ls (vI z :: vI z :: st) x Q := (wp_u (show cd 123 26 = some (.dup, 1, 0, 0, 0, 0) from rfl))
theorem u123_26 : wp r 123 26 ls (vR o :: st) x Q ↔ wp r 123 27 ls (vR o :: vR o :: st) x Q := (wp_u (show cd 123 26 = some (.dup, 1, 0, 0, 0, 0) from rfl))
theorem u123_27 : wp r 123 27 ls (vA q :: st) x Q ↔ sbk 9 (hK x q) ∧ wp r 123 30 ls (vI (hI x q 45) :: st) x Q := (wp_u (show cd 123 27 = some (.getfield 215, 3, 9, 45, 0, 0) from rfl)).trans g_getI
theorem u123_30 : wp r 123 30 ls st x Q ↔ wp r 123 31 ls (vI 1 :: st) x Q := (wp_u (show cd 123 30 = some (.iconst 1, 1, 0, 0, 0, 0) from rfl))
theorem u123_31 : wp r 123 31 ls (vI w :: vI z :: st) x Q ↔ inI (z - w) = true ∧ wp r 123 32 ls (vI (z - w) :: st) x Q := (wp_u (show cd 123 31 = some (.isub, 1, 0, 0, 0, 0) from rfl)).trans wq_if
theorem u123_32 : wp r 123 32 ls (vI z :: vA q :: st) x Q ↔ sbk 9 (hK x q) ∧ wp r 123 35 ls st (stI x q 45 z) Q := (wp_u (show cd 123 32 = some (.putfield 215, 3, 9, 45, 0, 0) from rfl)).trans g_putI0
theorem u123_35 : wp r 123 35 [vR o, a1, a2, a3, a4] st x Q ↔ wp r 123 36 [vR o, a1, a2, a3, a4] (vR o :: st) x Q := (wp_u (show cd 123 35 = some (.aload_n 0, 1, 0, 0, 0, 0) from rfl))
theorem u123_36 : wp r 123 36 [vR o, a1, a2, a3, a4] st x Q ↔ wp r 123 37 [vR o, a1, a2, a3, a4] (vR o :: st) x Q := (wp_u (show cd 123 36 = some (.aload_n 0, 1, 0, 0, 0, 0) from rfl))
theorem u123_37 : wp r 123 37 ls (vA q :: st) x Q ↔ sbk 9 (hK x q) ∧ wp r 123 40 ls (vR (hR x q 46) :: st) x Q := (wp_u (show cd 123 37 = some (.getfield 90, 3, 9, 46, 5, 0) from rfl)).trans g_getR
theorem u123_40 : wp r 123 40 [vR o, a1, a2, a3, a4] st x Q ↔ wp r 123 41 [vR o, a1, a2, a3, a4] (vR o :: st) x Q := (wp_u (show cd 123 40 = some (.aload_n 0, 1, 0, 0, 0, 0) from rfl))
theorem u123_41 : wp r 123 41 ls (vA q :: st) x Q ↔ sbk 9 (hK x q) ∧ wp r 123 44 ls (vI (hI x q 45) :: st) x Q := (wp_u (show cd 123 41 = some (.getfield 215, 3, 9, 45, 0, 0) from rfl)).trans g_getI
theorem u123_44 : wp r 123 44 ls (vI i :: vA q :: st) x Q ↔ ldk 20 (hK x q) i ∧ wp r 123 45 ls (vI (hI x q i) :: st) x Q := (wp_u (show cd 123 44 = some (.iaload, 1, 0, 0, 0, 0) from rfl)).trans g_ldI
theorem u123_45 : wp r 123 45 ls (vI z :: vA q :: st) x Q ↔ sbk 9 (hK x q) ∧ wp r 123 48 ls st (stI x q 43 z) Q := (wp_u (show cd 123 45 = some (.putfield 218, 3, 9, 43, 0, 0) from rfl)).trans g_putI0
theorem u123_48 : wp r 123 48 [vR o, a1, a2, a3, a4] st x Q ↔ wp r 123 49 [vR o, a1, a2, a3, a4] (vR o :: st) x Q := (wp_u (show cd 123 48 = some (.aload_n 0, 1, 0, 0, 0, 0) from rfl))
theorem u123_49 : wp r 123 49 [vR o, a1, a2, a3, a4] st x Q ↔ wp r 123 50 [vR o, a1, a2, a3, a4] (vR o :: st) x Q := (wp_u (show cd 123 49 = some (.aload_n 0, 1, 0, 0, 0, 0) from rfl))
theorem u123_50 : wp r 123 50 ls (vA q :: st) x Q ↔ sbk 9 (hK x q) ∧ wp r 123 53 ls (vR (hR x q 47) :: st) x Q := (wp_u (show cd 123 50 = some (.getfield 93, 3, 9, 47, 5, 0) from rfl)).trans g_getR
theorem u123_53 : wp r 123 53 [vR o, a1, a2, a3, a4] st x Q ↔ wp r 123 54 [vR o, a1, a2, a3, a4] (vR o :: st) x Q := (wp_u (show cd 123 53 = some (.aload_n 0, 1, 0, 0, 0, 0) from rfl))
theorem u123_54 : wp r 123 54 ls (vA q :: st) x Q ↔ sbk 9 (hK x q) ∧ wp r 123 57 ls (vI (hI x q 45) :: st) x Q := (wp_u (show cd 123 54 = some (.getfield 215, 3, 9, 45, 0, 0) from rfl)).trans g_getI
theorem u123_57 : wp r 123 57 ls (vI i :: vA q :: st) x Q ↔ ldk 20 (hK x q) i ∧ wp r 123 58 ls (vI (hI x q i) :: st) x Q := (wp_u (show cd 123 57 = some (.iaload, 1, 0, 0, 0, 0) from rfl)).trans g_ldI
theorem u123_58 : wp r 123 58 ls (vI z :: vA q :: st) x Q ↔ sbk 9 (hK x q) ∧ wp r 123 61 ls st (stI x q 44 z) Q := (wp_u (show cd 123 58 = some (.putfield 221, 3, 9, 44, 0, 0) from rfl)).trans g_putI0
theorem u123_61 : wp r 123 61 ls st x Q ↔ wp r 123 215 ls st x Q := (wp_u (show cd 123 61 = some (.goto 154, 3, 215, 0, 0, 0) from rfl))
theorem u123_64 : wp r 123 64 ls st x Q ↔ wp r 123 66 ls (vI 24 :: st) x Q := (wp_u (show cd 123 64 = some (.bipush 24, 2, 0, 0, 0, 0) from rfl))
theorem u123_66 : wp r 123 66 [a0, vI z, a2, a3, a4] st x Q ↔ wp r 123 67 [a0, vI z, a2, a3, a4] (vI z :: st) x Q := (wp_u (show cd 123 66 = some (.iload_n 1, 1, 0, 0, 0, 0) from rfl))
theorem u123_67 : wp r 123 67 ls (vI w :: vI z :: st) x Q ↔ inI (z * w) = true ∧ wp r 123 68 ls (vI (z * w) :: st) x Q := (wp_u (show cd 123 67 = some (.imul, 1, 0, 0, 0, 0) from rfl)).trans wq_if
theorem u123_68 : wp r 123 68 [vR o, a1, a2, a3, a4] st x Q ↔ wp r 123 69 [vR o, a1, a2, a3, a4] (vR o :: st) x Q := (wp_u (show cd 123 68 = some (.aload_n 0, 1, 0, 0, 0, 0) from rfl))
theorem u123_69 : wp r 123 69 ls (vA q :: st) x Q ↔ sbk 9 (hK x q) ∧ wp r 123 72 ls (vI (hI x q 43) :: st) x Q := (wp_u (show cd 123 69 = some (.getfield 218, 3, 9, 43, 0, 0) from rfl)).trans g_getI
theorem u123_72 : wp r 123 72 ls (vI w :: vI z :: st) x Q ↔ inI (z + w) = true ∧ wp r 123 73 ls (vI (z + w) :: st) x Q := (wp_u (show cd 123 72 = some (.iadd, 1, 0, 0, 0, 0) from rfl)).trans wq_if
theorem u123_73 : wp r 123 73 [a0, a1, a2, a3, a4] (vI z :: st) x Q ↔ wp r 123 75 [a0, a1, a2, a3, vI z] st x Q := (wp_u (show cd 123 73 = some (.istore 4, 2, 0, 0, 0, 0) from rfl))
theorem u123_75 : wp r 123 75 [vR o, a1, a2, a3, a4] st x Q ↔ wp r 123 76 [vR o, a1, a2, a3, a4] (vR o :: st) x Q := (wp_u (show cd 123 75 = some (.aload_n 0, 1, 0, 0, 0, 0) from rfl))
theorem u123_76 : wp r 123 76 [a0, vI z, a2, a3, a4] st x Q ↔ wp r 123 77 [a0, vI z, a2, a3, a4] (vI z :: st) x Q := (wp_u (show cd 123 76 = some (.iload_n 1, 1, 0, 0, 0, 0) from rfl))
theorem u123_77 : wp r 123 77 [vR o, a1, a2, a3, a4] st x Q ↔ wp r 123 78 [vR o, a1, a2, a3, a4] (vR o :: st) x Q := (wp_u (show cd 123 77 = some (.aload_n 0, 1, 0, 0, 0, 0) from rfl))
theorem u123_78 : wp r 123 78 ls (vA q :: st) x Q ↔ sbk 9 (hK x q) ∧ wp r 123 81 ls (vI (hI x q 43) :: st) x Q := (wp_u (show cd 123 78 = some (.getfield 218, 3, 9, 43, 0, 0) from rfl)).trans g_getI
theorem u123_81 : wp r 123 81 ls (vI z1 :: vI z0 :: vA q :: st) x Q ↔ isk 9 (hK x q) ∧ sml st = true ∧ 2 < r ∧ wpc 2 135 [vA q, vI z0, vI z1] x (wk r 123 81 ls st Q) := (wp_u (show cd 123 81 = some (.invokevirtual 224, 3, 135, 3, 2, 9) from rfl)).trans (g_virt rfl (by decide) (by simp) rfl)
theorem u123_84 : wp r 123 84 [a0, a1, vI z, a3, a4] st x Q ↔ wp r 123 85 [a0, a1, vI z, a3, a4] (vI z :: st) x Q := (wp_u (show cd 123 84 = some (.iload_n 2, 1, 0, 0, 0, 0) from rfl))
theorem u123_85 : wp r 123 85 ls (vI w :: vI z :: st) x Q ↔ if z = w then wp r 123 88 ls st x Q else wp r 123 191 ls st x Q := (wp_u (show cd 123 85 = some (.if_icmp .ne 106, 3, 191, 0, 0, 0) from rfl)).trans wq_dn
theorem u123_88 : wp r 123 88 [vR o, a1, a2, a3, a4] st x Q ↔ wp r 123 89 [vR o, a1, a2, a3, a4] (vR o :: st) x Q := (wp_u (show cd 123 88 = some (.aload_n 0, 1, 0, 0, 0, 0) from rfl))
theorem u123_89 : wp r 123 89 ls (vA q :: st) x Q ↔ sbk 9 (hK x q) ∧ wp r 123 92 ls (vI (hI x q 44) :: st) x Q := (wp_u (show cd 123 89 = some (.getfield 221, 3, 9, 44, 0, 0) from rfl)).trans g_getI
theorem u123_92 : wp r 123 92 [vR o, a1, a2, a3, a4] st x Q ↔ wp r 123 93 [vR o, a1, a2, a3, a4] (vR o :: st) x Q := (wp_u (show cd 123 92 = some (.aload_n 0, 1, 0, 0, 0, 0) from rfl))
theorem u123_93 : wp r 123 93 ls (vA q :: st) x Q ↔ sbk 9 (hK x q) ∧ wp r 123 96 ls (vR (hR x q 6) :: st) x Q := (wp_u (show cd 123 93 = some (.getfield 23, 3, 9, 6, 5, 0) from rfl)).trans g_getR
theorem u123_96 : wp r 123 96 [a0, a1, a2, a3, vI z] st x Q ↔ wp r 123 98 [a0, a1, a2, a3, vI z] (vI z :: st) x Q := (wp_u (show cd 123 96 = some (.iload 4, 2, 0, 0, 0, 0) from rfl))
theorem u123_98 : wp r 123 98 ls (vI i :: vA q :: st) x Q ↔ ldk 20 (hK x q) i ∧ wp r 123 99 ls (vI (hI x q i) :: st) x Q := (wp_u (show cd 123 98 = some (.iaload, 1, 0, 0, 0, 0) from rfl)).trans g_ldI
theorem u123_99 : wp r 123 99 ls (vI w :: vI z :: st) x Q ↔ if z = w then wp r 123 102 ls st x Q else wp r 123 105 ls st x Q := (wp_u (show cd 123 99 = some (.if_icmp .ne 6, 3, 105, 0, 0, 0) from rfl)).trans wq_dn
theorem u123_102 : wp r 123 102 ls st x Q ↔ wp r 123 104 ls (vI 6 :: st) x Q := (wp_u (show cd 123 102 = some (.bipush 6, 2, 0, 0, 0, 0) from rfl))
theorem u123_104 : wp r 123 104 ls [vI z] x Q ↔ Q (.inl (some (vI z))) x := (wp_u (show cd 123 104 = some (.ireturn, 1, 0, 0, 0, 0) from rfl))
theorem u123_105 : wp r 123 105 [vR o, a1, a2, a3, a4] st x Q ↔ wp r 123 106 [vR o, a1, a2, a3, a4] (vR o :: st) x Q := (wp_u (show cd 123 105 = some (.aload_n 0, 1, 0, 0, 0, 0) from rfl))
theorem u123_106i : wp r 123 106 ls (vI z :: st) x Q ↔ wp r 123 107 ls (vI z :: vI z :: st) x Q := (wp_u (show cd 123 106 = some (.dup, 1, 0, 0, 0, 0) from rfl))
theorem u123_106 : wp r 123 106 ls (vR o :: st) x Q ↔ wp r 123 107 ls (vR o :: vR o :: st) x Q := (wp_u (show cd 123 106 = some (.dup, 1, 0, 0, 0, 0) from rfl))
theorem u123_107 : wp r 123 107 ls (vA q :: st) x Q ↔ sbk 9 (hK x q) ∧ wp r 123 110 ls (vI (hI x q 44) :: st) x Q := (wp_u (show cd 123 107 = some (.getfield 221, 3, 9, 44, 0, 0) from rfl)).trans g_getI
theorem u123_110 : wp r 123 110 ls st x Q ↔ wp r 123 111 ls (vI 1 :: st) x Q := (wp_u (show cd 123 110 = some (.iconst 1, 1, 0, 0, 0, 0) from rfl))
theorem u123_111 : wp r 123 111 ls (vI w :: vI z :: st) x Q ↔ inI (z + w) = true ∧ wp r 123 112 ls (vI (z + w) :: st) x Q := (wp_u (show cd 123 111 = some (.iadd, 1, 0, 0, 0, 0) from rfl)).trans wq_if
theorem u123_112 : wp r 123 112 ls (vI z :: vA q :: st) x Q ↔ sbk 9 (hK x q) ∧ wp r 123 115 ls st (stI x q 44 z) Q := (wp_u (show cd 123 112 = some (.putfield 221, 3, 9, 44, 0, 0) from rfl)).trans g_putI0
theorem u123_115 : wp r 123 115 [vR o, a1, a2, a3, a4] st x Q ↔ wp r 123 116 [vR o, a1, a2, a3, a4] (vR o :: st) x Q := (wp_u (show cd 123 115 = some (.aload_n 0, 1, 0, 0, 0, 0) from rfl))
theorem u123_116 : wp r 123 116 ls (vA q :: st) x Q ↔ sbk 9 (hK x q) ∧ wp r 123 119 ls (vR (hR x q 4) :: st) x Q := (wp_u (show cd 123 116 = some (.getfield 16, 3, 9, 4, 5, 0) from rfl)).trans g_getR
theorem u123_119 : wp r 123 119 [a0, a1, a2, a3, vI z] st x Q ↔ wp r 123 121 [a0, a1, a2, a3, vI z] (vI z :: st) x Q := (wp_u (show cd 123 119 = some (.iload 4, 2, 0, 0, 0, 0) from rfl))
theorem u123_121 : wp r 123 121 ls (vI i :: vA q :: st) x Q ↔ ldk 20 (hK x q) i ∧ wp r 123 122 ls (vI (hI x q i) :: st) x Q := (wp_u (show cd 123 121 = some (.iaload, 1, 0, 0, 0, 0) from rfl)).trans g_ldI
theorem u123_122 : wp r 123 122 ls (vI z :: st) x Q ↔ if z = 0 then wp r 123 125 ls st x Q else wp r 123 189 ls st x Q := (wp_u (show cd 123 122 = some (.ifCond .ne 67, 3, 189, 0, 0, 0) from rfl)).trans wq_dn
theorem u123_125 : wp r 123 125 [vR o, a1, a2, a3, a4] st x Q ↔ wp r 123 126 [vR o, a1, a2, a3, a4] (vR o :: st) x Q := (wp_u (show cd 123 125 = some (.aload_n 0, 1, 0, 0, 0, 0) from rfl))
theorem u123_126 : wp r 123 126 ls (vA q :: st) x Q ↔ sbk 9 (hK x q) ∧ wp r 123 129 ls (vR (hR x q 46) :: st) x Q := (wp_u (show cd 123 126 = some (.getfield 90, 3, 9, 46, 5, 0) from rfl)).trans g_getR
theorem u123_129 : wp r 123 129 [vR o, a1, a2, a3, a4] st x Q ↔ wp r 123 130 [vR o, a1, a2, a3, a4] (vR o :: st) x Q := (wp_u (show cd 123 129 = some (.aload_n 0, 1, 0, 0, 0, 0) from rfl))
theorem u123_130 : wp r 123 130 ls (vA q :: st) x Q ↔ sbk 9 (hK x q) ∧ wp r 123 133 ls (vI (hI x q 45) :: st) x Q := (wp_u (show cd 123 130 = some (.getfield 215, 3, 9, 45, 0, 0) from rfl)).trans g_getI
theorem u123_133 : wp r 123 133 [vR o, a1, a2, a3, a4] st x Q ↔ wp r 123 134 [vR o, a1, a2, a3, a4] (vR o :: st) x Q := (wp_u (show cd 123 133 = some (.aload_n 0, 1, 0, 0, 0, 0) from rfl))
theorem u123_134 : wp r 123 134 ls (vA q :: st) x Q ↔ sbk 9 (hK x q) ∧ wp r 123 137 ls (vI (hI x q 43) :: st) x Q := (wp_u (show cd 123 134 = some (.getfield 218, 3, 9, 43, 0, 0) from rfl)).trans g_getI
theorem u123_137 : wp r 123 137 ls (vI z :: vI i :: vA q :: st) x Q ↔ ldk 20 (hK x q) i ∧ 4 ≤ q ∧ wp r 123 138 ls st (stI x q i z) Q := (wp_u (show cd 123 137 = some (.iastore, 1, 0, 0, 0, 0) from rfl)).trans g_stI0
theorem u123_138 : wp r 123 138 [vR o, a1, a2, a3, a4] st x Q ↔ wp r 123 139 [vR o, a1, a2, a3, a4] (vR o :: st) x Q := (wp_u (show cd 123 138 = some (.aload_n 0, 1, 0, 0, 0, 0) from rfl))
theorem u123_139 : wp r 123 139 ls (vA q :: st) x Q ↔ sbk 9 (hK x q) ∧ wp r 123 142 ls (vR (hR x q 47) :: st) x Q := (wp_u (show cd 123 139 = some (.getfield 93, 3, 9, 47, 5, 0) from rfl)).trans g_getR
theorem u123_142 : wp r 123 142 [vR o, a1, a2, a3, a4] st x Q ↔ wp r 123 143 [vR o, a1, a2, a3, a4] (vR o :: st) x Q := (wp_u (show cd 123 142 = some (.aload_n 0, 1, 0, 0, 0, 0) from rfl))
theorem u123_143 : wp r 123 143 ls (vA q :: st) x Q ↔ sbk 9 (hK x q) ∧ wp r 123 146 ls (vI (hI x q 45) :: st) x Q := (wp_u (show cd 123 143 = some (.getfield 215, 3, 9, 45, 0, 0) from rfl)).trans g_getI
theorem u123_146 : wp r 123 146 [vR o, a1, a2, a3, a4] st x Q ↔ wp r 123 147 [vR o, a1, a2, a3, a4] (vR o :: st) x Q := (wp_u (show cd 123 146 = some (.aload_n 0, 1, 0, 0, 0, 0) from rfl))
theorem u123_147 : wp r 123 147 ls (vA q :: st) x Q ↔ sbk 9 (hK x q) ∧ wp r 123 150 ls (vI (hI x q 44) :: st) x Q := (wp_u (show cd 123 147 = some (.getfield 221, 3, 9, 44, 0, 0) from rfl)).trans g_getI
theorem u123_150 : wp r 123 150 ls (vI z :: vI i :: vA q :: st) x Q ↔ ldk 20 (hK x q) i ∧ 4 ≤ q ∧ wp r 123 151 ls st (stI x q i z) Q := (wp_u (show cd 123 150 = some (.iastore, 1, 0, 0, 0, 0) from rfl)).trans g_stI0
theorem u123_151 : wp r 123 151 [vR o, a1, a2, a3, a4] st x Q ↔ wp r 123 152 [vR o, a1, a2, a3, a4] (vR o :: st) x Q := (wp_u (show cd 123 151 = some (.aload_n 0, 1, 0, 0, 0, 0) from rfl))
theorem u123_152i : wp r 123 152 ls (vI z :: st) x Q ↔ wp r 123 153 ls (vI z :: vI z :: st) x Q := (wp_u (show cd 123 152 = some (.dup, 1, 0, 0, 0, 0) from rfl))
theorem u123_152 : wp r 123 152 ls (vR o :: st) x Q ↔ wp r 123 153 ls (vR o :: vR o :: st) x Q := (wp_u (show cd 123 152 = some (.dup, 1, 0, 0, 0, 0) from rfl))
theorem u123_153 : wp r 123 153 ls (vA q :: st) x Q ↔ sbk 9 (hK x q) ∧ wp r 123 156 ls (vI (hI x q 45) :: st) x Q := (wp_u (show cd 123 153 = some (.getfield 215, 3, 9, 45, 0, 0) from rfl)).trans g_getI
theorem u123_156 : wp r 123 156 ls st x Q ↔ wp r 123 157 ls (vI 1 :: st) x Q := (wp_u (show cd 123 156 = some (.iconst 1, 1, 0, 0, 0, 0) from rfl))
theorem u123_157 : wp r 123 157 ls (vI w :: vI z :: st) x Q ↔ inI (z + w) = true ∧ wp r 123 158 ls (vI (z + w) :: st) x Q := (wp_u (show cd 123 157 = some (.iadd, 1, 0, 0, 0, 0) from rfl)).trans wq_if
theorem u123_158 : wp r 123 158 ls (vI z :: vA q :: st) x Q ↔ sbk 9 (hK x q) ∧ wp r 123 161 ls st (stI x q 45 z) Q := (wp_u (show cd 123 158 = some (.putfield 215, 3, 9, 45, 0, 0) from rfl)).trans g_putI0
theorem u123_161 : wp r 123 161 [vR o, a1, a2, a3, a4] st x Q ↔ wp r 123 162 [vR o, a1, a2, a3, a4] (vR o :: st) x Q := (wp_u (show cd 123 161 = some (.aload_n 0, 1, 0, 0, 0, 0) from rfl))
theorem u123_162 : wp r 123 162 [vR o, a1, a2, a3, a4] st x Q ↔ wp r 123 163 [vR o, a1, a2, a3, a4] (vR o :: st) x Q := (wp_u (show cd 123 162 = some (.aload_n 0, 1, 0, 0, 0, 0) from rfl))
theorem u123_163 : wp r 123 163 [a0, vI z, a2, a3, a4] st x Q ↔ wp r 123 164 [a0, vI z, a2, a3, a4] (vI z :: st) x Q := (wp_u (show cd 123 163 = some (.iload_n 1, 1, 0, 0, 0, 0) from rfl))
theorem u123_164 : wp r 123 164 [vR o, a1, a2, a3, a4] st x Q ↔ wp r 123 165 [vR o, a1, a2, a3, a4] (vR o :: st) x Q := (wp_u (show cd 123 164 = some (.aload_n 0, 1, 0, 0, 0, 0) from rfl))
theorem u123_165 : wp r 123 165 [a0, vI z, a2, a3, a4] st x Q ↔ wp r 123 166 [a0, vI z, a2, a3, a4] (vI z :: st) x Q := (wp_u (show cd 123 165 = some (.iload_n 1, 1, 0, 0, 0, 0) from rfl))
theorem u123_166 : wp r 123 166 ls st x Q ↔ wp r 123 167 ls (vI (-1) :: st) x Q := (wp_u (show cd 123 166 = some (.iconst (-1), 1, 0, 0, 0, 0) from rfl))
theorem u123_167 : wp r 123 167 [vR o, a1, a2, a3, a4] st x Q ↔ wp r 123 168 [vR o, a1, a2, a3, a4] (vR o :: st) x Q := (wp_u (show cd 123 167 = some (.aload_n 0, 1, 0, 0, 0, 0) from rfl))
theorem u123_168 : wp r 123 168 ls (vA q :: st) x Q ↔ sbk 9 (hK x q) ∧ wp r 123 171 ls (vI (hI x q 43) :: st) x Q := (wp_u (show cd 123 168 = some (.getfield 218, 3, 9, 43, 0, 0) from rfl)).trans g_getI
theorem u123_171 : wp r 123 171 ls (vI z2 :: vI z1 :: vI z0 :: vA q :: st) x Q ↔ isk 9 (hK x q) ∧ sml st = true ∧ 1 < r ∧ wpc 1 117 [vA q, vI z0, vI z1, vI z2] x (wk r 123 171 ls st Q) := (wp_u (show cd 123 171 = some (.invokevirtual 118, 3, 117, 4, 1, 9) from rfl)).trans (g_virt rfl (by decide) (by simp) rfl)
theorem u123_174 : wp r 123 174 [vR o, a1, a2, a3, a4] st x Q ↔ wp r 123 175 [vR o, a1, a2, a3, a4] (vR o :: st) x Q := (wp_u (show cd 123 174 = some (.aload_n 0, 1, 0, 0, 0, 0) from rfl))
theorem u123_175 : wp r 123 175 ls (vA q :: st) x Q ↔ sbk 9 (hK x q) ∧ wp r 123 178 ls (vI (hI x q 43) :: st) x Q := (wp_u (show cd 123 175 = some (.getfield 218, 3, 9, 43, 0, 0) from rfl)).trans g_getI
theorem u123_178 : wp r 123 178 ls (vI z2 :: vI z1 :: vI z0 :: vA q :: st) x Q ↔ isk 9 (hK x q) ∧ sml st = true ∧ 1 < r ∧ wpc 1 117 [vA q, vI z0, vI z1, vI z2] x (wk r 123 178 ls st Q) := (wp_u (show cd 123 178 = some (.invokevirtual 118, 3, 117, 4, 1, 9) from rfl)).trans (g_virt rfl (by decide) (by simp) rfl)
theorem u123_181 : wp r 123 181 ls (vI z :: vA q :: st) x Q ↔ sbk 9 (hK x q) ∧ wp r 123 184 ls st (stI x q 43 z) Q := (wp_u (show cd 123 181 = some (.putfield 218, 3, 9, 43, 0, 0) from rfl)).trans g_putI0
theorem u123_184 : wp r 123 184 [vR o, a1, a2, a3, a4] st x Q ↔ wp r 123 185 [vR o, a1, a2, a3, a4] (vR o :: st) x Q := (wp_u (show cd 123 184 = some (.aload_n 0, 1, 0, 0, 0, 0) from rfl))
theorem u123_185 : wp r 123 185 ls st x Q ↔ wp r 123 186 ls (vI 0 :: st) x Q := (wp_u (show cd 123 185 = some (.iconst 0, 1, 0, 0, 0, 0) from rfl))
theorem u123_186 : wp r 123 186 ls (vI z :: vA q :: st) x Q ↔ sbk 9 (hK x q) ∧ wp r 123 189 ls st (stI x q 44 z) Q := (wp_u (show cd 123 186 = some (.putfield 221, 3, 9, 44, 0, 0) from rfl)).trans g_putI0
theorem u123_189 : wp r 123 189 ls st x Q ↔ wp r 123 190 ls (vI 0 :: st) x Q := (wp_u (show cd 123 189 = some (.iconst 0, 1, 0, 0, 0, 0) from rfl))
theorem u123_190 : wp r 123 190 ls [vI z] x Q ↔ Q (.inl (some (vI z))) x := (wp_u (show cd 123 190 = some (.ireturn, 1, 0, 0, 0, 0) from rfl))
theorem u123_191 : wp r 123 191 [vR o, a1, a2, a3, a4] st x Q ↔ wp r 123 192 [vR o, a1, a2, a3, a4] (vR o :: st) x Q := (wp_u (show cd 123 191 = some (.aload_n 0, 1, 0, 0, 0, 0) from rfl))
theorem u123_192 : wp r 123 192 ls (vA q :: st) x Q ↔ sbk 9 (hK x q) ∧ wp r 123 195 ls (vR (hR x q 5) :: st) x Q := (wp_u (show cd 123 192 = some (.getfield 19, 3, 9, 5, 5, 0) from rfl)).trans g_getR
theorem u123_195 : wp r 123 195 [a0, a1, a2, a3, vI z] st x Q ↔ wp r 123 197 [a0, a1, a2, a3, vI z] (vI z :: st) x Q := (wp_u (show cd 123 195 = some (.iload 4, 2, 0, 0, 0, 0) from rfl))
theorem u123_197 : wp r 123 197 ls (vI i :: vA q :: st) x Q ↔ ldb (hK x q) i ∧ wp r 123 198 ls (vI (hI x q i) :: st) x Q := (wp_u (show cd 123 197 = some (.baload, 1, 0, 0, 0, 0) from rfl)).trans g_ldB
theorem u123_198 : wp r 123 198 ls (vI z :: st) x Q ↔ if z = 0 then wp r 123 210 ls st x Q else wp r 123 201 ls st x Q := (wp_u (show cd 123 198 = some (.ifCond .eq 12, 3, 210, 0, 0, 0) from rfl)).trans wq_d
theorem u123_201 : wp r 123 201 [vR o, a1, a2, a3, a4] st x Q ↔ wp r 123 202 [vR o, a1, a2, a3, a4] (vR o :: st) x Q := (wp_u (show cd 123 201 = some (.aload_n 0, 1, 0, 0, 0, 0) from rfl))
theorem u123_202 : wp r 123 202 ls (vA q :: st) x Q ↔ sbk 9 (hK x q) ∧ wp r 123 205 ls (vI (hI x q 44) :: st) x Q := (wp_u (show cd 123 202 = some (.getfield 221, 3, 9, 44, 0, 0) from rfl)).trans g_getI
theorem u123_205 : wp r 123 205 ls (vI z :: st) x Q ↔ if z = 0 then wp r 123 208 ls st x Q else wp r 123 210 ls st x Q := (wp_u (show cd 123 205 = some (.ifCond .ne 5, 3, 210, 0, 0, 0) from rfl)).trans wq_dn
theorem u123_208 : wp r 123 208 ls st x Q ↔ wp r 123 209 ls (vI 5 :: st) x Q := (wp_u (show cd 123 208 = some (.iconst 5, 1, 0, 0, 0, 0) from rfl))
theorem u123_209 : wp r 123 209 ls [vI z] x Q ↔ Q (.inl (some (vI z))) x := (wp_u (show cd 123 209 = some (.ireturn, 1, 0, 0, 0, 0) from rfl))
theorem u123_210 : wp r 123 210 [vR o, a1, a2, a3, a4] st x Q ↔ wp r 123 211 [vR o, a1, a2, a3, a4] (vR o :: st) x Q := (wp_u (show cd 123 210 = some (.aload_n 0, 1, 0, 0, 0, 0) from rfl))
theorem u123_211 : wp r 123 211 [a0, vI z, a2, a3, a4] st x Q ↔ wp r 123 212 [a0, vI z, a2, a3, a4] (vI z :: st) x Q := (wp_u (show cd 123 211 = some (.iload_n 1, 1, 0, 0, 0, 0) from rfl))
theorem u123_212 : wp r 123 212 ls (vI z0 :: vA q :: st) x Q ↔ isk 9 (hK x q) ∧ sml st = true ∧ 2 < r ∧ wpc 2 136 [vA q, vI z0] x (wk r 123 212 ls st Q) := (wp_u (show cd 123 212 = some (.invokevirtual 227, 3, 136, 2, 2, 9) from rfl)).trans (g_virt rfl (by decide) (by simp) rfl)
theorem u123_215 : wp r 123 215 [a0, a1, a2, vI z, a4] st x Q ↔ inI (z + 1) = true ∧ wp r 123 218 [a0, a1, a2, vI (z + 1), a4] st x Q := (wp_u (show cd 123 215 = some (.iinc 3 1, 3, 0, 0, 0, 0) from rfl)).trans wq_if
theorem u123_218 : wp r 123 218 ls st x Q ↔ wp r 123 2 ls st x Q := (wp_u (show cd 123 218 = some (.goto (-216), 3, 2, 0, 0, 0) from rfl))
theorem u123_221 : wp r 123 221 ls st x Q ↔ wp r 123 222 ls (vI 4 :: st) x Q := (wp_u (show cd 123 221 = some (.iconst 4, 1, 0, 0, 0, 0) from rfl))
theorem u123_222 : wp r 123 222 ls [vI z] x Q ↔ Q (.inl (some (vI z))) x := (wp_u (show cd 123 222 = some (.ireturn, 1, 0, 0, 0, 0) from rfl))
theorem e123 : wpc r 123 [vA q, vI z0, vI z1] x Q ↔ wp r 123 0 [vA q, vI z0, vI z1, vL jk, vL jk] [] x Q := Iff.rfl
/-! 124 M_lacks -/
theorem u124_0 : wp r 124 0 ls st x Q ↔ wp r 124 1 ls (vI 0 :: st) x Q := (wp_u (show cd 124 0 = some (.iconst 0, 1, 0, 0, 0, 0) from rfl))
theorem u124_1 : wp r 124 1 [a0, a1, a2, a3] (vI z :: st) x Q ↔ wp r 124 2 [a0, a1, vI z, a3] st x Q := (wp_u (show cd 124 1 = some (.istore_n 2, 1, 0, 0, 0, 0) from rfl))
theorem u124_2 : wp r 124 2 ls st x Q ↔ wp r 124 3 ls (vI 0 :: st) x Q := (wp_u (show cd 124 2 = some (.iconst 0, 1, 0, 0, 0, 0) from rfl))
theorem u124_3 : wp r 124 3 [a0, a1, a2, a3] (vI z :: st) x Q ↔ wp r 124 4 [a0, a1, a2, vI z] st x Q := (wp_u (show cd 124 3 = some (.istore_n 3, 1, 0, 0, 0, 0) from rfl))
theorem u124_4 : wp r 124 4 [a0, a1, a2, vI z] st x Q ↔ wp r 124 5 [a0, a1, a2, vI z] (vI z :: st) x Q := (wp_u (show cd 124 4 = some (.iload_n 3, 1, 0, 0, 0, 0) from rfl))
theorem u124_5 : wp r 124 5 ls st x Q ↔ wp r 124 8 ls (vI 200 :: st) x Q := (wp_u (show cd 124 5 = some (.sipush 200, 3, 0, 0, 0, 0) from rfl))
theorem u124_8 : wp r 124 8 ls (vI w :: vI z :: st) x Q ↔ if w ≤ z then wp r 124 111 ls st x Q else wp r 124 11 ls st x Q := (wp_u (show cd 124 8 = some (.if_icmp .ge 103, 3, 111, 0, 0, 0) from rfl)).trans wq_d
theorem u124_11 : wp r 124 11 [vR o, a1, a2, a3] st x Q ↔ wp r 124 12 [vR o, a1, a2, a3] (vR o :: st) x Q := (wp_u (show cd 124 11 = some (.aload_n 0, 1, 0, 0, 0, 0) from rfl))
theorem u124_12 : wp r 124 12 ls (vA q :: st) x Q ↔ sbk 9 (hK x q) ∧ wp r 124 15 ls (vI (hI x q 43) :: st) x Q := (wp_u (show cd 124 12 = some (.getfield 218, 3, 9, 43, 0, 0) from rfl)).trans g_getI
theorem u124_15 : wp r 124 15 ls (vI z :: st) x Q ↔ if 0 ≤ z then wp r 124 66 ls st x Q else wp r 124 18 ls st x Q := (wp_u (show cd 124 15 = some (.ifCond .ge 51, 3, 66, 0, 0, 0) from rfl)).trans wq_d
theorem u124_18 : wp r 124 18 [vR o, a1, a2, a3] st x Q ↔ wp r 124 19 [vR o, a1, a2, a3] (vR o :: st) x Q := (wp_u (show cd 124 18 = some (.aload_n 0, 1, 0, 0, 0, 0) from rfl))
theorem u124_19 : wp r 124 19 ls (vA q :: st) x Q ↔ sbk 9 (hK x q) ∧ wp r 124 22 ls (vI (hI x q 45) :: st) x Q := (wp_u (show cd 124 19 = some (.getfield 215, 3, 9, 45, 0, 0) from rfl)).trans g_getI
theorem u124_22 : wp r 124 22 ls (vI z :: st) x Q ↔ if z = 0 then wp r 124 25 ls st x Q else wp r 124 27 ls st x Q := (wp_u (show cd 124 22 = some (.ifCond .ne 5, 3, 27, 0, 0, 0) from rfl)).trans wq_dn
theorem u124_25 : wp r 124 25 [a0, a1, vI z, a3] st x Q ↔ wp r 124 26 [a0, a1, vI z, a3] (vI z :: st) x Q := (wp_u (show cd 124 25 = some (.iload_n 2, 1, 0, 0, 0, 0) from rfl))
theorem u124_26 : wp r 124 26 ls [vI z] x Q ↔ rg 4 z = true ∧ Q (.inl (some (vI z))) x := (wp_u (show cd 124 26 = some (.ireturn, 1, 4, 0, 0, 0) from rfl)).trans wq_if
theorem u124_27 : wp r 124 27 [vR o, a1, a2, a3] st x Q ↔ wp r 124 28 [vR o, a1, a2, a3] (vR o :: st) x Q := (wp_u (show cd 124 27 = some (.aload_n 0, 1, 0, 0, 0, 0) from rfl))
theorem u124_28i : wp r 124 28 ls (vI z :: st) x Q ↔ wp r 124 29 ls (vI z :: vI z :: st) x Q := (wp_u (show cd 124 28 = some (.dup, 1, 0, 0, 0, 0) from rfl))
theorem u124_28 : wp r 124 28 ls (vR o :: st) x Q ↔ wp r 124 29 ls (vR o :: vR o :: st) x Q := (wp_u (show cd 124 28 = some (.dup, 1, 0, 0, 0, 0) from rfl))
theorem u124_29 : wp r 124 29 ls (vA q :: st) x Q ↔ sbk 9 (hK x q) ∧ wp r 124 32 ls (vI (hI x q 45) :: st) x Q := (wp_u (show cd 124 29 = some (.getfield 215, 3, 9, 45, 0, 0) from rfl)).trans g_getI
theorem u124_32 : wp r 124 32 ls st x Q ↔ wp r 124 33 ls (vI 1 :: st) x Q := (wp_u (show cd 124 32 = some (.iconst 1, 1, 0, 0, 0, 0) from rfl))
theorem u124_33 : wp r 124 33 ls (vI w :: vI z :: st) x Q ↔ inI (z - w) = true ∧ wp r 124 34 ls (vI (z - w) :: st) x Q := (wp_u (show cd 124 33 = some (.isub, 1, 0, 0, 0, 0) from rfl)).trans wq_if
theorem u124_34 : wp r 124 34 ls (vI z :: vA q :: st) x Q ↔ sbk 9 (hK x q) ∧ wp r 124 37 ls st (stI x q 45 z) Q := (wp_u (show cd 124 34 = some (.putfield 215, 3, 9, 45, 0, 0) from rfl)).trans g_putI0
theorem u124_37 : wp r 124 37 [vR o, a1, a2, a3] st x Q ↔ wp r 124 38 [vR o, a1, a2, a3] (vR o :: st) x Q := (wp_u (show cd 124 37 = some (.aload_n 0, 1, 0, 0, 0, 0) from rfl))
theorem u124_38 : wp r 124 38 [vR o, a1, a2, a3] st x Q ↔ wp r 124 39 [vR o, a1, a2, a3] (vR o :: st) x Q := (wp_u (show cd 124 38 = some (.aload_n 0, 1, 0, 0, 0, 0) from rfl))
theorem u124_39 : wp r 124 39 ls (vA q :: st) x Q ↔ sbk 9 (hK x q) ∧ wp r 124 42 ls (vR (hR x q 46) :: st) x Q := (wp_u (show cd 124 39 = some (.getfield 90, 3, 9, 46, 5, 0) from rfl)).trans g_getR
theorem u124_42 : wp r 124 42 [vR o, a1, a2, a3] st x Q ↔ wp r 124 43 [vR o, a1, a2, a3] (vR o :: st) x Q := (wp_u (show cd 124 42 = some (.aload_n 0, 1, 0, 0, 0, 0) from rfl))
theorem u124_43 : wp r 124 43 ls (vA q :: st) x Q ↔ sbk 9 (hK x q) ∧ wp r 124 46 ls (vI (hI x q 45) :: st) x Q := (wp_u (show cd 124 43 = some (.getfield 215, 3, 9, 45, 0, 0) from rfl)).trans g_getI
theorem u124_46 : wp r 124 46 ls (vI i :: vA q :: st) x Q ↔ ldk 20 (hK x q) i ∧ wp r 124 47 ls (vI (hI x q i) :: st) x Q := (wp_u (show cd 124 46 = some (.iaload, 1, 0, 0, 0, 0) from rfl)).trans g_ldI
theorem u124_47 : wp r 124 47 ls (vI z :: vA q :: st) x Q ↔ sbk 9 (hK x q) ∧ wp r 124 50 ls st (stI x q 43 z) Q := (wp_u (show cd 124 47 = some (.putfield 218, 3, 9, 43, 0, 0) from rfl)).trans g_putI0
theorem u124_50 : wp r 124 50 [vR o, a1, a2, a3] st x Q ↔ wp r 124 51 [vR o, a1, a2, a3] (vR o :: st) x Q := (wp_u (show cd 124 50 = some (.aload_n 0, 1, 0, 0, 0, 0) from rfl))
theorem u124_51 : wp r 124 51 [vR o, a1, a2, a3] st x Q ↔ wp r 124 52 [vR o, a1, a2, a3] (vR o :: st) x Q := (wp_u (show cd 124 51 = some (.aload_n 0, 1, 0, 0, 0, 0) from rfl))
theorem u124_52 : wp r 124 52 ls (vA q :: st) x Q ↔ sbk 9 (hK x q) ∧ wp r 124 55 ls (vR (hR x q 47) :: st) x Q := (wp_u (show cd 124 52 = some (.getfield 93, 3, 9, 47, 5, 0) from rfl)).trans g_getR
theorem u124_55 : wp r 124 55 [vR o, a1, a2, a3] st x Q ↔ wp r 124 56 [vR o, a1, a2, a3] (vR o :: st) x Q := (wp_u (show cd 124 55 = some (.aload_n 0, 1, 0, 0, 0, 0) from rfl))
theorem u124_56 : wp r 124 56 ls (vA q :: st) x Q ↔ sbk 9 (hK x q) ∧ wp r 124 59 ls (vI (hI x q 45) :: st) x Q := (wp_u (show cd 124 56 = some (.getfield 215, 3, 9, 45, 0, 0) from rfl)).trans g_getI
theorem u124_59 : wp r 124 59 ls (vI i :: vA q :: st) x Q ↔ ldk 20 (hK x q) i ∧ wp r 124 60 ls (vI (hI x q i) :: st) x Q := (wp_u (show cd 124 59 = some (.iaload, 1, 0, 0, 0, 0) from rfl)).trans g_ldI
theorem u124_60 : wp r 124 60 ls (vI z :: vA q :: st) x Q ↔ sbk 9 (hK x q) ∧ wp r 124 63 ls st (stI x q 44 z) Q := (wp_u (show cd 124 60 = some (.putfield 221, 3, 9, 44, 0, 0) from rfl)).trans g_putI0
theorem u124_63 : wp r 124 63 ls st x Q ↔ wp r 124 105 ls st x Q := (wp_u (show cd 124 63 = some (.goto 42, 3, 105, 0, 0, 0) from rfl))
theorem u124_66 : wp r 124 66 [a0, a1, vI z, a3] st x Q ↔ wp r 124 67 [a0, a1, vI z, a3] (vI z :: st) x Q := (wp_u (show cd 124 66 = some (.iload_n 2, 1, 0, 0, 0, 0) from rfl))
theorem u124_67 : wp r 124 67 ls (vI z :: st) x Q ↔ if z = 0 then wp r 124 70 ls st x Q else wp r 124 94 ls st x Q := (wp_u (show cd 124 67 = some (.ifCond .ne 27, 3, 94, 0, 0, 0) from rfl)).trans wq_dn
theorem u124_70 : wp r 124 70 [vR o, a1, a2, a3] st x Q ↔ wp r 124 71 [vR o, a1, a2, a3] (vR o :: st) x Q := (wp_u (show cd 124 70 = some (.aload_n 0, 1, 0, 0, 0, 0) from rfl))
theorem u124_71 : wp r 124 71 ls (vA q :: st) x Q ↔ sbk 9 (hK x q) ∧ wp r 124 74 ls (vR (hR x q 5) :: st) x Q := (wp_u (show cd 124 71 = some (.getfield 19, 3, 9, 5, 5, 0) from rfl)).trans g_getR
theorem u124_74 : wp r 124 74 ls st x Q ↔ wp r 124 76 ls (vI 24 :: st) x Q := (wp_u (show cd 124 74 = some (.bipush 24, 2, 0, 0, 0, 0) from rfl))
theorem u124_76 : wp r 124 76 [a0, vI z, a2, a3] st x Q ↔ wp r 124 77 [a0, vI z, a2, a3] (vI z :: st) x Q := (wp_u (show cd 124 76 = some (.iload_n 1, 1, 0, 0, 0, 0) from rfl))
theorem u124_77 : wp r 124 77 ls (vI w :: vI z :: st) x Q ↔ inI (z * w) = true ∧ wp r 124 78 ls (vI (z * w) :: st) x Q := (wp_u (show cd 124 77 = some (.imul, 1, 0, 0, 0, 0) from rfl)).trans wq_if
theorem u124_78 : wp r 124 78 [vR o, a1, a2, a3] st x Q ↔ wp r 124 79 [vR o, a1, a2, a3] (vR o :: st) x Q := (wp_u (show cd 124 78 = some (.aload_n 0, 1, 0, 0, 0, 0) from rfl))
theorem u124_79 : wp r 124 79 ls (vA q :: st) x Q ↔ sbk 9 (hK x q) ∧ wp r 124 82 ls (vI (hI x q 43) :: st) x Q := (wp_u (show cd 124 79 = some (.getfield 218, 3, 9, 43, 0, 0) from rfl)).trans g_getI
theorem u124_82 : wp r 124 82 ls (vI w :: vI z :: st) x Q ↔ inI (z + w) = true ∧ wp r 124 83 ls (vI (z + w) :: st) x Q := (wp_u (show cd 124 82 = some (.iadd, 1, 0, 0, 0, 0) from rfl)).trans wq_if
theorem u124_83 : wp r 124 83 ls (vI i :: vA q :: st) x Q ↔ ldb (hK x q) i ∧ wp r 124 84 ls (vI (hI x q i) :: st) x Q := (wp_u (show cd 124 83 = some (.baload, 1, 0, 0, 0, 0) from rfl)).trans g_ldB
theorem u124_84 : wp r 124 84 ls (vI z :: st) x Q ↔ if z = 0 then wp r 124 98 ls st x Q else wp r 124 87 ls st x Q := (wp_u (show cd 124 84 = some (.ifCond .eq 14, 3, 98, 0, 0, 0) from rfl)).trans wq_d
theorem u124_87 : wp r 124 87 [vR o, a1, a2, a3] st x Q ↔ wp r 124 88 [vR o, a1, a2, a3] (vR o :: st) x Q := (wp_u (show cd 124 87 = some (.aload_n 0, 1, 0, 0, 0, 0) from rfl))
theorem u124_88 : wp r 124 88 ls (vA q :: st) x Q ↔ sbk 9 (hK x q) ∧ wp r 124 91 ls (vI (hI x q 44) :: st) x Q := (wp_u (show cd 124 88 = some (.getfield 221, 3, 9, 44, 0, 0) from rfl)).trans g_getI
theorem u124_91 : wp r 124 91 ls (vI z :: st) x Q ↔ if z = 0 then wp r 124 94 ls st x Q else wp r 124 98 ls st x Q := (wp_u (show cd 124 91 = some (.ifCond .ne 7, 3, 98, 0, 0, 0) from rfl)).trans wq_dn
theorem u124_94 : wp r 124 94 ls st x Q ↔ wp r 124 95 ls (vI 1 :: st) x Q := (wp_u (show cd 124 94 = some (.iconst 1, 1, 0, 0, 0, 0) from rfl))
theorem u124_95 : wp r 124 95 ls st x Q ↔ wp r 124 99 ls st x Q := (wp_u (show cd 124 95 = some (.goto 4, 3, 99, 0, 0, 0) from rfl))
theorem u124_98 : wp r 124 98 ls st x Q ↔ wp r 124 99 ls (vI 0 :: st) x Q := (wp_u (show cd 124 98 = some (.iconst 0, 1, 0, 0, 0, 0) from rfl))
theorem u124_99 : wp r 124 99 [a0, a1, a2, a3] (vI z :: st) x Q ↔ wp r 124 100 [a0, a1, vI z, a3] st x Q := (wp_u (show cd 124 99 = some (.istore_n 2, 1, 0, 0, 0, 0) from rfl))
theorem u124_100 : wp r 124 100 [vR o, a1, a2, a3] st x Q ↔ wp r 124 101 [vR o, a1, a2, a3] (vR o :: st) x Q := (wp_u (show cd 124 100 = some (.aload_n 0, 1, 0, 0, 0, 0) from rfl))
theorem u124_101 : wp r 124 101 [a0, vI z, a2, a3] st x Q ↔ wp r 124 102 [a0, vI z, a2, a3] (vI z :: st) x Q := (wp_u (show cd 124 101 = some (.iload_n 1, 1, 0, 0, 0, 0) from rfl))
theorem u124_102 : wp r 124 102 ls (vI z0 :: vA q :: st) x Q ↔ isk 9 (hK x q) ∧ sml st = true ∧ 2 < r ∧ wpc 2 136 [vA q, vI z0] x (wk r 124 102 ls st Q) := (wp_u (show cd 124 102 = some (.invokevirtual 227, 3, 136, 2, 2, 9) from rfl)).trans (g_virt rfl (by decide) (by simp) rfl)
theorem u124_105 : wp r 124 105 [a0, a1, a2, vI z] st x Q ↔ inI (z + 1) = true ∧ wp r 124 108 [a0, a1, a2, vI (z + 1)] st x Q := (wp_u (show cd 124 105 = some (.iinc 3 1, 3, 0, 0, 0, 0) from rfl)).trans wq_if
theorem u124_108 : wp r 124 108 ls st x Q ↔ wp r 124 4 ls st x Q := (wp_u (show cd 124 108 = some (.goto (-104), 3, 4, 0, 0, 0) from rfl))
theorem u124_111 : wp r 124 111 [a0, a1, vI z, a3] st x Q ↔ wp r 124 112 [a0, a1, vI z, a3] (vI z :: st) x Q := (wp_u (show cd 124 111 = some (.iload_n 2, 1, 0, 0, 0, 0) from rfl))
theorem u124_112 : wp r 124 112 ls [vI z] x Q ↔ rg 4 z = true ∧ Q (.inl (some (vI z))) x := (wp_u (show cd 124 112 = some (.ireturn, 1, 4, 0, 0, 0) from rfl)).trans wq_if
theorem e124 : wpc r 124 [vA q, vI z0] x Q ↔ wp r 124 0 [vA q, vI z0, vL jk, vL jk] [] x Q := Iff.rfl
/-! 125 M_isNumber -/
theorem u125_0 : wp r 125 0 [vR o, a1, a2, a3, a4, a5, a6, a7, a8] st x Q ↔ wp r 125 1 [vR o, a1, a2, a3, a4, a5, a6, a7, a8] (vR o :: st) x Q := (wp_u (show cd 125 0 = some (.aload_n 0, 1, 0, 0, 0, 0) from rfl))
theorem u125_1 : wp r 125 1 [a0, vI z, a2, a3, a4, a5, a6, a7, a8] st x Q ↔ wp r 125 2 [a0, vI z, a2, a3, a4, a5, a6, a7, a8] (vI z :: st) x Q := (wp_u (show cd 125 1 = some (.iload_n 1, 1, 0, 0, 0, 0) from rfl))
theorem u125_2 : wp r 125 2 ls (vI z0 :: vA q :: st) x Q ↔ isk 9 (hK x q) ∧ sml st = true ∧ 1 < r ∧ wpc 1 115 [vA q, vI z0] x (wk r 125 2 ls st Q) := (wp_u (show cd 125 2 = some (.invokevirtual 202, 3, 115, 2, 1, 9) from rfl)).trans (g_virt rfl (by decide) (by simp) rfl)
theorem u125_5 : wp r 125 5 [a0, a1, a2, a3, a4, a5, a6, a7, a8] (vI z :: st) x Q ↔ wp r 125 6 [a0, a1, a2, vI z, a4, a5, a6, a7, a8] st x Q := (wp_u (show cd 125 5 = some (.istore_n 3, 1, 0, 0, 0, 0) from rfl))
theorem u125_6 : wp r 125 6 [a0, a1, a2, vI z, a4, a5, a6, a7, a8] st x Q ↔ wp r 125 7 [a0, a1, a2, vI z, a4, a5, a6, a7, a8] (vI z :: st) x Q := (wp_u (show cd 125 6 = some (.iload_n 3, 1, 0, 0, 0, 0) from rfl))
theorem u125_7 : wp r 125 7 ls st x Q ↔ wp r 125 8 ls (vI 1 :: st) x Q := (wp_u (show cd 125 7 = some (.iconst 1, 1, 0, 0, 0, 0) from rfl))
theorem u125_8 : wp r 125 8 ls (vI w :: vI z :: st) x Q ↔ if z < w then wp r 125 16 ls st x Q else wp r 125 11 ls st x Q := (wp_u (show cd 125 8 = some (.if_icmp .lt 8, 3, 16, 0, 0, 0) from rfl)).trans wq_d
theorem u125_11 : wp r 125 11 [a0, a1, a2, vI z, a4, a5, a6, a7, a8] st x Q ↔ wp r 125 12 [a0, a1, a2, vI z, a4, a5, a6, a7, a8] (vI z :: st) x Q := (wp_u (show cd 125 11 = some (.iload_n 3, 1, 0, 0, 0, 0) from rfl))
theorem u125_12 : wp r 125 12 ls st x Q ↔ wp r 125 13 ls (vI 3 :: st) x Q := (wp_u (show cd 125 12 = some (.iconst 3, 1, 0, 0, 0, 0) from rfl))
theorem u125_13 : wp r 125 13 ls (vI w :: vI z :: st) x Q ↔ if z ≤ w then wp r 125 18 ls st x Q else wp r 125 16 ls st x Q := (wp_u (show cd 125 13 = some (.if_icmp .le 5, 3, 18, 0, 0, 0) from rfl)).trans wq_d
theorem u125_16 : wp r 125 16 ls st x Q ↔ wp r 125 17 ls (vI 0 :: st) x Q := (wp_u (show cd 125 16 = some (.iconst 0, 1, 0, 0, 0, 0) from rfl))
theorem u125_17 : wp r 125 17 ls [vI z] x Q ↔ rg 4 z = true ∧ Q (.inl (some (vI z))) x := (wp_u (show cd 125 17 = some (.ireturn, 1, 4, 0, 0, 0) from rfl)).trans wq_if
theorem u125_18 : wp r 125 18 [vR o, a1, a2, a3, a4, a5, a6, a7, a8] st x Q ↔ wp r 125 19 [vR o, a1, a2, a3, a4, a5, a6, a7, a8] (vR o :: st) x Q := (wp_u (show cd 125 18 = some (.aload_n 0, 1, 0, 0, 0, 0) from rfl))
theorem u125_19 : wp r 125 19 ls (vA q :: st) x Q ↔ sbk 9 (hK x q) ∧ wp r 125 22 ls (vR (hR x q 30) :: st) x Q := (wp_u (show cd 125 19 = some (.getfield 60, 3, 9, 30, 5, 0) from rfl)).trans g_getR
theorem u125_22 : wp r 125 22 [a0, vI z, a2, a3, a4, a5, a6, a7, a8] st x Q ↔ wp r 125 23 [a0, vI z, a2, a3, a4, a5, a6, a7, a8] (vI z :: st) x Q := (wp_u (show cd 125 22 = some (.iload_n 1, 1, 0, 0, 0, 0) from rfl))
theorem u125_23 : wp r 125 23 ls (vI i :: vA q :: st) x Q ↔ ldk 20 (hK x q) i ∧ wp r 125 24 ls (vI (hI x q i) :: st) x Q := (wp_u (show cd 125 23 = some (.iaload, 1, 0, 0, 0, 0) from rfl)).trans g_ldI
theorem u125_24 : wp r 125 24 [a0, a1, a2, a3, a4, a5, a6, a7, a8] (vI z :: st) x Q ↔ wp r 125 26 [a0, a1, a2, a3, vI z, a5, a6, a7, a8] st x Q := (wp_u (show cd 125 24 = some (.istore 4, 2, 0, 0, 0, 0) from rfl))
theorem u125_26 : wp r 125 26 ls st x Q ↔ wp r 125 27 ls (vI 0 :: st) x Q := (wp_u (show cd 125 26 = some (.iconst 0, 1, 0, 0, 0, 0) from rfl))
theorem u125_27 : wp r 125 27 [a0, a1, a2, a3, a4, a5, a6, a7, a8] (vI z :: st) x Q ↔ wp r 125 29 [a0, a1, a2, a3, a4, vI z, a6, a7, a8] st x Q := (wp_u (show cd 125 27 = some (.istore 5, 2, 0, 0, 0, 0) from rfl))
theorem u125_29 : wp r 125 29 [a0, a1, a2, vI z, a4, a5, a6, a7, a8] st x Q ↔ wp r 125 30 [a0, a1, a2, vI z, a4, a5, a6, a7, a8] (vI z :: st) x Q := (wp_u (show cd 125 29 = some (.iload_n 3, 1, 0, 0, 0, 0) from rfl))
theorem u125_30 : wp r 125 30 ls st x Q ↔ wp r 125 31 ls (vI 1 :: st) x Q := (wp_u (show cd 125 30 = some (.iconst 1, 1, 0, 0, 0, 0) from rfl))
theorem u125_31 : wp r 125 31 ls (vI w :: vI z :: st) x Q ↔ if z = w then wp r 125 46 ls st x Q else wp r 125 34 ls st x Q := (wp_u (show cd 125 31 = some (.if_icmp .eq 15, 3, 46, 0, 0, 0) from rfl)).trans wq_d
theorem u125_34 : wp r 125 34 [vR o, a1, a2, a3, a4, a5, a6, a7, a8] st x Q ↔ wp r 125 35 [vR o, a1, a2, a3, a4, a5, a6, a7, a8] (vR o :: st) x Q := (wp_u (show cd 125 34 = some (.aload_n 0, 1, 0, 0, 0, 0) from rfl))
theorem u125_35 : wp r 125 35 ls (vA q :: st) x Q ↔ sbk 9 (hK x q) ∧ wp r 125 38 ls (vR (hR x q 31) :: st) x Q := (wp_u (show cd 125 35 = some (.getfield 63, 3, 9, 31, 5, 0) from rfl)).trans g_getR
theorem u125_38 : wp r 125 38 [a0, a1, a2, a3, vI z, a5, a6, a7, a8] st x Q ↔ wp r 125 40 [a0, a1, a2, a3, vI z, a5, a6, a7, a8] (vI z :: st) x Q := (wp_u (show cd 125 38 = some (.iload 4, 2, 0, 0, 0, 0) from rfl))
theorem u125_40 : wp r 125 40 ls (vI i :: vA q :: st) x Q ↔ ldk 20 (hK x q) i ∧ wp r 125 41 ls (vI (hI x q i) :: st) x Q := (wp_u (show cd 125 40 = some (.iaload, 1, 0, 0, 0, 0) from rfl)).trans g_ldI
theorem u125_41 : wp r 125 41 ls st x Q ↔ wp r 125 43 ls (vI 48 :: st) x Q := (wp_u (show cd 125 41 = some (.bipush 48, 2, 0, 0, 0, 0) from rfl))
theorem u125_43 : wp r 125 43 ls (vI w :: vI z :: st) x Q ↔ if z = w then wp r 125 50 ls st x Q else wp r 125 46 ls st x Q := (wp_u (show cd 125 43 = some (.if_icmp .eq 7, 3, 50, 0, 0, 0) from rfl)).trans wq_d
theorem u125_46 : wp r 125 46 ls st x Q ↔ wp r 125 47 ls (vI 1 :: st) x Q := (wp_u (show cd 125 46 = some (.iconst 1, 1, 0, 0, 0, 0) from rfl))
theorem u125_47 : wp r 125 47 ls st x Q ↔ wp r 125 51 ls st x Q := (wp_u (show cd 125 47 = some (.goto 4, 3, 51, 0, 0, 0) from rfl))
theorem u125_50 : wp r 125 50 ls st x Q ↔ wp r 125 51 ls (vI 0 :: st) x Q := (wp_u (show cd 125 50 = some (.iconst 0, 1, 0, 0, 0, 0) from rfl))
theorem u125_51 : wp r 125 51 [a0, a1, a2, a3, a4, a5, a6, a7, a8] (vI z :: st) x Q ↔ wp r 125 53 [a0, a1, a2, a3, a4, a5, vI z, a7, a8] st x Q := (wp_u (show cd 125 51 = some (.istore 6, 2, 0, 0, 0, 0) from rfl))
theorem u125_53 : wp r 125 53 ls st x Q ↔ wp r 125 54 ls (vI 0 :: st) x Q := (wp_u (show cd 125 53 = some (.iconst 0, 1, 0, 0, 0, 0) from rfl))
theorem u125_54 : wp r 125 54 [a0, a1, a2, a3, a4, a5, a6, a7, a8] (vI z :: st) x Q ↔ wp r 125 56 [a0, a1, a2, a3, a4, a5, a6, vI z, a8] st x Q := (wp_u (show cd 125 54 = some (.istore 7, 2, 0, 0, 0, 0) from rfl))
theorem u125_56 : wp r 125 56 [a0, a1, a2, a3, a4, a5, a6, vI z, a8] st x Q ↔ wp r 125 58 [a0, a1, a2, a3, a4, a5, a6, vI z, a8] (vI z :: st) x Q := (wp_u (show cd 125 56 = some (.iload 7, 2, 0, 0, 0, 0) from rfl))
theorem u125_58 : wp r 125 58 [a0, a1, a2, vI z, a4, a5, a6, a7, a8] st x Q ↔ wp r 125 59 [a0, a1, a2, vI z, a4, a5, a6, a7, a8] (vI z :: st) x Q := (wp_u (show cd 125 58 = some (.iload_n 3, 1, 0, 0, 0, 0) from rfl))
theorem u125_59 : wp r 125 59 ls (vI w :: vI z :: st) x Q ↔ if w ≤ z then wp r 125 119 ls st x Q else wp r 125 62 ls st x Q := (wp_u (show cd 125 59 = some (.if_icmp .ge 60, 3, 119, 0, 0, 0) from rfl)).trans wq_d
theorem u125_62 : wp r 125 62 [vR o, a1, a2, a3, a4, a5, a6, a7, a8] st x Q ↔ wp r 125 63 [vR o, a1, a2, a3, a4, a5, a6, a7, a8] (vR o :: st) x Q := (wp_u (show cd 125 62 = some (.aload_n 0, 1, 0, 0, 0, 0) from rfl))
theorem u125_63 : wp r 125 63 ls (vA q :: st) x Q ↔ sbk 9 (hK x q) ∧ wp r 125 66 ls (vR (hR x q 31) :: st) x Q := (wp_u (show cd 125 63 = some (.getfield 63, 3, 9, 31, 5, 0) from rfl)).trans g_getR
theorem u125_66 : wp r 125 66 [a0, a1, a2, a3, vI z, a5, a6, a7, a8] st x Q ↔ wp r 125 68 [a0, a1, a2, a3, vI z, a5, a6, a7, a8] (vI z :: st) x Q := (wp_u (show cd 125 66 = some (.iload 4, 2, 0, 0, 0, 0) from rfl))
theorem u125_68 : wp r 125 68 [a0, a1, a2, a3, a4, a5, a6, vI z, a8] st x Q ↔ wp r 125 70 [a0, a1, a2, a3, a4, a5, a6, vI z, a8] (vI z :: st) x Q := (wp_u (show cd 125 68 = some (.iload 7, 2, 0, 0, 0, 0) from rfl))
theorem u125_70 : wp r 125 70 ls (vI w :: vI z :: st) x Q ↔ inI (z + w) = true ∧ wp r 125 71 ls (vI (z + w) :: st) x Q := (wp_u (show cd 125 70 = some (.iadd, 1, 0, 0, 0, 0) from rfl)).trans wq_if
theorem u125_71 : wp r 125 71 ls (vI i :: vA q :: st) x Q ↔ ldk 20 (hK x q) i ∧ wp r 125 72 ls (vI (hI x q i) :: st) x Q := (wp_u (show cd 125 71 = some (.iaload, 1, 0, 0, 0, 0) from rfl)).trans g_ldI
theorem u125_72 : wp r 125 72 [a0, a1, a2, a3, a4, a5, a6, a7, a8] (vI z :: st) x Q ↔ wp r 125 74 [a0, a1, a2, a3, a4, a5, a6, a7, vI z] st x Q := (wp_u (show cd 125 72 = some (.istore 8, 2, 0, 0, 0, 0) from rfl))
theorem u125_74 : wp r 125 74 [a0, a1, a2, a3, a4, a5, vI z, a7, a8] st x Q ↔ wp r 125 76 [a0, a1, a2, a3, a4, a5, vI z, a7, a8] (vI z :: st) x Q := (wp_u (show cd 125 74 = some (.iload 6, 2, 0, 0, 0, 0) from rfl))
theorem u125_76 : wp r 125 76 ls (vI z :: st) x Q ↔ if z = 0 then wp r 125 97 ls st x Q else wp r 125 79 ls st x Q := (wp_u (show cd 125 76 = some (.ifCond .eq 21, 3, 97, 0, 0, 0) from rfl)).trans wq_d
theorem u125_79 : wp r 125 79 [a0, a1, a2, a3, a4, a5, a6, a7, vI z] st x Q ↔ wp r 125 81 [a0, a1, a2, a3, a4, a5, a6, a7, vI z] (vI z :: st) x Q := (wp_u (show cd 125 79 = some (.iload 8, 2, 0, 0, 0, 0) from rfl))
theorem u125_81 : wp r 125 81 ls st x Q ↔ wp r 125 83 ls (vI 48 :: st) x Q := (wp_u (show cd 125 81 = some (.bipush 48, 2, 0, 0, 0, 0) from rfl))
theorem u125_83 : wp r 125 83 ls (vI w :: vI z :: st) x Q ↔ if z < w then wp r 125 97 ls st x Q else wp r 125 86 ls st x Q := (wp_u (show cd 125 83 = some (.if_icmp .lt 14, 3, 97, 0, 0, 0) from rfl)).trans wq_d
theorem u125_86 : wp r 125 86 [a0, a1, a2, a3, a4, a5, a6, a7, vI z] st x Q ↔ wp r 125 88 [a0, a1, a2, a3, a4, a5, a6, a7, vI z] (vI z :: st) x Q := (wp_u (show cd 125 86 = some (.iload 8, 2, 0, 0, 0, 0) from rfl))
theorem u125_88 : wp r 125 88 ls st x Q ↔ wp r 125 90 ls (vI 57 :: st) x Q := (wp_u (show cd 125 88 = some (.bipush 57, 2, 0, 0, 0, 0) from rfl))
theorem u125_90 : wp r 125 90 ls (vI w :: vI z :: st) x Q ↔ if w < z then wp r 125 97 ls st x Q else wp r 125 93 ls st x Q := (wp_u (show cd 125 90 = some (.if_icmp .gt 7, 3, 97, 0, 0, 0) from rfl)).trans wq_d
theorem u125_93 : wp r 125 93 ls st x Q ↔ wp r 125 94 ls (vI 1 :: st) x Q := (wp_u (show cd 125 93 = some (.iconst 1, 1, 0, 0, 0, 0) from rfl))
theorem u125_94 : wp r 125 94 ls st x Q ↔ wp r 125 98 ls st x Q := (wp_u (show cd 125 94 = some (.goto 4, 3, 98, 0, 0, 0) from rfl))
theorem u125_97 : wp r 125 97 ls st x Q ↔ wp r 125 98 ls (vI 0 :: st) x Q := (wp_u (show cd 125 97 = some (.iconst 0, 1, 0, 0, 0, 0) from rfl))
theorem u125_98 : wp r 125 98 [a0, a1, a2, a3, a4, a5, a6, a7, a8] (vI z :: st) x Q ↔ wp r 125 100 [a0, a1, a2, a3, a4, a5, vI z, a7, a8] st x Q := (wp_u (show cd 125 98 = some (.istore 6, 2, 0, 0, 0, 0) from rfl))
theorem u125_100 : wp r 125 100 ls st x Q ↔ wp r 125 102 ls (vI 10 :: st) x Q := (wp_u (show cd 125 100 = some (.bipush 10, 2, 0, 0, 0, 0) from rfl))
theorem u125_102 : wp r 125 102 [a0, a1, a2, a3, a4, vI z, a6, a7, a8] st x Q ↔ wp r 125 104 [a0, a1, a2, a3, a4, vI z, a6, a7, a8] (vI z :: st) x Q := (wp_u (show cd 125 102 = some (.iload 5, 2, 0, 0, 0, 0) from rfl))
theorem u125_104 : wp r 125 104 ls (vI w :: vI z :: st) x Q ↔ inI (z * w) = true ∧ wp r 125 105 ls (vI (z * w) :: st) x Q := (wp_u (show cd 125 104 = some (.imul, 1, 0, 0, 0, 0) from rfl)).trans wq_if
theorem u125_105 : wp r 125 105 [a0, a1, a2, a3, a4, a5, a6, a7, vI z] st x Q ↔ wp r 125 107 [a0, a1, a2, a3, a4, a5, a6, a7, vI z] (vI z :: st) x Q := (wp_u (show cd 125 105 = some (.iload 8, 2, 0, 0, 0, 0) from rfl))
theorem u125_107 : wp r 125 107 ls (vI w :: vI z :: st) x Q ↔ inI (z + w) = true ∧ wp r 125 108 ls (vI (z + w) :: st) x Q := (wp_u (show cd 125 107 = some (.iadd, 1, 0, 0, 0, 0) from rfl)).trans wq_if
theorem u125_108 : wp r 125 108 ls st x Q ↔ wp r 125 110 ls (vI 48 :: st) x Q := (wp_u (show cd 125 108 = some (.bipush 48, 2, 0, 0, 0, 0) from rfl))
theorem u125_110 : wp r 125 110 ls (vI w :: vI z :: st) x Q ↔ inI (z - w) = true ∧ wp r 125 111 ls (vI (z - w) :: st) x Q := (wp_u (show cd 125 110 = some (.isub, 1, 0, 0, 0, 0) from rfl)).trans wq_if
theorem u125_111 : wp r 125 111 [a0, a1, a2, a3, a4, a5, a6, a7, a8] (vI z :: st) x Q ↔ wp r 125 113 [a0, a1, a2, a3, a4, vI z, a6, a7, a8] st x Q := (wp_u (show cd 125 111 = some (.istore 5, 2, 0, 0, 0, 0) from rfl))
theorem u125_113 : wp r 125 113 [a0, a1, a2, a3, a4, a5, a6, vI z, a8] st x Q ↔ inI (z + 1) = true ∧ wp r 125 116 [a0, a1, a2, a3, a4, a5, a6, vI (z + 1), a8] st x Q := (wp_u (show cd 125 113 = some (.iinc 7 1, 3, 0, 0, 0, 0) from rfl)).trans wq_if
theorem u125_116 : wp r 125 116 ls st x Q ↔ wp r 125 56 ls st x Q := (wp_u (show cd 125 116 = some (.goto (-60), 3, 56, 0, 0, 0) from rfl))
theorem u125_119 : wp r 125 119 [a0, a1, a2, a3, a4, a5, vI z, a7, a8] st x Q ↔ wp r 125 121 [a0, a1, a2, a3, a4, a5, vI z, a7, a8] (vI z :: st) x Q := (wp_u (show cd 125 119 = some (.iload 6, 2, 0, 0, 0, 0) from rfl))
theorem u125_121 : wp r 125 121 ls (vI z :: st) x Q ↔ if z = 0 then wp r 125 134 ls st x Q else wp r 125 124 ls st x Q := (wp_u (show cd 125 121 = some (.ifCond .eq 13, 3, 134, 0, 0, 0) from rfl)).trans wq_d
theorem u125_124 : wp r 125 124 [a0, a1, a2, a3, a4, vI z, a6, a7, a8] st x Q ↔ wp r 125 126 [a0, a1, a2, a3, a4, vI z, a6, a7, a8] (vI z :: st) x Q := (wp_u (show cd 125 124 = some (.iload 5, 2, 0, 0, 0, 0) from rfl))
theorem u125_126 : wp r 125 126 [a0, a1, vI z, a3, a4, a5, a6, a7, a8] st x Q ↔ wp r 125 127 [a0, a1, vI z, a3, a4, a5, a6, a7, a8] (vI z :: st) x Q := (wp_u (show cd 125 126 = some (.iload_n 2, 1, 0, 0, 0, 0) from rfl))
theorem u125_127 : wp r 125 127 ls (vI w :: vI z :: st) x Q ↔ if z = w then wp r 125 130 ls st x Q else wp r 125 134 ls st x Q := (wp_u (show cd 125 127 = some (.if_icmp .ne 7, 3, 134, 0, 0, 0) from rfl)).trans wq_dn
theorem u125_130 : wp r 125 130 ls st x Q ↔ wp r 125 131 ls (vI 1 :: st) x Q := (wp_u (show cd 125 130 = some (.iconst 1, 1, 0, 0, 0, 0) from rfl))
theorem u125_131 : wp r 125 131 ls st x Q ↔ wp r 125 135 ls st x Q := (wp_u (show cd 125 131 = some (.goto 4, 3, 135, 0, 0, 0) from rfl))
theorem u125_134 : wp r 125 134 ls st x Q ↔ wp r 125 135 ls (vI 0 :: st) x Q := (wp_u (show cd 125 134 = some (.iconst 0, 1, 0, 0, 0, 0) from rfl))
theorem u125_135 : wp r 125 135 ls [vI z] x Q ↔ rg 4 z = true ∧ Q (.inl (some (vI z))) x := (wp_u (show cd 125 135 = some (.ireturn, 1, 4, 0, 0, 0) from rfl)).trans wq_if
theorem e125 : wpc r 125 [vA q, vI z0, vI z1] x Q ↔ wp r 125 0 [vA q, vI z0, vI z1, vL jk, vL jk, vL jk, vL jk, vL jk, vL jk] [] x Q := Iff.rfl
/-! 126 M_writeTag -/
theorem u126_0 : wp r 126 0 [vR o, a1] st x Q ↔ wp r 126 1 [vR o, a1] (vR o :: st) x Q := (wp_u (show cd 126 0 = some (.aload_n 0, 1, 0, 0, 0, 0) from rfl))
theorem u126_1 : wp r 126 1 [a0, vI z] st x Q ↔ wp r 126 2 [a0, vI z] (vI z :: st) x Q := (wp_u (show cd 126 1 = some (.iload_n 1, 1, 0, 0, 0, 0) from rfl))
theorem u126_2 : wp r 126 2 ls st x Q ↔ wp r 126 4 ls (vI 16 :: st) x Q := (wp_u (show cd 126 2 = some (.bipush 16, 2, 0, 0, 0, 0) from rfl))
theorem u126_4 : wp r 126 4 ls (vI w :: vI z :: st) x Q ↔ wp r 126 5 ls (vI (iShr z w) :: st) x Q := (wp_u (show cd 126 4 = some (.ishr, 1, 0, 0, 0, 0) from rfl)).trans (wq_if.trans (and_iff_right (inI_32 _)))
theorem u126_5 : wp r 126 5 ls (vI z0 :: vA q :: st) x Q ↔ isk 9 (hK x q) ∧ sml st = true ∧ 1 < r ∧ wpc 1 128 [vA q, vI z0] x (wk r 126 5 ls st Q) := (wp_u (show cd 126 5 = some (.invokevirtual 278, 3, 128, 2, 1, 9) from rfl)).trans (g_virt rfl (by decide) (by simp) rfl)
theorem u126_8 : wp r 126 8 [vR o, a1] st x Q ↔ wp r 126 9 [vR o, a1] (vR o :: st) x Q := (wp_u (show cd 126 8 = some (.aload_n 0, 1, 0, 0, 0, 0) from rfl))
theorem u126_9 : wp r 126 9 [a0, vI z] st x Q ↔ wp r 126 10 [a0, vI z] (vI z :: st) x Q := (wp_u (show cd 126 9 = some (.iload_n 1, 1, 0, 0, 0, 0) from rfl))
theorem u126_10 : wp r 126 10 ls st x Q ↔ wp r 126 12 ls (vI 8 :: st) x Q := (wp_u (show cd 126 10 = some (.bipush 8, 2, 0, 0, 0, 0) from rfl))
theorem u126_12 : wp r 126 12 ls (vI w :: vI z :: st) x Q ↔ wp r 126 13 ls (vI (iShr z w) :: st) x Q := (wp_u (show cd 126 12 = some (.ishr, 1, 0, 0, 0, 0) from rfl)).trans (wq_if.trans (and_iff_right (inI_32 _)))
theorem u126_13 : wp r 126 13 ls st x Q ↔ wp r 126 16 ls (vI 255 :: st) x Q := (wp_u (show cd 126 13 = some (.sipush 255, 3, 0, 0, 0, 0) from rfl))
theorem u126_16 : wp r 126 16 ls (vI w :: vI z :: st) x Q ↔ wp r 126 17 ls (vI (iAnd z w) :: st) x Q := (wp_u (show cd 126 16 = some (.iand, 1, 0, 0, 0, 0) from rfl)).trans (wq_if.trans (and_iff_right (inI_32 _)))
theorem u126_17 : wp r 126 17 ls (vI z0 :: vA q :: st) x Q ↔ isk 9 (hK x q) ∧ sml st = true ∧ 1 < r ∧ wpc 1 128 [vA q, vI z0] x (wk r 126 17 ls st Q) := (wp_u (show cd 126 17 = some (.invokevirtual 278, 3, 128, 2, 1, 9) from rfl)).trans (g_virt rfl (by decide) (by simp) rfl)
theorem u126_20 : wp r 126 20 [vR o, a1] st x Q ↔ wp r 126 21 [vR o, a1] (vR o :: st) x Q := (wp_u (show cd 126 20 = some (.aload_n 0, 1, 0, 0, 0, 0) from rfl))
theorem u126_21 : wp r 126 21 [a0, vI z] st x Q ↔ wp r 126 22 [a0, vI z] (vI z :: st) x Q := (wp_u (show cd 126 21 = some (.iload_n 1, 1, 0, 0, 0, 0) from rfl))
theorem u126_22 : wp r 126 22 ls st x Q ↔ wp r 126 25 ls (vI 255 :: st) x Q := (wp_u (show cd 126 22 = some (.sipush 255, 3, 0, 0, 0, 0) from rfl))
theorem u126_25 : wp r 126 25 ls (vI w :: vI z :: st) x Q ↔ wp r 126 26 ls (vI (iAnd z w) :: st) x Q := (wp_u (show cd 126 25 = some (.iand, 1, 0, 0, 0, 0) from rfl)).trans (wq_if.trans (and_iff_right (inI_32 _)))
theorem u126_26 : wp r 126 26 ls (vI z0 :: vA q :: st) x Q ↔ isk 9 (hK x q) ∧ sml st = true ∧ 1 < r ∧ wpc 1 128 [vA q, vI z0] x (wk r 126 26 ls st Q) := (wp_u (show cd 126 26 = some (.invokevirtual 278, 3, 128, 2, 1, 9) from rfl)).trans (g_virt rfl (by decide) (by simp) rfl)
theorem u126_29 : wp r 126 29 ls [] x Q ↔ Q (.inl none) x := (wp_u (show cd 126 29 = some (.return_, 1, 0, 0, 0, 0) from rfl))
theorem e126 : wpc r 126 [vA q, vI z0] x Q ↔ wp r 126 0 [vA q, vI z0] [] x Q := Iff.rfl
/-! 127 M_kept -/
theorem u127_0 : wp r 127 0 [vR o, a1, a2] st x Q ↔ wp r 127 1 [vR o, a1, a2] (vR o :: st) x Q := (wp_u (show cd 127 0 = some (.aload_n 0, 1, 0, 0, 0, 0) from rfl))
theorem u127_1 : wp r 127 1 ls (vA q :: st) x Q ↔ sbk 9 (hK x q) ∧ wp r 127 4 ls (vR (hR x q 28) :: st) x Q := (wp_u (show cd 127 1 = some (.getfield 57, 3, 9, 28, 5, 0) from rfl)).trans g_getR
theorem u127_4 : wp r 127 4 [a0, vI z, a2] st x Q ↔ wp r 127 5 [a0, vI z, a2] (vI z :: st) x Q := (wp_u (show cd 127 4 = some (.iload_n 1, 1, 0, 0, 0, 0) from rfl))
theorem u127_5 : wp r 127 5 ls st x Q ↔ wp r 127 6 ls (vI 1 :: st) x Q := (wp_u (show cd 127 5 = some (.iconst 1, 1, 0, 0, 0, 0) from rfl))
theorem u127_6 : wp r 127 6 ls (vI w :: vI z :: st) x Q ↔ inI (z + w) = true ∧ wp r 127 7 ls (vI (z + w) :: st) x Q := (wp_u (show cd 127 6 = some (.iadd, 1, 0, 0, 0, 0) from rfl)).trans wq_if
theorem u127_7 : wp r 127 7 ls (vI i :: vA q :: st) x Q ↔ ldk 20 (hK x q) i ∧ wp r 127 8 ls (vI (hI x q i) :: st) x Q := (wp_u (show cd 127 7 = some (.iaload, 1, 0, 0, 0, 0) from rfl)).trans g_ldI
theorem u127_8 : wp r 127 8 [vR o, a1, a2] st x Q ↔ wp r 127 9 [vR o, a1, a2] (vR o :: st) x Q := (wp_u (show cd 127 8 = some (.aload_n 0, 1, 0, 0, 0, 0) from rfl))
theorem u127_9 : wp r 127 9 ls (vA q :: st) x Q ↔ sbk 9 (hK x q) ∧ wp r 127 12 ls (vR (hR x q 28) :: st) x Q := (wp_u (show cd 127 9 = some (.getfield 57, 3, 9, 28, 5, 0) from rfl)).trans g_getR
theorem u127_12 : wp r 127 12 [a0, vI z, a2] st x Q ↔ wp r 127 13 [a0, vI z, a2] (vI z :: st) x Q := (wp_u (show cd 127 12 = some (.iload_n 1, 1, 0, 0, 0, 0) from rfl))
theorem u127_13 : wp r 127 13 ls (vI i :: vA q :: st) x Q ↔ ldk 20 (hK x q) i ∧ wp r 127 14 ls (vI (hI x q i) :: st) x Q := (wp_u (show cd 127 13 = some (.iaload, 1, 0, 0, 0, 0) from rfl)).trans g_ldI
theorem u127_14 : wp r 127 14 ls (vI w :: vI z :: st) x Q ↔ inI (z - w) = true ∧ wp r 127 15 ls (vI (z - w) :: st) x Q := (wp_u (show cd 127 14 = some (.isub, 1, 0, 0, 0, 0) from rfl)).trans wq_if
theorem u127_15 : wp r 127 15 [a0, a1, a2] (vI z :: st) x Q ↔ wp r 127 16 [a0, a1, vI z] st x Q := (wp_u (show cd 127 15 = some (.istore_n 2, 1, 0, 0, 0, 0) from rfl))
theorem u127_16 : wp r 127 16 [a0, a1, vI z] st x Q ↔ wp r 127 17 [a0, a1, vI z] (vI z :: st) x Q := (wp_u (show cd 127 16 = some (.iload_n 2, 1, 0, 0, 0, 0) from rfl))
theorem u127_17 : wp r 127 17 ls (vI z :: st) x Q ↔ if z ≤ 0 then wp r 127 43 ls st x Q else wp r 127 20 ls st x Q := (wp_u (show cd 127 17 = some (.ifCond .le 26, 3, 43, 0, 0, 0) from rfl)).trans wq_d
theorem u127_20 : wp r 127 20 [vR o, a1, a2] st x Q ↔ wp r 127 21 [vR o, a1, a2] (vR o :: st) x Q := (wp_u (show cd 127 20 = some (.aload_n 0, 1, 0, 0, 0, 0) from rfl))
theorem u127_21 : wp r 127 21 [vR o, a1, a2] st x Q ↔ wp r 127 22 [vR o, a1, a2] (vR o :: st) x Q := (wp_u (show cd 127 21 = some (.aload_n 0, 1, 0, 0, 0, 0) from rfl))
theorem u127_22 : wp r 127 22 ls (vA q :: st) x Q ↔ sbk 9 (hK x q) ∧ wp r 127 25 ls (vR (hR x q 28) :: st) x Q := (wp_u (show cd 127 22 = some (.getfield 57, 3, 9, 28, 5, 0) from rfl)).trans g_getR
theorem u127_25 : wp r 127 25 [a0, vI z, a2] st x Q ↔ wp r 127 26 [a0, vI z, a2] (vI z :: st) x Q := (wp_u (show cd 127 25 = some (.iload_n 1, 1, 0, 0, 0, 0) from rfl))
theorem u127_26 : wp r 127 26 ls (vI i :: vA q :: st) x Q ↔ ldk 20 (hK x q) i ∧ wp r 127 27 ls (vI (hI x q i) :: st) x Q := (wp_u (show cd 127 26 = some (.iaload, 1, 0, 0, 0, 0) from rfl)).trans g_ldI
theorem u127_27 : wp r 127 27 [a0, a1, vI z] st x Q ↔ wp r 127 28 [a0, a1, vI z] (vI z :: st) x Q := (wp_u (show cd 127 27 = some (.iload_n 2, 1, 0, 0, 0, 0) from rfl))
theorem u127_28 : wp r 127 28 ls (vI w :: vI z :: st) x Q ↔ inI (z + w) = true ∧ wp r 127 29 ls (vI (z + w) :: st) x Q := (wp_u (show cd 127 28 = some (.iadd, 1, 0, 0, 0, 0) from rfl)).trans wq_if
theorem u127_29 : wp r 127 29 ls st x Q ↔ wp r 127 30 ls (vI 1 :: st) x Q := (wp_u (show cd 127 29 = some (.iconst 1, 1, 0, 0, 0, 0) from rfl))
theorem u127_30 : wp r 127 30 ls (vI w :: vI z :: st) x Q ↔ inI (z - w) = true ∧ wp r 127 31 ls (vI (z - w) :: st) x Q := (wp_u (show cd 127 30 = some (.isub, 1, 0, 0, 0, 0) from rfl)).trans wq_if
theorem u127_31 : wp r 127 31 ls (vI z0 :: vA q :: st) x Q ↔ isk 9 (hK x q) ∧ sml st = true ∧ 1 < r ∧ wpc 1 115 [vA q, vI z0] x (wk r 127 31 ls st Q) := (wp_u (show cd 127 31 = some (.invokevirtual 202, 3, 115, 2, 1, 9) from rfl)).trans (g_virt rfl (by decide) (by simp) rfl)
theorem u127_34 : wp r 127 34 ls (vI z :: st) x Q ↔ if z = 0 then wp r 127 37 ls st x Q else wp r 127 43 ls st x Q := (wp_u (show cd 127 34 = some (.ifCond .ne 9, 3, 43, 0, 0, 0) from rfl)).trans wq_dn
theorem u127_37 : wp r 127 37 [a0, a1, vI z] st x Q ↔ inI (z + (-1)) = true ∧ wp r 127 40 [a0, a1, vI (z + (-1))] st x Q := (wp_u (show cd 127 37 = some (.iinc 2 (-1), 3, 0, 0, 0, 0) from rfl)).trans wq_if
theorem u127_40 : wp r 127 40 ls st x Q ↔ wp r 127 16 ls st x Q := (wp_u (show cd 127 40 = some (.goto (-24), 3, 16, 0, 0, 0) from rfl))
theorem u127_43 : wp r 127 43 [a0, a1, vI z] st x Q ↔ wp r 127 44 [a0, a1, vI z] (vI z :: st) x Q := (wp_u (show cd 127 43 = some (.iload_n 2, 1, 0, 0, 0, 0) from rfl))
theorem u127_44 : wp r 127 44 ls [vI z] x Q ↔ Q (.inl (some (vI z))) x := (wp_u (show cd 127 44 = some (.ireturn, 1, 0, 0, 0, 0) from rfl))
theorem e127 : wpc r 127 [vA q, vI z0] x Q ↔ wp r 127 0 [vA q, vI z0, vL jk] [] x Q := Iff.rfl
/-! 128 M_write -/
theorem u128_0 : wp r 128 0 [vR o, a1] st x Q ↔ wp r 128 1 [vR o, a1] (vR o :: st) x Q := (wp_u (show cd 128 0 = some (.aload_n 0, 1, 0, 0, 0, 0) from rfl))
theorem u128_1 : wp r 128 1 ls (vA q :: st) x Q ↔ sbk 9 (hK x q) ∧ wp r 128 4 ls (vI (hI x q 52) :: st) x Q := (wp_u (show cd 128 1 = some (.getfield 269, 3, 9, 52, 4, 0) from rfl)).trans g_getI
theorem u128_4 : wp r 128 4 ls (vI z :: st) x Q ↔ if z = 0 then wp r 128 30 ls st x Q else wp r 128 7 ls st x Q := (wp_u (show cd 128 4 = some (.ifCond .eq 26, 3, 30, 0, 0, 0) from rfl)).trans wq_d
theorem u128_7 : wp r 128 7 [vR o, a1] st x Q ↔ wp r 128 8 [vR o, a1] (vR o :: st) x Q := (wp_u (show cd 128 7 = some (.aload_n 0, 1, 0, 0, 0, 0) from rfl))
theorem u128_8 : wp r 128 8 ls (vA q :: st) x Q ↔ sbk 9 (hK x q) ∧ wp r 128 11 ls (vR (hR x q 51) :: st) x Q := (wp_u (show cd 128 8 = some (.getfield 99, 3, 9, 51, 5, 0) from rfl)).trans g_getR
theorem u128_11 : wp r 128 11 [vR o, a1] st x Q ↔ wp r 128 12 [vR o, a1] (vR o :: st) x Q := (wp_u (show cd 128 11 = some (.aload_n 0, 1, 0, 0, 0, 0) from rfl))
theorem u128_12 : wp r 128 12 ls (vA q :: st) x Q ↔ sbk 9 (hK x q) ∧ wp r 128 15 ls (vI (hI x q 50) :: st) x Q := (wp_u (show cd 128 12 = some (.getfield 272, 3, 9, 50, 0, 0) from rfl)).trans g_getI
theorem u128_15 : wp r 128 15 [a0, vI z] st x Q ↔ wp r 128 16 [a0, vI z] (vI z :: st) x Q := (wp_u (show cd 128 15 = some (.iload_n 1, 1, 0, 0, 0, 0) from rfl))
theorem u128_16 : wp r 128 16 ls (vI z :: vI i :: vA q :: st) x Q ↔ ldk 20 (hK x q) i ∧ 4 ≤ q ∧ wp r 128 17 ls st (stI x q i z) Q := (wp_u (show cd 128 16 = some (.iastore, 1, 0, 0, 0, 0) from rfl)).trans g_stI0
theorem u128_17 : wp r 128 17 [vR o, a1] st x Q ↔ wp r 128 18 [vR o, a1] (vR o :: st) x Q := (wp_u (show cd 128 17 = some (.aload_n 0, 1, 0, 0, 0, 0) from rfl))
theorem u128_18i : wp r 128 18 ls (vI z :: st) x Q ↔ wp r 128 19 ls (vI z :: vI z :: st) x Q := (wp_u (show cd 128 18 = some (.dup, 1, 0, 0, 0, 0) from rfl))
theorem u128_18 : wp r 128 18 ls (vR o :: st) x Q ↔ wp r 128 19 ls (vR o :: vR o :: st) x Q := (wp_u (show cd 128 18 = some (.dup, 1, 0, 0, 0, 0) from rfl))
theorem u128_19 : wp r 128 19 ls (vA q :: st) x Q ↔ sbk 9 (hK x q) ∧ wp r 128 22 ls (vI (hI x q 50) :: st) x Q := (wp_u (show cd 128 19 = some (.getfield 272, 3, 9, 50, 0, 0) from rfl)).trans g_getI
theorem u128_22 : wp r 128 22 ls st x Q ↔ wp r 128 23 ls (vI 1 :: st) x Q := (wp_u (show cd 128 22 = some (.iconst 1, 1, 0, 0, 0, 0) from rfl))
theorem u128_23 : wp r 128 23 ls (vI w :: vI z :: st) x Q ↔ inI (z + w) = true ∧ wp r 128 24 ls (vI (z + w) :: st) x Q := (wp_u (show cd 128 23 = some (.iadd, 1, 0, 0, 0, 0) from rfl)).trans wq_if
theorem u128_24 : wp r 128 24 ls (vI z :: vA q :: st) x Q ↔ sbk 9 (hK x q) ∧ wp r 128 27 ls st (stI x q 50 z) Q := (wp_u (show cd 128 24 = some (.putfield 272, 3, 9, 50, 0, 0) from rfl)).trans g_putI0
theorem u128_27 : wp r 128 27 ls st x Q ↔ wp r 128 50 ls st x Q := (wp_u (show cd 128 27 = some (.goto 23, 3, 50, 0, 0, 0) from rfl))
theorem u128_30 : wp r 128 30 [vR o, a1] st x Q ↔ wp r 128 31 [vR o, a1] (vR o :: st) x Q := (wp_u (show cd 128 30 = some (.aload_n 0, 1, 0, 0, 0, 0) from rfl))
theorem u128_31 : wp r 128 31 ls (vA q :: st) x Q ↔ sbk 9 (hK x q) ∧ wp r 128 34 ls (vR (hR x q 49) :: st) x Q := (wp_u (show cd 128 31 = some (.getfield 96, 3, 9, 49, 5, 0) from rfl)).trans g_getR
theorem u128_34 : wp r 128 34 [vR o, a1] st x Q ↔ wp r 128 35 [vR o, a1] (vR o :: st) x Q := (wp_u (show cd 128 34 = some (.aload_n 0, 1, 0, 0, 0, 0) from rfl))
theorem u128_35 : wp r 128 35 ls (vA q :: st) x Q ↔ sbk 9 (hK x q) ∧ wp r 128 38 ls (vI (hI x q 48) :: st) x Q := (wp_u (show cd 128 35 = some (.getfield 275, 3, 9, 48, 0, 0) from rfl)).trans g_getI
theorem u128_38 : wp r 128 38 [a0, vI z] st x Q ↔ wp r 128 39 [a0, vI z] (vI z :: st) x Q := (wp_u (show cd 128 38 = some (.iload_n 1, 1, 0, 0, 0, 0) from rfl))
theorem u128_39 : wp r 128 39 ls (vI z :: vI i :: vA q :: st) x Q ↔ ldk 20 (hK x q) i ∧ 4 ≤ q ∧ wp r 128 40 ls st (stI x q i z) Q := (wp_u (show cd 128 39 = some (.iastore, 1, 0, 0, 0, 0) from rfl)).trans g_stI0
theorem u128_40 : wp r 128 40 [vR o, a1] st x Q ↔ wp r 128 41 [vR o, a1] (vR o :: st) x Q := (wp_u (show cd 128 40 = some (.aload_n 0, 1, 0, 0, 0, 0) from rfl))
theorem u128_41i : wp r 128 41 ls (vI z :: st) x Q ↔ wp r 128 42 ls (vI z :: vI z :: st) x Q := (wp_u (show cd 128 41 = some (.dup, 1, 0, 0, 0, 0) from rfl))
theorem u128_41 : wp r 128 41 ls (vR o :: st) x Q ↔ wp r 128 42 ls (vR o :: vR o :: st) x Q := (wp_u (show cd 128 41 = some (.dup, 1, 0, 0, 0, 0) from rfl))
theorem u128_42 : wp r 128 42 ls (vA q :: st) x Q ↔ sbk 9 (hK x q) ∧ wp r 128 45 ls (vI (hI x q 48) :: st) x Q := (wp_u (show cd 128 42 = some (.getfield 275, 3, 9, 48, 0, 0) from rfl)).trans g_getI
theorem u128_45 : wp r 128 45 ls st x Q ↔ wp r 128 46 ls (vI 1 :: st) x Q := (wp_u (show cd 128 45 = some (.iconst 1, 1, 0, 0, 0, 0) from rfl))
theorem u128_46 : wp r 128 46 ls (vI w :: vI z :: st) x Q ↔ inI (z + w) = true ∧ wp r 128 47 ls (vI (z + w) :: st) x Q := (wp_u (show cd 128 46 = some (.iadd, 1, 0, 0, 0, 0) from rfl)).trans wq_if
theorem u128_47 : wp r 128 47 ls (vI z :: vA q :: st) x Q ↔ sbk 9 (hK x q) ∧ wp r 128 50 ls st (stI x q 48 z) Q := (wp_u (show cd 128 47 = some (.putfield 275, 3, 9, 48, 0, 0) from rfl)).trans g_putI0
theorem u128_50 : wp r 128 50 ls [] x Q ↔ Q (.inl none) x := (wp_u (show cd 128 50 = some (.return_, 1, 0, 0, 0, 0) from rfl))
theorem e128 : wpc r 128 [vA q, vI z0] x Q ↔ wp r 128 0 [vA q, vI z0] [] x Q := Iff.rfl
/-! 129 M_writeComponent -/
theorem u129_0 : wp r 129 0 [vR o, a1, a2, a3, a4] st x Q ↔ wp r 129 1 [vR o, a1, a2, a3, a4] (vR o :: st) x Q := (wp_u (show cd 129 0 = some (.aload_n 0, 1, 0, 0, 0, 0) from rfl))
theorem u129_1 : wp r 129 1 [a0, vI z, a2, a3, a4] st x Q ↔ wp r 129 2 [a0, vI z, a2, a3, a4] (vI z :: st) x Q := (wp_u (show cd 129 1 = some (.iload_n 1, 1, 0, 0, 0, 0) from rfl))
theorem u129_2 : wp r 129 2 ls (vI z0 :: vA q :: st) x Q ↔ isk 9 (hK x q) ∧ sml st = true ∧ 1 < r ∧ wpc 1 115 [vA q, vI z0] x (wk r 129 2 ls st Q) := (wp_u (show cd 129 2 = some (.invokevirtual 202, 3, 115, 2, 1, 9) from rfl)).trans (g_virt rfl (by decide) (by simp) rfl)
theorem u129_5 : wp r 129 5 [a0, a1, a2, a3, a4] (vI z :: st) x Q ↔ wp r 129 6 [a0, a1, vI z, a3, a4] st x Q := (wp_u (show cd 129 5 = some (.istore_n 2, 1, 0, 0, 0, 0) from rfl))
theorem u129_6 : wp r 129 6 ls st x Q ↔ wp r 129 7 ls (vI 0 :: st) x Q := (wp_u (show cd 129 6 = some (.iconst 0, 1, 0, 0, 0, 0) from rfl))
theorem u129_7 : wp r 129 7 [a0, a1, a2, a3, a4] (vI z :: st) x Q ↔ wp r 129 8 [a0, a1, a2, vI z, a4] st x Q := (wp_u (show cd 129 7 = some (.istore_n 3, 1, 0, 0, 0, 0) from rfl))
theorem u129_8 : wp r 129 8 [a0, a1, a2, vI z, a4] st x Q ↔ wp r 129 9 [a0, a1, a2, vI z, a4] (vI z :: st) x Q := (wp_u (show cd 129 8 = some (.iload_n 3, 1, 0, 0, 0, 0) from rfl))
theorem u129_9 : wp r 129 9 [a0, a1, vI z, a3, a4] st x Q ↔ wp r 129 10 [a0, a1, vI z, a3, a4] (vI z :: st) x Q := (wp_u (show cd 129 9 = some (.iload_n 2, 1, 0, 0, 0, 0) from rfl))
theorem u129_10 : wp r 129 10 ls (vI w :: vI z :: st) x Q ↔ if w ≤ z then wp r 129 74 ls st x Q else wp r 129 13 ls st x Q := (wp_u (show cd 129 10 = some (.if_icmp .ge 64, 3, 74, 0, 0, 0) from rfl)).trans wq_d
theorem u129_13 : wp r 129 13 [vR o, a1, a2, a3, a4] st x Q ↔ wp r 129 14 [vR o, a1, a2, a3, a4] (vR o :: st) x Q := (wp_u (show cd 129 13 = some (.aload_n 0, 1, 0, 0, 0, 0) from rfl))
theorem u129_14 : wp r 129 14 ls (vA q :: st) x Q ↔ sbk 9 (hK x q) ∧ wp r 129 17 ls (vR (hR x q 31) :: st) x Q := (wp_u (show cd 129 14 = some (.getfield 63, 3, 9, 31, 5, 0) from rfl)).trans g_getR
theorem u129_17 : wp r 129 17 [vR o, a1, a2, a3, a4] st x Q ↔ wp r 129 18 [vR o, a1, a2, a3, a4] (vR o :: st) x Q := (wp_u (show cd 129 17 = some (.aload_n 0, 1, 0, 0, 0, 0) from rfl))
theorem u129_18 : wp r 129 18 ls (vA q :: st) x Q ↔ sbk 9 (hK x q) ∧ wp r 129 21 ls (vR (hR x q 30) :: st) x Q := (wp_u (show cd 129 18 = some (.getfield 60, 3, 9, 30, 5, 0) from rfl)).trans g_getR
theorem u129_21 : wp r 129 21 [a0, vI z, a2, a3, a4] st x Q ↔ wp r 129 22 [a0, vI z, a2, a3, a4] (vI z :: st) x Q := (wp_u (show cd 129 21 = some (.iload_n 1, 1, 0, 0, 0, 0) from rfl))
theorem u129_22 : wp r 129 22 ls (vI i :: vA q :: st) x Q ↔ ldk 20 (hK x q) i ∧ wp r 129 23 ls (vI (hI x q i) :: st) x Q := (wp_u (show cd 129 22 = some (.iaload, 1, 0, 0, 0, 0) from rfl)).trans g_ldI
theorem u129_23 : wp r 129 23 [a0, a1, a2, vI z, a4] st x Q ↔ wp r 129 24 [a0, a1, a2, vI z, a4] (vI z :: st) x Q := (wp_u (show cd 129 23 = some (.iload_n 3, 1, 0, 0, 0, 0) from rfl))
theorem u129_24 : wp r 129 24 ls (vI w :: vI z :: st) x Q ↔ inI (z + w) = true ∧ wp r 129 25 ls (vI (z + w) :: st) x Q := (wp_u (show cd 129 24 = some (.iadd, 1, 0, 0, 0, 0) from rfl)).trans wq_if
theorem u129_25 : wp r 129 25 ls (vI i :: vA q :: st) x Q ↔ ldk 20 (hK x q) i ∧ wp r 129 26 ls (vI (hI x q i) :: st) x Q := (wp_u (show cd 129 25 = some (.iaload, 1, 0, 0, 0, 0) from rfl)).trans g_ldI
theorem u129_26 : wp r 129 26 [a0, a1, a2, a3, a4] (vI z :: st) x Q ↔ wp r 129 28 [a0, a1, a2, a3, vI z] st x Q := (wp_u (show cd 129 26 = some (.istore 4, 2, 0, 0, 0, 0) from rfl))
theorem u129_28 : wp r 129 28 [a0, a1, a2, a3, vI z] st x Q ↔ wp r 129 30 [a0, a1, a2, a3, vI z] (vI z :: st) x Q := (wp_u (show cd 129 28 = some (.iload 4, 2, 0, 0, 0, 0) from rfl))
theorem u129_30 : wp r 129 30 ls st x Q ↔ wp r 129 32 ls (vI 58 :: st) x Q := (wp_u (show cd 129 30 = some (.bipush 58, 2, 0, 0, 0, 0) from rfl))
theorem u129_32 : wp r 129 32 ls (vI w :: vI z :: st) x Q ↔ if z = w then wp r 129 56 ls st x Q else wp r 129 35 ls st x Q := (wp_u (show cd 129 32 = some (.if_icmp .eq 24, 3, 56, 0, 0, 0) from rfl)).trans wq_d
theorem u129_35 : wp r 129 35 [a0, a1, a2, a3, vI z] st x Q ↔ wp r 129 37 [a0, a1, a2, a3, vI z] (vI z :: st) x Q := (wp_u (show cd 129 35 = some (.iload 4, 2, 0, 0, 0, 0) from rfl))
theorem u129_37 : wp r 129 37 ls st x Q ↔ wp r 129 39 ls (vI 43 :: st) x Q := (wp_u (show cd 129 37 = some (.bipush 43, 2, 0, 0, 0, 0) from rfl))
theorem u129_39 : wp r 129 39 ls (vI w :: vI z :: st) x Q ↔ if z = w then wp r 129 56 ls st x Q else wp r 129 42 ls st x Q := (wp_u (show cd 129 39 = some (.if_icmp .eq 17, 3, 56, 0, 0, 0) from rfl)).trans wq_d
theorem u129_42 : wp r 129 42 [a0, a1, a2, a3, vI z] st x Q ↔ wp r 129 44 [a0, a1, a2, a3, vI z] (vI z :: st) x Q := (wp_u (show cd 129 42 = some (.iload 4, 2, 0, 0, 0, 0) from rfl))
theorem u129_44 : wp r 129 44 ls st x Q ↔ wp r 129 46 ls (vI 63 :: st) x Q := (wp_u (show cd 129 44 = some (.bipush 63, 2, 0, 0, 0, 0) from rfl))
theorem u129_46 : wp r 129 46 ls (vI w :: vI z :: st) x Q ↔ if z = w then wp r 129 56 ls st x Q else wp r 129 49 ls st x Q := (wp_u (show cd 129 46 = some (.if_icmp .eq 10, 3, 56, 0, 0, 0) from rfl)).trans wq_d
theorem u129_49 : wp r 129 49 [a0, a1, a2, a3, vI z] st x Q ↔ wp r 129 51 [a0, a1, a2, a3, vI z] (vI z :: st) x Q := (wp_u (show cd 129 49 = some (.iload 4, 2, 0, 0, 0, 0) from rfl))
theorem u129_51 : wp r 129 51 ls st x Q ↔ wp r 129 53 ls (vI 39 :: st) x Q := (wp_u (show cd 129 51 = some (.bipush 39, 2, 0, 0, 0, 0) from rfl))
theorem u129_53 : wp r 129 53 ls (vI w :: vI z :: st) x Q ↔ if z = w then wp r 129 56 ls st x Q else wp r 129 62 ls st x Q := (wp_u (show cd 129 53 = some (.if_icmp .ne 9, 3, 62, 0, 0, 0) from rfl)).trans wq_dn
theorem u129_56 : wp r 129 56 [vR o, a1, a2, a3, a4] st x Q ↔ wp r 129 57 [vR o, a1, a2, a3, a4] (vR o :: st) x Q := (wp_u (show cd 129 56 = some (.aload_n 0, 1, 0, 0, 0, 0) from rfl))
theorem u129_57 : wp r 129 57 ls st x Q ↔ wp r 129 59 ls (vI 63 :: st) x Q := (wp_u (show cd 129 57 = some (.bipush 63, 2, 0, 0, 0, 0) from rfl))
theorem u129_59 : wp r 129 59 ls (vI z0 :: vA q :: st) x Q ↔ isk 9 (hK x q) ∧ sml st = true ∧ 1 < r ∧ wpc 1 128 [vA q, vI z0] x (wk r 129 59 ls st Q) := (wp_u (show cd 129 59 = some (.invokevirtual 278, 3, 128, 2, 1, 9) from rfl)).trans (g_virt rfl (by decide) (by simp) rfl)
theorem u129_62 : wp r 129 62 [vR o, a1, a2, a3, a4] st x Q ↔ wp r 129 63 [vR o, a1, a2, a3, a4] (vR o :: st) x Q := (wp_u (show cd 129 62 = some (.aload_n 0, 1, 0, 0, 0, 0) from rfl))
theorem u129_63 : wp r 129 63 [a0, a1, a2, a3, vI z] st x Q ↔ wp r 129 65 [a0, a1, a2, a3, vI z] (vI z :: st) x Q := (wp_u (show cd 129 63 = some (.iload 4, 2, 0, 0, 0, 0) from rfl))
theorem u129_65 : wp r 129 65 ls (vI z0 :: vA q :: st) x Q ↔ isk 9 (hK x q) ∧ sml st = true ∧ 1 < r ∧ wpc 1 128 [vA q, vI z0] x (wk r 129 65 ls st Q) := (wp_u (show cd 129 65 = some (.invokevirtual 278, 3, 128, 2, 1, 9) from rfl)).trans (g_virt rfl (by decide) (by simp) rfl)
theorem u129_68 : wp r 129 68 [a0, a1, a2, vI z, a4] st x Q ↔ inI (z + 1) = true ∧ wp r 129 71 [a0, a1, a2, vI (z + 1), a4] st x Q := (wp_u (show cd 129 68 = some (.iinc 3 1, 3, 0, 0, 0, 0) from rfl)).trans wq_if
theorem u129_71 : wp r 129 71 ls st x Q ↔ wp r 129 8 ls st x Q := (wp_u (show cd 129 71 = some (.goto (-63), 3, 8, 0, 0, 0) from rfl))
theorem u129_74 : wp r 129 74 ls [] x Q ↔ Q (.inl none) x := (wp_u (show cd 129 74 = some (.return_, 1, 0, 0, 0, 0) from rfl))
theorem e129 : wpc r 129 [vA q, vI z0] x Q ↔ wp r 129 0 [vA q, vI z0, vL jk, vL jk, vL jk] [] x Q := Iff.rfl
/-! 130 M_writeLine -/
theorem u130_0 : wp r 130 0 [vR o, a1, a2, a3, a4] st x Q ↔ wp r 130 1 [vR o, a1, a2, a3, a4] (vR o :: st) x Q := (wp_u (show cd 130 0 = some (.aload_n 0, 1, 0, 0, 0, 0) from rfl))
theorem u130_1 : wp r 130 1 [a0, vI z, a2, a3, a4] st x Q ↔ wp r 130 2 [a0, vI z, a2, a3, a4] (vI z :: st) x Q := (wp_u (show cd 130 1 = some (.iload_n 1, 1, 0, 0, 0, 0) from rfl))
theorem u130_2 : wp r 130 2 ls (vI z0 :: vA q :: st) x Q ↔ isk 9 (hK x q) ∧ sml st = true ∧ 2 < r ∧ wpc 2 126 [vA q, vI z0] x (wk r 130 2 ls st Q) := (wp_u (show cd 130 2 = some (.invokevirtual 281, 3, 126, 2, 2, 9) from rfl)).trans (g_virt rfl (by decide) (by simp) rfl)
theorem u130_5 : wp r 130 5 [vR o, a1, a2, a3, a4] st x Q ↔ wp r 130 6 [vR o, a1, a2, a3, a4] (vR o :: st) x Q := (wp_u (show cd 130 5 = some (.aload_n 0, 1, 0, 0, 0, 0) from rfl))
theorem u130_6 : wp r 130 6 ls st x Q ↔ wp r 130 8 ls (vI 43 :: st) x Q := (wp_u (show cd 130 6 = some (.bipush 43, 2, 0, 0, 0, 0) from rfl))
theorem u130_8 : wp r 130 8 ls (vI z0 :: vA q :: st) x Q ↔ isk 9 (hK x q) ∧ sml st = true ∧ 1 < r ∧ wpc 1 128 [vA q, vI z0] x (wk r 130 8 ls st Q) := (wp_u (show cd 130 8 = some (.invokevirtual 278, 3, 128, 2, 1, 9) from rfl)).trans (g_virt rfl (by decide) (by simp) rfl)
theorem u130_11 : wp r 130 11 [vR o, a1, a2, a3, a4] st x Q ↔ wp r 130 12 [vR o, a1, a2, a3, a4] (vR o :: st) x Q := (wp_u (show cd 130 11 = some (.aload_n 0, 1, 0, 0, 0, 0) from rfl))
theorem u130_12 : wp r 130 12 [a0, a1, vI z, a3, a4] st x Q ↔ wp r 130 13 [a0, a1, vI z, a3, a4] (vI z :: st) x Q := (wp_u (show cd 130 12 = some (.iload_n 2, 1, 0, 0, 0, 0) from rfl))
theorem u130_13 : wp r 130 13 ls (vI z0 :: vA q :: st) x Q ↔ isk 9 (hK x q) ∧ sml st = true ∧ 2 < r ∧ wpc 2 129 [vA q, vI z0] x (wk r 130 13 ls st Q) := (wp_u (show cd 130 13 = some (.invokevirtual 287, 3, 129, 2, 2, 9) from rfl)).trans (g_virt rfl (by decide) (by simp) rfl)
theorem u130_16 : wp r 130 16 [vR o, a1, a2, a3, a4] st x Q ↔ wp r 130 17 [vR o, a1, a2, a3, a4] (vR o :: st) x Q := (wp_u (show cd 130 16 = some (.aload_n 0, 1, 0, 0, 0, 0) from rfl))
theorem u130_17 : wp r 130 17 ls st x Q ↔ wp r 130 19 ls (vI 43 :: st) x Q := (wp_u (show cd 130 17 = some (.bipush 43, 2, 0, 0, 0, 0) from rfl))
theorem u130_19 : wp r 130 19 ls (vI z0 :: vA q :: st) x Q ↔ isk 9 (hK x q) ∧ sml st = true ∧ 1 < r ∧ wpc 1 128 [vA q, vI z0] x (wk r 130 19 ls st Q) := (wp_u (show cd 130 19 = some (.invokevirtual 278, 3, 128, 2, 1, 9) from rfl)).trans (g_virt rfl (by decide) (by simp) rfl)
theorem u130_22 : wp r 130 22 [vR o, a1, a2, a3, a4] st x Q ↔ wp r 130 23 [vR o, a1, a2, a3, a4] (vR o :: st) x Q := (wp_u (show cd 130 22 = some (.aload_n 0, 1, 0, 0, 0, 0) from rfl))
theorem u130_23 : wp r 130 23 [a0, a1, a2, vI z, a4] st x Q ↔ wp r 130 24 [a0, a1, a2, vI z, a4] (vI z :: st) x Q := (wp_u (show cd 130 23 = some (.iload_n 3, 1, 0, 0, 0, 0) from rfl))
theorem u130_24 : wp r 130 24 ls (vI z0 :: vA q :: st) x Q ↔ isk 9 (hK x q) ∧ sml st = true ∧ 2 < r ∧ wpc 2 137 [vA q, vI z0] x (wk r 130 24 ls st Q) := (wp_u (show cd 130 24 = some (.invokevirtual 290, 3, 137, 2, 2, 9) from rfl)).trans (g_virt rfl (by decide) (by simp) rfl)
theorem u130_27 : wp r 130 27 [a0, a1, a2, a3, vI z] st x Q ↔ wp r 130 29 [a0, a1, a2, a3, vI z] (vI z :: st) x Q := (wp_u (show cd 130 27 = some (.iload 4, 2, 0, 0, 0, 0) from rfl))
theorem u130_29 : wp r 130 29 ls (vI z :: st) x Q ↔ if z < 0 then wp r 130 44 ls st x Q else wp r 130 32 ls st x Q := (wp_u (show cd 130 29 = some (.ifCond .lt 15, 3, 44, 0, 0, 0) from rfl)).trans wq_d
theorem u130_32 : wp r 130 32 [vR o, a1, a2, a3, a4] st x Q ↔ wp r 130 33 [vR o, a1, a2, a3, a4] (vR o :: st) x Q := (wp_u (show cd 130 32 = some (.aload_n 0, 1, 0, 0, 0, 0) from rfl))
theorem u130_33 : wp r 130 33 ls st x Q ↔ wp r 130 35 ls (vI 43 :: st) x Q := (wp_u (show cd 130 33 = some (.bipush 43, 2, 0, 0, 0, 0) from rfl))
theorem u130_35 : wp r 130 35 ls (vI z0 :: vA q :: st) x Q ↔ isk 9 (hK x q) ∧ sml st = true ∧ 1 < r ∧ wpc 1 128 [vA q, vI z0] x (wk r 130 35 ls st Q) := (wp_u (show cd 130 35 = some (.invokevirtual 278, 3, 128, 2, 1, 9) from rfl)).trans (g_virt rfl (by decide) (by simp) rfl)
theorem u130_38 : wp r 130 38 [vR o, a1, a2, a3, a4] st x Q ↔ wp r 130 39 [vR o, a1, a2, a3, a4] (vR o :: st) x Q := (wp_u (show cd 130 38 = some (.aload_n 0, 1, 0, 0, 0, 0) from rfl))
theorem u130_39 : wp r 130 39 [a0, a1, a2, a3, vI z] st x Q ↔ wp r 130 41 [a0, a1, a2, a3, vI z] (vI z :: st) x Q := (wp_u (show cd 130 39 = some (.iload 4, 2, 0, 0, 0, 0) from rfl))
theorem u130_41 : wp r 130 41 ls (vI z0 :: vA q :: st) x Q ↔ isk 9 (hK x q) ∧ sml st = true ∧ 2 < r ∧ wpc 2 137 [vA q, vI z0] x (wk r 130 41 ls st Q) := (wp_u (show cd 130 41 = some (.invokevirtual 290, 3, 137, 2, 2, 9) from rfl)).trans (g_virt rfl (by decide) (by simp) rfl)
theorem u130_44 : wp r 130 44 [vR o, a1, a2, a3, a4] st x Q ↔ wp r 130 45 [vR o, a1, a2, a3, a4] (vR o :: st) x Q := (wp_u (show cd 130 44 = some (.aload_n 0, 1, 0, 0, 0, 0) from rfl))
theorem u130_45 : wp r 130 45 ls st x Q ↔ wp r 130 47 ls (vI 39 :: st) x Q := (wp_u (show cd 130 45 = some (.bipush 39, 2, 0, 0, 0, 0) from rfl))
theorem u130_47 : wp r 130 47 ls (vI z0 :: vA q :: st) x Q ↔ isk 9 (hK x q) ∧ sml st = true ∧ 1 < r ∧ wpc 1 128 [vA q, vI z0] x (wk r 130 47 ls st Q) := (wp_u (show cd 130 47 = some (.invokevirtual 278, 3, 128, 2, 1, 9) from rfl)).trans (g_virt rfl (by decide) (by simp) rfl)
theorem u130_50 : wp r 130 50 ls [] x Q ↔ Q (.inl none) x := (wp_u (show cd 130 50 = some (.return_, 1, 0, 0, 0, 0) from rfl))
theorem e130 : wpc r 130 [vA q, vI z0, vI z1, vI z2, vI z3] x Q ↔ wp r 130 0 [vA q, vI z0, vI z1, vI z2, vI z3] [] x Q := Iff.rfl
/-! 131 M_canMark -/
theorem u131_0 : wp r 131 0 [vI z] st x Q ↔ wp r 131 1 [vI z] (vI z :: st) x Q := (wp_u (show cd 131 0 = some (.iload_n 0, 1, 0, 0, 0, 0) from rfl))
theorem u131_1 : wp r 131 1 ls st x Q ↔ wp r 131 3 ls (vI 32 :: st) x Q := (wp_u (show cd 131 1 = some (.bipush 32, 2, 0, 0, 0, 0) from rfl))
theorem u131_3 : wp r 131 3 ls (vI w :: vI z :: st) x Q ↔ if z ≤ w then wp r 131 41 ls st x Q else wp r 131 6 ls st x Q := (wp_u (show cd 131 3 = some (.if_icmp .le 38, 3, 41, 0, 0, 0) from rfl)).trans wq_d
theorem u131_6 : wp r 131 6 [vI z] st x Q ↔ wp r 131 7 [vI z] (vI z :: st) x Q := (wp_u (show cd 131 6 = some (.iload_n 0, 1, 0, 0, 0, 0) from rfl))
theorem u131_7 : wp r 131 7 ls (vI z0 :: st) x Q ↔ sml st = true ∧ 1 < r ∧ wpc 1 116 [vI z0] x (wk r 131 7 ls st Q) := (wp_u (show cd 131 7 = some (.invokestatic 108, 3, 116, 1, 1, 0) from rfl)).trans (g_stat (by decide) (by simp) rfl)
theorem u131_10 : wp r 131 10 ls (vI z :: st) x Q ↔ if z = 0 then wp r 131 13 ls st x Q else wp r 131 41 ls st x Q := (wp_u (show cd 131 10 = some (.ifCond .ne 31, 3, 41, 0, 0, 0) from rfl)).trans wq_dn
theorem u131_13 : wp r 131 13 [vI z] st x Q ↔ wp r 131 14 [vI z] (vI z :: st) x Q := (wp_u (show cd 131 13 = some (.iload_n 0, 1, 0, 0, 0, 0) from rfl))
theorem u131_14 : wp r 131 14 ls st x Q ↔ wp r 131 16 ls (vI 97 :: st) x Q := (wp_u (show cd 131 14 = some (.bipush 97, 2, 0, 0, 0, 0) from rfl))
theorem u131_16 : wp r 131 16 ls (vI w :: vI z :: st) x Q ↔ if z < w then wp r 131 25 ls st x Q else wp r 131 19 ls st x Q := (wp_u (show cd 131 16 = some (.if_icmp .lt 9, 3, 25, 0, 0, 0) from rfl)).trans wq_d
theorem u131_19 : wp r 131 19 [vI z] st x Q ↔ wp r 131 20 [vI z] (vI z :: st) x Q := (wp_u (show cd 131 19 = some (.iload_n 0, 1, 0, 0, 0, 0) from rfl))
theorem u131_20 : wp r 131 20 ls st x Q ↔ wp r 131 22 ls (vI 122 :: st) x Q := (wp_u (show cd 131 20 = some (.bipush 122, 2, 0, 0, 0, 0) from rfl))
theorem u131_22 : wp r 131 22 ls (vI w :: vI z :: st) x Q ↔ if z ≤ w then wp r 131 41 ls st x Q else wp r 131 25 ls st x Q := (wp_u (show cd 131 22 = some (.if_icmp .le 19, 3, 41, 0, 0, 0) from rfl)).trans wq_d
theorem u131_25 : wp r 131 25 [vI z] st x Q ↔ wp r 131 26 [vI z] (vI z :: st) x Q := (wp_u (show cd 131 25 = some (.iload_n 0, 1, 0, 0, 0, 0) from rfl))
theorem u131_26 : wp r 131 26 ls st x Q ↔ wp r 131 28 ls (vI 48 :: st) x Q := (wp_u (show cd 131 26 = some (.bipush 48, 2, 0, 0, 0, 0) from rfl))
theorem u131_28 : wp r 131 28 ls (vI w :: vI z :: st) x Q ↔ if z < w then wp r 131 37 ls st x Q else wp r 131 31 ls st x Q := (wp_u (show cd 131 28 = some (.if_icmp .lt 9, 3, 37, 0, 0, 0) from rfl)).trans wq_d
theorem u131_31 : wp r 131 31 [vI z] st x Q ↔ wp r 131 32 [vI z] (vI z :: st) x Q := (wp_u (show cd 131 31 = some (.iload_n 0, 1, 0, 0, 0, 0) from rfl))
theorem u131_32 : wp r 131 32 ls st x Q ↔ wp r 131 34 ls (vI 57 :: st) x Q := (wp_u (show cd 131 32 = some (.bipush 57, 2, 0, 0, 0, 0) from rfl))
theorem u131_34 : wp r 131 34 ls (vI w :: vI z :: st) x Q ↔ if z ≤ w then wp r 131 41 ls st x Q else wp r 131 37 ls st x Q := (wp_u (show cd 131 34 = some (.if_icmp .le 7, 3, 41, 0, 0, 0) from rfl)).trans wq_d
theorem u131_37 : wp r 131 37 ls st x Q ↔ wp r 131 38 ls (vI 1 :: st) x Q := (wp_u (show cd 131 37 = some (.iconst 1, 1, 0, 0, 0, 0) from rfl))
theorem u131_38 : wp r 131 38 ls st x Q ↔ wp r 131 42 ls st x Q := (wp_u (show cd 131 38 = some (.goto 4, 3, 42, 0, 0, 0) from rfl))
theorem u131_41 : wp r 131 41 ls st x Q ↔ wp r 131 42 ls (vI 0 :: st) x Q := (wp_u (show cd 131 41 = some (.iconst 0, 1, 0, 0, 0, 0) from rfl))
theorem u131_42 : wp r 131 42 ls [vI z] x Q ↔ rg 4 z = true ∧ Q (.inl (some (vI z))) x := (wp_u (show cd 131 42 = some (.ireturn, 1, 4, 0, 0, 0) from rfl)).trans wq_if
theorem e131 : wpc r 131 [vI z0] x Q ↔ wp r 131 0 [vI z0] [] x Q := Iff.rfl
/-! 132 M_put -/
theorem u132_0 : wp r 132 0 [vR o, a1] st x Q ↔ wp r 132 1 [vR o, a1] (vR o :: st) x Q := (wp_u (show cd 132 0 = some (.aload_n 0, 1, 0, 0, 0, 0) from rfl))
theorem u132_1 : wp r 132 1 ls (vA q :: st) x Q ↔ sbk 9 (hK x q) ∧ wp r 132 4 ls (vR (hR x q 22) :: st) x Q := (wp_u (show cd 132 1 = some (.getfield 48, 3, 9, 22, 5, 0) from rfl)).trans g_getR
theorem u132_4 : wp r 132 4 [vR o, a1] st x Q ↔ wp r 132 5 [vR o, a1] (vR o :: st) x Q := (wp_u (show cd 132 4 = some (.aload_n 0, 1, 0, 0, 0, 0) from rfl))
theorem u132_5 : wp r 132 5 ls (vA q :: st) x Q ↔ sbk 9 (hK x q) ∧ wp r 132 8 ls (vI (hI x q 21) :: st) x Q := (wp_u (show cd 132 5 = some (.getfield 160, 3, 9, 21, 0, 0) from rfl)).trans g_getI
theorem u132_8 : wp r 132 8 [a0, vI z] st x Q ↔ wp r 132 9 [a0, vI z] (vI z :: st) x Q := (wp_u (show cd 132 8 = some (.iload_n 1, 1, 0, 0, 0, 0) from rfl))
theorem u132_9 : wp r 132 9 ls (vI z :: vI i :: vA q :: st) x Q ↔ ldk 20 (hK x q) i ∧ 4 ≤ q ∧ wp r 132 10 ls st (stI x q i z) Q := (wp_u (show cd 132 9 = some (.iastore, 1, 0, 0, 0, 0) from rfl)).trans g_stI0
theorem u132_10 : wp r 132 10 [vR o, a1] st x Q ↔ wp r 132 11 [vR o, a1] (vR o :: st) x Q := (wp_u (show cd 132 10 = some (.aload_n 0, 1, 0, 0, 0, 0) from rfl))
theorem u132_11i : wp r 132 11 ls (vI z :: st) x Q ↔ wp r 132 12 ls (vI z :: vI z :: st) x Q := (wp_u (show cd 132 11 = some (.dup, 1, 0, 0, 0, 0) from rfl))
theorem u132_11 : wp r 132 11 ls (vR o :: st) x Q ↔ wp r 132 12 ls (vR o :: vR o :: st) x Q := (wp_u (show cd 132 11 = some (.dup, 1, 0, 0, 0, 0) from rfl))
theorem u132_12 : wp r 132 12 ls (vA q :: st) x Q ↔ sbk 9 (hK x q) ∧ wp r 132 15 ls (vI (hI x q 21) :: st) x Q := (wp_u (show cd 132 12 = some (.getfield 160, 3, 9, 21, 0, 0) from rfl)).trans g_getI
theorem u132_15 : wp r 132 15 ls st x Q ↔ wp r 132 16 ls (vI 1 :: st) x Q := (wp_u (show cd 132 15 = some (.iconst 1, 1, 0, 0, 0, 0) from rfl))
theorem u132_16 : wp r 132 16 ls (vI w :: vI z :: st) x Q ↔ inI (z + w) = true ∧ wp r 132 17 ls (vI (z + w) :: st) x Q := (wp_u (show cd 132 16 = some (.iadd, 1, 0, 0, 0, 0) from rfl)).trans wq_if
theorem u132_17 : wp r 132 17 ls (vI z :: vA q :: st) x Q ↔ sbk 9 (hK x q) ∧ wp r 132 20 ls st (stI x q 21 z) Q := (wp_u (show cd 132 17 = some (.putfield 160, 3, 9, 21, 0, 0) from rfl)).trans g_putI0
theorem u132_20 : wp r 132 20 [vR o, a1] st x Q ↔ wp r 132 21 [vR o, a1] (vR o :: st) x Q := (wp_u (show cd 132 20 = some (.aload_n 0, 1, 0, 0, 0, 0) from rfl))
theorem u132_21 : wp r 132 21 ls (vA q :: st) x Q ↔ sbk 9 (hK x q) ∧ wp r 132 24 ls (vR (hR x q 20) :: st) x Q := (wp_u (show cd 132 21 = some (.getfield 45, 3, 9, 20, 5, 0) from rfl)).trans g_getR
theorem u132_24 : wp r 132 24 [vR o, a1] st x Q ↔ wp r 132 25 [vR o, a1] (vR o :: st) x Q := (wp_u (show cd 132 24 = some (.aload_n 0, 1, 0, 0, 0, 0) from rfl))
theorem u132_25 : wp r 132 25 ls (vA q :: st) x Q ↔ sbk 9 (hK x q) ∧ wp r 132 28 ls (vI (hI x q 19) :: st) x Q := (wp_u (show cd 132 25 = some (.getfield 157, 3, 9, 19, 0, 0) from rfl)).trans g_getI
theorem u132_28 : wp r 132 28 [vR o, a1] st x Q ↔ wp r 132 29 [vR o, a1] (vR o :: st) x Q := (wp_u (show cd 132 28 = some (.aload_n 0, 1, 0, 0, 0, 0) from rfl))
theorem u132_29 : wp r 132 29 ls (vA q :: st) x Q ↔ sbk 9 (hK x q) ∧ wp r 132 32 ls (vI (hI x q 21) :: st) x Q := (wp_u (show cd 132 29 = some (.getfield 160, 3, 9, 21, 0, 0) from rfl)).trans g_getI
theorem u132_32 : wp r 132 32 ls (vI z :: vI i :: vA q :: st) x Q ↔ ldk 20 (hK x q) i ∧ 4 ≤ q ∧ wp r 132 33 ls st (stI x q i z) Q := (wp_u (show cd 132 32 = some (.iastore, 1, 0, 0, 0, 0) from rfl)).trans g_stI0
theorem u132_33 : wp r 132 33 ls [] x Q ↔ Q (.inl none) x := (wp_u (show cd 132 33 = some (.return_, 1, 0, 0, 0, 0) from rfl))
theorem e132 : wpc r 132 [vA q, vI z0] x Q ↔ wp r 132 0 [vA q, vI z0] [] x Q := Iff.rfl
/-! 133 M_beginElement -/
theorem u133_0 : wp r 133 0 [vR o] st x Q ↔ wp r 133 1 [vR o] (vR o :: st) x Q := (wp_u (show cd 133 0 = some (.aload_n 0, 1, 0, 0, 0, 0) from rfl))
theorem u133_1 : wp r 133 1 ls (vA q :: st) x Q ↔ sbk 9 (hK x q) ∧ wp r 133 4 ls (vR (hR x q 18) :: st) x Q := (wp_u (show cd 133 1 = some (.getfield 42, 3, 9, 18, 5, 0) from rfl)).trans g_getR
theorem u133_4 : wp r 133 4 [vR o] st x Q ↔ wp r 133 5 [vR o] (vR o :: st) x Q := (wp_u (show cd 133 4 = some (.aload_n 0, 1, 0, 0, 0, 0) from rfl))
theorem u133_5 : wp r 133 5 ls (vA q :: st) x Q ↔ sbk 9 (hK x q) ∧ wp r 133 8 ls (vI (hI x q 17) :: st) x Q := (wp_u (show cd 133 5 = some (.getfield 163, 3, 9, 17, 0, 0) from rfl)).trans g_getI
theorem u133_8 : wp r 133 8 [vR o] st x Q ↔ wp r 133 9 [vR o] (vR o :: st) x Q := (wp_u (show cd 133 8 = some (.aload_n 0, 1, 0, 0, 0, 0) from rfl))
theorem u133_9 : wp r 133 9 ls (vA q :: st) x Q ↔ sbk 9 (hK x q) ∧ wp r 133 12 ls (vI (hI x q 19) :: st) x Q := (wp_u (show cd 133 9 = some (.getfield 157, 3, 9, 19, 0, 0) from rfl)).trans g_getI
theorem u133_12 : wp r 133 12 ls (vI z :: vI i :: vA q :: st) x Q ↔ ldk 20 (hK x q) i ∧ 4 ≤ q ∧ wp r 133 13 ls st (stI x q i z) Q := (wp_u (show cd 133 12 = some (.iastore, 1, 0, 0, 0, 0) from rfl)).trans g_stI0
theorem u133_13 : wp r 133 13 [vR o] st x Q ↔ wp r 133 14 [vR o] (vR o :: st) x Q := (wp_u (show cd 133 13 = some (.aload_n 0, 1, 0, 0, 0, 0) from rfl))
theorem u133_14i : wp r 133 14 ls (vI z :: st) x Q ↔ wp r 133 15 ls (vI z :: vI z :: st) x Q := (wp_u (show cd 133 14 = some (.dup, 1, 0, 0, 0, 0) from rfl))
theorem u133_14 : wp r 133 14 ls (vR o :: st) x Q ↔ wp r 133 15 ls (vR o :: vR o :: st) x Q := (wp_u (show cd 133 14 = some (.dup, 1, 0, 0, 0, 0) from rfl))
theorem u133_15 : wp r 133 15 ls (vA q :: st) x Q ↔ sbk 9 (hK x q) ∧ wp r 133 18 ls (vI (hI x q 17) :: st) x Q := (wp_u (show cd 133 15 = some (.getfield 163, 3, 9, 17, 0, 0) from rfl)).trans g_getI
theorem u133_18 : wp r 133 18 ls st x Q ↔ wp r 133 19 ls (vI 1 :: st) x Q := (wp_u (show cd 133 18 = some (.iconst 1, 1, 0, 0, 0, 0) from rfl))
theorem u133_19 : wp r 133 19 ls (vI w :: vI z :: st) x Q ↔ inI (z + w) = true ∧ wp r 133 20 ls (vI (z + w) :: st) x Q := (wp_u (show cd 133 19 = some (.iadd, 1, 0, 0, 0, 0) from rfl)).trans wq_if
theorem u133_20 : wp r 133 20 ls (vI z :: vA q :: st) x Q ↔ sbk 9 (hK x q) ∧ wp r 133 23 ls st (stI x q 17 z) Q := (wp_u (show cd 133 20 = some (.putfield 163, 3, 9, 17, 0, 0) from rfl)).trans g_putI0
theorem u133_23 : wp r 133 23 [vR o] st x Q ↔ wp r 133 24 [vR o] (vR o :: st) x Q := (wp_u (show cd 133 23 = some (.aload_n 0, 1, 0, 0, 0, 0) from rfl))
theorem u133_24 : wp r 133 24 ls (vA q :: st) x Q ↔ isk 9 (hK x q) ∧ sml st = true ∧ 1 < r ∧ wpc 1 134 [vA q] x (wk r 133 24 ls st Q) := (wp_u (show cd 133 24 = some (.invokevirtual 166, 3, 134, 1, 1, 9) from rfl)).trans (g_virt rfl (by decide) (by simp) rfl)
theorem u133_27 : wp r 133 27 [vR o] st x Q ↔ wp r 133 28 [vR o] (vR o :: st) x Q := (wp_u (show cd 133 27 = some (.aload_n 0, 1, 0, 0, 0, 0) from rfl))
theorem u133_28 : wp r 133 28 ls (vA q :: st) x Q ↔ sbk 9 (hK x q) ∧ wp r 133 31 ls (vR (hR x q 18) :: st) x Q := (wp_u (show cd 133 28 = some (.getfield 42, 3, 9, 18, 5, 0) from rfl)).trans g_getR
theorem u133_31 : wp r 133 31 [vR o] st x Q ↔ wp r 133 32 [vR o] (vR o :: st) x Q := (wp_u (show cd 133 31 = some (.aload_n 0, 1, 0, 0, 0, 0) from rfl))
theorem u133_32 : wp r 133 32 ls (vA q :: st) x Q ↔ sbk 9 (hK x q) ∧ wp r 133 35 ls (vI (hI x q 17) :: st) x Q := (wp_u (show cd 133 32 = some (.getfield 163, 3, 9, 17, 0, 0) from rfl)).trans g_getI
theorem u133_35 : wp r 133 35 [vR o] st x Q ↔ wp r 133 36 [vR o] (vR o :: st) x Q := (wp_u (show cd 133 35 = some (.aload_n 0, 1, 0, 0, 0, 0) from rfl))
theorem u133_36 : wp r 133 36 ls (vA q :: st) x Q ↔ sbk 9 (hK x q) ∧ wp r 133 39 ls (vI (hI x q 19) :: st) x Q := (wp_u (show cd 133 36 = some (.getfield 157, 3, 9, 19, 0, 0) from rfl)).trans g_getI
theorem u133_39 : wp r 133 39 ls (vI z :: vI i :: vA q :: st) x Q ↔ ldk 20 (hK x q) i ∧ 4 ≤ q ∧ wp r 133 40 ls st (stI x q i z) Q := (wp_u (show cd 133 39 = some (.iastore, 1, 0, 0, 0, 0) from rfl)).trans g_stI0
theorem u133_40 : wp r 133 40 ls [] x Q ↔ Q (.inl none) x := (wp_u (show cd 133 40 = some (.return_, 1, 0, 0, 0, 0) from rfl))
theorem e133 : wpc r 133 [vA q] x Q ↔ wp r 133 0 [vA q] [] x Q := Iff.rfl
/-! 134 M_beginComponent -/
theorem u134_0 : wp r 134 0 [vR o] st x Q ↔ wp r 134 1 [vR o] (vR o :: st) x Q := (wp_u (show cd 134 0 = some (.aload_n 0, 1, 0, 0, 0, 0) from rfl))
theorem u134_1 : wp r 134 1 ls (vA q :: st) x Q ↔ sbk 9 (hK x q) ∧ wp r 134 4 ls (vR (hR x q 20) :: st) x Q := (wp_u (show cd 134 1 = some (.getfield 45, 3, 9, 20, 5, 0) from rfl)).trans g_getR
theorem u134_4 : wp r 134 4 [vR o] st x Q ↔ wp r 134 5 [vR o] (vR o :: st) x Q := (wp_u (show cd 134 4 = some (.aload_n 0, 1, 0, 0, 0, 0) from rfl))
theorem u134_5 : wp r 134 5 ls (vA q :: st) x Q ↔ sbk 9 (hK x q) ∧ wp r 134 8 ls (vI (hI x q 19) :: st) x Q := (wp_u (show cd 134 5 = some (.getfield 157, 3, 9, 19, 0, 0) from rfl)).trans g_getI
theorem u134_8 : wp r 134 8 [vR o] st x Q ↔ wp r 134 9 [vR o] (vR o :: st) x Q := (wp_u (show cd 134 8 = some (.aload_n 0, 1, 0, 0, 0, 0) from rfl))
theorem u134_9 : wp r 134 9 ls (vA q :: st) x Q ↔ sbk 9 (hK x q) ∧ wp r 134 12 ls (vI (hI x q 21) :: st) x Q := (wp_u (show cd 134 9 = some (.getfield 160, 3, 9, 21, 0, 0) from rfl)).trans g_getI
theorem u134_12 : wp r 134 12 ls (vI z :: vI i :: vA q :: st) x Q ↔ ldk 20 (hK x q) i ∧ 4 ≤ q ∧ wp r 134 13 ls st (stI x q i z) Q := (wp_u (show cd 134 12 = some (.iastore, 1, 0, 0, 0, 0) from rfl)).trans g_stI0
theorem u134_13 : wp r 134 13 [vR o] st x Q ↔ wp r 134 14 [vR o] (vR o :: st) x Q := (wp_u (show cd 134 13 = some (.aload_n 0, 1, 0, 0, 0, 0) from rfl))
theorem u134_14i : wp r 134 14 ls (vI z :: st) x Q ↔ wp r 134 15 ls (vI z :: vI z :: st) x Q := (wp_u (show cd 134 14 = some (.dup, 1, 0, 0, 0, 0) from rfl))
theorem u134_14 : wp r 134 14 ls (vR o :: st) x Q ↔ wp r 134 15 ls (vR o :: vR o :: st) x Q := (wp_u (show cd 134 14 = some (.dup, 1, 0, 0, 0, 0) from rfl))
theorem u134_15 : wp r 134 15 ls (vA q :: st) x Q ↔ sbk 9 (hK x q) ∧ wp r 134 18 ls (vI (hI x q 19) :: st) x Q := (wp_u (show cd 134 15 = some (.getfield 157, 3, 9, 19, 0, 0) from rfl)).trans g_getI
theorem u134_18 : wp r 134 18 ls st x Q ↔ wp r 134 19 ls (vI 1 :: st) x Q := (wp_u (show cd 134 18 = some (.iconst 1, 1, 0, 0, 0, 0) from rfl))
theorem u134_19 : wp r 134 19 ls (vI w :: vI z :: st) x Q ↔ inI (z + w) = true ∧ wp r 134 20 ls (vI (z + w) :: st) x Q := (wp_u (show cd 134 19 = some (.iadd, 1, 0, 0, 0, 0) from rfl)).trans wq_if
theorem u134_20 : wp r 134 20 ls (vI z :: vA q :: st) x Q ↔ sbk 9 (hK x q) ∧ wp r 134 23 ls st (stI x q 19 z) Q := (wp_u (show cd 134 20 = some (.putfield 157, 3, 9, 19, 0, 0) from rfl)).trans g_putI0
theorem u134_23 : wp r 134 23 [vR o] st x Q ↔ wp r 134 24 [vR o] (vR o :: st) x Q := (wp_u (show cd 134 23 = some (.aload_n 0, 1, 0, 0, 0, 0) from rfl))
theorem u134_24 : wp r 134 24 ls (vA q :: st) x Q ↔ sbk 9 (hK x q) ∧ wp r 134 27 ls (vR (hR x q 20) :: st) x Q := (wp_u (show cd 134 24 = some (.getfield 45, 3, 9, 20, 5, 0) from rfl)).trans g_getR
theorem u134_27 : wp r 134 27 [vR o] st x Q ↔ wp r 134 28 [vR o] (vR o :: st) x Q := (wp_u (show cd 134 27 = some (.aload_n 0, 1, 0, 0, 0, 0) from rfl))
theorem u134_28 : wp r 134 28 ls (vA q :: st) x Q ↔ sbk 9 (hK x q) ∧ wp r 134 31 ls (vI (hI x q 19) :: st) x Q := (wp_u (show cd 134 28 = some (.getfield 157, 3, 9, 19, 0, 0) from rfl)).trans g_getI
theorem u134_31 : wp r 134 31 [vR o] st x Q ↔ wp r 134 32 [vR o] (vR o :: st) x Q := (wp_u (show cd 134 31 = some (.aload_n 0, 1, 0, 0, 0, 0) from rfl))
theorem u134_32 : wp r 134 32 ls (vA q :: st) x Q ↔ sbk 9 (hK x q) ∧ wp r 134 35 ls (vI (hI x q 21) :: st) x Q := (wp_u (show cd 134 32 = some (.getfield 160, 3, 9, 21, 0, 0) from rfl)).trans g_getI
theorem u134_35 : wp r 134 35 ls (vI z :: vI i :: vA q :: st) x Q ↔ ldk 20 (hK x q) i ∧ 4 ≤ q ∧ wp r 134 36 ls st (stI x q i z) Q := (wp_u (show cd 134 35 = some (.iastore, 1, 0, 0, 0, 0) from rfl)).trans g_stI0
theorem u134_36 : wp r 134 36 ls [] x Q ↔ Q (.inl none) x := (wp_u (show cd 134 36 = some (.return_, 1, 0, 0, 0, 0) from rfl))
theorem e134 : wpc r 134 [vA q] x Q ↔ wp r 134 0 [vA q] [] x Q := Iff.rfl
/-! 135 M_begins -/
theorem u135_0 : wp r 135 0 ls st x Q ↔ wp r 135 2 ls (vI 24 :: st) x Q := (wp_u (show cd 135 0 = some (.bipush 24, 2, 0, 0, 0, 0) from rfl))
theorem u135_2 : wp r 135 2 [a0, vI z, a2, a3, a4] st x Q ↔ wp r 135 3 [a0, vI z, a2, a3, a4] (vI z :: st) x Q := (wp_u (show cd 135 2 = some (.iload_n 1, 1, 0, 0, 0, 0) from rfl))
theorem u135_3 : wp r 135 3 ls (vI w :: vI z :: st) x Q ↔ inI (z * w) = true ∧ wp r 135 4 ls (vI (z * w) :: st) x Q := (wp_u (show cd 135 3 = some (.imul, 1, 0, 0, 0, 0) from rfl)).trans wq_if
theorem u135_4 : wp r 135 4 [a0, a1, vI z, a3, a4] st x Q ↔ wp r 135 5 [a0, a1, vI z, a3, a4] (vI z :: st) x Q := (wp_u (show cd 135 4 = some (.iload_n 2, 1, 0, 0, 0, 0) from rfl))
theorem u135_5 : wp r 135 5 ls (vI w :: vI z :: st) x Q ↔ inI (z + w) = true ∧ wp r 135 6 ls (vI (z + w) :: st) x Q := (wp_u (show cd 135 5 = some (.iadd, 1, 0, 0, 0, 0) from rfl)).trans wq_if
theorem u135_6 : wp r 135 6 [a0, a1, a2, a3, a4] (vI z :: st) x Q ↔ wp r 135 7 [a0, a1, a2, vI z, a4] st x Q := (wp_u (show cd 135 6 = some (.istore_n 3, 1, 0, 0, 0, 0) from rfl))
theorem u135_7 : wp r 135 7 [vR o, a1, a2, a3, a4] st x Q ↔ wp r 135 8 [vR o, a1, a2, a3, a4] (vR o :: st) x Q := (wp_u (show cd 135 7 = some (.aload_n 0, 1, 0, 0, 0, 0) from rfl))
theorem u135_8 : wp r 135 8 ls (vA q :: st) x Q ↔ sbk 9 (hK x q) ∧ wp r 135 11 ls (vR (hR x q 4) :: st) x Q := (wp_u (show cd 135 8 = some (.getfield 16, 3, 9, 4, 5, 0) from rfl)).trans g_getR
theorem u135_11 : wp r 135 11 [a0, a1, a2, vI z, a4] st x Q ↔ wp r 135 12 [a0, a1, a2, vI z, a4] (vI z :: st) x Q := (wp_u (show cd 135 11 = some (.iload_n 3, 1, 0, 0, 0, 0) from rfl))
theorem u135_12 : wp r 135 12 ls (vI i :: vA q :: st) x Q ↔ ldk 20 (hK x q) i ∧ wp r 135 13 ls (vI (hI x q i) :: st) x Q := (wp_u (show cd 135 12 = some (.iaload, 1, 0, 0, 0, 0) from rfl)).trans g_ldI
theorem u135_13 : wp r 135 13 ls (vI z :: st) x Q ↔ if z ≤ 0 then wp r 135 23 ls st x Q else wp r 135 16 ls st x Q := (wp_u (show cd 135 13 = some (.ifCond .le 10, 3, 23, 0, 0, 0) from rfl)).trans wq_d
theorem u135_16 : wp r 135 16 [vR o, a1, a2, a3, a4] st x Q ↔ wp r 135 17 [vR o, a1, a2, a3, a4] (vR o :: st) x Q := (wp_u (show cd 135 16 = some (.aload_n 0, 1, 0, 0, 0, 0) from rfl))
theorem u135_17 : wp r 135 17 ls (vA q :: st) x Q ↔ sbk 9 (hK x q) ∧ wp r 135 20 ls (vR (hR x q 4) :: st) x Q := (wp_u (show cd 135 17 = some (.getfield 16, 3, 9, 4, 5, 0) from rfl)).trans g_getR
theorem u135_20 : wp r 135 20 [a0, a1, a2, vI z, a4] st x Q ↔ wp r 135 21 [a0, a1, a2, vI z, a4] (vI z :: st) x Q := (wp_u (show cd 135 20 = some (.iload_n 3, 1, 0, 0, 0, 0) from rfl))
theorem u135_21 : wp r 135 21 ls (vI i :: vA q :: st) x Q ↔ ldk 20 (hK x q) i ∧ wp r 135 22 ls (vI (hI x q i) :: st) x Q := (wp_u (show cd 135 21 = some (.iaload, 1, 0, 0, 0, 0) from rfl)).trans g_ldI
theorem u135_22 : wp r 135 22 ls [vI z] x Q ↔ Q (.inl (some (vI z))) x := (wp_u (show cd 135 22 = some (.ireturn, 1, 0, 0, 0, 0) from rfl))
theorem u135_23 : wp r 135 23 [vR o, a1, a2, a3, a4] st x Q ↔ wp r 135 24 [vR o, a1, a2, a3, a4] (vR o :: st) x Q := (wp_u (show cd 135 23 = some (.aload_n 0, 1, 0, 0, 0, 0) from rfl))
theorem u135_24 : wp r 135 24 [a0, vI z, a2, a3, a4] st x Q ↔ wp r 135 25 [a0, vI z, a2, a3, a4] (vI z :: st) x Q := (wp_u (show cd 135 24 = some (.iload_n 1, 1, 0, 0, 0, 0) from rfl))
theorem u135_25 : wp r 135 25 ls st x Q ↔ wp r 135 26 ls (vI (-1) :: st) x Q := (wp_u (show cd 135 25 = some (.iconst (-1), 1, 0, 0, 0, 0) from rfl))
theorem u135_26 : wp r 135 26 [a0, a1, vI z, a3, a4] st x Q ↔ wp r 135 27 [a0, a1, vI z, a3, a4] (vI z :: st) x Q := (wp_u (show cd 135 26 = some (.iload_n 2, 1, 0, 0, 0, 0) from rfl))
theorem u135_27 : wp r 135 27 ls (vI z2 :: vI z1 :: vI z0 :: vA q :: st) x Q ↔ isk 9 (hK x q) ∧ sml st = true ∧ 1 < r ∧ wpc 1 117 [vA q, vI z0, vI z1, vI z2] x (wk r 135 27 ls st Q) := (wp_u (show cd 135 27 = some (.invokevirtual 118, 3, 117, 4, 1, 9) from rfl)).trans (g_virt rfl (by decide) (by simp) rfl)
theorem u135_30 : wp r 135 30 [a0, a1, a2, a3, a4] (vI z :: st) x Q ↔ wp r 135 32 [a0, a1, a2, a3, vI z] st x Q := (wp_u (show cd 135 30 = some (.istore 4, 2, 0, 0, 0, 0) from rfl))
theorem u135_32 : wp r 135 32 [a0, a1, a2, a3, vI z] st x Q ↔ wp r 135 34 [a0, a1, a2, a3, vI z] (vI z :: st) x Q := (wp_u (show cd 135 32 = some (.iload 4, 2, 0, 0, 0, 0) from rfl))
theorem u135_34 : wp r 135 34 ls (vI z :: st) x Q ↔ if 0 ≤ z then wp r 135 41 ls st x Q else wp r 135 37 ls st x Q := (wp_u (show cd 135 34 = some (.ifCond .ge 7, 3, 41, 0, 0, 0) from rfl)).trans wq_d
theorem u135_37 : wp r 135 37 ls st x Q ↔ wp r 135 38 ls (vI 0 :: st) x Q := (wp_u (show cd 135 37 = some (.iconst 0, 1, 0, 0, 0, 0) from rfl))
theorem u135_38 : wp r 135 38 ls st x Q ↔ wp r 135 53 ls st x Q := (wp_u (show cd 135 38 = some (.goto 15, 3, 53, 0, 0, 0) from rfl))
theorem u135_41 : wp r 135 41 [vR o, a1, a2, a3, a4] st x Q ↔ wp r 135 42 [vR o, a1, a2, a3, a4] (vR o :: st) x Q := (wp_u (show cd 135 41 = some (.aload_n 0, 1, 0, 0, 0, 0) from rfl))
theorem u135_42 : wp r 135 42 ls (vA q :: st) x Q ↔ sbk 9 (hK x q) ∧ wp r 135 45 ls (vR (hR x q 4) :: st) x Q := (wp_u (show cd 135 42 = some (.getfield 16, 3, 9, 4, 5, 0) from rfl)).trans g_getR
theorem u135_45 : wp r 135 45 ls st x Q ↔ wp r 135 47 ls (vI 24 :: st) x Q := (wp_u (show cd 135 45 = some (.bipush 24, 2, 0, 0, 0, 0) from rfl))
theorem u135_47 : wp r 135 47 [a0, vI z, a2, a3, a4] st x Q ↔ wp r 135 48 [a0, vI z, a2, a3, a4] (vI z :: st) x Q := (wp_u (show cd 135 47 = some (.iload_n 1, 1, 0, 0, 0, 0) from rfl))
theorem u135_48 : wp r 135 48 ls (vI w :: vI z :: st) x Q ↔ inI (z * w) = true ∧ wp r 135 49 ls (vI (z * w) :: st) x Q := (wp_u (show cd 135 48 = some (.imul, 1, 0, 0, 0, 0) from rfl)).trans wq_if
theorem u135_49 : wp r 135 49 [a0, a1, a2, a3, vI z] st x Q ↔ wp r 135 51 [a0, a1, a2, a3, vI z] (vI z :: st) x Q := (wp_u (show cd 135 49 = some (.iload 4, 2, 0, 0, 0, 0) from rfl))
theorem u135_51 : wp r 135 51 ls (vI w :: vI z :: st) x Q ↔ inI (z + w) = true ∧ wp r 135 52 ls (vI (z + w) :: st) x Q := (wp_u (show cd 135 51 = some (.iadd, 1, 0, 0, 0, 0) from rfl)).trans wq_if
theorem u135_52 : wp r 135 52 ls (vI i :: vA q :: st) x Q ↔ ldk 20 (hK x q) i ∧ wp r 135 53 ls (vI (hI x q i) :: st) x Q := (wp_u (show cd 135 52 = some (.iaload, 1, 0, 0, 0, 0) from rfl)).trans g_ldI
theorem u135_53 : wp r 135 53 ls [vI z] x Q ↔ Q (.inl (some (vI z))) x := (wp_u (show cd 135 53 = some (.ireturn, 1, 0, 0, 0, 0) from rfl))
theorem e135 : wpc r 135 [vA q, vI z0, vI z1] x Q ↔ wp r 135 0 [vA q, vI z0, vI z1, vL jk, vL jk] [] x Q := Iff.rfl
/-! 136 M_goOn -/
theorem u136_0 : wp r 136 0 [vR o, a1, a2] st x Q ↔ wp r 136 1 [vR o, a1, a2] (vR o :: st) x Q := (wp_u (show cd 136 0 = some (.aload_n 0, 1, 0, 0, 0, 0) from rfl))
theorem u136_1 : wp r 136 1 ls (vA q :: st) x Q ↔ sbk 9 (hK x q) ∧ wp r 136 4 ls (vI (hI x q 45) :: st) x Q := (wp_u (show cd 136 1 = some (.getfield 215, 3, 9, 45, 0, 0) from rfl)).trans g_getI
theorem u136_4 : wp r 136 4 ls (vI z :: st) x Q ↔ if z = 0 then wp r 136 7 ls st x Q else wp r 136 11 ls st x Q := (wp_u (show cd 136 4 = some (.ifCond .ne 7, 3, 11, 0, 0, 0) from rfl)).trans wq_dn
theorem u136_7 : wp r 136 7 ls st x Q ↔ wp r 136 8 ls (vI (-1) :: st) x Q := (wp_u (show cd 136 7 = some (.iconst (-1), 1, 0, 0, 0, 0) from rfl))
theorem u136_8 : wp r 136 8 ls st x Q ↔ wp r 136 22 ls st x Q := (wp_u (show cd 136 8 = some (.goto 14, 3, 22, 0, 0, 0) from rfl))
theorem u136_11 : wp r 136 11 [vR o, a1, a2] st x Q ↔ wp r 136 12 [vR o, a1, a2] (vR o :: st) x Q := (wp_u (show cd 136 11 = some (.aload_n 0, 1, 0, 0, 0, 0) from rfl))
theorem u136_12 : wp r 136 12 ls (vA q :: st) x Q ↔ sbk 9 (hK x q) ∧ wp r 136 15 ls (vR (hR x q 46) :: st) x Q := (wp_u (show cd 136 12 = some (.getfield 90, 3, 9, 46, 5, 0) from rfl)).trans g_getR
theorem u136_15 : wp r 136 15 [vR o, a1, a2] st x Q ↔ wp r 136 16 [vR o, a1, a2] (vR o :: st) x Q := (wp_u (show cd 136 15 = some (.aload_n 0, 1, 0, 0, 0, 0) from rfl))
theorem u136_16 : wp r 136 16 ls (vA q :: st) x Q ↔ sbk 9 (hK x q) ∧ wp r 136 19 ls (vI (hI x q 45) :: st) x Q := (wp_u (show cd 136 16 = some (.getfield 215, 3, 9, 45, 0, 0) from rfl)).trans g_getI
theorem u136_19 : wp r 136 19 ls st x Q ↔ wp r 136 20 ls (vI 1 :: st) x Q := (wp_u (show cd 136 19 = some (.iconst 1, 1, 0, 0, 0, 0) from rfl))
theorem u136_20 : wp r 136 20 ls (vI w :: vI z :: st) x Q ↔ inI (z - w) = true ∧ wp r 136 21 ls (vI (z - w) :: st) x Q := (wp_u (show cd 136 20 = some (.isub, 1, 0, 0, 0, 0) from rfl)).trans wq_if
theorem u136_21 : wp r 136 21 ls (vI i :: vA q :: st) x Q ↔ ldk 20 (hK x q) i ∧ wp r 136 22 ls (vI (hI x q i) :: st) x Q := (wp_u (show cd 136 21 = some (.iaload, 1, 0, 0, 0, 0) from rfl)).trans g_ldI
theorem u136_22 : wp r 136 22 [a0, a1, a2] (vI z :: st) x Q ↔ wp r 136 23 [a0, a1, vI z] st x Q := (wp_u (show cd 136 22 = some (.istore_n 2, 1, 0, 0, 0, 0) from rfl))
theorem u136_23 : wp r 136 23 [vR o, a1, a2] st x Q ↔ wp r 136 24 [vR o, a1, a2] (vR o :: st) x Q := (wp_u (show cd 136 23 = some (.aload_n 0, 1, 0, 0, 0, 0) from rfl))
theorem u136_24 : wp r 136 24 [vR o, a1, a2] st x Q ↔ wp r 136 25 [vR o, a1, a2] (vR o :: st) x Q := (wp_u (show cd 136 24 = some (.aload_n 0, 1, 0, 0, 0, 0) from rfl))
theorem u136_25 : wp r 136 25 [a0, vI z, a2] st x Q ↔ wp r 136 26 [a0, vI z, a2] (vI z :: st) x Q := (wp_u (show cd 136 25 = some (.iload_n 1, 1, 0, 0, 0, 0) from rfl))
theorem u136_26 : wp r 136 26 [vR o, a1, a2] st x Q ↔ wp r 136 27 [vR o, a1, a2] (vR o :: st) x Q := (wp_u (show cd 136 26 = some (.aload_n 0, 1, 0, 0, 0, 0) from rfl))
theorem u136_27 : wp r 136 27 ls (vA q :: st) x Q ↔ sbk 9 (hK x q) ∧ wp r 136 30 ls (vI (hI x q 43) :: st) x Q := (wp_u (show cd 136 27 = some (.getfield 218, 3, 9, 43, 0, 0) from rfl)).trans g_getI
theorem u136_30 : wp r 136 30 [a0, a1, vI z] st x Q ↔ wp r 136 31 [a0, a1, vI z] (vI z :: st) x Q := (wp_u (show cd 136 30 = some (.iload_n 2, 1, 0, 0, 0, 0) from rfl))
theorem u136_31 : wp r 136 31 ls (vI z2 :: vI z1 :: vI z0 :: vA q :: st) x Q ↔ isk 9 (hK x q) ∧ sml st = true ∧ 1 < r ∧ wpc 1 117 [vA q, vI z0, vI z1, vI z2] x (wk r 136 31 ls st Q) := (wp_u (show cd 136 31 = some (.invokevirtual 118, 3, 117, 4, 1, 9) from rfl)).trans (g_virt rfl (by decide) (by simp) rfl)
theorem u136_34 : wp r 136 34 ls (vI z :: vA q :: st) x Q ↔ sbk 9 (hK x q) ∧ wp r 136 37 ls st (stI x q 43 z) Q := (wp_u (show cd 136 34 = some (.putfield 218, 3, 9, 43, 0, 0) from rfl)).trans g_putI0
theorem u136_37 : wp r 136 37 [vR o, a1, a2] st x Q ↔ wp r 136 38 [vR o, a1, a2] (vR o :: st) x Q := (wp_u (show cd 136 37 = some (.aload_n 0, 1, 0, 0, 0, 0) from rfl))
theorem u136_38 : wp r 136 38 ls st x Q ↔ wp r 136 39 ls (vI 0 :: st) x Q := (wp_u (show cd 136 38 = some (.iconst 0, 1, 0, 0, 0, 0) from rfl))
theorem u136_39 : wp r 136 39 ls (vI z :: vA q :: st) x Q ↔ sbk 9 (hK x q) ∧ wp r 136 42 ls st (stI x q 44 z) Q := (wp_u (show cd 136 39 = some (.putfield 221, 3, 9, 44, 0, 0) from rfl)).trans g_putI0
theorem u136_42 : wp r 136 42 ls [] x Q ↔ Q (.inl none) x := (wp_u (show cd 136 42 = some (.return_, 1, 0, 0, 0, 0) from rfl))
theorem e136 : wpc r 136 [vA q, vI z0] x Q ↔ wp r 136 0 [vA q, vI z0, vL jk] [] x Q := Iff.rfl
/-! 137 M_writeNumber -/
theorem u137_0 : wp r 137 0 [a0, vI z, a2] st x Q ↔ wp r 137 1 [a0, vI z, a2] (vI z :: st) x Q := (wp_u (show cd 137 0 = some (.iload_n 1, 1, 0, 0, 0, 0) from rfl))
theorem u137_1 : wp r 137 1 ls st x Q ↔ wp r 137 3 ls (vI 99 :: st) x Q := (wp_u (show cd 137 1 = some (.bipush 99, 2, 0, 0, 0, 0) from rfl))
theorem u137_3 : wp r 137 3 ls (vI w :: vI z :: st) x Q ↔ if z ≤ w then wp r 137 11 ls st x Q else wp r 137 6 ls st x Q := (wp_u (show cd 137 3 = some (.if_icmp .le 8, 3, 11, 0, 0, 0) from rfl)).trans wq_d
theorem u137_6 : wp r 137 6 ls st x Q ↔ wp r 137 8 ls (vI 100 :: st) x Q := (wp_u (show cd 137 6 = some (.bipush 100, 2, 0, 0, 0, 0) from rfl))
theorem u137_8 : wp r 137 8 ls st x Q ↔ wp r 137 23 ls st x Q := (wp_u (show cd 137 8 = some (.goto 15, 3, 23, 0, 0, 0) from rfl))
theorem u137_11 : wp r 137 11 [a0, vI z, a2] st x Q ↔ wp r 137 12 [a0, vI z, a2] (vI z :: st) x Q := (wp_u (show cd 137 11 = some (.iload_n 1, 1, 0, 0, 0, 0) from rfl))
theorem u137_12 : wp r 137 12 ls st x Q ↔ wp r 137 14 ls (vI 9 :: st) x Q := (wp_u (show cd 137 12 = some (.bipush 9, 2, 0, 0, 0, 0) from rfl))
theorem u137_14 : wp r 137 14 ls (vI w :: vI z :: st) x Q ↔ if z ≤ w then wp r 137 22 ls st x Q else wp r 137 17 ls st x Q := (wp_u (show cd 137 14 = some (.if_icmp .le 8, 3, 22, 0, 0, 0) from rfl)).trans wq_d
theorem u137_17 : wp r 137 17 ls st x Q ↔ wp r 137 19 ls (vI 10 :: st) x Q := (wp_u (show cd 137 17 = some (.bipush 10, 2, 0, 0, 0, 0) from rfl))
theorem u137_19 : wp r 137 19 ls st x Q ↔ wp r 137 23 ls st x Q := (wp_u (show cd 137 19 = some (.goto 4, 3, 23, 0, 0, 0) from rfl))
theorem u137_22 : wp r 137 22 ls st x Q ↔ wp r 137 23 ls (vI 1 :: st) x Q := (wp_u (show cd 137 22 = some (.iconst 1, 1, 0, 0, 0, 0) from rfl))
theorem u137_23 : wp r 137 23 [a0, a1, a2] (vI z :: st) x Q ↔ wp r 137 24 [a0, a1, vI z] st x Q := (wp_u (show cd 137 23 = some (.istore_n 2, 1, 0, 0, 0, 0) from rfl))
theorem u137_24 : wp r 137 24 [a0, a1, vI z] st x Q ↔ wp r 137 25 [a0, a1, vI z] (vI z :: st) x Q := (wp_u (show cd 137 24 = some (.iload_n 2, 1, 0, 0, 0, 0) from rfl))
theorem u137_25 : wp r 137 25 ls (vI z :: st) x Q ↔ if z ≤ 0 then wp r 137 49 ls st x Q else wp r 137 28 ls st x Q := (wp_u (show cd 137 25 = some (.ifCond .le 24, 3, 49, 0, 0, 0) from rfl)).trans wq_d
theorem u137_28 : wp r 137 28 [vR o, a1, a2] st x Q ↔ wp r 137 29 [vR o, a1, a2] (vR o :: st) x Q := (wp_u (show cd 137 28 = some (.aload_n 0, 1, 0, 0, 0, 0) from rfl))
theorem u137_29 : wp r 137 29 ls st x Q ↔ wp r 137 31 ls (vI 48 :: st) x Q := (wp_u (show cd 137 29 = some (.bipush 48, 2, 0, 0, 0, 0) from rfl))
theorem u137_31 : wp r 137 31 [a0, vI z, a2] st x Q ↔ wp r 137 32 [a0, vI z, a2] (vI z :: st) x Q := (wp_u (show cd 137 31 = some (.iload_n 1, 1, 0, 0, 0, 0) from rfl))
theorem u137_32 : wp r 137 32 [a0, a1, vI z] st x Q ↔ wp r 137 33 [a0, a1, vI z] (vI z :: st) x Q := (wp_u (show cd 137 32 = some (.iload_n 2, 1, 0, 0, 0, 0) from rfl))
theorem u137_33 : wp r 137 33 ls (vI w :: vI z :: st) x Q ↔ (0 ≤ z ∧ 0 < w) ∧ wp r 137 34 ls (vI (z / w) :: st) x Q := (wp_u (show cd 137 33 = some (.idiv, 1, 0, 0, 0, 0) from rfl)).trans wq_if
theorem u137_34 : wp r 137 34 ls st x Q ↔ wp r 137 36 ls (vI 10 :: st) x Q := (wp_u (show cd 137 34 = some (.bipush 10, 2, 0, 0, 0, 0) from rfl))
theorem u137_36 : wp r 137 36 ls (vI w :: vI z :: st) x Q ↔ (0 ≤ z ∧ 0 < w) ∧ wp r 137 37 ls (vI (z % w) :: st) x Q := (wp_u (show cd 137 36 = some (.irem, 1, 0, 0, 0, 0) from rfl)).trans wq_if
theorem u137_37 : wp r 137 37 ls (vI w :: vI z :: st) x Q ↔ inI (z + w) = true ∧ wp r 137 38 ls (vI (z + w) :: st) x Q := (wp_u (show cd 137 37 = some (.iadd, 1, 0, 0, 0, 0) from rfl)).trans wq_if
theorem u137_38 : wp r 137 38 ls (vI z0 :: vA q :: st) x Q ↔ isk 9 (hK x q) ∧ sml st = true ∧ 1 < r ∧ wpc 1 128 [vA q, vI z0] x (wk r 137 38 ls st Q) := (wp_u (show cd 137 38 = some (.invokevirtual 278, 3, 128, 2, 1, 9) from rfl)).trans (g_virt rfl (by decide) (by simp) rfl)
theorem u137_41 : wp r 137 41 [a0, a1, vI z] st x Q ↔ wp r 137 42 [a0, a1, vI z] (vI z :: st) x Q := (wp_u (show cd 137 41 = some (.iload_n 2, 1, 0, 0, 0, 0) from rfl))
theorem u137_42 : wp r 137 42 ls st x Q ↔ wp r 137 44 ls (vI 10 :: st) x Q := (wp_u (show cd 137 42 = some (.bipush 10, 2, 0, 0, 0, 0) from rfl))
theorem u137_44 : wp r 137 44 ls (vI w :: vI z :: st) x Q ↔ (0 ≤ z ∧ 0 < w) ∧ wp r 137 45 ls (vI (z / w) :: st) x Q := (wp_u (show cd 137 44 = some (.idiv, 1, 0, 0, 0, 0) from rfl)).trans wq_if
theorem u137_45 : wp r 137 45 [a0, a1, a2] (vI z :: st) x Q ↔ wp r 137 46 [a0, a1, vI z] st x Q := (wp_u (show cd 137 45 = some (.istore_n 2, 1, 0, 0, 0, 0) from rfl))
theorem u137_46 : wp r 137 46 ls st x Q ↔ wp r 137 24 ls st x Q := (wp_u (show cd 137 46 = some (.goto (-22), 3, 24, 0, 0, 0) from rfl))
theorem u137_49 : wp r 137 49 ls [] x Q ↔ Q (.inl none) x := (wp_u (show cd 137 49 = some (.return_, 1, 0, 0, 0, 0) from rfl))
theorem e137 : wpc r 137 [vA q, vI z0] x Q ↔ wp r 137 0 [vA q, vI z0, vL jk] [] x Q := Iff.rfl
/-! 138 SB_init -/
theorem u138_0 : wp r 138 0 [vR o, a1] st x Q ↔ wp r 138 1 [vR o, a1] (vR o :: st) x Q := (wp_u (show cd 138 0 = some (.aload_n 0, 1, 0, 0, 0, 0) from rfl))
theorem u138_1 : wp r 138 1 [a0, vI z] st x Q ↔ wp r 138 2 [a0, vI z] (vI z :: st) x Q := (wp_u (show cd 138 1 = some (.iload_n 1, 1, 0, 0, 0, 0) from rfl))
theorem u138_2 : wp r 138 2 ls (vI z0 :: vA q :: st) x Q ↔ nnk (hK x q) ∧ sml st = true ∧ 1 < r ∧ wpc 1 139 [vA q, vI z0] x (wk r 138 2 ls st Q) := (wp_u (show cd 138 2 = some (.invokespecial 1, 3, 139, 2, 1, 0) from rfl)).trans (g_special rfl (by decide) (by simp) rfl)
theorem u138_5 : wp r 138 5 ls [] x Q ↔ Q (.inl none) x := (wp_u (show cd 138 5 = some (.return_, 1, 0, 0, 0, 0) from rfl))
theorem e138 : wpc r 138 [vA q, vI z0] x Q ↔ wp r 138 0 [vA q, vI z0] [] x Q := Iff.rfl
/-! 139 AB_init -/
theorem u139_0 : wp r 139 0 [vR o, a1] st x Q ↔ wp r 139 1 [vR o, a1] (vR o :: st) x Q := (wp_u (show cd 139 0 = some (.aload_n 0, 1, 0, 0, 0, 0) from rfl))
theorem u139_1 : wp r 139 1 ls (vA q :: st) x Q ↔ nnk (hK x q) ∧ sml st = true ∧ wp r 139 4 ls st x Q := (wp_u (show cd 139 1 = some (.invokespecial 3, 3, 1000, 1, 0, 0) from rfl)).trans (g_obj rfl)
theorem u139_4 : wp r 139 4 ls st x Q ↔ wp r 139 7 ls (vI 1 :: st) x Q := (wp_u (show cd 139 4 = some (.getstatic 18, 3, 0, 0, 0, 0) from rfl))
theorem u139_7 : wp r 139 7 ls (vI z :: st) x Q ↔ if z = 0 then wp r 139 25 ls st x Q else wp r 139 10 ls st x Q := (wp_u (show cd 139 7 = some (.ifCond .eq 18, 3, 25, 0, 0, 0) from rfl)).trans wq_d
theorem u139_10 : wp r 139 10 [vR o, a1] st x Q ↔ wp r 139 11 [vR o, a1] (vR o :: st) x Q := (wp_u (show cd 139 10 = some (.aload_n 0, 1, 0, 0, 0, 0) from rfl))
theorem u139_11 : wp r 139 11 [a0, vI z] st x Q ↔ wp r 139 12 [a0, vI z] (vI z :: st) x Q := (wp_u (show cd 139 11 = some (.iload_n 1, 1, 0, 0, 0, 0) from rfl))
theorem u139_12 : wp r 139 12 ls (vI z :: st) x Q ↔ (0 ≤ z ∧ z ≤ 100000) ∧ nok x z.toNat ∧ wp r 139 14 ls (vA (hN x) :: st) (nwO x 23 z.toNat) Q := (wp_u (show cd 139 12 = some (.newarray .byte, 2, 23, 0, 0, 0) from rfl)).trans g_newA
theorem u139_14 : wp r 139 14 ls (vR o :: vA q :: st) x Q ↔ sbk 10 (hK x q) ∧ wp r 139 17 ls st (stR x q 0 o) Q := (wp_u (show cd 139 14 = some (.putfield 15, 3, 10, 0, 5, 0) from rfl)).trans g_putR
theorem u139_17 : wp r 139 17 [vR o, a1] st x Q ↔ wp r 139 18 [vR o, a1] (vR o :: st) x Q := (wp_u (show cd 139 17 = some (.aload_n 0, 1, 0, 0, 0, 0) from rfl))
theorem u139_18 : wp r 139 18 ls st x Q ↔ wp r 139 19 ls (vI 0 :: st) x Q := (wp_u (show cd 139 18 = some (.iconst 0, 1, 0, 0, 0, 0) from rfl))
theorem u139_19 : wp r 139 19 ls (vI z :: vA q :: st) x Q ↔ sbk 10 (hK x q) ∧ rg 3 z = true ∧ wp r 139 22 ls st (stI x q 1 z) Q := (wp_u (show cd 139 19 = some (.putfield 22, 3, 10, 1, 3, 0) from rfl)).trans g_putI
theorem u139_22 : wp r 139 22 ls st x Q ↔ wp r 139 38 ls st x Q := (wp_u (show cd 139 22 = some (.goto 16, 3, 38, 0, 0, 0) from rfl))
theorem u139_38 : wp r 139 38 ls [] x Q ↔ Q (.inl none) x := (wp_u (show cd 139 38 = some (.return_, 1, 0, 0, 0, 0) from rfl))
theorem e139 : wpc r 139 [vA q, vI z0] x Q ↔ wp r 139 0 [vA q, vI z0] [] x Q := Iff.rfl
/-! 140 SB_appendC -/
theorem u140_0 : wp r 140 0 [vR o, a1] st x Q ↔ wp r 140 1 [vR o, a1] (vR o :: st) x Q := (wp_u (show cd 140 0 = some (.aload_n 0, 1, 0, 0, 0, 0) from rfl))
theorem u140_1 : wp r 140 1 [a0, vI z] st x Q ↔ wp r 140 2 [a0, vI z] (vI z :: st) x Q := (wp_u (show cd 140 1 = some (.iload_n 1, 1, 0, 0, 0, 0) from rfl))
theorem u140_2 : wp r 140 2 ls (vI z0 :: vA q :: st) x Q ↔ nnk (hK x q) ∧ sml st = true ∧ 5 < r ∧ wpc 5 143 [vA q, vI z0] x (wk r 140 2 ls st Q) := (wp_u (show cd 140 2 = some (.invokespecial 50, 3, 143, 2, 5, 0) from rfl)).trans (g_special rfl (by decide) (by simp) rfl)
theorem u140_5i : wp r 140 5 ls (vI z :: st) x Q ↔ wp r 140 6 ls st x Q := (wp_u (show cd 140 5 = some (.pop, 1, 0, 0, 0, 0) from rfl))
theorem u140_5 : wp r 140 5 ls (vR o :: st) x Q ↔ wp r 140 6 ls st x Q := (wp_u (show cd 140 5 = some (.pop, 1, 0, 0, 0, 0) from rfl))
theorem u140_6 : wp r 140 6 [vR o, a1] st x Q ↔ wp r 140 7 [vR o, a1] (vR o :: st) x Q := (wp_u (show cd 140 6 = some (.aload_n 0, 1, 0, 0, 0, 0) from rfl))
theorem u140_7 : wp r 140 7 ls [vR o] x Q ↔ Q (.inl (some (vR o))) x := (wp_u (show cd 140 7 = some (.areturn, 1, 0, 0, 0, 0) from rfl))
theorem e140 : wpc r 140 [vA q, vI z0] x Q ↔ wp r 140 0 [vA q, vI z0] [] x Q := Iff.rfl
/-! 141 SB_length -/
theorem u141_0 : wp r 141 0 [vR o] st x Q ↔ wp r 141 1 [vR o] (vR o :: st) x Q := (wp_u (show cd 141 0 = some (.aload_n 0, 1, 0, 0, 0, 0) from rfl))
theorem u141_1 : wp r 141 1 ls (vA q :: st) x Q ↔ nnk (hK x q) ∧ sml st = true ∧ 1 < r ∧ wpc 1 145 [vA q] x (wk r 141 1 ls st Q) := (wp_u (show cd 141 1 = some (.invokespecial 343, 3, 145, 1, 1, 0) from rfl)).trans (g_special rfl (by decide) (by simp) rfl)
theorem u141_4 : wp r 141 4 ls [vI z] x Q ↔ Q (.inl (some (vI z))) x := (wp_u (show cd 141 4 = some (.ireturn, 1, 0, 0, 0, 0) from rfl))
theorem e141 : wpc r 141 [vA q] x Q ↔ wp r 141 0 [vA q] [] x Q := Iff.rfl
/-! 142 SB_charAt -/
theorem u142_0 : wp r 142 0 [vR o, a1] st x Q ↔ wp r 142 1 [vR o, a1] (vR o :: st) x Q := (wp_u (show cd 142 0 = some (.aload_n 0, 1, 0, 0, 0, 0) from rfl))
theorem u142_1 : wp r 142 1 [a0, vI z] st x Q ↔ wp r 142 2 [a0, vI z] (vI z :: st) x Q := (wp_u (show cd 142 1 = some (.iload_n 1, 1, 0, 0, 0, 0) from rfl))
theorem u142_2 : wp r 142 2 ls (vI z0 :: vA q :: st) x Q ↔ nnk (hK x q) ∧ sml st = true ∧ 3 < r ∧ wpc 3 146 [vA q, vI z0] x (wk r 142 2 ls st Q) := (wp_u (show cd 142 2 = some (.invokespecial 329, 3, 146, 2, 3, 0) from rfl)).trans (g_special rfl (by decide) (by simp) rfl)
theorem u142_5 : wp r 142 5 ls [vI z] x Q ↔ rg 1 z = true ∧ Q (.inl (some (vI z))) x := (wp_u (show cd 142 5 = some (.ireturn, 1, 1, 0, 0, 0) from rfl)).trans wq_if
theorem e142 : wpc r 142 [vA q, vI z0] x Q ↔ wp r 142 0 [vA q, vI z0] [] x Q := Iff.rfl
/-! 143 AB_appendC -/
theorem u143_0 : wp r 143 0 [vR o, a1] st x Q ↔ wp r 143 1 [vR o, a1] (vR o :: st) x Q := (wp_u (show cd 143 0 = some (.aload_n 0, 1, 0, 0, 0, 0) from rfl))
theorem u143_1 : wp r 143 1 [vR o, a1] st x Q ↔ wp r 143 2 [vR o, a1] (vR o :: st) x Q := (wp_u (show cd 143 1 = some (.aload_n 0, 1, 0, 0, 0, 0) from rfl))
theorem u143_2 : wp r 143 2 ls (vA q :: st) x Q ↔ sbk 10 (hK x q) ∧ wp r 143 5 ls (vI (hI x q 3) :: st) x Q := (wp_u (show cd 143 2 = some (.getfield 79, 3, 10, 3, 0, 0) from rfl)).trans g_getI
theorem u143_5 : wp r 143 5 ls st x Q ↔ wp r 143 6 ls (vI 1 :: st) x Q := (wp_u (show cd 143 5 = some (.iconst 1, 1, 0, 0, 0, 0) from rfl))
theorem u143_6 : wp r 143 6 ls (vI w :: vI z :: st) x Q ↔ inI (z + w) = true ∧ wp r 143 7 ls (vI (z + w) :: st) x Q := (wp_u (show cd 143 6 = some (.iadd, 1, 0, 0, 0, 0) from rfl)).trans wq_if
theorem u143_7 : wp r 143 7 ls (vI z0 :: vA q :: st) x Q ↔ isk 10 (hK x q) ∧ sml st = true ∧ 4 < r ∧ wpc 4 148 [vA q, vI z0] x (wk r 143 7 ls st Q) := (wp_u (show cd 143 7 = some (.invokevirtual 100, 3, 148, 2, 4, 10) from rfl)).trans (g_virt rfl (by decide) (by simp) rfl)
theorem u143_10 : wp r 143 10 [vR o, a1] st x Q ↔ wp r 143 11 [vR o, a1] (vR o :: st) x Q := (wp_u (show cd 143 10 = some (.aload_n 0, 1, 0, 0, 0, 0) from rfl))
theorem u143_11 : wp r 143 11 ls (vA q :: st) x Q ↔ isk 10 (hK x q) ∧ sml st = true ∧ 1 < r ∧ wpc 1 149 [vA q] x (wk r 143 11 ls st Q) := (wp_u (show cd 143 11 = some (.invokevirtual 83, 3, 149, 1, 1, 10) from rfl)).trans (g_virt rfl (by decide) (by simp) rfl)
theorem u143_14 : wp r 143 14 ls (vI z :: st) x Q ↔ if z = 0 then wp r 143 45 ls st x Q else wp r 143 17 ls st x Q := (wp_u (show cd 143 14 = some (.ifCond .eq 31, 3, 45, 0, 0, 0) from rfl)).trans wq_d
theorem u143_17 : wp r 143 17 [a0, vI z] st x Q ↔ wp r 143 18 [a0, vI z] (vI z :: st) x Q := (wp_u (show cd 143 17 = some (.iload_n 1, 1, 0, 0, 0, 0) from rfl))
theorem u143_18 : wp r 143 18 ls (vI z0 :: st) x Q ↔ sml st = true ∧ 1 < r ∧ wpc 1 150 [vI z0] x (wk r 143 18 ls st Q) := (wp_u (show cd 143 18 = some (.invokestatic 191, 3, 150, 1, 1, 0) from rfl)).trans (g_stat (by decide) (by simp) rfl)
theorem u143_21 : wp r 143 21 ls (vI z :: st) x Q ↔ if z = 0 then wp r 143 45 ls st x Q else wp r 143 24 ls st x Q := (wp_u (show cd 143 21 = some (.ifCond .eq 24, 3, 45, 0, 0, 0) from rfl)).trans wq_d
theorem u143_24 : wp r 143 24 [vR o, a1] st x Q ↔ wp r 143 25 [vR o, a1] (vR o :: st) x Q := (wp_u (show cd 143 24 = some (.aload_n 0, 1, 0, 0, 0, 0) from rfl))
theorem u143_25 : wp r 143 25 ls (vA q :: st) x Q ↔ sbk 10 (hK x q) ∧ wp r 143 28 ls (vR (hR x q 0) :: st) x Q := (wp_u (show cd 143 25 = some (.getfield 15, 3, 10, 0, 5, 0) from rfl)).trans g_getR
theorem u143_28 : wp r 143 28 [vR o, a1] st x Q ↔ wp r 143 29 [vR o, a1] (vR o :: st) x Q := (wp_u (show cd 143 28 = some (.aload_n 0, 1, 0, 0, 0, 0) from rfl))
theorem u143_29i : wp r 143 29 ls (vI z :: st) x Q ↔ wp r 143 30 ls (vI z :: vI z :: st) x Q := (wp_u (show cd 143 29 = some (.dup, 1, 0, 0, 0, 0) from rfl))
theorem u143_29 : wp r 143 29 ls (vR o :: st) x Q ↔ wp r 143 30 ls (vR o :: vR o :: st) x Q := (wp_u (show cd 143 29 = some (.dup, 1, 0, 0, 0, 0) from rfl))
theorem u143_30 : wp r 143 30 ls (vA q :: st) x Q ↔ sbk 10 (hK x q) ∧ wp r 143 33 ls (vI (hI x q 3) :: st) x Q := (wp_u (show cd 143 30 = some (.getfield 79, 3, 10, 3, 0, 0) from rfl)).trans g_getI
theorem u143_33 : wp r 143 33 ls (vI z :: vR o :: st) x Q ↔ wp r 143 34 ls (vI z :: vR o :: vI z :: st) x Q := (wp_u (show cd 143 33 = some (.dup_x1, 1, 0, 0, 0, 0) from rfl))
theorem u143_34 : wp r 143 34 ls st x Q ↔ wp r 143 35 ls (vI 1 :: st) x Q := (wp_u (show cd 143 34 = some (.iconst 1, 1, 0, 0, 0, 0) from rfl))
theorem u143_35 : wp r 143 35 ls (vI w :: vI z :: st) x Q ↔ inI (z + w) = true ∧ wp r 143 36 ls (vI (z + w) :: st) x Q := (wp_u (show cd 143 35 = some (.iadd, 1, 0, 0, 0, 0) from rfl)).trans wq_if
theorem u143_36 : wp r 143 36 ls (vI z :: vA q :: st) x Q ↔ sbk 10 (hK x q) ∧ wp r 143 39 ls st (stI x q 3 z) Q := (wp_u (show cd 143 36 = some (.putfield 79, 3, 10, 3, 0, 0) from rfl)).trans g_putI0
theorem u143_39 : wp r 143 39 [a0, vI z] st x Q ↔ wp r 143 40 [a0, vI z] (vI z :: st) x Q := (wp_u (show cd 143 39 = some (.iload_n 1, 1, 0, 0, 0, 0) from rfl))
theorem u143_40 : wp r 143 40 ls (vI z :: st) x Q ↔ wp r 143 41 ls (vI (iI2b z) :: st) x Q := (wp_u (show cd 143 40 = some (.i2b, 1, 0, 0, 0, 0) from rfl)).trans (wq_if.trans (and_iff_right (inI_32 _)))
theorem u143_41 : wp r 143 41 ls (vI z :: vI i :: vA q :: st) x Q ↔ stb (hK x q) i z ∧ 4 ≤ q ∧ wp r 143 42 ls st (stI x q i z) Q := (wp_u (show cd 143 41 = some (.bastore, 1, 0, 0, 0, 0) from rfl)).trans g_stB
theorem u143_42 : wp r 143 42 ls st x Q ↔ wp r 143 75 ls st x Q := (wp_u (show cd 143 42 = some (.goto 33, 3, 75, 0, 0, 0) from rfl))
theorem u143_75 : wp r 143 75 [vR o, a1] st x Q ↔ wp r 143 76 [vR o, a1] (vR o :: st) x Q := (wp_u (show cd 143 75 = some (.aload_n 0, 1, 0, 0, 0, 0) from rfl))
theorem u143_76 : wp r 143 76 ls [vR o] x Q ↔ Q (.inl (some (vR o))) x := (wp_u (show cd 143 76 = some (.areturn, 1, 0, 0, 0, 0) from rfl))
theorem e143 : wpc r 143 [vA q, vI z0] x Q ↔ wp r 143 0 [vA q, vI z0] [] x Q := Iff.rfl
/-! 144 SB_appendI -/
theorem u144_0 : wp r 144 0 [vR o, a1] st x Q ↔ wp r 144 1 [vR o, a1] (vR o :: st) x Q := (wp_u (show cd 144 0 = some (.aload_n 0, 1, 0, 0, 0, 0) from rfl))
theorem u144_1 : wp r 144 1 [a0, vI z] st x Q ↔ wp r 144 2 [a0, vI z] (vI z :: st) x Q := (wp_u (show cd 144 1 = some (.iload_n 1, 1, 0, 0, 0, 0) from rfl))
theorem u144_2 : wp r 144 2 ls (vI z0 :: vA q :: st) x Q ↔ nnk (hK x q) ∧ sml st = true ∧ 5 < r ∧ wpc 5 151 [vA q, vI z0] x (wk r 144 2 ls st Q) := (wp_u (show cd 144 2 = some (.invokespecial 53, 3, 151, 2, 5, 0) from rfl)).trans (g_special rfl (by decide) (by simp) rfl)
theorem u144_5i : wp r 144 5 ls (vI z :: st) x Q ↔ wp r 144 6 ls st x Q := (wp_u (show cd 144 5 = some (.pop, 1, 0, 0, 0, 0) from rfl))
theorem u144_5 : wp r 144 5 ls (vR o :: st) x Q ↔ wp r 144 6 ls st x Q := (wp_u (show cd 144 5 = some (.pop, 1, 0, 0, 0, 0) from rfl))
theorem u144_6 : wp r 144 6 [vR o, a1] st x Q ↔ wp r 144 7 [vR o, a1] (vR o :: st) x Q := (wp_u (show cd 144 6 = some (.aload_n 0, 1, 0, 0, 0, 0) from rfl))
theorem u144_7 : wp r 144 7 ls [vR o] x Q ↔ Q (.inl (some (vR o))) x := (wp_u (show cd 144 7 = some (.areturn, 1, 0, 0, 0, 0) from rfl))
theorem e144 : wpc r 144 [vA q, vI z0] x Q ↔ wp r 144 0 [vA q, vI z0] [] x Q := Iff.rfl
/-! 145 AB_length -/
theorem u145_0 : wp r 145 0 [vR o] st x Q ↔ wp r 145 1 [vR o] (vR o :: st) x Q := (wp_u (show cd 145 0 = some (.aload_n 0, 1, 0, 0, 0, 0) from rfl))
theorem u145_1 : wp r 145 1 ls (vA q :: st) x Q ↔ sbk 10 (hK x q) ∧ wp r 145 4 ls (vI (hI x q 3) :: st) x Q := (wp_u (show cd 145 1 = some (.getfield 79, 3, 10, 3, 0, 0) from rfl)).trans g_getI
theorem u145_4 : wp r 145 4 ls [vI z] x Q ↔ Q (.inl (some (vI z))) x := (wp_u (show cd 145 4 = some (.ireturn, 1, 0, 0, 0, 0) from rfl))
theorem e145 : wpc r 145 [vA q] x Q ↔ wp r 145 0 [vA q] [] x Q := Iff.rfl
/-! 146 AB_charAt -/
theorem u146_0 : wp r 146 0 [vR o, a1, a2, a3, a4] st x Q ↔ wp r 146 1 [vR o, a1, a2, a3, a4] (vR o :: st) x Q := (wp_u (show cd 146 0 = some (.aload_n 0, 1, 0, 0, 0, 0) from rfl))
theorem u146_1 : wp r 146 1 ls (vA q :: st) x Q ↔ sbk 10 (hK x q) ∧ wp r 146 4 ls (vI (hI x q 1) :: st) x Q := (wp_u (show cd 146 1 = some (.getfield 22, 3, 10, 1, 3, 0) from rfl)).trans g_getI
theorem u146_4 : wp r 146 4 [a0, a1, a2, a3, a4] (vI z :: st) x Q ↔ wp r 146 5 [a0, a1, vI z, a3, a4] st x Q := (wp_u (show cd 146 4 = some (.istore_n 2, 1, 0, 0, 0, 0) from rfl))
theorem u146_5 : wp r 146 5 [vR o, a1, a2, a3, a4] st x Q ↔ wp r 146 6 [vR o, a1, a2, a3, a4] (vR o :: st) x Q := (wp_u (show cd 146 5 = some (.aload_n 0, 1, 0, 0, 0, 0) from rfl))
theorem u146_6 : wp r 146 6 ls (vA q :: st) x Q ↔ sbk 10 (hK x q) ∧ wp r 146 9 ls (vR (hR x q 0) :: st) x Q := (wp_u (show cd 146 6 = some (.getfield 15, 3, 10, 0, 5, 0) from rfl)).trans g_getR
theorem u146_9 : wp r 146 9 [a0, a1, a2, a3, a4] (vR o :: st) x Q ↔ wp r 146 10 [a0, a1, a2, vR o, a4] st x Q := (wp_u (show cd 146 9 = some (.astore_n 3, 1, 0, 0, 0, 0) from rfl))
theorem u146_10 : wp r 146 10 [vR o, a1, a2, a3, a4] st x Q ↔ wp r 146 11 [vR o, a1, a2, a3, a4] (vR o :: st) x Q := (wp_u (show cd 146 10 = some (.aload_n 0, 1, 0, 0, 0, 0) from rfl))
theorem u146_11 : wp r 146 11 ls (vA q :: st) x Q ↔ sbk 10 (hK x q) ∧ wp r 146 14 ls (vI (hI x q 3) :: st) x Q := (wp_u (show cd 146 11 = some (.getfield 79, 3, 10, 3, 0, 0) from rfl)).trans g_getI
theorem u146_14 : wp r 146 14 [a0, a1, a2, vR o, a4] st x Q ↔ wp r 146 15 [a0, a1, a2, vR o, a4] (vR o :: st) x Q := (wp_u (show cd 146 14 = some (.aload_n 3, 1, 0, 0, 0, 0) from rfl))
theorem u146_15 : wp r 146 15 ls (vA q :: st) x Q ↔ ark (hK x q) ∧ wp r 146 16 ls (vI (lnk (hK x q)) :: st) x Q := (wp_u (show cd 146 15 = some (.arraylength, 1, 0, 0, 0, 0) from rfl)).trans g_len
theorem u146_16 : wp r 146 16 [a0, a1, vI z, a3, a4] st x Q ↔ wp r 146 17 [a0, a1, vI z, a3, a4] (vI z :: st) x Q := (wp_u (show cd 146 16 = some (.iload_n 2, 1, 0, 0, 0, 0) from rfl))
theorem u146_17 : wp r 146 17 ls (vI w :: vI z :: st) x Q ↔ wp r 146 18 ls (vI (iShr z w) :: st) x Q := (wp_u (show cd 146 17 = some (.ishr, 1, 0, 0, 0, 0) from rfl)).trans (wq_if.trans (and_iff_right (inI_32 _)))
theorem u146_18 : wp r 146 18 ls (vI z1 :: vI z0 :: st) x Q ↔ sml st = true ∧ 1 < r ∧ wpc 1 152 [vI z0, vI z1] x (wk r 146 18 ls st Q) := (wp_u (show cd 146 18 = some (.invokestatic 138, 3, 152, 2, 1, 0) from rfl)).trans (g_stat (by decide) (by simp) rfl)
theorem u146_21 : wp r 146 21 [a0, a1, a2, a3, a4] (vI z :: st) x Q ↔ wp r 146 23 [a0, a1, a2, a3, vI z] st x Q := (wp_u (show cd 146 21 = some (.istore 4, 2, 0, 0, 0, 0) from rfl))
theorem u146_23 : wp r 146 23 [a0, vI z, a2, a3, a4] st x Q ↔ wp r 146 24 [a0, vI z, a2, a3, a4] (vI z :: st) x Q := (wp_u (show cd 146 23 = some (.iload_n 1, 1, 0, 0, 0, 0) from rfl))
theorem u146_24 : wp r 146 24 [a0, a1, a2, a3, vI z] st x Q ↔ wp r 146 26 [a0, a1, a2, a3, vI z] (vI z :: st) x Q := (wp_u (show cd 146 24 = some (.iload 4, 2, 0, 0, 0, 0) from rfl))
theorem u146_26 : wp r 146 26 ls (vI z1 :: vI z0 :: st) x Q ↔ sml st = true ∧ 2 < r ∧ wpc 2 153 [vI z0, vI z1] x (wk r 146 26 ls st Q) := (wp_u (show cd 146 26 = some (.invokestatic 144, 3, 153, 2, 2, 0) from rfl)).trans (g_stat (by decide) (by simp) rfl)
theorem u146_29 : wp r 146 29 [a0, a1, vI z, a3, a4] st x Q ↔ wp r 146 30 [a0, a1, vI z, a3, a4] (vI z :: st) x Q := (wp_u (show cd 146 29 = some (.iload_n 2, 1, 0, 0, 0, 0) from rfl))
theorem u146_30 : wp r 146 30 ls (vI z :: st) x Q ↔ if z = 0 then wp r 146 33 ls st x Q else wp r 146 42 ls st x Q := (wp_u (show cd 146 30 = some (.ifCond .ne 12, 3, 42, 0, 0, 0) from rfl)).trans wq_dn
theorem u146_33 : wp r 146 33 [a0, a1, a2, vR o, a4] st x Q ↔ wp r 146 34 [a0, a1, a2, vR o, a4] (vR o :: st) x Q := (wp_u (show cd 146 33 = some (.aload_n 3, 1, 0, 0, 0, 0) from rfl))
theorem u146_34 : wp r 146 34 [a0, vI z, a2, a3, a4] st x Q ↔ wp r 146 35 [a0, vI z, a2, a3, a4] (vI z :: st) x Q := (wp_u (show cd 146 34 = some (.iload_n 1, 1, 0, 0, 0, 0) from rfl))
theorem u146_35 : wp r 146 35 ls (vI i :: vA q :: st) x Q ↔ ldb (hK x q) i ∧ wp r 146 36 ls (vI (hI x q i) :: st) x Q := (wp_u (show cd 146 35 = some (.baload, 1, 0, 0, 0, 0) from rfl)).trans g_ldB
theorem u146_36 : wp r 146 36 ls st x Q ↔ wp r 146 39 ls (vI 255 :: st) x Q := (wp_u (show cd 146 36 = some (.sipush 255, 3, 0, 0, 0, 0) from rfl))
theorem u146_39 : wp r 146 39 ls (vI w :: vI z :: st) x Q ↔ wp r 146 40 ls (vI (iAnd z w) :: st) x Q := (wp_u (show cd 146 39 = some (.iand, 1, 0, 0, 0, 0) from rfl)).trans (wq_if.trans (and_iff_right (inI_32 _)))
theorem u146_40 : wp r 146 40 ls (vI z :: st) x Q ↔ wp r 146 41 ls (vI (iI2c z) :: st) x Q := (wp_u (show cd 146 40 = some (.i2c, 1, 0, 0, 0, 0) from rfl)).trans (wq_if.trans (and_iff_right (inI_32 _)))
theorem u146_41 : wp r 146 41 ls [vI z] x Q ↔ rg 1 z = true ∧ Q (.inl (some (vI z))) x := (wp_u (show cd 146 41 = some (.ireturn, 1, 1, 0, 0, 0) from rfl)).trans wq_if
theorem e146 : wpc r 146 [vA q, vI z0] x Q ↔ wp r 146 0 [vA q, vI z0, vL jk, vL jk, vL jk] [] x Q := Iff.rfl
/-! 147 SB_setLength -/
theorem u147_0 : wp r 147 0 [vR o, a1] st x Q ↔ wp r 147 1 [vR o, a1] (vR o :: st) x Q := (wp_u (show cd 147 0 = some (.aload_n 0, 1, 0, 0, 0, 0) from rfl))
theorem u147_1 : wp r 147 1 [a0, vI z] st x Q ↔ wp r 147 2 [a0, vI z] (vI z :: st) x Q := (wp_u (show cd 147 1 = some (.iload_n 1, 1, 0, 0, 0, 0) from rfl))
theorem u147_2 : wp r 147 2 ls (vI z0 :: vA q :: st) x Q ↔ nnk (hK x q) ∧ sml st = true ∧ 5 < r ∧ wpc 5 154 [vA q, vI z0] x (wk r 147 2 ls st Q) := (wp_u (show cd 147 2 = some (.invokespecial 333, 3, 154, 2, 5, 0) from rfl)).trans (g_special rfl (by decide) (by simp) rfl)
theorem u147_5 : wp r 147 5 ls [] x Q ↔ Q (.inl none) x := (wp_u (show cd 147 5 = some (.return_, 1, 0, 0, 0, 0) from rfl))
theorem e147 : wpc r 147 [vA q, vI z0] x Q ↔ wp r 147 0 [vA q, vI z0] [] x Q := Iff.rfl
/-! 148 AB_ensureCapacityInternal -/
theorem u148_0 : wp r 148 0 [vR o, a1, a2] st x Q ↔ wp r 148 1 [vR o, a1, a2] (vR o :: st) x Q := (wp_u (show cd 148 0 = some (.aload_n 0, 1, 0, 0, 0, 0) from rfl))
theorem u148_1 : wp r 148 1 ls (vA q :: st) x Q ↔ sbk 10 (hK x q) ∧ wp r 148 4 ls (vR (hR x q 0) :: st) x Q := (wp_u (show cd 148 1 = some (.getfield 15, 3, 10, 0, 5, 0) from rfl)).trans g_getR
theorem u148_4 : wp r 148 4 ls (vA q :: st) x Q ↔ ark (hK x q) ∧ wp r 148 5 ls (vI (lnk (hK x q)) :: st) x Q := (wp_u (show cd 148 4 = some (.arraylength, 1, 0, 0, 0, 0) from rfl)).trans g_len
theorem u148_5 : wp r 148 5 [vR o, a1, a2] st x Q ↔ wp r 148 6 [vR o, a1, a2] (vR o :: st) x Q := (wp_u (show cd 148 5 = some (.aload_n 0, 1, 0, 0, 0, 0) from rfl))
theorem u148_6 : wp r 148 6 ls (vA q :: st) x Q ↔ sbk 10 (hK x q) ∧ wp r 148 9 ls (vI (hI x q 1) :: st) x Q := (wp_u (show cd 148 6 = some (.getfield 22, 3, 10, 1, 3, 0) from rfl)).trans g_getI
theorem u148_9 : wp r 148 9 ls (vI w :: vI z :: st) x Q ↔ wp r 148 10 ls (vI (iShr z w) :: st) x Q := (wp_u (show cd 148 9 = some (.ishr, 1, 0, 0, 0, 0) from rfl)).trans (wq_if.trans (and_iff_right (inI_32 _)))
theorem u148_10 : wp r 148 10 [a0, a1, a2] (vI z :: st) x Q ↔ wp r 148 11 [a0, a1, vI z] st x Q := (wp_u (show cd 148 10 = some (.istore_n 2, 1, 0, 0, 0, 0) from rfl))
theorem u148_11 : wp r 148 11 [a0, vI z, a2] st x Q ↔ wp r 148 12 [a0, vI z, a2] (vI z :: st) x Q := (wp_u (show cd 148 11 = some (.iload_n 1, 1, 0, 0, 0, 0) from rfl))
theorem u148_12 : wp r 148 12 [a0, a1, vI z] st x Q ↔ wp r 148 13 [a0, a1, vI z] (vI z :: st) x Q := (wp_u (show cd 148 12 = some (.iload_n 2, 1, 0, 0, 0, 0) from rfl))
theorem u148_13 : wp r 148 13 ls (vI w :: vI z :: st) x Q ↔ inI (z - w) = true ∧ wp r 148 14 ls (vI (z - w) :: st) x Q := (wp_u (show cd 148 13 = some (.isub, 1, 0, 0, 0, 0) from rfl)).trans wq_if
theorem u148_14 : wp r 148 14 ls (vI z :: st) x Q ↔ if z ≤ 0 then wp r 148 38 ls st x Q else wp r 148 17 ls st x Q := (wp_u (show cd 148 14 = some (.ifCond .le 24, 3, 38, 0, 0, 0) from rfl)).trans wq_d
theorem u148_17 : wp r 148 17 [vR o, a1, a2] st x Q ↔ wp r 148 18 [vR o, a1, a2] (vR o :: st) x Q := (wp_u (show cd 148 17 = some (.aload_n 0, 1, 0, 0, 0, 0) from rfl))
theorem u148_18 : wp r 148 18 [vR o, a1, a2] st x Q ↔ wp r 148 19 [vR o, a1, a2] (vR o :: st) x Q := (wp_u (show cd 148 18 = some (.aload_n 0, 1, 0, 0, 0, 0) from rfl))
theorem u148_19 : wp r 148 19 ls (vA q :: st) x Q ↔ sbk 10 (hK x q) ∧ wp r 148 22 ls (vR (hR x q 0) :: st) x Q := (wp_u (show cd 148 19 = some (.getfield 15, 3, 10, 0, 5, 0) from rfl)).trans g_getR
theorem u148_22 : wp r 148 22 [vR o, a1, a2] st x Q ↔ wp r 148 23 [vR o, a1, a2] (vR o :: st) x Q := (wp_u (show cd 148 22 = some (.aload_n 0, 1, 0, 0, 0, 0) from rfl))
theorem u148_23 : wp r 148 23 [a0, vI z, a2] st x Q ↔ wp r 148 24 [a0, vI z, a2] (vI z :: st) x Q := (wp_u (show cd 148 23 = some (.iload_n 1, 1, 0, 0, 0, 0) from rfl))
theorem u148_24 : wp r 148 24 ls (vI z0 :: vA q :: st) x Q ↔ isk 10 (hK x q) ∧ sml st = true ∧ 3 < r ∧ wpc 3 155 [vA q, vI z0] x (wk r 148 24 ls st Q) := (wp_u (show cd 148 24 = some (.invokevirtual 104, 3, 155, 2, 3, 10) from rfl)).trans (g_virt rfl (by decide) (by simp) rfl)
theorem u148_27 : wp r 148 27 [vR o, a1, a2] st x Q ↔ wp r 148 28 [vR o, a1, a2] (vR o :: st) x Q := (wp_u (show cd 148 27 = some (.aload_n 0, 1, 0, 0, 0, 0) from rfl))
theorem u148_28 : wp r 148 28 ls (vA q :: st) x Q ↔ sbk 10 (hK x q) ∧ wp r 148 31 ls (vI (hI x q 1) :: st) x Q := (wp_u (show cd 148 28 = some (.getfield 22, 3, 10, 1, 3, 0) from rfl)).trans g_getI
theorem u148_31 : wp r 148 31 ls (vI w :: vI z :: st) x Q ↔ wp r 148 32 ls (vI (iShl z w) :: st) x Q := (wp_u (show cd 148 31 = some (.ishl, 1, 0, 0, 0, 0) from rfl)).trans (wq_if.trans (and_iff_right (inI_32 _)))
theorem u148_32 : wp r 148 32 ls (vI z1 :: vR o0 :: st) x Q ↔ sml st = true ∧ 2 < r ∧ wpc 2 156 [vR o0, vI z1] x (wk r 148 32 ls st Q) := (wp_u (show cd 148 32 = some (.invokestatic 108, 3, 156, 2, 2, 0) from rfl)).trans (g_stat (by decide) (by simp) rfl)
theorem u148_35 : wp r 148 35 ls (vR o :: vA q :: st) x Q ↔ sbk 10 (hK x q) ∧ wp r 148 38 ls st (stR x q 0 o) Q := (wp_u (show cd 148 35 = some (.putfield 15, 3, 10, 0, 5, 0) from rfl)).trans g_putR
theorem u148_38 : wp r 148 38 ls [] x Q ↔ Q (.inl none) x := (wp_u (show cd 148 38 = some (.return_, 1, 0, 0, 0, 0) from rfl))
theorem e148 : wpc r 148 [vA q, vI z0] x Q ↔ wp r 148 0 [vA q, vI z0, vL jk] [] x Q := Iff.rfl
/-! 149 AB_isLatin1 -/
theorem u149_0 : wp r 149 0 ls st x Q ↔ wp r 149 3 ls (vI 1 :: st) x Q := (wp_u (show cd 149 0 = some (.getstatic 18, 3, 0, 0, 0, 0) from rfl))
theorem u149_3 : wp r 149 3 ls (vI z :: st) x Q ↔ if z = 0 then wp r 149 17 ls st x Q else wp r 149 6 ls st x Q := (wp_u (show cd 149 3 = some (.ifCond .eq 14, 3, 17, 0, 0, 0) from rfl)).trans wq_d
theorem u149_6 : wp r 149 6 [vR o] st x Q ↔ wp r 149 7 [vR o] (vR o :: st) x Q := (wp_u (show cd 149 6 = some (.aload_n 0, 1, 0, 0, 0, 0) from rfl))
theorem u149_7 : wp r 149 7 ls (vA q :: st) x Q ↔ sbk 10 (hK x q) ∧ wp r 149 10 ls (vI (hI x q 1) :: st) x Q := (wp_u (show cd 149 7 = some (.getfield 22, 3, 10, 1, 3, 0) from rfl)).trans g_getI
theorem u149_10 : wp r 149 10 ls (vI z :: st) x Q ↔ if z = 0 then wp r 149 13 ls st x Q else wp r 149 17 ls st x Q := (wp_u (show cd 149 10 = some (.ifCond .ne 7, 3, 17, 0, 0, 0) from rfl)).trans wq_dn
theorem u149_13 : wp r 149 13 ls st x Q ↔ wp r 149 14 ls (vI 1 :: st) x Q := (wp_u (show cd 149 13 = some (.iconst 1, 1, 0, 0, 0, 0) from rfl))
theorem u149_14 : wp r 149 14 ls st x Q ↔ wp r 149 18 ls st x Q := (wp_u (show cd 149 14 = some (.goto 4, 3, 18, 0, 0, 0) from rfl))
theorem u149_17 : wp r 149 17 ls st x Q ↔ wp r 149 18 ls (vI 0 :: st) x Q := (wp_u (show cd 149 17 = some (.iconst 0, 1, 0, 0, 0, 0) from rfl))
theorem u149_18 : wp r 149 18 ls [vI z] x Q ↔ rg 4 z = true ∧ Q (.inl (some (vI z))) x := (wp_u (show cd 149 18 = some (.ireturn, 1, 4, 0, 0, 0) from rfl)).trans wq_if
theorem e149 : wpc r 149 [vA q] x Q ↔ wp r 149 0 [vA q] [] x Q := Iff.rfl
/-! 150 StringLatin1_canEncode -/
theorem u150_0 : wp r 150 0 [vI z] st x Q ↔ wp r 150 1 [vI z] (vI z :: st) x Q := (wp_u (show cd 150 0 = some (.iload_n 0, 1, 0, 0, 0, 0) from rfl))
theorem u150_1 : wp r 150 1 ls st x Q ↔ wp r 150 4 ls (vI 255 :: st) x Q := (wp_u (show cd 150 1 = some (.sipush 255, 3, 0, 0, 0, 0) from rfl))
theorem u150_4 : wp r 150 4 ls (vI w :: vI z :: st) x Q ↔ if w < z then wp r 150 11 ls st x Q else wp r 150 7 ls st x Q := (wp_u (show cd 150 4 = some (.if_icmp .gt 7, 3, 11, 0, 0, 0) from rfl)).trans wq_d
theorem u150_7 : wp r 150 7 ls st x Q ↔ wp r 150 8 ls (vI 1 :: st) x Q := (wp_u (show cd 150 7 = some (.iconst 1, 1, 0, 0, 0, 0) from rfl))
theorem u150_8 : wp r 150 8 ls st x Q ↔ wp r 150 12 ls st x Q := (wp_u (show cd 150 8 = some (.goto 4, 3, 12, 0, 0, 0) from rfl))
theorem u150_11 : wp r 150 11 ls st x Q ↔ wp r 150 12 ls (vI 0 :: st) x Q := (wp_u (show cd 150 11 = some (.iconst 0, 1, 0, 0, 0, 0) from rfl))
theorem u150_12 : wp r 150 12 ls [vI z] x Q ↔ rg 4 z = true ∧ Q (.inl (some (vI z))) x := (wp_u (show cd 150 12 = some (.ireturn, 1, 4, 0, 0, 0) from rfl)).trans wq_if
theorem e150 : wpc r 150 [vI z0] x Q ↔ wp r 150 0 [vI z0] [] x Q := Iff.rfl
/-! 151 AB_appendI -/
theorem u151_0 : wp r 151 0 [vR o, a1, a2, a3] st x Q ↔ wp r 151 1 [vR o, a1, a2, a3] (vR o :: st) x Q := (wp_u (show cd 151 0 = some (.aload_n 0, 1, 0, 0, 0, 0) from rfl))
theorem u151_1 : wp r 151 1 ls (vA q :: st) x Q ↔ sbk 10 (hK x q) ∧ wp r 151 4 ls (vI (hI x q 3) :: st) x Q := (wp_u (show cd 151 1 = some (.getfield 79, 3, 10, 3, 0, 0) from rfl)).trans g_getI
theorem u151_4 : wp r 151 4 [a0, a1, a2, a3] (vI z :: st) x Q ↔ wp r 151 5 [a0, a1, vI z, a3] st x Q := (wp_u (show cd 151 4 = some (.istore_n 2, 1, 0, 0, 0, 0) from rfl))
theorem u151_5 : wp r 151 5 [a0, a1, vI z, a3] st x Q ↔ wp r 151 6 [a0, a1, vI z, a3] (vI z :: st) x Q := (wp_u (show cd 151 5 = some (.iload_n 2, 1, 0, 0, 0, 0) from rfl))
theorem u151_6 : wp r 151 6 [a0, vI z, a2, a3] st x Q ↔ wp r 151 7 [a0, vI z, a2, a3] (vI z :: st) x Q := (wp_u (show cd 151 6 = some (.iload_n 1, 1, 0, 0, 0, 0) from rfl))
theorem u151_7 : wp r 151 7 ls (vI z0 :: st) x Q ↔ sml st = true ∧ 1 < r ∧ wpc 1 157 [vI z0] x (wk r 151 7 ls st Q) := (wp_u (show cd 151 7 = some (.invokestatic 245, 3, 157, 1, 1, 0) from rfl)).trans (g_stat (by decide) (by simp) rfl)
theorem u151_10 : wp r 151 10 ls (vI w :: vI z :: st) x Q ↔ inI (z + w) = true ∧ wp r 151 11 ls (vI (z + w) :: st) x Q := (wp_u (show cd 151 10 = some (.iadd, 1, 0, 0, 0, 0) from rfl)).trans wq_if
theorem u151_11 : wp r 151 11 [a0, a1, a2, a3] (vI z :: st) x Q ↔ wp r 151 12 [a0, a1, a2, vI z] st x Q := (wp_u (show cd 151 11 = some (.istore_n 3, 1, 0, 0, 0, 0) from rfl))
theorem u151_12 : wp r 151 12 [vR o, a1, a2, a3] st x Q ↔ wp r 151 13 [vR o, a1, a2, a3] (vR o :: st) x Q := (wp_u (show cd 151 12 = some (.aload_n 0, 1, 0, 0, 0, 0) from rfl))
theorem u151_13 : wp r 151 13 [a0, a1, a2, vI z] st x Q ↔ wp r 151 14 [a0, a1, a2, vI z] (vI z :: st) x Q := (wp_u (show cd 151 13 = some (.iload_n 3, 1, 0, 0, 0, 0) from rfl))
theorem u151_14 : wp r 151 14 ls (vI z0 :: vA q :: st) x Q ↔ isk 10 (hK x q) ∧ sml st = true ∧ 4 < r ∧ wpc 4 148 [vA q, vI z0] x (wk r 151 14 ls st Q) := (wp_u (show cd 151 14 = some (.invokevirtual 100, 3, 148, 2, 4, 10) from rfl)).trans (g_virt rfl (by decide) (by simp) rfl)
theorem u151_17 : wp r 151 17 [vR o, a1, a2, a3] st x Q ↔ wp r 151 18 [vR o, a1, a2, a3] (vR o :: st) x Q := (wp_u (show cd 151 17 = some (.aload_n 0, 1, 0, 0, 0, 0) from rfl))
theorem u151_18 : wp r 151 18 ls (vA q :: st) x Q ↔ isk 10 (hK x q) ∧ sml st = true ∧ 1 < r ∧ wpc 1 149 [vA q] x (wk r 151 18 ls st Q) := (wp_u (show cd 151 18 = some (.invokevirtual 83, 3, 149, 1, 1, 10) from rfl)).trans (g_virt rfl (by decide) (by simp) rfl)
theorem u151_21 : wp r 151 21 ls (vI z :: st) x Q ↔ if z = 0 then wp r 151 37 ls st x Q else wp r 151 24 ls st x Q := (wp_u (show cd 151 21 = some (.ifCond .eq 16, 3, 37, 0, 0, 0) from rfl)).trans wq_d
theorem u151_24 : wp r 151 24 [a0, vI z, a2, a3] st x Q ↔ wp r 151 25 [a0, vI z, a2, a3] (vI z :: st) x Q := (wp_u (show cd 151 24 = some (.iload_n 1, 1, 0, 0, 0, 0) from rfl))
theorem u151_25 : wp r 151 25 [a0, a1, a2, vI z] st x Q ↔ wp r 151 26 [a0, a1, a2, vI z] (vI z :: st) x Q := (wp_u (show cd 151 25 = some (.iload_n 3, 1, 0, 0, 0, 0) from rfl))
theorem u151_26 : wp r 151 26 [vR o, a1, a2, a3] st x Q ↔ wp r 151 27 [vR o, a1, a2, a3] (vR o :: st) x Q := (wp_u (show cd 151 26 = some (.aload_n 0, 1, 0, 0, 0, 0) from rfl))
theorem u151_27 : wp r 151 27 ls (vA q :: st) x Q ↔ sbk 10 (hK x q) ∧ wp r 151 30 ls (vR (hR x q 0) :: st) x Q := (wp_u (show cd 151 27 = some (.getfield 15, 3, 10, 0, 5, 0) from rfl)).trans g_getR
theorem u151_30 : wp r 151 30 ls (vR o2 :: vI z1 :: vI z0 :: st) x Q ↔ sml st = true ∧ 1 < r ∧ wpc 1 158 [vI z0, vI z1, vR o2] x (wk r 151 30 ls st Q) := (wp_u (show cd 151 30 = some (.invokestatic 248, 3, 158, 3, 1, 0) from rfl)).trans (g_stat (by decide) (by simp) rfl)
theorem u151_33i : wp r 151 33 ls (vI z :: st) x Q ↔ wp r 151 34 ls st x Q := (wp_u (show cd 151 33 = some (.pop, 1, 0, 0, 0, 0) from rfl))
theorem u151_33 : wp r 151 33 ls (vR o :: st) x Q ↔ wp r 151 34 ls st x Q := (wp_u (show cd 151 33 = some (.pop, 1, 0, 0, 0, 0) from rfl))
theorem u151_34 : wp r 151 34 ls st x Q ↔ wp r 151 48 ls st x Q := (wp_u (show cd 151 34 = some (.goto 14, 3, 48, 0, 0, 0) from rfl))
theorem u151_48 : wp r 151 48 [vR o, a1, a2, a3] st x Q ↔ wp r 151 49 [vR o, a1, a2, a3] (vR o :: st) x Q := (wp_u (show cd 151 48 = some (.aload_n 0, 1, 0, 0, 0, 0) from rfl))
theorem u151_49 : wp r 151 49 [a0, a1, a2, vI z] st x Q ↔ wp r 151 50 [a0, a1, a2, vI z] (vI z :: st) x Q := (wp_u (show cd 151 49 = some (.iload_n 3, 1, 0, 0, 0, 0) from rfl))
theorem u151_50 : wp r 151 50 ls (vI z :: vA q :: st) x Q ↔ sbk 10 (hK x q) ∧ wp r 151 53 ls st (stI x q 3 z) Q := (wp_u (show cd 151 50 = some (.putfield 79, 3, 10, 3, 0, 0) from rfl)).trans g_putI0
theorem u151_53 : wp r 151 53 [vR o, a1, a2, a3] st x Q ↔ wp r 151 54 [vR o, a1, a2, a3] (vR o :: st) x Q := (wp_u (show cd 151 53 = some (.aload_n 0, 1, 0, 0, 0, 0) from rfl))
theorem u151_54 : wp r 151 54 ls [vR o] x Q ↔ Q (.inl (some (vR o))) x := (wp_u (show cd 151 54 = some (.areturn, 1, 0, 0, 0, 0) from rfl))
theorem e151 : wpc r 151 [vA q, vI z0] x Q ↔ wp r 151 0 [vA q, vI z0, vL jk, vL jk] [] x Q := Iff.rfl
/-! 152 Math_min -/
theorem u152_0 : wp r 152 0 [vI z, a1] st x Q ↔ wp r 152 1 [vI z, a1] (vI z :: st) x Q := (wp_u (show cd 152 0 = some (.iload_n 0, 1, 0, 0, 0, 0) from rfl))
theorem u152_1 : wp r 152 1 [a0, vI z] st x Q ↔ wp r 152 2 [a0, vI z] (vI z :: st) x Q := (wp_u (show cd 152 1 = some (.iload_n 1, 1, 0, 0, 0, 0) from rfl))
theorem u152_2 : wp r 152 2 ls (vI w :: vI z :: st) x Q ↔ if w < z then wp r 152 9 ls st x Q else wp r 152 5 ls st x Q := (wp_u (show cd 152 2 = some (.if_icmp .gt 7, 3, 9, 0, 0, 0) from rfl)).trans wq_d
theorem u152_5 : wp r 152 5 [vI z, a1] st x Q ↔ wp r 152 6 [vI z, a1] (vI z :: st) x Q := (wp_u (show cd 152 5 = some (.iload_n 0, 1, 0, 0, 0, 0) from rfl))
theorem u152_6 : wp r 152 6 ls st x Q ↔ wp r 152 10 ls st x Q := (wp_u (show cd 152 6 = some (.goto 4, 3, 10, 0, 0, 0) from rfl))
theorem u152_9 : wp r 152 9 [a0, vI z] st x Q ↔ wp r 152 10 [a0, vI z] (vI z :: st) x Q := (wp_u (show cd 152 9 = some (.iload_n 1, 1, 0, 0, 0, 0) from rfl))
theorem u152_10 : wp r 152 10 ls [vI z] x Q ↔ Q (.inl (some (vI z))) x := (wp_u (show cd 152 10 = some (.ireturn, 1, 0, 0, 0, 0) from rfl))
theorem e152 : wpc r 152 [vI z0, vI z1] x Q ↔ wp r 152 0 [vI z0, vI z1] [] x Q := Iff.rfl
/-! 153 String_checkIndex -/
theorem u153_0 : wp r 153 0 [vI z, a1] st x Q ↔ wp r 153 1 [vI z, a1] (vI z :: st) x Q := (wp_u (show cd 153 0 = some (.iload_n 0, 1, 0, 0, 0, 0) from rfl))
theorem u153_1 : wp r 153 1 [a0, vI z] st x Q ↔ wp r 153 2 [a0, vI z] (vI z :: st) x Q := (wp_u (show cd 153 1 = some (.iload_n 1, 1, 0, 0, 0, 0) from rfl))
theorem u153_2 : wp r 153 2 ls st x Q ↔ wp r 153 5 ls (vA 3 :: st) x Q := (wp_u (show cd 153 2 = some (.getstatic 1053, 3, 3, 0, 0, 0) from rfl))
theorem u153_5 : wp r 153 5 ls (vR o2 :: vI z1 :: vI z0 :: st) x Q ↔ sml st = true ∧ 1 < r ∧ wpc 1 159 [vI z0, vI z1, vR o2] x (wk r 153 5 ls st Q) := (wp_u (show cd 153 5 = some (.invokestatic 1059, 3, 159, 3, 1, 0) from rfl)).trans (g_stat (by decide) (by simp) rfl)
theorem u153_8i : wp r 153 8 ls (vI z :: st) x Q ↔ wp r 153 9 ls st x Q := (wp_u (show cd 153 8 = some (.pop, 1, 0, 0, 0, 0) from rfl))
theorem u153_8 : wp r 153 8 ls (vR o :: st) x Q ↔ wp r 153 9 ls st x Q := (wp_u (show cd 153 8 = some (.pop, 1, 0, 0, 0, 0) from rfl))
theorem u153_9 : wp r 153 9 ls [] x Q ↔ Q (.inl none) x := (wp_u (show cd 153 9 = some (.return_, 1, 0, 0, 0, 0) from rfl))
theorem e153 : wpc r 153 [vI z0, vI z1] x Q ↔ wp r 153 0 [vI z0, vI z1] [] x Q := Iff.rfl
/-! 154 AB_setLength -/
theorem u154_0 : wp r 154 0 [a0, vI z] st x Q ↔ wp r 154 1 [a0, vI z] (vI z :: st) x Q := (wp_u (show cd 154 0 = some (.iload_n 1, 1, 0, 0, 0, 0) from rfl))
theorem u154_1 : wp r 154 1 ls (vI z :: st) x Q ↔ if 0 ≤ z then wp r 154 13 ls st x Q else wp r 154 4 ls st x Q := (wp_u (show cd 154 1 = some (.ifCond .ge 12, 3, 13, 0, 0, 0) from rfl)).trans wq_d
theorem u154_13 : wp r 154 13 [vR o, a1] st x Q ↔ wp r 154 14 [vR o, a1] (vR o :: st) x Q := (wp_u (show cd 154 13 = some (.aload_n 0, 1, 0, 0, 0, 0) from rfl))
theorem u154_14 : wp r 154 14 [a0, vI z] st x Q ↔ wp r 154 15 [a0, vI z] (vI z :: st) x Q := (wp_u (show cd 154 14 = some (.iload_n 1, 1, 0, 0, 0, 0) from rfl))
theorem u154_15 : wp r 154 15 ls (vI z0 :: vA q :: st) x Q ↔ isk 10 (hK x q) ∧ sml st = true ∧ 4 < r ∧ wpc 4 148 [vA q, vI z0] x (wk r 154 15 ls st Q) := (wp_u (show cd 154 15 = some (.invokevirtual 100, 3, 148, 2, 4, 10) from rfl)).trans (g_virt rfl (by decide) (by simp) rfl)
theorem u154_18 : wp r 154 18 [vR o, a1] st x Q ↔ wp r 154 19 [vR o, a1] (vR o :: st) x Q := (wp_u (show cd 154 18 = some (.aload_n 0, 1, 0, 0, 0, 0) from rfl))
theorem u154_19 : wp r 154 19 ls (vA q :: st) x Q ↔ sbk 10 (hK x q) ∧ wp r 154 22 ls (vI (hI x q 3) :: st) x Q := (wp_u (show cd 154 19 = some (.getfield 79, 3, 10, 3, 0, 0) from rfl)).trans g_getI
theorem u154_22 : wp r 154 22 [a0, vI z] st x Q ↔ wp r 154 23 [a0, vI z] (vI z :: st) x Q := (wp_u (show cd 154 22 = some (.iload_n 1, 1, 0, 0, 0, 0) from rfl))
theorem u154_23 : wp r 154 23 ls (vI w :: vI z :: st) x Q ↔ if w ≤ z then wp r 154 63 ls st x Q else wp r 154 26 ls st x Q := (wp_u (show cd 154 23 = some (.if_icmp .ge 40, 3, 63, 0, 0, 0) from rfl)).trans wq_d
theorem u154_63 : wp r 154 63 [vR o, a1] st x Q ↔ wp r 154 64 [vR o, a1] (vR o :: st) x Q := (wp_u (show cd 154 63 = some (.aload_n 0, 1, 0, 0, 0, 0) from rfl))
theorem u154_64 : wp r 154 64 ls (vA q :: st) x Q ↔ sbk 10 (hK x q) ∧ wp r 154 67 ls (vI (hI x q 3) :: st) x Q := (wp_u (show cd 154 64 = some (.getfield 79, 3, 10, 3, 0, 0) from rfl)).trans g_getI
theorem u154_67 : wp r 154 67 [a0, vI z] st x Q ↔ wp r 154 68 [a0, vI z] (vI z :: st) x Q := (wp_u (show cd 154 67 = some (.iload_n 1, 1, 0, 0, 0, 0) from rfl))
theorem u154_68 : wp r 154 68 ls (vI w :: vI z :: st) x Q ↔ if z ≤ w then wp r 154 76 ls st x Q else wp r 154 71 ls st x Q := (wp_u (show cd 154 68 = some (.if_icmp .le 8, 3, 76, 0, 0, 0) from rfl)).trans wq_d
theorem u154_71 : wp r 154 71 [vR o, a1] st x Q ↔ wp r 154 72 [vR o, a1] (vR o :: st) x Q := (wp_u (show cd 154 71 = some (.aload_n 0, 1, 0, 0, 0, 0) from rfl))
theorem u154_72 : wp r 154 72 ls st x Q ↔ wp r 154 73 ls (vI 1 :: st) x Q := (wp_u (show cd 154 72 = some (.iconst 1, 1, 0, 0, 0, 0) from rfl))
theorem u154_73 : wp r 154 73 ls (vI z :: vA q :: st) x Q ↔ sbk 10 (hK x q) ∧ rg 4 z = true ∧ wp r 154 76 ls st (stI x q 2 z) Q := (wp_u (show cd 154 73 = some (.putfield 73, 3, 10, 2, 4, 0) from rfl)).trans g_putI
theorem u154_76 : wp r 154 76 [vR o, a1] st x Q ↔ wp r 154 77 [vR o, a1] (vR o :: st) x Q := (wp_u (show cd 154 76 = some (.aload_n 0, 1, 0, 0, 0, 0) from rfl))
theorem u154_77 : wp r 154 77 [a0, vI z] st x Q ↔ wp r 154 78 [a0, vI z] (vI z :: st) x Q := (wp_u (show cd 154 77 = some (.iload_n 1, 1, 0, 0, 0, 0) from rfl))
theorem u154_78 : wp r 154 78 ls (vI z :: vA q :: st) x Q ↔ sbk 10 (hK x q) ∧ wp r 154 81 ls st (stI x q 3 z) Q := (wp_u (show cd 154 78 = some (.putfield 79, 3, 10, 3, 0, 0) from rfl)).trans g_putI0
theorem u154_81 : wp r 154 81 ls [] x Q ↔ Q (.inl none) x := (wp_u (show cd 154 81 = some (.return_, 1, 0, 0, 0, 0) from rfl))
theorem e154 : wpc r 154 [vA q, vI z0] x Q ↔ wp r 154 0 [vA q, vI z0] [] x Q := Iff.rfl
/-! 155 AB_newCapacity -/
theorem u155_0 : wp r 155 0 [vR o, a1, a2, a3, a4, a5] st x Q ↔ wp r 155 1 [vR o, a1, a2, a3, a4, a5] (vR o :: st) x Q := (wp_u (show cd 155 0 = some (.aload_n 0, 1, 0, 0, 0, 0) from rfl))
theorem u155_1 : wp r 155 1 ls (vA q :: st) x Q ↔ sbk 10 (hK x q) ∧ wp r 155 4 ls (vR (hR x q 0) :: st) x Q := (wp_u (show cd 155 1 = some (.getfield 15, 3, 10, 0, 5, 0) from rfl)).trans g_getR
theorem u155_4 : wp r 155 4 ls (vA q :: st) x Q ↔ ark (hK x q) ∧ wp r 155 5 ls (vI (lnk (hK x q)) :: st) x Q := (wp_u (show cd 155 4 = some (.arraylength, 1, 0, 0, 0, 0) from rfl)).trans g_len
theorem u155_5 : wp r 155 5 [a0, a1, a2, a3, a4, a5] (vI z :: st) x Q ↔ wp r 155 6 [a0, a1, vI z, a3, a4, a5] st x Q := (wp_u (show cd 155 5 = some (.istore_n 2, 1, 0, 0, 0, 0) from rfl))
theorem u155_6 : wp r 155 6 [a0, vI z, a2, a3, a4, a5] st x Q ↔ wp r 155 7 [a0, vI z, a2, a3, a4, a5] (vI z :: st) x Q := (wp_u (show cd 155 6 = some (.iload_n 1, 1, 0, 0, 0, 0) from rfl))
theorem u155_7 : wp r 155 7 [vR o, a1, a2, a3, a4, a5] st x Q ↔ wp r 155 8 [vR o, a1, a2, a3, a4, a5] (vR o :: st) x Q := (wp_u (show cd 155 7 = some (.aload_n 0, 1, 0, 0, 0, 0) from rfl))
theorem u155_8 : wp r 155 8 ls (vA q :: st) x Q ↔ sbk 10 (hK x q) ∧ wp r 155 11 ls (vI (hI x q 1) :: st) x Q := (wp_u (show cd 155 8 = some (.getfield 22, 3, 10, 1, 3, 0) from rfl)).trans g_getI
theorem u155_11 : wp r 155 11 ls (vI w :: vI z :: st) x Q ↔ wp r 155 12 ls (vI (iShl z w) :: st) x Q := (wp_u (show cd 155 11 = some (.ishl, 1, 0, 0, 0, 0) from rfl)).trans (wq_if.trans (and_iff_right (inI_32 _)))
theorem u155_12 : wp r 155 12 [a0, a1, a2, a3, a4, a5] (vI z :: st) x Q ↔ wp r 155 13 [a0, a1, a2, vI z, a4, a5] st x Q := (wp_u (show cd 155 12 = some (.istore_n 3, 1, 0, 0, 0, 0) from rfl))
theorem u155_13 : wp r 155 13 [a0, a1, a2, vI z, a4, a5] st x Q ↔ wp r 155 14 [a0, a1, a2, vI z, a4, a5] (vI z :: st) x Q := (wp_u (show cd 155 13 = some (.iload_n 3, 1, 0, 0, 0, 0) from rfl))
theorem u155_14 : wp r 155 14 [a0, a1, vI z, a3, a4, a5] st x Q ↔ wp r 155 15 [a0, a1, vI z, a3, a4, a5] (vI z :: st) x Q := (wp_u (show cd 155 14 = some (.iload_n 2, 1, 0, 0, 0, 0) from rfl))
theorem u155_15 : wp r 155 15 ls (vI w :: vI z :: st) x Q ↔ inI (z - w) = true ∧ wp r 155 16 ls (vI (z - w) :: st) x Q := (wp_u (show cd 155 15 = some (.isub, 1, 0, 0, 0, 0) from rfl)).trans wq_if
theorem u155_16 : wp r 155 16 [a0, a1, a2, a3, a4, a5] (vI z :: st) x Q ↔ wp r 155 18 [a0, a1, a2, a3, vI z, a5] st x Q := (wp_u (show cd 155 16 = some (.istore 4, 2, 0, 0, 0, 0) from rfl))
theorem u155_18 : wp r 155 18 [a0, a1, vI z, a3, a4, a5] st x Q ↔ wp r 155 19 [a0, a1, vI z, a3, a4, a5] (vI z :: st) x Q := (wp_u (show cd 155 18 = some (.iload_n 2, 1, 0, 0, 0, 0) from rfl))
theorem u155_19 : wp r 155 19 [a0, a1, a2, a3, vI z, a5] st x Q ↔ wp r 155 21 [a0, a1, a2, a3, vI z, a5] (vI z :: st) x Q := (wp_u (show cd 155 19 = some (.iload 4, 2, 0, 0, 0, 0) from rfl))
theorem u155_21 : wp r 155 21 [a0, a1, vI z, a3, a4, a5] st x Q ↔ wp r 155 22 [a0, a1, vI z, a3, a4, a5] (vI z :: st) x Q := (wp_u (show cd 155 21 = some (.iload_n 2, 1, 0, 0, 0, 0) from rfl))
theorem u155_22 : wp r 155 22 ls st x Q ↔ wp r 155 23 ls (vI 2 :: st) x Q := (wp_u (show cd 155 22 = some (.iconst 2, 1, 0, 0, 0, 0) from rfl))
theorem u155_23 : wp r 155 23 [vR o, a1, a2, a3, a4, a5] st x Q ↔ wp r 155 24 [vR o, a1, a2, a3, a4, a5] (vR o :: st) x Q := (wp_u (show cd 155 23 = some (.aload_n 0, 1, 0, 0, 0, 0) from rfl))
theorem u155_24 : wp r 155 24 ls (vA q :: st) x Q ↔ sbk 10 (hK x q) ∧ wp r 155 27 ls (vI (hI x q 1) :: st) x Q := (wp_u (show cd 155 24 = some (.getfield 22, 3, 10, 1, 3, 0) from rfl)).trans g_getI
theorem u155_27 : wp r 155 27 ls (vI w :: vI z :: st) x Q ↔ wp r 155 28 ls (vI (iShl z w) :: st) x Q := (wp_u (show cd 155 27 = some (.ishl, 1, 0, 0, 0, 0) from rfl)).trans (wq_if.trans (and_iff_right (inI_32 _)))
theorem u155_28 : wp r 155 28 ls (vI w :: vI z :: st) x Q ↔ inI (z + w) = true ∧ wp r 155 29 ls (vI (z + w) :: st) x Q := (wp_u (show cd 155 28 = some (.iadd, 1, 0, 0, 0, 0) from rfl)).trans wq_if
theorem u155_29 : wp r 155 29 ls (vI z2 :: vI z1 :: vI z0 :: st) x Q ↔ sml st = true ∧ 2 < r ∧ wpc 2 160 [vI z0, vI z1, vI z2] x (wk r 155 29 ls st Q) := (wp_u (show cd 155 29 = some (.invokestatic 114, 3, 160, 3, 2, 0) from rfl)).trans (g_stat (by decide) (by simp) rfl)
theorem u155_32 : wp r 155 32 [a0, a1, a2, a3, a4, a5] (vI z :: st) x Q ↔ wp r 155 34 [a0, a1, a2, a3, a4, vI z] st x Q := (wp_u (show cd 155 32 = some (.istore 5, 2, 0, 0, 0, 0) from rfl))
theorem u155_34 : wp r 155 34 [a0, a1, a2, a3, a4, vI z] st x Q ↔ wp r 155 36 [a0, a1, a2, a3, a4, vI z] (vI z :: st) x Q := (wp_u (show cd 155 34 = some (.iload 5, 2, 0, 0, 0, 0) from rfl))
theorem u155_36 : wp r 155 36 ls st x Q ↔ wp r 155 38 ls (vI 2147483647 :: st) x Q := (wp_u (show cd 155 36 = some (.ldc 39, 2, 2147483647, 0, 0, 0) from rfl))
theorem u155_38 : wp r 155 38 ls (vI w :: vI z :: st) x Q ↔ if z = w then wp r 155 41 ls st x Q else wp r 155 51 ls st x Q := (wp_u (show cd 155 38 = some (.if_icmp .ne 13, 3, 51, 0, 0, 0) from rfl)).trans wq_dn
theorem u155_51 : wp r 155 51 [a0, a1, a2, a3, a4, vI z] st x Q ↔ wp r 155 53 [a0, a1, a2, a3, a4, vI z] (vI z :: st) x Q := (wp_u (show cd 155 51 = some (.iload 5, 2, 0, 0, 0, 0) from rfl))
theorem u155_53 : wp r 155 53 [vR o, a1, a2, a3, a4, a5] st x Q ↔ wp r 155 54 [vR o, a1, a2, a3, a4, a5] (vR o :: st) x Q := (wp_u (show cd 155 53 = some (.aload_n 0, 1, 0, 0, 0, 0) from rfl))
theorem u155_54 : wp r 155 54 ls (vA q :: st) x Q ↔ sbk 10 (hK x q) ∧ wp r 155 57 ls (vI (hI x q 1) :: st) x Q := (wp_u (show cd 155 54 = some (.getfield 22, 3, 10, 1, 3, 0) from rfl)).trans g_getI
theorem u155_57 : wp r 155 57 ls (vI w :: vI z :: st) x Q ↔ wp r 155 58 ls (vI (iShr z w) :: st) x Q := (wp_u (show cd 155 57 = some (.ishr, 1, 0, 0, 0, 0) from rfl)).trans (wq_if.trans (and_iff_right (inI_32 _)))
theorem u155_58 : wp r 155 58 ls [vI z] x Q ↔ Q (.inl (some (vI z))) x := (wp_u (show cd 155 58 = some (.ireturn, 1, 0, 0, 0, 0) from rfl))
theorem e155 : wpc r 155 [vA q, vI z0] x Q ↔ wp r 155 0 [vA q, vI z0, vL jk, vL jk, vL jk, vL jk] [] x Q := Iff.rfl
/-! 156 Arrays_copyOf -/
theorem u156_0 : wp r 156 0 [a0, vI z, a2] st x Q ↔ wp r 156 1 [a0, vI z, a2] (vI z :: st) x Q := (wp_u (show cd 156 0 = some (.iload_n 1, 1, 0, 0, 0, 0) from rfl))
theorem u156_1 : wp r 156 1 [vR o, a1, a2] st x Q ↔ wp r 156 2 [vR o, a1, a2] (vR o :: st) x Q := (wp_u (show cd 156 1 = some (.aload_n 0, 1, 0, 0, 0, 0) from rfl))
theorem u156_2 : wp r 156 2 ls (vA q :: st) x Q ↔ ark (hK x q) ∧ wp r 156 3 ls (vI (lnk (hK x q)) :: st) x Q := (wp_u (show cd 156 2 = some (.arraylength, 1, 0, 0, 0, 0) from rfl)).trans g_len
theorem u156_3 : wp r 156 3 ls (vI w :: vI z :: st) x Q ↔ if z = w then wp r 156 6 ls st x Q else wp r 156 14 ls st x Q := (wp_u (show cd 156 3 = some (.if_icmp .ne 11, 3, 14, 0, 0, 0) from rfl)).trans wq_dn
theorem u156_14 : wp r 156 14 [a0, vI z, a2] st x Q ↔ wp r 156 15 [a0, vI z, a2] (vI z :: st) x Q := (wp_u (show cd 156 14 = some (.iload_n 1, 1, 0, 0, 0, 0) from rfl))
theorem u156_15 : wp r 156 15 ls (vI z :: st) x Q ↔ (0 ≤ z ∧ z ≤ 100000) ∧ nok x z.toNat ∧ wp r 156 17 ls (vA (hN x) :: st) (nwO x 23 z.toNat) Q := (wp_u (show cd 156 15 = some (.newarray .byte, 2, 23, 0, 0, 0) from rfl)).trans g_newA
theorem u156_17 : wp r 156 17 [a0, a1, a2] (vR o :: st) x Q ↔ wp r 156 18 [a0, a1, vR o] st x Q := (wp_u (show cd 156 17 = some (.astore_n 2, 1, 0, 0, 0, 0) from rfl))
theorem u156_18 : wp r 156 18 [vR o, a1, a2] st x Q ↔ wp r 156 19 [vR o, a1, a2] (vR o :: st) x Q := (wp_u (show cd 156 18 = some (.aload_n 0, 1, 0, 0, 0, 0) from rfl))
theorem u156_19 : wp r 156 19 ls st x Q ↔ wp r 156 20 ls (vI 0 :: st) x Q := (wp_u (show cd 156 19 = some (.iconst 0, 1, 0, 0, 0, 0) from rfl))
theorem u156_20 : wp r 156 20 [a0, a1, vR o] st x Q ↔ wp r 156 21 [a0, a1, vR o] (vR o :: st) x Q := (wp_u (show cd 156 20 = some (.aload_n 2, 1, 0, 0, 0, 0) from rfl))
theorem u156_21 : wp r 156 21 ls st x Q ↔ wp r 156 22 ls (vI 0 :: st) x Q := (wp_u (show cd 156 21 = some (.iconst 0, 1, 0, 0, 0, 0) from rfl))
theorem u156_22 : wp r 156 22 [vR o, a1, a2] st x Q ↔ wp r 156 23 [vR o, a1, a2] (vR o :: st) x Q := (wp_u (show cd 156 22 = some (.aload_n 0, 1, 0, 0, 0, 0) from rfl))
theorem u156_23 : wp r 156 23 ls (vA q :: st) x Q ↔ ark (hK x q) ∧ wp r 156 24 ls (vI (lnk (hK x q)) :: st) x Q := (wp_u (show cd 156 23 = some (.arraylength, 1, 0, 0, 0, 0) from rfl)).trans g_len
theorem u156_24 : wp r 156 24 [a0, vI z, a2] st x Q ↔ wp r 156 25 [a0, vI z, a2] (vI z :: st) x Q := (wp_u (show cd 156 24 = some (.iload_n 1, 1, 0, 0, 0, 0) from rfl))
theorem u156_25 : wp r 156 25 ls (vI z1 :: vI z0 :: st) x Q ↔ sml st = true ∧ 1 < r ∧ wpc 1 152 [vI z0, vI z1] x (wk r 156 25 ls st Q) := (wp_u (show cd 156 25 = some (.invokestatic 304, 3, 152, 2, 1, 0) from rfl)).trans (g_stat (by decide) (by simp) rfl)
theorem u156_28 : wp r 156 28 ls (vI n :: vI dp :: vA d :: vI sp :: vA s :: st) x Q ↔ cpk (hK x s) (hK x d) sp dp n ∧ 4 ≤ d ∧ 4 ≤ s ∧ (¬ s = d) ∧ sml st = true ∧ wp r 156 31 ls st (stF x d (cpy (hI x s) (hI x d) sp dp n)) Q := (wp_u (show cd 156 28 = some (.invokestatic 150, 3, 1002, 5, 0, 0) from rfl)).trans g_copy
theorem u156_31 : wp r 156 31 [a0, a1, vR o] st x Q ↔ wp r 156 32 [a0, a1, vR o] (vR o :: st) x Q := (wp_u (show cd 156 31 = some (.aload_n 2, 1, 0, 0, 0, 0) from rfl))
theorem u156_32 : wp r 156 32 ls [vR o] x Q ↔ Q (.inl (some (vR o))) x := (wp_u (show cd 156 32 = some (.areturn, 1, 0, 0, 0, 0) from rfl))
theorem e156 : wpc r 156 [vR o0, vI z1] x Q ↔ wp r 156 0 [vR o0, vI z1, vL jk] [] x Q := Iff.rfl
/-! 157 Integer_stringSize -/
theorem u157_0 : wp r 157 0 ls st x Q ↔ wp r 157 1 ls (vI 1 :: st) x Q := (wp_u (show cd 157 0 = some (.iconst 1, 1, 0, 0, 0, 0) from rfl))
theorem u157_1 : wp r 157 1 [a0, a1, a2, a3] (vI z :: st) x Q ↔ wp r 157 2 [a0, vI z, a2, a3] st x Q := (wp_u (show cd 157 1 = some (.istore_n 1, 1, 0, 0, 0, 0) from rfl))
theorem u157_2 : wp r 157 2 [vI z, a1, a2, a3] st x Q ↔ wp r 157 3 [vI z, a1, a2, a3] (vI z :: st) x Q := (wp_u (show cd 157 2 = some (.iload_n 0, 1, 0, 0, 0, 0) from rfl))
theorem u157_3 : wp r 157 3 ls (vI z :: st) x Q ↔ if z < 0 then wp r 157 11 ls st x Q else wp r 157 6 ls st x Q := (wp_u (show cd 157 3 = some (.ifCond .lt 8, 3, 11, 0, 0, 0) from rfl)).trans wq_d
theorem u157_6 : wp r 157 6 ls st x Q ↔ wp r 157 7 ls (vI 0 :: st) x Q := (wp_u (show cd 157 6 = some (.iconst 0, 1, 0, 0, 0, 0) from rfl))
theorem u157_7 : wp r 157 7 [a0, a1, a2, a3] (vI z :: st) x Q ↔ wp r 157 8 [a0, vI z, a2, a3] st x Q := (wp_u (show cd 157 7 = some (.istore_n 1, 1, 0, 0, 0, 0) from rfl))
theorem u157_8 : wp r 157 8 [vI z, a1, a2, a3] st x Q ↔ wp r 157 9 [vI z, a1, a2, a3] (vI z :: st) x Q := (wp_u (show cd 157 8 = some (.iload_n 0, 1, 0, 0, 0, 0) from rfl))
theorem u157_9 : wp r 157 9 ls (vI z :: st) x Q ↔ inI (-z) = true ∧ wp r 157 10 ls (vI (-z) :: st) x Q := (wp_u (show cd 157 9 = some (.ineg, 1, 0, 0, 0, 0) from rfl)).trans wq_if
theorem u157_10 : wp r 157 10 [a0, a1, a2, a3] (vI z :: st) x Q ↔ wp r 157 11 [vI z, a1, a2, a3] st x Q := (wp_u (show cd 157 10 = some (.istore_n 0, 1, 0, 0, 0, 0) from rfl))
theorem u157_11 : wp r 157 11 ls st x Q ↔ wp r 157 13 ls (vI (-10) :: st) x Q := (wp_u (show cd 157 11 = some (.bipush (-10), 2, 0, 0, 0, 0) from rfl))
theorem u157_13 : wp r 157 13 [a0, a1, a2, a3] (vI z :: st) x Q ↔ wp r 157 14 [a0, a1, vI z, a3] st x Q := (wp_u (show cd 157 13 = some (.istore_n 2, 1, 0, 0, 0, 0) from rfl))
theorem u157_14 : wp r 157 14 ls st x Q ↔ wp r 157 15 ls (vI 1 :: st) x Q := (wp_u (show cd 157 14 = some (.iconst 1, 1, 0, 0, 0, 0) from rfl))
theorem u157_15 : wp r 157 15 [a0, a1, a2, a3] (vI z :: st) x Q ↔ wp r 157 16 [a0, a1, a2, vI z] st x Q := (wp_u (show cd 157 15 = some (.istore_n 3, 1, 0, 0, 0, 0) from rfl))
theorem u157_16 : wp r 157 16 [a0, a1, a2, vI z] st x Q ↔ wp r 157 17 [a0, a1, a2, vI z] (vI z :: st) x Q := (wp_u (show cd 157 16 = some (.iload_n 3, 1, 0, 0, 0, 0) from rfl))
theorem u157_17 : wp r 157 17 ls st x Q ↔ wp r 157 19 ls (vI 10 :: st) x Q := (wp_u (show cd 157 17 = some (.bipush 10, 2, 0, 0, 0, 0) from rfl))
theorem u157_19 : wp r 157 19 ls (vI w :: vI z :: st) x Q ↔ if w ≤ z then wp r 157 42 ls st x Q else wp r 157 22 ls st x Q := (wp_u (show cd 157 19 = some (.if_icmp .ge 23, 3, 42, 0, 0, 0) from rfl)).trans wq_d
theorem u157_22 : wp r 157 22 [vI z, a1, a2, a3] st x Q ↔ wp r 157 23 [vI z, a1, a2, a3] (vI z :: st) x Q := (wp_u (show cd 157 22 = some (.iload_n 0, 1, 0, 0, 0, 0) from rfl))
theorem u157_23 : wp r 157 23 [a0, a1, vI z, a3] st x Q ↔ wp r 157 24 [a0, a1, vI z, a3] (vI z :: st) x Q := (wp_u (show cd 157 23 = some (.iload_n 2, 1, 0, 0, 0, 0) from rfl))
theorem u157_24 : wp r 157 24 ls (vI w :: vI z :: st) x Q ↔ if z ≤ w then wp r 157 31 ls st x Q else wp r 157 27 ls st x Q := (wp_u (show cd 157 24 = some (.if_icmp .le 7, 3, 31, 0, 0, 0) from rfl)).trans wq_d
theorem u157_27 : wp r 157 27 [a0, a1, a2, vI z] st x Q ↔ wp r 157 28 [a0, a1, a2, vI z] (vI z :: st) x Q := (wp_u (show cd 157 27 = some (.iload_n 3, 1, 0, 0, 0, 0) from rfl))
theorem u157_28 : wp r 157 28 [a0, vI z, a2, a3] st x Q ↔ wp r 157 29 [a0, vI z, a2, a3] (vI z :: st) x Q := (wp_u (show cd 157 28 = some (.iload_n 1, 1, 0, 0, 0, 0) from rfl))
theorem u157_29 : wp r 157 29 ls (vI w :: vI z :: st) x Q ↔ inI (z + w) = true ∧ wp r 157 30 ls (vI (z + w) :: st) x Q := (wp_u (show cd 157 29 = some (.iadd, 1, 0, 0, 0, 0) from rfl)).trans wq_if
theorem u157_30 : wp r 157 30 ls [vI z] x Q ↔ Q (.inl (some (vI z))) x := (wp_u (show cd 157 30 = some (.ireturn, 1, 0, 0, 0, 0) from rfl))
theorem u157_31 : wp r 157 31 ls st x Q ↔ wp r 157 33 ls (vI 10 :: st) x Q := (wp_u (show cd 157 31 = some (.bipush 10, 2, 0, 0, 0, 0) from rfl))
theorem u157_33 : wp r 157 33 [a0, a1, vI z, a3] st x Q ↔ wp r 157 34 [a0, a1, vI z, a3] (vI z :: st) x Q := (wp_u (show cd 157 33 = some (.iload_n 2, 1, 0, 0, 0, 0) from rfl))
theorem u157_34 : wp r 157 34 ls (vI w :: vI z :: st) x Q ↔ inI (z * w) = true ∧ wp r 157 35 ls (vI (z * w) :: st) x Q := (wp_u (show cd 157 34 = some (.imul, 1, 0, 0, 0, 0) from rfl)).trans wq_if
theorem u157_35 : wp r 157 35 [a0, a1, a2, a3] (vI z :: st) x Q ↔ wp r 157 36 [a0, a1, vI z, a3] st x Q := (wp_u (show cd 157 35 = some (.istore_n 2, 1, 0, 0, 0, 0) from rfl))
theorem u157_36 : wp r 157 36 [a0, a1, a2, vI z] st x Q ↔ inI (z + 1) = true ∧ wp r 157 39 [a0, a1, a2, vI (z + 1)] st x Q := (wp_u (show cd 157 36 = some (.iinc 3 1, 3, 0, 0, 0, 0) from rfl)).trans wq_if
theorem u157_39 : wp r 157 39 ls st x Q ↔ wp r 157 16 ls st x Q := (wp_u (show cd 157 39 = some (.goto (-23), 3, 16, 0, 0, 0) from rfl))
theorem u157_42 : wp r 157 42 ls st x Q ↔ wp r 157 44 ls (vI 10 :: st) x Q := (wp_u (show cd 157 42 = some (.bipush 10, 2, 0, 0, 0, 0) from rfl))
theorem u157_44 : wp r 157 44 [a0, vI z, a2, a3] st x Q ↔ wp r 157 45 [a0, vI z, a2, a3] (vI z :: st) x Q := (wp_u (show cd 157 44 = some (.iload_n 1, 1, 0, 0, 0, 0) from rfl))
theorem u157_45 : wp r 157 45 ls (vI w :: vI z :: st) x Q ↔ inI (z + w) = true ∧ wp r 157 46 ls (vI (z + w) :: st) x Q := (wp_u (show cd 157 45 = some (.iadd, 1, 0, 0, 0, 0) from rfl)).trans wq_if
theorem u157_46 : wp r 157 46 ls [vI z] x Q ↔ Q (.inl (some (vI z))) x := (wp_u (show cd 157 46 = some (.ireturn, 1, 0, 0, 0, 0) from rfl))
theorem e157 : wpc r 157 [vI z0] x Q ↔ wp r 157 0 [vI z0, vL jk, vL jk, vL jk] [] x Q := Iff.rfl
/-! 158 Integer_getChars -/
theorem u158_0 : wp r 158 0 [a0, vI z, a2, a3, a4, a5, a6] st x Q ↔ wp r 158 1 [a0, vI z, a2, a3, a4, a5, a6] (vI z :: st) x Q := (wp_u (show cd 158 0 = some (.iload_n 1, 1, 0, 0, 0, 0) from rfl))
theorem u158_1 : wp r 158 1 [a0, a1, a2, a3, a4, a5, a6] (vI z :: st) x Q ↔ wp r 158 3 [a0, a1, a2, a3, a4, vI z, a6] st x Q := (wp_u (show cd 158 1 = some (.istore 5, 2, 0, 0, 0, 0) from rfl))
theorem u158_3 : wp r 158 3 [vI z, a1, a2, a3, a4, a5, a6] st x Q ↔ wp r 158 4 [vI z, a1, a2, a3, a4, a5, a6] (vI z :: st) x Q := (wp_u (show cd 158 3 = some (.iload_n 0, 1, 0, 0, 0, 0) from rfl))
theorem u158_4 : wp r 158 4 ls (vI z :: st) x Q ↔ if 0 ≤ z then wp r 158 11 ls st x Q else wp r 158 7 ls st x Q := (wp_u (show cd 158 4 = some (.ifCond .ge 7, 3, 11, 0, 0, 0) from rfl)).trans wq_d
theorem u158_7 : wp r 158 7 ls st x Q ↔ wp r 158 8 ls (vI 1 :: st) x Q := (wp_u (show cd 158 7 = some (.iconst 1, 1, 0, 0, 0, 0) from rfl))
theorem u158_8 : wp r 158 8 ls st x Q ↔ wp r 158 12 ls st x Q := (wp_u (show cd 158 8 = some (.goto 4, 3, 12, 0, 0, 0) from rfl))
theorem u158_11 : wp r 158 11 ls st x Q ↔ wp r 158 12 ls (vI 0 :: st) x Q := (wp_u (show cd 158 11 = some (.iconst 0, 1, 0, 0, 0, 0) from rfl))
theorem u158_12 : wp r 158 12 [a0, a1, a2, a3, a4, a5, a6] (vI z :: st) x Q ↔ wp r 158 14 [a0, a1, a2, a3, a4, a5, vI z] st x Q := (wp_u (show cd 158 12 = some (.istore 6, 2, 0, 0, 0, 0) from rfl))
theorem u158_14 : wp r 158 14 [a0, a1, a2, a3, a4, a5, vI z] st x Q ↔ wp r 158 16 [a0, a1, a2, a3, a4, a5, vI z] (vI z :: st) x Q := (wp_u (show cd 158 14 = some (.iload 6, 2, 0, 0, 0, 0) from rfl))
theorem u158_16 : wp r 158 16 ls (vI z :: st) x Q ↔ if z = 0 then wp r 158 19 ls st x Q else wp r 158 22 ls st x Q := (wp_u (show cd 158 16 = some (.ifCond .ne 6, 3, 22, 0, 0, 0) from rfl)).trans wq_dn
theorem u158_19 : wp r 158 19 [vI z, a1, a2, a3, a4, a5, a6] st x Q ↔ wp r 158 20 [vI z, a1, a2, a3, a4, a5, a6] (vI z :: st) x Q := (wp_u (show cd 158 19 = some (.iload_n 0, 1, 0, 0, 0, 0) from rfl))
theorem u158_20 : wp r 158 20 ls (vI z :: st) x Q ↔ inI (-z) = true ∧ wp r 158 21 ls (vI (-z) :: st) x Q := (wp_u (show cd 158 20 = some (.ineg, 1, 0, 0, 0, 0) from rfl)).trans wq_if
theorem u158_21 : wp r 158 21 [a0, a1, a2, a3, a4, a5, a6] (vI z :: st) x Q ↔ wp r 158 22 [vI z, a1, a2, a3, a4, a5, a6] st x Q := (wp_u (show cd 158 21 = some (.istore_n 0, 1, 0, 0, 0, 0) from rfl))
theorem u158_22 : wp r 158 22 [vI z, a1, a2, a3, a4, a5, a6] st x Q ↔ wp r 158 23 [vI z, a1, a2, a3, a4, a5, a6] (vI z :: st) x Q := (wp_u (show cd 158 22 = some (.iload_n 0, 1, 0, 0, 0, 0) from rfl))
theorem u158_23 : wp r 158 23 ls st x Q ↔ wp r 158 25 ls (vI (-100) :: st) x Q := (wp_u (show cd 158 23 = some (.bipush (-100), 2, 0, 0, 0, 0) from rfl))
theorem u158_25 : wp r 158 25 ls (vI w :: vI z :: st) x Q ↔ if w < z then wp r 158 72 ls st x Q else wp r 158 28 ls st x Q := (wp_u (show cd 158 25 = some (.if_icmp .gt 47, 3, 72, 0, 0, 0) from rfl)).trans wq_d
theorem u158_28 : wp r 158 28 [vI z, a1, a2, a3, a4, a5, a6] st x Q ↔ wp r 158 29 [vI z, a1, a2, a3, a4, a5, a6] (vI z :: st) x Q := (wp_u (show cd 158 28 = some (.iload_n 0, 1, 0, 0, 0, 0) from rfl))
theorem u158_29 : wp r 158 29 ls st x Q ↔ wp r 158 31 ls (vI 100 :: st) x Q := (wp_u (show cd 158 29 = some (.bipush 100, 2, 0, 0, 0, 0) from rfl))
theorem u158_31 : wp r 158 31 ls (vI w :: vI z :: st) x Q ↔ (0 ≤ z ∧ 0 < w) ∧ wp r 158 32 ls (vI (z / w) :: st) x Q := (wp_u (show cd 158 31 = some (.idiv, 1, 0, 0, 0, 0) from rfl)).trans wq_if
theorem u158_32 : wp r 158 32 [a0, a1, a2, a3, a4, a5, a6] (vI z :: st) x Q ↔ wp r 158 33 [a0, a1, a2, vI z, a4, a5, a6] st x Q := (wp_u (show cd 158 32 = some (.istore_n 3, 1, 0, 0, 0, 0) from rfl))
theorem u158_33 : wp r 158 33 [a0, a1, a2, vI z, a4, a5, a6] st x Q ↔ wp r 158 34 [a0, a1, a2, vI z, a4, a5, a6] (vI z :: st) x Q := (wp_u (show cd 158 33 = some (.iload_n 3, 1, 0, 0, 0, 0) from rfl))
theorem u158_34 : wp r 158 34 ls st x Q ↔ wp r 158 36 ls (vI 100 :: st) x Q := (wp_u (show cd 158 34 = some (.bipush 100, 2, 0, 0, 0, 0) from rfl))
theorem u158_36 : wp r 158 36 ls (vI w :: vI z :: st) x Q ↔ inI (z * w) = true ∧ wp r 158 37 ls (vI (z * w) :: st) x Q := (wp_u (show cd 158 36 = some (.imul, 1, 0, 0, 0, 0) from rfl)).trans wq_if
theorem u158_37 : wp r 158 37 [vI z, a1, a2, a3, a4, a5, a6] st x Q ↔ wp r 158 38 [vI z, a1, a2, a3, a4, a5, a6] (vI z :: st) x Q := (wp_u (show cd 158 37 = some (.iload_n 0, 1, 0, 0, 0, 0) from rfl))
theorem u158_38 : wp r 158 38 ls (vI w :: vI z :: st) x Q ↔ inI (z - w) = true ∧ wp r 158 39 ls (vI (z - w) :: st) x Q := (wp_u (show cd 158 38 = some (.isub, 1, 0, 0, 0, 0) from rfl)).trans wq_if
theorem u158_39 : wp r 158 39 [a0, a1, a2, a3, a4, a5, a6] (vI z :: st) x Q ↔ wp r 158 41 [a0, a1, a2, a3, vI z, a5, a6] st x Q := (wp_u (show cd 158 39 = some (.istore 4, 2, 0, 0, 0, 0) from rfl))
theorem u158_41 : wp r 158 41 [a0, a1, a2, vI z, a4, a5, a6] st x Q ↔ wp r 158 42 [a0, a1, a2, vI z, a4, a5, a6] (vI z :: st) x Q := (wp_u (show cd 158 41 = some (.iload_n 3, 1, 0, 0, 0, 0) from rfl))
theorem u158_42 : wp r 158 42 [a0, a1, a2, a3, a4, a5, a6] (vI z :: st) x Q ↔ wp r 158 43 [vI z, a1, a2, a3, a4, a5, a6] st x Q := (wp_u (show cd 158 42 = some (.istore_n 0, 1, 0, 0, 0, 0) from rfl))
theorem u158_43 : wp r 158 43 [a0, a1, vR o, a3, a4, a5, a6] st x Q ↔ wp r 158 44 [a0, a1, vR o, a3, a4, a5, a6] (vR o :: st) x Q := (wp_u (show cd 158 43 = some (.aload_n 2, 1, 0, 0, 0, 0) from rfl))
theorem u158_44 : wp r 158 44 [a0, a1, a2, a3, a4, vI z, a6] st x Q ↔ inI (z + (-1)) = true ∧ wp r 158 47 [a0, a1, a2, a3, a4, vI (z + (-1)), a6] st x Q := (wp_u (show cd 158 44 = some (.iinc 5 (-1), 3, 0, 0, 0, 0) from rfl)).trans wq_if
theorem u158_47 : wp r 158 47 [a0, a1, a2, a3, a4, vI z, a6] st x Q ↔ wp r 158 49 [a0, a1, a2, a3, a4, vI z, a6] (vI z :: st) x Q := (wp_u (show cd 158 47 = some (.iload 5, 2, 0, 0, 0, 0) from rfl))
theorem u158_49 : wp r 158 49 ls st x Q ↔ wp r 158 52 ls (vA 2 :: st) x Q := (wp_u (show cd 158 49 = some (.getstatic 83, 3, 2, 0, 0, 0) from rfl))
theorem u158_52 : wp r 158 52 [a0, a1, a2, a3, vI z, a5, a6] st x Q ↔ wp r 158 54 [a0, a1, a2, a3, vI z, a5, a6] (vI z :: st) x Q := (wp_u (show cd 158 52 = some (.iload 4, 2, 0, 0, 0, 0) from rfl))
theorem u158_54 : wp r 158 54 ls (vI i :: vA q :: st) x Q ↔ ldb (hK x q) i ∧ wp r 158 55 ls (vI (hI x q i) :: st) x Q := (wp_u (show cd 158 54 = some (.baload, 1, 0, 0, 0, 0) from rfl)).trans g_ldB
theorem u158_55 : wp r 158 55 ls (vI z :: vI i :: vA q :: st) x Q ↔ stb (hK x q) i z ∧ 4 ≤ q ∧ wp r 158 56 ls st (stI x q i z) Q := (wp_u (show cd 158 55 = some (.bastore, 1, 0, 0, 0, 0) from rfl)).trans g_stB
theorem u158_56 : wp r 158 56 [a0, a1, vR o, a3, a4, a5, a6] st x Q ↔ wp r 158 57 [a0, a1, vR o, a3, a4, a5, a6] (vR o :: st) x Q := (wp_u (show cd 158 56 = some (.aload_n 2, 1, 0, 0, 0, 0) from rfl))
theorem u158_57 : wp r 158 57 [a0, a1, a2, a3, a4, vI z, a6] st x Q ↔ inI (z + (-1)) = true ∧ wp r 158 60 [a0, a1, a2, a3, a4, vI (z + (-1)), a6] st x Q := (wp_u (show cd 158 57 = some (.iinc 5 (-1), 3, 0, 0, 0, 0) from rfl)).trans wq_if
theorem u158_60 : wp r 158 60 [a0, a1, a2, a3, a4, vI z, a6] st x Q ↔ wp r 158 62 [a0, a1, a2, a3, a4, vI z, a6] (vI z :: st) x Q := (wp_u (show cd 158 60 = some (.iload 5, 2, 0, 0, 0, 0) from rfl))
theorem u158_62 : wp r 158 62 ls st x Q ↔ wp r 158 65 ls (vA 1 :: st) x Q := (wp_u (show cd 158 62 = some (.getstatic 87, 3, 1, 0, 0, 0) from rfl))
theorem u158_65 : wp r 158 65 [a0, a1, a2, a3, vI z, a5, a6] st x Q ↔ wp r 158 67 [a0, a1, a2, a3, vI z, a5, a6] (vI z :: st) x Q := (wp_u (show cd 158 65 = some (.iload 4, 2, 0, 0, 0, 0) from rfl))
theorem u158_67 : wp r 158 67 ls (vI i :: vA q :: st) x Q ↔ ldb (hK x q) i ∧ wp r 158 68 ls (vI (hI x q i) :: st) x Q := (wp_u (show cd 158 67 = some (.baload, 1, 0, 0, 0, 0) from rfl)).trans g_ldB
theorem u158_68 : wp r 158 68 ls (vI z :: vI i :: vA q :: st) x Q ↔ stb (hK x q) i z ∧ 4 ≤ q ∧ wp r 158 69 ls st (stI x q i z) Q := (wp_u (show cd 158 68 = some (.bastore, 1, 0, 0, 0, 0) from rfl)).trans g_stB
theorem u158_69 : wp r 158 69 ls st x Q ↔ wp r 158 22 ls st x Q := (wp_u (show cd 158 69 = some (.goto (-47), 3, 22, 0, 0, 0) from rfl))
theorem u158_72 : wp r 158 72 [a0, a1, vR o, a3, a4, a5, a6] st x Q ↔ wp r 158 73 [a0, a1, vR o, a3, a4, a5, a6] (vR o :: st) x Q := (wp_u (show cd 158 72 = some (.aload_n 2, 1, 0, 0, 0, 0) from rfl))
theorem u158_73 : wp r 158 73 [a0, a1, a2, a3, a4, vI z, a6] st x Q ↔ inI (z + (-1)) = true ∧ wp r 158 76 [a0, a1, a2, a3, a4, vI (z + (-1)), a6] st x Q := (wp_u (show cd 158 73 = some (.iinc 5 (-1), 3, 0, 0, 0, 0) from rfl)).trans wq_if
theorem u158_76 : wp r 158 76 [a0, a1, a2, a3, a4, vI z, a6] st x Q ↔ wp r 158 78 [a0, a1, a2, a3, a4, vI z, a6] (vI z :: st) x Q := (wp_u (show cd 158 76 = some (.iload 5, 2, 0, 0, 0, 0) from rfl))
theorem u158_78 : wp r 158 78 ls st x Q ↔ wp r 158 81 ls (vA 2 :: st) x Q := (wp_u (show cd 158 78 = some (.getstatic 83, 3, 2, 0, 0, 0) from rfl))
theorem u158_81 : wp r 158 81 [vI z, a1, a2, a3, a4, a5, a6] st x Q ↔ wp r 158 82 [vI z, a1, a2, a3, a4, a5, a6] (vI z :: st) x Q := (wp_u (show cd 158 81 = some (.iload_n 0, 1, 0, 0, 0, 0) from rfl))
theorem u158_82 : wp r 158 82 ls (vI z :: st) x Q ↔ inI (-z) = true ∧ wp r 158 83 ls (vI (-z) :: st) x Q := (wp_u (show cd 158 82 = some (.ineg, 1, 0, 0, 0, 0) from rfl)).trans wq_if
theorem u158_83 : wp r 158 83 ls (vI i :: vA q :: st) x Q ↔ ldb (hK x q) i ∧ wp r 158 84 ls (vI (hI x q i) :: st) x Q := (wp_u (show cd 158 83 = some (.baload, 1, 0, 0, 0, 0) from rfl)).trans g_ldB
theorem u158_84 : wp r 158 84 ls (vI z :: vI i :: vA q :: st) x Q ↔ stb (hK x q) i z ∧ 4 ≤ q ∧ wp r 158 85 ls st (stI x q i z) Q := (wp_u (show cd 158 84 = some (.bastore, 1, 0, 0, 0, 0) from rfl)).trans g_stB
theorem u158_85 : wp r 158 85 [vI z, a1, a2, a3, a4, a5, a6] st x Q ↔ wp r 158 86 [vI z, a1, a2, a3, a4, a5, a6] (vI z :: st) x Q := (wp_u (show cd 158 85 = some (.iload_n 0, 1, 0, 0, 0, 0) from rfl))
theorem u158_86 : wp r 158 86 ls st x Q ↔ wp r 158 88 ls (vI (-9) :: st) x Q := (wp_u (show cd 158 86 = some (.bipush (-9), 2, 0, 0, 0, 0) from rfl))
theorem u158_88 : wp r 158 88 ls (vI w :: vI z :: st) x Q ↔ if w ≤ z then wp r 158 104 ls st x Q else wp r 158 91 ls st x Q := (wp_u (show cd 158 88 = some (.if_icmp .ge 16, 3, 104, 0, 0, 0) from rfl)).trans wq_d
theorem u158_91 : wp r 158 91 [a0, a1, vR o, a3, a4, a5, a6] st x Q ↔ wp r 158 92 [a0, a1, vR o, a3, a4, a5, a6] (vR o :: st) x Q := (wp_u (show cd 158 91 = some (.aload_n 2, 1, 0, 0, 0, 0) from rfl))
theorem u158_92 : wp r 158 92 [a0, a1, a2, a3, a4, vI z, a6] st x Q ↔ inI (z + (-1)) = true ∧ wp r 158 95 [a0, a1, a2, a3, a4, vI (z + (-1)), a6] st x Q := (wp_u (show cd 158 92 = some (.iinc 5 (-1), 3, 0, 0, 0, 0) from rfl)).trans wq_if
theorem u158_95 : wp r 158 95 [a0, a1, a2, a3, a4, vI z, a6] st x Q ↔ wp r 158 97 [a0, a1, a2, a3, a4, vI z, a6] (vI z :: st) x Q := (wp_u (show cd 158 95 = some (.iload 5, 2, 0, 0, 0, 0) from rfl))
theorem u158_97 : wp r 158 97 ls st x Q ↔ wp r 158 100 ls (vA 1 :: st) x Q := (wp_u (show cd 158 97 = some (.getstatic 87, 3, 1, 0, 0, 0) from rfl))
theorem u158_100 : wp r 158 100 [vI z, a1, a2, a3, a4, a5, a6] st x Q ↔ wp r 158 101 [vI z, a1, a2, a3, a4, a5, a6] (vI z :: st) x Q := (wp_u (show cd 158 100 = some (.iload_n 0, 1, 0, 0, 0, 0) from rfl))
theorem u158_101 : wp r 158 101 ls (vI z :: st) x Q ↔ inI (-z) = true ∧ wp r 158 102 ls (vI (-z) :: st) x Q := (wp_u (show cd 158 101 = some (.ineg, 1, 0, 0, 0, 0) from rfl)).trans wq_if
theorem u158_102 : wp r 158 102 ls (vI i :: vA q :: st) x Q ↔ ldb (hK x q) i ∧ wp r 158 103 ls (vI (hI x q i) :: st) x Q := (wp_u (show cd 158 102 = some (.baload, 1, 0, 0, 0, 0) from rfl)).trans g_ldB
theorem u158_103 : wp r 158 103 ls (vI z :: vI i :: vA q :: st) x Q ↔ stb (hK x q) i z ∧ 4 ≤ q ∧ wp r 158 104 ls st (stI x q i z) Q := (wp_u (show cd 158 103 = some (.bastore, 1, 0, 0, 0, 0) from rfl)).trans g_stB
theorem u158_104 : wp r 158 104 [a0, a1, a2, a3, a4, a5, vI z] st x Q ↔ wp r 158 106 [a0, a1, a2, a3, a4, a5, vI z] (vI z :: st) x Q := (wp_u (show cd 158 104 = some (.iload 6, 2, 0, 0, 0, 0) from rfl))
theorem u158_106 : wp r 158 106 ls (vI z :: st) x Q ↔ if z = 0 then wp r 158 118 ls st x Q else wp r 158 109 ls st x Q := (wp_u (show cd 158 106 = some (.ifCond .eq 12, 3, 118, 0, 0, 0) from rfl)).trans wq_d
theorem u158_109 : wp r 158 109 [a0, a1, vR o, a3, a4, a5, a6] st x Q ↔ wp r 158 110 [a0, a1, vR o, a3, a4, a5, a6] (vR o :: st) x Q := (wp_u (show cd 158 109 = some (.aload_n 2, 1, 0, 0, 0, 0) from rfl))
theorem u158_110 : wp r 158 110 [a0, a1, a2, a3, a4, vI z, a6] st x Q ↔ inI (z + (-1)) = true ∧ wp r 158 113 [a0, a1, a2, a3, a4, vI (z + (-1)), a6] st x Q := (wp_u (show cd 158 110 = some (.iinc 5 (-1), 3, 0, 0, 0, 0) from rfl)).trans wq_if
theorem u158_113 : wp r 158 113 [a0, a1, a2, a3, a4, vI z, a6] st x Q ↔ wp r 158 115 [a0, a1, a2, a3, a4, vI z, a6] (vI z :: st) x Q := (wp_u (show cd 158 113 = some (.iload 5, 2, 0, 0, 0, 0) from rfl))
theorem u158_115 : wp r 158 115 ls st x Q ↔ wp r 158 117 ls (vI 45 :: st) x Q := (wp_u (show cd 158 115 = some (.bipush 45, 2, 0, 0, 0, 0) from rfl))
theorem u158_117 : wp r 158 117 ls (vI z :: vI i :: vA q :: st) x Q ↔ stb (hK x q) i z ∧ 4 ≤ q ∧ wp r 158 118 ls st (stI x q i z) Q := (wp_u (show cd 158 117 = some (.bastore, 1, 0, 0, 0, 0) from rfl)).trans g_stB
theorem u158_118 : wp r 158 118 [a0, a1, a2, a3, a4, vI z, a6] st x Q ↔ wp r 158 120 [a0, a1, a2, a3, a4, vI z, a6] (vI z :: st) x Q := (wp_u (show cd 158 118 = some (.iload 5, 2, 0, 0, 0, 0) from rfl))
theorem u158_120 : wp r 158 120 ls [vI z] x Q ↔ Q (.inl (some (vI z))) x := (wp_u (show cd 158 120 = some (.ireturn, 1, 0, 0, 0, 0) from rfl))
theorem e158 : wpc r 158 [vI z0, vI z1, vR o2] x Q ↔ wp r 158 0 [vI z0, vI z1, vR o2, vL jk, vL jk, vL jk, vL jk] [] x Q := Iff.rfl
/-! 159 Preconditions_checkIndex -/
theorem u159_0 : wp r 159 0 [vI z, a1, a2] st x Q ↔ wp r 159 1 [vI z, a1, a2] (vI z :: st) x Q := (wp_u (show cd 159 0 = some (.iload_n 0, 1, 0, 0, 0, 0) from rfl))
theorem u159_1 : wp r 159 1 ls (vI z :: st) x Q ↔ if z < 0 then wp r 159 9 ls st x Q else wp r 159 4 ls st x Q := (wp_u (show cd 159 1 = some (.ifCond .lt 8, 3, 9, 0, 0, 0) from rfl)).trans wq_d
theorem u159_4 : wp r 159 4 [vI z, a1, a2] st x Q ↔ wp r 159 5 [vI z, a1, a2] (vI z :: st) x Q := (wp_u (show cd 159 4 = some (.iload_n 0, 1, 0, 0, 0, 0) from rfl))
theorem u159_5 : wp r 159 5 [a0, vI z, a2] st x Q ↔ wp r 159 6 [a0, vI z, a2] (vI z :: st) x Q := (wp_u (show cd 159 5 = some (.iload_n 1, 1, 0, 0, 0, 0) from rfl))
theorem u159_6 : wp r 159 6 ls (vI w :: vI z :: st) x Q ↔ if z < w then wp r 159 16 ls st x Q else wp r 159 9 ls st x Q := (wp_u (show cd 159 6 = some (.if_icmp .lt 10, 3, 16, 0, 0, 0) from rfl)).trans wq_d
theorem u159_16 : wp r 159 16 [vI z, a1, a2] st x Q ↔ wp r 159 17 [vI z, a1, a2] (vI z :: st) x Q := (wp_u (show cd 159 16 = some (.iload_n 0, 1, 0, 0, 0, 0) from rfl))
theorem u159_17 : wp r 159 17 ls [vI z] x Q ↔ Q (.inl (some (vI z))) x := (wp_u (show cd 159 17 = some (.ireturn, 1, 0, 0, 0, 0) from rfl))
theorem e159 : wpc r 159 [vI z0, vI z1, vR o2] x Q ↔ wp r 159 0 [vI z0, vI z1, vR o2] [] x Q := Iff.rfl
/-! 160 ArraysSupport_newLength -/
theorem u160_0 : wp r 160 0 [vI z, a1, a2, a3] st x Q ↔ wp r 160 1 [vI z, a1, a2, a3] (vI z :: st) x Q := (wp_u (show cd 160 0 = some (.iload_n 0, 1, 0, 0, 0, 0) from rfl))
theorem u160_1 : wp r 160 1 [a0, vI z, a2, a3] st x Q ↔ wp r 160 2 [a0, vI z, a2, a3] (vI z :: st) x Q := (wp_u (show cd 160 1 = some (.iload_n 1, 1, 0, 0, 0, 0) from rfl))
theorem u160_2 : wp r 160 2 [a0, a1, vI z, a3] st x Q ↔ wp r 160 3 [a0, a1, vI z, a3] (vI z :: st) x Q := (wp_u (show cd 160 2 = some (.iload_n 2, 1, 0, 0, 0, 0) from rfl))
theorem u160_3 : wp r 160 3 ls (vI z1 :: vI z0 :: st) x Q ↔ sml st = true ∧ 1 < r ∧ wpc 1 161 [vI z0, vI z1] x (wk r 160 3 ls st Q) := (wp_u (show cd 160 3 = some (.invokestatic 194, 3, 161, 2, 1, 0) from rfl)).trans (g_stat (by decide) (by simp) rfl)
theorem u160_6 : wp r 160 6 ls (vI w :: vI z :: st) x Q ↔ inI (z + w) = true ∧ wp r 160 7 ls (vI (z + w) :: st) x Q := (wp_u (show cd 160 6 = some (.iadd, 1, 0, 0, 0, 0) from rfl)).trans wq_if
theorem u160_7 : wp r 160 7 [a0, a1, a2, a3] (vI z :: st) x Q ↔ wp r 160 8 [a0, a1, a2, vI z] st x Q := (wp_u (show cd 160 7 = some (.istore_n 3, 1, 0, 0, 0, 0) from rfl))
theorem u160_8 : wp r 160 8 ls st x Q ↔ wp r 160 9 ls (vI 0 :: st) x Q := (wp_u (show cd 160 8 = some (.iconst 0, 1, 0, 0, 0, 0) from rfl))
theorem u160_9 : wp r 160 9 [a0, a1, a2, vI z] st x Q ↔ wp r 160 10 [a0, a1, a2, vI z] (vI z :: st) x Q := (wp_u (show cd 160 9 = some (.iload_n 3, 1, 0, 0, 0, 0) from rfl))
theorem u160_10 : wp r 160 10 ls (vI w :: vI z :: st) x Q ↔ if w ≤ z then wp r 160 21 ls st x Q else wp r 160 13 ls st x Q := (wp_u (show cd 160 10 = some (.if_icmp .ge 11, 3, 21, 0, 0, 0) from rfl)).trans wq_d
theorem u160_13 : wp r 160 13 [a0, a1, a2, vI z] st x Q ↔ wp r 160 14 [a0, a1, a2, vI z] (vI z :: st) x Q := (wp_u (show cd 160 13 = some (.iload_n 3, 1, 0, 0, 0, 0) from rfl))
theorem u160_14 : wp r 160 14 ls st x Q ↔ wp r 160 16 ls (vI 2147483639 :: st) x Q := (wp_u (show cd 160 14 = some (.ldc 200, 2, 2147483639, 0, 0, 0) from rfl))
theorem u160_16 : wp r 160 16 ls (vI w :: vI z :: st) x Q ↔ if w < z then wp r 160 21 ls st x Q else wp r 160 19 ls st x Q := (wp_u (show cd 160 16 = some (.if_icmp .gt 5, 3, 21, 0, 0, 0) from rfl)).trans wq_d
theorem u160_19 : wp r 160 19 [a0, a1, a2, vI z] st x Q ↔ wp r 160 20 [a0, a1, a2, vI z] (vI z :: st) x Q := (wp_u (show cd 160 19 = some (.iload_n 3, 1, 0, 0, 0, 0) from rfl))
theorem u160_20 : wp r 160 20 ls [vI z] x Q ↔ Q (.inl (some (vI z))) x := (wp_u (show cd 160 20 = some (.ireturn, 1, 0, 0, 0, 0) from rfl))
theorem e160 : wpc r 160 [vI z0, vI z1, vI z2] x Q ↔ wp r 160 0 [vI z0, vI z1, vI z2, vL jk] [] x Q := Iff.rfl
/-! 161 Math_max -/
theorem u161_0 : wp r 161 0 [vI z, a1] st x Q ↔ wp r 161 1 [vI z, a1] (vI z :: st) x Q := (wp_u (show cd 161 0 = some (.iload_n 0, 1, 0, 0, 0, 0) from rfl))
theorem u161_1 : wp r 161 1 [a0, vI z] st x Q ↔ wp r 161 2 [a0, vI z] (vI z :: st) x Q := (wp_u (show cd 161 1 = some (.iload_n 1, 1, 0, 0, 0, 0) from rfl))
theorem u161_2 : wp r 161 2 ls (vI w :: vI z :: st) x Q ↔ if z < w then wp r 161 9 ls st x Q else wp r 161 5 ls st x Q := (wp_u (show cd 161 2 = some (.if_icmp .lt 7, 3, 9, 0, 0, 0) from rfl)).trans wq_d
theorem u161_5 : wp r 161 5 [vI z, a1] st x Q ↔ wp r 161 6 [vI z, a1] (vI z :: st) x Q := (wp_u (show cd 161 5 = some (.iload_n 0, 1, 0, 0, 0, 0) from rfl))
theorem u161_6 : wp r 161 6 ls st x Q ↔ wp r 161 10 ls st x Q := (wp_u (show cd 161 6 = some (.goto 4, 3, 10, 0, 0, 0) from rfl))
theorem u161_9 : wp r 161 9 [a0, vI z] st x Q ↔ wp r 161 10 [a0, vI z] (vI z :: st) x Q := (wp_u (show cd 161 9 = some (.iload_n 1, 1, 0, 0, 0, 0) from rfl))
theorem u161_10 : wp r 161 10 ls [vI z] x Q ↔ Q (.inl (some (vI z))) x := (wp_u (show cd 161 10 = some (.ireturn, 1, 0, 0, 0, 0) from rfl))
theorem e161 : wpc r 161 [vI z0, vI z1] x Q ↔ wp r 161 0 [vI z0, vI z1] [] x Q := Iff.rfl
end
