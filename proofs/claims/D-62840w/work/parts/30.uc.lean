/-! rules of instructions, printed by gen/gen05.py -/
section
variable {r q p d s : Nat} {a0 a1 a2 a3 a4 a5 a6 a7 a8 b0 b1 b2 b3 b4 b5 b6 : AV} {ls st : List AV} {x : HP} {Q : AO → HP → Prop} {z w i n sp dp z0 z1 z2 z3 z4 z5 : Int} {o o0 o1 o2 o3 o4 o5 : Option Nat}
/-! 48 Ic_find -/
theorem u48_0 : wp r 48 0 [vR o, a1, a2, a3, a4] st x Q ↔ wp r 48 1 [vR o, a1, a2, a3, a4] (vR o :: st) x Q := (wp_u (show cd 48 0 = some (.aload_n 0, 1, 0, 0, 0, 0) from rfl))
theorem u48_1 : wp r 48 1 ls (vA q :: st) x Q ↔ sbk 2 (hK x q) ∧ wp r 48 4 ls (vR (hR x q 2) :: st) x Q := (wp_u (show cd 48 1 = some (.getfield 17, 3, 2, 2, 5, 0) from rfl)).trans g_getR
theorem u48_4 : wp r 48 4 [a0, vI z, a2, a3, a4] st x Q ↔ wp r 48 5 [a0, vI z, a2, a3, a4] (vI z :: st) x Q := (wp_u (show cd 48 4 = some (.iload_n 1, 1, 0, 0, 0, 0) from rfl))
theorem u48_5 : wp r 48 5 ls (vI i :: vA q :: st) x Q ↔ ldr (hK x q) i ∧ wp r 48 6 ls (vR (hR x q i) :: st) x Q := (wp_u (show cd 48 5 = some (.aaload, 1, 0, 0, 0, 0) from rfl)).trans g_ldR
theorem u48_6 : wp r 48 6 [a0, a1, a2, a3, a4] (vR o :: st) x Q ↔ wp r 48 8 [a0, a1, a2, a3, vR o] st x Q := (wp_u (show cd 48 6 = some (.astore 4, 2, 0, 0, 0, 0) from rfl))
theorem u48_8 : wp r 48 8 [a0, a1, vI z, a3, a4] st x Q ↔ wp r 48 9 [a0, a1, vI z, a3, a4] (vI z :: st) x Q := (wp_u (show cd 48 8 = some (.iload_n 2, 1, 0, 0, 0, 0) from rfl))
theorem u48_9 : wp r 48 9 ls (vI z :: st) x Q ↔ if z < 0 then wp r 48 41 ls st x Q else wp r 48 12 ls st x Q := (wp_u (show cd 48 9 = some (.ifCond .lt 32, 3, 41, 0, 0, 0) from rfl)).trans wq_d
theorem u48_12 : wp r 48 12 [a0, a1, vI z, a3, a4] st x Q ↔ wp r 48 13 [a0, a1, vI z, a3, a4] (vI z :: st) x Q := (wp_u (show cd 48 12 = some (.iload_n 2, 1, 0, 0, 0, 0) from rfl))
theorem u48_13 : wp r 48 13 [a0, a1, a2, a3, vR o] st x Q ↔ wp r 48 15 [a0, a1, a2, a3, vR o] (vR o :: st) x Q := (wp_u (show cd 48 13 = some (.aload 4, 2, 0, 0, 0, 0) from rfl))
theorem u48_15 : wp r 48 15 ls (vA q :: st) x Q ↔ sbk 3 (hK x q) ∧ wp r 48 18 ls (vI (hI x q 2) :: st) x Q := (wp_u (show cd 48 15 = some (.getfield 97, 3, 3, 2, 0, 0) from rfl)).trans g_getI
theorem u48_18 : wp r 48 18 ls (vI w :: vI z :: st) x Q ↔ if w ≤ z then wp r 48 41 ls st x Q else wp r 48 21 ls st x Q := (wp_u (show cd 48 18 = some (.if_icmp .ge 23, 3, 41, 0, 0, 0) from rfl)).trans wq_d
theorem u48_21 : wp r 48 21 [a0, a1, a2, vI z, a4] st x Q ↔ wp r 48 22 [a0, a1, a2, vI z, a4] (vI z :: st) x Q := (wp_u (show cd 48 21 = some (.iload_n 3, 1, 0, 0, 0, 0) from rfl))
theorem u48_22 : wp r 48 22 ls (vI z :: st) x Q ↔ if z < 0 then wp r 48 41 ls st x Q else wp r 48 25 ls st x Q := (wp_u (show cd 48 22 = some (.ifCond .lt 19, 3, 41, 0, 0, 0) from rfl)).trans wq_d
theorem u48_25 : wp r 48 25 [a0, a1, a2, vI z, a4] st x Q ↔ wp r 48 26 [a0, a1, a2, vI z, a4] (vI z :: st) x Q := (wp_u (show cd 48 25 = some (.iload_n 3, 1, 0, 0, 0, 0) from rfl))
theorem u48_26 : wp r 48 26 [vR o, a1, a2, a3, a4] st x Q ↔ wp r 48 27 [vR o, a1, a2, a3, a4] (vR o :: st) x Q := (wp_u (show cd 48 26 = some (.aload_n 0, 1, 0, 0, 0, 0) from rfl))
theorem u48_27 : wp r 48 27 ls (vA q :: st) x Q ↔ sbk 2 (hK x q) ∧ wp r 48 30 ls (vR (hR x q 5) :: st) x Q := (wp_u (show cd 48 27 = some (.getfield 25, 3, 2, 5, 5, 0) from rfl)).trans g_getR
theorem u48_30 : wp r 48 30 [a0, a1, a2, a3, vR o] st x Q ↔ wp r 48 32 [a0, a1, a2, a3, vR o] (vR o :: st) x Q := (wp_u (show cd 48 30 = some (.aload 4, 2, 0, 0, 0, 0) from rfl))
theorem u48_32 : wp r 48 32 ls (vA q :: st) x Q ↔ sbk 3 (hK x q) ∧ wp r 48 35 ls (vI (hI x q 1) :: st) x Q := (wp_u (show cd 48 32 = some (.getfield 94, 3, 3, 1, 0, 0) from rfl)).trans g_getI
theorem u48_35 : wp r 48 35 [a0, a1, vI z, a3, a4] st x Q ↔ wp r 48 36 [a0, a1, vI z, a3, a4] (vI z :: st) x Q := (wp_u (show cd 48 35 = some (.iload_n 2, 1, 0, 0, 0, 0) from rfl))
theorem u48_36 : wp r 48 36 ls (vI w :: vI z :: st) x Q ↔ inI (z + w) = true ∧ wp r 48 37 ls (vI (z + w) :: st) x Q := (wp_u (show cd 48 36 = some (.iadd, 1, 0, 0, 0, 0) from rfl)).trans wq_if
theorem u48_37 : wp r 48 37 ls (vI i :: vA q :: st) x Q ↔ ldk 22 (hK x q) i ∧ wp r 48 38 ls (vI (hI x q i) :: st) x Q := (wp_u (show cd 48 37 = some (.saload, 1, 0, 0, 0, 0) from rfl)).trans g_ldI
theorem u48_38 : wp r 48 38 ls (vI w :: vI z :: st) x Q ↔ if z < w then wp r 48 43 ls st x Q else wp r 48 41 ls st x Q := (wp_u (show cd 48 38 = some (.if_icmp .lt 5, 3, 43, 0, 0, 0) from rfl)).trans wq_d
theorem u48_41 : wp r 48 41 ls st x Q ↔ wp r 48 42 ls (vI (-1) :: st) x Q := (wp_u (show cd 48 41 = some (.iconst (-1), 1, 0, 0, 0, 0) from rfl))
theorem u48_42 : wp r 48 42 ls [vI z] x Q ↔ Q (.inl (some (vI z))) x := (wp_u (show cd 48 42 = some (.ireturn, 1, 0, 0, 0, 0) from rfl))
theorem u48_43 : wp r 48 43 [vR o, a1, a2, a3, a4] st x Q ↔ wp r 48 44 [vR o, a1, a2, a3, a4] (vR o :: st) x Q := (wp_u (show cd 48 43 = some (.aload_n 0, 1, 0, 0, 0, 0) from rfl))
theorem u48_44 : wp r 48 44 ls (vA q :: st) x Q ↔ sbk 2 (hK x q) ∧ wp r 48 47 ls (vR (hR x q 4) :: st) x Q := (wp_u (show cd 48 44 = some (.getfield 21, 3, 2, 4, 5, 0) from rfl)).trans g_getR
theorem u48_47 : wp r 48 47 [a0, a1, a2, a3, vR o] st x Q ↔ wp r 48 49 [a0, a1, a2, a3, vR o] (vR o :: st) x Q := (wp_u (show cd 48 47 = some (.aload 4, 2, 0, 0, 0, 0) from rfl))
theorem u48_49 : wp r 48 49 ls (vA q :: st) x Q ↔ sbk 3 (hK x q) ∧ wp r 48 52 ls (vI (hI x q 1) :: st) x Q := (wp_u (show cd 48 49 = some (.getfield 94, 3, 3, 1, 0, 0) from rfl)).trans g_getI
theorem u48_52 : wp r 48 52 [a0, a1, vI z, a3, a4] st x Q ↔ wp r 48 53 [a0, a1, vI z, a3, a4] (vI z :: st) x Q := (wp_u (show cd 48 52 = some (.iload_n 2, 1, 0, 0, 0, 0) from rfl))
theorem u48_53 : wp r 48 53 ls (vI w :: vI z :: st) x Q ↔ inI (z + w) = true ∧ wp r 48 54 ls (vI (z + w) :: st) x Q := (wp_u (show cd 48 53 = some (.iadd, 1, 0, 0, 0, 0) from rfl)).trans wq_if
theorem u48_54 : wp r 48 54 ls (vI i :: vA q :: st) x Q ↔ ldk 22 (hK x q) i ∧ wp r 48 55 ls (vI (hI x q i) :: st) x Q := (wp_u (show cd 48 54 = some (.saload, 1, 0, 0, 0, 0) from rfl)).trans g_ldI
theorem u48_55 : wp r 48 55 [a0, a1, a2, vI z, a4] st x Q ↔ wp r 48 56 [a0, a1, a2, vI z, a4] (vI z :: st) x Q := (wp_u (show cd 48 55 = some (.iload_n 3, 1, 0, 0, 0, 0) from rfl))
theorem u48_56 : wp r 48 56 ls (vI w :: vI z :: st) x Q ↔ inI (z + w) = true ∧ wp r 48 57 ls (vI (z + w) :: st) x Q := (wp_u (show cd 48 56 = some (.iadd, 1, 0, 0, 0, 0) from rfl)).trans wq_if
theorem u48_57 : wp r 48 57 ls [vI z] x Q ↔ Q (.inl (some (vI z))) x := (wp_u (show cd 48 57 = some (.ireturn, 1, 0, 0, 0, 0) from rfl))
theorem e48 : wpc r 48 [vA q, vI z0, vI z1, vI z2] x Q ↔ wp r 48 0 [vA q, vI z0, vI z1, vI z2, vL jk] [] x Q := Iff.rfl
/-! 49 D_at -/
theorem u49_0 : wp r 49 0 [a0, vI z] st x Q ↔ wp r 49 1 [a0, vI z] (vI z :: st) x Q := (wp_u (show cd 49 0 = some (.iload_n 1, 1, 0, 0, 0, 0) from rfl))
theorem u49_1 : wp r 49 1 ls st x Q ↔ wp r 49 2 ls (vI (-1) :: st) x Q := (wp_u (show cd 49 1 = some (.iconst (-1), 1, 0, 0, 0, 0) from rfl))
theorem u49_2 : wp r 49 2 ls (vI w :: vI z :: st) x Q ↔ if z = w then wp r 49 5 ls st x Q else wp r 49 12 ls st x Q := (wp_u (show cd 49 2 = some (.if_icmp .ne 10, 3, 12, 0, 0, 0) from rfl)).trans wq_dn
theorem u49_5 : wp r 49 5 [vR o, a1] st x Q ↔ wp r 49 6 [vR o, a1] (vR o :: st) x Q := (wp_u (show cd 49 5 = some (.aload_n 0, 1, 0, 0, 0, 0) from rfl))
theorem u49_6 : wp r 49 6 ls (vA q :: st) x Q ↔ isk 10 (hK x q) ∧ sml st = true ∧ 2 < r ∧ wpc 2 141 [vA q] x (wk r 49 6 ls st Q) := (wp_u (show cd 49 6 = some (.invokevirtual 317, 3, 141, 1, 2, 10) from rfl)).trans (g_virt rfl (by decide) (by simp) rfl)
theorem u49_9 : wp r 49 9 ls st x Q ↔ wp r 49 33 ls st x Q := (wp_u (show cd 49 9 = some (.goto 24, 3, 33, 0, 0, 0) from rfl))
theorem u49_12 : wp r 49 12 [a0, vI z] st x Q ↔ wp r 49 13 [a0, vI z] (vI z :: st) x Q := (wp_u (show cd 49 12 = some (.iload_n 1, 1, 0, 0, 0, 0) from rfl))
theorem u49_13 : wp r 49 13 ls (vI z :: st) x Q ↔ if z < 0 then wp r 49 24 ls st x Q else wp r 49 16 ls st x Q := (wp_u (show cd 49 13 = some (.ifCond .lt 11, 3, 24, 0, 0, 0) from rfl)).trans wq_d
theorem u49_16 : wp r 49 16 [a0, vI z] st x Q ↔ wp r 49 17 [a0, vI z] (vI z :: st) x Q := (wp_u (show cd 49 16 = some (.iload_n 1, 1, 0, 0, 0, 0) from rfl))
theorem u49_17 : wp r 49 17 [vR o, a1] st x Q ↔ wp r 49 18 [vR o, a1] (vR o :: st) x Q := (wp_u (show cd 49 17 = some (.aload_n 0, 1, 0, 0, 0, 0) from rfl))
theorem u49_18 : wp r 49 18 ls (vA q :: st) x Q ↔ isk 10 (hK x q) ∧ sml st = true ∧ 2 < r ∧ wpc 2 141 [vA q] x (wk r 49 18 ls st Q) := (wp_u (show cd 49 18 = some (.invokevirtual 317, 3, 141, 1, 2, 10) from rfl)).trans (g_virt rfl (by decide) (by simp) rfl)
theorem u49_21 : wp r 49 21 ls (vI w :: vI z :: st) x Q ↔ if z < w then wp r 49 28 ls st x Q else wp r 49 24 ls st x Q := (wp_u (show cd 49 21 = some (.if_icmp .lt 7, 3, 28, 0, 0, 0) from rfl)).trans wq_d
theorem u49_24 : wp r 49 24 ls st x Q ↔ wp r 49 25 ls (vI (-1) :: st) x Q := (wp_u (show cd 49 24 = some (.iconst (-1), 1, 0, 0, 0, 0) from rfl))
theorem u49_25 : wp r 49 25 ls st x Q ↔ wp r 49 33 ls st x Q := (wp_u (show cd 49 25 = some (.goto 8, 3, 33, 0, 0, 0) from rfl))
theorem u49_28 : wp r 49 28 [vR o, a1] st x Q ↔ wp r 49 29 [vR o, a1] (vR o :: st) x Q := (wp_u (show cd 49 28 = some (.aload_n 0, 1, 0, 0, 0, 0) from rfl))
theorem u49_29 : wp r 49 29 [a0, vI z] st x Q ↔ wp r 49 30 [a0, vI z] (vI z :: st) x Q := (wp_u (show cd 49 29 = some (.iload_n 1, 1, 0, 0, 0, 0) from rfl))
theorem u49_30 : wp r 49 30 ls (vI z0 :: vA q :: st) x Q ↔ isk 10 (hK x q) ∧ sml st = true ∧ 4 < r ∧ wpc 4 142 [vA q, vI z0] x (wk r 49 30 ls st Q) := (wp_u (show cd 49 30 = some (.invokevirtual 320, 3, 142, 2, 4, 10) from rfl)).trans (g_virt rfl (by decide) (by simp) rfl)
theorem u49_33 : wp r 49 33 ls [vI z] x Q ↔ Q (.inl (some (vI z))) x := (wp_u (show cd 49 33 = some (.ireturn, 1, 0, 0, 0, 0) from rfl))
theorem e49 : wpc r 49 [vR o0, vI z1] x Q ↔ wp r 49 0 [vR o0, vI z1] [] x Q := Iff.rfl
/-! 50 It_init -/
theorem u50_0 : wp r 50 0 [vR o] st x Q ↔ wp r 50 1 [vR o] (vR o :: st) x Q := (wp_u (show cd 50 0 = some (.aload_n 0, 1, 0, 0, 0, 0) from rfl))
theorem u50_1 : wp r 50 1 ls (vA q :: st) x Q ↔ nnk (hK x q) ∧ sml st = true ∧ wp r 50 4 ls st x Q := (wp_u (show cd 50 1 = some (.invokespecial 1, 3, 1000, 1, 0, 0) from rfl)).trans (g_obj rfl)
theorem u50_4 : wp r 50 4 ls [] x Q ↔ Q (.inl none) x := (wp_u (show cd 50 4 = some (.return_, 1, 0, 0, 0, 0) from rfl))
theorem e50 : wpc r 50 [vA q] x Q ↔ wp r 50 0 [vA q] [] x Q := Iff.rfl
/-! 51 Sl_init -/
theorem u51_0 : wp r 51 0 [vR o] st x Q ↔ wp r 51 1 [vR o] (vR o :: st) x Q := (wp_u (show cd 51 0 = some (.aload_n 0, 1, 0, 0, 0, 0) from rfl))
theorem u51_1 : wp r 51 1 ls (vA q :: st) x Q ↔ nnk (hK x q) ∧ sml st = true ∧ 1 < r ∧ wpc 1 50 [vA q] x (wk r 51 1 ls st Q) := (wp_u (show cd 51 1 = some (.invokespecial 1, 3, 50, 1, 1, 0) from rfl)).trans (g_special rfl (by decide) (by simp) rfl)
theorem u51_4 : wp r 51 4 ls [] x Q ↔ Q (.inl none) x := (wp_u (show cd 51 4 = some (.return_, 1, 0, 0, 0, 0) from rfl))
theorem e51 : wpc r 51 [vA q] x Q ↔ wp r 51 0 [vA q] [] x Q := Iff.rfl
/-! 52 Gr_append -/
theorem u52_0 : wp r 52 0 [a0, vR o] st x Q ↔ wp r 52 1 [a0, vR o] (vR o :: st) x Q := (wp_u (show cd 52 0 = some (.aload_n 1, 1, 0, 0, 0, 0) from rfl))
theorem u52_1 : wp r 52 1 ls st x Q ↔ wp r 52 2 ls (vN :: st) x Q := (wp_u (show cd 52 1 = some (.aconst_null, 1, 0, 0, 0, 0) from rfl))
theorem u52_2 : wp r 52 2 ls (vR o :: vA q :: st) x Q ↔ sbk 4 (hK x q) ∧ wp r 52 5 ls st (stR x q 0 o) Q := (wp_u (show cd 52 2 = some (.putfield 17, 3, 4, 0, 5, 0) from rfl)).trans g_putR
theorem u52_5 : wp r 52 5 [a0, vR o] st x Q ↔ wp r 52 6 [a0, vR o] (vR o :: st) x Q := (wp_u (show cd 52 5 = some (.aload_n 1, 1, 0, 0, 0, 0) from rfl))
theorem u52_6 : wp r 52 6 [vR o, a1] st x Q ↔ wp r 52 7 [vR o, a1] (vR o :: st) x Q := (wp_u (show cd 52 6 = some (.aload_n 0, 1, 0, 0, 0, 0) from rfl))
theorem u52_7 : wp r 52 7 ls (vR o :: vA q :: st) x Q ↔ sbk 4 (hK x q) ∧ wp r 52 10 ls st (stR x q 1 o) Q := (wp_u (show cd 52 7 = some (.putfield 20, 3, 4, 1, 5, 0) from rfl)).trans g_putR
theorem u52_10 : wp r 52 10 [vR o, a1] st x Q ↔ wp r 52 11 [vR o, a1] (vR o :: st) x Q := (wp_u (show cd 52 10 = some (.aload_n 0, 1, 0, 0, 0, 0) from rfl))
theorem u52_11 : wp r 52 11 ls (vA q :: st) x Q ↔ sbk 6 (hK x q) ∧ wp r 52 14 ls (vR (hR x q 5) :: st) x Q := (wp_u (show cd 52 11 = some (.getfield 24, 3, 6, 5, 5, 0) from rfl)).trans g_getR
theorem u52_14n : wp r 52 14 ls (vN :: st) x Q ↔ wp r 52 17 ls st x Q := (wp_u (show cd 52 14 = some (.ifnonnull 11, 3, 25, 0, 0, 0) from rfl))
theorem u52_14 : wp r 52 14 ls (vA q :: st) x Q ↔ nnk (hK x q) ∧ wp r 52 25 ls st x Q := (wp_u (show cd 52 14 = some (.ifnonnull 11, 3, 25, 0, 0, 0) from rfl)).trans g_nnul
theorem u52_17 : wp r 52 17 [vR o, a1] st x Q ↔ wp r 52 18 [vR o, a1] (vR o :: st) x Q := (wp_u (show cd 52 17 = some (.aload_n 0, 1, 0, 0, 0, 0) from rfl))
theorem u52_18 : wp r 52 18 [a0, vR o] st x Q ↔ wp r 52 19 [a0, vR o] (vR o :: st) x Q := (wp_u (show cd 52 18 = some (.aload_n 1, 1, 0, 0, 0, 0) from rfl))
theorem u52_19 : wp r 52 19 ls (vR o :: vA q :: st) x Q ↔ sbk 6 (hK x q) ∧ wp r 52 22 ls st (stR x q 4 o) Q := (wp_u (show cd 52 19 = some (.putfield 7, 3, 6, 4, 5, 0) from rfl)).trans g_putR
theorem u52_22 : wp r 52 22 ls st x Q ↔ wp r 52 33 ls st x Q := (wp_u (show cd 52 22 = some (.goto 11, 3, 33, 0, 0, 0) from rfl))
theorem u52_25 : wp r 52 25 [vR o, a1] st x Q ↔ wp r 52 26 [vR o, a1] (vR o :: st) x Q := (wp_u (show cd 52 25 = some (.aload_n 0, 1, 0, 0, 0, 0) from rfl))
theorem u52_26 : wp r 52 26 ls (vA q :: st) x Q ↔ sbk 6 (hK x q) ∧ wp r 52 29 ls (vR (hR x q 5) :: st) x Q := (wp_u (show cd 52 26 = some (.getfield 24, 3, 6, 5, 5, 0) from rfl)).trans g_getR
theorem u52_29 : wp r 52 29 [a0, vR o] st x Q ↔ wp r 52 30 [a0, vR o] (vR o :: st) x Q := (wp_u (show cd 52 29 = some (.aload_n 1, 1, 0, 0, 0, 0) from rfl))
theorem u52_30 : wp r 52 30 ls (vR o :: vA q :: st) x Q ↔ sbk 4 (hK x q) ∧ wp r 52 33 ls st (stR x q 0 o) Q := (wp_u (show cd 52 30 = some (.putfield 17, 3, 4, 0, 5, 0) from rfl)).trans g_putR
theorem u52_33 : wp r 52 33 [vR o, a1] st x Q ↔ wp r 52 34 [vR o, a1] (vR o :: st) x Q := (wp_u (show cd 52 33 = some (.aload_n 0, 1, 0, 0, 0, 0) from rfl))
theorem u52_34 : wp r 52 34 [a0, vR o] st x Q ↔ wp r 52 35 [a0, vR o] (vR o :: st) x Q := (wp_u (show cd 52 34 = some (.aload_n 1, 1, 0, 0, 0, 0) from rfl))
theorem u52_35 : wp r 52 35 ls (vR o :: vA q :: st) x Q ↔ sbk 6 (hK x q) ∧ wp r 52 38 ls st (stR x q 5 o) Q := (wp_u (show cd 52 35 = some (.putfield 24, 3, 6, 5, 5, 0) from rfl)).trans g_putR
theorem u52_38 : wp r 52 38 ls [] x Q ↔ Q (.inl none) x := (wp_u (show cd 52 38 = some (.return_, 1, 0, 0, 0, 0) from rfl))
theorem e52 : wpc r 52 [vA q, vR o0] x Q ↔ wp r 52 0 [vA q, vR o0] [] x Q := Iff.rfl
/-! 53 Sc_scan -/
theorem u53_0 : wp r 53 0 [vR o, a1, a2] st x Q ↔ wp r 53 1 [vR o, a1, a2] (vR o :: st) x Q := (wp_u (show cd 53 0 = some (.aload_n 0, 1, 0, 0, 0, 0) from rfl))
theorem u53_1 : wp r 53 1 ls st x Q ↔ wp r 53 2 ls (vI 0 :: st) x Q := (wp_u (show cd 53 1 = some (.iconst 0, 1, 0, 0, 0, 0) from rfl))
theorem u53_2 : wp r 53 2 ls (vI z :: vA q :: st) x Q ↔ sbk 1 (hK x q) ∧ wp r 53 5 ls st (stI x q 2 z) Q := (wp_u (show cd 53 2 = some (.putfield 15, 3, 1, 2, 0, 0) from rfl)).trans g_putI0
theorem u53_5 : wp r 53 5 [a0, vR o, a2] st x Q ↔ wp r 53 6 [a0, vR o, a2] (vR o :: st) x Q := (wp_u (show cd 53 5 = some (.aload_n 1, 1, 0, 0, 0, 0) from rfl))
theorem u53_6 : wp r 53 6 ls (vA q :: st) x Q ↔ isk 2 (hK x q) ∧ sml st = true ∧ 7 < r ∧ wpc 7 63 [vA q] x (wk r 53 6 ls st Q) := (wp_u (show cd 53 6 = some (.invokevirtual 50, 3, 63, 1, 7, 2) from rfl)).trans (g_virt rfl (by decide) (by simp) rfl)
theorem u53_9 : wp r 53 9 [vR o, a1, a2] st x Q ↔ wp r 53 10 [vR o, a1, a2] (vR o :: st) x Q := (wp_u (show cd 53 9 = some (.aload_n 0, 1, 0, 0, 0, 0) from rfl))
theorem u53_10 : wp r 53 10 ls (vA q :: st) x Q ↔ isk 1 (hK x q) ∧ sml st = true ∧ 2 < r ∧ wpc 2 64 [vA q] x (wk r 53 10 ls st Q) := (wp_u (show cd 53 10 = some (.invokevirtual 55, 3, 64, 1, 2, 1) from rfl)).trans (g_virt rfl (by decide) (by simp) rfl)
theorem u53_13 : wp r 53 13 [vR o, a1, a2] st x Q ↔ wp r 53 14 [vR o, a1, a2] (vR o :: st) x Q := (wp_u (show cd 53 13 = some (.aload_n 0, 1, 0, 0, 0, 0) from rfl))
theorem u53_14 : wp r 53 14 ls (vA q :: st) x Q ↔ isk 1 (hK x q) ∧ sml st = true ∧ 1 < r ∧ wpc 1 65 [vA q] x (wk r 53 14 ls st Q) := (wp_u (show cd 53 14 = some (.invokevirtual 38, 3, 65, 1, 1, 1) from rfl)).trans (g_virt rfl (by decide) (by simp) rfl)
theorem u53_17 : wp r 53 17 [a0, a1, a2] (vI z :: st) x Q ↔ wp r 53 18 [a0, a1, vI z] st x Q := (wp_u (show cd 53 17 = some (.istore_n 2, 1, 0, 0, 0, 0) from rfl))
theorem u53_18 : wp r 53 18 [vR o, a1, a2] st x Q ↔ wp r 53 19 [vR o, a1, a2] (vR o :: st) x Q := (wp_u (show cd 53 18 = some (.aload_n 0, 1, 0, 0, 0, 0) from rfl))
theorem u53_19 : wp r 53 19 ls (vA q :: st) x Q ↔ sbk 1 (hK x q) ∧ wp r 53 22 ls (vI (hI x q 2) :: st) x Q := (wp_u (show cd 53 19 = some (.getfield 15, 3, 1, 2, 0, 0) from rfl)).trans g_getI
theorem u53_22 : wp r 53 22 [vR o, a1, a2] st x Q ↔ wp r 53 23 [vR o, a1, a2] (vR o :: st) x Q := (wp_u (show cd 53 22 = some (.aload_n 0, 1, 0, 0, 0, 0) from rfl))
theorem u53_23 : wp r 53 23 ls (vA q :: st) x Q ↔ sbk 1 (hK x q) ∧ wp r 53 26 ls (vI (hI x q 1) :: st) x Q := (wp_u (show cd 53 23 = some (.getfield 19, 3, 1, 1, 0, 0) from rfl)).trans g_getI
theorem u53_26 : wp r 53 26 ls (vI w :: vI z :: st) x Q ↔ if w ≤ z then wp r 53 37 ls st x Q else wp r 53 29 ls st x Q := (wp_u (show cd 53 26 = some (.if_icmp .ge 11, 3, 37, 0, 0, 0) from rfl)).trans wq_d
theorem u53_29 : wp r 53 29 [vR o, a1, a2] st x Q ↔ wp r 53 30 [vR o, a1, a2] (vR o :: st) x Q := (wp_u (show cd 53 29 = some (.aload_n 0, 1, 0, 0, 0, 0) from rfl))
theorem u53_30 : wp r 53 30 [a0, vR o, a2] st x Q ↔ wp r 53 31 [a0, vR o, a2] (vR o :: st) x Q := (wp_u (show cd 53 30 = some (.aload_n 1, 1, 0, 0, 0, 0) from rfl))
theorem u53_31 : wp r 53 31 ls (vR o0 :: vA q :: st) x Q ↔ isk 1 (hK x q) ∧ sml st = true ∧ 3 < r ∧ wpc 3 66 [vA q, vR o0] x (wk r 53 31 ls st Q) := (wp_u (show cd 53 31 = some (.invokevirtual 58, 3, 66, 2, 3, 1) from rfl)).trans (g_virt rfl (by decide) (by simp) rfl)
theorem u53_34 : wp r 53 34 ls st x Q ↔ wp r 53 18 ls st x Q := (wp_u (show cd 53 34 = some (.goto (-16), 3, 18, 0, 0, 0) from rfl))
theorem u53_37 : wp r 53 37 ls [] x Q ↔ Q (.inl none) x := (wp_u (show cd 53 37 = some (.return_, 1, 0, 0, 0, 0) from rfl))
theorem e53 : wpc r 53 [vA q, vR o0] x Q ↔ wp r 53 0 [vA q, vR o0, vL jk] [] x Q := Iff.rfl
/-! 54 D_members -/
theorem u54_0 : wp r 54 0 ls st x Q ↔ wp r 54 1 ls (vI 0 :: st) x Q := (wp_u (show cd 54 0 = some (.iconst 0, 1, 0, 0, 0, 0) from rfl))
theorem u54_1 : wp r 54 1 [a0, a1, a2] (vI z :: st) x Q ↔ wp r 54 2 [a0, vI z, a2] st x Q := (wp_u (show cd 54 1 = some (.istore_n 1, 1, 0, 0, 0, 0) from rfl))
theorem u54_2 : wp r 54 2 ls st x Q ↔ wp r 54 3 ls (vI 0 :: st) x Q := (wp_u (show cd 54 2 = some (.iconst 0, 1, 0, 0, 0, 0) from rfl))
theorem u54_3 : wp r 54 3 [a0, a1, a2] (vI z :: st) x Q ↔ wp r 54 4 [a0, a1, vI z] st x Q := (wp_u (show cd 54 3 = some (.istore_n 2, 1, 0, 0, 0, 0) from rfl))
theorem u54_4 : wp r 54 4 [a0, a1, vI z] st x Q ↔ wp r 54 5 [a0, a1, vI z] (vI z :: st) x Q := (wp_u (show cd 54 4 = some (.iload_n 2, 1, 0, 0, 0, 0) from rfl))
theorem u54_5 : wp r 54 5 [vR o, a1, a2] st x Q ↔ wp r 54 6 [vR o, a1, a2] (vR o :: st) x Q := (wp_u (show cd 54 5 = some (.aload_n 0, 1, 0, 0, 0, 0) from rfl))
theorem u54_6 : wp r 54 6 ls (vA q :: st) x Q ↔ sbk 2 (hK x q) ∧ wp r 54 9 ls (vI (hI x q 15) :: st) x Q := (wp_u (show cd 54 6 = some (.getfield 180, 3, 2, 15, 0, 0) from rfl)).trans g_getI
theorem u54_9 : wp r 54 9 ls (vI w :: vI z :: st) x Q ↔ if w ≤ z then wp r 54 39 ls st x Q else wp r 54 12 ls st x Q := (wp_u (show cd 54 9 = some (.if_icmp .ge 30, 3, 39, 0, 0, 0) from rfl)).trans wq_d
theorem u54_12 : wp r 54 12 [a0, vI z, a2] st x Q ↔ wp r 54 13 [a0, vI z, a2] (vI z :: st) x Q := (wp_u (show cd 54 12 = some (.iload_n 1, 1, 0, 0, 0, 0) from rfl))
theorem u54_13 : wp r 54 13 [vR o, a1, a2] st x Q ↔ wp r 54 14 [vR o, a1, a2] (vR o :: st) x Q := (wp_u (show cd 54 13 = some (.aload_n 0, 1, 0, 0, 0, 0) from rfl))
theorem u54_14 : wp r 54 14 ls (vA q :: st) x Q ↔ sbk 2 (hK x q) ∧ wp r 54 17 ls (vR (hR x q 12) :: st) x Q := (wp_u (show cd 54 14 = some (.getfield 201, 3, 2, 12, 5, 0) from rfl)).trans g_getR
theorem u54_17 : wp r 54 17 [a0, a1, vI z] st x Q ↔ wp r 54 18 [a0, a1, vI z] (vI z :: st) x Q := (wp_u (show cd 54 17 = some (.iload_n 2, 1, 0, 0, 0, 0) from rfl))
theorem u54_18 : wp r 54 18 ls (vI i :: vA q :: st) x Q ↔ ldk 20 (hK x q) i ∧ wp r 54 19 ls (vI (hI x q i) :: st) x Q := (wp_u (show cd 54 18 = some (.iaload, 1, 0, 0, 0, 0) from rfl)).trans g_ldI
theorem u54_19 : wp r 54 19 [vR o, a1, a2] st x Q ↔ wp r 54 20 [vR o, a1, a2] (vR o :: st) x Q := (wp_u (show cd 54 19 = some (.aload_n 0, 1, 0, 0, 0, 0) from rfl))
theorem u54_20 : wp r 54 20 ls (vA q :: st) x Q ↔ sbk 2 (hK x q) ∧ wp r 54 23 ls (vI (hI x q 18) :: st) x Q := (wp_u (show cd 54 20 = some (.getfield 204, 3, 2, 18, 0, 0) from rfl)).trans g_getI
theorem u54_23 : wp r 54 23 ls (vI w :: vI z :: st) x Q ↔ if z = w then wp r 54 26 ls st x Q else wp r 54 30 ls st x Q := (wp_u (show cd 54 23 = some (.if_icmp .ne 7, 3, 30, 0, 0, 0) from rfl)).trans wq_dn
theorem u54_26 : wp r 54 26 ls st x Q ↔ wp r 54 27 ls (vI 1 :: st) x Q := (wp_u (show cd 54 26 = some (.iconst 1, 1, 0, 0, 0, 0) from rfl))
theorem u54_27 : wp r 54 27 ls st x Q ↔ wp r 54 31 ls st x Q := (wp_u (show cd 54 27 = some (.goto 4, 3, 31, 0, 0, 0) from rfl))
theorem u54_30 : wp r 54 30 ls st x Q ↔ wp r 54 31 ls (vI 0 :: st) x Q := (wp_u (show cd 54 30 = some (.iconst 0, 1, 0, 0, 0, 0) from rfl))
theorem u54_31 : wp r 54 31 ls (vI w :: vI z :: st) x Q ↔ inI (z + w) = true ∧ wp r 54 32 ls (vI (z + w) :: st) x Q := (wp_u (show cd 54 31 = some (.iadd, 1, 0, 0, 0, 0) from rfl)).trans wq_if
theorem u54_32 : wp r 54 32 [a0, a1, a2] (vI z :: st) x Q ↔ wp r 54 33 [a0, vI z, a2] st x Q := (wp_u (show cd 54 32 = some (.istore_n 1, 1, 0, 0, 0, 0) from rfl))
theorem u54_33 : wp r 54 33 [a0, a1, vI z] st x Q ↔ inI (z + 1) = true ∧ wp r 54 36 [a0, a1, vI (z + 1)] st x Q := (wp_u (show cd 54 33 = some (.iinc 2 1, 3, 0, 0, 0, 0) from rfl)).trans wq_if
theorem u54_36 : wp r 54 36 ls st x Q ↔ wp r 54 4 ls st x Q := (wp_u (show cd 54 36 = some (.goto (-32), 3, 4, 0, 0, 0) from rfl))
theorem u54_39 : wp r 54 39 [a0, vI z, a2] st x Q ↔ wp r 54 40 [a0, vI z, a2] (vI z :: st) x Q := (wp_u (show cd 54 39 = some (.iload_n 1, 1, 0, 0, 0, 0) from rfl))
theorem u54_40 : wp r 54 40 ls [vI z] x Q ↔ Q (.inl (some (vI z))) x := (wp_u (show cd 54 40 = some (.ireturn, 1, 0, 0, 0, 0) from rfl))
theorem e54 : wpc r 54 [vR o0] x Q ↔ wp r 54 0 [vR o0, vL jk, vL jk] [] x Q := Iff.rfl
/-! 55 Ic_envelope -/
theorem u55_0 : wp r 55 0 [vR o, a1, a2, a3, a4, a5] st x Q ↔ wp r 55 1 [vR o, a1, a2, a3, a4, a5] (vR o :: st) x Q := (wp_u (show cd 55 0 = some (.aload_n 0, 1, 0, 0, 0, 0) from rfl))
theorem u55_1 : wp r 55 1 [a0, a1, a2, vI z, a4, a5] st x Q ↔ wp r 55 2 [a0, a1, a2, vI z, a4, a5] (vI z :: st) x Q := (wp_u (show cd 55 1 = some (.iload_n 3, 1, 0, 0, 0, 0) from rfl))
theorem u55_2 : wp r 55 2 ls st x Q ↔ wp r 55 3 ls (vI 1 :: st) x Q := (wp_u (show cd 55 2 = some (.iconst 1, 1, 0, 0, 0, 0) from rfl))
theorem u55_3 : wp r 55 3 ls (vI z1 :: vI z0 :: vA q :: st) x Q ↔ isk 2 (hK x q) ∧ sml st = true ∧ 2 < r ∧ wpc 2 67 [vA q, vI z0, vI z1] x (wk r 55 3 ls st Q) := (wp_u (show cd 55 3 = some (.invokevirtual 102, 3, 67, 3, 2, 2) from rfl)).trans (g_virt rfl (by decide) (by simp) rfl)
theorem u55_6 : wp r 55 6 ls (vI z :: st) x Q ↔ if z ≤ 0 then wp r 55 24 ls st x Q else wp r 55 9 ls st x Q := (wp_u (show cd 55 6 = some (.ifCond .le 18, 3, 24, 0, 0, 0) from rfl)).trans wq_d
theorem u55_9 : wp r 55 9 [vR o, a1, a2, a3, a4, a5] st x Q ↔ wp r 55 10 [vR o, a1, a2, a3, a4, a5] (vR o :: st) x Q := (wp_u (show cd 55 9 = some (.aload_n 0, 1, 0, 0, 0, 0) from rfl))
theorem u55_10 : wp r 55 10 [a0, vI z, a2, a3, a4, a5] st x Q ↔ wp r 55 11 [a0, vI z, a2, a3, a4, a5] (vI z :: st) x Q := (wp_u (show cd 55 10 = some (.iload_n 1, 1, 0, 0, 0, 0) from rfl))
theorem u55_11 : wp r 55 11 [a0, a1, vI z, a3, a4, a5] st x Q ↔ wp r 55 12 [a0, a1, vI z, a3, a4, a5] (vI z :: st) x Q := (wp_u (show cd 55 11 = some (.iload_n 2, 1, 0, 0, 0, 0) from rfl))
theorem u55_12 : wp r 55 12 [a0, a1, a2, vI z, a4, a5] st x Q ↔ wp r 55 13 [a0, a1, a2, vI z, a4, a5] (vI z :: st) x Q := (wp_u (show cd 55 12 = some (.iload_n 3, 1, 0, 0, 0, 0) from rfl))
theorem u55_13 : wp r 55 13 ls st x Q ↔ wp r 55 14 ls (vI 1 :: st) x Q := (wp_u (show cd 55 13 = some (.iconst 1, 1, 0, 0, 0, 0) from rfl))
theorem u55_14 : wp r 55 14 ls (vI z3 :: vI z2 :: vI z1 :: vI z0 :: vA q :: st) x Q ↔ isk 2 (hK x q) ∧ sml st = true ∧ 3 < r ∧ wpc 3 56 [vA q, vI z0, vI z1, vI z2, vI z3] x (wk r 55 14 ls st Q) := (wp_u (show cd 55 14 = some (.invokevirtual 110, 3, 56, 5, 3, 2) from rfl)).trans (g_virt rfl (by decide) (by simp) rfl)
theorem u55_17 : wp r 55 17 ls (vI z :: st) x Q ↔ if z = 0 then wp r 55 24 ls st x Q else wp r 55 20 ls st x Q := (wp_u (show cd 55 17 = some (.ifCond .eq 7, 3, 24, 0, 0, 0) from rfl)).trans wq_d
theorem u55_20 : wp r 55 20 ls st x Q ↔ wp r 55 21 ls (vI 1 :: st) x Q := (wp_u (show cd 55 20 = some (.iconst 1, 1, 0, 0, 0, 0) from rfl))
theorem u55_21 : wp r 55 21 ls st x Q ↔ wp r 55 25 ls st x Q := (wp_u (show cd 55 21 = some (.goto 4, 3, 25, 0, 0, 0) from rfl))
theorem u55_24 : wp r 55 24 ls st x Q ↔ wp r 55 25 ls (vI 0 :: st) x Q := (wp_u (show cd 55 24 = some (.iconst 0, 1, 0, 0, 0, 0) from rfl))
theorem u55_25 : wp r 55 25 [a0, a1, a2, a3, a4, a5] (vI z :: st) x Q ↔ wp r 55 27 [a0, a1, a2, a3, a4, vI z] st x Q := (wp_u (show cd 55 25 = some (.istore 5, 2, 0, 0, 0, 0) from rfl))
theorem u55_27 : wp r 55 27 [a0, a1, a2, a3, a4, vI z] st x Q ↔ wp r 55 29 [a0, a1, a2, a3, a4, vI z] (vI z :: st) x Q := (wp_u (show cd 55 27 = some (.iload 5, 2, 0, 0, 0, 0) from rfl))
theorem u55_29 : wp r 55 29 ls (vI z :: st) x Q ↔ if z = 0 then wp r 55 36 ls st x Q else wp r 55 32 ls st x Q := (wp_u (show cd 55 29 = some (.ifCond .eq 7, 3, 36, 0, 0, 0) from rfl)).trans wq_d
theorem u55_32 : wp r 55 32 ls st x Q ↔ wp r 55 33 ls (vI 0 :: st) x Q := (wp_u (show cd 55 32 = some (.iconst 0, 1, 0, 0, 0, 0) from rfl))
theorem u55_33 : wp r 55 33 ls st x Q ↔ wp r 55 37 ls st x Q := (wp_u (show cd 55 33 = some (.goto 4, 3, 37, 0, 0, 0) from rfl))
theorem u55_36 : wp r 55 36 ls st x Q ↔ wp r 55 37 ls (vI 1 :: st) x Q := (wp_u (show cd 55 36 = some (.iconst 1, 1, 0, 0, 0, 0) from rfl))
theorem u55_37 : wp r 55 37 [vR o, a1, a2, a3, a4, a5] st x Q ↔ wp r 55 38 [vR o, a1, a2, a3, a4, a5] (vR o :: st) x Q := (wp_u (show cd 55 37 = some (.aload_n 0, 1, 0, 0, 0, 0) from rfl))
theorem u55_38 : wp r 55 38 [a0, a1, a2, vI z, a4, a5] st x Q ↔ wp r 55 39 [a0, a1, a2, vI z, a4, a5] (vI z :: st) x Q := (wp_u (show cd 55 38 = some (.iload_n 3, 1, 0, 0, 0, 0) from rfl))
theorem u55_39 : wp r 55 39 ls (vI z0 :: vA q :: st) x Q ↔ isk 2 (hK x q) ∧ sml st = true ∧ 3 < r ∧ wpc 3 68 [vA q, vI z0] x (wk r 55 39 ls st Q) := (wp_u (show cd 55 39 = some (.invokevirtual 114, 3, 68, 2, 3, 2) from rfl)).trans (g_virt rfl (by decide) (by simp) rfl)
theorem u55_42 : wp r 55 42 [a0, a1, a2, a3, vI z, a5] st x Q ↔ wp r 55 44 [a0, a1, a2, a3, vI z, a5] (vI z :: st) x Q := (wp_u (show cd 55 42 = some (.iload 4, 2, 0, 0, 0, 0) from rfl))
theorem u55_44 : wp r 55 44 ls (vI w :: vI z :: st) x Q ↔ if z = w then wp r 55 47 ls st x Q else wp r 55 51 ls st x Q := (wp_u (show cd 55 44 = some (.if_icmp .ne 7, 3, 51, 0, 0, 0) from rfl)).trans wq_dn
theorem u55_47 : wp r 55 47 ls st x Q ↔ wp r 55 48 ls (vI 0 :: st) x Q := (wp_u (show cd 55 47 = some (.iconst 0, 1, 0, 0, 0, 0) from rfl))
theorem u55_48 : wp r 55 48 ls st x Q ↔ wp r 55 52 ls st x Q := (wp_u (show cd 55 48 = some (.goto 4, 3, 52, 0, 0, 0) from rfl))
theorem u55_51 : wp r 55 51 ls st x Q ↔ wp r 55 52 ls (vI 2 :: st) x Q := (wp_u (show cd 55 51 = some (.iconst 2, 1, 0, 0, 0, 0) from rfl))
theorem u55_52 : wp r 55 52 ls (vI w :: vI z :: st) x Q ↔ inI (z + w) = true ∧ wp r 55 53 ls (vI (z + w) :: st) x Q := (wp_u (show cd 55 52 = some (.iadd, 1, 0, 0, 0, 0) from rfl)).trans wq_if
theorem u55_53 : wp r 55 53 ls [vI z] x Q ↔ Q (.inl (some (vI z))) x := (wp_u (show cd 55 53 = some (.ireturn, 1, 0, 0, 0, 0) from rfl))
theorem e55 : wpc r 55 [vA q, vI z0, vI z1, vI z2, vI z3] x Q ↔ wp r 55 0 [vA q, vI z0, vI z1, vI z2, vI z3, vL jk] [] x Q := Iff.rfl
/-! 56 Ic_same -/
theorem u56_0 : wp r 56 0 [vR o, a1, a2, a3, a4, a5, a6] st x Q ↔ wp r 56 1 [vR o, a1, a2, a3, a4, a5, a6] (vR o :: st) x Q := (wp_u (show cd 56 0 = some (.aload_n 0, 1, 0, 0, 0, 0) from rfl))
theorem u56_1 : wp r 56 1 [a0, vI z, a2, a3, a4, a5, a6] st x Q ↔ wp r 56 2 [a0, vI z, a2, a3, a4, a5, a6] (vI z :: st) x Q := (wp_u (show cd 56 1 = some (.iload_n 1, 1, 0, 0, 0, 0) from rfl))
theorem u56_2 : wp r 56 2 [a0, a1, vI z, a3, a4, a5, a6] st x Q ↔ wp r 56 3 [a0, a1, vI z, a3, a4, a5, a6] (vI z :: st) x Q := (wp_u (show cd 56 2 = some (.iload_n 2, 1, 0, 0, 0, 0) from rfl))
theorem u56_3 : wp r 56 3 ls (vI z1 :: vI z0 :: vA q :: st) x Q ↔ isk 2 (hK x q) ∧ sml st = true ∧ 2 < r ∧ wpc 2 67 [vA q, vI z0, vI z1] x (wk r 56 3 ls st Q) := (wp_u (show cd 56 3 = some (.invokevirtual 102, 3, 67, 3, 2, 2) from rfl)).trans (g_virt rfl (by decide) (by simp) rfl)
theorem u56_6 : wp r 56 6 [a0, a1, a2, a3, a4, a5, a6] (vI z :: st) x Q ↔ wp r 56 8 [a0, a1, a2, a3, a4, vI z, a6] st x Q := (wp_u (show cd 56 6 = some (.istore 5, 2, 0, 0, 0, 0) from rfl))
theorem u56_8 : wp r 56 8 [a0, a1, a2, a3, a4, vI z, a6] st x Q ↔ wp r 56 10 [a0, a1, a2, a3, a4, vI z, a6] (vI z :: st) x Q := (wp_u (show cd 56 8 = some (.iload 5, 2, 0, 0, 0, 0) from rfl))
theorem u56_10 : wp r 56 10 [vR o, a1, a2, a3, a4, a5, a6] st x Q ↔ wp r 56 11 [vR o, a1, a2, a3, a4, a5, a6] (vR o :: st) x Q := (wp_u (show cd 56 10 = some (.aload_n 0, 1, 0, 0, 0, 0) from rfl))
theorem u56_11 : wp r 56 11 [a0, a1, a2, vI z, a4, a5, a6] st x Q ↔ wp r 56 12 [a0, a1, a2, vI z, a4, a5, a6] (vI z :: st) x Q := (wp_u (show cd 56 11 = some (.iload_n 3, 1, 0, 0, 0, 0) from rfl))
theorem u56_12 : wp r 56 12 [a0, a1, a2, a3, vI z, a5, a6] st x Q ↔ wp r 56 14 [a0, a1, a2, a3, vI z, a5, a6] (vI z :: st) x Q := (wp_u (show cd 56 12 = some (.iload 4, 2, 0, 0, 0, 0) from rfl))
theorem u56_14 : wp r 56 14 ls (vI z1 :: vI z0 :: vA q :: st) x Q ↔ isk 2 (hK x q) ∧ sml st = true ∧ 2 < r ∧ wpc 2 67 [vA q, vI z0, vI z1] x (wk r 56 14 ls st Q) := (wp_u (show cd 56 14 = some (.invokevirtual 102, 3, 67, 3, 2, 2) from rfl)).trans (g_virt rfl (by decide) (by simp) rfl)
theorem u56_17 : wp r 56 17 ls (vI w :: vI z :: st) x Q ↔ if z = w then wp r 56 22 ls st x Q else wp r 56 20 ls st x Q := (wp_u (show cd 56 17 = some (.if_icmp .eq 5, 3, 22, 0, 0, 0) from rfl)).trans wq_d
theorem u56_20 : wp r 56 20 ls st x Q ↔ wp r 56 21 ls (vI 0 :: st) x Q := (wp_u (show cd 56 20 = some (.iconst 0, 1, 0, 0, 0, 0) from rfl))
theorem u56_21 : wp r 56 21 ls [vI z] x Q ↔ rg 4 z = true ∧ Q (.inl (some (vI z))) x := (wp_u (show cd 56 21 = some (.ireturn, 1, 4, 0, 0, 0) from rfl)).trans wq_if
theorem u56_22 : wp r 56 22 ls st x Q ↔ wp r 56 23 ls (vI 0 :: st) x Q := (wp_u (show cd 56 22 = some (.iconst 0, 1, 0, 0, 0, 0) from rfl))
theorem u56_23 : wp r 56 23 [a0, a1, a2, a3, a4, a5, a6] (vI z :: st) x Q ↔ wp r 56 25 [a0, a1, a2, a3, a4, a5, vI z] st x Q := (wp_u (show cd 56 23 = some (.istore 6, 2, 0, 0, 0, 0) from rfl))
theorem u56_25 : wp r 56 25 [a0, a1, a2, a3, a4, a5, vI z] st x Q ↔ wp r 56 27 [a0, a1, a2, a3, a4, a5, vI z] (vI z :: st) x Q := (wp_u (show cd 56 25 = some (.iload 6, 2, 0, 0, 0, 0) from rfl))
theorem u56_27 : wp r 56 27 [a0, a1, a2, a3, a4, vI z, a6] st x Q ↔ wp r 56 29 [a0, a1, a2, a3, a4, vI z, a6] (vI z :: st) x Q := (wp_u (show cd 56 27 = some (.iload 5, 2, 0, 0, 0, 0) from rfl))
theorem u56_29 : wp r 56 29 ls (vI w :: vI z :: st) x Q ↔ if w ≤ z then wp r 56 60 ls st x Q else wp r 56 32 ls st x Q := (wp_u (show cd 56 29 = some (.if_icmp .ge 31, 3, 60, 0, 0, 0) from rfl)).trans wq_d
theorem u56_32 : wp r 56 32 [vR o, a1, a2, a3, a4, a5, a6] st x Q ↔ wp r 56 33 [vR o, a1, a2, a3, a4, a5, a6] (vR o :: st) x Q := (wp_u (show cd 56 32 = some (.aload_n 0, 1, 0, 0, 0, 0) from rfl))
theorem u56_33 : wp r 56 33 [a0, vI z, a2, a3, a4, a5, a6] st x Q ↔ wp r 56 34 [a0, vI z, a2, a3, a4, a5, a6] (vI z :: st) x Q := (wp_u (show cd 56 33 = some (.iload_n 1, 1, 0, 0, 0, 0) from rfl))
theorem u56_34 : wp r 56 34 [a0, a1, vI z, a3, a4, a5, a6] st x Q ↔ wp r 56 35 [a0, a1, vI z, a3, a4, a5, a6] (vI z :: st) x Q := (wp_u (show cd 56 34 = some (.iload_n 2, 1, 0, 0, 0, 0) from rfl))
theorem u56_35 : wp r 56 35 [a0, a1, a2, a3, a4, a5, vI z] st x Q ↔ wp r 56 37 [a0, a1, a2, a3, a4, a5, vI z] (vI z :: st) x Q := (wp_u (show cd 56 35 = some (.iload 6, 2, 0, 0, 0, 0) from rfl))
theorem u56_37 : wp r 56 37 ls (vI z2 :: vI z1 :: vI z0 :: vA q :: st) x Q ↔ isk 2 (hK x q) ∧ sml st = true ∧ 2 < r ∧ wpc 2 69 [vA q, vI z0, vI z1, vI z2] x (wk r 56 37 ls st Q) := (wp_u (show cd 56 37 = some (.invokevirtual 106, 3, 69, 4, 2, 2) from rfl)).trans (g_virt rfl (by decide) (by simp) rfl)
theorem u56_40 : wp r 56 40 [vR o, a1, a2, a3, a4, a5, a6] st x Q ↔ wp r 56 41 [vR o, a1, a2, a3, a4, a5, a6] (vR o :: st) x Q := (wp_u (show cd 56 40 = some (.aload_n 0, 1, 0, 0, 0, 0) from rfl))
theorem u56_41 : wp r 56 41 [a0, a1, a2, vI z, a4, a5, a6] st x Q ↔ wp r 56 42 [a0, a1, a2, vI z, a4, a5, a6] (vI z :: st) x Q := (wp_u (show cd 56 41 = some (.iload_n 3, 1, 0, 0, 0, 0) from rfl))
theorem u56_42 : wp r 56 42 [a0, a1, a2, a3, vI z, a5, a6] st x Q ↔ wp r 56 44 [a0, a1, a2, a3, vI z, a5, a6] (vI z :: st) x Q := (wp_u (show cd 56 42 = some (.iload 4, 2, 0, 0, 0, 0) from rfl))
theorem u56_44 : wp r 56 44 [a0, a1, a2, a3, a4, a5, vI z] st x Q ↔ wp r 56 46 [a0, a1, a2, a3, a4, a5, vI z] (vI z :: st) x Q := (wp_u (show cd 56 44 = some (.iload 6, 2, 0, 0, 0, 0) from rfl))
theorem u56_46 : wp r 56 46 ls (vI z2 :: vI z1 :: vI z0 :: vA q :: st) x Q ↔ isk 2 (hK x q) ∧ sml st = true ∧ 2 < r ∧ wpc 2 69 [vA q, vI z0, vI z1, vI z2] x (wk r 56 46 ls st Q) := (wp_u (show cd 56 46 = some (.invokevirtual 106, 3, 69, 4, 2, 2) from rfl)).trans (g_virt rfl (by decide) (by simp) rfl)
theorem u56_49 : wp r 56 49 ls (vI w :: vI z :: st) x Q ↔ if z = w then wp r 56 54 ls st x Q else wp r 56 52 ls st x Q := (wp_u (show cd 56 49 = some (.if_icmp .eq 5, 3, 54, 0, 0, 0) from rfl)).trans wq_d
theorem u56_52 : wp r 56 52 ls st x Q ↔ wp r 56 53 ls (vI 0 :: st) x Q := (wp_u (show cd 56 52 = some (.iconst 0, 1, 0, 0, 0, 0) from rfl))
theorem u56_53 : wp r 56 53 ls [vI z] x Q ↔ rg 4 z = true ∧ Q (.inl (some (vI z))) x := (wp_u (show cd 56 53 = some (.ireturn, 1, 4, 0, 0, 0) from rfl)).trans wq_if
theorem u56_54 : wp r 56 54 [a0, a1, a2, a3, a4, a5, vI z] st x Q ↔ inI (z + 1) = true ∧ wp r 56 57 [a0, a1, a2, a3, a4, a5, vI (z + 1)] st x Q := (wp_u (show cd 56 54 = some (.iinc 6 1, 3, 0, 0, 0, 0) from rfl)).trans wq_if
theorem u56_57 : wp r 56 57 ls st x Q ↔ wp r 56 25 ls st x Q := (wp_u (show cd 56 57 = some (.goto (-32), 3, 25, 0, 0, 0) from rfl))
theorem u56_60 : wp r 56 60 ls st x Q ↔ wp r 56 61 ls (vI 1 :: st) x Q := (wp_u (show cd 56 60 = some (.iconst 1, 1, 0, 0, 0, 0) from rfl))
theorem u56_61 : wp r 56 61 ls [vI z] x Q ↔ rg 4 z = true ∧ Q (.inl (some (vI z))) x := (wp_u (show cd 56 61 = some (.ireturn, 1, 4, 0, 0, 0) from rfl)).trans wq_if
theorem e56 : wpc r 56 [vA q, vI z0, vI z1, vI z2, vI z3] x Q ↔ wp r 56 0 [vA q, vI z0, vI z1, vI z2, vI z3, vL jk, vL jk] [] x Q := Iff.rfl
/-! 57 D_tableFor -/
theorem u57_0 : wp r 57 0 [a0, vR o, a2, a3] st x Q ↔ wp r 57 1 [a0, vR o, a2, a3] (vR o :: st) x Q := (wp_u (show cd 57 0 = some (.aload_n 1, 1, 0, 0, 0, 0) from rfl))
theorem u57_1 : wp r 57 1 [a0, a1, vI z, a3] st x Q ↔ wp r 57 2 [a0, a1, vI z, a3] (vI z :: st) x Q := (wp_u (show cd 57 1 = some (.iload_n 2, 1, 0, 0, 0, 0) from rfl))
theorem u57_2 : wp r 57 2 ls st x Q ↔ wp r 57 3 ls (vI 1 :: st) x Q := (wp_u (show cd 57 2 = some (.iconst 1, 1, 0, 0, 0, 0) from rfl))
theorem u57_3 : wp r 57 3 ls (vI z1 :: vI z0 :: vA q :: st) x Q ↔ isk 2 (hK x q) ∧ sml st = true ∧ 2 < r ∧ wpc 2 67 [vA q, vI z0, vI z1] x (wk r 57 3 ls st Q) := (wp_u (show cd 57 3 = some (.invokevirtual 242, 3, 67, 3, 2, 2) from rfl)).trans (g_virt rfl (by decide) (by simp) rfl)
theorem u57_6 : wp r 57 6 ls st x Q ↔ wp r 57 7 ls (vI 1 :: st) x Q := (wp_u (show cd 57 6 = some (.iconst 1, 1, 0, 0, 0, 0) from rfl))
theorem u57_7 : wp r 57 7 ls (vI w :: vI z :: st) x Q ↔ if z = w then wp r 57 12 ls st x Q else wp r 57 10 ls st x Q := (wp_u (show cd 57 7 = some (.if_icmp .eq 5, 3, 12, 0, 0, 0) from rfl)).trans wq_d
theorem u57_10 : wp r 57 10 ls st x Q ↔ wp r 57 11 ls (vN :: st) x Q := (wp_u (show cd 57 10 = some (.aconst_null, 1, 0, 0, 0, 0) from rfl))
theorem u57_11 : wp r 57 11 ls [vR o] x Q ↔ Q (.inl (some (vR o))) x := (wp_u (show cd 57 11 = some (.areturn, 1, 0, 0, 0, 0) from rfl))
theorem u57_12 : wp r 57 12 [a0, vR o, a2, a3] st x Q ↔ wp r 57 13 [a0, vR o, a2, a3] (vR o :: st) x Q := (wp_u (show cd 57 12 = some (.aload_n 1, 1, 0, 0, 0, 0) from rfl))
theorem u57_13 : wp r 57 13 [a0, a1, vI z, a3] st x Q ↔ wp r 57 14 [a0, a1, vI z, a3] (vI z :: st) x Q := (wp_u (show cd 57 13 = some (.iload_n 2, 1, 0, 0, 0, 0) from rfl))
theorem u57_14 : wp r 57 14 ls st x Q ↔ wp r 57 15 ls (vI 1 :: st) x Q := (wp_u (show cd 57 14 = some (.iconst 1, 1, 0, 0, 0, 0) from rfl))
theorem u57_15 : wp r 57 15 ls st x Q ↔ wp r 57 16 ls (vI 0 :: st) x Q := (wp_u (show cd 57 15 = some (.iconst 0, 1, 0, 0, 0, 0) from rfl))
theorem u57_16 : wp r 57 16 ls (vI z2 :: vI z1 :: vI z0 :: vA q :: st) x Q ↔ isk 2 (hK x q) ∧ sml st = true ∧ 2 < r ∧ wpc 2 69 [vA q, vI z0, vI z1, vI z2] x (wk r 57 16 ls st Q) := (wp_u (show cd 57 16 = some (.invokevirtual 245, 3, 69, 4, 2, 2) from rfl)).trans (g_virt rfl (by decide) (by simp) rfl)
theorem u57_19 : wp r 57 19 ls st x Q ↔ wp r 57 21 ls (vI 48 :: st) x Q := (wp_u (show cd 57 19 = some (.bipush 48, 2, 0, 0, 0, 0) from rfl))
theorem u57_21 : wp r 57 21 ls (vI w :: vI z :: st) x Q ↔ inI (z - w) = true ∧ wp r 57 22 ls (vI (z - w) :: st) x Q := (wp_u (show cd 57 21 = some (.isub, 1, 0, 0, 0, 0) from rfl)).trans wq_if
theorem u57_22 : wp r 57 22 [a0, a1, a2, a3] (vI z :: st) x Q ↔ wp r 57 23 [a0, a1, a2, vI z] st x Q := (wp_u (show cd 57 22 = some (.istore_n 3, 1, 0, 0, 0, 0) from rfl))
theorem u57_23 : wp r 57 23 [a0, a1, a2, vI z] st x Q ↔ wp r 57 24 [a0, a1, a2, vI z] (vI z :: st) x Q := (wp_u (show cd 57 23 = some (.iload_n 3, 1, 0, 0, 0, 0) from rfl))
theorem u57_24 : wp r 57 24 ls (vI z :: st) x Q ↔ if z < 0 then wp r 57 44 ls st x Q else wp r 57 27 ls st x Q := (wp_u (show cd 57 24 = some (.ifCond .lt 20, 3, 44, 0, 0, 0) from rfl)).trans wq_d
theorem u57_27 : wp r 57 27 [a0, a1, a2, vI z] st x Q ↔ wp r 57 28 [a0, a1, a2, vI z] (vI z :: st) x Q := (wp_u (show cd 57 27 = some (.iload_n 3, 1, 0, 0, 0, 0) from rfl))
theorem u57_28 : wp r 57 28 ls st x Q ↔ wp r 57 29 ls (vI 4 :: st) x Q := (wp_u (show cd 57 28 = some (.iconst 4, 1, 0, 0, 0, 0) from rfl))
theorem u57_29 : wp r 57 29 ls (vI w :: vI z :: st) x Q ↔ if w ≤ z then wp r 57 44 ls st x Q else wp r 57 32 ls st x Q := (wp_u (show cd 57 29 = some (.if_icmp .ge 15, 3, 44, 0, 0, 0) from rfl)).trans wq_d
theorem u57_32 : wp r 57 32 [vR o, a1, a2, a3] st x Q ↔ wp r 57 33 [vR o, a1, a2, a3] (vR o :: st) x Q := (wp_u (show cd 57 32 = some (.aload_n 0, 1, 0, 0, 0, 0) from rfl))
theorem u57_33 : wp r 57 33 ls (vA q :: st) x Q ↔ sbk 0 (hK x q) ∧ wp r 57 36 ls (vR (hR x q 5) :: st) x Q := (wp_u (show cd 57 33 = some (.getfield 38, 3, 0, 5, 5, 0) from rfl)).trans g_getR
theorem u57_36 : wp r 57 36 [a0, a1, a2, vI z] st x Q ↔ wp r 57 37 [a0, a1, a2, vI z] (vI z :: st) x Q := (wp_u (show cd 57 36 = some (.iload_n 3, 1, 0, 0, 0, 0) from rfl))
theorem u57_37 : wp r 57 37 ls (vI i :: vA q :: st) x Q ↔ ldr (hK x q) i ∧ wp r 57 38 ls (vR (hR x q i) :: st) x Q := (wp_u (show cd 57 37 = some (.aaload, 1, 0, 0, 0, 0) from rfl)).trans g_ldR
theorem u57_38 : wp r 57 38 ls (vA q :: st) x Q ↔ sbk 7 (hK x q) ∧ wp r 57 41 ls (vI (hI x q 3) :: st) x Q := (wp_u (show cd 57 38 = some (.getfield 108, 3, 7, 3, 0, 0) from rfl)).trans g_getI
theorem u57_41 : wp r 57 41 ls (vI z :: st) x Q ↔ if z = 0 then wp r 57 44 ls st x Q else wp r 57 48 ls st x Q := (wp_u (show cd 57 41 = some (.ifCond .ne 7, 3, 48, 0, 0, 0) from rfl)).trans wq_dn
theorem u57_44 : wp r 57 44 ls st x Q ↔ wp r 57 45 ls (vN :: st) x Q := (wp_u (show cd 57 44 = some (.aconst_null, 1, 0, 0, 0, 0) from rfl))
theorem u57_45 : wp r 57 45 ls st x Q ↔ wp r 57 54 ls st x Q := (wp_u (show cd 57 45 = some (.goto 9, 3, 54, 0, 0, 0) from rfl))
theorem u57_48 : wp r 57 48 [vR o, a1, a2, a3] st x Q ↔ wp r 57 49 [vR o, a1, a2, a3] (vR o :: st) x Q := (wp_u (show cd 57 48 = some (.aload_n 0, 1, 0, 0, 0, 0) from rfl))
theorem u57_49 : wp r 57 49 ls (vA q :: st) x Q ↔ sbk 0 (hK x q) ∧ wp r 57 52 ls (vR (hR x q 5) :: st) x Q := (wp_u (show cd 57 49 = some (.getfield 38, 3, 0, 5, 5, 0) from rfl)).trans g_getR
theorem u57_52 : wp r 57 52 [a0, a1, a2, vI z] st x Q ↔ wp r 57 53 [a0, a1, a2, vI z] (vI z :: st) x Q := (wp_u (show cd 57 52 = some (.iload_n 3, 1, 0, 0, 0, 0) from rfl))
theorem u57_53 : wp r 57 53 ls (vI i :: vA q :: st) x Q ↔ ldr (hK x q) i ∧ wp r 57 54 ls (vR (hR x q i) :: st) x Q := (wp_u (show cd 57 53 = some (.aaload, 1, 0, 0, 0, 0) from rfl)).trans g_ldR
theorem u57_54 : wp r 57 54 ls [vR o] x Q ↔ Q (.inl (some (vR o))) x := (wp_u (show cd 57 54 = some (.areturn, 1, 0, 0, 0, 0) from rfl))
theorem e57 : wpc r 57 [vA q, vR o0, vI z1] x Q ↔ wp r 57 0 [vA q, vR o0, vI z1, vL jk] [] x Q := Iff.rfl
/-! 58 D_match -/
theorem u58_0 : wp r 58 0 [vR o, a1, a2, a3, a4, a5] st x Q ↔ wp r 58 1 [vR o, a1, a2, a3, a4, a5] (vR o :: st) x Q := (wp_u (show cd 58 0 = some (.aload_n 0, 1, 0, 0, 0, 0) from rfl))
theorem u58_1 : wp r 58 1 ls (vA q :: st) x Q ↔ sbk 0 (hK x q) ∧ wp r 58 4 ls (vR (hR x q 6) :: st) x Q := (wp_u (show cd 58 1 = some (.getfield 45, 3, 0, 6, 5, 0) from rfl)).trans g_getR
theorem u58_4 : wp r 58 4 [a0, a1, a2, vR o, a4, a5] st x Q ↔ wp r 58 5 [a0, a1, a2, vR o, a4, a5] (vR o :: st) x Q := (wp_u (show cd 58 4 = some (.aload_n 3, 1, 0, 0, 0, 0) from rfl))
theorem u58_5 : wp r 58 5 ls (vR o0 :: vA q :: st) x Q ↔ isk 8 (hK x q) ∧ sml st = true ∧ 1 < r ∧ wpc 1 70 [vA q, vR o0] x (wk r 58 5 ls st Q) := (wp_u (show cd 58 5 = some (.invokevirtual 248, 3, 70, 2, 1, 8) from rfl)).trans (g_virt rfl (by decide) (by simp) rfl)
theorem u58_8 : wp r 58 8 [a0, vR o, a2, a3, a4, a5] st x Q ↔ wp r 58 9 [a0, vR o, a2, a3, a4, a5] (vR o :: st) x Q := (wp_u (show cd 58 8 = some (.aload_n 1, 1, 0, 0, 0, 0) from rfl))
theorem u58_9 : wp r 58 9 ls (vA q :: st) x Q ↔ sbk 2 (hK x q) ∧ wp r 58 12 ls (vR (hR x q 10) :: st) x Q := (wp_u (show cd 58 9 = some (.getfield 198, 3, 2, 10, 5, 0) from rfl)).trans g_getR
theorem u58_12 : wp r 58 12 [a0, a1, vI z, a3, a4, a5] st x Q ↔ wp r 58 13 [a0, a1, vI z, a3, a4, a5] (vI z :: st) x Q := (wp_u (show cd 58 12 = some (.iload_n 2, 1, 0, 0, 0, 0) from rfl))
theorem u58_13 : wp r 58 13 ls (vI i :: vA q :: st) x Q ↔ ldk 20 (hK x q) i ∧ wp r 58 14 ls (vI (hI x q i) :: st) x Q := (wp_u (show cd 58 13 = some (.iaload, 1, 0, 0, 0, 0) from rfl)).trans g_ldI
theorem u58_14 : wp r 58 14 ls st x Q ↔ wp r 58 15 ls (vI 1 :: st) x Q := (wp_u (show cd 58 14 = some (.iconst 1, 1, 0, 0, 0, 0) from rfl))
theorem u58_15 : wp r 58 15 ls (vI w :: vI z :: st) x Q ↔ inI (z + w) = true ∧ wp r 58 16 ls (vI (z + w) :: st) x Q := (wp_u (show cd 58 15 = some (.iadd, 1, 0, 0, 0, 0) from rfl)).trans wq_if
theorem u58_16 : wp r 58 16 [a0, a1, a2, a3, a4, a5] (vI z :: st) x Q ↔ wp r 58 18 [a0, a1, a2, a3, vI z, a5] st x Q := (wp_u (show cd 58 16 = some (.istore 4, 2, 0, 0, 0, 0) from rfl))
theorem u58_18 : wp r 58 18 [a0, a1, a2, a3, vI z, a5] st x Q ↔ wp r 58 20 [a0, a1, a2, a3, vI z, a5] (vI z :: st) x Q := (wp_u (show cd 58 18 = some (.iload 4, 2, 0, 0, 0, 0) from rfl))
theorem u58_20 : wp r 58 20 [a0, vR o, a2, a3, a4, a5] st x Q ↔ wp r 58 21 [a0, vR o, a2, a3, a4, a5] (vR o :: st) x Q := (wp_u (show cd 58 20 = some (.aload_n 1, 1, 0, 0, 0, 0) from rfl))
theorem u58_21 : wp r 58 21 ls (vA q :: st) x Q ↔ sbk 2 (hK x q) ∧ wp r 58 24 ls (vR (hR x q 11) :: st) x Q := (wp_u (show cd 58 21 = some (.getfield 194, 3, 2, 11, 5, 0) from rfl)).trans g_getR
theorem u58_24 : wp r 58 24 [a0, a1, vI z, a3, a4, a5] st x Q ↔ wp r 58 25 [a0, a1, vI z, a3, a4, a5] (vI z :: st) x Q := (wp_u (show cd 58 24 = some (.iload_n 2, 1, 0, 0, 0, 0) from rfl))
theorem u58_25 : wp r 58 25 ls (vI i :: vA q :: st) x Q ↔ ldk 20 (hK x q) i ∧ wp r 58 26 ls (vI (hI x q i) :: st) x Q := (wp_u (show cd 58 25 = some (.iaload, 1, 0, 0, 0, 0) from rfl)).trans g_ldI
theorem u58_26 : wp r 58 26 ls (vI w :: vI z :: st) x Q ↔ if w ≤ z then wp r 58 70 ls st x Q else wp r 58 29 ls st x Q := (wp_u (show cd 58 26 = some (.if_icmp .ge 44, 3, 70, 0, 0, 0) from rfl)).trans wq_d
theorem u58_29 : wp r 58 29 [vR o, a1, a2, a3, a4, a5] st x Q ↔ wp r 58 30 [vR o, a1, a2, a3, a4, a5] (vR o :: st) x Q := (wp_u (show cd 58 29 = some (.aload_n 0, 1, 0, 0, 0, 0) from rfl))
theorem u58_30 : wp r 58 30 ls (vA q :: st) x Q ↔ sbk 0 (hK x q) ∧ wp r 58 33 ls (vR (hR x q 6) :: st) x Q := (wp_u (show cd 58 30 = some (.getfield 45, 3, 0, 6, 5, 0) from rfl)).trans g_getR
theorem u58_33 : wp r 58 33 [a0, vR o, a2, a3, a4, a5] st x Q ↔ wp r 58 34 [a0, vR o, a2, a3, a4, a5] (vR o :: st) x Q := (wp_u (show cd 58 33 = some (.aload_n 1, 1, 0, 0, 0, 0) from rfl))
theorem u58_34 : wp r 58 34 ls (vA q :: st) x Q ↔ sbk 2 (hK x q) ∧ wp r 58 37 ls (vR (hR x q 2) :: st) x Q := (wp_u (show cd 58 34 = some (.getfield 187, 3, 2, 2, 5, 0) from rfl)).trans g_getR
theorem u58_37 : wp r 58 37 [a0, a1, a2, a3, vI z, a5] st x Q ↔ wp r 58 39 [a0, a1, a2, a3, vI z, a5] (vI z :: st) x Q := (wp_u (show cd 58 37 = some (.iload 4, 2, 0, 0, 0, 0) from rfl))
theorem u58_39 : wp r 58 39 ls (vI i :: vA q :: st) x Q ↔ ldr (hK x q) i ∧ wp r 58 40 ls (vR (hR x q i) :: st) x Q := (wp_u (show cd 58 39 = some (.aaload, 1, 0, 0, 0, 0) from rfl)).trans g_ldR
theorem u58_40 : wp r 58 40 ls (vA q :: st) x Q ↔ sbk 3 (hK x q) ∧ wp r 58 43 ls (vI (hI x q 0) :: st) x Q := (wp_u (show cd 58 40 = some (.getfield 191, 3, 3, 0, 0, 0) from rfl)).trans g_getI
theorem u58_43 : wp r 58 43 ls (vI z0 :: vA q :: st) x Q ↔ isk 8 (hK x q) ∧ sml st = true ∧ 3 < r ∧ wpc 3 71 [vA q, vI z0] x (wk r 58 43 ls st Q) := (wp_u (show cd 58 43 = some (.invokevirtual 251, 3, 71, 2, 3, 8) from rfl)).trans (g_virt rfl (by decide) (by simp) rfl)
theorem u58_46 : wp r 58 46 [a0, a1, a2, a3, a4, a5] (vI z :: st) x Q ↔ wp r 58 48 [a0, a1, a2, a3, a4, vI z] st x Q := (wp_u (show cd 58 46 = some (.istore 5, 2, 0, 0, 0, 0) from rfl))
theorem u58_48 : wp r 58 48 [a0, a1, a2, a3, a4, vI z] st x Q ↔ wp r 58 50 [a0, a1, a2, a3, a4, vI z] (vI z :: st) x Q := (wp_u (show cd 58 48 = some (.iload 5, 2, 0, 0, 0, 0) from rfl))
theorem u58_50 : wp r 58 50 ls (vI z :: st) x Q ↔ if z ≤ 0 then wp r 58 64 ls st x Q else wp r 58 53 ls st x Q := (wp_u (show cd 58 50 = some (.ifCond .le 14, 3, 64, 0, 0, 0) from rfl)).trans wq_d
theorem u58_53 : wp r 58 53 [a0, vR o, a2, a3, a4, a5] st x Q ↔ wp r 58 54 [a0, vR o, a2, a3, a4, a5] (vR o :: st) x Q := (wp_u (show cd 58 53 = some (.aload_n 1, 1, 0, 0, 0, 0) from rfl))
theorem u58_54 : wp r 58 54 ls (vA q :: st) x Q ↔ sbk 2 (hK x q) ∧ wp r 58 57 ls (vR (hR x q 14) :: st) x Q := (wp_u (show cd 58 54 = some (.getfield 224, 3, 2, 14, 5, 0) from rfl)).trans g_getR
theorem u58_57 : wp r 58 57 [a0, a1, vI z, a3, a4, a5] st x Q ↔ wp r 58 58 [a0, a1, vI z, a3, a4, a5] (vI z :: st) x Q := (wp_u (show cd 58 57 = some (.iload_n 2, 1, 0, 0, 0, 0) from rfl))
theorem u58_58 : wp r 58 58 [a0, a1, a2, a3, vI z, a5] st x Q ↔ wp r 58 60 [a0, a1, a2, a3, vI z, a5] (vI z :: st) x Q := (wp_u (show cd 58 58 = some (.iload 4, 2, 0, 0, 0, 0) from rfl))
theorem u58_60 : wp r 58 60 ls (vI z :: vI i :: vA q :: st) x Q ↔ ldk 20 (hK x q) i ∧ 4 ≤ q ∧ wp r 58 61 ls st (stI x q i z) Q := (wp_u (show cd 58 60 = some (.iastore, 1, 0, 0, 0, 0) from rfl)).trans g_stI0
theorem u58_61 : wp r 58 61 [a0, a1, a2, a3, a4, vI z] st x Q ↔ wp r 58 63 [a0, a1, a2, a3, a4, vI z] (vI z :: st) x Q := (wp_u (show cd 58 61 = some (.iload 5, 2, 0, 0, 0, 0) from rfl))
theorem u58_63 : wp r 58 63 ls [vI z] x Q ↔ Q (.inl (some (vI z))) x := (wp_u (show cd 58 63 = some (.ireturn, 1, 0, 0, 0, 0) from rfl))
theorem u58_64 : wp r 58 64 [a0, a1, a2, a3, vI z, a5] st x Q ↔ inI (z + 1) = true ∧ wp r 58 67 [a0, a1, a2, a3, vI (z + 1), a5] st x Q := (wp_u (show cd 58 64 = some (.iinc 4 1, 3, 0, 0, 0, 0) from rfl)).trans wq_if
theorem u58_67 : wp r 58 67 ls st x Q ↔ wp r 58 18 ls st x Q := (wp_u (show cd 58 67 = some (.goto (-49), 3, 18, 0, 0, 0) from rfl))
theorem u58_70 : wp r 58 70 [vR o, a1, a2, a3, a4, a5] st x Q ↔ wp r 58 71 [vR o, a1, a2, a3, a4, a5] (vR o :: st) x Q := (wp_u (show cd 58 70 = some (.aload_n 0, 1, 0, 0, 0, 0) from rfl))
theorem u58_71 : wp r 58 71 ls (vA q :: st) x Q ↔ sbk 0 (hK x q) ∧ wp r 58 74 ls (vR (hR x q 6) :: st) x Q := (wp_u (show cd 58 71 = some (.getfield 45, 3, 0, 6, 5, 0) from rfl)).trans g_getR
theorem u58_74 : wp r 58 74 ls (vA q :: st) x Q ↔ isk 8 (hK x q) ∧ sml st = true ∧ 2 < r ∧ wpc 2 72 [vA q] x (wk r 58 74 ls st Q) := (wp_u (show cd 58 74 = some (.invokevirtual 255, 3, 72, 1, 2, 8) from rfl)).trans (g_virt rfl (by decide) (by simp) rfl)
theorem u58_77 : wp r 58 77 ls [vI z] x Q ↔ Q (.inl (some (vI z))) x := (wp_u (show cd 58 77 = some (.ireturn, 1, 0, 0, 0, 0) from rfl))
theorem e58 : wpc r 58 [vA q, vR o0, vI z1, vR o2] x Q ↔ wp r 58 0 [vA q, vR o0, vI z1, vR o2, vL jk, vL jk] [] x Q := Iff.rfl
/-! 59 D_writeTag -/
theorem u59_0 : wp r 59 0 ls st x Q ↔ wp r 59 1 ls (vI 2 :: st) x Q := (wp_u (show cd 59 0 = some (.iconst 2, 1, 0, 0, 0, 0) from rfl))
theorem u59_1 : wp r 59 1 [a0, a1, a2] (vI z :: st) x Q ↔ wp r 59 2 [a0, a1, vI z] st x Q := (wp_u (show cd 59 1 = some (.istore_n 2, 1, 0, 0, 0, 0) from rfl))
theorem u59_2 : wp r 59 2 [a0, a1, vI z] st x Q ↔ wp r 59 3 [a0, a1, vI z] (vI z :: st) x Q := (wp_u (show cd 59 2 = some (.iload_n 2, 1, 0, 0, 0, 0) from rfl))
theorem u59_3 : wp r 59 3 ls (vI z :: st) x Q ↔ if z < 0 then wp r 59 28 ls st x Q else wp r 59 6 ls st x Q := (wp_u (show cd 59 3 = some (.ifCond .lt 25, 3, 28, 0, 0, 0) from rfl)).trans wq_d
theorem u59_6 : wp r 59 6 [vR o, a1, a2] st x Q ↔ wp r 59 7 [vR o, a1, a2] (vR o :: st) x Q := (wp_u (show cd 59 6 = some (.aload_n 0, 1, 0, 0, 0, 0) from rfl))
theorem u59_7 : wp r 59 7 [a0, vI z, a2] st x Q ↔ wp r 59 8 [a0, vI z, a2] (vI z :: st) x Q := (wp_u (show cd 59 7 = some (.iload_n 1, 1, 0, 0, 0, 0) from rfl))
theorem u59_8 : wp r 59 8 ls st x Q ↔ wp r 59 10 ls (vI 8 :: st) x Q := (wp_u (show cd 59 8 = some (.bipush 8, 2, 0, 0, 0, 0) from rfl))
theorem u59_10 : wp r 59 10 [a0, a1, vI z] st x Q ↔ wp r 59 11 [a0, a1, vI z] (vI z :: st) x Q := (wp_u (show cd 59 10 = some (.iload_n 2, 1, 0, 0, 0, 0) from rfl))
theorem u59_11 : wp r 59 11 ls (vI w :: vI z :: st) x Q ↔ inI (z * w) = true ∧ wp r 59 12 ls (vI (z * w) :: st) x Q := (wp_u (show cd 59 11 = some (.imul, 1, 0, 0, 0, 0) from rfl)).trans wq_if
theorem u59_12 : wp r 59 12 ls (vI w :: vI z :: st) x Q ↔ wp r 59 13 ls (vI (iShr z w) :: st) x Q := (wp_u (show cd 59 12 = some (.ishr, 1, 0, 0, 0, 0) from rfl)).trans (wq_if.trans (and_iff_right (inI_32 _)))
theorem u59_13 : wp r 59 13 ls st x Q ↔ wp r 59 16 ls (vI 255 :: st) x Q := (wp_u (show cd 59 13 = some (.sipush 255, 3, 0, 0, 0, 0) from rfl))
theorem u59_16 : wp r 59 16 ls (vI w :: vI z :: st) x Q ↔ wp r 59 17 ls (vI (iAnd z w) :: st) x Q := (wp_u (show cd 59 16 = some (.iand, 1, 0, 0, 0, 0) from rfl)).trans (wq_if.trans (and_iff_right (inI_32 _)))
theorem u59_17 : wp r 59 17 ls (vI z :: st) x Q ↔ wp r 59 18 ls (vI (iI2c z) :: st) x Q := (wp_u (show cd 59 17 = some (.i2c, 1, 0, 0, 0, 0) from rfl)).trans (wq_if.trans (and_iff_right (inI_32 _)))
theorem u59_18 : wp r 59 18 ls (vI z0 :: vA q :: st) x Q ↔ isk 10 (hK x q) ∧ sml st = true ∧ 6 < r ∧ wpc 6 140 [vA q, vI z0] x (wk r 59 18 ls st Q) := (wp_u (show cd 59 18 = some (.invokevirtual 273, 3, 140, 2, 6, 10) from rfl)).trans (g_virt rfl (by decide) (by simp) rfl)
theorem u59_21i : wp r 59 21 ls (vI z :: st) x Q ↔ wp r 59 22 ls st x Q := (wp_u (show cd 59 21 = some (.pop, 1, 0, 0, 0, 0) from rfl))
theorem u59_21 : wp r 59 21 ls (vR o :: st) x Q ↔ wp r 59 22 ls st x Q := (wp_u (show cd 59 21 = some (.pop, 1, 0, 0, 0, 0) from rfl))
theorem u59_22 : wp r 59 22 [a0, a1, vI z] st x Q ↔ inI (z + (-1)) = true ∧ wp r 59 25 [a0, a1, vI (z + (-1))] st x Q := (wp_u (show cd 59 22 = some (.iinc 2 (-1), 3, 0, 0, 0, 0) from rfl)).trans wq_if
theorem u59_25 : wp r 59 25 ls st x Q ↔ wp r 59 2 ls st x Q := (wp_u (show cd 59 25 = some (.goto (-23), 3, 2, 0, 0, 0) from rfl))
theorem u59_28 : wp r 59 28 ls [] x Q ↔ Q (.inl none) x := (wp_u (show cd 59 28 = some (.return_, 1, 0, 0, 0, 0) from rfl))
theorem e59 : wpc r 59 [vR o0, vI z1] x Q ↔ wp r 59 0 [vR o0, vI z1, vL jk] [] x Q := Iff.rfl
/-! 60 D_full -/
theorem u60_0 : wp r 60 0 [vR o, a1, a2] st x Q ↔ wp r 60 1 [vR o, a1, a2] (vR o :: st) x Q := (wp_u (show cd 60 0 = some (.aload_n 0, 1, 0, 0, 0, 0) from rfl))
theorem u60_1 : wp r 60 1 ls (vA q :: st) x Q ↔ sbk 2 (hK x q) ∧ wp r 60 4 ls (vR (hR x q 5) :: st) x Q := (wp_u (show cd 60 1 = some (.getfield 278, 3, 2, 5, 5, 0) from rfl)).trans g_getR
theorem u60_4 : wp r 60 4 [a0, vI z, a2] st x Q ↔ wp r 60 5 [a0, vI z, a2] (vI z :: st) x Q := (wp_u (show cd 60 4 = some (.iload_n 1, 1, 0, 0, 0, 0) from rfl))
theorem u60_5 : wp r 60 5 ls (vI i :: vA q :: st) x Q ↔ ldk 22 (hK x q) i ∧ wp r 60 6 ls (vI (hI x q i) :: st) x Q := (wp_u (show cd 60 5 = some (.saload, 1, 0, 0, 0, 0) from rfl)).trans g_ldI
theorem u60_6 : wp r 60 6 [a0, a1, a2] (vI z :: st) x Q ↔ wp r 60 7 [a0, a1, vI z] st x Q := (wp_u (show cd 60 6 = some (.istore_n 2, 1, 0, 0, 0, 0) from rfl))
theorem u60_7 : wp r 60 7 [a0, a1, vI z] st x Q ↔ wp r 60 8 [a0, a1, vI z] (vI z :: st) x Q := (wp_u (show cd 60 7 = some (.iload_n 2, 1, 0, 0, 0, 0) from rfl))
theorem u60_8 : wp r 60 8 ls (vI z :: st) x Q ↔ if z ≤ 0 then wp r 60 35 ls st x Q else wp r 60 11 ls st x Q := (wp_u (show cd 60 8 = some (.ifCond .le 27, 3, 35, 0, 0, 0) from rfl)).trans wq_d
theorem u60_11 : wp r 60 11 [vR o, a1, a2] st x Q ↔ wp r 60 12 [vR o, a1, a2] (vR o :: st) x Q := (wp_u (show cd 60 11 = some (.aload_n 0, 1, 0, 0, 0, 0) from rfl))
theorem u60_12 : wp r 60 12 ls (vA q :: st) x Q ↔ sbk 2 (hK x q) ∧ wp r 60 15 ls (vR (hR x q 8) :: st) x Q := (wp_u (show cd 60 12 = some (.getfield 263, 3, 2, 8, 5, 0) from rfl)).trans g_getR
theorem u60_15 : wp r 60 15 [vR o, a1, a2] st x Q ↔ wp r 60 16 [vR o, a1, a2] (vR o :: st) x Q := (wp_u (show cd 60 15 = some (.aload_n 0, 1, 0, 0, 0, 0) from rfl))
theorem u60_16 : wp r 60 16 ls (vA q :: st) x Q ↔ sbk 2 (hK x q) ∧ wp r 60 19 ls (vR (hR x q 4) :: st) x Q := (wp_u (show cd 60 16 = some (.getfield 281, 3, 2, 4, 5, 0) from rfl)).trans g_getR
theorem u60_19 : wp r 60 19 [a0, vI z, a2] st x Q ↔ wp r 60 20 [a0, vI z, a2] (vI z :: st) x Q := (wp_u (show cd 60 19 = some (.iload_n 1, 1, 0, 0, 0, 0) from rfl))
theorem u60_20 : wp r 60 20 ls (vI i :: vA q :: st) x Q ↔ ldk 22 (hK x q) i ∧ wp r 60 21 ls (vI (hI x q i) :: st) x Q := (wp_u (show cd 60 20 = some (.saload, 1, 0, 0, 0, 0) from rfl)).trans g_ldI
theorem u60_21 : wp r 60 21 [a0, a1, vI z] st x Q ↔ wp r 60 22 [a0, a1, vI z] (vI z :: st) x Q := (wp_u (show cd 60 21 = some (.iload_n 2, 1, 0, 0, 0, 0) from rfl))
theorem u60_22 : wp r 60 22 ls (vI w :: vI z :: st) x Q ↔ inI (z + w) = true ∧ wp r 60 23 ls (vI (z + w) :: st) x Q := (wp_u (show cd 60 22 = some (.iadd, 1, 0, 0, 0, 0) from rfl)).trans wq_if
theorem u60_23 : wp r 60 23 ls st x Q ↔ wp r 60 24 ls (vI 1 :: st) x Q := (wp_u (show cd 60 23 = some (.iconst 1, 1, 0, 0, 0, 0) from rfl))
theorem u60_24 : wp r 60 24 ls (vI w :: vI z :: st) x Q ↔ inI (z - w) = true ∧ wp r 60 25 ls (vI (z - w) :: st) x Q := (wp_u (show cd 60 24 = some (.isub, 1, 0, 0, 0, 0) from rfl)).trans wq_if
theorem u60_25 : wp r 60 25 ls (vI i :: vA q :: st) x Q ↔ ldk 22 (hK x q) i ∧ wp r 60 26 ls (vI (hI x q i) :: st) x Q := (wp_u (show cd 60 25 = some (.saload, 1, 0, 0, 0, 0) from rfl)).trans g_ldI
theorem u60_26 : wp r 60 26 ls (vI z :: st) x Q ↔ if z = 0 then wp r 60 29 ls st x Q else wp r 60 35 ls st x Q := (wp_u (show cd 60 26 = some (.ifCond .ne 9, 3, 35, 0, 0, 0) from rfl)).trans wq_dn
theorem u60_29 : wp r 60 29 [a0, a1, vI z] st x Q ↔ inI (z + (-1)) = true ∧ wp r 60 32 [a0, a1, vI (z + (-1))] st x Q := (wp_u (show cd 60 29 = some (.iinc 2 (-1), 3, 0, 0, 0, 0) from rfl)).trans wq_if
theorem u60_32 : wp r 60 32 ls st x Q ↔ wp r 60 7 ls st x Q := (wp_u (show cd 60 32 = some (.goto (-25), 3, 7, 0, 0, 0) from rfl))
theorem u60_35 : wp r 60 35 [a0, a1, vI z] st x Q ↔ wp r 60 36 [a0, a1, vI z] (vI z :: st) x Q := (wp_u (show cd 60 35 = some (.iload_n 2, 1, 0, 0, 0, 0) from rfl))
theorem u60_36 : wp r 60 36 ls [vI z] x Q ↔ Q (.inl (some (vI z))) x := (wp_u (show cd 60 36 = some (.ireturn, 1, 0, 0, 0, 0) from rfl))
theorem e60 : wpc r 60 [vR o0, vI z1] x Q ↔ wp r 60 0 [vR o0, vI z1, vL jk] [] x Q := Iff.rfl
/-! 61 D_write -/
theorem u61_0 : wp r 61 0 [a0, vR o, a2, a3, a4] st x Q ↔ wp r 61 1 [a0, vR o, a2, a3, a4] (vR o :: st) x Q := (wp_u (show cd 61 0 = some (.aload_n 1, 1, 0, 0, 0, 0) from rfl))
theorem u61_1 : wp r 61 1 ls (vA q :: st) x Q ↔ sbk 2 (hK x q) ∧ wp r 61 4 ls (vR (hR x q 7) :: st) x Q := (wp_u (show cd 61 1 = some (.getfield 259, 3, 2, 7, 5, 0) from rfl)).trans g_getR
theorem u61_4 : wp r 61 4 [a0, a1, vI z, a3, a4] st x Q ↔ wp r 61 5 [a0, a1, vI z, a3, a4] (vI z :: st) x Q := (wp_u (show cd 61 4 = some (.iload_n 2, 1, 0, 0, 0, 0) from rfl))
theorem u61_5 : wp r 61 5 ls (vI i :: vA q :: st) x Q ↔ ldk 22 (hK x q) i ∧ wp r 61 6 ls (vI (hI x q i) :: st) x Q := (wp_u (show cd 61 5 = some (.saload, 1, 0, 0, 0, 0) from rfl)).trans g_ldI
theorem u61_6 : wp r 61 6 [a0, a1, a2, a3, a4] (vI z :: st) x Q ↔ wp r 61 7 [a0, a1, a2, vI z, a4] st x Q := (wp_u (show cd 61 6 = some (.istore_n 3, 1, 0, 0, 0, 0) from rfl))
theorem u61_7 : wp r 61 7 [a0, a1, a2, vI z, a4] st x Q ↔ wp r 61 8 [a0, a1, a2, vI z, a4] (vI z :: st) x Q := (wp_u (show cd 61 7 = some (.iload_n 3, 1, 0, 0, 0, 0) from rfl))
theorem u61_8 : wp r 61 8 [a0, a1, a2, a3, a4] (vI z :: st) x Q ↔ wp r 61 10 [a0, a1, a2, a3, vI z] st x Q := (wp_u (show cd 61 8 = some (.istore 4, 2, 0, 0, 0, 0) from rfl))
theorem u61_10 : wp r 61 10 [a0, a1, a2, a3, vI z] st x Q ↔ wp r 61 12 [a0, a1, a2, a3, vI z] (vI z :: st) x Q := (wp_u (show cd 61 10 = some (.iload 4, 2, 0, 0, 0, 0) from rfl))
theorem u61_12 : wp r 61 12 [a0, a1, a2, vI z, a4] st x Q ↔ wp r 61 13 [a0, a1, a2, vI z, a4] (vI z :: st) x Q := (wp_u (show cd 61 12 = some (.iload_n 3, 1, 0, 0, 0, 0) from rfl))
theorem u61_13 : wp r 61 13 [a0, vR o, a2, a3, a4] st x Q ↔ wp r 61 14 [a0, vR o, a2, a3, a4] (vR o :: st) x Q := (wp_u (show cd 61 13 = some (.aload_n 1, 1, 0, 0, 0, 0) from rfl))
theorem u61_14 : wp r 61 14 ls (vA q :: st) x Q ↔ sbk 2 (hK x q) ∧ wp r 61 17 ls (vR (hR x q 8) :: st) x Q := (wp_u (show cd 61 14 = some (.getfield 263, 3, 2, 8, 5, 0) from rfl)).trans g_getR
theorem u61_17 : wp r 61 17 [a0, a1, vI z, a3, a4] st x Q ↔ wp r 61 18 [a0, a1, vI z, a3, a4] (vI z :: st) x Q := (wp_u (show cd 61 17 = some (.iload_n 2, 1, 0, 0, 0, 0) from rfl))
theorem u61_18 : wp r 61 18 ls (vI i :: vA q :: st) x Q ↔ ldk 22 (hK x q) i ∧ wp r 61 19 ls (vI (hI x q i) :: st) x Q := (wp_u (show cd 61 18 = some (.saload, 1, 0, 0, 0, 0) from rfl)).trans g_ldI
theorem u61_19 : wp r 61 19 ls (vI w :: vI z :: st) x Q ↔ inI (z + w) = true ∧ wp r 61 20 ls (vI (z + w) :: st) x Q := (wp_u (show cd 61 19 = some (.iadd, 1, 0, 0, 0, 0) from rfl)).trans wq_if
theorem u61_20 : wp r 61 20 ls (vI w :: vI z :: st) x Q ↔ if w ≤ z then wp r 61 61 ls st x Q else wp r 61 23 ls st x Q := (wp_u (show cd 61 20 = some (.if_icmp .ge 41, 3, 61, 0, 0, 0) from rfl)).trans wq_d
theorem u61_23 : wp r 61 23 [a0, vR o, a2, a3, a4] st x Q ↔ wp r 61 24 [a0, vR o, a2, a3, a4] (vR o :: st) x Q := (wp_u (show cd 61 23 = some (.aload_n 1, 1, 0, 0, 0, 0) from rfl))
theorem u61_24 : wp r 61 24 ls (vA q :: st) x Q ↔ sbk 2 (hK x q) ∧ wp r 61 27 ls (vR (hR x q 0) :: st) x Q := (wp_u (show cd 61 24 = some (.getfield 266, 3, 2, 0, 5, 0) from rfl)).trans g_getR
theorem u61_27 : wp r 61 27 [a0, a1, a2, a3, vI z] st x Q ↔ wp r 61 29 [a0, a1, a2, a3, vI z] (vI z :: st) x Q := (wp_u (show cd 61 27 = some (.iload 4, 2, 0, 0, 0, 0) from rfl))
theorem u61_29 : wp r 61 29 ls (vI i :: vA q :: st) x Q ↔ ldk 21 (hK x q) i ∧ wp r 61 30 ls (vI (hI x q i) :: st) x Q := (wp_u (show cd 61 29 = some (.caload, 1, 0, 0, 0, 0) from rfl)).trans g_ldI
theorem u61_30 : wp r 61 30 ls (vI z0 :: st) x Q ↔ sml st = true ∧ 1 < r ∧ wpc 1 73 [vI z0] x (wk r 61 30 ls st Q) := (wp_u (show cd 61 30 = some (.invokestatic 269, 3, 73, 1, 1, 0) from rfl)).trans (g_stat (by decide) (by simp) rfl)
theorem u61_33 : wp r 61 33 ls (vI z :: st) x Q ↔ if z = 0 then wp r 61 43 ls st x Q else wp r 61 36 ls st x Q := (wp_u (show cd 61 33 = some (.ifCond .eq 10, 3, 43, 0, 0, 0) from rfl)).trans wq_d
theorem u61_36 : wp r 61 36 [vR o, a1, a2, a3, a4] st x Q ↔ wp r 61 37 [vR o, a1, a2, a3, a4] (vR o :: st) x Q := (wp_u (show cd 61 36 = some (.aload_n 0, 1, 0, 0, 0, 0) from rfl))
theorem u61_37 : wp r 61 37 ls st x Q ↔ wp r 61 39 ls (vI 63 :: st) x Q := (wp_u (show cd 61 37 = some (.bipush 63, 2, 0, 0, 0, 0) from rfl))
theorem u61_39 : wp r 61 39 ls (vI z0 :: vA q :: st) x Q ↔ isk 10 (hK x q) ∧ sml st = true ∧ 6 < r ∧ wpc 6 140 [vA q, vI z0] x (wk r 61 39 ls st Q) := (wp_u (show cd 61 39 = some (.invokevirtual 273, 3, 140, 2, 6, 10) from rfl)).trans (g_virt rfl (by decide) (by simp) rfl)
theorem u61_42i : wp r 61 42 ls (vI z :: st) x Q ↔ wp r 61 43 ls st x Q := (wp_u (show cd 61 42 = some (.pop, 1, 0, 0, 0, 0) from rfl))
theorem u61_42 : wp r 61 42 ls (vR o :: st) x Q ↔ wp r 61 43 ls st x Q := (wp_u (show cd 61 42 = some (.pop, 1, 0, 0, 0, 0) from rfl))
theorem u61_43 : wp r 61 43 [vR o, a1, a2, a3, a4] st x Q ↔ wp r 61 44 [vR o, a1, a2, a3, a4] (vR o :: st) x Q := (wp_u (show cd 61 43 = some (.aload_n 0, 1, 0, 0, 0, 0) from rfl))
theorem u61_44 : wp r 61 44 [a0, vR o, a2, a3, a4] st x Q ↔ wp r 61 45 [a0, vR o, a2, a3, a4] (vR o :: st) x Q := (wp_u (show cd 61 44 = some (.aload_n 1, 1, 0, 0, 0, 0) from rfl))
theorem u61_45 : wp r 61 45 ls (vA q :: st) x Q ↔ sbk 2 (hK x q) ∧ wp r 61 48 ls (vR (hR x q 0) :: st) x Q := (wp_u (show cd 61 45 = some (.getfield 266, 3, 2, 0, 5, 0) from rfl)).trans g_getR
theorem u61_48 : wp r 61 48 [a0, a1, a2, a3, vI z] st x Q ↔ wp r 61 50 [a0, a1, a2, a3, vI z] (vI z :: st) x Q := (wp_u (show cd 61 48 = some (.iload 4, 2, 0, 0, 0, 0) from rfl))
theorem u61_50 : wp r 61 50 ls (vI i :: vA q :: st) x Q ↔ ldk 21 (hK x q) i ∧ wp r 61 51 ls (vI (hI x q i) :: st) x Q := (wp_u (show cd 61 50 = some (.caload, 1, 0, 0, 0, 0) from rfl)).trans g_ldI
theorem u61_51 : wp r 61 51 ls (vI z0 :: vA q :: st) x Q ↔ isk 10 (hK x q) ∧ sml st = true ∧ 6 < r ∧ wpc 6 140 [vA q, vI z0] x (wk r 61 51 ls st Q) := (wp_u (show cd 61 51 = some (.invokevirtual 273, 3, 140, 2, 6, 10) from rfl)).trans (g_virt rfl (by decide) (by simp) rfl)
theorem u61_54i : wp r 61 54 ls (vI z :: st) x Q ↔ wp r 61 55 ls st x Q := (wp_u (show cd 61 54 = some (.pop, 1, 0, 0, 0, 0) from rfl))
theorem u61_54 : wp r 61 54 ls (vR o :: st) x Q ↔ wp r 61 55 ls st x Q := (wp_u (show cd 61 54 = some (.pop, 1, 0, 0, 0, 0) from rfl))
theorem u61_55 : wp r 61 55 [a0, a1, a2, a3, vI z] st x Q ↔ inI (z + 1) = true ∧ wp r 61 58 [a0, a1, a2, a3, vI (z + 1)] st x Q := (wp_u (show cd 61 55 = some (.iinc 4 1, 3, 0, 0, 0, 0) from rfl)).trans wq_if
theorem u61_58 : wp r 61 58 ls st x Q ↔ wp r 61 10 ls st x Q := (wp_u (show cd 61 58 = some (.goto (-48), 3, 10, 0, 0, 0) from rfl))
theorem u61_61 : wp r 61 61 ls [] x Q ↔ Q (.inl none) x := (wp_u (show cd 61 61 = some (.return_, 1, 0, 0, 0, 0) from rfl))
theorem e61 : wpc r 61 [vR o0, vR o1, vI z2] x Q ↔ wp r 61 0 [vR o0, vR o1, vI z2, vL jk, vL jk] [] x Q := Iff.rfl
/-! 62 D_line -/
theorem u62_0 : wp r 62 0 [vR o, a1, a2, a3, a4, a5, a6] st x Q ↔ wp r 62 1 [vR o, a1, a2, a3, a4, a5, a6] (vR o :: st) x Q := (wp_u (show cd 62 0 = some (.aload_n 0, 1, 0, 0, 0, 0) from rfl))
theorem u62_1 : wp r 62 1 ls (vA q :: st) x Q ↔ sbk 2 (hK x q) ∧ wp r 62 4 ls (vR (hR x q 21) :: st) x Q := (wp_u (show cd 62 1 = some (.getfield 303, 3, 2, 21, 5, 0) from rfl)).trans g_getR
theorem u62_4 : wp r 62 4 ls st x Q ↔ wp r 62 6 ls (vI 85 :: st) x Q := (wp_u (show cd 62 4 = some (.bipush 85, 2, 0, 0, 0, 0) from rfl))
theorem u62_6 : wp r 62 6 ls (vI z0 :: vA q :: st) x Q ↔ isk 10 (hK x q) ∧ sml st = true ∧ 6 < r ∧ wpc 6 140 [vA q, vI z0] x (wk r 62 6 ls st Q) := (wp_u (show cd 62 6 = some (.invokevirtual 273, 3, 140, 2, 6, 10) from rfl)).trans (g_virt rfl (by decide) (by simp) rfl)
theorem u62_9 : wp r 62 9 ls st x Q ↔ wp r 62 11 ls (vI 67 :: st) x Q := (wp_u (show cd 62 9 = some (.bipush 67, 2, 0, 0, 0, 0) from rfl))
theorem u62_11 : wp r 62 11 ls (vI z0 :: vA q :: st) x Q ↔ isk 10 (hK x q) ∧ sml st = true ∧ 6 < r ∧ wpc 6 140 [vA q, vI z0] x (wk r 62 11 ls st Q) := (wp_u (show cd 62 11 = some (.invokevirtual 273, 3, 140, 2, 6, 10) from rfl)).trans (g_virt rfl (by decide) (by simp) rfl)
theorem u62_14 : wp r 62 14 [a0, vI z, a2, a3, a4, a5, a6] st x Q ↔ wp r 62 15 [a0, vI z, a2, a3, a4, a5, a6] (vI z :: st) x Q := (wp_u (show cd 62 14 = some (.iload_n 1, 1, 0, 0, 0, 0) from rfl))
theorem u62_15 : wp r 62 15 ls (vI z0 :: vA q :: st) x Q ↔ isk 10 (hK x q) ∧ sml st = true ∧ 6 < r ∧ wpc 6 140 [vA q, vI z0] x (wk r 62 15 ls st Q) := (wp_u (show cd 62 15 = some (.invokevirtual 273, 3, 140, 2, 6, 10) from rfl)).trans (g_virt rfl (by decide) (by simp) rfl)
theorem u62_18 : wp r 62 18 ls st x Q ↔ wp r 62 20 ls (vI 43 :: st) x Q := (wp_u (show cd 62 18 = some (.bipush 43, 2, 0, 0, 0, 0) from rfl))
theorem u62_20 : wp r 62 20 ls (vI z0 :: vA q :: st) x Q ↔ isk 10 (hK x q) ∧ sml st = true ∧ 6 < r ∧ wpc 6 140 [vA q, vI z0] x (wk r 62 20 ls st Q) := (wp_u (show cd 62 20 = some (.invokevirtual 273, 3, 140, 2, 6, 10) from rfl)).trans (g_virt rfl (by decide) (by simp) rfl)
theorem u62_23i : wp r 62 23 ls (vI z :: st) x Q ↔ wp r 62 24 ls st x Q := (wp_u (show cd 62 23 = some (.pop, 1, 0, 0, 0, 0) from rfl))
theorem u62_23 : wp r 62 23 ls (vR o :: st) x Q ↔ wp r 62 24 ls st x Q := (wp_u (show cd 62 23 = some (.pop, 1, 0, 0, 0, 0) from rfl))
theorem u62_24 : wp r 62 24 [vR o, a1, a2, a3, a4, a5, a6] st x Q ↔ wp r 62 25 [vR o, a1, a2, a3, a4, a5, a6] (vR o :: st) x Q := (wp_u (show cd 62 24 = some (.aload_n 0, 1, 0, 0, 0, 0) from rfl))
theorem u62_25 : wp r 62 25 [a0, a1, vI z, a3, a4, a5, a6] st x Q ↔ wp r 62 26 [a0, a1, vI z, a3, a4, a5, a6] (vI z :: st) x Q := (wp_u (show cd 62 25 = some (.iload_n 2, 1, 0, 0, 0, 0) from rfl))
theorem u62_26 : wp r 62 26 [a0, a1, a2, vI z, a4, a5, a6] st x Q ↔ wp r 62 27 [a0, a1, a2, vI z, a4, a5, a6] (vI z :: st) x Q := (wp_u (show cd 62 26 = some (.iload_n 3, 1, 0, 0, 0, 0) from rfl))
theorem u62_27 : wp r 62 27 ls st x Q ↔ wp r 62 28 ls (vI 0 :: st) x Q := (wp_u (show cd 62 27 = some (.iconst 0, 1, 0, 0, 0, 0) from rfl))
theorem u62_28 : wp r 62 28 ls (vI z2 :: vI z1 :: vI z0 :: vA q :: st) x Q ↔ isk 2 (hK x q) ∧ sml st = true ∧ 1 < r ∧ wpc 1 48 [vA q, vI z0, vI z1, vI z2] x (wk r 62 28 ls st Q) := (wp_u (show cd 62 28 = some (.invokevirtual 306, 3, 48, 4, 1, 2) from rfl)).trans (g_virt rfl (by decide) (by simp) rfl)
theorem u62_31 : wp r 62 31 [a0, a1, a2, a3, a4, a5, a6] (vI z :: st) x Q ↔ wp r 62 33 [a0, a1, a2, a3, a4, a5, vI z] st x Q := (wp_u (show cd 62 31 = some (.istore 6, 2, 0, 0, 0, 0) from rfl))
theorem u62_33 : wp r 62 33 [a0, a1, a2, a3, a4, a5, vI z] st x Q ↔ wp r 62 35 [a0, a1, a2, a3, a4, a5, vI z] (vI z :: st) x Q := (wp_u (show cd 62 33 = some (.iload 6, 2, 0, 0, 0, 0) from rfl))
theorem u62_35 : wp r 62 35 ls st x Q ↔ wp r 62 36 ls (vI (-1) :: st) x Q := (wp_u (show cd 62 35 = some (.iconst (-1), 1, 0, 0, 0, 0) from rfl))
theorem u62_36 : wp r 62 36 ls (vI w :: vI z :: st) x Q ↔ if z = w then wp r 62 49 ls st x Q else wp r 62 39 ls st x Q := (wp_u (show cd 62 36 = some (.if_icmp .eq 13, 3, 49, 0, 0, 0) from rfl)).trans wq_d
theorem u62_39 : wp r 62 39 [vR o, a1, a2, a3, a4, a5, a6] st x Q ↔ wp r 62 40 [vR o, a1, a2, a3, a4, a5, a6] (vR o :: st) x Q := (wp_u (show cd 62 39 = some (.aload_n 0, 1, 0, 0, 0, 0) from rfl))
theorem u62_40 : wp r 62 40 ls (vA q :: st) x Q ↔ sbk 2 (hK x q) ∧ wp r 62 43 ls (vR (hR x q 21) :: st) x Q := (wp_u (show cd 62 40 = some (.getfield 303, 3, 2, 21, 5, 0) from rfl)).trans g_getR
theorem u62_43 : wp r 62 43 [vR o, a1, a2, a3, a4, a5, a6] st x Q ↔ wp r 62 44 [vR o, a1, a2, a3, a4, a5, a6] (vR o :: st) x Q := (wp_u (show cd 62 43 = some (.aload_n 0, 1, 0, 0, 0, 0) from rfl))
theorem u62_44 : wp r 62 44 [a0, a1, a2, a3, a4, a5, vI z] st x Q ↔ wp r 62 46 [a0, a1, a2, a3, a4, a5, vI z] (vI z :: st) x Q := (wp_u (show cd 62 44 = some (.iload 6, 2, 0, 0, 0, 0) from rfl))
theorem u62_46 : wp r 62 46 ls (vI z2 :: vR o1 :: vR o0 :: st) x Q ↔ sml st = true ∧ 7 < r ∧ wpc 7 61 [vR o0, vR o1, vI z2] x (wk r 62 46 ls st Q) := (wp_u (show cd 62 46 = some (.invokestatic 299, 3, 61, 3, 7, 0) from rfl)).trans (g_stat (by decide) (by simp) rfl)
theorem u62_49 : wp r 62 49 [vR o, a1, a2, a3, a4, a5, a6] st x Q ↔ wp r 62 50 [vR o, a1, a2, a3, a4, a5, a6] (vR o :: st) x Q := (wp_u (show cd 62 49 = some (.aload_n 0, 1, 0, 0, 0, 0) from rfl))
theorem u62_50 : wp r 62 50 ls (vA q :: st) x Q ↔ sbk 2 (hK x q) ∧ wp r 62 53 ls (vR (hR x q 21) :: st) x Q := (wp_u (show cd 62 50 = some (.getfield 303, 3, 2, 21, 5, 0) from rfl)).trans g_getR
theorem u62_53 : wp r 62 53 ls st x Q ↔ wp r 62 55 ls (vI 43 :: st) x Q := (wp_u (show cd 62 53 = some (.bipush 43, 2, 0, 0, 0, 0) from rfl))
theorem u62_55 : wp r 62 55 ls (vI z0 :: vA q :: st) x Q ↔ isk 10 (hK x q) ∧ sml st = true ∧ 6 < r ∧ wpc 6 140 [vA q, vI z0] x (wk r 62 55 ls st Q) := (wp_u (show cd 62 55 = some (.invokevirtual 273, 3, 140, 2, 6, 10) from rfl)).trans (g_virt rfl (by decide) (by simp) rfl)
theorem u62_58 : wp r 62 58 [a0, a1, a2, a3, vI z, a5, a6] st x Q ↔ wp r 62 60 [a0, a1, a2, a3, vI z, a5, a6] (vI z :: st) x Q := (wp_u (show cd 62 58 = some (.iload 4, 2, 0, 0, 0, 0) from rfl))
theorem u62_60 : wp r 62 60 ls (vI z0 :: vA q :: st) x Q ↔ isk 10 (hK x q) ∧ sml st = true ∧ 6 < r ∧ wpc 6 144 [vA q, vI z0] x (wk r 62 60 ls st Q) := (wp_u (show cd 62 60 = some (.invokevirtual 310, 3, 144, 2, 6, 10) from rfl)).trans (g_virt rfl (by decide) (by simp) rfl)
theorem u62_63i : wp r 62 63 ls (vI z :: st) x Q ↔ wp r 62 64 ls st x Q := (wp_u (show cd 62 63 = some (.pop, 1, 0, 0, 0, 0) from rfl))
theorem u62_63 : wp r 62 63 ls (vR o :: st) x Q ↔ wp r 62 64 ls st x Q := (wp_u (show cd 62 63 = some (.pop, 1, 0, 0, 0, 0) from rfl))
theorem u62_64 : wp r 62 64 [a0, a1, a2, a3, a4, vI z, a6] st x Q ↔ wp r 62 66 [a0, a1, a2, a3, a4, vI z, a6] (vI z :: st) x Q := (wp_u (show cd 62 64 = some (.iload 5, 2, 0, 0, 0, 0) from rfl))
theorem u62_66 : wp r 62 66 ls st x Q ↔ wp r 62 67 ls (vI (-1) :: st) x Q := (wp_u (show cd 62 66 = some (.iconst (-1), 1, 0, 0, 0, 0) from rfl))
theorem u62_67 : wp r 62 67 ls (vI w :: vI z :: st) x Q ↔ if z = w then wp r 62 85 ls st x Q else wp r 62 70 ls st x Q := (wp_u (show cd 62 67 = some (.if_icmp .eq 18, 3, 85, 0, 0, 0) from rfl)).trans wq_d
theorem u62_70 : wp r 62 70 [vR o, a1, a2, a3, a4, a5, a6] st x Q ↔ wp r 62 71 [vR o, a1, a2, a3, a4, a5, a6] (vR o :: st) x Q := (wp_u (show cd 62 70 = some (.aload_n 0, 1, 0, 0, 0, 0) from rfl))
theorem u62_71 : wp r 62 71 ls (vA q :: st) x Q ↔ sbk 2 (hK x q) ∧ wp r 62 74 ls (vR (hR x q 21) :: st) x Q := (wp_u (show cd 62 71 = some (.getfield 303, 3, 2, 21, 5, 0) from rfl)).trans g_getR
theorem u62_74 : wp r 62 74 ls st x Q ↔ wp r 62 76 ls (vI 43 :: st) x Q := (wp_u (show cd 62 74 = some (.bipush 43, 2, 0, 0, 0, 0) from rfl))
theorem u62_76 : wp r 62 76 ls (vI z0 :: vA q :: st) x Q ↔ isk 10 (hK x q) ∧ sml st = true ∧ 6 < r ∧ wpc 6 140 [vA q, vI z0] x (wk r 62 76 ls st Q) := (wp_u (show cd 62 76 = some (.invokevirtual 273, 3, 140, 2, 6, 10) from rfl)).trans (g_virt rfl (by decide) (by simp) rfl)
theorem u62_79 : wp r 62 79 [a0, a1, a2, a3, a4, vI z, a6] st x Q ↔ wp r 62 81 [a0, a1, a2, a3, a4, vI z, a6] (vI z :: st) x Q := (wp_u (show cd 62 79 = some (.iload 5, 2, 0, 0, 0, 0) from rfl))
theorem u62_81 : wp r 62 81 ls (vI z0 :: vA q :: st) x Q ↔ isk 10 (hK x q) ∧ sml st = true ∧ 6 < r ∧ wpc 6 144 [vA q, vI z0] x (wk r 62 81 ls st Q) := (wp_u (show cd 62 81 = some (.invokevirtual 310, 3, 144, 2, 6, 10) from rfl)).trans (g_virt rfl (by decide) (by simp) rfl)
theorem u62_84i : wp r 62 84 ls (vI z :: st) x Q ↔ wp r 62 85 ls st x Q := (wp_u (show cd 62 84 = some (.pop, 1, 0, 0, 0, 0) from rfl))
theorem u62_84 : wp r 62 84 ls (vR o :: st) x Q ↔ wp r 62 85 ls st x Q := (wp_u (show cd 62 84 = some (.pop, 1, 0, 0, 0, 0) from rfl))
theorem u62_85 : wp r 62 85 [vR o, a1, a2, a3, a4, a5, a6] st x Q ↔ wp r 62 86 [vR o, a1, a2, a3, a4, a5, a6] (vR o :: st) x Q := (wp_u (show cd 62 85 = some (.aload_n 0, 1, 0, 0, 0, 0) from rfl))
theorem u62_86 : wp r 62 86 ls (vA q :: st) x Q ↔ sbk 2 (hK x q) ∧ wp r 62 89 ls (vR (hR x q 21) :: st) x Q := (wp_u (show cd 62 86 = some (.getfield 303, 3, 2, 21, 5, 0) from rfl)).trans g_getR
theorem u62_89 : wp r 62 89 ls st x Q ↔ wp r 62 91 ls (vI 39 :: st) x Q := (wp_u (show cd 62 89 = some (.bipush 39, 2, 0, 0, 0, 0) from rfl))
theorem u62_91 : wp r 62 91 ls (vI z0 :: vA q :: st) x Q ↔ isk 10 (hK x q) ∧ sml st = true ∧ 6 < r ∧ wpc 6 140 [vA q, vI z0] x (wk r 62 91 ls st Q) := (wp_u (show cd 62 91 = some (.invokevirtual 273, 3, 140, 2, 6, 10) from rfl)).trans (g_virt rfl (by decide) (by simp) rfl)
theorem u62_94i : wp r 62 94 ls (vI z :: st) x Q ↔ wp r 62 95 ls st x Q := (wp_u (show cd 62 94 = some (.pop, 1, 0, 0, 0, 0) from rfl))
theorem u62_94 : wp r 62 94 ls (vR o :: st) x Q ↔ wp r 62 95 ls st x Q := (wp_u (show cd 62 94 = some (.pop, 1, 0, 0, 0, 0) from rfl))
theorem u62_95 : wp r 62 95 ls [] x Q ↔ Q (.inl none) x := (wp_u (show cd 62 95 = some (.return_, 1, 0, 0, 0, 0) from rfl))
theorem e62 : wpc r 62 [vR o0, vI z1, vI z2, vI z3, vI z4, vI z5] x Q ↔ wp r 62 0 [vR o0, vI z1, vI z2, vI z3, vI z4, vI z5, vL jk] [] x Q := Iff.rfl
/-! 63 Ic_clear -/
theorem u63_0 : wp r 63 0 [vR o] st x Q ↔ wp r 63 1 [vR o] (vR o :: st) x Q := (wp_u (show cd 63 0 = some (.aload_n 0, 1, 0, 0, 0, 0) from rfl))
theorem u63_1 : wp r 63 1 ls st x Q ↔ wp r 63 2 ls (vI 0 :: st) x Q := (wp_u (show cd 63 1 = some (.iconst 0, 1, 0, 0, 0, 0) from rfl))
theorem u63_2 : wp r 63 2 ls (vI z :: vA q :: st) x Q ↔ sbk 2 (hK x q) ∧ wp r 63 5 ls st (stI x q 1 z) Q := (wp_u (show cd 63 2 = some (.putfield 69, 3, 2, 1, 0, 0) from rfl)).trans g_putI0
theorem u63_5 : wp r 63 5 [vR o] st x Q ↔ wp r 63 6 [vR o] (vR o :: st) x Q := (wp_u (show cd 63 5 = some (.aload_n 0, 1, 0, 0, 0, 0) from rfl))
theorem u63_6 : wp r 63 6 ls st x Q ↔ wp r 63 7 ls (vI 0 :: st) x Q := (wp_u (show cd 63 6 = some (.iconst 0, 1, 0, 0, 0, 0) from rfl))
theorem u63_7 : wp r 63 7 ls (vI z :: vA q :: st) x Q ↔ sbk 2 (hK x q) ∧ wp r 63 10 ls st (stI x q 3 z) Q := (wp_u (show cd 63 7 = some (.putfield 73, 3, 2, 3, 0, 0) from rfl)).trans g_putI0
theorem u63_10 : wp r 63 10 [vR o] st x Q ↔ wp r 63 11 [vR o] (vR o :: st) x Q := (wp_u (show cd 63 10 = some (.aload_n 0, 1, 0, 0, 0, 0) from rfl))
theorem u63_11 : wp r 63 11 ls st x Q ↔ wp r 63 12 ls (vI 0 :: st) x Q := (wp_u (show cd 63 11 = some (.iconst 0, 1, 0, 0, 0, 0) from rfl))
theorem u63_12 : wp r 63 12 ls (vI z :: vA q :: st) x Q ↔ sbk 2 (hK x q) ∧ wp r 63 15 ls st (stI x q 6 z) Q := (wp_u (show cd 63 12 = some (.putfield 76, 3, 2, 6, 0, 0) from rfl)).trans g_putI0
theorem u63_15 : wp r 63 15 [vR o] st x Q ↔ wp r 63 16 [vR o] (vR o :: st) x Q := (wp_u (show cd 63 15 = some (.aload_n 0, 1, 0, 0, 0, 0) from rfl))
theorem u63_16 : wp r 63 16 ls st x Q ↔ wp r 63 17 ls (vI 0 :: st) x Q := (wp_u (show cd 63 16 = some (.iconst 0, 1, 0, 0, 0, 0) from rfl))
theorem u63_17 : wp r 63 17 ls (vI z :: vA q :: st) x Q ↔ sbk 2 (hK x q) ∧ wp r 63 20 ls st (stI x q 9 z) Q := (wp_u (show cd 63 17 = some (.putfield 79, 3, 2, 9, 0, 0) from rfl)).trans g_putI0
theorem u63_20 : wp r 63 20 [vR o] st x Q ↔ wp r 63 21 [vR o] (vR o :: st) x Q := (wp_u (show cd 63 20 = some (.aload_n 0, 1, 0, 0, 0, 0) from rfl))
theorem u63_21 : wp r 63 21 ls st x Q ↔ wp r 63 22 ls (vI 0 :: st) x Q := (wp_u (show cd 63 21 = some (.iconst 0, 1, 0, 0, 0, 0) from rfl))
theorem u63_22 : wp r 63 22 ls (vI z :: vA q :: st) x Q ↔ sbk 2 (hK x q) ∧ wp r 63 25 ls st (stI x q 15 z) Q := (wp_u (show cd 63 22 = some (.putfield 82, 3, 2, 15, 0, 0) from rfl)).trans g_putI0
theorem u63_25 : wp r 63 25 [vR o] st x Q ↔ wp r 63 26 [vR o] (vR o :: st) x Q := (wp_u (show cd 63 25 = some (.aload_n 0, 1, 0, 0, 0, 0) from rfl))
theorem u63_26 : wp r 63 26 ls st x Q ↔ wp r 63 27 ls (vI 0 :: st) x Q := (wp_u (show cd 63 26 = some (.iconst 0, 1, 0, 0, 0, 0) from rfl))
theorem u63_27 : wp r 63 27 ls (vI z :: vA q :: st) x Q ↔ sbk 2 (hK x q) ∧ wp r 63 30 ls st (stI x q 18 z) Q := (wp_u (show cd 63 27 = some (.putfield 85, 3, 2, 18, 0, 0) from rfl)).trans g_putI0
theorem u63_30 : wp r 63 30 [vR o] st x Q ↔ wp r 63 31 [vR o] (vR o :: st) x Q := (wp_u (show cd 63 30 = some (.aload_n 0, 1, 0, 0, 0, 0) from rfl))
theorem u63_31 : wp r 63 31 ls (vA q :: st) x Q ↔ sbk 2 (hK x q) ∧ wp r 63 34 ls (vR (hR x q 20) :: st) x Q := (wp_u (show cd 63 31 = some (.getfield 61, 3, 2, 20, 5, 0) from rfl)).trans g_getR
theorem u63_34 : wp r 63 34 ls st x Q ↔ wp r 63 35 ls (vI 0 :: st) x Q := (wp_u (show cd 63 34 = some (.iconst 0, 1, 0, 0, 0, 0) from rfl))
theorem u63_35 : wp r 63 35 ls (vI z0 :: vA q :: st) x Q ↔ isk 10 (hK x q) ∧ sml st = true ∧ 6 < r ∧ wpc 6 147 [vA q, vI z0] x (wk r 63 35 ls st Q) := (wp_u (show cd 63 35 = some (.invokevirtual 88, 3, 147, 2, 6, 10) from rfl)).trans (g_virt rfl (by decide) (by simp) rfl)
theorem u63_38 : wp r 63 38 [vR o] st x Q ↔ wp r 63 39 [vR o] (vR o :: st) x Q := (wp_u (show cd 63 38 = some (.aload_n 0, 1, 0, 0, 0, 0) from rfl))
theorem u63_39 : wp r 63 39 ls (vA q :: st) x Q ↔ sbk 2 (hK x q) ∧ wp r 63 42 ls (vR (hR x q 21) :: st) x Q := (wp_u (show cd 63 39 = some (.getfield 65, 3, 2, 21, 5, 0) from rfl)).trans g_getR
theorem u63_42 : wp r 63 42 ls st x Q ↔ wp r 63 43 ls (vI 0 :: st) x Q := (wp_u (show cd 63 42 = some (.iconst 0, 1, 0, 0, 0, 0) from rfl))
theorem u63_43 : wp r 63 43 ls (vI z0 :: vA q :: st) x Q ↔ isk 10 (hK x q) ∧ sml st = true ∧ 6 < r ∧ wpc 6 147 [vA q, vI z0] x (wk r 63 43 ls st Q) := (wp_u (show cd 63 43 = some (.invokevirtual 88, 3, 147, 2, 6, 10) from rfl)).trans (g_virt rfl (by decide) (by simp) rfl)
theorem u63_46 : wp r 63 46 ls [] x Q ↔ Q (.inl none) x := (wp_u (show cd 63 46 = some (.return_, 1, 0, 0, 0, 0) from rfl))
theorem e63 : wpc r 63 [vA q] x Q ↔ wp r 63 0 [vA q] [] x Q := Iff.rfl
/-! 64 Sc_marks -/
theorem u64_0 : wp r 64 0 [vR o, a1] st x Q ↔ wp r 64 1 [vR o, a1] (vR o :: st) x Q := (wp_u (show cd 64 0 = some (.aload_n 0, 1, 0, 0, 0, 0) from rfl))
theorem u64_1 : wp r 64 1 ls st x Q ↔ wp r 64 3 ls (vI 58 :: st) x Q := (wp_u (show cd 64 1 = some (.bipush 58, 2, 0, 0, 0, 0) from rfl))
theorem u64_3 : wp r 64 3 ls (vI z :: vA q :: st) x Q ↔ sbk 1 (hK x q) ∧ rg 1 z = true ∧ wp r 64 6 ls st (stI x q 3 z) Q := (wp_u (show cd 64 3 = some (.putfield 25, 3, 1, 3, 1, 0) from rfl)).trans g_putI
theorem u64_6 : wp r 64 6 [vR o, a1] st x Q ↔ wp r 64 7 [vR o, a1] (vR o :: st) x Q := (wp_u (show cd 64 6 = some (.aload_n 0, 1, 0, 0, 0, 0) from rfl))
theorem u64_7 : wp r 64 7 ls st x Q ↔ wp r 64 9 ls (vI 43 :: st) x Q := (wp_u (show cd 64 7 = some (.bipush 43, 2, 0, 0, 0, 0) from rfl))
theorem u64_9 : wp r 64 9 ls (vI z :: vA q :: st) x Q ↔ sbk 1 (hK x q) ∧ rg 1 z = true ∧ wp r 64 12 ls st (stI x q 4 z) Q := (wp_u (show cd 64 9 = some (.putfield 29, 3, 1, 4, 1, 0) from rfl)).trans g_putI
theorem u64_12 : wp r 64 12 [vR o, a1] st x Q ↔ wp r 64 13 [vR o, a1] (vR o :: st) x Q := (wp_u (show cd 64 12 = some (.aload_n 0, 1, 0, 0, 0, 0) from rfl))
theorem u64_13 : wp r 64 13 ls st x Q ↔ wp r 64 15 ls (vI 63 :: st) x Q := (wp_u (show cd 64 13 = some (.bipush 63, 2, 0, 0, 0, 0) from rfl))
theorem u64_15 : wp r 64 15 ls (vI z :: vA q :: st) x Q ↔ sbk 1 (hK x q) ∧ rg 1 z = true ∧ wp r 64 18 ls st (stI x q 5 z) Q := (wp_u (show cd 64 15 = some (.putfield 32, 3, 1, 5, 1, 0) from rfl)).trans g_putI
theorem u64_18 : wp r 64 18 [vR o, a1] st x Q ↔ wp r 64 19 [vR o, a1] (vR o :: st) x Q := (wp_u (show cd 64 18 = some (.aload_n 0, 1, 0, 0, 0, 0) from rfl))
theorem u64_19 : wp r 64 19 ls st x Q ↔ wp r 64 21 ls (vI 39 :: st) x Q := (wp_u (show cd 64 19 = some (.bipush 39, 2, 0, 0, 0, 0) from rfl))
theorem u64_21 : wp r 64 21 ls (vI z :: vA q :: st) x Q ↔ sbk 1 (hK x q) ∧ rg 1 z = true ∧ wp r 64 24 ls st (stI x q 6 z) Q := (wp_u (show cd 64 21 = some (.putfield 35, 3, 1, 6, 1, 0) from rfl)).trans g_putI
theorem u64_24 : wp r 64 24 [vR o, a1] st x Q ↔ wp r 64 25 [vR o, a1] (vR o :: st) x Q := (wp_u (show cd 64 24 = some (.aload_n 0, 1, 0, 0, 0, 0) from rfl))
theorem u64_25 : wp r 64 25 ls (vA q :: st) x Q ↔ sbk 1 (hK x q) ∧ wp r 64 28 ls (vI (hI x q 1) :: st) x Q := (wp_u (show cd 64 25 = some (.getfield 19, 3, 1, 1, 0, 0) from rfl)).trans g_getI
theorem u64_28 : wp r 64 28 ls st x Q ↔ wp r 64 29 ls (vI 3 :: st) x Q := (wp_u (show cd 64 28 = some (.iconst 3, 1, 0, 0, 0, 0) from rfl))
theorem u64_29 : wp r 64 29 ls (vI w :: vI z :: st) x Q ↔ if z < w then wp r 64 65 ls st x Q else wp r 64 32 ls st x Q := (wp_u (show cd 64 29 = some (.if_icmp .lt 36, 3, 65, 0, 0, 0) from rfl)).trans wq_d
theorem u64_32 : wp r 64 32 [vR o, a1] st x Q ↔ wp r 64 33 [vR o, a1] (vR o :: st) x Q := (wp_u (show cd 64 32 = some (.aload_n 0, 1, 0, 0, 0, 0) from rfl))
theorem u64_33 : wp r 64 33 ls (vA q :: st) x Q ↔ sbk 1 (hK x q) ∧ wp r 64 36 ls (vR (hR x q 0) :: st) x Q := (wp_u (show cd 64 33 = some (.getfield 9, 3, 1, 0, 5, 0) from rfl)).trans g_getR
theorem u64_36 : wp r 64 36 ls st x Q ↔ wp r 64 37 ls (vI 0 :: st) x Q := (wp_u (show cd 64 36 = some (.iconst 0, 1, 0, 0, 0, 0) from rfl))
theorem u64_37 : wp r 64 37 ls (vI i :: vA q :: st) x Q ↔ ldk 21 (hK x q) i ∧ wp r 64 38 ls (vI (hI x q i) :: st) x Q := (wp_u (show cd 64 37 = some (.caload, 1, 0, 0, 0, 0) from rfl)).trans g_ldI
theorem u64_38 : wp r 64 38 ls st x Q ↔ wp r 64 40 ls (vI 85 :: st) x Q := (wp_u (show cd 64 38 = some (.bipush 85, 2, 0, 0, 0, 0) from rfl))
theorem u64_40 : wp r 64 40 ls (vI w :: vI z :: st) x Q ↔ if z = w then wp r 64 43 ls st x Q else wp r 64 65 ls st x Q := (wp_u (show cd 64 40 = some (.if_icmp .ne 25, 3, 65, 0, 0, 0) from rfl)).trans wq_dn
theorem u64_43 : wp r 64 43 [vR o, a1] st x Q ↔ wp r 64 44 [vR o, a1] (vR o :: st) x Q := (wp_u (show cd 64 43 = some (.aload_n 0, 1, 0, 0, 0, 0) from rfl))
theorem u64_44 : wp r 64 44 ls (vA q :: st) x Q ↔ sbk 1 (hK x q) ∧ wp r 64 47 ls (vR (hR x q 0) :: st) x Q := (wp_u (show cd 64 44 = some (.getfield 9, 3, 1, 0, 5, 0) from rfl)).trans g_getR
theorem u64_47 : wp r 64 47 ls st x Q ↔ wp r 64 48 ls (vI 1 :: st) x Q := (wp_u (show cd 64 47 = some (.iconst 1, 1, 0, 0, 0, 0) from rfl))
theorem u64_48 : wp r 64 48 ls (vI i :: vA q :: st) x Q ↔ ldk 21 (hK x q) i ∧ wp r 64 49 ls (vI (hI x q i) :: st) x Q := (wp_u (show cd 64 48 = some (.caload, 1, 0, 0, 0, 0) from rfl)).trans g_ldI
theorem u64_49 : wp r 64 49 ls st x Q ↔ wp r 64 51 ls (vI 78 :: st) x Q := (wp_u (show cd 64 49 = some (.bipush 78, 2, 0, 0, 0, 0) from rfl))
theorem u64_51 : wp r 64 51 ls (vI w :: vI z :: st) x Q ↔ if z = w then wp r 64 54 ls st x Q else wp r 64 65 ls st x Q := (wp_u (show cd 64 51 = some (.if_icmp .ne 14, 3, 65, 0, 0, 0) from rfl)).trans wq_dn
theorem u64_54 : wp r 64 54 [vR o, a1] st x Q ↔ wp r 64 55 [vR o, a1] (vR o :: st) x Q := (wp_u (show cd 64 54 = some (.aload_n 0, 1, 0, 0, 0, 0) from rfl))
theorem u64_55 : wp r 64 55 ls (vA q :: st) x Q ↔ sbk 1 (hK x q) ∧ wp r 64 58 ls (vR (hR x q 0) :: st) x Q := (wp_u (show cd 64 55 = some (.getfield 9, 3, 1, 0, 5, 0) from rfl)).trans g_getR
theorem u64_58 : wp r 64 58 ls st x Q ↔ wp r 64 59 ls (vI 2 :: st) x Q := (wp_u (show cd 64 58 = some (.iconst 2, 1, 0, 0, 0, 0) from rfl))
theorem u64_59 : wp r 64 59 ls (vI i :: vA q :: st) x Q ↔ ldk 21 (hK x q) i ∧ wp r 64 60 ls (vI (hI x q i) :: st) x Q := (wp_u (show cd 64 59 = some (.caload, 1, 0, 0, 0, 0) from rfl)).trans g_ldI
theorem u64_60 : wp r 64 60 ls st x Q ↔ wp r 64 62 ls (vI 65 :: st) x Q := (wp_u (show cd 64 60 = some (.bipush 65, 2, 0, 0, 0, 0) from rfl))
theorem u64_62 : wp r 64 62 ls (vI w :: vI z :: st) x Q ↔ if z = w then wp r 64 66 ls st x Q else wp r 64 65 ls st x Q := (wp_u (show cd 64 62 = some (.if_icmp .eq 4, 3, 66, 0, 0, 0) from rfl)).trans wq_d
theorem u64_65 : wp r 64 65 ls [] x Q ↔ Q (.inl none) x := (wp_u (show cd 64 65 = some (.return_, 1, 0, 0, 0, 0) from rfl))
theorem u64_66 : wp r 64 66 [vR o, a1] st x Q ↔ wp r 64 67 [vR o, a1] (vR o :: st) x Q := (wp_u (show cd 64 66 = some (.aload_n 0, 1, 0, 0, 0, 0) from rfl))
theorem u64_67 : wp r 64 67 ls st x Q ↔ wp r 64 68 ls (vI 3 :: st) x Q := (wp_u (show cd 64 67 = some (.iconst 3, 1, 0, 0, 0, 0) from rfl))
theorem u64_68 : wp r 64 68 ls (vI z :: vA q :: st) x Q ↔ sbk 1 (hK x q) ∧ wp r 64 71 ls st (stI x q 2 z) Q := (wp_u (show cd 64 68 = some (.putfield 15, 3, 1, 2, 0, 0) from rfl)).trans g_putI0
theorem u64_71 : wp r 64 71 [vR o, a1] st x Q ↔ wp r 64 72 [vR o, a1] (vR o :: st) x Q := (wp_u (show cd 64 71 = some (.aload_n 0, 1, 0, 0, 0, 0) from rfl))
theorem u64_72 : wp r 64 72 [vR o, a1] st x Q ↔ wp r 64 73 [vR o, a1] (vR o :: st) x Q := (wp_u (show cd 64 72 = some (.aload_n 0, 1, 0, 0, 0, 0) from rfl))
theorem u64_73 : wp r 64 73 ls (vA q :: st) x Q ↔ isk 1 (hK x q) ∧ sml st = true ∧ 1 < r ∧ wpc 1 65 [vA q] x (wk r 64 73 ls st Q) := (wp_u (show cd 64 73 = some (.invokevirtual 38, 3, 65, 1, 1, 1) from rfl)).trans (g_virt rfl (by decide) (by simp) rfl)
theorem u64_76 : wp r 64 76 ls (vI z :: vA q :: st) x Q ↔ sbk 1 (hK x q) ∧ rg 1 z = true ∧ wp r 64 79 ls st (stI x q 3 z) Q := (wp_u (show cd 64 76 = some (.putfield 25, 3, 1, 3, 1, 0) from rfl)).trans g_putI
theorem u64_79 : wp r 64 79 [vR o, a1] st x Q ↔ wp r 64 80 [vR o, a1] (vR o :: st) x Q := (wp_u (show cd 64 79 = some (.aload_n 0, 1, 0, 0, 0, 0) from rfl))
theorem u64_80 : wp r 64 80 ls (vA q :: st) x Q ↔ sbk 1 (hK x q) ∧ wp r 64 83 ls (vI (hI x q 3) :: st) x Q := (wp_u (show cd 64 80 = some (.getfield 25, 3, 1, 3, 1, 0) from rfl)).trans g_getI
theorem u64_83 : wp r 64 83 ls (vI z0 :: st) x Q ↔ sml st = true ∧ 1 < r ∧ wpc 1 74 [vI z0] x (wk r 64 83 ls st Q) := (wp_u (show cd 64 83 = some (.invokestatic 42, 3, 74, 1, 1, 0) from rfl)).trans (g_stat (by decide) (by simp) rfl)
theorem u64_86 : wp r 64 86 ls (vI z0 :: st) x Q ↔ sml st = true ∧ 1 < r ∧ wpc 1 75 [vI z0] x (wk r 64 86 ls st Q) := (wp_u (show cd 64 86 = some (.invokestatic 46, 3, 75, 1, 1, 0) from rfl)).trans (g_stat (by decide) (by simp) rfl)
theorem u64_89 : wp r 64 89 [vR o, a1] st x Q ↔ wp r 64 90 [vR o, a1] (vR o :: st) x Q := (wp_u (show cd 64 89 = some (.aload_n 0, 1, 0, 0, 0, 0) from rfl))
theorem u64_90i : wp r 64 90 ls (vI z :: st) x Q ↔ wp r 64 91 ls (vI z :: vI z :: st) x Q := (wp_u (show cd 64 90 = some (.dup, 1, 0, 0, 0, 0) from rfl))
theorem u64_90 : wp r 64 90 ls (vR o :: st) x Q ↔ wp r 64 91 ls (vR o :: vR o :: st) x Q := (wp_u (show cd 64 90 = some (.dup, 1, 0, 0, 0, 0) from rfl))
theorem u64_91 : wp r 64 91 ls (vA q :: st) x Q ↔ sbk 1 (hK x q) ∧ wp r 64 94 ls (vI (hI x q 2) :: st) x Q := (wp_u (show cd 64 91 = some (.getfield 15, 3, 1, 2, 0, 0) from rfl)).trans g_getI
theorem u64_94 : wp r 64 94 ls st x Q ↔ wp r 64 95 ls (vI 1 :: st) x Q := (wp_u (show cd 64 94 = some (.iconst 1, 1, 0, 0, 0, 0) from rfl))
theorem u64_95 : wp r 64 95 ls (vI w :: vI z :: st) x Q ↔ inI (z + w) = true ∧ wp r 64 96 ls (vI (z + w) :: st) x Q := (wp_u (show cd 64 95 = some (.iadd, 1, 0, 0, 0, 0) from rfl)).trans wq_if
theorem u64_96 : wp r 64 96 ls (vI z :: vA q :: st) x Q ↔ sbk 1 (hK x q) ∧ wp r 64 99 ls st (stI x q 2 z) Q := (wp_u (show cd 64 96 = some (.putfield 15, 3, 1, 2, 0, 0) from rfl)).trans g_putI0
theorem u64_99 : wp r 64 99 [vR o, a1] st x Q ↔ wp r 64 100 [vR o, a1] (vR o :: st) x Q := (wp_u (show cd 64 99 = some (.aload_n 0, 1, 0, 0, 0, 0) from rfl))
theorem u64_100 : wp r 64 100 [vR o, a1] st x Q ↔ wp r 64 101 [vR o, a1] (vR o :: st) x Q := (wp_u (show cd 64 100 = some (.aload_n 0, 1, 0, 0, 0, 0) from rfl))
theorem u64_101 : wp r 64 101 ls (vA q :: st) x Q ↔ isk 1 (hK x q) ∧ sml st = true ∧ 1 < r ∧ wpc 1 65 [vA q] x (wk r 64 101 ls st Q) := (wp_u (show cd 64 101 = some (.invokevirtual 38, 3, 65, 1, 1, 1) from rfl)).trans (g_virt rfl (by decide) (by simp) rfl)
theorem u64_104 : wp r 64 104 ls (vI z :: vA q :: st) x Q ↔ sbk 1 (hK x q) ∧ rg 1 z = true ∧ wp r 64 107 ls st (stI x q 4 z) Q := (wp_u (show cd 64 104 = some (.putfield 29, 3, 1, 4, 1, 0) from rfl)).trans g_putI
theorem u64_107 : wp r 64 107 [vR o, a1] st x Q ↔ wp r 64 108 [vR o, a1] (vR o :: st) x Q := (wp_u (show cd 64 107 = some (.aload_n 0, 1, 0, 0, 0, 0) from rfl))
theorem u64_108 : wp r 64 108 ls (vA q :: st) x Q ↔ sbk 1 (hK x q) ∧ wp r 64 111 ls (vI (hI x q 4) :: st) x Q := (wp_u (show cd 64 108 = some (.getfield 29, 3, 1, 4, 1, 0) from rfl)).trans g_getI
theorem u64_111 : wp r 64 111 ls (vI z0 :: st) x Q ↔ sml st = true ∧ 1 < r ∧ wpc 1 74 [vI z0] x (wk r 64 111 ls st Q) := (wp_u (show cd 64 111 = some (.invokestatic 42, 3, 74, 1, 1, 0) from rfl)).trans (g_stat (by decide) (by simp) rfl)
theorem u64_114 : wp r 64 114 ls (vI z :: st) x Q ↔ if z = 0 then wp r 64 132 ls st x Q else wp r 64 117 ls st x Q := (wp_u (show cd 64 114 = some (.ifCond .eq 18, 3, 132, 0, 0, 0) from rfl)).trans wq_d
theorem u64_117 : wp r 64 117 [vR o, a1] st x Q ↔ wp r 64 118 [vR o, a1] (vR o :: st) x Q := (wp_u (show cd 64 117 = some (.aload_n 0, 1, 0, 0, 0, 0) from rfl))
theorem u64_118 : wp r 64 118 ls (vA q :: st) x Q ↔ sbk 1 (hK x q) ∧ wp r 64 121 ls (vI (hI x q 4) :: st) x Q := (wp_u (show cd 64 118 = some (.getfield 29, 3, 1, 4, 1, 0) from rfl)).trans g_getI
theorem u64_121 : wp r 64 121 [vR o, a1] st x Q ↔ wp r 64 122 [vR o, a1] (vR o :: st) x Q := (wp_u (show cd 64 121 = some (.aload_n 0, 1, 0, 0, 0, 0) from rfl))
theorem u64_122 : wp r 64 122 ls (vA q :: st) x Q ↔ sbk 1 (hK x q) ∧ wp r 64 125 ls (vI (hI x q 3) :: st) x Q := (wp_u (show cd 64 122 = some (.getfield 25, 3, 1, 3, 1, 0) from rfl)).trans g_getI
theorem u64_125 : wp r 64 125 ls (vI w :: vI z :: st) x Q ↔ if z = w then wp r 64 132 ls st x Q else wp r 64 128 ls st x Q := (wp_u (show cd 64 125 = some (.if_icmp .eq 7, 3, 132, 0, 0, 0) from rfl)).trans wq_d
theorem u64_128 : wp r 64 128 ls st x Q ↔ wp r 64 129 ls (vI 1 :: st) x Q := (wp_u (show cd 64 128 = some (.iconst 1, 1, 0, 0, 0, 0) from rfl))
theorem u64_129 : wp r 64 129 ls st x Q ↔ wp r 64 133 ls st x Q := (wp_u (show cd 64 129 = some (.goto 4, 3, 133, 0, 0, 0) from rfl))
theorem u64_132 : wp r 64 132 ls st x Q ↔ wp r 64 133 ls (vI 0 :: st) x Q := (wp_u (show cd 64 132 = some (.iconst 0, 1, 0, 0, 0, 0) from rfl))
theorem u64_133 : wp r 64 133 ls (vI z0 :: st) x Q ↔ sml st = true ∧ 1 < r ∧ wpc 1 75 [vI z0] x (wk r 64 133 ls st Q) := (wp_u (show cd 64 133 = some (.invokestatic 46, 3, 75, 1, 1, 0) from rfl)).trans (g_stat (by decide) (by simp) rfl)
theorem u64_136 : wp r 64 136 [vR o, a1] st x Q ↔ wp r 64 137 [vR o, a1] (vR o :: st) x Q := (wp_u (show cd 64 136 = some (.aload_n 0, 1, 0, 0, 0, 0) from rfl))
theorem u64_137i : wp r 64 137 ls (vI z :: st) x Q ↔ wp r 64 138 ls (vI z :: vI z :: st) x Q := (wp_u (show cd 64 137 = some (.dup, 1, 0, 0, 0, 0) from rfl))
theorem u64_137 : wp r 64 137 ls (vR o :: st) x Q ↔ wp r 64 138 ls (vR o :: vR o :: st) x Q := (wp_u (show cd 64 137 = some (.dup, 1, 0, 0, 0, 0) from rfl))
theorem u64_138 : wp r 64 138 ls (vA q :: st) x Q ↔ sbk 1 (hK x q) ∧ wp r 64 141 ls (vI (hI x q 2) :: st) x Q := (wp_u (show cd 64 138 = some (.getfield 15, 3, 1, 2, 0, 0) from rfl)).trans g_getI
theorem u64_141 : wp r 64 141 ls st x Q ↔ wp r 64 142 ls (vI 1 :: st) x Q := (wp_u (show cd 64 141 = some (.iconst 1, 1, 0, 0, 0, 0) from rfl))
theorem u64_142 : wp r 64 142 ls (vI w :: vI z :: st) x Q ↔ inI (z + w) = true ∧ wp r 64 143 ls (vI (z + w) :: st) x Q := (wp_u (show cd 64 142 = some (.iadd, 1, 0, 0, 0, 0) from rfl)).trans wq_if
theorem u64_143 : wp r 64 143 ls (vI z :: vA q :: st) x Q ↔ sbk 1 (hK x q) ∧ wp r 64 146 ls st (stI x q 2 z) Q := (wp_u (show cd 64 143 = some (.putfield 15, 3, 1, 2, 0, 0) from rfl)).trans g_putI0
theorem u64_146 : wp r 64 146 [vR o, a1] st x Q ↔ wp r 64 147 [vR o, a1] (vR o :: st) x Q := (wp_u (show cd 64 146 = some (.aload_n 0, 1, 0, 0, 0, 0) from rfl))
theorem u64_147 : wp r 64 147 ls (vA q :: st) x Q ↔ isk 1 (hK x q) ∧ sml st = true ∧ 1 < r ∧ wpc 1 65 [vA q] x (wk r 64 147 ls st Q) := (wp_u (show cd 64 147 = some (.invokevirtual 38, 3, 65, 1, 1, 1) from rfl)).trans (g_virt rfl (by decide) (by simp) rfl)
theorem u64_150 : wp r 64 150 [a0, a1] (vI z :: st) x Q ↔ wp r 64 151 [a0, vI z] st x Q := (wp_u (show cd 64 150 = some (.istore_n 1, 1, 0, 0, 0, 0) from rfl))
theorem u64_151 : wp r 64 151 [vR o, a1] st x Q ↔ wp r 64 152 [vR o, a1] (vR o :: st) x Q := (wp_u (show cd 64 151 = some (.aload_n 0, 1, 0, 0, 0, 0) from rfl))
theorem u64_152i : wp r 64 152 ls (vI z :: st) x Q ↔ wp r 64 153 ls (vI z :: vI z :: st) x Q := (wp_u (show cd 64 152 = some (.dup, 1, 0, 0, 0, 0) from rfl))
theorem u64_152 : wp r 64 152 ls (vR o :: st) x Q ↔ wp r 64 153 ls (vR o :: vR o :: st) x Q := (wp_u (show cd 64 152 = some (.dup, 1, 0, 0, 0, 0) from rfl))
theorem u64_153 : wp r 64 153 ls (vA q :: st) x Q ↔ sbk 1 (hK x q) ∧ wp r 64 156 ls (vI (hI x q 2) :: st) x Q := (wp_u (show cd 64 153 = some (.getfield 15, 3, 1, 2, 0, 0) from rfl)).trans g_getI
theorem u64_156 : wp r 64 156 ls st x Q ↔ wp r 64 157 ls (vI 1 :: st) x Q := (wp_u (show cd 64 156 = some (.iconst 1, 1, 0, 0, 0, 0) from rfl))
theorem u64_157 : wp r 64 157 ls (vI w :: vI z :: st) x Q ↔ inI (z + w) = true ∧ wp r 64 158 ls (vI (z + w) :: st) x Q := (wp_u (show cd 64 157 = some (.iadd, 1, 0, 0, 0, 0) from rfl)).trans wq_if
theorem u64_158 : wp r 64 158 ls (vI z :: vA q :: st) x Q ↔ sbk 1 (hK x q) ∧ wp r 64 161 ls st (stI x q 2 z) Q := (wp_u (show cd 64 158 = some (.putfield 15, 3, 1, 2, 0, 0) from rfl)).trans g_putI0
theorem u64_161 : wp r 64 161 [vR o, a1] st x Q ↔ wp r 64 162 [vR o, a1] (vR o :: st) x Q := (wp_u (show cd 64 161 = some (.aload_n 0, 1, 0, 0, 0, 0) from rfl))
theorem u64_162 : wp r 64 162 [vR o, a1] st x Q ↔ wp r 64 163 [vR o, a1] (vR o :: st) x Q := (wp_u (show cd 64 162 = some (.aload_n 0, 1, 0, 0, 0, 0) from rfl))
theorem u64_163 : wp r 64 163 ls (vA q :: st) x Q ↔ isk 1 (hK x q) ∧ sml st = true ∧ 1 < r ∧ wpc 1 65 [vA q] x (wk r 64 163 ls st Q) := (wp_u (show cd 64 163 = some (.invokevirtual 38, 3, 65, 1, 1, 1) from rfl)).trans (g_virt rfl (by decide) (by simp) rfl)
theorem u64_166 : wp r 64 166 ls (vI z :: vA q :: st) x Q ↔ sbk 1 (hK x q) ∧ rg 1 z = true ∧ wp r 64 169 ls st (stI x q 5 z) Q := (wp_u (show cd 64 166 = some (.putfield 32, 3, 1, 5, 1, 0) from rfl)).trans g_putI
theorem u64_169 : wp r 64 169 [vR o, a1] st x Q ↔ wp r 64 170 [vR o, a1] (vR o :: st) x Q := (wp_u (show cd 64 169 = some (.aload_n 0, 1, 0, 0, 0, 0) from rfl))
theorem u64_170 : wp r 64 170 ls (vA q :: st) x Q ↔ sbk 1 (hK x q) ∧ wp r 64 173 ls (vI (hI x q 5) :: st) x Q := (wp_u (show cd 64 170 = some (.getfield 32, 3, 1, 5, 1, 0) from rfl)).trans g_getI
theorem u64_173 : wp r 64 173 ls st x Q ↔ wp r 64 175 ls (vI 32 :: st) x Q := (wp_u (show cd 64 173 = some (.bipush 32, 2, 0, 0, 0, 0) from rfl))
theorem u64_175 : wp r 64 175 ls (vI w :: vI z :: st) x Q ↔ if z = w then wp r 64 210 ls st x Q else wp r 64 178 ls st x Q := (wp_u (show cd 64 175 = some (.if_icmp .eq 35, 3, 210, 0, 0, 0) from rfl)).trans wq_d
theorem u64_178 : wp r 64 178 [vR o, a1] st x Q ↔ wp r 64 179 [vR o, a1] (vR o :: st) x Q := (wp_u (show cd 64 178 = some (.aload_n 0, 1, 0, 0, 0, 0) from rfl))
theorem u64_179 : wp r 64 179 ls (vA q :: st) x Q ↔ sbk 1 (hK x q) ∧ wp r 64 182 ls (vI (hI x q 5) :: st) x Q := (wp_u (show cd 64 179 = some (.getfield 32, 3, 1, 5, 1, 0) from rfl)).trans g_getI
theorem u64_182 : wp r 64 182 ls (vI z0 :: st) x Q ↔ sml st = true ∧ 1 < r ∧ wpc 1 74 [vI z0] x (wk r 64 182 ls st Q) := (wp_u (show cd 64 182 = some (.invokestatic 42, 3, 74, 1, 1, 0) from rfl)).trans (g_stat (by decide) (by simp) rfl)
theorem u64_185 : wp r 64 185 ls (vI z :: st) x Q ↔ if z = 0 then wp r 64 214 ls st x Q else wp r 64 188 ls st x Q := (wp_u (show cd 64 185 = some (.ifCond .eq 29, 3, 214, 0, 0, 0) from rfl)).trans wq_d
theorem u64_188 : wp r 64 188 [vR o, a1] st x Q ↔ wp r 64 189 [vR o, a1] (vR o :: st) x Q := (wp_u (show cd 64 188 = some (.aload_n 0, 1, 0, 0, 0, 0) from rfl))
theorem u64_189 : wp r 64 189 ls (vA q :: st) x Q ↔ sbk 1 (hK x q) ∧ wp r 64 192 ls (vI (hI x q 5) :: st) x Q := (wp_u (show cd 64 189 = some (.getfield 32, 3, 1, 5, 1, 0) from rfl)).trans g_getI
theorem u64_192 : wp r 64 192 [vR o, a1] st x Q ↔ wp r 64 193 [vR o, a1] (vR o :: st) x Q := (wp_u (show cd 64 192 = some (.aload_n 0, 1, 0, 0, 0, 0) from rfl))
theorem u64_193 : wp r 64 193 ls (vA q :: st) x Q ↔ sbk 1 (hK x q) ∧ wp r 64 196 ls (vI (hI x q 3) :: st) x Q := (wp_u (show cd 64 193 = some (.getfield 25, 3, 1, 3, 1, 0) from rfl)).trans g_getI
theorem u64_196 : wp r 64 196 ls (vI w :: vI z :: st) x Q ↔ if z = w then wp r 64 214 ls st x Q else wp r 64 199 ls st x Q := (wp_u (show cd 64 196 = some (.if_icmp .eq 18, 3, 214, 0, 0, 0) from rfl)).trans wq_d
theorem u64_199 : wp r 64 199 [vR o, a1] st x Q ↔ wp r 64 200 [vR o, a1] (vR o :: st) x Q := (wp_u (show cd 64 199 = some (.aload_n 0, 1, 0, 0, 0, 0) from rfl))
theorem u64_200 : wp r 64 200 ls (vA q :: st) x Q ↔ sbk 1 (hK x q) ∧ wp r 64 203 ls (vI (hI x q 5) :: st) x Q := (wp_u (show cd 64 200 = some (.getfield 32, 3, 1, 5, 1, 0) from rfl)).trans g_getI
theorem u64_203 : wp r 64 203 [vR o, a1] st x Q ↔ wp r 64 204 [vR o, a1] (vR o :: st) x Q := (wp_u (show cd 64 203 = some (.aload_n 0, 1, 0, 0, 0, 0) from rfl))
theorem u64_204 : wp r 64 204 ls (vA q :: st) x Q ↔ sbk 1 (hK x q) ∧ wp r 64 207 ls (vI (hI x q 4) :: st) x Q := (wp_u (show cd 64 204 = some (.getfield 29, 3, 1, 4, 1, 0) from rfl)).trans g_getI
theorem u64_207 : wp r 64 207 ls (vI w :: vI z :: st) x Q ↔ if z = w then wp r 64 214 ls st x Q else wp r 64 210 ls st x Q := (wp_u (show cd 64 207 = some (.if_icmp .eq 7, 3, 214, 0, 0, 0) from rfl)).trans wq_d
theorem u64_210 : wp r 64 210 ls st x Q ↔ wp r 64 211 ls (vI 1 :: st) x Q := (wp_u (show cd 64 210 = some (.iconst 1, 1, 0, 0, 0, 0) from rfl))
theorem u64_211 : wp r 64 211 ls st x Q ↔ wp r 64 215 ls st x Q := (wp_u (show cd 64 211 = some (.goto 4, 3, 215, 0, 0, 0) from rfl))
theorem u64_214 : wp r 64 214 ls st x Q ↔ wp r 64 215 ls (vI 0 :: st) x Q := (wp_u (show cd 64 214 = some (.iconst 0, 1, 0, 0, 0, 0) from rfl))
theorem u64_215 : wp r 64 215 ls (vI z0 :: st) x Q ↔ sml st = true ∧ 1 < r ∧ wpc 1 75 [vI z0] x (wk r 64 215 ls st Q) := (wp_u (show cd 64 215 = some (.invokestatic 46, 3, 75, 1, 1, 0) from rfl)).trans (g_stat (by decide) (by simp) rfl)
theorem u64_218 : wp r 64 218 [vR o, a1] st x Q ↔ wp r 64 219 [vR o, a1] (vR o :: st) x Q := (wp_u (show cd 64 218 = some (.aload_n 0, 1, 0, 0, 0, 0) from rfl))
theorem u64_219i : wp r 64 219 ls (vI z :: st) x Q ↔ wp r 64 220 ls (vI z :: vI z :: st) x Q := (wp_u (show cd 64 219 = some (.dup, 1, 0, 0, 0, 0) from rfl))
theorem u64_219 : wp r 64 219 ls (vR o :: st) x Q ↔ wp r 64 220 ls (vR o :: vR o :: st) x Q := (wp_u (show cd 64 219 = some (.dup, 1, 0, 0, 0, 0) from rfl))
theorem u64_220 : wp r 64 220 ls (vA q :: st) x Q ↔ sbk 1 (hK x q) ∧ wp r 64 223 ls (vI (hI x q 2) :: st) x Q := (wp_u (show cd 64 220 = some (.getfield 15, 3, 1, 2, 0, 0) from rfl)).trans g_getI
theorem u64_223 : wp r 64 223 ls st x Q ↔ wp r 64 224 ls (vI 1 :: st) x Q := (wp_u (show cd 64 223 = some (.iconst 1, 1, 0, 0, 0, 0) from rfl))
theorem u64_224 : wp r 64 224 ls (vI w :: vI z :: st) x Q ↔ inI (z + w) = true ∧ wp r 64 225 ls (vI (z + w) :: st) x Q := (wp_u (show cd 64 224 = some (.iadd, 1, 0, 0, 0, 0) from rfl)).trans wq_if
theorem u64_225 : wp r 64 225 ls (vI z :: vA q :: st) x Q ↔ sbk 1 (hK x q) ∧ wp r 64 228 ls st (stI x q 2 z) Q := (wp_u (show cd 64 225 = some (.putfield 15, 3, 1, 2, 0, 0) from rfl)).trans g_putI0
theorem u64_228 : wp r 64 228 [vR o, a1] st x Q ↔ wp r 64 229 [vR o, a1] (vR o :: st) x Q := (wp_u (show cd 64 228 = some (.aload_n 0, 1, 0, 0, 0, 0) from rfl))
theorem u64_229 : wp r 64 229 ls (vA q :: st) x Q ↔ isk 1 (hK x q) ∧ sml st = true ∧ 1 < r ∧ wpc 1 65 [vA q] x (wk r 64 229 ls st Q) := (wp_u (show cd 64 229 = some (.invokevirtual 38, 3, 65, 1, 1, 1) from rfl)).trans (g_virt rfl (by decide) (by simp) rfl)
theorem u64_232 : wp r 64 232 ls st x Q ↔ wp r 64 234 ls (vI 32 :: st) x Q := (wp_u (show cd 64 232 = some (.bipush 32, 2, 0, 0, 0, 0) from rfl))
theorem u64_234 : wp r 64 234 ls (vI w :: vI z :: st) x Q ↔ if z = w then wp r 64 237 ls st x Q else wp r 64 241 ls st x Q := (wp_u (show cd 64 234 = some (.if_icmp .ne 7, 3, 241, 0, 0, 0) from rfl)).trans wq_dn
theorem u64_237 : wp r 64 237 ls st x Q ↔ wp r 64 238 ls (vI 1 :: st) x Q := (wp_u (show cd 64 237 = some (.iconst 1, 1, 0, 0, 0, 0) from rfl))
theorem u64_238 : wp r 64 238 ls st x Q ↔ wp r 64 242 ls st x Q := (wp_u (show cd 64 238 = some (.goto 4, 3, 242, 0, 0, 0) from rfl))
theorem u64_241 : wp r 64 241 ls st x Q ↔ wp r 64 242 ls (vI 0 :: st) x Q := (wp_u (show cd 64 241 = some (.iconst 0, 1, 0, 0, 0, 0) from rfl))
theorem u64_242 : wp r 64 242 ls (vI z0 :: st) x Q ↔ sml st = true ∧ 1 < r ∧ wpc 1 75 [vI z0] x (wk r 64 242 ls st Q) := (wp_u (show cd 64 242 = some (.invokestatic 46, 3, 75, 1, 1, 0) from rfl)).trans (g_stat (by decide) (by simp) rfl)
theorem u64_245 : wp r 64 245 [vR o, a1] st x Q ↔ wp r 64 246 [vR o, a1] (vR o :: st) x Q := (wp_u (show cd 64 245 = some (.aload_n 0, 1, 0, 0, 0, 0) from rfl))
theorem u64_246i : wp r 64 246 ls (vI z :: st) x Q ↔ wp r 64 247 ls (vI z :: vI z :: st) x Q := (wp_u (show cd 64 246 = some (.dup, 1, 0, 0, 0, 0) from rfl))
theorem u64_246 : wp r 64 246 ls (vR o :: st) x Q ↔ wp r 64 247 ls (vR o :: vR o :: st) x Q := (wp_u (show cd 64 246 = some (.dup, 1, 0, 0, 0, 0) from rfl))
theorem u64_247 : wp r 64 247 ls (vA q :: st) x Q ↔ sbk 1 (hK x q) ∧ wp r 64 250 ls (vI (hI x q 2) :: st) x Q := (wp_u (show cd 64 247 = some (.getfield 15, 3, 1, 2, 0, 0) from rfl)).trans g_getI
theorem u64_250 : wp r 64 250 ls st x Q ↔ wp r 64 251 ls (vI 1 :: st) x Q := (wp_u (show cd 64 250 = some (.iconst 1, 1, 0, 0, 0, 0) from rfl))
set_option maxRecDepth 20000 in
theorem u64_251 : wp r 64 251 ls (vI w :: vI z :: st) x Q ↔ inI (z + w) = true ∧ wp r 64 252 ls (vI (z + w) :: st) x Q := (wp_u (show cd 64 251 = some (.iadd, 1, 0, 0, 0, 0) from rfl)).trans wq_if
set_option maxRecDepth 20000 in
theorem u64_252 : wp r 64 252 ls (vI z :: vA q :: st) x Q ↔ sbk 1 (hK x q) ∧ wp r 64 255 ls st (stI x q 2 z) Q := (wp_u (show cd 64 252 = some (.putfield 15, 3, 1, 2, 0, 0) from rfl)).trans g_putI0
set_option maxRecDepth 20000 in
theorem u64_255 : wp r 64 255 [vR o, a1] st x Q ↔ wp r 64 256 [vR o, a1] (vR o :: st) x Q := (wp_u (show cd 64 255 = some (.aload_n 0, 1, 0, 0, 0, 0) from rfl))
set_option maxRecDepth 20000 in
theorem u64_256 : wp r 64 256 [vR o, a1] st x Q ↔ wp r 64 257 [vR o, a1] (vR o :: st) x Q := (wp_u (show cd 64 256 = some (.aload_n 0, 1, 0, 0, 0, 0) from rfl))
set_option maxRecDepth 20000 in
theorem u64_257 : wp r 64 257 ls (vA q :: st) x Q ↔ isk 1 (hK x q) ∧ sml st = true ∧ 1 < r ∧ wpc 1 65 [vA q] x (wk r 64 257 ls st Q) := (wp_u (show cd 64 257 = some (.invokevirtual 38, 3, 65, 1, 1, 1) from rfl)).trans (g_virt rfl (by decide) (by simp) rfl)
set_option maxRecDepth 20000 in
theorem u64_260 : wp r 64 260 ls (vI z :: vA q :: st) x Q ↔ sbk 1 (hK x q) ∧ rg 1 z = true ∧ wp r 64 263 ls st (stI x q 6 z) Q := (wp_u (show cd 64 260 = some (.putfield 35, 3, 1, 6, 1, 0) from rfl)).trans g_putI
set_option maxRecDepth 20000 in
theorem u64_263 : wp r 64 263 [vR o, a1] st x Q ↔ wp r 64 264 [vR o, a1] (vR o :: st) x Q := (wp_u (show cd 64 263 = some (.aload_n 0, 1, 0, 0, 0, 0) from rfl))
set_option maxRecDepth 20000 in
theorem u64_264 : wp r 64 264 ls (vA q :: st) x Q ↔ sbk 1 (hK x q) ∧ wp r 64 267 ls (vI (hI x q 6) :: st) x Q := (wp_u (show cd 64 264 = some (.getfield 35, 3, 1, 6, 1, 0) from rfl)).trans g_getI
set_option maxRecDepth 20000 in
theorem u64_267 : wp r 64 267 ls (vI z0 :: st) x Q ↔ sml st = true ∧ 1 < r ∧ wpc 1 74 [vI z0] x (wk r 64 267 ls st Q) := (wp_u (show cd 64 267 = some (.invokestatic 42, 3, 74, 1, 1, 0) from rfl)).trans (g_stat (by decide) (by simp) rfl)
set_option maxRecDepth 20000 in
theorem u64_270 : wp r 64 270 ls (vI z :: st) x Q ↔ if z = 0 then wp r 64 310 ls st x Q else wp r 64 273 ls st x Q := (wp_u (show cd 64 270 = some (.ifCond .eq 40, 3, 310, 0, 0, 0) from rfl)).trans wq_d
set_option maxRecDepth 20000 in
theorem u64_273 : wp r 64 273 [vR o, a1] st x Q ↔ wp r 64 274 [vR o, a1] (vR o :: st) x Q := (wp_u (show cd 64 273 = some (.aload_n 0, 1, 0, 0, 0, 0) from rfl))
set_option maxRecDepth 20000 in
theorem u64_274 : wp r 64 274 ls (vA q :: st) x Q ↔ sbk 1 (hK x q) ∧ wp r 64 277 ls (vI (hI x q 6) :: st) x Q := (wp_u (show cd 64 274 = some (.getfield 35, 3, 1, 6, 1, 0) from rfl)).trans g_getI
set_option maxRecDepth 20000 in
theorem u64_277 : wp r 64 277 [vR o, a1] st x Q ↔ wp r 64 278 [vR o, a1] (vR o :: st) x Q := (wp_u (show cd 64 277 = some (.aload_n 0, 1, 0, 0, 0, 0) from rfl))
set_option maxRecDepth 20000 in
theorem u64_278 : wp r 64 278 ls (vA q :: st) x Q ↔ sbk 1 (hK x q) ∧ wp r 64 281 ls (vI (hI x q 3) :: st) x Q := (wp_u (show cd 64 278 = some (.getfield 25, 3, 1, 3, 1, 0) from rfl)).trans g_getI
set_option maxRecDepth 20000 in
theorem u64_281 : wp r 64 281 ls (vI w :: vI z :: st) x Q ↔ if z = w then wp r 64 310 ls st x Q else wp r 64 284 ls st x Q := (wp_u (show cd 64 281 = some (.if_icmp .eq 29, 3, 310, 0, 0, 0) from rfl)).trans wq_d
set_option maxRecDepth 20000 in
theorem u64_284 : wp r 64 284 [vR o, a1] st x Q ↔ wp r 64 285 [vR o, a1] (vR o :: st) x Q := (wp_u (show cd 64 284 = some (.aload_n 0, 1, 0, 0, 0, 0) from rfl))
set_option maxRecDepth 20000 in
theorem u64_285 : wp r 64 285 ls (vA q :: st) x Q ↔ sbk 1 (hK x q) ∧ wp r 64 288 ls (vI (hI x q 6) :: st) x Q := (wp_u (show cd 64 285 = some (.getfield 35, 3, 1, 6, 1, 0) from rfl)).trans g_getI
set_option maxRecDepth 20000 in
theorem u64_288 : wp r 64 288 [vR o, a1] st x Q ↔ wp r 64 289 [vR o, a1] (vR o :: st) x Q := (wp_u (show cd 64 288 = some (.aload_n 0, 1, 0, 0, 0, 0) from rfl))
set_option maxRecDepth 20000 in
theorem u64_289 : wp r 64 289 ls (vA q :: st) x Q ↔ sbk 1 (hK x q) ∧ wp r 64 292 ls (vI (hI x q 4) :: st) x Q := (wp_u (show cd 64 289 = some (.getfield 29, 3, 1, 4, 1, 0) from rfl)).trans g_getI
set_option maxRecDepth 20000 in
theorem u64_292 : wp r 64 292 ls (vI w :: vI z :: st) x Q ↔ if z = w then wp r 64 310 ls st x Q else wp r 64 295 ls st x Q := (wp_u (show cd 64 292 = some (.if_icmp .eq 18, 3, 310, 0, 0, 0) from rfl)).trans wq_d
set_option maxRecDepth 20000 in
theorem u64_295 : wp r 64 295 [vR o, a1] st x Q ↔ wp r 64 296 [vR o, a1] (vR o :: st) x Q := (wp_u (show cd 64 295 = some (.aload_n 0, 1, 0, 0, 0, 0) from rfl))
set_option maxRecDepth 20000 in
theorem u64_296 : wp r 64 296 ls (vA q :: st) x Q ↔ sbk 1 (hK x q) ∧ wp r 64 299 ls (vI (hI x q 6) :: st) x Q := (wp_u (show cd 64 296 = some (.getfield 35, 3, 1, 6, 1, 0) from rfl)).trans g_getI
set_option maxRecDepth 20000 in
theorem u64_299 : wp r 64 299 [vR o, a1] st x Q ↔ wp r 64 300 [vR o, a1] (vR o :: st) x Q := (wp_u (show cd 64 299 = some (.aload_n 0, 1, 0, 0, 0, 0) from rfl))
set_option maxRecDepth 20000 in
theorem u64_300 : wp r 64 300 ls (vA q :: st) x Q ↔ sbk 1 (hK x q) ∧ wp r 64 303 ls (vI (hI x q 5) :: st) x Q := (wp_u (show cd 64 300 = some (.getfield 32, 3, 1, 5, 1, 0) from rfl)).trans g_getI
set_option maxRecDepth 20000 in
theorem u64_303 : wp r 64 303 ls (vI w :: vI z :: st) x Q ↔ if z = w then wp r 64 310 ls st x Q else wp r 64 306 ls st x Q := (wp_u (show cd 64 303 = some (.if_icmp .eq 7, 3, 310, 0, 0, 0) from rfl)).trans wq_d
set_option maxRecDepth 20000 in
theorem u64_306 : wp r 64 306 ls st x Q ↔ wp r 64 307 ls (vI 1 :: st) x Q := (wp_u (show cd 64 306 = some (.iconst 1, 1, 0, 0, 0, 0) from rfl))
set_option maxRecDepth 20000 in
theorem u64_307 : wp r 64 307 ls st x Q ↔ wp r 64 311 ls st x Q := (wp_u (show cd 64 307 = some (.goto 4, 3, 311, 0, 0, 0) from rfl))
set_option maxRecDepth 20000 in
theorem u64_310 : wp r 64 310 ls st x Q ↔ wp r 64 311 ls (vI 0 :: st) x Q := (wp_u (show cd 64 310 = some (.iconst 0, 1, 0, 0, 0, 0) from rfl))
set_option maxRecDepth 20000 in
theorem u64_311 : wp r 64 311 ls (vI z0 :: st) x Q ↔ sml st = true ∧ 1 < r ∧ wpc 1 75 [vI z0] x (wk r 64 311 ls st Q) := (wp_u (show cd 64 311 = some (.invokestatic 46, 3, 75, 1, 1, 0) from rfl)).trans (g_stat (by decide) (by simp) rfl)
set_option maxRecDepth 20000 in
theorem u64_314 : wp r 64 314 [vR o, a1] st x Q ↔ wp r 64 315 [vR o, a1] (vR o :: st) x Q := (wp_u (show cd 64 314 = some (.aload_n 0, 1, 0, 0, 0, 0) from rfl))
set_option maxRecDepth 20000 in
theorem u64_315i : wp r 64 315 ls (vI z :: st) x Q ↔ wp r 64 316 ls (vI z :: vI z :: st) x Q := (wp_u (show cd 64 315 = some (.dup, 1, 0, 0, 0, 0) from rfl))
set_option maxRecDepth 20000 in
theorem u64_315 : wp r 64 315 ls (vR o :: st) x Q ↔ wp r 64 316 ls (vR o :: vR o :: st) x Q := (wp_u (show cd 64 315 = some (.dup, 1, 0, 0, 0, 0) from rfl))
set_option maxRecDepth 20000 in
theorem u64_316 : wp r 64 316 ls (vA q :: st) x Q ↔ sbk 1 (hK x q) ∧ wp r 64 319 ls (vI (hI x q 2) :: st) x Q := (wp_u (show cd 64 316 = some (.getfield 15, 3, 1, 2, 0, 0) from rfl)).trans g_getI
set_option maxRecDepth 20000 in
theorem u64_319 : wp r 64 319 ls st x Q ↔ wp r 64 320 ls (vI 1 :: st) x Q := (wp_u (show cd 64 319 = some (.iconst 1, 1, 0, 0, 0, 0) from rfl))
set_option maxRecDepth 20000 in
theorem u64_320 : wp r 64 320 ls (vI w :: vI z :: st) x Q ↔ inI (z + w) = true ∧ wp r 64 321 ls (vI (z + w) :: st) x Q := (wp_u (show cd 64 320 = some (.iadd, 1, 0, 0, 0, 0) from rfl)).trans wq_if
set_option maxRecDepth 20000 in
theorem u64_321 : wp r 64 321 ls (vI z :: vA q :: st) x Q ↔ sbk 1 (hK x q) ∧ wp r 64 324 ls st (stI x q 2 z) Q := (wp_u (show cd 64 321 = some (.putfield 15, 3, 1, 2, 0, 0) from rfl)).trans g_putI0
set_option maxRecDepth 20000 in
theorem u64_324 : wp r 64 324 ls [] x Q ↔ Q (.inl none) x := (wp_u (show cd 64 324 = some (.return_, 1, 0, 0, 0, 0) from rfl))
theorem e64 : wpc r 64 [vA q] x Q ↔ wp r 64 0 [vA q, vL jk] [] x Q := Iff.rfl
/-! 65 Sc_look -/
theorem u65_0 : wp r 65 0 [vR o] st x Q ↔ wp r 65 1 [vR o] (vR o :: st) x Q := (wp_u (show cd 65 0 = some (.aload_n 0, 1, 0, 0, 0, 0) from rfl))
theorem u65_1 : wp r 65 1 ls (vA q :: st) x Q ↔ sbk 1 (hK x q) ∧ wp r 65 4 ls (vI (hI x q 2) :: st) x Q := (wp_u (show cd 65 1 = some (.getfield 15, 3, 1, 2, 0, 0) from rfl)).trans g_getI
theorem u65_4 : wp r 65 4 [vR o] st x Q ↔ wp r 65 5 [vR o] (vR o :: st) x Q := (wp_u (show cd 65 4 = some (.aload_n 0, 1, 0, 0, 0, 0) from rfl))
theorem u65_5 : wp r 65 5 ls (vA q :: st) x Q ↔ sbk 1 (hK x q) ∧ wp r 65 8 ls (vI (hI x q 1) :: st) x Q := (wp_u (show cd 65 5 = some (.getfield 19, 3, 1, 1, 0, 0) from rfl)).trans g_getI
theorem u65_8 : wp r 65 8 ls (vI w :: vI z :: st) x Q ↔ if z < w then wp r 65 19 ls st x Q else wp r 65 11 ls st x Q := (wp_u (show cd 65 8 = some (.if_icmp .lt 11, 3, 19, 0, 0, 0) from rfl)).trans wq_d
theorem u65_11 : wp r 65 11 ls st x Q ↔ nok x 6 ∧ wp r 65 14 ls (vA (hN x) :: st) (nwO x 11 6) Q := (wp_u (show cd 65 11 = some (.new 22, 3, 11, 6, 0, 0) from rfl)).trans g_new
theorem u65_14i : wp r 65 14 ls (vI z :: st) x Q ↔ wp r 65 15 ls (vI z :: vI z :: st) x Q := (wp_u (show cd 65 14 = some (.dup, 1, 0, 0, 0, 0) from rfl))
theorem u65_14 : wp r 65 14 ls (vR o :: st) x Q ↔ wp r 65 15 ls (vR o :: vR o :: st) x Q := (wp_u (show cd 65 14 = some (.dup, 1, 0, 0, 0, 0) from rfl))
theorem u65_15 : wp r 65 15 ls (vA q :: vA q :: st) x Q ↔ hK x q = some (11, 6) ∧ sml st = true ∧ Q (.inr q) (stK x q 14 6) := (wp_u (show cd 65 15 = some (.invokespecial 24, 3, 1001, 1, 0, 11) from rfl)).trans (g_exi (t := st) (by decide))
theorem u65_19 : wp r 65 19 [vR o] st x Q ↔ wp r 65 20 [vR o] (vR o :: st) x Q := (wp_u (show cd 65 19 = some (.aload_n 0, 1, 0, 0, 0, 0) from rfl))
theorem u65_20 : wp r 65 20 ls (vA q :: st) x Q ↔ sbk 1 (hK x q) ∧ wp r 65 23 ls (vR (hR x q 0) :: st) x Q := (wp_u (show cd 65 20 = some (.getfield 9, 3, 1, 0, 5, 0) from rfl)).trans g_getR
theorem u65_23 : wp r 65 23 [vR o] st x Q ↔ wp r 65 24 [vR o] (vR o :: st) x Q := (wp_u (show cd 65 23 = some (.aload_n 0, 1, 0, 0, 0, 0) from rfl))
theorem u65_24 : wp r 65 24 ls (vA q :: st) x Q ↔ sbk 1 (hK x q) ∧ wp r 65 27 ls (vI (hI x q 2) :: st) x Q := (wp_u (show cd 65 24 = some (.getfield 15, 3, 1, 2, 0, 0) from rfl)).trans g_getI
theorem u65_27 : wp r 65 27 ls (vI i :: vA q :: st) x Q ↔ ldk 21 (hK x q) i ∧ wp r 65 28 ls (vI (hI x q i) :: st) x Q := (wp_u (show cd 65 27 = some (.caload, 1, 0, 0, 0, 0) from rfl)).trans g_ldI
theorem u65_28 : wp r 65 28 ls [vI z] x Q ↔ rg 1 z = true ∧ Q (.inl (some (vI z))) x := (wp_u (show cd 65 28 = some (.ireturn, 1, 1, 0, 0, 0) from rfl)).trans wq_if
theorem e65 : wpc r 65 [vA q] x Q ↔ wp r 65 0 [vA q] [] x Q := Iff.rfl
/-! 66 Sc_scanSegment -/
theorem u66_0 : wp r 66 0 [a0, vR o, a2, a3, a4] st x Q ↔ wp r 66 1 [a0, vR o, a2, a3, a4] (vR o :: st) x Q := (wp_u (show cd 66 0 = some (.aload_n 1, 1, 0, 0, 0, 0) from rfl))
theorem u66_1 : wp r 66 1 ls (vA q :: st) x Q ↔ sbk 2 (hK x q) ∧ wp r 66 4 ls (vI (hI x q 3) :: st) x Q := (wp_u (show cd 66 1 = some (.getfield 62, 3, 2, 3, 0, 0) from rfl)).trans g_getI
theorem u66_4 : wp r 66 4 ls st x Q ↔ wp r 66 6 ls (vI 40 :: st) x Q := (wp_u (show cd 66 4 = some (.bipush 40, 2, 0, 0, 0, 0) from rfl))
theorem u66_6 : wp r 66 6 ls (vI w :: vI z :: st) x Q ↔ if w ≤ z then wp r 66 13 ls st x Q else wp r 66 9 ls st x Q := (wp_u (show cd 66 6 = some (.if_icmp .ge 7, 3, 13, 0, 0, 0) from rfl)).trans wq_d
theorem u66_9 : wp r 66 9 ls st x Q ↔ wp r 66 10 ls (vI 1 :: st) x Q := (wp_u (show cd 66 9 = some (.iconst 1, 1, 0, 0, 0, 0) from rfl))
theorem u66_10 : wp r 66 10 ls st x Q ↔ wp r 66 14 ls st x Q := (wp_u (show cd 66 10 = some (.goto 4, 3, 14, 0, 0, 0) from rfl))
theorem u66_13 : wp r 66 13 ls st x Q ↔ wp r 66 14 ls (vI 0 :: st) x Q := (wp_u (show cd 66 13 = some (.iconst 0, 1, 0, 0, 0, 0) from rfl))
theorem u66_14 : wp r 66 14 ls (vI z0 :: st) x Q ↔ sml st = true ∧ 1 < r ∧ wpc 1 75 [vI z0] x (wk r 66 14 ls st Q) := (wp_u (show cd 66 14 = some (.invokestatic 46, 3, 75, 1, 1, 0) from rfl)).trans (g_stat (by decide) (by simp) rfl)
theorem u66_17 : wp r 66 17 ls st x Q ↔ wp r 66 18 ls (vI 0 :: st) x Q := (wp_u (show cd 66 17 = some (.iconst 0, 1, 0, 0, 0, 0) from rfl))
theorem u66_18 : wp r 66 18 [a0, a1, a2, a3, a4] (vI z :: st) x Q ↔ wp r 66 19 [a0, a1, vI z, a3, a4] st x Q := (wp_u (show cd 66 18 = some (.istore_n 2, 1, 0, 0, 0, 0) from rfl))
theorem u66_19 : wp r 66 19 ls st x Q ↔ wp r 66 20 ls (vI 0 :: st) x Q := (wp_u (show cd 66 19 = some (.iconst 0, 1, 0, 0, 0, 0) from rfl))
theorem u66_20 : wp r 66 20 [a0, a1, a2, a3, a4] (vI z :: st) x Q ↔ wp r 66 21 [a0, a1, a2, vI z, a4] st x Q := (wp_u (show cd 66 20 = some (.istore_n 3, 1, 0, 0, 0, 0) from rfl))
theorem u66_21 : wp r 66 21 [a0, a1, a2, vI z, a4] st x Q ↔ wp r 66 22 [a0, a1, a2, vI z, a4] (vI z :: st) x Q := (wp_u (show cd 66 21 = some (.iload_n 3, 1, 0, 0, 0, 0) from rfl))
theorem u66_22 : wp r 66 22 ls st x Q ↔ wp r 66 23 ls (vI 3 :: st) x Q := (wp_u (show cd 66 22 = some (.iconst 3, 1, 0, 0, 0, 0) from rfl))
theorem u66_23 : wp r 66 23 ls (vI w :: vI z :: st) x Q ↔ if w ≤ z then wp r 66 78 ls st x Q else wp r 66 26 ls st x Q := (wp_u (show cd 66 23 = some (.if_icmp .ge 55, 3, 78, 0, 0, 0) from rfl)).trans wq_d
theorem u66_26 : wp r 66 26 [vR o, a1, a2, a3, a4] st x Q ↔ wp r 66 27 [vR o, a1, a2, a3, a4] (vR o :: st) x Q := (wp_u (show cd 66 26 = some (.aload_n 0, 1, 0, 0, 0, 0) from rfl))
theorem u66_27 : wp r 66 27 ls (vA q :: st) x Q ↔ isk 1 (hK x q) ∧ sml st = true ∧ 1 < r ∧ wpc 1 65 [vA q] x (wk r 66 27 ls st Q) := (wp_u (show cd 66 27 = some (.invokevirtual 38, 3, 65, 1, 1, 1) from rfl)).trans (g_virt rfl (by decide) (by simp) rfl)
theorem u66_30 : wp r 66 30 [a0, a1, a2, a3, a4] (vI z :: st) x Q ↔ wp r 66 32 [a0, a1, a2, a3, vI z] st x Q := (wp_u (show cd 66 30 = some (.istore 4, 2, 0, 0, 0, 0) from rfl))
theorem u66_32 : wp r 66 32 [a0, a1, a2, a3, vI z] st x Q ↔ wp r 66 34 [a0, a1, a2, a3, vI z] (vI z :: st) x Q := (wp_u (show cd 66 32 = some (.iload 4, 2, 0, 0, 0, 0) from rfl))
theorem u66_34 : wp r 66 34 ls st x Q ↔ wp r 66 36 ls (vI 65 :: st) x Q := (wp_u (show cd 66 34 = some (.bipush 65, 2, 0, 0, 0, 0) from rfl))
theorem u66_36 : wp r 66 36 ls (vI w :: vI z :: st) x Q ↔ if z < w then wp r 66 50 ls st x Q else wp r 66 39 ls st x Q := (wp_u (show cd 66 36 = some (.if_icmp .lt 14, 3, 50, 0, 0, 0) from rfl)).trans wq_d
theorem u66_39 : wp r 66 39 [a0, a1, a2, a3, vI z] st x Q ↔ wp r 66 41 [a0, a1, a2, a3, vI z] (vI z :: st) x Q := (wp_u (show cd 66 39 = some (.iload 4, 2, 0, 0, 0, 0) from rfl))
theorem u66_41 : wp r 66 41 ls st x Q ↔ wp r 66 43 ls (vI 90 :: st) x Q := (wp_u (show cd 66 41 = some (.bipush 90, 2, 0, 0, 0, 0) from rfl))
theorem u66_43 : wp r 66 43 ls (vI w :: vI z :: st) x Q ↔ if w < z then wp r 66 50 ls st x Q else wp r 66 46 ls st x Q := (wp_u (show cd 66 43 = some (.if_icmp .gt 7, 3, 50, 0, 0, 0) from rfl)).trans wq_d
theorem u66_46 : wp r 66 46 ls st x Q ↔ wp r 66 47 ls (vI 1 :: st) x Q := (wp_u (show cd 66 46 = some (.iconst 1, 1, 0, 0, 0, 0) from rfl))
theorem u66_47 : wp r 66 47 ls st x Q ↔ wp r 66 51 ls st x Q := (wp_u (show cd 66 47 = some (.goto 4, 3, 51, 0, 0, 0) from rfl))
theorem u66_50 : wp r 66 50 ls st x Q ↔ wp r 66 51 ls (vI 0 :: st) x Q := (wp_u (show cd 66 50 = some (.iconst 0, 1, 0, 0, 0, 0) from rfl))
theorem u66_51 : wp r 66 51 ls (vI z0 :: st) x Q ↔ sml st = true ∧ 1 < r ∧ wpc 1 75 [vI z0] x (wk r 66 51 ls st Q) := (wp_u (show cd 66 51 = some (.invokestatic 46, 3, 75, 1, 1, 0) from rfl)).trans (g_stat (by decide) (by simp) rfl)
theorem u66_54 : wp r 66 54 [a0, a1, vI z, a3, a4] st x Q ↔ wp r 66 55 [a0, a1, vI z, a3, a4] (vI z :: st) x Q := (wp_u (show cd 66 54 = some (.iload_n 2, 1, 0, 0, 0, 0) from rfl))
theorem u66_55 : wp r 66 55 ls st x Q ↔ wp r 66 57 ls (vI 8 :: st) x Q := (wp_u (show cd 66 55 = some (.bipush 8, 2, 0, 0, 0, 0) from rfl))
theorem u66_57 : wp r 66 57 ls (vI w :: vI z :: st) x Q ↔ wp r 66 58 ls (vI (iShl z w) :: st) x Q := (wp_u (show cd 66 57 = some (.ishl, 1, 0, 0, 0, 0) from rfl)).trans (wq_if.trans (and_iff_right (inI_32 _)))
theorem u66_58 : wp r 66 58 [a0, a1, a2, a3, vI z] st x Q ↔ wp r 66 60 [a0, a1, a2, a3, vI z] (vI z :: st) x Q := (wp_u (show cd 66 58 = some (.iload 4, 2, 0, 0, 0, 0) from rfl))
theorem u66_60 : wp r 66 60 ls (vI w :: vI z :: st) x Q ↔ wp r 66 61 ls (vI (iOr z w) :: st) x Q := (wp_u (show cd 66 60 = some (.ior, 1, 0, 0, 0, 0) from rfl)).trans (wq_if.trans (and_iff_right (inI_32 _)))
theorem u66_61 : wp r 66 61 [a0, a1, a2, a3, a4] (vI z :: st) x Q ↔ wp r 66 62 [a0, a1, vI z, a3, a4] st x Q := (wp_u (show cd 66 61 = some (.istore_n 2, 1, 0, 0, 0, 0) from rfl))
theorem u66_62 : wp r 66 62 [vR o, a1, a2, a3, a4] st x Q ↔ wp r 66 63 [vR o, a1, a2, a3, a4] (vR o :: st) x Q := (wp_u (show cd 66 62 = some (.aload_n 0, 1, 0, 0, 0, 0) from rfl))
theorem u66_63i : wp r 66 63 ls (vI z :: st) x Q ↔ wp r 66 64 ls (vI z :: vI z :: st) x Q := (wp_u (show cd 66 63 = some (.dup, 1, 0, 0, 0, 0) from rfl))
theorem u66_63 : wp r 66 63 ls (vR o :: st) x Q ↔ wp r 66 64 ls (vR o :: vR o :: st) x Q := (wp_u (show cd 66 63 = some (.dup, 1, 0, 0, 0, 0) from rfl))
theorem u66_64 : wp r 66 64 ls (vA q :: st) x Q ↔ sbk 1 (hK x q) ∧ wp r 66 67 ls (vI (hI x q 2) :: st) x Q := (wp_u (show cd 66 64 = some (.getfield 15, 3, 1, 2, 0, 0) from rfl)).trans g_getI
theorem u66_67 : wp r 66 67 ls st x Q ↔ wp r 66 68 ls (vI 1 :: st) x Q := (wp_u (show cd 66 67 = some (.iconst 1, 1, 0, 0, 0, 0) from rfl))
theorem u66_68 : wp r 66 68 ls (vI w :: vI z :: st) x Q ↔ inI (z + w) = true ∧ wp r 66 69 ls (vI (z + w) :: st) x Q := (wp_u (show cd 66 68 = some (.iadd, 1, 0, 0, 0, 0) from rfl)).trans wq_if
theorem u66_69 : wp r 66 69 ls (vI z :: vA q :: st) x Q ↔ sbk 1 (hK x q) ∧ wp r 66 72 ls st (stI x q 2 z) Q := (wp_u (show cd 66 69 = some (.putfield 15, 3, 1, 2, 0, 0) from rfl)).trans g_putI0
theorem u66_72 : wp r 66 72 [a0, a1, a2, vI z, a4] st x Q ↔ inI (z + 1) = true ∧ wp r 66 75 [a0, a1, a2, vI (z + 1), a4] st x Q := (wp_u (show cd 66 72 = some (.iinc 3 1, 3, 0, 0, 0, 0) from rfl)).trans wq_if
theorem u66_75 : wp r 66 75 ls st x Q ↔ wp r 66 21 ls st x Q := (wp_u (show cd 66 75 = some (.goto (-54), 3, 21, 0, 0, 0) from rfl))
theorem u66_78 : wp r 66 78 [a0, vR o, a2, a3, a4] st x Q ↔ wp r 66 79 [a0, vR o, a2, a3, a4] (vR o :: st) x Q := (wp_u (show cd 66 78 = some (.aload_n 1, 1, 0, 0, 0, 0) from rfl))
theorem u66_79 : wp r 66 79 [a0, a1, vI z, a3, a4] st x Q ↔ wp r 66 80 [a0, a1, vI z, a3, a4] (vI z :: st) x Q := (wp_u (show cd 66 79 = some (.iload_n 2, 1, 0, 0, 0, 0) from rfl))
theorem u66_80 : wp r 66 80 ls (vI z0 :: vA q :: st) x Q ↔ isk 2 (hK x q) ∧ sml st = true ∧ 1 < r ∧ wpc 1 76 [vA q, vI z0] x (wk r 66 80 ls st Q) := (wp_u (show cd 66 80 = some (.invokevirtual 65, 3, 76, 2, 1, 2) from rfl)).trans (g_virt rfl (by decide) (by simp) rfl)
theorem u66_83 : wp r 66 83 [a0, a1, a2, a3, a4] (vR o :: st) x Q ↔ wp r 66 84 [a0, a1, a2, vR o, a4] st x Q := (wp_u (show cd 66 83 = some (.astore_n 3, 1, 0, 0, 0, 0) from rfl))
theorem u66_84 : wp r 66 84 [vR o, a1, a2, a3, a4] st x Q ↔ wp r 66 85 [vR o, a1, a2, a3, a4] (vR o :: st) x Q := (wp_u (show cd 66 84 = some (.aload_n 0, 1, 0, 0, 0, 0) from rfl))
theorem u66_85 : wp r 66 85 ls (vA q :: st) x Q ↔ isk 1 (hK x q) ∧ sml st = true ∧ 1 < r ∧ wpc 1 65 [vA q] x (wk r 66 85 ls st Q) := (wp_u (show cd 66 85 = some (.invokevirtual 38, 3, 65, 1, 1, 1) from rfl)).trans (g_virt rfl (by decide) (by simp) rfl)
theorem u66_88 : wp r 66 88 [vR o, a1, a2, a3, a4] st x Q ↔ wp r 66 89 [vR o, a1, a2, a3, a4] (vR o :: st) x Q := (wp_u (show cd 66 88 = some (.aload_n 0, 1, 0, 0, 0, 0) from rfl))
theorem u66_89 : wp r 66 89 ls (vA q :: st) x Q ↔ sbk 1 (hK x q) ∧ wp r 66 92 ls (vI (hI x q 6) :: st) x Q := (wp_u (show cd 66 89 = some (.getfield 35, 3, 1, 6, 1, 0) from rfl)).trans g_getI
theorem u66_92 : wp r 66 92 ls (vI w :: vI z :: st) x Q ↔ if z = w then wp r 66 106 ls st x Q else wp r 66 95 ls st x Q := (wp_u (show cd 66 92 = some (.if_icmp .eq 14, 3, 106, 0, 0, 0) from rfl)).trans wq_d
theorem u66_95 : wp r 66 95 [vR o, a1, a2, a3, a4] st x Q ↔ wp r 66 96 [vR o, a1, a2, a3, a4] (vR o :: st) x Q := (wp_u (show cd 66 95 = some (.aload_n 0, 1, 0, 0, 0, 0) from rfl))
theorem u66_96 : wp r 66 96 ls (vA q :: st) x Q ↔ isk 1 (hK x q) ∧ sml st = true ∧ 1 < r ∧ wpc 1 65 [vA q] x (wk r 66 96 ls st Q) := (wp_u (show cd 66 96 = some (.invokevirtual 38, 3, 65, 1, 1, 1) from rfl)).trans (g_virt rfl (by decide) (by simp) rfl)
theorem u66_99 : wp r 66 99 [vR o, a1, a2, a3, a4] st x Q ↔ wp r 66 100 [vR o, a1, a2, a3, a4] (vR o :: st) x Q := (wp_u (show cd 66 99 = some (.aload_n 0, 1, 0, 0, 0, 0) from rfl))
theorem u66_100 : wp r 66 100 ls (vA q :: st) x Q ↔ sbk 1 (hK x q) ∧ wp r 66 103 ls (vI (hI x q 4) :: st) x Q := (wp_u (show cd 66 100 = some (.getfield 29, 3, 1, 4, 1, 0) from rfl)).trans g_getI
theorem u66_103 : wp r 66 103 ls (vI w :: vI z :: st) x Q ↔ if z = w then wp r 66 106 ls st x Q else wp r 66 110 ls st x Q := (wp_u (show cd 66 103 = some (.if_icmp .ne 7, 3, 110, 0, 0, 0) from rfl)).trans wq_dn
theorem u66_106 : wp r 66 106 ls st x Q ↔ wp r 66 107 ls (vI 1 :: st) x Q := (wp_u (show cd 66 106 = some (.iconst 1, 1, 0, 0, 0, 0) from rfl))
theorem u66_107 : wp r 66 107 ls st x Q ↔ wp r 66 111 ls st x Q := (wp_u (show cd 66 107 = some (.goto 4, 3, 111, 0, 0, 0) from rfl))
theorem u66_110 : wp r 66 110 ls st x Q ↔ wp r 66 111 ls (vI 0 :: st) x Q := (wp_u (show cd 66 110 = some (.iconst 0, 1, 0, 0, 0, 0) from rfl))
theorem u66_111 : wp r 66 111 ls (vI z0 :: st) x Q ↔ sml st = true ∧ 1 < r ∧ wpc 1 75 [vI z0] x (wk r 66 111 ls st Q) := (wp_u (show cd 66 111 = some (.invokestatic 46, 3, 75, 1, 1, 0) from rfl)).trans (g_stat (by decide) (by simp) rfl)
theorem u66_114 : wp r 66 114 [vR o, a1, a2, a3, a4] st x Q ↔ wp r 66 115 [vR o, a1, a2, a3, a4] (vR o :: st) x Q := (wp_u (show cd 66 114 = some (.aload_n 0, 1, 0, 0, 0, 0) from rfl))
theorem u66_115 : wp r 66 115 ls (vA q :: st) x Q ↔ isk 1 (hK x q) ∧ sml st = true ∧ 1 < r ∧ wpc 1 65 [vA q] x (wk r 66 115 ls st Q) := (wp_u (show cd 66 115 = some (.invokevirtual 38, 3, 65, 1, 1, 1) from rfl)).trans (g_virt rfl (by decide) (by simp) rfl)
theorem u66_118 : wp r 66 118 [vR o, a1, a2, a3, a4] st x Q ↔ wp r 66 119 [vR o, a1, a2, a3, a4] (vR o :: st) x Q := (wp_u (show cd 66 118 = some (.aload_n 0, 1, 0, 0, 0, 0) from rfl))
theorem u66_119 : wp r 66 119 ls (vA q :: st) x Q ↔ sbk 1 (hK x q) ∧ wp r 66 122 ls (vI (hI x q 6) :: st) x Q := (wp_u (show cd 66 119 = some (.getfield 35, 3, 1, 6, 1, 0) from rfl)).trans g_getI
theorem u66_122 : wp r 66 122 ls (vI w :: vI z :: st) x Q ↔ if z = w then wp r 66 129 ls st x Q else wp r 66 125 ls st x Q := (wp_u (show cd 66 122 = some (.if_icmp .eq 7, 3, 129, 0, 0, 0) from rfl)).trans wq_d
theorem u66_125 : wp r 66 125 ls st x Q ↔ wp r 66 126 ls (vI 1 :: st) x Q := (wp_u (show cd 66 125 = some (.iconst 1, 1, 0, 0, 0, 0) from rfl))
theorem u66_126 : wp r 66 126 ls st x Q ↔ wp r 66 130 ls st x Q := (wp_u (show cd 66 126 = some (.goto 4, 3, 130, 0, 0, 0) from rfl))
theorem u66_129 : wp r 66 129 ls st x Q ↔ wp r 66 130 ls (vI 0 :: st) x Q := (wp_u (show cd 66 129 = some (.iconst 0, 1, 0, 0, 0, 0) from rfl))
theorem u66_130 : wp r 66 130 [a0, a1, a2, a3, a4] (vI z :: st) x Q ↔ wp r 66 132 [a0, a1, a2, a3, vI z] st x Q := (wp_u (show cd 66 130 = some (.istore 4, 2, 0, 0, 0, 0) from rfl))
theorem u66_132 : wp r 66 132 [a0, a1, a2, a3, vI z] st x Q ↔ wp r 66 134 [a0, a1, a2, a3, vI z] (vI z :: st) x Q := (wp_u (show cd 66 132 = some (.iload 4, 2, 0, 0, 0, 0) from rfl))
theorem u66_134 : wp r 66 134 ls (vI z :: st) x Q ↔ if z = 0 then wp r 66 148 ls st x Q else wp r 66 137 ls st x Q := (wp_u (show cd 66 134 = some (.ifCond .eq 14, 3, 148, 0, 0, 0) from rfl)).trans wq_d
theorem u66_137 : wp r 66 137 [vR o, a1, a2, a3, a4] st x Q ↔ wp r 66 138 [vR o, a1, a2, a3, a4] (vR o :: st) x Q := (wp_u (show cd 66 137 = some (.aload_n 0, 1, 0, 0, 0, 0) from rfl))
theorem u66_138 : wp r 66 138 [a0, vR o, a2, a3, a4] st x Q ↔ wp r 66 139 [a0, vR o, a2, a3, a4] (vR o :: st) x Q := (wp_u (show cd 66 138 = some (.aload_n 1, 1, 0, 0, 0, 0) from rfl))
theorem u66_139 : wp r 66 139 [a0, a1, a2, vR o, a4] st x Q ↔ wp r 66 140 [a0, a1, a2, vR o, a4] (vR o :: st) x Q := (wp_u (show cd 66 139 = some (.aload_n 3, 1, 0, 0, 0, 0) from rfl))
theorem u66_140 : wp r 66 140 ls (vR o1 :: vR o0 :: vA q :: st) x Q ↔ isk 1 (hK x q) ∧ sml st = true ∧ 2 < r ∧ wpc 2 77 [vA q, vR o0, vR o1] x (wk r 66 140 ls st Q) := (wp_u (show cd 66 140 = some (.invokevirtual 69, 3, 77, 3, 2, 1) from rfl)).trans (g_virt rfl (by decide) (by simp) rfl)
theorem u66_143 : wp r 66 143 [a0, a1, a2, a3, a4] (vI z :: st) x Q ↔ wp r 66 145 [a0, a1, a2, a3, vI z] st x Q := (wp_u (show cd 66 143 = some (.istore 4, 2, 0, 0, 0, 0) from rfl))
theorem u66_145 : wp r 66 145 ls st x Q ↔ wp r 66 132 ls st x Q := (wp_u (show cd 66 145 = some (.goto (-13), 3, 132, 0, 0, 0) from rfl))
theorem u66_148 : wp r 66 148 [vR o, a1, a2, a3, a4] st x Q ↔ wp r 66 149 [vR o, a1, a2, a3, a4] (vR o :: st) x Q := (wp_u (show cd 66 148 = some (.aload_n 0, 1, 0, 0, 0, 0) from rfl))
theorem u66_149i : wp r 66 149 ls (vI z :: st) x Q ↔ wp r 66 150 ls (vI z :: vI z :: st) x Q := (wp_u (show cd 66 149 = some (.dup, 1, 0, 0, 0, 0) from rfl))
theorem u66_149 : wp r 66 149 ls (vR o :: st) x Q ↔ wp r 66 150 ls (vR o :: vR o :: st) x Q := (wp_u (show cd 66 149 = some (.dup, 1, 0, 0, 0, 0) from rfl))
theorem u66_150 : wp r 66 150 ls (vA q :: st) x Q ↔ sbk 1 (hK x q) ∧ wp r 66 153 ls (vI (hI x q 2) :: st) x Q := (wp_u (show cd 66 150 = some (.getfield 15, 3, 1, 2, 0, 0) from rfl)).trans g_getI
theorem u66_153 : wp r 66 153 ls st x Q ↔ wp r 66 154 ls (vI 1 :: st) x Q := (wp_u (show cd 66 153 = some (.iconst 1, 1, 0, 0, 0, 0) from rfl))
theorem u66_154 : wp r 66 154 ls (vI w :: vI z :: st) x Q ↔ inI (z + w) = true ∧ wp r 66 155 ls (vI (z + w) :: st) x Q := (wp_u (show cd 66 154 = some (.iadd, 1, 0, 0, 0, 0) from rfl)).trans wq_if
theorem u66_155 : wp r 66 155 ls (vI z :: vA q :: st) x Q ↔ sbk 1 (hK x q) ∧ wp r 66 158 ls st (stI x q 2 z) Q := (wp_u (show cd 66 155 = some (.putfield 15, 3, 1, 2, 0, 0) from rfl)).trans g_putI0
theorem u66_158 : wp r 66 158 ls [] x Q ↔ Q (.inl none) x := (wp_u (show cd 66 158 = some (.return_, 1, 0, 0, 0, 0) from rfl))
theorem e66 : wpc r 66 [vA q, vR o0] x Q ↔ wp r 66 0 [vA q, vR o0, vL jk, vL jk, vL jk] [] x Q := Iff.rfl
/-! 67 Ic_size -/
theorem u67_0 : wp r 67 0 [vR o, a1, a2, a3] st x Q ↔ wp r 67 1 [vR o, a1, a2, a3] (vR o :: st) x Q := (wp_u (show cd 67 0 = some (.aload_n 0, 1, 0, 0, 0, 0) from rfl))
theorem u67_1 : wp r 67 1 [a0, vI z, a2, a3] st x Q ↔ wp r 67 2 [a0, vI z, a2, a3] (vI z :: st) x Q := (wp_u (show cd 67 1 = some (.iload_n 1, 1, 0, 0, 0, 0) from rfl))
theorem u67_2 : wp r 67 2 [a0, a1, vI z, a3] st x Q ↔ wp r 67 3 [a0, a1, vI z, a3] (vI z :: st) x Q := (wp_u (show cd 67 2 = some (.iload_n 2, 1, 0, 0, 0, 0) from rfl))
theorem u67_3 : wp r 67 3 ls st x Q ↔ wp r 67 4 ls (vI 0 :: st) x Q := (wp_u (show cd 67 3 = some (.iconst 0, 1, 0, 0, 0, 0) from rfl))
theorem u67_4 : wp r 67 4 ls (vI z2 :: vI z1 :: vI z0 :: vA q :: st) x Q ↔ isk 2 (hK x q) ∧ sml st = true ∧ 1 < r ∧ wpc 1 48 [vA q, vI z0, vI z1, vI z2] x (wk r 67 4 ls st Q) := (wp_u (show cd 67 4 = some (.invokevirtual 98, 3, 48, 4, 1, 2) from rfl)).trans (g_virt rfl (by decide) (by simp) rfl)
theorem u67_7 : wp r 67 7 [a0, a1, a2, a3] (vI z :: st) x Q ↔ wp r 67 8 [a0, a1, a2, vI z] st x Q := (wp_u (show cd 67 7 = some (.istore_n 3, 1, 0, 0, 0, 0) from rfl))
theorem u67_8 : wp r 67 8 [a0, a1, a2, vI z] st x Q ↔ wp r 67 9 [a0, a1, a2, vI z] (vI z :: st) x Q := (wp_u (show cd 67 8 = some (.iload_n 3, 1, 0, 0, 0, 0) from rfl))
theorem u67_9 : wp r 67 9 ls st x Q ↔ wp r 67 10 ls (vI (-1) :: st) x Q := (wp_u (show cd 67 9 = some (.iconst (-1), 1, 0, 0, 0, 0) from rfl))
theorem u67_10 : wp r 67 10 ls (vI w :: vI z :: st) x Q ↔ if z = w then wp r 67 13 ls st x Q else wp r 67 17 ls st x Q := (wp_u (show cd 67 10 = some (.if_icmp .ne 7, 3, 17, 0, 0, 0) from rfl)).trans wq_dn
theorem u67_13 : wp r 67 13 ls st x Q ↔ wp r 67 14 ls (vI 0 :: st) x Q := (wp_u (show cd 67 13 = some (.iconst 0, 1, 0, 0, 0, 0) from rfl))
theorem u67_14 : wp r 67 14 ls st x Q ↔ wp r 67 23 ls st x Q := (wp_u (show cd 67 14 = some (.goto 9, 3, 23, 0, 0, 0) from rfl))
theorem u67_17 : wp r 67 17 [vR o, a1, a2, a3] st x Q ↔ wp r 67 18 [vR o, a1, a2, a3] (vR o :: st) x Q := (wp_u (show cd 67 17 = some (.aload_n 0, 1, 0, 0, 0, 0) from rfl))
theorem u67_18 : wp r 67 18 ls (vA q :: st) x Q ↔ sbk 2 (hK x q) ∧ wp r 67 21 ls (vR (hR x q 8) :: st) x Q := (wp_u (show cd 67 18 = some (.getfield 31, 3, 2, 8, 5, 0) from rfl)).trans g_getR
theorem u67_21 : wp r 67 21 [a0, a1, a2, vI z] st x Q ↔ wp r 67 22 [a0, a1, a2, vI z] (vI z :: st) x Q := (wp_u (show cd 67 21 = some (.iload_n 3, 1, 0, 0, 0, 0) from rfl))
theorem u67_22 : wp r 67 22 ls (vI i :: vA q :: st) x Q ↔ ldk 22 (hK x q) i ∧ wp r 67 23 ls (vI (hI x q i) :: st) x Q := (wp_u (show cd 67 22 = some (.saload, 1, 0, 0, 0, 0) from rfl)).trans g_ldI
theorem u67_23 : wp r 67 23 ls [vI z] x Q ↔ Q (.inl (some (vI z))) x := (wp_u (show cd 67 23 = some (.ireturn, 1, 0, 0, 0, 0) from rfl))
theorem e67 : wpc r 67 [vA q, vI z0, vI z1] x Q ↔ wp r 67 0 [vA q, vI z0, vI z1, vL jk] [] x Q := Iff.rfl
/-! 68 Ic_number -/
theorem u68_0 : wp r 68 0 [vR o, a1, a2, a3, a4, a5] st x Q ↔ wp r 68 1 [vR o, a1, a2, a3, a4, a5] (vR o :: st) x Q := (wp_u (show cd 68 0 = some (.aload_n 0, 1, 0, 0, 0, 0) from rfl))
theorem u68_1 : wp r 68 1 [a0, vI z, a2, a3, a4, a5] st x Q ↔ wp r 68 2 [a0, vI z, a2, a3, a4, a5] (vI z :: st) x Q := (wp_u (show cd 68 1 = some (.iload_n 1, 1, 0, 0, 0, 0) from rfl))
theorem u68_2 : wp r 68 2 ls st x Q ↔ wp r 68 3 ls (vI 0 :: st) x Q := (wp_u (show cd 68 2 = some (.iconst 0, 1, 0, 0, 0, 0) from rfl))
theorem u68_3 : wp r 68 3 ls (vI z1 :: vI z0 :: vA q :: st) x Q ↔ isk 2 (hK x q) ∧ sml st = true ∧ 2 < r ∧ wpc 2 67 [vA q, vI z0, vI z1] x (wk r 68 3 ls st Q) := (wp_u (show cd 68 3 = some (.invokevirtual 102, 3, 67, 3, 2, 2) from rfl)).trans (g_virt rfl (by decide) (by simp) rfl)
theorem u68_6 : wp r 68 6 [a0, a1, a2, a3, a4, a5] (vI z :: st) x Q ↔ wp r 68 7 [a0, a1, vI z, a3, a4, a5] st x Q := (wp_u (show cd 68 6 = some (.istore_n 2, 1, 0, 0, 0, 0) from rfl))
theorem u68_7 : wp r 68 7 [a0, a1, vI z, a3, a4, a5] st x Q ↔ wp r 68 8 [a0, a1, vI z, a3, a4, a5] (vI z :: st) x Q := (wp_u (show cd 68 7 = some (.iload_n 2, 1, 0, 0, 0, 0) from rfl))
theorem u68_8 : wp r 68 8 ls st x Q ↔ wp r 68 9 ls (vI 1 :: st) x Q := (wp_u (show cd 68 8 = some (.iconst 1, 1, 0, 0, 0, 0) from rfl))
theorem u68_9 : wp r 68 9 ls (vI w :: vI z :: st) x Q ↔ if z < w then wp r 68 34 ls st x Q else wp r 68 12 ls st x Q := (wp_u (show cd 68 9 = some (.if_icmp .lt 25, 3, 34, 0, 0, 0) from rfl)).trans wq_d
theorem u68_12 : wp r 68 12 [a0, a1, vI z, a3, a4, a5] st x Q ↔ wp r 68 13 [a0, a1, vI z, a3, a4, a5] (vI z :: st) x Q := (wp_u (show cd 68 12 = some (.iload_n 2, 1, 0, 0, 0, 0) from rfl))
theorem u68_13 : wp r 68 13 ls st x Q ↔ wp r 68 14 ls (vI 3 :: st) x Q := (wp_u (show cd 68 13 = some (.iconst 3, 1, 0, 0, 0, 0) from rfl))
theorem u68_14 : wp r 68 14 ls (vI w :: vI z :: st) x Q ↔ if w < z then wp r 68 34 ls st x Q else wp r 68 17 ls st x Q := (wp_u (show cd 68 14 = some (.if_icmp .gt 20, 3, 34, 0, 0, 0) from rfl)).trans wq_d
theorem u68_17 : wp r 68 17 [a0, a1, vI z, a3, a4, a5] st x Q ↔ wp r 68 18 [a0, a1, vI z, a3, a4, a5] (vI z :: st) x Q := (wp_u (show cd 68 17 = some (.iload_n 2, 1, 0, 0, 0, 0) from rfl))
theorem u68_18 : wp r 68 18 ls st x Q ↔ wp r 68 19 ls (vI 1 :: st) x Q := (wp_u (show cd 68 18 = some (.iconst 1, 1, 0, 0, 0, 0) from rfl))
theorem u68_19 : wp r 68 19 ls (vI w :: vI z :: st) x Q ↔ if z ≤ w then wp r 68 36 ls st x Q else wp r 68 22 ls st x Q := (wp_u (show cd 68 19 = some (.if_icmp .le 17, 3, 36, 0, 0, 0) from rfl)).trans wq_d
theorem u68_22 : wp r 68 22 [vR o, a1, a2, a3, a4, a5] st x Q ↔ wp r 68 23 [vR o, a1, a2, a3, a4, a5] (vR o :: st) x Q := (wp_u (show cd 68 22 = some (.aload_n 0, 1, 0, 0, 0, 0) from rfl))
theorem u68_23 : wp r 68 23 [a0, vI z, a2, a3, a4, a5] st x Q ↔ wp r 68 24 [a0, vI z, a2, a3, a4, a5] (vI z :: st) x Q := (wp_u (show cd 68 23 = some (.iload_n 1, 1, 0, 0, 0, 0) from rfl))
theorem u68_24 : wp r 68 24 ls st x Q ↔ wp r 68 25 ls (vI 0 :: st) x Q := (wp_u (show cd 68 24 = some (.iconst 0, 1, 0, 0, 0, 0) from rfl))
theorem u68_25 : wp r 68 25 ls st x Q ↔ wp r 68 26 ls (vI 0 :: st) x Q := (wp_u (show cd 68 25 = some (.iconst 0, 1, 0, 0, 0, 0) from rfl))
theorem u68_26 : wp r 68 26 ls (vI z2 :: vI z1 :: vI z0 :: vA q :: st) x Q ↔ isk 2 (hK x q) ∧ sml st = true ∧ 2 < r ∧ wpc 2 69 [vA q, vI z0, vI z1, vI z2] x (wk r 68 26 ls st Q) := (wp_u (show cd 68 26 = some (.invokevirtual 106, 3, 69, 4, 2, 2) from rfl)).trans (g_virt rfl (by decide) (by simp) rfl)
theorem u68_29 : wp r 68 29 ls st x Q ↔ wp r 68 31 ls (vI 48 :: st) x Q := (wp_u (show cd 68 29 = some (.bipush 48, 2, 0, 0, 0, 0) from rfl))
theorem u68_31 : wp r 68 31 ls (vI w :: vI z :: st) x Q ↔ if z = w then wp r 68 34 ls st x Q else wp r 68 36 ls st x Q := (wp_u (show cd 68 31 = some (.if_icmp .ne 5, 3, 36, 0, 0, 0) from rfl)).trans wq_dn
theorem u68_34 : wp r 68 34 ls st x Q ↔ wp r 68 35 ls (vI (-1) :: st) x Q := (wp_u (show cd 68 34 = some (.iconst (-1), 1, 0, 0, 0, 0) from rfl))
theorem u68_35 : wp r 68 35 ls [vI z] x Q ↔ Q (.inl (some (vI z))) x := (wp_u (show cd 68 35 = some (.ireturn, 1, 0, 0, 0, 0) from rfl))
theorem u68_36 : wp r 68 36 ls st x Q ↔ wp r 68 37 ls (vI 0 :: st) x Q := (wp_u (show cd 68 36 = some (.iconst 0, 1, 0, 0, 0, 0) from rfl))
theorem u68_37 : wp r 68 37 [a0, a1, a2, a3, a4, a5] (vI z :: st) x Q ↔ wp r 68 38 [a0, a1, a2, vI z, a4, a5] st x Q := (wp_u (show cd 68 37 = some (.istore_n 3, 1, 0, 0, 0, 0) from rfl))
theorem u68_38 : wp r 68 38 ls st x Q ↔ wp r 68 39 ls (vI 0 :: st) x Q := (wp_u (show cd 68 38 = some (.iconst 0, 1, 0, 0, 0, 0) from rfl))
theorem u68_39 : wp r 68 39 [a0, a1, a2, a3, a4, a5] (vI z :: st) x Q ↔ wp r 68 41 [a0, a1, a2, a3, vI z, a5] st x Q := (wp_u (show cd 68 39 = some (.istore 4, 2, 0, 0, 0, 0) from rfl))
theorem u68_41 : wp r 68 41 [a0, a1, a2, a3, vI z, a5] st x Q ↔ wp r 68 43 [a0, a1, a2, a3, vI z, a5] (vI z :: st) x Q := (wp_u (show cd 68 41 = some (.iload 4, 2, 0, 0, 0, 0) from rfl))
theorem u68_43 : wp r 68 43 [a0, a1, vI z, a3, a4, a5] st x Q ↔ wp r 68 44 [a0, a1, vI z, a3, a4, a5] (vI z :: st) x Q := (wp_u (show cd 68 43 = some (.iload_n 2, 1, 0, 0, 0, 0) from rfl))
theorem u68_44 : wp r 68 44 ls (vI w :: vI z :: st) x Q ↔ if w ≤ z then wp r 68 90 ls st x Q else wp r 68 47 ls st x Q := (wp_u (show cd 68 44 = some (.if_icmp .ge 46, 3, 90, 0, 0, 0) from rfl)).trans wq_d
theorem u68_47 : wp r 68 47 [vR o, a1, a2, a3, a4, a5] st x Q ↔ wp r 68 48 [vR o, a1, a2, a3, a4, a5] (vR o :: st) x Q := (wp_u (show cd 68 47 = some (.aload_n 0, 1, 0, 0, 0, 0) from rfl))
theorem u68_48 : wp r 68 48 [a0, vI z, a2, a3, a4, a5] st x Q ↔ wp r 68 49 [a0, vI z, a2, a3, a4, a5] (vI z :: st) x Q := (wp_u (show cd 68 48 = some (.iload_n 1, 1, 0, 0, 0, 0) from rfl))
theorem u68_49 : wp r 68 49 ls st x Q ↔ wp r 68 50 ls (vI 0 :: st) x Q := (wp_u (show cd 68 49 = some (.iconst 0, 1, 0, 0, 0, 0) from rfl))
theorem u68_50 : wp r 68 50 [a0, a1, a2, a3, vI z, a5] st x Q ↔ wp r 68 52 [a0, a1, a2, a3, vI z, a5] (vI z :: st) x Q := (wp_u (show cd 68 50 = some (.iload 4, 2, 0, 0, 0, 0) from rfl))
theorem u68_52 : wp r 68 52 ls (vI z2 :: vI z1 :: vI z0 :: vA q :: st) x Q ↔ isk 2 (hK x q) ∧ sml st = true ∧ 2 < r ∧ wpc 2 69 [vA q, vI z0, vI z1, vI z2] x (wk r 68 52 ls st Q) := (wp_u (show cd 68 52 = some (.invokevirtual 106, 3, 69, 4, 2, 2) from rfl)).trans (g_virt rfl (by decide) (by simp) rfl)
theorem u68_55 : wp r 68 55 [a0, a1, a2, a3, a4, a5] (vI z :: st) x Q ↔ wp r 68 57 [a0, a1, a2, a3, a4, vI z] st x Q := (wp_u (show cd 68 55 = some (.istore 5, 2, 0, 0, 0, 0) from rfl))
theorem u68_57 : wp r 68 57 [a0, a1, a2, a3, a4, vI z] st x Q ↔ wp r 68 59 [a0, a1, a2, a3, a4, vI z] (vI z :: st) x Q := (wp_u (show cd 68 57 = some (.iload 5, 2, 0, 0, 0, 0) from rfl))
theorem u68_59 : wp r 68 59 ls st x Q ↔ wp r 68 61 ls (vI 48 :: st) x Q := (wp_u (show cd 68 59 = some (.bipush 48, 2, 0, 0, 0, 0) from rfl))
theorem u68_61 : wp r 68 61 ls (vI w :: vI z :: st) x Q ↔ if z < w then wp r 68 71 ls st x Q else wp r 68 64 ls st x Q := (wp_u (show cd 68 61 = some (.if_icmp .lt 10, 3, 71, 0, 0, 0) from rfl)).trans wq_d
theorem u68_64 : wp r 68 64 [a0, a1, a2, a3, a4, vI z] st x Q ↔ wp r 68 66 [a0, a1, a2, a3, a4, vI z] (vI z :: st) x Q := (wp_u (show cd 68 64 = some (.iload 5, 2, 0, 0, 0, 0) from rfl))
theorem u68_66 : wp r 68 66 ls st x Q ↔ wp r 68 68 ls (vI 57 :: st) x Q := (wp_u (show cd 68 66 = some (.bipush 57, 2, 0, 0, 0, 0) from rfl))
theorem u68_68 : wp r 68 68 ls (vI w :: vI z :: st) x Q ↔ if z ≤ w then wp r 68 73 ls st x Q else wp r 68 71 ls st x Q := (wp_u (show cd 68 68 = some (.if_icmp .le 5, 3, 73, 0, 0, 0) from rfl)).trans wq_d
theorem u68_71 : wp r 68 71 ls st x Q ↔ wp r 68 72 ls (vI (-1) :: st) x Q := (wp_u (show cd 68 71 = some (.iconst (-1), 1, 0, 0, 0, 0) from rfl))
theorem u68_72 : wp r 68 72 ls [vI z] x Q ↔ Q (.inl (some (vI z))) x := (wp_u (show cd 68 72 = some (.ireturn, 1, 0, 0, 0, 0) from rfl))
theorem u68_73 : wp r 68 73 ls st x Q ↔ wp r 68 75 ls (vI 10 :: st) x Q := (wp_u (show cd 68 73 = some (.bipush 10, 2, 0, 0, 0, 0) from rfl))
theorem u68_75 : wp r 68 75 [a0, a1, a2, vI z, a4, a5] st x Q ↔ wp r 68 76 [a0, a1, a2, vI z, a4, a5] (vI z :: st) x Q := (wp_u (show cd 68 75 = some (.iload_n 3, 1, 0, 0, 0, 0) from rfl))
theorem u68_76 : wp r 68 76 ls (vI w :: vI z :: st) x Q ↔ inI (z * w) = true ∧ wp r 68 77 ls (vI (z * w) :: st) x Q := (wp_u (show cd 68 76 = some (.imul, 1, 0, 0, 0, 0) from rfl)).trans wq_if
theorem u68_77 : wp r 68 77 [a0, a1, a2, a3, a4, vI z] st x Q ↔ wp r 68 79 [a0, a1, a2, a3, a4, vI z] (vI z :: st) x Q := (wp_u (show cd 68 77 = some (.iload 5, 2, 0, 0, 0, 0) from rfl))
theorem u68_79 : wp r 68 79 ls (vI w :: vI z :: st) x Q ↔ inI (z + w) = true ∧ wp r 68 80 ls (vI (z + w) :: st) x Q := (wp_u (show cd 68 79 = some (.iadd, 1, 0, 0, 0, 0) from rfl)).trans wq_if
theorem u68_80 : wp r 68 80 ls st x Q ↔ wp r 68 82 ls (vI 48 :: st) x Q := (wp_u (show cd 68 80 = some (.bipush 48, 2, 0, 0, 0, 0) from rfl))
theorem u68_82 : wp r 68 82 ls (vI w :: vI z :: st) x Q ↔ inI (z - w) = true ∧ wp r 68 83 ls (vI (z - w) :: st) x Q := (wp_u (show cd 68 82 = some (.isub, 1, 0, 0, 0, 0) from rfl)).trans wq_if
theorem u68_83 : wp r 68 83 [a0, a1, a2, a3, a4, a5] (vI z :: st) x Q ↔ wp r 68 84 [a0, a1, a2, vI z, a4, a5] st x Q := (wp_u (show cd 68 83 = some (.istore_n 3, 1, 0, 0, 0, 0) from rfl))
theorem u68_84 : wp r 68 84 [a0, a1, a2, a3, vI z, a5] st x Q ↔ inI (z + 1) = true ∧ wp r 68 87 [a0, a1, a2, a3, vI (z + 1), a5] st x Q := (wp_u (show cd 68 84 = some (.iinc 4 1, 3, 0, 0, 0, 0) from rfl)).trans wq_if
theorem u68_87 : wp r 68 87 ls st x Q ↔ wp r 68 41 ls st x Q := (wp_u (show cd 68 87 = some (.goto (-46), 3, 41, 0, 0, 0) from rfl))
theorem u68_90 : wp r 68 90 [a0, a1, a2, vI z, a4, a5] st x Q ↔ wp r 68 91 [a0, a1, a2, vI z, a4, a5] (vI z :: st) x Q := (wp_u (show cd 68 90 = some (.iload_n 3, 1, 0, 0, 0, 0) from rfl))
theorem u68_91 : wp r 68 91 ls [vI z] x Q ↔ Q (.inl (some (vI z))) x := (wp_u (show cd 68 91 = some (.ireturn, 1, 0, 0, 0, 0) from rfl))
theorem e68 : wpc r 68 [vA q, vI z0] x Q ↔ wp r 68 0 [vA q, vI z0, vL jk, vL jk, vL jk, vL jk] [] x Q := Iff.rfl
/-! 69 Ic_at -/
theorem u69_0 : wp r 69 0 [vR o, a1, a2, a3] st x Q ↔ wp r 69 1 [vR o, a1, a2, a3] (vR o :: st) x Q := (wp_u (show cd 69 0 = some (.aload_n 0, 1, 0, 0, 0, 0) from rfl))
theorem u69_1 : wp r 69 1 ls (vA q :: st) x Q ↔ sbk 2 (hK x q) ∧ wp r 69 4 ls (vR (hR x q 0) :: st) x Q := (wp_u (show cd 69 1 = some (.getfield 9, 3, 2, 0, 5, 0) from rfl)).trans g_getR
theorem u69_4 : wp r 69 4 [vR o, a1, a2, a3] st x Q ↔ wp r 69 5 [vR o, a1, a2, a3] (vR o :: st) x Q := (wp_u (show cd 69 4 = some (.aload_n 0, 1, 0, 0, 0, 0) from rfl))
theorem u69_5 : wp r 69 5 ls (vA q :: st) x Q ↔ sbk 2 (hK x q) ∧ wp r 69 8 ls (vR (hR x q 7) :: st) x Q := (wp_u (show cd 69 5 = some (.getfield 28, 3, 2, 7, 5, 0) from rfl)).trans g_getR
theorem u69_8 : wp r 69 8 [vR o, a1, a2, a3] st x Q ↔ wp r 69 9 [vR o, a1, a2, a3] (vR o :: st) x Q := (wp_u (show cd 69 8 = some (.aload_n 0, 1, 0, 0, 0, 0) from rfl))
theorem u69_9 : wp r 69 9 [a0, vI z, a2, a3] st x Q ↔ wp r 69 10 [a0, vI z, a2, a3] (vI z :: st) x Q := (wp_u (show cd 69 9 = some (.iload_n 1, 1, 0, 0, 0, 0) from rfl))
theorem u69_10 : wp r 69 10 [a0, a1, vI z, a3] st x Q ↔ wp r 69 11 [a0, a1, vI z, a3] (vI z :: st) x Q := (wp_u (show cd 69 10 = some (.iload_n 2, 1, 0, 0, 0, 0) from rfl))
theorem u69_11 : wp r 69 11 ls st x Q ↔ wp r 69 12 ls (vI 0 :: st) x Q := (wp_u (show cd 69 11 = some (.iconst 0, 1, 0, 0, 0, 0) from rfl))
theorem u69_12 : wp r 69 12 ls (vI z2 :: vI z1 :: vI z0 :: vA q :: st) x Q ↔ isk 2 (hK x q) ∧ sml st = true ∧ 1 < r ∧ wpc 1 48 [vA q, vI z0, vI z1, vI z2] x (wk r 69 12 ls st Q) := (wp_u (show cd 69 12 = some (.invokevirtual 98, 3, 48, 4, 1, 2) from rfl)).trans (g_virt rfl (by decide) (by simp) rfl)
theorem u69_15 : wp r 69 15 ls (vI i :: vA q :: st) x Q ↔ ldk 22 (hK x q) i ∧ wp r 69 16 ls (vI (hI x q i) :: st) x Q := (wp_u (show cd 69 15 = some (.saload, 1, 0, 0, 0, 0) from rfl)).trans g_ldI
theorem u69_16 : wp r 69 16 [a0, a1, a2, vI z] st x Q ↔ wp r 69 17 [a0, a1, a2, vI z] (vI z :: st) x Q := (wp_u (show cd 69 16 = some (.iload_n 3, 1, 0, 0, 0, 0) from rfl))
theorem u69_17 : wp r 69 17 ls (vI w :: vI z :: st) x Q ↔ inI (z + w) = true ∧ wp r 69 18 ls (vI (z + w) :: st) x Q := (wp_u (show cd 69 17 = some (.iadd, 1, 0, 0, 0, 0) from rfl)).trans wq_if
theorem u69_18 : wp r 69 18 ls (vI i :: vA q :: st) x Q ↔ ldk 21 (hK x q) i ∧ wp r 69 19 ls (vI (hI x q i) :: st) x Q := (wp_u (show cd 69 18 = some (.caload, 1, 0, 0, 0, 0) from rfl)).trans g_ldI
theorem u69_19 : wp r 69 19 ls [vI z] x Q ↔ rg 1 z = true ∧ Q (.inl (some (vI z))) x := (wp_u (show cd 69 19 = some (.ireturn, 1, 1, 0, 0, 0) from rfl)).trans wq_if
theorem e69 : wpc r 69 [vA q, vI z0, vI z1, vI z2] x Q ↔ wp r 69 0 [vA q, vI z0, vI z1, vI z2] [] x Q := Iff.rfl
/-! 70 Wk_begin -/
theorem u70_0 : wp r 70 0 [vR o, a1] st x Q ↔ wp r 70 1 [vR o, a1] (vR o :: st) x Q := (wp_u (show cd 70 0 = some (.aload_n 0, 1, 0, 0, 0, 0) from rfl))
theorem u70_1 : wp r 70 1 [a0, vR o] st x Q ↔ wp r 70 2 [a0, vR o] (vR o :: st) x Q := (wp_u (show cd 70 1 = some (.aload_n 1, 1, 0, 0, 0, 0) from rfl))
theorem u70_2 : wp r 70 2 ls (vA q :: st) x Q ↔ sbk 7 (hK x q) ∧ wp r 70 5 ls (vR (hR x q 0) :: st) x Q := (wp_u (show cd 70 2 = some (.getfield 15, 3, 7, 0, 5, 0) from rfl)).trans g_getR
theorem u70_5 : wp r 70 5 ls (vR o :: vA q :: st) x Q ↔ sbk 8 (hK x q) ∧ wp r 70 8 ls st (stR x q 0 o) Q := (wp_u (show cd 70 5 = some (.putfield 21, 3, 8, 0, 5, 0) from rfl)).trans g_putR
theorem u70_8 : wp r 70 8 [vR o, a1] st x Q ↔ wp r 70 9 [vR o, a1] (vR o :: st) x Q := (wp_u (show cd 70 8 = some (.aload_n 0, 1, 0, 0, 0, 0) from rfl))
theorem u70_9 : wp r 70 9 [a0, vR o] st x Q ↔ wp r 70 10 [a0, vR o] (vR o :: st) x Q := (wp_u (show cd 70 9 = some (.aload_n 1, 1, 0, 0, 0, 0) from rfl))
theorem u70_10 : wp r 70 10 ls (vA q :: st) x Q ↔ sbk 7 (hK x q) ∧ wp r 70 13 ls (vR (hR x q 0) :: st) x Q := (wp_u (show cd 70 10 = some (.getfield 15, 3, 7, 0, 5, 0) from rfl)).trans g_getR
theorem u70_13 : wp r 70 13 ls (vA q :: st) x Q ↔ sbk 6 (hK x q) ∧ wp r 70 16 ls (vR (hR x q 4) :: st) x Q := (wp_u (show cd 70 13 = some (.getfield 24, 3, 6, 4, 5, 0) from rfl)).trans g_getR
theorem u70_16 : wp r 70 16 ls (vR o :: vA q :: st) x Q ↔ sbk 8 (hK x q) ∧ wp r 70 19 ls st (stR x q 1 o) Q := (wp_u (show cd 70 16 = some (.putfield 30, 3, 8, 1, 5, 0) from rfl)).trans g_putR
theorem u70_19 : wp r 70 19 [vR o, a1] st x Q ↔ wp r 70 20 [vR o, a1] (vR o :: st) x Q := (wp_u (show cd 70 19 = some (.aload_n 0, 1, 0, 0, 0, 0) from rfl))
theorem u70_20 : wp r 70 20 ls st x Q ↔ wp r 70 21 ls (vI 0 :: st) x Q := (wp_u (show cd 70 20 = some (.iconst 0, 1, 0, 0, 0, 0) from rfl))
theorem u70_21 : wp r 70 21 ls (vI z :: vA q :: st) x Q ↔ sbk 8 (hK x q) ∧ wp r 70 24 ls st (stI x q 2 z) Q := (wp_u (show cd 70 21 = some (.putfield 33, 3, 8, 2, 0, 0) from rfl)).trans g_putI0
theorem u70_24 : wp r 70 24 [vR o, a1] st x Q ↔ wp r 70 25 [vR o, a1] (vR o :: st) x Q := (wp_u (show cd 70 24 = some (.aload_n 0, 1, 0, 0, 0, 0) from rfl))
theorem u70_25 : wp r 70 25 ls st x Q ↔ wp r 70 26 ls (vI 0 :: st) x Q := (wp_u (show cd 70 25 = some (.iconst 0, 1, 0, 0, 0, 0) from rfl))
theorem u70_26 : wp r 70 26 ls (vI z :: vA q :: st) x Q ↔ sbk 8 (hK x q) ∧ wp r 70 29 ls st (stI x q 4 z) Q := (wp_u (show cd 70 26 = some (.putfield 37, 3, 8, 4, 0, 0) from rfl)).trans g_putI0
theorem u70_29 : wp r 70 29 ls [] x Q ↔ Q (.inl none) x := (wp_u (show cd 70 29 = some (.return_, 1, 0, 0, 0, 0) from rfl))
theorem e70 : wpc r 70 [vA q, vR o0] x Q ↔ wp r 70 0 [vA q, vR o0] [] x Q := Iff.rfl
/-! 71 Wk_step -/
theorem u71_0 : wp r 71 0 [vR o, a1] st x Q ↔ wp r 71 1 [vR o, a1] (vR o :: st) x Q := (wp_u (show cd 71 0 = some (.aload_n 0, 1, 0, 0, 0, 0) from rfl))
theorem u71_1 : wp r 71 1 ls (vA q :: st) x Q ↔ sbk 8 (hK x q) ∧ wp r 71 4 ls (vR (hR x q 1) :: st) x Q := (wp_u (show cd 71 1 = some (.getfield 30, 3, 8, 1, 5, 0) from rfl)).trans g_getR
theorem u71_4n : wp r 71 4 ls (vN :: st) x Q ↔ wp r 71 7 ls st x Q := (wp_u (show cd 71 4 = some (.ifnonnull 10, 3, 14, 0, 0, 0) from rfl))
theorem u71_4 : wp r 71 4 ls (vA q :: st) x Q ↔ nnk (hK x q) ∧ wp r 71 14 ls st x Q := (wp_u (show cd 71 4 = some (.ifnonnull 10, 3, 14, 0, 0, 0) from rfl)).trans g_nnul
theorem u71_7 : wp r 71 7 [vR o, a1] st x Q ↔ wp r 71 8 [vR o, a1] (vR o :: st) x Q := (wp_u (show cd 71 7 = some (.aload_n 0, 1, 0, 0, 0, 0) from rfl))
theorem u71_8 : wp r 71 8 ls (vA q :: st) x Q ↔ sbk 8 (hK x q) ∧ wp r 71 11 ls (vI (hI x q 4) :: st) x Q := (wp_u (show cd 71 8 = some (.getfield 37, 3, 8, 4, 0, 0) from rfl)).trans g_getI
theorem u71_11 : wp r 71 11 ls (vI z :: st) x Q ↔ if z ≤ 0 then wp r 71 82 ls st x Q else wp r 71 14 ls st x Q := (wp_u (show cd 71 11 = some (.ifCond .le 71, 3, 82, 0, 0, 0) from rfl)).trans wq_d
theorem u71_14 : wp r 71 14 [vR o, a1] st x Q ↔ wp r 71 15 [vR o, a1] (vR o :: st) x Q := (wp_u (show cd 71 14 = some (.aload_n 0, 1, 0, 0, 0, 0) from rfl))
theorem u71_15 : wp r 71 15 ls (vA q :: st) x Q ↔ sbk 8 (hK x q) ∧ wp r 71 18 ls (vR (hR x q 1) :: st) x Q := (wp_u (show cd 71 15 = some (.getfield 30, 3, 8, 1, 5, 0) from rfl)).trans g_getR
theorem u71_18n : wp r 71 18 ls (vN :: st) x Q ↔ wp r 71 21 ls st x Q := (wp_u (show cd 71 18 = some (.ifnonnull 10, 3, 28, 0, 0, 0) from rfl))
theorem u71_18 : wp r 71 18 ls (vA q :: st) x Q ↔ nnk (hK x q) ∧ wp r 71 28 ls st x Q := (wp_u (show cd 71 18 = some (.ifnonnull 10, 3, 28, 0, 0, 0) from rfl)).trans g_nnul
theorem u71_21 : wp r 71 21 [vR o, a1] st x Q ↔ wp r 71 22 [vR o, a1] (vR o :: st) x Q := (wp_u (show cd 71 21 = some (.aload_n 0, 1, 0, 0, 0, 0) from rfl))
theorem u71_22 : wp r 71 22 ls (vA q :: st) x Q ↔ isk 8 (hK x q) ∧ sml st = true ∧ 1 < r ∧ wpc 1 78 [vA q] x (wk r 71 22 ls st Q) := (wp_u (show cd 71 22 = some (.invokevirtual 43, 3, 78, 1, 1, 8) from rfl)).trans (g_virt rfl (by decide) (by simp) rfl)
theorem u71_25 : wp r 71 25 ls st x Q ↔ wp r 71 0 ls st x Q := (wp_u (show cd 71 25 = some (.goto (-25), 3, 0, 0, 0, 0) from rfl))
theorem u71_28 : wp r 71 28 [vR o, a1] st x Q ↔ wp r 71 29 [vR o, a1] (vR o :: st) x Q := (wp_u (show cd 71 28 = some (.aload_n 0, 1, 0, 0, 0, 0) from rfl))
theorem u71_29 : wp r 71 29 ls (vA q :: st) x Q ↔ sbk 8 (hK x q) ∧ wp r 71 32 ls (vR (hR x q 1) :: st) x Q := (wp_u (show cd 71 29 = some (.getfield 30, 3, 8, 1, 5, 0) from rfl)).trans g_getR
theorem u71_32 : wp r 71 32 [a0, vI z] st x Q ↔ wp r 71 33 [a0, vI z] (vI z :: st) x Q := (wp_u (show cd 71 32 = some (.iload_n 1, 1, 0, 0, 0, 0) from rfl))
theorem u71_33 : wp r 71 33 ls (vI z0 :: vA q :: st) x Q ↔ bgk (hK x q) (sml st = true ∧ 2 < r ∧ wpc 2 79 [vA q, vI z0] x (wk r 71 33 ls st Q)) (sml st = true ∧ 2 < r ∧ wpc 2 80 [vA q, vI z0] x (wk r 71 33 ls st Q)) := (wp_u (show cd 71 33 = some (.invokevirtual 46, 3, 500, 2, 2, 4) from rfl)).trans (g_beg rfl (by simp) rfl)
theorem u71_36 : wp r 71 36 ls (vI z :: st) x Q ↔ if z = 0 then wp r 71 44 ls st x Q else wp r 71 39 ls st x Q := (wp_u (show cd 71 36 = some (.ifCond .eq 8, 3, 44, 0, 0, 0) from rfl)).trans wq_d
theorem u71_39 : wp r 71 39 [vR o, a1] st x Q ↔ wp r 71 40 [vR o, a1] (vR o :: st) x Q := (wp_u (show cd 71 39 = some (.aload_n 0, 1, 0, 0, 0, 0) from rfl))
theorem u71_40 : wp r 71 40 ls (vA q :: st) x Q ↔ isk 8 (hK x q) ∧ sml st = true ∧ 1 < r ∧ wpc 1 81 [vA q] x (wk r 71 40 ls st Q) := (wp_u (show cd 71 40 = some (.invokevirtual 52, 3, 81, 1, 1, 8) from rfl)).trans (g_virt rfl (by decide) (by simp) rfl)
theorem u71_43 : wp r 71 43 ls [vI z] x Q ↔ Q (.inl (some (vI z))) x := (wp_u (show cd 71 43 = some (.ireturn, 1, 0, 0, 0, 0) from rfl))
theorem u71_44 : wp r 71 44 [vR o, a1] st x Q ↔ wp r 71 45 [vR o, a1] (vR o :: st) x Q := (wp_u (show cd 71 44 = some (.aload_n 0, 1, 0, 0, 0, 0) from rfl))
theorem u71_45 : wp r 71 45 ls (vA q :: st) x Q ↔ sbk 8 (hK x q) ∧ wp r 71 48 ls (vR (hR x q 1) :: st) x Q := (wp_u (show cd 71 45 = some (.getfield 30, 3, 8, 1, 5, 0) from rfl)).trans g_getR
theorem u71_48 : wp r 71 48 ls (vA q :: st) x Q ↔ sbk 4 (hK x q) ∧ wp r 71 51 ls (vI (hI x q 2) :: st) x Q := (wp_u (show cd 71 48 = some (.getfield 56, 3, 4, 2, 4, 0) from rfl)).trans g_getI
theorem u71_51 : wp r 71 51 ls (vI z :: st) x Q ↔ if z = 0 then wp r 71 63 ls st x Q else wp r 71 54 ls st x Q := (wp_u (show cd 71 51 = some (.ifCond .eq 12, 3, 63, 0, 0, 0) from rfl)).trans wq_d
theorem u71_54 : wp r 71 54 [vR o, a1] st x Q ↔ wp r 71 55 [vR o, a1] (vR o :: st) x Q := (wp_u (show cd 71 54 = some (.aload_n 0, 1, 0, 0, 0, 0) from rfl))
theorem u71_55 : wp r 71 55 ls (vA q :: st) x Q ↔ sbk 8 (hK x q) ∧ wp r 71 58 ls (vI (hI x q 2) :: st) x Q := (wp_u (show cd 71 55 = some (.getfield 33, 3, 8, 2, 0, 0) from rfl)).trans g_getI
theorem u71_58 : wp r 71 58 ls (vI z :: st) x Q ↔ if z = 0 then wp r 71 61 ls st x Q else wp r 71 63 ls st x Q := (wp_u (show cd 71 58 = some (.ifCond .ne 5, 3, 63, 0, 0, 0) from rfl)).trans wq_dn
theorem u71_61 : wp r 71 61 ls st x Q ↔ wp r 71 62 ls (vI 5 :: st) x Q := (wp_u (show cd 71 61 = some (.iconst 5, 1, 0, 0, 0, 0) from rfl))
theorem u71_62 : wp r 71 62 ls [vI z] x Q ↔ Q (.inl (some (vI z))) x := (wp_u (show cd 71 62 = some (.ireturn, 1, 0, 0, 0, 0) from rfl))
theorem u71_63 : wp r 71 63 [vR o, a1] st x Q ↔ wp r 71 64 [vR o, a1] (vR o :: st) x Q := (wp_u (show cd 71 63 = some (.aload_n 0, 1, 0, 0, 0, 0) from rfl))
theorem u71_64 : wp r 71 64 [vR o, a1] st x Q ↔ wp r 71 65 [vR o, a1] (vR o :: st) x Q := (wp_u (show cd 71 64 = some (.aload_n 0, 1, 0, 0, 0, 0) from rfl))
theorem u71_65 : wp r 71 65 ls (vA q :: st) x Q ↔ sbk 8 (hK x q) ∧ wp r 71 68 ls (vR (hR x q 1) :: st) x Q := (wp_u (show cd 71 65 = some (.getfield 30, 3, 8, 1, 5, 0) from rfl)).trans g_getR
theorem u71_68 : wp r 71 68 ls (vA q :: st) x Q ↔ sbk 4 (hK x q) ∧ wp r 71 71 ls (vR (hR x q 0) :: st) x Q := (wp_u (show cd 71 68 = some (.getfield 60, 3, 4, 0, 5, 0) from rfl)).trans g_getR
theorem u71_71 : wp r 71 71 ls (vR o :: vA q :: st) x Q ↔ sbk 8 (hK x q) ∧ wp r 71 74 ls st (stR x q 1 o) Q := (wp_u (show cd 71 71 = some (.putfield 30, 3, 8, 1, 5, 0) from rfl)).trans g_putR
theorem u71_74 : wp r 71 74 [vR o, a1] st x Q ↔ wp r 71 75 [vR o, a1] (vR o :: st) x Q := (wp_u (show cd 71 74 = some (.aload_n 0, 1, 0, 0, 0, 0) from rfl))
theorem u71_75 : wp r 71 75 ls st x Q ↔ wp r 71 76 ls (vI 0 :: st) x Q := (wp_u (show cd 71 75 = some (.iconst 0, 1, 0, 0, 0, 0) from rfl))
theorem u71_76 : wp r 71 76 ls (vI z :: vA q :: st) x Q ↔ sbk 8 (hK x q) ∧ wp r 71 79 ls st (stI x q 2 z) Q := (wp_u (show cd 71 76 = some (.putfield 33, 3, 8, 2, 0, 0) from rfl)).trans g_putI0
theorem u71_79 : wp r 71 79 ls st x Q ↔ wp r 71 0 ls st x Q := (wp_u (show cd 71 79 = some (.goto (-79), 3, 0, 0, 0, 0) from rfl))
theorem u71_82 : wp r 71 82 ls st x Q ↔ wp r 71 83 ls (vI 4 :: st) x Q := (wp_u (show cd 71 82 = some (.iconst 4, 1, 0, 0, 0, 0) from rfl))
theorem u71_83 : wp r 71 83 ls [vI z] x Q ↔ Q (.inl (some (vI z))) x := (wp_u (show cd 71 83 = some (.ireturn, 1, 0, 0, 0, 0) from rfl))
theorem e71 : wpc r 71 [vA q, vI z0] x Q ↔ wp r 71 0 [vA q, vI z0] [] x Q := Iff.rfl
/-! 72 Wk_finish -/
theorem u72_0 : wp r 72 0 [vR o] st x Q ↔ wp r 72 1 [vR o] (vR o :: st) x Q := (wp_u (show cd 72 0 = some (.aload_n 0, 1, 0, 0, 0, 0) from rfl))
theorem u72_1 : wp r 72 1 ls (vA q :: st) x Q ↔ sbk 8 (hK x q) ∧ wp r 72 4 ls (vR (hR x q 1) :: st) x Q := (wp_u (show cd 72 1 = some (.getfield 30, 3, 8, 1, 5, 0) from rfl)).trans g_getR
theorem u72_4n : wp r 72 4 ls (vN :: st) x Q ↔ wp r 72 7 ls st x Q := (wp_u (show cd 72 4 = some (.ifnonnull 10, 3, 14, 0, 0, 0) from rfl))
theorem u72_4 : wp r 72 4 ls (vA q :: st) x Q ↔ nnk (hK x q) ∧ wp r 72 14 ls st x Q := (wp_u (show cd 72 4 = some (.ifnonnull 10, 3, 14, 0, 0, 0) from rfl)).trans g_nnul
theorem u72_7 : wp r 72 7 [vR o] st x Q ↔ wp r 72 8 [vR o] (vR o :: st) x Q := (wp_u (show cd 72 7 = some (.aload_n 0, 1, 0, 0, 0, 0) from rfl))
theorem u72_8 : wp r 72 8 ls (vA q :: st) x Q ↔ sbk 8 (hK x q) ∧ wp r 72 11 ls (vI (hI x q 4) :: st) x Q := (wp_u (show cd 72 8 = some (.getfield 37, 3, 8, 4, 0, 0) from rfl)).trans g_getI
theorem u72_11 : wp r 72 11 ls (vI z :: st) x Q ↔ if z ≤ 0 then wp r 72 66 ls st x Q else wp r 72 14 ls st x Q := (wp_u (show cd 72 11 = some (.ifCond .le 55, 3, 66, 0, 0, 0) from rfl)).trans wq_d
theorem u72_14 : wp r 72 14 [vR o] st x Q ↔ wp r 72 15 [vR o] (vR o :: st) x Q := (wp_u (show cd 72 14 = some (.aload_n 0, 1, 0, 0, 0, 0) from rfl))
theorem u72_15 : wp r 72 15 ls (vA q :: st) x Q ↔ sbk 8 (hK x q) ∧ wp r 72 18 ls (vR (hR x q 1) :: st) x Q := (wp_u (show cd 72 15 = some (.getfield 30, 3, 8, 1, 5, 0) from rfl)).trans g_getR
theorem u72_18n : wp r 72 18 ls (vN :: st) x Q ↔ wp r 72 21 ls st x Q := (wp_u (show cd 72 18 = some (.ifnonnull 10, 3, 28, 0, 0, 0) from rfl))
theorem u72_18 : wp r 72 18 ls (vA q :: st) x Q ↔ nnk (hK x q) ∧ wp r 72 28 ls st x Q := (wp_u (show cd 72 18 = some (.ifnonnull 10, 3, 28, 0, 0, 0) from rfl)).trans g_nnul
theorem u72_21 : wp r 72 21 [vR o] st x Q ↔ wp r 72 22 [vR o] (vR o :: st) x Q := (wp_u (show cd 72 21 = some (.aload_n 0, 1, 0, 0, 0, 0) from rfl))
theorem u72_22 : wp r 72 22 ls (vA q :: st) x Q ↔ isk 8 (hK x q) ∧ sml st = true ∧ 1 < r ∧ wpc 1 78 [vA q] x (wk r 72 22 ls st Q) := (wp_u (show cd 72 22 = some (.invokevirtual 43, 3, 78, 1, 1, 8) from rfl)).trans (g_virt rfl (by decide) (by simp) rfl)
theorem u72_25 : wp r 72 25 ls st x Q ↔ wp r 72 0 ls st x Q := (wp_u (show cd 72 25 = some (.goto (-25), 3, 0, 0, 0, 0) from rfl))
theorem u72_28 : wp r 72 28 [vR o] st x Q ↔ wp r 72 29 [vR o] (vR o :: st) x Q := (wp_u (show cd 72 28 = some (.aload_n 0, 1, 0, 0, 0, 0) from rfl))
theorem u72_29 : wp r 72 29 ls (vA q :: st) x Q ↔ sbk 8 (hK x q) ∧ wp r 72 32 ls (vR (hR x q 1) :: st) x Q := (wp_u (show cd 72 29 = some (.getfield 30, 3, 8, 1, 5, 0) from rfl)).trans g_getR
theorem u72_32 : wp r 72 32 ls (vA q :: st) x Q ↔ sbk 4 (hK x q) ∧ wp r 72 35 ls (vI (hI x q 2) :: st) x Q := (wp_u (show cd 72 32 = some (.getfield 56, 3, 4, 2, 4, 0) from rfl)).trans g_getI
theorem u72_35 : wp r 72 35 ls (vI z :: st) x Q ↔ if z = 0 then wp r 72 47 ls st x Q else wp r 72 38 ls st x Q := (wp_u (show cd 72 35 = some (.ifCond .eq 12, 3, 47, 0, 0, 0) from rfl)).trans wq_d
theorem u72_38 : wp r 72 38 [vR o] st x Q ↔ wp r 72 39 [vR o] (vR o :: st) x Q := (wp_u (show cd 72 38 = some (.aload_n 0, 1, 0, 0, 0, 0) from rfl))
theorem u72_39 : wp r 72 39 ls (vA q :: st) x Q ↔ sbk 8 (hK x q) ∧ wp r 72 42 ls (vI (hI x q 2) :: st) x Q := (wp_u (show cd 72 39 = some (.getfield 33, 3, 8, 2, 0, 0) from rfl)).trans g_getI
theorem u72_42 : wp r 72 42 ls (vI z :: st) x Q ↔ if z = 0 then wp r 72 45 ls st x Q else wp r 72 47 ls st x Q := (wp_u (show cd 72 42 = some (.ifCond .ne 5, 3, 47, 0, 0, 0) from rfl)).trans wq_dn
theorem u72_45 : wp r 72 45 ls st x Q ↔ wp r 72 46 ls (vI 5 :: st) x Q := (wp_u (show cd 72 45 = some (.iconst 5, 1, 0, 0, 0, 0) from rfl))
theorem u72_46 : wp r 72 46 ls [vI z] x Q ↔ Q (.inl (some (vI z))) x := (wp_u (show cd 72 46 = some (.ireturn, 1, 0, 0, 0, 0) from rfl))
theorem u72_47 : wp r 72 47 [vR o] st x Q ↔ wp r 72 48 [vR o] (vR o :: st) x Q := (wp_u (show cd 72 47 = some (.aload_n 0, 1, 0, 0, 0, 0) from rfl))
theorem u72_48 : wp r 72 48 [vR o] st x Q ↔ wp r 72 49 [vR o] (vR o :: st) x Q := (wp_u (show cd 72 48 = some (.aload_n 0, 1, 0, 0, 0, 0) from rfl))
theorem u72_49 : wp r 72 49 ls (vA q :: st) x Q ↔ sbk 8 (hK x q) ∧ wp r 72 52 ls (vR (hR x q 1) :: st) x Q := (wp_u (show cd 72 49 = some (.getfield 30, 3, 8, 1, 5, 0) from rfl)).trans g_getR
theorem u72_52 : wp r 72 52 ls (vA q :: st) x Q ↔ sbk 4 (hK x q) ∧ wp r 72 55 ls (vR (hR x q 0) :: st) x Q := (wp_u (show cd 72 52 = some (.getfield 60, 3, 4, 0, 5, 0) from rfl)).trans g_getR
theorem u72_55 : wp r 72 55 ls (vR o :: vA q :: st) x Q ↔ sbk 8 (hK x q) ∧ wp r 72 58 ls st (stR x q 1 o) Q := (wp_u (show cd 72 55 = some (.putfield 30, 3, 8, 1, 5, 0) from rfl)).trans g_putR
theorem u72_58 : wp r 72 58 [vR o] st x Q ↔ wp r 72 59 [vR o] (vR o :: st) x Q := (wp_u (show cd 72 58 = some (.aload_n 0, 1, 0, 0, 0, 0) from rfl))
theorem u72_59 : wp r 72 59 ls st x Q ↔ wp r 72 60 ls (vI 0 :: st) x Q := (wp_u (show cd 72 59 = some (.iconst 0, 1, 0, 0, 0, 0) from rfl))
theorem u72_60 : wp r 72 60 ls (vI z :: vA q :: st) x Q ↔ sbk 8 (hK x q) ∧ wp r 72 63 ls st (stI x q 2 z) Q := (wp_u (show cd 72 60 = some (.putfield 33, 3, 8, 2, 0, 0) from rfl)).trans g_putI0
theorem u72_63 : wp r 72 63 ls st x Q ↔ wp r 72 0 ls st x Q := (wp_u (show cd 72 63 = some (.goto (-63), 3, 0, 0, 0, 0) from rfl))
theorem u72_66 : wp r 72 66 ls st x Q ↔ wp r 72 67 ls (vI 0 :: st) x Q := (wp_u (show cd 72 66 = some (.iconst 0, 1, 0, 0, 0, 0) from rfl))
theorem u72_67 : wp r 72 67 ls [vI z] x Q ↔ Q (.inl (some (vI z))) x := (wp_u (show cd 72 67 = some (.ireturn, 1, 0, 0, 0, 0) from rfl))
theorem e72 : wpc r 72 [vA q] x Q ↔ wp r 72 0 [vA q] [] x Q := Iff.rfl
/-! 73 D_isUsual -/
theorem u73_0 : wp r 73 0 [vI z] st x Q ↔ wp r 73 1 [vI z] (vI z :: st) x Q := (wp_u (show cd 73 0 = some (.iload_n 0, 1, 0, 0, 0, 0) from rfl))
theorem u73_1 : wp r 73 1 ls (vI z :: st) x Q ↔ wp r 73 (tgt 1 (lsw z 45 [(39, 43), (43, 43), (58, 43), (63, 43)])) ls st x Q := (wp_u (show cd 73 1 = some (.lookupswitch 45 #[(39, 43), (43, 43), (58, 43), (63, 43)], 43, 0, 0, 0, 0) from rfl))
theorem u73_44 : wp r 73 44 ls st x Q ↔ wp r 73 45 ls (vI 1 :: st) x Q := (wp_u (show cd 73 44 = some (.iconst 1, 1, 0, 0, 0, 0) from rfl))
theorem u73_45 : wp r 73 45 ls [vI z] x Q ↔ rg 4 z = true ∧ Q (.inl (some (vI z))) x := (wp_u (show cd 73 45 = some (.ireturn, 1, 4, 0, 0, 0) from rfl)).trans wq_if
theorem u73_46 : wp r 73 46 ls st x Q ↔ wp r 73 47 ls (vI 0 :: st) x Q := (wp_u (show cd 73 46 = some (.iconst 0, 1, 0, 0, 0, 0) from rfl))
theorem u73_47 : wp r 73 47 ls [vI z] x Q ↔ rg 4 z = true ∧ Q (.inl (some (vI z))) x := (wp_u (show cd 73 47 = some (.ireturn, 1, 4, 0, 0, 0) from rfl)).trans wq_if
theorem e73 : wpc r 73 [vI z0] x Q ↔ wp r 73 0 [vI z0] [] x Q := Iff.rfl
/-! 74 Sc_isMark -/
theorem u74_0 : wp r 74 0 [vI z] st x Q ↔ wp r 74 1 [vI z] (vI z :: st) x Q := (wp_u (show cd 74 0 = some (.iload_n 0, 1, 0, 0, 0, 0) from rfl))
theorem u74_1 : wp r 74 1 ls st x Q ↔ wp r 74 3 ls (vI 32 :: st) x Q := (wp_u (show cd 74 1 = some (.bipush 32, 2, 0, 0, 0, 0) from rfl))
theorem u74_3 : wp r 74 3 ls (vI w :: vI z :: st) x Q ↔ if z = w then wp r 74 46 ls st x Q else wp r 74 6 ls st x Q := (wp_u (show cd 74 3 = some (.if_icmp .eq 43, 3, 46, 0, 0, 0) from rfl)).trans wq_d
theorem u74_6 : wp r 74 6 [vI z] st x Q ↔ wp r 74 7 [vI z] (vI z :: st) x Q := (wp_u (show cd 74 6 = some (.iload_n 0, 1, 0, 0, 0, 0) from rfl))
theorem u74_7 : wp r 74 7 ls st x Q ↔ wp r 74 9 ls (vI 48 :: st) x Q := (wp_u (show cd 74 7 = some (.bipush 48, 2, 0, 0, 0, 0) from rfl))
theorem u74_9 : wp r 74 9 ls (vI w :: vI z :: st) x Q ↔ if z < w then wp r 74 18 ls st x Q else wp r 74 12 ls st x Q := (wp_u (show cd 74 9 = some (.if_icmp .lt 9, 3, 18, 0, 0, 0) from rfl)).trans wq_d
theorem u74_12 : wp r 74 12 [vI z] st x Q ↔ wp r 74 13 [vI z] (vI z :: st) x Q := (wp_u (show cd 74 12 = some (.iload_n 0, 1, 0, 0, 0, 0) from rfl))
theorem u74_13 : wp r 74 13 ls st x Q ↔ wp r 74 15 ls (vI 57 :: st) x Q := (wp_u (show cd 74 13 = some (.bipush 57, 2, 0, 0, 0, 0) from rfl))
theorem u74_15 : wp r 74 15 ls (vI w :: vI z :: st) x Q ↔ if z ≤ w then wp r 74 46 ls st x Q else wp r 74 18 ls st x Q := (wp_u (show cd 74 15 = some (.if_icmp .le 31, 3, 46, 0, 0, 0) from rfl)).trans wq_d
theorem u74_18 : wp r 74 18 [vI z] st x Q ↔ wp r 74 19 [vI z] (vI z :: st) x Q := (wp_u (show cd 74 18 = some (.iload_n 0, 1, 0, 0, 0, 0) from rfl))
theorem u74_19 : wp r 74 19 ls st x Q ↔ wp r 74 21 ls (vI 65 :: st) x Q := (wp_u (show cd 74 19 = some (.bipush 65, 2, 0, 0, 0, 0) from rfl))
theorem u74_21 : wp r 74 21 ls (vI w :: vI z :: st) x Q ↔ if z < w then wp r 74 30 ls st x Q else wp r 74 24 ls st x Q := (wp_u (show cd 74 21 = some (.if_icmp .lt 9, 3, 30, 0, 0, 0) from rfl)).trans wq_d
theorem u74_24 : wp r 74 24 [vI z] st x Q ↔ wp r 74 25 [vI z] (vI z :: st) x Q := (wp_u (show cd 74 24 = some (.iload_n 0, 1, 0, 0, 0, 0) from rfl))
theorem u74_25 : wp r 74 25 ls st x Q ↔ wp r 74 27 ls (vI 90 :: st) x Q := (wp_u (show cd 74 25 = some (.bipush 90, 2, 0, 0, 0, 0) from rfl))
theorem u74_27 : wp r 74 27 ls (vI w :: vI z :: st) x Q ↔ if z ≤ w then wp r 74 46 ls st x Q else wp r 74 30 ls st x Q := (wp_u (show cd 74 27 = some (.if_icmp .le 19, 3, 46, 0, 0, 0) from rfl)).trans wq_d
theorem u74_30 : wp r 74 30 [vI z] st x Q ↔ wp r 74 31 [vI z] (vI z :: st) x Q := (wp_u (show cd 74 30 = some (.iload_n 0, 1, 0, 0, 0, 0) from rfl))
theorem u74_31 : wp r 74 31 ls st x Q ↔ wp r 74 33 ls (vI 97 :: st) x Q := (wp_u (show cd 74 31 = some (.bipush 97, 2, 0, 0, 0, 0) from rfl))
theorem u74_33 : wp r 74 33 ls (vI w :: vI z :: st) x Q ↔ if z < w then wp r 74 42 ls st x Q else wp r 74 36 ls st x Q := (wp_u (show cd 74 33 = some (.if_icmp .lt 9, 3, 42, 0, 0, 0) from rfl)).trans wq_d
theorem u74_36 : wp r 74 36 [vI z] st x Q ↔ wp r 74 37 [vI z] (vI z :: st) x Q := (wp_u (show cd 74 36 = some (.iload_n 0, 1, 0, 0, 0, 0) from rfl))
theorem u74_37 : wp r 74 37 ls st x Q ↔ wp r 74 39 ls (vI 122 :: st) x Q := (wp_u (show cd 74 37 = some (.bipush 122, 2, 0, 0, 0, 0) from rfl))
theorem u74_39 : wp r 74 39 ls (vI w :: vI z :: st) x Q ↔ if z ≤ w then wp r 74 46 ls st x Q else wp r 74 42 ls st x Q := (wp_u (show cd 74 39 = some (.if_icmp .le 7, 3, 46, 0, 0, 0) from rfl)).trans wq_d
theorem u74_42 : wp r 74 42 ls st x Q ↔ wp r 74 43 ls (vI 1 :: st) x Q := (wp_u (show cd 74 42 = some (.iconst 1, 1, 0, 0, 0, 0) from rfl))
theorem u74_43 : wp r 74 43 ls st x Q ↔ wp r 74 47 ls st x Q := (wp_u (show cd 74 43 = some (.goto 4, 3, 47, 0, 0, 0) from rfl))
theorem u74_46 : wp r 74 46 ls st x Q ↔ wp r 74 47 ls (vI 0 :: st) x Q := (wp_u (show cd 74 46 = some (.iconst 0, 1, 0, 0, 0, 0) from rfl))
theorem u74_47 : wp r 74 47 ls [vI z] x Q ↔ rg 4 z = true ∧ Q (.inl (some (vI z))) x := (wp_u (show cd 74 47 = some (.ireturn, 1, 4, 0, 0, 0) from rfl)).trans wq_if
theorem e74 : wpc r 74 [vI z0] x Q ↔ wp r 74 0 [vI z0] [] x Q := Iff.rfl
/-! 75 Sc_need -/
theorem u75_0 : wp r 75 0 [vI z] st x Q ↔ wp r 75 1 [vI z] (vI z :: st) x Q := (wp_u (show cd 75 0 = some (.iload_n 0, 1, 0, 0, 0, 0) from rfl))
theorem u75_1 : wp r 75 1 ls (vI z :: st) x Q ↔ if z = 0 then wp r 75 4 ls st x Q else wp r 75 12 ls st x Q := (wp_u (show cd 75 1 = some (.ifCond .ne 11, 3, 12, 0, 0, 0) from rfl)).trans wq_dn
theorem u75_4 : wp r 75 4 ls st x Q ↔ nok x 6 ∧ wp r 75 7 ls (vA (hN x) :: st) (nwO x 11 6) Q := (wp_u (show cd 75 4 = some (.new 22, 3, 11, 6, 0, 0) from rfl)).trans g_new
theorem u75_7i : wp r 75 7 ls (vI z :: st) x Q ↔ wp r 75 8 ls (vI z :: vI z :: st) x Q := (wp_u (show cd 75 7 = some (.dup, 1, 0, 0, 0, 0) from rfl))
theorem u75_7 : wp r 75 7 ls (vR o :: st) x Q ↔ wp r 75 8 ls (vR o :: vR o :: st) x Q := (wp_u (show cd 75 7 = some (.dup, 1, 0, 0, 0, 0) from rfl))
theorem u75_8 : wp r 75 8 ls (vA q :: vA q :: st) x Q ↔ hK x q = some (11, 6) ∧ sml st = true ∧ Q (.inr q) (stK x q 14 6) := (wp_u (show cd 75 8 = some (.invokespecial 24, 3, 1001, 1, 0, 11) from rfl)).trans (g_exi (t := st) (by decide))
theorem u75_12 : wp r 75 12 ls [] x Q ↔ Q (.inl none) x := (wp_u (show cd 75 12 = some (.return_, 1, 0, 0, 0, 0) from rfl))
theorem e75 : wpc r 75 [vI z0] x Q ↔ wp r 75 0 [vI z0] [] x Q := Iff.rfl
/-! 76 Ic_newSegment -/
theorem u76_0 : wp r 76 0 [vR o, a1, a2] st x Q ↔ wp r 76 1 [vR o, a1, a2] (vR o :: st) x Q := (wp_u (show cd 76 0 = some (.aload_n 0, 1, 0, 0, 0, 0) from rfl))
theorem u76_1 : wp r 76 1 ls (vA q :: st) x Q ↔ sbk 2 (hK x q) ∧ wp r 76 4 ls (vR (hR x q 2) :: st) x Q := (wp_u (show cd 76 1 = some (.getfield 17, 3, 2, 2, 5, 0) from rfl)).trans g_getR
theorem u76_4 : wp r 76 4 [vR o, a1, a2] st x Q ↔ wp r 76 5 [vR o, a1, a2] (vR o :: st) x Q := (wp_u (show cd 76 4 = some (.aload_n 0, 1, 0, 0, 0, 0) from rfl))
theorem u76_5 : wp r 76 5 ls (vA q :: st) x Q ↔ sbk 2 (hK x q) ∧ wp r 76 8 ls (vI (hI x q 3) :: st) x Q := (wp_u (show cd 76 5 = some (.getfield 73, 3, 2, 3, 0, 0) from rfl)).trans g_getI
theorem u76_8 : wp r 76 8 ls (vI i :: vA q :: st) x Q ↔ ldr (hK x q) i ∧ wp r 76 9 ls (vR (hR x q i) :: st) x Q := (wp_u (show cd 76 8 = some (.aaload, 1, 0, 0, 0, 0) from rfl)).trans g_ldR
theorem u76_9 : wp r 76 9 [a0, a1, a2] (vR o :: st) x Q ↔ wp r 76 10 [a0, a1, vR o] st x Q := (wp_u (show cd 76 9 = some (.astore_n 2, 1, 0, 0, 0, 0) from rfl))
theorem u76_10 : wp r 76 10 [vR o, a1, a2] st x Q ↔ wp r 76 11 [vR o, a1, a2] (vR o :: st) x Q := (wp_u (show cd 76 10 = some (.aload_n 0, 1, 0, 0, 0, 0) from rfl))
theorem u76_11i : wp r 76 11 ls (vI z :: st) x Q ↔ wp r 76 12 ls (vI z :: vI z :: st) x Q := (wp_u (show cd 76 11 = some (.dup, 1, 0, 0, 0, 0) from rfl))
theorem u76_11 : wp r 76 11 ls (vR o :: st) x Q ↔ wp r 76 12 ls (vR o :: vR o :: st) x Q := (wp_u (show cd 76 11 = some (.dup, 1, 0, 0, 0, 0) from rfl))
theorem u76_12 : wp r 76 12 ls (vA q :: st) x Q ↔ sbk 2 (hK x q) ∧ wp r 76 15 ls (vI (hI x q 3) :: st) x Q := (wp_u (show cd 76 12 = some (.getfield 73, 3, 2, 3, 0, 0) from rfl)).trans g_getI
theorem u76_15 : wp r 76 15 ls st x Q ↔ wp r 76 16 ls (vI 1 :: st) x Q := (wp_u (show cd 76 15 = some (.iconst 1, 1, 0, 0, 0, 0) from rfl))
theorem u76_16 : wp r 76 16 ls (vI w :: vI z :: st) x Q ↔ inI (z + w) = true ∧ wp r 76 17 ls (vI (z + w) :: st) x Q := (wp_u (show cd 76 16 = some (.iadd, 1, 0, 0, 0, 0) from rfl)).trans wq_if
theorem u76_17 : wp r 76 17 ls (vI z :: vA q :: st) x Q ↔ sbk 2 (hK x q) ∧ wp r 76 20 ls st (stI x q 3 z) Q := (wp_u (show cd 76 17 = some (.putfield 73, 3, 2, 3, 0, 0) from rfl)).trans g_putI0
theorem u76_20 : wp r 76 20 [a0, a1, vR o] st x Q ↔ wp r 76 21 [a0, a1, vR o] (vR o :: st) x Q := (wp_u (show cd 76 20 = some (.aload_n 2, 1, 0, 0, 0, 0) from rfl))
theorem u76_21 : wp r 76 21 [a0, vI z, a2] st x Q ↔ wp r 76 22 [a0, vI z, a2] (vI z :: st) x Q := (wp_u (show cd 76 21 = some (.iload_n 1, 1, 0, 0, 0, 0) from rfl))
theorem u76_22 : wp r 76 22 ls (vI z :: vA q :: st) x Q ↔ sbk 3 (hK x q) ∧ wp r 76 25 ls st (stI x q 0 z) Q := (wp_u (show cd 76 22 = some (.putfield 91, 3, 3, 0, 0, 0) from rfl)).trans g_putI0
theorem u76_25 : wp r 76 25 [a0, a1, vR o] st x Q ↔ wp r 76 26 [a0, a1, vR o] (vR o :: st) x Q := (wp_u (show cd 76 25 = some (.aload_n 2, 1, 0, 0, 0, 0) from rfl))
theorem u76_26 : wp r 76 26 [vR o, a1, a2] st x Q ↔ wp r 76 27 [vR o, a1, a2] (vR o :: st) x Q := (wp_u (show cd 76 26 = some (.aload_n 0, 1, 0, 0, 0, 0) from rfl))
theorem u76_27 : wp r 76 27 ls (vA q :: st) x Q ↔ sbk 2 (hK x q) ∧ wp r 76 30 ls (vI (hI x q 6) :: st) x Q := (wp_u (show cd 76 27 = some (.getfield 76, 3, 2, 6, 0, 0) from rfl)).trans g_getI
theorem u76_30 : wp r 76 30 ls (vI z :: vA q :: st) x Q ↔ sbk 3 (hK x q) ∧ wp r 76 33 ls st (stI x q 1 z) Q := (wp_u (show cd 76 30 = some (.putfield 94, 3, 3, 1, 0, 0) from rfl)).trans g_putI0
theorem u76_33 : wp r 76 33 [a0, a1, vR o] st x Q ↔ wp r 76 34 [a0, a1, vR o] (vR o :: st) x Q := (wp_u (show cd 76 33 = some (.aload_n 2, 1, 0, 0, 0, 0) from rfl))
theorem u76_34 : wp r 76 34 ls st x Q ↔ wp r 76 35 ls (vI 0 :: st) x Q := (wp_u (show cd 76 34 = some (.iconst 0, 1, 0, 0, 0, 0) from rfl))
theorem u76_35 : wp r 76 35 ls (vI z :: vA q :: st) x Q ↔ sbk 3 (hK x q) ∧ wp r 76 38 ls st (stI x q 2 z) Q := (wp_u (show cd 76 35 = some (.putfield 97, 3, 3, 2, 0, 0) from rfl)).trans g_putI0
theorem u76_38 : wp r 76 38 [a0, a1, vR o] st x Q ↔ wp r 76 39 [a0, a1, vR o] (vR o :: st) x Q := (wp_u (show cd 76 38 = some (.aload_n 2, 1, 0, 0, 0, 0) from rfl))
theorem u76_39 : wp r 76 39 ls [vR o] x Q ↔ Q (.inl (some (vR o))) x := (wp_u (show cd 76 39 = some (.areturn, 1, 0, 0, 0, 0) from rfl))
theorem e76 : wpc r 76 [vA q, vI z0] x Q ↔ wp r 76 0 [vA q, vI z0, vL jk] [] x Q := Iff.rfl
/-! 77 Sc_part -/
theorem u77_0 : wp r 77 0 [vR o, a1, a2, a3, a4] st x Q ↔ wp r 77 1 [vR o, a1, a2, a3, a4] (vR o :: st) x Q := (wp_u (show cd 77 0 = some (.aload_n 0, 1, 0, 0, 0, 0) from rfl))
theorem u77_1 : wp r 77 1 ls (vA q :: st) x Q ↔ isk 1 (hK x q) ∧ sml st = true ∧ 1 < r ∧ wpc 1 65 [vA q] x (wk r 77 1 ls st Q) := (wp_u (show cd 77 1 = some (.invokevirtual 38, 3, 65, 1, 1, 1) from rfl)).trans (g_virt rfl (by decide) (by simp) rfl)
theorem u77_4 : wp r 77 4 [a0, a1, a2, a3, a4] (vI z :: st) x Q ↔ wp r 77 5 [a0, a1, a2, vI z, a4] st x Q := (wp_u (show cd 77 4 = some (.istore_n 3, 1, 0, 0, 0, 0) from rfl))
theorem u77_5 : wp r 77 5 [a0, a1, a2, vI z, a4] st x Q ↔ wp r 77 6 [a0, a1, a2, vI z, a4] (vI z :: st) x Q := (wp_u (show cd 77 5 = some (.iload_n 3, 1, 0, 0, 0, 0) from rfl))
theorem u77_6 : wp r 77 6 [vR o, a1, a2, a3, a4] st x Q ↔ wp r 77 7 [vR o, a1, a2, a3, a4] (vR o :: st) x Q := (wp_u (show cd 77 6 = some (.aload_n 0, 1, 0, 0, 0, 0) from rfl))
theorem u77_7 : wp r 77 7 ls (vA q :: st) x Q ↔ sbk 1 (hK x q) ∧ wp r 77 10 ls (vI (hI x q 6) :: st) x Q := (wp_u (show cd 77 7 = some (.getfield 35, 3, 1, 6, 1, 0) from rfl)).trans g_getI
theorem u77_10 : wp r 77 10 ls (vI w :: vI z :: st) x Q ↔ if z = w then wp r 77 13 ls st x Q else wp r 77 15 ls st x Q := (wp_u (show cd 77 10 = some (.if_icmp .ne 5, 3, 15, 0, 0, 0) from rfl)).trans wq_dn
theorem u77_13 : wp r 77 13 ls st x Q ↔ wp r 77 14 ls (vI 0 :: st) x Q := (wp_u (show cd 77 13 = some (.iconst 0, 1, 0, 0, 0, 0) from rfl))
theorem u77_14 : wp r 77 14 ls [vI z] x Q ↔ rg 4 z = true ∧ Q (.inl (some (vI z))) x := (wp_u (show cd 77 14 = some (.ireturn, 1, 4, 0, 0, 0) from rfl)).trans wq_if
theorem u77_15 : wp r 77 15 [a0, a1, a2, vI z, a4] st x Q ↔ wp r 77 16 [a0, a1, a2, vI z, a4] (vI z :: st) x Q := (wp_u (show cd 77 15 = some (.iload_n 3, 1, 0, 0, 0, 0) from rfl))
theorem u77_16 : wp r 77 16 [vR o, a1, a2, a3, a4] st x Q ↔ wp r 77 17 [vR o, a1, a2, a3, a4] (vR o :: st) x Q := (wp_u (show cd 77 16 = some (.aload_n 0, 1, 0, 0, 0, 0) from rfl))
theorem u77_17 : wp r 77 17 ls (vA q :: st) x Q ↔ sbk 1 (hK x q) ∧ wp r 77 20 ls (vI (hI x q 4) :: st) x Q := (wp_u (show cd 77 17 = some (.getfield 29, 3, 1, 4, 1, 0) from rfl)).trans g_getI
theorem u77_20 : wp r 77 20 ls (vI w :: vI z :: st) x Q ↔ if z = w then wp r 77 23 ls st x Q else wp r 77 27 ls st x Q := (wp_u (show cd 77 20 = some (.if_icmp .ne 7, 3, 27, 0, 0, 0) from rfl)).trans wq_dn
theorem u77_23 : wp r 77 23 ls st x Q ↔ wp r 77 24 ls (vI 1 :: st) x Q := (wp_u (show cd 77 23 = some (.iconst 1, 1, 0, 0, 0, 0) from rfl))
theorem u77_24 : wp r 77 24 ls st x Q ↔ wp r 77 28 ls st x Q := (wp_u (show cd 77 24 = some (.goto 4, 3, 28, 0, 0, 0) from rfl))
theorem u77_27 : wp r 77 27 ls st x Q ↔ wp r 77 28 ls (vI 0 :: st) x Q := (wp_u (show cd 77 27 = some (.iconst 0, 1, 0, 0, 0, 0) from rfl))
theorem u77_28 : wp r 77 28 [a0, a1, a2, a3, a4] (vI z :: st) x Q ↔ wp r 77 30 [a0, a1, a2, a3, vI z] st x Q := (wp_u (show cd 77 28 = some (.istore 4, 2, 0, 0, 0, 0) from rfl))
theorem u77_30 : wp r 77 30 [a0, a1, a2, a3, vI z] st x Q ↔ wp r 77 32 [a0, a1, a2, a3, vI z] (vI z :: st) x Q := (wp_u (show cd 77 30 = some (.iload 4, 2, 0, 0, 0, 0) from rfl))
theorem u77_32 : wp r 77 32 ls (vI z :: st) x Q ↔ if z = 0 then wp r 77 35 ls st x Q else wp r 77 43 ls st x Q := (wp_u (show cd 77 32 = some (.ifCond .ne 11, 3, 43, 0, 0, 0) from rfl)).trans wq_dn
theorem u77_35 : wp r 77 35 [a0, a1, a2, vI z, a4] st x Q ↔ wp r 77 36 [a0, a1, a2, vI z, a4] (vI z :: st) x Q := (wp_u (show cd 77 35 = some (.iload_n 3, 1, 0, 0, 0, 0) from rfl))
theorem u77_36 : wp r 77 36 [vR o, a1, a2, a3, a4] st x Q ↔ wp r 77 37 [vR o, a1, a2, a3, a4] (vR o :: st) x Q := (wp_u (show cd 77 36 = some (.aload_n 0, 1, 0, 0, 0, 0) from rfl))
theorem u77_37 : wp r 77 37 ls (vA q :: st) x Q ↔ sbk 1 (hK x q) ∧ wp r 77 40 ls (vI (hI x q 3) :: st) x Q := (wp_u (show cd 77 37 = some (.getfield 25, 3, 1, 3, 1, 0) from rfl)).trans g_getI
theorem u77_40 : wp r 77 40 ls (vI w :: vI z :: st) x Q ↔ if z = w then wp r 77 43 ls st x Q else wp r 77 77 ls st x Q := (wp_u (show cd 77 40 = some (.if_icmp .ne 37, 3, 77, 0, 0, 0) from rfl)).trans wq_dn
theorem u77_43 : wp r 77 43 [a0, vR o, a2, a3, a4] st x Q ↔ wp r 77 44 [a0, vR o, a2, a3, a4] (vR o :: st) x Q := (wp_u (show cd 77 43 = some (.aload_n 1, 1, 0, 0, 0, 0) from rfl))
theorem u77_44 : wp r 77 44 ls (vA q :: st) x Q ↔ sbk 2 (hK x q) ∧ wp r 77 47 ls (vI (hI x q 9) :: st) x Q := (wp_u (show cd 77 44 = some (.getfield 73, 3, 2, 9, 0, 0) from rfl)).trans g_getI
theorem u77_47 : wp r 77 47 ls st x Q ↔ wp r 77 49 ls (vI 120 :: st) x Q := (wp_u (show cd 77 47 = some (.bipush 120, 2, 0, 0, 0, 0) from rfl))
theorem u77_49 : wp r 77 49 ls (vI w :: vI z :: st) x Q ↔ if w ≤ z then wp r 77 56 ls st x Q else wp r 77 52 ls st x Q := (wp_u (show cd 77 49 = some (.if_icmp .ge 7, 3, 56, 0, 0, 0) from rfl)).trans wq_d
theorem u77_52 : wp r 77 52 ls st x Q ↔ wp r 77 53 ls (vI 1 :: st) x Q := (wp_u (show cd 77 52 = some (.iconst 1, 1, 0, 0, 0, 0) from rfl))
theorem u77_53 : wp r 77 53 ls st x Q ↔ wp r 77 57 ls st x Q := (wp_u (show cd 77 53 = some (.goto 4, 3, 57, 0, 0, 0) from rfl))
theorem u77_56 : wp r 77 56 ls st x Q ↔ wp r 77 57 ls (vI 0 :: st) x Q := (wp_u (show cd 77 56 = some (.iconst 0, 1, 0, 0, 0, 0) from rfl))
theorem u77_57 : wp r 77 57 ls (vI z0 :: st) x Q ↔ sml st = true ∧ 1 < r ∧ wpc 1 75 [vI z0] x (wk r 77 57 ls st Q) := (wp_u (show cd 77 57 = some (.invokestatic 46, 3, 75, 1, 1, 0) from rfl)).trans (g_stat (by decide) (by simp) rfl)
theorem u77_60 : wp r 77 60 [a0, a1, a2, a3, vI z] st x Q ↔ wp r 77 62 [a0, a1, a2, a3, vI z] (vI z :: st) x Q := (wp_u (show cd 77 60 = some (.iload 4, 2, 0, 0, 0, 0) from rfl))
theorem u77_62 : wp r 77 62 ls (vI z :: st) x Q ↔ if z = 0 then wp r 77 70 ls st x Q else wp r 77 65 ls st x Q := (wp_u (show cd 77 62 = some (.ifCond .eq 8, 3, 70, 0, 0, 0) from rfl)).trans wq_d
theorem u77_65 : wp r 77 65 [a0, vR o, a2, a3, a4] st x Q ↔ wp r 77 66 [a0, vR o, a2, a3, a4] (vR o :: st) x Q := (wp_u (show cd 77 65 = some (.aload_n 1, 1, 0, 0, 0, 0) from rfl))
theorem u77_66 : wp r 77 66 [a0, a1, vR o, a3, a4] st x Q ↔ wp r 77 67 [a0, a1, vR o, a3, a4] (vR o :: st) x Q := (wp_u (show cd 77 66 = some (.aload_n 2, 1, 0, 0, 0, 0) from rfl))
theorem u77_67 : wp r 77 67 ls (vR o0 :: vA q :: st) x Q ↔ isk 2 (hK x q) ∧ sml st = true ∧ 1 < r ∧ wpc 1 82 [vA q, vR o0] x (wk r 77 67 ls st Q) := (wp_u (show cd 77 67 = some (.invokevirtual 76, 3, 82, 2, 1, 2) from rfl)).trans (g_virt rfl (by decide) (by simp) rfl)
theorem u77_70 : wp r 77 70 [a0, vR o, a2, a3, a4] st x Q ↔ wp r 77 71 [a0, vR o, a2, a3, a4] (vR o :: st) x Q := (wp_u (show cd 77 70 = some (.aload_n 1, 1, 0, 0, 0, 0) from rfl))
theorem u77_71 : wp r 77 71 ls (vA q :: st) x Q ↔ isk 2 (hK x q) ∧ sml st = true ∧ 1 < r ∧ wpc 1 83 [vA q] x (wk r 77 71 ls st Q) := (wp_u (show cd 77 71 = some (.invokevirtual 80, 3, 83, 1, 1, 2) from rfl)).trans (g_virt rfl (by decide) (by simp) rfl)
theorem u77_74 : wp r 77 74 ls st x Q ↔ wp r 77 112 ls st x Q := (wp_u (show cd 77 74 = some (.goto 38, 3, 112, 0, 0, 0) from rfl))
theorem u77_77 : wp r 77 77 [a0, a1, a2, vI z, a4] st x Q ↔ wp r 77 78 [a0, a1, a2, vI z, a4] (vI z :: st) x Q := (wp_u (show cd 77 77 = some (.iload_n 3, 1, 0, 0, 0, 0) from rfl))
theorem u77_78 : wp r 77 78 [vR o, a1, a2, a3, a4] st x Q ↔ wp r 77 79 [vR o, a1, a2, a3, a4] (vR o :: st) x Q := (wp_u (show cd 77 78 = some (.aload_n 0, 1, 0, 0, 0, 0) from rfl))
theorem u77_79 : wp r 77 79 ls (vA q :: st) x Q ↔ sbk 1 (hK x q) ∧ wp r 77 82 ls (vI (hI x q 5) :: st) x Q := (wp_u (show cd 77 79 = some (.getfield 32, 3, 1, 5, 1, 0) from rfl)).trans g_getI
theorem u77_82 : wp r 77 82 ls (vI w :: vI z :: st) x Q ↔ if z = w then wp r 77 85 ls st x Q else wp r 77 104 ls st x Q := (wp_u (show cd 77 82 = some (.if_icmp .ne 22, 3, 104, 0, 0, 0) from rfl)).trans wq_dn
theorem u77_85 : wp r 77 85 [vR o, a1, a2, a3, a4] st x Q ↔ wp r 77 86 [vR o, a1, a2, a3, a4] (vR o :: st) x Q := (wp_u (show cd 77 85 = some (.aload_n 0, 1, 0, 0, 0, 0) from rfl))
theorem u77_86 : wp r 77 86 ls (vA q :: st) x Q ↔ sbk 1 (hK x q) ∧ wp r 77 89 ls (vI (hI x q 5) :: st) x Q := (wp_u (show cd 77 86 = some (.getfield 32, 3, 1, 5, 1, 0) from rfl)).trans g_getI
theorem u77_89 : wp r 77 89 ls st x Q ↔ wp r 77 91 ls (vI 32 :: st) x Q := (wp_u (show cd 77 89 = some (.bipush 32, 2, 0, 0, 0, 0) from rfl))
theorem u77_91 : wp r 77 91 ls (vI w :: vI z :: st) x Q ↔ if z = w then wp r 77 104 ls st x Q else wp r 77 94 ls st x Q := (wp_u (show cd 77 91 = some (.if_icmp .eq 13, 3, 104, 0, 0, 0) from rfl)).trans wq_d
theorem u77_94 : wp r 77 94 [vR o, a1, a2, a3, a4] st x Q ↔ wp r 77 95 [vR o, a1, a2, a3, a4] (vR o :: st) x Q := (wp_u (show cd 77 94 = some (.aload_n 0, 1, 0, 0, 0, 0) from rfl))
theorem u77_95i : wp r 77 95 ls (vI z :: st) x Q ↔ wp r 77 96 ls (vI z :: vI z :: st) x Q := (wp_u (show cd 77 95 = some (.dup, 1, 0, 0, 0, 0) from rfl))
theorem u77_95 : wp r 77 95 ls (vR o :: st) x Q ↔ wp r 77 96 ls (vR o :: vR o :: st) x Q := (wp_u (show cd 77 95 = some (.dup, 1, 0, 0, 0, 0) from rfl))
theorem u77_96 : wp r 77 96 ls (vA q :: st) x Q ↔ sbk 1 (hK x q) ∧ wp r 77 99 ls (vI (hI x q 2) :: st) x Q := (wp_u (show cd 77 96 = some (.getfield 15, 3, 1, 2, 0, 0) from rfl)).trans g_getI
theorem u77_99 : wp r 77 99 ls st x Q ↔ wp r 77 100 ls (vI 1 :: st) x Q := (wp_u (show cd 77 99 = some (.iconst 1, 1, 0, 0, 0, 0) from rfl))
theorem u77_100 : wp r 77 100 ls (vI w :: vI z :: st) x Q ↔ inI (z + w) = true ∧ wp r 77 101 ls (vI (z + w) :: st) x Q := (wp_u (show cd 77 100 = some (.iadd, 1, 0, 0, 0, 0) from rfl)).trans wq_if
theorem u77_101 : wp r 77 101 ls (vI z :: vA q :: st) x Q ↔ sbk 1 (hK x q) ∧ wp r 77 104 ls st (stI x q 2 z) Q := (wp_u (show cd 77 101 = some (.putfield 15, 3, 1, 2, 0, 0) from rfl)).trans g_putI0
theorem u77_104 : wp r 77 104 [a0, vR o, a2, a3, a4] st x Q ↔ wp r 77 105 [a0, vR o, a2, a3, a4] (vR o :: st) x Q := (wp_u (show cd 77 104 = some (.aload_n 1, 1, 0, 0, 0, 0) from rfl))
theorem u77_105 : wp r 77 105 [vR o, a1, a2, a3, a4] st x Q ↔ wp r 77 106 [vR o, a1, a2, a3, a4] (vR o :: st) x Q := (wp_u (show cd 77 105 = some (.aload_n 0, 1, 0, 0, 0, 0) from rfl))
theorem u77_106 : wp r 77 106 ls (vA q :: st) x Q ↔ isk 1 (hK x q) ∧ sml st = true ∧ 1 < r ∧ wpc 1 65 [vA q] x (wk r 77 106 ls st Q) := (wp_u (show cd 77 106 = some (.invokevirtual 38, 3, 65, 1, 1, 1) from rfl)).trans (g_virt rfl (by decide) (by simp) rfl)
theorem u77_109 : wp r 77 109 ls (vI z0 :: vA q :: st) x Q ↔ isk 2 (hK x q) ∧ sml st = true ∧ 1 < r ∧ wpc 1 84 [vA q, vI z0] x (wk r 77 109 ls st Q) := (wp_u (show cd 77 109 = some (.invokevirtual 83, 3, 84, 2, 1, 2) from rfl)).trans (g_virt rfl (by decide) (by simp) rfl)
theorem u77_112 : wp r 77 112 [vR o, a1, a2, a3, a4] st x Q ↔ wp r 77 113 [vR o, a1, a2, a3, a4] (vR o :: st) x Q := (wp_u (show cd 77 112 = some (.aload_n 0, 1, 0, 0, 0, 0) from rfl))
theorem u77_113i : wp r 77 113 ls (vI z :: st) x Q ↔ wp r 77 114 ls (vI z :: vI z :: st) x Q := (wp_u (show cd 77 113 = some (.dup, 1, 0, 0, 0, 0) from rfl))
theorem u77_113 : wp r 77 113 ls (vR o :: st) x Q ↔ wp r 77 114 ls (vR o :: vR o :: st) x Q := (wp_u (show cd 77 113 = some (.dup, 1, 0, 0, 0, 0) from rfl))
theorem u77_114 : wp r 77 114 ls (vA q :: st) x Q ↔ sbk 1 (hK x q) ∧ wp r 77 117 ls (vI (hI x q 2) :: st) x Q := (wp_u (show cd 77 114 = some (.getfield 15, 3, 1, 2, 0, 0) from rfl)).trans g_getI
theorem u77_117 : wp r 77 117 ls st x Q ↔ wp r 77 118 ls (vI 1 :: st) x Q := (wp_u (show cd 77 117 = some (.iconst 1, 1, 0, 0, 0, 0) from rfl))
theorem u77_118 : wp r 77 118 ls (vI w :: vI z :: st) x Q ↔ inI (z + w) = true ∧ wp r 77 119 ls (vI (z + w) :: st) x Q := (wp_u (show cd 77 118 = some (.iadd, 1, 0, 0, 0, 0) from rfl)).trans wq_if
theorem u77_119 : wp r 77 119 ls (vI z :: vA q :: st) x Q ↔ sbk 1 (hK x q) ∧ wp r 77 122 ls st (stI x q 2 z) Q := (wp_u (show cd 77 119 = some (.putfield 15, 3, 1, 2, 0, 0) from rfl)).trans g_putI0
theorem u77_122 : wp r 77 122 ls st x Q ↔ wp r 77 123 ls (vI 1 :: st) x Q := (wp_u (show cd 77 122 = some (.iconst 1, 1, 0, 0, 0, 0) from rfl))
theorem u77_123 : wp r 77 123 ls [vI z] x Q ↔ rg 4 z = true ∧ Q (.inl (some (vI z))) x := (wp_u (show cd 77 123 = some (.ireturn, 1, 4, 0, 0, 0) from rfl)).trans wq_if
theorem e77 : wpc r 77 [vA q, vR o0, vR o1] x Q ↔ wp r 77 0 [vA q, vR o0, vR o1, vL jk, vL jk] [] x Q := Iff.rfl
/-! 78 Wk_leave -/
theorem u78_0 : wp r 78 0 [vR o] st x Q ↔ wp r 78 1 [vR o] (vR o :: st) x Q := (wp_u (show cd 78 0 = some (.aload_n 0, 1, 0, 0, 0, 0) from rfl))
theorem u78_1i : wp r 78 1 ls (vI z :: st) x Q ↔ wp r 78 2 ls (vI z :: vI z :: st) x Q := (wp_u (show cd 78 1 = some (.dup, 1, 0, 0, 0, 0) from rfl))
theorem u78_1 : wp r 78 1 ls (vR o :: st) x Q ↔ wp r 78 2 ls (vR o :: vR o :: st) x Q := (wp_u (show cd 78 1 = some (.dup, 1, 0, 0, 0, 0) from rfl))
theorem u78_2 : wp r 78 2 ls (vA q :: st) x Q ↔ sbk 8 (hK x q) ∧ wp r 78 5 ls (vI (hI x q 4) :: st) x Q := (wp_u (show cd 78 2 = some (.getfield 37, 3, 8, 4, 0, 0) from rfl)).trans g_getI
theorem u78_5 : wp r 78 5 ls st x Q ↔ wp r 78 6 ls (vI 1 :: st) x Q := (wp_u (show cd 78 5 = some (.iconst 1, 1, 0, 0, 0, 0) from rfl))
theorem u78_6 : wp r 78 6 ls (vI w :: vI z :: st) x Q ↔ inI (z - w) = true ∧ wp r 78 7 ls (vI (z - w) :: st) x Q := (wp_u (show cd 78 6 = some (.isub, 1, 0, 0, 0, 0) from rfl)).trans wq_if
theorem u78_7 : wp r 78 7 ls (vI z :: vA q :: st) x Q ↔ sbk 8 (hK x q) ∧ wp r 78 10 ls st (stI x q 4 z) Q := (wp_u (show cd 78 7 = some (.putfield 37, 3, 8, 4, 0, 0) from rfl)).trans g_putI0
theorem u78_10 : wp r 78 10 [vR o] st x Q ↔ wp r 78 11 [vR o] (vR o :: st) x Q := (wp_u (show cd 78 10 = some (.aload_n 0, 1, 0, 0, 0, 0) from rfl))
theorem u78_11 : wp r 78 11 [vR o] st x Q ↔ wp r 78 12 [vR o] (vR o :: st) x Q := (wp_u (show cd 78 11 = some (.aload_n 0, 1, 0, 0, 0, 0) from rfl))
theorem u78_12 : wp r 78 12 ls (vA q :: st) x Q ↔ sbk 8 (hK x q) ∧ wp r 78 15 ls (vR (hR x q 0) :: st) x Q := (wp_u (show cd 78 12 = some (.getfield 21, 3, 8, 0, 5, 0) from rfl)).trans g_getR
theorem u78_15 : wp r 78 15 ls (vR o :: vA q :: st) x Q ↔ sbk 8 (hK x q) ∧ wp r 78 18 ls st (stR x q 1 o) Q := (wp_u (show cd 78 15 = some (.putfield 30, 3, 8, 1, 5, 0) from rfl)).trans g_putR
theorem u78_18 : wp r 78 18 [vR o] st x Q ↔ wp r 78 19 [vR o] (vR o :: st) x Q := (wp_u (show cd 78 18 = some (.aload_n 0, 1, 0, 0, 0, 0) from rfl))
theorem u78_19 : wp r 78 19 [vR o] st x Q ↔ wp r 78 20 [vR o] (vR o :: st) x Q := (wp_u (show cd 78 19 = some (.aload_n 0, 1, 0, 0, 0, 0) from rfl))
theorem u78_20 : wp r 78 20 ls (vA q :: st) x Q ↔ sbk 8 (hK x q) ∧ wp r 78 23 ls (vR (hR x q 3) :: st) x Q := (wp_u (show cd 78 20 = some (.getfield 9, 3, 8, 3, 5, 0) from rfl)).trans g_getR
theorem u78_23 : wp r 78 23 [vR o] st x Q ↔ wp r 78 24 [vR o] (vR o :: st) x Q := (wp_u (show cd 78 23 = some (.aload_n 0, 1, 0, 0, 0, 0) from rfl))
theorem u78_24 : wp r 78 24 ls (vA q :: st) x Q ↔ sbk 8 (hK x q) ∧ wp r 78 27 ls (vI (hI x q 4) :: st) x Q := (wp_u (show cd 78 24 = some (.getfield 37, 3, 8, 4, 0, 0) from rfl)).trans g_getI
theorem u78_27 : wp r 78 27 ls (vI i :: vA q :: st) x Q ↔ ldk 20 (hK x q) i ∧ wp r 78 28 ls (vI (hI x q i) :: st) x Q := (wp_u (show cd 78 27 = some (.iaload, 1, 0, 0, 0, 0) from rfl)).trans g_ldI
theorem u78_28 : wp r 78 28 ls (vI z :: vA q :: st) x Q ↔ sbk 8 (hK x q) ∧ wp r 78 31 ls st (stI x q 2 z) Q := (wp_u (show cd 78 28 = some (.putfield 33, 3, 8, 2, 0, 0) from rfl)).trans g_putI0
theorem u78_31 : wp r 78 31 [vR o] st x Q ↔ wp r 78 32 [vR o] (vR o :: st) x Q := (wp_u (show cd 78 31 = some (.aload_n 0, 1, 0, 0, 0, 0) from rfl))
theorem u78_32 : wp r 78 32 [vR o] st x Q ↔ wp r 78 33 [vR o] (vR o :: st) x Q := (wp_u (show cd 78 32 = some (.aload_n 0, 1, 0, 0, 0, 0) from rfl))
theorem u78_33 : wp r 78 33 ls (vA q :: st) x Q ↔ sbk 8 (hK x q) ∧ wp r 78 36 ls (vR (hR x q 0) :: st) x Q := (wp_u (show cd 78 33 = some (.getfield 21, 3, 8, 0, 5, 0) from rfl)).trans g_getR
theorem u78_36 : wp r 78 36 ls (vA q :: st) x Q ↔ sbk 6 (hK x q) ∧ wp r 78 39 ls (vR (hR x q 1) :: st) x Q := (wp_u (show cd 78 36 = some (.getfield 40, 3, 6, 1, 5, 0) from rfl)).trans g_getR
theorem u78_39 : wp r 78 39 ls (vR o :: vA q :: st) x Q ↔ sbk 8 (hK x q) ∧ wp r 78 42 ls st (stR x q 0 o) Q := (wp_u (show cd 78 39 = some (.putfield 21, 3, 8, 0, 5, 0) from rfl)).trans g_putR
theorem u78_42 : wp r 78 42 ls [] x Q ↔ Q (.inl none) x := (wp_u (show cd 78 42 = some (.return_, 1, 0, 0, 0, 0) from rfl))
theorem e78 : wpc r 78 [vA q] x Q ↔ wp r 78 0 [vA q] [] x Q := Iff.rfl
/-! 79 Sl_begins -/
theorem u79_0 : wp r 79 0 [a0, vI z] st x Q ↔ wp r 79 1 [a0, vI z] (vI z :: st) x Q := (wp_u (show cd 79 0 = some (.iload_n 1, 1, 0, 0, 0, 0) from rfl))
theorem u79_1 : wp r 79 1 [vR o, a1] st x Q ↔ wp r 79 2 [vR o, a1] (vR o :: st) x Q := (wp_u (show cd 79 1 = some (.aload_n 0, 1, 0, 0, 0, 0) from rfl))
theorem u79_2 : wp r 79 2 ls (vA q :: st) x Q ↔ sbk 5 (hK x q) ∧ wp r 79 5 ls (vI (hI x q 4) :: st) x Q := (wp_u (show cd 79 2 = some (.getfield 7, 3, 5, 4, 0, 0) from rfl)).trans g_getI
theorem u79_5 : wp r 79 5 ls (vI w :: vI z :: st) x Q ↔ if z = w then wp r 79 8 ls st x Q else wp r 79 12 ls st x Q := (wp_u (show cd 79 5 = some (.if_icmp .ne 7, 3, 12, 0, 0, 0) from rfl)).trans wq_dn
theorem u79_8 : wp r 79 8 ls st x Q ↔ wp r 79 9 ls (vI 1 :: st) x Q := (wp_u (show cd 79 8 = some (.iconst 1, 1, 0, 0, 0, 0) from rfl))
theorem u79_9 : wp r 79 9 ls st x Q ↔ wp r 79 13 ls st x Q := (wp_u (show cd 79 9 = some (.goto 4, 3, 13, 0, 0, 0) from rfl))
theorem u79_12 : wp r 79 12 ls st x Q ↔ wp r 79 13 ls (vI 0 :: st) x Q := (wp_u (show cd 79 12 = some (.iconst 0, 1, 0, 0, 0, 0) from rfl))
theorem u79_13 : wp r 79 13 ls [vI z] x Q ↔ rg 4 z = true ∧ Q (.inl (some (vI z))) x := (wp_u (show cd 79 13 = some (.ireturn, 1, 4, 0, 0, 0) from rfl)).trans wq_if
theorem e79 : wpc r 79 [vA q, vI z0] x Q ↔ wp r 79 0 [vA q, vI z0] [] x Q := Iff.rfl
/-! 80 Gr_begins -/
theorem u80_0 : wp r 80 0 [vR o, a1] st x Q ↔ wp r 80 1 [vR o, a1] (vR o :: st) x Q := (wp_u (show cd 80 0 = some (.aload_n 0, 1, 0, 0, 0, 0) from rfl))
theorem u80_1 : wp r 80 1 ls (vA q :: st) x Q ↔ sbk 6 (hK x q) ∧ wp r 80 4 ls (vR (hR x q 4) :: st) x Q := (wp_u (show cd 80 1 = some (.getfield 7, 3, 6, 4, 5, 0) from rfl)).trans g_getR
theorem u80_4n : wp r 80 4 ls (vN :: st) x Q ↔ wp r 80 22 ls st x Q := (wp_u (show cd 80 4 = some (.ifnull 18, 3, 22, 0, 0, 0) from rfl))
theorem u80_4 : wp r 80 4 ls (vA q :: st) x Q ↔ nnk (hK x q) ∧ wp r 80 7 ls st x Q := (wp_u (show cd 80 4 = some (.ifnull 18, 3, 22, 0, 0, 0) from rfl)).trans (g_nul Iff.rfl)
theorem u80_7 : wp r 80 7 [vR o, a1] st x Q ↔ wp r 80 8 [vR o, a1] (vR o :: st) x Q := (wp_u (show cd 80 7 = some (.aload_n 0, 1, 0, 0, 0, 0) from rfl))
theorem u80_8 : wp r 80 8 ls (vA q :: st) x Q ↔ sbk 6 (hK x q) ∧ wp r 80 11 ls (vR (hR x q 4) :: st) x Q := (wp_u (show cd 80 8 = some (.getfield 7, 3, 6, 4, 5, 0) from rfl)).trans g_getR
theorem u80_11 : wp r 80 11 [a0, vI z] st x Q ↔ wp r 80 12 [a0, vI z] (vI z :: st) x Q := (wp_u (show cd 80 11 = some (.iload_n 1, 1, 0, 0, 0, 0) from rfl))
theorem u80_12 : wp r 80 12 ls (vI z0 :: vA q :: st) x Q ↔ bgk (hK x q) (sml st = true ∧ 1 < r ∧ wpc 1 79 [vA q, vI z0] x (wk r 80 12 ls st Q)) (sml st = true ∧ 1 < r ∧ wpc 1 80 [vA q, vI z0] x (wk r 80 12 ls st Q)) := (wp_u (show cd 80 12 = some (.invokevirtual 13, 3, 500, 2, 1, 4) from rfl)).trans (g_beg rfl (by simp) rfl)
theorem u80_15 : wp r 80 15 ls (vI z :: st) x Q ↔ if z = 0 then wp r 80 22 ls st x Q else wp r 80 18 ls st x Q := (wp_u (show cd 80 15 = some (.ifCond .eq 7, 3, 22, 0, 0, 0) from rfl)).trans wq_d
theorem u80_18 : wp r 80 18 ls st x Q ↔ wp r 80 19 ls (vI 1 :: st) x Q := (wp_u (show cd 80 18 = some (.iconst 1, 1, 0, 0, 0, 0) from rfl))
theorem u80_19 : wp r 80 19 ls st x Q ↔ wp r 80 23 ls st x Q := (wp_u (show cd 80 19 = some (.goto 4, 3, 23, 0, 0, 0) from rfl))
theorem u80_22 : wp r 80 22 ls st x Q ↔ wp r 80 23 ls (vI 0 :: st) x Q := (wp_u (show cd 80 22 = some (.iconst 0, 1, 0, 0, 0, 0) from rfl))
theorem u80_23 : wp r 80 23 ls [vI z] x Q ↔ rg 4 z = true ∧ Q (.inl (some (vI z))) x := (wp_u (show cd 80 23 = some (.ireturn, 1, 4, 0, 0, 0) from rfl)).trans wq_if
theorem e80 : wpc r 80 [vA q, vI z0] x Q ↔ wp r 80 0 [vA q, vI z0] [] x Q := Iff.rfl
/-! 81 Wk_enter -/
theorem u81_0 : wp r 81 0 [vR o, a1] st x Q ↔ wp r 81 1 [vR o, a1] (vR o :: st) x Q := (wp_u (show cd 81 0 = some (.aload_n 0, 1, 0, 0, 0, 0) from rfl))
theorem u81_1 : wp r 81 1 ls (vA q :: st) x Q ↔ sbk 8 (hK x q) ∧ wp r 81 4 ls (vI (hI x q 2) :: st) x Q := (wp_u (show cd 81 1 = some (.getfield 33, 3, 8, 2, 0, 0) from rfl)).trans g_getI
theorem u81_4 : wp r 81 4 [vR o, a1] st x Q ↔ wp r 81 5 [vR o, a1] (vR o :: st) x Q := (wp_u (show cd 81 4 = some (.aload_n 0, 1, 0, 0, 0, 0) from rfl))
theorem u81_5 : wp r 81 5 ls (vA q :: st) x Q ↔ sbk 8 (hK x q) ∧ wp r 81 8 ls (vR (hR x q 1) :: st) x Q := (wp_u (show cd 81 5 = some (.getfield 30, 3, 8, 1, 5, 0) from rfl)).trans g_getR
theorem u81_8 : wp r 81 8 ls (vA q :: st) x Q ↔ sbk 4 (hK x q) ∧ wp r 81 11 ls (vI (hI x q 3) :: st) x Q := (wp_u (show cd 81 8 = some (.getfield 63, 3, 4, 3, 0, 0) from rfl)).trans g_getI
theorem u81_11 : wp r 81 11 ls (vI w :: vI z :: st) x Q ↔ if z = w then wp r 81 14 ls st x Q else wp r 81 17 ls st x Q := (wp_u (show cd 81 11 = some (.if_icmp .ne 6, 3, 17, 0, 0, 0) from rfl)).trans wq_dn
theorem u81_14 : wp r 81 14 ls st x Q ↔ wp r 81 16 ls (vI 6 :: st) x Q := (wp_u (show cd 81 14 = some (.bipush 6, 2, 0, 0, 0, 0) from rfl))
theorem u81_16 : wp r 81 16 ls [vI z] x Q ↔ Q (.inl (some (vI z))) x := (wp_u (show cd 81 16 = some (.ireturn, 1, 0, 0, 0, 0) from rfl))
theorem u81_17 : wp r 81 17 [vR o, a1] st x Q ↔ wp r 81 18 [vR o, a1] (vR o :: st) x Q := (wp_u (show cd 81 17 = some (.aload_n 0, 1, 0, 0, 0, 0) from rfl))
theorem u81_18i : wp r 81 18 ls (vI z :: st) x Q ↔ wp r 81 19 ls (vI z :: vI z :: st) x Q := (wp_u (show cd 81 18 = some (.dup, 1, 0, 0, 0, 0) from rfl))
theorem u81_18 : wp r 81 18 ls (vR o :: st) x Q ↔ wp r 81 19 ls (vR o :: vR o :: st) x Q := (wp_u (show cd 81 18 = some (.dup, 1, 0, 0, 0, 0) from rfl))
theorem u81_19 : wp r 81 19 ls (vA q :: st) x Q ↔ sbk 8 (hK x q) ∧ wp r 81 22 ls (vI (hI x q 2) :: st) x Q := (wp_u (show cd 81 19 = some (.getfield 33, 3, 8, 2, 0, 0) from rfl)).trans g_getI
theorem u81_22 : wp r 81 22 ls st x Q ↔ wp r 81 23 ls (vI 1 :: st) x Q := (wp_u (show cd 81 22 = some (.iconst 1, 1, 0, 0, 0, 0) from rfl))
theorem u81_23 : wp r 81 23 ls (vI w :: vI z :: st) x Q ↔ inI (z + w) = true ∧ wp r 81 24 ls (vI (z + w) :: st) x Q := (wp_u (show cd 81 23 = some (.iadd, 1, 0, 0, 0, 0) from rfl)).trans wq_if
theorem u81_24 : wp r 81 24 ls (vI z :: vA q :: st) x Q ↔ sbk 8 (hK x q) ∧ wp r 81 27 ls st (stI x q 2 z) Q := (wp_u (show cd 81 24 = some (.putfield 33, 3, 8, 2, 0, 0) from rfl)).trans g_putI0
theorem u81_27 : wp r 81 27 [vR o, a1] st x Q ↔ wp r 81 28 [vR o, a1] (vR o :: st) x Q := (wp_u (show cd 81 27 = some (.aload_n 0, 1, 0, 0, 0, 0) from rfl))
theorem u81_28 : wp r 81 28 ls (vA q :: st) x Q ↔ sbk 8 (hK x q) ∧ wp r 81 31 ls (vR (hR x q 1) :: st) x Q := (wp_u (show cd 81 28 = some (.getfield 30, 3, 8, 1, 5, 0) from rfl)).trans g_getR
theorem u81_31n : wp r 81 31 ls (vN :: st) x Q ↔ wp r 81 34 ls (vI 0 :: st) x Q := (wp_u (show cd 81 31 = some (.instanceof 25, 3, 6, 0, 0, 0) from rfl))
theorem u81_31 : wp r 81 31 ls (vA q :: st) x Q ↔ i56 (hK x q) ∧ wp r 81 34 ls (vI (ink 6 (hK x q)) :: st) x Q := (wp_u (show cd 81 31 = some (.instanceof 25, 3, 6, 0, 0, 0) from rfl)).trans g_inst
theorem u81_34 : wp r 81 34 ls (vI z :: st) x Q ↔ if z = 0 then wp r 81 89 ls st x Q else wp r 81 37 ls st x Q := (wp_u (show cd 81 34 = some (.ifCond .eq 55, 3, 89, 0, 0, 0) from rfl)).trans wq_d
theorem u81_37 : wp r 81 37 [vR o, a1] st x Q ↔ wp r 81 38 [vR o, a1] (vR o :: st) x Q := (wp_u (show cd 81 37 = some (.aload_n 0, 1, 0, 0, 0, 0) from rfl))
theorem u81_38 : wp r 81 38 ls (vA q :: st) x Q ↔ sbk 8 (hK x q) ∧ wp r 81 41 ls (vR (hR x q 1) :: st) x Q := (wp_u (show cd 81 38 = some (.getfield 30, 3, 8, 1, 5, 0) from rfl)).trans g_getR
theorem u81_41 : wp r 81 41 ls (vA q :: st) x Q ↔ isk 6 (hK x q) ∧ wp r 81 44 ls (vA q :: st) x Q := (wp_u (show cd 81 41 = some (.checkcast 25, 3, 6, 0, 0, 0) from rfl)).trans g_cast
theorem u81_44 : wp r 81 44 [a0, a1] (vR o :: st) x Q ↔ wp r 81 45 [a0, vR o] st x Q := (wp_u (show cd 81 44 = some (.astore_n 1, 1, 0, 0, 0, 0) from rfl))
theorem u81_45 : wp r 81 45 [vR o, a1] st x Q ↔ wp r 81 46 [vR o, a1] (vR o :: st) x Q := (wp_u (show cd 81 45 = some (.aload_n 0, 1, 0, 0, 0, 0) from rfl))
theorem u81_46 : wp r 81 46 ls (vA q :: st) x Q ↔ sbk 8 (hK x q) ∧ wp r 81 49 ls (vR (hR x q 3) :: st) x Q := (wp_u (show cd 81 46 = some (.getfield 9, 3, 8, 3, 5, 0) from rfl)).trans g_getR
theorem u81_49 : wp r 81 49 [vR o, a1] st x Q ↔ wp r 81 50 [vR o, a1] (vR o :: st) x Q := (wp_u (show cd 81 49 = some (.aload_n 0, 1, 0, 0, 0, 0) from rfl))
theorem u81_50 : wp r 81 50 ls (vA q :: st) x Q ↔ sbk 8 (hK x q) ∧ wp r 81 53 ls (vI (hI x q 4) :: st) x Q := (wp_u (show cd 81 50 = some (.getfield 37, 3, 8, 4, 0, 0) from rfl)).trans g_getI
theorem u81_53 : wp r 81 53 [vR o, a1] st x Q ↔ wp r 81 54 [vR o, a1] (vR o :: st) x Q := (wp_u (show cd 81 53 = some (.aload_n 0, 1, 0, 0, 0, 0) from rfl))
theorem u81_54 : wp r 81 54 ls (vA q :: st) x Q ↔ sbk 8 (hK x q) ∧ wp r 81 57 ls (vI (hI x q 2) :: st) x Q := (wp_u (show cd 81 54 = some (.getfield 33, 3, 8, 2, 0, 0) from rfl)).trans g_getI
theorem u81_57 : wp r 81 57 ls (vI z :: vI i :: vA q :: st) x Q ↔ ldk 20 (hK x q) i ∧ 4 ≤ q ∧ wp r 81 58 ls st (stI x q i z) Q := (wp_u (show cd 81 57 = some (.iastore, 1, 0, 0, 0, 0) from rfl)).trans g_stI0
theorem u81_58 : wp r 81 58 [vR o, a1] st x Q ↔ wp r 81 59 [vR o, a1] (vR o :: st) x Q := (wp_u (show cd 81 58 = some (.aload_n 0, 1, 0, 0, 0, 0) from rfl))
theorem u81_59i : wp r 81 59 ls (vI z :: st) x Q ↔ wp r 81 60 ls (vI z :: vI z :: st) x Q := (wp_u (show cd 81 59 = some (.dup, 1, 0, 0, 0, 0) from rfl))
theorem u81_59 : wp r 81 59 ls (vR o :: st) x Q ↔ wp r 81 60 ls (vR o :: vR o :: st) x Q := (wp_u (show cd 81 59 = some (.dup, 1, 0, 0, 0, 0) from rfl))
theorem u81_60 : wp r 81 60 ls (vA q :: st) x Q ↔ sbk 8 (hK x q) ∧ wp r 81 63 ls (vI (hI x q 4) :: st) x Q := (wp_u (show cd 81 60 = some (.getfield 37, 3, 8, 4, 0, 0) from rfl)).trans g_getI
theorem u81_63 : wp r 81 63 ls st x Q ↔ wp r 81 64 ls (vI 1 :: st) x Q := (wp_u (show cd 81 63 = some (.iconst 1, 1, 0, 0, 0, 0) from rfl))
theorem u81_64 : wp r 81 64 ls (vI w :: vI z :: st) x Q ↔ inI (z + w) = true ∧ wp r 81 65 ls (vI (z + w) :: st) x Q := (wp_u (show cd 81 64 = some (.iadd, 1, 0, 0, 0, 0) from rfl)).trans wq_if
theorem u81_65 : wp r 81 65 ls (vI z :: vA q :: st) x Q ↔ sbk 8 (hK x q) ∧ wp r 81 68 ls st (stI x q 4 z) Q := (wp_u (show cd 81 65 = some (.putfield 37, 3, 8, 4, 0, 0) from rfl)).trans g_putI0
theorem u81_68 : wp r 81 68 [vR o, a1] st x Q ↔ wp r 81 69 [vR o, a1] (vR o :: st) x Q := (wp_u (show cd 81 68 = some (.aload_n 0, 1, 0, 0, 0, 0) from rfl))
theorem u81_69 : wp r 81 69 [a0, vR o] st x Q ↔ wp r 81 70 [a0, vR o] (vR o :: st) x Q := (wp_u (show cd 81 69 = some (.aload_n 1, 1, 0, 0, 0, 0) from rfl))
theorem u81_70 : wp r 81 70 ls (vR o :: vA q :: st) x Q ↔ sbk 8 (hK x q) ∧ wp r 81 73 ls st (stR x q 0 o) Q := (wp_u (show cd 81 70 = some (.putfield 21, 3, 8, 0, 5, 0) from rfl)).trans g_putR
theorem u81_73 : wp r 81 73 [vR o, a1] st x Q ↔ wp r 81 74 [vR o, a1] (vR o :: st) x Q := (wp_u (show cd 81 73 = some (.aload_n 0, 1, 0, 0, 0, 0) from rfl))
theorem u81_74 : wp r 81 74 [a0, vR o] st x Q ↔ wp r 81 75 [a0, vR o] (vR o :: st) x Q := (wp_u (show cd 81 74 = some (.aload_n 1, 1, 0, 0, 0, 0) from rfl))
theorem u81_75 : wp r 81 75 ls (vA q :: st) x Q ↔ sbk 6 (hK x q) ∧ wp r 81 78 ls (vR (hR x q 4) :: st) x Q := (wp_u (show cd 81 75 = some (.getfield 24, 3, 6, 4, 5, 0) from rfl)).trans g_getR
theorem u81_78 : wp r 81 78 ls (vA q :: st) x Q ↔ sbk 4 (hK x q) ∧ wp r 81 81 ls (vR (hR x q 0) :: st) x Q := (wp_u (show cd 81 78 = some (.getfield 60, 3, 4, 0, 5, 0) from rfl)).trans g_getR
theorem u81_81 : wp r 81 81 ls (vR o :: vA q :: st) x Q ↔ sbk 8 (hK x q) ∧ wp r 81 84 ls st (stR x q 1 o) Q := (wp_u (show cd 81 81 = some (.putfield 30, 3, 8, 1, 5, 0) from rfl)).trans g_putR
theorem u81_84 : wp r 81 84 [vR o, a1] st x Q ↔ wp r 81 85 [vR o, a1] (vR o :: st) x Q := (wp_u (show cd 81 84 = some (.aload_n 0, 1, 0, 0, 0, 0) from rfl))
theorem u81_85 : wp r 81 85 ls st x Q ↔ wp r 81 86 ls (vI 0 :: st) x Q := (wp_u (show cd 81 85 = some (.iconst 0, 1, 0, 0, 0, 0) from rfl))
theorem u81_86 : wp r 81 86 ls (vI z :: vA q :: st) x Q ↔ sbk 8 (hK x q) ∧ wp r 81 89 ls st (stI x q 2 z) Q := (wp_u (show cd 81 86 = some (.putfield 33, 3, 8, 2, 0, 0) from rfl)).trans g_putI0
theorem u81_89 : wp r 81 89 ls st x Q ↔ wp r 81 90 ls (vI 0 :: st) x Q := (wp_u (show cd 81 89 = some (.iconst 0, 1, 0, 0, 0, 0) from rfl))
theorem u81_90 : wp r 81 90 ls [vI z] x Q ↔ Q (.inl (some (vI z))) x := (wp_u (show cd 81 90 = some (.ireturn, 1, 0, 0, 0, 0) from rfl))
theorem e81 : wpc r 81 [vA q] x Q ↔ wp r 81 0 [vA q, vL jk] [] x Q := Iff.rfl
/-! 82 Ic_newElement -/
theorem u82_0 : wp r 82 0 [vR o, a1] st x Q ↔ wp r 82 1 [vR o, a1] (vR o :: st) x Q := (wp_u (show cd 82 0 = some (.aload_n 0, 1, 0, 0, 0, 0) from rfl))
theorem u82_1 : wp r 82 1 ls (vA q :: st) x Q ↔ sbk 2 (hK x q) ∧ wp r 82 4 ls (vR (hR x q 4) :: st) x Q := (wp_u (show cd 82 1 = some (.getfield 21, 3, 2, 4, 5, 0) from rfl)).trans g_getR
theorem u82_4 : wp r 82 4 [vR o, a1] st x Q ↔ wp r 82 5 [vR o, a1] (vR o :: st) x Q := (wp_u (show cd 82 4 = some (.aload_n 0, 1, 0, 0, 0, 0) from rfl))
theorem u82_5 : wp r 82 5 ls (vA q :: st) x Q ↔ sbk 2 (hK x q) ∧ wp r 82 8 ls (vI (hI x q 6) :: st) x Q := (wp_u (show cd 82 5 = some (.getfield 76, 3, 2, 6, 0, 0) from rfl)).trans g_getI
theorem u82_8 : wp r 82 8 [vR o, a1] st x Q ↔ wp r 82 9 [vR o, a1] (vR o :: st) x Q := (wp_u (show cd 82 8 = some (.aload_n 0, 1, 0, 0, 0, 0) from rfl))
theorem u82_9 : wp r 82 9 ls (vA q :: st) x Q ↔ sbk 2 (hK x q) ∧ wp r 82 12 ls (vI (hI x q 9) :: st) x Q := (wp_u (show cd 82 9 = some (.getfield 79, 3, 2, 9, 0, 0) from rfl)).trans g_getI
theorem u82_12 : wp r 82 12 ls (vI z :: st) x Q ↔ wp r 82 13 ls (vI (iI2s z) :: st) x Q := (wp_u (show cd 82 12 = some (.i2s, 1, 0, 0, 0, 0) from rfl)).trans (wq_if.trans (and_iff_right (inI_32 _)))
theorem u82_13 : wp r 82 13 ls (vI z :: vI i :: vA q :: st) x Q ↔ ldk 22 (hK x q) i ∧ 4 ≤ q ∧ rg 2 z = true ∧ wp r 82 14 ls st (stI x q i z) Q := (wp_u (show cd 82 13 = some (.sastore, 1, 0, 0, 0, 0) from rfl)).trans g_stI
theorem u82_14 : wp r 82 14 [vR o, a1] st x Q ↔ wp r 82 15 [vR o, a1] (vR o :: st) x Q := (wp_u (show cd 82 14 = some (.aload_n 0, 1, 0, 0, 0, 0) from rfl))
theorem u82_15 : wp r 82 15 ls (vA q :: st) x Q ↔ sbk 2 (hK x q) ∧ wp r 82 18 ls (vR (hR x q 5) :: st) x Q := (wp_u (show cd 82 15 = some (.getfield 25, 3, 2, 5, 5, 0) from rfl)).trans g_getR
theorem u82_18 : wp r 82 18 [vR o, a1] st x Q ↔ wp r 82 19 [vR o, a1] (vR o :: st) x Q := (wp_u (show cd 82 18 = some (.aload_n 0, 1, 0, 0, 0, 0) from rfl))
theorem u82_19 : wp r 82 19 ls (vA q :: st) x Q ↔ sbk 2 (hK x q) ∧ wp r 82 22 ls (vI (hI x q 6) :: st) x Q := (wp_u (show cd 82 19 = some (.getfield 76, 3, 2, 6, 0, 0) from rfl)).trans g_getI
theorem u82_22 : wp r 82 22 ls st x Q ↔ wp r 82 23 ls (vI 0 :: st) x Q := (wp_u (show cd 82 22 = some (.iconst 0, 1, 0, 0, 0, 0) from rfl))
theorem u82_23 : wp r 82 23 ls (vI z :: vI i :: vA q :: st) x Q ↔ ldk 22 (hK x q) i ∧ 4 ≤ q ∧ rg 2 z = true ∧ wp r 82 24 ls st (stI x q i z) Q := (wp_u (show cd 82 23 = some (.sastore, 1, 0, 0, 0, 0) from rfl)).trans g_stI
theorem u82_24 : wp r 82 24 [vR o, a1] st x Q ↔ wp r 82 25 [vR o, a1] (vR o :: st) x Q := (wp_u (show cd 82 24 = some (.aload_n 0, 1, 0, 0, 0, 0) from rfl))
theorem u82_25i : wp r 82 25 ls (vI z :: st) x Q ↔ wp r 82 26 ls (vI z :: vI z :: st) x Q := (wp_u (show cd 82 25 = some (.dup, 1, 0, 0, 0, 0) from rfl))
theorem u82_25 : wp r 82 25 ls (vR o :: st) x Q ↔ wp r 82 26 ls (vR o :: vR o :: st) x Q := (wp_u (show cd 82 25 = some (.dup, 1, 0, 0, 0, 0) from rfl))
theorem u82_26 : wp r 82 26 ls (vA q :: st) x Q ↔ sbk 2 (hK x q) ∧ wp r 82 29 ls (vI (hI x q 6) :: st) x Q := (wp_u (show cd 82 26 = some (.getfield 76, 3, 2, 6, 0, 0) from rfl)).trans g_getI
theorem u82_29 : wp r 82 29 ls st x Q ↔ wp r 82 30 ls (vI 1 :: st) x Q := (wp_u (show cd 82 29 = some (.iconst 1, 1, 0, 0, 0, 0) from rfl))
theorem u82_30 : wp r 82 30 ls (vI w :: vI z :: st) x Q ↔ inI (z + w) = true ∧ wp r 82 31 ls (vI (z + w) :: st) x Q := (wp_u (show cd 82 30 = some (.iadd, 1, 0, 0, 0, 0) from rfl)).trans wq_if
theorem u82_31 : wp r 82 31 ls (vI z :: vA q :: st) x Q ↔ sbk 2 (hK x q) ∧ wp r 82 34 ls st (stI x q 6 z) Q := (wp_u (show cd 82 31 = some (.putfield 76, 3, 2, 6, 0, 0) from rfl)).trans g_putI0
theorem u82_34 : wp r 82 34 [a0, vR o] st x Q ↔ wp r 82 35 [a0, vR o] (vR o :: st) x Q := (wp_u (show cd 82 34 = some (.aload_n 1, 1, 0, 0, 0, 0) from rfl))
theorem u82_35i : wp r 82 35 ls (vI z :: st) x Q ↔ wp r 82 36 ls (vI z :: vI z :: st) x Q := (wp_u (show cd 82 35 = some (.dup, 1, 0, 0, 0, 0) from rfl))
theorem u82_35 : wp r 82 35 ls (vR o :: st) x Q ↔ wp r 82 36 ls (vR o :: vR o :: st) x Q := (wp_u (show cd 82 35 = some (.dup, 1, 0, 0, 0, 0) from rfl))
theorem u82_36 : wp r 82 36 ls (vA q :: st) x Q ↔ sbk 3 (hK x q) ∧ wp r 82 39 ls (vI (hI x q 2) :: st) x Q := (wp_u (show cd 82 36 = some (.getfield 97, 3, 3, 2, 0, 0) from rfl)).trans g_getI
theorem u82_39 : wp r 82 39 ls st x Q ↔ wp r 82 40 ls (vI 1 :: st) x Q := (wp_u (show cd 82 39 = some (.iconst 1, 1, 0, 0, 0, 0) from rfl))
theorem u82_40 : wp r 82 40 ls (vI w :: vI z :: st) x Q ↔ inI (z + w) = true ∧ wp r 82 41 ls (vI (z + w) :: st) x Q := (wp_u (show cd 82 40 = some (.iadd, 1, 0, 0, 0, 0) from rfl)).trans wq_if
theorem u82_41 : wp r 82 41 ls (vI z :: vA q :: st) x Q ↔ sbk 3 (hK x q) ∧ wp r 82 44 ls st (stI x q 2 z) Q := (wp_u (show cd 82 41 = some (.putfield 97, 3, 3, 2, 0, 0) from rfl)).trans g_putI0
theorem u82_44 : wp r 82 44 ls [] x Q ↔ Q (.inl none) x := (wp_u (show cd 82 44 = some (.return_, 1, 0, 0, 0, 0) from rfl))
theorem e82 : wpc r 82 [vA q, vR o0] x Q ↔ wp r 82 0 [vA q, vR o0] [] x Q := Iff.rfl
/-! 83 Ic_newComponent -/
theorem u83_0 : wp r 83 0 [vR o] st x Q ↔ wp r 83 1 [vR o] (vR o :: st) x Q := (wp_u (show cd 83 0 = some (.aload_n 0, 1, 0, 0, 0, 0) from rfl))
theorem u83_1 : wp r 83 1 ls (vA q :: st) x Q ↔ sbk 2 (hK x q) ∧ wp r 83 4 ls (vR (hR x q 7) :: st) x Q := (wp_u (show cd 83 1 = some (.getfield 28, 3, 2, 7, 5, 0) from rfl)).trans g_getR
theorem u83_4 : wp r 83 4 [vR o] st x Q ↔ wp r 83 5 [vR o] (vR o :: st) x Q := (wp_u (show cd 83 4 = some (.aload_n 0, 1, 0, 0, 0, 0) from rfl))
theorem u83_5 : wp r 83 5 ls (vA q :: st) x Q ↔ sbk 2 (hK x q) ∧ wp r 83 8 ls (vI (hI x q 9) :: st) x Q := (wp_u (show cd 83 5 = some (.getfield 79, 3, 2, 9, 0, 0) from rfl)).trans g_getI
theorem u83_8 : wp r 83 8 [vR o] st x Q ↔ wp r 83 9 [vR o] (vR o :: st) x Q := (wp_u (show cd 83 8 = some (.aload_n 0, 1, 0, 0, 0, 0) from rfl))
theorem u83_9 : wp r 83 9 ls (vA q :: st) x Q ↔ sbk 2 (hK x q) ∧ wp r 83 12 ls (vI (hI x q 1) :: st) x Q := (wp_u (show cd 83 9 = some (.getfield 69, 3, 2, 1, 0, 0) from rfl)).trans g_getI
theorem u83_12 : wp r 83 12 ls (vI z :: st) x Q ↔ wp r 83 13 ls (vI (iI2s z) :: st) x Q := (wp_u (show cd 83 12 = some (.i2s, 1, 0, 0, 0, 0) from rfl)).trans (wq_if.trans (and_iff_right (inI_32 _)))
theorem u83_13 : wp r 83 13 ls (vI z :: vI i :: vA q :: st) x Q ↔ ldk 22 (hK x q) i ∧ 4 ≤ q ∧ rg 2 z = true ∧ wp r 83 14 ls st (stI x q i z) Q := (wp_u (show cd 83 13 = some (.sastore, 1, 0, 0, 0, 0) from rfl)).trans g_stI
theorem u83_14 : wp r 83 14 [vR o] st x Q ↔ wp r 83 15 [vR o] (vR o :: st) x Q := (wp_u (show cd 83 14 = some (.aload_n 0, 1, 0, 0, 0, 0) from rfl))
theorem u83_15 : wp r 83 15 ls (vA q :: st) x Q ↔ sbk 2 (hK x q) ∧ wp r 83 18 ls (vR (hR x q 8) :: st) x Q := (wp_u (show cd 83 15 = some (.getfield 31, 3, 2, 8, 5, 0) from rfl)).trans g_getR
theorem u83_18 : wp r 83 18 [vR o] st x Q ↔ wp r 83 19 [vR o] (vR o :: st) x Q := (wp_u (show cd 83 18 = some (.aload_n 0, 1, 0, 0, 0, 0) from rfl))
theorem u83_19 : wp r 83 19 ls (vA q :: st) x Q ↔ sbk 2 (hK x q) ∧ wp r 83 22 ls (vI (hI x q 9) :: st) x Q := (wp_u (show cd 83 19 = some (.getfield 79, 3, 2, 9, 0, 0) from rfl)).trans g_getI
theorem u83_22 : wp r 83 22 ls st x Q ↔ wp r 83 23 ls (vI 0 :: st) x Q := (wp_u (show cd 83 22 = some (.iconst 0, 1, 0, 0, 0, 0) from rfl))
theorem u83_23 : wp r 83 23 ls (vI z :: vI i :: vA q :: st) x Q ↔ ldk 22 (hK x q) i ∧ 4 ≤ q ∧ rg 2 z = true ∧ wp r 83 24 ls st (stI x q i z) Q := (wp_u (show cd 83 23 = some (.sastore, 1, 0, 0, 0, 0) from rfl)).trans g_stI
theorem u83_24 : wp r 83 24 [vR o] st x Q ↔ wp r 83 25 [vR o] (vR o :: st) x Q := (wp_u (show cd 83 24 = some (.aload_n 0, 1, 0, 0, 0, 0) from rfl))
theorem u83_25i : wp r 83 25 ls (vI z :: st) x Q ↔ wp r 83 26 ls (vI z :: vI z :: st) x Q := (wp_u (show cd 83 25 = some (.dup, 1, 0, 0, 0, 0) from rfl))
theorem u83_25 : wp r 83 25 ls (vR o :: st) x Q ↔ wp r 83 26 ls (vR o :: vR o :: st) x Q := (wp_u (show cd 83 25 = some (.dup, 1, 0, 0, 0, 0) from rfl))
theorem u83_26 : wp r 83 26 ls (vA q :: st) x Q ↔ sbk 2 (hK x q) ∧ wp r 83 29 ls (vI (hI x q 9) :: st) x Q := (wp_u (show cd 83 26 = some (.getfield 79, 3, 2, 9, 0, 0) from rfl)).trans g_getI
theorem u83_29 : wp r 83 29 ls st x Q ↔ wp r 83 30 ls (vI 1 :: st) x Q := (wp_u (show cd 83 29 = some (.iconst 1, 1, 0, 0, 0, 0) from rfl))
theorem u83_30 : wp r 83 30 ls (vI w :: vI z :: st) x Q ↔ inI (z + w) = true ∧ wp r 83 31 ls (vI (z + w) :: st) x Q := (wp_u (show cd 83 30 = some (.iadd, 1, 0, 0, 0, 0) from rfl)).trans wq_if
theorem u83_31 : wp r 83 31 ls (vI z :: vA q :: st) x Q ↔ sbk 2 (hK x q) ∧ wp r 83 34 ls st (stI x q 9 z) Q := (wp_u (show cd 83 31 = some (.putfield 79, 3, 2, 9, 0, 0) from rfl)).trans g_putI0
theorem u83_34 : wp r 83 34 [vR o] st x Q ↔ wp r 83 35 [vR o] (vR o :: st) x Q := (wp_u (show cd 83 34 = some (.aload_n 0, 1, 0, 0, 0, 0) from rfl))
theorem u83_35 : wp r 83 35 ls (vA q :: st) x Q ↔ sbk 2 (hK x q) ∧ wp r 83 38 ls (vR (hR x q 5) :: st) x Q := (wp_u (show cd 83 35 = some (.getfield 25, 3, 2, 5, 5, 0) from rfl)).trans g_getR
theorem u83_38 : wp r 83 38 [vR o] st x Q ↔ wp r 83 39 [vR o] (vR o :: st) x Q := (wp_u (show cd 83 38 = some (.aload_n 0, 1, 0, 0, 0, 0) from rfl))
theorem u83_39 : wp r 83 39 ls (vA q :: st) x Q ↔ sbk 2 (hK x q) ∧ wp r 83 42 ls (vI (hI x q 6) :: st) x Q := (wp_u (show cd 83 39 = some (.getfield 76, 3, 2, 6, 0, 0) from rfl)).trans g_getI
theorem u83_42 : wp r 83 42 ls st x Q ↔ wp r 83 43 ls (vI 1 :: st) x Q := (wp_u (show cd 83 42 = some (.iconst 1, 1, 0, 0, 0, 0) from rfl))
theorem u83_43 : wp r 83 43 ls (vI w :: vI z :: st) x Q ↔ inI (z - w) = true ∧ wp r 83 44 ls (vI (z - w) :: st) x Q := (wp_u (show cd 83 43 = some (.isub, 1, 0, 0, 0, 0) from rfl)).trans wq_if
theorem u83_44 : wp r 83 44 ls (vI z :: vR o :: st) x Q ↔ wp r 83 45 ls (vI z :: vR o :: vI z :: vR o :: st) x Q := (wp_u (show cd 83 44 = some (.dup2, 1, 0, 0, 0, 0) from rfl))
theorem u83_45 : wp r 83 45 ls (vI i :: vA q :: st) x Q ↔ ldk 22 (hK x q) i ∧ wp r 83 46 ls (vI (hI x q i) :: st) x Q := (wp_u (show cd 83 45 = some (.saload, 1, 0, 0, 0, 0) from rfl)).trans g_ldI
theorem u83_46 : wp r 83 46 ls st x Q ↔ wp r 83 47 ls (vI 1 :: st) x Q := (wp_u (show cd 83 46 = some (.iconst 1, 1, 0, 0, 0, 0) from rfl))
theorem u83_47 : wp r 83 47 ls (vI w :: vI z :: st) x Q ↔ inI (z + w) = true ∧ wp r 83 48 ls (vI (z + w) :: st) x Q := (wp_u (show cd 83 47 = some (.iadd, 1, 0, 0, 0, 0) from rfl)).trans wq_if
theorem u83_48 : wp r 83 48 ls (vI z :: st) x Q ↔ wp r 83 49 ls (vI (iI2s z) :: st) x Q := (wp_u (show cd 83 48 = some (.i2s, 1, 0, 0, 0, 0) from rfl)).trans (wq_if.trans (and_iff_right (inI_32 _)))
theorem u83_49 : wp r 83 49 ls (vI z :: vI i :: vA q :: st) x Q ↔ ldk 22 (hK x q) i ∧ 4 ≤ q ∧ rg 2 z = true ∧ wp r 83 50 ls st (stI x q i z) Q := (wp_u (show cd 83 49 = some (.sastore, 1, 0, 0, 0, 0) from rfl)).trans g_stI
theorem u83_50 : wp r 83 50 ls [] x Q ↔ Q (.inl none) x := (wp_u (show cd 83 50 = some (.return_, 1, 0, 0, 0, 0) from rfl))
theorem e83 : wpc r 83 [vA q] x Q ↔ wp r 83 0 [vA q] [] x Q := Iff.rfl
/-! 84 Ic_add -/
theorem u84_0 : wp r 84 0 [vR o, a1] st x Q ↔ wp r 84 1 [vR o, a1] (vR o :: st) x Q := (wp_u (show cd 84 0 = some (.aload_n 0, 1, 0, 0, 0, 0) from rfl))
theorem u84_1 : wp r 84 1 ls (vA q :: st) x Q ↔ sbk 2 (hK x q) ∧ wp r 84 4 ls (vR (hR x q 0) :: st) x Q := (wp_u (show cd 84 1 = some (.getfield 9, 3, 2, 0, 5, 0) from rfl)).trans g_getR
theorem u84_4 : wp r 84 4 [vR o, a1] st x Q ↔ wp r 84 5 [vR o, a1] (vR o :: st) x Q := (wp_u (show cd 84 4 = some (.aload_n 0, 1, 0, 0, 0, 0) from rfl))
theorem u84_5 : wp r 84 5 ls (vA q :: st) x Q ↔ sbk 2 (hK x q) ∧ wp r 84 8 ls (vI (hI x q 1) :: st) x Q := (wp_u (show cd 84 5 = some (.getfield 69, 3, 2, 1, 0, 0) from rfl)).trans g_getI
theorem u84_8 : wp r 84 8 [a0, vI z] st x Q ↔ wp r 84 9 [a0, vI z] (vI z :: st) x Q := (wp_u (show cd 84 8 = some (.iload_n 1, 1, 0, 0, 0, 0) from rfl))
theorem u84_9 : wp r 84 9 ls (vI z :: vI i :: vA q :: st) x Q ↔ ldk 21 (hK x q) i ∧ 4 ≤ q ∧ rg 1 z = true ∧ wp r 84 10 ls st (stI x q i z) Q := (wp_u (show cd 84 9 = some (.castore, 1, 0, 0, 0, 0) from rfl)).trans g_stI
theorem u84_10 : wp r 84 10 [vR o, a1] st x Q ↔ wp r 84 11 [vR o, a1] (vR o :: st) x Q := (wp_u (show cd 84 10 = some (.aload_n 0, 1, 0, 0, 0, 0) from rfl))
theorem u84_11i : wp r 84 11 ls (vI z :: st) x Q ↔ wp r 84 12 ls (vI z :: vI z :: st) x Q := (wp_u (show cd 84 11 = some (.dup, 1, 0, 0, 0, 0) from rfl))
theorem u84_11 : wp r 84 11 ls (vR o :: st) x Q ↔ wp r 84 12 ls (vR o :: vR o :: st) x Q := (wp_u (show cd 84 11 = some (.dup, 1, 0, 0, 0, 0) from rfl))
theorem u84_12 : wp r 84 12 ls (vA q :: st) x Q ↔ sbk 2 (hK x q) ∧ wp r 84 15 ls (vI (hI x q 1) :: st) x Q := (wp_u (show cd 84 12 = some (.getfield 69, 3, 2, 1, 0, 0) from rfl)).trans g_getI
theorem u84_15 : wp r 84 15 ls st x Q ↔ wp r 84 16 ls (vI 1 :: st) x Q := (wp_u (show cd 84 15 = some (.iconst 1, 1, 0, 0, 0, 0) from rfl))
theorem u84_16 : wp r 84 16 ls (vI w :: vI z :: st) x Q ↔ inI (z + w) = true ∧ wp r 84 17 ls (vI (z + w) :: st) x Q := (wp_u (show cd 84 16 = some (.iadd, 1, 0, 0, 0, 0) from rfl)).trans wq_if
theorem u84_17 : wp r 84 17 ls (vI z :: vA q :: st) x Q ↔ sbk 2 (hK x q) ∧ wp r 84 20 ls st (stI x q 1 z) Q := (wp_u (show cd 84 17 = some (.putfield 69, 3, 2, 1, 0, 0) from rfl)).trans g_putI0
theorem u84_20 : wp r 84 20 [vR o, a1] st x Q ↔ wp r 84 21 [vR o, a1] (vR o :: st) x Q := (wp_u (show cd 84 20 = some (.aload_n 0, 1, 0, 0, 0, 0) from rfl))
theorem u84_21 : wp r 84 21 ls (vA q :: st) x Q ↔ sbk 2 (hK x q) ∧ wp r 84 24 ls (vR (hR x q 8) :: st) x Q := (wp_u (show cd 84 21 = some (.getfield 31, 3, 2, 8, 5, 0) from rfl)).trans g_getR
theorem u84_24 : wp r 84 24 [vR o, a1] st x Q ↔ wp r 84 25 [vR o, a1] (vR o :: st) x Q := (wp_u (show cd 84 24 = some (.aload_n 0, 1, 0, 0, 0, 0) from rfl))
theorem u84_25 : wp r 84 25 ls (vA q :: st) x Q ↔ sbk 2 (hK x q) ∧ wp r 84 28 ls (vI (hI x q 9) :: st) x Q := (wp_u (show cd 84 25 = some (.getfield 79, 3, 2, 9, 0, 0) from rfl)).trans g_getI
theorem u84_28 : wp r 84 28 ls st x Q ↔ wp r 84 29 ls (vI 1 :: st) x Q := (wp_u (show cd 84 28 = some (.iconst 1, 1, 0, 0, 0, 0) from rfl))
theorem u84_29 : wp r 84 29 ls (vI w :: vI z :: st) x Q ↔ inI (z - w) = true ∧ wp r 84 30 ls (vI (z - w) :: st) x Q := (wp_u (show cd 84 29 = some (.isub, 1, 0, 0, 0, 0) from rfl)).trans wq_if
theorem u84_30 : wp r 84 30 ls (vI z :: vR o :: st) x Q ↔ wp r 84 31 ls (vI z :: vR o :: vI z :: vR o :: st) x Q := (wp_u (show cd 84 30 = some (.dup2, 1, 0, 0, 0, 0) from rfl))
theorem u84_31 : wp r 84 31 ls (vI i :: vA q :: st) x Q ↔ ldk 22 (hK x q) i ∧ wp r 84 32 ls (vI (hI x q i) :: st) x Q := (wp_u (show cd 84 31 = some (.saload, 1, 0, 0, 0, 0) from rfl)).trans g_ldI
theorem u84_32 : wp r 84 32 ls st x Q ↔ wp r 84 33 ls (vI 1 :: st) x Q := (wp_u (show cd 84 32 = some (.iconst 1, 1, 0, 0, 0, 0) from rfl))
theorem u84_33 : wp r 84 33 ls (vI w :: vI z :: st) x Q ↔ inI (z + w) = true ∧ wp r 84 34 ls (vI (z + w) :: st) x Q := (wp_u (show cd 84 33 = some (.iadd, 1, 0, 0, 0, 0) from rfl)).trans wq_if
theorem u84_34 : wp r 84 34 ls (vI z :: st) x Q ↔ wp r 84 35 ls (vI (iI2s z) :: st) x Q := (wp_u (show cd 84 34 = some (.i2s, 1, 0, 0, 0, 0) from rfl)).trans (wq_if.trans (and_iff_right (inI_32 _)))
theorem u84_35 : wp r 84 35 ls (vI z :: vI i :: vA q :: st) x Q ↔ ldk 22 (hK x q) i ∧ 4 ≤ q ∧ rg 2 z = true ∧ wp r 84 36 ls st (stI x q i z) Q := (wp_u (show cd 84 35 = some (.sastore, 1, 0, 0, 0, 0) from rfl)).trans g_stI
theorem u84_36 : wp r 84 36 ls [] x Q ↔ Q (.inl none) x := (wp_u (show cd 84 36 = some (.return_, 1, 0, 0, 0, 0) from rfl))
theorem e84 : wpc r 84 [vA q, vI z0] x Q ↔ wp r 84 0 [vA q, vI z0] [] x Q := Iff.rfl
end
