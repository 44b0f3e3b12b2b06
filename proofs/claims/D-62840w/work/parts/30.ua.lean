/-! rules of instructions, printed by gen/gen05.py -/
section
variable {r q p d s : Nat} {a0 a1 a2 a3 a4 a5 a6 a7 a8 b0 b1 b2 b3 b4 b5 b6 : AV} {ls st : List AV} {x : HP} {Q : AO → HP → Prop} {z w i n sp dp z0 z1 z2 z3 z4 z5 : Int} {o o0 o1 o2 o3 o4 o5 : Option Nat}
/-! 0 L_law -/
set_option maxRecDepth 20000 in
theorem u0_0 : wp r 0 0 ls st x Q ↔ nok x 9 ∧ wp r 0 3 ls (vA (hN x) :: st) (nwO x 0 9) Q := (wp_u (show cd 0 0 = some (.new 8, 3, 0, 9, 0, 0) from rfl)).trans g_new
set_option maxRecDepth 20000 in
theorem u0_3i : wp r 0 3 ls (vI z :: st) x Q ↔ wp r 0 4 ls (vI z :: vI z :: st) x Q := (wp_u (show cd 0 3 = some (.dup, 1, 0, 0, 0, 0) from rfl))
set_option maxRecDepth 20000 in
theorem u0_3 : wp r 0 3 ls (vR o :: st) x Q ↔ wp r 0 4 ls (vR o :: vR o :: st) x Q := (wp_u (show cd 0 3 = some (.dup, 1, 0, 0, 0, 0) from rfl))
set_option maxRecDepth 20000 in
theorem u0_4 : wp r 0 4 ls (vA q :: st) x Q ↔ nnk (hK x q) ∧ sml st = true ∧ 4 < r ∧ wpc 4 13 [vA q] x (wk r 0 4 ls st Q) := (wp_u (show cd 0 4 = some (.invokespecial 55, 3, 13, 1, 4, 0) from rfl)).trans (g_special rfl (by decide) (by simp) rfl)
set_option maxRecDepth 20000 in
theorem u0_7 : wp r 0 7 [a0, a1, a2, a3, a4, a5, a6] (vR o :: st) x Q ↔ wp r 0 8 [a0, vR o, a2, a3, a4, a5, a6] st x Q := (wp_u (show cd 0 7 = some (.astore_n 1, 1, 0, 0, 0, 0) from rfl))
set_option maxRecDepth 20000 in
theorem u0_8 : wp r 0 8 ls st x Q ↔ nok x 53 ∧ wp r 0 11 ls (vA (hN x) :: st) (nwO x 9 53) Q := (wp_u (show cd 0 8 = some (.new 56, 3, 9, 53, 0, 0) from rfl)).trans g_new
set_option maxRecDepth 20000 in
theorem u0_11i : wp r 0 11 ls (vI z :: st) x Q ↔ wp r 0 12 ls (vI z :: vI z :: st) x Q := (wp_u (show cd 0 11 = some (.dup, 1, 0, 0, 0, 0) from rfl))
set_option maxRecDepth 20000 in
theorem u0_11 : wp r 0 11 ls (vR o :: st) x Q ↔ wp r 0 12 ls (vR o :: vR o :: st) x Q := (wp_u (show cd 0 11 = some (.dup, 1, 0, 0, 0, 0) from rfl))
set_option maxRecDepth 20000 in
theorem u0_12 : wp r 0 12 ls (vA q :: st) x Q ↔ nnk (hK x q) ∧ sml st = true ∧ 1 < r ∧ wpc 1 85 [vA q] x (wk r 0 12 ls st Q) := (wp_u (show cd 0 12 = some (.invokespecial 58, 3, 85, 1, 1, 0) from rfl)).trans (g_special rfl (by decide) (by simp) rfl)
set_option maxRecDepth 20000 in
theorem u0_15 : wp r 0 15 [a0, a1, a2, a3, a4, a5, a6] (vR o :: st) x Q ↔ wp r 0 16 [a0, a1, vR o, a3, a4, a5, a6] st x Q := (wp_u (show cd 0 15 = some (.astore_n 2, 1, 0, 0, 0, 0) from rfl))
set_option maxRecDepth 20000 in
theorem u0_16 : wp r 0 16 ls st x Q ↔ wp r 0 17 ls (vI 1 :: st) x Q := (wp_u (show cd 0 16 = some (.iconst 1, 1, 0, 0, 0, 0) from rfl))
set_option maxRecDepth 20000 in
theorem u0_17 : wp r 0 17 ls (vI z :: st) x Q ↔ (0 ≤ z ∧ z ≤ 100000) ∧ nok x z.toNat ∧ wp r 0 19 ls (vA (hN x) :: st) (nwO x 25 z.toNat) Q := (wp_u (show cd 0 17 = some (.newarray .long, 2, 25, 0, 0, 0) from rfl)).trans g_newA
set_option maxRecDepth 20000 in
theorem u0_19 : wp r 0 19 [a0, a1, a2, a3, a4, a5, a6] (vR o :: st) x Q ↔ wp r 0 20 [a0, a1, a2, vR o, a4, a5, a6] st x Q := (wp_u (show cd 0 19 = some (.astore_n 3, 1, 0, 0, 0, 0) from rfl))
set_option maxRecDepth 20000 in
theorem u0_20 : wp r 0 20 ls st x Q ↔ wp r 0 21 ls (vI 0 :: st) x Q := (wp_u (show cd 0 20 = some (.iconst 0, 1, 0, 0, 0, 0) from rfl))
set_option maxRecDepth 20000 in
theorem u0_21 : wp r 0 21 [a0, a1, a2, a3, a4, a5, a6] (vI z :: st) x Q ↔ wp r 0 23 [a0, a1, a2, a3, vI z, a5, a6] st x Q := (wp_u (show cd 0 21 = some (.istore 4, 2, 0, 0, 0, 0) from rfl))
set_option maxRecDepth 20000 in
theorem u0_23 : wp r 0 23 [a0, a1, a2, a3, vI z, a5, a6] st x Q ↔ wp r 0 25 [a0, a1, a2, a3, vI z, a5, a6] (vI z :: st) x Q := (wp_u (show cd 0 23 = some (.iload 4, 2, 0, 0, 0, 0) from rfl))
set_option maxRecDepth 20000 in
theorem u0_25 : wp r 0 25 [vR o, a1, a2, a3, a4, a5, a6] st x Q ↔ wp r 0 26 [vR o, a1, a2, a3, a4, a5, a6] (vR o :: st) x Q := (wp_u (show cd 0 25 = some (.aload_n 0, 1, 0, 0, 0, 0) from rfl))
set_option maxRecDepth 20000 in
theorem u0_26 : wp r 0 26 ls (vA q :: st) x Q ↔ ark (hK x q) ∧ wp r 0 27 ls (vI (lnk (hK x q)) :: st) x Q := (wp_u (show cd 0 26 = some (.arraylength, 1, 0, 0, 0, 0) from rfl)).trans g_len
set_option maxRecDepth 20000 in
theorem u0_27 : wp r 0 27 ls st x Q ↔ wp r 0 28 ls (vI 5 :: st) x Q := (wp_u (show cd 0 27 = some (.iconst 5, 1, 0, 0, 0, 0) from rfl))
set_option maxRecDepth 20000 in
theorem u0_28 : wp r 0 28 ls (vI w :: vI z :: st) x Q ↔ inI (z - w) = true ∧ wp r 0 29 ls (vI (z - w) :: st) x Q := (wp_u (show cd 0 28 = some (.isub, 1, 0, 0, 0, 0) from rfl)).trans wq_if
set_option maxRecDepth 20000 in
theorem u0_29 : wp r 0 29 ls (vI w :: vI z :: st) x Q ↔ if w < z then wp r 0 970 ls st x Q else wp r 0 32 ls st x Q := (wp_u (show cd 0 29 = some (.if_icmp .gt 941, 3, 970, 0, 0, 0) from rfl)).trans wq_d
set_option maxRecDepth 20000 in
theorem u0_32 : wp r 0 32 [vR o, a1, a2, a3, a4, a5, a6] st x Q ↔ wp r 0 33 [vR o, a1, a2, a3, a4, a5, a6] (vR o :: st) x Q := (wp_u (show cd 0 32 = some (.aload_n 0, 1, 0, 0, 0, 0) from rfl))
set_option maxRecDepth 20000 in
theorem u0_33 : wp r 0 33 [a0, a1, a2, a3, vI z, a5, a6] st x Q ↔ wp r 0 35 [a0, a1, a2, a3, vI z, a5, a6] (vI z :: st) x Q := (wp_u (show cd 0 33 = some (.iload 4, 2, 0, 0, 0, 0) from rfl))
set_option maxRecDepth 20000 in
theorem u0_35 : wp r 0 35 ls (vI i :: vA q :: st) x Q ↔ ldk 20 (hK x q) i ∧ wp r 0 36 ls (vI (hI x q i) :: st) x Q := (wp_u (show cd 0 35 = some (.iaload, 1, 0, 0, 0, 0) from rfl)).trans g_ldI
set_option maxRecDepth 20000 in
theorem u0_36 : wp r 0 36 ls st x Q ↔ wp r 0 38 ls (vI 15 :: st) x Q := (wp_u (show cd 0 36 = some (.bipush 15, 2, 0, 0, 0, 0) from rfl))
set_option maxRecDepth 20000 in
theorem u0_38 : wp r 0 38 ls (vI w :: vI z :: st) x Q ↔ wp r 0 39 ls (vI (iAnd z w) :: st) x Q := (wp_u (show cd 0 38 = some (.iand, 1, 0, 0, 0, 0) from rfl)).trans (wq_if.trans (and_iff_right (inI_32 _)))
set_option maxRecDepth 20000 in
theorem u0_39 : wp r 0 39 ls (vI z :: st) x Q ↔ wp r 0 (tgt 39 (tsw z 0 925 [73, 130, 141, 154, 262, 358, 421, 484, 528, 541, 597, 665, 721, 813, 869])) ls st x Q := (wp_u (show cd 0 39 = some (.tableswitch 925 0 14 #[73, 130, 141, 154, 262, 358, 421, 484, 528, 541, 597, 665, 721, 813, 869], 73, 0, 0, 0, 0) from rfl))
set_option maxRecDepth 20000 in
theorem u0_112 : wp r 0 112 [a0, vR o, a2, a3, a4, a5, a6] st x Q ↔ wp r 0 113 [a0, vR o, a2, a3, a4, a5, a6] (vR o :: st) x Q := (wp_u (show cd 0 112 = some (.aload_n 1, 1, 0, 0, 0, 0) from rfl))
set_option maxRecDepth 20000 in
theorem u0_113 : wp r 0 113 [vR o, a1, a2, a3, a4, a5, a6] st x Q ↔ wp r 0 114 [vR o, a1, a2, a3, a4, a5, a6] (vR o :: st) x Q := (wp_u (show cd 0 113 = some (.aload_n 0, 1, 0, 0, 0, 0) from rfl))
set_option maxRecDepth 20000 in
theorem u0_114 : wp r 0 114 [a0, a1, a2, a3, vI z, a5, a6] st x Q ↔ wp r 0 116 [a0, a1, a2, a3, vI z, a5, a6] (vI z :: st) x Q := (wp_u (show cd 0 114 = some (.iload 4, 2, 0, 0, 0, 0) from rfl))
set_option maxRecDepth 20000 in
theorem u0_116 : wp r 0 116 ls st x Q ↔ wp r 0 117 ls (vI 1 :: st) x Q := (wp_u (show cd 0 116 = some (.iconst 1, 1, 0, 0, 0, 0) from rfl))
set_option maxRecDepth 20000 in
theorem u0_117 : wp r 0 117 ls (vI w :: vI z :: st) x Q ↔ inI (z + w) = true ∧ wp r 0 118 ls (vI (z + w) :: st) x Q := (wp_u (show cd 0 117 = some (.iadd, 1, 0, 0, 0, 0) from rfl)).trans wq_if
set_option maxRecDepth 20000 in
theorem u0_118 : wp r 0 118 ls (vI i :: vA q :: st) x Q ↔ ldk 20 (hK x q) i ∧ wp r 0 119 ls (vI (hI x q i) :: st) x Q := (wp_u (show cd 0 118 = some (.iaload, 1, 0, 0, 0, 0) from rfl)).trans g_ldI
set_option maxRecDepth 20000 in
theorem u0_119 : wp r 0 119 ls (vI z :: st) x Q ↔ wp r 0 120 ls (vL z :: st) x Q := (wp_u (show cd 0 119 = some (.i2l, 1, 0, 0, 0, 0) from rfl))
set_option maxRecDepth 20000 in
theorem u0_120 : wp r 0 120 ls st x Q ↔ wp r 0 122 ls (vI 32 :: st) x Q := (wp_u (show cd 0 120 = some (.bipush 32, 2, 0, 0, 0, 0) from rfl))
set_option maxRecDepth 20000 in
theorem u0_122 : wp r 0 122 ls (vI w :: vL z :: st) x Q ↔ wp r 0 123 ls (vL (lShl z w) :: st) x Q := (wp_u (show cd 0 122 = some (.lshl, 1, 0, 0, 0, 0) from rfl))
set_option maxRecDepth 20000 in
theorem u0_123 : wp r 0 123 [vR o, a1, a2, a3, a4, a5, a6] st x Q ↔ wp r 0 124 [vR o, a1, a2, a3, a4, a5, a6] (vR o :: st) x Q := (wp_u (show cd 0 123 = some (.aload_n 0, 1, 0, 0, 0, 0) from rfl))
set_option maxRecDepth 20000 in
theorem u0_124 : wp r 0 124 [a0, a1, a2, a3, vI z, a5, a6] st x Q ↔ wp r 0 126 [a0, a1, a2, a3, vI z, a5, a6] (vI z :: st) x Q := (wp_u (show cd 0 124 = some (.iload 4, 2, 0, 0, 0, 0) from rfl))
set_option maxRecDepth 20000 in
theorem u0_126 : wp r 0 126 ls st x Q ↔ wp r 0 127 ls (vI 2 :: st) x Q := (wp_u (show cd 0 126 = some (.iconst 2, 1, 0, 0, 0, 0) from rfl))
set_option maxRecDepth 20000 in
theorem u0_127 : wp r 0 127 ls (vI w :: vI z :: st) x Q ↔ inI (z + w) = true ∧ wp r 0 128 ls (vI (z + w) :: st) x Q := (wp_u (show cd 0 127 = some (.iadd, 1, 0, 0, 0, 0) from rfl)).trans wq_if
set_option maxRecDepth 20000 in
theorem u0_128 : wp r 0 128 ls (vI i :: vA q :: st) x Q ↔ ldk 20 (hK x q) i ∧ wp r 0 129 ls (vI (hI x q i) :: st) x Q := (wp_u (show cd 0 128 = some (.iaload, 1, 0, 0, 0, 0) from rfl)).trans g_ldI
set_option maxRecDepth 20000 in
theorem u0_129 : wp r 0 129 ls (vI z :: st) x Q ↔ wp r 0 130 ls (vL z :: st) x Q := (wp_u (show cd 0 129 = some (.i2l, 1, 0, 0, 0, 0) from rfl))
set_option maxRecDepth 20000 in
theorem u0_130 : wp r 0 130 ls st x Q ↔ wp r 0 133 ls (vL 4294967295 :: st) x Q := (wp_u (show cd 0 130 = some (.ldc2_w 59, 3, 4294967295, 0, 0, 0) from rfl))
set_option maxRecDepth 20000 in
theorem u0_133 : wp r 0 133 ls (vL w :: vL z :: st) x Q ↔ wp r 0 134 ls (vL (lAnd z w) :: st) x Q := (wp_u (show cd 0 133 = some (.land, 1, 0, 0, 0, 0) from rfl))
set_option maxRecDepth 20000 in
theorem u0_134 : wp r 0 134 ls (vL w :: vL z :: st) x Q ↔ wp r 0 135 ls (vL (lOr z w) :: st) x Q := (wp_u (show cd 0 134 = some (.lor, 1, 0, 0, 0, 0) from rfl))
set_option maxRecDepth 20000 in
theorem u0_135 : wp r 0 135 ls (vL z :: vA q :: st) x Q ↔ isk 0 (hK x q) ∧ sml st = true ∧ 1 < r ∧ wpc 1 14 [vA q, vL z] x (wk r 0 135 ls st Q) := (wp_u (show cd 0 135 = some (.invokevirtual 61, 3, 14, 2, 1, 0) from rfl)).trans (g_virt rfl (by decide) (by simp) rfl)
set_option maxRecDepth 20000 in
theorem u0_138 : wp r 0 138 [a0, a1, vR o, a3, a4, a5, a6] st x Q ↔ wp r 0 139 [a0, a1, vR o, a3, a4, a5, a6] (vR o :: st) x Q := (wp_u (show cd 0 138 = some (.aload_n 2, 1, 0, 0, 0, 0) from rfl))
set_option maxRecDepth 20000 in
theorem u0_139 : wp r 0 139 [vR o, a1, a2, a3, a4, a5, a6] st x Q ↔ wp r 0 140 [vR o, a1, a2, a3, a4, a5, a6] (vR o :: st) x Q := (wp_u (show cd 0 139 = some (.aload_n 0, 1, 0, 0, 0, 0) from rfl))
set_option maxRecDepth 20000 in
theorem u0_140 : wp r 0 140 [a0, a1, a2, a3, vI z, a5, a6] st x Q ↔ wp r 0 142 [a0, a1, a2, a3, vI z, a5, a6] (vI z :: st) x Q := (wp_u (show cd 0 140 = some (.iload 4, 2, 0, 0, 0, 0) from rfl))
set_option maxRecDepth 20000 in
theorem u0_142 : wp r 0 142 ls st x Q ↔ wp r 0 143 ls (vI 1 :: st) x Q := (wp_u (show cd 0 142 = some (.iconst 1, 1, 0, 0, 0, 0) from rfl))
set_option maxRecDepth 20000 in
theorem u0_143 : wp r 0 143 ls (vI w :: vI z :: st) x Q ↔ inI (z + w) = true ∧ wp r 0 144 ls (vI (z + w) :: st) x Q := (wp_u (show cd 0 143 = some (.iadd, 1, 0, 0, 0, 0) from rfl)).trans wq_if
set_option maxRecDepth 20000 in
theorem u0_144 : wp r 0 144 ls (vI i :: vA q :: st) x Q ↔ ldk 20 (hK x q) i ∧ wp r 0 145 ls (vI (hI x q i) :: st) x Q := (wp_u (show cd 0 144 = some (.iaload, 1, 0, 0, 0, 0) from rfl)).trans g_ldI
set_option maxRecDepth 20000 in
theorem u0_145 : wp r 0 145 ls (vI z :: st) x Q ↔ wp r 0 146 ls (vL z :: st) x Q := (wp_u (show cd 0 145 = some (.i2l, 1, 0, 0, 0, 0) from rfl))
set_option maxRecDepth 20000 in
theorem u0_146 : wp r 0 146 ls st x Q ↔ wp r 0 148 ls (vI 32 :: st) x Q := (wp_u (show cd 0 146 = some (.bipush 32, 2, 0, 0, 0, 0) from rfl))
set_option maxRecDepth 20000 in
theorem u0_148 : wp r 0 148 ls (vI w :: vL z :: st) x Q ↔ wp r 0 149 ls (vL (lShl z w) :: st) x Q := (wp_u (show cd 0 148 = some (.lshl, 1, 0, 0, 0, 0) from rfl))
set_option maxRecDepth 20000 in
theorem u0_149 : wp r 0 149 [vR o, a1, a2, a3, a4, a5, a6] st x Q ↔ wp r 0 150 [vR o, a1, a2, a3, a4, a5, a6] (vR o :: st) x Q := (wp_u (show cd 0 149 = some (.aload_n 0, 1, 0, 0, 0, 0) from rfl))
set_option maxRecDepth 20000 in
theorem u0_150 : wp r 0 150 [a0, a1, a2, a3, vI z, a5, a6] st x Q ↔ wp r 0 152 [a0, a1, a2, a3, vI z, a5, a6] (vI z :: st) x Q := (wp_u (show cd 0 150 = some (.iload 4, 2, 0, 0, 0, 0) from rfl))
set_option maxRecDepth 20000 in
theorem u0_152 : wp r 0 152 ls st x Q ↔ wp r 0 153 ls (vI 2 :: st) x Q := (wp_u (show cd 0 152 = some (.iconst 2, 1, 0, 0, 0, 0) from rfl))
set_option maxRecDepth 20000 in
theorem u0_153 : wp r 0 153 ls (vI w :: vI z :: st) x Q ↔ inI (z + w) = true ∧ wp r 0 154 ls (vI (z + w) :: st) x Q := (wp_u (show cd 0 153 = some (.iadd, 1, 0, 0, 0, 0) from rfl)).trans wq_if
set_option maxRecDepth 20000 in
theorem u0_154 : wp r 0 154 ls (vI i :: vA q :: st) x Q ↔ ldk 20 (hK x q) i ∧ wp r 0 155 ls (vI (hI x q i) :: st) x Q := (wp_u (show cd 0 154 = some (.iaload, 1, 0, 0, 0, 0) from rfl)).trans g_ldI
set_option maxRecDepth 20000 in
theorem u0_155 : wp r 0 155 ls (vI z :: st) x Q ↔ wp r 0 156 ls (vL z :: st) x Q := (wp_u (show cd 0 155 = some (.i2l, 1, 0, 0, 0, 0) from rfl))
set_option maxRecDepth 20000 in
theorem u0_156 : wp r 0 156 ls st x Q ↔ wp r 0 159 ls (vL 4294967295 :: st) x Q := (wp_u (show cd 0 156 = some (.ldc2_w 59, 3, 4294967295, 0, 0, 0) from rfl))
set_option maxRecDepth 20000 in
theorem u0_159 : wp r 0 159 ls (vL w :: vL z :: st) x Q ↔ wp r 0 160 ls (vL (lAnd z w) :: st) x Q := (wp_u (show cd 0 159 = some (.land, 1, 0, 0, 0, 0) from rfl))
set_option maxRecDepth 20000 in
theorem u0_160 : wp r 0 160 ls (vL w :: vL z :: st) x Q ↔ wp r 0 161 ls (vL (lOr z w) :: st) x Q := (wp_u (show cd 0 160 = some (.lor, 1, 0, 0, 0, 0) from rfl))
set_option maxRecDepth 20000 in
theorem u0_161 : wp r 0 161 ls (vL z :: vA q :: st) x Q ↔ isk 9 (hK x q) ∧ sml st = true ∧ 1 < r ∧ wpc 1 86 [vA q, vL z] x (wk r 0 161 ls st Q) := (wp_u (show cd 0 161 = some (.invokevirtual 65, 3, 86, 2, 1, 9) from rfl)).trans (g_virt rfl (by decide) (by simp) rfl)
set_option maxRecDepth 20000 in
theorem u0_164 : wp r 0 164 ls (vI w :: vI z :: st) x Q ↔ if z = w then wp r 0 964 ls st x Q else wp r 0 167 ls st x Q := (wp_u (show cd 0 164 = some (.if_icmp .eq 800, 3, 964, 0, 0, 0) from rfl)).trans wq_d
set_option maxRecDepth 20000 in
theorem u0_167 : wp r 0 167 ls st x Q ↔ wp r 0 168 ls (vI 0 :: st) x Q := (wp_u (show cd 0 167 = some (.iconst 0, 1, 0, 0, 0, 0) from rfl))
set_option maxRecDepth 20000 in
theorem u0_168 : wp r 0 168 ls [vI z] x Q ↔ rg 4 z = true ∧ Q (.inl (some (vI z))) x := (wp_u (show cd 0 168 = some (.ireturn, 1, 4, 0, 0, 0) from rfl)).trans wq_if
set_option maxRecDepth 20000 in
theorem u0_169 : wp r 0 169 [a0, vR o, a2, a3, a4, a5, a6] st x Q ↔ wp r 0 170 [a0, vR o, a2, a3, a4, a5, a6] (vR o :: st) x Q := (wp_u (show cd 0 169 = some (.aload_n 1, 1, 0, 0, 0, 0) from rfl))
set_option maxRecDepth 20000 in
theorem u0_170 : wp r 0 170 ls (vA q :: st) x Q ↔ isk 0 (hK x q) ∧ sml st = true ∧ 1 < r ∧ wpc 1 15 [vA q] x (wk r 0 170 ls st Q) := (wp_u (show cd 0 170 = some (.invokevirtual 66, 3, 15, 1, 1, 0) from rfl)).trans (g_virt rfl (by decide) (by simp) rfl)
set_option maxRecDepth 20000 in
theorem u0_173 : wp r 0 173 [a0, a1, vR o, a3, a4, a5, a6] st x Q ↔ wp r 0 174 [a0, a1, vR o, a3, a4, a5, a6] (vR o :: st) x Q := (wp_u (show cd 0 173 = some (.aload_n 2, 1, 0, 0, 0, 0) from rfl))
set_option maxRecDepth 20000 in
theorem u0_174 : wp r 0 174 ls (vA q :: st) x Q ↔ isk 9 (hK x q) ∧ sml st = true ∧ 1 < r ∧ wpc 1 87 [vA q] x (wk r 0 174 ls st Q) := (wp_u (show cd 0 174 = some (.invokevirtual 69, 3, 87, 1, 1, 9) from rfl)).trans (g_virt rfl (by decide) (by simp) rfl)
set_option maxRecDepth 20000 in
theorem u0_177 : wp r 0 177 ls st x Q ↔ wp r 0 964 ls st x Q := (wp_u (show cd 0 177 = some (.goto 787, 3, 964, 0, 0, 0) from rfl))
set_option maxRecDepth 20000 in
theorem u0_180 : wp r 0 180 [a0, vR o, a2, a3, a4, a5, a6] st x Q ↔ wp r 0 181 [a0, vR o, a2, a3, a4, a5, a6] (vR o :: st) x Q := (wp_u (show cd 0 180 = some (.aload_n 1, 1, 0, 0, 0, 0) from rfl))
set_option maxRecDepth 20000 in
theorem u0_181 : wp r 0 181 ls (vA q :: st) x Q ↔ isk 0 (hK x q) ∧ sml st = true ∧ 1 < r ∧ wpc 1 16 [vA q] x (wk r 0 181 ls st Q) := (wp_u (show cd 0 181 = some (.invokevirtual 70, 3, 16, 1, 1, 0) from rfl)).trans (g_virt rfl (by decide) (by simp) rfl)
set_option maxRecDepth 20000 in
theorem u0_184 : wp r 0 184 [a0, a1, vR o, a3, a4, a5, a6] st x Q ↔ wp r 0 185 [a0, a1, vR o, a3, a4, a5, a6] (vR o :: st) x Q := (wp_u (show cd 0 184 = some (.aload_n 2, 1, 0, 0, 0, 0) from rfl))
set_option maxRecDepth 20000 in
theorem u0_185 : wp r 0 185 ls (vA q :: st) x Q ↔ isk 9 (hK x q) ∧ sml st = true ∧ 1 < r ∧ wpc 1 88 [vA q] x (wk r 0 185 ls st Q) := (wp_u (show cd 0 185 = some (.invokevirtual 73, 3, 88, 1, 1, 9) from rfl)).trans (g_virt rfl (by decide) (by simp) rfl)
set_option maxRecDepth 20000 in
theorem u0_188 : wp r 0 188 ls (vI w :: vI z :: st) x Q ↔ if z = w then wp r 0 964 ls st x Q else wp r 0 191 ls st x Q := (wp_u (show cd 0 188 = some (.if_icmp .eq 776, 3, 964, 0, 0, 0) from rfl)).trans wq_d
set_option maxRecDepth 20000 in
theorem u0_191 : wp r 0 191 ls st x Q ↔ wp r 0 192 ls (vI 0 :: st) x Q := (wp_u (show cd 0 191 = some (.iconst 0, 1, 0, 0, 0, 0) from rfl))
set_option maxRecDepth 20000 in
theorem u0_192 : wp r 0 192 ls [vI z] x Q ↔ rg 4 z = true ∧ Q (.inl (some (vI z))) x := (wp_u (show cd 0 192 = some (.ireturn, 1, 4, 0, 0, 0) from rfl)).trans wq_if
set_option maxRecDepth 20000 in
theorem u0_193 : wp r 0 193 [a0, vR o, a2, a3, a4, a5, a6] st x Q ↔ wp r 0 194 [a0, vR o, a2, a3, a4, a5, a6] (vR o :: st) x Q := (wp_u (show cd 0 193 = some (.aload_n 1, 1, 0, 0, 0, 0) from rfl))
set_option maxRecDepth 20000 in
theorem u0_194 : wp r 0 194 [vR o, a1, a2, a3, a4, a5, a6] st x Q ↔ wp r 0 195 [vR o, a1, a2, a3, a4, a5, a6] (vR o :: st) x Q := (wp_u (show cd 0 194 = some (.aload_n 0, 1, 0, 0, 0, 0) from rfl))
set_option maxRecDepth 20000 in
theorem u0_195 : wp r 0 195 [a0, a1, a2, a3, vI z, a5, a6] st x Q ↔ wp r 0 197 [a0, a1, a2, a3, vI z, a5, a6] (vI z :: st) x Q := (wp_u (show cd 0 195 = some (.iload 4, 2, 0, 0, 0, 0) from rfl))
set_option maxRecDepth 20000 in
theorem u0_197 : wp r 0 197 ls st x Q ↔ wp r 0 198 ls (vI 1 :: st) x Q := (wp_u (show cd 0 197 = some (.iconst 1, 1, 0, 0, 0, 0) from rfl))
set_option maxRecDepth 20000 in
theorem u0_198 : wp r 0 198 ls (vI w :: vI z :: st) x Q ↔ inI (z + w) = true ∧ wp r 0 199 ls (vI (z + w) :: st) x Q := (wp_u (show cd 0 198 = some (.iadd, 1, 0, 0, 0, 0) from rfl)).trans wq_if
set_option maxRecDepth 20000 in
theorem u0_199 : wp r 0 199 ls (vI i :: vA q :: st) x Q ↔ ldk 20 (hK x q) i ∧ wp r 0 200 ls (vI (hI x q i) :: st) x Q := (wp_u (show cd 0 199 = some (.iaload, 1, 0, 0, 0, 0) from rfl)).trans g_ldI
set_option maxRecDepth 20000 in
theorem u0_200 : wp r 0 200 [vR o, a1, a2, a3, a4, a5, a6] st x Q ↔ wp r 0 201 [vR o, a1, a2, a3, a4, a5, a6] (vR o :: st) x Q := (wp_u (show cd 0 200 = some (.aload_n 0, 1, 0, 0, 0, 0) from rfl))
set_option maxRecDepth 20000 in
theorem u0_201 : wp r 0 201 [a0, a1, a2, a3, vI z, a5, a6] st x Q ↔ wp r 0 203 [a0, a1, a2, a3, vI z, a5, a6] (vI z :: st) x Q := (wp_u (show cd 0 201 = some (.iload 4, 2, 0, 0, 0, 0) from rfl))
set_option maxRecDepth 20000 in
theorem u0_203 : wp r 0 203 ls st x Q ↔ wp r 0 204 ls (vI 2 :: st) x Q := (wp_u (show cd 0 203 = some (.iconst 2, 1, 0, 0, 0, 0) from rfl))
set_option maxRecDepth 20000 in
theorem u0_204 : wp r 0 204 ls (vI w :: vI z :: st) x Q ↔ inI (z + w) = true ∧ wp r 0 205 ls (vI (z + w) :: st) x Q := (wp_u (show cd 0 204 = some (.iadd, 1, 0, 0, 0, 0) from rfl)).trans wq_if
set_option maxRecDepth 20000 in
theorem u0_205 : wp r 0 205 ls (vI i :: vA q :: st) x Q ↔ ldk 20 (hK x q) i ∧ wp r 0 206 ls (vI (hI x q i) :: st) x Q := (wp_u (show cd 0 205 = some (.iaload, 1, 0, 0, 0, 0) from rfl)).trans g_ldI
set_option maxRecDepth 20000 in
theorem u0_206 : wp r 0 206 [vR o, a1, a2, a3, a4, a5, a6] st x Q ↔ wp r 0 207 [vR o, a1, a2, a3, a4, a5, a6] (vR o :: st) x Q := (wp_u (show cd 0 206 = some (.aload_n 0, 1, 0, 0, 0, 0) from rfl))
set_option maxRecDepth 20000 in
theorem u0_207 : wp r 0 207 [a0, a1, a2, a3, vI z, a5, a6] st x Q ↔ wp r 0 209 [a0, a1, a2, a3, vI z, a5, a6] (vI z :: st) x Q := (wp_u (show cd 0 207 = some (.iload 4, 2, 0, 0, 0, 0) from rfl))
set_option maxRecDepth 20000 in
theorem u0_209 : wp r 0 209 ls st x Q ↔ wp r 0 210 ls (vI 3 :: st) x Q := (wp_u (show cd 0 209 = some (.iconst 3, 1, 0, 0, 0, 0) from rfl))
set_option maxRecDepth 20000 in
theorem u0_210 : wp r 0 210 ls (vI w :: vI z :: st) x Q ↔ inI (z + w) = true ∧ wp r 0 211 ls (vI (z + w) :: st) x Q := (wp_u (show cd 0 210 = some (.iadd, 1, 0, 0, 0, 0) from rfl)).trans wq_if
set_option maxRecDepth 20000 in
theorem u0_211 : wp r 0 211 ls (vI i :: vA q :: st) x Q ↔ ldk 20 (hK x q) i ∧ wp r 0 212 ls (vI (hI x q i) :: st) x Q := (wp_u (show cd 0 211 = some (.iaload, 1, 0, 0, 0, 0) from rfl)).trans g_ldI
set_option maxRecDepth 20000 in
theorem u0_212 : wp r 0 212 ls (vI z :: st) x Q ↔ if z = 0 then wp r 0 219 ls st x Q else wp r 0 215 ls st x Q := (wp_u (show cd 0 212 = some (.ifCond .eq 7, 3, 219, 0, 0, 0) from rfl)).trans wq_d
set_option maxRecDepth 20000 in
theorem u0_215 : wp r 0 215 ls st x Q ↔ wp r 0 216 ls (vI 1 :: st) x Q := (wp_u (show cd 0 215 = some (.iconst 1, 1, 0, 0, 0, 0) from rfl))
set_option maxRecDepth 20000 in
theorem u0_216 : wp r 0 216 ls st x Q ↔ wp r 0 220 ls st x Q := (wp_u (show cd 0 216 = some (.goto 4, 3, 220, 0, 0, 0) from rfl))
set_option maxRecDepth 20000 in
theorem u0_219 : wp r 0 219 ls st x Q ↔ wp r 0 220 ls (vI 0 :: st) x Q := (wp_u (show cd 0 219 = some (.iconst 0, 1, 0, 0, 0, 0) from rfl))
set_option maxRecDepth 20000 in
theorem u0_220 : wp r 0 220 [vR o, a1, a2, a3, a4, a5, a6] st x Q ↔ wp r 0 221 [vR o, a1, a2, a3, a4, a5, a6] (vR o :: st) x Q := (wp_u (show cd 0 220 = some (.aload_n 0, 1, 0, 0, 0, 0) from rfl))
set_option maxRecDepth 20000 in
theorem u0_221 : wp r 0 221 [a0, a1, a2, a3, vI z, a5, a6] st x Q ↔ wp r 0 223 [a0, a1, a2, a3, vI z, a5, a6] (vI z :: st) x Q := (wp_u (show cd 0 221 = some (.iload 4, 2, 0, 0, 0, 0) from rfl))
set_option maxRecDepth 20000 in
theorem u0_223 : wp r 0 223 ls st x Q ↔ wp r 0 224 ls (vI 4 :: st) x Q := (wp_u (show cd 0 223 = some (.iconst 4, 1, 0, 0, 0, 0) from rfl))
set_option maxRecDepth 20000 in
theorem u0_224 : wp r 0 224 ls (vI w :: vI z :: st) x Q ↔ inI (z + w) = true ∧ wp r 0 225 ls (vI (z + w) :: st) x Q := (wp_u (show cd 0 224 = some (.iadd, 1, 0, 0, 0, 0) from rfl)).trans wq_if
set_option maxRecDepth 20000 in
theorem u0_225 : wp r 0 225 ls (vI i :: vA q :: st) x Q ↔ ldk 20 (hK x q) i ∧ wp r 0 226 ls (vI (hI x q i) :: st) x Q := (wp_u (show cd 0 225 = some (.iaload, 1, 0, 0, 0, 0) from rfl)).trans g_ldI
set_option maxRecDepth 20000 in
theorem u0_226 : wp r 0 226 [a0, a1, a2, vR o, a4, a5, a6] st x Q ↔ wp r 0 227 [a0, a1, a2, vR o, a4, a5, a6] (vR o :: st) x Q := (wp_u (show cd 0 226 = some (.aload_n 3, 1, 0, 0, 0, 0) from rfl))
set_option maxRecDepth 20000 in
theorem u0_227 : wp r 0 227 ls (vR o5 :: vI z4 :: vI z3 :: vI z2 :: vI z1 :: vR o0 :: st) x Q ↔ sml st = true ∧ 5 < r ∧ wpc 5 1 [vR o0, vI z1, vI z2, vI z3, vI z4, vR o5] x (wk r 0 227 ls st Q) := (wp_u (show cd 0 227 = some (.invokestatic 74, 3, 1, 6, 5, 0) from rfl)).trans (g_stat (by decide) (by simp) rfl)
set_option maxRecDepth 20000 in
theorem u0_230 : wp r 0 230 [a0, a1, a2, a3, a4, a5, a6] (vI z :: st) x Q ↔ wp r 0 232 [a0, a1, a2, a3, a4, vI z, a6] st x Q := (wp_u (show cd 0 230 = some (.istore 5, 2, 0, 0, 0, 0) from rfl))
set_option maxRecDepth 20000 in
theorem u0_232 : wp r 0 232 [a0, a1, vR o, a3, a4, a5, a6] st x Q ↔ wp r 0 233 [a0, a1, vR o, a3, a4, a5, a6] (vR o :: st) x Q := (wp_u (show cd 0 232 = some (.aload_n 2, 1, 0, 0, 0, 0) from rfl))
set_option maxRecDepth 20000 in
theorem u0_233 : wp r 0 233 [vR o, a1, a2, a3, a4, a5, a6] st x Q ↔ wp r 0 234 [vR o, a1, a2, a3, a4, a5, a6] (vR o :: st) x Q := (wp_u (show cd 0 233 = some (.aload_n 0, 1, 0, 0, 0, 0) from rfl))
set_option maxRecDepth 20000 in
theorem u0_234 : wp r 0 234 [a0, a1, a2, a3, vI z, a5, a6] st x Q ↔ wp r 0 236 [a0, a1, a2, a3, vI z, a5, a6] (vI z :: st) x Q := (wp_u (show cd 0 234 = some (.iload 4, 2, 0, 0, 0, 0) from rfl))
set_option maxRecDepth 20000 in
theorem u0_236 : wp r 0 236 ls st x Q ↔ wp r 0 237 ls (vI 1 :: st) x Q := (wp_u (show cd 0 236 = some (.iconst 1, 1, 0, 0, 0, 0) from rfl))
set_option maxRecDepth 20000 in
theorem u0_237 : wp r 0 237 ls (vI w :: vI z :: st) x Q ↔ inI (z + w) = true ∧ wp r 0 238 ls (vI (z + w) :: st) x Q := (wp_u (show cd 0 237 = some (.iadd, 1, 0, 0, 0, 0) from rfl)).trans wq_if
set_option maxRecDepth 20000 in
theorem u0_238 : wp r 0 238 ls (vI i :: vA q :: st) x Q ↔ ldk 20 (hK x q) i ∧ wp r 0 239 ls (vI (hI x q i) :: st) x Q := (wp_u (show cd 0 238 = some (.iaload, 1, 0, 0, 0, 0) from rfl)).trans g_ldI
set_option maxRecDepth 20000 in
theorem u0_239 : wp r 0 239 [vR o, a1, a2, a3, a4, a5, a6] st x Q ↔ wp r 0 240 [vR o, a1, a2, a3, a4, a5, a6] (vR o :: st) x Q := (wp_u (show cd 0 239 = some (.aload_n 0, 1, 0, 0, 0, 0) from rfl))
set_option maxRecDepth 20000 in
theorem u0_240 : wp r 0 240 [a0, a1, a2, a3, vI z, a5, a6] st x Q ↔ wp r 0 242 [a0, a1, a2, a3, vI z, a5, a6] (vI z :: st) x Q := (wp_u (show cd 0 240 = some (.iload 4, 2, 0, 0, 0, 0) from rfl))
set_option maxRecDepth 20000 in
theorem u0_242 : wp r 0 242 ls st x Q ↔ wp r 0 243 ls (vI 2 :: st) x Q := (wp_u (show cd 0 242 = some (.iconst 2, 1, 0, 0, 0, 0) from rfl))
set_option maxRecDepth 20000 in
theorem u0_243 : wp r 0 243 ls (vI w :: vI z :: st) x Q ↔ inI (z + w) = true ∧ wp r 0 244 ls (vI (z + w) :: st) x Q := (wp_u (show cd 0 243 = some (.iadd, 1, 0, 0, 0, 0) from rfl)).trans wq_if
set_option maxRecDepth 20000 in
theorem u0_244 : wp r 0 244 ls (vI i :: vA q :: st) x Q ↔ ldk 20 (hK x q) i ∧ wp r 0 245 ls (vI (hI x q i) :: st) x Q := (wp_u (show cd 0 244 = some (.iaload, 1, 0, 0, 0, 0) from rfl)).trans g_ldI
set_option maxRecDepth 20000 in
theorem u0_245 : wp r 0 245 [vR o, a1, a2, a3, a4, a5, a6] st x Q ↔ wp r 0 246 [vR o, a1, a2, a3, a4, a5, a6] (vR o :: st) x Q := (wp_u (show cd 0 245 = some (.aload_n 0, 1, 0, 0, 0, 0) from rfl))
set_option maxRecDepth 20000 in
theorem u0_246 : wp r 0 246 [a0, a1, a2, a3, vI z, a5, a6] st x Q ↔ wp r 0 248 [a0, a1, a2, a3, vI z, a5, a6] (vI z :: st) x Q := (wp_u (show cd 0 246 = some (.iload 4, 2, 0, 0, 0, 0) from rfl))
set_option maxRecDepth 20000 in
theorem u0_248 : wp r 0 248 ls st x Q ↔ wp r 0 249 ls (vI 3 :: st) x Q := (wp_u (show cd 0 248 = some (.iconst 3, 1, 0, 0, 0, 0) from rfl))
set_option maxRecDepth 20000 in
theorem u0_249 : wp r 0 249 ls (vI w :: vI z :: st) x Q ↔ inI (z + w) = true ∧ wp r 0 250 ls (vI (z + w) :: st) x Q := (wp_u (show cd 0 249 = some (.iadd, 1, 0, 0, 0, 0) from rfl)).trans wq_if
set_option maxRecDepth 20000 in
theorem u0_250 : wp r 0 250 ls (vI i :: vA q :: st) x Q ↔ ldk 20 (hK x q) i ∧ wp r 0 251 ls (vI (hI x q i) :: st) x Q := (wp_u (show cd 0 250 = some (.iaload, 1, 0, 0, 0, 0) from rfl)).trans g_ldI
set_option maxRecDepth 20000 in
theorem u0_251 : wp r 0 251 ls (vI z :: st) x Q ↔ if z = 0 then wp r 0 258 ls st x Q else wp r 0 254 ls st x Q := (wp_u (show cd 0 251 = some (.ifCond .eq 7, 3, 258, 0, 0, 0) from rfl)).trans wq_d
set_option maxRecDepth 20000 in
theorem u0_254 : wp r 0 254 ls st x Q ↔ wp r 0 255 ls (vI 1 :: st) x Q := (wp_u (show cd 0 254 = some (.iconst 1, 1, 0, 0, 0, 0) from rfl))
set_option maxRecDepth 20000 in
theorem u0_255 : wp r 0 255 ls st x Q ↔ wp r 0 259 ls st x Q := (wp_u (show cd 0 255 = some (.goto 4, 3, 259, 0, 0, 0) from rfl))
set_option maxRecDepth 20000 in
theorem u0_258 : wp r 0 258 ls st x Q ↔ wp r 0 259 ls (vI 0 :: st) x Q := (wp_u (show cd 0 258 = some (.iconst 0, 1, 0, 0, 0, 0) from rfl))
set_option maxRecDepth 20000 in
theorem u0_259 : wp r 0 259 [vR o, a1, a2, a3, a4, a5, a6] st x Q ↔ wp r 0 260 [vR o, a1, a2, a3, a4, a5, a6] (vR o :: st) x Q := (wp_u (show cd 0 259 = some (.aload_n 0, 1, 0, 0, 0, 0) from rfl))
set_option maxRecDepth 20000 in
theorem u0_260 : wp r 0 260 [a0, a1, a2, a3, vI z, a5, a6] st x Q ↔ wp r 0 262 [a0, a1, a2, a3, vI z, a5, a6] (vI z :: st) x Q := (wp_u (show cd 0 260 = some (.iload 4, 2, 0, 0, 0, 0) from rfl))
set_option maxRecDepth 20000 in
theorem u0_262 : wp r 0 262 ls st x Q ↔ wp r 0 263 ls (vI 4 :: st) x Q := (wp_u (show cd 0 262 = some (.iconst 4, 1, 0, 0, 0, 0) from rfl))
set_option maxRecDepth 20000 in
theorem u0_263 : wp r 0 263 ls (vI w :: vI z :: st) x Q ↔ inI (z + w) = true ∧ wp r 0 264 ls (vI (z + w) :: st) x Q := (wp_u (show cd 0 263 = some (.iadd, 1, 0, 0, 0, 0) from rfl)).trans wq_if
set_option maxRecDepth 20000 in
theorem u0_264 : wp r 0 264 ls (vI i :: vA q :: st) x Q ↔ ldk 20 (hK x q) i ∧ wp r 0 265 ls (vI (hI x q i) :: st) x Q := (wp_u (show cd 0 264 = some (.iaload, 1, 0, 0, 0, 0) from rfl)).trans g_ldI
set_option maxRecDepth 20000 in
theorem u0_265 : wp r 0 265 ls (vI z3 :: vI z2 :: vI z1 :: vI z0 :: vA q :: st) x Q ↔ isk 9 (hK x q) ∧ sml st = true ∧ 3 < r ∧ wpc 3 89 [vA q, vI z0, vI z1, vI z2, vI z3] x (wk r 0 265 ls st Q) := (wp_u (show cd 0 265 = some (.invokevirtual 79, 3, 89, 5, 3, 9) from rfl)).trans (g_virt rfl (by decide) (by simp) rfl)
set_option maxRecDepth 20000 in
theorem u0_268 : wp r 0 268 [a0, a1, a2, a3, a4, a5, a6] (vI z :: st) x Q ↔ wp r 0 270 [a0, a1, a2, a3, a4, a5, vI z] st x Q := (wp_u (show cd 0 268 = some (.istore 6, 2, 0, 0, 0, 0) from rfl))
set_option maxRecDepth 20000 in
theorem u0_270 : wp r 0 270 [a0, a1, vR o, a3, a4, a5, a6] st x Q ↔ wp r 0 271 [a0, a1, vR o, a3, a4, a5, a6] (vR o :: st) x Q := (wp_u (show cd 0 270 = some (.aload_n 2, 1, 0, 0, 0, 0) from rfl))
set_option maxRecDepth 20000 in
theorem u0_271 : wp r 0 271 ls (vA q :: st) x Q ↔ isk 9 (hK x q) ∧ sml st = true ∧ 1 < r ∧ wpc 1 90 [vA q] x (wk r 0 271 ls st Q) := (wp_u (show cd 0 271 = some (.invokevirtual 80, 3, 90, 1, 1, 9) from rfl)).trans (g_virt rfl (by decide) (by simp) rfl)
set_option maxRecDepth 20000 in
theorem u0_274 : wp r 0 274 [a0, a1, a2, a3, a4, vI z, a6] st x Q ↔ wp r 0 276 [a0, a1, a2, a3, a4, vI z, a6] (vI z :: st) x Q := (wp_u (show cd 0 274 = some (.iload 5, 2, 0, 0, 0, 0) from rfl))
set_option maxRecDepth 20000 in
theorem u0_276 : wp r 0 276 ls (vI w :: vI z :: st) x Q ↔ if z = w then wp r 0 281 ls st x Q else wp r 0 279 ls st x Q := (wp_u (show cd 0 276 = some (.if_icmp .eq 5, 3, 281, 0, 0, 0) from rfl)).trans wq_d
set_option maxRecDepth 20000 in
theorem u0_279 : wp r 0 279 ls st x Q ↔ wp r 0 280 ls (vI 0 :: st) x Q := (wp_u (show cd 0 279 = some (.iconst 0, 1, 0, 0, 0, 0) from rfl))
set_option maxRecDepth 20000 in
theorem u0_280 : wp r 0 280 ls [vI z] x Q ↔ rg 4 z = true ∧ Q (.inl (some (vI z))) x := (wp_u (show cd 0 280 = some (.ireturn, 1, 4, 0, 0, 0) from rfl)).trans wq_if
set_option maxRecDepth 20000 in
theorem u0_281 : wp r 0 281 [a0, a1, a2, a3, a4, vI z, a6] st x Q ↔ wp r 0 283 [a0, a1, a2, a3, a4, vI z, a6] (vI z :: st) x Q := (wp_u (show cd 0 281 = some (.iload 5, 2, 0, 0, 0, 0) from rfl))
set_option maxRecDepth 20000 in
theorem u0_283 : wp r 0 283 ls (vI z :: st) x Q ↔ if z = 0 then wp r 0 286 ls st x Q else wp r 0 298 ls st x Q := (wp_u (show cd 0 283 = some (.ifCond .ne 15, 3, 298, 0, 0, 0) from rfl)).trans wq_dn
set_option maxRecDepth 20000 in
theorem u0_286 : wp r 0 286 [a0, a1, a2, vR o, a4, a5, a6] st x Q ↔ wp r 0 287 [a0, a1, a2, vR o, a4, a5, a6] (vR o :: st) x Q := (wp_u (show cd 0 286 = some (.aload_n 3, 1, 0, 0, 0, 0) from rfl))
set_option maxRecDepth 20000 in
theorem u0_287 : wp r 0 287 ls st x Q ↔ wp r 0 288 ls (vI 0 :: st) x Q := (wp_u (show cd 0 287 = some (.iconst 0, 1, 0, 0, 0, 0) from rfl))
set_option maxRecDepth 20000 in
theorem u0_288 : wp r 0 288 ls (vI i :: vA q :: st) x Q ↔ ldk 25 (hK x q) i ∧ wp r 0 289 ls (vL (hI x q i) :: st) x Q := (wp_u (show cd 0 288 = some (.laload, 1, 0, 0, 0, 0) from rfl)).trans g_ldL
set_option maxRecDepth 20000 in
theorem u0_289 : wp r 0 289 [a0, a1, a2, a3, a4, a5, vI z] st x Q ↔ wp r 0 291 [a0, a1, a2, a3, a4, a5, vI z] (vI z :: st) x Q := (wp_u (show cd 0 289 = some (.iload 6, 2, 0, 0, 0, 0) from rfl))
set_option maxRecDepth 20000 in
theorem u0_291 : wp r 0 291 ls (vI z :: st) x Q ↔ wp r 0 292 ls (vL z :: st) x Q := (wp_u (show cd 0 291 = some (.i2l, 1, 0, 0, 0, 0) from rfl))
set_option maxRecDepth 20000 in
theorem u0_292 : wp r 0 292 ls (vL w :: vL z :: st) x Q ↔ wp r 0 293 ls (vI (lCmp z w) :: st) x Q := (wp_u (show cd 0 292 = some (.lcmp, 1, 0, 0, 0, 0) from rfl))
set_option maxRecDepth 20000 in
theorem u0_293 : wp r 0 293 ls (vI z :: st) x Q ↔ if z = 0 then wp r 0 298 ls st x Q else wp r 0 296 ls st x Q := (wp_u (show cd 0 293 = some (.ifCond .eq 5, 3, 298, 0, 0, 0) from rfl)).trans wq_d
set_option maxRecDepth 20000 in
theorem u0_296 : wp r 0 296 ls st x Q ↔ wp r 0 297 ls (vI 0 :: st) x Q := (wp_u (show cd 0 296 = some (.iconst 0, 1, 0, 0, 0, 0) from rfl))
set_option maxRecDepth 20000 in
theorem u0_297 : wp r 0 297 ls [vI z] x Q ↔ rg 4 z = true ∧ Q (.inl (some (vI z))) x := (wp_u (show cd 0 297 = some (.ireturn, 1, 4, 0, 0, 0) from rfl)).trans wq_if
set_option maxRecDepth 20000 in
theorem u0_298 : wp r 0 298 ls st x Q ↔ wp r 0 964 ls st x Q := (wp_u (show cd 0 298 = some (.goto 666, 3, 964, 0, 0, 0) from rfl))
set_option maxRecDepth 20000 in
theorem u0_301 : wp r 0 301 [a0, vR o, a2, a3, a4, a5, a6] st x Q ↔ wp r 0 302 [a0, vR o, a2, a3, a4, a5, a6] (vR o :: st) x Q := (wp_u (show cd 0 301 = some (.aload_n 1, 1, 0, 0, 0, 0) from rfl))
set_option maxRecDepth 20000 in
theorem u0_302 : wp r 0 302 [vR o, a1, a2, a3, a4, a5, a6] st x Q ↔ wp r 0 303 [vR o, a1, a2, a3, a4, a5, a6] (vR o :: st) x Q := (wp_u (show cd 0 302 = some (.aload_n 0, 1, 0, 0, 0, 0) from rfl))
set_option maxRecDepth 20000 in
theorem u0_303 : wp r 0 303 [a0, a1, a2, a3, vI z, a5, a6] st x Q ↔ wp r 0 305 [a0, a1, a2, a3, vI z, a5, a6] (vI z :: st) x Q := (wp_u (show cd 0 303 = some (.iload 4, 2, 0, 0, 0, 0) from rfl))
set_option maxRecDepth 20000 in
theorem u0_305 : wp r 0 305 ls st x Q ↔ wp r 0 306 ls (vI 1 :: st) x Q := (wp_u (show cd 0 305 = some (.iconst 1, 1, 0, 0, 0, 0) from rfl))
set_option maxRecDepth 20000 in
theorem u0_306 : wp r 0 306 ls (vI w :: vI z :: st) x Q ↔ inI (z + w) = true ∧ wp r 0 307 ls (vI (z + w) :: st) x Q := (wp_u (show cd 0 306 = some (.iadd, 1, 0, 0, 0, 0) from rfl)).trans wq_if
set_option maxRecDepth 20000 in
theorem u0_307 : wp r 0 307 ls (vI i :: vA q :: st) x Q ↔ ldk 20 (hK x q) i ∧ wp r 0 308 ls (vI (hI x q i) :: st) x Q := (wp_u (show cd 0 307 = some (.iaload, 1, 0, 0, 0, 0) from rfl)).trans g_ldI
set_option maxRecDepth 20000 in
theorem u0_308 : wp r 0 308 [vR o, a1, a2, a3, a4, a5, a6] st x Q ↔ wp r 0 309 [vR o, a1, a2, a3, a4, a5, a6] (vR o :: st) x Q := (wp_u (show cd 0 308 = some (.aload_n 0, 1, 0, 0, 0, 0) from rfl))
set_option maxRecDepth 20000 in
theorem u0_309 : wp r 0 309 [a0, a1, a2, a3, vI z, a5, a6] st x Q ↔ wp r 0 311 [a0, a1, a2, a3, vI z, a5, a6] (vI z :: st) x Q := (wp_u (show cd 0 309 = some (.iload 4, 2, 0, 0, 0, 0) from rfl))
set_option maxRecDepth 20000 in
theorem u0_311 : wp r 0 311 ls st x Q ↔ wp r 0 312 ls (vI 2 :: st) x Q := (wp_u (show cd 0 311 = some (.iconst 2, 1, 0, 0, 0, 0) from rfl))
set_option maxRecDepth 20000 in
theorem u0_312 : wp r 0 312 ls (vI w :: vI z :: st) x Q ↔ inI (z + w) = true ∧ wp r 0 313 ls (vI (z + w) :: st) x Q := (wp_u (show cd 0 312 = some (.iadd, 1, 0, 0, 0, 0) from rfl)).trans wq_if
set_option maxRecDepth 20000 in
theorem u0_313 : wp r 0 313 ls (vI i :: vA q :: st) x Q ↔ ldk 20 (hK x q) i ∧ wp r 0 314 ls (vI (hI x q i) :: st) x Q := (wp_u (show cd 0 313 = some (.iaload, 1, 0, 0, 0, 0) from rfl)).trans g_ldI
set_option maxRecDepth 20000 in
theorem u0_314 : wp r 0 314 ls (vI z :: st) x Q ↔ if z = 0 then wp r 0 321 ls st x Q else wp r 0 317 ls st x Q := (wp_u (show cd 0 314 = some (.ifCond .eq 7, 3, 321, 0, 0, 0) from rfl)).trans wq_d
set_option maxRecDepth 20000 in
theorem u0_317 : wp r 0 317 ls st x Q ↔ wp r 0 318 ls (vI 1 :: st) x Q := (wp_u (show cd 0 317 = some (.iconst 1, 1, 0, 0, 0, 0) from rfl))
set_option maxRecDepth 20000 in
theorem u0_318 : wp r 0 318 ls st x Q ↔ wp r 0 322 ls st x Q := (wp_u (show cd 0 318 = some (.goto 4, 3, 322, 0, 0, 0) from rfl))
set_option maxRecDepth 20000 in
theorem u0_321 : wp r 0 321 ls st x Q ↔ wp r 0 322 ls (vI 0 :: st) x Q := (wp_u (show cd 0 321 = some (.iconst 0, 1, 0, 0, 0, 0) from rfl))
set_option maxRecDepth 20000 in
theorem u0_322 : wp r 0 322 [vR o, a1, a2, a3, a4, a5, a6] st x Q ↔ wp r 0 323 [vR o, a1, a2, a3, a4, a5, a6] (vR o :: st) x Q := (wp_u (show cd 0 322 = some (.aload_n 0, 1, 0, 0, 0, 0) from rfl))
set_option maxRecDepth 20000 in
theorem u0_323 : wp r 0 323 [a0, a1, a2, a3, vI z, a5, a6] st x Q ↔ wp r 0 325 [a0, a1, a2, a3, vI z, a5, a6] (vI z :: st) x Q := (wp_u (show cd 0 323 = some (.iload 4, 2, 0, 0, 0, 0) from rfl))
set_option maxRecDepth 20000 in
theorem u0_325 : wp r 0 325 ls st x Q ↔ wp r 0 326 ls (vI 3 :: st) x Q := (wp_u (show cd 0 325 = some (.iconst 3, 1, 0, 0, 0, 0) from rfl))
set_option maxRecDepth 20000 in
theorem u0_326 : wp r 0 326 ls (vI w :: vI z :: st) x Q ↔ inI (z + w) = true ∧ wp r 0 327 ls (vI (z + w) :: st) x Q := (wp_u (show cd 0 326 = some (.iadd, 1, 0, 0, 0, 0) from rfl)).trans wq_if
set_option maxRecDepth 20000 in
theorem u0_327 : wp r 0 327 ls (vI i :: vA q :: st) x Q ↔ ldk 20 (hK x q) i ∧ wp r 0 328 ls (vI (hI x q i) :: st) x Q := (wp_u (show cd 0 327 = some (.iaload, 1, 0, 0, 0, 0) from rfl)).trans g_ldI
set_option maxRecDepth 20000 in
theorem u0_328 : wp r 0 328 [a0, a1, a2, vR o, a4, a5, a6] st x Q ↔ wp r 0 329 [a0, a1, a2, vR o, a4, a5, a6] (vR o :: st) x Q := (wp_u (show cd 0 328 = some (.aload_n 3, 1, 0, 0, 0, 0) from rfl))
set_option maxRecDepth 20000 in
theorem u0_329 : wp r 0 329 ls (vR o4 :: vI z3 :: vI z2 :: vI z1 :: vR o0 :: st) x Q ↔ sml st = true ∧ 5 < r ∧ wpc 5 2 [vR o0, vI z1, vI z2, vI z3, vR o4] x (wk r 0 329 ls st Q) := (wp_u (show cd 0 329 = some (.invokestatic 83, 3, 2, 5, 5, 0) from rfl)).trans (g_stat (by decide) (by simp) rfl)
set_option maxRecDepth 20000 in
theorem u0_332 : wp r 0 332 [a0, a1, a2, a3, a4, a5, a6] (vI z :: st) x Q ↔ wp r 0 334 [a0, a1, a2, a3, a4, vI z, a6] st x Q := (wp_u (show cd 0 332 = some (.istore 5, 2, 0, 0, 0, 0) from rfl))
set_option maxRecDepth 20000 in
theorem u0_334 : wp r 0 334 [a0, a1, vR o, a3, a4, a5, a6] st x Q ↔ wp r 0 335 [a0, a1, vR o, a3, a4, a5, a6] (vR o :: st) x Q := (wp_u (show cd 0 334 = some (.aload_n 2, 1, 0, 0, 0, 0) from rfl))
set_option maxRecDepth 20000 in
theorem u0_335 : wp r 0 335 [vR o, a1, a2, a3, a4, a5, a6] st x Q ↔ wp r 0 336 [vR o, a1, a2, a3, a4, a5, a6] (vR o :: st) x Q := (wp_u (show cd 0 335 = some (.aload_n 0, 1, 0, 0, 0, 0) from rfl))
set_option maxRecDepth 20000 in
theorem u0_336 : wp r 0 336 [a0, a1, a2, a3, vI z, a5, a6] st x Q ↔ wp r 0 338 [a0, a1, a2, a3, vI z, a5, a6] (vI z :: st) x Q := (wp_u (show cd 0 336 = some (.iload 4, 2, 0, 0, 0, 0) from rfl))
set_option maxRecDepth 20000 in
theorem u0_338 : wp r 0 338 ls st x Q ↔ wp r 0 339 ls (vI 1 :: st) x Q := (wp_u (show cd 0 338 = some (.iconst 1, 1, 0, 0, 0, 0) from rfl))
set_option maxRecDepth 20000 in
theorem u0_339 : wp r 0 339 ls (vI w :: vI z :: st) x Q ↔ inI (z + w) = true ∧ wp r 0 340 ls (vI (z + w) :: st) x Q := (wp_u (show cd 0 339 = some (.iadd, 1, 0, 0, 0, 0) from rfl)).trans wq_if
set_option maxRecDepth 20000 in
theorem u0_340 : wp r 0 340 ls (vI i :: vA q :: st) x Q ↔ ldk 20 (hK x q) i ∧ wp r 0 341 ls (vI (hI x q i) :: st) x Q := (wp_u (show cd 0 340 = some (.iaload, 1, 0, 0, 0, 0) from rfl)).trans g_ldI
set_option maxRecDepth 20000 in
theorem u0_341 : wp r 0 341 [vR o, a1, a2, a3, a4, a5, a6] st x Q ↔ wp r 0 342 [vR o, a1, a2, a3, a4, a5, a6] (vR o :: st) x Q := (wp_u (show cd 0 341 = some (.aload_n 0, 1, 0, 0, 0, 0) from rfl))
set_option maxRecDepth 20000 in
theorem u0_342 : wp r 0 342 [a0, a1, a2, a3, vI z, a5, a6] st x Q ↔ wp r 0 344 [a0, a1, a2, a3, vI z, a5, a6] (vI z :: st) x Q := (wp_u (show cd 0 342 = some (.iload 4, 2, 0, 0, 0, 0) from rfl))
set_option maxRecDepth 20000 in
theorem u0_344 : wp r 0 344 ls st x Q ↔ wp r 0 345 ls (vI 2 :: st) x Q := (wp_u (show cd 0 344 = some (.iconst 2, 1, 0, 0, 0, 0) from rfl))
set_option maxRecDepth 20000 in
theorem u0_345 : wp r 0 345 ls (vI w :: vI z :: st) x Q ↔ inI (z + w) = true ∧ wp r 0 346 ls (vI (z + w) :: st) x Q := (wp_u (show cd 0 345 = some (.iadd, 1, 0, 0, 0, 0) from rfl)).trans wq_if
set_option maxRecDepth 20000 in
theorem u0_346 : wp r 0 346 ls (vI i :: vA q :: st) x Q ↔ ldk 20 (hK x q) i ∧ wp r 0 347 ls (vI (hI x q i) :: st) x Q := (wp_u (show cd 0 346 = some (.iaload, 1, 0, 0, 0, 0) from rfl)).trans g_ldI
set_option maxRecDepth 20000 in
theorem u0_347 : wp r 0 347 ls (vI z :: st) x Q ↔ if z = 0 then wp r 0 354 ls st x Q else wp r 0 350 ls st x Q := (wp_u (show cd 0 347 = some (.ifCond .eq 7, 3, 354, 0, 0, 0) from rfl)).trans wq_d
set_option maxRecDepth 20000 in
theorem u0_350 : wp r 0 350 ls st x Q ↔ wp r 0 351 ls (vI 1 :: st) x Q := (wp_u (show cd 0 350 = some (.iconst 1, 1, 0, 0, 0, 0) from rfl))
set_option maxRecDepth 20000 in
theorem u0_351 : wp r 0 351 ls st x Q ↔ wp r 0 355 ls st x Q := (wp_u (show cd 0 351 = some (.goto 4, 3, 355, 0, 0, 0) from rfl))
set_option maxRecDepth 20000 in
theorem u0_354 : wp r 0 354 ls st x Q ↔ wp r 0 355 ls (vI 0 :: st) x Q := (wp_u (show cd 0 354 = some (.iconst 0, 1, 0, 0, 0, 0) from rfl))
set_option maxRecDepth 20000 in
theorem u0_355 : wp r 0 355 [vR o, a1, a2, a3, a4, a5, a6] st x Q ↔ wp r 0 356 [vR o, a1, a2, a3, a4, a5, a6] (vR o :: st) x Q := (wp_u (show cd 0 355 = some (.aload_n 0, 1, 0, 0, 0, 0) from rfl))
set_option maxRecDepth 20000 in
theorem u0_356 : wp r 0 356 [a0, a1, a2, a3, vI z, a5, a6] st x Q ↔ wp r 0 358 [a0, a1, a2, a3, vI z, a5, a6] (vI z :: st) x Q := (wp_u (show cd 0 356 = some (.iload 4, 2, 0, 0, 0, 0) from rfl))
set_option maxRecDepth 20000 in
theorem u0_358 : wp r 0 358 ls st x Q ↔ wp r 0 359 ls (vI 3 :: st) x Q := (wp_u (show cd 0 358 = some (.iconst 3, 1, 0, 0, 0, 0) from rfl))
set_option maxRecDepth 20000 in
theorem u0_359 : wp r 0 359 ls (vI w :: vI z :: st) x Q ↔ inI (z + w) = true ∧ wp r 0 360 ls (vI (z + w) :: st) x Q := (wp_u (show cd 0 359 = some (.iadd, 1, 0, 0, 0, 0) from rfl)).trans wq_if
set_option maxRecDepth 20000 in
theorem u0_360 : wp r 0 360 ls (vI i :: vA q :: st) x Q ↔ ldk 20 (hK x q) i ∧ wp r 0 361 ls (vI (hI x q i) :: st) x Q := (wp_u (show cd 0 360 = some (.iaload, 1, 0, 0, 0, 0) from rfl)).trans g_ldI
set_option maxRecDepth 20000 in
theorem u0_361 : wp r 0 361 ls (vI z2 :: vI z1 :: vI z0 :: vA q :: st) x Q ↔ isk 9 (hK x q) ∧ sml st = true ∧ 3 < r ∧ wpc 3 91 [vA q, vI z0, vI z1, vI z2] x (wk r 0 361 ls st Q) := (wp_u (show cd 0 361 = some (.invokevirtual 86, 3, 91, 4, 3, 9) from rfl)).trans (g_virt rfl (by decide) (by simp) rfl)
set_option maxRecDepth 20000 in
theorem u0_364 : wp r 0 364 [a0, a1, a2, a3, a4, a5, a6] (vI z :: st) x Q ↔ wp r 0 366 [a0, a1, a2, a3, a4, a5, vI z] st x Q := (wp_u (show cd 0 364 = some (.istore 6, 2, 0, 0, 0, 0) from rfl))
set_option maxRecDepth 20000 in
theorem u0_366 : wp r 0 366 [a0, a1, vR o, a3, a4, a5, a6] st x Q ↔ wp r 0 367 [a0, a1, vR o, a3, a4, a5, a6] (vR o :: st) x Q := (wp_u (show cd 0 366 = some (.aload_n 2, 1, 0, 0, 0, 0) from rfl))
set_option maxRecDepth 20000 in
theorem u0_367 : wp r 0 367 ls (vA q :: st) x Q ↔ isk 9 (hK x q) ∧ sml st = true ∧ 1 < r ∧ wpc 1 90 [vA q] x (wk r 0 367 ls st Q) := (wp_u (show cd 0 367 = some (.invokevirtual 80, 3, 90, 1, 1, 9) from rfl)).trans (g_virt rfl (by decide) (by simp) rfl)
set_option maxRecDepth 20000 in
theorem u0_370 : wp r 0 370 [a0, a1, a2, a3, a4, vI z, a6] st x Q ↔ wp r 0 372 [a0, a1, a2, a3, a4, vI z, a6] (vI z :: st) x Q := (wp_u (show cd 0 370 = some (.iload 5, 2, 0, 0, 0, 0) from rfl))
set_option maxRecDepth 20000 in
theorem u0_372 : wp r 0 372 ls (vI w :: vI z :: st) x Q ↔ if z = w then wp r 0 377 ls st x Q else wp r 0 375 ls st x Q := (wp_u (show cd 0 372 = some (.if_icmp .eq 5, 3, 377, 0, 0, 0) from rfl)).trans wq_d
set_option maxRecDepth 20000 in
theorem u0_375 : wp r 0 375 ls st x Q ↔ wp r 0 376 ls (vI 0 :: st) x Q := (wp_u (show cd 0 375 = some (.iconst 0, 1, 0, 0, 0, 0) from rfl))
set_option maxRecDepth 20000 in
theorem u0_376 : wp r 0 376 ls [vI z] x Q ↔ rg 4 z = true ∧ Q (.inl (some (vI z))) x := (wp_u (show cd 0 376 = some (.ireturn, 1, 4, 0, 0, 0) from rfl)).trans wq_if
set_option maxRecDepth 20000 in
theorem u0_377 : wp r 0 377 [a0, a1, a2, a3, a4, vI z, a6] st x Q ↔ wp r 0 379 [a0, a1, a2, a3, a4, vI z, a6] (vI z :: st) x Q := (wp_u (show cd 0 377 = some (.iload 5, 2, 0, 0, 0, 0) from rfl))
set_option maxRecDepth 20000 in
theorem u0_379 : wp r 0 379 ls (vI z :: st) x Q ↔ if z = 0 then wp r 0 382 ls st x Q else wp r 0 394 ls st x Q := (wp_u (show cd 0 379 = some (.ifCond .ne 15, 3, 394, 0, 0, 0) from rfl)).trans wq_dn
set_option maxRecDepth 20000 in
theorem u0_382 : wp r 0 382 [a0, a1, a2, vR o, a4, a5, a6] st x Q ↔ wp r 0 383 [a0, a1, a2, vR o, a4, a5, a6] (vR o :: st) x Q := (wp_u (show cd 0 382 = some (.aload_n 3, 1, 0, 0, 0, 0) from rfl))
set_option maxRecDepth 20000 in
theorem u0_383 : wp r 0 383 ls st x Q ↔ wp r 0 384 ls (vI 0 :: st) x Q := (wp_u (show cd 0 383 = some (.iconst 0, 1, 0, 0, 0, 0) from rfl))
set_option maxRecDepth 20000 in
theorem u0_384 : wp r 0 384 ls (vI i :: vA q :: st) x Q ↔ ldk 25 (hK x q) i ∧ wp r 0 385 ls (vL (hI x q i) :: st) x Q := (wp_u (show cd 0 384 = some (.laload, 1, 0, 0, 0, 0) from rfl)).trans g_ldL
set_option maxRecDepth 20000 in
theorem u0_385 : wp r 0 385 [a0, a1, a2, a3, a4, a5, vI z] st x Q ↔ wp r 0 387 [a0, a1, a2, a3, a4, a5, vI z] (vI z :: st) x Q := (wp_u (show cd 0 385 = some (.iload 6, 2, 0, 0, 0, 0) from rfl))
set_option maxRecDepth 20000 in
theorem u0_387 : wp r 0 387 ls (vI z :: st) x Q ↔ wp r 0 388 ls (vL z :: st) x Q := (wp_u (show cd 0 387 = some (.i2l, 1, 0, 0, 0, 0) from rfl))
set_option maxRecDepth 20000 in
theorem u0_388 : wp r 0 388 ls (vL w :: vL z :: st) x Q ↔ wp r 0 389 ls (vI (lCmp z w) :: st) x Q := (wp_u (show cd 0 388 = some (.lcmp, 1, 0, 0, 0, 0) from rfl))
set_option maxRecDepth 20000 in
theorem u0_389 : wp r 0 389 ls (vI z :: st) x Q ↔ if z = 0 then wp r 0 394 ls st x Q else wp r 0 392 ls st x Q := (wp_u (show cd 0 389 = some (.ifCond .eq 5, 3, 394, 0, 0, 0) from rfl)).trans wq_d
set_option maxRecDepth 20000 in
theorem u0_392 : wp r 0 392 ls st x Q ↔ wp r 0 393 ls (vI 0 :: st) x Q := (wp_u (show cd 0 392 = some (.iconst 0, 1, 0, 0, 0, 0) from rfl))
set_option maxRecDepth 20000 in
theorem u0_393 : wp r 0 393 ls [vI z] x Q ↔ rg 4 z = true ∧ Q (.inl (some (vI z))) x := (wp_u (show cd 0 393 = some (.ireturn, 1, 4, 0, 0, 0) from rfl)).trans wq_if
set_option maxRecDepth 20000 in
theorem u0_394 : wp r 0 394 ls st x Q ↔ wp r 0 964 ls st x Q := (wp_u (show cd 0 394 = some (.goto 570, 3, 964, 0, 0, 0) from rfl))
set_option maxRecDepth 20000 in
theorem u0_397 : wp r 0 397 [a0, vR o, a2, a3, a4, a5, a6] st x Q ↔ wp r 0 398 [a0, vR o, a2, a3, a4, a5, a6] (vR o :: st) x Q := (wp_u (show cd 0 397 = some (.aload_n 1, 1, 0, 0, 0, 0) from rfl))
set_option maxRecDepth 20000 in
theorem u0_398 : wp r 0 398 [vR o, a1, a2, a3, a4, a5, a6] st x Q ↔ wp r 0 399 [vR o, a1, a2, a3, a4, a5, a6] (vR o :: st) x Q := (wp_u (show cd 0 398 = some (.aload_n 0, 1, 0, 0, 0, 0) from rfl))
set_option maxRecDepth 20000 in
theorem u0_399 : wp r 0 399 [a0, a1, a2, a3, vI z, a5, a6] st x Q ↔ wp r 0 401 [a0, a1, a2, a3, vI z, a5, a6] (vI z :: st) x Q := (wp_u (show cd 0 399 = some (.iload 4, 2, 0, 0, 0, 0) from rfl))
set_option maxRecDepth 20000 in
theorem u0_401 : wp r 0 401 ls st x Q ↔ wp r 0 402 ls (vI 1 :: st) x Q := (wp_u (show cd 0 401 = some (.iconst 1, 1, 0, 0, 0, 0) from rfl))
set_option maxRecDepth 20000 in
theorem u0_402 : wp r 0 402 ls (vI w :: vI z :: st) x Q ↔ inI (z + w) = true ∧ wp r 0 403 ls (vI (z + w) :: st) x Q := (wp_u (show cd 0 402 = some (.iadd, 1, 0, 0, 0, 0) from rfl)).trans wq_if
set_option maxRecDepth 20000 in
theorem u0_403 : wp r 0 403 ls (vI i :: vA q :: st) x Q ↔ ldk 20 (hK x q) i ∧ wp r 0 404 ls (vI (hI x q i) :: st) x Q := (wp_u (show cd 0 403 = some (.iaload, 1, 0, 0, 0, 0) from rfl)).trans g_ldI
set_option maxRecDepth 20000 in
theorem u0_404 : wp r 0 404 [a0, a1, a2, vR o, a4, a5, a6] st x Q ↔ wp r 0 405 [a0, a1, a2, vR o, a4, a5, a6] (vR o :: st) x Q := (wp_u (show cd 0 404 = some (.aload_n 3, 1, 0, 0, 0, 0) from rfl))
set_option maxRecDepth 20000 in
theorem u0_405 : wp r 0 405 ls (vR o2 :: vI z1 :: vR o0 :: st) x Q ↔ sml st = true ∧ 4 < r ∧ wpc 4 3 [vR o0, vI z1, vR o2] x (wk r 0 405 ls st Q) := (wp_u (show cd 0 405 = some (.invokestatic 87, 3, 3, 3, 4, 0) from rfl)).trans (g_stat (by decide) (by simp) rfl)
set_option maxRecDepth 20000 in
theorem u0_408 : wp r 0 408 [a0, a1, a2, a3, a4, a5, a6] (vI z :: st) x Q ↔ wp r 0 410 [a0, a1, a2, a3, a4, vI z, a6] st x Q := (wp_u (show cd 0 408 = some (.istore 5, 2, 0, 0, 0, 0) from rfl))
set_option maxRecDepth 20000 in
theorem u0_410 : wp r 0 410 [a0, a1, vR o, a3, a4, a5, a6] st x Q ↔ wp r 0 411 [a0, a1, vR o, a3, a4, a5, a6] (vR o :: st) x Q := (wp_u (show cd 0 410 = some (.aload_n 2, 1, 0, 0, 0, 0) from rfl))
set_option maxRecDepth 20000 in
theorem u0_411 : wp r 0 411 [vR o, a1, a2, a3, a4, a5, a6] st x Q ↔ wp r 0 412 [vR o, a1, a2, a3, a4, a5, a6] (vR o :: st) x Q := (wp_u (show cd 0 411 = some (.aload_n 0, 1, 0, 0, 0, 0) from rfl))
set_option maxRecDepth 20000 in
theorem u0_412 : wp r 0 412 [a0, a1, a2, a3, vI z, a5, a6] st x Q ↔ wp r 0 414 [a0, a1, a2, a3, vI z, a5, a6] (vI z :: st) x Q := (wp_u (show cd 0 412 = some (.iload 4, 2, 0, 0, 0, 0) from rfl))
set_option maxRecDepth 20000 in
theorem u0_414 : wp r 0 414 ls st x Q ↔ wp r 0 415 ls (vI 1 :: st) x Q := (wp_u (show cd 0 414 = some (.iconst 1, 1, 0, 0, 0, 0) from rfl))
set_option maxRecDepth 20000 in
theorem u0_415 : wp r 0 415 ls (vI w :: vI z :: st) x Q ↔ inI (z + w) = true ∧ wp r 0 416 ls (vI (z + w) :: st) x Q := (wp_u (show cd 0 415 = some (.iadd, 1, 0, 0, 0, 0) from rfl)).trans wq_if
set_option maxRecDepth 20000 in
theorem u0_416 : wp r 0 416 ls (vI i :: vA q :: st) x Q ↔ ldk 20 (hK x q) i ∧ wp r 0 417 ls (vI (hI x q i) :: st) x Q := (wp_u (show cd 0 416 = some (.iaload, 1, 0, 0, 0, 0) from rfl)).trans g_ldI
set_option maxRecDepth 20000 in
theorem u0_417 : wp r 0 417 ls (vI z0 :: vA q :: st) x Q ↔ isk 9 (hK x q) ∧ sml st = true ∧ 3 < r ∧ wpc 3 92 [vA q, vI z0] x (wk r 0 417 ls st Q) := (wp_u (show cd 0 417 = some (.invokevirtual 90, 3, 92, 2, 3, 9) from rfl)).trans (g_virt rfl (by decide) (by simp) rfl)
set_option maxRecDepth 20000 in
theorem u0_420 : wp r 0 420 [a0, a1, a2, a3, a4, a5, a6] (vI z :: st) x Q ↔ wp r 0 422 [a0, a1, a2, a3, a4, a5, vI z] st x Q := (wp_u (show cd 0 420 = some (.istore 6, 2, 0, 0, 0, 0) from rfl))
set_option maxRecDepth 20000 in
theorem u0_422 : wp r 0 422 [a0, a1, vR o, a3, a4, a5, a6] st x Q ↔ wp r 0 423 [a0, a1, vR o, a3, a4, a5, a6] (vR o :: st) x Q := (wp_u (show cd 0 422 = some (.aload_n 2, 1, 0, 0, 0, 0) from rfl))
set_option maxRecDepth 20000 in
theorem u0_423 : wp r 0 423 ls (vA q :: st) x Q ↔ isk 9 (hK x q) ∧ sml st = true ∧ 1 < r ∧ wpc 1 90 [vA q] x (wk r 0 423 ls st Q) := (wp_u (show cd 0 423 = some (.invokevirtual 80, 3, 90, 1, 1, 9) from rfl)).trans (g_virt rfl (by decide) (by simp) rfl)
set_option maxRecDepth 20000 in
theorem u0_426 : wp r 0 426 [a0, a1, a2, a3, a4, vI z, a6] st x Q ↔ wp r 0 428 [a0, a1, a2, a3, a4, vI z, a6] (vI z :: st) x Q := (wp_u (show cd 0 426 = some (.iload 5, 2, 0, 0, 0, 0) from rfl))
set_option maxRecDepth 20000 in
theorem u0_428 : wp r 0 428 ls (vI w :: vI z :: st) x Q ↔ if z = w then wp r 0 433 ls st x Q else wp r 0 431 ls st x Q := (wp_u (show cd 0 428 = some (.if_icmp .eq 5, 3, 433, 0, 0, 0) from rfl)).trans wq_d
set_option maxRecDepth 20000 in
theorem u0_431 : wp r 0 431 ls st x Q ↔ wp r 0 432 ls (vI 0 :: st) x Q := (wp_u (show cd 0 431 = some (.iconst 0, 1, 0, 0, 0, 0) from rfl))
set_option maxRecDepth 20000 in
theorem u0_432 : wp r 0 432 ls [vI z] x Q ↔ rg 4 z = true ∧ Q (.inl (some (vI z))) x := (wp_u (show cd 0 432 = some (.ireturn, 1, 4, 0, 0, 0) from rfl)).trans wq_if
set_option maxRecDepth 20000 in
theorem u0_433 : wp r 0 433 [a0, a1, a2, a3, a4, vI z, a6] st x Q ↔ wp r 0 435 [a0, a1, a2, a3, a4, vI z, a6] (vI z :: st) x Q := (wp_u (show cd 0 433 = some (.iload 5, 2, 0, 0, 0, 0) from rfl))
set_option maxRecDepth 20000 in
theorem u0_435 : wp r 0 435 ls (vI z :: st) x Q ↔ if z = 0 then wp r 0 438 ls st x Q else wp r 0 457 ls st x Q := (wp_u (show cd 0 435 = some (.ifCond .ne 22, 3, 457, 0, 0, 0) from rfl)).trans wq_dn
set_option maxRecDepth 20000 in
theorem u0_438 : wp r 0 438 [a0, a1, a2, vR o, a4, a5, a6] st x Q ↔ wp r 0 439 [a0, a1, a2, vR o, a4, a5, a6] (vR o :: st) x Q := (wp_u (show cd 0 438 = some (.aload_n 3, 1, 0, 0, 0, 0) from rfl))
set_option maxRecDepth 20000 in
theorem u0_439 : wp r 0 439 ls st x Q ↔ wp r 0 440 ls (vI 0 :: st) x Q := (wp_u (show cd 0 439 = some (.iconst 0, 1, 0, 0, 0, 0) from rfl))
set_option maxRecDepth 20000 in
theorem u0_440 : wp r 0 440 ls (vI i :: vA q :: st) x Q ↔ ldk 25 (hK x q) i ∧ wp r 0 441 ls (vL (hI x q i) :: st) x Q := (wp_u (show cd 0 440 = some (.laload, 1, 0, 0, 0, 0) from rfl)).trans g_ldL
set_option maxRecDepth 20000 in
theorem u0_441 : wp r 0 441 [a0, a1, a2, a3, a4, a5, vI z] st x Q ↔ wp r 0 443 [a0, a1, a2, a3, a4, a5, vI z] (vI z :: st) x Q := (wp_u (show cd 0 441 = some (.iload 6, 2, 0, 0, 0, 0) from rfl))
set_option maxRecDepth 20000 in
theorem u0_443 : wp r 0 443 ls (vI z :: st) x Q ↔ if z = 0 then wp r 0 450 ls st x Q else wp r 0 446 ls st x Q := (wp_u (show cd 0 443 = some (.ifCond .eq 7, 3, 450, 0, 0, 0) from rfl)).trans wq_d
set_option maxRecDepth 20000 in
theorem u0_446 : wp r 0 446 ls st x Q ↔ wp r 0 447 ls (vL 1 :: st) x Q := (wp_u (show cd 0 446 = some (.lconst 1, 1, 0, 0, 0, 0) from rfl))
set_option maxRecDepth 20000 in
theorem u0_447 : wp r 0 447 ls st x Q ↔ wp r 0 451 ls st x Q := (wp_u (show cd 0 447 = some (.goto 4, 3, 451, 0, 0, 0) from rfl))
set_option maxRecDepth 20000 in
theorem u0_450 : wp r 0 450 ls st x Q ↔ wp r 0 451 ls (vL 0 :: st) x Q := (wp_u (show cd 0 450 = some (.lconst 0, 1, 0, 0, 0, 0) from rfl))
set_option maxRecDepth 20000 in
theorem u0_451 : wp r 0 451 ls (vL w :: vL z :: st) x Q ↔ wp r 0 452 ls (vI (lCmp z w) :: st) x Q := (wp_u (show cd 0 451 = some (.lcmp, 1, 0, 0, 0, 0) from rfl))
set_option maxRecDepth 20000 in
theorem u0_452 : wp r 0 452 ls (vI z :: st) x Q ↔ if z = 0 then wp r 0 457 ls st x Q else wp r 0 455 ls st x Q := (wp_u (show cd 0 452 = some (.ifCond .eq 5, 3, 457, 0, 0, 0) from rfl)).trans wq_d
set_option maxRecDepth 20000 in
theorem u0_455 : wp r 0 455 ls st x Q ↔ wp r 0 456 ls (vI 0 :: st) x Q := (wp_u (show cd 0 455 = some (.iconst 0, 1, 0, 0, 0, 0) from rfl))
set_option maxRecDepth 20000 in
theorem u0_456 : wp r 0 456 ls [vI z] x Q ↔ rg 4 z = true ∧ Q (.inl (some (vI z))) x := (wp_u (show cd 0 456 = some (.ireturn, 1, 4, 0, 0, 0) from rfl)).trans wq_if
set_option maxRecDepth 20000 in
theorem u0_457 : wp r 0 457 ls st x Q ↔ wp r 0 964 ls st x Q := (wp_u (show cd 0 457 = some (.goto 507, 3, 964, 0, 0, 0) from rfl))
set_option maxRecDepth 20000 in
theorem u0_460 : wp r 0 460 [a0, vR o, a2, a3, a4, a5, a6] st x Q ↔ wp r 0 461 [a0, vR o, a2, a3, a4, a5, a6] (vR o :: st) x Q := (wp_u (show cd 0 460 = some (.aload_n 1, 1, 0, 0, 0, 0) from rfl))
set_option maxRecDepth 20000 in
theorem u0_461 : wp r 0 461 [vR o, a1, a2, a3, a4, a5, a6] st x Q ↔ wp r 0 462 [vR o, a1, a2, a3, a4, a5, a6] (vR o :: st) x Q := (wp_u (show cd 0 461 = some (.aload_n 0, 1, 0, 0, 0, 0) from rfl))
set_option maxRecDepth 20000 in
theorem u0_462 : wp r 0 462 [a0, a1, a2, a3, vI z, a5, a6] st x Q ↔ wp r 0 464 [a0, a1, a2, a3, vI z, a5, a6] (vI z :: st) x Q := (wp_u (show cd 0 462 = some (.iload 4, 2, 0, 0, 0, 0) from rfl))
set_option maxRecDepth 20000 in
theorem u0_464 : wp r 0 464 ls st x Q ↔ wp r 0 465 ls (vI 1 :: st) x Q := (wp_u (show cd 0 464 = some (.iconst 1, 1, 0, 0, 0, 0) from rfl))
set_option maxRecDepth 20000 in
theorem u0_465 : wp r 0 465 ls (vI w :: vI z :: st) x Q ↔ inI (z + w) = true ∧ wp r 0 466 ls (vI (z + w) :: st) x Q := (wp_u (show cd 0 465 = some (.iadd, 1, 0, 0, 0, 0) from rfl)).trans wq_if
set_option maxRecDepth 20000 in
theorem u0_466 : wp r 0 466 ls (vI i :: vA q :: st) x Q ↔ ldk 20 (hK x q) i ∧ wp r 0 467 ls (vI (hI x q i) :: st) x Q := (wp_u (show cd 0 466 = some (.iaload, 1, 0, 0, 0, 0) from rfl)).trans g_ldI
set_option maxRecDepth 20000 in
theorem u0_467 : wp r 0 467 [a0, a1, a2, vR o, a4, a5, a6] st x Q ↔ wp r 0 468 [a0, a1, a2, vR o, a4, a5, a6] (vR o :: st) x Q := (wp_u (show cd 0 467 = some (.aload_n 3, 1, 0, 0, 0, 0) from rfl))
set_option maxRecDepth 20000 in
theorem u0_468 : wp r 0 468 ls (vR o2 :: vI z1 :: vR o0 :: st) x Q ↔ sml st = true ∧ 8 < r ∧ wpc 8 4 [vR o0, vI z1, vR o2] x (wk r 0 468 ls st Q) := (wp_u (show cd 0 468 = some (.invokestatic 91, 3, 4, 3, 8, 0) from rfl)).trans (g_stat (by decide) (by simp) rfl)
set_option maxRecDepth 20000 in
theorem u0_471 : wp r 0 471 [a0, a1, a2, a3, a4, a5, a6] (vI z :: st) x Q ↔ wp r 0 473 [a0, a1, a2, a3, a4, vI z, a6] st x Q := (wp_u (show cd 0 471 = some (.istore 5, 2, 0, 0, 0, 0) from rfl))
set_option maxRecDepth 20000 in
theorem u0_473 : wp r 0 473 [a0, a1, vR o, a3, a4, a5, a6] st x Q ↔ wp r 0 474 [a0, a1, vR o, a3, a4, a5, a6] (vR o :: st) x Q := (wp_u (show cd 0 473 = some (.aload_n 2, 1, 0, 0, 0, 0) from rfl))
set_option maxRecDepth 20000 in
theorem u0_474 : wp r 0 474 [vR o, a1, a2, a3, a4, a5, a6] st x Q ↔ wp r 0 475 [vR o, a1, a2, a3, a4, a5, a6] (vR o :: st) x Q := (wp_u (show cd 0 474 = some (.aload_n 0, 1, 0, 0, 0, 0) from rfl))
set_option maxRecDepth 20000 in
theorem u0_475 : wp r 0 475 [a0, a1, a2, a3, vI z, a5, a6] st x Q ↔ wp r 0 477 [a0, a1, a2, a3, vI z, a5, a6] (vI z :: st) x Q := (wp_u (show cd 0 475 = some (.iload 4, 2, 0, 0, 0, 0) from rfl))
set_option maxRecDepth 20000 in
theorem u0_477 : wp r 0 477 ls st x Q ↔ wp r 0 478 ls (vI 1 :: st) x Q := (wp_u (show cd 0 477 = some (.iconst 1, 1, 0, 0, 0, 0) from rfl))
set_option maxRecDepth 20000 in
theorem u0_478 : wp r 0 478 ls (vI w :: vI z :: st) x Q ↔ inI (z + w) = true ∧ wp r 0 479 ls (vI (z + w) :: st) x Q := (wp_u (show cd 0 478 = some (.iadd, 1, 0, 0, 0, 0) from rfl)).trans wq_if
set_option maxRecDepth 20000 in
theorem u0_479 : wp r 0 479 ls (vI i :: vA q :: st) x Q ↔ ldk 20 (hK x q) i ∧ wp r 0 480 ls (vI (hI x q i) :: st) x Q := (wp_u (show cd 0 479 = some (.iaload, 1, 0, 0, 0, 0) from rfl)).trans g_ldI
set_option maxRecDepth 20000 in
theorem u0_480 : wp r 0 480 ls (vI z0 :: vA q :: st) x Q ↔ isk 9 (hK x q) ∧ sml st = true ∧ 2 < r ∧ wpc 2 93 [vA q, vI z0] x (wk r 0 480 ls st Q) := (wp_u (show cd 0 480 = some (.invokevirtual 93, 3, 93, 2, 2, 9) from rfl)).trans (g_virt rfl (by decide) (by simp) rfl)
set_option maxRecDepth 20000 in
theorem u0_483 : wp r 0 483 [a0, a1, a2, a3, a4, a5, a6] (vI z :: st) x Q ↔ wp r 0 485 [a0, a1, a2, a3, a4, a5, vI z] st x Q := (wp_u (show cd 0 483 = some (.istore 6, 2, 0, 0, 0, 0) from rfl))
set_option maxRecDepth 20000 in
theorem u0_485 : wp r 0 485 [a0, a1, vR o, a3, a4, a5, a6] st x Q ↔ wp r 0 486 [a0, a1, vR o, a3, a4, a5, a6] (vR o :: st) x Q := (wp_u (show cd 0 485 = some (.aload_n 2, 1, 0, 0, 0, 0) from rfl))
set_option maxRecDepth 20000 in
theorem u0_486 : wp r 0 486 ls (vA q :: st) x Q ↔ isk 9 (hK x q) ∧ sml st = true ∧ 1 < r ∧ wpc 1 90 [vA q] x (wk r 0 486 ls st Q) := (wp_u (show cd 0 486 = some (.invokevirtual 80, 3, 90, 1, 1, 9) from rfl)).trans (g_virt rfl (by decide) (by simp) rfl)
set_option maxRecDepth 20000 in
theorem u0_489 : wp r 0 489 [a0, a1, a2, a3, a4, vI z, a6] st x Q ↔ wp r 0 491 [a0, a1, a2, a3, a4, vI z, a6] (vI z :: st) x Q := (wp_u (show cd 0 489 = some (.iload 5, 2, 0, 0, 0, 0) from rfl))
set_option maxRecDepth 20000 in
theorem u0_491 : wp r 0 491 ls (vI w :: vI z :: st) x Q ↔ if z = w then wp r 0 496 ls st x Q else wp r 0 494 ls st x Q := (wp_u (show cd 0 491 = some (.if_icmp .eq 5, 3, 496, 0, 0, 0) from rfl)).trans wq_d
set_option maxRecDepth 20000 in
theorem u0_494 : wp r 0 494 ls st x Q ↔ wp r 0 495 ls (vI 0 :: st) x Q := (wp_u (show cd 0 494 = some (.iconst 0, 1, 0, 0, 0, 0) from rfl))
set_option maxRecDepth 20000 in
theorem u0_495 : wp r 0 495 ls [vI z] x Q ↔ rg 4 z = true ∧ Q (.inl (some (vI z))) x := (wp_u (show cd 0 495 = some (.ireturn, 1, 4, 0, 0, 0) from rfl)).trans wq_if
set_option maxRecDepth 20000 in
theorem u0_496 : wp r 0 496 [a0, a1, a2, a3, a4, vI z, a6] st x Q ↔ wp r 0 498 [a0, a1, a2, a3, a4, vI z, a6] (vI z :: st) x Q := (wp_u (show cd 0 496 = some (.iload 5, 2, 0, 0, 0, 0) from rfl))
set_option maxRecDepth 20000 in
theorem u0_498 : wp r 0 498 ls (vI z :: st) x Q ↔ if z = 0 then wp r 0 501 ls st x Q else wp r 0 520 ls st x Q := (wp_u (show cd 0 498 = some (.ifCond .ne 22, 3, 520, 0, 0, 0) from rfl)).trans wq_dn
set_option maxRecDepth 20000 in
theorem u0_501 : wp r 0 501 [a0, a1, a2, vR o, a4, a5, a6] st x Q ↔ wp r 0 502 [a0, a1, a2, vR o, a4, a5, a6] (vR o :: st) x Q := (wp_u (show cd 0 501 = some (.aload_n 3, 1, 0, 0, 0, 0) from rfl))
set_option maxRecDepth 20000 in
theorem u0_502 : wp r 0 502 ls st x Q ↔ wp r 0 503 ls (vI 0 :: st) x Q := (wp_u (show cd 0 502 = some (.iconst 0, 1, 0, 0, 0, 0) from rfl))
set_option maxRecDepth 20000 in
theorem u0_503 : wp r 0 503 ls (vI i :: vA q :: st) x Q ↔ ldk 25 (hK x q) i ∧ wp r 0 504 ls (vL (hI x q i) :: st) x Q := (wp_u (show cd 0 503 = some (.laload, 1, 0, 0, 0, 0) from rfl)).trans g_ldL
set_option maxRecDepth 20000 in
theorem u0_504 : wp r 0 504 [a0, a1, a2, a3, a4, a5, vI z] st x Q ↔ wp r 0 506 [a0, a1, a2, a3, a4, a5, vI z] (vI z :: st) x Q := (wp_u (show cd 0 504 = some (.iload 6, 2, 0, 0, 0, 0) from rfl))
set_option maxRecDepth 20000 in
theorem u0_506 : wp r 0 506 ls (vI z :: st) x Q ↔ if z = 0 then wp r 0 513 ls st x Q else wp r 0 509 ls st x Q := (wp_u (show cd 0 506 = some (.ifCond .eq 7, 3, 513, 0, 0, 0) from rfl)).trans wq_d
set_option maxRecDepth 20000 in
theorem u0_509 : wp r 0 509 ls st x Q ↔ wp r 0 510 ls (vL 1 :: st) x Q := (wp_u (show cd 0 509 = some (.lconst 1, 1, 0, 0, 0, 0) from rfl))
set_option maxRecDepth 20000 in
theorem u0_510 : wp r 0 510 ls st x Q ↔ wp r 0 514 ls st x Q := (wp_u (show cd 0 510 = some (.goto 4, 3, 514, 0, 0, 0) from rfl))
set_option maxRecDepth 20000 in
theorem u0_513 : wp r 0 513 ls st x Q ↔ wp r 0 514 ls (vL 0 :: st) x Q := (wp_u (show cd 0 513 = some (.lconst 0, 1, 0, 0, 0, 0) from rfl))
set_option maxRecDepth 20000 in
theorem u0_514 : wp r 0 514 ls (vL w :: vL z :: st) x Q ↔ wp r 0 515 ls (vI (lCmp z w) :: st) x Q := (wp_u (show cd 0 514 = some (.lcmp, 1, 0, 0, 0, 0) from rfl))
set_option maxRecDepth 20000 in
theorem u0_515 : wp r 0 515 ls (vI z :: st) x Q ↔ if z = 0 then wp r 0 520 ls st x Q else wp r 0 518 ls st x Q := (wp_u (show cd 0 515 = some (.ifCond .eq 5, 3, 520, 0, 0, 0) from rfl)).trans wq_d
set_option maxRecDepth 20000 in
theorem u0_518 : wp r 0 518 ls st x Q ↔ wp r 0 519 ls (vI 0 :: st) x Q := (wp_u (show cd 0 518 = some (.iconst 0, 1, 0, 0, 0, 0) from rfl))
set_option maxRecDepth 20000 in
theorem u0_519 : wp r 0 519 ls [vI z] x Q ↔ rg 4 z = true ∧ Q (.inl (some (vI z))) x := (wp_u (show cd 0 519 = some (.ireturn, 1, 4, 0, 0, 0) from rfl)).trans wq_if
set_option maxRecDepth 20000 in
theorem u0_520 : wp r 0 520 ls st x Q ↔ wp r 0 964 ls st x Q := (wp_u (show cd 0 520 = some (.goto 444, 3, 964, 0, 0, 0) from rfl))
set_option maxRecDepth 20000 in
theorem u0_523 : wp r 0 523 [a0, vR o, a2, a3, a4, a5, a6] st x Q ↔ wp r 0 524 [a0, vR o, a2, a3, a4, a5, a6] (vR o :: st) x Q := (wp_u (show cd 0 523 = some (.aload_n 1, 1, 0, 0, 0, 0) from rfl))
set_option maxRecDepth 20000 in
theorem u0_524 : wp r 0 524 [a0, a1, a2, vR o, a4, a5, a6] st x Q ↔ wp r 0 525 [a0, a1, a2, vR o, a4, a5, a6] (vR o :: st) x Q := (wp_u (show cd 0 524 = some (.aload_n 3, 1, 0, 0, 0, 0) from rfl))
set_option maxRecDepth 20000 in
theorem u0_525 : wp r 0 525 ls (vR o1 :: vR o0 :: st) x Q ↔ sml st = true ∧ 11 < r ∧ wpc 11 5 [vR o0, vR o1] x (wk r 0 525 ls st Q) := (wp_u (show cd 0 525 = some (.invokestatic 94, 3, 5, 2, 11, 0) from rfl)).trans (g_stat (by decide) (by simp) rfl)
set_option maxRecDepth 20000 in
theorem u0_528 : wp r 0 528 [a0, a1, a2, a3, a4, a5, a6] (vI z :: st) x Q ↔ wp r 0 530 [a0, a1, a2, a3, a4, vI z, a6] st x Q := (wp_u (show cd 0 528 = some (.istore 5, 2, 0, 0, 0, 0) from rfl))
set_option maxRecDepth 20000 in
theorem u0_530 : wp r 0 530 [a0, a1, vR o, a3, a4, a5, a6] st x Q ↔ wp r 0 531 [a0, a1, vR o, a3, a4, a5, a6] (vR o :: st) x Q := (wp_u (show cd 0 530 = some (.aload_n 2, 1, 0, 0, 0, 0) from rfl))
set_option maxRecDepth 20000 in
theorem u0_531 : wp r 0 531 ls (vA q :: st) x Q ↔ isk 9 (hK x q) ∧ sml st = true ∧ 5 < r ∧ wpc 5 94 [vA q] x (wk r 0 531 ls st Q) := (wp_u (show cd 0 531 = some (.invokevirtual 97, 3, 94, 1, 5, 9) from rfl)).trans (g_virt rfl (by decide) (by simp) rfl)
set_option maxRecDepth 20000 in
theorem u0_534 : wp r 0 534 [a0, a1, a2, a3, a4, a5, a6] (vI z :: st) x Q ↔ wp r 0 536 [a0, a1, a2, a3, a4, a5, vI z] st x Q := (wp_u (show cd 0 534 = some (.istore 6, 2, 0, 0, 0, 0) from rfl))
set_option maxRecDepth 20000 in
theorem u0_536 : wp r 0 536 [a0, a1, vR o, a3, a4, a5, a6] st x Q ↔ wp r 0 537 [a0, a1, vR o, a3, a4, a5, a6] (vR o :: st) x Q := (wp_u (show cd 0 536 = some (.aload_n 2, 1, 0, 0, 0, 0) from rfl))
set_option maxRecDepth 20000 in
theorem u0_537 : wp r 0 537 ls (vA q :: st) x Q ↔ isk 9 (hK x q) ∧ sml st = true ∧ 1 < r ∧ wpc 1 90 [vA q] x (wk r 0 537 ls st Q) := (wp_u (show cd 0 537 = some (.invokevirtual 80, 3, 90, 1, 1, 9) from rfl)).trans (g_virt rfl (by decide) (by simp) rfl)
set_option maxRecDepth 20000 in
theorem u0_540 : wp r 0 540 [a0, a1, a2, a3, a4, vI z, a6] st x Q ↔ wp r 0 542 [a0, a1, a2, a3, a4, vI z, a6] (vI z :: st) x Q := (wp_u (show cd 0 540 = some (.iload 5, 2, 0, 0, 0, 0) from rfl))
set_option maxRecDepth 20000 in
theorem u0_542 : wp r 0 542 ls (vI w :: vI z :: st) x Q ↔ if z = w then wp r 0 547 ls st x Q else wp r 0 545 ls st x Q := (wp_u (show cd 0 542 = some (.if_icmp .eq 5, 3, 547, 0, 0, 0) from rfl)).trans wq_d
set_option maxRecDepth 20000 in
theorem u0_545 : wp r 0 545 ls st x Q ↔ wp r 0 546 ls (vI 0 :: st) x Q := (wp_u (show cd 0 545 = some (.iconst 0, 1, 0, 0, 0, 0) from rfl))
set_option maxRecDepth 20000 in
theorem u0_546 : wp r 0 546 ls [vI z] x Q ↔ rg 4 z = true ∧ Q (.inl (some (vI z))) x := (wp_u (show cd 0 546 = some (.ireturn, 1, 4, 0, 0, 0) from rfl)).trans wq_if
set_option maxRecDepth 20000 in
theorem u0_547 : wp r 0 547 [a0, a1, a2, a3, a4, vI z, a6] st x Q ↔ wp r 0 549 [a0, a1, a2, a3, a4, vI z, a6] (vI z :: st) x Q := (wp_u (show cd 0 547 = some (.iload 5, 2, 0, 0, 0, 0) from rfl))
set_option maxRecDepth 20000 in
theorem u0_549 : wp r 0 549 ls (vI z :: st) x Q ↔ if z = 0 then wp r 0 552 ls st x Q else wp r 0 564 ls st x Q := (wp_u (show cd 0 549 = some (.ifCond .ne 15, 3, 564, 0, 0, 0) from rfl)).trans wq_dn
set_option maxRecDepth 20000 in
theorem u0_552 : wp r 0 552 [a0, a1, a2, vR o, a4, a5, a6] st x Q ↔ wp r 0 553 [a0, a1, a2, vR o, a4, a5, a6] (vR o :: st) x Q := (wp_u (show cd 0 552 = some (.aload_n 3, 1, 0, 0, 0, 0) from rfl))
set_option maxRecDepth 20000 in
theorem u0_553 : wp r 0 553 ls st x Q ↔ wp r 0 554 ls (vI 0 :: st) x Q := (wp_u (show cd 0 553 = some (.iconst 0, 1, 0, 0, 0, 0) from rfl))
set_option maxRecDepth 20000 in
theorem u0_554 : wp r 0 554 ls (vI i :: vA q :: st) x Q ↔ ldk 25 (hK x q) i ∧ wp r 0 555 ls (vL (hI x q i) :: st) x Q := (wp_u (show cd 0 554 = some (.laload, 1, 0, 0, 0, 0) from rfl)).trans g_ldL
set_option maxRecDepth 20000 in
theorem u0_555 : wp r 0 555 [a0, a1, a2, a3, a4, a5, vI z] st x Q ↔ wp r 0 557 [a0, a1, a2, a3, a4, a5, vI z] (vI z :: st) x Q := (wp_u (show cd 0 555 = some (.iload 6, 2, 0, 0, 0, 0) from rfl))
set_option maxRecDepth 20000 in
theorem u0_557 : wp r 0 557 ls (vI z :: st) x Q ↔ wp r 0 558 ls (vL z :: st) x Q := (wp_u (show cd 0 557 = some (.i2l, 1, 0, 0, 0, 0) from rfl))
set_option maxRecDepth 20000 in
theorem u0_558 : wp r 0 558 ls (vL w :: vL z :: st) x Q ↔ wp r 0 559 ls (vI (lCmp z w) :: st) x Q := (wp_u (show cd 0 558 = some (.lcmp, 1, 0, 0, 0, 0) from rfl))
set_option maxRecDepth 20000 in
theorem u0_559 : wp r 0 559 ls (vI z :: st) x Q ↔ if z = 0 then wp r 0 564 ls st x Q else wp r 0 562 ls st x Q := (wp_u (show cd 0 559 = some (.ifCond .eq 5, 3, 564, 0, 0, 0) from rfl)).trans wq_d
set_option maxRecDepth 20000 in
theorem u0_562 : wp r 0 562 ls st x Q ↔ wp r 0 563 ls (vI 0 :: st) x Q := (wp_u (show cd 0 562 = some (.iconst 0, 1, 0, 0, 0, 0) from rfl))
set_option maxRecDepth 20000 in
theorem u0_563 : wp r 0 563 ls [vI z] x Q ↔ rg 4 z = true ∧ Q (.inl (some (vI z))) x := (wp_u (show cd 0 563 = some (.ireturn, 1, 4, 0, 0, 0) from rfl)).trans wq_if
set_option maxRecDepth 20000 in
theorem u0_564 : wp r 0 564 ls st x Q ↔ wp r 0 964 ls st x Q := (wp_u (show cd 0 564 = some (.goto 400, 3, 964, 0, 0, 0) from rfl))
set_option maxRecDepth 20000 in
theorem u0_567 : wp r 0 567 [a0, vR o, a2, a3, a4, a5, a6] st x Q ↔ wp r 0 568 [a0, vR o, a2, a3, a4, a5, a6] (vR o :: st) x Q := (wp_u (show cd 0 567 = some (.aload_n 1, 1, 0, 0, 0, 0) from rfl))
set_option maxRecDepth 20000 in
theorem u0_568 : wp r 0 568 ls (vA q :: st) x Q ↔ isk 0 (hK x q) ∧ sml st = true ∧ 1 < r ∧ wpc 1 17 [vA q] x (wk r 0 568 ls st Q) := (wp_u (show cd 0 568 = some (.invokevirtual 98, 3, 17, 1, 1, 0) from rfl)).trans (g_virt rfl (by decide) (by simp) rfl)
set_option maxRecDepth 20000 in
theorem u0_571 : wp r 0 571 [a0, a1, vR o, a3, a4, a5, a6] st x Q ↔ wp r 0 572 [a0, a1, vR o, a3, a4, a5, a6] (vR o :: st) x Q := (wp_u (show cd 0 571 = some (.aload_n 2, 1, 0, 0, 0, 0) from rfl))
set_option maxRecDepth 20000 in
theorem u0_572 : wp r 0 572 ls (vA q :: st) x Q ↔ isk 9 (hK x q) ∧ sml st = true ∧ 1 < r ∧ wpc 1 95 [vA q] x (wk r 0 572 ls st Q) := (wp_u (show cd 0 572 = some (.invokevirtual 101, 3, 95, 1, 1, 9) from rfl)).trans (g_virt rfl (by decide) (by simp) rfl)
set_option maxRecDepth 20000 in
theorem u0_575 : wp r 0 575 ls (vI w :: vI z :: st) x Q ↔ if z = w then wp r 0 964 ls st x Q else wp r 0 578 ls st x Q := (wp_u (show cd 0 575 = some (.if_icmp .eq 389, 3, 964, 0, 0, 0) from rfl)).trans wq_d
set_option maxRecDepth 20000 in
theorem u0_578 : wp r 0 578 ls st x Q ↔ wp r 0 579 ls (vI 0 :: st) x Q := (wp_u (show cd 0 578 = some (.iconst 0, 1, 0, 0, 0, 0) from rfl))
set_option maxRecDepth 20000 in
theorem u0_579 : wp r 0 579 ls [vI z] x Q ↔ rg 4 z = true ∧ Q (.inl (some (vI z))) x := (wp_u (show cd 0 579 = some (.ireturn, 1, 4, 0, 0, 0) from rfl)).trans wq_if
set_option maxRecDepth 20000 in
theorem u0_580 : wp r 0 580 [a0, vR o, a2, a3, a4, a5, a6] st x Q ↔ wp r 0 581 [a0, vR o, a2, a3, a4, a5, a6] (vR o :: st) x Q := (wp_u (show cd 0 580 = some (.aload_n 1, 1, 0, 0, 0, 0) from rfl))
set_option maxRecDepth 20000 in
theorem u0_581 : wp r 0 581 [vR o, a1, a2, a3, a4, a5, a6] st x Q ↔ wp r 0 582 [vR o, a1, a2, a3, a4, a5, a6] (vR o :: st) x Q := (wp_u (show cd 0 581 = some (.aload_n 0, 1, 0, 0, 0, 0) from rfl))
set_option maxRecDepth 20000 in
theorem u0_582 : wp r 0 582 [a0, a1, a2, a3, vI z, a5, a6] st x Q ↔ wp r 0 584 [a0, a1, a2, a3, vI z, a5, a6] (vI z :: st) x Q := (wp_u (show cd 0 582 = some (.iload 4, 2, 0, 0, 0, 0) from rfl))
set_option maxRecDepth 20000 in
theorem u0_584 : wp r 0 584 ls st x Q ↔ wp r 0 585 ls (vI 1 :: st) x Q := (wp_u (show cd 0 584 = some (.iconst 1, 1, 0, 0, 0, 0) from rfl))
set_option maxRecDepth 20000 in
theorem u0_585 : wp r 0 585 ls (vI w :: vI z :: st) x Q ↔ inI (z + w) = true ∧ wp r 0 586 ls (vI (z + w) :: st) x Q := (wp_u (show cd 0 585 = some (.iadd, 1, 0, 0, 0, 0) from rfl)).trans wq_if
set_option maxRecDepth 20000 in
theorem u0_586 : wp r 0 586 ls (vI i :: vA q :: st) x Q ↔ ldk 20 (hK x q) i ∧ wp r 0 587 ls (vI (hI x q i) :: st) x Q := (wp_u (show cd 0 586 = some (.iaload, 1, 0, 0, 0, 0) from rfl)).trans g_ldI
set_option maxRecDepth 20000 in
theorem u0_587 : wp r 0 587 [a0, a1, a2, vR o, a4, a5, a6] st x Q ↔ wp r 0 588 [a0, a1, a2, vR o, a4, a5, a6] (vR o :: st) x Q := (wp_u (show cd 0 587 = some (.aload_n 3, 1, 0, 0, 0, 0) from rfl))
set_option maxRecDepth 20000 in
theorem u0_588 : wp r 0 588 ls (vR o2 :: vI z1 :: vR o0 :: st) x Q ↔ sml st = true ∧ 3 < r ∧ wpc 3 6 [vR o0, vI z1, vR o2] x (wk r 0 588 ls st Q) := (wp_u (show cd 0 588 = some (.invokestatic 102, 3, 6, 3, 3, 0) from rfl)).trans (g_stat (by decide) (by simp) rfl)
set_option maxRecDepth 20000 in
theorem u0_591 : wp r 0 591 [a0, a1, a2, a3, a4, a5, a6] (vI z :: st) x Q ↔ wp r 0 593 [a0, a1, a2, a3, a4, vI z, a6] st x Q := (wp_u (show cd 0 591 = some (.istore 5, 2, 0, 0, 0, 0) from rfl))
set_option maxRecDepth 20000 in
theorem u0_593 : wp r 0 593 [a0, a1, vR o, a3, a4, a5, a6] st x Q ↔ wp r 0 594 [a0, a1, vR o, a3, a4, a5, a6] (vR o :: st) x Q := (wp_u (show cd 0 593 = some (.aload_n 2, 1, 0, 0, 0, 0) from rfl))
set_option maxRecDepth 20000 in
theorem u0_594 : wp r 0 594 [vR o, a1, a2, a3, a4, a5, a6] st x Q ↔ wp r 0 595 [vR o, a1, a2, a3, a4, a5, a6] (vR o :: st) x Q := (wp_u (show cd 0 594 = some (.aload_n 0, 1, 0, 0, 0, 0) from rfl))
set_option maxRecDepth 20000 in
theorem u0_595 : wp r 0 595 [a0, a1, a2, a3, vI z, a5, a6] st x Q ↔ wp r 0 597 [a0, a1, a2, a3, vI z, a5, a6] (vI z :: st) x Q := (wp_u (show cd 0 595 = some (.iload 4, 2, 0, 0, 0, 0) from rfl))
set_option maxRecDepth 20000 in
theorem u0_597 : wp r 0 597 ls st x Q ↔ wp r 0 598 ls (vI 1 :: st) x Q := (wp_u (show cd 0 597 = some (.iconst 1, 1, 0, 0, 0, 0) from rfl))
set_option maxRecDepth 20000 in
theorem u0_598 : wp r 0 598 ls (vI w :: vI z :: st) x Q ↔ inI (z + w) = true ∧ wp r 0 599 ls (vI (z + w) :: st) x Q := (wp_u (show cd 0 598 = some (.iadd, 1, 0, 0, 0, 0) from rfl)).trans wq_if
set_option maxRecDepth 20000 in
theorem u0_599 : wp r 0 599 ls (vI i :: vA q :: st) x Q ↔ ldk 20 (hK x q) i ∧ wp r 0 600 ls (vI (hI x q i) :: st) x Q := (wp_u (show cd 0 599 = some (.iaload, 1, 0, 0, 0, 0) from rfl)).trans g_ldI
set_option maxRecDepth 20000 in
theorem u0_600 : wp r 0 600 ls (vI z0 :: vA q :: st) x Q ↔ isk 9 (hK x q) ∧ sml st = true ∧ 1 < r ∧ wpc 1 96 [vA q, vI z0] x (wk r 0 600 ls st Q) := (wp_u (show cd 0 600 = some (.invokevirtual 104, 3, 96, 2, 1, 9) from rfl)).trans (g_virt rfl (by decide) (by simp) rfl)
set_option maxRecDepth 20000 in
theorem u0_603 : wp r 0 603 [a0, a1, a2, a3, a4, a5, a6] (vI z :: st) x Q ↔ wp r 0 605 [a0, a1, a2, a3, a4, a5, vI z] st x Q := (wp_u (show cd 0 603 = some (.istore 6, 2, 0, 0, 0, 0) from rfl))
set_option maxRecDepth 20000 in
theorem u0_605 : wp r 0 605 [a0, a1, vR o, a3, a4, a5, a6] st x Q ↔ wp r 0 606 [a0, a1, vR o, a3, a4, a5, a6] (vR o :: st) x Q := (wp_u (show cd 0 605 = some (.aload_n 2, 1, 0, 0, 0, 0) from rfl))
set_option maxRecDepth 20000 in
theorem u0_606 : wp r 0 606 ls (vA q :: st) x Q ↔ isk 9 (hK x q) ∧ sml st = true ∧ 1 < r ∧ wpc 1 90 [vA q] x (wk r 0 606 ls st Q) := (wp_u (show cd 0 606 = some (.invokevirtual 80, 3, 90, 1, 1, 9) from rfl)).trans (g_virt rfl (by decide) (by simp) rfl)
set_option maxRecDepth 20000 in
theorem u0_609 : wp r 0 609 [a0, a1, a2, a3, a4, vI z, a6] st x Q ↔ wp r 0 611 [a0, a1, a2, a3, a4, vI z, a6] (vI z :: st) x Q := (wp_u (show cd 0 609 = some (.iload 5, 2, 0, 0, 0, 0) from rfl))
set_option maxRecDepth 20000 in
theorem u0_611 : wp r 0 611 ls (vI w :: vI z :: st) x Q ↔ if z = w then wp r 0 616 ls st x Q else wp r 0 614 ls st x Q := (wp_u (show cd 0 611 = some (.if_icmp .eq 5, 3, 616, 0, 0, 0) from rfl)).trans wq_d
set_option maxRecDepth 20000 in
theorem u0_614 : wp r 0 614 ls st x Q ↔ wp r 0 615 ls (vI 0 :: st) x Q := (wp_u (show cd 0 614 = some (.iconst 0, 1, 0, 0, 0, 0) from rfl))
set_option maxRecDepth 20000 in
theorem u0_615 : wp r 0 615 ls [vI z] x Q ↔ rg 4 z = true ∧ Q (.inl (some (vI z))) x := (wp_u (show cd 0 615 = some (.ireturn, 1, 4, 0, 0, 0) from rfl)).trans wq_if
set_option maxRecDepth 20000 in
theorem u0_616 : wp r 0 616 [a0, a1, a2, a3, a4, vI z, a6] st x Q ↔ wp r 0 618 [a0, a1, a2, a3, a4, vI z, a6] (vI z :: st) x Q := (wp_u (show cd 0 616 = some (.iload 5, 2, 0, 0, 0, 0) from rfl))
set_option maxRecDepth 20000 in
theorem u0_618 : wp r 0 618 ls (vI z :: st) x Q ↔ if z = 0 then wp r 0 621 ls st x Q else wp r 0 633 ls st x Q := (wp_u (show cd 0 618 = some (.ifCond .ne 15, 3, 633, 0, 0, 0) from rfl)).trans wq_dn
set_option maxRecDepth 20000 in
theorem u0_621 : wp r 0 621 [a0, a1, a2, vR o, a4, a5, a6] st x Q ↔ wp r 0 622 [a0, a1, a2, vR o, a4, a5, a6] (vR o :: st) x Q := (wp_u (show cd 0 621 = some (.aload_n 3, 1, 0, 0, 0, 0) from rfl))
set_option maxRecDepth 20000 in
theorem u0_622 : wp r 0 622 ls st x Q ↔ wp r 0 623 ls (vI 0 :: st) x Q := (wp_u (show cd 0 622 = some (.iconst 0, 1, 0, 0, 0, 0) from rfl))
set_option maxRecDepth 20000 in
theorem u0_623 : wp r 0 623 ls (vI i :: vA q :: st) x Q ↔ ldk 25 (hK x q) i ∧ wp r 0 624 ls (vL (hI x q i) :: st) x Q := (wp_u (show cd 0 623 = some (.laload, 1, 0, 0, 0, 0) from rfl)).trans g_ldL
set_option maxRecDepth 20000 in
theorem u0_624 : wp r 0 624 [a0, a1, a2, a3, a4, a5, vI z] st x Q ↔ wp r 0 626 [a0, a1, a2, a3, a4, a5, vI z] (vI z :: st) x Q := (wp_u (show cd 0 624 = some (.iload 6, 2, 0, 0, 0, 0) from rfl))
set_option maxRecDepth 20000 in
theorem u0_626 : wp r 0 626 ls (vI z :: st) x Q ↔ wp r 0 627 ls (vL z :: st) x Q := (wp_u (show cd 0 626 = some (.i2l, 1, 0, 0, 0, 0) from rfl))
set_option maxRecDepth 20000 in
theorem u0_627 : wp r 0 627 ls (vL w :: vL z :: st) x Q ↔ wp r 0 628 ls (vI (lCmp z w) :: st) x Q := (wp_u (show cd 0 627 = some (.lcmp, 1, 0, 0, 0, 0) from rfl))
set_option maxRecDepth 20000 in
theorem u0_628 : wp r 0 628 ls (vI z :: st) x Q ↔ if z = 0 then wp r 0 633 ls st x Q else wp r 0 631 ls st x Q := (wp_u (show cd 0 628 = some (.ifCond .eq 5, 3, 633, 0, 0, 0) from rfl)).trans wq_d
set_option maxRecDepth 20000 in
theorem u0_631 : wp r 0 631 ls st x Q ↔ wp r 0 632 ls (vI 0 :: st) x Q := (wp_u (show cd 0 631 = some (.iconst 0, 1, 0, 0, 0, 0) from rfl))
set_option maxRecDepth 20000 in
theorem u0_632 : wp r 0 632 ls [vI z] x Q ↔ rg 4 z = true ∧ Q (.inl (some (vI z))) x := (wp_u (show cd 0 632 = some (.ireturn, 1, 4, 0, 0, 0) from rfl)).trans wq_if
set_option maxRecDepth 20000 in
theorem u0_633 : wp r 0 633 ls st x Q ↔ wp r 0 964 ls st x Q := (wp_u (show cd 0 633 = some (.goto 331, 3, 964, 0, 0, 0) from rfl))
set_option maxRecDepth 20000 in
theorem u0_636 : wp r 0 636 [a0, vR o, a2, a3, a4, a5, a6] st x Q ↔ wp r 0 637 [a0, vR o, a2, a3, a4, a5, a6] (vR o :: st) x Q := (wp_u (show cd 0 636 = some (.aload_n 1, 1, 0, 0, 0, 0) from rfl))
set_option maxRecDepth 20000 in
theorem u0_637 : wp r 0 637 [vR o, a1, a2, a3, a4, a5, a6] st x Q ↔ wp r 0 638 [vR o, a1, a2, a3, a4, a5, a6] (vR o :: st) x Q := (wp_u (show cd 0 637 = some (.aload_n 0, 1, 0, 0, 0, 0) from rfl))
set_option maxRecDepth 20000 in
theorem u0_638 : wp r 0 638 [a0, a1, a2, a3, vI z, a5, a6] st x Q ↔ wp r 0 640 [a0, a1, a2, a3, vI z, a5, a6] (vI z :: st) x Q := (wp_u (show cd 0 638 = some (.iload 4, 2, 0, 0, 0, 0) from rfl))
set_option maxRecDepth 20000 in
theorem u0_640 : wp r 0 640 ls st x Q ↔ wp r 0 641 ls (vI 1 :: st) x Q := (wp_u (show cd 0 640 = some (.iconst 1, 1, 0, 0, 0, 0) from rfl))
set_option maxRecDepth 20000 in
theorem u0_641 : wp r 0 641 ls (vI w :: vI z :: st) x Q ↔ inI (z + w) = true ∧ wp r 0 642 ls (vI (z + w) :: st) x Q := (wp_u (show cd 0 641 = some (.iadd, 1, 0, 0, 0, 0) from rfl)).trans wq_if
set_option maxRecDepth 20000 in
theorem u0_642 : wp r 0 642 ls (vI i :: vA q :: st) x Q ↔ ldk 20 (hK x q) i ∧ wp r 0 643 ls (vI (hI x q i) :: st) x Q := (wp_u (show cd 0 642 = some (.iaload, 1, 0, 0, 0, 0) from rfl)).trans g_ldI
set_option maxRecDepth 20000 in
theorem u0_643 : wp r 0 643 [vR o, a1, a2, a3, a4, a5, a6] st x Q ↔ wp r 0 644 [vR o, a1, a2, a3, a4, a5, a6] (vR o :: st) x Q := (wp_u (show cd 0 643 = some (.aload_n 0, 1, 0, 0, 0, 0) from rfl))
set_option maxRecDepth 20000 in
theorem u0_644 : wp r 0 644 [a0, a1, a2, a3, vI z, a5, a6] st x Q ↔ wp r 0 646 [a0, a1, a2, a3, vI z, a5, a6] (vI z :: st) x Q := (wp_u (show cd 0 644 = some (.iload 4, 2, 0, 0, 0, 0) from rfl))
set_option maxRecDepth 20000 in
theorem u0_646 : wp r 0 646 ls st x Q ↔ wp r 0 647 ls (vI 2 :: st) x Q := (wp_u (show cd 0 646 = some (.iconst 2, 1, 0, 0, 0, 0) from rfl))
set_option maxRecDepth 20000 in
theorem u0_647 : wp r 0 647 ls (vI w :: vI z :: st) x Q ↔ inI (z + w) = true ∧ wp r 0 648 ls (vI (z + w) :: st) x Q := (wp_u (show cd 0 647 = some (.iadd, 1, 0, 0, 0, 0) from rfl)).trans wq_if
set_option maxRecDepth 20000 in
theorem u0_648 : wp r 0 648 ls (vI i :: vA q :: st) x Q ↔ ldk 20 (hK x q) i ∧ wp r 0 649 ls (vI (hI x q i) :: st) x Q := (wp_u (show cd 0 648 = some (.iaload, 1, 0, 0, 0, 0) from rfl)).trans g_ldI
set_option maxRecDepth 20000 in
theorem u0_649 : wp r 0 649 [a0, a1, a2, vR o, a4, a5, a6] st x Q ↔ wp r 0 650 [a0, a1, a2, vR o, a4, a5, a6] (vR o :: st) x Q := (wp_u (show cd 0 649 = some (.aload_n 3, 1, 0, 0, 0, 0) from rfl))
set_option maxRecDepth 20000 in
theorem u0_650 : wp r 0 650 ls (vR o3 :: vI z2 :: vI z1 :: vR o0 :: st) x Q ↔ sml st = true ∧ 3 < r ∧ wpc 3 7 [vR o0, vI z1, vI z2, vR o3] x (wk r 0 650 ls st Q) := (wp_u (show cd 0 650 = some (.invokestatic 105, 3, 7, 4, 3, 0) from rfl)).trans (g_stat (by decide) (by simp) rfl)
set_option maxRecDepth 20000 in
theorem u0_653 : wp r 0 653 [a0, a1, a2, a3, a4, a5, a6] (vI z :: st) x Q ↔ wp r 0 655 [a0, a1, a2, a3, a4, vI z, a6] st x Q := (wp_u (show cd 0 653 = some (.istore 5, 2, 0, 0, 0, 0) from rfl))
set_option maxRecDepth 20000 in
theorem u0_655 : wp r 0 655 [a0, a1, vR o, a3, a4, a5, a6] st x Q ↔ wp r 0 656 [a0, a1, vR o, a3, a4, a5, a6] (vR o :: st) x Q := (wp_u (show cd 0 655 = some (.aload_n 2, 1, 0, 0, 0, 0) from rfl))
set_option maxRecDepth 20000 in
theorem u0_656 : wp r 0 656 [vR o, a1, a2, a3, a4, a5, a6] st x Q ↔ wp r 0 657 [vR o, a1, a2, a3, a4, a5, a6] (vR o :: st) x Q := (wp_u (show cd 0 656 = some (.aload_n 0, 1, 0, 0, 0, 0) from rfl))
set_option maxRecDepth 20000 in
theorem u0_657 : wp r 0 657 [a0, a1, a2, a3, vI z, a5, a6] st x Q ↔ wp r 0 659 [a0, a1, a2, a3, vI z, a5, a6] (vI z :: st) x Q := (wp_u (show cd 0 657 = some (.iload 4, 2, 0, 0, 0, 0) from rfl))
set_option maxRecDepth 20000 in
theorem u0_659 : wp r 0 659 ls st x Q ↔ wp r 0 660 ls (vI 1 :: st) x Q := (wp_u (show cd 0 659 = some (.iconst 1, 1, 0, 0, 0, 0) from rfl))
set_option maxRecDepth 20000 in
theorem u0_660 : wp r 0 660 ls (vI w :: vI z :: st) x Q ↔ inI (z + w) = true ∧ wp r 0 661 ls (vI (z + w) :: st) x Q := (wp_u (show cd 0 660 = some (.iadd, 1, 0, 0, 0, 0) from rfl)).trans wq_if
set_option maxRecDepth 20000 in
theorem u0_661 : wp r 0 661 ls (vI i :: vA q :: st) x Q ↔ ldk 20 (hK x q) i ∧ wp r 0 662 ls (vI (hI x q i) :: st) x Q := (wp_u (show cd 0 661 = some (.iaload, 1, 0, 0, 0, 0) from rfl)).trans g_ldI
set_option maxRecDepth 20000 in
theorem u0_662 : wp r 0 662 [vR o, a1, a2, a3, a4, a5, a6] st x Q ↔ wp r 0 663 [vR o, a1, a2, a3, a4, a5, a6] (vR o :: st) x Q := (wp_u (show cd 0 662 = some (.aload_n 0, 1, 0, 0, 0, 0) from rfl))
set_option maxRecDepth 20000 in
theorem u0_663 : wp r 0 663 [a0, a1, a2, a3, vI z, a5, a6] st x Q ↔ wp r 0 665 [a0, a1, a2, a3, vI z, a5, a6] (vI z :: st) x Q := (wp_u (show cd 0 663 = some (.iload 4, 2, 0, 0, 0, 0) from rfl))
set_option maxRecDepth 20000 in
theorem u0_665 : wp r 0 665 ls st x Q ↔ wp r 0 666 ls (vI 2 :: st) x Q := (wp_u (show cd 0 665 = some (.iconst 2, 1, 0, 0, 0, 0) from rfl))
set_option maxRecDepth 20000 in
theorem u0_666 : wp r 0 666 ls (vI w :: vI z :: st) x Q ↔ inI (z + w) = true ∧ wp r 0 667 ls (vI (z + w) :: st) x Q := (wp_u (show cd 0 666 = some (.iadd, 1, 0, 0, 0, 0) from rfl)).trans wq_if
set_option maxRecDepth 20000 in
theorem u0_667 : wp r 0 667 ls (vI i :: vA q :: st) x Q ↔ ldk 20 (hK x q) i ∧ wp r 0 668 ls (vI (hI x q i) :: st) x Q := (wp_u (show cd 0 667 = some (.iaload, 1, 0, 0, 0, 0) from rfl)).trans g_ldI
set_option maxRecDepth 20000 in
theorem u0_668 : wp r 0 668 ls (vI z1 :: vI z0 :: vA q :: st) x Q ↔ isk 9 (hK x q) ∧ sml st = true ∧ 1 < r ∧ wpc 1 97 [vA q, vI z0, vI z1] x (wk r 0 668 ls st Q) := (wp_u (show cd 0 668 = some (.invokevirtual 108, 3, 97, 3, 1, 9) from rfl)).trans (g_virt rfl (by decide) (by simp) rfl)
set_option maxRecDepth 20000 in
theorem u0_671 : wp r 0 671 [a0, a1, a2, a3, a4, a5, a6] (vI z :: st) x Q ↔ wp r 0 673 [a0, a1, a2, a3, a4, a5, vI z] st x Q := (wp_u (show cd 0 671 = some (.istore 6, 2, 0, 0, 0, 0) from rfl))
set_option maxRecDepth 20000 in
theorem u0_673 : wp r 0 673 [a0, a1, vR o, a3, a4, a5, a6] st x Q ↔ wp r 0 674 [a0, a1, vR o, a3, a4, a5, a6] (vR o :: st) x Q := (wp_u (show cd 0 673 = some (.aload_n 2, 1, 0, 0, 0, 0) from rfl))
set_option maxRecDepth 20000 in
theorem u0_674 : wp r 0 674 ls (vA q :: st) x Q ↔ isk 9 (hK x q) ∧ sml st = true ∧ 1 < r ∧ wpc 1 90 [vA q] x (wk r 0 674 ls st Q) := (wp_u (show cd 0 674 = some (.invokevirtual 80, 3, 90, 1, 1, 9) from rfl)).trans (g_virt rfl (by decide) (by simp) rfl)
set_option maxRecDepth 20000 in
theorem u0_677 : wp r 0 677 [a0, a1, a2, a3, a4, vI z, a6] st x Q ↔ wp r 0 679 [a0, a1, a2, a3, a4, vI z, a6] (vI z :: st) x Q := (wp_u (show cd 0 677 = some (.iload 5, 2, 0, 0, 0, 0) from rfl))
set_option maxRecDepth 20000 in
theorem u0_679 : wp r 0 679 ls (vI w :: vI z :: st) x Q ↔ if z = w then wp r 0 684 ls st x Q else wp r 0 682 ls st x Q := (wp_u (show cd 0 679 = some (.if_icmp .eq 5, 3, 684, 0, 0, 0) from rfl)).trans wq_d
set_option maxRecDepth 20000 in
theorem u0_682 : wp r 0 682 ls st x Q ↔ wp r 0 683 ls (vI 0 :: st) x Q := (wp_u (show cd 0 682 = some (.iconst 0, 1, 0, 0, 0, 0) from rfl))
set_option maxRecDepth 20000 in
theorem u0_683 : wp r 0 683 ls [vI z] x Q ↔ rg 4 z = true ∧ Q (.inl (some (vI z))) x := (wp_u (show cd 0 683 = some (.ireturn, 1, 4, 0, 0, 0) from rfl)).trans wq_if
set_option maxRecDepth 20000 in
theorem u0_684 : wp r 0 684 [a0, a1, a2, a3, a4, vI z, a6] st x Q ↔ wp r 0 686 [a0, a1, a2, a3, a4, vI z, a6] (vI z :: st) x Q := (wp_u (show cd 0 684 = some (.iload 5, 2, 0, 0, 0, 0) from rfl))
set_option maxRecDepth 20000 in
theorem u0_686 : wp r 0 686 ls (vI z :: st) x Q ↔ if z = 0 then wp r 0 689 ls st x Q else wp r 0 701 ls st x Q := (wp_u (show cd 0 686 = some (.ifCond .ne 15, 3, 701, 0, 0, 0) from rfl)).trans wq_dn
set_option maxRecDepth 20000 in
theorem u0_689 : wp r 0 689 [a0, a1, a2, vR o, a4, a5, a6] st x Q ↔ wp r 0 690 [a0, a1, a2, vR o, a4, a5, a6] (vR o :: st) x Q := (wp_u (show cd 0 689 = some (.aload_n 3, 1, 0, 0, 0, 0) from rfl))
set_option maxRecDepth 20000 in
theorem u0_690 : wp r 0 690 ls st x Q ↔ wp r 0 691 ls (vI 0 :: st) x Q := (wp_u (show cd 0 690 = some (.iconst 0, 1, 0, 0, 0, 0) from rfl))
set_option maxRecDepth 20000 in
theorem u0_691 : wp r 0 691 ls (vI i :: vA q :: st) x Q ↔ ldk 25 (hK x q) i ∧ wp r 0 692 ls (vL (hI x q i) :: st) x Q := (wp_u (show cd 0 691 = some (.laload, 1, 0, 0, 0, 0) from rfl)).trans g_ldL
set_option maxRecDepth 20000 in
theorem u0_692 : wp r 0 692 [a0, a1, a2, a3, a4, a5, vI z] st x Q ↔ wp r 0 694 [a0, a1, a2, a3, a4, a5, vI z] (vI z :: st) x Q := (wp_u (show cd 0 692 = some (.iload 6, 2, 0, 0, 0, 0) from rfl))
set_option maxRecDepth 20000 in
theorem u0_694 : wp r 0 694 ls (vI z :: st) x Q ↔ wp r 0 695 ls (vL z :: st) x Q := (wp_u (show cd 0 694 = some (.i2l, 1, 0, 0, 0, 0) from rfl))
set_option maxRecDepth 20000 in
theorem u0_695 : wp r 0 695 ls (vL w :: vL z :: st) x Q ↔ wp r 0 696 ls (vI (lCmp z w) :: st) x Q := (wp_u (show cd 0 695 = some (.lcmp, 1, 0, 0, 0, 0) from rfl))
set_option maxRecDepth 20000 in
theorem u0_696 : wp r 0 696 ls (vI z :: st) x Q ↔ if z = 0 then wp r 0 701 ls st x Q else wp r 0 699 ls st x Q := (wp_u (show cd 0 696 = some (.ifCond .eq 5, 3, 701, 0, 0, 0) from rfl)).trans wq_d
set_option maxRecDepth 20000 in
theorem u0_699 : wp r 0 699 ls st x Q ↔ wp r 0 700 ls (vI 0 :: st) x Q := (wp_u (show cd 0 699 = some (.iconst 0, 1, 0, 0, 0, 0) from rfl))
set_option maxRecDepth 20000 in
theorem u0_700 : wp r 0 700 ls [vI z] x Q ↔ rg 4 z = true ∧ Q (.inl (some (vI z))) x := (wp_u (show cd 0 700 = some (.ireturn, 1, 4, 0, 0, 0) from rfl)).trans wq_if
set_option maxRecDepth 20000 in
theorem u0_701 : wp r 0 701 ls st x Q ↔ wp r 0 964 ls st x Q := (wp_u (show cd 0 701 = some (.goto 263, 3, 964, 0, 0, 0) from rfl))
set_option maxRecDepth 20000 in
theorem u0_704 : wp r 0 704 [a0, vR o, a2, a3, a4, a5, a6] st x Q ↔ wp r 0 705 [a0, vR o, a2, a3, a4, a5, a6] (vR o :: st) x Q := (wp_u (show cd 0 704 = some (.aload_n 1, 1, 0, 0, 0, 0) from rfl))
set_option maxRecDepth 20000 in
theorem u0_705 : wp r 0 705 [vR o, a1, a2, a3, a4, a5, a6] st x Q ↔ wp r 0 706 [vR o, a1, a2, a3, a4, a5, a6] (vR o :: st) x Q := (wp_u (show cd 0 705 = some (.aload_n 0, 1, 0, 0, 0, 0) from rfl))
set_option maxRecDepth 20000 in
theorem u0_706 : wp r 0 706 [a0, a1, a2, a3, vI z, a5, a6] st x Q ↔ wp r 0 708 [a0, a1, a2, a3, vI z, a5, a6] (vI z :: st) x Q := (wp_u (show cd 0 706 = some (.iload 4, 2, 0, 0, 0, 0) from rfl))
set_option maxRecDepth 20000 in
theorem u0_708 : wp r 0 708 ls st x Q ↔ wp r 0 709 ls (vI 1 :: st) x Q := (wp_u (show cd 0 708 = some (.iconst 1, 1, 0, 0, 0, 0) from rfl))
set_option maxRecDepth 20000 in
theorem u0_709 : wp r 0 709 ls (vI w :: vI z :: st) x Q ↔ inI (z + w) = true ∧ wp r 0 710 ls (vI (z + w) :: st) x Q := (wp_u (show cd 0 709 = some (.iadd, 1, 0, 0, 0, 0) from rfl)).trans wq_if
set_option maxRecDepth 20000 in
theorem u0_710 : wp r 0 710 ls (vI i :: vA q :: st) x Q ↔ ldk 20 (hK x q) i ∧ wp r 0 711 ls (vI (hI x q i) :: st) x Q := (wp_u (show cd 0 710 = some (.iaload, 1, 0, 0, 0, 0) from rfl)).trans g_ldI
set_option maxRecDepth 20000 in
theorem u0_711 : wp r 0 711 [a0, a1, a2, vR o, a4, a5, a6] st x Q ↔ wp r 0 712 [a0, a1, a2, vR o, a4, a5, a6] (vR o :: st) x Q := (wp_u (show cd 0 711 = some (.aload_n 3, 1, 0, 0, 0, 0) from rfl))
set_option maxRecDepth 20000 in
theorem u0_712 : wp r 0 712 ls (vR o2 :: vI z1 :: vR o0 :: st) x Q ↔ sml st = true ∧ 3 < r ∧ wpc 3 8 [vR o0, vI z1, vR o2] x (wk r 0 712 ls st Q) := (wp_u (show cd 0 712 = some (.invokestatic 109, 3, 8, 3, 3, 0) from rfl)).trans (g_stat (by decide) (by simp) rfl)
set_option maxRecDepth 20000 in
theorem u0_715 : wp r 0 715 [a0, a1, a2, a3, a4, a5, a6] (vI z :: st) x Q ↔ wp r 0 717 [a0, a1, a2, a3, a4, vI z, a6] st x Q := (wp_u (show cd 0 715 = some (.istore 5, 2, 0, 0, 0, 0) from rfl))
set_option maxRecDepth 20000 in
theorem u0_717 : wp r 0 717 [a0, a1, vR o, a3, a4, a5, a6] st x Q ↔ wp r 0 718 [a0, a1, vR o, a3, a4, a5, a6] (vR o :: st) x Q := (wp_u (show cd 0 717 = some (.aload_n 2, 1, 0, 0, 0, 0) from rfl))
set_option maxRecDepth 20000 in
theorem u0_718 : wp r 0 718 [vR o, a1, a2, a3, a4, a5, a6] st x Q ↔ wp r 0 719 [vR o, a1, a2, a3, a4, a5, a6] (vR o :: st) x Q := (wp_u (show cd 0 718 = some (.aload_n 0, 1, 0, 0, 0, 0) from rfl))
set_option maxRecDepth 20000 in
theorem u0_719 : wp r 0 719 [a0, a1, a2, a3, vI z, a5, a6] st x Q ↔ wp r 0 721 [a0, a1, a2, a3, vI z, a5, a6] (vI z :: st) x Q := (wp_u (show cd 0 719 = some (.iload 4, 2, 0, 0, 0, 0) from rfl))
set_option maxRecDepth 20000 in
theorem u0_721 : wp r 0 721 ls st x Q ↔ wp r 0 722 ls (vI 1 :: st) x Q := (wp_u (show cd 0 721 = some (.iconst 1, 1, 0, 0, 0, 0) from rfl))
set_option maxRecDepth 20000 in
theorem u0_722 : wp r 0 722 ls (vI w :: vI z :: st) x Q ↔ inI (z + w) = true ∧ wp r 0 723 ls (vI (z + w) :: st) x Q := (wp_u (show cd 0 722 = some (.iadd, 1, 0, 0, 0, 0) from rfl)).trans wq_if
set_option maxRecDepth 20000 in
theorem u0_723 : wp r 0 723 ls (vI i :: vA q :: st) x Q ↔ ldk 20 (hK x q) i ∧ wp r 0 724 ls (vI (hI x q i) :: st) x Q := (wp_u (show cd 0 723 = some (.iaload, 1, 0, 0, 0, 0) from rfl)).trans g_ldI
set_option maxRecDepth 20000 in
theorem u0_724 : wp r 0 724 ls (vI z0 :: vA q :: st) x Q ↔ isk 9 (hK x q) ∧ sml st = true ∧ 1 < r ∧ wpc 1 98 [vA q, vI z0] x (wk r 0 724 ls st Q) := (wp_u (show cd 0 724 = some (.invokevirtual 111, 3, 98, 2, 1, 9) from rfl)).trans (g_virt rfl (by decide) (by simp) rfl)
set_option maxRecDepth 20000 in
theorem u0_727 : wp r 0 727 [a0, a1, a2, a3, a4, a5, a6] (vI z :: st) x Q ↔ wp r 0 729 [a0, a1, a2, a3, a4, a5, vI z] st x Q := (wp_u (show cd 0 727 = some (.istore 6, 2, 0, 0, 0, 0) from rfl))
set_option maxRecDepth 20000 in
theorem u0_729 : wp r 0 729 [a0, a1, vR o, a3, a4, a5, a6] st x Q ↔ wp r 0 730 [a0, a1, vR o, a3, a4, a5, a6] (vR o :: st) x Q := (wp_u (show cd 0 729 = some (.aload_n 2, 1, 0, 0, 0, 0) from rfl))
set_option maxRecDepth 20000 in
theorem u0_730 : wp r 0 730 ls (vA q :: st) x Q ↔ isk 9 (hK x q) ∧ sml st = true ∧ 1 < r ∧ wpc 1 90 [vA q] x (wk r 0 730 ls st Q) := (wp_u (show cd 0 730 = some (.invokevirtual 80, 3, 90, 1, 1, 9) from rfl)).trans (g_virt rfl (by decide) (by simp) rfl)
set_option maxRecDepth 20000 in
theorem u0_733 : wp r 0 733 [a0, a1, a2, a3, a4, vI z, a6] st x Q ↔ wp r 0 735 [a0, a1, a2, a3, a4, vI z, a6] (vI z :: st) x Q := (wp_u (show cd 0 733 = some (.iload 5, 2, 0, 0, 0, 0) from rfl))
set_option maxRecDepth 20000 in
theorem u0_735 : wp r 0 735 ls (vI w :: vI z :: st) x Q ↔ if z = w then wp r 0 740 ls st x Q else wp r 0 738 ls st x Q := (wp_u (show cd 0 735 = some (.if_icmp .eq 5, 3, 740, 0, 0, 0) from rfl)).trans wq_d
set_option maxRecDepth 20000 in
theorem u0_738 : wp r 0 738 ls st x Q ↔ wp r 0 739 ls (vI 0 :: st) x Q := (wp_u (show cd 0 738 = some (.iconst 0, 1, 0, 0, 0, 0) from rfl))
set_option maxRecDepth 20000 in
theorem u0_739 : wp r 0 739 ls [vI z] x Q ↔ rg 4 z = true ∧ Q (.inl (some (vI z))) x := (wp_u (show cd 0 739 = some (.ireturn, 1, 4, 0, 0, 0) from rfl)).trans wq_if
set_option maxRecDepth 20000 in
theorem u0_740 : wp r 0 740 [a0, a1, a2, a3, a4, vI z, a6] st x Q ↔ wp r 0 742 [a0, a1, a2, a3, a4, vI z, a6] (vI z :: st) x Q := (wp_u (show cd 0 740 = some (.iload 5, 2, 0, 0, 0, 0) from rfl))
set_option maxRecDepth 20000 in
theorem u0_742 : wp r 0 742 ls (vI z :: st) x Q ↔ if z = 0 then wp r 0 745 ls st x Q else wp r 0 757 ls st x Q := (wp_u (show cd 0 742 = some (.ifCond .ne 15, 3, 757, 0, 0, 0) from rfl)).trans wq_dn
set_option maxRecDepth 20000 in
theorem u0_745 : wp r 0 745 [a0, a1, a2, vR o, a4, a5, a6] st x Q ↔ wp r 0 746 [a0, a1, a2, vR o, a4, a5, a6] (vR o :: st) x Q := (wp_u (show cd 0 745 = some (.aload_n 3, 1, 0, 0, 0, 0) from rfl))
set_option maxRecDepth 20000 in
theorem u0_746 : wp r 0 746 ls st x Q ↔ wp r 0 747 ls (vI 0 :: st) x Q := (wp_u (show cd 0 746 = some (.iconst 0, 1, 0, 0, 0, 0) from rfl))
set_option maxRecDepth 20000 in
theorem u0_747 : wp r 0 747 ls (vI i :: vA q :: st) x Q ↔ ldk 25 (hK x q) i ∧ wp r 0 748 ls (vL (hI x q i) :: st) x Q := (wp_u (show cd 0 747 = some (.laload, 1, 0, 0, 0, 0) from rfl)).trans g_ldL
set_option maxRecDepth 20000 in
theorem u0_748 : wp r 0 748 [a0, a1, a2, a3, a4, a5, vI z] st x Q ↔ wp r 0 750 [a0, a1, a2, a3, a4, a5, vI z] (vI z :: st) x Q := (wp_u (show cd 0 748 = some (.iload 6, 2, 0, 0, 0, 0) from rfl))
set_option maxRecDepth 20000 in
theorem u0_750 : wp r 0 750 ls (vI z :: st) x Q ↔ wp r 0 751 ls (vL z :: st) x Q := (wp_u (show cd 0 750 = some (.i2l, 1, 0, 0, 0, 0) from rfl))
set_option maxRecDepth 20000 in
theorem u0_751 : wp r 0 751 ls (vL w :: vL z :: st) x Q ↔ wp r 0 752 ls (vI (lCmp z w) :: st) x Q := (wp_u (show cd 0 751 = some (.lcmp, 1, 0, 0, 0, 0) from rfl))
set_option maxRecDepth 20000 in
theorem u0_752 : wp r 0 752 ls (vI z :: st) x Q ↔ if z = 0 then wp r 0 757 ls st x Q else wp r 0 755 ls st x Q := (wp_u (show cd 0 752 = some (.ifCond .eq 5, 3, 757, 0, 0, 0) from rfl)).trans wq_d
set_option maxRecDepth 20000 in
theorem u0_755 : wp r 0 755 ls st x Q ↔ wp r 0 756 ls (vI 0 :: st) x Q := (wp_u (show cd 0 755 = some (.iconst 0, 1, 0, 0, 0, 0) from rfl))
set_option maxRecDepth 20000 in
theorem u0_756 : wp r 0 756 ls [vI z] x Q ↔ rg 4 z = true ∧ Q (.inl (some (vI z))) x := (wp_u (show cd 0 756 = some (.ireturn, 1, 4, 0, 0, 0) from rfl)).trans wq_if
set_option maxRecDepth 20000 in
theorem u0_757 : wp r 0 757 ls st x Q ↔ wp r 0 964 ls st x Q := (wp_u (show cd 0 757 = some (.goto 207, 3, 964, 0, 0, 0) from rfl))
set_option maxRecDepth 20000 in
theorem u0_760 : wp r 0 760 [a0, vR o, a2, a3, a4, a5, a6] st x Q ↔ wp r 0 761 [a0, vR o, a2, a3, a4, a5, a6] (vR o :: st) x Q := (wp_u (show cd 0 760 = some (.aload_n 1, 1, 0, 0, 0, 0) from rfl))
set_option maxRecDepth 20000 in
theorem u0_761 : wp r 0 761 [vR o, a1, a2, a3, a4, a5, a6] st x Q ↔ wp r 0 762 [vR o, a1, a2, a3, a4, a5, a6] (vR o :: st) x Q := (wp_u (show cd 0 761 = some (.aload_n 0, 1, 0, 0, 0, 0) from rfl))
set_option maxRecDepth 20000 in
theorem u0_762 : wp r 0 762 [a0, a1, a2, a3, vI z, a5, a6] st x Q ↔ wp r 0 764 [a0, a1, a2, a3, vI z, a5, a6] (vI z :: st) x Q := (wp_u (show cd 0 762 = some (.iload 4, 2, 0, 0, 0, 0) from rfl))
set_option maxRecDepth 20000 in
theorem u0_764 : wp r 0 764 ls st x Q ↔ wp r 0 765 ls (vI 1 :: st) x Q := (wp_u (show cd 0 764 = some (.iconst 1, 1, 0, 0, 0, 0) from rfl))
set_option maxRecDepth 20000 in
theorem u0_765 : wp r 0 765 ls (vI w :: vI z :: st) x Q ↔ inI (z + w) = true ∧ wp r 0 766 ls (vI (z + w) :: st) x Q := (wp_u (show cd 0 765 = some (.iadd, 1, 0, 0, 0, 0) from rfl)).trans wq_if
set_option maxRecDepth 20000 in
theorem u0_766 : wp r 0 766 ls (vI i :: vA q :: st) x Q ↔ ldk 20 (hK x q) i ∧ wp r 0 767 ls (vI (hI x q i) :: st) x Q := (wp_u (show cd 0 766 = some (.iaload, 1, 0, 0, 0, 0) from rfl)).trans g_ldI
set_option maxRecDepth 20000 in
theorem u0_767 : wp r 0 767 [vR o, a1, a2, a3, a4, a5, a6] st x Q ↔ wp r 0 768 [vR o, a1, a2, a3, a4, a5, a6] (vR o :: st) x Q := (wp_u (show cd 0 767 = some (.aload_n 0, 1, 0, 0, 0, 0) from rfl))
set_option maxRecDepth 20000 in
theorem u0_768 : wp r 0 768 [a0, a1, a2, a3, vI z, a5, a6] st x Q ↔ wp r 0 770 [a0, a1, a2, a3, vI z, a5, a6] (vI z :: st) x Q := (wp_u (show cd 0 768 = some (.iload 4, 2, 0, 0, 0, 0) from rfl))
set_option maxRecDepth 20000 in
theorem u0_770 : wp r 0 770 ls st x Q ↔ wp r 0 771 ls (vI 2 :: st) x Q := (wp_u (show cd 0 770 = some (.iconst 2, 1, 0, 0, 0, 0) from rfl))
set_option maxRecDepth 20000 in
theorem u0_771 : wp r 0 771 ls (vI w :: vI z :: st) x Q ↔ inI (z + w) = true ∧ wp r 0 772 ls (vI (z + w) :: st) x Q := (wp_u (show cd 0 771 = some (.iadd, 1, 0, 0, 0, 0) from rfl)).trans wq_if
set_option maxRecDepth 20000 in
theorem u0_772 : wp r 0 772 ls (vI i :: vA q :: st) x Q ↔ ldk 20 (hK x q) i ∧ wp r 0 773 ls (vI (hI x q i) :: st) x Q := (wp_u (show cd 0 772 = some (.iaload, 1, 0, 0, 0, 0) from rfl)).trans g_ldI
set_option maxRecDepth 20000 in
theorem u0_773 : wp r 0 773 [vR o, a1, a2, a3, a4, a5, a6] st x Q ↔ wp r 0 774 [vR o, a1, a2, a3, a4, a5, a6] (vR o :: st) x Q := (wp_u (show cd 0 773 = some (.aload_n 0, 1, 0, 0, 0, 0) from rfl))
set_option maxRecDepth 20000 in
theorem u0_774 : wp r 0 774 [a0, a1, a2, a3, vI z, a5, a6] st x Q ↔ wp r 0 776 [a0, a1, a2, a3, vI z, a5, a6] (vI z :: st) x Q := (wp_u (show cd 0 774 = some (.iload 4, 2, 0, 0, 0, 0) from rfl))
set_option maxRecDepth 20000 in
theorem u0_776 : wp r 0 776 ls st x Q ↔ wp r 0 777 ls (vI 3 :: st) x Q := (wp_u (show cd 0 776 = some (.iconst 3, 1, 0, 0, 0, 0) from rfl))
set_option maxRecDepth 20000 in
theorem u0_777 : wp r 0 777 ls (vI w :: vI z :: st) x Q ↔ inI (z + w) = true ∧ wp r 0 778 ls (vI (z + w) :: st) x Q := (wp_u (show cd 0 777 = some (.iadd, 1, 0, 0, 0, 0) from rfl)).trans wq_if
set_option maxRecDepth 20000 in
theorem u0_778 : wp r 0 778 ls (vI i :: vA q :: st) x Q ↔ ldk 20 (hK x q) i ∧ wp r 0 779 ls (vI (hI x q i) :: st) x Q := (wp_u (show cd 0 778 = some (.iaload, 1, 0, 0, 0, 0) from rfl)).trans g_ldI
set_option maxRecDepth 20000 in
theorem u0_779 : wp r 0 779 [vR o, a1, a2, a3, a4, a5, a6] st x Q ↔ wp r 0 780 [vR o, a1, a2, a3, a4, a5, a6] (vR o :: st) x Q := (wp_u (show cd 0 779 = some (.aload_n 0, 1, 0, 0, 0, 0) from rfl))
set_option maxRecDepth 20000 in
theorem u0_780 : wp r 0 780 [a0, a1, a2, a3, vI z, a5, a6] st x Q ↔ wp r 0 782 [a0, a1, a2, a3, vI z, a5, a6] (vI z :: st) x Q := (wp_u (show cd 0 780 = some (.iload 4, 2, 0, 0, 0, 0) from rfl))
set_option maxRecDepth 20000 in
theorem u0_782 : wp r 0 782 ls st x Q ↔ wp r 0 783 ls (vI 4 :: st) x Q := (wp_u (show cd 0 782 = some (.iconst 4, 1, 0, 0, 0, 0) from rfl))
set_option maxRecDepth 20000 in
theorem u0_783 : wp r 0 783 ls (vI w :: vI z :: st) x Q ↔ inI (z + w) = true ∧ wp r 0 784 ls (vI (z + w) :: st) x Q := (wp_u (show cd 0 783 = some (.iadd, 1, 0, 0, 0, 0) from rfl)).trans wq_if
set_option maxRecDepth 20000 in
theorem u0_784 : wp r 0 784 ls (vI i :: vA q :: st) x Q ↔ ldk 20 (hK x q) i ∧ wp r 0 785 ls (vI (hI x q i) :: st) x Q := (wp_u (show cd 0 784 = some (.iaload, 1, 0, 0, 0, 0) from rfl)).trans g_ldI
set_option maxRecDepth 20000 in
theorem u0_785 : wp r 0 785 [a0, a1, a2, vR o, a4, a5, a6] st x Q ↔ wp r 0 786 [a0, a1, a2, vR o, a4, a5, a6] (vR o :: st) x Q := (wp_u (show cd 0 785 = some (.aload_n 3, 1, 0, 0, 0, 0) from rfl))
set_option maxRecDepth 20000 in
theorem u0_786 : wp r 0 786 ls (vR o5 :: vI z4 :: vI z3 :: vI z2 :: vI z1 :: vR o0 :: st) x Q ↔ sml st = true ∧ 3 < r ∧ wpc 3 9 [vR o0, vI z1, vI z2, vI z3, vI z4, vR o5] x (wk r 0 786 ls st Q) := (wp_u (show cd 0 786 = some (.invokestatic 112, 3, 9, 6, 3, 0) from rfl)).trans (g_stat (by decide) (by simp) rfl)
set_option maxRecDepth 20000 in
theorem u0_789 : wp r 0 789 [a0, a1, a2, a3, a4, a5, a6] (vI z :: st) x Q ↔ wp r 0 791 [a0, a1, a2, a3, a4, vI z, a6] st x Q := (wp_u (show cd 0 789 = some (.istore 5, 2, 0, 0, 0, 0) from rfl))
set_option maxRecDepth 20000 in
theorem u0_791 : wp r 0 791 [a0, a1, vR o, a3, a4, a5, a6] st x Q ↔ wp r 0 792 [a0, a1, vR o, a3, a4, a5, a6] (vR o :: st) x Q := (wp_u (show cd 0 791 = some (.aload_n 2, 1, 0, 0, 0, 0) from rfl))
set_option maxRecDepth 20000 in
theorem u0_792 : wp r 0 792 [vR o, a1, a2, a3, a4, a5, a6] st x Q ↔ wp r 0 793 [vR o, a1, a2, a3, a4, a5, a6] (vR o :: st) x Q := (wp_u (show cd 0 792 = some (.aload_n 0, 1, 0, 0, 0, 0) from rfl))
set_option maxRecDepth 20000 in
theorem u0_793 : wp r 0 793 [a0, a1, a2, a3, vI z, a5, a6] st x Q ↔ wp r 0 795 [a0, a1, a2, a3, vI z, a5, a6] (vI z :: st) x Q := (wp_u (show cd 0 793 = some (.iload 4, 2, 0, 0, 0, 0) from rfl))
set_option maxRecDepth 20000 in
theorem u0_795 : wp r 0 795 ls st x Q ↔ wp r 0 796 ls (vI 1 :: st) x Q := (wp_u (show cd 0 795 = some (.iconst 1, 1, 0, 0, 0, 0) from rfl))
set_option maxRecDepth 20000 in
theorem u0_796 : wp r 0 796 ls (vI w :: vI z :: st) x Q ↔ inI (z + w) = true ∧ wp r 0 797 ls (vI (z + w) :: st) x Q := (wp_u (show cd 0 796 = some (.iadd, 1, 0, 0, 0, 0) from rfl)).trans wq_if
set_option maxRecDepth 20000 in
theorem u0_797 : wp r 0 797 ls (vI i :: vA q :: st) x Q ↔ ldk 20 (hK x q) i ∧ wp r 0 798 ls (vI (hI x q i) :: st) x Q := (wp_u (show cd 0 797 = some (.iaload, 1, 0, 0, 0, 0) from rfl)).trans g_ldI
set_option maxRecDepth 20000 in
theorem u0_798 : wp r 0 798 [vR o, a1, a2, a3, a4, a5, a6] st x Q ↔ wp r 0 799 [vR o, a1, a2, a3, a4, a5, a6] (vR o :: st) x Q := (wp_u (show cd 0 798 = some (.aload_n 0, 1, 0, 0, 0, 0) from rfl))
set_option maxRecDepth 20000 in
theorem u0_799 : wp r 0 799 [a0, a1, a2, a3, vI z, a5, a6] st x Q ↔ wp r 0 801 [a0, a1, a2, a3, vI z, a5, a6] (vI z :: st) x Q := (wp_u (show cd 0 799 = some (.iload 4, 2, 0, 0, 0, 0) from rfl))
set_option maxRecDepth 20000 in
theorem u0_801 : wp r 0 801 ls st x Q ↔ wp r 0 802 ls (vI 2 :: st) x Q := (wp_u (show cd 0 801 = some (.iconst 2, 1, 0, 0, 0, 0) from rfl))
set_option maxRecDepth 20000 in
theorem u0_802 : wp r 0 802 ls (vI w :: vI z :: st) x Q ↔ inI (z + w) = true ∧ wp r 0 803 ls (vI (z + w) :: st) x Q := (wp_u (show cd 0 802 = some (.iadd, 1, 0, 0, 0, 0) from rfl)).trans wq_if
set_option maxRecDepth 20000 in
theorem u0_803 : wp r 0 803 ls (vI i :: vA q :: st) x Q ↔ ldk 20 (hK x q) i ∧ wp r 0 804 ls (vI (hI x q i) :: st) x Q := (wp_u (show cd 0 803 = some (.iaload, 1, 0, 0, 0, 0) from rfl)).trans g_ldI
set_option maxRecDepth 20000 in
theorem u0_804 : wp r 0 804 [vR o, a1, a2, a3, a4, a5, a6] st x Q ↔ wp r 0 805 [vR o, a1, a2, a3, a4, a5, a6] (vR o :: st) x Q := (wp_u (show cd 0 804 = some (.aload_n 0, 1, 0, 0, 0, 0) from rfl))
set_option maxRecDepth 20000 in
theorem u0_805 : wp r 0 805 [a0, a1, a2, a3, vI z, a5, a6] st x Q ↔ wp r 0 807 [a0, a1, a2, a3, vI z, a5, a6] (vI z :: st) x Q := (wp_u (show cd 0 805 = some (.iload 4, 2, 0, 0, 0, 0) from rfl))
set_option maxRecDepth 20000 in
theorem u0_807 : wp r 0 807 ls st x Q ↔ wp r 0 808 ls (vI 3 :: st) x Q := (wp_u (show cd 0 807 = some (.iconst 3, 1, 0, 0, 0, 0) from rfl))
set_option maxRecDepth 20000 in
theorem u0_808 : wp r 0 808 ls (vI w :: vI z :: st) x Q ↔ inI (z + w) = true ∧ wp r 0 809 ls (vI (z + w) :: st) x Q := (wp_u (show cd 0 808 = some (.iadd, 1, 0, 0, 0, 0) from rfl)).trans wq_if
set_option maxRecDepth 20000 in
theorem u0_809 : wp r 0 809 ls (vI i :: vA q :: st) x Q ↔ ldk 20 (hK x q) i ∧ wp r 0 810 ls (vI (hI x q i) :: st) x Q := (wp_u (show cd 0 809 = some (.iaload, 1, 0, 0, 0, 0) from rfl)).trans g_ldI
set_option maxRecDepth 20000 in
theorem u0_810 : wp r 0 810 [vR o, a1, a2, a3, a4, a5, a6] st x Q ↔ wp r 0 811 [vR o, a1, a2, a3, a4, a5, a6] (vR o :: st) x Q := (wp_u (show cd 0 810 = some (.aload_n 0, 1, 0, 0, 0, 0) from rfl))
set_option maxRecDepth 20000 in
theorem u0_811 : wp r 0 811 [a0, a1, a2, a3, vI z, a5, a6] st x Q ↔ wp r 0 813 [a0, a1, a2, a3, vI z, a5, a6] (vI z :: st) x Q := (wp_u (show cd 0 811 = some (.iload 4, 2, 0, 0, 0, 0) from rfl))
set_option maxRecDepth 20000 in
theorem u0_813 : wp r 0 813 ls st x Q ↔ wp r 0 814 ls (vI 4 :: st) x Q := (wp_u (show cd 0 813 = some (.iconst 4, 1, 0, 0, 0, 0) from rfl))
set_option maxRecDepth 20000 in
theorem u0_814 : wp r 0 814 ls (vI w :: vI z :: st) x Q ↔ inI (z + w) = true ∧ wp r 0 815 ls (vI (z + w) :: st) x Q := (wp_u (show cd 0 814 = some (.iadd, 1, 0, 0, 0, 0) from rfl)).trans wq_if
set_option maxRecDepth 20000 in
theorem u0_815 : wp r 0 815 ls (vI i :: vA q :: st) x Q ↔ ldk 20 (hK x q) i ∧ wp r 0 816 ls (vI (hI x q i) :: st) x Q := (wp_u (show cd 0 815 = some (.iaload, 1, 0, 0, 0, 0) from rfl)).trans g_ldI
set_option maxRecDepth 20000 in
theorem u0_816 : wp r 0 816 ls (vI z3 :: vI z2 :: vI z1 :: vI z0 :: vA q :: st) x Q ↔ isk 9 (hK x q) ∧ sml st = true ∧ 2 < r ∧ wpc 2 99 [vA q, vI z0, vI z1, vI z2, vI z3] x (wk r 0 816 ls st Q) := (wp_u (show cd 0 816 = some (.invokevirtual 115, 3, 99, 5, 2, 9) from rfl)).trans (g_virt rfl (by decide) (by simp) rfl)
set_option maxRecDepth 20000 in
theorem u0_819 : wp r 0 819 [a0, a1, a2, a3, a4, a5, a6] (vI z :: st) x Q ↔ wp r 0 821 [a0, a1, a2, a3, a4, a5, vI z] st x Q := (wp_u (show cd 0 819 = some (.istore 6, 2, 0, 0, 0, 0) from rfl))
set_option maxRecDepth 20000 in
theorem u0_821 : wp r 0 821 [a0, a1, vR o, a3, a4, a5, a6] st x Q ↔ wp r 0 822 [a0, a1, vR o, a3, a4, a5, a6] (vR o :: st) x Q := (wp_u (show cd 0 821 = some (.aload_n 2, 1, 0, 0, 0, 0) from rfl))
set_option maxRecDepth 20000 in
theorem u0_822 : wp r 0 822 ls (vA q :: st) x Q ↔ isk 9 (hK x q) ∧ sml st = true ∧ 1 < r ∧ wpc 1 90 [vA q] x (wk r 0 822 ls st Q) := (wp_u (show cd 0 822 = some (.invokevirtual 80, 3, 90, 1, 1, 9) from rfl)).trans (g_virt rfl (by decide) (by simp) rfl)
set_option maxRecDepth 20000 in
theorem u0_825 : wp r 0 825 [a0, a1, a2, a3, a4, vI z, a6] st x Q ↔ wp r 0 827 [a0, a1, a2, a3, a4, vI z, a6] (vI z :: st) x Q := (wp_u (show cd 0 825 = some (.iload 5, 2, 0, 0, 0, 0) from rfl))
set_option maxRecDepth 20000 in
theorem u0_827 : wp r 0 827 ls (vI w :: vI z :: st) x Q ↔ if z = w then wp r 0 832 ls st x Q else wp r 0 830 ls st x Q := (wp_u (show cd 0 827 = some (.if_icmp .eq 5, 3, 832, 0, 0, 0) from rfl)).trans wq_d
set_option maxRecDepth 20000 in
theorem u0_830 : wp r 0 830 ls st x Q ↔ wp r 0 831 ls (vI 0 :: st) x Q := (wp_u (show cd 0 830 = some (.iconst 0, 1, 0, 0, 0, 0) from rfl))
set_option maxRecDepth 20000 in
theorem u0_831 : wp r 0 831 ls [vI z] x Q ↔ rg 4 z = true ∧ Q (.inl (some (vI z))) x := (wp_u (show cd 0 831 = some (.ireturn, 1, 4, 0, 0, 0) from rfl)).trans wq_if
set_option maxRecDepth 20000 in
theorem u0_832 : wp r 0 832 [a0, a1, a2, a3, a4, vI z, a6] st x Q ↔ wp r 0 834 [a0, a1, a2, a3, a4, vI z, a6] (vI z :: st) x Q := (wp_u (show cd 0 832 = some (.iload 5, 2, 0, 0, 0, 0) from rfl))
set_option maxRecDepth 20000 in
theorem u0_834 : wp r 0 834 ls (vI z :: st) x Q ↔ if z = 0 then wp r 0 837 ls st x Q else wp r 0 849 ls st x Q := (wp_u (show cd 0 834 = some (.ifCond .ne 15, 3, 849, 0, 0, 0) from rfl)).trans wq_dn
set_option maxRecDepth 20000 in
theorem u0_837 : wp r 0 837 [a0, a1, a2, vR o, a4, a5, a6] st x Q ↔ wp r 0 838 [a0, a1, a2, vR o, a4, a5, a6] (vR o :: st) x Q := (wp_u (show cd 0 837 = some (.aload_n 3, 1, 0, 0, 0, 0) from rfl))
set_option maxRecDepth 20000 in
theorem u0_838 : wp r 0 838 ls st x Q ↔ wp r 0 839 ls (vI 0 :: st) x Q := (wp_u (show cd 0 838 = some (.iconst 0, 1, 0, 0, 0, 0) from rfl))
set_option maxRecDepth 20000 in
theorem u0_839 : wp r 0 839 ls (vI i :: vA q :: st) x Q ↔ ldk 25 (hK x q) i ∧ wp r 0 840 ls (vL (hI x q i) :: st) x Q := (wp_u (show cd 0 839 = some (.laload, 1, 0, 0, 0, 0) from rfl)).trans g_ldL
set_option maxRecDepth 20000 in
theorem u0_840 : wp r 0 840 [a0, a1, a2, a3, a4, a5, vI z] st x Q ↔ wp r 0 842 [a0, a1, a2, a3, a4, a5, vI z] (vI z :: st) x Q := (wp_u (show cd 0 840 = some (.iload 6, 2, 0, 0, 0, 0) from rfl))
set_option maxRecDepth 20000 in
theorem u0_842 : wp r 0 842 ls (vI z :: st) x Q ↔ wp r 0 843 ls (vL z :: st) x Q := (wp_u (show cd 0 842 = some (.i2l, 1, 0, 0, 0, 0) from rfl))
set_option maxRecDepth 20000 in
theorem u0_843 : wp r 0 843 ls (vL w :: vL z :: st) x Q ↔ wp r 0 844 ls (vI (lCmp z w) :: st) x Q := (wp_u (show cd 0 843 = some (.lcmp, 1, 0, 0, 0, 0) from rfl))
set_option maxRecDepth 20000 in
theorem u0_844 : wp r 0 844 ls (vI z :: st) x Q ↔ if z = 0 then wp r 0 849 ls st x Q else wp r 0 847 ls st x Q := (wp_u (show cd 0 844 = some (.ifCond .eq 5, 3, 849, 0, 0, 0) from rfl)).trans wq_d
set_option maxRecDepth 20000 in
theorem u0_847 : wp r 0 847 ls st x Q ↔ wp r 0 848 ls (vI 0 :: st) x Q := (wp_u (show cd 0 847 = some (.iconst 0, 1, 0, 0, 0, 0) from rfl))
set_option maxRecDepth 20000 in
theorem u0_848 : wp r 0 848 ls [vI z] x Q ↔ rg 4 z = true ∧ Q (.inl (some (vI z))) x := (wp_u (show cd 0 848 = some (.ireturn, 1, 4, 0, 0, 0) from rfl)).trans wq_if
set_option maxRecDepth 20000 in
theorem u0_849 : wp r 0 849 ls st x Q ↔ wp r 0 964 ls st x Q := (wp_u (show cd 0 849 = some (.goto 115, 3, 964, 0, 0, 0) from rfl))
set_option maxRecDepth 20000 in
theorem u0_852 : wp r 0 852 [a0, vR o, a2, a3, a4, a5, a6] st x Q ↔ wp r 0 853 [a0, vR o, a2, a3, a4, a5, a6] (vR o :: st) x Q := (wp_u (show cd 0 852 = some (.aload_n 1, 1, 0, 0, 0, 0) from rfl))
set_option maxRecDepth 20000 in
theorem u0_853 : wp r 0 853 [vR o, a1, a2, a3, a4, a5, a6] st x Q ↔ wp r 0 854 [vR o, a1, a2, a3, a4, a5, a6] (vR o :: st) x Q := (wp_u (show cd 0 853 = some (.aload_n 0, 1, 0, 0, 0, 0) from rfl))
set_option maxRecDepth 20000 in
theorem u0_854 : wp r 0 854 [a0, a1, a2, a3, vI z, a5, a6] st x Q ↔ wp r 0 856 [a0, a1, a2, a3, vI z, a5, a6] (vI z :: st) x Q := (wp_u (show cd 0 854 = some (.iload 4, 2, 0, 0, 0, 0) from rfl))
set_option maxRecDepth 20000 in
theorem u0_856 : wp r 0 856 ls st x Q ↔ wp r 0 857 ls (vI 1 :: st) x Q := (wp_u (show cd 0 856 = some (.iconst 1, 1, 0, 0, 0, 0) from rfl))
set_option maxRecDepth 20000 in
theorem u0_857 : wp r 0 857 ls (vI w :: vI z :: st) x Q ↔ inI (z + w) = true ∧ wp r 0 858 ls (vI (z + w) :: st) x Q := (wp_u (show cd 0 857 = some (.iadd, 1, 0, 0, 0, 0) from rfl)).trans wq_if
set_option maxRecDepth 20000 in
theorem u0_858 : wp r 0 858 ls (vI i :: vA q :: st) x Q ↔ ldk 20 (hK x q) i ∧ wp r 0 859 ls (vI (hI x q i) :: st) x Q := (wp_u (show cd 0 858 = some (.iaload, 1, 0, 0, 0, 0) from rfl)).trans g_ldI
set_option maxRecDepth 20000 in
theorem u0_859 : wp r 0 859 [a0, a1, a2, vR o, a4, a5, a6] st x Q ↔ wp r 0 860 [a0, a1, a2, vR o, a4, a5, a6] (vR o :: st) x Q := (wp_u (show cd 0 859 = some (.aload_n 3, 1, 0, 0, 0, 0) from rfl))
set_option maxRecDepth 20000 in
theorem u0_860 : wp r 0 860 ls (vR o2 :: vI z1 :: vR o0 :: st) x Q ↔ sml st = true ∧ 7 < r ∧ wpc 7 10 [vR o0, vI z1, vR o2] x (wk r 0 860 ls st Q) := (wp_u (show cd 0 860 = some (.invokestatic 116, 3, 10, 3, 7, 0) from rfl)).trans (g_stat (by decide) (by simp) rfl)
set_option maxRecDepth 20000 in
theorem u0_863 : wp r 0 863 [a0, a1, a2, a3, a4, a5, a6] (vI z :: st) x Q ↔ wp r 0 865 [a0, a1, a2, a3, a4, vI z, a6] st x Q := (wp_u (show cd 0 863 = some (.istore 5, 2, 0, 0, 0, 0) from rfl))
set_option maxRecDepth 20000 in
theorem u0_865 : wp r 0 865 [a0, a1, vR o, a3, a4, a5, a6] st x Q ↔ wp r 0 866 [a0, a1, vR o, a3, a4, a5, a6] (vR o :: st) x Q := (wp_u (show cd 0 865 = some (.aload_n 2, 1, 0, 0, 0, 0) from rfl))
set_option maxRecDepth 20000 in
theorem u0_866 : wp r 0 866 [vR o, a1, a2, a3, a4, a5, a6] st x Q ↔ wp r 0 867 [vR o, a1, a2, a3, a4, a5, a6] (vR o :: st) x Q := (wp_u (show cd 0 866 = some (.aload_n 0, 1, 0, 0, 0, 0) from rfl))
set_option maxRecDepth 20000 in
theorem u0_867 : wp r 0 867 [a0, a1, a2, a3, vI z, a5, a6] st x Q ↔ wp r 0 869 [a0, a1, a2, a3, vI z, a5, a6] (vI z :: st) x Q := (wp_u (show cd 0 867 = some (.iload 4, 2, 0, 0, 0, 0) from rfl))
set_option maxRecDepth 20000 in
theorem u0_869 : wp r 0 869 ls st x Q ↔ wp r 0 870 ls (vI 1 :: st) x Q := (wp_u (show cd 0 869 = some (.iconst 1, 1, 0, 0, 0, 0) from rfl))
set_option maxRecDepth 20000 in
theorem u0_870 : wp r 0 870 ls (vI w :: vI z :: st) x Q ↔ inI (z + w) = true ∧ wp r 0 871 ls (vI (z + w) :: st) x Q := (wp_u (show cd 0 870 = some (.iadd, 1, 0, 0, 0, 0) from rfl)).trans wq_if
set_option maxRecDepth 20000 in
theorem u0_871 : wp r 0 871 ls (vI i :: vA q :: st) x Q ↔ ldk 20 (hK x q) i ∧ wp r 0 872 ls (vI (hI x q i) :: st) x Q := (wp_u (show cd 0 871 = some (.iaload, 1, 0, 0, 0, 0) from rfl)).trans g_ldI
set_option maxRecDepth 20000 in
theorem u0_872 : wp r 0 872 ls (vI z0 :: vA q :: st) x Q ↔ isk 9 (hK x q) ∧ sml st = true ∧ 1 < r ∧ wpc 1 100 [vA q, vI z0] x (wk r 0 872 ls st Q) := (wp_u (show cd 0 872 = some (.invokevirtual 118, 3, 100, 2, 1, 9) from rfl)).trans (g_virt rfl (by decide) (by simp) rfl)
set_option maxRecDepth 20000 in
theorem u0_875 : wp r 0 875 [a0, a1, a2, a3, a4, a5, a6] (vI z :: st) x Q ↔ wp r 0 877 [a0, a1, a2, a3, a4, a5, vI z] st x Q := (wp_u (show cd 0 875 = some (.istore 6, 2, 0, 0, 0, 0) from rfl))
set_option maxRecDepth 20000 in
theorem u0_877 : wp r 0 877 [a0, a1, vR o, a3, a4, a5, a6] st x Q ↔ wp r 0 878 [a0, a1, vR o, a3, a4, a5, a6] (vR o :: st) x Q := (wp_u (show cd 0 877 = some (.aload_n 2, 1, 0, 0, 0, 0) from rfl))
set_option maxRecDepth 20000 in
theorem u0_878 : wp r 0 878 ls (vA q :: st) x Q ↔ isk 9 (hK x q) ∧ sml st = true ∧ 1 < r ∧ wpc 1 90 [vA q] x (wk r 0 878 ls st Q) := (wp_u (show cd 0 878 = some (.invokevirtual 80, 3, 90, 1, 1, 9) from rfl)).trans (g_virt rfl (by decide) (by simp) rfl)
set_option maxRecDepth 20000 in
theorem u0_881 : wp r 0 881 [a0, a1, a2, a3, a4, vI z, a6] st x Q ↔ wp r 0 883 [a0, a1, a2, a3, a4, vI z, a6] (vI z :: st) x Q := (wp_u (show cd 0 881 = some (.iload 5, 2, 0, 0, 0, 0) from rfl))
set_option maxRecDepth 20000 in
theorem u0_883 : wp r 0 883 ls (vI w :: vI z :: st) x Q ↔ if z = w then wp r 0 888 ls st x Q else wp r 0 886 ls st x Q := (wp_u (show cd 0 883 = some (.if_icmp .eq 5, 3, 888, 0, 0, 0) from rfl)).trans wq_d
set_option maxRecDepth 20000 in
theorem u0_886 : wp r 0 886 ls st x Q ↔ wp r 0 887 ls (vI 0 :: st) x Q := (wp_u (show cd 0 886 = some (.iconst 0, 1, 0, 0, 0, 0) from rfl))
set_option maxRecDepth 20000 in
theorem u0_887 : wp r 0 887 ls [vI z] x Q ↔ rg 4 z = true ∧ Q (.inl (some (vI z))) x := (wp_u (show cd 0 887 = some (.ireturn, 1, 4, 0, 0, 0) from rfl)).trans wq_if
set_option maxRecDepth 20000 in
theorem u0_888 : wp r 0 888 [a0, a1, a2, a3, a4, vI z, a6] st x Q ↔ wp r 0 890 [a0, a1, a2, a3, a4, vI z, a6] (vI z :: st) x Q := (wp_u (show cd 0 888 = some (.iload 5, 2, 0, 0, 0, 0) from rfl))
set_option maxRecDepth 20000 in
theorem u0_890 : wp r 0 890 ls (vI z :: st) x Q ↔ if z = 0 then wp r 0 893 ls st x Q else wp r 0 905 ls st x Q := (wp_u (show cd 0 890 = some (.ifCond .ne 15, 3, 905, 0, 0, 0) from rfl)).trans wq_dn
set_option maxRecDepth 20000 in
theorem u0_893 : wp r 0 893 [a0, a1, a2, vR o, a4, a5, a6] st x Q ↔ wp r 0 894 [a0, a1, a2, vR o, a4, a5, a6] (vR o :: st) x Q := (wp_u (show cd 0 893 = some (.aload_n 3, 1, 0, 0, 0, 0) from rfl))
set_option maxRecDepth 20000 in
theorem u0_894 : wp r 0 894 ls st x Q ↔ wp r 0 895 ls (vI 0 :: st) x Q := (wp_u (show cd 0 894 = some (.iconst 0, 1, 0, 0, 0, 0) from rfl))
set_option maxRecDepth 20000 in
theorem u0_895 : wp r 0 895 ls (vI i :: vA q :: st) x Q ↔ ldk 25 (hK x q) i ∧ wp r 0 896 ls (vL (hI x q i) :: st) x Q := (wp_u (show cd 0 895 = some (.laload, 1, 0, 0, 0, 0) from rfl)).trans g_ldL
set_option maxRecDepth 20000 in
theorem u0_896 : wp r 0 896 [a0, a1, a2, a3, a4, a5, vI z] st x Q ↔ wp r 0 898 [a0, a1, a2, a3, a4, a5, vI z] (vI z :: st) x Q := (wp_u (show cd 0 896 = some (.iload 6, 2, 0, 0, 0, 0) from rfl))
set_option maxRecDepth 20000 in
theorem u0_898 : wp r 0 898 ls (vI z :: st) x Q ↔ wp r 0 899 ls (vL z :: st) x Q := (wp_u (show cd 0 898 = some (.i2l, 1, 0, 0, 0, 0) from rfl))
set_option maxRecDepth 20000 in
theorem u0_899 : wp r 0 899 ls (vL w :: vL z :: st) x Q ↔ wp r 0 900 ls (vI (lCmp z w) :: st) x Q := (wp_u (show cd 0 899 = some (.lcmp, 1, 0, 0, 0, 0) from rfl))
set_option maxRecDepth 20000 in
theorem u0_900 : wp r 0 900 ls (vI z :: st) x Q ↔ if z = 0 then wp r 0 905 ls st x Q else wp r 0 903 ls st x Q := (wp_u (show cd 0 900 = some (.ifCond .eq 5, 3, 905, 0, 0, 0) from rfl)).trans wq_d
set_option maxRecDepth 20000 in
theorem u0_903 : wp r 0 903 ls st x Q ↔ wp r 0 904 ls (vI 0 :: st) x Q := (wp_u (show cd 0 903 = some (.iconst 0, 1, 0, 0, 0, 0) from rfl))
set_option maxRecDepth 20000 in
theorem u0_904 : wp r 0 904 ls [vI z] x Q ↔ rg 4 z = true ∧ Q (.inl (some (vI z))) x := (wp_u (show cd 0 904 = some (.ireturn, 1, 4, 0, 0, 0) from rfl)).trans wq_if
set_option maxRecDepth 20000 in
theorem u0_905 : wp r 0 905 ls st x Q ↔ wp r 0 964 ls st x Q := (wp_u (show cd 0 905 = some (.goto 59, 3, 964, 0, 0, 0) from rfl))
set_option maxRecDepth 20000 in
theorem u0_908 : wp r 0 908 [a0, vR o, a2, a3, a4, a5, a6] st x Q ↔ wp r 0 909 [a0, vR o, a2, a3, a4, a5, a6] (vR o :: st) x Q := (wp_u (show cd 0 908 = some (.aload_n 1, 1, 0, 0, 0, 0) from rfl))
set_option maxRecDepth 20000 in
theorem u0_909 : wp r 0 909 [vR o, a1, a2, a3, a4, a5, a6] st x Q ↔ wp r 0 910 [vR o, a1, a2, a3, a4, a5, a6] (vR o :: st) x Q := (wp_u (show cd 0 909 = some (.aload_n 0, 1, 0, 0, 0, 0) from rfl))
set_option maxRecDepth 20000 in
theorem u0_910 : wp r 0 910 [a0, a1, a2, a3, vI z, a5, a6] st x Q ↔ wp r 0 912 [a0, a1, a2, a3, vI z, a5, a6] (vI z :: st) x Q := (wp_u (show cd 0 910 = some (.iload 4, 2, 0, 0, 0, 0) from rfl))
set_option maxRecDepth 20000 in
theorem u0_912 : wp r 0 912 ls st x Q ↔ wp r 0 913 ls (vI 1 :: st) x Q := (wp_u (show cd 0 912 = some (.iconst 1, 1, 0, 0, 0, 0) from rfl))
set_option maxRecDepth 20000 in
theorem u0_913 : wp r 0 913 ls (vI w :: vI z :: st) x Q ↔ inI (z + w) = true ∧ wp r 0 914 ls (vI (z + w) :: st) x Q := (wp_u (show cd 0 913 = some (.iadd, 1, 0, 0, 0, 0) from rfl)).trans wq_if
set_option maxRecDepth 20000 in
theorem u0_914 : wp r 0 914 ls (vI i :: vA q :: st) x Q ↔ ldk 20 (hK x q) i ∧ wp r 0 915 ls (vI (hI x q i) :: st) x Q := (wp_u (show cd 0 914 = some (.iaload, 1, 0, 0, 0, 0) from rfl)).trans g_ldI
set_option maxRecDepth 20000 in
theorem u0_915 : wp r 0 915 [a0, a1, a2, vR o, a4, a5, a6] st x Q ↔ wp r 0 916 [a0, a1, a2, vR o, a4, a5, a6] (vR o :: st) x Q := (wp_u (show cd 0 915 = some (.aload_n 3, 1, 0, 0, 0, 0) from rfl))
set_option maxRecDepth 20000 in
theorem u0_916 : wp r 0 916 ls (vR o2 :: vI z1 :: vR o0 :: st) x Q ↔ sml st = true ∧ 7 < r ∧ wpc 7 11 [vR o0, vI z1, vR o2] x (wk r 0 916 ls st Q) := (wp_u (show cd 0 916 = some (.invokestatic 119, 3, 11, 3, 7, 0) from rfl)).trans (g_stat (by decide) (by simp) rfl)
set_option maxRecDepth 20000 in
theorem u0_919 : wp r 0 919 [a0, a1, a2, a3, a4, a5, a6] (vI z :: st) x Q ↔ wp r 0 921 [a0, a1, a2, a3, a4, vI z, a6] st x Q := (wp_u (show cd 0 919 = some (.istore 5, 2, 0, 0, 0, 0) from rfl))
set_option maxRecDepth 20000 in
theorem u0_921 : wp r 0 921 [a0, a1, vR o, a3, a4, a5, a6] st x Q ↔ wp r 0 922 [a0, a1, vR o, a3, a4, a5, a6] (vR o :: st) x Q := (wp_u (show cd 0 921 = some (.aload_n 2, 1, 0, 0, 0, 0) from rfl))
set_option maxRecDepth 20000 in
theorem u0_922 : wp r 0 922 [vR o, a1, a2, a3, a4, a5, a6] st x Q ↔ wp r 0 923 [vR o, a1, a2, a3, a4, a5, a6] (vR o :: st) x Q := (wp_u (show cd 0 922 = some (.aload_n 0, 1, 0, 0, 0, 0) from rfl))
set_option maxRecDepth 20000 in
theorem u0_923 : wp r 0 923 [a0, a1, a2, a3, vI z, a5, a6] st x Q ↔ wp r 0 925 [a0, a1, a2, a3, vI z, a5, a6] (vI z :: st) x Q := (wp_u (show cd 0 923 = some (.iload 4, 2, 0, 0, 0, 0) from rfl))
set_option maxRecDepth 20000 in
theorem u0_925 : wp r 0 925 ls st x Q ↔ wp r 0 926 ls (vI 1 :: st) x Q := (wp_u (show cd 0 925 = some (.iconst 1, 1, 0, 0, 0, 0) from rfl))
set_option maxRecDepth 20000 in
theorem u0_926 : wp r 0 926 ls (vI w :: vI z :: st) x Q ↔ inI (z + w) = true ∧ wp r 0 927 ls (vI (z + w) :: st) x Q := (wp_u (show cd 0 926 = some (.iadd, 1, 0, 0, 0, 0) from rfl)).trans wq_if
set_option maxRecDepth 20000 in
theorem u0_927 : wp r 0 927 ls (vI i :: vA q :: st) x Q ↔ ldk 20 (hK x q) i ∧ wp r 0 928 ls (vI (hI x q i) :: st) x Q := (wp_u (show cd 0 927 = some (.iaload, 1, 0, 0, 0, 0) from rfl)).trans g_ldI
set_option maxRecDepth 20000 in
theorem u0_928 : wp r 0 928 ls (vI z0 :: vA q :: st) x Q ↔ isk 9 (hK x q) ∧ sml st = true ∧ 1 < r ∧ wpc 1 101 [vA q, vI z0] x (wk r 0 928 ls st Q) := (wp_u (show cd 0 928 = some (.invokevirtual 121, 3, 101, 2, 1, 9) from rfl)).trans (g_virt rfl (by decide) (by simp) rfl)
set_option maxRecDepth 20000 in
theorem u0_931 : wp r 0 931 [a0, a1, a2, a3, a4, a5, a6] (vI z :: st) x Q ↔ wp r 0 933 [a0, a1, a2, a3, a4, a5, vI z] st x Q := (wp_u (show cd 0 931 = some (.istore 6, 2, 0, 0, 0, 0) from rfl))
set_option maxRecDepth 20000 in
theorem u0_933 : wp r 0 933 [a0, a1, vR o, a3, a4, a5, a6] st x Q ↔ wp r 0 934 [a0, a1, vR o, a3, a4, a5, a6] (vR o :: st) x Q := (wp_u (show cd 0 933 = some (.aload_n 2, 1, 0, 0, 0, 0) from rfl))
set_option maxRecDepth 20000 in
theorem u0_934 : wp r 0 934 ls (vA q :: st) x Q ↔ isk 9 (hK x q) ∧ sml st = true ∧ 1 < r ∧ wpc 1 90 [vA q] x (wk r 0 934 ls st Q) := (wp_u (show cd 0 934 = some (.invokevirtual 80, 3, 90, 1, 1, 9) from rfl)).trans (g_virt rfl (by decide) (by simp) rfl)
set_option maxRecDepth 20000 in
theorem u0_937 : wp r 0 937 [a0, a1, a2, a3, a4, vI z, a6] st x Q ↔ wp r 0 939 [a0, a1, a2, a3, a4, vI z, a6] (vI z :: st) x Q := (wp_u (show cd 0 937 = some (.iload 5, 2, 0, 0, 0, 0) from rfl))
set_option maxRecDepth 20000 in
theorem u0_939 : wp r 0 939 ls (vI w :: vI z :: st) x Q ↔ if z = w then wp r 0 944 ls st x Q else wp r 0 942 ls st x Q := (wp_u (show cd 0 939 = some (.if_icmp .eq 5, 3, 944, 0, 0, 0) from rfl)).trans wq_d
set_option maxRecDepth 20000 in
theorem u0_942 : wp r 0 942 ls st x Q ↔ wp r 0 943 ls (vI 0 :: st) x Q := (wp_u (show cd 0 942 = some (.iconst 0, 1, 0, 0, 0, 0) from rfl))
set_option maxRecDepth 20000 in
theorem u0_943 : wp r 0 943 ls [vI z] x Q ↔ rg 4 z = true ∧ Q (.inl (some (vI z))) x := (wp_u (show cd 0 943 = some (.ireturn, 1, 4, 0, 0, 0) from rfl)).trans wq_if
set_option maxRecDepth 20000 in
theorem u0_944 : wp r 0 944 [a0, a1, a2, a3, a4, vI z, a6] st x Q ↔ wp r 0 946 [a0, a1, a2, a3, a4, vI z, a6] (vI z :: st) x Q := (wp_u (show cd 0 944 = some (.iload 5, 2, 0, 0, 0, 0) from rfl))
set_option maxRecDepth 20000 in
theorem u0_946 : wp r 0 946 ls (vI z :: st) x Q ↔ if z = 0 then wp r 0 949 ls st x Q else wp r 0 961 ls st x Q := (wp_u (show cd 0 946 = some (.ifCond .ne 15, 3, 961, 0, 0, 0) from rfl)).trans wq_dn
set_option maxRecDepth 20000 in
theorem u0_949 : wp r 0 949 [a0, a1, a2, vR o, a4, a5, a6] st x Q ↔ wp r 0 950 [a0, a1, a2, vR o, a4, a5, a6] (vR o :: st) x Q := (wp_u (show cd 0 949 = some (.aload_n 3, 1, 0, 0, 0, 0) from rfl))
set_option maxRecDepth 20000 in
theorem u0_950 : wp r 0 950 ls st x Q ↔ wp r 0 951 ls (vI 0 :: st) x Q := (wp_u (show cd 0 950 = some (.iconst 0, 1, 0, 0, 0, 0) from rfl))
set_option maxRecDepth 20000 in
theorem u0_951 : wp r 0 951 ls (vI i :: vA q :: st) x Q ↔ ldk 25 (hK x q) i ∧ wp r 0 952 ls (vL (hI x q i) :: st) x Q := (wp_u (show cd 0 951 = some (.laload, 1, 0, 0, 0, 0) from rfl)).trans g_ldL
set_option maxRecDepth 20000 in
theorem u0_952 : wp r 0 952 [a0, a1, a2, a3, a4, a5, vI z] st x Q ↔ wp r 0 954 [a0, a1, a2, a3, a4, a5, vI z] (vI z :: st) x Q := (wp_u (show cd 0 952 = some (.iload 6, 2, 0, 0, 0, 0) from rfl))
set_option maxRecDepth 20000 in
theorem u0_954 : wp r 0 954 ls (vI z :: st) x Q ↔ wp r 0 955 ls (vL z :: st) x Q := (wp_u (show cd 0 954 = some (.i2l, 1, 0, 0, 0, 0) from rfl))
set_option maxRecDepth 20000 in
theorem u0_955 : wp r 0 955 ls (vL w :: vL z :: st) x Q ↔ wp r 0 956 ls (vI (lCmp z w) :: st) x Q := (wp_u (show cd 0 955 = some (.lcmp, 1, 0, 0, 0, 0) from rfl))
set_option maxRecDepth 20000 in
theorem u0_956 : wp r 0 956 ls (vI z :: st) x Q ↔ if z = 0 then wp r 0 961 ls st x Q else wp r 0 959 ls st x Q := (wp_u (show cd 0 956 = some (.ifCond .eq 5, 3, 961, 0, 0, 0) from rfl)).trans wq_d
set_option maxRecDepth 20000 in
theorem u0_959 : wp r 0 959 ls st x Q ↔ wp r 0 960 ls (vI 0 :: st) x Q := (wp_u (show cd 0 959 = some (.iconst 0, 1, 0, 0, 0, 0) from rfl))
set_option maxRecDepth 20000 in
theorem u0_960 : wp r 0 960 ls [vI z] x Q ↔ rg 4 z = true ∧ Q (.inl (some (vI z))) x := (wp_u (show cd 0 960 = some (.ireturn, 1, 4, 0, 0, 0) from rfl)).trans wq_if
set_option maxRecDepth 20000 in
theorem u0_961 : wp r 0 961 ls st x Q ↔ wp r 0 964 ls st x Q := (wp_u (show cd 0 961 = some (.goto 3, 3, 964, 0, 0, 0) from rfl))
set_option maxRecDepth 20000 in
theorem u0_964 : wp r 0 964 [a0, a1, a2, a3, vI z, a5, a6] st x Q ↔ inI (z + 5) = true ∧ wp r 0 967 [a0, a1, a2, a3, vI (z + 5), a5, a6] st x Q := (wp_u (show cd 0 964 = some (.iinc 4 5, 3, 0, 0, 0, 0) from rfl)).trans wq_if
set_option maxRecDepth 20000 in
theorem u0_967 : wp r 0 967 ls st x Q ↔ wp r 0 23 ls st x Q := (wp_u (show cd 0 967 = some (.goto (-944), 3, 23, 0, 0, 0) from rfl))
set_option maxRecDepth 20000 in
theorem u0_970 : wp r 0 970 ls st x Q ↔ wp r 0 971 ls (vI 1 :: st) x Q := (wp_u (show cd 0 970 = some (.iconst 1, 1, 0, 0, 0, 0) from rfl))
set_option maxRecDepth 20000 in
theorem u0_971 : wp r 0 971 ls [vI z] x Q ↔ rg 4 z = true ∧ Q (.inl (some (vI z))) x := (wp_u (show cd 0 971 = some (.ireturn, 1, 4, 0, 0, 0) from rfl)).trans wq_if
theorem e0 : wpc r 0 [vR o0] x Q ↔ wp r 0 0 [vR o0, vL jk, vL jk, vL jk, vL jk, vL jk, vL jk] [] x Q := Iff.rfl
/-! 1 L_slot -/
theorem u1_0 : wp r 1 0 [a0, a1, a2, a3, a4, vR o, a6] st x Q ↔ wp r 1 2 [a0, a1, a2, a3, a4, vR o, a6] (vR o :: st) x Q := (wp_u (show cd 1 0 = some (.aload 5, 2, 0, 0, 0, 0) from rfl))
theorem u1_2 : wp r 1 2 ls st x Q ↔ wp r 1 3 ls (vI 0 :: st) x Q := (wp_u (show cd 1 2 = some (.iconst 0, 1, 0, 0, 0, 0) from rfl))
theorem u1_3 : wp r 1 3 [vR o, a1, a2, a3, a4, a5, a6] st x Q ↔ wp r 1 4 [vR o, a1, a2, a3, a4, a5, a6] (vR o :: st) x Q := (wp_u (show cd 1 3 = some (.aload_n 0, 1, 0, 0, 0, 0) from rfl))
theorem u1_4 : wp r 1 4 [a0, vI z, a2, a3, a4, a5, a6] st x Q ↔ wp r 1 5 [a0, vI z, a2, a3, a4, a5, a6] (vI z :: st) x Q := (wp_u (show cd 1 4 = some (.iload_n 1, 1, 0, 0, 0, 0) from rfl))
theorem u1_5 : wp r 1 5 [a0, a1, vI z, a3, a4, a5, a6] st x Q ↔ wp r 1 6 [a0, a1, vI z, a3, a4, a5, a6] (vI z :: st) x Q := (wp_u (show cd 1 5 = some (.iload_n 2, 1, 0, 0, 0, 0) from rfl))
theorem u1_6 : wp r 1 6 [a0, a1, a2, vI z, a4, a5, a6] st x Q ↔ wp r 1 7 [a0, a1, a2, vI z, a4, a5, a6] (vI z :: st) x Q := (wp_u (show cd 1 6 = some (.iload_n 3, 1, 0, 0, 0, 0) from rfl))
theorem u1_7 : wp r 1 7 [a0, a1, a2, a3, vI z, a5, a6] st x Q ↔ wp r 1 9 [a0, a1, a2, a3, vI z, a5, a6] (vI z :: st) x Q := (wp_u (show cd 1 7 = some (.iload 4, 2, 0, 0, 0, 0) from rfl))
theorem u1_9 : wp r 1 9 ls (vI z3 :: vI z2 :: vI z1 :: vI z0 :: vA q :: st) x Q ↔ isk 0 (hK x q) ∧ sml st = true ∧ 4 < r ∧ wpc 4 22 [vA q, vI z0, vI z1, vI z2, vI z3] x (wk r 1 9 ls st Q) := (wp_u (show cd 1 9 = some (.invokevirtual 7, 3, 22, 5, 4, 0) from rfl)).trans (g_virt rfl (by decide) (by simp) rfl)
theorem u1_12 : wp r 1 12 ls (vI z :: st) x Q ↔ wp r 1 13 ls (vL z :: st) x Q := (wp_u (show cd 1 12 = some (.i2l, 1, 0, 0, 0, 0) from rfl))
theorem u1_13 : wp r 1 13 ls (vL z :: vI i :: vA q :: st) x Q ↔ ldk 25 (hK x q) i ∧ 4 ≤ q ∧ wp r 1 14 ls st (stI x q i z) Q := (wp_u (show cd 1 13 = some (.lastore, 1, 0, 0, 0, 0) from rfl)).trans g_stL
theorem u1_14 : wp r 1 14 ls st x Q ↔ wp r 1 25 ls st x Q := (wp_u (show cd 1 14 = some (.goto 11, 3, 25, 0, 0, 0) from rfl))
theorem u1_17 : wp r 1 17 [a0, a1, a2, a3, a4, a5, a6] (vR o :: st) x Q ↔ wp r 1 19 [a0, a1, a2, a3, a4, a5, vR o] st x Q := (wp_u (show cd 1 17 = some (.astore 6, 2, 0, 0, 0, 0) from rfl))
theorem u1_19 : wp r 1 19 ls st x Q ↔ wp r 1 20 ls (vI 1 :: st) x Q := (wp_u (show cd 1 19 = some (.iconst 1, 1, 0, 0, 0, 0) from rfl))
theorem u1_20 : wp r 1 20 ls [vI z] x Q ↔ Q (.inl (some (vI z))) x := (wp_u (show cd 1 20 = some (.ireturn, 1, 0, 0, 0, 0) from rfl))
theorem u1_21 : wp r 1 21 [a0, a1, a2, a3, a4, a5, a6] (vR o :: st) x Q ↔ wp r 1 23 [a0, a1, a2, a3, a4, a5, vR o] st x Q := (wp_u (show cd 1 21 = some (.astore 6, 2, 0, 0, 0, 0) from rfl))
theorem u1_23 : wp r 1 23 ls st x Q ↔ wp r 1 24 ls (vI 2 :: st) x Q := (wp_u (show cd 1 23 = some (.iconst 2, 1, 0, 0, 0, 0) from rfl))
theorem u1_24 : wp r 1 24 ls [vI z] x Q ↔ Q (.inl (some (vI z))) x := (wp_u (show cd 1 24 = some (.ireturn, 1, 0, 0, 0, 0) from rfl))
theorem u1_25 : wp r 1 25 ls st x Q ↔ wp r 1 26 ls (vI 0 :: st) x Q := (wp_u (show cd 1 25 = some (.iconst 0, 1, 0, 0, 0, 0) from rfl))
theorem u1_26 : wp r 1 26 ls [vI z] x Q ↔ Q (.inl (some (vI z))) x := (wp_u (show cd 1 26 = some (.ireturn, 1, 0, 0, 0, 0) from rfl))
theorem e1 : wpc r 1 [vR o0, vI z1, vI z2, vI z3, vI z4, vR o5] x Q ↔ wp r 1 0 [vR o0, vI z1, vI z2, vI z3, vI z4, vR o5, vL jk] [] x Q := Iff.rfl
/-! 2 L_open -/
theorem u2_0 : wp r 2 0 [a0, a1, a2, a3, vR o, a5] st x Q ↔ wp r 2 2 [a0, a1, a2, a3, vR o, a5] (vR o :: st) x Q := (wp_u (show cd 2 0 = some (.aload 4, 2, 0, 0, 0, 0) from rfl))
theorem u2_2 : wp r 2 2 ls st x Q ↔ wp r 2 3 ls (vI 0 :: st) x Q := (wp_u (show cd 2 2 = some (.iconst 0, 1, 0, 0, 0, 0) from rfl))
theorem u2_3 : wp r 2 3 [vR o, a1, a2, a3, a4, a5] st x Q ↔ wp r 2 4 [vR o, a1, a2, a3, a4, a5] (vR o :: st) x Q := (wp_u (show cd 2 3 = some (.aload_n 0, 1, 0, 0, 0, 0) from rfl))
theorem u2_4 : wp r 2 4 [a0, vI z, a2, a3, a4, a5] st x Q ↔ wp r 2 5 [a0, vI z, a2, a3, a4, a5] (vI z :: st) x Q := (wp_u (show cd 2 4 = some (.iload_n 1, 1, 0, 0, 0, 0) from rfl))
theorem u2_5 : wp r 2 5 [a0, a1, vI z, a3, a4, a5] st x Q ↔ wp r 2 6 [a0, a1, vI z, a3, a4, a5] (vI z :: st) x Q := (wp_u (show cd 2 5 = some (.iload_n 2, 1, 0, 0, 0, 0) from rfl))
theorem u2_6 : wp r 2 6 [a0, a1, a2, vI z, a4, a5] st x Q ↔ wp r 2 7 [a0, a1, a2, vI z, a4, a5] (vI z :: st) x Q := (wp_u (show cd 2 6 = some (.iload_n 3, 1, 0, 0, 0, 0) from rfl))
theorem u2_7 : wp r 2 7 ls (vI z2 :: vI z1 :: vI z0 :: vA q :: st) x Q ↔ isk 0 (hK x q) ∧ sml st = true ∧ 4 < r ∧ wpc 4 23 [vA q, vI z0, vI z1, vI z2] x (wk r 2 7 ls st Q) := (wp_u (show cd 2 7 = some (.invokevirtual 17, 3, 23, 4, 4, 0) from rfl)).trans (g_virt rfl (by decide) (by simp) rfl)
theorem u2_10 : wp r 2 10 ls (vI z :: st) x Q ↔ wp r 2 11 ls (vL z :: st) x Q := (wp_u (show cd 2 10 = some (.i2l, 1, 0, 0, 0, 0) from rfl))
theorem u2_11 : wp r 2 11 ls (vL z :: vI i :: vA q :: st) x Q ↔ ldk 25 (hK x q) i ∧ 4 ≤ q ∧ wp r 2 12 ls st (stI x q i z) Q := (wp_u (show cd 2 11 = some (.lastore, 1, 0, 0, 0, 0) from rfl)).trans g_stL
theorem u2_12 : wp r 2 12 ls st x Q ↔ wp r 2 23 ls st x Q := (wp_u (show cd 2 12 = some (.goto 11, 3, 23, 0, 0, 0) from rfl))
theorem u2_15 : wp r 2 15 [a0, a1, a2, a3, a4, a5] (vR o :: st) x Q ↔ wp r 2 17 [a0, a1, a2, a3, a4, vR o] st x Q := (wp_u (show cd 2 15 = some (.astore 5, 2, 0, 0, 0, 0) from rfl))
theorem u2_17 : wp r 2 17 ls st x Q ↔ wp r 2 18 ls (vI 1 :: st) x Q := (wp_u (show cd 2 17 = some (.iconst 1, 1, 0, 0, 0, 0) from rfl))
theorem u2_18 : wp r 2 18 ls [vI z] x Q ↔ Q (.inl (some (vI z))) x := (wp_u (show cd 2 18 = some (.ireturn, 1, 0, 0, 0, 0) from rfl))
theorem u2_19 : wp r 2 19 [a0, a1, a2, a3, a4, a5] (vR o :: st) x Q ↔ wp r 2 21 [a0, a1, a2, a3, a4, vR o] st x Q := (wp_u (show cd 2 19 = some (.astore 5, 2, 0, 0, 0, 0) from rfl))
theorem u2_21 : wp r 2 21 ls st x Q ↔ wp r 2 22 ls (vI 2 :: st) x Q := (wp_u (show cd 2 21 = some (.iconst 2, 1, 0, 0, 0, 0) from rfl))
theorem u2_22 : wp r 2 22 ls [vI z] x Q ↔ Q (.inl (some (vI z))) x := (wp_u (show cd 2 22 = some (.ireturn, 1, 0, 0, 0, 0) from rfl))
theorem u2_23 : wp r 2 23 ls st x Q ↔ wp r 2 24 ls (vI 0 :: st) x Q := (wp_u (show cd 2 23 = some (.iconst 0, 1, 0, 0, 0, 0) from rfl))
theorem u2_24 : wp r 2 24 ls [vI z] x Q ↔ Q (.inl (some (vI z))) x := (wp_u (show cd 2 24 = some (.ireturn, 1, 0, 0, 0, 0) from rfl))
theorem e2 : wpc r 2 [vR o0, vI z1, vI z2, vI z3, vR o4] x Q ↔ wp r 2 0 [vR o0, vI z1, vI z2, vI z3, vR o4, vL jk] [] x Q := Iff.rfl
/-! 3 L_close -/
theorem u3_0 : wp r 3 0 [a0, a1, vR o, a3] st x Q ↔ wp r 3 1 [a0, a1, vR o, a3] (vR o :: st) x Q := (wp_u (show cd 3 0 = some (.aload_n 2, 1, 0, 0, 0, 0) from rfl))
theorem u3_1 : wp r 3 1 ls st x Q ↔ wp r 3 2 ls (vI 0 :: st) x Q := (wp_u (show cd 3 1 = some (.iconst 0, 1, 0, 0, 0, 0) from rfl))
theorem u3_2 : wp r 3 2 [vR o, a1, a2, a3] st x Q ↔ wp r 3 3 [vR o, a1, a2, a3] (vR o :: st) x Q := (wp_u (show cd 3 2 = some (.aload_n 0, 1, 0, 0, 0, 0) from rfl))
theorem u3_3 : wp r 3 3 [a0, vI z, a2, a3] st x Q ↔ wp r 3 4 [a0, vI z, a2, a3] (vI z :: st) x Q := (wp_u (show cd 3 3 = some (.iload_n 1, 1, 0, 0, 0, 0) from rfl))
theorem u3_4 : wp r 3 4 ls (vI z0 :: vA q :: st) x Q ↔ isk 0 (hK x q) ∧ sml st = true ∧ 3 < r ∧ wpc 3 24 [vA q, vI z0] x (wk r 3 4 ls st Q) := (wp_u (show cd 3 4 = some (.invokevirtual 21, 3, 24, 2, 3, 0) from rfl)).trans (g_virt rfl (by decide) (by simp) rfl)
theorem u3_7 : wp r 3 7 ls (vI z :: st) x Q ↔ if z = 0 then wp r 3 14 ls st x Q else wp r 3 10 ls st x Q := (wp_u (show cd 3 7 = some (.ifCond .eq 7, 3, 14, 0, 0, 0) from rfl)).trans wq_d
theorem u3_10 : wp r 3 10 ls st x Q ↔ wp r 3 11 ls (vL 1 :: st) x Q := (wp_u (show cd 3 10 = some (.lconst 1, 1, 0, 0, 0, 0) from rfl))
theorem u3_11 : wp r 3 11 ls st x Q ↔ wp r 3 15 ls st x Q := (wp_u (show cd 3 11 = some (.goto 4, 3, 15, 0, 0, 0) from rfl))
theorem u3_14 : wp r 3 14 ls st x Q ↔ wp r 3 15 ls (vL 0 :: st) x Q := (wp_u (show cd 3 14 = some (.lconst 0, 1, 0, 0, 0, 0) from rfl))
theorem u3_15 : wp r 3 15 ls (vL z :: vI i :: vA q :: st) x Q ↔ ldk 25 (hK x q) i ∧ 4 ≤ q ∧ wp r 3 16 ls st (stI x q i z) Q := (wp_u (show cd 3 15 = some (.lastore, 1, 0, 0, 0, 0) from rfl)).trans g_stL
theorem u3_16 : wp r 3 16 ls st x Q ↔ wp r 3 22 ls st x Q := (wp_u (show cd 3 16 = some (.goto 6, 3, 22, 0, 0, 0) from rfl))
theorem u3_19 : wp r 3 19 [a0, a1, a2, a3] (vR o :: st) x Q ↔ wp r 3 20 [a0, a1, a2, vR o] st x Q := (wp_u (show cd 3 19 = some (.astore_n 3, 1, 0, 0, 0, 0) from rfl))
theorem u3_20 : wp r 3 20 ls st x Q ↔ wp r 3 21 ls (vI 1 :: st) x Q := (wp_u (show cd 3 20 = some (.iconst 1, 1, 0, 0, 0, 0) from rfl))
theorem u3_21 : wp r 3 21 ls [vI z] x Q ↔ Q (.inl (some (vI z))) x := (wp_u (show cd 3 21 = some (.ireturn, 1, 0, 0, 0, 0) from rfl))
theorem u3_22 : wp r 3 22 ls st x Q ↔ wp r 3 23 ls (vI 0 :: st) x Q := (wp_u (show cd 3 22 = some (.iconst 0, 1, 0, 0, 0, 0) from rfl))
theorem u3_23 : wp r 3 23 ls [vI z] x Q ↔ Q (.inl (some (vI z))) x := (wp_u (show cd 3 23 = some (.ireturn, 1, 0, 0, 0, 0) from rfl))
theorem e3 : wpc r 3 [vR o0, vI z1, vR o2] x Q ↔ wp r 3 0 [vR o0, vI z1, vR o2, vL jk] [] x Q := Iff.rfl
/-! 4 L_clear -/
theorem u4_0 : wp r 4 0 [a0, a1, vR o, a3] st x Q ↔ wp r 4 1 [a0, a1, vR o, a3] (vR o :: st) x Q := (wp_u (show cd 4 0 = some (.aload_n 2, 1, 0, 0, 0, 0) from rfl))
theorem u4_1 : wp r 4 1 ls st x Q ↔ wp r 4 2 ls (vI 0 :: st) x Q := (wp_u (show cd 4 1 = some (.iconst 0, 1, 0, 0, 0, 0) from rfl))
theorem u4_2 : wp r 4 2 [vR o, a1, a2, a3] st x Q ↔ wp r 4 3 [vR o, a1, a2, a3] (vR o :: st) x Q := (wp_u (show cd 4 2 = some (.aload_n 0, 1, 0, 0, 0, 0) from rfl))
theorem u4_3 : wp r 4 3 [a0, vI z, a2, a3] st x Q ↔ wp r 4 4 [a0, vI z, a2, a3] (vI z :: st) x Q := (wp_u (show cd 4 3 = some (.iload_n 1, 1, 0, 0, 0, 0) from rfl))
theorem u4_4 : wp r 4 4 ls (vI z0 :: vA q :: st) x Q ↔ isk 0 (hK x q) ∧ sml st = true ∧ 7 < r ∧ wpc 7 25 [vA q, vI z0] x (wk r 4 4 ls st Q) := (wp_u (show cd 4 4 = some (.invokevirtual 25, 3, 25, 2, 7, 0) from rfl)).trans (g_virt rfl (by decide) (by simp) rfl)
theorem u4_7 : wp r 4 7 ls (vI z :: st) x Q ↔ if z = 0 then wp r 4 14 ls st x Q else wp r 4 10 ls st x Q := (wp_u (show cd 4 7 = some (.ifCond .eq 7, 3, 14, 0, 0, 0) from rfl)).trans wq_d
theorem u4_10 : wp r 4 10 ls st x Q ↔ wp r 4 11 ls (vL 1 :: st) x Q := (wp_u (show cd 4 10 = some (.lconst 1, 1, 0, 0, 0, 0) from rfl))
theorem u4_11 : wp r 4 11 ls st x Q ↔ wp r 4 15 ls st x Q := (wp_u (show cd 4 11 = some (.goto 4, 3, 15, 0, 0, 0) from rfl))
theorem u4_14 : wp r 4 14 ls st x Q ↔ wp r 4 15 ls (vL 0 :: st) x Q := (wp_u (show cd 4 14 = some (.lconst 0, 1, 0, 0, 0, 0) from rfl))
theorem u4_15 : wp r 4 15 ls (vL z :: vI i :: vA q :: st) x Q ↔ ldk 25 (hK x q) i ∧ 4 ≤ q ∧ wp r 4 16 ls st (stI x q i z) Q := (wp_u (show cd 4 15 = some (.lastore, 1, 0, 0, 0, 0) from rfl)).trans g_stL
theorem u4_16 : wp r 4 16 ls st x Q ↔ wp r 4 22 ls st x Q := (wp_u (show cd 4 16 = some (.goto 6, 3, 22, 0, 0, 0) from rfl))
theorem u4_19 : wp r 4 19 [a0, a1, a2, a3] (vR o :: st) x Q ↔ wp r 4 20 [a0, a1, a2, vR o] st x Q := (wp_u (show cd 4 19 = some (.astore_n 3, 1, 0, 0, 0, 0) from rfl))
theorem u4_20 : wp r 4 20 ls st x Q ↔ wp r 4 21 ls (vI 1 :: st) x Q := (wp_u (show cd 4 20 = some (.iconst 1, 1, 0, 0, 0, 0) from rfl))
theorem u4_21 : wp r 4 21 ls [vI z] x Q ↔ Q (.inl (some (vI z))) x := (wp_u (show cd 4 21 = some (.ireturn, 1, 0, 0, 0, 0) from rfl))
theorem u4_22 : wp r 4 22 ls st x Q ↔ wp r 4 23 ls (vI 0 :: st) x Q := (wp_u (show cd 4 22 = some (.iconst 0, 1, 0, 0, 0, 0) from rfl))
theorem u4_23 : wp r 4 23 ls [vI z] x Q ↔ Q (.inl (some (vI z))) x := (wp_u (show cd 4 23 = some (.ireturn, 1, 0, 0, 0, 0) from rfl))
theorem e4 : wpc r 4 [vR o0, vI z1, vR o2] x Q ↔ wp r 4 0 [vR o0, vI z1, vR o2, vL jk] [] x Q := Iff.rfl
/-! 5 L_read -/
theorem u5_0 : wp r 5 0 [a0, vR o, a2] st x Q ↔ wp r 5 1 [a0, vR o, a2] (vR o :: st) x Q := (wp_u (show cd 5 0 = some (.aload_n 1, 1, 0, 0, 0, 0) from rfl))
theorem u5_1 : wp r 5 1 ls st x Q ↔ wp r 5 2 ls (vI 0 :: st) x Q := (wp_u (show cd 5 1 = some (.iconst 0, 1, 0, 0, 0, 0) from rfl))
theorem u5_2 : wp r 5 2 [vR o, a1, a2] st x Q ↔ wp r 5 3 [vR o, a1, a2] (vR o :: st) x Q := (wp_u (show cd 5 2 = some (.aload_n 0, 1, 0, 0, 0, 0) from rfl))
theorem u5_3 : wp r 5 3 ls (vA q :: st) x Q ↔ isk 0 (hK x q) ∧ sml st = true ∧ 10 < r ∧ wpc 10 26 [vA q] x (wk r 5 3 ls st Q) := (wp_u (show cd 5 3 = some (.invokevirtual 28, 3, 26, 1, 10, 0) from rfl)).trans (g_virt rfl (by decide) (by simp) rfl)
theorem u5_6 : wp r 5 6 ls (vI z :: st) x Q ↔ wp r 5 7 ls (vL z :: st) x Q := (wp_u (show cd 5 6 = some (.i2l, 1, 0, 0, 0, 0) from rfl))
theorem u5_7 : wp r 5 7 ls (vL z :: vI i :: vA q :: st) x Q ↔ ldk 25 (hK x q) i ∧ 4 ≤ q ∧ wp r 5 8 ls st (stI x q i z) Q := (wp_u (show cd 5 7 = some (.lastore, 1, 0, 0, 0, 0) from rfl)).trans g_stL
theorem u5_8 : wp r 5 8 ls st x Q ↔ wp r 5 17 ls st x Q := (wp_u (show cd 5 8 = some (.goto 9, 3, 17, 0, 0, 0) from rfl))
theorem u5_11 : wp r 5 11 [a0, a1, a2] (vR o :: st) x Q ↔ wp r 5 12 [a0, a1, vR o] st x Q := (wp_u (show cd 5 11 = some (.astore_n 2, 1, 0, 0, 0, 0) from rfl))
theorem u5_12 : wp r 5 12 ls st x Q ↔ wp r 5 13 ls (vI 1 :: st) x Q := (wp_u (show cd 5 12 = some (.iconst 1, 1, 0, 0, 0, 0) from rfl))
theorem u5_13 : wp r 5 13 ls [vI z] x Q ↔ Q (.inl (some (vI z))) x := (wp_u (show cd 5 13 = some (.ireturn, 1, 0, 0, 0, 0) from rfl))
theorem u5_14 : wp r 5 14 [a0, a1, a2] (vR o :: st) x Q ↔ wp r 5 15 [a0, a1, vR o] st x Q := (wp_u (show cd 5 14 = some (.astore_n 2, 1, 0, 0, 0, 0) from rfl))
theorem u5_15 : wp r 5 15 ls st x Q ↔ wp r 5 16 ls (vI 2 :: st) x Q := (wp_u (show cd 5 15 = some (.iconst 2, 1, 0, 0, 0, 0) from rfl))
theorem u5_16 : wp r 5 16 ls [vI z] x Q ↔ Q (.inl (some (vI z))) x := (wp_u (show cd 5 16 = some (.ireturn, 1, 0, 0, 0, 0) from rfl))
theorem u5_17 : wp r 5 17 ls st x Q ↔ wp r 5 18 ls (vI 0 :: st) x Q := (wp_u (show cd 5 17 = some (.iconst 0, 1, 0, 0, 0, 0) from rfl))
theorem u5_18 : wp r 5 18 ls [vI z] x Q ↔ Q (.inl (some (vI z))) x := (wp_u (show cd 5 18 = some (.ireturn, 1, 0, 0, 0, 0) from rfl))
theorem e5 : wpc r 5 [vR o0, vR o1] x Q ↔ wp r 5 0 [vR o0, vR o1, vL jk] [] x Q := Iff.rfl
/-! 6 L_interchange -/
theorem u6_0 : wp r 6 0 [a0, a1, vR o, a3] st x Q ↔ wp r 6 1 [a0, a1, vR o, a3] (vR o :: st) x Q := (wp_u (show cd 6 0 = some (.aload_n 2, 1, 0, 0, 0, 0) from rfl))
theorem u6_1 : wp r 6 1 ls st x Q ↔ wp r 6 2 ls (vI 0 :: st) x Q := (wp_u (show cd 6 1 = some (.iconst 0, 1, 0, 0, 0, 0) from rfl))
theorem u6_2 : wp r 6 2 [vR o, a1, a2, a3] st x Q ↔ wp r 6 3 [vR o, a1, a2, a3] (vR o :: st) x Q := (wp_u (show cd 6 2 = some (.aload_n 0, 1, 0, 0, 0, 0) from rfl))
theorem u6_3 : wp r 6 3 [a0, vI z, a2, a3] st x Q ↔ wp r 6 4 [a0, vI z, a2, a3] (vI z :: st) x Q := (wp_u (show cd 6 3 = some (.iload_n 1, 1, 0, 0, 0, 0) from rfl))
theorem u6_4 : wp r 6 4 ls (vI z0 :: vA q :: st) x Q ↔ isk 0 (hK x q) ∧ sml st = true ∧ 2 < r ∧ wpc 2 27 [vA q, vI z0] x (wk r 6 4 ls st Q) := (wp_u (show cd 6 4 = some (.invokevirtual 34, 3, 27, 2, 2, 0) from rfl)).trans (g_virt rfl (by decide) (by simp) rfl)
theorem u6_7 : wp r 6 7 ls (vI z :: st) x Q ↔ wp r 6 8 ls (vL z :: st) x Q := (wp_u (show cd 6 7 = some (.i2l, 1, 0, 0, 0, 0) from rfl))
theorem u6_8 : wp r 6 8 ls (vL z :: vI i :: vA q :: st) x Q ↔ ldk 25 (hK x q) i ∧ 4 ≤ q ∧ wp r 6 9 ls st (stI x q i z) Q := (wp_u (show cd 6 8 = some (.lastore, 1, 0, 0, 0, 0) from rfl)).trans g_stL
theorem u6_9 : wp r 6 9 ls st x Q ↔ wp r 6 15 ls st x Q := (wp_u (show cd 6 9 = some (.goto 6, 3, 15, 0, 0, 0) from rfl))
theorem u6_12 : wp r 6 12 [a0, a1, a2, a3] (vR o :: st) x Q ↔ wp r 6 13 [a0, a1, a2, vR o] st x Q := (wp_u (show cd 6 12 = some (.astore_n 3, 1, 0, 0, 0, 0) from rfl))
theorem u6_13 : wp r 6 13 ls st x Q ↔ wp r 6 14 ls (vI 1 :: st) x Q := (wp_u (show cd 6 13 = some (.iconst 1, 1, 0, 0, 0, 0) from rfl))
theorem u6_14 : wp r 6 14 ls [vI z] x Q ↔ Q (.inl (some (vI z))) x := (wp_u (show cd 6 14 = some (.ireturn, 1, 0, 0, 0, 0) from rfl))
theorem u6_15 : wp r 6 15 ls st x Q ↔ wp r 6 16 ls (vI 0 :: st) x Q := (wp_u (show cd 6 15 = some (.iconst 0, 1, 0, 0, 0, 0) from rfl))
theorem u6_16 : wp r 6 16 ls [vI z] x Q ↔ Q (.inl (some (vI z))) x := (wp_u (show cd 6 16 = some (.ireturn, 1, 0, 0, 0, 0) from rfl))
theorem e6 : wpc r 6 [vR o0, vI z1, vR o2] x Q ↔ wp r 6 0 [vR o0, vI z1, vR o2, vL jk] [] x Q := Iff.rfl
/-! 7 L_message -/
theorem u7_0 : wp r 7 0 [a0, a1, a2, vR o, a4] st x Q ↔ wp r 7 1 [a0, a1, a2, vR o, a4] (vR o :: st) x Q := (wp_u (show cd 7 0 = some (.aload_n 3, 1, 0, 0, 0, 0) from rfl))
theorem u7_1 : wp r 7 1 ls st x Q ↔ wp r 7 2 ls (vI 0 :: st) x Q := (wp_u (show cd 7 1 = some (.iconst 0, 1, 0, 0, 0, 0) from rfl))
theorem u7_2 : wp r 7 2 [vR o, a1, a2, a3, a4] st x Q ↔ wp r 7 3 [vR o, a1, a2, a3, a4] (vR o :: st) x Q := (wp_u (show cd 7 2 = some (.aload_n 0, 1, 0, 0, 0, 0) from rfl))
theorem u7_3 : wp r 7 3 [a0, vI z, a2, a3, a4] st x Q ↔ wp r 7 4 [a0, vI z, a2, a3, a4] (vI z :: st) x Q := (wp_u (show cd 7 3 = some (.iload_n 1, 1, 0, 0, 0, 0) from rfl))
theorem u7_4 : wp r 7 4 [a0, a1, vI z, a3, a4] st x Q ↔ wp r 7 5 [a0, a1, vI z, a3, a4] (vI z :: st) x Q := (wp_u (show cd 7 4 = some (.iload_n 2, 1, 0, 0, 0, 0) from rfl))
theorem u7_5 : wp r 7 5 ls (vI z1 :: vI z0 :: vA q :: st) x Q ↔ isk 0 (hK x q) ∧ sml st = true ∧ 2 < r ∧ wpc 2 28 [vA q, vI z0, vI z1] x (wk r 7 5 ls st Q) := (wp_u (show cd 7 5 = some (.invokevirtual 38, 3, 28, 3, 2, 0) from rfl)).trans (g_virt rfl (by decide) (by simp) rfl)
theorem u7_8 : wp r 7 8 ls (vI z :: st) x Q ↔ wp r 7 9 ls (vL z :: st) x Q := (wp_u (show cd 7 8 = some (.i2l, 1, 0, 0, 0, 0) from rfl))
theorem u7_9 : wp r 7 9 ls (vL z :: vI i :: vA q :: st) x Q ↔ ldk 25 (hK x q) i ∧ 4 ≤ q ∧ wp r 7 10 ls st (stI x q i z) Q := (wp_u (show cd 7 9 = some (.lastore, 1, 0, 0, 0, 0) from rfl)).trans g_stL
theorem u7_10 : wp r 7 10 ls st x Q ↔ wp r 7 17 ls st x Q := (wp_u (show cd 7 10 = some (.goto 7, 3, 17, 0, 0, 0) from rfl))
theorem u7_13 : wp r 7 13 [a0, a1, a2, a3, a4] (vR o :: st) x Q ↔ wp r 7 15 [a0, a1, a2, a3, vR o] st x Q := (wp_u (show cd 7 13 = some (.astore 4, 2, 0, 0, 0, 0) from rfl))
theorem u7_15 : wp r 7 15 ls st x Q ↔ wp r 7 16 ls (vI 1 :: st) x Q := (wp_u (show cd 7 15 = some (.iconst 1, 1, 0, 0, 0, 0) from rfl))
theorem u7_16 : wp r 7 16 ls [vI z] x Q ↔ Q (.inl (some (vI z))) x := (wp_u (show cd 7 16 = some (.ireturn, 1, 0, 0, 0, 0) from rfl))
theorem u7_17 : wp r 7 17 ls st x Q ↔ wp r 7 18 ls (vI 0 :: st) x Q := (wp_u (show cd 7 17 = some (.iconst 0, 1, 0, 0, 0, 0) from rfl))
theorem u7_18 : wp r 7 18 ls [vI z] x Q ↔ Q (.inl (some (vI z))) x := (wp_u (show cd 7 18 = some (.ireturn, 1, 0, 0, 0, 0) from rfl))
theorem e7 : wpc r 7 [vR o0, vI z1, vI z2, vR o3] x Q ↔ wp r 7 0 [vR o0, vI z1, vI z2, vR o3, vL jk] [] x Q := Iff.rfl
/-! 8 L_group -/
theorem u8_0 : wp r 8 0 [a0, a1, vR o, a3] st x Q ↔ wp r 8 1 [a0, a1, vR o, a3] (vR o :: st) x Q := (wp_u (show cd 8 0 = some (.aload_n 2, 1, 0, 0, 0, 0) from rfl))
theorem u8_1 : wp r 8 1 ls st x Q ↔ wp r 8 2 ls (vI 0 :: st) x Q := (wp_u (show cd 8 1 = some (.iconst 0, 1, 0, 0, 0, 0) from rfl))
theorem u8_2 : wp r 8 2 [vR o, a1, a2, a3] st x Q ↔ wp r 8 3 [vR o, a1, a2, a3] (vR o :: st) x Q := (wp_u (show cd 8 2 = some (.aload_n 0, 1, 0, 0, 0, 0) from rfl))
theorem u8_3 : wp r 8 3 [a0, vI z, a2, a3] st x Q ↔ wp r 8 4 [a0, vI z, a2, a3] (vI z :: st) x Q := (wp_u (show cd 8 3 = some (.iload_n 1, 1, 0, 0, 0, 0) from rfl))
theorem u8_4 : wp r 8 4 ls (vI z0 :: vA q :: st) x Q ↔ isk 0 (hK x q) ∧ sml st = true ∧ 2 < r ∧ wpc 2 29 [vA q, vI z0] x (wk r 8 4 ls st Q) := (wp_u (show cd 8 4 = some (.invokevirtual 42, 3, 29, 2, 2, 0) from rfl)).trans (g_virt rfl (by decide) (by simp) rfl)
theorem u8_7 : wp r 8 7 ls (vI z :: st) x Q ↔ wp r 8 8 ls (vL z :: st) x Q := (wp_u (show cd 8 7 = some (.i2l, 1, 0, 0, 0, 0) from rfl))
theorem u8_8 : wp r 8 8 ls (vL z :: vI i :: vA q :: st) x Q ↔ ldk 25 (hK x q) i ∧ 4 ≤ q ∧ wp r 8 9 ls st (stI x q i z) Q := (wp_u (show cd 8 8 = some (.lastore, 1, 0, 0, 0, 0) from rfl)).trans g_stL
theorem u8_9 : wp r 8 9 ls st x Q ↔ wp r 8 15 ls st x Q := (wp_u (show cd 8 9 = some (.goto 6, 3, 15, 0, 0, 0) from rfl))
theorem u8_12 : wp r 8 12 [a0, a1, a2, a3] (vR o :: st) x Q ↔ wp r 8 13 [a0, a1, a2, vR o] st x Q := (wp_u (show cd 8 12 = some (.astore_n 3, 1, 0, 0, 0, 0) from rfl))
theorem u8_13 : wp r 8 13 ls st x Q ↔ wp r 8 14 ls (vI 1 :: st) x Q := (wp_u (show cd 8 13 = some (.iconst 1, 1, 0, 0, 0, 0) from rfl))
theorem u8_14 : wp r 8 14 ls [vI z] x Q ↔ Q (.inl (some (vI z))) x := (wp_u (show cd 8 14 = some (.ireturn, 1, 0, 0, 0, 0) from rfl))
theorem u8_15 : wp r 8 15 ls st x Q ↔ wp r 8 16 ls (vI 0 :: st) x Q := (wp_u (show cd 8 15 = some (.iconst 0, 1, 0, 0, 0, 0) from rfl))
theorem u8_16 : wp r 8 16 ls [vI z] x Q ↔ Q (.inl (some (vI z))) x := (wp_u (show cd 8 16 = some (.ireturn, 1, 0, 0, 0, 0) from rfl))
theorem e8 : wpc r 8 [vR o0, vI z1, vR o2] x Q ↔ wp r 8 0 [vR o0, vI z1, vR o2, vL jk] [] x Q := Iff.rfl
/-! 9 L_segment -/
theorem u9_0 : wp r 9 0 [a0, a1, a2, a3, a4, vR o, a6] st x Q ↔ wp r 9 2 [a0, a1, a2, a3, a4, vR o, a6] (vR o :: st) x Q := (wp_u (show cd 9 0 = some (.aload 5, 2, 0, 0, 0, 0) from rfl))
theorem u9_2 : wp r 9 2 ls st x Q ↔ wp r 9 3 ls (vI 0 :: st) x Q := (wp_u (show cd 9 2 = some (.iconst 0, 1, 0, 0, 0, 0) from rfl))
theorem u9_3 : wp r 9 3 [vR o, a1, a2, a3, a4, a5, a6] st x Q ↔ wp r 9 4 [vR o, a1, a2, a3, a4, a5, a6] (vR o :: st) x Q := (wp_u (show cd 9 3 = some (.aload_n 0, 1, 0, 0, 0, 0) from rfl))
theorem u9_4 : wp r 9 4 [a0, vI z, a2, a3, a4, a5, a6] st x Q ↔ wp r 9 5 [a0, vI z, a2, a3, a4, a5, a6] (vI z :: st) x Q := (wp_u (show cd 9 4 = some (.iload_n 1, 1, 0, 0, 0, 0) from rfl))
theorem u9_5 : wp r 9 5 [a0, a1, vI z, a3, a4, a5, a6] st x Q ↔ wp r 9 6 [a0, a1, vI z, a3, a4, a5, a6] (vI z :: st) x Q := (wp_u (show cd 9 5 = some (.iload_n 2, 1, 0, 0, 0, 0) from rfl))
theorem u9_6 : wp r 9 6 [a0, a1, a2, vI z, a4, a5, a6] st x Q ↔ wp r 9 7 [a0, a1, a2, vI z, a4, a5, a6] (vI z :: st) x Q := (wp_u (show cd 9 6 = some (.iload_n 3, 1, 0, 0, 0, 0) from rfl))
theorem u9_7 : wp r 9 7 [a0, a1, a2, a3, vI z, a5, a6] st x Q ↔ wp r 9 9 [a0, a1, a2, a3, vI z, a5, a6] (vI z :: st) x Q := (wp_u (show cd 9 7 = some (.iload 4, 2, 0, 0, 0, 0) from rfl))
theorem u9_9 : wp r 9 9 ls (vI z3 :: vI z2 :: vI z1 :: vI z0 :: vA q :: st) x Q ↔ isk 0 (hK x q) ∧ sml st = true ∧ 2 < r ∧ wpc 2 30 [vA q, vI z0, vI z1, vI z2, vI z3] x (wk r 9 9 ls st Q) := (wp_u (show cd 9 9 = some (.invokevirtual 45, 3, 30, 5, 2, 0) from rfl)).trans (g_virt rfl (by decide) (by simp) rfl)
theorem u9_12 : wp r 9 12 ls (vI z :: st) x Q ↔ wp r 9 13 ls (vL z :: st) x Q := (wp_u (show cd 9 12 = some (.i2l, 1, 0, 0, 0, 0) from rfl))
theorem u9_13 : wp r 9 13 ls (vL z :: vI i :: vA q :: st) x Q ↔ ldk 25 (hK x q) i ∧ 4 ≤ q ∧ wp r 9 14 ls st (stI x q i z) Q := (wp_u (show cd 9 13 = some (.lastore, 1, 0, 0, 0, 0) from rfl)).trans g_stL
theorem u9_14 : wp r 9 14 ls st x Q ↔ wp r 9 21 ls st x Q := (wp_u (show cd 9 14 = some (.goto 7, 3, 21, 0, 0, 0) from rfl))
theorem u9_17 : wp r 9 17 [a0, a1, a2, a3, a4, a5, a6] (vR o :: st) x Q ↔ wp r 9 19 [a0, a1, a2, a3, a4, a5, vR o] st x Q := (wp_u (show cd 9 17 = some (.astore 6, 2, 0, 0, 0, 0) from rfl))
theorem u9_19 : wp r 9 19 ls st x Q ↔ wp r 9 20 ls (vI 1 :: st) x Q := (wp_u (show cd 9 19 = some (.iconst 1, 1, 0, 0, 0, 0) from rfl))
theorem u9_20 : wp r 9 20 ls [vI z] x Q ↔ Q (.inl (some (vI z))) x := (wp_u (show cd 9 20 = some (.ireturn, 1, 0, 0, 0, 0) from rfl))
theorem u9_21 : wp r 9 21 ls st x Q ↔ wp r 9 22 ls (vI 0 :: st) x Q := (wp_u (show cd 9 21 = some (.iconst 0, 1, 0, 0, 0, 0) from rfl))
theorem u9_22 : wp r 9 22 ls [vI z] x Q ↔ Q (.inl (some (vI z))) x := (wp_u (show cd 9 22 = some (.ireturn, 1, 0, 0, 0, 0) from rfl))
theorem e9 : wpc r 9 [vR o0, vI z1, vI z2, vI z3, vI z4, vR o5] x Q ↔ wp r 9 0 [vR o0, vI z1, vI z2, vI z3, vI z4, vR o5, vL jk] [] x Q := Iff.rfl
/-! 10 L_print -/
theorem u10_0 : wp r 10 0 [a0, a1, vR o, a3] st x Q ↔ wp r 10 1 [a0, a1, vR o, a3] (vR o :: st) x Q := (wp_u (show cd 10 0 = some (.aload_n 2, 1, 0, 0, 0, 0) from rfl))
theorem u10_1 : wp r 10 1 ls st x Q ↔ wp r 10 2 ls (vI 0 :: st) x Q := (wp_u (show cd 10 1 = some (.iconst 0, 1, 0, 0, 0, 0) from rfl))
theorem u10_2 : wp r 10 2 [vR o, a1, a2, a3] st x Q ↔ wp r 10 3 [vR o, a1, a2, a3] (vR o :: st) x Q := (wp_u (show cd 10 2 = some (.aload_n 0, 1, 0, 0, 0, 0) from rfl))
theorem u10_3 : wp r 10 3 [a0, vI z, a2, a3] st x Q ↔ wp r 10 4 [a0, vI z, a2, a3] (vI z :: st) x Q := (wp_u (show cd 10 3 = some (.iload_n 1, 1, 0, 0, 0, 0) from rfl))
theorem u10_4 : wp r 10 4 ls (vI z0 :: vA q :: st) x Q ↔ isk 0 (hK x q) ∧ sml st = true ∧ 6 < r ∧ wpc 6 31 [vA q, vI z0] x (wk r 10 4 ls st Q) := (wp_u (show cd 10 4 = some (.invokevirtual 49, 3, 31, 2, 6, 0) from rfl)).trans (g_virt rfl (by decide) (by simp) rfl)
theorem u10_7 : wp r 10 7 ls (vI z :: st) x Q ↔ wp r 10 8 ls (vL z :: st) x Q := (wp_u (show cd 10 7 = some (.i2l, 1, 0, 0, 0, 0) from rfl))
theorem u10_8 : wp r 10 8 ls (vL z :: vI i :: vA q :: st) x Q ↔ ldk 25 (hK x q) i ∧ 4 ≤ q ∧ wp r 10 9 ls st (stI x q i z) Q := (wp_u (show cd 10 8 = some (.lastore, 1, 0, 0, 0, 0) from rfl)).trans g_stL
theorem u10_9 : wp r 10 9 ls st x Q ↔ wp r 10 15 ls st x Q := (wp_u (show cd 10 9 = some (.goto 6, 3, 15, 0, 0, 0) from rfl))
theorem u10_12 : wp r 10 12 [a0, a1, a2, a3] (vR o :: st) x Q ↔ wp r 10 13 [a0, a1, a2, vR o] st x Q := (wp_u (show cd 10 12 = some (.astore_n 3, 1, 0, 0, 0, 0) from rfl))
theorem u10_13 : wp r 10 13 ls st x Q ↔ wp r 10 14 ls (vI 1 :: st) x Q := (wp_u (show cd 10 13 = some (.iconst 1, 1, 0, 0, 0, 0) from rfl))
theorem u10_14 : wp r 10 14 ls [vI z] x Q ↔ Q (.inl (some (vI z))) x := (wp_u (show cd 10 14 = some (.ireturn, 1, 0, 0, 0, 0) from rfl))
theorem u10_15 : wp r 10 15 ls st x Q ↔ wp r 10 16 ls (vI 0 :: st) x Q := (wp_u (show cd 10 15 = some (.iconst 0, 1, 0, 0, 0, 0) from rfl))
theorem u10_16 : wp r 10 16 ls [vI z] x Q ↔ Q (.inl (some (vI z))) x := (wp_u (show cd 10 16 = some (.ireturn, 1, 0, 0, 0, 0) from rfl))
theorem e10 : wpc r 10 [vR o0, vI z1, vR o2] x Q ↔ wp r 10 0 [vR o0, vI z1, vR o2, vL jk] [] x Q := Iff.rfl
/-! 11 L_report -/
theorem u11_0 : wp r 11 0 [a0, a1, vR o, a3] st x Q ↔ wp r 11 1 [a0, a1, vR o, a3] (vR o :: st) x Q := (wp_u (show cd 11 0 = some (.aload_n 2, 1, 0, 0, 0, 0) from rfl))
theorem u11_1 : wp r 11 1 ls st x Q ↔ wp r 11 2 ls (vI 0 :: st) x Q := (wp_u (show cd 11 1 = some (.iconst 0, 1, 0, 0, 0, 0) from rfl))
theorem u11_2 : wp r 11 2 [vR o, a1, a2, a3] st x Q ↔ wp r 11 3 [vR o, a1, a2, a3] (vR o :: st) x Q := (wp_u (show cd 11 2 = some (.aload_n 0, 1, 0, 0, 0, 0) from rfl))
theorem u11_3 : wp r 11 3 [a0, vI z, a2, a3] st x Q ↔ wp r 11 4 [a0, vI z, a2, a3] (vI z :: st) x Q := (wp_u (show cd 11 3 = some (.iload_n 1, 1, 0, 0, 0, 0) from rfl))
theorem u11_4 : wp r 11 4 ls (vI z0 :: vA q :: st) x Q ↔ isk 0 (hK x q) ∧ sml st = true ∧ 6 < r ∧ wpc 6 32 [vA q, vI z0] x (wk r 11 4 ls st Q) := (wp_u (show cd 11 4 = some (.invokevirtual 52, 3, 32, 2, 6, 0) from rfl)).trans (g_virt rfl (by decide) (by simp) rfl)
theorem u11_7 : wp r 11 7 ls (vI z :: st) x Q ↔ wp r 11 8 ls (vL z :: st) x Q := (wp_u (show cd 11 7 = some (.i2l, 1, 0, 0, 0, 0) from rfl))
theorem u11_8 : wp r 11 8 ls (vL z :: vI i :: vA q :: st) x Q ↔ ldk 25 (hK x q) i ∧ 4 ≤ q ∧ wp r 11 9 ls st (stI x q i z) Q := (wp_u (show cd 11 8 = some (.lastore, 1, 0, 0, 0, 0) from rfl)).trans g_stL
theorem u11_9 : wp r 11 9 ls st x Q ↔ wp r 11 15 ls st x Q := (wp_u (show cd 11 9 = some (.goto 6, 3, 15, 0, 0, 0) from rfl))
theorem u11_12 : wp r 11 12 [a0, a1, a2, a3] (vR o :: st) x Q ↔ wp r 11 13 [a0, a1, a2, vR o] st x Q := (wp_u (show cd 11 12 = some (.astore_n 3, 1, 0, 0, 0, 0) from rfl))
theorem u11_13 : wp r 11 13 ls st x Q ↔ wp r 11 14 ls (vI 1 :: st) x Q := (wp_u (show cd 11 13 = some (.iconst 1, 1, 0, 0, 0, 0) from rfl))
theorem u11_14 : wp r 11 14 ls [vI z] x Q ↔ Q (.inl (some (vI z))) x := (wp_u (show cd 11 14 = some (.ireturn, 1, 0, 0, 0, 0) from rfl))
theorem u11_15 : wp r 11 15 ls st x Q ↔ wp r 11 16 ls (vI 0 :: st) x Q := (wp_u (show cd 11 15 = some (.iconst 0, 1, 0, 0, 0, 0) from rfl))
theorem u11_16 : wp r 11 16 ls [vI z] x Q ↔ Q (.inl (some (vI z))) x := (wp_u (show cd 11 16 = some (.ireturn, 1, 0, 0, 0, 0) from rfl))
theorem e11 : wpc r 11 [vR o0, vI z1, vR o2] x Q ↔ wp r 11 0 [vR o0, vI z1, vR o2, vL jk] [] x Q := Iff.rfl
/-! 12 D_scans -/
theorem u12_0 : wp r 12 0 [vR o, a1] st x Q ↔ wp r 12 1 [vR o, a1] (vR o :: st) x Q := (wp_u (show cd 12 0 = some (.aload_n 0, 1, 0, 0, 0, 0) from rfl))
theorem u12_1 : wp r 12 1 ls (vA q :: st) x Q ↔ sbk 0 (hK x q) ∧ wp r 12 4 ls (vR (hR x q 0) :: st) x Q := (wp_u (show cd 12 1 = some (.getfield 18, 3, 0, 0, 5, 0) from rfl)).trans g_getR
theorem u12_4 : wp r 12 4 [vR o, a1] st x Q ↔ wp r 12 5 [vR o, a1] (vR o :: st) x Q := (wp_u (show cd 12 4 = some (.aload_n 0, 1, 0, 0, 0, 0) from rfl))
theorem u12_5 : wp r 12 5 ls (vA q :: st) x Q ↔ sbk 0 (hK x q) ∧ wp r 12 8 ls (vR (hR x q 2) :: st) x Q := (wp_u (show cd 12 5 = some (.getfield 29, 3, 0, 2, 5, 0) from rfl)).trans g_getR
theorem u12_8 : wp r 12 8 ls (vR o0 :: vA q :: st) x Q ↔ isk 1 (hK x q) ∧ sml st = true ∧ 8 < r ∧ wpc 8 53 [vA q, vR o0] x (wk r 12 8 ls st Q) := (wp_u (show cd 12 8 = some (.invokevirtual 183, 3, 53, 2, 8, 1) from rfl)).trans (g_virt rfl (by decide) (by simp) rfl)
theorem u12_11 : wp r 12 11 ls st x Q ↔ wp r 12 17 ls st x Q := (wp_u (show cd 12 11 = some (.goto 6, 3, 17, 0, 0, 0) from rfl))
theorem u12_14 : wp r 12 14 [a0, a1] (vR o :: st) x Q ↔ wp r 12 15 [a0, vR o] st x Q := (wp_u (show cd 12 14 = some (.astore_n 1, 1, 0, 0, 0, 0) from rfl))
theorem u12_15 : wp r 12 15 ls st x Q ↔ wp r 12 16 ls (vI 0 :: st) x Q := (wp_u (show cd 12 15 = some (.iconst 0, 1, 0, 0, 0, 0) from rfl))
theorem u12_16 : wp r 12 16 ls [vI z] x Q ↔ rg 4 z = true ∧ Q (.inl (some (vI z))) x := (wp_u (show cd 12 16 = some (.ireturn, 1, 4, 0, 0, 0) from rfl)).trans wq_if
theorem u12_17 : wp r 12 17 ls st x Q ↔ wp r 12 18 ls (vI 1 :: st) x Q := (wp_u (show cd 12 17 = some (.iconst 1, 1, 0, 0, 0, 0) from rfl))
theorem u12_18 : wp r 12 18 ls [vI z] x Q ↔ rg 4 z = true ∧ Q (.inl (some (vI z))) x := (wp_u (show cd 12 18 = some (.ireturn, 1, 4, 0, 0, 0) from rfl)).trans wq_if
theorem e12 : wpc r 12 [vA q] x Q ↔ wp r 12 0 [vA q, vL jk] [] x Q := Iff.rfl
end
