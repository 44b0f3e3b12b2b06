/-! which steps are plain; the soundness of a whole run -/
section
variable {pc len r1 r2 r3 r4 : Nat} {ls st : List AV} {x : HP}
set_option maxHeartbeats 4000000 in
theorem st_cls {ins : Instr} {w : SR} (h : astep pc (ins, len, r1, r2, r3, r4) ls st x = some w) : (∃ z, w = .inl z) ∨ ((ins = .ireturn ∨ ins = .areturn ∨ ins = .return_) ∧ ∃ v, w = .inr (.inl v)) ∨ ∃ i, ins = .invokestatic i ∨ ins = .invokespecial i ∨ ins = .invokevirtual i := by
  cases ins with
  | iconst a0 =>
    refine Or.inl ?_
    simp only [astep] at h
    repeat' (split at h)
    all_goals first | (unfold sN at h; cases h; exact ⟨_, rfl⟩) | cases h
  | bipush a0 =>
    refine Or.inl ?_
    simp only [astep] at h
    repeat' (split at h)
    all_goals first | (unfold sN at h; cases h; exact ⟨_, rfl⟩) | cases h
  | sipush a0 =>
    refine Or.inl ?_
    simp only [astep] at h
    repeat' (split at h)
    all_goals first | (unfold sN at h; cases h; exact ⟨_, rfl⟩) | cases h
  | ldc a0 =>
    refine Or.inl ?_
    simp only [astep] at h
    repeat' (split at h)
    all_goals first | (unfold sN at h; cases h; exact ⟨_, rfl⟩) | cases h
  | ldc_w a0 =>
    refine Or.inl ?_
    simp only [astep] at h
    repeat' (split at h)
    all_goals first | (unfold sN at h; cases h; exact ⟨_, rfl⟩) | cases h
  | ldc2_w a0 =>
    refine Or.inl ?_
    simp only [astep] at h
    repeat' (split at h)
    all_goals first | (unfold sN at h; cases h; exact ⟨_, rfl⟩) | cases h
  | lconst a0 =>
    refine Or.inl ?_
    simp only [astep] at h
    repeat' (split at h)
    all_goals first | (unfold sN at h; cases h; exact ⟨_, rfl⟩) | cases h
  | aconst_null =>
    refine Or.inl ?_
    simp only [astep] at h
    repeat' (split at h)
    all_goals first | (unfold sN at h; cases h; exact ⟨_, rfl⟩) | cases h
  | iload a0 =>
    refine Or.inl ?_
    simp only [astep, oLoadI] at h
    repeat' (split at h)
    all_goals first | (unfold sN at h; cases h; exact ⟨_, rfl⟩) | cases h
  | iload_n a0 =>
    refine Or.inl ?_
    simp only [astep, oLoadI] at h
    repeat' (split at h)
    all_goals first | (unfold sN at h; cases h; exact ⟨_, rfl⟩) | cases h
  | lload_n a0 =>
    refine Or.inl ?_
    simp only [astep, oLoadL] at h
    repeat' (split at h)
    all_goals first | (unfold sN at h; cases h; exact ⟨_, rfl⟩) | cases h
  | aload a0 =>
    refine Or.inl ?_
    simp only [astep, oLoadA] at h
    repeat' (split at h)
    all_goals first | (unfold sN at h; cases h; exact ⟨_, rfl⟩) | cases h
  | aload_n a0 =>
    refine Or.inl ?_
    simp only [astep, oLoadA] at h
    repeat' (split at h)
    all_goals first | (unfold sN at h; cases h; exact ⟨_, rfl⟩) | cases h
  | istore a0 =>
    refine Or.inl ?_
    simp only [astep, oStoreI] at h
    repeat' (split at h)
    all_goals first | (unfold sN at h; cases h; exact ⟨_, rfl⟩) | cases h
  | istore_n a0 =>
    refine Or.inl ?_
    simp only [astep, oStoreI] at h
    repeat' (split at h)
    all_goals first | (unfold sN at h; cases h; exact ⟨_, rfl⟩) | cases h
  | astore a0 =>
    refine Or.inl ?_
    simp only [astep, oStoreA] at h
    repeat' (split at h)
    all_goals first | (unfold sN at h; cases h; exact ⟨_, rfl⟩) | cases h
  | astore_n a0 =>
    refine Or.inl ?_
    simp only [astep, oStoreA] at h
    repeat' (split at h)
    all_goals first | (unfold sN at h; cases h; exact ⟨_, rfl⟩) | cases h
  | iinc a0 a1 =>
    refine Or.inl ?_
    simp only [astep, oInc] at h
    repeat' (split at h)
    all_goals first | (unfold sN at h; cases h; exact ⟨_, rfl⟩) | cases h
  | iadd =>
    refine Or.inl ?_
    simp only [astep, oBin] at h
    repeat' (split at h)
    all_goals first | (unfold sN at h; cases h; exact ⟨_, rfl⟩) | cases h
  | isub =>
    refine Or.inl ?_
    simp only [astep, oBin] at h
    repeat' (split at h)
    all_goals first | (unfold sN at h; cases h; exact ⟨_, rfl⟩) | cases h
  | imul =>
    refine Or.inl ?_
    simp only [astep, oBin] at h
    repeat' (split at h)
    all_goals first | (unfold sN at h; cases h; exact ⟨_, rfl⟩) | cases h
  | iand =>
    refine Or.inl ?_
    simp only [astep, oBin] at h
    repeat' (split at h)
    all_goals first | (unfold sN at h; cases h; exact ⟨_, rfl⟩) | cases h
  | ior =>
    refine Or.inl ?_
    simp only [astep, oBin] at h
    repeat' (split at h)
    all_goals first | (unfold sN at h; cases h; exact ⟨_, rfl⟩) | cases h
  | ishl =>
    refine Or.inl ?_
    simp only [astep, oBin] at h
    repeat' (split at h)
    all_goals first | (unfold sN at h; cases h; exact ⟨_, rfl⟩) | cases h
  | ishr =>
    refine Or.inl ?_
    simp only [astep, oBin] at h
    repeat' (split at h)
    all_goals first | (unfold sN at h; cases h; exact ⟨_, rfl⟩) | cases h
  | idiv =>
    refine Or.inl ?_
    simp only [astep, oDiv] at h
    repeat' (split at h)
    all_goals first | (unfold sN at h; cases h; exact ⟨_, rfl⟩) | cases h
  | irem =>
    refine Or.inl ?_
    simp only [astep, oDiv] at h
    repeat' (split at h)
    all_goals first | (unfold sN at h; cases h; exact ⟨_, rfl⟩) | cases h
  | ineg =>
    refine Or.inl ?_
    simp only [astep, oUn] at h
    repeat' (split at h)
    all_goals first | (unfold sN at h; cases h; exact ⟨_, rfl⟩) | cases h
  | i2c =>
    refine Or.inl ?_
    simp only [astep, oUn] at h
    repeat' (split at h)
    all_goals first | (unfold sN at h; cases h; exact ⟨_, rfl⟩) | cases h
  | i2s =>
    refine Or.inl ?_
    simp only [astep, oUn] at h
    repeat' (split at h)
    all_goals first | (unfold sN at h; cases h; exact ⟨_, rfl⟩) | cases h
  | i2b =>
    refine Or.inl ?_
    simp only [astep, oUn] at h
    repeat' (split at h)
    all_goals first | (unfold sN at h; cases h; exact ⟨_, rfl⟩) | cases h
  | i2l =>
    refine Or.inl ?_
    simp only [astep, oI2l] at h
    repeat' (split at h)
    all_goals first | (unfold sN at h; cases h; exact ⟨_, rfl⟩) | cases h
  | l2i =>
    refine Or.inl ?_
    simp only [astep, oL2i] at h
    repeat' (split at h)
    all_goals first | (unfold sN at h; cases h; exact ⟨_, rfl⟩) | cases h
  | land =>
    refine Or.inl ?_
    simp only [astep, oBinL] at h
    repeat' (split at h)
    all_goals first | (unfold sN at h; cases h; exact ⟨_, rfl⟩) | cases h
  | lor =>
    refine Or.inl ?_
    simp only [astep, oBinL] at h
    repeat' (split at h)
    all_goals first | (unfold sN at h; cases h; exact ⟨_, rfl⟩) | cases h
  | lshl =>
    refine Or.inl ?_
    simp only [astep, oShL] at h
    repeat' (split at h)
    all_goals first | (unfold sN at h; cases h; exact ⟨_, rfl⟩) | cases h
  | lshr =>
    refine Or.inl ?_
    simp only [astep, oShL] at h
    repeat' (split at h)
    all_goals first | (unfold sN at h; cases h; exact ⟨_, rfl⟩) | cases h
  | lcmp =>
    refine Or.inl ?_
    simp only [astep, oLcmp] at h
    repeat' (split at h)
    all_goals first | (unfold sN at h; cases h; exact ⟨_, rfl⟩) | cases h
  | dup =>
    refine Or.inl ?_
    simp only [astep, oDup] at h
    repeat' (split at h)
    all_goals first | (unfold sN at h; cases h; exact ⟨_, rfl⟩) | cases h
  | pop =>
    refine Or.inl ?_
    simp only [astep, oPop] at h
    repeat' (split at h)
    all_goals first | (unfold sN at h; cases h; exact ⟨_, rfl⟩) | cases h
  | dup_x1 =>
    refine Or.inl ?_
    simp only [astep, oDupX1] at h
    repeat' (split at h)
    all_goals first | (unfold sN at h; cases h; exact ⟨_, rfl⟩) | cases h
  | dup2 =>
    refine Or.inl ?_
    simp only [astep, oDup2] at h
    repeat' (split at h)
    all_goals first | (unfold sN at h; cases h; exact ⟨_, rfl⟩) | cases h
  | if_icmp a0 a1 =>
    refine Or.inl ?_
    simp only [astep, oIcmp] at h
    repeat' (split at h)
    all_goals first | (unfold sN at h; cases h; exact ⟨_, rfl⟩) | cases h
  | ifCond a0 a1 =>
    refine Or.inl ?_
    simp only [astep, oIf] at h
    repeat' (split at h)
    all_goals first | (unfold sN at h; cases h; exact ⟨_, rfl⟩) | cases h
  | goto a0 =>
    refine Or.inl ?_
    simp only [astep] at h
    repeat' (split at h)
    all_goals first | (unfold sN at h; cases h; exact ⟨_, rfl⟩) | cases h
  | ifnull a0 =>
    refine Or.inl ?_
    simp only [astep, oIfnull] at h
    repeat' (split at h)
    all_goals first | (unfold sN at h; cases h; exact ⟨_, rfl⟩) | cases h
  | ifnonnull a0 =>
    refine Or.inl ?_
    simp only [astep, oIfnull] at h
    repeat' (split at h)
    all_goals first | (unfold sN at h; cases h; exact ⟨_, rfl⟩) | cases h
  | tableswitch a0 a1 a2 a3 =>
    refine Or.inl ?_
    simp only [astep, oTsw] at h
    repeat' (split at h)
    all_goals first | (unfold sN at h; cases h; exact ⟨_, rfl⟩) | cases h
  | lookupswitch a0 a1 =>
    refine Or.inl ?_
    simp only [astep, oLsw] at h
    repeat' (split at h)
    all_goals first | (unfold sN at h; cases h; exact ⟨_, rfl⟩) | cases h
  | getfield a0 =>
    refine Or.inl ?_
    simp only [astep, oGetR, oGetI] at h
    repeat' (split at h)
    all_goals first | (unfold sN at h; cases h; exact ⟨_, rfl⟩) | cases h
  | putfield a0 =>
    refine Or.inl ?_
    simp only [astep, oPutR, oPutI] at h
    repeat' (split at h)
    all_goals first | (unfold sN at h; cases h; exact ⟨_, rfl⟩) | cases h
  | getstatic a0 =>
    refine Or.inl ?_
    simp only [astep, oStatic] at h
    repeat' (split at h)
    all_goals first | (unfold sN at h; cases h; exact ⟨_, rfl⟩) | cases h
  | new a0 =>
    refine Or.inl ?_
    simp only [astep, oNew] at h
    repeat' (split at h)
    all_goals first | (unfold sN at h; cases h; exact ⟨_, rfl⟩) | cases h
  | newarray a0 =>
    refine Or.inl ?_
    simp only [astep, oNewA] at h
    repeat' (split at h)
    all_goals first | (unfold sN at h; cases h; exact ⟨_, rfl⟩) | cases h
  | anewarray a0 =>
    refine Or.inl ?_
    simp only [astep, oNewA] at h
    repeat' (split at h)
    all_goals first | (unfold sN at h; cases h; exact ⟨_, rfl⟩) | cases h
  | iaload =>
    refine Or.inl ?_
    simp only [astep, oLdI] at h
    repeat' (split at h)
    all_goals first | (unfold sN at h; cases h; exact ⟨_, rfl⟩) | cases h
  | caload =>
    refine Or.inl ?_
    simp only [astep, oLdI] at h
    repeat' (split at h)
    all_goals first | (unfold sN at h; cases h; exact ⟨_, rfl⟩) | cases h
  | saload =>
    refine Or.inl ?_
    simp only [astep, oLdI] at h
    repeat' (split at h)
    all_goals first | (unfold sN at h; cases h; exact ⟨_, rfl⟩) | cases h
  | baload =>
    refine Or.inl ?_
    simp only [astep, oLdB] at h
    repeat' (split at h)
    all_goals first | (unfold sN at h; cases h; exact ⟨_, rfl⟩) | cases h
  | laload =>
    refine Or.inl ?_
    simp only [astep, oLdL] at h
    repeat' (split at h)
    all_goals first | (unfold sN at h; cases h; exact ⟨_, rfl⟩) | cases h
  | aaload =>
    refine Or.inl ?_
    simp only [astep, oLdR] at h
    repeat' (split at h)
    all_goals first | (unfold sN at h; cases h; exact ⟨_, rfl⟩) | cases h
  | iastore =>
    refine Or.inl ?_
    simp only [astep, oStI] at h
    repeat' (split at h)
    all_goals first | (unfold sN at h; cases h; exact ⟨_, rfl⟩) | cases h
  | castore =>
    refine Or.inl ?_
    simp only [astep, oStI] at h
    repeat' (split at h)
    all_goals first | (unfold sN at h; cases h; exact ⟨_, rfl⟩) | cases h
  | sastore =>
    refine Or.inl ?_
    simp only [astep, oStI] at h
    repeat' (split at h)
    all_goals first | (unfold sN at h; cases h; exact ⟨_, rfl⟩) | cases h
  | bastore =>
    refine Or.inl ?_
    simp only [astep, oStB] at h
    repeat' (split at h)
    all_goals first | (unfold sN at h; cases h; exact ⟨_, rfl⟩) | cases h
  | lastore =>
    refine Or.inl ?_
    simp only [astep, oStL] at h
    repeat' (split at h)
    all_goals first | (unfold sN at h; cases h; exact ⟨_, rfl⟩) | cases h
  | aastore =>
    refine Or.inl ?_
    simp only [astep, oStR] at h
    repeat' (split at h)
    all_goals first | (unfold sN at h; cases h; exact ⟨_, rfl⟩) | cases h
  | arraylength =>
    refine Or.inl ?_
    simp only [astep, oLen] at h
    repeat' (split at h)
    all_goals first | (unfold sN at h; cases h; exact ⟨_, rfl⟩) | cases h
  | instanceof a0 =>
    refine Or.inl ?_
    simp only [astep, oInst] at h
    repeat' (split at h)
    all_goals first | (unfold sN at h; cases h; exact ⟨_, rfl⟩) | cases h
  | checkcast a0 =>
    refine Or.inl ?_
    simp only [astep, oCast] at h
    repeat' (split at h)
    all_goals first | (unfold sN at h; cases h; exact ⟨_, rfl⟩) | cases h
  | invokestatic a0 => exact Or.inr (Or.inr ⟨a0, Or.inl rfl⟩)
  | invokespecial a0 => exact Or.inr (Or.inr ⟨a0, Or.inr (Or.inl rfl)⟩)
  | invokevirtual a0 => exact Or.inr (Or.inr ⟨a0, Or.inr (Or.inr rfl)⟩)
  | ireturn =>
    refine Or.inr (Or.inl ⟨Or.inl rfl, ?_⟩)
    simp only [astep, oIret] at h
    repeat' (split at h)
    all_goals first | (unfold sRet at h; cases h; exact ⟨_, rfl⟩) | cases h
  | areturn =>
    refine Or.inr (Or.inl ⟨Or.inr (Or.inl rfl), ?_⟩)
    simp only [astep, oAret] at h
    repeat' (split at h)
    all_goals first | (unfold sRet at h; cases h; exact ⟨_, rfl⟩) | cases h
  | return_ =>
    refine Or.inr (Or.inl ⟨Or.inr (Or.inr rfl), ?_⟩)
    simp only [astep, oVret] at h
    repeat' (split at h)
    all_goals first | (unfold sRet at h; cases h; exact ⟨_, rfl⟩) | cases h
  | _ => exact absurd (show (none : Option SR) = _ from h) (fun h9 => by cases h9)
end
section
variable {E : EV} {p : Program} {l : Launch} {e : Env} {s0 : State}
set_option maxHeartbeats 4000000 in
theorem am_sound (hl9 : LTR l) (hG : GX E p s0) : ∀ (n r mi pc : Nat) (ls st : List AV) (x : HP) (o : AO) (y : HP), arun n r mi pc ls st x = some (o, y) → IHok E p l e s0 r mi pc ls st x o y := by
  intro n
  induction n with
  | zero => intro r mi pc ls st x o y h; simp [arun] at h
  | succ n ih =>
    intro r mi pc ls st x o y h
    unfold arun at h
    cases hc : cd mi pc with
    | none => rw [hc] at h; simp at h
    | some e1 =>
      rw [hc] at h
      dsimp only at h
      have hck := chk_all mi pc _ hc
      obtain ⟨ins, len, r1, r2, r3, r4⟩ := e1
      simp only [chkE, Bool.and_eq_true, decide_eq_true_eq] at hck
      obtain ⟨hd, hlk⟩ := hck
      intro R s m args below meth c H locs cells slots nE sE lc hC hX hL hw hB
      cases hs : astep pc (ins, len, r1, r2, r3, r4) ls st x with
      | none => rw [hs] at h; simp at h
      | some w =>
        rw [hs] at h
        rcases st_cls hs with ⟨⟨pc', ls', st', x'⟩, rfl⟩ | ⟨hi, v, rfl⟩ | ⟨i, hi⟩
        · dsimp only at h
          exact st_plain hG hC hd hlk hX hL hw hB hs (fun H' locs' cells' slots' lc' q1 q2 q3 q4 => ih _ _ _ _ _ _ _ _ h R s m args below meth c H' locs' cells' slots' nE sE lc' hC q1 q2 q3 q4)
        · dsimp only at h
          cases h
          exact st_ret hG hC hd hlk hX hw hB hs hi
        · rcases w with ⟨pc', ls', st', x'⟩ | v | ⟨q, y'⟩ | ⟨mj, rj, aL, rest⟩
          · dsimp only at h
            exact st_plain hG hC hd hlk hX hL hw hB hs (fun H' locs' cells' slots' lc' q1 q2 q3 q4 => ih _ _ _ _ _ _ _ _ h R s m args below meth c H' locs' cells' slots' nE sE lc' hC q1 q2 q3 q4)
          · exfalso
            rcases hi with rfl | rfl | rfl
            · simp only [astep, oCallS, oCopy, sCal, sN] at hs
              repeat' (split at hs)
              all_goals cases hs
            · simp only [astep, oCallI, oExi, sCal, sN, sThr] at hs
              repeat' (split at hs)
              all_goals cases hs
            · simp only [astep, oCallV, sCal] at hs
              repeat' (split at hs)
              all_goals cases hs
          · have key : ∃ k t, ins = .invokespecial i ∧ r1 = 1001 ∧ st = vA q :: vA q :: t ∧ r4 = k ∧ hK x q = some (k, 6) ∧ sml t = true ∧ y' = stK x q (k + 3) 6 := by
              rcases hi with rfl | rfl | rfl
              · exfalso
                simp only [astep, oCallS, oCopy, sCal, sN] at hs
                repeat' (split at hs)
                all_goals cases hs
              · replace hs : oCallI pc len r1 r2 r3 r4 ls st x = _ := hs
                unfold oCallI at hs
                split at hs
                · split at hs
                  · unfold sN at hs
                    split at hs <;> cases hs
                  · split at hs
                    · rename_i h1
                      unfold oExi at hs
                      split at hs
                      · split at hs
                        · rename_i hq
                          obtain ⟨rfl, g2, g3⟩ := hq
                          unfold sThr at hs
                          cases hs
                          exact ⟨_, _, rfl, h1, rfl, rfl, g2, g3, rfl⟩
                        · cases hs
                      · cases hs
                    · unfold sCal at hs
                      split at hs
                      · split at hs <;> cases hs
                      · cases hs
                · cases hs
              · exfalso
                simp only [astep, oCallV, sCal] at hs
                repeat' (split at hs)
                all_goals cases hs
            obtain ⟨k, t, rfl, rfl, rfl, rfl, hk, hsm, rfl⟩ := key
            simp only [lnkE, (by decide : Nat.beq 1001 1000 = false), Nat.beq_refl, Bool.false_eq_true, if_false, if_true, Bool.and_eq_true, decide_eq_true_eq] at hlk
            obtain ⟨g1, g2, g3, g4, g5, g6, g7⟩ := hlk
            obtain rfl : len = 3 := Nat.eq_of_beq_eq_true g5
            have h13 : 13 ≤ mi := Nat.le_of_ble_eq_true g6
            dsimp only at h
            rw [show hnd mi pc (kdc (stK x q (r4 + 3) 6) q) = none by unfold hnd; rw [if_neg (by omega)]] at h
            cases h
            exact k_exi hl9 hG hC h13 hd g7 g1 (Nat.le_of_ble_eq_true g3) (Nat.le_of_ble_eq_true g4) hX hL hB hk hsm
          · dsimp only at h
            split at h
            · rename_i hr
              cases ha : arun n (crk r rj) mj 0 (ent (mxl mj) aL) [] x with
              | none => rw [ha] at h; simp at h
              | some w9 =>
                rw [ha] at h
                obtain ⟨o1, x1⟩ := w9
                refine st_call hG hC hX hL hw hB hr (ih _ _ _ _ _ _ _ _ ha) ?_ hd hlk hs hi
                cases o1 with
                | inl v =>
                  dsimp only at h
                  exact fun H' locs' cells' slots' lc' q1 q2 q3 q4 => ih _ _ _ _ _ _ _ _ h R s m args below meth c H' locs' cells' slots' nE sE lc' hC q1 q2 q3 q4
                | inr q =>
                  dsimp only at h
                  intro T locs' cells' slots' X hXT hBT hwf
                  obtain ⟨h4, k, n9, hq9, h14, h16⟩ := hwf
                  have hkd : kdc x1 q = k := by unfold kdc; rw [hq9]
                  rw [hkd] at h
                  cases hh : hnd mi pc k with
                  | some p9 =>
                    rw [hh] at h
                    exact k_catch hG hC X hXT hq9 h14 h16 (by omega) hL hBT hh (fun H' locs' cells' slots' lc' q1 q2 q3 q4 => ih _ _ _ _ _ _ _ _ h R s m args below meth c H' locs' cells' slots' nE sE lc' hC q1 q2 q3 q4)
                  | none =>
                    rw [hh] at h
                    cases h
                    exact k_pass hG hC X hXT hq9 h14 h16 h4 hBT hh
            · cases h
end
