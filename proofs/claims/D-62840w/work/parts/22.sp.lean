/-! the abstract machine is sound -/
section
variable {E : EV} {p : Program} {l : Launch} {e : Env} {R : Room} {s0 s : State} {m : MethodId} {args : Array Value} {below : List Frame} {meth : Method} {c : Code} {H : Heap} {locs : List Loc} {cells slots nE sE r mi pc pc' len r1 r2 r3 r4 : Nat} {Q : State → Prop} {ls ls' st st' : List AV} {x x' : HP} {lc : Array Slot}
set_option maxHeartbeats 4000000 in
theorem st_plain {ins : Instr} (hG : GX E p s0) (hC : CX s0 mi s m meth c) (hd : decode (mb mi) pc = .ok (ins, len)) (hl : lnkE mi pc (ins, len, r1, r2, r3, r4) = true) (hX : RL E s0 x H) (hL : LR E mi ls lc) (hw : ∀ v ∈ st, wfv v) (hB : BX R E x locs cells slots nE sE r) (h : astep pc (ins, len, r1, r2, r3, r4) ls st x = some (.inl (pc', ls', st', x'))) (K : KT E p l e R s0 s m args below meth c nE sE r mi Q pc' ls' st' x') : W p l e R s m args below meth c H locs cells slots Q (F0 m pc lc (st.map (cv E))) := by
  cases ins with
  | iconst n => exact k_iconst hG hC hd hl hX hL hw hB h K
  | bipush n => exact k_bipush hG hC hd hl hX hL hw hB h K
  | sipush n => exact k_sipush hG hC hd hl hX hL hw hB h K
  | ldc i => exact k_ldc hG hC hd hl hX hL hw hB h K
  | ldc_w i => exact k_ldc_w hG hC hd hl hX hL hw hB h K
  | ldc2_w i => exact k_ldc2_w hG hC hd hl hX hL hw hB h K
  | lconst n => exact k_lconst hG hC hd hl hX hL hw hB h K
  | aconst_null => exact k_aconst_null hG hC hd hl hX hL hw hB h K
  | iload i => exact k_iload hG hC hd hl hX hL hw hB h K
  | iload_n i => exact k_iload_n hG hC hd hl hX hL hw hB h K
  | lload_n i => exact k_lload_n hG hC hd hl hX hL hw hB h K
  | aload i => exact k_aload hG hC hd hl hX hL hw hB h K
  | aload_n i => exact k_aload_n hG hC hd hl hX hL hw hB h K
  | istore i => exact k_istore hG hC hd hl hX hL hw hB h K
  | istore_n i => exact k_istore_n hG hC hd hl hX hL hw hB h K
  | astore i => exact k_astore hG hC hd hl hX hL hw hB h K
  | astore_n i => exact k_astore_n hG hC hd hl hX hL hw hB h K
  | iinc i n => exact k_iinc hG hC hd hl hX hL hw hB h K
  | iadd => exact k_iadd hG hC hd hl hX hL hw hB h K
  | isub => exact k_isub hG hC hd hl hX hL hw hB h K
  | imul => exact k_imul hG hC hd hl hX hL hw hB h K
  | iand => exact k_iand hG hC hd hl hX hL hw hB h K
  | ior => exact k_ior hG hC hd hl hX hL hw hB h K
  | ishl => exact k_ishl hG hC hd hl hX hL hw hB h K
  | ishr => exact k_ishr hG hC hd hl hX hL hw hB h K
  | idiv => exact k_idiv hG hC hd hl hX hL hw hB h K
  | irem => exact k_irem hG hC hd hl hX hL hw hB h K
  | ineg => exact k_ineg hG hC hd hl hX hL hw hB h K
  | i2c => exact k_i2c hG hC hd hl hX hL hw hB h K
  | i2s => exact k_i2s hG hC hd hl hX hL hw hB h K
  | i2b => exact k_i2b hG hC hd hl hX hL hw hB h K
  | i2l => exact k_i2l hG hC hd hl hX hL hw hB h K
  | l2i => exact k_l2i hG hC hd hl hX hL hw hB h K
  | land => exact k_land hG hC hd hl hX hL hw hB h K
  | lor => exact k_lor hG hC hd hl hX hL hw hB h K
  | lshl => exact k_lshl hG hC hd hl hX hL hw hB h K
  | lshr => exact k_lshr hG hC hd hl hX hL hw hB h K
  | lcmp => exact k_lcmp hG hC hd hl hX hL hw hB h K
  | dup => exact k_dup hG hC hd hl hX hL hw hB h K
  | pop => exact k_pop hG hC hd hl hX hL hw hB h K
  | dup_x1 => exact k_dup_x1 hG hC hd hl hX hL hw hB h K
  | dup2 => exact k_dup2 hG hC hd hl hX hL hw hB h K
  | goto f => exact k_goto hG hC hd hl hX hL hw hB h K
  | ifnull f => exact k_ifnull hG hC hd hl hX hL hw hB h K
  | ifnonnull f => exact k_ifnonnull hG hC hd hl hX hL hw hB h K
  | getfield i => exact k_getfield hG hC hd hl hX hL hw hB h K
  | putfield i => exact k_putfield hG hC hd hl hX hL hw hB h K
  | new i => exact k_new hG hC hd hl hX hL hw hB h K
  | newarray t => exact k_newarray hG hC hd hl hX hL hw hB h K
  | anewarray i => exact k_anewarray hG hC hd hl hX hL hw hB h K
  | iaload => exact k_iaload hG hC hd hl hX hL hw hB h K
  | caload => exact k_caload hG hC hd hl hX hL hw hB h K
  | saload => exact k_saload hG hC hd hl hX hL hw hB h K
  | baload => exact k_baload hG hC hd hl hX hL hw hB h K
  | laload => exact k_laload hG hC hd hl hX hL hw hB h K
  | aaload => exact k_aaload hG hC hd hl hX hL hw hB h K
  | iastore => exact k_iastore hG hC hd hl hX hL hw hB h K
  | castore => exact k_castore hG hC hd hl hX hL hw hB h K
  | sastore => exact k_sastore hG hC hd hl hX hL hw hB h K
  | bastore => exact k_bastore hG hC hd hl hX hL hw hB h K
  | lastore => exact k_lastore hG hC hd hl hX hL hw hB h K
  | aastore => exact k_aastore hG hC hd hl hX hL hw hB h K
  | arraylength => exact k_arraylength hG hC hd hl hX hL hw hB h K
  | instanceof i => exact k_instanceof hG hC hd hl hX hL hw hB h K
  | checkcast i => exact k_checkcast hG hC hd hl hX hL hw hB h K
  | getstatic i => exact k_getstatic hG hC hd hl hX hL hw hB h K
  | tableswitch a b d f => exact k_tableswitch hG hC hd hl hX hL hw hB h K
  | lookupswitch a b => exact k_lookupswitch hG hC hd hl hX hL hw hB h K
  | if_icmp cc f =>
    cases cc with
    | eq => exact k_icmp_eq hG hC hd hl hX hL hw hB h K
    | ne => exact k_icmp_ne hG hC hd hl hX hL hw hB h K
    | lt => exact k_icmp_lt hG hC hd hl hX hL hw hB h K
    | ge => exact k_icmp_ge hG hC hd hl hX hL hw hB h K
    | gt => exact k_icmp_gt hG hC hd hl hX hL hw hB h K
    | le => exact k_icmp_le hG hC hd hl hX hL hw hB h K
  | ifCond cc f =>
    cases cc with
    | eq => exact k_if_eq hG hC hd hl hX hL hw hB h K
    | ne => exact k_if_ne hG hC hd hl hX hL hw hB h K
    | lt => exact k_if_lt hG hC hd hl hX hL hw hB h K
    | ge => exact k_if_ge hG hC hd hl hX hL hw hB h K
    | gt => exact k_if_gt hG hC hd hl hX hL hw hB h K
    | le => exact k_if_le hG hC hd hl hX hL hw hB h K
  | invokestatic i =>
    replace h : oCallS pc len r1 r2 r3 ls st x = _ := h
    unfold oCallS at h
    split at h
    · rename_i h9
      subst h9
      simp only [lnkE, Nat.beq_refl, if_true, Bool.and_eq_true] at hl
      obtain ⟨g1, g2, g3⟩ := hl
      obtain rfl : len = 3 := Nat.eq_of_beq_eq_true g3
      exact k_copy hG hC hd g1 hX hL hw hB h K
    · split at h
      · unfold sCal at h
        split at h <;> cases h
      · cases h
  | invokespecial i =>
    replace h : oCallI pc len r1 r2 r3 r4 ls st x = _ := h
    unfold oCallI at h
    split at h
    · rename_i c9 hr9
      split at h
      · rename_i h9
        subst h9
        simp only [lnkE, Nat.beq_refl, if_true, Bool.and_eq_true] at hl
        obtain ⟨g1, g2, g3⟩ := hl
        obtain rfl : len = 3 := Nat.eq_of_beq_eq_true g3
        obtain rfl : r2 = 1 := Nat.eq_of_beq_eq_true g2
        split at h
        · rename_i hs
          unfold sN at h
          cases h
          match st, hr9, hs, hw, K with
          | [], hr9, _, _, _ => simp [rcv] at hr9
          | a :: t, hr9, hs, hw, K =>
            rcases a with z | z | rr
            · simp [rcv] at hr9
            · simp [rcv] at hr9
            · cases rr with
              | none => simp [rcv] at hr9
              | some q =>
                have h3 : q ≠ 3 := by
                  intro e9
                  subst e9
                  simp only [rcv, Nat.sub_self, List.getElem?_cons_zero] at hr9
                  split at hr9
                  · rename_i k9 hk9
                    exact (hX.2.2.1 _ _ _ hk9).1.2.1 rfl
                  · cases hr9
                exact k_objinit hG hC hd g1 hX hL hB h3 hs (K H locs cells slots lc hX hL (fun v hv => hw v (List.mem_cons_of_mem _ hv)) hB)
        · cases h
      · split at h
        · unfold oExi at h
          split at h
          · split at h
            · cases h
            · cases h
          · cases h
        · split at h
          · unfold sCal at h
            split at h <;> cases h
          · cases h
    · cases h
  | invokevirtual i =>
    replace h : oCallV r1 r2 r3 r4 st x = _ := h
    unfold oCallV sCal at h
    repeat' (split at h)
    all_goals cases h
  | ireturn =>
    replace h : oIret r1 st = _ := h
    unfold oIret at h
    repeat' (split at h)
    all_goals cases h
  | areturn =>
    replace h : oAret st = _ := h
    unfold oAret at h
    repeat' (split at h)
    all_goals cases h
  | return_ =>
    replace h : oVret st = _ := h
    unfold oVret at h
    repeat' (split at h)
    all_goals cases h
  | _ => exact absurd (show (none : Option SR) = _ from h) (fun h9 => by cases h9)
end
