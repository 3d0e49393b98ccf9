/-! ===== the reference: the score ===== -/
theorem lgc {a b : Int} (h1 : -9223372036854775808 ≤ a) (h2 : a ≤ 9223372036854775807) (h3 : -9223372036854775808 ≤ b) (h4 : b ≤ 9223372036854775807) : lg_cmp (lZ a) (lZ b) = iZ (if b < a then 1 else if a = b then 0 else -1) := by
  unfold lg_cmp
  simp only [gt_iff_lt, lZ_lt h3 h4 h1 h2, lZ_eq h1 h2 h3 h4]
  split
  · rfl
  · split <;> rfl
theorem lgc_le {a b : Int} (h1 : -9223372036854775808 ≤ a) (h2 : a ≤ 9223372036854775807) (h3 : -9223372036854775808 ≤ b) (h4 : b ≤ 9223372036854775807) : (lg_cmp (lZ a) (lZ b) ≤ 0) = (a ≤ b) := by
  rw [lgc h1 h2 h3 h4, iZ_0, iZ_le (by split <;> (try split) <;> omega) (by split <;> (try split) <;> omega) (by decide) (by decide)]
  apply propext
  split
  · omega
  · split <;> omega
theorem lgc_ge {a b : Int} (h1 : -9223372036854775808 ≤ a) (h2 : a ≤ 9223372036854775807) (h3 : -9223372036854775808 ≤ b) (h4 : b ≤ 9223372036854775807) : (0 ≤ lg_cmp (lZ a) (lZ b)) = (b ≤ a) := by
  rw [lgc h1 h2 h3 h4, iZ_0, iZ_le (by decide) (by decide) (by split <;> (try split) <;> omega) (by split <;> (try split) <;> omega)]
  apply propext
  split
  · omega
  · split <;> omega
theorem lgc_eq {a b : Int} (h1 : -9223372036854775808 ≤ a) (h2 : a ≤ 9223372036854775807) (h3 : -9223372036854775808 ≤ b) (h4 : b ≤ 9223372036854775807) : (lg_cmp (lZ a) (lZ b) = 0) = (a = b) := by
  rw [lgc h1 h2 h3 h4, iZ_0, iZ_eq (by split <;> (try split) <;> omega) (by split <;> (try split) <;> omega) (by decide) (by decide)]
  apply propext
  split
  · omega
  · split <;> omega
theorem lZ_0 : (0 : Int64) = lZ 0 := rfl
theorem lZ_div {a b : Int} (h1 : -1000000000000 ≤ a) (h2 : a ≤ 1000000000000) (h3 : -1000000000000 ≤ b) (h4 : b ≤ 1000000000000) : lZ a / lZ b = lZ (a.tdiv b) := by
  have hb : -1000000000000 ≤ a.tdiv b ∧ a.tdiv b ≤ 1000000000000 := by
    have := Int.natAbs_tdiv_le_natAbs a b
    omega
  apply Int64.toInt_inj.mp
  rw [Int64.toInt_div, lZ_toInt (by omega) (by omega), lZ_toInt (by omega) (by omega), lZ_toInt (by omega) (by omega)]
  exact Int.bmod_eq_of_le (by omega) (by omega)
theorem lim6_bd (v : Int) : -1000000 ≤ lim6 v ∧ lim6 v ≤ 1000000 := by
  unfold lim6
  split
  · omega
  · split <;> omega
theorem tdiv_bd {a b : Int} (h1 : -1000000 ≤ a) (h2 : a ≤ 1000000) : -1000000 ≤ a.tdiv b ∧ a.tdiv b ≤ 1000000 := by
  have := Int.natAbs_tdiv_le_natAbs a b
  omega
theorem evS_bd (env : Nat → Int) (he : ∀ i, -1000000 ≤ env i ∧ env i ≤ 1000000) (s : Sc) (hw : wfS s) : -1000000 ≤ evS env s ∧ evS env s ≤ 1000000 := by
  match s, hw with
  | .int v, hw => unfold wfS at hw; unfold evS; omega
  | .arg i, hw => exact he i
  | .add a b, hw => exact lim6_bd _
  | .sub a b, hw => exact lim6_bd _
  | .mul a b, hw => exact lim6_bd _
  | .div a b, hw =>
    unfold evS
    split
    · omega
    · have := evS_bd env he a hw.1
      exact tdiv_bd this.1 this.2
section MSC
variable {w : Wd} {t : Nat → Nat} {T : TT} {h : MH} {Q : Out → MH → Prop} {f : Fld}
theorem c_X4_limited {v : Int} (h1 : -9000000000000 ≤ v) (h2 : v ≤ 9000000000000) (hQ : Q (.inl (some (.long (lZ (lim6 v))))) h) : Call w 1 0 0 mX4_limited [.long (lZ v)] h Q := by
  unfold lim6 at hQ
  refine Call.of (by decide +kernel) rfl (Nat.le_of_ble_eq_true rfl) ?_
  simp only [padL, entL, mX4_limited_L, Value.category, List.length_cons, List.length_nil, Nat.reduceAdd, Nat.reduceSub, List.replicate, List.cons_append, List.nil_append, Nat.reduceEqDiff, ↓reduceIte, reduceCtorEq]
  refine x_go 30 [] (rt := (Option.some Jvm.ClassFile.FieldType.long)) (cc := cX4_limited) pX4_ok rfl rfl ?_
  simp only [wpD_ok, ↓wp_s, wp_z, ↓stp_c, ↓stp_n, w_iconst, w_bipush, w_sipush, w_lconst, w_null, w_iload_n, w_iload, w_lload_n, w_lload, w_aload_n, w_aload, w_istore_n, w_istore, w_lstore_n, w_lstore, w_astore_n, w_astore_nN, w_astore, w_astoreN, w_iinc, w_iadd, w_isub, w_imul, w_iand, w_ior, w_ixor, w_ishl, w_ishr, w_iushr, w_ineg, w_i2l, w_l2i, w_i2b, w_i2c, w_ladd, w_lsub, w_lmul, w_land, w_lor, w_lxor, w_lcmp, w_idiv, w_irem, w_ldiv, w_dup, w_pop, w_dup_x1, w_dup_x2, w_dup2, w_if_eq, w_icmp_eq, w_if_ne, w_icmp_ne, w_if_lt, w_icmp_lt, w_if_ge, w_icmp_ge, w_if_gt, w_icmp_gt, w_if_le, w_icmp_le, w_goto, w_ifnullR, w_ifnullN, w_ifnonnullR, w_ifnonnullN, w_acmp_eqRR, w_acmp_eqNR, w_acmp_eqRN, w_acmp_eqNN, w_acmp_neRR, w_acmp_neNR, w_acmp_neRN, w_acmp_neNN, w_getfield, w_putfield, w_iaload, w_baload, w_laload, w_aaload, w_arraylength, w_iastore, w_bastore, w_lastore, w_ldc, w_ldc_w, w_ldc2_w, w_ireturn, w_lreturn, w_vreturn, w_areturn, w_areturnN, w_invokestatic, w_invokevirtual, w_invokespecial, w_invokeinterface, w_invokedynamic, w_new, w_newarray, w_anewarray, w_checkcast, w_instanceof, w_getstatic, w_athrow, w_aastore, w_tableswitch, w_lookupswitch, ldI_i, ldL_i, ldA_i, ldA_n, ldJ_i, gfA_i, gfB_i, pfA_i, arI_i, arL_i, arQ_i, arQ_a, arN_i, asI_i, asL_i, lcA_i, lg, lgv, cl2, stL1, stL2, clrN, fv0, fv1, fv2, fv3, Value.category, List.length_cons, List.length_nil, List.set_cons_zero, List.set_cons_succ, ↓reduceIte, Nat.reduceAdd, Nat.reduceLT, Nat.reduceEqDiff, Int.cast_ofNat_Int, Int.reduceAdd, Int.reduceNeg, Int.reduceLE, Int.reduceToNat, true_and, and_true, and_self, not_true_eq_false, not_false_eq_true, true_implies, Nat.reduceEqDiff, reduceCtorEq, false_implies, forall_const, bipE, sipE, lcon0, lcon1, rtI_int, rtI_b0, rtI_b1, rtI_bz, refT_o, refT_a, fitv_int, fitv_ref, fitv_null, fitv_arr, fitv_arrn, fitv_long, fitv_b0, fitv_b1, fitv_bz, dX4_limited_0, dX4_limited_1, dX4_limited_4, dX4_limited_5, dX4_limited_8, dX4_limited_11, dX4_limited_14, dX4_limited_15, dX4_limited_18, dX4_limited_19, dX4_limited_22, dX4_limited_25, dX4_limited_28, dX4_limited_29, pX4_c273, pX4_c275, lgc_le (a := v) (b := 1000000) (by omega) (by omega) (by omega) (by omega), lgc_ge (a := v) (b := -1000000) (by omega) (by omega) (by omega) (by omega)]
  refine And.intro (fun q => ?_) (fun q => ?_)
  · rw [if_neg (by omega)] at hQ
    refine And.intro (fun q2 => ?_) (fun q2 => ?_)
    · rwa [if_neg (by omega)] at hQ
    · rwa [if_pos (by omega)] at hQ
  · rwa [if_pos (by omega)] at hQ
def opS (c a b : Int) : Int := if c = 5 then (if b = 0 then 0 else a.tdiv b) else lim6 (if c = 2 then a + b else if c = 3 then a - b else a * b)
theorem mul_bd6 {a b : Int} (h1 : -1000000 ≤ a) (h2 : a ≤ 1000000) (h3 : -1000000 ≤ b) (h4 : b ≤ 1000000) : -1000000000000 ≤ a * b ∧ a * b ≤ 1000000000000 := by
  have e1 := Int.mul_nonneg (show 0 ≤ 1000000 - a by omega) (show 0 ≤ 1000000 - b by omega)
  have e2 := Int.mul_nonneg (show 0 ≤ 1000000 + a by omega) (show 0 ≤ 1000000 + b by omega)
  have e3 := Int.mul_nonneg (show 0 ≤ 1000000 - a by omega) (show 0 ≤ 1000000 + b by omega)
  have e4 := Int.mul_nonneg (show 0 ≤ 1000000 + a by omega) (show 0 ≤ 1000000 - b by omega)
  simp only [Int.sub_mul, Int.mul_sub, Int.add_mul, Int.mul_add] at e1 e2 e3 e4
  omega
theorem c_X4_operate {c a b : Int} (hc : 2 ≤ c ∧ c ≤ 5) (h1 : -1000000 ≤ a ∧ a ≤ 1000000) (h2 : -1000000 ≤ b ∧ b ≤ 1000000) (hQ : Q (.inl (some (.long (lZ (opS c a b))))) h) : Call w 2 0 0 mX4_operate [.int (iZ c), .long (lZ a), .long (lZ b)] h Q := by
  have mb := mul_bd6 h1.1 h1.2 h2.1 h2.2
  unfold opS at hQ
  refine Call.of (by decide +kernel) rfl (Nat.le_of_ble_eq_true rfl) ?_
  simp only [padL, entL, mX4_operate_L, Value.category, List.length_cons, List.length_nil, Nat.reduceAdd, Nat.reduceSub, List.replicate, List.cons_append, List.nil_append, Nat.reduceEqDiff, ↓reduceIte, reduceCtorEq]
  refine x_go 30 [] (rt := (Option.some Jvm.ClassFile.FieldType.long)) (cc := cX4_operate) pX4_ok rfl rfl ?_
  simp only [wpD_ok, ↓wp_s, wp_z, ↓stp_c, ↓stp_n, w_iconst, w_bipush, w_sipush, w_lconst, w_null, w_iload_n, w_iload, w_lload_n, w_lload, w_aload_n, w_aload, w_istore_n, w_istore, w_lstore_n, w_lstore, w_astore_n, w_astore_nN, w_astore, w_astoreN, w_iinc, w_iadd, w_isub, w_imul, w_iand, w_ior, w_ixor, w_ishl, w_ishr, w_iushr, w_ineg, w_i2l, w_l2i, w_i2b, w_i2c, w_ladd, w_lsub, w_lmul, w_land, w_lor, w_lxor, w_lcmp, w_idiv, w_irem, w_ldiv, w_dup, w_pop, w_dup_x1, w_dup_x2, w_dup2, w_if_eq, w_icmp_eq, w_if_ne, w_icmp_ne, w_if_lt, w_icmp_lt, w_if_ge, w_icmp_ge, w_if_gt, w_icmp_gt, w_if_le, w_icmp_le, w_goto, w_ifnullR, w_ifnullN, w_ifnonnullR, w_ifnonnullN, w_acmp_eqRR, w_acmp_eqNR, w_acmp_eqRN, w_acmp_eqNN, w_acmp_neRR, w_acmp_neNR, w_acmp_neRN, w_acmp_neNN, w_getfield, w_putfield, w_iaload, w_baload, w_laload, w_aaload, w_arraylength, w_iastore, w_bastore, w_lastore, w_ldc, w_ldc_w, w_ldc2_w, w_ireturn, w_lreturn, w_vreturn, w_areturn, w_areturnN, w_invokestatic, w_invokevirtual, w_invokespecial, w_invokeinterface, w_invokedynamic, w_new, w_newarray, w_anewarray, w_checkcast, w_instanceof, w_getstatic, w_athrow, w_aastore, w_tableswitch, w_lookupswitch, ldI_i, ldL_i, ldA_i, ldA_n, ldJ_i, gfA_i, gfB_i, pfA_i, arI_i, arL_i, arQ_i, arQ_a, arN_i, asI_i, asL_i, lcA_i, lg, lgv, cl2, stL1, stL2, clrN, fv0, fv1, fv2, fv3, Value.category, List.length_cons, List.length_nil, List.set_cons_zero, List.set_cons_succ, ↓reduceIte, Nat.reduceAdd, Nat.reduceLT, Nat.reduceEqDiff, Int.cast_ofNat_Int, Int.reduceAdd, Int.reduceNeg, Int.reduceLE, Int.reduceToNat, true_and, and_true, and_self, not_true_eq_false, not_false_eq_true, true_implies, Nat.reduceEqDiff, reduceCtorEq, false_implies, forall_const, bipE, sipE, lcon0, lcon1, rtI_int, rtI_b0, rtI_b1, rtI_bz, refT_o, refT_a, fitv_int, fitv_ref, fitv_null, fitv_arr, fitv_arrn, fitv_long, fitv_b0, fitv_b1, fitv_bz, dX4_operate_0, dX4_operate_1, dX4_operate_2, dX4_operate_5, dX4_operate_6, dX4_operate_7, dX4_operate_8, dX4_operate_11, dX4_operate_12, dX4_operate_15, dX4_operate_16, dX4_operate_17, dX4_operate_18, dX4_operate_19, dX4_operate_20, dX4_operate_21, dX4_operate_24, dX4_operate_25, dX4_operate_26, dX4_operate_27, dX4_operate_30, dX4_operate_31, dX4_operate_32, dX4_operate_35, dX4_operate_36, dX4_operate_37, dX4_operate_38, dX4_operate_41, dX4_operate_42, dX4_operate_43, dX4_operate_44, dX4_operate_47, iZ_eq (a := c) (b := 5) (by omega) (by omega) (by omega) (by omega), iZ_eq (a := c) (b := 2) (by omega) (by omega) (by omega) (by omega), iZ_eq (a := c) (b := 3) (by omega) (by omega) (by omega) (by omega), lgc_eq (a := b) (b := 0) (by omega) (by omega) (by omega) (by omega), lZ_0, lZ_eq (a := b) (b := 0) (by omega) (by omega) (by omega) (by omega), lZ_div (a := a) (b := b) (by omega) (by omega) (by omega) (by omega), lZ_add, lZ_sub, lZ_mul]
  refine And.intro (fun q => ?_) (fun q => ?_)
  · rw [if_neg q] at hQ
    refine And.intro (fun q2 => ?_) (fun q2 => ?_)
    · rw [if_neg q2] at hQ
      refine And.intro (fun q3 => ?_) (fun q3 => ?_)
      · rw [if_neg q3] at hQ
        refine k_X4_operate_44 (d' := 1) (mc' := 0) (ms' := 0)  (by decide) (by decide) (by decide) (Nat.le_of_ble_eq_true rfl) ?_
        refine c_X4_limited (by omega) (by omega) ?_
        simp only [Kc_v, Kc_n, Kc_x, Nat.reduceAdd]
        refine x_go 30 [] (rt := (Option.some Jvm.ClassFile.FieldType.long)) (cc := cX4_operate) pX4_ok rfl rfl ?_
        simp only [wpD_ok, ↓wp_s, wp_z, ↓stp_c, ↓stp_n, w_iconst, w_bipush, w_sipush, w_lconst, w_null, w_iload_n, w_iload, w_lload_n, w_lload, w_aload_n, w_aload, w_istore_n, w_istore, w_lstore_n, w_lstore, w_astore_n, w_astore_nN, w_astore, w_astoreN, w_iinc, w_iadd, w_isub, w_imul, w_iand, w_ior, w_ixor, w_ishl, w_ishr, w_iushr, w_ineg, w_i2l, w_l2i, w_i2b, w_i2c, w_ladd, w_lsub, w_lmul, w_land, w_lor, w_lxor, w_lcmp, w_idiv, w_irem, w_ldiv, w_dup, w_pop, w_dup_x1, w_dup_x2, w_dup2, w_if_eq, w_icmp_eq, w_if_ne, w_icmp_ne, w_if_lt, w_icmp_lt, w_if_ge, w_icmp_ge, w_if_gt, w_icmp_gt, w_if_le, w_icmp_le, w_goto, w_ifnullR, w_ifnullN, w_ifnonnullR, w_ifnonnullN, w_acmp_eqRR, w_acmp_eqNR, w_acmp_eqRN, w_acmp_eqNN, w_acmp_neRR, w_acmp_neNR, w_acmp_neRN, w_acmp_neNN, w_getfield, w_putfield, w_iaload, w_baload, w_laload, w_aaload, w_arraylength, w_iastore, w_bastore, w_lastore, w_ldc, w_ldc_w, w_ldc2_w, w_ireturn, w_lreturn, w_vreturn, w_areturn, w_areturnN, w_invokestatic, w_invokevirtual, w_invokespecial, w_invokeinterface, w_invokedynamic, w_new, w_newarray, w_anewarray, w_checkcast, w_instanceof, w_getstatic, w_athrow, w_aastore, w_tableswitch, w_lookupswitch, ldI_i, ldL_i, ldA_i, ldA_n, ldJ_i, gfA_i, gfB_i, pfA_i, arI_i, arL_i, arQ_i, arQ_a, arN_i, asI_i, asL_i, lcA_i, lg, lgv, cl2, stL1, stL2, clrN, fv0, fv1, fv2, fv3, Value.category, List.length_cons, List.length_nil, List.set_cons_zero, List.set_cons_succ, ↓reduceIte, Nat.reduceAdd, Nat.reduceLT, Nat.reduceEqDiff, Int.cast_ofNat_Int, Int.reduceAdd, Int.reduceNeg, Int.reduceLE, Int.reduceToNat, true_and, and_true, and_self, not_true_eq_false, not_false_eq_true, true_implies, Nat.reduceEqDiff, reduceCtorEq, false_implies, forall_const, bipE, sipE, lcon0, lcon1, rtI_int, rtI_b0, rtI_b1, rtI_bz, refT_o, refT_a, fitv_int, fitv_ref, fitv_null, fitv_arr, fitv_arrn, fitv_long, fitv_b0, fitv_b1, fitv_bz, dX4_operate_0, dX4_operate_1, dX4_operate_2, dX4_operate_5, dX4_operate_6, dX4_operate_7, dX4_operate_8, dX4_operate_11, dX4_operate_12, dX4_operate_15, dX4_operate_16, dX4_operate_17, dX4_operate_18, dX4_operate_19, dX4_operate_20, dX4_operate_21, dX4_operate_24, dX4_operate_25, dX4_operate_26, dX4_operate_27, dX4_operate_30, dX4_operate_31, dX4_operate_32, dX4_operate_35, dX4_operate_36, dX4_operate_37, dX4_operate_38, dX4_operate_41, dX4_operate_42, dX4_operate_43, dX4_operate_44, dX4_operate_47]
        exact hQ
      · rw [if_pos q3] at hQ
        refine k_X4_operate_44 (d' := 1) (mc' := 0) (ms' := 0)  (by decide) (by decide) (by decide) (Nat.le_of_ble_eq_true rfl) ?_
        refine c_X4_limited (by omega) (by omega) ?_
        simp only [Kc_v, Kc_n, Kc_x, Nat.reduceAdd]
        refine x_go 30 [] (rt := (Option.some Jvm.ClassFile.FieldType.long)) (cc := cX4_operate) pX4_ok rfl rfl ?_
        simp only [wpD_ok, ↓wp_s, wp_z, ↓stp_c, ↓stp_n, w_iconst, w_bipush, w_sipush, w_lconst, w_null, w_iload_n, w_iload, w_lload_n, w_lload, w_aload_n, w_aload, w_istore_n, w_istore, w_lstore_n, w_lstore, w_astore_n, w_astore_nN, w_astore, w_astoreN, w_iinc, w_iadd, w_isub, w_imul, w_iand, w_ior, w_ixor, w_ishl, w_ishr, w_iushr, w_ineg, w_i2l, w_l2i, w_i2b, w_i2c, w_ladd, w_lsub, w_lmul, w_land, w_lor, w_lxor, w_lcmp, w_idiv, w_irem, w_ldiv, w_dup, w_pop, w_dup_x1, w_dup_x2, w_dup2, w_if_eq, w_icmp_eq, w_if_ne, w_icmp_ne, w_if_lt, w_icmp_lt, w_if_ge, w_icmp_ge, w_if_gt, w_icmp_gt, w_if_le, w_icmp_le, w_goto, w_ifnullR, w_ifnullN, w_ifnonnullR, w_ifnonnullN, w_acmp_eqRR, w_acmp_eqNR, w_acmp_eqRN, w_acmp_eqNN, w_acmp_neRR, w_acmp_neNR, w_acmp_neRN, w_acmp_neNN, w_getfield, w_putfield, w_iaload, w_baload, w_laload, w_aaload, w_arraylength, w_iastore, w_bastore, w_lastore, w_ldc, w_ldc_w, w_ldc2_w, w_ireturn, w_lreturn, w_vreturn, w_areturn, w_areturnN, w_invokestatic, w_invokevirtual, w_invokespecial, w_invokeinterface, w_invokedynamic, w_new, w_newarray, w_anewarray, w_checkcast, w_instanceof, w_getstatic, w_athrow, w_aastore, w_tableswitch, w_lookupswitch, ldI_i, ldL_i, ldA_i, ldA_n, ldJ_i, gfA_i, gfB_i, pfA_i, arI_i, arL_i, arQ_i, arQ_a, arN_i, asI_i, asL_i, lcA_i, lg, lgv, cl2, stL1, stL2, clrN, fv0, fv1, fv2, fv3, Value.category, List.length_cons, List.length_nil, List.set_cons_zero, List.set_cons_succ, ↓reduceIte, Nat.reduceAdd, Nat.reduceLT, Nat.reduceEqDiff, Int.cast_ofNat_Int, Int.reduceAdd, Int.reduceNeg, Int.reduceLE, Int.reduceToNat, true_and, and_true, and_self, not_true_eq_false, not_false_eq_true, true_implies, Nat.reduceEqDiff, reduceCtorEq, false_implies, forall_const, bipE, sipE, lcon0, lcon1, rtI_int, rtI_b0, rtI_b1, rtI_bz, refT_o, refT_a, fitv_int, fitv_ref, fitv_null, fitv_arr, fitv_arrn, fitv_long, fitv_b0, fitv_b1, fitv_bz, dX4_operate_0, dX4_operate_1, dX4_operate_2, dX4_operate_5, dX4_operate_6, dX4_operate_7, dX4_operate_8, dX4_operate_11, dX4_operate_12, dX4_operate_15, dX4_operate_16, dX4_operate_17, dX4_operate_18, dX4_operate_19, dX4_operate_20, dX4_operate_21, dX4_operate_24, dX4_operate_25, dX4_operate_26, dX4_operate_27, dX4_operate_30, dX4_operate_31, dX4_operate_32, dX4_operate_35, dX4_operate_36, dX4_operate_37, dX4_operate_38, dX4_operate_41, dX4_operate_42, dX4_operate_43, dX4_operate_44, dX4_operate_47]
        exact hQ
    · rw [if_pos q2] at hQ
      refine k_X4_operate_44 (d' := 1) (mc' := 0) (ms' := 0)  (by decide) (by decide) (by decide) (Nat.le_of_ble_eq_true rfl) ?_
      refine c_X4_limited (by omega) (by omega) ?_
      simp only [Kc_v, Kc_n, Kc_x, Nat.reduceAdd]
      refine x_go 30 [] (rt := (Option.some Jvm.ClassFile.FieldType.long)) (cc := cX4_operate) pX4_ok rfl rfl ?_
      simp only [wpD_ok, ↓wp_s, wp_z, ↓stp_c, ↓stp_n, w_iconst, w_bipush, w_sipush, w_lconst, w_null, w_iload_n, w_iload, w_lload_n, w_lload, w_aload_n, w_aload, w_istore_n, w_istore, w_lstore_n, w_lstore, w_astore_n, w_astore_nN, w_astore, w_astoreN, w_iinc, w_iadd, w_isub, w_imul, w_iand, w_ior, w_ixor, w_ishl, w_ishr, w_iushr, w_ineg, w_i2l, w_l2i, w_i2b, w_i2c, w_ladd, w_lsub, w_lmul, w_land, w_lor, w_lxor, w_lcmp, w_idiv, w_irem, w_ldiv, w_dup, w_pop, w_dup_x1, w_dup_x2, w_dup2, w_if_eq, w_icmp_eq, w_if_ne, w_icmp_ne, w_if_lt, w_icmp_lt, w_if_ge, w_icmp_ge, w_if_gt, w_icmp_gt, w_if_le, w_icmp_le, w_goto, w_ifnullR, w_ifnullN, w_ifnonnullR, w_ifnonnullN, w_acmp_eqRR, w_acmp_eqNR, w_acmp_eqRN, w_acmp_eqNN, w_acmp_neRR, w_acmp_neNR, w_acmp_neRN, w_acmp_neNN, w_getfield, w_putfield, w_iaload, w_baload, w_laload, w_aaload, w_arraylength, w_iastore, w_bastore, w_lastore, w_ldc, w_ldc_w, w_ldc2_w, w_ireturn, w_lreturn, w_vreturn, w_areturn, w_areturnN, w_invokestatic, w_invokevirtual, w_invokespecial, w_invokeinterface, w_invokedynamic, w_new, w_newarray, w_anewarray, w_checkcast, w_instanceof, w_getstatic, w_athrow, w_aastore, w_tableswitch, w_lookupswitch, ldI_i, ldL_i, ldA_i, ldA_n, ldJ_i, gfA_i, gfB_i, pfA_i, arI_i, arL_i, arQ_i, arQ_a, arN_i, asI_i, asL_i, lcA_i, lg, lgv, cl2, stL1, stL2, clrN, fv0, fv1, fv2, fv3, Value.category, List.length_cons, List.length_nil, List.set_cons_zero, List.set_cons_succ, ↓reduceIte, Nat.reduceAdd, Nat.reduceLT, Nat.reduceEqDiff, Int.cast_ofNat_Int, Int.reduceAdd, Int.reduceNeg, Int.reduceLE, Int.reduceToNat, true_and, and_true, and_self, not_true_eq_false, not_false_eq_true, true_implies, Nat.reduceEqDiff, reduceCtorEq, false_implies, forall_const, bipE, sipE, lcon0, lcon1, rtI_int, rtI_b0, rtI_b1, rtI_bz, refT_o, refT_a, fitv_int, fitv_ref, fitv_null, fitv_arr, fitv_arrn, fitv_long, fitv_b0, fitv_b1, fitv_bz, dX4_operate_0, dX4_operate_1, dX4_operate_2, dX4_operate_5, dX4_operate_6, dX4_operate_7, dX4_operate_8, dX4_operate_11, dX4_operate_12, dX4_operate_15, dX4_operate_16, dX4_operate_17, dX4_operate_18, dX4_operate_19, dX4_operate_20, dX4_operate_21, dX4_operate_24, dX4_operate_25, dX4_operate_26, dX4_operate_27, dX4_operate_30, dX4_operate_31, dX4_operate_32, dX4_operate_35, dX4_operate_36, dX4_operate_37, dX4_operate_38, dX4_operate_41, dX4_operate_42, dX4_operate_43, dX4_operate_44, dX4_operate_47]
      exact hQ
  · rw [if_pos q] at hQ
    refine And.intro (fun q2 => ?_) (fun q2 => ?_)
    · rw [if_neg q2] at hQ
      exact ⟨q2, hQ⟩
    · rwa [if_pos q2] at hQ
end MSC

