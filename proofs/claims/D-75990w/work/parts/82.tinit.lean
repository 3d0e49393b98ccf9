/-! ===== the reference: its constructor ===== -/
def tOf (a b1 b2 b3 m s : Nat) (i : Nat) : Nat := if i = 0 then a else if i = 1 then b1 else if i = 2 then b2 else if i = 3 then b3 else if i = 13 then s else m + (i - 4)
section TINIT
variable {w : Wd} {h : MH} {Q : Out → MH → Prop}
theorem mfill_a {h : MH} {a n k : Nat} : mfill h a n k a = some (aQ (.array .int) n (fun j => if j < n then some (a + 1 + j) else none)) := if_pos rfl
theorem mfill_r {h : MH} {a n k j : Nat} (hj : j < n) : mfill h a n k (a + 1 + j) = some (aI .int k (fun _ => 0)) := by unfold mfill; rw [if_neg (by omega), if_pos (by omega)]
theorem mfill_n {h : MH} {a n k b : Nat} (h1 : ∀ j, j ≤ n → b ≠ a + j) : mfill h a n k b = h b := by
  unfold mfill
  rw [if_neg (show b ≠ a from h1 0 (by omega)), if_neg]
  rintro ⟨x1, x2⟩
  exact h1 (b - a) (by omega) (by omega)

theorem c_X4_init {a : Nat} (hN : wN w ≤ a) (ha : h a = some (ob 3 [.int 0, .null, .int 0, .int 0, .int 0, .int 0, .int 0, .int 0, .null, .null, .null, .int 0, .int 0, .int 0, .int 0, .int 0, .int 0, .int 0, .int 0, .null]))
    (hQ : ∀ h' t T, t 0 = a → Tw w t T h' → (∀ i, 1 ≤ i → i < 14 → h (t i) = none) → TE (T.2.1 1) (newF 2 2) → HI T [] → BF T [] → T.1 7 = -1 → Fr t h h' → Q (.inl none) h') : Call w 1 13 17388 mX4_init [.ref a] h Q := by
  refine Call.of (by decide +kernel) rfl (Nat.le_of_ble_eq_true rfl) ?_
  simp only [padL, entL, mX4_init_L, Value.category, List.length_cons, List.length_nil, Nat.reduceAdd, Nat.reduceSub, List.replicate, List.cons_append, List.nil_append, Nat.reduceEqDiff, ↓reduceIte, reduceCtorEq]
  refine x_go 5 [] (rt := (Option.none : Option Jvm.ClassFile.FieldType)) (cc := cX4_init) pX4_ok rfl rfl ?_
  simp only [wpD_ok, ↓wp_s, wp_z, ↓stp_c, ↓stp_n, w_iconst, w_bipush, w_sipush, w_lconst, w_null, w_iload_n, w_iload, w_lload_n, w_lload, w_aload_n, w_aload, w_istore_n, w_istore, w_lstore_n, w_lstore, w_astore_n, w_astore_nN, w_astore, w_astoreN, w_iinc, w_iadd, w_isub, w_imul, w_iand, w_ior, w_ixor, w_ishl, w_ishr, w_iushr, w_ineg, w_i2l, w_l2i, w_i2b, w_i2c, w_ladd, w_lsub, w_lmul, w_land, w_lor, w_lxor, w_lcmp, w_idiv, w_irem, w_ldiv, w_dup, w_pop, w_dup_x1, w_dup_x2, w_dup2, w_if_eq, w_icmp_eq, w_if_ne, w_icmp_ne, w_if_lt, w_icmp_lt, w_if_ge, w_icmp_ge, w_if_gt, w_icmp_gt, w_if_le, w_icmp_le, w_goto, w_ifnullR, w_ifnullN, w_ifnonnullR, w_ifnonnullN, w_acmp_eqRR, w_acmp_eqNR, w_acmp_eqRN, w_acmp_eqNN, w_acmp_neRR, w_acmp_neNR, w_acmp_neRN, w_acmp_neNN, w_getfield, w_putfield, w_iaload, w_baload, w_laload, w_aaload, w_arraylength, w_iastore, w_bastore, w_lastore, w_ldc, w_ldc_w, w_ldc2_w, w_ireturn, w_lreturn, w_vreturn, w_areturn, w_areturnN, w_invokestatic, w_invokevirtual, w_invokespecial, w_invokeinterface, w_invokedynamic, w_new, w_newarray, w_anewarray, w_checkcast, w_instanceof, w_getstatic, w_athrow, w_aastore, w_tableswitch, w_lookupswitch, ldI_i, ldL_i, ldA_i, ldA_n, ldJ_i, gfA_i, gfB_i, pfA_i, arI_i, arL_i, arQ_i, arQ_a, arN_i, asI_i, asL_i, lcA_i, lg, lgv, cl2, stL1, stL2, clrN, fv0, fv1, fv2, fv3, Value.category, List.length_cons, List.length_nil, List.set_cons_zero, List.set_cons_succ, ↓reduceIte, Nat.reduceAdd, Nat.reduceLT, Nat.reduceEqDiff, Int.cast_ofNat_Int, Int.reduceAdd, Int.reduceNeg, Int.reduceLE, Int.reduceToNat, true_and, and_true, and_self, not_true_eq_false, not_false_eq_true, true_implies, Nat.reduceEqDiff, reduceCtorEq, false_implies, forall_const, bipE, sipE, lcon0, lcon1, rtI_int, rtI_b0, rtI_b1, rtI_bz, refT_o, refT_a, fitv_int, fitv_ref, fitv_null, fitv_arr, fitv_arrn, fitv_long, fitv_b0, fitv_b1, fitv_bz, dX4_init_0, dX4_init_1, dX4_init_4, dX4_init_5, dX4_init_8, dX4_init_10, dX4_init_13, dX4_init_14, dX4_init_15, dX4_init_18, dX4_init_19, dX4_init_22, dX4_init_24, dX4_init_27, dX4_init_28, dX4_init_31, dX4_init_33, dX4_init_36, dX4_init_37, dX4_init_39, dX4_init_42, dX4_init_46, dX4_init_49, dX4_init_50, dX4_init_53, dX4_init_55, dX4_init_58, dX4_init_59, dX4_init_62, dX4_init_63, dX4_init_64, dX4_init_65, dX4_init_66, dX4_init_69, dX4_init_70, dX4_init_71, dX4_init_72, pX4_13, pX4_17, pX4_20, pX4_25, pX4_28, pX4_9]
  refine k_X4_init_1 (by decide) (Nat.le_of_ble_eq_true rfl) ?_
  refine x_go 5 [] (rt := (Option.none : Option Jvm.ClassFile.FieldType)) (cc := cX4_init) pX4_ok rfl rfl ?_
  simp only [wpD_ok, ↓wp_s, wp_z, ↓stp_c, ↓stp_n, w_iconst, w_bipush, w_sipush, w_lconst, w_null, w_iload_n, w_iload, w_lload_n, w_lload, w_aload_n, w_aload, w_istore_n, w_istore, w_lstore_n, w_lstore, w_astore_n, w_astore_nN, w_astore, w_astoreN, w_iinc, w_iadd, w_isub, w_imul, w_iand, w_ior, w_ixor, w_ishl, w_ishr, w_iushr, w_ineg, w_i2l, w_l2i, w_i2b, w_i2c, w_ladd, w_lsub, w_lmul, w_land, w_lor, w_lxor, w_lcmp, w_idiv, w_irem, w_ldiv, w_dup, w_pop, w_dup_x1, w_dup_x2, w_dup2, w_if_eq, w_icmp_eq, w_if_ne, w_icmp_ne, w_if_lt, w_icmp_lt, w_if_ge, w_icmp_ge, w_if_gt, w_icmp_gt, w_if_le, w_icmp_le, w_goto, w_ifnullR, w_ifnullN, w_ifnonnullR, w_ifnonnullN, w_acmp_eqRR, w_acmp_eqNR, w_acmp_eqRN, w_acmp_eqNN, w_acmp_neRR, w_acmp_neNR, w_acmp_neRN, w_acmp_neNN, w_getfield, w_putfield, w_iaload, w_baload, w_laload, w_aaload, w_arraylength, w_iastore, w_bastore, w_lastore, w_ldc, w_ldc_w, w_ldc2_w, w_ireturn, w_lreturn, w_vreturn, w_areturn, w_areturnN, w_invokestatic, w_invokevirtual, w_invokespecial, w_invokeinterface, w_invokedynamic, w_new, w_newarray, w_anewarray, w_checkcast, w_instanceof, w_getstatic, w_athrow, w_aastore, w_tableswitch, w_lookupswitch, ldI_i, ldL_i, ldA_i, ldA_n, ldJ_i, gfA_i, gfB_i, pfA_i, arI_i, arL_i, arQ_i, arQ_a, arN_i, asI_i, asL_i, lcA_i, lg, lgv, cl2, stL1, stL2, clrN, fv0, fv1, fv2, fv3, Value.category, List.length_cons, List.length_nil, List.set_cons_zero, List.set_cons_succ, ↓reduceIte, Nat.reduceAdd, Nat.reduceLT, Nat.reduceEqDiff, Int.cast_ofNat_Int, Int.reduceAdd, Int.reduceNeg, Int.reduceLE, Int.reduceToNat, true_and, and_true, and_self, not_true_eq_false, not_false_eq_true, true_implies, Nat.reduceEqDiff, reduceCtorEq, false_implies, forall_const, bipE, sipE, lcon0, lcon1, rtI_int, rtI_b0, rtI_b1, rtI_bz, refT_o, refT_a, fitv_int, fitv_ref, fitv_null, fitv_arr, fitv_arrn, fitv_long, fitv_b0, fitv_b1, fitv_bz, dX4_init_0, dX4_init_1, dX4_init_4, dX4_init_5, dX4_init_8, dX4_init_10, dX4_init_13, dX4_init_14, dX4_init_15, dX4_init_18, dX4_init_19, dX4_init_22, dX4_init_24, dX4_init_27, dX4_init_28, dX4_init_31, dX4_init_33, dX4_init_36, dX4_init_37, dX4_init_39, dX4_init_42, dX4_init_46, dX4_init_49, dX4_init_50, dX4_init_53, dX4_init_55, dX4_init_58, dX4_init_59, dX4_init_62, dX4_init_63, dX4_init_64, dX4_init_65, dX4_init_66, dX4_init_69, dX4_init_70, dX4_init_71, dX4_init_72, pX4_13, pX4_17, pX4_20, pX4_25, pX4_28, pX4_9]
  refine x_newI (N := 800) dX4_init_8 (by decide) (by decide) (by decide) ?_
  intro b1 Nb1 Fb1
  have ne_b1 : a ≠ b1 := fun e => by rw [← e, ha] at Fb1; cases Fb1
  have ga : hset h b1 (aI .int 800 (fun _ => iZ 0)) a = _ := (hset_ne ne_b1).trans ha
  have ga' : rd w (hset h b1 (aI .int 800 (fun _ => iZ 0))) a = _ := (rd_of hN).trans ga
  refine x_go 30 [22] (rt := (Option.none : Option Jvm.ClassFile.FieldType)) (cc := cX4_init) pX4_ok rfl rfl ?_
  simp only [wpD_ok, ↓wp_s, wp_z, ↓stp_c, ↓stp_n, w_iconst, w_bipush, w_sipush, w_lconst, w_null, w_iload_n, w_iload, w_lload_n, w_lload, w_aload_n, w_aload, w_istore_n, w_istore, w_lstore_n, w_lstore, w_astore_n, w_astore_nN, w_astore, w_astoreN, w_iinc, w_iadd, w_isub, w_imul, w_iand, w_ior, w_ixor, w_ishl, w_ishr, w_iushr, w_ineg, w_i2l, w_l2i, w_i2b, w_i2c, w_ladd, w_lsub, w_lmul, w_land, w_lor, w_lxor, w_lcmp, w_idiv, w_irem, w_ldiv, w_dup, w_pop, w_dup_x1, w_dup_x2, w_dup2, w_if_eq, w_icmp_eq, w_if_ne, w_icmp_ne, w_if_lt, w_icmp_lt, w_if_ge, w_icmp_ge, w_if_gt, w_icmp_gt, w_if_le, w_icmp_le, w_goto, w_ifnullR, w_ifnullN, w_ifnonnullR, w_ifnonnullN, w_acmp_eqRR, w_acmp_eqNR, w_acmp_eqRN, w_acmp_eqNN, w_acmp_neRR, w_acmp_neNR, w_acmp_neRN, w_acmp_neNN, w_getfield, w_putfield, w_iaload, w_baload, w_laload, w_aaload, w_arraylength, w_iastore, w_bastore, w_lastore, w_ldc, w_ldc_w, w_ldc2_w, w_ireturn, w_lreturn, w_vreturn, w_areturn, w_areturnN, w_invokestatic, w_invokevirtual, w_invokespecial, w_invokeinterface, w_invokedynamic, w_new, w_newarray, w_anewarray, w_checkcast, w_instanceof, w_getstatic, w_athrow, w_aastore, w_tableswitch, w_lookupswitch, ldI_i, ldL_i, ldA_i, ldA_n, ldJ_i, gfA_i, gfB_i, pfA_i, arI_i, arL_i, arQ_i, arQ_a, arN_i, asI_i, asL_i, lcA_i, lg, lgv, cl2, stL1, stL2, clrN, fv0, fv1, fv2, fv3, Value.category, List.length_cons, List.length_nil, List.set_cons_zero, List.set_cons_succ, ↓reduceIte, Nat.reduceAdd, Nat.reduceLT, Nat.reduceEqDiff, Int.cast_ofNat_Int, Int.reduceAdd, Int.reduceNeg, Int.reduceLE, Int.reduceToNat, true_and, and_true, and_self, not_true_eq_false, not_false_eq_true, true_implies, Nat.reduceEqDiff, reduceCtorEq, false_implies, forall_const, bipE, sipE, lcon0, lcon1, rtI_int, rtI_b0, rtI_b1, rtI_bz, refT_o, refT_a, fitv_int, fitv_ref, fitv_null, fitv_arr, fitv_arrn, fitv_long, fitv_b0, fitv_b1, fitv_bz, dX4_init_0, dX4_init_1, dX4_init_4, dX4_init_5, dX4_init_8, dX4_init_10, dX4_init_13, dX4_init_14, dX4_init_15, dX4_init_18, dX4_init_19, dX4_init_22, dX4_init_24, dX4_init_27, dX4_init_28, dX4_init_31, dX4_init_33, dX4_init_36, dX4_init_37, dX4_init_39, dX4_init_42, dX4_init_46, dX4_init_49, dX4_init_50, dX4_init_53, dX4_init_55, dX4_init_58, dX4_init_59, dX4_init_62, dX4_init_63, dX4_init_64, dX4_init_65, dX4_init_66, dX4_init_69, dX4_init_70, dX4_init_71, dX4_init_72, pX4_13, pX4_17, pX4_20, pX4_25, pX4_28, pX4_9, ga, ga', hN, hset_self, hset_hset, rd_of hN]
  refine And.intro rfl ?_
  obtain ⟨gb1, egb1⟩ : ∃ z, z = hset (hset h b1 (aI .int 800 (fun _ => iZ 0))) a (ob 3 [.int 0, .ref b1, .int 0, .int 0, .int 0, .int 0, .int 0, .int (iZ (-1)), .null, .null, .null, .int 0, .int 0, .int 0, .int 0, .int 0, .int 0, .int 0, .int 0, .null]) := ⟨_, rfl⟩
  rw [← egb1]
  have gb1a : gb1 a = some (ob 3 [.int 0, .ref b1, .int 0, .int 0, .int 0, .int 0, .int 0, .int (iZ (-1)), .null, .null, .null, .int 0, .int 0, .int 0, .int 0, .int 0, .int 0, .int 0, .int 0, .null]) := by rw [egb1, hset_self]
  have gb1b1 : gb1 b1 = some (aI .int 800 (fun _ => iZ 0)) := by rw [egb1, hset_ne (Ne.symm ne_b1), hset_self]
  have gb1o : ∀ x, x ≠ a → x ≠ b1 → gb1 x = h x := fun x ya yb1 => by rw [egb1, hset_ne ya, hset_ne yb1]
  clear egb1 ga ga'
  refine x_newI (N := 1528) dX4_init_22 (by decide) (by decide) (by decide) ?_
  intro b2 Nb2 Fb2
  have ne_b2 : a ≠ b2 := fun e => by rw [← e, gb1a] at Fb2; cases Fb2
  have ne_b2_b1 : b1 ≠ b2 := fun e => by rw [← e, gb1b1] at Fb2; cases Fb2
  have ga : hset gb1 b2 (aI .int 1528 (fun _ => iZ 0)) a = _ := (hset_ne ne_b2).trans gb1a
  have ga' : rd w (hset gb1 b2 (aI .int 1528 (fun _ => iZ 0))) a = _ := (rd_of hN).trans ga
  refine x_go 30 [31] (rt := (Option.none : Option Jvm.ClassFile.FieldType)) (cc := cX4_init) pX4_ok rfl rfl ?_
  simp only [wpD_ok, ↓wp_s, wp_z, ↓stp_c, ↓stp_n, w_iconst, w_bipush, w_sipush, w_lconst, w_null, w_iload_n, w_iload, w_lload_n, w_lload, w_aload_n, w_aload, w_istore_n, w_istore, w_lstore_n, w_lstore, w_astore_n, w_astore_nN, w_astore, w_astoreN, w_iinc, w_iadd, w_isub, w_imul, w_iand, w_ior, w_ixor, w_ishl, w_ishr, w_iushr, w_ineg, w_i2l, w_l2i, w_i2b, w_i2c, w_ladd, w_lsub, w_lmul, w_land, w_lor, w_lxor, w_lcmp, w_idiv, w_irem, w_ldiv, w_dup, w_pop, w_dup_x1, w_dup_x2, w_dup2, w_if_eq, w_icmp_eq, w_if_ne, w_icmp_ne, w_if_lt, w_icmp_lt, w_if_ge, w_icmp_ge, w_if_gt, w_icmp_gt, w_if_le, w_icmp_le, w_goto, w_ifnullR, w_ifnullN, w_ifnonnullR, w_ifnonnullN, w_acmp_eqRR, w_acmp_eqNR, w_acmp_eqRN, w_acmp_eqNN, w_acmp_neRR, w_acmp_neNR, w_acmp_neRN, w_acmp_neNN, w_getfield, w_putfield, w_iaload, w_baload, w_laload, w_aaload, w_arraylength, w_iastore, w_bastore, w_lastore, w_ldc, w_ldc_w, w_ldc2_w, w_ireturn, w_lreturn, w_vreturn, w_areturn, w_areturnN, w_invokestatic, w_invokevirtual, w_invokespecial, w_invokeinterface, w_invokedynamic, w_new, w_newarray, w_anewarray, w_checkcast, w_instanceof, w_getstatic, w_athrow, w_aastore, w_tableswitch, w_lookupswitch, ldI_i, ldL_i, ldA_i, ldA_n, ldJ_i, gfA_i, gfB_i, pfA_i, arI_i, arL_i, arQ_i, arQ_a, arN_i, asI_i, asL_i, lcA_i, lg, lgv, cl2, stL1, stL2, clrN, fv0, fv1, fv2, fv3, Value.category, List.length_cons, List.length_nil, List.set_cons_zero, List.set_cons_succ, ↓reduceIte, Nat.reduceAdd, Nat.reduceLT, Nat.reduceEqDiff, Int.cast_ofNat_Int, Int.reduceAdd, Int.reduceNeg, Int.reduceLE, Int.reduceToNat, true_and, and_true, and_self, not_true_eq_false, not_false_eq_true, true_implies, Nat.reduceEqDiff, reduceCtorEq, false_implies, forall_const, bipE, sipE, lcon0, lcon1, rtI_int, rtI_b0, rtI_b1, rtI_bz, refT_o, refT_a, fitv_int, fitv_ref, fitv_null, fitv_arr, fitv_arrn, fitv_long, fitv_b0, fitv_b1, fitv_bz, dX4_init_0, dX4_init_1, dX4_init_4, dX4_init_5, dX4_init_8, dX4_init_10, dX4_init_13, dX4_init_14, dX4_init_15, dX4_init_18, dX4_init_19, dX4_init_22, dX4_init_24, dX4_init_27, dX4_init_28, dX4_init_31, dX4_init_33, dX4_init_36, dX4_init_37, dX4_init_39, dX4_init_42, dX4_init_46, dX4_init_49, dX4_init_50, dX4_init_53, dX4_init_55, dX4_init_58, dX4_init_59, dX4_init_62, dX4_init_63, dX4_init_64, dX4_init_65, dX4_init_66, dX4_init_69, dX4_init_70, dX4_init_71, dX4_init_72, pX4_13, pX4_17, pX4_20, pX4_25, pX4_28, pX4_9, ga, ga', hN, hset_self, hset_hset, rd_of hN]
  refine And.intro rfl ?_
  obtain ⟨gb2, egb2⟩ : ∃ z, z = hset (hset gb1 b2 (aI .int 1528 (fun _ => iZ 0))) a (ob 3 [.int 0, .ref b1, .int 0, .int 0, .int 0, .int 0, .int 0, .int (iZ (-1)), .ref b2, .null, .null, .int 0, .int 0, .int 0, .int 0, .int 0, .int 0, .int 0, .int 0, .null]) := ⟨_, rfl⟩
  rw [← egb2]
  have gb2a : gb2 a = some (ob 3 [.int 0, .ref b1, .int 0, .int 0, .int 0, .int 0, .int 0, .int (iZ (-1)), .ref b2, .null, .null, .int 0, .int 0, .int 0, .int 0, .int 0, .int 0, .int 0, .int 0, .null]) := by rw [egb2, hset_self]
  have gb2b2 : gb2 b2 = some (aI .int 1528 (fun _ => iZ 0)) := by rw [egb2, hset_ne (Ne.symm ne_b2), hset_self]
  have gb2b1 : gb2 b1 = some (aI .int 800 (fun _ => iZ 0)) := by rw [egb2, hset_ne (Ne.symm ne_b1), hset_ne ne_b2_b1]; exact gb1b1
  have gb2o : ∀ x, x ≠ a → x ≠ b1 → x ≠ b2 → gb2 x = h x := fun x ya yb1 yb2 => by rw [egb2, hset_ne ya, hset_ne yb2]; exact gb1o x ya yb1
  clear egb2 ga ga'
  refine x_newI (N := 1528) dX4_init_31 (by decide) (by decide) (by decide) ?_
  intro b3 Nb3 Fb3
  have ne_b3 : a ≠ b3 := fun e => by rw [← e, gb2a] at Fb3; cases Fb3
  have ne_b3_b1 : b1 ≠ b3 := fun e => by rw [← e, gb2b1] at Fb3; cases Fb3
  have ne_b3_b2 : b2 ≠ b3 := fun e => by rw [← e, gb2b2] at Fb3; cases Fb3
  have ga : hset gb2 b3 (aI .int 1528 (fun _ => iZ 0)) a = _ := (hset_ne ne_b3).trans gb2a
  have ga' : rd w (hset gb2 b3 (aI .int 1528 (fun _ => iZ 0))) a = _ := (rd_of hN).trans ga
  refine x_go 30 [42] (rt := (Option.none : Option Jvm.ClassFile.FieldType)) (cc := cX4_init) pX4_ok rfl rfl ?_
  simp only [wpD_ok, ↓wp_s, wp_z, ↓stp_c, ↓stp_n, w_iconst, w_bipush, w_sipush, w_lconst, w_null, w_iload_n, w_iload, w_lload_n, w_lload, w_aload_n, w_aload, w_istore_n, w_istore, w_lstore_n, w_lstore, w_astore_n, w_astore_nN, w_astore, w_astoreN, w_iinc, w_iadd, w_isub, w_imul, w_iand, w_ior, w_ixor, w_ishl, w_ishr, w_iushr, w_ineg, w_i2l, w_l2i, w_i2b, w_i2c, w_ladd, w_lsub, w_lmul, w_land, w_lor, w_lxor, w_lcmp, w_idiv, w_irem, w_ldiv, w_dup, w_pop, w_dup_x1, w_dup_x2, w_dup2, w_if_eq, w_icmp_eq, w_if_ne, w_icmp_ne, w_if_lt, w_icmp_lt, w_if_ge, w_icmp_ge, w_if_gt, w_icmp_gt, w_if_le, w_icmp_le, w_goto, w_ifnullR, w_ifnullN, w_ifnonnullR, w_ifnonnullN, w_acmp_eqRR, w_acmp_eqNR, w_acmp_eqRN, w_acmp_eqNN, w_acmp_neRR, w_acmp_neNR, w_acmp_neRN, w_acmp_neNN, w_getfield, w_putfield, w_iaload, w_baload, w_laload, w_aaload, w_arraylength, w_iastore, w_bastore, w_lastore, w_ldc, w_ldc_w, w_ldc2_w, w_ireturn, w_lreturn, w_vreturn, w_areturn, w_areturnN, w_invokestatic, w_invokevirtual, w_invokespecial, w_invokeinterface, w_invokedynamic, w_new, w_newarray, w_anewarray, w_checkcast, w_instanceof, w_getstatic, w_athrow, w_aastore, w_tableswitch, w_lookupswitch, ldI_i, ldL_i, ldA_i, ldA_n, ldJ_i, gfA_i, gfB_i, pfA_i, arI_i, arL_i, arQ_i, arQ_a, arN_i, asI_i, asL_i, lcA_i, lg, lgv, cl2, stL1, stL2, clrN, fv0, fv1, fv2, fv3, Value.category, List.length_cons, List.length_nil, List.set_cons_zero, List.set_cons_succ, ↓reduceIte, Nat.reduceAdd, Nat.reduceLT, Nat.reduceEqDiff, Int.cast_ofNat_Int, Int.reduceAdd, Int.reduceNeg, Int.reduceLE, Int.reduceToNat, true_and, and_true, and_self, not_true_eq_false, not_false_eq_true, true_implies, Nat.reduceEqDiff, reduceCtorEq, false_implies, forall_const, bipE, sipE, lcon0, lcon1, rtI_int, rtI_b0, rtI_b1, rtI_bz, refT_o, refT_a, fitv_int, fitv_ref, fitv_null, fitv_arr, fitv_arrn, fitv_long, fitv_b0, fitv_b1, fitv_bz, dX4_init_0, dX4_init_1, dX4_init_4, dX4_init_5, dX4_init_8, dX4_init_10, dX4_init_13, dX4_init_14, dX4_init_15, dX4_init_18, dX4_init_19, dX4_init_22, dX4_init_24, dX4_init_27, dX4_init_28, dX4_init_31, dX4_init_33, dX4_init_36, dX4_init_37, dX4_init_39, dX4_init_42, dX4_init_46, dX4_init_49, dX4_init_50, dX4_init_53, dX4_init_55, dX4_init_58, dX4_init_59, dX4_init_62, dX4_init_63, dX4_init_64, dX4_init_65, dX4_init_66, dX4_init_69, dX4_init_70, dX4_init_71, dX4_init_72, pX4_13, pX4_17, pX4_20, pX4_25, pX4_28, pX4_9, ga, ga', hN, hset_self, hset_hset, rd_of hN]
  refine And.intro rfl ?_
  obtain ⟨gb3, egb3⟩ : ∃ z, z = hset (hset gb2 b3 (aI .int 1528 (fun _ => iZ 0))) a (ob 3 [.int 0, .ref b1, .int 0, .int 0, .int 0, .int 0, .int 0, .int (iZ (-1)), .ref b2, .ref b3, .null, .int 0, .int 0, .int 0, .int 0, .int 0, .int 0, .int 0, .int 0, .null]) := ⟨_, rfl⟩
  rw [← egb3]
  have gb3a : gb3 a = some (ob 3 [.int 0, .ref b1, .int 0, .int 0, .int 0, .int 0, .int 0, .int (iZ (-1)), .ref b2, .ref b3, .null, .int 0, .int 0, .int 0, .int 0, .int 0, .int 0, .int 0, .int 0, .null]) := by rw [egb3, hset_self]
  have gb3b3 : gb3 b3 = some (aI .int 1528 (fun _ => iZ 0)) := by rw [egb3, hset_ne (Ne.symm ne_b3), hset_self]
  have gb3b1 : gb3 b1 = some (aI .int 800 (fun _ => iZ 0)) := by rw [egb3, hset_ne (Ne.symm ne_b1), hset_ne ne_b3_b1]; exact gb2b1
  have gb3b2 : gb3 b2 = some (aI .int 1528 (fun _ => iZ 0)) := by rw [egb3, hset_ne (Ne.symm ne_b2), hset_ne ne_b3_b2]; exact gb2b2
  have gb3o : ∀ x, x ≠ a → x ≠ b1 → x ≠ b2 → x ≠ b3 → gb3 x = h x := fun x ya yb1 yb2 yb3 => by rw [egb3, hset_ne ya, hset_ne yb3]; exact gb2o x ya yb1 yb2
  clear egb3 ga ga'
  refine x_multi (N := 8) (L := 1528) dX4_init_42 q2077 q2140 (nn_iZ (N := 8) (by decide)).1 (nn_iZ (N := 1528) (by decide)).1 (nn_iZ (N := 8) (by decide)).2 (nn_iZ (N := 1528) (by decide)).2 (by decide) (by decide) (by decide) (by decide) ?_
  intro m Nm Fm
  have ne_m : ∀ j, j ≤ 8 → a ≠ m + j := fun j hj e => by have := Fm j hj; rw [← e, gb3a] at this; cases this
  have ne_m0 : m ≠ a := fun e => ne_m 0 (by decide) e.symm
  have ne_m_b1 : ∀ j, j ≤ 8 → b1 ≠ m + j := fun j hj e => by have := Fm j hj; rw [← e, gb3b1] at this; cases this
  have ne_m_b2 : ∀ j, j ≤ 8 → b2 ≠ m + j := fun j hj e => by have := Fm j hj; rw [← e, gb3b2] at this; cases this
  have ne_m_b3 : ∀ j, j ≤ 8 → b3 ≠ m + j := fun j hj e => by have := Fm j hj; rw [← e, gb3b3] at this; cases this
  have ga : mfill gb3 m 8 1528 a = _ := (mfill_n ne_m).trans gb3a
  have ga' : rd w (mfill gb3 m 8 1528) a = _ := (rd_of hN).trans ga
  refine x_go 30 [53] (rt := (Option.none : Option Jvm.ClassFile.FieldType)) (cc := cX4_init) pX4_ok rfl rfl ?_
  simp only [wpD_ok, ↓wp_s, wp_z, ↓stp_c, ↓stp_n, w_iconst, w_bipush, w_sipush, w_lconst, w_null, w_iload_n, w_iload, w_lload_n, w_lload, w_aload_n, w_aload, w_istore_n, w_istore, w_lstore_n, w_lstore, w_astore_n, w_astore_nN, w_astore, w_astoreN, w_iinc, w_iadd, w_isub, w_imul, w_iand, w_ior, w_ixor, w_ishl, w_ishr, w_iushr, w_ineg, w_i2l, w_l2i, w_i2b, w_i2c, w_ladd, w_lsub, w_lmul, w_land, w_lor, w_lxor, w_lcmp, w_idiv, w_irem, w_ldiv, w_dup, w_pop, w_dup_x1, w_dup_x2, w_dup2, w_if_eq, w_icmp_eq, w_if_ne, w_icmp_ne, w_if_lt, w_icmp_lt, w_if_ge, w_icmp_ge, w_if_gt, w_icmp_gt, w_if_le, w_icmp_le, w_goto, w_ifnullR, w_ifnullN, w_ifnonnullR, w_ifnonnullN, w_acmp_eqRR, w_acmp_eqNR, w_acmp_eqRN, w_acmp_eqNN, w_acmp_neRR, w_acmp_neNR, w_acmp_neRN, w_acmp_neNN, w_getfield, w_putfield, w_iaload, w_baload, w_laload, w_aaload, w_arraylength, w_iastore, w_bastore, w_lastore, w_ldc, w_ldc_w, w_ldc2_w, w_ireturn, w_lreturn, w_vreturn, w_areturn, w_areturnN, w_invokestatic, w_invokevirtual, w_invokespecial, w_invokeinterface, w_invokedynamic, w_new, w_newarray, w_anewarray, w_checkcast, w_instanceof, w_getstatic, w_athrow, w_aastore, w_tableswitch, w_lookupswitch, ldI_i, ldL_i, ldA_i, ldA_n, ldJ_i, gfA_i, gfB_i, pfA_i, arI_i, arL_i, arQ_i, arQ_a, arN_i, asI_i, asL_i, lcA_i, lg, lgv, cl2, stL1, stL2, clrN, fv0, fv1, fv2, fv3, Value.category, List.length_cons, List.length_nil, List.set_cons_zero, List.set_cons_succ, ↓reduceIte, Nat.reduceAdd, Nat.reduceLT, Nat.reduceEqDiff, Int.cast_ofNat_Int, Int.reduceAdd, Int.reduceNeg, Int.reduceLE, Int.reduceToNat, true_and, and_true, and_self, not_true_eq_false, not_false_eq_true, true_implies, Nat.reduceEqDiff, reduceCtorEq, false_implies, forall_const, bipE, sipE, lcon0, lcon1, rtI_int, rtI_b0, rtI_b1, rtI_bz, refT_o, refT_a, fitv_int, fitv_ref, fitv_null, fitv_arr, fitv_arrn, fitv_long, fitv_b0, fitv_b1, fitv_bz, dX4_init_0, dX4_init_1, dX4_init_4, dX4_init_5, dX4_init_8, dX4_init_10, dX4_init_13, dX4_init_14, dX4_init_15, dX4_init_18, dX4_init_19, dX4_init_22, dX4_init_24, dX4_init_27, dX4_init_28, dX4_init_31, dX4_init_33, dX4_init_36, dX4_init_37, dX4_init_39, dX4_init_42, dX4_init_46, dX4_init_49, dX4_init_50, dX4_init_53, dX4_init_55, dX4_init_58, dX4_init_59, dX4_init_62, dX4_init_63, dX4_init_64, dX4_init_65, dX4_init_66, dX4_init_69, dX4_init_70, dX4_init_71, dX4_init_72, pX4_13, pX4_17, pX4_20, pX4_25, pX4_28, pX4_9, ga, ga', hN, hset_self, hset_hset, rd_of hN]
  refine And.intro rfl ?_
  obtain ⟨gm, egm⟩ : ∃ z, z = hset (mfill gb3 m 8 1528) a (ob 3 [.int 0, .ref b1, .int 0, .int 0, .int 0, .int 0, .int 0, .int (iZ (-1)), .ref b2, .ref b3, .ref m, .int 0, .int 0, .int 0, .int 0, .int 0, .int 0, .int 0, .int 0, .null]) := ⟨_, rfl⟩
  rw [← egm]
  have gma : gm a = some (ob 3 [.int 0, .ref b1, .int 0, .int 0, .int 0, .int 0, .int 0, .int (iZ (-1)), .ref b2, .ref b3, .ref m, .int 0, .int 0, .int 0, .int 0, .int 0, .int 0, .int 0, .int 0, .null]) := by rw [egm, hset_self]
  have gmm : gm m = some (aQ (.array .int) 8 (fun j => if j < 8 then some (m + 1 + j) else none)) := by rw [egm, hset_ne ne_m0, mfill_a]
  have gmr : ∀ j, j < 8 → gm (m + 1 + j) = some (aI .int 1528 (fun _ => 0)) := fun j hj => by rw [egm, hset_ne (fun e => ne_m (1 + j) (by omega) (by omega)), mfill_r hj]
  have gmb1 : gm b1 = some (aI .int 800 (fun _ => iZ 0)) := by rw [egm, hset_ne (Ne.symm ne_b1), mfill_n ne_m_b1]; exact gb3b1
  have gmb2 : gm b2 = some (aI .int 1528 (fun _ => iZ 0)) := by rw [egm, hset_ne (Ne.symm ne_b2), mfill_n ne_m_b2]; exact gb3b2
  have gmb3 : gm b3 = some (aI .int 1528 (fun _ => iZ 0)) := by rw [egm, hset_ne (Ne.symm ne_b3), mfill_n ne_m_b3]; exact gb3b3
  have gmo : ∀ x, x ≠ a → x ≠ b1 → x ≠ b2 → x ≠ b3 → (∀ j, j ≤ 8 → x ≠ m + j) → gm x = h x := fun x ya y1 y2 y3 ym => by rw [egm, hset_ne ya, mfill_n ym]; exact gb3o x ya y1 y2 y3
  clear egm ga ga'
  refine x_newL (N := 1300) dX4_init_53 (by decide) (by decide) (by decide) ?_
  intro s Ns Fs
  have ne_s : a ≠ s := fun e => by rw [← e, gma] at Fs; cases Fs
  have ne_s_b1 : b1 ≠ s := fun e => by rw [← e, gmb1] at Fs; cases Fs
  have ne_s_b2 : b2 ≠ s := fun e => by rw [← e, gmb2] at Fs; cases Fs
  have ne_s_b3 : b3 ≠ s := fun e => by rw [← e, gmb3] at Fs; cases Fs
  have ne_s_m : m ≠ s := fun e => by rw [← e, gmm] at Fs; cases Fs
  have ne_s_r : ∀ j, j < 8 → m + 1 + j ≠ s := fun j hj e => by rw [← e, gmr j hj] at Fs; cases Fs
  have ga : hset gm s (aL 1300 (fun _ => lZ 0)) a = _ := (hset_ne ne_s).trans gma
  have ga' : rd w (hset gm s (aL 1300 (fun _ => lZ 0))) a = _ := (rd_of hN).trans ga
  refine x_go 6 [58] (rt := (Option.none : Option Jvm.ClassFile.FieldType)) (cc := cX4_init) pX4_ok rfl rfl ?_
  simp only [wpD_ok, ↓wp_s, wp_z, ↓stp_c, ↓stp_n, w_iconst, w_bipush, w_sipush, w_lconst, w_null, w_iload_n, w_iload, w_lload_n, w_lload, w_aload_n, w_aload, w_istore_n, w_istore, w_lstore_n, w_lstore, w_astore_n, w_astore_nN, w_astore, w_astoreN, w_iinc, w_iadd, w_isub, w_imul, w_iand, w_ior, w_ixor, w_ishl, w_ishr, w_iushr, w_ineg, w_i2l, w_l2i, w_i2b, w_i2c, w_ladd, w_lsub, w_lmul, w_land, w_lor, w_lxor, w_lcmp, w_idiv, w_irem, w_ldiv, w_dup, w_pop, w_dup_x1, w_dup_x2, w_dup2, w_if_eq, w_icmp_eq, w_if_ne, w_icmp_ne, w_if_lt, w_icmp_lt, w_if_ge, w_icmp_ge, w_if_gt, w_icmp_gt, w_if_le, w_icmp_le, w_goto, w_ifnullR, w_ifnullN, w_ifnonnullR, w_ifnonnullN, w_acmp_eqRR, w_acmp_eqNR, w_acmp_eqRN, w_acmp_eqNN, w_acmp_neRR, w_acmp_neNR, w_acmp_neRN, w_acmp_neNN, w_getfield, w_putfield, w_iaload, w_baload, w_laload, w_aaload, w_arraylength, w_iastore, w_bastore, w_lastore, w_ldc, w_ldc_w, w_ldc2_w, w_ireturn, w_lreturn, w_vreturn, w_areturn, w_areturnN, w_invokestatic, w_invokevirtual, w_invokespecial, w_invokeinterface, w_invokedynamic, w_new, w_newarray, w_anewarray, w_checkcast, w_instanceof, w_getstatic, w_athrow, w_aastore, w_tableswitch, w_lookupswitch, ldI_i, ldL_i, ldA_i, ldA_n, ldJ_i, gfA_i, gfB_i, pfA_i, arI_i, arL_i, arQ_i, arQ_a, arN_i, asI_i, asL_i, lcA_i, lg, lgv, cl2, stL1, stL2, clrN, fv0, fv1, fv2, fv3, Value.category, List.length_cons, List.length_nil, List.set_cons_zero, List.set_cons_succ, ↓reduceIte, Nat.reduceAdd, Nat.reduceLT, Nat.reduceEqDiff, Int.cast_ofNat_Int, Int.reduceAdd, Int.reduceNeg, Int.reduceLE, Int.reduceToNat, true_and, and_true, and_self, not_true_eq_false, not_false_eq_true, true_implies, Nat.reduceEqDiff, reduceCtorEq, false_implies, forall_const, bipE, sipE, lcon0, lcon1, rtI_int, rtI_b0, rtI_b1, rtI_bz, refT_o, refT_a, fitv_int, fitv_ref, fitv_null, fitv_arr, fitv_arrn, fitv_long, fitv_b0, fitv_b1, fitv_bz, dX4_init_0, dX4_init_1, dX4_init_4, dX4_init_5, dX4_init_8, dX4_init_10, dX4_init_13, dX4_init_14, dX4_init_15, dX4_init_18, dX4_init_19, dX4_init_22, dX4_init_24, dX4_init_27, dX4_init_28, dX4_init_31, dX4_init_33, dX4_init_36, dX4_init_37, dX4_init_39, dX4_init_42, dX4_init_46, dX4_init_49, dX4_init_50, dX4_init_53, dX4_init_55, dX4_init_58, dX4_init_59, dX4_init_62, dX4_init_63, dX4_init_64, dX4_init_65, dX4_init_66, dX4_init_69, dX4_init_70, dX4_init_71, dX4_init_72, pX4_13, pX4_17, pX4_20, pX4_25, pX4_28, pX4_9, ga, ga', hN, hset_self, hset_hset, rd_of hN]
  refine And.intro rfl ?_
  refine x_same (h2 := hset (hset (hset gm s (aL 1300 (fun _ => lZ 0))) a (ob 3 [.int 0, .ref b1, .int 0, .int 0, .int 0, .int 0, .int 0, .int (iZ (-1)), .ref b2, .ref b3, .ref m, .int 0, .int 0, .int 0, .int 0, .int 0, .int 0, .int 0, .int 0, .ref s])) m (aQ (.array .int) 8 (fun j => some (tOf a b1 b2 b3 m s (5 + j))))) (fun H hR => hR.setq (f := fun j => if j < 8 then some (m + 1 + j) else none) (fun j hj => by rw [if_pos hj]; unfold tOf; rw [if_neg (by omega), if_neg (by omega), if_neg (by omega), if_neg (by omega), if_neg (by omega)]; congr 1; omega) (by rw [hset_ne ne_m0, hset_ne ne_s_m]; exact gmm)) ?_
  obtain ⟨g, eg⟩ : ∃ z, z = hset (hset (hset gm s (aL 1300 (fun _ => lZ 0))) a (ob 3 [.int 0, .ref b1, .int 0, .int 0, .int 0, .int 0, .int 0, .int (iZ (-1)), .ref b2, .ref b3, .ref m, .int 0, .int 0, .int 0, .int 0, .int 0, .int 0, .int 0, .int 0, .ref s])) m (aQ (.array .int) 8 (fun j => some (tOf a b1 b2 b3 m s (5 + j)))) := ⟨_, rfl⟩
  rw [← eg]
  have dist : ∀ i j, i < 14 → j < 14 → tOf a b1 b2 b3 m s i = tOf a b1 b2 b3 m s j → i = j := by
    have k1 := ne_m
    have k2 := ne_m_b1
    have k3 := ne_m_b2
    have k4 := ne_m_b3
    have r : ∀ i, 4 ≤ i → i < 13 → tOf a b1 b2 b3 m s i = m + (i - 4) := fun i h1 h2 => by unfold tOf; rw [if_neg (by omega), if_neg (by omega), if_neg (by omega), if_neg (by omega), if_neg (by omega)]
    have lo : ∀ i j, i < j → j < 14 → tOf a b1 b2 b3 m s i ≠ tOf a b1 b2 b3 m s j := by
      intro i j hij hj
      have hs : ∀ q, q ≤ 8 → m + q ≠ s := fun q hq => by
        rcases Nat.eq_zero_or_pos q with z | z
        · subst z; exact ne_s_m
        · have := ne_s_r (q - 1) (by omega)
          rwa [show m + 1 + (q - 1) = m + q by omega] at this
      by_cases j13 : j = 13
      · subst j13
        show _ ≠ s
        rcases Nat.lt_or_ge i 4 with c | c
        · rcases (show i = 0 ∨ i = 1 ∨ i = 2 ∨ i = 3 by omega) with rfl | rfl | rfl | rfl
          · exact ne_s
          · exact ne_s_b1
          · exact ne_s_b2
          · exact ne_s_b3
        · rw [r i c (by omega)]
          exact hs _ (by omega)
      · rcases Nat.lt_or_ge j 4 with c | c
        · rcases (show (i = 0 ∧ j = 1) ∨ (i = 0 ∧ j = 2) ∨ (i = 0 ∧ j = 3) ∨ (i = 1 ∧ j = 2) ∨ (i = 1 ∧ j = 3) ∨ (i = 2 ∧ j = 3) by omega) with ⟨rfl, rfl⟩ | ⟨rfl, rfl⟩ | ⟨rfl, rfl⟩ | ⟨rfl, rfl⟩ | ⟨rfl, rfl⟩ | ⟨rfl, rfl⟩
          · exact ne_b1
          · exact ne_b2
          · exact ne_b3
          · exact ne_b2_b1
          · exact ne_b3_b1
          · exact ne_b3_b2
        · rw [r j c (by omega)]
          rcases Nat.lt_or_ge i 4 with c2 | c2
          · rcases (show i = 0 ∨ i = 1 ∨ i = 2 ∨ i = 3 by omega) with rfl | rfl | rfl | rfl
            · exact k1 _ (by omega)
            · exact k2 _ (by omega)
            · exact k3 _ (by omega)
            · exact k4 _ (by omega)
          · rw [r i c2 (by omega)]; omega
    intro i j hi hj e
    rcases Nat.lt_trichotomy i j with c | c | c
    · exact absurd e (lo i j c hj)
    · exact c
    · exact absurd e.symm (lo j i c hi)
  have nN : ∀ i, i < 14 → wN w ≤ tOf a b1 b2 b3 m s i := by
    intro i hi
    unfold tOf
    repeat' split
    all_goals first | assumption | omega
  have ne0 : ∀ i, 1 ≤ i → i < 14 → tOf a b1 b2 b3 m s i ≠ a := fun i h1 h2 e => by have := dist i 0 h2 (by decide) e; omega
  have fr : ∀ i, 1 ≤ i → i < 14 → h (tOf a b1 b2 b3 m s i) = none := by
    intro i h1 h2
    have u1 : ∀ j, j ≤ 8 → h (m + j) = none := fun j hj => by
      have := Fm j hj
      rwa [gb3o _ (fun e => ne_m j hj e.symm) (fun e => ne_m_b1 j hj e.symm) (fun e => ne_m_b2 j hj e.symm) (fun e => ne_m_b3 j hj e.symm)] at this
    unfold tOf
    rw [if_neg (by omega)]
    split
    · exact Fb1
    split
    · rwa [gb1o _ (Ne.symm ne_b2) (Ne.symm ne_b2_b1)] at Fb2
    split
    · rwa [gb2o _ (Ne.symm ne_b3) (Ne.symm ne_b3_b1) (Ne.symm ne_b3_b2)] at Fb3
    split
    · rwa [gmo _ (Ne.symm ne_s) (Ne.symm ne_s_b1) (Ne.symm ne_s_b2) (Ne.symm ne_s_b3) (fun j hj e => by
        rcases Nat.eq_zero_or_pos j with z | z
        · subst z; exact ne_s_m e.symm
        · exact ne_s_r (j - 1) (by omega) (by omega))] at Fs
    · exact u1 _ (by omega)
  have hT : Tw w (tOf a b1 b2 b3 m s) (fun i => if i = 7 then -1 else 0, fun _ _ => 0, fun _ => 0) g := by
    refine ⟨nN, dist, ?_, ?_, ?_, ?_, ?_, ?_, ?_⟩
    · show g a = _
      rw [eg, hset_ne (Ne.symm ne_m0), hset_self]
      rfl
    · show g b1 = _
      rw [eg, hset_ne (show b1 ≠ m from ne_m_b1 0 (by decide)), hset_ne (Ne.symm ne_b1), hset_ne ne_s_b1, gmb1]
    · show g b2 = _
      rw [eg, hset_ne (show b2 ≠ m from ne_m_b2 0 (by decide)), hset_ne (Ne.symm ne_b2), hset_ne ne_s_b2, gmb2]
    · show g b3 = _
      rw [eg, hset_ne (show b3 ≠ m from ne_m_b3 0 (by decide)), hset_ne (Ne.symm ne_b3), hset_ne ne_s_b3, gmb3]
    · show g m = _
      rw [eg]
      exact hset_self
    · intro j hj
      have : tOf a b1 b2 b3 m s (5 + j) = m + 1 + j := by unfold tOf; rw [if_neg (by omega), if_neg (by omega), if_neg (by omega), if_neg (by omega), if_neg (by omega)]; omega
      rw [this, eg, hset_ne (show m + 1 + j ≠ m by omega), hset_ne (fun e => ne_m (1 + j) (by omega) (by omega)), hset_ne (ne_s_r j hj), gmr j hj]
      rfl
    · show g s = _
      rw [eg, hset_ne (Ne.symm ne_s_m), hset_ne (Ne.symm ne_s), hset_self]
  have hF : Fr (tOf a b1 b2 b3 m s) h g := by
    intro x hx
    have q0 := hx 0 (by decide)
    have q1 := hx 1 (by decide)
    have q2 := hx 2 (by decide)
    have q3 := hx 3 (by decide)
    have q13 := hx 13 (by decide)
    rw [eg, hset_ne (show x ≠ m from hx 4 (by decide)), hset_ne (show x ≠ a from q0), hset_ne (show x ≠ s from q13)]
    refine gmo x q0 q1 q2 q3 fun j hj e => ?_
    have := hx (4 + j) (by omega)
    unfold tOf at this
    rw [if_neg (by omega), if_neg (by omega), if_neg (by omega), if_neg (by omega), if_neg (by omega)] at this
    omega
  clear eg
  have t0 : tOf a b1 b2 b3 m s 0 = a := rfl
  have t2 : tOf a b1 b2 b3 m s 2 = b2 := rfl
  rw [← t0]
  generalize tOf a b1 b2 b3 m s = t at *
  have n2 := hT.n (i := 2) (by decide)
  obtain ⟨T2, s1, hS1, hD1⟩ := hT.stD ic0 2
  have hd1 := hT.2.2.2.2.1
  rw [ic0] at s1
  refine x_go 20 [65] (rt := (Option.none : Option Jvm.ClassFile.FieldType)) (cc := cX4_init) pX4_ok rfl rfl ?_
  simp only [wpD_ok, ↓wp_s, wp_z, ↓stp_c, ↓stp_n, w_iconst, w_bipush, w_sipush, w_lconst, w_null, w_iload_n, w_iload, w_lload_n, w_lload, w_aload_n, w_aload, w_istore_n, w_istore, w_lstore_n, w_lstore, w_astore_n, w_astore_nN, w_astore, w_astoreN, w_iinc, w_iadd, w_isub, w_imul, w_iand, w_ior, w_ixor, w_ishl, w_ishr, w_iushr, w_ineg, w_i2l, w_l2i, w_i2b, w_i2c, w_ladd, w_lsub, w_lmul, w_land, w_lor, w_lxor, w_lcmp, w_idiv, w_irem, w_ldiv, w_dup, w_pop, w_dup_x1, w_dup_x2, w_dup2, w_if_eq, w_icmp_eq, w_if_ne, w_icmp_ne, w_if_lt, w_icmp_lt, w_if_ge, w_icmp_ge, w_if_gt, w_icmp_gt, w_if_le, w_icmp_le, w_goto, w_ifnullR, w_ifnullN, w_ifnonnullR, w_ifnonnullN, w_acmp_eqRR, w_acmp_eqNR, w_acmp_eqRN, w_acmp_eqNN, w_acmp_neRR, w_acmp_neNR, w_acmp_neRN, w_acmp_neNN, w_getfield, w_putfield, w_iaload, w_baload, w_laload, w_aaload, w_arraylength, w_iastore, w_bastore, w_lastore, w_ldc, w_ldc_w, w_ldc2_w, w_ireturn, w_lreturn, w_vreturn, w_areturn, w_areturnN, w_invokestatic, w_invokevirtual, w_invokespecial, w_invokeinterface, w_invokedynamic, w_new, w_newarray, w_anewarray, w_checkcast, w_instanceof, w_getstatic, w_athrow, w_aastore, w_tableswitch, w_lookupswitch, ldI_i, ldL_i, ldA_i, ldA_n, ldJ_i, gfA_i, gfB_i, pfA_i, arI_i, arL_i, arQ_i, arQ_a, arN_i, asI_i, asL_i, lcA_i, lg, lgv, cl2, stL1, stL2, clrN, fv0, fv1, fv2, fv3, Value.category, List.length_cons, List.length_nil, List.set_cons_zero, List.set_cons_succ, ↓reduceIte, Nat.reduceAdd, Nat.reduceLT, Nat.reduceEqDiff, Int.cast_ofNat_Int, Int.reduceAdd, Int.reduceNeg, Int.reduceLE, Int.reduceToNat, true_and, and_true, and_self, not_true_eq_false, not_false_eq_true, true_implies, Nat.reduceEqDiff, reduceCtorEq, false_implies, forall_const, bipE, sipE, lcon0, lcon1, rtI_int, rtI_b0, rtI_b1, rtI_bz, refT_o, refT_a, fitv_int, fitv_ref, fitv_null, fitv_arr, fitv_arrn, fitv_long, fitv_b0, fitv_b1, fitv_bz, dX4_init_0, dX4_init_1, dX4_init_4, dX4_init_5, dX4_init_8, dX4_init_10, dX4_init_13, dX4_init_14, dX4_init_15, dX4_init_18, dX4_init_19, dX4_init_22, dX4_init_24, dX4_init_27, dX4_init_28, dX4_init_31, dX4_init_33, dX4_init_36, dX4_init_37, dX4_init_39, dX4_init_42, dX4_init_46, dX4_init_49, dX4_init_50, dX4_init_53, dX4_init_55, dX4_init_58, dX4_init_59, dX4_init_62, dX4_init_63, dX4_init_64, dX4_init_65, dX4_init_66, dX4_init_69, dX4_init_70, dX4_init_71, dX4_init_72, pX4_13, pX4_17, pX4_20, pX4_25, pX4_28, pX4_9, hT.o, hT.d, hd1, n2, vc0, ic0]
  revert s1
  generalize hset _ (t 2) _ = h2
  rintro ⟨hT2, hF2⟩
  obtain ⟨T3, s1, hS2, hD2⟩ := hT2.stD ic1 2
  have hd1 := hT2.2.2.2.2.1
  rw [ic1] at s1
  refine x_go 20 [] (rt := (Option.none : Option Jvm.ClassFile.FieldType)) (cc := cX4_init) pX4_ok rfl rfl ?_
  simp only [wpD_ok, ↓wp_s, wp_z, ↓stp_c, ↓stp_n, w_iconst, w_bipush, w_sipush, w_lconst, w_null, w_iload_n, w_iload, w_lload_n, w_lload, w_aload_n, w_aload, w_istore_n, w_istore, w_lstore_n, w_lstore, w_astore_n, w_astore_nN, w_astore, w_astoreN, w_iinc, w_iadd, w_isub, w_imul, w_iand, w_ior, w_ixor, w_ishl, w_ishr, w_iushr, w_ineg, w_i2l, w_l2i, w_i2b, w_i2c, w_ladd, w_lsub, w_lmul, w_land, w_lor, w_lxor, w_lcmp, w_idiv, w_irem, w_ldiv, w_dup, w_pop, w_dup_x1, w_dup_x2, w_dup2, w_if_eq, w_icmp_eq, w_if_ne, w_icmp_ne, w_if_lt, w_icmp_lt, w_if_ge, w_icmp_ge, w_if_gt, w_icmp_gt, w_if_le, w_icmp_le, w_goto, w_ifnullR, w_ifnullN, w_ifnonnullR, w_ifnonnullN, w_acmp_eqRR, w_acmp_eqNR, w_acmp_eqRN, w_acmp_eqNN, w_acmp_neRR, w_acmp_neNR, w_acmp_neRN, w_acmp_neNN, w_getfield, w_putfield, w_iaload, w_baload, w_laload, w_aaload, w_arraylength, w_iastore, w_bastore, w_lastore, w_ldc, w_ldc_w, w_ldc2_w, w_ireturn, w_lreturn, w_vreturn, w_areturn, w_areturnN, w_invokestatic, w_invokevirtual, w_invokespecial, w_invokeinterface, w_invokedynamic, w_new, w_newarray, w_anewarray, w_checkcast, w_instanceof, w_getstatic, w_athrow, w_aastore, w_tableswitch, w_lookupswitch, ldI_i, ldL_i, ldA_i, ldA_n, ldJ_i, gfA_i, gfB_i, pfA_i, arI_i, arL_i, arQ_i, arQ_a, arN_i, asI_i, asL_i, lcA_i, lg, lgv, cl2, stL1, stL2, clrN, fv0, fv1, fv2, fv3, Value.category, List.length_cons, List.length_nil, List.set_cons_zero, List.set_cons_succ, ↓reduceIte, Nat.reduceAdd, Nat.reduceLT, Nat.reduceEqDiff, Int.cast_ofNat_Int, Int.reduceAdd, Int.reduceNeg, Int.reduceLE, Int.reduceToNat, true_and, and_true, and_self, not_true_eq_false, not_false_eq_true, true_implies, Nat.reduceEqDiff, reduceCtorEq, false_implies, forall_const, bipE, sipE, lcon0, lcon1, rtI_int, rtI_b0, rtI_b1, rtI_bz, refT_o, refT_a, fitv_int, fitv_ref, fitv_null, fitv_arr, fitv_arrn, fitv_long, fitv_b0, fitv_b1, fitv_bz, dX4_init_0, dX4_init_1, dX4_init_4, dX4_init_5, dX4_init_8, dX4_init_10, dX4_init_13, dX4_init_14, dX4_init_15, dX4_init_18, dX4_init_19, dX4_init_22, dX4_init_24, dX4_init_27, dX4_init_28, dX4_init_31, dX4_init_33, dX4_init_36, dX4_init_37, dX4_init_39, dX4_init_42, dX4_init_46, dX4_init_49, dX4_init_50, dX4_init_53, dX4_init_55, dX4_init_58, dX4_init_59, dX4_init_62, dX4_init_63, dX4_init_64, dX4_init_65, dX4_init_66, dX4_init_69, dX4_init_70, dX4_init_71, dX4_init_72, pX4_13, pX4_17, pX4_20, pX4_25, pX4_28, pX4_9, hT2.o, hT2.d, hd1, n2, vc1, ic1]
  revert s1
  generalize hset _ (t 2) _ = h3
  rintro ⟨hT3, hF3⟩
  have z1 : ∀ j, T3.2.1 1 j = if j = 1 then 2 else if j = 0 then 2 else 0 := fun j => by rw [hD2, hD1]
  refine hQ h3 t T3 t0 hT3 fr ⟨by rw [z1]; rfl, by rw [z1]; rfl, by rw [z1]; rfl, by rw [z1]; rfl, ⟨by rw [z1]; rfl, by rw [z1]; rfl, fun i hi => absurd hi (Nat.not_lt_zero i)⟩, fun k hk => absurd hk (Nat.not_lt_zero k), fun p hp => absurd hp (Nat.not_lt_zero p)⟩ ⟨?_, Nat.zero_le _, fun f hf => (by cases hf), fun j f hj => by cases hj⟩ ⟨?_, Nat.zero_le _, fun j x hj => by cases hj⟩ ?_ (hF.tr (hF2.tr hF3))
  · rw [hS2.2 11 (by simp), hS1.2 11 (by simp)]; rfl
  · rw [hS2.2 2 (by simp), hS1.2 2 (by simp)]; rfl
  · rw [hS2.2 7 (by simp), hS1.2 7 (by simp)]; rfl
end TINIT

