/-! ===== the reference: its arrays, copy, push, undo ===== -/
def adr (k : Nat) : Nat := if k ≤ 2 then k + 1 else k + 2
def au (T : TT) (k : Nat) (g : Nat → Int) : TT := (T.1, fun j => if j = k then g else T.2.1 j, T.2.2)
/-- the same but for these fields and arrays (and for the stack) -/
def FA (S A : List Nat) (T T' : TT) : Prop := (∀ i, i ∉ A → T'.2.1 i = T.2.1 i) ∧ ∀ i, i ∉ S → T'.1 i = T.1 i
theorem FA.rf {S A : List Nat} {T : TT} : FA S A T T := ⟨fun _ _ => rfl, fun _ _ => rfl⟩
theorem FA.tr {S A : List Nat} {T T1 T2 : TT} (x : FA S A T T1) (y : FA S A T1 T2) : FA S A T T2 := ⟨fun i hi => (y.1 i hi).trans (x.1 i hi), fun i hi => (y.2 i hi).trans (x.2 i hi)⟩
theorem FA.mono {S A S' A' : List Nat} {T T1 : TT} (x : FA S A T T1) (h : ∀ i, i ∈ S → i ∈ S') (h' : ∀ i, i ∈ A → i ∈ A') : FA S' A' T T1 := ⟨fun i hi => x.1 i fun z => hi (h' i z), fun i hi => x.2 i fun z => hi (h i z)⟩
theorem FS.fa {S : List Nat} {T T1 : TT} (x : FS S T T1) : FA S [] T T1 := ⟨fun i _ => by rw [x.1], x.2⟩
theorem au_FA (T : TT) (k : Nat) (g : Nat → Int) {A : List Nat} (hk : k ∈ A) : FA [] A T (au T k g) := ⟨fun i hi => (show (if i = k then g else T.2.1 i) = T.2.1 i from if_neg fun e => hi (by rw [e]; exact hk)), fun _ _ => rfl⟩
theorem au_s (T : TT) (k : Nat) (g : Nat → Int) : (au T k g).2.1 k = g := if_pos rfl
theorem au_n (T : TT) {k j : Nat} (g : Nat → Int) (h : j ≠ k) : (au T k g).2.1 j = T.2.1 j := if_neg h
theorem adr_ne {j k : Nat} (h : j ≠ k) : adr j ≠ adr k := by
  unfold adr
  split <;> (split <;> omega)
theorem adr_lt {k : Nat} (h : k < 11) : adr k < 14 ∧ adr k ≠ 0 ∧ adr k ≠ 4 ∧ adr k ≠ 13 := by
  unfold adr
  split <;> omega
def al (k : Nat) : Nat := if k = 0 then 800 else 1528
section TWA
variable {w : Wd} {t : Nat → Nat} {T : TT} {h : MH} {Q : Out → MH → Prop} {f : Fld}
theorem Tw.aw (hT : Tw w t T h) {k : Nat} (hk : k < 11) : h (t (adr k)) = some (aI .int (al k) (fun j => iZ (T.2.1 k j))) := by
  match k, hk with
  | 0, _ => exact hT.2.2.2.1
  | 1, _ => exact hT.2.2.2.2.1
  | 2, _ => exact hT.2.2.2.2.2.1
  | k + 3, hk =>
    have := hT.2.2.2.2.2.2.2.1 k (by omega)
    rw [show adr (k + 3) = 5 + k by unfold adr; rw [if_neg (by omega)]; omega, show k + 3 = 3 + k by omega, show al (3 + k) = 1528 by unfold al; rw [if_neg (by omega)]]
    exact this
theorem Tw.a (hT : Tw w t T h) {k : Nat} (hk : k < 11) : rd w h (t (adr k)) = some (aI .int (al k) (fun j => iZ (T.2.1 k j))) := (rd_of (hT.n (adr_lt hk).1)).trans (hT.aw hk)
theorem Tw.hi (hT : Tw w t T h) : rd w h (t 4) = some (aQ (.array .int) 8 (fun j => some (t (5 + j)))) := (rd_of (hT.n (by decide))).trans hT.2.2.2.2.2.2.1
theorem Tw.upA (hT : Tw w t T h) {k : Nat} (hk : k < 11) (g : Nat → Int) {c : MC} (hc : c = aI .int (al k) (fun j => iZ (g j))) : Tw w t (au T k g) (hset h (t (adr k)) c) ∧ Fr t h (hset h (t (adr k)) c) := by
  obtain ⟨a1, a0, a4, a13⟩ := adr_lt hk
  have ne : ∀ j, j < 14 → j ≠ adr k → hset h (t (adr k)) c (t j) = h (t j) := fun j hj h0 => hset_ne (hT.ne hj a1 h0)
  have arr : ∀ j, j < 11 → hset h (t (adr k)) c (t (adr j)) = some (aI .int (al j) (fun i => iZ ((au T k g).2.1 j i))) := by
    intro j hj
    by_cases e : j = k
    · subst e
      rw [hset_self, hc, au_s]
    · rw [ne _ (adr_lt hj).1 (adr_ne e), au_n _ _ e]
      exact hT.aw hj
  refine ⟨⟨hT.1, hT.2.1, ?_, arr 0 (by decide), arr 1 (by decide), arr 2 (by decide), ?_, ?_, ?_⟩, fun a ha => hset_ne (ha _ a1)⟩
  · rw [ne 0 (by decide) (Ne.symm a0)]
    exact hT.2.2.1
  · rw [ne 4 (by decide) (Ne.symm a4)]
    exact hT.2.2.2.2.2.2.1
  · intro j hj
    have := arr (3 + j) (by omega)
    rw [show adr (3 + j) = 5 + j by unfold adr; rw [if_neg (by omega)]; omega, show al (3 + j) = 1528 by unfold al; rw [if_neg (by omega)]] at this
    exact this
  · rw [ne 13 (by decide) (Ne.symm a13)]
    exact hT.2.2.2.2.2.2.2.2
/-- a store of an int -/
theorem Tw.st (hT : Tw w t T h) {k : Nat} (hk : k < 11) {i : Int32} {j n : Nat} (hi : i.toNatClampNeg = j) (v : Int) (hn : n = al k) : Tw w t (au T k (fun q => if q = j then v else T.2.1 k q)) (hset h (t (adr k)) (aI .int n (upd (fun j => iZ (T.2.1 k j)) i.toNatClampNeg (iZ v)))) ∧ Fr t h (hset h (t (adr k)) (aI .int n (upd (fun j => iZ (T.2.1 k j)) i.toNatClampNeg (iZ v)))) := by
  refine hT.upA hk _ ?_
  rw [hi, hn]
  congr 1
  funext q
  show (if q = j then iZ v else iZ (T.2.1 k q)) = iZ (if q = j then v else T.2.1 k q)
  split <;> rfl
theorem c_X4_copy (hT : Tw w t T h) {a b : Nat} (ha : 1 ≤ a ∧ a < 11) (hb : 1 ≤ b ∧ b < 11) (hab : a ≠ b) (hQ : ∀ h' T', Tw w t T' h' → FA [] [b] T T' → (∀ j, j < 1528 → T'.2.1 b j = T.2.1 a j) → Fr t h h' → Q (.inl none) h') : Call w 1 0 0 mX4_copy [.ref (t (adr a)), .ref (t (adr b))] h Q := by
  have la : al a = 1528 := by unfold al; rw [if_neg (by omega)]
  have lb : al b = 1528 := by unfold al; rw [if_neg (by omega)]
  have loop : ∀ n k h' T', k + n = 1528 → Tw w t T' h' → FA [] [b] T T' → (∀ j, j < k → T'.2.1 b j = T.2.1 a j) → Fr t h h' → X w mX4_copy 1 0 0 2 [some (.ref (t (adr a))), some (.ref (t (adr b))), some (.int (iZ (k : Int)))] [] h' 0 0 Q := by
    intro n
    induction n with
    | zero =>
      intro k h' T' hk hT' hS hj hF
      have hkn : k = 1528 := by omega
      subst hkn
      refine x_go 12 [] (rt := (Option.none : Option Jvm.ClassFile.FieldType)) (cc := cX4_copy) pX4_ok rfl rfl ?_
      simp only [wpD_ok, ↓wp_s, wp_z, ↓stp_c, ↓stp_n, w_iconst, w_bipush, w_sipush, w_lconst, w_null, w_iload_n, w_iload, w_lload_n, w_lload, w_aload_n, w_aload, w_istore_n, w_istore, w_lstore_n, w_lstore, w_astore_n, w_astore_nN, w_astore, w_astoreN, w_iinc, w_iadd, w_isub, w_imul, w_iand, w_ior, w_ixor, w_ishl, w_ishr, w_iushr, w_ineg, w_i2l, w_l2i, w_i2b, w_i2c, w_ladd, w_lsub, w_lmul, w_land, w_lor, w_lxor, w_lcmp, w_idiv, w_irem, w_ldiv, w_dup, w_pop, w_dup_x1, w_dup_x2, w_dup2, w_if_eq, w_icmp_eq, w_if_ne, w_icmp_ne, w_if_lt, w_icmp_lt, w_if_ge, w_icmp_ge, w_if_gt, w_icmp_gt, w_if_le, w_icmp_le, w_goto, w_ifnullR, w_ifnullN, w_ifnonnullR, w_ifnonnullN, w_acmp_eqRR, w_acmp_eqNR, w_acmp_eqRN, w_acmp_eqNN, w_acmp_neRR, w_acmp_neNR, w_acmp_neRN, w_acmp_neNN, w_getfield, w_putfield, w_iaload, w_baload, w_laload, w_aaload, w_arraylength, w_iastore, w_bastore, w_lastore, w_ldc, w_ldc_w, w_ldc2_w, w_ireturn, w_lreturn, w_vreturn, w_areturn, w_areturnN, w_invokestatic, w_invokevirtual, w_invokespecial, w_invokeinterface, w_invokedynamic, w_new, w_newarray, w_anewarray, w_checkcast, w_instanceof, w_getstatic, w_athrow, w_aastore, w_tableswitch, w_lookupswitch, ldI_i, ldL_i, ldA_i, ldA_n, ldJ_i, gfA_i, gfB_i, pfA_i, arI_i, arL_i, arQ_i, arQ_a, arN_i, asI_i, asL_i, lcA_i, lg, lgv, cl2, stL1, stL2, clrN, fv0, fv1, fv2, fv3, Value.category, List.length_cons, List.length_nil, List.set_cons_zero, List.set_cons_succ, ↓reduceIte, Nat.reduceAdd, Nat.reduceLT, Nat.reduceEqDiff, Int.cast_ofNat_Int, Int.reduceAdd, Int.reduceNeg, Int.reduceLE, Int.reduceToNat, true_and, and_true, and_self, not_true_eq_false, not_false_eq_true, true_implies, Nat.reduceEqDiff, reduceCtorEq, false_implies, forall_const, bipE, sipE, lcon0, lcon1, rtI_int, rtI_b0, rtI_b1, rtI_bz, refT_o, refT_a, fitv_int, fitv_ref, fitv_null, fitv_arr, fitv_arrn, fitv_long, fitv_b0, fitv_b1, fitv_bz, dX4_copy_0, dX4_copy_1, dX4_copy_2, dX4_copy_3, dX4_copy_6, dX4_copy_9, dX4_copy_10, dX4_copy_11, dX4_copy_12, dX4_copy_13, dX4_copy_14, dX4_copy_15, dX4_copy_18, dX4_copy_21, Int32.le_refl]
      exact hQ h' T' hT' hS hj hF
    | succ n ih =>
      intro k h' T' hk hT' hS hj hF
      have r1 := rdI (z := (k : Int)) (k := k) (n := 1528) rfl (by omega) (by decide)
      have s := hT'.st (k := b) hb.2 r1.2 (T.2.1 a k) lb.symm
      have ea : T'.2.1 a = T.2.1 a := hS.1 a (by simpa using hab)
      have wa := hT'.a ha.2
      have wb := hT'.aw hb.2
      have nb := hT'.n (adr_lt hb.2).1
      rw [la, ea] at wa
      rw [lb] at wb
      have nx := ih (k + 1) _ _ (by omega) s.1 (hS.tr (au_FA _ _ _ (by simp))) (fun j hjk => by
        rw [au_s]
        by_cases e : j = k
        · rw [if_pos e, e]
        · rw [if_neg e]; exact hj j (by omega)) (hF.tr s.2)
      rw [ncs] at nx
      refine x_go 12 [2] (rt := (Option.none : Option Jvm.ClassFile.FieldType)) (cc := cX4_copy) pX4_ok rfl rfl ?_
      simp only [wpD_ok, ↓wp_s, wp_z, ↓stp_c, ↓stp_n, w_iconst, w_bipush, w_sipush, w_lconst, w_null, w_iload_n, w_iload, w_lload_n, w_lload, w_aload_n, w_aload, w_istore_n, w_istore, w_lstore_n, w_lstore, w_astore_n, w_astore_nN, w_astore, w_astoreN, w_iinc, w_iadd, w_isub, w_imul, w_iand, w_ior, w_ixor, w_ishl, w_ishr, w_iushr, w_ineg, w_i2l, w_l2i, w_i2b, w_i2c, w_ladd, w_lsub, w_lmul, w_land, w_lor, w_lxor, w_lcmp, w_idiv, w_irem, w_ldiv, w_dup, w_pop, w_dup_x1, w_dup_x2, w_dup2, w_if_eq, w_icmp_eq, w_if_ne, w_icmp_ne, w_if_lt, w_icmp_lt, w_if_ge, w_icmp_ge, w_if_gt, w_icmp_gt, w_if_le, w_icmp_le, w_goto, w_ifnullR, w_ifnullN, w_ifnonnullR, w_ifnonnullN, w_acmp_eqRR, w_acmp_eqNR, w_acmp_eqRN, w_acmp_eqNN, w_acmp_neRR, w_acmp_neNR, w_acmp_neRN, w_acmp_neNN, w_getfield, w_putfield, w_iaload, w_baload, w_laload, w_aaload, w_arraylength, w_iastore, w_bastore, w_lastore, w_ldc, w_ldc_w, w_ldc2_w, w_ireturn, w_lreturn, w_vreturn, w_areturn, w_areturnN, w_invokestatic, w_invokevirtual, w_invokespecial, w_invokeinterface, w_invokedynamic, w_new, w_newarray, w_anewarray, w_checkcast, w_instanceof, w_getstatic, w_athrow, w_aastore, w_tableswitch, w_lookupswitch, ldI_i, ldL_i, ldA_i, ldA_n, ldJ_i, gfA_i, gfB_i, pfA_i, arI_i, arL_i, arQ_i, arQ_a, arN_i, asI_i, asL_i, lcA_i, lg, lgv, cl2, stL1, stL2, clrN, fv0, fv1, fv2, fv3, Value.category, List.length_cons, List.length_nil, List.set_cons_zero, List.set_cons_succ, ↓reduceIte, Nat.reduceAdd, Nat.reduceLT, Nat.reduceEqDiff, Int.cast_ofNat_Int, Int.reduceAdd, Int.reduceNeg, Int.reduceLE, Int.reduceToNat, true_and, and_true, and_self, not_true_eq_false, not_false_eq_true, true_implies, Nat.reduceEqDiff, reduceCtorEq, false_implies, forall_const, bipE, sipE, lcon0, lcon1, rtI_int, rtI_b0, rtI_b1, rtI_bz, refT_o, refT_a, fitv_int, fitv_ref, fitv_null, fitv_arr, fitv_arrn, fitv_long, fitv_b0, fitv_b1, fitv_bz, dX4_copy_0, dX4_copy_1, dX4_copy_2, dX4_copy_3, dX4_copy_6, dX4_copy_9, dX4_copy_10, dX4_copy_11, dX4_copy_12, dX4_copy_13, dX4_copy_14, dX4_copy_15, dX4_copy_18, dX4_copy_21, iZ_le (a := 1528) (b := (k : Int)) (by omega) (by omega) (by omega) (by omega), wa, wb, nb, r1.1, iZ_add]
      refine And.intro (fun q => by omega) (fun _ => ?_)
      rw [r1.2] at nx
      rw [show ix (iZ (k : Int)) = k from r1.2]
      exact nx
  refine Call.of (by decide +kernel) rfl (Nat.le_of_ble_eq_true rfl) ?_
  simp only [padL, entL, mX4_copy_L, Value.category, List.length_cons, List.length_nil, Nat.reduceAdd, Nat.reduceSub, List.replicate, List.cons_append, List.nil_append, Nat.reduceEqDiff, ↓reduceIte, reduceCtorEq]
  refine x_go 12 [2] (rt := (Option.none : Option Jvm.ClassFile.FieldType)) (cc := cX4_copy) pX4_ok rfl rfl ?_
  simp only [wpD_ok, ↓wp_s, wp_z, ↓stp_c, ↓stp_n, w_iconst, w_bipush, w_sipush, w_lconst, w_null, w_iload_n, w_iload, w_lload_n, w_lload, w_aload_n, w_aload, w_istore_n, w_istore, w_lstore_n, w_lstore, w_astore_n, w_astore_nN, w_astore, w_astoreN, w_iinc, w_iadd, w_isub, w_imul, w_iand, w_ior, w_ixor, w_ishl, w_ishr, w_iushr, w_ineg, w_i2l, w_l2i, w_i2b, w_i2c, w_ladd, w_lsub, w_lmul, w_land, w_lor, w_lxor, w_lcmp, w_idiv, w_irem, w_ldiv, w_dup, w_pop, w_dup_x1, w_dup_x2, w_dup2, w_if_eq, w_icmp_eq, w_if_ne, w_icmp_ne, w_if_lt, w_icmp_lt, w_if_ge, w_icmp_ge, w_if_gt, w_icmp_gt, w_if_le, w_icmp_le, w_goto, w_ifnullR, w_ifnullN, w_ifnonnullR, w_ifnonnullN, w_acmp_eqRR, w_acmp_eqNR, w_acmp_eqRN, w_acmp_eqNN, w_acmp_neRR, w_acmp_neNR, w_acmp_neRN, w_acmp_neNN, w_getfield, w_putfield, w_iaload, w_baload, w_laload, w_aaload, w_arraylength, w_iastore, w_bastore, w_lastore, w_ldc, w_ldc_w, w_ldc2_w, w_ireturn, w_lreturn, w_vreturn, w_areturn, w_areturnN, w_invokestatic, w_invokevirtual, w_invokespecial, w_invokeinterface, w_invokedynamic, w_new, w_newarray, w_anewarray, w_checkcast, w_instanceof, w_getstatic, w_athrow, w_aastore, w_tableswitch, w_lookupswitch, ldI_i, ldL_i, ldA_i, ldA_n, ldJ_i, gfA_i, gfB_i, pfA_i, arI_i, arL_i, arQ_i, arQ_a, arN_i, asI_i, asL_i, lcA_i, lg, lgv, cl2, stL1, stL2, clrN, fv0, fv1, fv2, fv3, Value.category, List.length_cons, List.length_nil, List.set_cons_zero, List.set_cons_succ, ↓reduceIte, Nat.reduceAdd, Nat.reduceLT, Nat.reduceEqDiff, Int.cast_ofNat_Int, Int.reduceAdd, Int.reduceNeg, Int.reduceLE, Int.reduceToNat, true_and, and_true, and_self, not_true_eq_false, not_false_eq_true, true_implies, Nat.reduceEqDiff, reduceCtorEq, false_implies, forall_const, bipE, sipE, lcon0, lcon1, rtI_int, rtI_b0, rtI_b1, rtI_bz, refT_o, refT_a, fitv_int, fitv_ref, fitv_null, fitv_arr, fitv_arrn, fitv_long, fitv_b0, fitv_b1, fitv_bz, dX4_copy_0, dX4_copy_1, dX4_copy_2, dX4_copy_3, dX4_copy_6, dX4_copy_9, dX4_copy_10, dX4_copy_11, dX4_copy_12, dX4_copy_13, dX4_copy_14, dX4_copy_15, dX4_copy_18, dX4_copy_21]
  exact loop _ 0 h T (Nat.zero_add _) hT FA.rf (fun j hj => absurd hj (Nat.not_lt_zero j)) Fr.rf
theorem PE.cg {D D' : Nat → Int} {a : Nat} {pl : Poly} (hp : plB pl) (hD : ∀ j, j < a + 27 → D' j = D j) (h : PE D a pl) : PE D' a pl := by
  have := hp.2.2.1
  obtain ⟨h1, h2, h3, h4⟩ := h
  refine ⟨(hD _ (by omega)).trans h1, (hD _ (by omega)).trans h2, (hD _ (by omega)).trans h3, fun k hk => ⟨(hD _ (by omega)).trans (h4 k hk).1, (hD _ (by omega)).trans (h4 k hk).2⟩⟩
theorem cdL_le {f : Fld} (hf : fldB f) : (cdL f).length ≤ 1300 := by
  unfold cdL
  cases hc : f.2.2.1 with
  | none => exact Nat.zero_le _
  | some s => exact (hf.2.2.2.2.2 s hc).1
theorem TE.cg {D D' : Nat → Int} (hf : fldB f) (hD : ∀ j, j < 1528 → D' j = D j) (h : TE D f) : TE D' f := by
  have h20 := hf.2.1
  have h6 := hf.2.2.2.1
  have hc := cdL_le hf
  obtain ⟨h0, h1, h2, h3, ⟨h4, h5, hcd⟩, hs, hp⟩ := h
  refine ⟨(hD _ (by omega)).trans h0, (hD _ (by omega)).trans h1, (hD _ (by omega)).trans h2, (hD _ (by omega)).trans h3, ⟨(hD _ (by omega)).trans h4, (hD _ (by omega)).trans h5, fun i hi => (hD _ (by omega)).trans (hcd i hi)⟩, fun k hk => ?_, fun p hk => (hp p hk).cg (plk_B hf hk) fun j hj => hD j (by omega)⟩
  obtain ⟨s1, s2, s3⟩ := hs k hk
  exact ⟨(hD _ (by omega)).trans s1, (hD _ (by omega)).trans s2, (hD _ (by omega)).trans s3⟩
end TWA

