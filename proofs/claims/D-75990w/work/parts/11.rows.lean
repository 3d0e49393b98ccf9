section XROWS
variable {w : Wd} {M : Md} {d mc ms pc ck sk : Nat} {ls : List (Option Value)} {r : List Value} {h : MH} {Q : Out → MH → Prop}
theorem x_iconst {n : Int} (hd : decode M.2.1 pc = .ok (.iconst n, 1))  (K : X w M d mc ms (pc + 1) ls (.int (iZ n) :: r) h ck sk Q) : X w M d mc ms pc ls (r) h ck sk Q := by
  intro p e s m args below meth c H locs la hc hS hB hR hl h1 h2
  exact lv_iconst hc.1 hc.2.1 hd rfl (K p e s m args below meth c H locs la hc hS hB hR hl h1 h2)
theorem x_bipush {n : Int} (hd : decode M.2.1 pc = .ok (.bipush n, 2))  (K : X w M d mc ms (pc + 2) ls (.int (bip n) :: r) h ck sk Q) : X w M d mc ms pc ls (r) h ck sk Q := by
  intro p e s m args below meth c H locs la hc hS hB hR hl h1 h2
  exact lv_bipush hc.1 hc.2.1 hd rfl (K p e s m args below meth c H locs la hc hS hB hR hl h1 h2)
theorem x_sipush {n : Int} (hd : decode M.2.1 pc = .ok (.sipush n, 3))  (K : X w M d mc ms (pc + 3) ls (.int (sip n) :: r) h ck sk Q) : X w M d mc ms pc ls (r) h ck sk Q := by
  intro p e s m args below meth c H locs la hc hS hB hR hl h1 h2
  exact lv_sipush hc.1 hc.2.1 hd rfl (K p e s m args below meth c H locs la hc hS hB hR hl h1 h2)
theorem x_lconst {n : Fin 2} (hd : decode M.2.1 pc = .ok (.lconst n, 1))  (K : X w M d mc ms (pc + 1) ls (.long (lcon n) :: r) h ck sk Q) : X w M d mc ms pc ls (r) h ck sk Q := by
  intro p e s m args below meth c H locs la hc hS hB hR hl h1 h2
  exact lv_lconst hc.1 hc.2.1 hd rfl (K p e s m args below meth c H locs la hc hS hB hR hl h1 h2)
theorem x_null  (hd : decode M.2.1 pc = .ok (.aconst_null, 1))  (K : X w M d mc ms (pc + 1) ls (.null :: r) h ck sk Q) : X w M d mc ms pc ls (r) h ck sk Q := by
  intro p e s m args below meth c H locs la hc hS hB hR hl h1 h2
  exact lv_null hc.1 hc.2.1 hd (K p e s m args below meth c H locs la hc hS hB hR hl h1 h2)
theorem x_iload_n {k : Fin 4} {x : Int32} (hd : decode M.2.1 pc = .ok (.iload_n k, 1)) (hv : lg ls k.val = some (.int x)) (K : X w M d mc ms (pc + 1) ls (.int x :: r) h ck sk Q) : X w M d mc ms pc ls (r) h ck sk Q := by
  intro p e s m args below meth c H locs la hc hS hB hR hl h1 h2
  exact lv_iload_n hc.1 hc.2.1 hd rfl (hl.at hv) (K p e s m args below meth c H locs la hc hS hB hR hl h1 h2)
theorem x_iload {i : Nat} {x : Int32} (hd : decode M.2.1 pc = .ok (.iload i, 2)) (hv : lg ls i = some (.int x)) (K : X w M d mc ms (pc + 2) ls (.int x :: r) h ck sk Q) : X w M d mc ms pc ls (r) h ck sk Q := by
  intro p e s m args below meth c H locs la hc hS hB hR hl h1 h2
  exact lv_iload hc.1 hc.2.1 hd (hl.at hv) (K p e s m args below meth c H locs la hc hS hB hR hl h1 h2)
theorem x_lload_n {k : Fin 4} {x : Int64} (hd : decode M.2.1 pc = .ok (.lload_n k, 1)) (hv : lg ls k.val = some (.long x)) (K : X w M d mc ms (pc + 1) ls (.long x :: r) h ck sk Q) : X w M d mc ms pc ls (r) h ck sk Q := by
  intro p e s m args below meth c H locs la hc hS hB hR hl h1 h2
  exact lv_lload_n hc.1 hc.2.1 hd rfl (hl.at hv) (K p e s m args below meth c H locs la hc hS hB hR hl h1 h2)
theorem x_lload {i : Nat} {x : Int64} (hd : decode M.2.1 pc = .ok (.lload i, 2)) (hv : lg ls i = some (.long x)) (K : X w M d mc ms (pc + 2) ls (.long x :: r) h ck sk Q) : X w M d mc ms pc ls (r) h ck sk Q := by
  intro p e s m args below meth c H locs la hc hS hB hR hl h1 h2
  exact lv_lload hc.1 hc.2.1 hd (hl.at hv) (K p e s m args below meth c H locs la hc hS hB hR hl h1 h2)
theorem x_aload_n {k : Fin 4} {x : Nat} (hd : decode M.2.1 pc = .ok (.aload_n k, 1)) (hv : lg ls k.val = some (.ref x)) (K : X w M d mc ms (pc + 1) ls (.ref x :: r) h ck sk Q) : X w M d mc ms pc ls (r) h ck sk Q := by
  intro p e s m args below meth c H locs la hc hS hB hR hl h1 h2
  exact lv_aload_n hc.1 hc.2.1 hd rfl (hl.at hv) (K p e s m args below meth c H locs la hc hS hB hR hl h1 h2)
theorem x_aload {i : Nat} {x : Nat} (hd : decode M.2.1 pc = .ok (.aload i, 2)) (hv : lg ls i = some (.ref x)) (K : X w M d mc ms (pc + 2) ls (.ref x :: r) h ck sk Q) : X w M d mc ms pc ls (r) h ck sk Q := by
  intro p e s m args below meth c H locs la hc hS hB hR hl h1 h2
  exact lv_aload hc.1 hc.2.1 hd (hl.at hv) (K p e s m args below meth c H locs la hc hS hB hR hl h1 h2)
theorem x_aload_nN {k : Fin 4} (hd : decode M.2.1 pc = .ok (.aload_n k, 1)) (hv : lg ls k.val = some .null) (K : X w M d mc ms (pc + 1) ls (.null :: r) h ck sk Q) : X w M d mc ms pc ls (r) h ck sk Q := by
  intro p e s m args below meth c H locs la hc hS hB hR hl h1 h2
  exact lv_aload_nN hc.1 hc.2.1 hd rfl (hl.at hv) (K p e s m args below meth c H locs la hc hS hB hR hl h1 h2)
theorem x_aloadN {i : Nat} (hd : decode M.2.1 pc = .ok (.aload i, 2)) (hv : lg ls i = some .null) (K : X w M d mc ms (pc + 2) ls (.null :: r) h ck sk Q) : X w M d mc ms pc ls (r) h ck sk Q := by
  intro p e s m args below meth c H locs la hc hS hB hR hl h1 h2
  exact lv_aloadN hc.1 hc.2.1 hd (hl.at hv) (K p e s m args below meth c H locs la hc hS hB hR hl h1 h2)
theorem x_istore_n {k : Fin 4} {x : Int32} (hd : decode M.2.1 pc = .ok (.istore_n k, 1)) (hi : k.val < ls.length) (K : X w M d mc ms (pc + 1) (stL1 ls k.val (.int x)) (r) h ck sk Q) : X w M d mc ms pc ls (.int x :: r) h ck sk Q := by
  intro p e s m args below meth c H locs la hc hS hB hR hl h1 h2
  exact lv_istore_n hc.1 hc.2.1 hd rfl hl.2 (by rw [← hl.1]; exact hi) rfl (fun la hl9 => K p e s m args below meth c H locs la hc hS hB hR (LV.to1 hl.1 hl9) h1 h2)
theorem x_istore {i : Nat} {x : Int32} (hd : decode M.2.1 pc = .ok (.istore i, 2)) (hi : i < ls.length) (K : X w M d mc ms (pc + 2) (stL1 ls i (.int x)) (r) h ck sk Q) : X w M d mc ms pc ls (.int x :: r) h ck sk Q := by
  intro p e s m args below meth c H locs la hc hS hB hR hl h1 h2
  exact lv_istore hc.1 hc.2.1 hd hl.2 (by rw [← hl.1]; exact hi) rfl (fun la hl9 => K p e s m args below meth c H locs la hc hS hB hR (LV.to1 hl.1 hl9) h1 h2)
theorem x_lstore_n {k : Fin 4} {x : Int64} (hd : decode M.2.1 pc = .ok (.lstore_n k, 1)) (hi : k.val + 1 < ls.length) (K : X w M d mc ms (pc + 1) (stL2 ls k.val (.long x)) (r) h ck sk Q) : X w M d mc ms pc ls (.long x :: r) h ck sk Q := by
  intro p e s m args below meth c H locs la hc hS hB hR hl h1 h2
  exact lv_lstore_n hc.1 hc.2.1 hd rfl hl.2 (by rw [← hl.1]; exact hi) rfl (fun la hl9 => K p e s m args below meth c H locs la hc hS hB hR (LV.to2 hl.1 hl9) h1 h2)
theorem x_lstore {i : Nat} {x : Int64} (hd : decode M.2.1 pc = .ok (.lstore i, 2)) (hi : i + 1 < ls.length) (K : X w M d mc ms (pc + 2) (stL2 ls i (.long x)) (r) h ck sk Q) : X w M d mc ms pc ls (.long x :: r) h ck sk Q := by
  intro p e s m args below meth c H locs la hc hS hB hR hl h1 h2
  exact lv_lstore hc.1 hc.2.1 hd hl.2 (by rw [← hl.1]; exact hi) rfl (fun la hl9 => K p e s m args below meth c H locs la hc hS hB hR (LV.to2 hl.1 hl9) h1 h2)
theorem x_astore_n {k : Fin 4} {x : Nat} (hd : decode M.2.1 pc = .ok (.astore_n k, 1)) (hi : k.val < ls.length) (K : X w M d mc ms (pc + 1) (stL1 ls k.val (.ref x)) (r) h ck sk Q) : X w M d mc ms pc ls (.ref x :: r) h ck sk Q := by
  intro p e s m args below meth c H locs la hc hS hB hR hl h1 h2
  exact lv_astore_n hc.1 hc.2.1 hd rfl hl.2 (by rw [← hl.1]; exact hi) rfl (fun la hl9 => K p e s m args below meth c H locs la hc hS hB hR (LV.to1 hl.1 hl9) h1 h2)
theorem x_astore {i : Nat} {x : Nat} (hd : decode M.2.1 pc = .ok (.astore i, 2)) (hi : i < ls.length) (K : X w M d mc ms (pc + 2) (stL1 ls i (.ref x)) (r) h ck sk Q) : X w M d mc ms pc ls (.ref x :: r) h ck sk Q := by
  intro p e s m args below meth c H locs la hc hS hB hR hl h1 h2
  exact lv_astore hc.1 hc.2.1 hd hl.2 (by rw [← hl.1]; exact hi) rfl (fun la hl9 => K p e s m args below meth c H locs la hc hS hB hR (LV.to1 hl.1 hl9) h1 h2)
theorem x_astore_nN {k : Fin 4}  (hd : decode M.2.1 pc = .ok (.astore_n k, 1)) (hi : k.val < ls.length) (K : X w M d mc ms (pc + 1) (stL1 ls k.val (.null)) (r) h ck sk Q) : X w M d mc ms pc ls (.null :: r) h ck sk Q := by
  intro p e s m args below meth c H locs la hc hS hB hR hl h1 h2
  exact lv_astore_nN hc.1 hc.2.1 hd rfl hl.2 (by rw [← hl.1]; exact hi) rfl (fun la hl9 => K p e s m args below meth c H locs la hc hS hB hR (LV.to1 hl.1 hl9) h1 h2)
theorem x_astoreN {i : Nat}  (hd : decode M.2.1 pc = .ok (.astore i, 2)) (hi : i < ls.length) (K : X w M d mc ms (pc + 2) (stL1 ls i (.null)) (r) h ck sk Q) : X w M d mc ms pc ls (.null :: r) h ck sk Q := by
  intro p e s m args below meth c H locs la hc hS hB hR hl h1 h2
  exact lv_astoreN hc.1 hc.2.1 hd hl.2 (by rw [← hl.1]; exact hi) rfl (fun la hl9 => K p e s m args below meth c H locs la hc hS hB hR (LV.to1 hl.1 hl9) h1 h2)
theorem x_iinc {i : Nat} {n : Int} {x : Int32} (hd : decode M.2.1 pc = .ok (.iinc i n, 3)) (hv : lg ls i = some (.int x)) (K : X w M d mc ms (pc + 3) (stL1 ls i (.int (x + iZ n))) (r) h ck sk Q) : X w M d mc ms pc ls (r) h ck sk Q := by
  intro p e s m args below meth c H locs la hc hS hB hR hl h1 h2
  obtain ⟨k, hk⟩ := List.getElem?_of_mem (lvA_mem.mpr (show lg ls ((i, Value.int x) : Nat × Value).1 = some ((i, Value.int x) : Nat × Value).2 from hv))
  exact lv_iinc hc.1 hc.2.1 hd hl.2 hk rfl (by rw [← hl.1]; exact lg_len hv) rfl (fun la hl9 => K p e s m args below meth c H locs la hc hS hB hR (LV.to1 hl.1 hl9) h1 h2)
theorem x_iadd {x y : Int32} (hd : decode M.2.1 pc = .ok (.iadd, 1))  (K : X w M d mc ms (pc + 1) ls (.int (x + y) :: r) h ck sk Q) : X w M d mc ms pc ls (.int y :: .int x :: r) h ck sk Q := by
  intro p e s m args below meth c H locs la hc hS hB hR hl h1 h2
  exact lv_iadd hc.1 hc.2.1 hd (K p e s m args below meth c H locs la hc hS hB hR hl h1 h2)
theorem x_isub {x y : Int32} (hd : decode M.2.1 pc = .ok (.isub, 1))  (K : X w M d mc ms (pc + 1) ls (.int (x - y) :: r) h ck sk Q) : X w M d mc ms pc ls (.int y :: .int x :: r) h ck sk Q := by
  intro p e s m args below meth c H locs la hc hS hB hR hl h1 h2
  exact lv_isub hc.1 hc.2.1 hd (K p e s m args below meth c H locs la hc hS hB hR hl h1 h2)
theorem x_imul {x y : Int32} (hd : decode M.2.1 pc = .ok (.imul, 1))  (K : X w M d mc ms (pc + 1) ls (.int (x * y) :: r) h ck sk Q) : X w M d mc ms pc ls (.int y :: .int x :: r) h ck sk Q := by
  intro p e s m args below meth c H locs la hc hS hB hR hl h1 h2
  exact lv_imul hc.1 hc.2.1 hd (K p e s m args below meth c H locs la hc hS hB hR hl h1 h2)
theorem x_iand {x y : Int32} (hd : decode M.2.1 pc = .ok (.iand, 1))  (K : X w M d mc ms (pc + 1) ls (.int (x &&& y) :: r) h ck sk Q) : X w M d mc ms pc ls (.int y :: .int x :: r) h ck sk Q := by
  intro p e s m args below meth c H locs la hc hS hB hR hl h1 h2
  exact lv_iand hc.1 hc.2.1 hd (K p e s m args below meth c H locs la hc hS hB hR hl h1 h2)
theorem x_ior {x y : Int32} (hd : decode M.2.1 pc = .ok (.ior, 1))  (K : X w M d mc ms (pc + 1) ls (.int (x ||| y) :: r) h ck sk Q) : X w M d mc ms pc ls (.int y :: .int x :: r) h ck sk Q := by
  intro p e s m args below meth c H locs la hc hS hB hR hl h1 h2
  exact lv_ior hc.1 hc.2.1 hd (K p e s m args below meth c H locs la hc hS hB hR hl h1 h2)
theorem x_ixor {x y : Int32} (hd : decode M.2.1 pc = .ok (.ixor, 1))  (K : X w M d mc ms (pc + 1) ls (.int (x ^^^ y) :: r) h ck sk Q) : X w M d mc ms pc ls (.int y :: .int x :: r) h ck sk Q := by
  intro p e s m args below meth c H locs la hc hS hB hR hl h1 h2
  exact lv_ixor hc.1 hc.2.1 hd (K p e s m args below meth c H locs la hc hS hB hR hl h1 h2)
theorem x_ishl {x y : Int32} (hd : decode M.2.1 pc = .ok (.ishl, 1))  (K : X w M d mc ms (pc + 1) ls (.int (x <<< (y &&& 31)) :: r) h ck sk Q) : X w M d mc ms pc ls (.int y :: .int x :: r) h ck sk Q := by
  intro p e s m args below meth c H locs la hc hS hB hR hl h1 h2
  exact lv_ishl hc.1 hc.2.1 hd (K p e s m args below meth c H locs la hc hS hB hR hl h1 h2)
theorem x_ishr {x y : Int32} (hd : decode M.2.1 pc = .ok (.ishr, 1))  (K : X w M d mc ms (pc + 1) ls (.int (x >>> (y &&& 31)) :: r) h ck sk Q) : X w M d mc ms pc ls (.int y :: .int x :: r) h ck sk Q := by
  intro p e s m args below meth c H locs la hc hS hB hR hl h1 h2
  exact lv_ishr hc.1 hc.2.1 hd (K p e s m args below meth c H locs la hc hS hB hR hl h1 h2)
theorem x_iushr {x y : Int32} (hd : decode M.2.1 pc = .ok (.iushr, 1))  (K : X w M d mc ms (pc + 1) ls (.int (ushr x y) :: r) h ck sk Q) : X w M d mc ms pc ls (.int y :: .int x :: r) h ck sk Q := by
  intro p e s m args below meth c H locs la hc hS hB hR hl h1 h2
  exact lv_iushr hc.1 hc.2.1 hd rfl (K p e s m args below meth c H locs la hc hS hB hR hl h1 h2)
theorem x_ineg {x : Int32} (hd : decode M.2.1 pc = .ok (.ineg, 1))  (K : X w M d mc ms (pc + 1) ls (.int (-x) :: r) h ck sk Q) : X w M d mc ms pc ls (.int x :: r) h ck sk Q := by
  intro p e s m args below meth c H locs la hc hS hB hR hl h1 h2
  exact lv_ineg hc.1 hc.2.1 hd (K p e s m args below meth c H locs la hc hS hB hR hl h1 h2)
theorem x_i2l {x : Int32} (hd : decode M.2.1 pc = .ok (.i2l, 1))  (K : X w M d mc ms (pc + 1) ls (.long (x.toInt64) :: r) h ck sk Q) : X w M d mc ms pc ls (.int x :: r) h ck sk Q := by
  intro p e s m args below meth c H locs la hc hS hB hR hl h1 h2
  exact lv_i2l hc.1 hc.2.1 hd rfl (K p e s m args below meth c H locs la hc hS hB hR hl h1 h2)
theorem x_l2i {x : Int64} (hd : decode M.2.1 pc = .ok (.l2i, 1))  (K : X w M d mc ms (pc + 1) ls (.int (x.toInt32) :: r) h ck sk Q) : X w M d mc ms pc ls (.long x :: r) h ck sk Q := by
  intro p e s m args below meth c H locs la hc hS hB hR hl h1 h2
  exact lv_l2i hc.1 hc.2.1 hd rfl (K p e s m args below meth c H locs la hc hS hB hR hl h1 h2)
theorem x_i2b {x : Int32} (hd : decode M.2.1 pc = .ok (.i2b, 1))  (K : X w M d mc ms (pc + 1) ls (.int (x.toInt8.toInt32) :: r) h ck sk Q) : X w M d mc ms pc ls (.int x :: r) h ck sk Q := by
  intro p e s m args below meth c H locs la hc hS hB hR hl h1 h2
  exact lv_i2b hc.1 hc.2.1 hd rfl (K p e s m args below meth c H locs la hc hS hB hR hl h1 h2)
theorem x_i2c {x : Int32} (hd : decode M.2.1 pc = .ok (.i2c, 1))  (K : X w M d mc ms (pc + 1) ls (.int ((x.toUInt32 % 65536).toInt32) :: r) h ck sk Q) : X w M d mc ms pc ls (.int x :: r) h ck sk Q := by
  intro p e s m args below meth c H locs la hc hS hB hR hl h1 h2
  exact lv_i2c hc.1 hc.2.1 hd rfl (K p e s m args below meth c H locs la hc hS hB hR hl h1 h2)
theorem x_ladd {x y : Int64} (hd : decode M.2.1 pc = .ok (.ladd, 1))  (K : X w M d mc ms (pc + 1) ls (.long (x + y) :: r) h ck sk Q) : X w M d mc ms pc ls (.long y :: .long x :: r) h ck sk Q := by
  intro p e s m args below meth c H locs la hc hS hB hR hl h1 h2
  exact lv_ladd hc.1 hc.2.1 hd (K p e s m args below meth c H locs la hc hS hB hR hl h1 h2)
theorem x_lsub {x y : Int64} (hd : decode M.2.1 pc = .ok (.lsub, 1))  (K : X w M d mc ms (pc + 1) ls (.long (x - y) :: r) h ck sk Q) : X w M d mc ms pc ls (.long y :: .long x :: r) h ck sk Q := by
  intro p e s m args below meth c H locs la hc hS hB hR hl h1 h2
  exact lv_lsub hc.1 hc.2.1 hd (K p e s m args below meth c H locs la hc hS hB hR hl h1 h2)
theorem x_lmul {x y : Int64} (hd : decode M.2.1 pc = .ok (.lmul, 1))  (K : X w M d mc ms (pc + 1) ls (.long (x * y) :: r) h ck sk Q) : X w M d mc ms pc ls (.long y :: .long x :: r) h ck sk Q := by
  intro p e s m args below meth c H locs la hc hS hB hR hl h1 h2
  exact lv_lmul hc.1 hc.2.1 hd (K p e s m args below meth c H locs la hc hS hB hR hl h1 h2)
theorem x_land {x y : Int64} (hd : decode M.2.1 pc = .ok (.land, 1))  (K : X w M d mc ms (pc + 1) ls (.long (x &&& y) :: r) h ck sk Q) : X w M d mc ms pc ls (.long y :: .long x :: r) h ck sk Q := by
  intro p e s m args below meth c H locs la hc hS hB hR hl h1 h2
  exact lv_land hc.1 hc.2.1 hd (K p e s m args below meth c H locs la hc hS hB hR hl h1 h2)
theorem x_lor {x y : Int64} (hd : decode M.2.1 pc = .ok (.lor, 1))  (K : X w M d mc ms (pc + 1) ls (.long (x ||| y) :: r) h ck sk Q) : X w M d mc ms pc ls (.long y :: .long x :: r) h ck sk Q := by
  intro p e s m args below meth c H locs la hc hS hB hR hl h1 h2
  exact lv_lor hc.1 hc.2.1 hd (K p e s m args below meth c H locs la hc hS hB hR hl h1 h2)
theorem x_lxor {x y : Int64} (hd : decode M.2.1 pc = .ok (.lxor, 1))  (K : X w M d mc ms (pc + 1) ls (.long (x ^^^ y) :: r) h ck sk Q) : X w M d mc ms pc ls (.long y :: .long x :: r) h ck sk Q := by
  intro p e s m args below meth c H locs la hc hS hB hR hl h1 h2
  exact lv_lxor hc.1 hc.2.1 hd (K p e s m args below meth c H locs la hc hS hB hR hl h1 h2)
theorem x_lcmp {x y : Int64} (hd : decode M.2.1 pc = .ok (.lcmp, 1))  (K : X w M d mc ms (pc + 1) ls (.int (lg_cmp x y) :: r) h ck sk Q) : X w M d mc ms pc ls (.long y :: .long x :: r) h ck sk Q := by
  intro p e s m args below meth c H locs la hc hS hB hR hl h1 h2
  exact W.lcmp hc.1 hc.2.1 hd (K p e s m args below meth c H locs la hc hS hB hR hl h1 h2)
theorem x_idiv {x y : Int32} (hd : decode M.2.1 pc = .ok (.idiv, 1)) (h0 : ¬ y = 0) (K : X w M d mc ms (pc + 1) ls (.int (x / y) :: r) h ck sk Q) : X w M d mc ms pc ls (.int y :: .int x :: r) h ck sk Q := by
  intro p e s m args below meth c H locs la hc hS hB hR hl h1 h2
  exact lv_idiv hc.1 hc.2.1 hd h0 (K p e s m args below meth c H locs la hc hS hB hR hl h1 h2)
theorem x_irem {x y : Int32} (hd : decode M.2.1 pc = .ok (.irem, 1)) (h0 : ¬ y = 0) (K : X w M d mc ms (pc + 1) ls (.int (x - x / y * y) :: r) h ck sk Q) : X w M d mc ms pc ls (.int y :: .int x :: r) h ck sk Q := by
  intro p e s m args below meth c H locs la hc hS hB hR hl h1 h2
  exact lv_irem hc.1 hc.2.1 hd h0 (K p e s m args below meth c H locs la hc hS hB hR hl h1 h2)
theorem x_ldiv {x y : Int64} (hd : decode M.2.1 pc = .ok (.ldiv, 1)) (h0 : ¬ y = 0) (K : X w M d mc ms (pc + 1) ls (.long (x / y) :: r) h ck sk Q) : X w M d mc ms pc ls (.long y :: .long x :: r) h ck sk Q := by
  intro p e s m args below meth c H locs la hc hS hB hR hl h1 h2
  exact lv_ldiv hc.1 hc.2.1 hd h0 (K p e s m args below meth c H locs la hc hS hB hR hl h1 h2)
theorem x_dup {a : Value} (hd : decode M.2.1 pc = .ok (.dup, 1)) (ca : a.category = 1) (K : X w M d mc ms (pc + 1) ls (a :: a :: r) h ck sk Q) : X w M d mc ms pc ls (a :: r) h ck sk Q := by
  intro p e s m args below meth c H locs la hc hS hB hR hl h1 h2
  exact lv_dup hc.1 hc.2.1 hd ca (K p e s m args below meth c H locs la hc hS hB hR hl h1 h2)
theorem x_pop {a : Value} (hd : decode M.2.1 pc = .ok (.pop, 1)) (ca : a.category = 1) (K : X w M d mc ms (pc + 1) ls (r) h ck sk Q) : X w M d mc ms pc ls (a :: r) h ck sk Q := by
  intro p e s m args below meth c H locs la hc hS hB hR hl h1 h2
  exact lv_pop hc.1 hc.2.1 hd ca (K p e s m args below meth c H locs la hc hS hB hR hl h1 h2)
theorem x_dup_x1 {a b : Value} (hd : decode M.2.1 pc = .ok (.dup_x1, 1)) (ca : a.category = 1) (cb : b.category = 1) (K : X w M d mc ms (pc + 1) ls (a :: b :: a :: r) h ck sk Q) : X w M d mc ms pc ls (a :: b :: r) h ck sk Q := by
  intro p e s m args below meth c H locs la hc hS hB hR hl h1 h2
  exact lv_dup_x1 hc.1 hc.2.1 hd ca cb (K p e s m args below meth c H locs la hc hS hB hR hl h1 h2)
theorem x_dup_x2 {a b t : Value} (hd : decode M.2.1 pc = .ok (.dup_x2, 1)) (ca : a.category = 1) (cb : b.category = 1) (ct : t.category = 1) (K : X w M d mc ms (pc + 1) ls (a :: b :: t :: a :: r) h ck sk Q) : X w M d mc ms pc ls (a :: b :: t :: r) h ck sk Q := by
  intro p e s m args below meth c H locs la hc hS hB hR hl h1 h2
  exact lv_dup_x2 hc.1 hc.2.1 hd ca cb ct (K p e s m args below meth c H locs la hc hS hB hR hl h1 h2)
theorem x_dup2 {a b : Value} (hd : decode M.2.1 pc = .ok (.dup2, 1)) (ca : a.category = 1) (cb : b.category = 1) (K : X w M d mc ms (pc + 1) ls (a :: b :: a :: b :: r) h ck sk Q) : X w M d mc ms pc ls (a :: b :: r) h ck sk Q := by
  intro p e s m args below meth c H locs la hc hS hB hR hl h1 h2
  exact lv_dup2_11 hc.1 hc.2.1 hd ca cb (K p e s m args below meth c H locs la hc hS hB hR hl h1 h2)
theorem x_if_eq {x : Int32} {off : Int} {tgt : Nat} (hd : decode M.2.1 pc = .ok (.ifCond .eq off, 3)) (ht : (pc : Int) + off = (tgt : Int)) (kt : (x = 0) → X w M d mc ms tgt ls (r) h ck sk Q) (kf : ¬ (x = 0) → X w M d mc ms (pc + 3) ls (r) h ck sk Q) : X w M d mc ms pc ls (.int x :: r) h ck sk Q := by
  intro p e s m args below meth c H locs la hc hS hB hR hl h1 h2
  exact lv_if_eq hc.1 hc.2.1 hd ht (fun q => kt q p e s m args below meth c H locs la hc hS hB hR hl h1 h2) (fun q => kf q p e s m args below meth c H locs la hc hS hB hR hl h1 h2)
theorem x_icmp_eq {x y : Int32} {off : Int} {tgt : Nat} (hd : decode M.2.1 pc = .ok (.if_icmp .eq off, 3)) (ht : (pc : Int) + off = (tgt : Int)) (kt : (x = y) → X w M d mc ms tgt ls (r) h ck sk Q) (kf : ¬ (x = y) → X w M d mc ms (pc + 3) ls (r) h ck sk Q) : X w M d mc ms pc ls (.int y :: .int x :: r) h ck sk Q := by
  intro p e s m args below meth c H locs la hc hS hB hR hl h1 h2
  exact lv_icmp_eq hc.1 hc.2.1 hd ht (fun q => kt q p e s m args below meth c H locs la hc hS hB hR hl h1 h2) (fun q => kf q p e s m args below meth c H locs la hc hS hB hR hl h1 h2)
theorem x_if_ne {x : Int32} {off : Int} {tgt : Nat} (hd : decode M.2.1 pc = .ok (.ifCond .ne off, 3)) (ht : (pc : Int) + off = (tgt : Int)) (kt : (¬ x = 0) → X w M d mc ms tgt ls (r) h ck sk Q) (kf : (x = 0) → X w M d mc ms (pc + 3) ls (r) h ck sk Q) : X w M d mc ms pc ls (.int x :: r) h ck sk Q := by
  intro p e s m args below meth c H locs la hc hS hB hR hl h1 h2
  exact lv_if_ne hc.1 hc.2.1 hd ht (fun q => kt q p e s m args below meth c H locs la hc hS hB hR hl h1 h2) (fun q => kf q p e s m args below meth c H locs la hc hS hB hR hl h1 h2)
theorem x_icmp_ne {x y : Int32} {off : Int} {tgt : Nat} (hd : decode M.2.1 pc = .ok (.if_icmp .ne off, 3)) (ht : (pc : Int) + off = (tgt : Int)) (kt : (¬ x = y) → X w M d mc ms tgt ls (r) h ck sk Q) (kf : (x = y) → X w M d mc ms (pc + 3) ls (r) h ck sk Q) : X w M d mc ms pc ls (.int y :: .int x :: r) h ck sk Q := by
  intro p e s m args below meth c H locs la hc hS hB hR hl h1 h2
  exact lv_icmp_ne hc.1 hc.2.1 hd ht (fun q => kt q p e s m args below meth c H locs la hc hS hB hR hl h1 h2) (fun q => kf q p e s m args below meth c H locs la hc hS hB hR hl h1 h2)
theorem x_if_lt {x : Int32} {off : Int} {tgt : Nat} (hd : decode M.2.1 pc = .ok (.ifCond .lt off, 3)) (ht : (pc : Int) + off = (tgt : Int)) (kt : (x < 0) → X w M d mc ms tgt ls (r) h ck sk Q) (kf : ¬ (x < 0) → X w M d mc ms (pc + 3) ls (r) h ck sk Q) : X w M d mc ms pc ls (.int x :: r) h ck sk Q := by
  intro p e s m args below meth c H locs la hc hS hB hR hl h1 h2
  exact lv_if_lt hc.1 hc.2.1 hd ht (fun q => kt q p e s m args below meth c H locs la hc hS hB hR hl h1 h2) (fun q => kf q p e s m args below meth c H locs la hc hS hB hR hl h1 h2)
theorem x_icmp_lt {x y : Int32} {off : Int} {tgt : Nat} (hd : decode M.2.1 pc = .ok (.if_icmp .lt off, 3)) (ht : (pc : Int) + off = (tgt : Int)) (kt : (x < y) → X w M d mc ms tgt ls (r) h ck sk Q) (kf : ¬ (x < y) → X w M d mc ms (pc + 3) ls (r) h ck sk Q) : X w M d mc ms pc ls (.int y :: .int x :: r) h ck sk Q := by
  intro p e s m args below meth c H locs la hc hS hB hR hl h1 h2
  exact lv_icmp_lt hc.1 hc.2.1 hd ht (fun q => kt q p e s m args below meth c H locs la hc hS hB hR hl h1 h2) (fun q => kf q p e s m args below meth c H locs la hc hS hB hR hl h1 h2)
theorem x_if_ge {x : Int32} {off : Int} {tgt : Nat} (hd : decode M.2.1 pc = .ok (.ifCond .ge off, 3)) (ht : (pc : Int) + off = (tgt : Int)) (kt : (0 ≤ x) → X w M d mc ms tgt ls (r) h ck sk Q) (kf : ¬ (0 ≤ x) → X w M d mc ms (pc + 3) ls (r) h ck sk Q) : X w M d mc ms pc ls (.int x :: r) h ck sk Q := by
  intro p e s m args below meth c H locs la hc hS hB hR hl h1 h2
  exact lv_if_ge hc.1 hc.2.1 hd ht (fun q => kt q p e s m args below meth c H locs la hc hS hB hR hl h1 h2) (fun q => kf q p e s m args below meth c H locs la hc hS hB hR hl h1 h2)
theorem x_icmp_ge {x y : Int32} {off : Int} {tgt : Nat} (hd : decode M.2.1 pc = .ok (.if_icmp .ge off, 3)) (ht : (pc : Int) + off = (tgt : Int)) (kt : (y ≤ x) → X w M d mc ms tgt ls (r) h ck sk Q) (kf : ¬ (y ≤ x) → X w M d mc ms (pc + 3) ls (r) h ck sk Q) : X w M d mc ms pc ls (.int y :: .int x :: r) h ck sk Q := by
  intro p e s m args below meth c H locs la hc hS hB hR hl h1 h2
  exact lv_icmp_ge hc.1 hc.2.1 hd ht (fun q => kt q p e s m args below meth c H locs la hc hS hB hR hl h1 h2) (fun q => kf q p e s m args below meth c H locs la hc hS hB hR hl h1 h2)
theorem x_if_gt {x : Int32} {off : Int} {tgt : Nat} (hd : decode M.2.1 pc = .ok (.ifCond .gt off, 3)) (ht : (pc : Int) + off = (tgt : Int)) (kt : (0 < x) → X w M d mc ms tgt ls (r) h ck sk Q) (kf : ¬ (0 < x) → X w M d mc ms (pc + 3) ls (r) h ck sk Q) : X w M d mc ms pc ls (.int x :: r) h ck sk Q := by
  intro p e s m args below meth c H locs la hc hS hB hR hl h1 h2
  exact lv_if_gt hc.1 hc.2.1 hd ht (fun q => kt q p e s m args below meth c H locs la hc hS hB hR hl h1 h2) (fun q => kf q p e s m args below meth c H locs la hc hS hB hR hl h1 h2)
theorem x_icmp_gt {x y : Int32} {off : Int} {tgt : Nat} (hd : decode M.2.1 pc = .ok (.if_icmp .gt off, 3)) (ht : (pc : Int) + off = (tgt : Int)) (kt : (y < x) → X w M d mc ms tgt ls (r) h ck sk Q) (kf : ¬ (y < x) → X w M d mc ms (pc + 3) ls (r) h ck sk Q) : X w M d mc ms pc ls (.int y :: .int x :: r) h ck sk Q := by
  intro p e s m args below meth c H locs la hc hS hB hR hl h1 h2
  exact lv_icmp_gt hc.1 hc.2.1 hd ht (fun q => kt q p e s m args below meth c H locs la hc hS hB hR hl h1 h2) (fun q => kf q p e s m args below meth c H locs la hc hS hB hR hl h1 h2)
theorem x_if_le {x : Int32} {off : Int} {tgt : Nat} (hd : decode M.2.1 pc = .ok (.ifCond .le off, 3)) (ht : (pc : Int) + off = (tgt : Int)) (kt : (x ≤ 0) → X w M d mc ms tgt ls (r) h ck sk Q) (kf : ¬ (x ≤ 0) → X w M d mc ms (pc + 3) ls (r) h ck sk Q) : X w M d mc ms pc ls (.int x :: r) h ck sk Q := by
  intro p e s m args below meth c H locs la hc hS hB hR hl h1 h2
  exact lv_if_le hc.1 hc.2.1 hd ht (fun q => kt q p e s m args below meth c H locs la hc hS hB hR hl h1 h2) (fun q => kf q p e s m args below meth c H locs la hc hS hB hR hl h1 h2)
theorem x_icmp_le {x y : Int32} {off : Int} {tgt : Nat} (hd : decode M.2.1 pc = .ok (.if_icmp .le off, 3)) (ht : (pc : Int) + off = (tgt : Int)) (kt : (x ≤ y) → X w M d mc ms tgt ls (r) h ck sk Q) (kf : ¬ (x ≤ y) → X w M d mc ms (pc + 3) ls (r) h ck sk Q) : X w M d mc ms pc ls (.int y :: .int x :: r) h ck sk Q := by
  intro p e s m args below meth c H locs la hc hS hB hR hl h1 h2
  exact lv_icmp_le hc.1 hc.2.1 hd ht (fun q => kt q p e s m args below meth c H locs la hc hS hB hR hl h1 h2) (fun q => kf q p e s m args below meth c H locs la hc hS hB hR hl h1 h2)
theorem x_goto {off : Int} {tgt : Nat} (hd : decode M.2.1 pc = .ok (.goto off, 3)) (ht : (pc : Int) + off = (tgt : Int)) (K : X w M d mc ms tgt ls (r) h ck sk Q) : X w M d mc ms pc ls (r) h ck sk Q := by
  intro p e s m args below meth c H locs la hc hS hB hR hl h1 h2
  exact lv_goto hc.1 hc.2.1 hd ht (K p e s m args below meth c H locs la hc hS hB hR hl h1 h2)
theorem x_ifnullR {x : Nat} {off : Int} (hd : decode M.2.1 pc = .ok (.ifnull off, 3)) (K : X w M d mc ms (pc + 3) ls (r) h ck sk Q) : X w M d mc ms pc ls (.ref x :: r) h ck sk Q := by
  intro p e s m args below meth c H locs la hc hS hB hR hl h1 h2
  exact lv_ifnull hc.1 hc.2.1 hd (K p e s m args below meth c H locs la hc hS hB hR hl h1 h2)
theorem x_ifnullN {off : Int} {tgt : Nat} (hd : decode M.2.1 pc = .ok (.ifnull off, 3)) (ht : (pc : Int) + off = (tgt : Int)) (K : X w M d mc ms tgt ls (r) h ck sk Q) : X w M d mc ms pc ls (.null :: r) h ck sk Q := by
  intro p e s m args below meth c H locs la hc hS hB hR hl h1 h2
  exact lv_ifnullN hc.1 hc.2.1 hd ht (K p e s m args below meth c H locs la hc hS hB hR hl h1 h2)
theorem x_ifnonnullR {x : Nat} {off : Int} {tgt : Nat} (hd : decode M.2.1 pc = .ok (.ifnonnull off, 3)) (ht : (pc : Int) + off = (tgt : Int)) (K : X w M d mc ms tgt ls (r) h ck sk Q) : X w M d mc ms pc ls (.ref x :: r) h ck sk Q := by
  intro p e s m args below meth c H locs la hc hS hB hR hl h1 h2
  exact lv_ifnonnull hc.1 hc.2.1 hd ht (K p e s m args below meth c H locs la hc hS hB hR hl h1 h2)
theorem x_ifnonnullN {off : Int} (hd : decode M.2.1 pc = .ok (.ifnonnull off, 3)) (K : X w M d mc ms (pc + 3) ls (r) h ck sk Q) : X w M d mc ms pc ls (.null :: r) h ck sk Q := by
  intro p e s m args below meth c H locs la hc hS hB hR hl h1 h2
  exact lv_ifnonnullN hc.1 hc.2.1 hd (K p e s m args below meth c H locs la hc hS hB hR hl h1 h2)
theorem x_acmp_eq {rx ry : Option Nat} {off : Int} {tgt : Nat} (hd : decode M.2.1 pc = .ok (.if_acmp .eq off, 3)) (ht : (pc : Int) + off = (tgt : Int)) (kt : rx = ry → X w M d mc ms tgt ls (r) h ck sk Q) (kf : ¬ rx = ry → X w M d mc ms (pc + 3) ls (r) h ck sk Q) : X w M d mc ms pc ls (va_rf ry :: va_rf rx :: r) h ck sk Q := by
  intro p e s m args below meth c H locs la hc hS hB hR hl h1 h2
  exact lv_acmp_eq hc.1 hc.2.1 hd ht (fun q => kt q p e s m args below meth c H locs la hc hS hB hR hl h1 h2) (fun q => kf q p e s m args below meth c H locs la hc hS hB hR hl h1 h2)
theorem x_acmp_ne {rx ry : Option Nat} {off : Int} {tgt : Nat} (hd : decode M.2.1 pc = .ok (.if_acmp .ne off, 3)) (ht : (pc : Int) + off = (tgt : Int)) (kt : ¬ rx = ry → X w M d mc ms tgt ls (r) h ck sk Q) (kf : rx = ry → X w M d mc ms (pc + 3) ls (r) h ck sk Q) : X w M d mc ms pc ls (va_rf ry :: va_rf rx :: r) h ck sk Q := by
  intro p e s m args below meth c H locs la hc hS hB hR hl h1 h2
  exact lv_acmp_ne hc.1 hc.2.1 hd ht (fun q => kt q p e s m args below meth c H locs la hc hS hB hR hl h1 h2) (fun q => kf q p e s m args below meth c H locs la hc hS hB hR hl h1 h2)
end XROWS
