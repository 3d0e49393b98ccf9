/-! ===== more rows: switches, a float constant, an array of arrays ===== -/
section ROWS2
variable {w : Wd} {M : Md} {d mc ms pc ck sk : Nat} {ls : List (Option Value)} {r : List Value} {h : MH} {Q : Out → MH → Prop}
theorem x_ldcf {idx : Nat} {v : UInt32} (hd : decode M.2.1 pc = .ok (.ldc idx, 2)) (hw : Jvm.Cond.constantFloat M.1.cls idx v ∈ lw_all) (K : X w M d mc ms (pc + 2) ls (.float v :: r) h ck sk Q) : X w M d mc ms pc ls r h ck sk Q := by
  intro p e s m args below meth c H locs la hc hS hB hR hl h1 h2
  exact lv_ldcf hc.1 hc.2.1 hc.2.2.2.2.2.1 (hc.2.2.2.2.2.2.2.1 _ hw) hd (K p e s m args below meth c H locs la hc hS hB hR hl h1 h2)
theorem x_tabIn {dflt lo hi : Int} {offs : Array Int} {len : Nat} {x : Int32} {off : Int} {tgt : Nat} (hd : decode M.2.1 pc = .ok (.tableswitch dflt lo hi offs, len)) (g1 : ¬ x.toInt < lo) (g2 : ¬ hi < x.toInt) (ho : offs[(x.toInt - lo).toNat]? = some off) (ht : (pc : Int) + off = (tgt : Int)) (K : X w M d mc ms tgt ls r h ck sk Q) : X w M d mc ms pc ls (.int x :: r) h ck sk Q := by
  intro p e s m args below meth c H locs la hc hS hB hR hl h1 h2
  exact lv_tableIn hc.1 hc.2.1 hd g1 g2 ho ht (K p e s m args below meth c H locs la hc hS hB hR hl h1 h2)
theorem x_tabOut {dflt lo hi : Int} {offs : Array Int} {len : Nat} {x : Int32} {tgt : Nat} (hd : decode M.2.1 pc = .ok (.tableswitch dflt lo hi offs, len)) (g1 : x.toInt < lo ∨ hi < x.toInt) (ht : (pc : Int) + dflt = (tgt : Int)) (K : X w M d mc ms tgt ls r h ck sk Q) : X w M d mc ms pc ls (.int x :: r) h ck sk Q := by
  intro p e s m args below meth c H locs la hc hS hB hR hl h1 h2
  exact lv_tableOut hc.1 hc.2.1 hd g1 ht (K p e s m args below meth c H locs la hc hS hB hR hl h1 h2)
theorem x_look {dflt : Int} {ps : Array (Int × Int)} {len : Nat} {x : Int32} {off : Int} {tgt : Nat} (hd : decode M.2.1 pc = .ok (.lookupswitch dflt ps, len)) (hp : (ps.toList.zip (ps.toList.drop 1)).all (fun (a, next) => a.1 < next.1) = true) (ho : Op.lookupswitch.offset ps.toList dflt x.toInt = off) (ht : (pc : Int) + off = (tgt : Int)) (K : X w M d mc ms tgt ls r h ck sk Q) : X w M d mc ms pc ls (.int x :: r) h ck sk Q := by
  intro p e s m args below meth c H locs la hc hS hB hR hl h1 h2
  exact lv_lookup hc.1 hc.2.1 hd hp ho ht (K p e s m args below meth c H locs la hc hS hB hR hl h1 h2)
/-- n rows of k ints, laid at a -/
def mfill (h : MH) (a n k : Nat) : MH := fun b => if b = a then some (aQ (.array .int) n (fun j => if j < n then some (a + 1 + j) else none)) else if a < b ∧ b ≤ a + n then some (aI .int k (fun _ => 0)) else h b
theorem outerC_arr (cA : ClassId) (N h0 : Nat) : ∀ i, Jvm.Free.Multi.outerC cA N h0 i = arrV cA N (fun j => if j < i then .ref (h0 + 1 + j) else .null)
  | 0 => by
    unfold Jvm.Free.Multi.outerC
    rw [arrV_new]
    rfl
  | i + 1 => by
    show (Jvm.Free.Multi.outerC cA N h0 i).setSlot i (.ref (h0 + 1 + i)) = _
    rw [outerC_arr cA N h0 i, arrV_store]
    congr 1
    funext j
    by_cases e : j = i
    · subst e; simp [updV]
    · simp only [updV, if_neg e]
      by_cases e2 : j < i
      · rw [if_pos e2, if_pos (by omega)]
      · rw [if_neg e2, if_neg (by omega)]
theorem x_multi {idx : Nat} {n k : Int32} {N L : Nat} (hd : decode M.2.1 pc = .ok (.multianewarray idx 2, 4)) (hw : Jvm.Cond.classLink M.1.cls idx ("[" ++ (FieldType.array .int).toString) ∈ lw_all) (harr : Jvm.Cond.arrayClass .int ∈ lw_all) (hn : ¬ n < 0) (hk : ¬ k < 0) (hN : n.toNatClampNeg = N) (hL : k.toNatClampNeg = L) (hb1 : N * 4 ≤ 536870912) (hb2 : L * 4 ≤ 536870912) (hck : ck + 1 + N ≤ mc) (hsk : sk + N + N * L ≤ ms)
    (K : ∀ a, wN w ≤ a → (∀ j, j ≤ N → h (a + j) = none) → X w M d mc ms (pc + 4) ls (.ref a :: r) (mfill h a N L) (ck + 1 + N) (sk + N + N * L) Q) : X w M d mc ms pc ls (.int k :: .int n :: r) h ck sk Q := by
  intro p e s m args below meth c H locs la hc hS hB hR hl h1 h2
  have hSR := hc.2.2.2.2.2.2.2.2.2.2.2
  have hts := hc.2.2.2.2.2.2.2.1
  intro T hT X0
  subst hT
  subst hN hL
  obtain ⟨vm₁, cA, comp, hWm, hfA, hfC, -, -, X1, step⟩ := X0.multianewarray2F hc.1 hc.2.2.2.2.2.1 (hts _ hw) (show (Cond.arrayOver (.array .int)).before args s = true from hSR.2.2.2.2.2.1.2) (hts _ harr) (g := F0 m pc la (.int k :: .int n :: r)) rfl (by rw [hc.2.1]; exact hd) rfl hn hk hb1 hb2 (by omega) rfl rfl (by show ck + (1 + n.toNatClampNeg) ≤ mc; omega) (by show sk + (n.toNatClampNeg + n.toNatClampNeg * k.toNatClampNeg) ≤ ms; omega)
  have ff := Jvm.Free.Multi.fill_facts (T.setVm vm₁) cA comp n.toNatClampNeg k.toNatClampNeg (defaultValue .int) n.toNatClampNeg
  have fo := fun a ha => Jvm.Free.Multi.fill_old (T.setVm vm₁) cA comp n.toNatClampNeg k.toNatClampNeg (defaultValue .int) (a := a) ha n.toNatClampNeg
  have fi := Jvm.Free.Multi.fill_inner (T.setVm vm₁) cA comp n.toNatClampNeg k.toNatClampNeg (defaultValue .int) n.toNatClampNeg
  have hsz : (T.setVm vm₁).heap = T.heap := rfl
  rw [hsz] at ff fi
  replace fo : ∀ a, a < T.heap.size → (Jvm.Free.Multi.fill (T.setVm vm₁) cA comp n.toNatClampNeg k.toNatClampNeg (defaultValue .int) n.toNatClampNeg).heap[a]? = T.heap[a]? := fo
  generalize hF : Jvm.Free.Multi.fill (T.setVm vm₁) cA comp n.toNatClampNeg k.toNatClampNeg (defaultValue .int) n.toNatClampNeg = F at *
  obtain ⟨z1, z2, -, -⟩ := ff
  have t1 : FieldType.array .int ∈ tyL := by unfold tyL; simp
  have t2 : FieldType.int ∈ tyL := by unfold tyL; simp
  have c1 : cA = wA w (.array .int) := Option.some.inj (hfA.symm.trans (arr_K hSR t1).2)
  have c2 : comp = wA w .int := Option.some.inj (hfC.symm.trans (arr_K hSR t2).2)
  have hB' : BR w s F.heap := hB.kept (by have := hB.1; omega) (fun q hq => fo q (Nat.lt_of_lt_of_le hq hB.1))
  have hR' : HR w (mfill h T.heap.size n.toNatClampNeg k.toNatClampNeg) F.heap := by
    intro b cc hb hcc
    unfold mfill at hcc
    split at hcc
    · rename_i eb
      subst eb
      injection hcc with hcc
      subst hcc
      refine ⟨t1, ?_⟩
      show F.heap[T.heap.size]? = some (vp_cell _ _)
      rw [z2, outerC_arr, vp_cell_q, c1]
      congr 2
      funext j
      by_cases ej : j < n.toNatClampNeg
      · simp [va_rf, ej]
      · simp [va_rf, ej]
    · split at hcc
      · rename_i eb
        injection hcc with hcc
        subst hcc
        refine ⟨t2, ?_⟩
        show F.heap[b]? = some (vp_cell _ _)
        obtain ⟨j, rfl⟩ : ∃ j, b = T.heap.size + 1 + j := ⟨b - T.heap.size - 1, by omega⟩
        rw [fi j (by omega), ← c2]
        exact congrArg some (arrV_new comp k.toNatClampNeg (.int 0))
      · have := hR b cc hb hcc
        exact this.kept (fo b this.lt)
  obtain ⟨t, a1, b1⟩ := K T.heap.size hB.1 (fun j hj => by
      cases hh : h (T.heap.size + j) with
      | none => rfl
      | some cc => exact absurd (hR _ cc (by have := hB.1; omega) hh).lt (by omega)) p e s m args below meth c F.heap locs la hc ⟨by have := hS.1; omega, fun x g1 g2 => (fo x (Nat.lt_of_lt_of_le g1 hS.1)).trans (hS.2.1 x g1 g2), hS.2.2⟩ hB' hR' hl hck hsk F rfl X1
  exact ⟨t, step t a1, b1⟩
end ROWS2
section ROWS3
variable {w : Wd} {M : Md} {d mc ms pc ck sk : Nat} {ls : List (Option Value)} {r : List Value} {h : MH} {Q : Out → MH → Prop}
theorem nn_iZ {N : Nat} (hN : N ≤ 100000000) : ¬ iZ (N : Int) < 0 ∧ (iZ (N : Int)).toNatClampNeg = N := by
  refine ⟨?_, ?_⟩
  · rw [iZ_0, iZ_lt (by omega) (by omega) (by decide) (by decide)]; omega
  · rw [ix_iZ (by omega) (by omega)]; omega
theorem x_newI {N : Nat} (hd : decode M.2.1 pc = .ok (.newarray .int, 2)) (hN : N ≤ 100000000) (hck : ck + 1 ≤ mc) (hsk : sk + N ≤ ms) (K : ∀ a, wN w ≤ a → h a = none → X w M d mc ms (pc + 2) ls (.ref a :: r) (hset h a (aI .int N (fun _ => iZ 0))) (ck + 1) (sk + N) Q) : X w M d mc ms pc ls (.int (iZ (N : Int)) :: r) h ck sk Q :=
  x_newa (ty := .int) (a0 := (N, .inl fun _ => iZ 0)) hd q2140 rfl (by unfold tyL; simp) (fun _ => rfl) (fun _ _ h => h) (nn_iZ hN).1 (nn_iZ hN).2 (by show N * 4 ≤ _; omega) hck hsk K
theorem x_newL {N : Nat} (hd : decode M.2.1 pc = .ok (.newarray .long, 2)) (hN : N ≤ 10000000) (hck : ck + 1 ≤ mc) (hsk : sk + N ≤ ms) (K : ∀ a, wN w ≤ a → h a = none → X w M d mc ms (pc + 2) ls (.ref a :: r) (hset h a (aL N (fun _ => lZ 0))) (ck + 1) (sk + N) Q) : X w M d mc ms pc ls (.int (iZ (N : Int)) :: r) h ck sk Q :=
  x_newa (ty := .long) (a0 := (N, .inr (.inl fun _ => lZ 0))) hd q2141 rfl (by unfold tyL; simp) (fun _ => rfl) (fun _ _ h => h) (nn_iZ (by omega)).1 (nn_iZ (by omega)).2 (by show N * 8 ≤ _; omega) hck hsk K
theorem x_newB {N : Nat} (hd : decode M.2.1 pc = .ok (.newarray .byte, 2)) (hN : N ≤ 100000000) (hck : ck + 1 ≤ mc) (hsk : sk + N ≤ ms) (K : ∀ a, wN w ≤ a → h a = none → X w M d mc ms (pc + 2) ls (.ref a :: r) (hset h a (aI .byte N (fun _ => iZ 0))) (ck + 1) (sk + N) Q) : X w M d mc ms pc ls (.int (iZ (N : Int)) :: r) h ck sk Q :=
  x_newa (ty := .byte) (a0 := (N, .inl fun _ => iZ 0)) hd q155 rfl (by unfold tyL; simp) (fun _ => rfl) (fun _ _ h => h) (nn_iZ hN).1 (nn_iZ hN).2 (by show N * 1 ≤ _; omega) hck hsk K
end ROWS3
section ROWS4
variable {w : Wd} {M : Md} {d mc ms pc ck sk : Nat} {ls : List (Option Value)} {h : MH} {Q : Out → MH → Prop}
/-- another picture of the same cells -/
theorem x_same {h2 : MH} {st : List Value} (hh : ∀ H, HR w h H → HR w h2 H) (K : X w M d mc ms pc ls st h2 ck sk Q) : X w M d mc ms pc ls st h ck sk Q := by
  intro p e s m args below meth c H locs la hc hS hB hR hl h1 h2'
  exact K p e s m args below meth c H locs la hc hS hB (hh H hR) hl h1 h2'
theorem arrV_c {cA : ClassId} {N : Nat} {f g : Nat → Value} (h : ∀ j, j < N → f j = g j) : arrV cA N f = arrV cA N g := by
  unfold arrV
  congr 1
  congr 1
  funext j
  exact h j j.2
theorem cellAt_q {a n : Nat} {ty : FieldType} {f g : Nat → Option Nat} {H : Heap} (hf : ∀ j, j < n → f j = g j) (hc : cellAt w a (aQ ty n f) H) : cellAt w a (aQ ty n g) H := by
  refine ⟨hc.1, ?_⟩
  have := hc.2
  show H[a]? = some (vp_cell _ _)
  rw [show H[a]? = some (vp_cell (wA w ty) (n, .inr (.inr (.inr (.inr f))))) from this, vp_cell_q, vp_cell_q]
  congr 1
  exact arrV_c fun j hj => by rw [hf j hj]
theorem HR.setq {a n : Nat} {ty : FieldType} {f g : Nat → Option Nat} {H : Heap} (hf : ∀ j, j < n → f j = g j) (ha : h a = some (aQ ty n f)) (hR : HR w h H) : HR w (hset h a (aQ ty n g)) H := by
  intro b c hb hc
  by_cases e : b = a
  · subst e
    rw [hset_self] at hc
    injection hc with hc
    subst hc
    exact cellAt_q hf (hR b _ hb ha)
  · rw [hset_ne e] at hc
    exact hR b c hb hc
end ROWS4

