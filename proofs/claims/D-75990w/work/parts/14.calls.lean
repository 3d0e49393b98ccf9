/-! ===== calls ===== -/
/-- the locals at the entry -/
def entL : List Value → List (Option Value)
  | [] => []
  | v :: r => if v.category = 2 then some v :: none :: entL r else some v :: entL r
def padL (l : List (Option Value)) (n : Nat) : List (Option Value) := l ++ List.replicate (n - l.length) none
theorem lg_app {l r : List (Option Value)} {k : Nat} {v : Value} (h : lg (l ++ r) k = some v) : lg l k = some v ∨ lg r (k - l.length) = some v := by
  induction l generalizing k with
  | nil => exact Or.inr h
  | cons x l ih =>
    cases k with
    | zero => exact Or.inl h
    | succ k =>
      rcases ih h with h1 | h1
      · exact Or.inl h1
      · exact Or.inr (by simpa using h1)
theorem lg_rep {n k : Nat} {v : Value} : ¬ lg (List.replicate n none) k = some v := by
  induction n generalizing k with
  | zero => intro h; cases h
  | succ n ih =>
    intro h
    cases k with
    | zero => cases h
    | succ k => exact ih h
theorem entL_args (as : List Value) (i k : Nat) (v : Value) (h : lg (entL as) k = some v) : (i + k, v) ∈ lv_args i as := by
  induction as generalizing i k with
  | nil => simp [entL, lg] at h
  | cons x r ih =>
    unfold entL at h
    unfold lv_args
    split at h
    · rename_i hc
      rw [if_pos hc]
      cases k with
      | zero => simp only [lg, Option.some.injEq] at h; subst h; exact List.mem_cons_self
      | succ k =>
        cases k with
        | zero => simp [lg] at h
        | succ k =>
          have := ih (i + 2) k h
          rw [show i + (k + 1 + 1) = i + 2 + k by omega]
          exact List.mem_cons_of_mem _ this
    · rename_i hc
      rw [if_neg hc]
      cases k with
      | zero => simp only [lg, Option.some.injEq] at h; subst h; exact List.mem_cons_self
      | succ k =>
        have := ih (i + 1) k h
        rw [show i + (k + 1) = i + 1 + k by omega]
        exact List.mem_cons_of_mem _ this
theorem entL_len (as : List Value) : (entL as).length = (lg_sl as).length := by
  induction as with
  | nil => rfl
  | cons x r ih =>
    have e : lg_sl (x :: r) = (if x.category = 2 then [Slot.val x, .second] else [Slot.val x]) ++ lg_sl r := rfl
    rw [e]
    unfold entL
    split <;> simp [ih] <;> omega
theorem LV.entry (as : List Value) {n : Nat} (h : (entL as).length ≤ n) : LV ((lg_sl as ++ List.replicate (n - (lg_sl as).length) Slot.unset).toArray) n (padL (entL as) n) := by
  have h1 : (lg_sl as).length ≤ n := by rw [← entL_len]; exact h
  have h2 := lv_entry as h1
  refine ⟨by unfold padL; rw [List.length_append, List.length_replicate]; omega, h2.1, h2.2.1, fun q hq => h2.2.2 q ?_⟩
  rcases lg_app (lvA_mem.mp hq) with h3 | h3
  · have := entL_args as 0 q.1 q.2 h3
    rw [Nat.zero_add] at this
    exact this
  · exact absurd h3 lg_rep
theorem admits_of {p : Program} {l : Launch} {x : MethodName} {S : Spec} {code : ByteArray} {maxLocals : Nat} {ret : Option FieldType} {e : Env} {s : State} {m : MethodId} {args : Array Value} {below : List Frame} {meth : Method} {c : Code} {s₁ : State} (B : BodyLoose p l x S code maxLocals ret e s m args below meth c s₁) : l.admits e := B.admits
section CALLS
variable {w : Wd} {d mc ms : Nat} {M : Md} {as : List Value} {h : MH} {Q : Out → MH → Prop}
theorem Call.of (hy : plainName M.1.cls = true) (hh : M.2.2.2.2 = []) (hlen : (entL as).length ≤ M.2.2.1) (K : X w M d mc ms 0 (padL (entL as) M.2.2.1) [] h 0 0 Q) : Call w d mc ms M as h Q := by
  have hw : mwords M = Jvm.Cond.code M.1 M.2.1 M.2.2.1 M.2.2.2.1 :: lw_all := by unfold mwords; rw [hh]
  refine vx_ofW hy hw ?_
  intro p e s m args below meth c s₁ B hml ht hv
  obtain ⟨rfl, hSR, hBR, hHR⟩ := hv
  have hts := atoms_spec (ws := mwords M) B.pre
  rw [lg_entry_eq]
  refine K p e s m as.toArray below meth c s.heap [] _ ⟨B.exec, B.bytes, hml, B.returns, B.notSynchronized, findClass_of_methodNamed B.named, (name_of_methodNamed B.named B.method).1, fun v hv => hts v (by rw [hw]; exact List.mem_cons_of_mem _ hv), ?_, B.admits, B.named, hSR⟩ va_S.rf hBR hHR (LV.entry as hlen) (Nat.zero_le _) (Nat.zero_le _)
  rw [hh]
  exact List.eq_nil_iff_forall_not_mem.mpr fun x hx => ht x hx
theorem Call.ofH {q : Nat × Nat × Nat × Nat} {r : List (Nat × Nat × Nat × Nat)} (hy : plainName M.1.cls = true) (hh : M.2.2.2.2 = q :: r) (hlen : (entL as).length ≤ M.2.2.1) (K : X w M d mc ms 0 (padL (entL as) M.2.2.1) [] h 0 0 Q) : Call w d mc ms M as h Q := by
  have hw : mwords M = Jvm.Cond.codeWith M.1 M.2.1 M.2.2.1 M.2.2.2.1 (q :: r) :: lw_all := by unfold mwords; rw [hh]
  refine vx_ofWH hy hw ?_
  intro p e s m args below meth c s₁ B hml hv
  obtain ⟨rfl, hSR, hBR, hHR⟩ := hv
  have hts := atoms_spec (ws := mwords M) B.pre
  have htb := vx_table (x := M.1) B (hts _ (by rw [hw]; exact List.mem_cons_self))
  rw [lg_entry_eq]
  refine K p e s m as.toArray below meth c s.heap [] _ ⟨B.exec, B.bytes, hml, B.returns, B.notSynchronized, findClass_of_methodNamed B.named, (name_of_methodNamed B.named B.method).1, fun v hv => hts v (by rw [hw]; exact List.mem_cons_of_mem _ hv), ?_, B.admits, B.named, hSR⟩ va_S.rf hBR hHR (LV.entry as hlen) (Nat.zero_le _) (Nat.zero_le _)
  rw [hh]
  exact htb
end CALLS
/-- behind a call -/
def Kc (w : Wd) (M : Md) (d mc ms pc len : Nat) (ls : List (Option Value)) (r : List Value) (ck sk : Nat) (Q : Out → MH → Prop) : Out → MH → Prop := fun o h' => match o with
  | .inl v => X w M d mc ms (pc + len) ls (v.toList ++ r) h' ck sk Q
  | .inr q => XT w M d mc ms pc ls q.1 q.2 h' ck sk Q
theorem Kc_v {w : Wd} {M : Md} {d mc ms pc len : Nat} {ls : List (Option Value)} {r : List Value} {ck sk : Nat} {Q : Out → MH → Prop} {v : Value} {h' : MH} : Kc w M d mc ms pc len ls r ck sk Q (.inl (some v)) h' = X w M d mc ms (pc + len) ls (v :: r) h' ck sk Q := nrf rfl
theorem Kc_n {w : Wd} {M : Md} {d mc ms pc len : Nat} {ls : List (Option Value)} {r : List Value} {ck sk : Nat} {Q : Out → MH → Prop} {h' : MH} : Kc w M d mc ms pc len ls r ck sk Q (.inl none) h' = X w M d mc ms (pc + len) ls r h' ck sk Q := nrf rfl
theorem Kc_x {w : Wd} {M : Md} {d mc ms pc len : Nat} {ls : List (Option Value)} {r : List Value} {ck sk : Nat} {Q : Out → MH → Prop} {E : String} {q : Nat} {h' : MH} : Kc w M d mc ms pc len ls r ck sk Q (.inr (E, q)) h' = XT w M d mc ms pc ls E q h' ck sk Q := nrf rfl
/-- what the callee's descriptor says, and its locals -/
def MdOK (M : Md) (n : Nat) : Prop := (M.1.cls ≠ "java/lang/invoke/MethodHandle" ∧ M.1.cls ≠ "java/lang/invoke/VarHandle" ∧ (parseMethodDescriptor M.1.desc).map (fun d => d.parameters.length) = some n) ∧ M.2.2.1 ≤ 41
def cat8 (r : List Value) : Prop := (r.map fun v => v.category).sum ≤ 8
section RUN
variable {w : Wd} {M M' : Md} {d d' mc ms mc' ms' pc ck sk n idx : Nat} {ls : List (Option Value)} {st r As : List Value} {h : MH} {Q : Out → MH → Prop}
theorem VS.call {w : Wd} {H0 H H1 : Heap} {locs L : List Loc} (hS : va_S (fr w) H0 H locs) (hz : H.size ≤ H1.size) (hk : ∀ q, q < H.size → ¬ fr w q → H1[q]? = H[q]?) (hL : ∀ q ∈ L, fr w q.base) : va_S (fr w) H0 H1 (locs ++ L) :=
  ⟨Nat.le_trans hS.1 hz, fun q h1 h2 => (hk q (Nat.lt_of_lt_of_le h1 hS.1) h2).trans (hS.2.1 q h1 h2), fun q hq => by
    rcases List.mem_append.mp hq with h | h
    · exact hS.2.2 q h
    · exact hL q h⟩
theorem BR.call {w : Wd} {U : State} {H H1 : Heap} (hB : BR w U H) (hz : H.size ≤ H1.size) (hk : ∀ q, q < H.size → ¬ fr w q → H1[q]? = H[q]?) : BR w U H1 :=
  hB.kept (Nat.le_trans hB.1 hz) (fun q hq => hk q (Nat.lt_of_lt_of_le hq hB.1) (Nat.not_le.mpr hq))
theorem x_run {a : Array Value} (hck : ck + mc' ≤ mc) (hsk : sk + ms' ≤ ms)
    (hrun : ∀ (p : Program) (e : Env) (s : State) (m : MethodId) (args : Array Value) (below : List Frame) (meth : Method) (c : Code) (H : Heap) (locs : List Loc) (la : Array Slot), Cx w M p e s m args meth c → BR w s H → HR w h H → la.size = M.2.2.1 →
      vx_Run p (wL w) e (rmm d mc ms) s m args below meth c H locs ck sk mc' ms' (F0 m pc la st) r (QcO w (Kc w M d mc ms pc 3 ls r (ck + mc') (sk + ms') Q) a) (XcO w (Kc w M d mc ms pc 3 ls r (ck + mc') (sk + ms') Q)) (fr w)) : X w M d mc ms pc ls st h ck sk Q := by
  intro p e s m args below meth c H locs la hc hS hB hR hl h1 h2 T hT X
  rcases hrun p e s m args below meth c H locs la hc hB hR hl.2.1 T hT X with ⟨v, st₀, t, T', L, h0, X', hL, e1, e2, ⟨⟨hz, hk⟩, v', h', hv, hR', hq⟩, stp⟩ | ⟨q, st₀, t, T', L, E, ce, h0, X', hL, e1, e2, ⟨⟨hz, hk⟩, h', hR', hq⟩, hce, hvm, hcl, stp⟩
  · cases hv
    rw [h0] at hz hk
    obtain ⟨t2, a1, b1⟩ := hq p e s m args below meth c T'.heap (locs ++ L) la hc (VS.call hS (by rw [e1]; exact hz) (fun q x y => by rw [e1]; exact hk q x y) hL) (hB.call (by rw [e1]; exact hz) (fun q x y => by rw [e1]; exact hk q x y)) (by rw [e1]; exact hR') hl hck hsk T' rfl X'
    exact ⟨t2, stp t2 a1, b1⟩
  · rw [h0] at hz hk
    obtain ⟨t2, a1, b1⟩ := hq p e s m args below meth c T'.heap (locs ++ L) la r ce hc (VS.call hS (by rw [e1]; exact hz) (fun q x y => by rw [e1]; exact hk q x y) hL) (hB.call (by rw [e1]; exact hz) (fun q x y => by rw [e1]; exact hk q x y)) (by rw [e1]; exact hR') hl hck hsk (by rw [e1]; exact hce) hvm hcl T' rfl X'
    exact ⟨t2, stp.trans a1, b1⟩
theorem x_run5 {a : Array Value} (hck : ck + mc' ≤ mc) (hsk : sk + ms' ≤ ms)
    (hrun : ∀ (p : Program) (e : Env) (s : State) (m : MethodId) (args : Array Value) (below : List Frame) (meth : Method) (c : Code) (H : Heap) (locs : List Loc) (la : Array Slot), Cx w M p e s m args meth c → BR w s H → HR w h H → la.size = M.2.2.1 →
      vx_Run5 p (wL w) e (rmm d mc ms) s m args below meth c H locs ck sk mc' ms' (F0 m pc la st) r (QcO w (Kc w M d mc ms pc 5 ls r (ck + mc') (sk + ms') Q) a) (XcO w (Kc w M d mc ms pc 5 ls r (ck + mc') (sk + ms') Q)) (fr w)) : X w M d mc ms pc ls st h ck sk Q := by
  intro p e s m args below meth c H locs la hc hS hB hR hl h1 h2 T hT X
  rcases hrun p e s m args below meth c H locs la hc hB hR hl.2.1 T hT X with ⟨v, st₀, t, T', L, h0, X', hL, e1, e2, ⟨⟨hz, hk⟩, v', h', hv, hR', hq⟩, stp⟩ | ⟨q, st₀, t, T', L, E, ce, h0, X', hL, e1, e2, ⟨⟨hz, hk⟩, h', hR', hq⟩, hce, hvm, hcl, stp⟩
  · cases hv
    rw [h0] at hz hk
    obtain ⟨t2, a1, b1⟩ := hq p e s m args below meth c T'.heap (locs ++ L) la hc (VS.call hS (by rw [e1]; exact hz) (fun q x y => by rw [e1]; exact hk q x y) hL) (hB.call (by rw [e1]; exact hz) (fun q x y => by rw [e1]; exact hk q x y)) (by rw [e1]; exact hR') hl hck hsk T' rfl X'
    exact ⟨t2, stp t2 a1, b1⟩
  · rw [h0] at hz hk
    obtain ⟨t2, a1, b1⟩ := hq p e s m args below meth c T'.heap (locs ++ L) la r ce hc (VS.call hS (by rw [e1]; exact hz) (fun q x y => by rw [e1]; exact hk q x y) hL) (hB.call (by rw [e1]; exact hz) (fun q x y => by rw [e1]; exact hk q x y)) (by rw [e1]; exact hR') hl hck hsk (by rw [e1]; exact hce) hvm hcl T' rfl X'
    exact ⟨t2, stp.trans a1, b1⟩
theorem room_of (hd : d' < d) (hM : M'.2.2.1 ≤ 41) : (rmm d' mc' ms').frames + 1 ≤ (rmm d mc ms).frames ∧ 8 + (M'.2.2.1 + 11) + (rmm d' mc' ms').locals ≤ (rmm d mc ms).locals := by
  show d' + 40 + 1 ≤ d + 40 ∧ 8 + (M'.2.2.1 + 11) + (60 * d' + 20000) ≤ 60 * d + 20000
  omega
theorem preS {s : State} {H : Heap} {bs : List Value} (hSR : SR w s) (hB : BR w s H) (hR : HR w h H) : PreS s H (fun v U => v = bs.toArray ∧ SR w U ∧ BR w U U.heap ∧ HR w h U.heap) bs :=
  ⟨Call.blind, fun U hU hW => ⟨rfl, hSR.warm hW, by rw [hU]; exact hB.warm hW.alike, by rw [hU]; exact hR⟩⟩
theorem preV {s : State} {H : Heap} {b ci : Nat} {fs : List Value} {C : String} {T : u_T} {N : Nat} (hSR : SR w s) (hB : BR w s H) (hR : HR w h H) (hrec : rd w h b = some (ob ci fs)) (hcx : cxL[ci]? = some (C, T, N)) : PreV s H C b (fun v U => v = (Value.ref b :: As).toArray ∧ SR w U ∧ BR w U U.heap ∧ HR w h U.heap) As :=
  ⟨Call.blind, recv_ob hSR hB hR hrec hcx, fun U hU hW => ⟨rfl, hSR.warm hW, by rw [hU]; exact hB.warm hW.alike, by rw [hU]; exact hR⟩⟩
theorem x_callS (hd : decode M.2.1 pc = .ok (.invokestatic idx, 3)) (hh : M'.2.2.2.2 = []) (hG : GoodIn lw_all (va_wsS M.1.cls idx M'.1 (mwords M'))) (hok : MdOK M' n) (hn : As.length = n) (hst : st = As.reverse ++ r) (hc8 : cat8 r) (hdd : d' < d) (hck : ck + mc' ≤ mc) (hsk : sk + ms' ≤ ms) (hC : Call w d' mc' ms' M' As h (Kc w M d mc ms pc 3 ls r (ck + mc') (sk + ms') Q)) : X w M d mc ms pc ls st h ck sk Q := by
  have hw : mwords M' = Jvm.Cond.code M'.1 M'.2.1 M'.2.2.1 M'.2.2.2.1 :: lw_all := by unfold mwords; rw [hh]
  refine x_run (r := r) (a := As.toArray) hck hsk fun p e s m args below meth c H locs la hc hB hR hla => ?_
  exact vx_runS (As := As) (rest := r) ⟨hc.1, hc.2.1, hc.2.2.1, hc.2.2.2.2.2.1, hc.2.2.2.2.2.2.2.1⟩ hC (va_cwS n hc.2.2.2.2.2.2.2.1 hG hw rfl rfl hok.1 (room_of hdd hok.2)) (preS hc.2.2.2.2.2.2.2.2.2.2.2 hB hR) rfl hn hla hst (lv_room hc8) hd ⟨hck, hsk⟩
theorem x_callSX {q : Nat × Nat × Nat × Nat} {hs : List (Nat × Nat × Nat × Nat)} (hd : decode M.2.1 pc = .ok (.invokestatic idx, 3)) (hh : M'.2.2.2.2 = q :: hs) (hG : GoodIn lw_all (va_wsS M.1.cls idx M'.1 (mwords M'))) (hok : MdOK M' n) (hn : As.length = n) (hst : st = As.reverse ++ r) (hc8 : cat8 r) (hdd : d' < d) (hck : ck + mc' ≤ mc) (hsk : sk + ms' ≤ ms) (hC : Call w d' mc' ms' M' As h (Kc w M d mc ms pc 3 ls r (ck + mc') (sk + ms') Q)) : X w M d mc ms pc ls st h ck sk Q := by
  have hw : mwords M' = Jvm.Cond.codeWith M'.1 M'.2.1 M'.2.2.1 M'.2.2.2.1 (q :: hs) :: lw_all := by unfold mwords; rw [hh]
  refine x_run (r := r) (a := As.toArray) hck hsk fun p e s m args below meth c H locs la hc hB hR hla => ?_
  exact vx_runSX (As := As) (rest := r) ⟨hc.1, hc.2.1, hc.2.2.1, hc.2.2.2.2.2.1, hc.2.2.2.2.2.2.2.1⟩ hC (vx_cwSW n hc.2.2.2.2.2.2.2.1 hG hw rfl rfl hok.1 (room_of hdd hok.2)) (preS hc.2.2.2.2.2.2.2.2.2.2.2 hB hR) rfl hn hla hst (lv_room hc8) hd ⟨hck, hsk⟩
theorem x_callV {b ci : Nat} {fs : List Value} {T : u_T} {N : Nat} (hd : decode M.2.1 pc = .ok (.invokevirtual idx, 3)) (hh : M'.2.2.2.2 = []) (hG : GoodIn lw_all (wsV M.1.cls idx M'.1.cls M'.1 (mwords M'))) (hok : MdOK M' n) (hn : As.length = n) (hst : st = As.reverse ++ .ref b :: r) (hc8 : cat8 r) (hrec : rd w h b = some (ob ci fs)) (hcx : cxL[ci]? = some (M'.1.cls, T, N)) (hdd : d' < d) (hck : ck + mc' ≤ mc) (hsk : sk + ms' ≤ ms) (hC : Call w d' mc' ms' M' (.ref b :: As) h (Kc w M d mc ms pc 3 ls r (ck + mc') (sk + ms') Q)) : X w M d mc ms pc ls st h ck sk Q := by
  have hw : mwords M' = Jvm.Cond.code M'.1 M'.2.1 M'.2.2.1 M'.2.2.2.1 :: lw_all := by unfold mwords; rw [hh]
  refine x_run (r := r) (a := (Value.ref b :: As).toArray) hck hsk fun p e s m args below meth c H locs la hc hB hR hla => ?_
  exact vx_runV (As := As) (rest := r) ⟨hc.1, hc.2.1, hc.2.2.1, hc.2.2.2.2.2.1, hc.2.2.2.2.2.2.2.1⟩ hC (cwV n hc.2.2.2.2.2.2.2.1 hG hw rfl rfl ⟨rfl, hok.1⟩ (room_of hdd hok.2)) (preV hc.2.2.2.2.2.2.2.2.2.2.2 hB hR hrec hcx) rfl hn hla hst (lv_room hc8) hd ⟨hck, hsk⟩
theorem x_callVX {q : Nat × Nat × Nat × Nat} {hs : List (Nat × Nat × Nat × Nat)} {b ci : Nat} {fs : List Value} {T : u_T} {N : Nat} (hd : decode M.2.1 pc = .ok (.invokevirtual idx, 3)) (hh : M'.2.2.2.2 = q :: hs) (hG : GoodIn lw_all (wsV M.1.cls idx M'.1.cls M'.1 (mwords M'))) (hok : MdOK M' n) (hn : As.length = n) (hst : st = As.reverse ++ .ref b :: r) (hc8 : cat8 r) (hrec : rd w h b = some (ob ci fs)) (hcx : cxL[ci]? = some (M'.1.cls, T, N)) (hdd : d' < d) (hck : ck + mc' ≤ mc) (hsk : sk + ms' ≤ ms) (hC : Call w d' mc' ms' M' (.ref b :: As) h (Kc w M d mc ms pc 3 ls r (ck + mc') (sk + ms') Q)) : X w M d mc ms pc ls st h ck sk Q := by
  have hw : mwords M' = Jvm.Cond.codeWith M'.1 M'.2.1 M'.2.2.1 M'.2.2.2.1 (q :: hs) :: lw_all := by unfold mwords; rw [hh]
  refine x_run (r := r) (a := (Value.ref b :: As).toArray) hck hsk fun p e s m args below meth c H locs la hc hB hR hla => ?_
  exact vx_runVX (As := As) (rest := r) ⟨hc.1, hc.2.1, hc.2.2.1, hc.2.2.2.2.2.1, hc.2.2.2.2.2.2.2.1⟩ hC (vx_cwVW n hc.2.2.2.2.2.2.2.1 hG hw rfl rfl ⟨rfl, hok.1⟩ (room_of hdd hok.2)) (preV hc.2.2.2.2.2.2.2.2.2.2.2 hB hR hrec hcx) rfl hn hla hst (lv_room hc8) hd ⟨hck, hsk⟩
/-- a method that the receiver's class inherits, or overrides: the reference names x -/
theorem x_callU {b ci : Nat} {fs : List Value} {C : String} {T : u_T} {N : Nat} {x : MethodName} (hd : decode M.2.1 pc = .ok (.invokevirtual idx, 3)) (hh : M'.2.2.2.2 = []) (hG : GoodIn lw_all (va_wsU M.1.cls idx C M'.1.cls x M'.1 (mwords M'))) (hyx : M'.1 = ⟨M'.1.cls, x.name, x.desc⟩) (hok : MdOK M' n) (hn : As.length = n) (hst : st = As.reverse ++ .ref b :: r) (hc8 : cat8 r) (hrec : rd w h b = some (ob ci fs)) (hcx : cxL[ci]? = some (C, T, N)) (hdd : d' < d) (hck : ck + mc' ≤ mc) (hsk : sk + ms' ≤ ms) (hC : Call w d' mc' ms' M' (.ref b :: As) h (Kc w M d mc ms pc 3 ls r (ck + mc') (sk + ms') Q)) : X w M d mc ms pc ls st h ck sk Q := by
  have hw : mwords M' = Jvm.Cond.code M'.1 M'.2.1 M'.2.2.1 M'.2.2.2.1 :: lw_all := by unfold mwords; rw [hh]
  have hx : x.desc = M'.1.desc := by rw [hyx]
  refine x_run (r := r) (a := (Value.ref b :: As).toArray) hck hsk fun p e s m args below meth c H locs la hc hB hR hla => ?_
  exact vx_runU (As := As) (rest := r) ⟨hc.1, hc.2.1, hc.2.2.1, hc.2.2.2.2.2.1, hc.2.2.2.2.2.2.2.1⟩ hC (va_cwU n hc.2.2.2.2.2.2.2.1 hG hw rfl rfl hyx ⟨hok.1.1, hok.1.2.1, by rw [hx]; exact hok.1.2.2⟩ (room_of hdd hok.2)) (preV hc.2.2.2.2.2.2.2.2.2.2.2 hB hR hrec hcx) rfl hn hla hst (lv_room hc8) hd ⟨hck, hsk⟩
theorem x_callO {b ci : Nat} {fs : List Value} {C owner : String} {T : u_T} {N : Nat} {x : MethodName} {b0 : ByteArray} {m0 : Nat} {r0 : Option FieldType} (hd : decode M.2.1 pc = .ok (.invokevirtual idx, 3)) (hh : M'.2.2.2.2 = []) (hG : GoodIn lw_all (va_wsO M.1.cls idx C owner x M'.1 (mwords M'))) (h0 : Jvm.Cond.code ⟨owner, x.name, x.desc⟩ b0 m0 r0 ∈ lw_all) (ho : owner ≠ "java/lang/invoke/MethodHandle" ∧ owner ≠ "java/lang/invoke/VarHandle") (hx : x.desc = M'.1.desc) (hok : MdOK M' n) (hn : As.length = n) (hst : st = As.reverse ++ .ref b :: r) (hc8 : cat8 r) (hrec : rd w h b = some (ob ci fs)) (hcx : cxL[ci]? = some (C, T, N)) (hdd : d' < d) (hck : ck + mc' ≤ mc) (hsk : sk + ms' ≤ ms) (hC : Call w d' mc' ms' M' (.ref b :: As) h (Kc w M d mc ms pc 3 ls r (ck + mc') (sk + ms') Q)) : X w M d mc ms pc ls st h ck sk Q := by
  have hw : mwords M' = Jvm.Cond.code M'.1 M'.2.1 M'.2.2.1 M'.2.2.2.1 :: lw_all := by unfold mwords; rw [hh]
  refine x_run (r := r) (a := (Value.ref b :: As).toArray) hck hsk fun p e s m args below meth c H locs la hc hB hR hla => ?_
  exact vx_runU (As := As) (rest := r) ⟨hc.1, hc.2.1, hc.2.2.1, hc.2.2.2.2.2.1, hc.2.2.2.2.2.2.2.1⟩ hC (va_cwO n hc.2.2.2.2.2.2.2.1 hG hw rfl rfl h0 ⟨ho.1, ho.2, by rw [hx]; exact hok.1.2.2⟩ (room_of hdd hok.2)) (preV hc.2.2.2.2.2.2.2.2.2.2.2 hB hR hrec hcx) rfl hn hla hst (lv_room hc8) hd ⟨hck, hsk⟩
/-- a constructor -/
theorem x_callI {b : Nat} (hd : decode M.2.1 pc = .ok (.invokespecial idx, 3)) (hh : M'.2.2.2.2 = []) (hr : M'.2.2.2.1 = none) (hnm : M'.1.name = "<init>") (hl : Jvm.Cond.methodLink M.1.cls idx M'.1 ∈ lw_all) (hin : Jvm.Cond.instanceMethod M'.1 ∈ lw_all) (hini : Jvm.Cond.initialized M'.1.cls ∈ lw_all) (hG : GoodIn lw_all (mwords M')) (hok : MdOK M' n) (hn : As.length = n) (hst : st = As.reverse ++ .ref b :: r) (hc8 : cat8 r) (hdd : d' < d) (hck : ck + mc' ≤ mc) (hsk : sk + ms' ≤ ms) (hC : Call w d' mc' ms' M' (.ref b :: As) h (Kc w M d mc ms pc 3 ls r (ck + mc') (sk + ms') Q)) : X w M d mc ms pc ls st h ck sk Q := by
  have hw : mwords M' = Jvm.Cond.code M'.1 M'.2.1 M'.2.2.1 none :: lw_all := by unfold mwords; rw [hh, hr]
  refine x_run (r := r) (a := (Value.ref b :: As).toArray) hck hsk fun p e s m args below meth c H locs la hc hB hR hla => ?_
  have hts := hc.2.2.2.2.2.2.2.1
  exact vx_runI (As := As) (rest := r) ⟨hc.1, hc.2.1, hc.2.2.1, hc.2.2.2.2.2.1, hts⟩ hC (cwI n hts hG hw rfl rfl (hts _ hini) (hts _ hl) (hts _ hin) hnm hok.1 (room_of hdd hok.2)) (preS hc.2.2.2.2.2.2.2.2.2.2.2 hB hR) rfl hn hla hst (lv_room hc8) hd ⟨hck, hsk⟩
/-- private methods of nest mates -/
theorem x_callSN {host : String} (hd : decode M.2.1 pc = .ok (.invokestatic idx, 3)) (hh : M'.2.2.2.2 = []) (hl : Jvm.Cond.methodLinkNest M.1.cls idx M'.1 host ∈ lw_tbl) (hs : Jvm.Cond.static M'.1 ∈ lw_all) (hini : Jvm.Cond.initialized M'.1.cls ∈ lw_all) (hG : GoodIn lw_all (mwords M')) (hok : MdOK M' n) (hn : As.length = n) (hst : st = As.reverse ++ r) (hc8 : cat8 r) (hdd : d' < d) (hck : ck + mc' ≤ mc) (hsk : sk + ms' ≤ ms) (hC : Call w d' mc' ms' M' As h (Kc w M d mc ms pc 3 ls r (ck + mc') (sk + ms') Q)) : X w M d mc ms pc ls st h ck sk Q := by
  have hw : mwords M' = Jvm.Cond.code M'.1 M'.2.1 M'.2.2.1 M'.2.2.2.1 :: lw_all := by unfold mwords; rw [hh]
  refine x_run (r := r) (a := As.toArray) hck hsk fun p e s m args below meth c H locs la hc hB hR hla => ?_
  have hts := hc.2.2.2.2.2.2.2.1
  have hSR := hc.2.2.2.2.2.2.2.2.2.2.2
  exact vx_runSN (As := As) (rest := r) ⟨hc.1, hc.2.1, hc.2.2.1, hc.2.2.2.2.2.1, hts⟩ hC ⟨va_cnB n hts hG hw rfl rfl (hSR.2.2.1 _ hl rfl) (hts _ hini) hok.1 (room_of hdd hok.2), hts _ hs, trivial⟩ (preS hSR hB hR) rfl hn hla hst (lv_room hc8) hd ⟨hck, hsk⟩
theorem x_callVN {host : String} {b ci : Nat} {fs : List Value} {T : u_T} {N : Nat} (hd : decode M.2.1 pc = .ok (.invokevirtual idx, 3)) (hh : M'.2.2.2.2 = []) (hl : Jvm.Cond.methodLinkNest M.1.cls idx M'.1 host ∈ lw_tbl) (hin : Jvm.Cond.instanceMethod M'.1 ∈ lw_all) (hsel : Jvm.Cond.selects M'.1.cls M'.1 M'.1 ∈ lw_all) (hini : Jvm.Cond.initialized M'.1.cls ∈ lw_all) (hG : GoodIn lw_all (mwords M')) (hok : MdOK M' n) (hn : As.length = n) (hst : st = As.reverse ++ .ref b :: r) (hc8 : cat8 r) (hrec : rd w h b = some (ob ci fs)) (hcx : cxL[ci]? = some (M'.1.cls, T, N)) (hdd : d' < d) (hck : ck + mc' ≤ mc) (hsk : sk + ms' ≤ ms) (hC : Call w d' mc' ms' M' (.ref b :: As) h (Kc w M d mc ms pc 3 ls r (ck + mc') (sk + ms') Q)) : X w M d mc ms pc ls st h ck sk Q := by
  have hw : mwords M' = Jvm.Cond.code M'.1 M'.2.1 M'.2.2.1 M'.2.2.2.1 :: lw_all := by unfold mwords; rw [hh]
  refine x_run (r := r) (a := (Value.ref b :: As).toArray) hck hsk fun p e s m args below meth c H locs la hc hB hR hla => ?_
  have hts := hc.2.2.2.2.2.2.2.1
  have hSR := hc.2.2.2.2.2.2.2.2.2.2.2
  exact vx_runVN (C := M'.1.cls) (As := As) (rest := r) ⟨hc.1, hc.2.1, hc.2.2.1, hc.2.2.2.2.2.1, hts⟩ hC ⟨va_cnB n hts hG hw rfl rfl (hSR.2.2.1 _ hl rfl) (hts _ hini) hok.1 (room_of hdd hok.2), hts _ hin, hts _ hsel⟩ (preV hSR hB hR hrec hcx) rfl hn hla hst (lv_room hc8) hd ⟨hck, hsk⟩
theorem x_callIN {host : String} {b : Nat} (hd : decode M.2.1 pc = .ok (.invokespecial idx, 3)) (hh : M'.2.2.2.2 = []) (hr : M'.2.2.2.1 = none) (hnm : M'.1.name = "<init>") (hl : Jvm.Cond.methodLinkNest M.1.cls idx M'.1 host ∈ lw_tbl) (hin : Jvm.Cond.instanceMethod M'.1 ∈ lw_all) (hini : Jvm.Cond.initialized M'.1.cls ∈ lw_all) (hG : GoodIn lw_all (mwords M')) (hok : MdOK M' n) (hn : As.length = n) (hst : st = As.reverse ++ .ref b :: r) (hc8 : cat8 r) (hdd : d' < d) (hck : ck + mc' ≤ mc) (hsk : sk + ms' ≤ ms) (hC : Call w d' mc' ms' M' (.ref b :: As) h (Kc w M d mc ms pc 3 ls r (ck + mc') (sk + ms') Q)) : X w M d mc ms pc ls st h ck sk Q := by
  have hw : mwords M' = Jvm.Cond.code M'.1 M'.2.1 M'.2.2.1 none :: lw_all := by unfold mwords; rw [hh, hr]
  refine x_run (r := r) (a := (Value.ref b :: As).toArray) hck hsk fun p e s m args below meth c H locs la hc hB hR hla => ?_
  have hts := hc.2.2.2.2.2.2.2.1
  have hSR := hc.2.2.2.2.2.2.2.2.2.2.2
  exact vx_runIN (As := As) (rest := r) ⟨hc.1, hc.2.1, hc.2.2.1, hc.2.2.2.2.2.1, hts⟩ hC ⟨va_cnB n hts hG hw rfl rfl (hSR.2.2.1 _ hl rfl) (hts _ hini) hok.1 (room_of hdd hok.2), hnm, hts _ hin⟩ (preS hSR hB hR) rfl hn hla hst (lv_room hc8) hd ⟨hck, hsk⟩
/-- super.m(..) -/
theorem x_callSU {b ci : Nat} {fs : List Value} {C : String} {T : u_T} {N : Nat} (hd : decode M.2.1 pc = .ok (.invokespecial idx, 3)) (hh : M'.2.2.2.2 = []) (hG : GoodIn lw_all (va_wsSU M.1.cls idx M'.1 (mwords M'))) (hnm : M'.1.name ≠ "<init>") (hok : MdOK M' n) (hn : As.length = n) (hst : st = As.reverse ++ .ref b :: r) (hc8 : cat8 r) (hrec : rd w h b = some (ob ci fs)) (hcx : cxL[ci]? = some (C, T, N)) (hdd : d' < d) (hck : ck + mc' ≤ mc) (hsk : sk + ms' ≤ ms) (hC : Call w d' mc' ms' M' (.ref b :: As) h (Kc w M d mc ms pc 3 ls r (ck + mc') (sk + ms') Q)) : X w M d mc ms pc ls st h ck sk Q := by
  have hw : mwords M' = Jvm.Cond.code M'.1 M'.2.1 M'.2.2.1 M'.2.2.2.1 :: lw_all := by unfold mwords; rw [hh]
  refine x_run (r := r) (a := (Value.ref b :: As).toArray) hck hsk fun p e s m args below meth c H locs la hc hB hR hla => ?_
  have hSR := hc.2.2.2.2.2.2.2.2.2.2.2
  exact vx_runSU (As := As) (rest := r) (hSR.2.1.1 ci _ hcx).2 ⟨hc.1, hc.2.1, hc.2.2.1, hc.2.2.2.2.2.1, hc.2.2.2.2.2.2.2.1⟩ hC (va_cwSU n hc.2.2.2.2.2.2.2.1 hG hw rfl rfl ⟨hnm, hok.1.2.2⟩ (room_of hdd hok.2)) (preV hSR hB hR hrec hcx) rfl hn hla hst (lv_room hc8) hd ⟨hck, hsk⟩
/-- by an interface -/
theorem x_callF {cnt b ci : Nat} {fs : List Value} {T : u_T} {N : Nat} {C : String} {x : MethodName} (hd : decode M.2.1 pc = .ok (.invokeinterface idx cnt, 5)) (hh : M'.2.2.2.2 = []) (hG : GoodIn lw_all (va_wsF M.1.cls idx C x M'.1 (mwords M'))) (hx : x.cls ≠ "java/lang/invoke/MethodHandle" ∧ x.cls ≠ "java/lang/invoke/VarHandle") (hxd : x.desc = M'.1.desc)
    (f1 : Jvm.Cond.declares x ∈ lw_tbl) (f2 : Jvm.Cond.interfaceMethod x.cls x.cls x.name x.desc ∈ lw_tbl) (f3 : Jvm.Cond.publicMethod M'.1 ∈ lw_tbl) (f4 : Jvm.Cond.unhidden C x.name x.desc ∈ lw_tbl) (f5 : Jvm.Cond.castable C x.cls ∈ lw_tbl)
    (hok : MdOK M' n) (hn : As.length = n) (hst : st = As.reverse ++ .ref b :: r) (hc8 : cat8 r) (hrec : rd w h b = some (ob ci fs)) (hcx : cxL[ci]? = some (C, T, N)) (hdd : d' < d) (hck : ck + mc' ≤ mc) (hsk : sk + ms' ≤ ms) (hC : Call w d' mc' ms' M' (.ref b :: As) h (Kc w M d mc ms pc 5 ls r (ck + mc') (sk + ms') Q)) : X w M d mc ms pc ls st h ck sk Q := by
  have hw : mwords M' = Jvm.Cond.code M'.1 M'.2.1 M'.2.2.1 M'.2.2.2.1 :: lw_all := by unfold mwords; rw [hh]
  refine x_run5 (r := r) (a := (Value.ref b :: As).toArray) hck hsk fun p e s m args below meth c H locs la hc hB hR hla => ?_
  have hSR := hc.2.2.2.2.2.2.2.2.2.2.2
  exact vx_runF (As := As) (rest := r) (hSR.2.1.1 ci _ hcx).2 ⟨hc.1, hc.2.1, hc.2.2.1, hc.2.2.2.2.2.1, hc.2.2.2.2.2.2.2.1⟩ hC (va_cwF n hc.2.2.2.2.2.2.2.1 hG hw rfl rfl (hSR.2.2.2.2.1 C x M'.1 hx f1 f2 f3 f4 f5) ⟨hx.1, hx.2, by rw [hxd]; exact hok.1.2.2⟩ (room_of hdd hok.2)) (preV hSR hB hR hrec hcx) rfl hn hla hst (lv_room hc8) hd ⟨hck, hsk⟩
/-- Object.<init> -/
theorem x_objInit {b : Nat} (hd : decode M.2.1 pc = .ok (.invokespecial idx, 3)) (hl : Jvm.Cond.methodLink M.1.cls idx objectInit ∈ lw_all) (hin : Jvm.Cond.instanceMethod objectInit ∈ lw_all) (hco : Jvm.Cond.code objectInit ⟨#[0xb1]⟩ 1 none ∈ lw_all) (hst : st = .ref b :: r) (hc8 : cat8 r) (hd0 : 0 < d) (K : X w M d mc ms (pc + 3) ls r h ck sk Q) : X w M d mc ms pc ls st h ck sk Q := by
  intro p e s m args below meth c H locs la hc hS hB hR hl' h1 h2
  have hts := hc.2.2.2.2.2.2.2.1
  subst hst
  refine W.objInit hc.1 hc.2.1 hc.2.2.2.2.2.1 (hts _ hl) (hts _ hin) (hts _ hco) rfl (by rw [hc.2.2.1]; exact hl'.2.1) rfl hd (by show 1 ≤ d + 40; omega) (by have h9 := lv_room (m := m) (pc := pc) (ls := la) (rest := .ref b :: r) hc8; show _ ≤ 60 * d + 20000; omega) ?_
  exact W.eq (g2 := F0 m (pc + 3) la r) rfl (K p e s m args below meth c H locs la hc hS hB hR hl' h1 h2)
/-- exceptions: handed on, caught -/
theorem x_out {E : String} {q : Nat} (hout : ∀ z ∈ tableOf M.2.2.2.2, covers z pc = false ∨ (z.catchType ≠ 0 ∧ ∃ nm : String, Jvm.Cond.classLink M.1.cls z.catchType nm ∈ lw_all ∧ (E, nm) ∈ ncL)) (hQ : Q (.inr (E, q)) h) : XT w M d mc ms pc ls E q h ck sk Q := by
  intro p e s m args below meth c H locs la rest ce hc hS hB hR hl h1 h2 hce hv hcl
  have hSR := hc.2.2.2.2.2.2.2.2.2.2.2
  exact vx_outP hc.2.2.2.2.2.1 hc.2.2.2.2.1 (fun z hz => by
    rw [hc.2.2.2.2.2.2.2.2.1] at hz
    rcases hout z hz with h | ⟨a, nm, b, c⟩
    · exact Or.inl h
    · exact Or.inr ⟨a, nm, hc.2.2.2.2.2.2.2.1 _ b, hSR.2.2.2.1 _ c⟩) hce hv hcl (fun t ht hA => ⟨hS.F ht, h, by rw [ht]; exact hR, hQ⟩) hS.2.2 h1 h2
theorem x_catch {E nm : String} {q : Nat} (pre : List ExceptionTableEntry) (x : ExceptionTableEntry) (suf : List ExceptionTableEntry) (hsplit : tableOf M.2.2.2.2 = pre ++ x :: suf)
    (hpass : ∀ z ∈ pre, covers z pc = false ∨ (z.catchType ≠ 0 ∧ ∃ nm : String, Jvm.Cond.classLink M.1.cls z.catchType nm ∈ lw_all ∧ (E, nm) ∈ ncL)) (hx : covers x pc = true) (h0 : x.catchType ≠ 0) (hlink : Jvm.Cond.classLink M.1.cls x.catchType nm ∈ lw_all) (hcast : Jvm.Cond.castable E nm ∈ lw_tbl)
    (K : X w M d mc ms x.handlerPc ls [.ref q] h ck sk Q) : XT w M d mc ms pc ls E q h ck sk Q := by
  intro p e s m args below meth c H locs la rest ce hc hS hB hR hl h1 h2 hce hv hcl
  have hSR := hc.2.2.2.2.2.2.2.2.2.2.2
  have hts := hc.2.2.2.2.2.2.2.1
  exact vx_catch hc.2.2.2.2.2.1 pre x suf (hc.2.2.2.2.2.2.2.2.1.trans hsplit) (fun z hz => by
    rcases hpass z hz with h | ⟨a, nm, b, c⟩
    · exact Or.inl h
    · exact Or.inr ⟨a, nm, hts _ b, hSR.2.2.2.1 _ c⟩) hx h0 (hts _ hlink) (va_Nw.use rfl (hSR.2.2.1 _ hcast rfl)) hce hv hcl (K p e s m args below meth c H locs la hc hS hB hR hl h1 h2)
end RUN
