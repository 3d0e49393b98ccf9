def lamS0 : MethodName × Nat × Nat × Jvm.Lambda.Shape := (({ cls := "CornerClaims", name := "variable", desc := "(Ljava/lang/String;)LCornerClaims$Score;" } : Jvm.MethodName), (164 : Nat), (37 : Nat), ({ iface := "CornerClaims$Score", name := "of", sam := ({ parameters := [Jvm.ClassFile.FieldType.int, Jvm.ClassFile.FieldType.int, Jvm.ClassFile.FieldType.int, Jvm.ClassFile.FieldType.int, Jvm.ClassFile.FieldType.int], returnType := (Option.some Jvm.ClassFile.FieldType.long) } : Jvm.ClassFile.MethodDescriptor), captured := [], kind := 6, implClass := "CornerClaims", implName := "lambda$variable$1", implDesc := ({ parameters := [Jvm.ClassFile.FieldType.int, Jvm.ClassFile.FieldType.int, Jvm.ClassFile.FieldType.int, Jvm.ClassFile.FieldType.int, Jvm.ClassFile.FieldType.int], returnType := (Option.some Jvm.ClassFile.FieldType.long) } : Jvm.ClassFile.MethodDescriptor), implItf := false, inst := ({ parameters := [Jvm.ClassFile.FieldType.int, Jvm.ClassFile.FieldType.int, Jvm.ClassFile.FieldType.int, Jvm.ClassFile.FieldType.int, Jvm.ClassFile.FieldType.int], returnType := (Option.some Jvm.ClassFile.FieldType.long) } : Jvm.ClassFile.MethodDescriptor) } : Jvm.Lambda.Shape))
def lamS1 : MethodName × Nat × Nat × Jvm.Lambda.Shape := (({ cls := "CornerClaims", name := "variable", desc := "(Ljava/lang/String;)LCornerClaims$Score;" } : Jvm.MethodName), (170 : Nat), (40 : Nat), ({ iface := "CornerClaims$Score", name := "of", sam := ({ parameters := [Jvm.ClassFile.FieldType.int, Jvm.ClassFile.FieldType.int, Jvm.ClassFile.FieldType.int, Jvm.ClassFile.FieldType.int, Jvm.ClassFile.FieldType.int], returnType := (Option.some Jvm.ClassFile.FieldType.long) } : Jvm.ClassFile.MethodDescriptor), captured := [], kind := 6, implClass := "CornerClaims", implName := "lambda$variable$2", implDesc := ({ parameters := [Jvm.ClassFile.FieldType.int, Jvm.ClassFile.FieldType.int, Jvm.ClassFile.FieldType.int, Jvm.ClassFile.FieldType.int, Jvm.ClassFile.FieldType.int], returnType := (Option.some Jvm.ClassFile.FieldType.long) } : Jvm.ClassFile.MethodDescriptor), implItf := false, inst := ({ parameters := [Jvm.ClassFile.FieldType.int, Jvm.ClassFile.FieldType.int, Jvm.ClassFile.FieldType.int, Jvm.ClassFile.FieldType.int, Jvm.ClassFile.FieldType.int], returnType := (Option.some Jvm.ClassFile.FieldType.long) } : Jvm.ClassFile.MethodDescriptor) } : Jvm.Lambda.Shape))
def lamS2 : MethodName × Nat × Nat × Jvm.Lambda.Shape := (({ cls := "CornerClaims", name := "variable", desc := "(Ljava/lang/String;)LCornerClaims$Score;" } : Jvm.MethodName), (176 : Nat), (41 : Nat), ({ iface := "CornerClaims$Score", name := "of", sam := ({ parameters := [Jvm.ClassFile.FieldType.int, Jvm.ClassFile.FieldType.int, Jvm.ClassFile.FieldType.int, Jvm.ClassFile.FieldType.int, Jvm.ClassFile.FieldType.int], returnType := (Option.some Jvm.ClassFile.FieldType.long) } : Jvm.ClassFile.MethodDescriptor), captured := [], kind := 6, implClass := "CornerClaims", implName := "lambda$variable$3", implDesc := ({ parameters := [Jvm.ClassFile.FieldType.int, Jvm.ClassFile.FieldType.int, Jvm.ClassFile.FieldType.int, Jvm.ClassFile.FieldType.int, Jvm.ClassFile.FieldType.int], returnType := (Option.some Jvm.ClassFile.FieldType.long) } : Jvm.ClassFile.MethodDescriptor), implItf := false, inst := ({ parameters := [Jvm.ClassFile.FieldType.int, Jvm.ClassFile.FieldType.int, Jvm.ClassFile.FieldType.int, Jvm.ClassFile.FieldType.int, Jvm.ClassFile.FieldType.int], returnType := (Option.some Jvm.ClassFile.FieldType.long) } : Jvm.ClassFile.MethodDescriptor) } : Jvm.Lambda.Shape))
def lamS3 : MethodName × Nat × Nat × Jvm.Lambda.Shape := (({ cls := "CornerClaims", name := "variable", desc := "(Ljava/lang/String;)LCornerClaims$Score;" } : Jvm.MethodName), (182 : Nat), (42 : Nat), ({ iface := "CornerClaims$Score", name := "of", sam := ({ parameters := [Jvm.ClassFile.FieldType.int, Jvm.ClassFile.FieldType.int, Jvm.ClassFile.FieldType.int, Jvm.ClassFile.FieldType.int, Jvm.ClassFile.FieldType.int], returnType := (Option.some Jvm.ClassFile.FieldType.long) } : Jvm.ClassFile.MethodDescriptor), captured := [], kind := 6, implClass := "CornerClaims", implName := "lambda$variable$4", implDesc := ({ parameters := [Jvm.ClassFile.FieldType.int, Jvm.ClassFile.FieldType.int, Jvm.ClassFile.FieldType.int, Jvm.ClassFile.FieldType.int, Jvm.ClassFile.FieldType.int], returnType := (Option.some Jvm.ClassFile.FieldType.long) } : Jvm.ClassFile.MethodDescriptor), implItf := false, inst := ({ parameters := [Jvm.ClassFile.FieldType.int, Jvm.ClassFile.FieldType.int, Jvm.ClassFile.FieldType.int, Jvm.ClassFile.FieldType.int, Jvm.ClassFile.FieldType.int], returnType := (Option.some Jvm.ClassFile.FieldType.long) } : Jvm.ClassFile.MethodDescriptor) } : Jvm.Lambda.Shape))
def lamS4 : MethodName × Nat × Nat × Jvm.Lambda.Shape := (({ cls := "CornerClaims", name := "variable", desc := "(Ljava/lang/String;)LCornerClaims$Score;" } : Jvm.MethodName), (188 : Nat), (43 : Nat), ({ iface := "CornerClaims$Score", name := "of", sam := ({ parameters := [Jvm.ClassFile.FieldType.int, Jvm.ClassFile.FieldType.int, Jvm.ClassFile.FieldType.int, Jvm.ClassFile.FieldType.int, Jvm.ClassFile.FieldType.int], returnType := (Option.some Jvm.ClassFile.FieldType.long) } : Jvm.ClassFile.MethodDescriptor), captured := [], kind := 6, implClass := "CornerClaims", implName := "lambda$variable$5", implDesc := ({ parameters := [Jvm.ClassFile.FieldType.int, Jvm.ClassFile.FieldType.int, Jvm.ClassFile.FieldType.int, Jvm.ClassFile.FieldType.int, Jvm.ClassFile.FieldType.int], returnType := (Option.some Jvm.ClassFile.FieldType.long) } : Jvm.ClassFile.MethodDescriptor), implItf := false, inst := ({ parameters := [Jvm.ClassFile.FieldType.int, Jvm.ClassFile.FieldType.int, Jvm.ClassFile.FieldType.int, Jvm.ClassFile.FieldType.int, Jvm.ClassFile.FieldType.int], returnType := (Option.some Jvm.ClassFile.FieldType.long) } : Jvm.ClassFile.MethodDescriptor) } : Jvm.Lambda.Shape))
def lamS5 : MethodName × Nat × Nat × Jvm.Lambda.Shape := (({ cls := "CornerClaims", name := "operation", desc := "(ILCornerClaims$Score;LCornerClaims$Score;)LCornerClaims$Score;" } : Jvm.MethodName), (3 : Nat), (13 : Nat), ({ iface := "CornerClaims$Score", name := "of", sam := ({ parameters := [Jvm.ClassFile.FieldType.int, Jvm.ClassFile.FieldType.int, Jvm.ClassFile.FieldType.int, Jvm.ClassFile.FieldType.int, Jvm.ClassFile.FieldType.int], returnType := (Option.some Jvm.ClassFile.FieldType.long) } : Jvm.ClassFile.MethodDescriptor), captured := [(Jvm.ClassFile.FieldType.object "CornerClaims$Score"), (Jvm.ClassFile.FieldType.object "CornerClaims$Score"), Jvm.ClassFile.FieldType.int], kind := 6, implClass := "CornerClaims", implName := "lambda$operation$0", implDesc := ({ parameters := [(Jvm.ClassFile.FieldType.object "CornerClaims$Score"), (Jvm.ClassFile.FieldType.object "CornerClaims$Score"), Jvm.ClassFile.FieldType.int, Jvm.ClassFile.FieldType.int, Jvm.ClassFile.FieldType.int, Jvm.ClassFile.FieldType.int, Jvm.ClassFile.FieldType.int, Jvm.ClassFile.FieldType.int], returnType := (Option.some Jvm.ClassFile.FieldType.long) } : Jvm.ClassFile.MethodDescriptor), implItf := false, inst := ({ parameters := [Jvm.ClassFile.FieldType.int, Jvm.ClassFile.FieldType.int, Jvm.ClassFile.FieldType.int, Jvm.ClassFile.FieldType.int, Jvm.ClassFile.FieldType.int], returnType := (Option.some Jvm.ClassFile.FieldType.long) } : Jvm.ClassFile.MethodDescriptor) } : Jvm.Lambda.Shape))
def lamS6 : MethodName × Nat × Nat × Jvm.Lambda.Shape := (({ cls := "CornerClaims$Parser", name := "factor", desc := "()LCornerClaims$Score;" } : Jvm.MethodName), (93 : Nat), (104 : Nat), ({ iface := "CornerClaims$Score", name := "of", sam := ({ parameters := [Jvm.ClassFile.FieldType.int, Jvm.ClassFile.FieldType.int, Jvm.ClassFile.FieldType.int, Jvm.ClassFile.FieldType.int, Jvm.ClassFile.FieldType.int], returnType := (Option.some Jvm.ClassFile.FieldType.long) } : Jvm.ClassFile.MethodDescriptor), captured := [Jvm.ClassFile.FieldType.long], kind := 6, implClass := "CornerClaims$Parser", implName := "lambda$factor$0", implDesc := ({ parameters := [Jvm.ClassFile.FieldType.long, Jvm.ClassFile.FieldType.int, Jvm.ClassFile.FieldType.int, Jvm.ClassFile.FieldType.int, Jvm.ClassFile.FieldType.int, Jvm.ClassFile.FieldType.int], returnType := (Option.some Jvm.ClassFile.FieldType.long) } : Jvm.ClassFile.MethodDescriptor), implItf := false, inst := ({ parameters := [Jvm.ClassFile.FieldType.int, Jvm.ClassFile.FieldType.int, Jvm.ClassFile.FieldType.int, Jvm.ClassFile.FieldType.int, Jvm.ClassFile.FieldType.int], returnType := (Option.some Jvm.ClassFile.FieldType.long) } : Jvm.ClassFile.MethodDescriptor) } : Jvm.Lambda.Shape))
/-- the sites of lambdas: method, pc, pool entry, shape -/
def lamL : List (MethodName × Nat × Nat × Jvm.Lambda.Shape) := [lamS0, lamS1, lamS2, lamS3, lamS4, lamS5, lamS6]
/-! ===== CORE: mini heaps over the machine's heap ===== -/
/-- a cell: an object (class by its place in cxL, fields), an array (element type, contents), or an object of a lambda's class (site, captured values) -/
abbrev MC : Type := (Nat × List Value) ⊕ ((FieldType × vp_A) ⊕ (Nat × List Value))
abbrev MH : Type := Nat → Option MC
abbrev Out : Type := Option Value ⊕ (String × Nat)
abbrev ob (ci : Nat) (fs : List Value) : MC := .inl (ci, fs)
abbrev aI (ty : FieldType) (n : Nat) (f : Nat → Int32) : MC := .inr (.inl (ty, (n, .inl f)))
abbrev aL (n : Nat) (f : Nat → Int64) : MC := .inr (.inl (.long, (n, .inr (.inl f))))
abbrev aQ (ty : FieldType) (n : Nat) (f : Nat → Option Nat) : MC := .inr (.inl (ty, (n, .inr (.inr (.inr (.inr f))))))
abbrev lam (k : Nat) (cs : List Value) : MC := .inr (.inr (k, cs))
/-- launch; heap size at the law's start; old cells that are read; class ids; array class ids; lambda class ids; addresses; addresses of String constants -/
abbrev Wd : Type := Launch × Nat × MH × va_G × (FieldType → ClassId) × (Nat → ClassId) × (Nat → Nat) × (String → Nat)
abbrev wL (w : Wd) : Launch := w.1
abbrev wN (w : Wd) : Nat := w.2.1
abbrev wRo (w : Wd) : MH := w.2.2.1
abbrev wD (w : Wd) : va_G := w.2.2.2.1
abbrev wA (w : Wd) : FieldType → ClassId := w.2.2.2.2.1
abbrev wC (w : Wd) : Nat → ClassId := w.2.2.2.2.2.1
abbrev wM (w : Wd) : Nat → Nat := w.2.2.2.2.2.2.1
abbrev wS (w : Wd) : String → Nat := w.2.2.2.2.2.2.2
def fr (w : Wd) : Nat → Prop := fun q => wN w ≤ q
def rd (w : Wd) (h : MH) (a : Nat) : Option MC := if a < wN w then wRo w a else h a
def cxL : List vw_C := [(RX1, TX1, 5), (RX2, TX2, 2), (RX3, TX3, 6), (RX4, TX4, 20), (RX5, TX5, 7), (RX6, TX6, 8), (RX7, TX7, 2), (RX8, TX8, 3), (RJ1, TJ1, 3), (RJ3, TJ3, 8), (RJ5, TJ5, 3), (RJ6, TJ6, 4), (RJ15, TJ15, 4), (RJ20, TJ20, 1), (RJ24, TJ24, 4), (RJ26, TJ26, 11)]
def tyL : List FieldType := [.int, .byte, .long, .object "java/lang/Object", .object "java/util/HashMap$Node", .array .int, .object "java/lang/Integer"]
def cellAt (w : Wd) (a : Nat) (c : MC) (H : Heap) : Prop := match c with
  | .inl o => va_at (wD w) cxL (a, .inr o) H
  | .inr (.inl t) => t.1 ∈ tyL ∧ va_at (wD w) cxL (a, .inl (wA w t.1, t.2)) H
  | .inr (.inr k) => H[a]? = some { cls := wC w k.1, slots := k.2.toArray, vm := .none }
theorem cellAt.kept {w : Wd} {a : Nat} {c : MC} {H H1 : Heap} (h : cellAt w a c H) (hq : H1[a]? = H[a]?) : cellAt w a c H1 := by
  match c, h with
  | .inl o, h => exact va_at.kept (show va_at (wD w) cxL (a, .inr o) H from h) hq
  | .inr (.inl t), h => exact ⟨h.1, va_at.kept (show va_at (wD w) cxL (a, .inl (wA w t.1, t.2)) H from h.2) hq⟩
  | .inr (.inr k), h => exact (show H1[a]? = _ by rw [hq]; exact h)
theorem cellAt.lt {w : Wd} {a : Nat} {c : MC} {H : Heap} (h : cellAt w a c H) : a < H.size := by
  match c, h with
  | .inl o, h => exact va_at.lt (show va_at (wD w) cxL (a, .inr o) H from h)
  | .inr (.inl t), h => exact va_at.lt (show va_at (wD w) cxL (a, .inl (wA w t.1, t.2)) H from h.2)
  | .inr (.inr k), h => exact (Array.getElem?_eq_some_iff.mp h).1
/-- a lambda's site is linked, to a class of the machine's making -/
def lamOK (x : MethodName) (pc index : Nat) (σ : Jvm.Lambda.Shape) (c : ClassId) (lk : Linked) (U : State) : Prop :=
  ∃ (m : MethodId) (k : Class) (cf : ClassFile) (i0 p0 : Nat), U.methodNamed? x = some m ∧ U.vm.classes[m.cls]? = some k ∧ k.cf = some cf ∧ Jvm.Lambda.shapeOf? cf index = some σ ∧ (m.idx, pc, index, σ) ∈ Jvm.Lambda.sitesOf k ∧
    (k.callSites.find? fun y => y.1 == m.idx && y.2.1 == pc) = some (i0, p0, lk) ∧ Jvm.Lambda.isMade { classPath := fun _ => none } U.vm m.cls σ c = true ∧ U.lambdaCallable σ c = true
theorem lamOK.warm {x : MethodName} {pc index : Nat} {σ : Jvm.Lambda.Shape} {c : ClassId} {lk : Linked} {s U : State} (hW : s.WarmedH U.vm) (h : lamOK x pc index σ c lk s) : lamOK x pc index σ c lk U := by
  obtain ⟨m, kc, cf, i0, p0, hm, hk, hcf, hsh, hin, hfind, hmade, hcall⟩ := h
  have hA := hW.alike
  have hcall' : U.lambdaCallable σ c = true := by
    simp only [State.lambdaCallable, hA.findClass, hA.assignable, hA.superclasses, hA.declaredIn] at hcall ⊢
    exact hcall
  obtain ⟨kc', hk', he⟩ := hA.2.2 _ _ hk
  have hm' : U.methodNamed? x = some m := by
    have := State.methodNamed?_setVm (s := s) hA x
    rw [hm] at this
    exact this
  have hmade' := Jvm.Lambda.isMade_warmer hW hmade
  exact ⟨m, kc', cf, i0, p0, hm', hk', by rw [he]; exact hcf, hsh, by rw [he]; exact hin, by rw [he]; exact hfind, hmade', hcall'⟩
/-- words that don't ride in the lists, by kind -/
def nestW (c : Jvm.Cond) : Bool := match c with
  | .fieldLinkNest _ _ _ _ _ _ => true
  | .methodLinkNest _ _ _ _ => true
  | .castable _ _ => true
  | .declares _ => true
  | _ => false
def ncL : List (String × String) := [("java/lang/IllegalArgumentException", "java/util/NoSuchElementException"), ("java/lang/IllegalArgumentException", "java/lang/IndexOutOfBoundsException"), ("java/util/NoSuchElementException", "java/lang/IndexOutOfBoundsException"), ("java/lang/IllegalStateException", "java/lang/IndexOutOfBoundsException"), ("java/lang/IllegalStateException", "java/lang/IllegalArgumentException"), ("java/util/HashMap$Node", "java/util/HashMap$TreeNode")]
def sL : List (String × Nat × String) := [("CornerClaims$Layout", 26, "area"), ("CornerClaims$Layout", 34, "stones"), ("CornerClaims", 23, "area"), ("CornerClaims", 29, "stones"), ("CornerClaims", 31, "corners"), ("CornerClaims", 33, "dents"), ("CornerClaims", 35, "inner"), ("CornerClaims$Parser", 212, "field"), ("CornerClaims$Parser", 193, "stone"), ("CornerClaims$Parser", 198, "polygon"), ("CornerClaims$Parser", 200, "score"),
  ("CornerClaimsModel", 249, "field"), ("CornerClaimsModel", 226, "stone"), ("CornerClaimsModel", 231, "polygon"), ("CornerClaimsModel", 236, "score"), ("CornerClaimsModel", 183, "area"), ("CornerClaimsModel", 189, "stones"), ("CornerClaimsModel", 191, "corners"), ("CornerClaimsModel", 193, "dents"), ("CornerClaimsModel", 195, "inner")]
/-- statics that are read -/
def zL (w : Wd) : List (String × String × String × Value) := [("java/lang/Integer$IntegerCache", "high", "I", .int 127), ("java/lang/Integer$IntegerCache", "cache", "[Ljava/lang/Integer;", .ref (wM w 100)), ("java/lang/String", "COMPACT_STRINGS", "Z", .int 1), ("java/util/HashMap$TreeNode", "$assertionsDisabled", "Z", .int 1),
  ("java/util/ArrayList", "DEFAULTCAPACITY_EMPTY_ELEMENTDATA", "[Ljava/lang/Object;", .ref (wM w 101)), ("jdk/internal/util/ArraysSupport", "LOG2_ARRAY_BYTE_INDEX_SCALE", "I", .int 0), ("java/lang/StringUTF16", "$assertionsDisabled", "Z", .int 1), ("java/lang/StringUTF16", "HI_BYTE_SHIFT", "I", .int 0), ("java/lang/StringUTF16", "LO_BYTE_SHIFT", "I", .int 8), ("jdk/internal/util/Preconditions", "SIOOBE_FORMATTER", "Ljava/util/function/BiFunction;", .ref (wM w 102))]
/-- the class of the arrays of arrays of int -/
def aoI (U : State) : Prop := (Cond.arrayOver (.array .int)).before #[] U = true
theorem aoI.moved {u U : State} (hvm : u.vm.Alike U.vm) (h : aoI u) : aoI U := by
  obtain ⟨comp, c, k, h1, h2, h3, h4, h5⟩ := arrayOverA_spec h
  obtain ⟨k', hk', he⟩ := hvm.2.2 _ _ h3
  have hi : (U.vm.classes.findIdx? fun (x : Class) => match x.kind with | .array component _ => component == comp | _ => false) = some c := by
    refine (va_idx_bare U.vm comp).symm.trans ?_
    first | rw [hvm.bare_eq] | rw [← hvm.bare_eq]
    exact (va_idx_bare u.vm comp).trans h2
  have hkind : k'.kind = .array comp (.array .int) := by rw [he]; exact h4
  have f1 : U.vm.findClass (FieldType.array .int).toString = some comp := by rw [hvm.findClass]; exact h1
  have f2 : U.vm.findClass ("[" ++ (FieldType.array .int).toString) = some c := by rw [hvm.findClass]; exact h5
  unfold aoI Cond.before Cond.holds
  simp only [Cond.value]
  rw [f1, Option.bind_some]
  refine (congrArg (fun o : Option Nat => (o.bind (fun c => (U.vm.classes[c]?).map fun (k : Class) => match k.kind with | .array _ ty => decide (ty = FieldType.array .int) && decide (U.vm.findClass ("[" ++ (FieldType.array .int).toString) = some c) | _ => false) == some true)) hi).trans ?_
  simp [hk', hkind, f2]
/-- what the machine's tables say, all through the run -/
def SR (w : Wd) (U : State) : Prop := (wL w).stackTraces = false ∧ va_K (wD w) cxL (tyL.map fun ty => (wA w ty, ty)) U ∧ (∀ c ∈ lw_tbl, nestW c = true → va_Nw c U) ∧ (∀ q ∈ ncL, va_Nc q.1 q.2 U) ∧
  (∀ (C : String) (x y : MethodName), (x.cls ≠ "java/lang/invoke/MethodHandle" ∧ x.cls ≠ "java/lang/invoke/VarHandle") → Jvm.Cond.declares x ∈ lw_tbl → Jvm.Cond.interfaceMethod x.cls x.cls x.name x.desc ∈ lw_tbl → Jvm.Cond.publicMethod y ∈ lw_tbl → Jvm.Cond.unhidden C x.name x.desc ∈ lw_tbl → Jvm.Cond.castable C x.cls ∈ lw_tbl → va_Fw C x y U) ∧
  ((∀ C : String, Jvm.Cond.arrayOver (.object C) ∈ lw_tbl → va_AO C U) ∧ aoI U) ∧ (∀ q ∈ sL, vk_R q.1 q.2.1 q.2.2 (wS w q.2.2) U) ∧
  (∀ (i : Nat) (q : MethodName × Nat × Nat × Jvm.Lambda.Shape), lamL[i]? = some q → lamOK q.1 q.2.1 q.2.2.1 q.2.2.2 (wC w i) (if q.2.2.2.captured = [] then .constant (wM w i) else .makes (wC w i)) U)
theorem SR.warm {w : Wd} {s U : State} (hW : s.WarmedH U.vm) (h : SR w s) : SR w U := by
  obtain ⟨h0, h1, h2, h3, h4, h5, h6, h7⟩ := h
  have hA := hW.alike
  refine ⟨h0, va_K.moved hA h1, ?_, fun q hq => (h3 q hq).moved hA, fun C x y hx a b c d e => (h4 C x y hx a b c d e).moved hx hA, ⟨fun C hC => (h5.1 C hC).moved hA, h5.2.moved hA⟩, fun q hq => (h6 q hq).warm hW, fun i q hq => (h7 i q hq).warm hW⟩
  intro c hc hn
  have h := h2 c hc hn
  revert h hn
  cases c <;> intro hn h <;> first | exact va_Nw.warmF hW h | exact va_Nw.warmM hW h | exact va_Nw.warmC hW h | exact va_Nw.warmD hW h | (exfalso; revert hn; simp [nestW])
/-- what the old cells hold, all through the run -/
def BR (w : Wd) (U : State) (H : Heap) : Prop := wN w ≤ H.size ∧ (∀ a c, a < wN w → wRo w a = some c → cellAt w a c H) ∧ (∀ q ∈ zL w, va_Z q.1 q.2.1 q.2.2.1 q.2.2.2 (fr w) U H) ∧ vx_Zq Bundle.tN "UNASSIGNED_STACK" Bundle.steD (fr w) U H ∧ vx_Zq Bundle.tN "SUPPRESSED_SENTINEL" Bundle.listD (fr w) U H
theorem BR.warm {w : Wd} {s U : State} {H : Heap} (hA : s.vm.Alike U.vm) (h : BR w s H) : BR w U H :=
  ⟨h.1, h.2.1, fun q hq => (h.2.2.1 q hq).moved hA, h.2.2.2.1.moved hA, h.2.2.2.2.moved hA⟩
theorem BR.kept {w : Wd} {U : State} {H H1 : Heap} (h : BR w U H) (hs : wN w ≤ H1.size) (hq : ∀ q, q < wN w → H1[q]? = H[q]?) : BR w U H1 := by
  have hk : ∀ a : Nat, a < H.size → ¬ fr w a → H1[a]? = H[a]? := fun a _ ha => hq a (Nat.not_le.mp ha)
  exact ⟨hs, fun a c ha hc => (h.2.1 a c ha hc).kept (hq a ha), fun q hz => (h.2.2.1 q hz).kept hk, h.2.2.2.1.kept hk, h.2.2.2.2.kept hk⟩
/-- the mini heap is the machine's, so far as it says anything -/
def HR (w : Wd) (h : MH) (H : Heap) : Prop := ∀ a c, wN w ≤ a → h a = some c → cellAt w a c H
theorem HR.look {w : Wd} {U : State} {h : MH} {H : Heap} (hB : BR w U H) (hR : HR w h H) {a : Nat} {c : MC} (hc : rd w h a = some c) : cellAt w a c H := by
  unfold rd at hc
  split at hc
  · exact hB.2.1 a c (by assumption) hc
  · exact hR a c (by omega) hc
/-! ===== the judgement X: from here the method comes to an end with Q ===== -/
/-- a method: name, code, locals, answer, handlers -/
abbrev Md : Type := MethodName × ByteArray × Nat × Option FieldType × List (Nat × Nat × Nat × Nat)
def mwords (M : Md) : List Jvm.Cond := (match M.2.2.2.2 with
  | [] => Jvm.Cond.code M.1 M.2.1 M.2.2.1 M.2.2.2.1
  | q :: r => Jvm.Cond.codeWith M.1 M.2.1 M.2.2.1 M.2.2.2.1 (q :: r)) :: lw_all
def rmm (d mc ms : Nat) : Room := { frames := d + 40, cells := mc, slots := ms, locals := 60 * d + 20000 }
def QcO (w : Wd) (Q : Out → MH → Prop) : Array Value → State → Outcome → State → Prop := fun _ st o t => va_F (fr w) st t ∧ ∃ (v : Option Value) (h' : MH), o = .returned v ∧ HR w h' t.heap ∧ Q (.inl v) h'
def XcO (w : Wd) (Q : Out → MH → Prop) : String → Nat → State → State → Prop := fun E q st t => va_F (fr w) st t ∧ ∃ h' : MH, HR w h' t.heap ∧ Q (.inr (E, q)) h'
/-- a call of M with these arguments in this heap ends with Q; depth d, cells mc, slots ms at most -/
def Call (w : Wd) (d mc ms : Nat) (M : Md) (as : List Value) (h : MH) (Q : Out → MH → Prop) : Prop :=
  vx_Met (wL w) M.1 (mwords M) (rmm d mc ms) (fun v U => v = as.toArray ∧ SR w U ∧ BR w U U.heap ∧ HR w h U.heap) (QcO w Q) (XcO w Q) mc ms (fr w)
theorem SR.call {w : Wd} {U : State} {g : JFrame} {mk : MethodId} {a : Array Value} (h : SR w U) : SR w (U.calling g mk a) := SR.warm (s := U) (U := U.calling g mk a) (State.WarmedH.refl U) h
theorem Call.blind {w : Wd} {as : List Value} {h : MH} : FrameBlind (fun v U => v = as.toArray ∧ SR w U ∧ BR w U U.heap ∧ HR w h U.heap) := by
  intro a U g mk ⟨h1, h2, h3, h4⟩
  exact ⟨h1, h2.call, BR.warm (s := U) (Vm.Alike.refl U.vm) h3, h4⟩
/-- the locals by place -/
def lg : List (Option Value) → Nat → Option Value
  | [], _ => none
  | x :: _, 0 => x
  | _ :: r, n + 1 => lg r n
def cl2 : Option Value → Option Value
  | some (.long _) => none
  | some (.double _) => none
  | x => x
def stL1 : List (Option Value) → Nat → Value → List (Option Value)
  | [], _, _ => []
  | _ :: r, 0, v => some v :: r
  | x :: r, n + 1, v => (match n with | 0 => cl2 x | _ => x) :: stL1 r n v
def clrN : List (Option Value) → Nat → List (Option Value)
  | [], _ => []
  | _ :: r, 0 => none :: r
  | x :: r, n + 1 => x :: clrN r n
def stL2 (ls : List (Option Value)) (i : Nat) (v : Value) : List (Option Value) := clrN (stL1 ls i v) (i + 1)
theorem stL1_len (ls : List (Option Value)) (i : Nat) (v : Value) : (stL1 ls i v).length = ls.length := by
  induction ls generalizing i with
  | nil => rfl
  | cons x r ih =>
    cases i with
    | zero => rfl
    | succ n => simp [stL1, ih]
theorem clrN_len (ls : List (Option Value)) (i : Nat) : (clrN ls i).length = ls.length := by
  induction ls generalizing i with
  | nil => rfl
  | cons x r ih =>
    cases i with
    | zero => rfl
    | succ n => simp [clrN, ih]
theorem cl2_some {x : Option Value} {u : Value} (h : cl2 x = some u) : x = some u ∧ ¬ u.category = 2 := by
  unfold cl2 at h
  split at h
  · cases h
  · cases h
  · subst h
    refine ⟨rfl, ?_⟩
    rename_i h1 h2
    cases u <;> simp [Value.category] <;> first | exact absurd rfl (h1 _) | exact absurd rfl (h2 _)
theorem lg_stL1 (ls : List (Option Value)) (i k : Nat) (v u : Value) (h : lg (stL1 ls i v) k = some u) : (k = i ∧ u = v) ∨ (k ≠ i ∧ lg ls k = some u ∧ ¬ (k + 1 = i ∧ u.category = 2)) := by
  induction ls generalizing i k with
  | nil => simp [stL1, lg] at h
  | cons x r ih =>
    cases i with
    | zero =>
      cases k with
      | zero => simp only [stL1, lg, Option.some.injEq] at h; exact Or.inl ⟨rfl, h.symm⟩
      | succ k => simp only [stL1, lg] at h; exact Or.inr ⟨by omega, h, by omega⟩
    | succ n =>
      cases k with
      | zero =>
        simp only [stL1, lg] at h
        cases n with
        | zero =>
          obtain ⟨h1, h2⟩ := cl2_some h
          exact Or.inr ⟨by omega, h1, fun q => h2 q.2⟩
        | succ n => exact Or.inr ⟨by omega, h, by omega⟩
      | succ k =>
        simp only [stL1, lg] at h
        rcases ih n k h with ⟨h1, h2⟩ | ⟨h1, h2, h3⟩
        · exact Or.inl ⟨by omega, h2⟩
        · exact Or.inr ⟨by omega, h2, fun q => h3 ⟨by omega, q.2⟩⟩
theorem lg_clrN (ls : List (Option Value)) (i k : Nat) (u : Value) (h : lg (clrN ls i) k = some u) : k ≠ i ∧ lg ls k = some u := by
  induction ls generalizing i k with
  | nil => simp [clrN, lg] at h
  | cons x r ih =>
    cases i with
    | zero =>
      cases k with
      | zero => simp [clrN, lg] at h
      | succ k => exact ⟨by omega, h⟩
    | succ n =>
      cases k with
      | zero => exact ⟨by omega, h⟩
      | succ k =>
        obtain ⟨h1, h2⟩ := ih n k h
        exact ⟨by omega, h2⟩
def lvA (ls : List (Option Value)) : List (Nat × Value) := (List.range ls.length).filterMap fun k => (lg ls k).map fun v => (k, v)
theorem lg_len {ls : List (Option Value)} {k : Nat} {v : Value} (h : lg ls k = some v) : k < ls.length := by
  induction ls generalizing k with
  | nil => simp [lg] at h
  | cons x r ih =>
    cases k with
    | zero => simp
    | succ k => have := ih h; simp; omega
theorem lvA_mem {ls : List (Option Value)} {q : Nat × Value} : q ∈ lvA ls ↔ lg ls q.1 = some q.2 := by
  unfold lvA
  rw [List.mem_filterMap]
  constructor
  · rintro ⟨k, -, h⟩
    cases hk : lg ls k with
    | none => rw [hk] at h; cases h
    | some v => rw [hk] at h; cases h; exact hk
  · intro h
    exact ⟨q.1, List.mem_range.mpr (lg_len h), by rw [h]; rfl⟩
/-- the machine's locals hold the listed ones -/
def LV (la : Array Slot) (nL : Nat) (ls : List (Option Value)) : Prop := ls.length = nL ∧ lv_has la nL (lvA ls)
theorem LV.at {la : Array Slot} {nL : Nat} {ls : List (Option Value)} (h : LV la nL ls) {k : Nat} {v : Value} (hv : lg ls k = some v) : la[k]? = some (.val v) := h.2.2.2 (k, v) (lvA_mem.mpr hv)
theorem LV.to1 {la' : Array Slot} {nL i : Nat} {ls : List (Option Value)} {v : Value} (hl : ls.length = nL) (h : lv_has la' nL ((i, v) :: (lvA ls).filter (fun q => !(q.1 == i) && !(q.1 + 1 == i && q.2.category == 2)))) : LV la' nL (stL1 ls i v) := by
  refine ⟨by rw [stL1_len]; exact hl, h.1, h.2.1, fun q hq => h.2.2 q ?_⟩
  rcases lg_stL1 _ _ _ _ _ (lvA_mem.mp hq) with ⟨h1, h2⟩ | ⟨h1, h2, h3⟩
  · obtain ⟨a, b⟩ := q
    simp only at h1 h2
    subst h1; subst h2
    exact List.mem_cons_self
  · refine List.mem_cons_of_mem _ (List.mem_filter.mpr ⟨lvA_mem.mpr h2, ?_⟩)
    simp only [Bool.and_eq_true, Bool.not_eq_true', beq_eq_false_iff_ne, ne_eq, Bool.and_eq_false_iff]
    refine ⟨h1, ?_⟩
    by_cases hk : q.1 + 1 = i
    · exact Or.inr fun hc => h3 ⟨hk, hc⟩
    · exact Or.inl hk
theorem LV.to2 {la' : Array Slot} {nL i : Nat} {ls : List (Option Value)} {v : Value} (hl : ls.length = nL) (h : lv_has la' nL ((i, v) :: (lvA ls).filter (fun q => !(q.1 == i) && (!(q.1 == i + 1) && !(q.1 + 1 == i && q.2.category == 2))))) : LV la' nL (stL2 ls i v) := by
  refine ⟨by unfold stL2; rw [clrN_len, stL1_len]; exact hl, h.1, h.2.1, fun q hq => h.2.2 q ?_⟩
  obtain ⟨g1, g2⟩ := lg_clrN _ _ _ _ (lvA_mem.mp hq)
  rcases lg_stL1 _ _ _ _ _ g2 with ⟨h1, h2⟩ | ⟨h1, h2, h3⟩
  · obtain ⟨a, b⟩ := q
    simp only at h1 h2
    subst h1; subst h2
    exact List.mem_cons_self
  · refine List.mem_cons_of_mem _ (List.mem_filter.mpr ⟨lvA_mem.mpr h2, ?_⟩)
    simp only [Bool.and_eq_true, Bool.not_eq_true', beq_eq_false_iff_ne, ne_eq, Bool.and_eq_false_iff]
    refine ⟨h1, g1, ?_⟩
    by_cases hk : q.1 + 1 = i
    · exact Or.inr fun hc => h3 ⟨hk, hc⟩
    · exact Or.inl hk
/-- what a method's body knows -/
def Cx (w : Wd) (M : Md) (p : Program) (e : Env) (s : State) (m : MethodId) (args : Array Value) (meth : Method) (c : Code) : Prop :=
  p.tables.exec = Jvm.exec ∧ c.code = M.2.1 ∧ c.maxLocals = M.2.2.1 ∧ meth.sig.returnType = M.2.2.2.1 ∧ meth.locks = false ∧ s.vm.findClass M.1.cls = some m.cls ∧ meth.name = M.1.name ∧ (∀ v ∈ lw_all, v.before args s = true) ∧ c.exceptionTable.toList = tableOf M.2.2.2.2 ∧ (wL w).admits e ∧ s.methodNamed? M.1 = some m ∧ SR w s
def X (w : Wd) (M : Md) (d mc ms pc : Nat) (ls : List (Option Value)) (st : List Value) (h : MH) (ck sk : Nat) (Q : Out → MH → Prop) : Prop :=
  ∀ (p : Program) (e : Env) (s : State) (m : MethodId) (args : Array Value) (below : List Frame) (meth : Method) (c : Code) (H : Heap) (locs : List Loc) (la : Array Slot),
    Cx w M p e s m args meth c → va_S (fr w) s.heap H locs → BR w s H → HR w h H → LV la M.2.2.1 ls → ck ≤ mc → sk ≤ ms →
    W p (wL w) e (rmm d mc ms) s m args below meth c H locs ck sk (vx_MQ below (QcO w Q) (XcO w Q) args s mc ms (fr w)) (F0 m pc la st)
/-- an exception of class E, object q, on its way at pc -/
def XT (w : Wd) (M : Md) (d mc ms pc : Nat) (ls : List (Option Value)) (E : String) (q : Nat) (h : MH) (ck sk : Nat) (Q : Out → MH → Prop) : Prop :=
  ∀ (p : Program) (e : Env) (s : State) (m : MethodId) (args : Array Value) (below : List Frame) (meth : Method) (c : Code) (H : Heap) (locs : List Loc) (la : Array Slot) (rest : List Value) (ce : Cell),
    Cx w M p e s m args meth c → va_S (fr w) s.heap H locs → BR w s H → HR w h H → LV la M.2.2.1 ls → ck ≤ mc → sk ≤ ms → H[q]? = some ce → ce.vm = .none → s.vm.findClass E = some ce.cls →
    vx_W p (wL w) e (rmm d mc ms) s m args below meth c H locs ck sk (vx_MQ below (QcO w Q) (XcO w Q) args s mc ms (fr w)) (F0 m pc la rest) q
/-! numbers -/
def iZ (z : Int) : Int32 := Int32.ofInt z
def lZ (z : Int) : Int64 := Int64.ofInt z
def bip (n : Int) : Int32 := (Int8.ofInt n).toInt32
def sip (n : Int) : Int32 := (Int16.ofInt n).toInt32
def lcon (n : Fin 2) : Int64 := Int64.ofNat (n : Nat)
def ushr (x y : Int32) : Int32 := (x.toUInt32 >>> (y.toUInt32 &&& Int32.toUInt32 31)).toInt32
