/-! ===== the evaluator: what is left to show, step by step ===== -/
/-- a class's pool: fields; numbers -/
abbrev Pool : Type := List (Nat × (Nat × Nat × FieldType × Option Bool)) × List (Nat × Value)
def POK (own : String) (P : Pool) : Prop := (∀ (i : Nat) (q : Nat × Nat × FieldType × Option Bool), (i, q) ∈ P.1 → FldE own (i, q)) ∧ ∀ (i : Nat) (v : Value), (i, v) ∈ P.2 → LdcOK own i v
def lkp {α : Type} : List (Nat × α) → Nat → Option α
  | [], _ => none
  | q :: r, n => if q.1 = n then some q.2 else lkp r n
theorem lkp_mem {α : Type} {L : List (Nat × α)} {n : Nat} {q : α} (h : lkp L n = some q) : (n, q) ∈ L := by
  induction L with
  | nil => cases h
  | cons x r ih =>
    unfold lkp at h
    split at h
    · rename_i e
      cases h
      obtain ⟨a, b⟩ := x
      cases e
      exact List.mem_cons_self
    · exact List.mem_cons_of_mem _ (ih h)
theorem nrf {p : Prop} (h : p) : p := h
abbrev Kt : Type := Nat → List (Option Value) → List Value → MH → Nat → Nat → Prop
def ldI (o : Option Value) (S : Prop) (K : Kt) (pc : Nat) (ls : List (Option Value)) (st : List Value) (h : MH) (ck sk : Nat) : Prop := match o with
  | some (.int x) => K pc ls (.int x :: st) h ck sk
  | _ => S
def ldL (o : Option Value) (S : Prop) (K : Kt) (pc : Nat) (ls : List (Option Value)) (st : List Value) (h : MH) (ck sk : Nat) : Prop := match o with
  | some (.long x) => K pc ls (.long x :: st) h ck sk
  | _ => S
def ldA (o : Option Value) (S : Prop) (K : Kt) (pc : Nat) (ls : List (Option Value)) (st : List Value) (h : MH) (ck sk : Nat) : Prop := match o with
  | some (.ref x) => K pc ls (.ref x :: st) h ck sk
  | some .null => K pc ls (.null :: st) h ck sk
  | _ => S
def ldJ (o : Option Value) (i : Nat) (n : Int) (S : Prop) (K : Kt) (pc : Nat) (ls : List (Option Value)) (st : List Value) (h : MH) (ck sk : Nat) : Prop := match o with
  | some (.int x) => K pc (stL1 ls i (.int (x + iZ n))) st h ck sk
  | _ => S
section WPH
variable {w : Wd} {M : Md} {o : Option Value} {S : Prop} {K : Kt} {pc : Nat} {ls : List (Option Value)} {st : List Value} {h : MH} {ck sk : Nat}
theorem ldI_or (hw : ldI o S K pc ls st h ck sk) : (∃ x, o = some (.int x) ∧ K pc ls (.int x :: st) h ck sk) ∨ S := by
  unfold ldI at hw
  split at hw
  · exact Or.inl ⟨_, rfl, hw⟩
  · exact Or.inr hw
theorem ldL_or (hw : ldL o S K pc ls st h ck sk) : (∃ x, o = some (.long x) ∧ K pc ls (.long x :: st) h ck sk) ∨ S := by
  unfold ldL at hw
  split at hw
  · exact Or.inl ⟨_, rfl, hw⟩
  · exact Or.inr hw
theorem ldA_or (hw : ldA o S K pc ls st h ck sk) : (∃ x, o = some (.ref x) ∧ K pc ls (.ref x :: st) h ck sk) ∨ (o = some .null ∧ K pc ls (.null :: st) h ck sk) ∨ S := by
  unfold ldA at hw
  split at hw
  · exact Or.inl ⟨_, rfl, hw⟩
  · exact Or.inr (Or.inl ⟨rfl, hw⟩)
  · exact Or.inr (Or.inr hw)
theorem ldJ_or {i : Nat} {n : Int} (hw : ldJ o i n S K pc ls st h ck sk) : (∃ x, o = some (.int x) ∧ K pc (stL1 ls i (.int (x + iZ n))) st h ck sk) ∨ S := by
  unfold ldJ at hw
  split at hw
  · exact Or.inl ⟨_, rfl, hw⟩
  · exact Or.inr hw
theorem ldI_i {x : Int32} : ldI (some (.int x)) S K pc ls st h ck sk = K pc ls (.int x :: st) h ck sk := nrf rfl
theorem ldL_i {x : Int64} : ldL (some (.long x)) S K pc ls st h ck sk = K pc ls (.long x :: st) h ck sk := nrf rfl
theorem ldA_i {x : Nat} : ldA (some (.ref x)) S K pc ls st h ck sk = K pc ls (.ref x :: st) h ck sk := nrf rfl
theorem ldA_n : ldA (some .null) S K pc ls st h ck sk = K pc ls (.null :: st) h ck sk := nrf rfl
theorem ldJ_i {i : Nat} {n : Int} {x : Int32} : ldJ (some (.int x)) i n S K pc ls st h ck sk = K pc (stL1 ls i (.int (x + iZ n))) st h ck sk := nrf rfl
def lgv : List Value → Nat → Option Value
  | [], _ => none
  | x :: _, 0 => some x
  | _ :: r, n + 1 => lgv r n
theorem lgv_eq (l : List Value) (n : Nat) : lgv l n = l[n]? := by
  induction l generalizing n with
  | nil => rfl
  | cons x r ih => cases n with
    | zero => rfl
    | succ n => simp [lgv, ih]
def gfB (o : Option Value) (S : Prop) (K : Kt) (pc : Nat) (ls : List (Option Value)) (st : List Value) (h : MH) (ck sk : Nat) : Prop := match o with
  | some v => K pc ls (v :: st) h ck sk
  | _ => S
def gfA (q : Option (Nat × Nat × FieldType × Option Bool)) (c : Option MC) (S : Prop) (K : Kt) (pc : Nat) (ls : List (Option Value)) (st : List Value) (h : MH) (ck sk : Nat) : Prop := match q, c with
  | some q, some (.inl o) => if o.1 = q.1 then gfB (lgv o.2 q.2.1) S K pc ls st h ck sk else S
  | _, _ => S
theorem gfA_i {ci k : Nat} {ty : FieldType} {fin : Option Bool} {fs : List Value} : gfA (some (ci, k, ty, fin)) (some (ob ci fs)) S K pc ls st h ck sk = gfB (lgv fs k) S K pc ls st h ck sk := nrf (if_pos rfl)
theorem gfB_i {v : Value} : gfB (some v) S K pc ls st h ck sk = K pc ls (v :: st) h ck sk := nrf rfl
theorem gfA_or {q : Option (Nat × Nat × FieldType × Option Bool)} {c : Option MC} (hw : gfA q c S K pc ls st h ck sk) : (∃ (ci k : Nat) (ty : FieldType) (fin : Option Bool) (fs : List Value) (v : Value), q = some (ci, k, ty, fin) ∧ c = some (ob ci fs) ∧ fs[k]? = some v ∧ K pc ls (v :: st) h ck sk) ∨ S := by
  unfold gfA at hw
  split at hw
  · rename_i q o
    obtain ⟨ci, k, ty, fin⟩ := q
    obtain ⟨ci', fs⟩ := o
    split at hw
    · rename_i e
      cases e
      unfold gfB at hw
      split at hw
      · rename_i v hv
        exact Or.inl ⟨_, k, ty, fin, fs, v, rfl, rfl, by rw [← lgv_eq]; exact hv, hw⟩
      · exact Or.inr hw
    · exact Or.inr hw
  · exact Or.inr hw
def pfA (q : Option (Nat × Nat × FieldType × Option Bool)) (c : Option MC) (v : Value) (a : Nat) (w : Wd) (M : Md) (S : Prop) (K : Kt) (pc : Nat) (ls : List (Option Value)) (st : List Value) (h : MH) (ck sk : Nat) : Prop := match q, c with
  | some (ci, k, ty, some fin), some (.inl o) => if o.1 = ci ∧ k < o.2.length then (wN w ≤ a ∧ (fin = true → M.1.name = "<init>") ∧ fitv ty v) ∧ K pc ls st (hset h a (ob o.1 (o.2.set k v))) ck sk else S
  | _, _ => S
theorem pfA_i {ci k : Nat} {ty : FieldType} {fin : Bool} {fs : List Value} {v : Value} {a : Nat} : pfA (some (ci, k, ty, some fin)) (some (ob ci fs)) v a w M S K pc ls st h ck sk = if ci = ci ∧ k < fs.length then (wN w ≤ a ∧ (fin = true → M.1.name = "<init>") ∧ fitv ty v) ∧ K pc ls st (hset h a (ob ci (fs.set k v))) ck sk else S := nrf rfl
theorem pfA_or {q : Option (Nat × Nat × FieldType × Option Bool)} {c : Option MC} {v : Value} {a : Nat} (hw : pfA q c v a w M S K pc ls st h ck sk) : (∃ (ci k : Nat) (ty : FieldType) (fin : Bool) (fs : List Value), q = some (ci, k, ty, some fin) ∧ c = some (ob ci fs) ∧ k < fs.length ∧ wN w ≤ a ∧ (fin = true → M.1.name = "<init>") ∧ fitv ty v ∧ K pc ls st (hset h a (ob ci (fs.set k v))) ck sk) ∨ S := by
  unfold pfA at hw
  split at hw
  · rename_i ci k ty fin o
    obtain ⟨ci', fs⟩ := o
    split at hw
    · rename_i e
      obtain ⟨e1, e2⟩ := e
      cases e1
      exact Or.inl ⟨_, k, ty, fin, fs, rfl, rfl, e2, hw.1.1, hw.1.2.1, hw.1.2.2, hw.2⟩
    · exact Or.inr hw
  · exact Or.inr hw
abbrev ix (i : Int32) : Nat := i.toNatClampNeg
def arI (ty : FieldType) (c : Option MC) (i : Int32) (S : Prop) (K : Kt) (pc : Nat) (ls : List (Option Value)) (st : List Value) (h : MH) (ck sk : Nat) : Prop := match c with
  | some (.inr (.inl (ty', n, .inl f))) => if ty' = ty then vp_in i n ∧ K pc ls (.int (f (ix i)) :: st) h ck sk else S
  | _ => S
theorem arI_i {ty : FieldType} {n : Nat} {f : Nat → Int32} {i : Int32} : arI ty (some (aI ty n f)) i S K pc ls st h ck sk = (vp_in i n ∧ K pc ls (.int (f (ix i)) :: st) h ck sk) := nrf (if_pos rfl)
theorem arI_or {ty : FieldType} {c : Option MC} {i : Int32} (hw : arI ty c i S K pc ls st h ck sk) : (∃ (n : Nat) (f : Nat → Int32), c = some (aI ty n f) ∧ vp_in i n ∧ K pc ls (.int (f (ix i)) :: st) h ck sk) ∨ S := by
  unfold arI at hw
  split at hw
  · split at hw
    · rename_i e
      subst e
      exact Or.inl ⟨_, _, rfl, hw.1, hw.2⟩
    · exact Or.inr hw
  · exact Or.inr hw
def arL (c : Option MC) (i : Int32) (S : Prop) (K : Kt) (pc : Nat) (ls : List (Option Value)) (st : List Value) (h : MH) (ck sk : Nat) : Prop := match c with
  | some (.inr (.inl (.long, n, .inr (.inl f)))) => vp_in i n ∧ K pc ls (.long (f (ix i)) :: st) h ck sk
  | _ => S
theorem arL_i {n : Nat} {f : Nat → Int64} {i : Int32} : arL (some (aL n f)) i S K pc ls st h ck sk = (vp_in i n ∧ K pc ls (.long (f (ix i)) :: st) h ck sk) := nrf rfl
theorem arL_or {c : Option MC} {i : Int32} (hw : arL c i S K pc ls st h ck sk) : (∃ (n : Nat) (f : Nat → Int64), c = some (aL n f) ∧ vp_in i n ∧ K pc ls (.long (f (ix i)) :: st) h ck sk) ∨ S := by
  unfold arL at hw
  split at hw
  · exact Or.inl ⟨_, _, rfl, hw.1, hw.2⟩
  · exact Or.inr hw
def arQ (c : Option MC) (i : Int32) (S : Prop) (K : Kt) (pc : Nat) (ls : List (Option Value)) (st : List Value) (h : MH) (ck sk : Nat) : Prop := match c with
  | some (.inr (.inl (ty, n, .inr (.inr (.inr (.inr f)))))) => if ty.isReference = true then vp_in i n ∧ K pc ls (va_rf (f (ix i)) :: st) h ck sk else S
  | _ => S
theorem arQ_i {C : String} {n : Nat} {f : Nat → Option Nat} {i : Int32} : arQ (some (aQ (.object C) n f)) i S K pc ls st h ck sk = (vp_in i n ∧ K pc ls (va_rf (f (ix i)) :: st) h ck sk) := by
  simp [arQ, FieldType.isReference]
theorem arQ_a {t : FieldType} {n : Nat} {f : Nat → Option Nat} {i : Int32} : arQ (some (aQ (.array t) n f)) i S K pc ls st h ck sk = (vp_in i n ∧ K pc ls (va_rf (f (ix i)) :: st) h ck sk) := by
  simp [arQ, FieldType.isReference]
theorem arQ_or {c : Option MC} {i : Int32} (hw : arQ c i S K pc ls st h ck sk) : (∃ (ty : FieldType) (n : Nat) (f : Nat → Option Nat), c = some (aQ ty n f) ∧ ty.isReference = true ∧ vp_in i n ∧ K pc ls (va_rf (f (ix i)) :: st) h ck sk) ∨ S := by
  unfold arQ at hw
  split at hw
  · split at hw
    · exact Or.inl ⟨_, _, _, rfl, by assumption, hw.1, hw.2⟩
    · exact Or.inr hw
  · exact Or.inr hw
def arN (c : Option MC) (S : Prop) (K : Kt) (pc : Nat) (ls : List (Option Value)) (st : List Value) (h : MH) (ck sk : Nat) : Prop := match c with
  | some (.inr (.inl t)) => K pc ls (.int (iZ t.2.1) :: st) h ck sk
  | _ => S
theorem arN_i {t : FieldType × vp_A} : arN (some (.inr (.inl t))) S K pc ls st h ck sk = K pc ls (.int (iZ t.2.1) :: st) h ck sk := nrf rfl
theorem arN_or {c : Option MC} (hw : arN c S K pc ls st h ck sk) : (∃ t : FieldType × vp_A, c = some (.inr (.inl t)) ∧ K pc ls (.int (iZ t.2.1) :: st) h ck sk) ∨ S := by
  unfold arN at hw
  split at hw
  · exact Or.inl ⟨_, rfl, hw⟩
  · exact Or.inr hw
def asI (ty : FieldType) (c : Option MC) (x i : Int32) (a : Nat) (w : Wd) (S : Prop) (K : Kt) (pc : Nat) (ls : List (Option Value)) (st : List Value) (h : MH) (ck sk : Nat) : Prop := match c with
  | some (.inr (.inl (ty', n, .inl f))) => if ty' = ty then (wN w ≤ a ∧ vp_in i n) ∧ K pc ls st (hset h a (aI ty n (upd f (ix i) x))) ck sk else S
  | _ => S
theorem asI_i {ty : FieldType} {n : Nat} {f : Nat → Int32} {x i : Int32} {a : Nat} : asI ty (some (aI ty n f)) x i a w S K pc ls st h ck sk = ((wN w ≤ a ∧ vp_in i n) ∧ K pc ls st (hset h a (aI ty n (upd f (ix i) x))) ck sk) := nrf (if_pos rfl)
theorem asI_or {ty : FieldType} {c : Option MC} {x i : Int32} {a : Nat} (hw : asI ty c x i a w S K pc ls st h ck sk) : (∃ (n : Nat) (f : Nat → Int32), c = some (aI ty n f) ∧ wN w ≤ a ∧ vp_in i n ∧ K pc ls st (hset h a (aI ty n (upd f (ix i) x))) ck sk) ∨ S := by
  unfold asI at hw
  split at hw
  · split at hw
    · rename_i e
      subst e
      exact Or.inl ⟨_, _, rfl, hw.1.1, hw.1.2, hw.2⟩
    · exact Or.inr hw
  · exact Or.inr hw
def asL (c : Option MC) (x : Int64) (i : Int32) (a : Nat) (w : Wd) (S : Prop) (K : Kt) (pc : Nat) (ls : List (Option Value)) (st : List Value) (h : MH) (ck sk : Nat) : Prop := match c with
  | some (.inr (.inl (.long, n, .inr (.inl f)))) => (wN w ≤ a ∧ vp_in i n) ∧ K pc ls st (hset h a (aL n (vp_updL f (ix i) x))) ck sk
  | _ => S
theorem asL_i {n : Nat} {f : Nat → Int64} {x : Int64} {i : Int32} {a : Nat} : asL (some (aL n f)) x i a w S K pc ls st h ck sk = ((wN w ≤ a ∧ vp_in i n) ∧ K pc ls st (hset h a (aL n (vp_updL f (ix i) x))) ck sk) := nrf rfl
theorem asL_or {c : Option MC} {x : Int64} {i : Int32} {a : Nat} (hw : asL c x i a w S K pc ls st h ck sk) : (∃ (n : Nat) (f : Nat → Int64), c = some (aL n f) ∧ wN w ≤ a ∧ vp_in i n ∧ K pc ls st (hset h a (aL n (vp_updL f (ix i) x))) ck sk) ∨ S := by
  unfold asL at hw
  split at hw
  · exact Or.inl ⟨_, _, rfl, hw.1.1, hw.1.2, hw.2⟩
  · exact Or.inr hw
def lcA (o : Option Value) (n : Nat) (S : Prop) (K : Kt) (pc : Nat) (ls : List (Option Value)) (st : List Value) (h : MH) (ck sk : Nat) : Prop := match o with
  | some v => if v.category = n then K pc ls (v :: st) h ck sk else S
  | none => S
theorem lcA_i {v : Value} {n : Nat} : lcA (some v) n S K pc ls st h ck sk = if v.category = n then K pc ls (v :: st) h ck sk else S := nrf rfl
theorem lcA_or {n : Nat} (hw : lcA o n S K pc ls st h ck sk) : (∃ v, o = some v ∧ v.category = n ∧ K pc ls (v :: st) h ck sk) ∨ S := by
  unfold lcA at hw
  split at hw
  · split at hw
    · exact Or.inl ⟨_, rfl, by assumption, hw⟩
    · exact Or.inr hw
  · exact Or.inr hw
end WPH
def rtI (rt : Option FieldType) (x : Int32) : Prop := match rt with
  | some t => narrow t (.int x) = .int x
  | none => False

def wpI (w : Wd) (M : Md) (d mc ms : Nat) (P : Pool) (rt : Option FieldType) (Q : Out → MH → Prop) (il : Instr × Nat) (pc : Nat) (ls : List (Option Value)) (st : List Value) (h : MH) (ck sk : Nat) (S : Prop) (K : Nat → List (Option Value) → List Value → MH → Nat → Nat → Prop) : Prop := match il with
  | (.iconst n, 1) => K (pc + 1) ls (.int (iZ n) :: st) h ck sk
  | (.bipush n, 2) => K (pc + 2) ls (.int (bip n) :: st) h ck sk
  | (.sipush n, 3) => K (pc + 3) ls (.int (sip n) :: st) h ck sk
  | (.lconst n, 1) => K (pc + 1) ls (.long (lcon n) :: st) h ck sk
  | (.aconst_null, 1) => K (pc + 1) ls (.null :: st) h ck sk
  | (.iload_n k, 1) => ldI (lg ls k.val) S K (pc + 1) ls st h ck sk
  | (.iload i, 2) => ldI (lg ls i) S K (pc + 2) ls st h ck sk
  | (.lload_n k, 1) => ldL (lg ls k.val) S K (pc + 1) ls st h ck sk
  | (.lload i, 2) => ldL (lg ls i) S K (pc + 2) ls st h ck sk
  | (.aload_n k, 1) => ldA (lg ls k.val) S K (pc + 1) ls st h ck sk
  | (.aload i, 2) => ldA (lg ls i) S K (pc + 2) ls st h ck sk
  | (.istore_n k, 1) => match st with
    | .int x :: r => if k.val < ls.length then K (pc + 1) (stL1 ls k.val (.int x)) (r) h ck sk else S
    | _ => S
  | (.istore i, 2) => match st with
    | .int x :: r => if i < ls.length then K (pc + 2) (stL1 ls i (.int x)) (r) h ck sk else S
    | _ => S
  | (.lstore_n k, 1) => match st with
    | .long x :: r => if k.val + 1 < ls.length then K (pc + 1) (stL2 ls k.val (.long x)) (r) h ck sk else S
    | _ => S
  | (.lstore i, 2) => match st with
    | .long x :: r => if i + 1 < ls.length then K (pc + 2) (stL2 ls i (.long x)) (r) h ck sk else S
    | _ => S
  | (.astore_n k, 1) => match st with
    | .ref x :: r => if k.val < ls.length then K (pc + 1) (stL1 ls k.val (.ref x)) (r) h ck sk else S
    | .null :: r => if k.val < ls.length then K (pc + 1) (stL1 ls k.val (.null)) (r) h ck sk else S
    | _ => S
  | (.astore i, 2) => match st with
    | .ref x :: r => if i < ls.length then K (pc + 2) (stL1 ls i (.ref x)) (r) h ck sk else S
    | .null :: r => if i < ls.length then K (pc + 2) (stL1 ls i (.null)) (r) h ck sk else S
    | _ => S
  | (.iinc i n, 3) => ldJ (lg ls i) i n S K (pc + 3) ls st h ck sk
  | (.iadd, 1) => match st with
    | .int y :: .int x :: r => K (pc + 1) ls (.int (x + y) :: r) h ck sk
    | _ => S
  | (.isub, 1) => match st with
    | .int y :: .int x :: r => K (pc + 1) ls (.int (x - y) :: r) h ck sk
    | _ => S
  | (.imul, 1) => match st with
    | .int y :: .int x :: r => K (pc + 1) ls (.int (x * y) :: r) h ck sk
    | _ => S
  | (.iand, 1) => match st with
    | .int y :: .int x :: r => K (pc + 1) ls (.int (x &&& y) :: r) h ck sk
    | _ => S
  | (.ior, 1) => match st with
    | .int y :: .int x :: r => K (pc + 1) ls (.int (x ||| y) :: r) h ck sk
    | _ => S
  | (.ixor, 1) => match st with
    | .int y :: .int x :: r => K (pc + 1) ls (.int (x ^^^ y) :: r) h ck sk
    | _ => S
  | (.ishl, 1) => match st with
    | .int y :: .int x :: r => K (pc + 1) ls (.int (x <<< (y &&& 31)) :: r) h ck sk
    | _ => S
  | (.ishr, 1) => match st with
    | .int y :: .int x :: r => K (pc + 1) ls (.int (x >>> (y &&& 31)) :: r) h ck sk
    | _ => S
  | (.iushr, 1) => match st with
    | .int y :: .int x :: r => K (pc + 1) ls (.int (ushr x y) :: r) h ck sk
    | _ => S
  | (.ineg, 1) => match st with
    | .int x :: r => K (pc + 1) ls (.int (-x) :: r) h ck sk
    | _ => S
  | (.i2l, 1) => match st with
    | .int x :: r => K (pc + 1) ls (.long (x.toInt64) :: r) h ck sk
    | _ => S
  | (.l2i, 1) => match st with
    | .long x :: r => K (pc + 1) ls (.int (x.toInt32) :: r) h ck sk
    | _ => S
  | (.i2b, 1) => match st with
    | .int x :: r => K (pc + 1) ls (.int (x.toInt8.toInt32) :: r) h ck sk
    | _ => S
  | (.i2c, 1) => match st with
    | .int x :: r => K (pc + 1) ls (.int ((x.toUInt32 % 65536).toInt32) :: r) h ck sk
    | _ => S
  | (.ladd, 1) => match st with
    | .long y :: .long x :: r => K (pc + 1) ls (.long (x + y) :: r) h ck sk
    | _ => S
  | (.lsub, 1) => match st with
    | .long y :: .long x :: r => K (pc + 1) ls (.long (x - y) :: r) h ck sk
    | _ => S
  | (.lmul, 1) => match st with
    | .long y :: .long x :: r => K (pc + 1) ls (.long (x * y) :: r) h ck sk
    | _ => S
  | (.land, 1) => match st with
    | .long y :: .long x :: r => K (pc + 1) ls (.long (x &&& y) :: r) h ck sk
    | _ => S
  | (.lor, 1) => match st with
    | .long y :: .long x :: r => K (pc + 1) ls (.long (x ||| y) :: r) h ck sk
    | _ => S
  | (.lxor, 1) => match st with
    | .long y :: .long x :: r => K (pc + 1) ls (.long (x ^^^ y) :: r) h ck sk
    | _ => S
  | (.lcmp, 1) => match st with
    | .long y :: .long x :: r => K (pc + 1) ls (.int (lg_cmp x y) :: r) h ck sk
    | _ => S
  | (.idiv, 1) => match st with
    | .int y :: .int x :: r => ¬ y = 0 ∧ K (pc + 1) ls (.int (x / y) :: r) h ck sk
    | _ => S
  | (.irem, 1) => match st with
    | .int y :: .int x :: r => ¬ y = 0 ∧ K (pc + 1) ls (.int (x - x / y * y) :: r) h ck sk
    | _ => S
  | (.ldiv, 1) => match st with
    | .long y :: .long x :: r => ¬ y = 0 ∧ K (pc + 1) ls (.long (x / y) :: r) h ck sk
    | _ => S
  | (.dup, 1) => match st with
    | a :: r => if a.category = 1 then K (pc + 1) ls (a :: a :: r) h ck sk else S
    | _ => S
  | (.pop, 1) => match st with
    | a :: r => if a.category = 1 then K (pc + 1) ls (r) h ck sk else S
    | _ => S
  | (.dup_x1, 1) => match st with
    | a :: b :: r => if a.category = 1 ∧ b.category = 1 then K (pc + 1) ls (a :: b :: a :: r) h ck sk else S
    | _ => S
  | (.dup_x2, 1) => match st with
    | a :: b :: t :: r => if a.category = 1 ∧ b.category = 1 ∧ t.category = 1 then K (pc + 1) ls (a :: b :: t :: a :: r) h ck sk else S
    | _ => S
  | (.dup2, 1) => match st with
    | a :: b :: r => if a.category = 1 ∧ b.category = 1 then K (pc + 1) ls (a :: b :: a :: b :: r) h ck sk else S
    | _ => S
  | (.ifCond .eq off, 3) => match st with
    | .int x :: r => if 0 ≤ (pc : Int) + off then ((x = 0) → K (((pc : Int) + off).toNat) ls (r) h ck sk) ∧ (¬ (x = 0) → K (pc + 3) ls (r) h ck sk) else S
    | _ => S
  | (.if_icmp .eq off, 3) => match st with
    | .int y :: .int x :: r => if 0 ≤ (pc : Int) + off then ((x = y) → K (((pc : Int) + off).toNat) ls (r) h ck sk) ∧ (¬ (x = y) → K (pc + 3) ls (r) h ck sk) else S
    | _ => S
  | (.ifCond .ne off, 3) => match st with
    | .int x :: r => if 0 ≤ (pc : Int) + off then ((¬ x = 0) → K (((pc : Int) + off).toNat) ls (r) h ck sk) ∧ ((x = 0) → K (pc + 3) ls (r) h ck sk) else S
    | _ => S
  | (.if_icmp .ne off, 3) => match st with
    | .int y :: .int x :: r => if 0 ≤ (pc : Int) + off then ((¬ x = y) → K (((pc : Int) + off).toNat) ls (r) h ck sk) ∧ ((x = y) → K (pc + 3) ls (r) h ck sk) else S
    | _ => S
  | (.ifCond .lt off, 3) => match st with
    | .int x :: r => if 0 ≤ (pc : Int) + off then ((x < 0) → K (((pc : Int) + off).toNat) ls (r) h ck sk) ∧ (¬ (x < 0) → K (pc + 3) ls (r) h ck sk) else S
    | _ => S
  | (.if_icmp .lt off, 3) => match st with
    | .int y :: .int x :: r => if 0 ≤ (pc : Int) + off then ((x < y) → K (((pc : Int) + off).toNat) ls (r) h ck sk) ∧ (¬ (x < y) → K (pc + 3) ls (r) h ck sk) else S
    | _ => S
  | (.ifCond .ge off, 3) => match st with
    | .int x :: r => if 0 ≤ (pc : Int) + off then ((0 ≤ x) → K (((pc : Int) + off).toNat) ls (r) h ck sk) ∧ (¬ (0 ≤ x) → K (pc + 3) ls (r) h ck sk) else S
    | _ => S
  | (.if_icmp .ge off, 3) => match st with
    | .int y :: .int x :: r => if 0 ≤ (pc : Int) + off then ((y ≤ x) → K (((pc : Int) + off).toNat) ls (r) h ck sk) ∧ (¬ (y ≤ x) → K (pc + 3) ls (r) h ck sk) else S
    | _ => S
  | (.ifCond .gt off, 3) => match st with
    | .int x :: r => if 0 ≤ (pc : Int) + off then ((0 < x) → K (((pc : Int) + off).toNat) ls (r) h ck sk) ∧ (¬ (0 < x) → K (pc + 3) ls (r) h ck sk) else S
    | _ => S
  | (.if_icmp .gt off, 3) => match st with
    | .int y :: .int x :: r => if 0 ≤ (pc : Int) + off then ((y < x) → K (((pc : Int) + off).toNat) ls (r) h ck sk) ∧ (¬ (y < x) → K (pc + 3) ls (r) h ck sk) else S
    | _ => S
  | (.ifCond .le off, 3) => match st with
    | .int x :: r => if 0 ≤ (pc : Int) + off then ((x ≤ 0) → K (((pc : Int) + off).toNat) ls (r) h ck sk) ∧ (¬ (x ≤ 0) → K (pc + 3) ls (r) h ck sk) else S
    | _ => S
  | (.if_icmp .le off, 3) => match st with
    | .int y :: .int x :: r => if 0 ≤ (pc : Int) + off then ((x ≤ y) → K (((pc : Int) + off).toNat) ls (r) h ck sk) ∧ (¬ (x ≤ y) → K (pc + 3) ls (r) h ck sk) else S
    | _ => S
  | (.goto off, 3) => if 0 ≤ (pc : Int) + off then K (((pc : Int) + off).toNat) ls (st) h ck sk else S
  | (.ifnull off, 3) => match st with
    | .ref _ :: r => K (pc + 3) ls (r) h ck sk
    | .null :: r => if 0 ≤ (pc : Int) + off then K (((pc : Int) + off).toNat) ls (r) h ck sk else S
    | _ => S
  | (.ifnonnull off, 3) => match st with
    | .ref _ :: r => if 0 ≤ (pc : Int) + off then K (((pc : Int) + off).toNat) ls (r) h ck sk else S
    | .null :: r => K (pc + 3) ls (r) h ck sk
    | _ => S
  | (.if_acmp .eq off, 3) => match st with
    | .ref y :: .ref x :: r => if 0 ≤ (pc : Int) + off then (x = y → K (((pc : Int) + off).toNat) ls (r) h ck sk) ∧ (¬ x = y → K (pc + 3) ls (r) h ck sk) else S
    | .null :: .ref x :: r => if 0 ≤ (pc : Int) + off then K (pc + 3) ls (r) h ck sk else S
    | .ref y :: .null :: r => if 0 ≤ (pc : Int) + off then K (pc + 3) ls (r) h ck sk else S
    | .null :: .null :: r => if 0 ≤ (pc : Int) + off then K (((pc : Int) + off).toNat) ls (r) h ck sk else S
    | _ => S
  | (.if_acmp .ne off, 3) => match st with
    | .ref y :: .ref x :: r => if 0 ≤ (pc : Int) + off then (x = y → K (pc + 3) ls (r) h ck sk) ∧ (¬ x = y → K (((pc : Int) + off).toNat) ls (r) h ck sk) else S
    | .null :: .ref x :: r => if 0 ≤ (pc : Int) + off then K (((pc : Int) + off).toNat) ls (r) h ck sk else S
    | .ref y :: .null :: r => if 0 ≤ (pc : Int) + off then K (((pc : Int) + off).toNat) ls (r) h ck sk else S
    | .null :: .null :: r => if 0 ≤ (pc : Int) + off then K (pc + 3) ls (r) h ck sk else S
    | _ => S
  | (.getfield idx, 3) => match st with
    | .ref a :: r => gfA (lkp P.1 idx) (rd w h a) S K (pc + 3) ls r h ck sk
    | _ => S
  | (.putfield idx, 3) => match st with
    | v :: .ref a :: r => pfA (lkp P.1 idx) (h a) v a w M S K (pc + 3) ls r h ck sk
    | _ => S
  | (.iaload, 1) => match st with
    | .int i :: .ref a :: r => arI .int (rd w h a) i S K (pc + 1) ls r h ck sk
    | _ => S
  | (.baload, 1) => match st with
    | .int i :: .ref a :: r => arI .byte (rd w h a) i S K (pc + 1) ls r h ck sk
    | _ => S
  | (.laload, 1) => match st with
    | .int i :: .ref a :: r => arL (rd w h a) i S K (pc + 1) ls r h ck sk
    | _ => S
  | (.aaload, 1) => match st with
    | .int i :: .ref a :: r => arQ (rd w h a) i S K (pc + 1) ls r h ck sk
    | _ => S
  | (.arraylength, 1) => match st with
    | .ref a :: r => arN (rd w h a) S K (pc + 1) ls r h ck sk
    | _ => S
  | (.iastore, 1) => match st with
    | .int x :: .int i :: .ref a :: r => asI .int (h a) x i a w S K (pc + 1) ls r h ck sk
    | _ => S
  | (.bastore, 1) => match st with
    | .int x :: .int i :: .ref a :: r => asI .byte (h a) x.toInt8.toInt32 i a w S K (pc + 1) ls r h ck sk
    | _ => S
  | (.lastore, 1) => match st with
    | .long x :: .int i :: .ref a :: r => asL (h a) x i a w S K (pc + 1) ls r h ck sk
    | _ => S
  | (.ldc idx, 2) => lcA (lkp P.2 idx) 1 S K (pc + 2) ls st h ck sk
  | (.ldc_w idx, 3) => lcA (lkp P.2 idx) 1 S K (pc + 3) ls st h ck sk
  | (.ldc2_w idx, 3) => lcA (lkp P.2 idx) 2 S K (pc + 3) ls st h ck sk
  | (.ireturn, 1) => match st with
    | [.int x] => rtI rt x ∧ Q (.inl (some (.int x))) h
    | _ => S
  | (.lreturn, 1) => match st with
    | [.long x] => rt = some .long ∧ Q (.inl (some (.long x))) h
    | _ => S
  | (.return_, 1) => match st with
    | [] => rt = none ∧ Q (.inl none) h
    | _ => S
  | (.areturn, 1) => match st with
    | [.ref a] => refT rt ∧ Q (.inl (some (.ref a))) h
    | [.null] => refT rt ∧ Q (.inl (some .null)) h
    | _ => S
  | _ => S
theorem w_iconst {w : Wd} {M : Md} {d mc ms pc ck sk : Nat} {P : Pool} {rt : Option FieldType} {ls : List (Option Value)} {h : MH} {Q : Out → MH → Prop} {S : Prop} {K : Nat → List (Option Value) → List Value → MH → Nat → Nat → Prop} {n : Int} {r : List Value} : wpI w M d mc ms P rt Q (.iconst n, 1) pc ls (r) h ck sk S K = (K (pc + 1) ls (.int (iZ n) :: r) h ck sk) := nrf rfl
theorem w_bipush {w : Wd} {M : Md} {d mc ms pc ck sk : Nat} {P : Pool} {rt : Option FieldType} {ls : List (Option Value)} {h : MH} {Q : Out → MH → Prop} {S : Prop} {K : Nat → List (Option Value) → List Value → MH → Nat → Nat → Prop} {n : Int} {r : List Value} : wpI w M d mc ms P rt Q (.bipush n, 2) pc ls (r) h ck sk S K = (K (pc + 2) ls (.int (bip n) :: r) h ck sk) := nrf rfl
theorem w_sipush {w : Wd} {M : Md} {d mc ms pc ck sk : Nat} {P : Pool} {rt : Option FieldType} {ls : List (Option Value)} {h : MH} {Q : Out → MH → Prop} {S : Prop} {K : Nat → List (Option Value) → List Value → MH → Nat → Nat → Prop} {n : Int} {r : List Value} : wpI w M d mc ms P rt Q (.sipush n, 3) pc ls (r) h ck sk S K = (K (pc + 3) ls (.int (sip n) :: r) h ck sk) := nrf rfl
theorem w_lconst {w : Wd} {M : Md} {d mc ms pc ck sk : Nat} {P : Pool} {rt : Option FieldType} {ls : List (Option Value)} {h : MH} {Q : Out → MH → Prop} {S : Prop} {K : Nat → List (Option Value) → List Value → MH → Nat → Nat → Prop} {n : Fin 2} {r : List Value} : wpI w M d mc ms P rt Q (.lconst n, 1) pc ls (r) h ck sk S K = (K (pc + 1) ls (.long (lcon n) :: r) h ck sk) := nrf rfl
theorem w_null {w : Wd} {M : Md} {d mc ms pc ck sk : Nat} {P : Pool} {rt : Option FieldType} {ls : List (Option Value)} {h : MH} {Q : Out → MH → Prop} {S : Prop} {K : Nat → List (Option Value) → List Value → MH → Nat → Nat → Prop}  {r : List Value} : wpI w M d mc ms P rt Q (.aconst_null, 1) pc ls (r) h ck sk S K = (K (pc + 1) ls (.null :: r) h ck sk) := nrf rfl
theorem w_iload_n {w : Wd} {M : Md} {d mc ms pc ck sk : Nat} {P : Pool} {rt : Option FieldType} {ls : List (Option Value)} {h : MH} {Q : Out → MH → Prop} {S : Prop} {K : Nat → List (Option Value) → List Value → MH → Nat → Nat → Prop} {k : Fin 4} {r : List Value} : wpI w M d mc ms P rt Q (.iload_n k, 1) pc ls (r) h ck sk S K = (ldI (lg ls k.val) S K (pc + 1) ls r h ck sk) := nrf rfl
theorem w_iload {w : Wd} {M : Md} {d mc ms pc ck sk : Nat} {P : Pool} {rt : Option FieldType} {ls : List (Option Value)} {h : MH} {Q : Out → MH → Prop} {S : Prop} {K : Nat → List (Option Value) → List Value → MH → Nat → Nat → Prop} {i : Nat} {r : List Value} : wpI w M d mc ms P rt Q (.iload i, 2) pc ls (r) h ck sk S K = (ldI (lg ls i) S K (pc + 2) ls r h ck sk) := nrf rfl
theorem w_lload_n {w : Wd} {M : Md} {d mc ms pc ck sk : Nat} {P : Pool} {rt : Option FieldType} {ls : List (Option Value)} {h : MH} {Q : Out → MH → Prop} {S : Prop} {K : Nat → List (Option Value) → List Value → MH → Nat → Nat → Prop} {k : Fin 4} {r : List Value} : wpI w M d mc ms P rt Q (.lload_n k, 1) pc ls (r) h ck sk S K = (ldL (lg ls k.val) S K (pc + 1) ls r h ck sk) := nrf rfl
theorem w_lload {w : Wd} {M : Md} {d mc ms pc ck sk : Nat} {P : Pool} {rt : Option FieldType} {ls : List (Option Value)} {h : MH} {Q : Out → MH → Prop} {S : Prop} {K : Nat → List (Option Value) → List Value → MH → Nat → Nat → Prop} {i : Nat} {r : List Value} : wpI w M d mc ms P rt Q (.lload i, 2) pc ls (r) h ck sk S K = (ldL (lg ls i) S K (pc + 2) ls r h ck sk) := nrf rfl
theorem w_aload_n {w : Wd} {M : Md} {d mc ms pc ck sk : Nat} {P : Pool} {rt : Option FieldType} {ls : List (Option Value)} {h : MH} {Q : Out → MH → Prop} {S : Prop} {K : Nat → List (Option Value) → List Value → MH → Nat → Nat → Prop} {k : Fin 4} {r : List Value} : wpI w M d mc ms P rt Q (.aload_n k, 1) pc ls (r) h ck sk S K = (ldA (lg ls k.val) S K (pc + 1) ls r h ck sk) := nrf rfl
theorem w_aload {w : Wd} {M : Md} {d mc ms pc ck sk : Nat} {P : Pool} {rt : Option FieldType} {ls : List (Option Value)} {h : MH} {Q : Out → MH → Prop} {S : Prop} {K : Nat → List (Option Value) → List Value → MH → Nat → Nat → Prop} {i : Nat} {r : List Value} : wpI w M d mc ms P rt Q (.aload i, 2) pc ls (r) h ck sk S K = (ldA (lg ls i) S K (pc + 2) ls r h ck sk) := nrf rfl
theorem w_istore_n {w : Wd} {M : Md} {d mc ms pc ck sk : Nat} {P : Pool} {rt : Option FieldType} {ls : List (Option Value)} {h : MH} {Q : Out → MH → Prop} {S : Prop} {K : Nat → List (Option Value) → List Value → MH → Nat → Nat → Prop} {k : Fin 4} {x : Int32} {r : List Value} : wpI w M d mc ms P rt Q (.istore_n k, 1) pc ls (.int x :: r) h ck sk S K = (if k.val < ls.length then K (pc + 1) (stL1 ls k.val (.int x)) (r) h ck sk else S) := nrf rfl
theorem w_istore {w : Wd} {M : Md} {d mc ms pc ck sk : Nat} {P : Pool} {rt : Option FieldType} {ls : List (Option Value)} {h : MH} {Q : Out → MH → Prop} {S : Prop} {K : Nat → List (Option Value) → List Value → MH → Nat → Nat → Prop} {i : Nat} {x : Int32} {r : List Value} : wpI w M d mc ms P rt Q (.istore i, 2) pc ls (.int x :: r) h ck sk S K = (if i < ls.length then K (pc + 2) (stL1 ls i (.int x)) (r) h ck sk else S) := nrf rfl
theorem w_lstore_n {w : Wd} {M : Md} {d mc ms pc ck sk : Nat} {P : Pool} {rt : Option FieldType} {ls : List (Option Value)} {h : MH} {Q : Out → MH → Prop} {S : Prop} {K : Nat → List (Option Value) → List Value → MH → Nat → Nat → Prop} {k : Fin 4} {x : Int64} {r : List Value} : wpI w M d mc ms P rt Q (.lstore_n k, 1) pc ls (.long x :: r) h ck sk S K = (if k.val + 1 < ls.length then K (pc + 1) (stL2 ls k.val (.long x)) (r) h ck sk else S) := nrf rfl
theorem w_lstore {w : Wd} {M : Md} {d mc ms pc ck sk : Nat} {P : Pool} {rt : Option FieldType} {ls : List (Option Value)} {h : MH} {Q : Out → MH → Prop} {S : Prop} {K : Nat → List (Option Value) → List Value → MH → Nat → Nat → Prop} {i : Nat} {x : Int64} {r : List Value} : wpI w M d mc ms P rt Q (.lstore i, 2) pc ls (.long x :: r) h ck sk S K = (if i + 1 < ls.length then K (pc + 2) (stL2 ls i (.long x)) (r) h ck sk else S) := nrf rfl
theorem w_astore_n {w : Wd} {M : Md} {d mc ms pc ck sk : Nat} {P : Pool} {rt : Option FieldType} {ls : List (Option Value)} {h : MH} {Q : Out → MH → Prop} {S : Prop} {K : Nat → List (Option Value) → List Value → MH → Nat → Nat → Prop} {k : Fin 4} {x : Nat} {r : List Value} : wpI w M d mc ms P rt Q (.astore_n k, 1) pc ls (.ref x :: r) h ck sk S K = (if k.val < ls.length then K (pc + 1) (stL1 ls k.val (.ref x)) (r) h ck sk else S) := nrf rfl
theorem w_astore_nN {w : Wd} {M : Md} {d mc ms pc ck sk : Nat} {P : Pool} {rt : Option FieldType} {ls : List (Option Value)} {h : MH} {Q : Out → MH → Prop} {S : Prop} {K : Nat → List (Option Value) → List Value → MH → Nat → Nat → Prop} {k : Fin 4}  {r : List Value} : wpI w M d mc ms P rt Q (.astore_n k, 1) pc ls (.null :: r) h ck sk S K = (if k.val < ls.length then K (pc + 1) (stL1 ls k.val (.null)) (r) h ck sk else S) := nrf rfl
theorem w_astore {w : Wd} {M : Md} {d mc ms pc ck sk : Nat} {P : Pool} {rt : Option FieldType} {ls : List (Option Value)} {h : MH} {Q : Out → MH → Prop} {S : Prop} {K : Nat → List (Option Value) → List Value → MH → Nat → Nat → Prop} {i : Nat} {x : Nat} {r : List Value} : wpI w M d mc ms P rt Q (.astore i, 2) pc ls (.ref x :: r) h ck sk S K = (if i < ls.length then K (pc + 2) (stL1 ls i (.ref x)) (r) h ck sk else S) := nrf rfl
theorem w_astoreN {w : Wd} {M : Md} {d mc ms pc ck sk : Nat} {P : Pool} {rt : Option FieldType} {ls : List (Option Value)} {h : MH} {Q : Out → MH → Prop} {S : Prop} {K : Nat → List (Option Value) → List Value → MH → Nat → Nat → Prop} {i : Nat}  {r : List Value} : wpI w M d mc ms P rt Q (.astore i, 2) pc ls (.null :: r) h ck sk S K = (if i < ls.length then K (pc + 2) (stL1 ls i (.null)) (r) h ck sk else S) := nrf rfl
theorem w_iinc {w : Wd} {M : Md} {d mc ms pc ck sk : Nat} {P : Pool} {rt : Option FieldType} {ls : List (Option Value)} {h : MH} {Q : Out → MH → Prop} {S : Prop} {K : Nat → List (Option Value) → List Value → MH → Nat → Nat → Prop} {i : Nat} {n : Int} {r : List Value} : wpI w M d mc ms P rt Q (.iinc i n, 3) pc ls (r) h ck sk S K = (ldJ (lg ls i) i n S K (pc + 3) ls r h ck sk) := nrf rfl
theorem w_iadd {w : Wd} {M : Md} {d mc ms pc ck sk : Nat} {P : Pool} {rt : Option FieldType} {ls : List (Option Value)} {h : MH} {Q : Out → MH → Prop} {S : Prop} {K : Nat → List (Option Value) → List Value → MH → Nat → Nat → Prop} {x y : Int32} {r : List Value} : wpI w M d mc ms P rt Q (.iadd, 1) pc ls (.int y :: .int x :: r) h ck sk S K = (K (pc + 1) ls (.int (x + y) :: r) h ck sk) := nrf rfl
theorem w_isub {w : Wd} {M : Md} {d mc ms pc ck sk : Nat} {P : Pool} {rt : Option FieldType} {ls : List (Option Value)} {h : MH} {Q : Out → MH → Prop} {S : Prop} {K : Nat → List (Option Value) → List Value → MH → Nat → Nat → Prop} {x y : Int32} {r : List Value} : wpI w M d mc ms P rt Q (.isub, 1) pc ls (.int y :: .int x :: r) h ck sk S K = (K (pc + 1) ls (.int (x - y) :: r) h ck sk) := nrf rfl
theorem w_imul {w : Wd} {M : Md} {d mc ms pc ck sk : Nat} {P : Pool} {rt : Option FieldType} {ls : List (Option Value)} {h : MH} {Q : Out → MH → Prop} {S : Prop} {K : Nat → List (Option Value) → List Value → MH → Nat → Nat → Prop} {x y : Int32} {r : List Value} : wpI w M d mc ms P rt Q (.imul, 1) pc ls (.int y :: .int x :: r) h ck sk S K = (K (pc + 1) ls (.int (x * y) :: r) h ck sk) := nrf rfl
theorem w_iand {w : Wd} {M : Md} {d mc ms pc ck sk : Nat} {P : Pool} {rt : Option FieldType} {ls : List (Option Value)} {h : MH} {Q : Out → MH → Prop} {S : Prop} {K : Nat → List (Option Value) → List Value → MH → Nat → Nat → Prop} {x y : Int32} {r : List Value} : wpI w M d mc ms P rt Q (.iand, 1) pc ls (.int y :: .int x :: r) h ck sk S K = (K (pc + 1) ls (.int (x &&& y) :: r) h ck sk) := nrf rfl
theorem w_ior {w : Wd} {M : Md} {d mc ms pc ck sk : Nat} {P : Pool} {rt : Option FieldType} {ls : List (Option Value)} {h : MH} {Q : Out → MH → Prop} {S : Prop} {K : Nat → List (Option Value) → List Value → MH → Nat → Nat → Prop} {x y : Int32} {r : List Value} : wpI w M d mc ms P rt Q (.ior, 1) pc ls (.int y :: .int x :: r) h ck sk S K = (K (pc + 1) ls (.int (x ||| y) :: r) h ck sk) := nrf rfl
theorem w_ixor {w : Wd} {M : Md} {d mc ms pc ck sk : Nat} {P : Pool} {rt : Option FieldType} {ls : List (Option Value)} {h : MH} {Q : Out → MH → Prop} {S : Prop} {K : Nat → List (Option Value) → List Value → MH → Nat → Nat → Prop} {x y : Int32} {r : List Value} : wpI w M d mc ms P rt Q (.ixor, 1) pc ls (.int y :: .int x :: r) h ck sk S K = (K (pc + 1) ls (.int (x ^^^ y) :: r) h ck sk) := nrf rfl
theorem w_ishl {w : Wd} {M : Md} {d mc ms pc ck sk : Nat} {P : Pool} {rt : Option FieldType} {ls : List (Option Value)} {h : MH} {Q : Out → MH → Prop} {S : Prop} {K : Nat → List (Option Value) → List Value → MH → Nat → Nat → Prop} {x y : Int32} {r : List Value} : wpI w M d mc ms P rt Q (.ishl, 1) pc ls (.int y :: .int x :: r) h ck sk S K = (K (pc + 1) ls (.int (x <<< (y &&& 31)) :: r) h ck sk) := nrf rfl
theorem w_ishr {w : Wd} {M : Md} {d mc ms pc ck sk : Nat} {P : Pool} {rt : Option FieldType} {ls : List (Option Value)} {h : MH} {Q : Out → MH → Prop} {S : Prop} {K : Nat → List (Option Value) → List Value → MH → Nat → Nat → Prop} {x y : Int32} {r : List Value} : wpI w M d mc ms P rt Q (.ishr, 1) pc ls (.int y :: .int x :: r) h ck sk S K = (K (pc + 1) ls (.int (x >>> (y &&& 31)) :: r) h ck sk) := nrf rfl
theorem w_iushr {w : Wd} {M : Md} {d mc ms pc ck sk : Nat} {P : Pool} {rt : Option FieldType} {ls : List (Option Value)} {h : MH} {Q : Out → MH → Prop} {S : Prop} {K : Nat → List (Option Value) → List Value → MH → Nat → Nat → Prop} {x y : Int32} {r : List Value} : wpI w M d mc ms P rt Q (.iushr, 1) pc ls (.int y :: .int x :: r) h ck sk S K = (K (pc + 1) ls (.int (ushr x y) :: r) h ck sk) := nrf rfl
theorem w_ineg {w : Wd} {M : Md} {d mc ms pc ck sk : Nat} {P : Pool} {rt : Option FieldType} {ls : List (Option Value)} {h : MH} {Q : Out → MH → Prop} {S : Prop} {K : Nat → List (Option Value) → List Value → MH → Nat → Nat → Prop} {x : Int32} {r : List Value} : wpI w M d mc ms P rt Q (.ineg, 1) pc ls (.int x :: r) h ck sk S K = (K (pc + 1) ls (.int (-x) :: r) h ck sk) := nrf rfl
theorem w_i2l {w : Wd} {M : Md} {d mc ms pc ck sk : Nat} {P : Pool} {rt : Option FieldType} {ls : List (Option Value)} {h : MH} {Q : Out → MH → Prop} {S : Prop} {K : Nat → List (Option Value) → List Value → MH → Nat → Nat → Prop} {x : Int32} {r : List Value} : wpI w M d mc ms P rt Q (.i2l, 1) pc ls (.int x :: r) h ck sk S K = (K (pc + 1) ls (.long (x.toInt64) :: r) h ck sk) := nrf rfl
theorem w_l2i {w : Wd} {M : Md} {d mc ms pc ck sk : Nat} {P : Pool} {rt : Option FieldType} {ls : List (Option Value)} {h : MH} {Q : Out → MH → Prop} {S : Prop} {K : Nat → List (Option Value) → List Value → MH → Nat → Nat → Prop} {x : Int64} {r : List Value} : wpI w M d mc ms P rt Q (.l2i, 1) pc ls (.long x :: r) h ck sk S K = (K (pc + 1) ls (.int (x.toInt32) :: r) h ck sk) := nrf rfl
theorem w_i2b {w : Wd} {M : Md} {d mc ms pc ck sk : Nat} {P : Pool} {rt : Option FieldType} {ls : List (Option Value)} {h : MH} {Q : Out → MH → Prop} {S : Prop} {K : Nat → List (Option Value) → List Value → MH → Nat → Nat → Prop} {x : Int32} {r : List Value} : wpI w M d mc ms P rt Q (.i2b, 1) pc ls (.int x :: r) h ck sk S K = (K (pc + 1) ls (.int (x.toInt8.toInt32) :: r) h ck sk) := nrf rfl
theorem w_i2c {w : Wd} {M : Md} {d mc ms pc ck sk : Nat} {P : Pool} {rt : Option FieldType} {ls : List (Option Value)} {h : MH} {Q : Out → MH → Prop} {S : Prop} {K : Nat → List (Option Value) → List Value → MH → Nat → Nat → Prop} {x : Int32} {r : List Value} : wpI w M d mc ms P rt Q (.i2c, 1) pc ls (.int x :: r) h ck sk S K = (K (pc + 1) ls (.int ((x.toUInt32 % 65536).toInt32) :: r) h ck sk) := nrf rfl
theorem w_ladd {w : Wd} {M : Md} {d mc ms pc ck sk : Nat} {P : Pool} {rt : Option FieldType} {ls : List (Option Value)} {h : MH} {Q : Out → MH → Prop} {S : Prop} {K : Nat → List (Option Value) → List Value → MH → Nat → Nat → Prop} {x y : Int64} {r : List Value} : wpI w M d mc ms P rt Q (.ladd, 1) pc ls (.long y :: .long x :: r) h ck sk S K = (K (pc + 1) ls (.long (x + y) :: r) h ck sk) := nrf rfl
theorem w_lsub {w : Wd} {M : Md} {d mc ms pc ck sk : Nat} {P : Pool} {rt : Option FieldType} {ls : List (Option Value)} {h : MH} {Q : Out → MH → Prop} {S : Prop} {K : Nat → List (Option Value) → List Value → MH → Nat → Nat → Prop} {x y : Int64} {r : List Value} : wpI w M d mc ms P rt Q (.lsub, 1) pc ls (.long y :: .long x :: r) h ck sk S K = (K (pc + 1) ls (.long (x - y) :: r) h ck sk) := nrf rfl
theorem w_lmul {w : Wd} {M : Md} {d mc ms pc ck sk : Nat} {P : Pool} {rt : Option FieldType} {ls : List (Option Value)} {h : MH} {Q : Out → MH → Prop} {S : Prop} {K : Nat → List (Option Value) → List Value → MH → Nat → Nat → Prop} {x y : Int64} {r : List Value} : wpI w M d mc ms P rt Q (.lmul, 1) pc ls (.long y :: .long x :: r) h ck sk S K = (K (pc + 1) ls (.long (x * y) :: r) h ck sk) := nrf rfl
theorem w_land {w : Wd} {M : Md} {d mc ms pc ck sk : Nat} {P : Pool} {rt : Option FieldType} {ls : List (Option Value)} {h : MH} {Q : Out → MH → Prop} {S : Prop} {K : Nat → List (Option Value) → List Value → MH → Nat → Nat → Prop} {x y : Int64} {r : List Value} : wpI w M d mc ms P rt Q (.land, 1) pc ls (.long y :: .long x :: r) h ck sk S K = (K (pc + 1) ls (.long (x &&& y) :: r) h ck sk) := nrf rfl
theorem w_lor {w : Wd} {M : Md} {d mc ms pc ck sk : Nat} {P : Pool} {rt : Option FieldType} {ls : List (Option Value)} {h : MH} {Q : Out → MH → Prop} {S : Prop} {K : Nat → List (Option Value) → List Value → MH → Nat → Nat → Prop} {x y : Int64} {r : List Value} : wpI w M d mc ms P rt Q (.lor, 1) pc ls (.long y :: .long x :: r) h ck sk S K = (K (pc + 1) ls (.long (x ||| y) :: r) h ck sk) := nrf rfl
theorem w_lxor {w : Wd} {M : Md} {d mc ms pc ck sk : Nat} {P : Pool} {rt : Option FieldType} {ls : List (Option Value)} {h : MH} {Q : Out → MH → Prop} {S : Prop} {K : Nat → List (Option Value) → List Value → MH → Nat → Nat → Prop} {x y : Int64} {r : List Value} : wpI w M d mc ms P rt Q (.lxor, 1) pc ls (.long y :: .long x :: r) h ck sk S K = (K (pc + 1) ls (.long (x ^^^ y) :: r) h ck sk) := nrf rfl
theorem w_lcmp {w : Wd} {M : Md} {d mc ms pc ck sk : Nat} {P : Pool} {rt : Option FieldType} {ls : List (Option Value)} {h : MH} {Q : Out → MH → Prop} {S : Prop} {K : Nat → List (Option Value) → List Value → MH → Nat → Nat → Prop} {x y : Int64} {r : List Value} : wpI w M d mc ms P rt Q (.lcmp, 1) pc ls (.long y :: .long x :: r) h ck sk S K = (K (pc + 1) ls (.int (lg_cmp x y) :: r) h ck sk) := nrf rfl
theorem w_idiv {w : Wd} {M : Md} {d mc ms pc ck sk : Nat} {P : Pool} {rt : Option FieldType} {ls : List (Option Value)} {h : MH} {Q : Out → MH → Prop} {S : Prop} {K : Nat → List (Option Value) → List Value → MH → Nat → Nat → Prop} {x y : Int32} {r : List Value} : wpI w M d mc ms P rt Q (.idiv, 1) pc ls (.int y :: .int x :: r) h ck sk S K = (¬ y = 0 ∧ K (pc + 1) ls (.int (x / y) :: r) h ck sk) := nrf rfl
theorem w_irem {w : Wd} {M : Md} {d mc ms pc ck sk : Nat} {P : Pool} {rt : Option FieldType} {ls : List (Option Value)} {h : MH} {Q : Out → MH → Prop} {S : Prop} {K : Nat → List (Option Value) → List Value → MH → Nat → Nat → Prop} {x y : Int32} {r : List Value} : wpI w M d mc ms P rt Q (.irem, 1) pc ls (.int y :: .int x :: r) h ck sk S K = (¬ y = 0 ∧ K (pc + 1) ls (.int (x - x / y * y) :: r) h ck sk) := nrf rfl
theorem w_ldiv {w : Wd} {M : Md} {d mc ms pc ck sk : Nat} {P : Pool} {rt : Option FieldType} {ls : List (Option Value)} {h : MH} {Q : Out → MH → Prop} {S : Prop} {K : Nat → List (Option Value) → List Value → MH → Nat → Nat → Prop} {x y : Int64} {r : List Value} : wpI w M d mc ms P rt Q (.ldiv, 1) pc ls (.long y :: .long x :: r) h ck sk S K = (¬ y = 0 ∧ K (pc + 1) ls (.long (x / y) :: r) h ck sk) := nrf rfl
theorem w_dup {w : Wd} {M : Md} {d mc ms pc ck sk : Nat} {P : Pool} {rt : Option FieldType} {ls : List (Option Value)} {h : MH} {Q : Out → MH → Prop} {S : Prop} {K : Nat → List (Option Value) → List Value → MH → Nat → Nat → Prop} {a : Value} {r : List Value} : wpI w M d mc ms P rt Q (.dup, 1) pc ls (a :: r) h ck sk S K = (if a.category = 1 then K (pc + 1) ls (a :: a :: r) h ck sk else S) := nrf rfl
theorem w_pop {w : Wd} {M : Md} {d mc ms pc ck sk : Nat} {P : Pool} {rt : Option FieldType} {ls : List (Option Value)} {h : MH} {Q : Out → MH → Prop} {S : Prop} {K : Nat → List (Option Value) → List Value → MH → Nat → Nat → Prop} {a : Value} {r : List Value} : wpI w M d mc ms P rt Q (.pop, 1) pc ls (a :: r) h ck sk S K = (if a.category = 1 then K (pc + 1) ls (r) h ck sk else S) := nrf rfl
theorem w_dup_x1 {w : Wd} {M : Md} {d mc ms pc ck sk : Nat} {P : Pool} {rt : Option FieldType} {ls : List (Option Value)} {h : MH} {Q : Out → MH → Prop} {S : Prop} {K : Nat → List (Option Value) → List Value → MH → Nat → Nat → Prop} {a b : Value} {r : List Value} : wpI w M d mc ms P rt Q (.dup_x1, 1) pc ls (a :: b :: r) h ck sk S K = (if a.category = 1 ∧ b.category = 1 then K (pc + 1) ls (a :: b :: a :: r) h ck sk else S) := nrf rfl
theorem w_dup_x2 {w : Wd} {M : Md} {d mc ms pc ck sk : Nat} {P : Pool} {rt : Option FieldType} {ls : List (Option Value)} {h : MH} {Q : Out → MH → Prop} {S : Prop} {K : Nat → List (Option Value) → List Value → MH → Nat → Nat → Prop} {a b t : Value} {r : List Value} : wpI w M d mc ms P rt Q (.dup_x2, 1) pc ls (a :: b :: t :: r) h ck sk S K = (if a.category = 1 ∧ b.category = 1 ∧ t.category = 1 then K (pc + 1) ls (a :: b :: t :: a :: r) h ck sk else S) := nrf rfl
theorem w_dup2 {w : Wd} {M : Md} {d mc ms pc ck sk : Nat} {P : Pool} {rt : Option FieldType} {ls : List (Option Value)} {h : MH} {Q : Out → MH → Prop} {S : Prop} {K : Nat → List (Option Value) → List Value → MH → Nat → Nat → Prop} {a b : Value} {r : List Value} : wpI w M d mc ms P rt Q (.dup2, 1) pc ls (a :: b :: r) h ck sk S K = (if a.category = 1 ∧ b.category = 1 then K (pc + 1) ls (a :: b :: a :: b :: r) h ck sk else S) := nrf rfl
theorem w_if_eq {w : Wd} {M : Md} {d mc ms pc ck sk : Nat} {P : Pool} {rt : Option FieldType} {ls : List (Option Value)} {h : MH} {Q : Out → MH → Prop} {S : Prop} {K : Nat → List (Option Value) → List Value → MH → Nat → Nat → Prop} {x : Int32} {off : Int} {r : List Value} : wpI w M d mc ms P rt Q (.ifCond .eq off, 3) pc ls (.int x :: r) h ck sk S K = (if 0 ≤ (pc : Int) + off then ((x = 0) → K (((pc : Int) + off).toNat) ls (r) h ck sk) ∧ (¬ (x = 0) → K (pc + 3) ls (r) h ck sk) else S) := nrf rfl
theorem w_icmp_eq {w : Wd} {M : Md} {d mc ms pc ck sk : Nat} {P : Pool} {rt : Option FieldType} {ls : List (Option Value)} {h : MH} {Q : Out → MH → Prop} {S : Prop} {K : Nat → List (Option Value) → List Value → MH → Nat → Nat → Prop} {x y : Int32} {off : Int} {r : List Value} : wpI w M d mc ms P rt Q (.if_icmp .eq off, 3) pc ls (.int y :: .int x :: r) h ck sk S K = (if 0 ≤ (pc : Int) + off then ((x = y) → K (((pc : Int) + off).toNat) ls (r) h ck sk) ∧ (¬ (x = y) → K (pc + 3) ls (r) h ck sk) else S) := nrf rfl
theorem w_if_ne {w : Wd} {M : Md} {d mc ms pc ck sk : Nat} {P : Pool} {rt : Option FieldType} {ls : List (Option Value)} {h : MH} {Q : Out → MH → Prop} {S : Prop} {K : Nat → List (Option Value) → List Value → MH → Nat → Nat → Prop} {x : Int32} {off : Int} {r : List Value} : wpI w M d mc ms P rt Q (.ifCond .ne off, 3) pc ls (.int x :: r) h ck sk S K = (if 0 ≤ (pc : Int) + off then ((¬ x = 0) → K (((pc : Int) + off).toNat) ls (r) h ck sk) ∧ ((x = 0) → K (pc + 3) ls (r) h ck sk) else S) := nrf rfl
theorem w_icmp_ne {w : Wd} {M : Md} {d mc ms pc ck sk : Nat} {P : Pool} {rt : Option FieldType} {ls : List (Option Value)} {h : MH} {Q : Out → MH → Prop} {S : Prop} {K : Nat → List (Option Value) → List Value → MH → Nat → Nat → Prop} {x y : Int32} {off : Int} {r : List Value} : wpI w M d mc ms P rt Q (.if_icmp .ne off, 3) pc ls (.int y :: .int x :: r) h ck sk S K = (if 0 ≤ (pc : Int) + off then ((¬ x = y) → K (((pc : Int) + off).toNat) ls (r) h ck sk) ∧ ((x = y) → K (pc + 3) ls (r) h ck sk) else S) := nrf rfl
theorem w_if_lt {w : Wd} {M : Md} {d mc ms pc ck sk : Nat} {P : Pool} {rt : Option FieldType} {ls : List (Option Value)} {h : MH} {Q : Out → MH → Prop} {S : Prop} {K : Nat → List (Option Value) → List Value → MH → Nat → Nat → Prop} {x : Int32} {off : Int} {r : List Value} : wpI w M d mc ms P rt Q (.ifCond .lt off, 3) pc ls (.int x :: r) h ck sk S K = (if 0 ≤ (pc : Int) + off then ((x < 0) → K (((pc : Int) + off).toNat) ls (r) h ck sk) ∧ (¬ (x < 0) → K (pc + 3) ls (r) h ck sk) else S) := nrf rfl
theorem w_icmp_lt {w : Wd} {M : Md} {d mc ms pc ck sk : Nat} {P : Pool} {rt : Option FieldType} {ls : List (Option Value)} {h : MH} {Q : Out → MH → Prop} {S : Prop} {K : Nat → List (Option Value) → List Value → MH → Nat → Nat → Prop} {x y : Int32} {off : Int} {r : List Value} : wpI w M d mc ms P rt Q (.if_icmp .lt off, 3) pc ls (.int y :: .int x :: r) h ck sk S K = (if 0 ≤ (pc : Int) + off then ((x < y) → K (((pc : Int) + off).toNat) ls (r) h ck sk) ∧ (¬ (x < y) → K (pc + 3) ls (r) h ck sk) else S) := nrf rfl
theorem w_if_ge {w : Wd} {M : Md} {d mc ms pc ck sk : Nat} {P : Pool} {rt : Option FieldType} {ls : List (Option Value)} {h : MH} {Q : Out → MH → Prop} {S : Prop} {K : Nat → List (Option Value) → List Value → MH → Nat → Nat → Prop} {x : Int32} {off : Int} {r : List Value} : wpI w M d mc ms P rt Q (.ifCond .ge off, 3) pc ls (.int x :: r) h ck sk S K = (if 0 ≤ (pc : Int) + off then ((0 ≤ x) → K (((pc : Int) + off).toNat) ls (r) h ck sk) ∧ (¬ (0 ≤ x) → K (pc + 3) ls (r) h ck sk) else S) := nrf rfl
theorem w_icmp_ge {w : Wd} {M : Md} {d mc ms pc ck sk : Nat} {P : Pool} {rt : Option FieldType} {ls : List (Option Value)} {h : MH} {Q : Out → MH → Prop} {S : Prop} {K : Nat → List (Option Value) → List Value → MH → Nat → Nat → Prop} {x y : Int32} {off : Int} {r : List Value} : wpI w M d mc ms P rt Q (.if_icmp .ge off, 3) pc ls (.int y :: .int x :: r) h ck sk S K = (if 0 ≤ (pc : Int) + off then ((y ≤ x) → K (((pc : Int) + off).toNat) ls (r) h ck sk) ∧ (¬ (y ≤ x) → K (pc + 3) ls (r) h ck sk) else S) := nrf rfl
theorem w_if_gt {w : Wd} {M : Md} {d mc ms pc ck sk : Nat} {P : Pool} {rt : Option FieldType} {ls : List (Option Value)} {h : MH} {Q : Out → MH → Prop} {S : Prop} {K : Nat → List (Option Value) → List Value → MH → Nat → Nat → Prop} {x : Int32} {off : Int} {r : List Value} : wpI w M d mc ms P rt Q (.ifCond .gt off, 3) pc ls (.int x :: r) h ck sk S K = (if 0 ≤ (pc : Int) + off then ((0 < x) → K (((pc : Int) + off).toNat) ls (r) h ck sk) ∧ (¬ (0 < x) → K (pc + 3) ls (r) h ck sk) else S) := nrf rfl
theorem w_icmp_gt {w : Wd} {M : Md} {d mc ms pc ck sk : Nat} {P : Pool} {rt : Option FieldType} {ls : List (Option Value)} {h : MH} {Q : Out → MH → Prop} {S : Prop} {K : Nat → List (Option Value) → List Value → MH → Nat → Nat → Prop} {x y : Int32} {off : Int} {r : List Value} : wpI w M d mc ms P rt Q (.if_icmp .gt off, 3) pc ls (.int y :: .int x :: r) h ck sk S K = (if 0 ≤ (pc : Int) + off then ((y < x) → K (((pc : Int) + off).toNat) ls (r) h ck sk) ∧ (¬ (y < x) → K (pc + 3) ls (r) h ck sk) else S) := nrf rfl
theorem w_if_le {w : Wd} {M : Md} {d mc ms pc ck sk : Nat} {P : Pool} {rt : Option FieldType} {ls : List (Option Value)} {h : MH} {Q : Out → MH → Prop} {S : Prop} {K : Nat → List (Option Value) → List Value → MH → Nat → Nat → Prop} {x : Int32} {off : Int} {r : List Value} : wpI w M d mc ms P rt Q (.ifCond .le off, 3) pc ls (.int x :: r) h ck sk S K = (if 0 ≤ (pc : Int) + off then ((x ≤ 0) → K (((pc : Int) + off).toNat) ls (r) h ck sk) ∧ (¬ (x ≤ 0) → K (pc + 3) ls (r) h ck sk) else S) := nrf rfl
theorem w_icmp_le {w : Wd} {M : Md} {d mc ms pc ck sk : Nat} {P : Pool} {rt : Option FieldType} {ls : List (Option Value)} {h : MH} {Q : Out → MH → Prop} {S : Prop} {K : Nat → List (Option Value) → List Value → MH → Nat → Nat → Prop} {x y : Int32} {off : Int} {r : List Value} : wpI w M d mc ms P rt Q (.if_icmp .le off, 3) pc ls (.int y :: .int x :: r) h ck sk S K = (if 0 ≤ (pc : Int) + off then ((x ≤ y) → K (((pc : Int) + off).toNat) ls (r) h ck sk) ∧ (¬ (x ≤ y) → K (pc + 3) ls (r) h ck sk) else S) := nrf rfl
theorem w_goto {w : Wd} {M : Md} {d mc ms pc ck sk : Nat} {P : Pool} {rt : Option FieldType} {ls : List (Option Value)} {h : MH} {Q : Out → MH → Prop} {S : Prop} {K : Nat → List (Option Value) → List Value → MH → Nat → Nat → Prop} {off : Int} {r : List Value} : wpI w M d mc ms P rt Q (.goto off, 3) pc ls (r) h ck sk S K = (if 0 ≤ (pc : Int) + off then K (((pc : Int) + off).toNat) ls (r) h ck sk else S) := nrf rfl
theorem w_ifnullR {w : Wd} {M : Md} {d mc ms pc ck sk : Nat} {P : Pool} {rt : Option FieldType} {ls : List (Option Value)} {h : MH} {Q : Out → MH → Prop} {S : Prop} {K : Nat → List (Option Value) → List Value → MH → Nat → Nat → Prop} {x : Nat} {off : Int} {r : List Value} : wpI w M d mc ms P rt Q (.ifnull off, 3) pc ls (.ref x :: r) h ck sk S K = (K (pc + 3) ls (r) h ck sk) := nrf rfl
theorem w_ifnullN {w : Wd} {M : Md} {d mc ms pc ck sk : Nat} {P : Pool} {rt : Option FieldType} {ls : List (Option Value)} {h : MH} {Q : Out → MH → Prop} {S : Prop} {K : Nat → List (Option Value) → List Value → MH → Nat → Nat → Prop} {off : Int} {r : List Value} : wpI w M d mc ms P rt Q (.ifnull off, 3) pc ls (.null :: r) h ck sk S K = (if 0 ≤ (pc : Int) + off then K (((pc : Int) + off).toNat) ls (r) h ck sk else S) := nrf rfl
theorem w_ifnonnullR {w : Wd} {M : Md} {d mc ms pc ck sk : Nat} {P : Pool} {rt : Option FieldType} {ls : List (Option Value)} {h : MH} {Q : Out → MH → Prop} {S : Prop} {K : Nat → List (Option Value) → List Value → MH → Nat → Nat → Prop} {x : Nat} {off : Int} {r : List Value} : wpI w M d mc ms P rt Q (.ifnonnull off, 3) pc ls (.ref x :: r) h ck sk S K = (if 0 ≤ (pc : Int) + off then K (((pc : Int) + off).toNat) ls (r) h ck sk else S) := nrf rfl
theorem w_ifnonnullN {w : Wd} {M : Md} {d mc ms pc ck sk : Nat} {P : Pool} {rt : Option FieldType} {ls : List (Option Value)} {h : MH} {Q : Out → MH → Prop} {S : Prop} {K : Nat → List (Option Value) → List Value → MH → Nat → Nat → Prop} {off : Int} {r : List Value} : wpI w M d mc ms P rt Q (.ifnonnull off, 3) pc ls (.null :: r) h ck sk S K = (K (pc + 3) ls (r) h ck sk) := nrf rfl
theorem w_acmp_eqRR {w : Wd} {M : Md} {d mc ms pc ck sk : Nat} {P : Pool} {rt : Option FieldType} {ls : List (Option Value)} {h : MH} {Q : Out → MH → Prop} {S : Prop} {K : Nat → List (Option Value) → List Value → MH → Nat → Nat → Prop} {x y : Nat} {off : Int} {r : List Value} : wpI w M d mc ms P rt Q (.if_acmp .eq off, 3) pc ls (.ref y :: .ref x :: r) h ck sk S K = (if 0 ≤ (pc : Int) + off then (x = y → K (((pc : Int) + off).toNat) ls (r) h ck sk) ∧ (¬ x = y → K (pc + 3) ls (r) h ck sk) else S) := nrf rfl
theorem w_acmp_eqNR {w : Wd} {M : Md} {d mc ms pc ck sk : Nat} {P : Pool} {rt : Option FieldType} {ls : List (Option Value)} {h : MH} {Q : Out → MH → Prop} {S : Prop} {K : Nat → List (Option Value) → List Value → MH → Nat → Nat → Prop} {x : Nat} {off : Int} {r : List Value} : wpI w M d mc ms P rt Q (.if_acmp .eq off, 3) pc ls (.null :: .ref x :: r) h ck sk S K = (if 0 ≤ (pc : Int) + off then K (pc + 3) ls (r) h ck sk else S) := nrf rfl
theorem w_acmp_eqRN {w : Wd} {M : Md} {d mc ms pc ck sk : Nat} {P : Pool} {rt : Option FieldType} {ls : List (Option Value)} {h : MH} {Q : Out → MH → Prop} {S : Prop} {K : Nat → List (Option Value) → List Value → MH → Nat → Nat → Prop} {y : Nat} {off : Int} {r : List Value} : wpI w M d mc ms P rt Q (.if_acmp .eq off, 3) pc ls (.ref y :: .null :: r) h ck sk S K = (if 0 ≤ (pc : Int) + off then K (pc + 3) ls (r) h ck sk else S) := nrf rfl
theorem w_acmp_eqNN {w : Wd} {M : Md} {d mc ms pc ck sk : Nat} {P : Pool} {rt : Option FieldType} {ls : List (Option Value)} {h : MH} {Q : Out → MH → Prop} {S : Prop} {K : Nat → List (Option Value) → List Value → MH → Nat → Nat → Prop}  {off : Int} {r : List Value} : wpI w M d mc ms P rt Q (.if_acmp .eq off, 3) pc ls (.null :: .null :: r) h ck sk S K = (if 0 ≤ (pc : Int) + off then K (((pc : Int) + off).toNat) ls (r) h ck sk else S) := nrf rfl
theorem w_acmp_neRR {w : Wd} {M : Md} {d mc ms pc ck sk : Nat} {P : Pool} {rt : Option FieldType} {ls : List (Option Value)} {h : MH} {Q : Out → MH → Prop} {S : Prop} {K : Nat → List (Option Value) → List Value → MH → Nat → Nat → Prop} {x y : Nat} {off : Int} {r : List Value} : wpI w M d mc ms P rt Q (.if_acmp .ne off, 3) pc ls (.ref y :: .ref x :: r) h ck sk S K = (if 0 ≤ (pc : Int) + off then (x = y → K (pc + 3) ls (r) h ck sk) ∧ (¬ x = y → K (((pc : Int) + off).toNat) ls (r) h ck sk) else S) := nrf rfl
theorem w_acmp_neNR {w : Wd} {M : Md} {d mc ms pc ck sk : Nat} {P : Pool} {rt : Option FieldType} {ls : List (Option Value)} {h : MH} {Q : Out → MH → Prop} {S : Prop} {K : Nat → List (Option Value) → List Value → MH → Nat → Nat → Prop} {x : Nat} {off : Int} {r : List Value} : wpI w M d mc ms P rt Q (.if_acmp .ne off, 3) pc ls (.null :: .ref x :: r) h ck sk S K = (if 0 ≤ (pc : Int) + off then K (((pc : Int) + off).toNat) ls (r) h ck sk else S) := nrf rfl
theorem w_acmp_neRN {w : Wd} {M : Md} {d mc ms pc ck sk : Nat} {P : Pool} {rt : Option FieldType} {ls : List (Option Value)} {h : MH} {Q : Out → MH → Prop} {S : Prop} {K : Nat → List (Option Value) → List Value → MH → Nat → Nat → Prop} {y : Nat} {off : Int} {r : List Value} : wpI w M d mc ms P rt Q (.if_acmp .ne off, 3) pc ls (.ref y :: .null :: r) h ck sk S K = (if 0 ≤ (pc : Int) + off then K (((pc : Int) + off).toNat) ls (r) h ck sk else S) := nrf rfl
theorem w_acmp_neNN {w : Wd} {M : Md} {d mc ms pc ck sk : Nat} {P : Pool} {rt : Option FieldType} {ls : List (Option Value)} {h : MH} {Q : Out → MH → Prop} {S : Prop} {K : Nat → List (Option Value) → List Value → MH → Nat → Nat → Prop}  {off : Int} {r : List Value} : wpI w M d mc ms P rt Q (.if_acmp .ne off, 3) pc ls (.null :: .null :: r) h ck sk S K = (if 0 ≤ (pc : Int) + off then K (pc + 3) ls (r) h ck sk else S) := nrf rfl
theorem w_getfield {w : Wd} {M : Md} {d mc ms pc ck sk : Nat} {P : Pool} {rt : Option FieldType} {ls : List (Option Value)} {h : MH} {Q : Out → MH → Prop} {S : Prop} {K : Nat → List (Option Value) → List Value → MH → Nat → Nat → Prop} {idx a : Nat} {r : List Value} : wpI w M d mc ms P rt Q (.getfield idx, 3) pc ls (.ref a :: r) h ck sk S K = (gfA (lkp P.1 idx) (rd w h a) S K (pc + 3) ls r h ck sk) := nrf rfl
theorem w_putfield {w : Wd} {M : Md} {d mc ms pc ck sk : Nat} {P : Pool} {rt : Option FieldType} {ls : List (Option Value)} {h : MH} {Q : Out → MH → Prop} {S : Prop} {K : Nat → List (Option Value) → List Value → MH → Nat → Nat → Prop} {idx a : Nat} {v : Value} {r : List Value} : wpI w M d mc ms P rt Q (.putfield idx, 3) pc ls (v :: .ref a :: r) h ck sk S K = (pfA (lkp P.1 idx) (h a) v a w M S K (pc + 3) ls r h ck sk) := nrf rfl
theorem w_iaload {w : Wd} {M : Md} {d mc ms pc ck sk : Nat} {P : Pool} {rt : Option FieldType} {ls : List (Option Value)} {h : MH} {Q : Out → MH → Prop} {S : Prop} {K : Nat → List (Option Value) → List Value → MH → Nat → Nat → Prop} {i : Int32} {a : Nat} {r : List Value} : wpI w M d mc ms P rt Q (.iaload, 1) pc ls (.int i :: .ref a :: r) h ck sk S K = (arI .int (rd w h a) i S K (pc + 1) ls r h ck sk) := nrf rfl
theorem w_baload {w : Wd} {M : Md} {d mc ms pc ck sk : Nat} {P : Pool} {rt : Option FieldType} {ls : List (Option Value)} {h : MH} {Q : Out → MH → Prop} {S : Prop} {K : Nat → List (Option Value) → List Value → MH → Nat → Nat → Prop} {i : Int32} {a : Nat} {r : List Value} : wpI w M d mc ms P rt Q (.baload, 1) pc ls (.int i :: .ref a :: r) h ck sk S K = (arI .byte (rd w h a) i S K (pc + 1) ls r h ck sk) := nrf rfl
theorem w_laload {w : Wd} {M : Md} {d mc ms pc ck sk : Nat} {P : Pool} {rt : Option FieldType} {ls : List (Option Value)} {h : MH} {Q : Out → MH → Prop} {S : Prop} {K : Nat → List (Option Value) → List Value → MH → Nat → Nat → Prop} {i : Int32} {a : Nat} {r : List Value} : wpI w M d mc ms P rt Q (.laload, 1) pc ls (.int i :: .ref a :: r) h ck sk S K = (arL (rd w h a) i S K (pc + 1) ls r h ck sk) := nrf rfl
theorem w_aaload {w : Wd} {M : Md} {d mc ms pc ck sk : Nat} {P : Pool} {rt : Option FieldType} {ls : List (Option Value)} {h : MH} {Q : Out → MH → Prop} {S : Prop} {K : Nat → List (Option Value) → List Value → MH → Nat → Nat → Prop} {i : Int32} {a : Nat} {r : List Value} : wpI w M d mc ms P rt Q (.aaload, 1) pc ls (.int i :: .ref a :: r) h ck sk S K = (arQ (rd w h a) i S K (pc + 1) ls r h ck sk) := nrf rfl
theorem w_arraylength {w : Wd} {M : Md} {d mc ms pc ck sk : Nat} {P : Pool} {rt : Option FieldType} {ls : List (Option Value)} {h : MH} {Q : Out → MH → Prop} {S : Prop} {K : Nat → List (Option Value) → List Value → MH → Nat → Nat → Prop} {a : Nat} {r : List Value} : wpI w M d mc ms P rt Q (.arraylength, 1) pc ls (.ref a :: r) h ck sk S K = (arN (rd w h a) S K (pc + 1) ls r h ck sk) := nrf rfl
theorem w_iastore {w : Wd} {M : Md} {d mc ms pc ck sk : Nat} {P : Pool} {rt : Option FieldType} {ls : List (Option Value)} {h : MH} {Q : Out → MH → Prop} {S : Prop} {K : Nat → List (Option Value) → List Value → MH → Nat → Nat → Prop} {i x : Int32} {a : Nat} {r : List Value} : wpI w M d mc ms P rt Q (.iastore, 1) pc ls (.int x :: .int i :: .ref a :: r) h ck sk S K = (asI .int (h a) x i a w S K (pc + 1) ls r h ck sk) := nrf rfl
theorem w_bastore {w : Wd} {M : Md} {d mc ms pc ck sk : Nat} {P : Pool} {rt : Option FieldType} {ls : List (Option Value)} {h : MH} {Q : Out → MH → Prop} {S : Prop} {K : Nat → List (Option Value) → List Value → MH → Nat → Nat → Prop} {i x : Int32} {a : Nat} {r : List Value} : wpI w M d mc ms P rt Q (.bastore, 1) pc ls (.int x :: .int i :: .ref a :: r) h ck sk S K = (asI .byte (h a) x.toInt8.toInt32 i a w S K (pc + 1) ls r h ck sk) := nrf rfl
theorem w_lastore {w : Wd} {M : Md} {d mc ms pc ck sk : Nat} {P : Pool} {rt : Option FieldType} {ls : List (Option Value)} {h : MH} {Q : Out → MH → Prop} {S : Prop} {K : Nat → List (Option Value) → List Value → MH → Nat → Nat → Prop} {i : Int32} {x : Int64} {a : Nat} {r : List Value} : wpI w M d mc ms P rt Q (.lastore, 1) pc ls (.long x :: .int i :: .ref a :: r) h ck sk S K = (asL (h a) x i a w S K (pc + 1) ls r h ck sk) := nrf rfl
theorem w_ldc {w : Wd} {M : Md} {d mc ms pc ck sk : Nat} {P : Pool} {rt : Option FieldType} {ls : List (Option Value)} {h : MH} {Q : Out → MH → Prop} {S : Prop} {K : Nat → List (Option Value) → List Value → MH → Nat → Nat → Prop} {idx : Nat} {r : List Value} : wpI w M d mc ms P rt Q (.ldc idx, 2) pc ls (r) h ck sk S K = (lcA (lkp P.2 idx) 1 S K (pc + 2) ls r h ck sk) := nrf rfl
theorem w_ldc_w {w : Wd} {M : Md} {d mc ms pc ck sk : Nat} {P : Pool} {rt : Option FieldType} {ls : List (Option Value)} {h : MH} {Q : Out → MH → Prop} {S : Prop} {K : Nat → List (Option Value) → List Value → MH → Nat → Nat → Prop} {idx : Nat} {r : List Value} : wpI w M d mc ms P rt Q (.ldc_w idx, 3) pc ls (r) h ck sk S K = (lcA (lkp P.2 idx) 1 S K (pc + 3) ls r h ck sk) := nrf rfl
theorem w_ldc2_w {w : Wd} {M : Md} {d mc ms pc ck sk : Nat} {P : Pool} {rt : Option FieldType} {ls : List (Option Value)} {h : MH} {Q : Out → MH → Prop} {S : Prop} {K : Nat → List (Option Value) → List Value → MH → Nat → Nat → Prop} {idx : Nat} {r : List Value} : wpI w M d mc ms P rt Q (.ldc2_w idx, 3) pc ls (r) h ck sk S K = (lcA (lkp P.2 idx) 2 S K (pc + 3) ls r h ck sk) := nrf rfl
theorem w_ireturn {w : Wd} {M : Md} {d mc ms pc ck sk : Nat} {P : Pool} {rt : Option FieldType} {ls : List (Option Value)} {h : MH} {Q : Out → MH → Prop} {S : Prop} {K : Nat → List (Option Value) → List Value → MH → Nat → Nat → Prop} {x : Int32} : wpI w M d mc ms P rt Q (.ireturn, 1) pc ls ([.int x]) h ck sk S K = (rtI rt x ∧ Q (.inl (some (.int x))) h) := nrf rfl
theorem w_lreturn {w : Wd} {M : Md} {d mc ms pc ck sk : Nat} {P : Pool} {rt : Option FieldType} {ls : List (Option Value)} {h : MH} {Q : Out → MH → Prop} {S : Prop} {K : Nat → List (Option Value) → List Value → MH → Nat → Nat → Prop} {x : Int64} : wpI w M d mc ms P rt Q (.lreturn, 1) pc ls ([.long x]) h ck sk S K = (rt = some .long ∧ Q (.inl (some (.long x))) h) := nrf rfl
theorem w_vreturn {w : Wd} {M : Md} {d mc ms pc ck sk : Nat} {P : Pool} {rt : Option FieldType} {ls : List (Option Value)} {h : MH} {Q : Out → MH → Prop} {S : Prop} {K : Nat → List (Option Value) → List Value → MH → Nat → Nat → Prop}  : wpI w M d mc ms P rt Q (.return_, 1) pc ls ([]) h ck sk S K = (rt = none ∧ Q (.inl none) h) := nrf rfl
theorem w_areturn {w : Wd} {M : Md} {d mc ms pc ck sk : Nat} {P : Pool} {rt : Option FieldType} {ls : List (Option Value)} {h : MH} {Q : Out → MH → Prop} {S : Prop} {K : Nat → List (Option Value) → List Value → MH → Nat → Nat → Prop} {a : Nat} : wpI w M d mc ms P rt Q (.areturn, 1) pc ls ([.ref a]) h ck sk S K = (refT rt ∧ Q (.inl (some (.ref a))) h) := nrf rfl
theorem w_areturnN {w : Wd} {M : Md} {d mc ms pc ck sk : Nat} {P : Pool} {rt : Option FieldType} {ls : List (Option Value)} {h : MH} {Q : Out → MH → Prop} {S : Prop} {K : Nat → List (Option Value) → List Value → MH → Nat → Nat → Prop}  : wpI w M d mc ms P rt Q (.areturn, 1) pc ls ([.null]) h ck sk S K = (refT rt ∧ Q (.inl (some .null)) h) := nrf rfl
theorem w_invokestatic {w : Wd} {M : Md} {d mc ms pc ck sk : Nat} {P : Pool} {rt : Option FieldType} {ls : List (Option Value)} {h : MH} {Q : Out → MH → Prop} {S : Prop} {K : Nat → List (Option Value) → List Value → MH → Nat → Nat → Prop} {i : Nat} {r : List Value} : wpI w M d mc ms P rt Q (.invokestatic i, 3) pc ls (r) h ck sk S K = S := nrf rfl
theorem w_invokevirtual {w : Wd} {M : Md} {d mc ms pc ck sk : Nat} {P : Pool} {rt : Option FieldType} {ls : List (Option Value)} {h : MH} {Q : Out → MH → Prop} {S : Prop} {K : Nat → List (Option Value) → List Value → MH → Nat → Nat → Prop} {i : Nat} {r : List Value} : wpI w M d mc ms P rt Q (.invokevirtual i, 3) pc ls (r) h ck sk S K = S := nrf rfl
theorem w_invokespecial {w : Wd} {M : Md} {d mc ms pc ck sk : Nat} {P : Pool} {rt : Option FieldType} {ls : List (Option Value)} {h : MH} {Q : Out → MH → Prop} {S : Prop} {K : Nat → List (Option Value) → List Value → MH → Nat → Nat → Prop} {i : Nat} {r : List Value} : wpI w M d mc ms P rt Q (.invokespecial i, 3) pc ls (r) h ck sk S K = S := nrf rfl
theorem w_invokeinterface {w : Wd} {M : Md} {d mc ms pc ck sk : Nat} {P : Pool} {rt : Option FieldType} {ls : List (Option Value)} {h : MH} {Q : Out → MH → Prop} {S : Prop} {K : Nat → List (Option Value) → List Value → MH → Nat → Nat → Prop} {i j : Nat} {r : List Value} : wpI w M d mc ms P rt Q (.invokeinterface i j, 5) pc ls (r) h ck sk S K = S := nrf rfl
theorem w_invokedynamic {w : Wd} {M : Md} {d mc ms pc ck sk : Nat} {P : Pool} {rt : Option FieldType} {ls : List (Option Value)} {h : MH} {Q : Out → MH → Prop} {S : Prop} {K : Nat → List (Option Value) → List Value → MH → Nat → Nat → Prop} {i : Nat} {r : List Value} : wpI w M d mc ms P rt Q (.invokedynamic i, 5) pc ls (r) h ck sk S K = S := nrf rfl
theorem w_new {w : Wd} {M : Md} {d mc ms pc ck sk : Nat} {P : Pool} {rt : Option FieldType} {ls : List (Option Value)} {h : MH} {Q : Out → MH → Prop} {S : Prop} {K : Nat → List (Option Value) → List Value → MH → Nat → Nat → Prop} {i : Nat} {r : List Value} : wpI w M d mc ms P rt Q (.new i, 3) pc ls (r) h ck sk S K = S := nrf rfl
theorem w_newarray {w : Wd} {M : Md} {d mc ms pc ck sk : Nat} {P : Pool} {rt : Option FieldType} {ls : List (Option Value)} {h : MH} {Q : Out → MH → Prop} {S : Prop} {K : Nat → List (Option Value) → List Value → MH → Nat → Nat → Prop} {i : ArrayType} {r : List Value} : wpI w M d mc ms P rt Q (.newarray i, 2) pc ls (r) h ck sk S K = S := nrf rfl
theorem w_anewarray {w : Wd} {M : Md} {d mc ms pc ck sk : Nat} {P : Pool} {rt : Option FieldType} {ls : List (Option Value)} {h : MH} {Q : Out → MH → Prop} {S : Prop} {K : Nat → List (Option Value) → List Value → MH → Nat → Nat → Prop} {i : Nat} {r : List Value} : wpI w M d mc ms P rt Q (.anewarray i, 3) pc ls (r) h ck sk S K = S := nrf rfl
theorem w_checkcast {w : Wd} {M : Md} {d mc ms pc ck sk : Nat} {P : Pool} {rt : Option FieldType} {ls : List (Option Value)} {h : MH} {Q : Out → MH → Prop} {S : Prop} {K : Nat → List (Option Value) → List Value → MH → Nat → Nat → Prop} {i : Nat} {r : List Value} : wpI w M d mc ms P rt Q (.checkcast i, 3) pc ls (r) h ck sk S K = S := nrf rfl
theorem w_instanceof {w : Wd} {M : Md} {d mc ms pc ck sk : Nat} {P : Pool} {rt : Option FieldType} {ls : List (Option Value)} {h : MH} {Q : Out → MH → Prop} {S : Prop} {K : Nat → List (Option Value) → List Value → MH → Nat → Nat → Prop} {i : Nat} {r : List Value} : wpI w M d mc ms P rt Q (.instanceof i, 3) pc ls (r) h ck sk S K = S := nrf rfl
theorem w_getstatic {w : Wd} {M : Md} {d mc ms pc ck sk : Nat} {P : Pool} {rt : Option FieldType} {ls : List (Option Value)} {h : MH} {Q : Out → MH → Prop} {S : Prop} {K : Nat → List (Option Value) → List Value → MH → Nat → Nat → Prop} {i : Nat} {r : List Value} : wpI w M d mc ms P rt Q (.getstatic i, 3) pc ls (r) h ck sk S K = S := nrf rfl
theorem w_athrow {w : Wd} {M : Md} {d mc ms pc ck sk : Nat} {P : Pool} {rt : Option FieldType} {ls : List (Option Value)} {h : MH} {Q : Out → MH → Prop} {S : Prop} {K : Nat → List (Option Value) → List Value → MH → Nat → Nat → Prop}  {r : List Value} : wpI w M d mc ms P rt Q (.athrow, 1) pc ls (r) h ck sk S K = S := nrf rfl
theorem w_aastore {w : Wd} {M : Md} {d mc ms pc ck sk : Nat} {P : Pool} {rt : Option FieldType} {ls : List (Option Value)} {h : MH} {Q : Out → MH → Prop} {S : Prop} {K : Nat → List (Option Value) → List Value → MH → Nat → Nat → Prop}  {r : List Value} : wpI w M d mc ms P rt Q (.aastore, 1) pc ls (r) h ck sk S K = S := nrf rfl
theorem w_tableswitch {w : Wd} {M : Md} {d mc ms pc ck sk : Nat} {P : Pool} {rt : Option FieldType} {ls : List (Option Value)} {h : MH} {Q : Out → MH → Prop} {S : Prop} {K : Nat → List (Option Value) → List Value → MH → Nat → Nat → Prop} {a b c : Int} {f : Array Int} {n : Nat} {r : List Value} : wpI w M d mc ms P rt Q (.tableswitch a b c f, n) pc ls (r) h ck sk S K = S := nrf rfl
theorem w_lookupswitch {w : Wd} {M : Md} {d mc ms pc ck sk : Nat} {P : Pool} {rt : Option FieldType} {ls : List (Option Value)} {h : MH} {Q : Out → MH → Prop} {S : Prop} {K : Nat → List (Option Value) → List Value → MH → Nat → Nat → Prop} {a : Int} {f : Array (Int × Int)} {n : Nat} {r : List Value} : wpI w M d mc ms P rt Q (.lookupswitch a f, n) pc ls (r) h ck sk S K = S := nrf rfl
set_option maxHeartbeats 4000000 in
theorem wpI_sound {w : Wd} {M : Md} {d mc ms : Nat} {P : Pool} {rt : Option FieldType} {Q : Out → MH → Prop} {il : Instr × Nat} {pc : Nat} {ls : List (Option Value)} {st : List Value} {h : MH} {ck sk : Nat} {S : Prop} {K : Nat → List (Option Value) → List Value → MH → Nat → Nat → Prop} (hP : POK M.1.cls P) (hrt : M.2.2.2.1 = rt) (hd : decode M.2.1 pc = .ok il) (hS : S → X w M d mc ms pc ls st h ck sk Q) (hK : ∀ pc' ls' st' h' ck' sk', K pc' ls' st' h' ck' sk' → X w M d mc ms pc' ls' st' h' ck' sk' Q) (hw : wpI w M d mc ms P rt Q il pc ls st h ck sk S K) : X w M d mc ms pc ls st h ck sk Q := by
  unfold wpI at hw
  split at hw
  · exact x_iconst hd (hK _ _ _ _ _ _ hw)
  · exact x_bipush hd (hK _ _ _ _ _ _ hw)
  · exact x_sipush hd (hK _ _ _ _ _ _ hw)
  · exact x_lconst hd (hK _ _ _ _ _ _ hw)
  · exact x_null hd (hK _ _ _ _ _ _ hw)
  · rcases ldI_or hw with ⟨x, hv, hw⟩ | hw
    · exact x_iload_n hd hv (hK _ _ _ _ _ _ hw)
    · exact hS hw
  · rcases ldI_or hw with ⟨x, hv, hw⟩ | hw
    · exact x_iload hd hv (hK _ _ _ _ _ _ hw)
    · exact hS hw
  · rcases ldL_or hw with ⟨x, hv, hw⟩ | hw
    · exact x_lload_n hd hv (hK _ _ _ _ _ _ hw)
    · exact hS hw
  · rcases ldL_or hw with ⟨x, hv, hw⟩ | hw
    · exact x_lload hd hv (hK _ _ _ _ _ _ hw)
    · exact hS hw
  · rcases ldA_or hw with ⟨x, hv, hw⟩ | ⟨hv, hw⟩ | hw
    · exact x_aload_n hd hv (hK _ _ _ _ _ _ hw)
    · exact x_aload_nN hd hv (hK _ _ _ _ _ _ hw)
    · exact hS hw
  · rcases ldA_or hw with ⟨x, hv, hw⟩ | ⟨hv, hw⟩ | hw
    · exact x_aload hd hv (hK _ _ _ _ _ _ hw)
    · exact x_aloadN hd hv (hK _ _ _ _ _ _ hw)
    · exact hS hw
  · split at hw
    · split at hw
      · rename_i hi
        exact x_istore_n hd hi (hK _ _ _ _ _ _ hw)
      · exact hS hw
    · exact hS hw
  · split at hw
    · split at hw
      · rename_i hi
        exact x_istore hd hi (hK _ _ _ _ _ _ hw)
      · exact hS hw
    · exact hS hw
  · split at hw
    · split at hw
      · rename_i hi
        exact x_lstore_n hd hi (hK _ _ _ _ _ _ hw)
      · exact hS hw
    · exact hS hw
  · split at hw
    · split at hw
      · rename_i hi
        exact x_lstore hd hi (hK _ _ _ _ _ _ hw)
      · exact hS hw
    · exact hS hw
  · split at hw
    · split at hw
      · rename_i hi
        exact x_astore_n hd hi (hK _ _ _ _ _ _ hw)
      · exact hS hw
    · split at hw
      · rename_i hi
        exact x_astore_nN hd hi (hK _ _ _ _ _ _ hw)
      · exact hS hw
    · exact hS hw
  · split at hw
    · split at hw
      · rename_i hi
        exact x_astore hd hi (hK _ _ _ _ _ _ hw)
      · exact hS hw
    · split at hw
      · rename_i hi
        exact x_astoreN hd hi (hK _ _ _ _ _ _ hw)
      · exact hS hw
    · exact hS hw
  · rcases ldJ_or hw with ⟨x, hv, hw⟩ | hw
    · exact x_iinc hd hv (hK _ _ _ _ _ _ hw)
    · exact hS hw
  · split at hw
    · exact x_iadd hd (hK _ _ _ _ _ _ hw)
    · exact hS hw
  · split at hw
    · exact x_isub hd (hK _ _ _ _ _ _ hw)
    · exact hS hw
  · split at hw
    · exact x_imul hd (hK _ _ _ _ _ _ hw)
    · exact hS hw
  · split at hw
    · exact x_iand hd (hK _ _ _ _ _ _ hw)
    · exact hS hw
  · split at hw
    · exact x_ior hd (hK _ _ _ _ _ _ hw)
    · exact hS hw
  · split at hw
    · exact x_ixor hd (hK _ _ _ _ _ _ hw)
    · exact hS hw
  · split at hw
    · exact x_ishl hd (hK _ _ _ _ _ _ hw)
    · exact hS hw
  · split at hw
    · exact x_ishr hd (hK _ _ _ _ _ _ hw)
    · exact hS hw
  · split at hw
    · exact x_iushr hd (hK _ _ _ _ _ _ hw)
    · exact hS hw
  · split at hw
    · exact x_ineg hd (hK _ _ _ _ _ _ hw)
    · exact hS hw
  · split at hw
    · exact x_i2l hd (hK _ _ _ _ _ _ hw)
    · exact hS hw
  · split at hw
    · exact x_l2i hd (hK _ _ _ _ _ _ hw)
    · exact hS hw
  · split at hw
    · exact x_i2b hd (hK _ _ _ _ _ _ hw)
    · exact hS hw
  · split at hw
    · exact x_i2c hd (hK _ _ _ _ _ _ hw)
    · exact hS hw
  · split at hw
    · exact x_ladd hd (hK _ _ _ _ _ _ hw)
    · exact hS hw
  · split at hw
    · exact x_lsub hd (hK _ _ _ _ _ _ hw)
    · exact hS hw
  · split at hw
    · exact x_lmul hd (hK _ _ _ _ _ _ hw)
    · exact hS hw
  · split at hw
    · exact x_land hd (hK _ _ _ _ _ _ hw)
    · exact hS hw
  · split at hw
    · exact x_lor hd (hK _ _ _ _ _ _ hw)
    · exact hS hw
  · split at hw
    · exact x_lxor hd (hK _ _ _ _ _ _ hw)
    · exact hS hw
  · split at hw
    · exact x_lcmp hd (hK _ _ _ _ _ _ hw)
    · exact hS hw
  · split at hw
    · exact x_idiv hd hw.1 (hK _ _ _ _ _ _ hw.2)
    · exact hS hw
  · split at hw
    · exact x_irem hd hw.1 (hK _ _ _ _ _ _ hw.2)
    · exact hS hw
  · split at hw
    · exact x_ldiv hd hw.1 (hK _ _ _ _ _ _ hw.2)
    · exact hS hw
  · split at hw
    · split at hw
      · rename_i hi
        exact x_dup hd hi (hK _ _ _ _ _ _ hw)
      · exact hS hw
    · exact hS hw
  · split at hw
    · split at hw
      · rename_i hi
        exact x_pop hd hi (hK _ _ _ _ _ _ hw)
      · exact hS hw
    · exact hS hw
  · split at hw
    · split at hw
      · rename_i hi
        exact x_dup_x1 hd hi.1 hi.2 (hK _ _ _ _ _ _ hw)
      · exact hS hw
    · exact hS hw
  · split at hw
    · split at hw
      · rename_i hi
        exact x_dup_x2 hd hi.1 hi.2.1 hi.2.2 (hK _ _ _ _ _ _ hw)
      · exact hS hw
    · exact hS hw
  · split at hw
    · split at hw
      · rename_i hi
        exact x_dup2 hd hi.1 hi.2 (hK _ _ _ _ _ _ hw)
      · exact hS hw
    · exact hS hw
  · split at hw
    · split at hw
      · rename_i hi
        exact x_if_eq hd (Int.toNat_of_nonneg hi).symm (fun q => hK _ _ _ _ _ _ (hw.1 q)) (fun q => hK _ _ _ _ _ _ (hw.2 q))
      · exact hS hw
    · exact hS hw
  · split at hw
    · split at hw
      · rename_i hi
        exact x_icmp_eq hd (Int.toNat_of_nonneg hi).symm (fun q => hK _ _ _ _ _ _ (hw.1 q)) (fun q => hK _ _ _ _ _ _ (hw.2 q))
      · exact hS hw
    · exact hS hw
  · split at hw
    · split at hw
      · rename_i hi
        exact x_if_ne hd (Int.toNat_of_nonneg hi).symm (fun q => hK _ _ _ _ _ _ (hw.1 q)) (fun q => hK _ _ _ _ _ _ (hw.2 q))
      · exact hS hw
    · exact hS hw
  · split at hw
    · split at hw
      · rename_i hi
        exact x_icmp_ne hd (Int.toNat_of_nonneg hi).symm (fun q => hK _ _ _ _ _ _ (hw.1 q)) (fun q => hK _ _ _ _ _ _ (hw.2 q))
      · exact hS hw
    · exact hS hw
  · split at hw
    · split at hw
      · rename_i hi
        exact x_if_lt hd (Int.toNat_of_nonneg hi).symm (fun q => hK _ _ _ _ _ _ (hw.1 q)) (fun q => hK _ _ _ _ _ _ (hw.2 q))
      · exact hS hw
    · exact hS hw
  · split at hw
    · split at hw
      · rename_i hi
        exact x_icmp_lt hd (Int.toNat_of_nonneg hi).symm (fun q => hK _ _ _ _ _ _ (hw.1 q)) (fun q => hK _ _ _ _ _ _ (hw.2 q))
      · exact hS hw
    · exact hS hw
  · split at hw
    · split at hw
      · rename_i hi
        exact x_if_ge hd (Int.toNat_of_nonneg hi).symm (fun q => hK _ _ _ _ _ _ (hw.1 q)) (fun q => hK _ _ _ _ _ _ (hw.2 q))
      · exact hS hw
    · exact hS hw
  · split at hw
    · split at hw
      · rename_i hi
        exact x_icmp_ge hd (Int.toNat_of_nonneg hi).symm (fun q => hK _ _ _ _ _ _ (hw.1 q)) (fun q => hK _ _ _ _ _ _ (hw.2 q))
      · exact hS hw
    · exact hS hw
  · split at hw
    · split at hw
      · rename_i hi
        exact x_if_gt hd (Int.toNat_of_nonneg hi).symm (fun q => hK _ _ _ _ _ _ (hw.1 q)) (fun q => hK _ _ _ _ _ _ (hw.2 q))
      · exact hS hw
    · exact hS hw
  · split at hw
    · split at hw
      · rename_i hi
        exact x_icmp_gt hd (Int.toNat_of_nonneg hi).symm (fun q => hK _ _ _ _ _ _ (hw.1 q)) (fun q => hK _ _ _ _ _ _ (hw.2 q))
      · exact hS hw
    · exact hS hw
  · split at hw
    · split at hw
      · rename_i hi
        exact x_if_le hd (Int.toNat_of_nonneg hi).symm (fun q => hK _ _ _ _ _ _ (hw.1 q)) (fun q => hK _ _ _ _ _ _ (hw.2 q))
      · exact hS hw
    · exact hS hw
  · split at hw
    · split at hw
      · rename_i hi
        exact x_icmp_le hd (Int.toNat_of_nonneg hi).symm (fun q => hK _ _ _ _ _ _ (hw.1 q)) (fun q => hK _ _ _ _ _ _ (hw.2 q))
      · exact hS hw
    · exact hS hw
  · split at hw
    · rename_i hi
      exact x_goto hd (Int.toNat_of_nonneg hi).symm (hK _ _ _ _ _ _ hw)
    · exact hS hw
  · split at hw
    · exact x_ifnullR hd (hK _ _ _ _ _ _ hw)
    · split at hw
      · rename_i hi
        exact x_ifnullN hd (Int.toNat_of_nonneg hi).symm (hK _ _ _ _ _ _ hw)
      · exact hS hw
    · exact hS hw
  · split at hw
    · split at hw
      · rename_i hi
        exact x_ifnonnullR hd (Int.toNat_of_nonneg hi).symm (hK _ _ _ _ _ _ hw)
      · exact hS hw
    · exact x_ifnonnullN hd (hK _ _ _ _ _ _ hw)
    · exact hS hw
  · split at hw
    · split at hw
      · rename_i hi
        exact x_acmp_eq (rx := some _) (ry := some _) hd (Int.toNat_of_nonneg hi).symm (fun q => hK _ _ _ _ _ _ (hw.1 (Option.some.inj q))) (fun q => hK _ _ _ _ _ _ (hw.2 fun z => q (by rw [z])))
      · exact hS hw
    · split at hw
      · rename_i hi
        exact x_acmp_eq (rx := some _) (ry := none) hd (Int.toNat_of_nonneg hi).symm (fun q => nomatch q) (fun _ => hK _ _ _ _ _ _ hw)
      · exact hS hw
    · split at hw
      · rename_i hi
        exact x_acmp_eq (rx := none) (ry := some _) hd (Int.toNat_of_nonneg hi).symm (fun q => nomatch q) (fun _ => hK _ _ _ _ _ _ hw)
      · exact hS hw
    · split at hw
      · rename_i hi
        exact x_acmp_eq (rx := none) (ry := none) hd (Int.toNat_of_nonneg hi).symm (fun _ => hK _ _ _ _ _ _ hw) (fun q => absurd rfl q)
      · exact hS hw
    · exact hS hw
  · split at hw
    · split at hw
      · rename_i hi
        exact x_acmp_ne (rx := some _) (ry := some _) hd (Int.toNat_of_nonneg hi).symm (fun q => hK _ _ _ _ _ _ (hw.2 fun z => q (by rw [z]))) (fun q => hK _ _ _ _ _ _ (hw.1 (Option.some.inj q)))
      · exact hS hw
    · split at hw
      · rename_i hi
        exact x_acmp_ne (rx := some _) (ry := none) hd (Int.toNat_of_nonneg hi).symm (fun _ => hK _ _ _ _ _ _ hw) (fun q => nomatch q)
      · exact hS hw
    · split at hw
      · rename_i hi
        exact x_acmp_ne (rx := none) (ry := some _) hd (Int.toNat_of_nonneg hi).symm (fun _ => hK _ _ _ _ _ _ hw) (fun q => nomatch q)
      · exact hS hw
    · split at hw
      · rename_i hi
        exact x_acmp_ne (rx := none) (ry := none) hd (Int.toNat_of_nonneg hi).symm (fun q => absurd rfl q) (fun _ => hK _ _ _ _ _ _ hw)
      · exact hS hw
    · exact hS hw
  · split at hw
    · rcases gfA_or hw with ⟨ci, k, ty, fin, fs, v, e1, e2, e3, hw⟩ | hw
      · exact x_getf hd (hP.1 _ _ (lkp_mem e1)).ro e2 e3 (hK _ _ _ _ _ _ hw)
      · exact hS hw
    · exact hS hw
  · split at hw
    · rcases pfA_or hw with ⟨ci, k, ty, fin, fs, e1, e2, e3, e4, e5, e6, hw⟩ | hw
      · exact x_putf hd (show FldOK _ _ _ _ _ _ from hP.1 _ _ (lkp_mem e1)) e5 e4 e2 e3 e6 (hK _ _ _ _ _ _ hw)
      · exact hS hw
    · exact hS hw
  · split at hw
    · rcases arI_or hw with ⟨n, f, e1, e2, hw⟩ | hw
      · exact x_iald hd e1 e2 (hK _ _ _ _ _ _ hw)
      · exact hS hw
    · exact hS hw
  · split at hw
    · rcases arI_or hw with ⟨n, f, e1, e2, hw⟩ | hw
      · exact x_bald hd e1 e2 (hK _ _ _ _ _ _ hw)
      · exact hS hw
    · exact hS hw
  · split at hw
    · rcases arL_or hw with ⟨n, f, e1, e2, hw⟩ | hw
      · exact x_lald hd e1 e2 (hK _ _ _ _ _ _ hw)
      · exact hS hw
    · exact hS hw
  · split at hw
    · rcases arQ_or hw with ⟨ty, n, f, e1, e2, e3, hw⟩ | hw
      · exact x_aald hd e1 e2 e3 (hK _ _ _ _ _ _ hw)
      · exact hS hw
    · exact hS hw
  · split at hw
    · rcases arN_or hw with ⟨t, e1, hw⟩ | hw
      · exact x_alen hd e1 (hK _ _ _ _ _ _ hw)
      · exact hS hw
    · exact hS hw
  · split at hw
    · rcases asI_or hw with ⟨n, f, e1, e2, e3, hw⟩ | hw
      · exact x_iast hd e2 e1 e3 (hK _ _ _ _ _ _ hw)
      · exact hS hw
    · exact hS hw
  · split at hw
    · rcases asI_or hw with ⟨n, f, e1, e2, e3, hw⟩ | hw
      · exact x_bast hd e2 e1 e3 (hK _ _ _ _ _ _ hw)
      · exact hS hw
    · exact hS hw
  · split at hw
    · rcases asL_or hw with ⟨n, f, e1, e2, e3, hw⟩ | hw
      · exact x_last hd e2 e1 e3 (hK _ _ _ _ _ _ hw)
      · exact hS hw
    · exact hS hw
  · rcases lcA_or hw with ⟨v, e1, e2, hw⟩ | hw
    · exact x_ldc hd (hP.2 _ _ (lkp_mem e1)) e2 (hK _ _ _ _ _ _ hw)
    · exact hS hw
  · rcases lcA_or hw with ⟨v, e1, e2, hw⟩ | hw
    · exact x_ldcw hd (hP.2 _ _ (lkp_mem e1)) e2 (hK _ _ _ _ _ _ hw)
    · exact hS hw
  · rcases lcA_or hw with ⟨v, e1, e2, hw⟩ | hw
    · exact x_ldc2 hd (hP.2 _ _ (lkp_mem e1)) e2 (hK _ _ _ _ _ _ hw)
    · exact hS hw
  · split at hw
    · obtain ⟨hw1, hw2⟩ := hw
      unfold rtI at hw1
      split at hw1
      · exact x_iret hd hrt hw1 hw2
      · exact hw1.elim
    · exact hS hw
  · split at hw
    · exact x_lret hd (hrt.trans hw.1) hw.2
    · exact hS hw
  · split at hw
    · exact x_vret hd (hrt.trans hw.1) hw.2
    · exact hS hw
  · split at hw
    · exact x_aret hd (by rw [hrt]; exact hw.1) (Or.inr ⟨_, rfl⟩) hw.2
    · exact x_aret hd (by rw [hrt]; exact hw.1) (Or.inl rfl) hw.2
    · exact hS hw
  · exact hS hw
def stp : List Nat → Nat → Prop → Prop → Prop
  | [], _, _, B => B
  | s :: r, pc, A, B => if pc = s then A else stp r pc A B
def wpD (w : Wd) (M : Md) (d mc ms : Nat) (P : Pool) (rt : Option FieldType) (Q : Out → MH → Prop) (x : Except DecodeError (Instr × Nat)) (pc : Nat) (ls : List (Option Value)) (st : List Value) (h : MH) (ck sk : Nat) (S : Prop) (K : Kt) : Prop := match x with
  | .ok il => wpI w M d mc ms P rt Q il pc ls st h ck sk S K
  | .error _ => S
theorem wpD_ok {w : Wd} {M : Md} {d mc ms : Nat} {P : Pool} {rt : Option FieldType} {Q : Out → MH → Prop} {il : Instr × Nat} {pc : Nat} {ls : List (Option Value)} {st : List Value} {h : MH} {ck sk : Nat} {S : Prop} {K : Kt} : wpD w M d mc ms P rt Q (.ok il) pc ls st h ck sk S K = wpI w M d mc ms P rt Q il pc ls st h ck sk S K := nrf rfl
def wp (w : Wd) (M : Md) (d mc ms : Nat) (P : Pool) (rt : Option FieldType) (cc : ByteArray) (Q : Out → MH → Prop) (sp : List Nat) : Nat → Nat → List (Option Value) → List Value → MH → Nat → Nat → Prop
  | 0, pc, ls, st, h, ck, sk => X w M d mc ms pc ls st h ck sk Q
  | n + 1, pc, ls, st, h, ck, sk => stp sp pc (X w M d mc ms pc ls st h ck sk Q) (wpD w M d mc ms P rt Q (decode cc pc) pc ls st h ck sk (X w M d mc ms pc ls st h ck sk Q) (wp w M d mc ms P rt cc Q sp n))
section WPT
variable {w : Wd} {M : Md} {d mc ms : Nat} {P : Pool} {rt : Option FieldType} {cc : ByteArray} {Q : Out → MH → Prop} {sp : List Nat} {pc : Nat} {ls : List (Option Value)} {st : List Value} {h : MH} {ck sk : Nat}
theorem wp_z : wp w M d mc ms P rt cc Q sp 0 pc ls st h ck sk = X w M d mc ms pc ls st h ck sk Q := nrf rfl
theorem wp_s {n : Nat} : wp w M d mc ms P rt cc Q sp (n + 1) pc ls st h ck sk = stp sp pc (X w M d mc ms pc ls st h ck sk Q) (wpD w M d mc ms P rt Q (decode cc pc) pc ls st h ck sk (X w M d mc ms pc ls st h ck sk Q) (wp w M d mc ms P rt cc Q sp n)) := nrf rfl
theorem stp_n {A B : Prop} : stp [] pc A B = B := nrf rfl
theorem stp_c {s : Nat} {r : List Nat} {A B : Prop} : stp (s :: r) pc A B = if pc = s then A else stp r pc A B := nrf rfl
theorem stp_or {A B : Prop} (hw : stp sp pc A B) : A ∨ B := by
  induction sp with
  | nil => exact Or.inr hw
  | cons s r ih =>
    rw [stp_c] at hw
    split at hw
    · exact Or.inl hw
    · exact ih hw
theorem wpD_sound {K : Kt} {S : Prop} (hP : POK M.1.cls P) (hrt : M.2.2.2.1 = rt) (hcc : M.2.1 = cc) (hS : S → X w M d mc ms pc ls st h ck sk Q) (hK : ∀ pc' ls' st' h' ck' sk', K pc' ls' st' h' ck' sk' → X w M d mc ms pc' ls' st' h' ck' sk' Q) (hw : wpD w M d mc ms P rt Q (decode cc pc) pc ls st h ck sk S K) : X w M d mc ms pc ls st h ck sk Q := by
  subst hcc
  cases hd : decode M.2.1 pc with
  | error x => rw [hd] at hw; exact hS hw
  | ok il => rw [hd] at hw; exact wpI_sound hP hrt hd hS hK hw
theorem wp_sound (hP : POK M.1.cls P) (hrt : M.2.2.2.1 = rt) (hcc : M.2.1 = cc) (n : Nat) : ∀ pc ls st h ck sk, wp w M d mc ms P rt cc Q sp n pc ls st h ck sk → X w M d mc ms pc ls st h ck sk Q := by
  induction n with
  | zero => intro pc ls st h ck sk hw; exact hw
  | succ n ih =>
    intro pc ls st h ck sk hw
    rw [wp_s] at hw
    rcases stp_or hw with hw | hw
    · exact hw
    · exact wpD_sound hP hrt hcc id ih hw
/-- from here, n + 1 steps at most, up to the stops sp (and to calls) -/
theorem x_go (n : Nat) (sp : List Nat) (hP : POK M.1.cls P) (hrt : M.2.2.2.1 = rt) (hcc : M.2.1 = cc) (hw : wpD w M d mc ms P rt Q (decode cc pc) pc ls st h ck sk (X w M d mc ms pc ls st h ck sk Q) (wp w M d mc ms P rt cc Q sp n)) : X w M d mc ms pc ls st h ck sk Q :=
  wpD_sound hP hrt hcc id (wp_sound hP hrt hcc n) hw
end WPT

