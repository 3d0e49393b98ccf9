/-! ===== what stays true of a field: corners distinct, sides don't meet ===== -/
abbrev corn (f : Fld) (p k : Nat) : Pt := ptk (plk f p).2.2 k
abbrev lenP (f : Fld) (p : Nat) : Nat := (plk f p).2.2.length
abbrev sidB (f : Fld) (p k : Nat) : Pt := ptk (plk f p).2.2 (nx (plk f p).2.2.length k)
def fldI (f : Fld) : Prop := (∀ p k p' k', p < nP f → k < lenP f p → p' < nP f → k' < lenP f p' → (p ≠ p' ∨ k ≠ k') → corn f p k ≠ corn f p' k') ∧
  (∀ p k p' k', p < nP f → k < sidesN (plk f p) → p' < nP f → k' < sidesN (plk f p') → (p ≠ p' ∨ k ≠ k') → meB (corn f p k) (sidB f p k) (corn f p' k') (sidB f p' k') = false) ∧
  (∀ p, p < nP f → (plk f p).2.1 = true → 3 ≤ lenP f p) ∧ ∀ pl ∈ f.2.2.2, ∀ q ∈ pl.2.2, ((0 : Int) ≤ q.1 ∧ q.1 ≤ f.1.1) ∧ 0 ≤ q.2 ∧ q.2 ≤ f.1.2
theorem meB_rv (a b c d : Pt) : meB a b c d = meB b a c d := by
  have tn : ∀ z, tnP b a z = -tnP a b z := fun z => by unfold tnP tnZ; grind
  have ap : ∀ x y : Int, apB (-x) (-y) = apB x y := fun x y => by unfold apB; rw [decide_eq_decide]; omega
  have ap2 : ∀ x y : Int, apB x y = apB y x := fun x y => by unfold apB; rw [decide_eq_decide]; omega
  have wi : ∀ z, wiB b a z = wiB a b z := fun z => by
    unfold wiB
    rw [onB_sw b a, Bool.and_comm (decide (z ≠ b))]
  unfold meB crB
  rw [tn, tn, ap, ap2 (tnP c d b), wi, wi]
  have e : decide ((a = c ∧ b = d) ∨ (a = d ∧ b = c)) = decide ((b = c ∧ a = d) ∨ (b = d ∧ a = c)) := by
    rw [decide_eq_decide]
    constructor
    · rintro (⟨h1, h2⟩ | ⟨h1, h2⟩)
      · exact .inr ⟨h2, h1⟩
      · exact .inl ⟨h2, h1⟩
    · rintro (⟨h1, h2⟩ | ⟨h1, h2⟩)
      · exact .inr ⟨h2, h1⟩
      · exact .inl ⟨h2, h1⟩
  rw [e]
  generalize (apB (tnP a b c) (tnP a b d) && apB (tnP c d a) (tnP c d b)) = A
  generalize wiB a b c = B
  generalize wiB a b d = C
  generalize wiB c d a = D
  generalize wiB c d b = E
  cases A <;> cases B <;> cases C <;> cases D <;> cases E <;> rfl
theorem nx_s {n k : Nat} (h : k + 1 < n) : nx n k = k + 1 := by unfold nx; rw [if_neg (by omega)]
theorem nx_e {n k : Nat} (h : k + 1 = n) : nx n k = 0 := by unfold nx; rw [if_pos h]
theorem anyN_ff {n : Nat} {g : Nat → Bool} (h : anyN n g = false) {k : Nat} (hk : k < n) : g k = false := by
  cases e : g k with
  | false => rfl
  | true => rw [anyN_t hk e] at h; cases h
theorem lineR_0 {f : Fld} {g : Gs} {a b : Pt} (h : lineR f g a b = 0) : (∀ p k, p < nP f → k < lenP f p → ¬ ((p : Int) = g.1 ∧ (k : Int) = g.2.2.2) → wiB a b (corn f p k) = false) ∧ ∀ p k, p < nP f → k < sidesN (plk f p) → ¬ ((p : Int) = g.1 ∧ ((k : Int) = g.2.1 ∨ (k : Int) = g.2.2.1)) → meB a b (corn f p k) (sidB f p k) = false := by
  unfold lineR at h
  have hb : blockB f g a b = false := by
    cases e : blockB f g a b with
    | false => rfl
    | true => rw [if_pos e] at h; cases h
  rw [hb, if_neg (by decide)] at h
  have hc : crossB f g a b = false := by
    cases e : crossB f g a b with
    | false => rfl
    | true => rw [if_pos e] at h; cases h
  unfold blockB at hb
  unfold crossB at hc
  rw [Bool.or_eq_false_iff] at hb
  refine ⟨fun p k hp hk hn => ?_, fun p k hp hk hn => ?_⟩
  · have := anyN_ff (anyN_ff hb.2 hp) hk
    rw [decide_eq_false hn] at this
    simpa using this
  · have := anyN_ff (anyN_ff hc hp) hk
    rw [decide_eq_false hn] at this
    simpa using this
theorem corn_fresh {f : Fld} {q : Pt} (h : isCornB f q = false) {p k : Nat} (hp : p < nP f) (hk : k < lenP f p) : corn f p k ≠ q := of_decide_eq_false (anyN_ff (anyN_ff h hp) hk)
section INV
variable {f : Fld}
theorem fldI_set (h : fldI f) {p0 : Nat} {pl : Poly} (hp : p0 < nP f) (gone nw : Nat → Prop) (σ τ : Nat → Nat) (kn : Nat) (q : Pt)
    (hq : kn < pl.2.2.length → isCornB f q = false)
    (hc : ∀ k, k < pl.2.2.length → (k ≠ kn ∧ σ k < lenP f p0 ∧ ptk pl.2.2 k = corn f p0 (σ k)) ∨ (k = kn ∧ ptk pl.2.2 k = q))
    (hσ : ∀ i j, i < j → j < pl.2.2.length → i ≠ kn → j ≠ kn → σ i ≠ σ j)
    (hs : ∀ k, k < sidesN pl → (¬ nw k ∧ τ k < sidesN (plk f p0) ∧ ¬ gone (τ k) ∧ ptk pl.2.2 k = corn f p0 (τ k) ∧ ptk pl.2.2 (nx pl.2.2.length k) = sidB f p0 (τ k)) ∨ (nw k ∧ ∀ p k', p < nP f → k' < sidesN (plk f p) → ¬ (p = p0 ∧ gone k') → meB (ptk pl.2.2 k) (ptk pl.2.2 (nx pl.2.2.length k)) (corn f p k') (sidB f p k') = false))
    (hτ : ∀ i j, i < j → j < sidesN pl → ¬ nw i → ¬ nw j → τ i ≠ τ j)
    (hn : ∀ i j, i < j → j < sidesN pl → nw i → nw j → meB (ptk pl.2.2 i) (ptk pl.2.2 (nx pl.2.2.length i)) (ptk pl.2.2 j) (ptk pl.2.2 (nx pl.2.2.length j)) = false)
    (h3 : pl.2.1 = true → 3 ≤ pl.2.2.length) (hb : ∀ g ∈ pl.2.2, ((0 : Int) ≤ g.1 ∧ g.1 ≤ f.1.1) ∧ 0 ≤ g.2 ∧ g.2 ≤ f.1.2) : fldI (setP f p0 pl) := by
  obtain ⟨i1, i2, i3, i4⟩ := h
  refine ⟨?_, ?_, ?_, ?_⟩
  · have A : ∀ k p' k', k < pl.2.2.length → p' < nP f → p' ≠ p0 → k' < lenP f p' → ptk pl.2.2 k ≠ corn f p' k' := by
      intro k p' k' hk hp' hne hk'
      rcases hc k hk with ⟨-, c2, c3⟩ | ⟨c1, c2⟩
      · rw [c3]; exact i1 _ _ _ _ hp c2 hp' hk' (.inl (Ne.symm hne))
      · rw [c2]; exact (corn_fresh (hq (by omega)) hp' hk').symm
    have B : ∀ i j, i < j → j < pl.2.2.length → ptk pl.2.2 i ≠ ptk pl.2.2 j := by
      intro i j hij hj
      rcases hc i (by omega) with ⟨c1, c2, c3⟩ | ⟨c1, c2⟩ <;> rcases hc j hj with ⟨d1, d2, d3⟩ | ⟨d1, d2⟩
      · rw [c3, d3]; exact i1 _ _ _ _ hp c2 hp d2 (.inr (hσ i j hij hj c1 d1))
      · rw [c3, d2]; exact corn_fresh (hq (by omega)) hp c2
      · rw [c2, d3]; exact (corn_fresh (hq (by omega)) hp d2).symm
      · omega
    intro p k p' k' a1 a2 a3 a4 a5
    rw [setP_n] at a1 a3
    unfold corn lenP at *
    by_cases e1 : p = p0 <;> by_cases e2 : p' = p0
    · subst e1; subst e2
      rw [setP_s hp] at *
      rcases Nat.lt_trichotomy k k' with c | c | c
      · exact B _ _ c a4
      · omega
      · exact (B _ _ c a2).symm
    · subst e1
      rw [setP_s hp, setP_o e2] at *
      exact A _ _ _ a2 a3 e2 a4
    · subst e2
      rw [setP_s hp, setP_o e1] at *
      exact (A _ _ _ a4 a1 e1 a2).symm
    · rw [setP_o e1, setP_o e2] at *
      exact i1 _ _ _ _ a1 a2 a3 a4 a5
  · have A : ∀ k p' k', k < sidesN pl → p' < nP f → p' ≠ p0 → k' < sidesN (plk f p') → meB (ptk pl.2.2 k) (ptk pl.2.2 (nx pl.2.2.length k)) (corn f p' k') (sidB f p' k') = false := by
      intro k p' k' hk hp' hne hk'
      rcases hs k hk with ⟨-, c2, -, c3, c4⟩ | ⟨-, c2⟩
      · rw [c3, c4]; exact i2 _ _ _ _ hp c2 hp' hk' (.inl (Ne.symm hne))
      · exact c2 _ _ hp' hk' fun z => hne z.1
    have B : ∀ i j, i < j → j < sidesN pl → meB (ptk pl.2.2 i) (ptk pl.2.2 (nx pl.2.2.length i)) (ptk pl.2.2 j) (ptk pl.2.2 (nx pl.2.2.length j)) = false := by
      intro i j hij hj
      rcases hs i (by omega) with ⟨c1, c2, c3, c4, c5⟩ | ⟨c1, c2⟩ <;> rcases hs j hj with ⟨d1, d2, d3, d4, d5⟩ | ⟨d1, d2⟩
      · rw [c4, c5, d4, d5]; exact i2 _ _ _ _ hp c2 hp d2 (.inr (hτ i j hij hj c1 d1))
      · rw [c4, c5, meB_sw]; exact d2 _ _ hp c2 fun z => c3 z.2
      · rw [d4, d5]; exact c2 _ _ hp d2 fun z => d3 z.2
      · exact hn i j hij hj c1 d1
    intro p k p' k' a1 a2 a3 a4 a5
    rw [setP_n] at a1 a3
    unfold corn sidB at *
    by_cases e1 : p = p0 <;> by_cases e2 : p' = p0
    · subst e1; subst e2
      rw [setP_s hp] at *
      rcases Nat.lt_trichotomy k k' with c | c | c
      · exact B _ _ c a4
      · omega
      · rw [meB_sw]; exact B _ _ c a2
    · subst e1
      rw [setP_s hp, setP_o e2] at *
      exact A _ _ _ a2 a3 e2 a4
    · subst e2
      rw [setP_s hp, setP_o e1] at *
      rw [meB_sw]
      exact A _ _ _ a4 a1 e1 a2
    · rw [setP_o e1, setP_o e2] at *
      exact i2 _ _ _ _ a1 a2 a3 a4 a5
  · intro p a1 a2
    rw [setP_n] at a1
    unfold lenP
    by_cases e : p = p0
    · subst e
      rw [setP_s hp] at *
      exact h3 a2
    · rw [setP_o e] at *
      exact i3 p a1 a2
  · intro g hg
    rcases List.mem_or_eq_of_mem_set hg with x | x
    · exact i4 g x
    · rw [x]; exact hb
theorem corn_box (h : fldI f) {p : Nat} (hp : p < nP f) : ∀ g ∈ (plk f p).2.2, ((0 : Int) ≤ g.1 ∧ g.1 ≤ f.1.1) ∧ 0 ≤ g.2 ∧ g.2 ≤ f.1.2 := h.2.2.2 _ (List.mem_of_getElem? (plk_some hp))
/-- a corner at the end of an open polygon -/
theorem fldI_corner (h : fldI f) (hf : fldB f) {p : Nat} (hp : p < nP f) {q : Pt} (hq : ((0 : Int) ≤ q.1 ∧ q.1 ≤ f.1.1) ∧ 0 ≤ q.2 ∧ q.2 ≤ f.1.2) (hr : cornR f p q = 0) : fldI (insF f p (lenP f p) q) := by
  have l1 := (plk_B hf hp).2.1
  unfold cornR at hr
  have op : (plk f p).2.1 = false := by
    cases e : (plk f p).2.1 with
    | false => rfl
    | true => rw [if_pos e] at hr; cases hr
  rw [op, if_neg (by decide)] at hr
  have nf : (plk f p).2.2.length ≠ 12 := fun e => by rw [if_pos e] at hr; cases hr
  rw [if_neg nf] at hr
  have nt : takenB f q = false := by
    cases e : takenB f q with
    | false => rfl
    | true => rw [if_pos e] at hr; cases hr
  rw [nt, if_neg (by decide)] at hr
  unfold takenB at nt
  rw [Bool.or_eq_false_iff] at nt
  obtain ⟨-, lr⟩ := lineR_0 hr
  have sd : sidesN (plk f p) = lenP f p - 1 := by unfold sidesN; rw [op]; rfl
  have sd' : sidesN ((plk f p).1, (plk f p).2.1, insL (plk f p).2.2 (lenP f p) q) = lenP f p := by
    unfold sidesN
    rw [op]
    show (insL (plk f p).2.2 (lenP f p) q).length - 1 = _
    rw [insL_len (Nat.le_refl _)]
    rfl
  have lo : ∀ i, i < lenP f p → ptk (insL (plk f p).2.2 (lenP f p) q) i = corn f p i := fun i hi => insL_lo (Nat.le_refl _) hi
  have at' : ptk (insL (plk f p).2.2 (lenP f p) q) (lenP f p) = q := insL_at (Nat.le_refl _)
  refine fldI_set h hp (fun _ => False) (fun k => k + 1 = lenP f p) id id (lenP f p) q (fun _ => nt.1) (fun k hk => ?_) (fun i j a b _ _ => by show i ≠ j; omega) (fun k hk => ?_) (fun i j a b _ _ => by show i ≠ j; omega) (fun i j a b c d => by omega) (fun e => ?_) (fun g hg => ?_)
  · rw [insL_len (Nat.le_refl _)] at hk
    rcases Nat.lt_or_ge k (lenP f p) with c | c
    · exact .inl ⟨by omega, c, lo k c⟩
    · obtain rfl : k = lenP f p := by unfold lenP at *; omega
      exact .inr ⟨rfl, at'⟩
  · rw [sd'] at hk
    dsimp only
    rw [insL_len (Nat.le_refl _), nx_s (by unfold lenP at *; omega), lo k hk]
    rcases Nat.lt_or_ge (k + 1) (lenP f p) with c | c
    · refine .inl ⟨by omega, by rw [sd]; show k < _; omega, fun z => z, rfl, ?_⟩
      rw [lo _ c]
      unfold sidB
      show _ = ptk (plk f p).2.2 (nx (lenP f p) k)
      rw [nx_s c]
    · have e : k + 1 = lenP f p := by omega
      refine .inr ⟨e, fun p' k' a1 a2 _ => ?_⟩
      rw [e, at']
      obtain rfl : k = lenP f p - 1 := by omega
      exact lr p' k' a1 a2 (by show ¬ ((p' : Int) = -1 ∧ _); omega)
  · change (plk f p).2.1 = true at e
    rw [op] at e; cases e
  · rcases insL_mem hg with x | x
    · rw [x]; exact hq
    · exact corn_box h hp g x
/-- a polygon is closed -/
theorem fldI_close (h : fldI f) (hf : fldB f) {p : Nat} (hp : p < nP f) (hr : closR f p = 0) : fldI (closeF f p) := by
  have l1 := (plk_B hf hp).2.1
  unfold closR at hr
  have op : (plk f p).2.1 = false := by
    cases e : (plk f p).2.1 with
    | false => rfl
    | true => rw [if_pos e] at hr; cases hr
  rw [op, if_neg (by decide)] at hr
  have nf : ¬ (plk f p).2.2.length < 3 := fun e => by rw [if_pos e] at hr; cases hr
  rw [if_neg nf] at hr
  obtain ⟨-, lr⟩ := lineR_0 hr
  have sd : sidesN (plk f p) = lenP f p - 1 := by unfold sidesN; rw [op]; rfl
  have sd' : sidesN ((plk f p).1, true, (plk f p).2.2) = lenP f p := rfl
  refine fldI_set h hp (fun _ => False) (fun k => k + 1 = lenP f p) id id (lenP f p) (0, 0) (fun z => absurd z (Nat.lt_irrefl _)) (fun k hk => .inl ⟨Nat.ne_of_lt hk, hk, rfl⟩) (fun i j a b _ _ => by show i ≠ j; omega) (fun k hk => ?_) (fun i j a b _ _ => by show i ≠ j; omega) (fun i j a b c d => by omega) (fun _ => by unfold lenP at *; show 3 ≤ (plk f p).2.2.length; omega) (corn_box h hp)
  rw [sd'] at hk
  rcases Nat.lt_or_ge (k + 1) (lenP f p) with c | c
  · exact .inl ⟨by omega, by rw [sd]; show k < _; omega, fun z => z, rfl, rfl⟩
  · have e : k + 1 = lenP f p := by omega
    refine .inr ⟨e, fun p' k' a1 a2 _ => ?_⟩
    dsimp only
    rw [show nx (plk f p).2.2.length k = 0 from nx_e e]
    obtain rfl : k = lenP f p - 1 := by omega
    exact lr p' k' a1 a2 (by show ¬ ((p' : Int) = -1 ∧ _); omega)
end INV

