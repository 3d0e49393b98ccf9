/-! ===== the grammar ===== -/
abbrev Rs (α : Type) : Type := Except (Int × Int) α
def skS (X : List Int) : Nat → Nat → Nat
  | 0, p => p
  | n + 1, p => if byB X p = 32 then skS X n (p + 1) else p
/-- behind the spaces -/
def skp (X : List Int) (p : Nat) : Nat := skS X (X.length - p) p
def digB (c : Int) : Bool := inB c 48 57
def letB (c : Int) : Bool := inB c 97 122
def nuS (X : List Int) : Nat → Int → Nat → Int × Nat
  | 0, v, p => (v, p)
  | n + 1, v, p => if digB (byB X p) = true then nuS X n (min 1000000 (10 * v + byB X p - 48)) (p + 1) else (v, p)
/-- a number: its value, its start, the place behind it -/
def numS (X : List Int) (p : Nat) (lo hi : Int) : Rs (Int × Nat × Nat) :=
  if digB (byB X (skp X p)) = true then
    (if lo ≤ (nuS X (X.length - skp X p) 0 (skp X p)).1 ∧ (nuS X (X.length - skp X p) 0 (skp X p)).1 ≤ hi then .ok ((nuS X (X.length - skp X p) 0 (skp X p)).1, skp X p, (nuS X (X.length - skp X p) 0 (skp X p)).2) else .error (-3, (skp X p : Nat)))
  else .error (-2, (skp X p : Nat))
def expS (X : List Int) (c : Int) (p : Nat) : Rs Nat := if byB X (skp X p) = c then .ok (skp X p + 1) else .error (-2, (skp X p : Nat))
def isW (X : List Int) (L : List Int) (q : Nat) : Bool := (List.range L.length).all (fun i => decide (byB X (q + i) = L.getD i 0)) && !letB (byB X (q + L.length))
def wArea : List Int := [97, 114, 101, 97]
def wStones : List Int := [115, 116, 111, 110, 101, 115]
def wCorners : List Int := [99, 111, 114, 110, 101, 114, 115]
def wDents : List Int := [100, 101, 110, 116, 115]
def wInner : List Int := [105, 110, 110, 101, 114]
def wField : List Int := [102, 105, 101, 108, 100]
def wStone : List Int := [115, 116, 111, 110, 101]
def wPolygon : List Int := [112, 111, 108, 121, 103, 111, 110]
def wScore : List Int := [115, 99, 111, 114, 101]
/-- a variable: its number, its length -/
def varS (X : List Int) (q : Nat) : Option (Nat × Nat) := if isW X wArea q = true then some (0, 4) else if isW X wStones q = true then some (1, 6) else if isW X wCorners q = true then some (2, 7) else if isW X wDents q = true then some (3, 5) else if isW X wInner q = true then some (4, 5) else none
/-- expressions; kinds: 0 factor, 1 term, 2 a term goes on, 3 sum, else a sum goes on -/
def pxS (X : List Int) : Nat → Nat → Nat → Sc → Nat → Rs (Sc × Nat)
  | 0, _, _, _, _ => .error (0, 0)
  | n + 1, k, d, s, p =>
    match k with
    | 0 => if byB X (skp X p) = 40 then
        (if d = 4 then .error (-6, (skp X p : Nat)) else
          match pxS X n 3 (d + 1) s (skp X p + 1) with
          | .error e => .error e
          | .ok r => match expS X 41 r.2 with
            | .error e => .error e
            | .ok p' => .ok (r.1, p'))
      else if digB (byB X (skp X p)) = true then
        (match numS X (skp X p) 0 9999 with
          | .error e => .error e
          | .ok r => .ok (.int (iZ r.1), r.2.2))
      else match varS X (skp X p) with
        | some r => .ok (.arg r.1, skp X p + r.2)
        | none => .error (-2, (skp X p : Nat))
    | 1 => match pxS X n 0 d s p with
      | .error e => .error e
      | .ok r => pxS X n 2 d r.1 r.2
    | 2 => if byB X (skp X p) = 42 ∨ byB X (skp X p) = 47 then
        (match pxS X n 0 d s (skp X p + 1) with
          | .error e => .error e
          | .ok r => pxS X n 2 d (if byB X (skp X p) = 42 then .mul s r.1 else .div s r.1) r.2)
      else .ok (s, skp X p)
    | 3 => match pxS X n 1 d s p with
      | .error e => .error e
      | .ok r => pxS X n 4 d r.1 r.2
    | _ => if byB X (skp X p) = 43 ∨ byB X (skp X p) = 45 then
        (match pxS X n 1 d s (skp X p + 1) with
          | .error e => .error e
          | .ok r => pxS X n 4 d (if byB X (skp X p) = 43 then .add s r.1 else .sub s r.1) r.2)
      else .ok (s, skp X p)
section GRAM
variable {X : List Int}
theorem skS_le (n p : Nat) : p ≤ skS X n p ∧ (p ≤ X.length → skS X n p ≤ X.length) := by
  induction n generalizing p with
  | zero => exact ⟨Nat.le_refl _, fun h => h⟩
  | succ n ih =>
    unfold skS
    split
    · rename_i e
      have h1 : p < X.length := by
        rcases Nat.lt_or_ge p X.length with c | c
        · exact c
        · rw [byB_out c] at e; cases e
      have := ih (p + 1)
      exact ⟨by omega, fun _ => this.2 h1⟩
    · exact ⟨Nat.le_refl _, fun h => h⟩
theorem skp_ge (p : Nat) : p ≤ skp X p := (skS_le _ p).1
theorem skp_le {p : Nat} (h : p ≤ X.length) : skp X p ≤ X.length := (skS_le _ p).2 h
theorem skS_no (n p : Nat) (h : X.length ≤ p + n) : byB X (skS X n p) ≠ 32 := by
  induction n generalizing p with
  | zero => unfold skS; rw [byB_out (by omega)]; decide
  | succ n ih =>
    unfold skS
    split
    · exact ih (p + 1) (by omega)
    · assumption
theorem skp_no (p : Nat) : byB X (skp X p) ≠ 32 := skS_no _ p (by omega)
theorem skp_id {p : Nat} (h : byB X p ≠ 32) : skp X p = p := by
  unfold skp
  cases X.length - p with
  | zero => rfl
  | succ n => unfold skS; rw [if_neg h]
theorem skp_skp (p : Nat) : skp X (skp X p) = skp X p := skp_id (skp_no p)
theorem skp_s {p : Nat} (h : byB X p = 32) : skp X p = skp X (p + 1) := by
  have h1 : p < X.length := by
    rcases Nat.lt_or_ge p X.length with c | c
    · exact c
    · rw [byB_out c] at h; cases h
  unfold skp
  obtain ⟨n, hn⟩ : ∃ n, X.length - p = n + 1 := ⟨X.length - p - 1, by omega⟩
  rw [hn]
  conv => lhs; unfold skS
  rw [if_pos h, show X.length - (p + 1) = n by omega]
theorem in_of {p : Nat} {c : Int} (h : byB X p = c) (hc : c ≠ -1) : p < X.length := by
  rcases Nat.lt_or_ge p X.length with z | z
  · exact z
  · rw [byB_out z] at h; exact absurd h.symm hc
theorem dig_in {p : Nat} (h : digB (byB X p) = true) : p < X.length := by
  rcases Nat.lt_or_ge p X.length with z | z
  · exact z
  · rw [byB_out z] at h; cases h
theorem nuS_bd (n : Nat) (v : Int) (p : Nat) (hv : 0 ≤ v ∧ v ≤ 1000000) : (0 ≤ (nuS X n v p).1 ∧ (nuS X n v p).1 ≤ 1000000) ∧ p ≤ (nuS X n v p).2 ∧ (p ≤ X.length → (nuS X n v p).2 ≤ X.length) := by
  induction n generalizing v p with
  | zero => exact ⟨hv, Nat.le_refl _, fun h => h⟩
  | succ n ih =>
    unfold nuS
    split
    · rename_i e
      have h1 := dig_in e
      unfold digB inB at e
      rw [decide_eq_true_eq] at e
      have := ih (min 1000000 (10 * v + byB X p - 48)) (p + 1) (by omega)
      exact ⟨this.1, by omega, fun _ => this.2.2 h1⟩
    · exact ⟨hv, Nat.le_refl _, fun h => h⟩
theorem numS_ok {p : Nat} {lo hi v : Int} {st p' : Nat} (h : numS X p lo hi = .ok (v, st, p')) : (lo ≤ v ∧ v ≤ hi) ∧ (0 ≤ v ∧ v ≤ 1000000) ∧ st = skp X p ∧ p < p' ∧ p' ≤ X.length := by
  unfold numS at h
  split at h
  · rename_i e
    have h1 := dig_in e
    split at h
    · rename_i g
      injection h with h
      injection h with a1 a2
      injection a2 with a2 a3
      have b := nuS_bd (X := X) (X.length - skp X p) 0 (skp X p) (by omega)
      obtain ⟨n, hn⟩ : ∃ n, X.length - skp X p = n + 1 := ⟨X.length - skp X p - 1, by omega⟩
      have b2 : skp X p + 1 ≤ (nuS X (n + 1) 0 (skp X p)).2 := by
        unfold nuS
        rw [if_pos e]
        unfold digB inB at e
        rw [decide_eq_true_eq] at e
        exact (nuS_bd (X := X) n _ (skp X p + 1) (by omega)).2.1
      have b3 := skp_ge (X := X) p
      rw [← hn] at b2
      refine ⟨?_, ?_, a2.symm, ?_, ?_⟩
      · rw [← a1]; exact g
      · rw [← a1]; exact b.1
      · omega
      · rw [← a3]; exact b.2.2 (by omega)
    · cases h
  · cases h
theorem numS_er {p : Nat} {lo hi c o : Int} (h : numS X p lo hi = .error (c, o)) : (c = -3 ∨ c = -2) ∧ o = (skp X p : Nat) := by
  unfold numS at h
  split at h
  · split at h
    · cases h
    · injection h with h; injection h with a b; exact ⟨.inl a.symm, b.symm⟩
  · injection h with h; injection h with a b; exact ⟨.inr a.symm, b.symm⟩
theorem expS_ok {c : Int} (hc : c ≠ -1) {p p' : Nat} (h : expS X c p = .ok p') : p' = skp X p + 1 ∧ p' ≤ X.length := by
  unfold expS at h
  split at h
  · rename_i e
    injection h with h
    have := in_of e hc
    exact ⟨h.symm, by omega⟩
  · cases h
theorem isW_in {L : List Int} {q : Nat} (h : isW X L q = true) (hL : ∀ i, i < L.length → L.getD i 0 ≠ -1) (h0 : q ≤ X.length) : q + L.length ≤ X.length := by
  unfold isW at h
  rw [Bool.and_eq_true, List.all_eq_true] at h
  rcases Nat.eq_zero_or_pos L.length with z | z
  · omega
  · have := h.1 (L.length - 1) (List.mem_range.mpr (by omega))
    have := in_of (of_decide_eq_true this) (hL _ (by omega))
    omega
theorem varS_ok {q : Nat} {r : Nat × Nat} (h : varS X q = some r) (h0 : q ≤ X.length) : r.1 ≤ 4 ∧ 4 ≤ r.2 ∧ r.2 ≤ 7 ∧ q + r.2 ≤ X.length := by
  unfold varS at h
  split at h
  · rename_i e; injection h with h; subst h
    have := isW_in e (by decide) h0
    exact ⟨by decide, by decide, by decide, this⟩
  split at h
  · rename_i e; injection h with h; subst h
    have := isW_in e (by decide) h0
    exact ⟨by decide, by decide, by decide, this⟩
  split at h
  · rename_i e; injection h with h; subst h
    have := isW_in e (by decide) h0
    exact ⟨by decide, by decide, by decide, this⟩
  split at h
  · rename_i e; injection h with h; subst h
    have := isW_in e (by decide) h0
    exact ⟨by decide, by decide, by decide, this⟩
  split at h
  · rename_i e; injection h with h; subst h
    have := isW_in e (by decide) h0
    exact ⟨by decide, by decide, by decide, this⟩
  · cases h
theorem px_ok (n : Nat) : ∀ (k d : Nat) (s : Sc) (p : Nat) (s' : Sc) (p' : Nat), pxS X n k d s p = .ok (s', p') → p ≤ X.length →
    p' ≤ X.length ∧ ((k = 0 ∨ k = 1 ∨ k = 3) → p < p' ∧ 2 * (cdS s').length ≤ 3 * (p' - p) + 1 ∧ wfS s') ∧ (¬ (k = 0 ∨ k = 1 ∨ k = 3) → p ≤ p' ∧ 2 * (cdS s').length ≤ 2 * (cdS s).length + 3 * (p' - p) ∧ (wfS s → wfS s')) := by
  induction n with
  | zero => intro k d s p s' p' h; cases h
  | succ n ih =>
    intro k d s p s' p' h hp
    have q1 := skp_ge (X := X) p
    have q2 := skp_le hp
    unfold pxS at h
    split at h
    · refine (fun z => ⟨z.1, fun _ => z.2, fun q => absurd (Or.inl rfl) q⟩ : (p' ≤ X.length ∧ _) → _) ?_
      split at h
      · rename_i e40
        have i1 := in_of e40 (by decide)
        split at h
        · cases h
        · split at h
          · cases h
          · rename_i r hr
            split at h
            · cases h
            · rename_i p2 he
              injection h with h
              injection h with a1 a2
              have z := ih 3 (d + 1) s (skp X p + 1) r.1 r.2 hr (by omega)
              have z2 := z.2.1 (by omega)
              have z3 := expS_ok (by decide) he
              have z4 := skp_ge (X := X) r.2
              subst a1 a2
              exact ⟨z3.2, by omega, by omega, z2.2.2⟩
      · split at h
        · split at h
          · cases h
          · rename_i r hr
            injection h with h
            injection h with a1 a2
            obtain ⟨b1, b2, b3, b4, b5⟩ := numS_ok (v := r.1) (st := r.2.1) (p' := r.2.2) hr
            subst a1 a2
            have w : (iZ r.1).toInt = r.1 := iZ_toInt (by omega) (by omega)
            exact ⟨b5, by omega, by show 2 * 2 ≤ _; omega, by unfold wfS; rw [w]; omega⟩
        · split at h
          · rename_i r hr
            injection h with h
            injection h with a1 a2
            have z := varS_ok hr q2
            subst a1 a2
            exact ⟨z.2.2.2, by omega, by show 2 * 2 ≤ _; omega, by unfold wfS; omega⟩
          · cases h
    · refine (fun z => ⟨z.1, fun _ => z.2, fun q => absurd (Or.inr (Or.inl rfl)) q⟩ : (p' ≤ X.length ∧ _) → _) ?_
      split at h
      · cases h
      · rename_i r hr
        have z := ih 0 d s p r.1 r.2 hr hp
        have z1 := z.2.1 (by omega)
        have y := ih 2 d r.1 r.2 s' p' h z.1
        have y1 := y.2.2 (by omega)
        exact ⟨y.1, by omega, by omega, y1.2.2 z1.2.2⟩
    · refine (fun z => ⟨z.1, fun q => absurd q (by omega), fun _ => z.2⟩ : (p' ≤ X.length ∧ _) → _) ?_
      split at h
      · rename_i e
        have i1 : skp X p < X.length := by rcases e with e | e <;> exact in_of e (by decide)
        split at h
        · cases h
        · rename_i r hr
          have z := ih 0 d s (skp X p + 1) r.1 r.2 hr (by omega)
          have z1 := z.2.1 (by omega)
          have y := ih 2 d _ r.2 s' p' h z.1
          have y1 := y.2.2 (by omega)
          have l : (cdS (if byB X (skp X p) = 42 then Jvm.Term.mul s r.1 else .div s r.1)).length = (cdS s).length + (cdS r.1).length + 1 := by
            split <;> simp only [cdS, List.length_append, List.length_cons, List.length_nil]
          rw [l] at y1
          refine ⟨y.1, by omega, by omega, fun w => y1.2.2 ?_⟩
          split <;> exact ⟨w, z1.2.2⟩
      · injection h with h
        injection h with a1 a2
        subst a1 a2
        exact ⟨q2, q1, by omega, fun w => w⟩
    · refine (fun z => ⟨z.1, fun _ => z.2, fun q => absurd (Or.inr (Or.inr rfl)) q⟩ : (p' ≤ X.length ∧ _) → _) ?_
      split at h
      · cases h
      · rename_i r hr
        have z := ih 1 d s p r.1 r.2 hr hp
        have z1 := z.2.1 (by omega)
        have y := ih 4 d r.1 r.2 s' p' h z.1
        have y1 := y.2.2 (by omega)
        exact ⟨y.1, by omega, by omega, y1.2.2 z1.2.2⟩
    · rename_i k0 k1 k2 k3
      have k0' : k ≠ 0 := fun e => k0 e
      have k1' : k ≠ 1 := fun e => k1 e
      have k3' : k ≠ 3 := fun e => k3 e
      refine (fun z => ⟨z.1, fun q => absurd q (by omega), fun _ => z.2⟩ : (p' ≤ X.length ∧ _) → _) ?_
      split at h
      · rename_i e
        have i1 : skp X p < X.length := by rcases e with e | e <;> exact in_of e (by decide)
        split at h
        · cases h
        · rename_i r hr
          have z := ih 1 d s (skp X p + 1) r.1 r.2 hr (by omega)
          have z1 := z.2.1 (by omega)
          have y := ih 4 d _ r.2 s' p' h z.1
          have y1 := y.2.2 (by omega)
          have l : (cdS (if byB X (skp X p) = 43 then Jvm.Term.add s r.1 else .sub s r.1)).length = (cdS s).length + (cdS r.1).length + 1 := by
            split <;> simp only [cdS, List.length_append, List.length_cons, List.length_nil]
          rw [l] at y1
          refine ⟨y.1, by omega, by omega, fun w => y1.2.2 ?_⟩
          split <;> exact ⟨w, z1.2.2⟩
      · injection h with h
        injection h with a1 a2
        subst a1 a2
        exact ⟨q2, q1, by omega, fun w => w⟩
end GRAM
section GRAM2
variable {X : List Int}
/-- enough fuel -/
def fuK (k : Nat) : Nat := match k with
  | 0 => 1
  | 1 => 2
  | 3 => 3
  | _ => 1
theorem px_er (n : Nat) : ∀ (k d : Nat) (s : Sc) (p : Nat) (c o : Int), pxS X n k d s p = .error (c, o) → p ≤ X.length → 3 * (X.length - p) + fuK k ≤ n → -10 ≤ c ∧ c < 0 ∧ -1 ≤ o ∧ o ≤ X.length := by
  induction n with
  | zero =>
    intro k d s p c o h hp hf
    unfold fuK at hf
    split at hf <;> omega
  | succ n ih =>
    intro k d s p c o h hp hf
    have q1 := skp_ge (X := X) p
    have q2 := skp_le hp
    unfold pxS at h
    unfold fuK at hf
    split at h
    · split at h
      · rename_i e40
        have i1 := in_of e40 (by decide)
        split at h
        · injection h with h; injection h with a b; omega
        · split at h
          · rename_i e he
            injection h with h
            subst h
            have hf' : 3 * (X.length - p) + 1 ≤ n + 1 := hf
            exact ih 3 _ _ _ _ _ he (by omega) (by show _ + 3 ≤ n; omega)
          · rename_i r hr
            have z := (px_ok n 3 _ _ _ _ _ hr (by omega)).1
            split at h
            · rename_i e he
              injection h with h
              subst h
              unfold expS at he
              have := skp_le z
              split at he
              · cases he
              · injection he with he; injection he with a b; omega
            · cases h
      · split at h
        · split at h
          · rename_i e he
            injection h with h
            subst h
            have := numS_er he
            rw [skp_skp] at this
            omega
          · cases h
        · split at h
          · cases h
          · injection h with h; injection h with a b; omega
    · split at h
      · rename_i e he
        injection h with h
        subst h
        exact ih 0 _ _ _ _ _ he hp (by have hf' : 3 * (X.length - p) + 2 ≤ n + 1 := hf; show _ + 1 ≤ n; omega)
      · rename_i r hr
        have z := px_ok n 0 _ _ _ _ _ hr hp
        have z1 := z.2.1 (by omega)
        have hf' : 3 * (X.length - p) + 2 ≤ n + 1 := hf
        exact ih 2 _ _ _ _ _ h z.1 (by show _ + 1 ≤ n; omega)
    · split at h
      · rename_i e
        have i1 : skp X p < X.length := by rcases e with e | e <;> exact in_of e (by decide)
        split at h
        · rename_i e he
          injection h with h
          subst h
          have hf' : 3 * (X.length - p) + 1 ≤ n + 1 := hf
          exact ih 0 _ _ _ _ _ he (by omega) (by show _ + 1 ≤ n; omega)
        · rename_i r hr
          have z := px_ok n 0 _ _ _ _ _ hr (by omega)
          have z1 := z.2.1 (by omega)
          have hf' : 3 * (X.length - p) + 1 ≤ n + 1 := hf
          exact ih 2 _ _ _ _ _ h z.1 (by show _ + 1 ≤ n; omega)
      · cases h
    · split at h
      · rename_i e he
        injection h with h
        subst h
        exact ih 1 _ _ _ _ _ he hp (by have hf' : 3 * (X.length - p) + 3 ≤ n + 1 := hf; show _ + 2 ≤ n; omega)
      · rename_i r hr
        have hf' : 3 * (X.length - p) + 3 ≤ n + 1 := hf
        have z := px_ok n 1 _ _ _ _ _ hr hp
        have z1 := z.2.1 (by omega)
        exact ih 4 _ _ _ _ _ h z.1 (by show _ + 1 ≤ n; omega)
    · rename_i k0 k1 k2 k3
      have hf' : 3 * (X.length - p) + 1 ≤ n + 1 := by
        split at hf <;> first | omega | exact (k0 rfl).elim | exact (k1 rfl).elim | exact (k3 rfl).elim
      split at h
      · rename_i e
        have i1 : skp X p < X.length := by rcases e with e | e <;> exact in_of e (by decide)
        split at h
        · rename_i e he
          injection h with h
          subst h
          exact ih 1 _ _ _ _ _ he (by omega) (by show _ + 2 ≤ n; omega)
        · rename_i r hr
          have z := px_ok n 1 _ _ _ _ _ hr (by omega)
          have z1 := z.2.1 (by omega)
          exact ih 4 _ _ _ _ _ h z.1 (by show _ + 1 ≤ n; omega)
      · cases h
end GRAM2

