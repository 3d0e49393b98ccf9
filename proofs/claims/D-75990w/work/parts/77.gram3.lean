/-! ===== the grammar: what comes out is a field ===== -/
theorem stoneS_ok {Z : List Int} {f f' : Fld} {st p p' : Nat} (h : stoneS Z f st p = .ok (f', p')) (hf : fldB f) (hI : fldI f) : fldB f' ∧ fldI f' ∧ p < p' ∧ p' ≤ Z.length ∧ f'.1 = f.1 := by
  unfold stoneS at h
  split at h
  · cases h
  rename_i h20
  split at h
  · cases h
  rename_i rx ex
  split at h
  · cases h
  rename_i ry ey
  split at h
  · cases h
  split at h
  · cases h
  rename_i rv ev
  injection h with h
  injection h with a b
  have nx := numS_ok (v := rx.1) (st := rx.2.1) (p' := rx.2.2) ex
  have ny := numS_ok (v := ry.1) (st := ry.2.1) (p' := ry.2.2) ey
  have nv := numS_ok (v := rv.1) (st := rv.2.1) (p' := rv.2.2) ev
  subst a b
  obtain ⟨⟨⟨w1, w2⟩, w3, w4⟩, b2, b3, b4⟩ := hf
  refine ⟨⟨⟨⟨w1, w2⟩, w3, w4⟩, ?_, ?_, b4⟩, hI, by omega, nv.2.2.2.2, rfl⟩
  · unfold nS addSt at *
    dsimp only
    rw [List.length_append]
    simp only [List.length_cons, List.length_nil]
    omega
  · intro s hs
    rcases List.mem_append.mp hs with z | z
    · exact b3 s z
    · obtain rfl := List.mem_singleton.mp z
      exact ⟨⟨⟨nx.1.1, by show rx.1 ≤ 30; omega⟩, ny.1.1, by show ry.1 ≤ 30; omega⟩, nv.1.1, nv.1.2⟩
theorem polL_ok {Z : List Int} {i : Nat} (n : Nat) : ∀ {f f' : Fld} {p p' : Nat}, polL Z i n f p = .ok (f', p') → fldB f → fldI f → i < nP f → p ≤ Z.length → fldB f' ∧ fldI f' ∧ i < nP f' ∧ p ≤ p' ∧ p' ≤ Z.length ∧ f'.1 = f.1 ∧ skp Z p' = p' ∧ (plk f i).2.1 = (plk f' i).2.1 := by
  induction n with
  | zero =>
    intro f f' p p' h hf hI hi hp
    unfold polL at h
    injection h with h
    injection h with a b
    subst a b
    exact ⟨hf, hI, hi, skp_ge p, skp_le hp, rfl, skp_skp p, rfl⟩
  | succ n ih =>
    intro f f' p p' h hf hI hi hp
    rw [polL_s] at h
    split at h
    · split at h
      · cases h
      rename_i rx ex
      split at h
      · cases h
      rename_i ry ey
      split at h
      · cases h
      rename_i er
      have nx := numS_ok (v := rx.1) (st := rx.2.1) (p' := rx.2.2) ex
      have ny := numS_ok (v := ry.1) (st := ry.2.1) (p' := ry.2.2) ey
      have er' : cornR f i (rx.1, ry.1) = 0 := Classical.not_not.mp er
      obtain ⟨⟨w1, w2⟩, w3, w4⟩ := hf.1
      have l12 : (plk f i).2.2.length < 12 := by
        have := (plk_B hf hi).2.2.1
        unfold cornR at er'
        rcases Nat.lt_or_ge (plk f i).2.2.length 12 with z | z
        · exact z
        · exfalso
          split at er'
          · cases er'
          · rw [if_pos (by omega)] at er'; cases er'
      have hq : ptB (rx.1, ry.1) := ⟨⟨nx.1.1, by show rx.1 ≤ 30; omega⟩, ny.1.1, by show ry.1 ≤ 30; omega⟩
      have z := ih h (insF_B hf hi (Nat.le_refl _) l12 hq) (fldI_corner hI hf hi ⟨nx.1, ny.1⟩ er') (by unfold insF; rw [setP_n]; exact hi) ny.2.2.2.2
      have q0 := skp_ge (X := Z) p
      refine ⟨z.1, z.2.1, z.2.2.1, by omega, z.2.2.2.2.1, z.2.2.2.2.2.1, z.2.2.2.2.2.2.1, ?_⟩
      rw [← z.2.2.2.2.2.2.2]
      unfold insF
      rw [setP_s hi]
    · injection h with h
      injection h with a b
      subst a b
      exact ⟨hf, hI, hi, skp_ge p, skp_le hp, rfl, skp_skp p, rfl⟩
theorem polyS_ok {Z : List Int} {f f' : Fld} {st p p' : Nat} (h : polyS Z f st p = .ok (f', p')) (hf : fldB f) (hI : fldI f) : fldB f' ∧ fldI f' ∧ p < p' ∧ p' ≤ Z.length ∧ f'.1 = f.1 := by
  unfold polyS at h
  split at h
  · cases h
  rename_i h6
  split at h
  · cases h
  rename_i ro eo
  split at h
  · cases h
  rename_i rx ex
  split at h
  · cases h
  rename_i ry ey
  split at h
  · cases h
  rename_i et
  split at h
  · cases h
  rename_i r er
  split at h
  · split at h
    · cases h
    rename_i ec
    injection h with h
    injection h with a b
    have no := numS_ok (v := ro.1) (st := ro.2.1) (p' := ro.2.2) eo
    have nx := numS_ok (v := rx.1) (st := rx.2.1) (p' := rx.2.2) ex
    have ny := numS_ok (v := ry.1) (st := ry.2.1) (p' := ry.2.2) ey
    obtain ⟨⟨w1, w2⟩, w3, w4⟩ := hf.1
    have hn := hf.2.2.2.1
    have hq : ptB (rx.1, ry.1) := ⟨⟨nx.1.1, by show rx.1 ≤ 30; omega⟩, ny.1.1, by show ry.1 ≤ 30; omega⟩
    rw [Bool.not_eq_true, Bool.or_eq_false_iff] at et
    have z := polL_ok _ er (addF_B hf (show nP f < 6 by omega) no.1 hq) (fldI_add hI ⟨nx.1, ny.1⟩ et.1) (by rw [addF_n]; omega) ny.2.2.2.2
    subst a b
    exact ⟨closeF_B z.1 z.2.2.1, fldI_close z.2.1 z.1 z.2.2.1 (Classical.not_not.mp ec), by omega, z.2.2.2.2.1, z.2.2.2.2.2.1⟩
  · cases h
theorem scorS_ok {Z : List Int} {f f' : Fld} {st p p' : Nat} (h : scorS Z f st p = .ok (f', p')) (hp : p ≤ Z.length) (hZ : Z.length ≤ 800) (hf : fldB f) (hI : fldI f) : fldB f' ∧ fldI f' ∧ p < p' ∧ p' ≤ Z.length ∧ f'.1 = f.1 := by
  unfold scorS at h
  split at h
  · cases h
  split at h
  · cases h
  rename_i r er
  injection h with h
  injection h with a b
  have z := px_ok _ _ _ _ _ _ _ er hp
  have z1 := z.2.1 (by omega)
  subst a b
  obtain ⟨b1, b2, b3, b4, b5, b6⟩ := hf
  refine ⟨⟨b1, b2, b3, b4, b5, fun c hc => ?_⟩, hI, z1.1, z.1, rfl⟩
  have : c = r.1 := by injection hc with hc; exact hc.symm
  subst this
  exact ⟨by omega, z1.2.2⟩
theorem statS_ok {Z : List Int} {f f' : Fld} {p p' : Nat} (h : statS Z f p = .ok (f', p')) (hp : p ≤ Z.length) (hZ : Z.length ≤ 800) (hf : fldB f) (hI : fldI f) : fldB f' ∧ fldI f' ∧ p < p' ∧ p' ≤ Z.length ∧ f'.1 = f.1 := by
  unfold statS at h
  split at h
  · cases h
  rename_i r er
  split at h
  · cases h
  rename_i p2 ee
  injection h with h
  injection h with a b
  subst a b
  have q0 := skp_ge (X := Z) p
  have q1 := skp_le hp
  have e2 := expS_ok (by decide) ee
  have q2 := skp_ge (X := Z) r.2
  have key : fldB r.1 ∧ fldI r.1 ∧ p < r.2 ∧ r.2 ≤ Z.length ∧ r.1.1 = f.1 := by
    split at er
    · have z := stoneS_ok (f' := r.1) (p' := r.2) er hf hI
      exact ⟨z.1, z.2.1, by omega, z.2.2.2⟩
    split at er
    · have z := polyS_ok (f' := r.1) (p' := r.2) er hf hI
      exact ⟨z.1, z.2.1, by omega, z.2.2.2⟩
    split at er
    · rename_i ew
      have := isW_in ew (by decide) q1
      have z := scorS_ok (f' := r.1) (p' := r.2) er this hZ hf hI
      exact ⟨z.1, z.2.1, by omega, z.2.2.2⟩
    · cases er
  exact ⟨key.1, key.2.1, by omega, e2.2, key.2.2.2.2⟩
theorem newF_B {a b : Int} (ha : r30 a) (hb : r30 b) : fldB (newF a b) := ⟨⟨ha, hb⟩, Nat.zero_le _, (fun s hs => by cases hs), Nat.zero_le _, (fun s hs => by cases hs), fun c hc => by cases hc⟩
theorem newF_I (a b : Int) : fldI (newF a b) := ⟨fun p k p' k' h => absurd h (Nat.not_lt_zero p), fun p k p' k' h => absurd h (Nat.not_lt_zero p), fun p h => absurd h (Nat.not_lt_zero p), fun pl h => by cases h⟩
theorem stmL_ok {Z : List Int} (hZ : Z.length ≤ 800) (n : Nat) : ∀ {f f' : Fld} {p : Nat}, stmL Z n f p = .ok f' → p ≤ Z.length → fldB f → fldI f → fldB f' ∧ fldI f' := by
  induction n with
  | zero => intro f f' p h hp hf hI; unfold stmL at h; injection h with h; subst h; exact ⟨hf, hI⟩
  | succ n ih =>
    intro f f' p h hp hf hI
    unfold stmL at h
    split at h
    · injection h with h; subst h; exact ⟨hf, hI⟩
    · split at h
      · cases h
      rename_i r er
      have z := statS_ok (f' := r.1) (p' := r.2) er (skp_le hp) hZ hf hI
      exact ih h z.2.2.2.1 z.1 z.2.1
theorem loadS_ok {Z : List Int} (hZ : Z.length ≤ 800) {f : Fld} (h : loadS Z = .ok f) : fldB f ∧ fldI f := by
  unfold loadS at h
  split at h
  · split at h
    · cases h
    rename_i rw ew
    split at h
    · cases h
    rename_i rh eh
    split at h
    · cases h
    rename_i p ep
    have nw := numS_ok (v := rw.1) (st := rw.2.1) (p' := rw.2.2) ew
    have nh := numS_ok (v := rh.1) (st := rh.2.1) (p' := rh.2.2) eh
    exact stmL_ok hZ _ h (expS_ok (by decide) ep).2 (newF_B ⟨by omega, by omega⟩ ⟨by omega, by omega⟩) (newF_I _ _)
  · cases h

