theorem plS_of {f : Fld} (h : fldI f) {p : Nat} (hp : p < nP f) (hc : (plk f p).2.1 = true) : plS (plk f p).2.2 := by
  have sd : sidesN (plk f p) = lenP f p := by unfold sidesN; rw [hc]; rfl
  refine ⟨h.2.2.1 p hp hc, fun i j h1 h2 => h.1 p i p j hp (Nat.lt_trans h1 h2) hp h2 (.inr (by omega)), fun i j h1 h2 => h.2.1 p i p j hp (by rw [sd]; exact Nat.lt_trans h1 h2) hp (by rw [sd]; exact h2) (.inr (by omega))⟩
/-- Pick's law in a field -/
theorem pickF {f : Fld} (h : fldI f) (hf : fldB f) {p : Nat} (hp : p < nP f) (hc : (plk f p).2.1 = true) : dblA (plk f p).2.2 ≠ 0 ∧ countAll f (plk f p).2.2 1 = bordL (plk f p).2.2 ∧ 2 * countAll f (plk f p).2.2 2 = areaA (plk f p).2.2 - bordL (plk f p).2.2 + 2 ∧ 3 ≤ bordL (plk f p).2.2 := by
  obtain ⟨⟨b1, b2⟩, b3, b4⟩ := hf.1
  have hF : ∀ q ∈ (plk f p).2.2, ptF f.1.1.toNat f.1.2.toNat q := fun q hq => by
    have := corn_box h hp q hq
    unfold ptF
    omega
  exact pickL (X := f.1.1.toNat) (Y := f.1.2.toNat) (SP_of (plS_of h hp hc) (by omega) hF) (by omega) (by omega) (by omega) hF

