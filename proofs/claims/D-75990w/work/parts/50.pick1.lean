/-! ===== plane vectors: crossings of the ray ===== -/
def hh (v : Pt) : Int := 100 * v.2 - v.1
def cr (u w : Pt) : Int := u.1 * w.2 - u.2 * w.1
def sb (b a : Pt) : Pt := (b.1 - a.1, b.2 - a.2)
def cI (a b c : Int) : Int := if a < 0 ∧ 0 < b ∧ 0 < c then 1 else if b < 0 ∧ 0 < a ∧ c < 0 then -1 else 0
/-- the step from u to w crosses the ray to the right (to the left) -/
def cP (u w : Pt) : Int := cI (hh u) (hh w) (cr u w)
def cN (u w : Pt) : Int := cI (-hh u) (-hh w) (cr u w)
theorem plk3 (m u w : Pt) : cr m u * hh w - cr m w * hh u = cr m (100, 1) * cr u w := by
  unfold cr hh
  grind
def pz (a : Int) : Int := if 0 < a then 1 else 0
theorem sgnC {G C : Int} (h : 0 < G * C) : (0 < G ∧ 0 < C) ∨ (G < 0 ∧ C < 0) := by
  rcases Int.lt_trichotomy G 0 with g | g | g
  · right
    refine ⟨g, ?_⟩
    rcases Int.lt_trichotomy C 0 with c | c | c
    · exact c
    · rw [c, Int.mul_zero] at h; omega
    · have := Int.mul_neg_of_neg_of_pos g c; omega
  · rw [g, Int.zero_mul] at h; omega
  · left
    refine ⟨g, ?_⟩
    rcases Int.lt_trichotomy C 0 with c | c | c
    · have := Int.mul_neg_of_pos_of_neg g c; omega
    · rw [c, Int.mul_zero] at h; omega
    · exact c
theorem sgnD {G C : Int} (h : G * C < 0) : (0 < G ∧ C < 0) ∨ (G < 0 ∧ 0 < C) := by
  have := sgnC (G := -G) (C := C) (by rw [Int.neg_mul]; omega)
  omega
theorem vis_up {m u w : Pt} (hu : 0 < cr m u) (hw : 0 < cr m w) (nu : hh u < 0) (nw : 0 < hh w) : 0 < cr m (100, 1) * cr u w := by
  rw [← plk3]
  have k1 := Int.mul_pos hu nw
  have k2 := Int.mul_neg_of_pos_of_neg hw nu
  omega
theorem vis_dn {m u w : Pt} (hu : 0 < cr m u) (hw : 0 < cr m w) (nu : 0 < hh u) (nw : hh w < 0) : cr m (100, 1) * cr u w < 0 := by
  rw [← plk3]
  have k1 := Int.mul_neg_of_pos_of_neg hu nw
  have k2 := Int.mul_pos hw nu
  omega
theorem half {m u w : Pt} (hu : 0 < cr m u) (hw : 0 < cr m w) (nu : hh u ≠ 0) (nw : hh w ≠ 0) : cP u w = if 0 < cr m (100, 1) then pz (hh w) - pz (hh u) else 0 := by
  unfold cP cI pz
  rcases Int.lt_trichotomy (hh u) 0 with a | a | a
  · rcases Int.lt_trichotomy (hh w) 0 with b | b | b
    · repeat' split
      all_goals omega
    · exact absurd b nw
    · have := sgnC (vis_up hu hw a b)
      repeat' split
      all_goals omega
  · exact absurd a nu
  · rcases Int.lt_trichotomy (hh w) 0 with b | b | b
    · have := sgnD (vis_dn hu hw a b)
      repeat' split
      all_goals omega
    · exact absurd b nw
    · repeat' split
      all_goals omega
/-- seen from here the step is within a half plane: right and left crossings differ by the ups and downs -/
theorem half_d {m u w : Pt} (hu : 0 < cr m u) (hw : 0 < cr m w) (nu : hh u ≠ 0) (nw : hh w ≠ 0) : cP u w - cN u w = pz (hh w) - pz (hh u) := by
  unfold cP cN cI pz
  rcases Int.lt_trichotomy (hh u) 0 with a | a | a
  · rcases Int.lt_trichotomy (hh w) 0 with b | b | b
    · repeat' split
      all_goals omega
    · exact absurd b nw
    · have := sgnC (vis_up hu hw a b)
      repeat' split
      all_goals omega
  · exact absurd a nu
  · rcases Int.lt_trichotomy (hh w) 0 with b | b | b
    · have := sgnD (vis_dn hu hw a b)
      repeat' split
      all_goals omega
    · exact absurd b nw
    · repeat' split
      all_goals omega
theorem cP_sw (u w : Pt) : cP w u = -cP u w := by
  have : cr w u = -cr u w := by unfold cr; grind
  unfold cP cI
  rw [this]
  repeat' split
  all_goals omega
theorem cP_same {u w : Pt} (h : (0 < hh u ∧ 0 < hh w) ∨ (hh u < 0 ∧ hh w < 0)) : cP u w = 0 := by
  unfold cP cI
  repeat' split
  all_goals omega
/-- two segments are apart: a direction tells them apart -/
def ApS (a b c d : Pt) : Prop := ∃ m, 0 < cr m (sb c a) ∧ 0 < cr m (sb c b) ∧ 0 < cr m (sb d a) ∧ 0 < cr m (sb d b)
/-- a turn of less than a half -/
def Tr (u w : Pt) : Prop := ∃ m, 0 < cr m u ∧ 0 < cr m w
theorem sq {a b c d : Pt} (h : ApS a b c d) (n1 : hh (sb c a) ≠ 0) (n2 : hh (sb c b) ≠ 0) (n3 : hh (sb d a) ≠ 0) (n4 : hh (sb d b) ≠ 0) : cP (sb c a) (sb d a) - cP (sb c b) (sb d b) = cP (sb c a) (sb c b) - cP (sb d a) (sb d b) := by
  obtain ⟨m, h1, h2, h3, h4⟩ := h
  rw [half h1 h3 n1 n3, half h2 h4 n2 n4, half h1 h2 n1 n2, half h3 h4 n3 n4]
  split <;> omega
theorem tri {u w z : Pt} (h : ∃ m, 0 < cr m u ∧ 0 < cr m w ∧ 0 < cr m z) (n1 : hh u ≠ 0) (n2 : hh w ≠ 0) (n3 : hh z ≠ 0) : cP u w + cP w z = cP u z := by
  obtain ⟨m, h1, h2, h3⟩ := h
  rw [half h1 h2 n1 n2, half h2 h3 n2 n3, half h1 h3 n1 n3]
  split <;> omega

