/-! ===== closed ways: the crossings seen from their corners ===== -/
def rs (f : Nat → Int) (a n : Nat) : Int := sumN (fun i => f (a + i)) n
theorem rs_0 (f : Nat → Int) (a : Nat) : rs f a 0 = 0 := rfl
theorem rs_s (f : Nat → Int) (a n : Nat) : rs f a (n + 1) = rs f a n + f (a + n) := rfl
theorem rs_f (f : Nat → Int) (a n : Nat) : rs f a (n + 1) = f a + rs f (a + 1) n := by
  induction n with
  | zero => rw [rs_s, rs_0, rs_0]; simp
  | succ n ih =>
    rw [rs_s, ih, rs_s, show a + (n + 1) = a + 1 + n by omega]
    omega
theorem rs_z {f : Nat → Int} {a n : Nat} (h : ∀ j, a ≤ j → j < a + n → f j = 0) : rs f a n = 0 := by
  induction n with
  | zero => rfl
  | succ n ih => rw [rs_s, ih fun j h1 h2 => h j h1 (by omega), h (a + n) (by omega) (by omega)]; rfl
theorem rs_c {f g : Nat → Int} {a n : Nat} (h : ∀ j, a ≤ j → j < a + n → f j = g j) : rs f a n = rs g a n := by
  induction n with
  | zero => rfl
  | succ n ih => rw [rs_s, rs_s, ih fun j h1 h2 => h j h1 (by omega), h (a + n) (by omega) (by omega)]
theorem rs_add (f g : Nat → Int) (a n : Nat) : rs (fun j => f j + g j) a n = rs f a n + rs g a n := by
  induction n with
  | zero => rfl
  | succ n ih => rw [rs_s, rs_s, rs_s, ih]; omega
theorem rs_tel (f : Nat → Int) (a n : Nat) : rs (fun j => f (j + 1) - f j) a n = f (a + n) - f a := by
  induction n with
  | zero => rw [rs_0]; simp
  | succ n ih => rw [rs_s, ih]; show _ + (f (a + n + 1) - f (a + n)) = f (a + n + 1) - f a; omega
theorem rs_cyc {f : Nat → Int} {n : Nat} (h : ∀ j, f (j + n) = f j) (a : Nat) : rs f a n = rs f 0 n := by
  induction a with
  | zero => rfl
  | succ a ih =>
    have e1 := rs_f f a n
    rw [rs_s, h] at e1
    omega
def cw (v : Nat → Pt) (p : Pt) (j : Nat) : Int := cP (sb (v j) p) (sb (v (j + 1)) p)
def cz (v : Nat → Pt) (p : Pt) (j : Nat) : Int := cN (sb (v j) p) (sb (v (j + 1)) p)
def ed (v : Nat → Pt) (k : Nat) : Pt := sb (v (k + 1)) (v k)
def tp (v : Nat → Pt) (k : Nat) : Int := cP (ed v k) (ed v (k + 1))
def tm (v : Nat → Pt) (k : Nat) : Int := cN (ed v k) (ed v (k + 1))
/-- a closed way through n corners: no two of one height, sides apart, no turn back -/
def SP (v : Nat → Pt) (n : Nat) : Prop := 3 ≤ n ∧ (∀ k, v (k + n) = v k) ∧ (∀ i j, i < j → j < i + n → hh (sb (v j) (v i)) ≠ 0) ∧ (∀ i j, i + 2 ≤ j → j + 2 ≤ i + n → ApS (v i) (v (i + 1)) (v j) (v (j + 1))) ∧ ∀ k, Tr (ed v k) (ed v (k + 1))
theorem hh_sb (a b : Pt) : hh (sb a b) = hh a - hh b := by unfold hh sb; grind
theorem hh_sw (a b : Pt) : hh (sb a b) = -hh (sb b a) := by rw [hh_sb, hh_sb]; omega
theorem cr_sb (m a b c : Pt) : cr m (sb a c) = cr m (sb a b) + cr m (sb b c) := by unfold cr sb; grind
theorem cr_sw (m a b : Pt) : cr m (sb a b) = -cr m (sb b a) := by unfold cr sb; grind
theorem cr_ng (m u : Pt) : cr (-m.1, -m.2) u = -cr m u := by unfold cr; grind
theorem cN_neg (a b c d : Pt) : cN (sb a b) (sb c d) = cP (sb b a) (sb d c) := by
  unfold cN cP
  rw [hh_sw b a, hh_sw d c, show cr (sb b a) (sb d c) = cr (sb a b) (sb c d) by unfold cr sb; grind]
theorem strip {v : Nat → Pt} {p q : Pt} {a m : Nat} (hs : ∀ j, a ≤ j → j < a + m → ApS p q (v j) (v (j + 1))) (hp : ∀ j, a ≤ j → j ≤ a + m → hh (sb (v j) p) ≠ 0) (hq : ∀ j, a ≤ j → j ≤ a + m → hh (sb (v j) q) ≠ 0) :
    rs (cw v p) a m - rs (cw v q) a m = cP (sb (v a) p) (sb (v a) q) - cP (sb (v (a + m)) p) (sb (v (a + m)) q) := by
  induction m with
  | zero => rw [rs_0, rs_0]; simp
  | succ m ih =>
    have e1 := ih (fun j h1 h2 => hs j h1 (by omega)) (fun j h1 h2 => hp j h1 (by omega)) (fun j h1 h2 => hq j h1 (by omega))
    have e2 := sq (hs (a + m) (by omega) (by omega)) (hp (a + m) (by omega) (by omega)) (hq (a + m) (by omega) (by omega)) (hp (a + m + 1) (by omega) (by omega)) (hq (a + m + 1) (by omega) (by omega))
    rw [rs_s, rs_s]
    unfold cw at *
    show _ = _ - cP (sb (v (a + m + 1)) p) (sb (v (a + m + 1)) q)
    omega
section WAY
variable {v : Nat → Pt} {n : Nat}
theorem SP.per (h : SP v n) (k : Nat) : v (k + n) = v k := h.2.1 k
theorem SP.gen (h : SP v n) {i j : Nat} (h1 : i < j) (h2 : j < i + n) : hh (sb (v j) (v i)) ≠ 0 := h.2.2.1 i j h1 h2
theorem SP.gen' (h : SP v n) {i j : Nat} (h1 : i < j) (h2 : j < i + n) : hh (sb (v i) (v j)) ≠ 0 := by
  have := h.gen h1 h2
  rw [hh_sw]
  omega
theorem SP.ed0 (h : SP v n) (k : Nat) : hh (ed v k) ≠ 0 := h.gen (by omega) (by have := h.1; omega)
/-- the crossings seen from a corner -/
def Mv (v : Nat → Pt) (n k : Nat) : Int := rs (cw v (v k)) (k + 1) (n - 2)
theorem tri_p (h : SP v n) (k : Nat) : cP (sb (v (k + 1)) (v k)) (sb (v (k + 2)) (v k)) + cP (sb (v (k + 2)) (v k)) (sb (v (k + 2)) (v (k + 1))) = tp v k := by
  have h3 := h.1
  obtain ⟨m, h1, h2⟩ := h.2.2.2.2 k
  unfold ed at h1 h2
  exact tri ⟨m, h1, by rw [cr_sb m (v (k + 2)) (v (k + 1)) (v k)]; exact Int.add_pos h2 h1, h2⟩ (h.gen (by omega) (by omega)) (h.gen (by omega) (by omega)) (h.gen (by omega) (by omega))
theorem tri_m (h : SP v n) (k : Nat) : cP (sb (v k) (v (k + 1))) (sb (v k) (v (k + 2))) + cP (sb (v k) (v (k + 2))) (sb (v (k + 1)) (v (k + 2))) = tm v k := by
  have h3 := h.1
  obtain ⟨m, h1, h2⟩ := h.2.2.2.2 k
  unfold tm
  unfold ed at h1 h2 ⊢
  have e := cr_sb m (v (k + 2)) (v (k + 1)) (v k)
  replace h2 : 0 < cr m (sb (v (k + 2)) (v (k + 1))) := h2
  rw [cN_neg]
  exact tri ⟨(-m.1, -m.2), by rw [cr_ng, cr_sw]; omega, by rw [cr_ng, cr_sw]; omega, by rw [cr_ng, cr_sw]; omega⟩ (h.gen' (by omega) (by omega)) (h.gen' (by omega) (by omega)) (h.gen' (by omega) (by omega))
theorem row (h : SP v n) (k : Nat) : Mv v n (k + 1) + tm v k = Mv v n (k + 2) + tp v (k + 1) := by
  have h3 := h.1
  obtain ⟨r, rfl⟩ : ∃ r, n = r + 3 := ⟨n - 3, by omega⟩
  have e0 := strip (v := v) (p := v (k + 1)) (q := v (k + 2)) (a := k + 3) (m := r) (fun j h1 h2 => h.2.2.2.1 (k + 1) j (by omega) (by omega)) (fun j h1 h2 => h.gen (by omega) (by omega)) (fun j h1 h2 => h.gen (by omega) (by omega))
  unfold Mv
  rw [show r + 3 - 2 = r + 1 by omega, rs_f, rs_s]
  have e1 := tri_p h (k + 1)
  have e2 := tri_m h k
  have p1 : v (k + 3 + r) = v k := by rw [show k + 3 + r = k + (r + 3) by omega]; exact h.per k
  have p2 : v (k + 3 + r + 1) = v (k + 1) := by rw [show k + 3 + r + 1 = k + 1 + (r + 3) by omega]; exact h.per (k + 1)
  rw [p1] at e0
  unfold cw at e0 ⊢
  show cP (sb (v (k + 2)) (v (k + 1))) (sb (v (k + 3)) (v (k + 1))) + rs (fun j => cP (sb (v j) (v (k + 1))) (sb (v (j + 1)) (v (k + 1)))) (k + 3) r + _ = rs (fun j => cP (sb (v j) (v (k + 2))) (sb (v (j + 1)) (v (k + 2)))) (k + 3) r + cP (sb (v (k + 3 + r)) (v (k + 2))) (sb (v (k + 3 + r + 1)) (v (k + 2))) + _
  rw [p1, p2]
  have e3 : cP (sb (v (k + 1 + 1)) (v (k + 1))) (sb (v (k + 1 + 2)) (v (k + 1))) = cP (sb (v (k + 2)) (v (k + 1))) (sb (v (k + 3)) (v (k + 1))) := rfl
  have e4 : cP (sb (v (k + 1 + 2)) (v (k + 1))) (sb (v (k + 1 + 2)) (v (k + 1 + 1))) = cP (sb (v (k + 3)) (v (k + 1))) (sb (v (k + 3)) (v (k + 2))) := rfl
  omega
theorem tp_tm (h : SP v n) (k : Nat) : tp v k - tm v k = pz (hh (ed v (k + 1))) - pz (hh (ed v k)) := by
  obtain ⟨m, h1, h2⟩ := h.2.2.2.2 k
  exact half_d h1 h2 (h.ed0 k) (h.ed0 (k + 1))
def cc (v : Nat → Pt) (n k : Nat) : Int := 2 * Mv v n (k + 1) + 2 * tm v k + 2 * pz (hh (ed v (k + 1))) - 1
theorem cc_s (h : SP v n) (k : Nat) : cc v n (k + 1) = cc v n k := by
  have e1 := row h k
  have e2 := tp_tm h (k + 1)
  unfold cc
  show 2 * Mv v n (k + 2) + 2 * tm v (k + 1) + 2 * pz (hh (ed v (k + 1 + 1))) - 1 = _
  omega
theorem cc_0 (h : SP v n) (k : Nat) : cc v n k = cc v n 0 := by
  induction k with
  | zero => rfl
  | succ k ih => rw [cc_s h, ih]
/-- corner 0 is the lowest one -/
def Low (v : Nat → Pt) (n : Nat) : Prop := ∀ j, 0 < j → j < n → 0 < hh (sb (v j) (v 0))
def sgW (v : Nat → Pt) (n : Nat) : Int := if 0 < cr (ed v (n - 1)) (ed v n) then 1 else -1
theorem low_cr (h : SP v n) (hl : Low v n) : hh (ed v (n - 1)) < 0 ∧ 0 < hh (ed v n) ∧ cr (ed v (n - 1)) (ed v n) ≠ 0 := by
  have h3 := h.1
  obtain ⟨m, h1, h2⟩ := h.2.2.2.2 (n - 1)
  have e : n - 1 + 1 = n := by omega
  rw [e] at h2
  have p0 : v n = v 0 := by have := h.per 0; rwa [Nat.zero_add] at this
  have p1 : v (n + 1) = v 1 := by have := h.per 1; rwa [Nat.add_comm] at this
  have a1 : hh (ed v (n - 1)) < 0 := by
    unfold ed
    rw [e, p0, hh_sw]
    have := hl (n - 1) (by omega) (by omega)
    omega
  have a2 : 0 < hh (ed v n) := by
    unfold ed
    rw [p0, p1]
    exact hl 1 (by omega) (by omega)
  refine ⟨a1, a2, fun z => ?_⟩
  have := vis_up h1 h2 a1 a2
  rw [z, Int.mul_zero] at this
  omega
theorem cc_low (h : SP v n) (hl : Low v n) : cc v n (n - 1) = sgW v n := by
  have h3 := h.1
  obtain ⟨a1, a2, a3⟩ := low_cr h hl
  have p0 : v n = v 0 := by have := h.per 0; rwa [Nat.zero_add] at this
  have e : n - 1 + 1 = n := by omega
  have m0 : Mv v n n = 0 := by
    refine rs_z fun j h1 h2 => ?_
    obtain ⟨i, rfl⟩ : ∃ i, j = i + n := ⟨j - n, by omega⟩
    unfold cw
    rw [p0, show i + n + 1 = i + 1 + n by omega, h.per, h.per]
    exact cP_same (.inl ⟨hl i (by omega) (by omega), hl (i + 1) (by omega) (by omega)⟩)
  unfold cc tm sgW cN cI pz
  rw [e, m0]
  repeat' split
  all_goals omega
theorem rowL (h : SP v n) (hl : Low v n) (d : Nat) : ∀ i, 1 ≤ i → i + d + 1 = n → rs (cw v (v i)) (i + 1) d = rs (tp v) i d := by
  have h3 := h.1
  have p0 : v n = v 0 := by have := h.per 0; rwa [Nat.zero_add] at this
  induction d with
  | zero => intro i _ _; rfl
  | succ d ih =>
    intro i hi hd
    have e1 := ih (i + 1) (by omega) (by omega)
    have e0 := strip (v := v) (p := v i) (q := v (i + 1)) (a := i + 2) (m := d) (fun j h1 h2 => h.2.2.2.1 i j (by omega) (by omega)) (fun j h1 h2 => h.gen (by omega) (by omega)) (fun j h1 h2 => h.gen (by omega) (by omega))
    rw [show i + 2 + d = n by omega, p0] at e0
    have e2 := tri_p h i
    have z : cP (sb (v 0) (v i)) (sb (v 0) (v (i + 1))) = 0 := by
      have l1 := hl i (by omega) (by omega)
      have l2 := hl (i + 1) (by omega) (by omega)
      refine cP_same (.inr ⟨?_, ?_⟩) <;> rw [hh_sw] <;> omega
    rw [rs_f, rs_f]
    show cP (sb (v (i + 1)) (v i)) (sb (v (i + 2)) (v i)) + rs (cw v (v i)) (i + 2) d = _
    have e1' : rs (cw v (v (i + 1))) (i + 2) d = rs (tp v) (i + 1) d := e1
    omega
theorem hopf (h : SP v n) (hl : Low v n) : rs (tp v) 0 n = sgW v n := by
  have h3 := h.1
  obtain ⟨a1, a2, a3⟩ := low_cr h hl
  obtain ⟨r, rfl⟩ : ∃ r, n = r + 3 := ⟨n - 3, by omega⟩
  have p0 : v (r + 3) = v 0 := by have := h.per 0; rwa [Nat.zero_add] at this
  have p1 : v (r + 4) = v 1 := by have := h.per 1; rwa [Nat.add_comm] at this
  have e1 := rowL h hl (r + 1) 1 (by omega) (by omega)
  have e0 := strip (v := v) (p := v 0) (q := v 1) (a := 2) (m := r) (fun j h1 h2 => h.2.2.2.1 0 j (by omega) (by omega)) (fun j h1 h2 => h.gen (by omega) (by omega)) (fun j h1 h2 => h.gen (by omega) (by omega))
  have z0 : rs (cw v (v 0)) 2 r = 0 := rs_z fun j h1 h2 => cP_same (.inl ⟨hl j (by omega) (by omega), hl (j + 1) (by omega) (by omega)⟩)
  have t0 := tri_p h 0
  have z1 : cP (sb (v (0 + 1)) (v 0)) (sb (v (0 + 2)) (v 0)) = 0 := cP_same (.inl ⟨hl 1 (by omega) (by omega), hl 2 (by omega) (by omega)⟩)
  have t1 := tri_m h (r + 2)
  rw [p0, p1] at t1
  rw [rs_s] at e1
  have e2 : cw v (v 1) (1 + 1 + r) = cP (sb (v (r + 2)) (v 1)) (sb (v 0) (v 1)) := by
    unfold cw
    rw [show 1 + 1 + r + 1 = r + 3 by omega, p0, show 1 + 1 + r = r + 2 by omega]
  have e3 : v (2 + r) = v (r + 2) := by rw [Nat.add_comm]
  rw [e3] at e0
  rw [e2] at e1
  have e4 : rs (tp v) 0 (r + 3) = tp v 0 + (rs (tp v) 1 (r + 1)) + tp v (r + 2) := by
    rw [rs_s, rs_f, Nat.zero_add, Nat.zero_add]
  have tu : tp v (r + 2) + tm v (r + 2) = sgW v (r + 3) := by
    unfold tp tm cP cN cI sgW
    show _ = if 0 < cr (ed v (r + 2)) (ed v (r + 3)) then 1 else -1
    replace a1 : hh (ed v (r + 2)) < 0 := a1
    replace a3 : cr (ed v (r + 2)) (ed v (r + 3)) ≠ 0 := a3
    show (if hh (ed v (r + 2)) < 0 ∧ 0 < hh (ed v (r + 3)) ∧ 0 < cr (ed v (r + 2)) (ed v (r + 3)) then (1 : Int) else if hh (ed v (r + 3)) < 0 ∧ 0 < hh (ed v (r + 2)) ∧ cr (ed v (r + 2)) (ed v (r + 3)) < 0 then -1 else 0) + (if -hh (ed v (r + 2)) < 0 ∧ 0 < -hh (ed v (r + 3)) ∧ 0 < cr (ed v (r + 2)) (ed v (r + 3)) then 1 else if -hh (ed v (r + 3)) < 0 ∧ 0 < -hh (ed v (r + 2)) ∧ cr (ed v (r + 2)) (ed v (r + 3)) < 0 then -1 else 0) = _
    repeat' split
    all_goals omega
  have e0' : rs (cw v (v 0)) 2 r - rs (cw v (v 1)) (1 + 1) r = cP (sb (v (0 + 2)) (v 0)) (sb (v (0 + 2)) (v (0 + 1))) - cP (sb (v (r + 2)) (v 0)) (sb (v (r + 2)) (v 1)) := e0
  have t1' : cP (sb (v (r + 2)) (v 0)) (sb (v (r + 2)) (v 1)) + cP (sb (v (r + 2)) (v 1)) (sb (v 0) (v 1)) = tm v (r + 2) := t1
  omega
end WAY

