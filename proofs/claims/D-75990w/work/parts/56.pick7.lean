section PICK2
variable {v : Nat → Pt} {n : Nat}
/-- the sum over the points of the field -/
def bx (X Y : Nat) (F : Pt → Int) : Int := sumN (fun x => sumN (fun y => F (mp x y)) (Y + 1)) (X + 1)
theorem bx_c {X Y : Nat} {F G : Pt → Int} (h : ∀ x y, x ≤ X → y ≤ Y → F (mp x y) = G (mp x y)) : bx X Y F = bx X Y G := sumN_c fun x hx => sumN_c fun y hy => h x y (by omega) (by omega)
theorem bx_add (X Y : Nat) (F G : Pt → Int) : bx X Y (fun p => F p + G p) = bx X Y F + bx X Y G := by
  unfold bx
  rw [← sumN_add]
  exact sumN_c fun x _ => sumN_add _ _ _
theorem bx_mul (X Y : Nat) (c : Int) (F : Pt → Int) : bx X Y (fun p => c * F p) = c * bx X Y F := by
  unfold bx
  rw [← sumN_mul]
  exact sumN_c fun x _ => sumN_mul _ _ _
theorem bxs_sum (X Y : Nat) (F : Nat → Pt → Int) (n : Nat) : bx X Y (fun p => sumN (fun k => F k p) n) = sumN (fun k => bx X Y (F k)) n := by
  unfold bx
  exact (sumN_c fun x _ => sumN_comm (fun y k => F k (mp x y)) _ _).trans (sumN_comm _ _ _)
def onW (v : Nat → Pt) (n : Nat) (p : Pt) : Prop := ∃ k, k < n ∧ onB (v k) (v (k + 1)) p = true
theorem v_ne (h : SP v n) {k j : Nat} (h1 : k < j) (h2 : j < k + n) : v k ≠ v j := fun e => h.gen h1 h2 (by rw [e, hh_sb]; omega)
theorem hh_inj {X Y : Nat} (hX : X ≤ 30) {a b : Pt} (ha : ptF X Y a) (hb : ptF X Y b) (h : hh (sb a b) = 0) : a = b := by
  unfold hh sb at h
  simp only at h
  have := ha.1
  have := hb.1
  exact Prod.ext (by omega) (by omega)
theorem lev_of (h : SP v n) {X Y : Nat} (hX : X ≤ 30) (hF : ∀ k, ptF X Y (v k)) {p : Pt} (hp : ptF X Y p) (hn : ∀ k, k < n → p ≠ v (k + 1)) : (∀ j, p ≠ v j) ∧ Lev v p := by
  have a : ∀ j, p ≠ v j := by
    intro j
    obtain ⟨i, hi, e⟩ := h.mod j
    rw [e]
    rcases Nat.eq_zero_or_pos i with z | z
    · subst z
      have := hn (n - 1) (by omega)
      rw [show n - 1 + 1 = 0 + n by omega, h.per] at this
      exact this
    · have := hn (i - 1) (by omega)
      rwa [show i - 1 + 1 = i by omega] at this
  exact ⟨a, fun j z => a j (hh_inj hX (hF j) hp z).symm⟩
theorem zz_split (p : Pt) (a m : Nat) : rs (fun j => zzE (v j) (v (j + 1)) p) a m = rs (cw v p) a m + rs (cz v p) a m := by rw [← rs_add]; rfl
theorem cz_of {p : Pt} {a m : Nat} (hl : ∀ j, a ≤ j → j ≤ a + m → hh (sb (v j) p) ≠ 0) (hc : ∀ j, a ≤ j → j < a + m → opp (hh (sb (v j) p)) (hh (sb (v (j + 1)) p)) → crs v p j ≠ 0) : rs (cw v p) a m - rs (cz v p) a m = pz (hh (sb (v (a + m)) p)) - pz (hh (sb (v a) p)) := by
  have e := rs_add (fun j => pz (hh (sb (v (j + 1)) p)) - pz (hh (sb (v j) p))) (cz v p) a m
  rw [rs_c (g := cw v p) (fun j h1 h2 => by
    have := half_e (hl j h1 (by omega)) (hl (j + 1) (by omega) (by omega)) (hc j h1 h2)
    show _ + cN _ _ = cP _ _
    omega), rs_tel (fun j => pz (hh (sb (v j) p)))] at e
  omega
theorem opp_vis {p : Pt} {j : Nat} (hv : ∃ m, 0 < cr m (sb (v j) p) ∧ 0 < cr m (sb (v (j + 1)) p)) : opp (hh (sb (v j) p)) (hh (sb (v (j + 1)) p)) → crs v p j ≠ 0 := by
  rintro o z
  obtain ⟨m, a1, a2⟩ := hv
  rcases o with ⟨o1, o2⟩ | ⟨o1, o2⟩
  · have := vis_up a1 a2 o1 o2
    rw [show cr (sb (v j) p) (sb (v (j + 1)) p) = crs v p j from rfl, z, Int.mul_zero] at this
    omega
  · have := vis_dn a1 a2 o2 o1
    rw [show cr (sb (v j) p) (sb (v (j + 1)) p) = crs v p j from rfl, z, Int.mul_zero] at this
    omega
/-- a corner -/
theorem zz_corner (h : SP v n) (k : Nat) : rs (fun j => zzE (v j) (v (j + 1)) (v (k + 1))) 0 n = cc v n 0 - (tp v k + tm v k) := by
  have h3 := h.1
  obtain ⟨r, rfl⟩ : ∃ r, n = r + 3 := ⟨n - 3, by omega⟩
  have per : ∀ j, (fun j => zzE (v j) (v (j + 1)) (v (k + 1))) (j + (r + 3)) = (fun j => zzE (v j) (v (j + 1)) (v (k + 1))) j := fun j => by
    show zzE (v (j + (r + 3))) (v (j + (r + 3) + 1)) _ = _
    rw [show j + (r + 3) + 1 = j + 1 + (r + 3) by omega, h.per, h.per]
  have s0 : ∀ a : Pt, hh (sb a a) = 0 := fun a => by rw [hh_sb]; omega
  have z1 : zzE (v (k + 1)) (v (k + 1 + 1)) (v (k + 1)) = 0 := by
    rw [zzE_v, s0, if_neg (by unfold opp; omega)]
  have p1 : v (k + 2 + (r + 1)) = v k := by rw [show k + 2 + (r + 1) = k + (r + 3) by omega]; exact h.per k
  have p2 : v (k + 2 + (r + 1) + 1) = v (k + 1) := by rw [show k + 2 + (r + 1) + 1 = k + 1 + (r + 3) by omega]; exact h.per (k + 1)
  have z2 : zzE (v (k + 2 + (r + 1))) (v (k + 2 + (r + 1) + 1)) (v (k + 1)) = 0 := by
    rw [p2, zzE_v, s0, if_neg (by unfold opp; omega)]
  rw [← rs_cyc per (k + 1), rs_f, rs_s]
  rw [z1, show zzE (v (k + 1 + 1 + (r + 1))) (v (k + 1 + 1 + (r + 1) + 1)) (v (k + 1)) = 0 from z2, zz_split]
  show 0 + (rs (cw v (v (k + 1))) (k + 2) (r + 1) + rs (cz v (v (k + 1))) (k + 2) (r + 1) + 0) = _
  have c := cz_of (v := v) (p := v (k + 1)) (a := k + 2) (m := r + 1) (fun j h1 h2 => h.gen (by omega) (by omega)) (fun j h1 h2 => opp_vis (by
    rcases Nat.lt_or_ge j (k + 3) with c | c
    · obtain rfl : j = k + 2 := by omega
      obtain ⟨m, a1, a2⟩ := h.2.2.2.2 (k + 1)
      unfold ed at a1 a2
      refine ⟨m, a1, ?_⟩
      have := cr_sb m (v (k + 2 + 1)) (v (k + 2)) (v (k + 1))
      have a1' : 0 < cr m (sb (v (k + 2)) (v (k + 1))) := a1
      have a2' : 0 < cr m (sb (v (k + 2 + 1)) (v (k + 2))) := a2
      omega
    · obtain ⟨m, a1, -, a3, -⟩ := h.2.2.2.1 (k + 1) j (by omega) (by omega)
      exact ⟨m, a1, a3⟩))
  rw [p1] at c
  have c0 := cc_0 h k
  unfold cc Mv at c0
  have tt := tp_tm h k
  have c0' : 2 * rs (cw v (v (k + 1))) (k + 2) (r + 1) + 2 * tm v k + 2 * pz (hh (ed v (k + 1))) - 1 = cc v (r + 3) 0 := c0
  have e0 := h.ed0 k
  have q1 : pz (hh (sb (v k) (v (k + 1)))) = 1 - pz (hh (ed v k)) := by
    unfold ed at e0 ⊢
    rw [hh_sw]
    unfold pz
    repeat' split
    all_goals omega
  have q2 : pz (hh (sb (v (k + 2)) (v (k + 1)))) = pz (hh (ed v (k + 1))) := rfl
  omega
/-- a point within a side -/
theorem zz_side (h : SP v n) {p : Pt} (hl : Lev v p) {k : Nat} (hn : p ≠ v k) (hn' : p ≠ v (k + 1)) (ho : onB (v k) (v (k + 1)) p = true) : rs (fun j => zzE (v j) (v (j + 1)) p) 0 n = cc v n 0 := by
  have h3 := h.1
  obtain ⟨r, rfl⟩ : ∃ r, n = r + 3 := ⟨n - 3, by omega⟩
  obtain ⟨e, i, j, hi, hj, e1, e2⟩ := in_side (v_ne h (by omega) (by omega)) ho hn hn'
  have q1 : hh (sb (v k) p) = -(i * hh e) := by rw [hh_sw, e1, hh_sc]
  have q2 : hh (sb (v (k + 1)) p) = j * hh e := by rw [e2, hh_sc]
  have ne : hh e ≠ 0 := by
    intro z
    rw [z, Int.mul_zero] at q2
    exact hl _ q2
  have hopp : opp (hh (sb (v k) p)) (hh (sb (v (k + 1)) p)) := by
    unfold opp
    rw [q1, q2]
    rcases Int.lt_trichotomy (hh e) 0 with z | z | z
    · have := Int.mul_neg_of_pos_of_neg hi z
      have := Int.mul_neg_of_pos_of_neg hj z
      omega
    · exact absurd z ne
    · have := Int.mul_pos hi z
      have := Int.mul_pos hj z
      omega
  have h0 : crs v p k = 0 := by
    unfold crs
    rw [e2, cr_sc]
    have : cr (sb (v k) p) e = -cr (sb p (v k)) e := by unfold cr sb; grind
    rw [this, e1]
    unfold cr scv
    grind
  obtain ⟨o1, o2⟩ := on_side h hl hopp h0
  have per : ∀ j, (fun j => zzE (v j) (v (j + 1)) p) (j + (r + 3)) = (fun j => zzE (v j) (v (j + 1)) p) j := fun j => by
    show zzE (v (j + (r + 3))) (v (j + (r + 3) + 1)) _ = _
    rw [show j + (r + 3) + 1 = j + 1 + (r + 3) by omega, h.per, h.per]
  have z1 : zzE (v k) (v (k + 1)) p = 0 := by
    rw [zzE_v, show cr (sb (v k) p) (sb (v (k + 1)) p) = 0 from h0]
    repeat' split
    all_goals omega
  rw [← rs_cyc per k, rs_f]
  rw [z1, zz_split]
  have c := cz_of (v := v) (p := p) (a := k + 1) (m := r + 2) (fun j _ _ => hl j) (fun j h1 h2 => opp_vis (o2 j h1 (by omega)))
  rw [show k + 1 + (r + 2) = k + (r + 3) by omega, h.per] at c
  have o1' : 2 * rs (cw v p) (k + 1) (r + 2) = cc v (r + 3) 0 + 1 - 2 * pz (hh (ed v k)) := o1
  have ee : hh (ed v k) = hh (sb (v (k + 1)) p) - hh (sb (v k) p) := by unfold ed; rw [hh_sb, hh_sb, hh_sb]; omega
  have q3 : pz (hh (sb (v k) p)) - pz (hh (sb (v (k + 1)) p)) = 1 - 2 * pz (hh (ed v k)) := by
    rw [ee]
    unfold pz
    rcases hopp with ⟨u1, u2⟩ | ⟨u1, u2⟩
    · rw [if_neg (by omega), if_pos u2, if_pos (by omega)]; rfl
    · rw [if_pos u2, if_neg (by omega), if_neg (by omega)]; rfl
  omega
/-- a point off the way -/
theorem zz_off (h : SP v n) {p : Pt} (hl : Lev v p) (hn : ¬ onW v n p) : rs (fun j => zzE (v j) (v (j + 1)) p) 0 n = 2 * rs (cw v p) 0 n := by
  rw [zz_split]
  have c := cz_of (v := v) (p := p) (a := 0) (m := n) (fun j _ _ => hl j) (fun j h1 h2 o z => hn ⟨j, by omega, on_of o z⟩)
  rw [Nat.zero_add, show v n = v 0 by have := h.per 0; rwa [Nat.zero_add] at this] at c
  omega
end PICK2

