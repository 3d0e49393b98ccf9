/-! ===== Pick's law ===== -/
theorem ray_cP {X Y : Nat} (hX : X ≤ 30) {a b : Pt} (ha : ptF X Y a) (hb : ptF X Y b) (x y : Nat) (hx : x ≤ X) : rayB a b (mp x y) = decide (cP (sb a (mp x y)) (sb b (mp x y)) ≠ 0) := by
  obtain ⟨a1, a2⟩ := a
  obtain ⟨b1, b2⟩ := b
  obtain ⟨⟨ha1, ha2⟩, ha3, ha4⟩ := ha
  obtain ⟨⟨hb1, hb2⟩, hb3, hb4⟩ := hb
  simp only at *
  have et : tnP (a1, a2) (b1, b2) (mp x y) = (a1 - x) * (b2 - y) - (a2 - y) * (b1 - x) := by unfold tnP tnZ; simp; grind
  have ec : cr (sb (a1, a2) (mp x y)) (sb (b1, b2) (mp x y)) = (a1 - x) * (b2 - y) - (a2 - y) * (b1 - x) := rfl
  have eh : ∀ u w : Int, hh (sb (u, w) (mp x y)) = 100 * (w - y) - (u - x) := fun u w => rfl
  have s1 : ∀ u w : Int, 0 < u → 0 < w → 0 < u * w := fun u w => Int.mul_pos
  have s2 : ∀ u w : Int, 0 < u → w < 0 → u * w < 0 := fun u w => Int.mul_neg_of_pos_of_neg
  have s3 : ∀ u w : Int, u < 0 → 0 < w → u * w < 0 := fun u w => Int.mul_neg_of_neg_of_pos
  have s4 : ∀ u w : Int, u < 0 → w < 0 → 0 < u * w := fun u w => Int.mul_pos_of_neg_of_neg
  unfold rayB cP cI
  rw [et, ec, eh, eh]
  have n1 : ((1 : Int) ≠ 0) = True := by simp
  have n2 : ((-1 : Int) ≠ 0) = True := by simp
  have n3 : ((0 : Int) ≠ 0) = False := by simp
  have A := s1 (a1 - x) (b2 - y)
  have A2 := s2 (a1 - x) (b2 - y)
  have A3 := s3 (a1 - x) (b2 - y)
  have A4 := s4 (a1 - x) (b2 - y)
  have A5 : a1 - x = 0 ∨ b2 - y = 0 → (a1 - x) * (b2 - y) = 0 := Int.mul_eq_zero.mpr
  have B := s1 (a2 - y) (b1 - x)
  have B2 := s2 (a2 - y) (b1 - x)
  have B3 := s3 (a2 - y) (b1 - x)
  have B4 := s4 (a2 - y) (b1 - x)
  have B5 : a2 - y = 0 ∨ b1 - x = 0 → (a2 - y) * (b1 - x) = 0 := Int.mul_eq_zero.mpr
  generalize (a1 - x) * (b2 - y) = P at *
  generalize (a2 - y) * (b1 - x) = R at *
  simp only [decide_eq_decide]
  rcases Int.lt_trichotomy a2 y with c | c | c <;> rcases Int.lt_trichotomy b2 y with d | d | d
  all_goals
    repeat' split
  all_goals first | (exfalso; omega) | (simp only [n1, n2, n3, decide_true, decide_false, decide_eq_true_eq, decide_eq_false_iff_not] <;> omega) | rfl
section PICK
variable {v : Nat → Pt} {n : Nat}
theorem rs_sh (f : Nat → Int) (k a m : Nat) : rs (fun j => f (j + k)) a m = rs f (a + k) m := by
  unfold rs
  exact sumN_c fun j _ => by show f (a + j + k) = f (a + k + j); congr 1; omega
theorem SP.shift (h : SP v n) (k : Nat) : SP (fun j => v (j + k)) n := by
  refine ⟨h.1, fun j => ?_, fun i j h1 h2 => ?_, fun i j h1 h2 => ?_, fun j => ?_⟩
  · show v (j + n + k) = v (j + k)
    rw [show j + n + k = j + k + n by omega, h.per]
  · exact h.gen (by omega) (by omega)
  · have := h.2.2.2.1 (i + k) (j + k) (by omega) (by omega)
    show ApS (v (i + k)) (v (i + 1 + k)) (v (j + k)) (v (j + 1 + k))
    rw [show i + 1 + k = i + k + 1 by omega, show j + 1 + k = j + k + 1 by omega]
    exact this
  · have := h.2.2.2.2 (j + k)
    unfold ed at *
    show Tr (sb (v (j + 1 + k)) (v (j + k))) (sb (v (j + 1 + 1 + k)) (v (j + 1 + k)))
    rw [show j + 1 + k = j + k + 1 by omega, show j + 1 + 1 + k = j + k + 1 + 1 by omega]
    exact this
theorem ed_sh (k j : Nat) : ed (fun j => v (j + k)) j = ed v (j + k) := by
  unfold ed
  show sb (v (j + 1 + k)) (v (j + k)) = _
  rw [show j + 1 + k = j + k + 1 by omega]
theorem cc_sh (k j : Nat) : cc (fun j => v (j + k)) n j = cc v n (j + k) := by
  have e : cw (fun j => v (j + k)) (v (j + 1 + k)) = fun i => cw v (v (j + 1 + k)) (i + k) := by
    funext i
    unfold cw
    show cP (sb (v (i + k)) _) (sb (v (i + 1 + k)) _) = _
    rw [show i + 1 + k = i + k + 1 by omega]
  unfold cc Mv tm
  rw [e, rs_sh, ed_sh, ed_sh, show j + 1 + k = j + k + 1 by omega, show j + 1 + 1 + k = j + k + 1 + 1 by omega]
theorem tp_sh (k : Nat) : tp (fun j => v (j + k)) = fun j => tp v (j + k) := by
  funext j
  unfold tp
  rw [ed_sh, ed_sh, show j + 1 + k = j + k + 1 by omega]
theorem SP.mod (h : SP v n) (k : Nat) : ∃ i, i < n ∧ v k = v i := by
  induction k using Nat.strongRecOn with
  | ind k ih =>
    rcases Nat.lt_or_ge k n with c | c
    · exact ⟨k, c, rfl⟩
    · obtain ⟨i, hi, e⟩ := ih (k - n) (by have := h.1; omega)
      refine ⟨i, hi, ?_⟩
      rw [← e, ← h.per (k - n)]
      congr 1
      omega
theorem min_ex (f : Nat → Int) (n : Nat) (h : 0 < n) : ∃ k, k < n ∧ ∀ j, j < n → f k ≤ f j := by
  induction n with
  | zero => omega
  | succ n ih =>
    rcases Nat.eq_zero_or_pos n with z | z
    · subst z
      exact ⟨0, by omega, fun j hj => by rw [show j = 0 by omega]; exact Int.le_refl _⟩
    · obtain ⟨k, hk, mk⟩ := ih z
      rcases Int.le_total (f k) (f n) with c | c
      · refine ⟨k, by omega, fun j hj => ?_⟩
        rcases Nat.lt_or_ge j n with d | d
        · exact mk j d
        · rw [show j = n by omega]; exact c
      · refine ⟨n, by omega, fun j hj => ?_⟩
        rcases Nat.lt_or_ge j n with d | d
        · exact Int.le_trans c (mk j d)
        · rw [show j = n by omega]; exact Int.le_refl _
/-- the way turns round once -/
theorem spin (h : SP v n) : ∃ s : Int, (s = 1 ∨ s = -1) ∧ cc v n 0 = s ∧ rs (tp v) 0 n = s ∧ rs (tm v) 0 n = s := by
  have h3 := h.1
  obtain ⟨k, hk, mk⟩ := min_ex (fun j => hh (v j)) n (by omega)
  have h' := h.shift k
  have hl : Low (fun j => v (j + k)) n := by
    intro j h1 h2
    show 0 < hh (sb (v (j + k)) (v (0 + k)))
    rw [Nat.zero_add]
    have g := h.gen (i := k) (j := j + k) (by omega) (by omega)
    obtain ⟨i, hi, e⟩ := h.mod (j + k)
    rw [e] at g ⊢
    have := mk i hi
    rw [hh_sb] at g ⊢
    have : hh (v k) ≤ hh (v i) := this
    omega
  have e1 := cc_low h' hl
  have e2 := hopf h' hl
  rw [cc_sh, cc_0 h] at e1
  have tper : ∀ j, tp v (j + n) = tp v j := fun j => by
    have a := (Rt_per h (0, 0) j).2.2
    have b := (Rt_per h (0, 0) (j + 1)).2.2
    unfold tp
    rw [a, show j + n + 1 = j + 1 + n by omega, b]
  rw [tp_sh, rs_sh, rs_cyc tper] at e2
  refine ⟨sgW (fun j => v (j + k)) n, ?_, e1, e2, ?_⟩
  · unfold sgW
    split
    · exact .inl rfl
    · exact .inr rfl
  · rw [← e2]
    have e3 := rs_tel (fun j => pz (hh (ed v j))) 0 n
    have e4 := rs_add (fun j => pz (hh (ed v (j + 1))) - pz (hh (ed v j))) (tm v) 0 n
    rw [e3, rs_c (g := tp v) (fun j _ _ => by show _ + _ = _; have := tp_tm h j; omega)] at e4
    have e5 : ed v (0 + n) = ed v 0 := (Rt_per h (0, 0) 0).2.2
    rw [e5] at e4
    omega
theorem half_e {u w : Pt} (nu : hh u ≠ 0) (nw : hh w ≠ 0) (hc : opp (hh u) (hh w) → cr u w ≠ 0) : cP u w - cN u w = pz (hh w) - pz (hh u) := by
  unfold cP cN cI pz
  unfold opp at hc
  repeat' split
  all_goals omega
theorem line_step {e d : Pt} {x y : Int} (h2 : e.1 * x + e.2 * y = 1) (h : e.1 * d.2 = e.2 * d.1) : d = scv (x * d.1 + y * d.2) e := by
  unfold scv
  exact Prod.ext (by simp; grind) (by simp; grind)
theorem tn_cr (a b p : Pt) : tnP a b p = cr (sb a p) (sb b p) := by unfold tnP tnZ cr sb; grind
/-- on the line of a side, at a level between its ends: on the side -/
theorem on_of {a b p : Pt} (ho : opp (hh (sb a p)) (hh (sb b p))) (hc : cr (sb a p) (sb b p) = 0) : onB a b p = true := by
  have hne : a ≠ b := by rintro rfl; unfold opp at ho; omega
  obtain ⟨e, x, y, h1, h2, hg⟩ := step_ex hne
  generalize (Int.gcd (b.1 - a.1) (b.2 - a.2) : Int) = g at *
  have b1 : b.1 = a.1 + g * e.1 := by have := congrArg Prod.fst h1; unfold sb scv at this; simp at this; omega
  have b2 : b.2 = a.2 + g * e.2 := by have := congrArg Prod.snd h1; unfold sb scv at this; simp at this; omega
  have l : e.1 * (sb p a).2 = e.2 * (sb p a).1 := by
    have : g * (e.1 * (sb p a).2) = g * (e.2 * (sb p a).1) := by
      unfold cr sb at hc
      unfold sb
      simp only at hc ⊢
      rw [b1, b2] at hc
      grind
    exact Int.eq_of_mul_eq_mul_left (by omega) this
  have d := line_step h2 l
  generalize x * (sb p a).1 + y * (sb p a).2 = i at d
  refine (on_step h1 h2 hg).mpr ⟨i, ?_, ?_, d⟩
  all_goals
    have q1 : hh (sb p a) = i * hh e := by rw [d, hh_sc]
    have q2 : hh (sb b p) = (g - i) * hh e := by
      have : hh (sb b a) = g * hh e := by rw [h1, hh_sc]
      rw [Int.sub_mul, ← q1, ← this, hh_sb, hh_sb, hh_sb]
      omega
    rw [hh_sw] at ho
  · rcases Int.lt_or_le i 0 with c | c
    · exfalso
      rcases Int.lt_trichotomy (hh e) 0 with z | z | z
      · have := Int.mul_pos_of_neg_of_neg c z
        have := Int.mul_neg_of_pos_of_neg (show 0 < g - i by omega) z
        omega
      · rw [z, Int.mul_zero] at q1; omega
      · have := Int.mul_neg_of_neg_of_pos c z
        have := Int.mul_pos (show 0 < g - i by omega) z
        omega
    · exact c
  · rcases Int.lt_or_le g i with c | c
    · exfalso
      rcases Int.lt_trichotomy (hh e) 0 with z | z | z
      · have := Int.mul_neg_of_pos_of_neg (show 0 < i by omega) z
        have := Int.mul_pos_of_neg_of_neg (show g - i < 0 by omega) z
        omega
      · rw [z, Int.mul_zero] at q1; omega
      · have := Int.mul_pos (show 0 < i by omega) z
        have := Int.mul_neg_of_neg_of_pos (show g - i < 0 by omega) z
        omega
    · exact c
/-- within a side -/
theorem in_side {a b p : Pt} (hne : a ≠ b) (ho : onB a b p = true) (n1 : p ≠ a) (n2 : p ≠ b) : ∃ (e : Pt) (i j : Int), 0 < i ∧ 0 < j ∧ sb p a = scv i e ∧ sb b p = scv j e := by
  obtain ⟨e, x, y, h1, h2, hg⟩ := step_ex hne
  obtain ⟨i, i0, ig, hi⟩ := (on_step h1 h2 hg).mp ho
  generalize (Int.gcd (b.1 - a.1) (b.2 - a.2) : Int) = g at *
  have k1 : i ≠ 0 := by
    rintro rfl
    refine n1 ?_
    have z1 := congrArg Prod.fst hi
    have z2 := congrArg Prod.snd hi
    unfold sb scv at z1 z2
    simp at z1 z2
    exact Prod.ext (by omega) (by omega)
  have e2 : sb b p = scv (g - i) e := by
    have z1 := congrArg Prod.fst hi
    have z2 := congrArg Prod.snd hi
    have w1 := congrArg Prod.fst h1
    have w2 := congrArg Prod.snd h1
    unfold sb scv at *
    simp only at z1 z2 w1 w2
    exact Prod.ext (by simp only; rw [Int.sub_mul]; omega) (by simp only; rw [Int.sub_mul]; omega)
  have k2 : i ≠ g := by
    rintro rfl
    refine n2 ?_
    have z1 := congrArg Prod.fst e2
    have z2 := congrArg Prod.snd e2
    unfold sb scv at z1 z2
    simp at z1 z2
    exact Prod.ext (by omega) (by omega)
  exact ⟨e, i, g - i, by omega, by omega, hi, e2⟩
end PICK

