/-! ===== closed ways: seen from a point of a side, and from elsewhere ===== -/
def scv (a : Int) (u : Pt) : Pt := (a * u.1, a * u.2)
theorem hh_sc (a : Int) (u : Pt) : hh (scv a u) = a * hh u := by unfold hh scv; grind
theorem cr_sc (m : Pt) (a : Int) (u : Pt) : cr m (scv a u) = a * cr m u := by unfold cr scv; grind
theorem cr_sc2 (a : Int) (u w : Pt) : cr (scv a u) (scv a w) = a * (a * cr u w) := by unfold cr scv; grind
theorem sb_sc (a : Int) (u w : Pt) : sb (scv a u) (scv a w) = scv a (sb u w) := by unfold sb scv; ext <;> simp <;> grind
theorem pos_mul {a b : Int} (ha : 0 < a) : 0 < a * b ↔ 0 < b := by
  constructor
  · intro h
    have := sgnC h
    omega
  · exact Int.mul_pos ha
theorem neg_mul' {a b : Int} (ha : 0 < a) : a * b < 0 ↔ b < 0 := by
  constructor
  · intro h
    have := sgnD h
    omega
  · exact Int.mul_neg_of_pos_of_neg ha
theorem cI_sc {N M a b c : Int} (hN : 0 < N) (hM : 0 < M) : cI (N * a) (N * b) (M * c) = cI a b c := by
  unfold cI
  simp only [neg_mul' hN, pos_mul hN, neg_mul' hM, pos_mul hM]
theorem cP_sc {N : Int} (hN : 0 < N) (u w : Pt) : cP (scv N u) (scv N w) = cP u w := by
  unfold cP
  rw [hh_sc, hh_sc, cr_sc2, ← Int.mul_assoc, cI_sc hN (Int.mul_pos hN hN)]
theorem cN_sc {N : Int} (hN : 0 < N) (u w : Pt) : cN (scv N u) (scv N w) = cN u w := by
  unfold cN
  rw [hh_sc, hh_sc, cr_sc2, ← Int.mul_assoc, ← Int.mul_neg, ← Int.mul_neg, cI_sc hN (Int.mul_pos hN hN)]
theorem pz_sc {N : Int} (hN : 0 < N) (a : Int) : pz (N * a) = pz a := by
  unfold pz
  simp only [pos_mul hN]
section WAY2
variable {v : Nat → Pt} {n : Nat}
theorem SP.sc (h : SP v n) {N : Int} (hN : 0 < N) : SP (fun j => scv N (v j)) n := by
  refine ⟨h.1, fun k => by show scv N (v (k + n)) = scv N (v k); rw [h.per], fun i j h1 h2 => ?_, fun i j h1 h2 => ?_, fun k => ?_⟩
  · rw [sb_sc, hh_sc]
    have := h.gen h1 h2
    intro z
    rcases Int.mul_eq_zero.mp z with e | e <;> omega
  · obtain ⟨m, a1, a2, a3, a4⟩ := h.2.2.2.1 i j h1 h2
    refine ⟨m, ?_, ?_, ?_, ?_⟩ <;> rw [sb_sc, cr_sc] <;> refine Int.mul_pos hN ?_ <;> assumption
  · obtain ⟨m, a1, a2⟩ := h.2.2.2.2 k
    refine ⟨m, ?_, ?_⟩ <;> unfold ed at * <;> rw [sb_sc, cr_sc] <;> refine Int.mul_pos hN ?_ <;> assumption
theorem cw_sc {N : Int} (hN : 0 < N) (p : Pt) (j : Nat) : cw (fun j => scv N (v j)) (scv N p) j = cw v p j := by
  unfold cw
  rw [sb_sc, sb_sc, cP_sc hN]
theorem cc_sc {N : Int} (hN : 0 < N) (k : Nat) : cc (fun j => scv N (v j)) n k = cc v n k := by
  unfold cc Mv tm ed
  rw [sb_sc, sb_sc, cN_sc hN, hh_sc, pz_sc hN, rs_c (g := cw v (v (k + 1))) fun j _ _ => cw_sc hN _ j]
/-- from a point within a side every other side is seen -/
theorem ep_vis (h : SP v n) {k : Nat} {q e : Pt} {a b : Int} (ha : 0 < a) (hb : 0 < b) (e1 : sb q (v k) = scv a e) (e2 : sb (v (k + 1)) q = scv b e) {j : Nat} (h1 : k + 1 ≤ j) (h2 : j < k + n) :
    (∃ m, 0 < cr m (sb (v j) q) ∧ 0 < cr m (sb (v (j + 1)) q) ∧ (k + 2 ≤ j → 0 < cr m (sb (v j) (v (k + 1))) ∧ 0 < cr m (sb (v (j + 1)) (v (k + 1))))) ∧ (j = k + 1 → ∃ m, 0 < cr m e ∧ 0 < cr m (sb (v (j + 1)) q) ∧ 0 < cr m (ed v (k + 1))) := by
  have h3 := h.1
  have tr : ∀ m, 0 < cr m (ed v k) → 0 < cr m e := by
    intro m hm
    unfold ed at hm
    rw [cr_sb m _ q _, e1, e2, cr_sc, cr_sc, ← Int.add_mul] at hm
    exact (pos_mul (by omega)).mp hm
  have A : j = k + 1 → ∃ m, 0 < cr m e ∧ 0 < cr m (sb (v (j + 1)) q) ∧ 0 < cr m (ed v (k + 1)) := by
    rintro rfl
    obtain ⟨m, a1, a2⟩ := h.2.2.2.2 k
    have a3 := tr m a1
    refine ⟨m, a3, ?_, a2⟩
    rw [cr_sb m _ (v (k + 1)) _, e2, cr_sc]
    have := Int.mul_pos hb a3
    unfold ed at a2
    omega
  refine ⟨?_, A⟩
  rcases Nat.lt_or_ge j (k + 2) with c1 | c1
  · obtain ⟨m, a1, a2, -⟩ := A (by omega)
    obtain rfl : j = k + 1 := by omega
    refine ⟨m, ?_, a2, fun z => by omega⟩
    rw [e2, cr_sc]
    exact Int.mul_pos hb a1
  · rcases Nat.lt_or_ge (j + 1) (k + n) with c2 | c2
    · obtain ⟨m, a1, a2, a3, a4⟩ := h.2.2.2.1 k j (by omega) (by omega)
      have key : ∀ z, 0 < cr m (sb z (v k)) → 0 < cr m (sb z (v (k + 1))) → 0 < cr m (sb z q) := by
        intro z z1 z2
        have y1 := cr_sb m z q (v k)
        have y2 := cr_sb m z (v (k + 1)) q
        rw [e1, cr_sc] at y1
        rw [e2, cr_sc] at y2
        have y3 := Int.mul_pos hb z1
        have y4 := Int.mul_pos ha z2
        rw [y1, Int.mul_add] at y3
        have y5 : a * cr m (sb z q) = a * cr m (sb z (v (k + 1))) + a * (b * cr m e) := by rw [y2, Int.mul_add]
        have y6 : b * (a * cr m e) = a * (b * cr m e) := by grind
        refine (pos_mul (a := a + b) (by omega)).mp ?_
        rw [Int.add_mul]
        omega
      exact ⟨m, key _ a1 a2, key _ a3 a4, fun _ => ⟨a2, a4⟩⟩
    · obtain ⟨r, rfl⟩ : ∃ r, n = r + 3 := ⟨n - 3, by omega⟩
      obtain rfl : j = k + r + 2 := by omega
      obtain ⟨m, a1, a2⟩ := h.2.2.2.2 (k + r + 2)
      have p1 : v (k + r + 2 + 1) = v k := h.per k
      have p2 : v (k + r + 2 + 1 + 1) = v (k + 1) := by rw [show k + r + 2 + 1 + 1 = k + 1 + (r + 3) by omega]; exact h.per (k + 1)
      unfold ed at a1 a2
      rw [p2, p1] at a2
      rw [p1] at a1
      rw [p1]
      have a3 := tr m a2
      have y1 := Int.mul_pos ha a3
      rw [← cr_sc, ← e1] at y1
      have y2 := cr_sb m q (v k) (v (k + r + 2))
      have y3 := cr_sb m (v (k + 1)) (v k) (v (k + r + 2))
      refine ⟨(-m.1, -m.2), ?_, ?_, fun _ => ⟨?_, ?_⟩⟩ <;> rw [cr_ng, cr_sw] <;> omega
theorem ep (h : SP v n) {k : Nat} {q e : Pt} {a b : Int} (ha : 0 < a) (hb : 0 < b) (e1 : sb q (v k) = scv a e) (e2 : sb (v (k + 1)) q = scv b e) (hq : ∀ j, hh (sb (v j) q) ≠ 0) : 2 * rs (cw v q) (k + 1) (n - 1) = cc v n 0 + 1 - 2 * pz (hh (ed v k)) := by
  have h3 := h.1
  obtain ⟨r, rfl⟩ : ∃ r, n = r + 3 := ⟨n - 3, by omega⟩
  have p1 : v (k + 2 + (r + 1)) = v k := by rw [show k + 2 + (r + 1) = k + (r + 3) by omega]; exact h.per k
  have e0 := strip (v := v) (p := q) (q := v (k + 1)) (a := k + 2) (m := r + 1) (fun j h1 h2 => by
    obtain ⟨m, a1, a2, a3⟩ := (ep_vis h ha hb e1 e2 (j := j) (by omega) (by omega)).1
    exact ⟨m, a1, (a3 h1).1, a2, (a3 h1).2⟩) (fun j _ _ => hq j) (fun j h1 h2 => h.gen (by omega) (by omega))
  rw [p1] at e0
  have he : hh (ed v k) = (a + b) * hh e := by
    have y1 := hh_sb q (v k)
    have y2 := hh_sb (v (k + 1)) q
    rw [e1, hh_sc] at y1
    rw [e2, hh_sc] at y2
    unfold ed
    rw [hh_sb, Int.add_mul]
    omega
  have hb' : hh (sb (v (k + 1)) q) = b * hh e := by rw [e2, hh_sc]
  have ha' : hh (sb (v k) q) = -(a * hh e) := by rw [hh_sw, e1, hh_sc]
  have ne : hh e ≠ 0 := by
    intro z
    have := h.ed0 k
    rw [he, z] at this
    simp at this
  have z0 : cP (sb (v k) q) (sb (v k) (v (k + 1))) = 0 := by
    refine cP_same ?_
    rw [ha', hh_sw, show hh (sb (v (k + 1)) (v k)) = (a + b) * hh e from he]
    rcases Int.lt_trichotomy (hh e) 0 with c | c | c
    · have := Int.mul_neg_of_pos_of_neg ha c
      have := Int.mul_neg_of_pos_of_neg (show 0 < a + b by omega) c
      left; omega
    · exact absurd c ne
    · have := Int.mul_pos ha c
      have := Int.mul_pos (show 0 < a + b by omega) c
      right; omega
  have t : cP (sb (v (k + 1)) q) (sb (v (k + 2)) q) + cP (sb (v (k + 2)) q) (sb (v (k + 2)) (v (k + 1))) = tp v k := by
    obtain ⟨m, a1, a2, a3⟩ := (ep_vis h ha hb e1 e2 (j := k + 1) (by omega) (by omega)).2 rfl
    have b1 : 0 < cr m (sb (v (k + 1)) q) := by rw [e2, cr_sc]; exact Int.mul_pos hb a1
    have b2 : 0 < cr m (ed v k) := by
      unfold ed
      rw [cr_sb m _ q _, e1, e2, cr_sc, cr_sc]
      exact Int.add_pos (Int.mul_pos hb a1) (Int.mul_pos ha a1)
    refine (tri ⟨m, b1, a2, a3⟩ (hq _) (hq _) (h.ed0 (k + 1))).trans ?_
    unfold tp
    rw [half b2 a3 (h.ed0 k) (h.ed0 (k + 1)), half b1 a3 (hq _) (h.ed0 (k + 1)), hb', he, pz_sc hb, pz_sc (show 0 < a + b by omega)]
  have c0 := cc_0 h k
  have tt := tp_tm h k
  unfold cc Mv at c0
  show 2 * rs (cw v q) (k + 1) (r + 2) = _
  rw [rs_f]
  show 2 * (cP (sb (v (k + 1)) q) (sb (v (k + 2)) q) + rs (cw v q) (k + 2) (r + 1)) = _
  replace c0 : 2 * rs (cw v (v (k + 1))) (k + 2) (r + 1) + 2 * tm v k + 2 * pz (hh (ed v (k + 1))) - 1 = cc v (r + 3) 0 := c0
  omega
/-- what a point is asked: its level is no corner's -/
def Lev (v : Nat → Pt) (p : Pt) : Prop := ∀ j, hh (sb (v j) p) ≠ 0
def crs (v : Nat → Pt) (p : Pt) (k : Nat) : Int := cr (sb (v k) p) (sb (v (k + 1)) p)
abbrev opp (a b : Int) : Prop := (a < 0 ∧ 0 < b) ∨ (b < 0 ∧ 0 < a)
/-- the place where a side meets the level of a point, in a field N times as large -/
theorem foot {p a b : Pt} {s : Int} {q : Pt} (hq : q = (s * hh (sb b a) * p.1 + s * cr (sb a p) (sb b p) * 100, s * hh (sb b a) * p.2 + s * cr (sb a p) (sb b p))) :
    sb q (scv (s * hh (sb b a)) a) = scv (s * hh (sb p a)) (sb b a) ∧ sb (scv (s * hh (sb b a)) b) q = scv (s * hh (sb b p)) (sb b a) ∧ ∀ z, hh (sb (scv (s * hh (sb b a)) z) q) = s * hh (sb b a) * hh (sb z p) := by
  subst hq
  unfold sb scv hh cr
  refine ⟨?_, ?_, fun z => ?_⟩
  · ext <;> simp <;> grind
  · ext <;> simp <;> grind
  · simp; grind
theorem cr_q (p a b : Pt) (N c : Int) : cr (sb (scv N a) (N * p.1 + c * 100, N * p.2 + c)) (sb (scv N b) (N * p.1 + c * 100, N * p.2 + c)) = N * (N * cr (sb a p) (sb b p) - c * (hh (sb b p) - hh (sb a p))) := by
  unfold cr sb scv hh
  grind
/-- the foot of a side that meets the level of a point -/
theorem hit (h : SP v n) {p : Pt} (hl : Lev v p) {k : Nat} (ho : opp (hh (sb (v k) p)) (hh (sb (v (k + 1)) p))) : ∃ s N c : Int, (s = 1 ∨ s = -1) ∧ N = s * hh (ed v k) ∧ 0 < N ∧ c = s * crs v p k ∧ (2 * rs (fun j => cI (hh (sb (v j) p)) (hh (sb (v (j + 1)) p)) (N * crs v p j - c * (hh (sb (v (j + 1)) p) - hh (sb (v j) p)))) (k + 1) (n - 1) = cc v n 0 + 1 - 2 * pz (hh (ed v k))) ∧
    ∀ j, k + 1 ≤ j → j < k + n → ∃ m, 0 < cr m (sb (scv N (v j)) (N * p.1 + c * 100, N * p.2 + c)) ∧ 0 < cr m (sb (scv N (v (j + 1))) (N * p.1 + c * 100, N * p.2 + c)) := by
  obtain ⟨s, hs, ha, hb⟩ : ∃ s : Int, (s = 1 ∨ s = -1) ∧ 0 < s * hh (sb p (v k)) ∧ 0 < s * hh (sb (v (k + 1)) p) := by
    rcases ho with ⟨o1, o2⟩ | ⟨o1, o2⟩
    · exact ⟨1, .inl rfl, by rw [hh_sw]; omega, by omega⟩
    · exact ⟨-1, .inr rfl, by rw [hh_sw]; omega, by omega⟩
  have hN : 0 < s * hh (ed v k) := by
    unfold ed
    rw [show hh (sb (v (k + 1)) (v k)) = hh (sb (v (k + 1)) p) + hh (sb p (v k)) by rw [hh_sb, hh_sb, hh_sb]; omega, Int.mul_add]
    omega
  refine ⟨s, s * hh (ed v k), s * crs v p k, hs, rfl, hN, rfl, ?_⟩
  obtain ⟨f1, f2, f3⟩ := foot (p := p) (a := v k) (b := v (k + 1)) (s := s) rfl
  have h' := h.sc hN
  have hq : ∀ j, hh (sb (scv (s * hh (ed v k)) (v j)) (s * hh (ed v k) * p.1 + s * crs v p k * 100, s * hh (ed v k) * p.2 + s * crs v p k)) ≠ 0 := by
    intro j
    have z := f3 (v j)
    intro z2
    rw [show hh (sb (scv (s * hh (ed v k)) (v j)) (s * hh (ed v k) * p.1 + s * crs v p k * 100, s * hh (ed v k) * p.2 + s * crs v p k)) = _ from z] at z2
    rcases Int.mul_eq_zero.mp z2 with e | e
    · have : 0 < s * hh (sb (v (k + 1)) (v k)) := hN
      omega
    · exact hl j e
  constructor
  · have e := ep h' ha hb f1 f2 hq
    rw [cc_sc hN] at e
    have e2 : pz (hh (ed (fun j => scv (s * hh (ed v k)) (v j)) k)) = pz (hh (ed v k)) := by
      show pz (hh (sb (scv (s * hh (ed v k)) (v (k + 1))) (scv (s * hh (ed v k)) (v k)))) = _
      rw [sb_sc, hh_sc, pz_sc hN]
      rfl
    rw [e2] at e
    rw [← e]
    congr 1
    refine rs_c fun j _ _ => ?_
    show _ = cI (hh (sb (scv (s * hh (sb (v (k + 1)) (v k))) (v j)) _)) (hh (sb (scv (s * hh (sb (v (k + 1)) (v k))) (v (j + 1))) _)) (cr (sb (scv (s * hh (sb (v (k + 1)) (v k))) (v j)) _) (sb (scv (s * hh (sb (v (k + 1)) (v k))) (v (j + 1))) _))
    have hN' : 0 < s * hh (sb (v (k + 1)) (v k)) := hN
    rw [f3, f3, cr_q, cI_sc hN' hN']
    rfl
  · intro j h1 h2
    obtain ⟨m, a1, a2, -⟩ := (ep_vis h' ha hb f1 f2 h1 h2).1
    exact ⟨m, a1, a2⟩
theorem on_side (h : SP v n) {p : Pt} (hl : Lev v p) {k : Nat} (ho : opp (hh (sb (v k) p)) (hh (sb (v (k + 1)) p))) (h0 : crs v p k = 0) :
    2 * rs (cw v p) (k + 1) (n - 1) = cc v n 0 + 1 - 2 * pz (hh (ed v k)) ∧ ∀ j, k + 1 ≤ j → j < k + n → ∃ m, 0 < cr m (sb (v j) p) ∧ 0 < cr m (sb (v (j + 1)) p) := by
  obtain ⟨s, N, c, hs, hN, hN0, hc, e1, e2⟩ := hit h hl ho
  rw [h0, Int.mul_zero] at hc
  subst hc
  constructor
  · rw [← e1]
    congr 1
    refine rs_c fun j _ _ => ?_
    have := cI_sc (N := 1) (M := N) (a := hh (sb (v j) p)) (b := hh (sb (v (j + 1)) p)) (c := crs v p j) (by decide) hN0
    rw [Int.one_mul, Int.one_mul] at this
    rw [Int.zero_mul, Int.sub_zero, this]
    rfl
  · intro j h1 h2
    obtain ⟨m, a1, a2⟩ := e2 j h1 h2
    have x : ∀ z, sb (scv N z) (N * p.1 + 0 * 100, N * p.2 + 0) = scv N (sb z p) := by
      intro z
      unfold sb scv
      ext <;> simp <;> grind
    rw [x, cr_sc] at a1 a2
    exact ⟨m, (pos_mul hN0).mp a1, (pos_mul hN0).mp a2⟩
/-- a side to the right of a point, on its level -/
def Rt (v : Nat → Pt) (p : Pt) (j : Nat) : Prop := (hh (sb (v j) p) < 0 ∧ 0 < hh (sb (v (j + 1)) p) ∧ 0 < crs v p j) ∨ (hh (sb (v (j + 1)) p) < 0 ∧ 0 < hh (sb (v j) p) ∧ crs v p j < 0)
theorem first_hit (h : SP v n) {p : Pt} (hl : Lev v p) {k : Nat} (hk : Rt v p k) (hm : ∀ j, k + 1 ≤ j → j < k + n → Rt v p j → ((crs v p k).natAbs : Int) * (hh (ed v j)).natAbs ≤ (crs v p j).natAbs * (hh (ed v k)).natAbs) :
    2 * rs (cw v p) (k + 1) (n - 1) = cc v n 0 + 1 - 2 * pz (hh (ed v k)) := by
  obtain ⟨s, N, c, hs, hN, hN0, hc, e1, e2⟩ := hit h hl (k := k) (by rcases hk with ⟨a, b, -⟩ | ⟨a, b, -⟩; exact .inl ⟨a, b⟩; exact .inr ⟨a, b⟩)
  rw [← e1]
  congr 1
  refine rs_c fun j h1 h2 => ?_
  have ed_j : ∀ j, hh (ed v j) = hh (sb (v (j + 1)) p) - hh (sb (v j) p) := fun j => by unfold ed; rw [hh_sb, hh_sb, hh_sb]; omega
  have nz := hl j
  have nz1 := hl (j + 1)
  have cpos : 0 < c ∧ c = (crs v p k).natAbs ∧ N = (hh (ed v k)).natAbs := by
    have := ed_j k
    rcases hs with rfl | rfl <;> rcases hk with ⟨a, b, d⟩ | ⟨a, b, d⟩ <;> omega
  have hmj := hm j h1 (by have := h.1; omega)
  rw [← cpos.2.1, ← cpos.2.2] at hmj
  have vis : opp (hh (sb (v j) p)) (hh (sb (v (j + 1)) p)) → N * crs v p j - c * (hh (sb (v (j + 1)) p) - hh (sb (v j) p)) ≠ 0 := by
    intro o z
    obtain ⟨m, a1, a2⟩ := e2 j h1 (by have := h.1; omega)
    have x : ∀ z, hh (sb (scv N z) (N * p.1 + c * 100, N * p.2 + c)) = N * hh (sb z p) := by
      intro z
      unfold hh sb scv
      simp
      grind
    have y := cr_q p (v j) (v (j + 1)) N c
    rw [show cr (sb (v j) p) (sb (v (j + 1)) p) = crs v p j from rfl, z, Int.mul_zero] at y
    rcases o with ⟨o1, o2⟩ | ⟨o1, o2⟩
    · have := vis_up a1 a2 (by rw [x]; exact Int.mul_neg_of_pos_of_neg hN0 o1) (by rw [x]; exact Int.mul_pos hN0 o2)
      rw [y, Int.mul_zero] at this
      omega
    · have := vis_dn a1 a2 (by rw [x]; exact Int.mul_pos hN0 o2) (by rw [x]; exact Int.mul_neg_of_pos_of_neg hN0 o1)
      rw [y, Int.mul_zero] at this
      omega
  have ej := ed_j j
  rw [← ej] at vis ⊢
  show cI _ _ (crs v p j) = _
  unfold Rt at hmj
  unfold opp at vis
  revert vis hmj
  generalize hh (sb (v j) p) = U at *
  generalize hh (sb (v (j + 1)) p) = V at *
  generalize crs v p j = C at *
  intro hmj vis
  unfold cI
  rcases Int.lt_trichotomy U 0 with u | u | u
  · rcases Int.lt_trichotomy V 0 with w | w | w
    · repeat' split
      all_goals omega
    · exact absurd w nz1
    · have np := Int.mul_pos cpos.1 (show 0 < hh (ed v j) by omega)
      have vis' := vis (.inl ⟨u, w⟩)
      rcases Int.lt_trichotomy C 0 with d | d | d
      · have := Int.mul_neg_of_pos_of_neg hN0 d
        repeat' split
        all_goals omega
      · subst d
        rw [Int.mul_zero] at *
        repeat' split
        all_goals omega
      · have h9 := hmj (.inl ⟨u, w, d⟩)
        rw [show ((hh (ed v j)).natAbs : Int) = hh (ed v j) by omega, show (C.natAbs : Int) = C by omega, Int.mul_comm C N] at h9
        repeat' split
        all_goals omega
  · exact absurd u nz
  · rcases Int.lt_trichotomy V 0 with w | w | w
    · have np := Int.mul_neg_of_pos_of_neg cpos.1 (show hh (ed v j) < 0 by omega)
      have vis' := vis (.inr ⟨w, u⟩)
      rcases Int.lt_trichotomy C 0 with d | d | d
      · have h9 := hmj (.inr ⟨w, u, d⟩)
        rw [show ((hh (ed v j)).natAbs : Int) = -hh (ed v j) by omega, show (C.natAbs : Int) = -C by omega, Int.neg_mul, Int.mul_comm C N, Int.mul_neg] at h9
        repeat' split
        all_goals omega
      · subst d
        rw [Int.mul_zero] at *
        repeat' split
        all_goals omega
      · have := Int.mul_pos hN0 d
        repeat' split
        all_goals omega
    · exact absurd w nz1
    · repeat' split
      all_goals omega
/-- the smallest of finitely many fractions -/
theorem frac_min (P : Nat → Prop) (A B : Nat → Int) (hB : ∀ j, P j → 0 < B j) (n : Nat) : (∀ j, j < n → ¬ P j) ∨ ∃ k, k < n ∧ P k ∧ ∀ j, j < n → P j → A k * B j ≤ A j * B k := by
  induction n with
  | zero => exact .inl fun j hj => absurd hj (by omega)
  | succ n ih =>
    by_cases pn : P n
    · right
      rcases ih with ih | ⟨k, hk, pk, mk⟩
      · refine ⟨n, by omega, pn, fun j hj pj => ?_⟩
        rcases Nat.lt_or_ge j n with c | c
        · exact absurd pj (ih j c)
        · obtain rfl : j = n := by omega
          exact Int.le_refl _
      · rcases Int.le_total (A k * B n) (A n * B k) with c | c
        · refine ⟨k, by omega, pk, fun j hj pj => ?_⟩
          rcases Nat.lt_or_ge j n with c' | c'
          · exact mk j c' pj
          · obtain rfl : j = n := by omega
            exact c
        · refine ⟨n, by omega, pn, fun j hj pj => ?_⟩
          rcases Nat.lt_or_ge j n with c' | c'
          · have e1 := mk j c' pj
            have bk := hB k pk
            have e2 := Int.mul_le_mul_of_nonneg_right c (show 0 ≤ B j by have := hB j pj; omega)
            have e3 := Int.mul_le_mul_of_nonneg_right e1 (show 0 ≤ B n by have := hB n pn; omega)
            refine Int.le_of_mul_le_mul_right ?_ bk
            calc A n * B j * B k = A n * B k * B j := by grind
              _ ≤ A k * B n * B j := e2
              _ = A k * B j * B n := by grind
              _ ≤ A j * B k * B n := e3
              _ = A j * B n * B k := by grind
          · obtain rfl : j = n := by omega
            exact Int.le_refl _
    · rcases ih with ih | ⟨k, hk, pk, mk⟩
      · left
        intro j hj
        rcases Nat.lt_or_ge j n with c | c
        · exact ih j c
        · obtain rfl : j = n := by omega
          exact pn
      · right
        refine ⟨k, by omega, pk, fun j hj pj => ?_⟩
        rcases Nat.lt_or_ge j n with c | c
        · exact mk j c pj
        · obtain rfl : j = n := by omega
          exact absurd pj pn
theorem cw_per (h : SP v n) (p : Pt) (j : Nat) : cw v p (j + n) = cw v p j := by
  unfold cw
  rw [show j + n + 1 = j + 1 + n by omega, h.per, h.per]
theorem cz_per (h : SP v n) (p : Pt) (j : Nat) : cz v p (j + n) = cz v p j := by
  unfold cz
  rw [show j + n + 1 = j + 1 + n by omega, h.per, h.per]
theorem Rt_per (h : SP v n) (p : Pt) (j : Nat) : (Rt v p (j + n) ↔ Rt v p j) ∧ crs v p (j + n) = crs v p j ∧ ed v (j + n) = ed v j := by
  unfold Rt crs ed
  rw [show j + n + 1 = j + 1 + n by omega, h.per, h.per]
  exact ⟨Iff.rfl, rfl, rfl⟩
/-- a point off the way is outside, or inside -/
theorem off_way (h : SP v n) {p : Pt} (hl : Lev v p) : rs (cw v p) 0 n = 0 ∨ 2 * rs (cw v p) 0 n = cc v n 0 - 1 ∨ 2 * rs (cw v p) 0 n = cc v n 0 + 1 := by
  rcases frac_min (Rt v p) (fun j => (crs v p j).natAbs) (fun j => (hh (ed v j)).natAbs) (fun j _ => by have := h.ed0 j; show (0 : Int) < (hh (ed v j)).natAbs; omega) n with c | ⟨k, hk, pk, mk⟩
  · left
    refine rs_z fun j _ hj => ?_
    have nr := c j (by omega)
    unfold Rt crs at nr
    unfold cw cP cI
    rw [if_neg fun z => nr (.inl z), if_neg fun z => nr (.inr z)]
  · right
    have e := first_hit h hl pk (fun j h1 h2 pj => by
      rcases Nat.lt_or_ge j n with c | c
      · exact mk j c pj
      · obtain ⟨i, rfl⟩ : ∃ i, j = i + n := ⟨j - n, by omega⟩
        obtain ⟨x1, x2, x3⟩ := Rt_per h p i
        rw [x2, x3]
        exact mk i (by omega) (x1.mp pj))
    have h3 := h.1
    have e2 : rs (cw v p) 0 n = cw v p k + rs (cw v p) (k + 1) (n - 1) := by
      rw [← rs_cyc (cw_per h p) k, ← rs_f, show n - 1 + 1 = n by omega]
    have e3 : cw v p k = 2 * pz (hh (ed v k)) - 1 := by
      have : hh (ed v k) = hh (sb (v (k + 1)) p) - hh (sb (v k) p) := by unfold ed; rw [hh_sb, hh_sb, hh_sb]; omega
      unfold Rt crs at pk
      unfold cw cP cI pz
      rcases pk with z | z
      · rw [if_pos z, if_pos (by omega)]; rfl
      · rw [if_neg (by omega), if_pos z, if_neg (by omega)]; rfl
    have e4 : pz (hh (ed v k)) = 0 ∨ pz (hh (ed v k)) = 1 := by unfold pz; split <;> omega
    omega
end WAY2

