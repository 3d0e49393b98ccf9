/-! ===== lines that don't meet are apart ===== -/
theorem sb_fs {a b : Pt} {g : Int} {e : Pt} (h : sb b a = scv g e) : b.1 = a.1 + g * e.1 ∧ b.2 = a.2 + g * e.2 := by
  have z1 := congrArg Prod.fst h
  have z2 := congrArg Prod.snd h
  unfold sb scv at z1 z2
  simp only at z1 z2
  omega
theorem on_mid {a c d e : Pt} {i j : Int} (h1 : sb c a = scv i e) (h2 : sb d a = scv j e) (hi : i ≤ 0) (hj : 0 ≤ j) : onB c d a = true := by
  obtain ⟨c1, c2⟩ := sb_fs h1
  obtain ⟨d1, d2⟩ := sb_fs h2
  rw [onB_iff]
  have bd : ∀ u : Int, (0 ≤ u → i * u ≤ 0 ∧ 0 ≤ j * u) ∧ (u ≤ 0 → 0 ≤ i * u ∧ j * u ≤ 0) := fun u => ⟨fun hu => ⟨Int.mul_nonpos_of_nonpos_of_nonneg hi hu, Int.mul_nonneg hj hu⟩, fun hu => ⟨Int.mul_nonneg_of_nonpos_of_nonpos hi hu, Int.mul_nonpos_of_nonneg_of_nonpos hj hu⟩⟩
  have b1 := bd e.1
  have b2 := bd e.2
  refine ⟨?_, ?_, ?_⟩
  · unfold tnP tnZ
    rw [c1, c2, d1, d2]
    grind
  · rcases Int.le_total 0 e.1 with z | z
    · have := b1.1 z; omega
    · have := b1.2 z; omega
  · rcases Int.le_total 0 e.2 with z | z
    · have := b2.1 z; omega
    · have := b2.2 z; omega
theorem tn_steps {a b c d e : Pt} {g i : Int} (h1 : sb b a = scv g e) (h2 : sb c a = scv i e) : tnP c d a = -(i * cr (sb d c) e) ∧ tnP c d b = (g - i) * cr (sb d c) e ∧ tnP a b d = g * cr e (sb d c) := by
  obtain ⟨b1, b2⟩ := sb_fs h1
  obtain ⟨c1, c2⟩ := sb_fs h2
  unfold tnP tnZ cr sb
  simp only
  rw [b1, b2, c1, c2]
  refine ⟨by grind, by grind, by grind⟩
theorem line_of {a b c : Pt} (hne : a ≠ b) (t : tnP a b c = 0) : ∃ (e : Pt) (x y : Int) (g i : Int), sb b a = scv g e ∧ e.1 * x + e.2 * y = 1 ∧ 0 < g ∧ sb c a = scv i e := by
  obtain ⟨e, x, y, h1, h2, hg⟩ := step_ex hne
  refine ⟨e, x, y, _, _, h1, h2, hg, line_step h2 ?_⟩
  obtain ⟨b1, b2⟩ := sb_fs h1
  generalize (Int.gcd (b.1 - a.1) (b.2 - a.2) : Int) = g at *
  have : g * (e.1 * (sb c a).2) = g * (e.2 * (sb c a).1) := by
    unfold tnP tnZ at t
    unfold sb
    simp only
    rw [b1, b2] at t
    grind
  exact Int.eq_of_mul_eq_mul_left (by omega) this
theorem on_zero {a b c d : Pt} (hne : a ≠ b) (t : tnP a b c = 0) (hn : ¬ (tnP a b d = 0 ∧ tnP c d a = 0 ∧ tnP c d b = 0)) (hs : ¬ ((0 < tnP c d a ∧ 0 < tnP c d b) ∨ (tnP c d a < 0 ∧ tnP c d b < 0))) : onB a b c = true := by
  obtain ⟨e, x, y, g, i, h1, h2, hg, h3⟩ := line_of hne t
  obtain ⟨t1, t2, t3⟩ := tn_steps (d := d) h1 h3
  have t4 : cr e (sb d c) = -cr (sb d c) e := by unfold cr; grind
  rw [t4] at t3
  rw [t1, t2] at hs
  rw [t1, t2, t3] at hn
  generalize cr (sb d c) e = K at *
  refine (on_step h1 h2 hg).mpr ⟨i, ?_, ?_, h3⟩
  · rcases Int.lt_or_le i 0 with c | c
    · exfalso
      rcases Int.lt_trichotomy K 0 with z | z | z
      · have := Int.mul_pos_of_neg_of_neg c z
        have := Int.mul_neg_of_pos_of_neg (show 0 < g - i by omega) z
        omega
      · subst z; simp at hn
      · have := Int.mul_neg_of_neg_of_pos c z
        have := Int.mul_pos (show 0 < g - i by omega) z
        omega
    · exact c
  · rcases Int.lt_or_le g i with c | c
    · exfalso
      rcases Int.lt_trichotomy K 0 with z | z | z
      · have := Int.mul_neg_of_pos_of_neg (show 0 < i by omega) z
        have := Int.mul_pos_of_neg_of_neg (show g - i < 0 by omega) z
        omega
      · subst z; simp at hn
      · have := Int.mul_pos (show 0 < i by omega) z
        have := Int.mul_neg_of_neg_of_pos (show g - i < 0 by omega) z
        omega
    · exact c
theorem onB_sw (a b p : Pt) : onB a b p = onB b a p := by
  rw [Bool.eq_iff_iff, onB_iff, onB_iff]
  have : tnP b a p = -tnP a b p := by unfold tnP tnZ; grind
  rw [this]
  omega
theorem sq_pos {e : Pt} {x y : Int} (h : e.1 * x + e.2 * y = 1) : 0 < cr (e.2, -e.1) e := by
  have e1 : cr (e.2, -e.1) e = e.1 * e.1 + e.2 * e.2 := by unfold cr; simp; grind
  rw [e1]
  have p : ∀ u : Int, 0 ≤ u * u ∧ (u ≠ 0 → 0 < u * u) := fun u => by
    rcases Int.lt_trichotomy u 0 with z | z | z
    · have := Int.mul_pos_of_neg_of_neg z z; omega
    · subst z; simp
    · have := Int.mul_pos z z; omega
  have p1 := p e.1
  have p2 := p e.2
  by_cases z : e.1 = 0
  · by_cases z2 : e.2 = 0
    · rw [z, z2] at h; simp at h
    · have := p2.2 z2; omega
  · have := p1.2 z; omega
theorem apart_of {a b c d : Pt} (n1 : a ≠ b) (n2 : c ≠ d) (hc : crB a b c d = false) (o1 : onB a b c = false) (o2 : onB a b d = false) (o3 : onB c d a = false) (o4 : onB c d b = false) : ApS a b c d := by
  have q1 : ∀ z, cr (sb b a) (sb z a) = tnP a b z ∧ cr (sb b a) (sb z b) = tnP a b z := fun z => by unfold cr sb tnP tnZ; constructor <;> simp <;> grind
  have q2 : ∀ z, cr (sb d c) (sb c z) = -tnP c d z ∧ cr (sb d c) (sb d z) = -tnP c d z := fun z => by unfold cr sb tnP tnZ; constructor <;> simp <;> grind
  by_cases s1 : 0 < tnP a b c ∧ 0 < tnP a b d
  · exact ⟨sb b a, by rw [(q1 c).1]; exact s1.1, by rw [(q1 c).2]; exact s1.1, by rw [(q1 d).1]; exact s1.2, by rw [(q1 d).2]; exact s1.2⟩
  by_cases s2 : tnP a b c < 0 ∧ tnP a b d < 0
  · refine ⟨(-(sb b a).1, -(sb b a).2), ?_, ?_, ?_, ?_⟩ <;> rw [cr_ng]
    · rw [(q1 c).1]; omega
    · rw [(q1 c).2]; omega
    · rw [(q1 d).1]; omega
    · rw [(q1 d).2]; omega
  by_cases s3 : 0 < tnP c d a ∧ 0 < tnP c d b
  · refine ⟨(-(sb d c).1, -(sb d c).2), ?_, ?_, ?_, ?_⟩ <;> rw [cr_ng]
    · rw [(q2 a).1]; omega
    · rw [(q2 b).1]; omega
    · rw [(q2 a).2]; omega
    · rw [(q2 b).2]; omega
  by_cases s4 : tnP c d a < 0 ∧ tnP c d b < 0
  · exact ⟨sb d c, by rw [(q2 a).1]; omega, by rw [(q2 b).1]; omega, by rw [(q2 a).2]; omega, by rw [(q2 b).2]; omega⟩
  by_cases az : tnP a b c = 0 ∧ tnP a b d = 0
  · obtain ⟨e, x, y, g, i, h1, h2, hg, h3⟩ := line_of n1 az.1
    have h4 : ∃ j, sb d a = scv j e := by
      refine ⟨_, line_step h2 ?_⟩
      obtain ⟨b1, b2⟩ := sb_fs h1
      have : g * (e.1 * (sb d a).2) = g * (e.2 * (sb d a).1) := by
        have t := az.2
        unfold tnP tnZ at t
        unfold sb
        simp only
        rw [b1, b2] at t
        grind
      exact Int.eq_of_mul_eq_mul_left (by omega) this
    obtain ⟨j, h4⟩ := h4
    have K := sq_pos h2
    have hi : i < 0 ∨ g < i := by
      rcases Int.lt_or_le i 0 with z | z
      · exact .inl z
      · rcases Int.lt_or_le g i with z2 | z2
        · exact .inr z2
        · rw [(on_step h1 h2 hg).mpr ⟨i, z, z2, h3⟩] at o1; cases o1
    have hj : j < 0 ∨ g < j := by
      rcases Int.lt_or_le j 0 with z | z
      · exact .inl z
      · rcases Int.lt_or_le g j with z2 | z2
        · exact .inr z2
        · rw [(on_step h1 h2 hg).mpr ⟨j, z, z2, h4⟩] at o2; cases o2
    have f1 : sb c b = scv (i - g) e := by
      obtain ⟨b1, b2⟩ := sb_fs h1
      obtain ⟨c1, c2⟩ := sb_fs h3
      unfold sb scv
      exact Prod.ext (by simp only; rw [Int.sub_mul]; omega) (by simp only; rw [Int.sub_mul]; omega)
    have f2 : sb d b = scv (j - g) e := by
      obtain ⟨b1, b2⟩ := sb_fs h1
      obtain ⟨c1, c2⟩ := sb_fs h4
      unfold sb scv
      exact Prod.ext (by simp only; rw [Int.sub_mul]; omega) (by simp only; rw [Int.sub_mul]; omega)
    rcases hi with hi | hi <;> rcases hj with hj | hj
    · refine ⟨(-(e.2, -e.1).1, -(e.2, -e.1).2), ?_, ?_, ?_, ?_⟩ <;> rw [cr_ng]
      · rw [h3, cr_sc]; have := Int.mul_neg_of_neg_of_pos hi K; omega
      · rw [f1, cr_sc]; have := Int.mul_neg_of_neg_of_pos (show i - g < 0 by omega) K; omega
      · rw [h4, cr_sc]; have := Int.mul_neg_of_neg_of_pos hj K; omega
      · rw [f2, cr_sc]; have := Int.mul_neg_of_neg_of_pos (show j - g < 0 by omega) K; omega
    · rw [on_mid h3 h4 (by omega) (by omega)] at o3; cases o3
    · rw [onB_sw, on_mid h4 h3 (by omega) (by omega)] at o3; cases o3
    · refine ⟨(e.2, -e.1), ?_, ?_, ?_, ?_⟩
      · rw [h3, cr_sc]; exact Int.mul_pos (by omega) K
      · rw [f1, cr_sc]; exact Int.mul_pos (by omega) K
      · rw [h4, cr_sc]; exact Int.mul_pos (by omega) K
      · rw [f2, cr_sc]; exact Int.mul_pos (by omega) K
  · exfalso
    have sw : ∀ p q r : Pt, tnP q p r = -tnP p q r := fun p q r => by unfold tnP tnZ; grind
    have tz : (tnP c d a = 0 ∧ tnP c d b = 0) → tnP a b c = 0 ∧ tnP a b d = 0 := by
      rintro ⟨u1, u2⟩
      obtain ⟨e, x, y, g, i, h1, h2, hg, h3⟩ := line_of n2 u1
      obtain ⟨t1, t2, t3⟩ := tn_steps (d := b) h1 h3
      rw [u2] at t3
      have t4 : cr e (sb b a) = -cr (sb b a) e := by unfold cr; grind
      have : cr (sb b a) e = 0 := by
        rcases Int.mul_eq_zero.mp t3.symm with z | z <;> omega
      rw [this] at t1 t2
      simp at t1 t2
      exact ⟨t1, t2⟩
    by_cases z1 : tnP a b c = 0
    · have := on_zero (d := d) n1 z1 (fun q => az ⟨z1, q.1⟩) (by omega)
      rw [this] at o1; cases o1
    by_cases z2 : tnP a b d = 0
    · have := on_zero (d := c) n1 z2 (fun q => z1 q.1) (by rw [sw c d a, sw c d b]; omega)
      rw [this] at o2; cases o2
    by_cases z3 : tnP c d a = 0
    · have := on_zero (d := b) n2 z3 (fun q => az (tz ⟨z3, q.1⟩)) (by omega)
      rw [this] at o3; cases o3
    by_cases z4 : tnP c d b = 0
    · have := on_zero (d := a) n2 z4 (fun q => z3 q.1) (by rw [sw a b c, sw a b d]; omega)
      rw [this] at o4; cases o4
    unfold crB apB at hc
    rw [Bool.and_eq_false_iff, decide_eq_false_iff_not, decide_eq_false_iff_not] at hc
    omega
theorem wiB_f {a b p : Pt} (h : wiB a b p = false) (h1 : p ≠ a) (h2 : p ≠ b) : onB a b p = false := by
  unfold wiB at h
  rw [decide_eq_true h1, decide_eq_true h2] at h
  simpa using h
theorem meB_f {a b c d : Pt} (h : meB a b c d = false) : crB a b c d = false ∧ wiB a b c = false ∧ wiB a b d = false ∧ wiB c d a = false ∧ wiB c d b = false := by
  unfold meB at h
  simp only [Bool.or_eq_false_iff] at h
  exact ⟨h.1.1, h.1.2.1, h.1.2.2.1, h.1.2.2.2.1, h.1.2.2.2.2⟩
theorem apart_me {a b c d : Pt} (h : meB a b c d = false) (n1 : a ≠ b) (n2 : c ≠ d) (n3 : c ≠ a) (n4 : c ≠ b) (n5 : d ≠ a) (n6 : d ≠ b) : ApS a b c d := by
  obtain ⟨h1, h2, h3, h4, h5⟩ := meB_f h
  exact apart_of n1 n2 h1 (wiB_f h2 n3 n4) (wiB_f h3 n5 n6) (wiB_f h4 (Ne.symm n3) (Ne.symm n5)) (wiB_f h5 (Ne.symm n4) (Ne.symm n6))
theorem turn_me {a b c : Pt} (h : meB a b b c = false) (n1 : a ≠ b) (n2 : b ≠ c) (n3 : a ≠ c) : Tr (sb b a) (sb c b) := by
  obtain ⟨h1, -, h3, h4, -⟩ := meB_f h
  by_cases z : tnP a b c = 0
  · obtain ⟨e, x, y, g, i, k1, k2, hg, k3⟩ := line_of n1 z
    have K := sq_pos k2
    have f : sb c b = scv (i - g) e := by
      obtain ⟨b1, b2⟩ := sb_fs k1
      obtain ⟨c1, c2⟩ := sb_fs k3
      unfold sb scv
      exact Prod.ext (by simp only; rw [Int.sub_mul]; omega) (by simp only; rw [Int.sub_mul]; omega)
    have gi : g < i := by
      rcases Int.lt_or_le g i with z | z
      · exact z
      · exfalso
        rcases Int.lt_or_le i 0 with z0 | z0
        · have o := wiB_f h4 n1 n3
          rw [onB_sw, on_mid k3 k1 (by omega) (by omega)] at o
          cases o
        · have o := wiB_f h3 (Ne.symm n3) (Ne.symm n2)
          rw [(on_step k1 k2 hg).mpr ⟨i, z0, z, k3⟩] at o
          cases o
    exact ⟨(e.2, -e.1), by rw [k1, cr_sc]; exact Int.mul_pos hg K, by rw [f, cr_sc]; exact Int.mul_pos (by omega) K⟩
  · have e1 : cr (sb b a) (sb c b) = tnP a b c := by unfold cr sb tnP tnZ; simp; grind
    have e2 : ∀ u w : Pt, cr (sb u w) u = cr u w ∧ cr (sb u w) w = cr u w := fun u w => by unfold cr sb; constructor <;> simp <;> grind
    have := e2 (sb b a) (sb c b)
    rw [e1] at this
    rcases Int.lt_or_le 0 (tnP a b c) with c' | c'
    · exact ⟨sb (sb b a) (sb c b), by omega, by omega⟩
    · exact ⟨(-(sb (sb b a) (sb c b)).1, -(sb (sb b a) (sb c b)).2), by rw [cr_ng]; omega, by rw [cr_ng]; omega⟩
/-- a closed polygon whose sides don't meet -/
def plS (l : List Pt) : Prop := 3 ≤ l.length ∧ (∀ i j, i < j → j < l.length → ptk l i ≠ ptk l j) ∧ ∀ i j, i < j → j < l.length → meB (ptk l i) (ptk l (nx l.length i)) (ptk l j) (ptk l (nx l.length j)) = false
theorem meB_sw (a b c d : Pt) : meB a b c d = meB c d a b := by
  unfold meB crB
  have e : decide ((a = c ∧ b = d) ∨ (a = d ∧ b = c)) = decide ((c = a ∧ d = b) ∨ (c = b ∧ d = a)) := by
    rw [decide_eq_decide]
    constructor
    · rintro (⟨h1, h2⟩ | ⟨h1, h2⟩)
      · exact .inl ⟨h1.symm, h2.symm⟩
      · exact .inr ⟨h2.symm, h1.symm⟩
    · rintro (⟨h1, h2⟩ | ⟨h1, h2⟩)
      · exact .inl ⟨h1.symm, h2.symm⟩
      · exact .inr ⟨h2.symm, h1.symm⟩
  rw [e, Bool.and_comm]
  generalize (apB (tnP c d a) (tnP c d b) && apB (tnP a b c) (tnP a b d)) = A
  generalize wiB a b c = B
  generalize wiB a b d = C
  generalize wiB c d a = D
  generalize wiB c d b = E
  cases A <;> cases B <;> cases C <;> cases D <;> cases E <;> rfl
theorem mod_ne {i j n : Nat} (h1 : i < j) (h2 : j < i + n) : i % n ≠ j % n := by
  intro e
  have h3 := Nat.div_add_mod i n
  have h4 := Nat.div_add_mod j n
  rw [e] at h3
  have h5 : n * (j / n) - n * (i / n) = j - i := by omega
  rw [← Nat.mul_sub] at h5
  rcases Nat.eq_zero_or_pos (j / n - i / n) with z | z
  · rw [z] at h5; omega
  · have := Nat.mul_le_mul_left n z; omega
theorem SP_of {l : List Pt} (h : plS l) {X Y : Nat} (hX : X ≤ 30) (hF : ∀ q ∈ l, ptF X Y q) : SP (vL l) l.length := by
  obtain ⟨h3, hd, hm⟩ := h
  have lt : ∀ k, k % l.length < l.length := fun k => Nat.mod_lt _ (by omega)
  have hF' : ∀ k, ptF X Y (vL l k) := fun k => by
    unfold vL ptk
    rw [List.getD_eq_getElem?_getD, List.getElem?_eq_getElem (lt k)]
    exact hF _ (List.getElem_mem (lt k))
  have ne : ∀ i j, i < j → j < i + l.length → vL l i ≠ vL l j := by
    intro i j h1 h2
    have := mod_ne h1 h2
    unfold vL
    rcases Nat.lt_trichotomy (i % l.length) (j % l.length) with c | c | c
    · exact hd _ _ c (lt j)
    · exact absurd c this
    · exact (hd _ _ c (lt i)).symm
  have me : ∀ i j, i < j → j < i + l.length → meB (vL l i) (vL l (i + 1)) (vL l j) (vL l (j + 1)) = false := by
    intro i j h1 h2
    have := mod_ne h1 h2
    have s1 : ∀ k, vL l (k + 1) = ptk l (nx l.length (k % l.length)) := by
      intro k
      rw [← vL_1 (lt k)]
      unfold vL
      rw [Nat.mod_add_mod]
    rw [s1, s1]
    unfold vL
    rcases Nat.lt_trichotomy (i % l.length) (j % l.length) with c | c | c
    · exact hm _ _ c (lt j)
    · exact absurd c this
    · rw [meB_sw]; exact hm _ _ c (lt i)
  refine ⟨h3, vL_per, fun i j h1 h2 z => ne i j h1 h2 (hh_inj hX (hF' j) (hF' i) z).symm, fun i j h1 h2 => ?_, fun k => ?_⟩
  · exact apart_me (me i j (by omega) (by omega)) (ne _ _ (by omega) (by omega)) (ne _ _ (by omega) (by omega)) (ne i j (by omega) (by omega)).symm (ne (i + 1) j (by omega) (by omega)).symm (ne i (j + 1) (by omega) (by omega)).symm (ne (i + 1) (j + 1) (by omega) (by omega)).symm
  · exact turn_me (me k (k + 1) (by omega) (by omega)) (ne _ _ (by omega) (by omega)) (ne _ _ (by omega) (by omega)) (ne k (k + 1 + 1) (by omega) (by omega))

