/-! ===== the points on a side ===== -/
theorem bezout (a b : Nat) : ∃ x y : Int, (a : Int) * x + b * y = Nat.gcd a b := by
  induction a, b using Nat.gcd.induction with
  | H0 n => exact ⟨0, 1, by simp⟩
  | H1 m n hm ih =>
    obtain ⟨x, y, e⟩ := ih
    refine ⟨y - (n / m : Nat) * x, x, ?_⟩
    rw [Nat.gcd_rec, ← e]
    have := Nat.div_add_mod n m
    have e2 : (n : Int) = m * (n / m : Nat) + (n % m : Nat) := by exact_mod_cast this.symm
    rw [Int.mul_sub, ← Int.mul_assoc]
    grind
theorem bezI (a b : Int) : ∃ x y : Int, a * x + b * y = Int.gcd a b := by
  obtain ⟨x, y, e⟩ := bezout a.natAbs b.natAbs
  refine ⟨a.sign * x, b.sign * y, ?_⟩
  rw [← Int.mul_assoc, ← Int.mul_assoc, Int.mul_sign_self, Int.mul_sign_self]
  exact e
theorem onB_iff (a b p : Pt) : onB a b p = true ↔ tnP a b p = 0 ∧ (min a.1 b.1 ≤ p.1 ∧ p.1 ≤ max a.1 b.1) ∧ (min a.2 b.2 ≤ p.2 ∧ p.2 ≤ max a.2 b.2) := by
  unfold onB inB
  simp only [Bool.and_eq_true, decide_eq_true_eq]
/-- the smallest step along a side -/
theorem step_ex {a b : Pt} (hne : a ≠ b) : ∃ (e : Pt) (x y : Int), sb b a = scv (Int.gcd (b.1 - a.1) (b.2 - a.2)) e ∧ e.1 * x + e.2 * y = 1 ∧ (0 : Int) < Int.gcd (b.1 - a.1) (b.2 - a.2) := by
  obtain ⟨x, y, e⟩ := bezI (b.1 - a.1) (b.2 - a.2)
  have g0 : 0 < Int.gcd (b.1 - a.1) (b.2 - a.2) := by
    rcases Nat.eq_zero_or_pos (Int.gcd (b.1 - a.1) (b.2 - a.2)) with z | z
    · rw [Int.gcd_eq_zero_iff] at z
      exact absurd (Prod.ext (by omega) (by omega)) hne
    · exact z
  obtain ⟨u, hu⟩ := Int.gcd_dvd_left (a := b.1 - a.1) (b := b.2 - a.2)
  obtain ⟨w, hw⟩ := Int.gcd_dvd_right (a := b.1 - a.1) (b := b.2 - a.2)
  refine ⟨(u, w), x, y, ?_, ?_, by omega⟩
  · unfold sb scv
    exact Prod.ext hu hw
  · have : (Int.gcd (b.1 - a.1) (b.2 - a.2) : Int) * (u * x + w * y) = Int.gcd (b.1 - a.1) (b.2 - a.2) * 1 := by
      rw [Int.mul_one, Int.mul_add, ← Int.mul_assoc, ← Int.mul_assoc, ← hu, ← hw, e]
    exact Int.eq_of_mul_eq_mul_left (by omega) this
theorem on_step {a b e : Pt} {x y : Int} {g : Int} (h1 : sb b a = scv g e) (h2 : e.1 * x + e.2 * y = 1) (hg : 0 < g) {p : Pt} : onB a b p = true ↔ ∃ i : Int, 0 ≤ i ∧ i ≤ g ∧ sb p a = scv i e := by
  have b1 : b.1 = a.1 + g * e.1 := by have := congrArg Prod.fst h1; unfold sb scv at this; simp at this; omega
  have b2 : b.2 = a.2 + g * e.2 := by have := congrArg Prod.snd h1; unfold sb scv at this; simp at this; omega
  rw [onB_iff]
  constructor
  · rintro ⟨t, ⟨m1, m2⟩, m3, m4⟩
    have t' : g * (e.1 * (p.2 - a.2)) = g * (e.2 * (p.1 - a.1)) := by
      unfold tnP tnZ at t
      rw [b1, b2] at t
      grind
    replace t' := Int.eq_of_mul_eq_mul_left (show g ≠ 0 by omega) t'
    refine ⟨x * (p.1 - a.1) + y * (p.2 - a.2), ?_, ?_, ?_⟩
    all_goals
      have i1 : (x * (p.1 - a.1) + y * (p.2 - a.2)) * e.1 = p.1 - a.1 := by grind
      have i2 : (x * (p.1 - a.1) + y * (p.2 - a.2)) * e.2 = p.2 - a.2 := by grind
      generalize x * (p.1 - a.1) + y * (p.2 - a.2) = i at *
    · rcases Int.lt_trichotomy e.1 0 with c | c | c
      · have := Int.mul_neg_of_pos_of_neg hg c
        rcases Int.lt_or_le i 0 with d | d
        · have := Int.mul_pos_of_neg_of_neg d c; omega
        · exact d
      · have e2 : e.2 ≠ 0 := by intro z; rw [c, z] at h2; simp at h2
        rcases Int.lt_trichotomy e.2 0 with c' | c' | c'
        · have := Int.mul_neg_of_pos_of_neg hg c'
          rcases Int.lt_or_le i 0 with d | d
          · have := Int.mul_pos_of_neg_of_neg d c'; omega
          · exact d
        · exact absurd c' e2
        · have := Int.mul_pos hg c'
          rcases Int.lt_or_le i 0 with d | d
          · have := Int.mul_neg_of_neg_of_pos d c'; omega
          · exact d
      · have := Int.mul_pos hg c
        rcases Int.lt_or_le i 0 with d | d
        · have := Int.mul_neg_of_neg_of_pos d c; omega
        · exact d
    · have j1 : (g - i) * e.1 = b.1 - p.1 := by rw [Int.sub_mul]; omega
      have j2 : (g - i) * e.2 = b.2 - p.2 := by rw [Int.sub_mul]; omega
      rcases Int.lt_trichotomy e.1 0 with c | c | c
      · have := Int.mul_neg_of_pos_of_neg hg c
        rcases Int.lt_or_le (g - i) 0 with d | d
        · have := Int.mul_pos_of_neg_of_neg d c; omega
        · omega
      · have e2 : e.2 ≠ 0 := by intro z; rw [c, z] at h2; simp at h2
        rcases Int.lt_trichotomy e.2 0 with c' | c' | c'
        · have := Int.mul_neg_of_pos_of_neg hg c'
          rcases Int.lt_or_le (g - i) 0 with d | d
          · have := Int.mul_pos_of_neg_of_neg d c'; omega
          · omega
        · exact absurd c' e2
        · have := Int.mul_pos hg c'
          rcases Int.lt_or_le (g - i) 0 with d | d
          · have := Int.mul_neg_of_neg_of_pos d c'; omega
          · omega
      · have := Int.mul_pos hg c
        rcases Int.lt_or_le (g - i) 0 with d | d
        · have := Int.mul_neg_of_neg_of_pos d c; omega
        · omega
    · unfold sb scv
      exact Prod.ext i1.symm i2.symm
  · rintro ⟨i, i0, ig, hi⟩
    have q1 : p.1 = a.1 + i * e.1 := by have := congrArg Prod.fst hi; unfold sb scv at this; simp at this; omega
    have q2 : p.2 = a.2 + i * e.2 := by have := congrArg Prod.snd hi; unfold sb scv at this; simp at this; omega
    have bd : ∀ u : Int, (0 ≤ u → 0 ≤ i * u ∧ i * u ≤ g * u) ∧ (u ≤ 0 → i * u ≤ 0 ∧ g * u ≤ i * u) := by
      intro u
      constructor
      · intro hu
        exact ⟨Int.mul_nonneg i0 hu, Int.mul_le_mul_of_nonneg_right ig hu⟩
      · intro hu
        have y1 := Int.mul_nonneg i0 (show 0 ≤ -u by omega)
        have y2 := Int.mul_le_mul_of_nonneg_right ig (show 0 ≤ -u by omega)
        rw [Int.mul_neg] at y1
        rw [Int.mul_neg, Int.mul_neg] at y2
        omega
    have d1 := bd e.1
    have d2 := bd e.2
    refine ⟨?_, ?_, ?_⟩
    · unfold tnP tnZ
      rw [b1, b2, q1, q2]
      grind
    · rcases Int.le_total 0 e.1 with c | c
      · have := d1.1 c; omega
      · have := d1.2 c; omega
    · rcases Int.le_total 0 e.2 with c | c
      · have := d2.1 c; omega
      · have := d2.2 c; omega
/-- within the field one place is hit once -/
theorem hit_one {X Y : Nat} {q : Pt} (h1 : 0 ≤ q.1 ∧ q.1 ≤ X) (h2 : 0 ≤ q.2 ∧ q.2 ≤ Y) (c : Int) : sumN (fun x => sumN (fun y => if mp x y = q then c else 0) (Y + 1)) (X + 1) = c := by
  obtain ⟨a, ha⟩ : ∃ a : Nat, q.1 = a := ⟨q.1.toNat, by omega⟩
  obtain ⟨b, hb⟩ : ∃ b : Nat, q.2 = b := ⟨q.2.toNat, by omega⟩
  have one : ∀ (n k : Nat) (f : Nat → Int), k < n → (∀ j, j < n → j ≠ k → f j = 0) → sumN f n = f k := by
    intro n
    induction n with
    | zero => intro k f hk; omega
    | succ n ih =>
      intro k f hk hf
      rw [sumN_s]
      rcases Nat.lt_or_ge k n with z | z
      · rw [ih k f z fun j hj => hf j (by omega), hf n (by omega) (by omega)]; omega
      · obtain rfl : k = n := by omega
        rw [sumN_z fun j hj => hf j (by omega) (by omega)]; omega
  rw [one (X + 1) a _ (by omega) fun j _ hj => ?_, one (Y + 1) b _ (by omega) fun j _ hj => ?_, if_pos (Prod.ext ha.symm hb.symm)]
  · refine if_neg fun z => hj ?_
    have := congrArg Prod.snd z
    simp at this
    omega
  · refine sumN_z fun y _ => if_neg fun z => hj ?_
    have := congrArg Prod.fst z
    simp at this
    omega
theorem sum_one (P : Nat → Prop) [DecidablePred P] (n : Nat) (hu : ∀ i j, i < n → j < n → P i → P j → i = j) : sumN (fun i => if P i then 1 else 0) n = if ∃ i, i < n ∧ P i then 1 else 0 := by
  induction n with
  | zero => rw [sumN_0, if_neg (by rintro ⟨i, hi, -⟩; omega)]
  | succ n ih =>
    rw [sumN_s, ih fun i j hi hj => hu i j (by omega) (by omega)]
    by_cases pn : P n
    · rw [if_pos pn, if_neg, if_pos ⟨n, by omega, pn⟩]
      · rfl
      · rintro ⟨i, hi, pi⟩
        have := hu i n (by omega) (by omega) pi pn
        omega
    · rw [if_neg pn]
      by_cases ex : ∃ i, i < n ∧ P i
      · obtain ⟨i, hi, pi⟩ := ex
        rw [if_pos ⟨i, hi, pi⟩, if_pos ⟨i, by omega, pi⟩]; rfl
      · rw [if_neg ex, if_neg]
        · rfl
        · rintro ⟨i, hi, pi⟩
          refine ex ⟨i, ?_, pi⟩
          rcases Nat.lt_or_ge i n with z | z
          · exact z
          · obtain rfl : i = n := by omega
            exact absurd pi pn
def ptF (X Y : Nat) (q : Pt) : Prop := (0 ≤ q.1 ∧ q.1 ≤ X) ∧ 0 ≤ q.2 ∧ q.2 ≤ Y
/-- a side without its end: its points are as many as the greatest common divisor -/
theorem side_cnt {X Y : Nat} {a b : Pt} (ha : ptF X Y a) (hb : ptF X Y b) (hne : a ≠ b) : sumN (fun x => sumN (fun y => if onB a b (mp x y) = true ∧ mp x y ≠ b then 1 else 0) (Y + 1)) (X + 1) = Int.gcd (b.1 - a.1) (b.2 - a.2) := by
  obtain ⟨e, x, y, h1, h2, hg⟩ := step_ex hne
  generalize hG : Int.gcd (b.1 - a.1) (b.2 - a.2) = G at *
  have b1 : b.1 = a.1 + G * e.1 := by have := congrArg Prod.fst h1; unfold sb scv at this; simp at this; omega
  have b2 : b.2 = a.2 + G * e.2 := by have := congrArg Prod.snd h1; unfold sb scv at this; simp at this; omega
  have inj : ∀ i j : Int, scv i e = scv j e → i = j := by
    intro i j z
    have z1 := congrArg Prod.fst z
    have z2 := congrArg Prod.snd z
    unfold scv at z1 z2
    simp only at z1 z2
    have : i * (e.1 * x + e.2 * y) = j * (e.1 * x + e.2 * y) := by grind
    rw [h2, Int.mul_one, Int.mul_one] at this
    exact this
  have key : ∀ p : Pt, (if onB a b p = true ∧ p ≠ b then (1 : Int) else 0) = sumN (fun i => if p = (a.1 + i * e.1, a.2 + i * e.2) then 1 else 0) G := by
    intro p
    have pe : ∀ i : Nat, p = (a.1 + i * e.1, a.2 + i * e.2) ↔ sb p a = scv i e := by
      intro i
      unfold sb scv
      constructor
      · rintro rfl; ext <;> simp <;> omega
      · intro z
        have z1 := congrArg Prod.fst z
        have z2 := congrArg Prod.snd z
        simp only at z1 z2
        exact Prod.ext (by simp; omega) (by simp; omega)
    rw [sum_one _ _ (fun i j _ _ pi pj => by
      have := inj i j (((pe i).mp pi).symm.trans ((pe j).mp pj)); omega)]
    have : (onB a b p = true ∧ p ≠ b) ↔ ∃ i, i < G ∧ p = (a.1 + (i : Nat) * e.1, a.2 + (i : Nat) * e.2) := by
      rw [on_step h1 h2 hg]
      constructor
      · rintro ⟨⟨i, i0, ig, hi⟩, nb⟩
        obtain ⟨k, rfl⟩ : ∃ k : Nat, i = k := ⟨i.toNat, by omega⟩
        refine ⟨k, ?_, (pe k).mpr hi⟩
        rcases Nat.lt_or_ge k G with z | z
        · exact z
        · obtain rfl : k = G := by omega
          exact absurd (((pe k).mpr hi).trans (Prod.ext b1.symm b2.symm)) nb
      · rintro ⟨i, hi, pi⟩
        refine ⟨⟨i, by omega, by omega, (pe i).mp pi⟩, ?_⟩
        rintro rfl
        have := inj i G (((pe i).mp pi).symm.trans h1)
        omega
    simp only [this]
  rw [sumN_c (g := fun x => sumN (fun i => sumN (fun y => if mp x y = (a.1 + (i : Nat) * e.1, a.2 + (i : Nat) * e.2) then 1 else 0) (Y + 1)) G) fun x _ => ?_, sumN_comm, sumN_c (g := fun _ => 1) fun i hi => ?_, sumN_k, Int.mul_one]
  · refine hit_one (q := (a.1 + (i : Nat) * e.1, a.2 + (i : Nat) * e.2)) ?_ ?_ 1
    · have hon := (onB_iff a b (a.1 + (i : Nat) * e.1, a.2 + (i : Nat) * e.2)).mp ((on_step h1 h2 hg).mpr ⟨i, by omega, by omega, by unfold sb scv; ext <;> simp <;> omega⟩)
      have := ha.1
      have := hb.1
      have := hon.2.1
      omega
    · have hon := (onB_iff a b (a.1 + (i : Nat) * e.1, a.2 + (i : Nat) * e.2)).mp ((on_step h1 h2 hg).mpr ⟨i, by omega, by omega, by unfold sb scv; ext <;> simp <;> omega⟩)
      have := ha.2
      have := hb.2
      have := hon.2.2
      omega
  · rw [sumN_c (g := fun y => sumN (fun i => if mp x y = (a.1 + (i : Nat) * e.1, a.2 + (i : Nat) * e.2) then 1 else 0) G) fun y _ => key (mp x y), sumN_comm]

