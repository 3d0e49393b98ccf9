/-! ===== sums over the field ===== -/
theorem sumN_c {f g : Nat → Int} {n : Nat} (h : ∀ j, j < n → f j = g j) : sumN f n = sumN g n := by
  induction n with
  | zero => rfl
  | succ n ih => rw [sumN_s, sumN_s, ih fun j hj => h j (by omega), h n (by omega)]
theorem sumN_z {f : Nat → Int} {n : Nat} (h : ∀ j, j < n → f j = 0) : sumN f n = 0 := by
  induction n with
  | zero => rfl
  | succ n ih => rw [sumN_s, ih fun j hj => h j (by omega), h n (by omega)]; rfl
theorem sumN_add (f g : Nat → Int) (n : Nat) : sumN (fun j => f j + g j) n = sumN f n + sumN g n := by
  induction n with
  | zero => rfl
  | succ n ih => rw [sumN_s, sumN_s, sumN_s, ih]; omega
theorem sumN_mul (c : Int) (f : Nat → Int) (n : Nat) : sumN (fun j => c * f j) n = c * sumN f n := by
  induction n with
  | zero => rw [sumN_0, sumN_0, Int.mul_zero]
  | succ n ih => rw [sumN_s, sumN_s, ih, Int.mul_add]
theorem sumN_comm (f : Nat → Nat → Int) (n m : Nat) : sumN (fun x => sumN (fun y => f x y) m) n = sumN (fun y => sumN (fun x => f x y) n) m := by
  induction n with
  | zero => rw [sumN_0]; exact (sumN_z fun _ _ => rfl).symm
  | succ n ih =>
    rw [sumN_s, ih, ← sumN_add]
    rfl
theorem sumN_k (c : Int) (n : Nat) : sumN (fun _ => c) n = n * c := by
  induction n with
  | zero => rw [sumN_0]; simp
  | succ n ih => rw [sumN_s, ih]; show _ = ((n : Int) + 1) * c; rw [Int.add_mul, Int.one_mul]
theorem sumN_rs (f : Nat → Int) (a b : Nat) : sumN f (a + b) = sumN f a + rs f a b := by
  induction b with
  | zero => rw [rs_0]; simp
  | succ b ih => rw [rs_s, ← Nat.add_assoc, sumN_s, ih]; omega
theorem rs_0n (f : Nat → Int) (n : Nat) : rs f 0 n = sumN f n := by
  unfold rs
  refine sumN_c fun j _ => by rw [Nat.zero_add]
theorem sumN_rev (g : Nat → Int) (n : Nat) : sumN g n = sumN (fun i => g (n - 1 - i)) n := by
  induction n generalizing g with
  | zero => rfl
  | succ n ih =>
    have e1 : sumN g (n + 1) = g 0 + sumN (fun i => g (i + 1)) n := by
      rw [← rs_0n, rs_f]
      unfold rs
      congr 1
      exact sumN_c fun j _ => by rw [Nat.zero_add, Nat.add_comm]
    rw [e1, ih, sumN_s, sumN_c (g := fun i => g (n + 1 - 1 - i)) fun j hj => by show g (n - 1 - j + 1) = _; rw [show n - 1 - j + 1 = n + 1 - 1 - j by omega]]
    simp
    omega
/-- the pairs of a row from both ends -/
theorem sumN_pair {g : Nat → Int} {c : Int} {n : Nat} (h : ∀ i, i < n → g i + g (n - 1 - i) = c) : 2 * sumN g n = n * c := by
  have e := sumN_rev g n
  have e2 := sumN_add g (fun i => g (n - 1 - i)) n
  rw [sumN_c h, sumN_k] at e2
  omega
theorem cnt_lt {c n : Nat} (h : c ≤ n) : sumN (fun x => if x < c then 1 else 0) n = c := by
  induction n generalizing c with
  | zero => rw [sumN_0]; omega
  | succ n ih =>
    rw [sumN_s]
    rcases Nat.lt_or_ge n c with z | z
    · rw [if_pos z, sumN_c (g := fun x => if x < n then 1 else 0) (fun j hj => by rw [if_pos (by omega), if_pos hj]), ih (Nat.le_refl n)]
      omega
    · rw [if_neg (by omega), ih z]
      omega
theorem cnt_gt {c n : Nat} (h : c < n) : sumN (fun x => if c < x then -1 else 0) n = (c : Int) + 1 - n := by
  have e := cnt_lt (c := c + 1) (n := n) h
  have e2 := sumN_add (fun x => if x < c + 1 then 1 else 0) (fun x => if c < x then -1 else 0) n
  rw [sumN_c (g := fun x => 1 + (if c < x then -1 else 0) + (if c < x then -1 else 0)) (fun j hj => by show (if j < c + 1 then (1 : Int) else 0) + _ = _; repeat' split; all_goals omega), sumN_add, sumN_add, sumN_k] at e2
  omega
/-- both crossings of a step -/
def zzE (a b p : Pt) : Int := cP (sb a p) (sb b p) + cN (sb a p) (sb b p)
theorem cN_sw (u w : Pt) : cN w u = -cN u w := by
  have : cr w u = -cr u w := by unfold cr; grind
  unfold cN cI
  rw [this]
  repeat' split
  all_goals omega
theorem zzE_sw (a b p : Pt) : zzE b a p = -zzE a b p := by
  unfold zzE
  rw [cP_sw, cN_sw]
  omega
theorem zzE_v (a b p : Pt) : zzE a b p = if opp (hh (sb a p)) (hh (sb b p)) then (if 0 < cr (sb a p) (sb b p) then 1 else if cr (sb a p) (sb b p) < 0 then -1 else 0) else 0 := by
  unfold zzE cP cN cI opp
  repeat' split
  all_goals omega
abbrev mp (x y : Nat) : Pt := ((x : Int), (y : Int))
theorem hmp (x y x' y' : Nat) : hh (sb (mp x y) (mp x' y')) = 100 * ((y : Int) - y') - ((x : Int) - x') := rfl
theorem crmp (ax ay bx by' x y : Nat) : cr (sb (mp ax ay) (mp x y)) (sb (mp bx by') (mp x y)) = ((ax : Int) - x) * ((by' : Int) - y) - ((ay : Int) - y) * ((bx : Int) - x) := rfl
theorem row_in {ax ay bx by' X y : Nat} (hX : X ≤ 30) (ha : ax ≤ X) (hb : bx ≤ X) (h1 : ay < y) (h2 : y < by') : sumN (fun x => zzE (mp ax ay) (mp bx by') (mp x y)) (X + 1) =
    ((ax : Int) * (by' - y) + bx * (y - ay)) / (by' - ay) - (-((ax : Int) * (by' - y) + bx * (y - ay))) / (by' - ay) - X := by
  generalize hT : (ax : Int) * (by' - y) + bx * (y - ay) = T
  have hd : (0 : Int) < by' - ay := by omega
  have t0 : 0 ≤ T := by
    have := Int.mul_nonneg (show (0 : Int) ≤ ax by omega) (show (0 : Int) ≤ by' - y by omega)
    have := Int.mul_nonneg (show (0 : Int) ≤ bx by omega) (show (0 : Int) ≤ y - ay by omega)
    omega
  have t1 : T ≤ X * (by' - ay) := by
    have := Int.mul_nonneg (show (0 : Int) ≤ X - ax by omega) (show (0 : Int) ≤ by' - y by omega)
    have := Int.mul_nonneg (show (0 : Int) ≤ X - bx by omega) (show (0 : Int) ≤ y - ay by omega)
    grind
  have f0 : 0 ≤ T / (by' - ay) := Int.ediv_nonneg t0 (by omega)
  have f1 : T / (by' - ay) ≤ X := by
    have : T / (by' - ay) < X + 1 := (Int.ediv_lt_iff_lt_mul hd).mpr (by rw [Int.add_mul]; omega)
    omega
  have c0 : -T / (by' - ay) ≤ 0 := by
    have : -T / (by' - ay) < 1 := (Int.ediv_lt_iff_lt_mul hd).mpr (by omega)
    omega
  have c1 : -(X : Int) ≤ -T / (by' - ay) := (Int.le_ediv_iff_mul_le hd).mpr (by rw [Int.neg_mul]; omega)
  obtain ⟨F, hF⟩ : ∃ F : Nat, T / (by' - ay) = F := ⟨_, (Int.toNat_of_nonneg f0).symm⟩
  obtain ⟨C, hC⟩ : ∃ C : Nat, -T / (by' - ay) = -(C : Int) := ⟨(-(-T / (by' - ay))).toNat, by omega⟩
  rw [sumN_c (g := fun x => (if x < C then 1 else 0) + (if F < x then -1 else 0)) fun x hx => ?_, sumN_add, cnt_lt (by omega), cnt_gt (by omega), hF, hC]
  · omega
  · rw [zzE_v, if_pos (show opp (hh (sb (mp ax ay) (mp x y))) (hh (sb (mp bx by') (mp x y))) from Or.inl (by rw [hmp, hmp]; omega)), crmp]
    have e : ((ax : Int) - x) * ((by' : Int) - y) - ((ay : Int) - y) * ((bx : Int) - x) = T - x * (by' - ay) := by rw [← hT]; grind
    rw [e]
    have k1 : (x < C) ↔ (x : Int) * (by' - ay) < T := by
      rw [show (x < C) ↔ -T / (by' - ay) < -(x : Int) by omega, Int.ediv_lt_iff_lt_mul hd, Int.neg_mul]
      omega
    have k2 : (F < x) ↔ T < (x : Int) * (by' - ay) := by
      rw [show (F < x) ↔ T / (by' - ay) < (x : Int) by omega, Int.ediv_lt_iff_lt_mul hd]
    repeat' split
    all_goals omega
theorem lat_up {ax ay bx by' X Y : Nat} (hX : X ≤ 30) (ha : ax ≤ X) (hb : bx ≤ X) (hy : by' ≤ Y) (h : ay < by') : sumN (fun y => sumN (fun x => zzE (mp ax ay) (mp bx by') (mp x y)) (X + 1)) (Y + 1) = ((by' : Int) - ay) * (ax + bx - X) := by
  obtain ⟨D, rfl⟩ : ∃ D, by' = ay + D + 1 := ⟨by' - ay - 1, by omega⟩
  obtain ⟨E, rfl⟩ : ∃ E, Y = ay + D + 1 + E := ⟨Y - (ay + D + 1), by omega⟩
  generalize hR : (fun y => sumN (fun x => zzE (mp ax ay) (mp bx (ay + D + 1)) (mp x y)) (X + 1)) = R
  have r : ∀ y, R y = sumN (fun x => zzE (mp ax ay) (mp bx (ay + D + 1)) (mp x y)) (X + 1) := fun y => by rw [← hR]
  rw [show ay + D + 1 + E + 1 = ay + 1 + D + 1 + E by omega, sumN_rs, sumN_s, sumN_rs, sumN_s]
  have z1 : sumN R ay = 0 := sumN_z fun y hy => by
    rw [r]
    refine sumN_z fun x hx => ?_
    rw [zzE_v, if_neg]
    unfold opp
    rw [hmp, hmp]
    omega
  have z2 : rs R (ay + 1 + D + 1) E = 0 := rs_z fun y h1 h2 => by
    rw [r]
    refine sumN_z fun x hx => ?_
    rw [zzE_v, if_neg]
    unfold opp
    rw [hmp, hmp]
    omega
  have e1 : R ay = ax := by
    rw [r, sumN_c (g := fun x => if x < ax then 1 else 0) fun x hx => ?_, cnt_lt (by omega)]
    rw [zzE_v, crmp]
    unfold opp
    rw [hmp, hmp, Int.sub_self, Int.zero_mul, Int.sub_zero]
    have hd : (0 : Int) < (ay + D + 1 : Nat) - (ay : Nat) := by omega
    rcases Nat.lt_or_ge x ax with c | c
    · have := Int.mul_pos (show (0 : Int) < ax - x by omega) hd
      rw [if_pos c, if_pos (by omega), if_pos this]
    · rw [if_neg (by omega), if_neg (by omega)]
  have e2 : R (ay + 1 + D) = bx - X := by
    rw [r, sumN_c (g := fun x => if bx < x then -1 else 0) fun x hx => ?_, cnt_gt (by omega)]
    · omega
    · rw [zzE_v, crmp]
      unfold opp
      rw [hmp, hmp, show ((ay + D + 1 : Nat) : Int) - (ay + 1 + D : Nat) = 0 by omega, Int.mul_zero, Int.zero_sub]
      have hd : (ay : Int) - (ay + 1 + D : Nat) < 0 := by omega
      rcases Nat.lt_or_ge bx x with c | c
      · have := Int.mul_pos_of_neg_of_neg hd (show (bx : Int) - x < 0 by omega)
        rw [if_pos c, if_pos (by omega), if_neg (by omega), if_pos (by omega)]
      · rw [if_neg (by omega), if_neg (by omega)]
  have e3 : 2 * rs R (ay + 1) D = D * (2 * (ax + bx - X)) := by
    refine sumN_pair fun i hi => ?_
    show R (ay + 1 + i) + R (ay + 1 + (D - 1 - i)) = _
    rw [r, r, row_in hX ha hb (by omega) (by omega), row_in hX ha hb (by omega) (by omega)]
    have hd : ((ay + D + 1 : Nat) : Int) - ay = D + 1 := by omega
    rw [hd, show ((ay + D + 1 : Nat) : Int) - (ay + 1 + i : Nat) = (D : Int) - i by omega, show ((ay + 1 + i : Nat) : Int) - ay = (i : Int) + 1 by omega, show ((ay + D + 1 : Nat) : Int) - (ay + 1 + (D - 1 - i) : Nat) = (i : Int) + 1 by omega, show ((ay + 1 + (D - 1 - i) : Nat) : Int) - ay = (D : Int) - i by omega]
    generalize hT : (ax : Int) * (D - i) + bx * (i + 1) = T
    have e4 : (ax : Int) * (i + 1) + bx * (D - i) = -T + (ax + bx) * (D + 1) := by rw [← hT]; grind
    have hD : (D : Int) + 1 ≠ 0 := by omega
    rw [e4, Int.add_mul_ediv_right _ _ hD, show -(-T + ((ax : Int) + bx) * (D + 1)) = T + -((ax : Int) + bx) * (D + 1) by rw [Int.neg_mul]; omega, Int.add_mul_ediv_right _ _ hD]
    omega
  rw [z1, z2, e1, e2]
  have e5 : (((ay + D + 1 : Nat) : Int) - ay) * (ax + bx - X) = D * (ax + bx - X) + (ax + bx - X) := by rw [show ((ay + D + 1 : Nat) : Int) - ay = D + 1 by omega, Int.add_mul, Int.one_mul]
  have e6 : (D : Int) * (2 * (ax + bx - X)) = 2 * (D * (ax + bx - X)) := by grind
  rw [e5]
  omega
theorem lat {ax ay bx by' X Y : Nat} (hX : X ≤ 30) (ha : ax ≤ X) (hb : bx ≤ X) (hy : ay ≤ Y) (hy' : by' ≤ Y) : sumN (fun x => sumN (fun y => zzE (mp ax ay) (mp bx by') (mp x y)) (Y + 1)) (X + 1) = ((by' : Int) - ay) * (ax + bx - X) := by
  rw [sumN_comm]
  rcases Nat.lt_trichotomy ay by' with c | c | c
  · exact lat_up hX ha hb hy' c
  · subst c
    rw [Int.sub_self, Int.zero_mul]
    refine sumN_z fun y _ => sumN_z fun x _ => ?_
    rw [zzE_v]
    split
    · rename_i o
      unfold opp at o
      rw [hmp, hmp] at o
      have : (y : Int) = ay := by omega
      rw [crmp, this, Int.sub_self, Int.mul_zero, Int.zero_mul, Int.sub_self]
      rfl
    · rfl
  · rw [sumN_c (g := fun y => -1 * sumN (fun x => zzE (mp bx by') (mp ax ay) (mp x y)) (X + 1)) fun y _ => ?_, sumN_mul, lat_up hX hb ha hy c]
    · grind
    · rw [← sumN_mul]
      refine sumN_c fun x _ => ?_
      rw [zzE_sw]
      omega

