section PICK3
variable {v : Nat → Pt} {n : Nat}
def onWb (v : Nat → Pt) (n : Nat) (p : Pt) : Bool := anyN n fun k => onB (v k) (v (k + 1)) p
theorem onWb_iff (p : Pt) : onWb v n p = true ↔ onW v n p := anyN_iff
theorem onB_a (a b : Pt) : onB a b a = true := by
  rw [onB_iff]
  refine ⟨by unfold tnP tnZ; grind, ?_, ?_⟩ <;> omega
theorem onB_b (a b : Pt) : onB a b b = true := by
  rw [onB_iff]
  refine ⟨by unfold tnP tnZ; grind, ?_, ?_⟩ <;> omega
theorem cr_self (m a : Pt) : cr m (sb a a) = 0 := by unfold cr sb; simp
theorem on_uniq (h : SP v n) {p : Pt} {i j : Nat} (h1 : i < j) (h2 : j < i + n) (o1 : onB (v i) (v (i + 1)) p = true) (n1 : p ≠ v (i + 1)) (o2 : onB (v j) (v (j + 1)) p = true) (n2 : p ≠ v (j + 1)) : False := by
  by_cases c : p = v i
  · have c2 : p ≠ v j := by rw [c]; exact v_ne h h1 h2
    obtain ⟨e, a, b, ha, hb, e1, e2⟩ := in_side (v_ne h (by omega) (by have := h.1; omega)) o2 c2 n2
    obtain ⟨m, y, -⟩ := (ep_vis h ha hb e1 e2 (j := i + n) (by omega) (by omega)).1
    rw [h.per, c, cr_self] at y
    omega
  · obtain ⟨e, a, b, ha, hb, e1, e2⟩ := in_side (v_ne h (by omega) (by have := h.1; omega)) o1 c n1
    obtain ⟨m, y1, y2, -⟩ := (ep_vis h ha hb e1 e2 (j := j) (by omega) (by omega)).1
    obtain ⟨e', x, y, h1', h2', hg⟩ := step_ex (v_ne h (show j < j + 1 by omega) (by have := h.1; omega))
    obtain ⟨i', i0, ig, hi⟩ := (on_step h1' h2' hg).mp o2
    have z1 : cr m (sb (v j) p) = -(i' * cr m e') := by rw [cr_sw, hi, cr_sc]
    have z2 := cr_sb m (v (j + 1)) p (v j)
    rw [h1', hi, cr_sc, cr_sc] at z2
    generalize (Int.gcd ((v (j + 1)).1 - (v j).1) ((v (j + 1)).2 - (v j).2) : Int) = g at *
    rcases Int.lt_trichotomy (cr m e') 0 with c | c | c
    · have := Int.mul_nonneg (show 0 ≤ g - i' by omega) (show 0 ≤ -cr m e' by omega)
      rw [Int.mul_neg, Int.sub_mul] at this
      omega
    · rw [c, Int.mul_zero] at z1; omega
    · have := Int.mul_nonneg i0 (Int.le_of_lt c)
      omega
theorem on_ex (h : SP v n) {p : Pt} : onW v n p ↔ ∃ k, k < n ∧ onB (v k) (v (k + 1)) p = true ∧ p ≠ v (k + 1) := by
  constructor
  · rintro ⟨k, hk, ho⟩
    by_cases c : p = v (k + 1)
    · obtain ⟨i, hi, e⟩ := h.mod (k + 1)
      rw [c, e]
      exact ⟨i, hi, onB_a _ _, v_ne h (by omega) (by have := h.1; omega)⟩
    · exact ⟨k, hk, ho, c⟩
  · rintro ⟨k, hk, ho, -⟩
    exact ⟨k, hk, ho⟩
theorem on_sum (h : SP v n) (p : Pt) : (if onWb v n p = true then (1 : Int) else 0) = sumN (fun k => if onB (v k) (v (k + 1)) p = true ∧ p ≠ v (k + 1) then 1 else 0) n := by
  rw [sum_one]
  · have : (onWb v n p = true) = ∃ i, i < n ∧ onB (v i) (v (i + 1)) p = true ∧ p ≠ v (i + 1) := by rw [onWb_iff, on_ex h]
    simp only [this]
  · rintro i j hi hj ⟨a1, a2⟩ ⟨b1, b2⟩
    rcases Nat.lt_trichotomy i j with c | c | c
    · exact (on_uniq h c (by omega) a1 a2 b1 b2).elim
    · exact c
    · exact (on_uniq h c (by omega) b1 b2 a1 a2).elim
def bord (v : Nat → Pt) (n : Nat) : Int := sumN (fun k => (Int.gcd ((v (k + 1)).1 - (v k).1) ((v (k + 1)).2 - (v k).2) : Int)) n
theorem bord_cnt (h : SP v n) {X Y : Nat} (hF : ∀ k, ptF X Y (v k)) : bx X Y (fun p => if onWb v n p = true then 1 else 0) = bord v n := by
  rw [bx_c (G := fun p => sumN (fun k => if onB (v k) (v (k + 1)) p = true ∧ p ≠ v (k + 1) then 1 else 0) n) fun x y _ _ => on_sum h _, bxs_sum (F := fun k p => if onB (v k) (v (k + 1)) p = true ∧ p ≠ v (k + 1) then 1 else 0)]
  exact sumN_c fun k _ => side_cnt (hF k) (hF (k + 1)) (v_ne h (by omega) (by have := h.1; omega))
theorem zz_all (h : SP v n) {X Y : Nat} (hX : X ≤ 30) (hF : ∀ k, ptF X Y (v k)) {p : Pt} (hp : ptF X Y p) :
    sumN (fun j => zzE (v j) (v (j + 1)) p) n = cc v n 0 * (if onWb v n p = true then 1 else 0) + 2 * cc v n 0 * (if onWb v n p = false ∧ sumN (cw v p) n % 2 = 1 then 1 else 0) + -1 * sumN (fun k => if p = v (k + 1) then tp v k + tm v k else 0) n := by
  have h3 := h.1
  obtain ⟨s, hs, es, -, -⟩ := spin h
  rw [es]
  rw [← rs_0n]
  by_cases c : ∃ k, k < n ∧ p = v (k + 1)
  · obtain ⟨k, hk, rfl⟩ := c
    have on : onWb v n (v (k + 1)) = true := by rw [onWb_iff]; exact ⟨k, hk, onB_b _ _⟩
    have one : sumN (fun i => if v (k + 1) = v (i + 1) then tp v i + tm v i else 0) n = tp v k + tm v k := by
      rw [sumN_c (g := fun i => if i = k then tp v k + tm v k else 0) fun i hi => ?_]
      · have := sumN_mul (tp v k + tm v k) (fun i => if i = k then 1 else 0) n
        rw [sum_one _ _ (fun i j _ _ a b => by omega), if_pos ⟨k, hk, rfl⟩, Int.mul_one] at this
        rw [← this]
        exact sumN_c fun i _ => by split <;> omega
      · by_cases z : i = k
        · subst z; rw [if_pos rfl, if_pos rfl]
        · rw [if_neg z, if_neg]
          rcases Nat.lt_trichotomy i k with y | y | y
          · exact fun q => v_ne h (by omega) (by omega) q.symm
          · exact absurd y z
          · exact v_ne h (by omega) (by omega)
    rw [one, zz_corner h, es, on, if_pos rfl, if_neg (by simp)]
    omega
  · have hn : ∀ k, k < n → p ≠ v (k + 1) := fun k hk e => c ⟨k, hk, e⟩
    obtain ⟨hv, hl⟩ := lev_of h hX hF hp hn
    rw [sumN_z (f := fun k => if p = v (k + 1) then tp v k + tm v k else 0) fun k hk => if_neg (hn k hk)]
    by_cases on : onW v n p
    · obtain ⟨k, hk, ho⟩ := on
      have on : onWb v n p = true := by rw [onWb_iff]; exact ⟨k, hk, ho⟩
      rw [zz_side h hl (hv k) (hv (k + 1)) ho, es, on, if_pos rfl, if_neg (by simp)]
      omega
    · have on' : onWb v n p = false := by
        cases e : onWb v n p with
        | false => rfl
        | true => exact absurd ((onWb_iff p).mp e) on
      rw [zz_off h hl on, on', if_neg (by decide), rs_0n]
      have := off_way h hl
      rw [rs_0n, es] at this
      generalize sumN (cw v p) n = W at *
      rcases hs with rfl | rfl
      · rcases (show W = 0 ∨ W = 1 by omega) with rfl | rfl <;> simp
      · rcases (show W = 0 ∨ W = -1 by omega) with rfl | rfl <;> simp
/-- Pick's law -/
theorem pick (h : SP v n) {X Y : Nat} (hX : X ≤ 30) (hF : ∀ k, ptF X Y (v k)) : ∃ s : Int, (s = 1 ∨ s = -1) ∧
    sumN (fun k => ((v (k + 1)).2 - (v k).2) * ((v k).1 + (v (k + 1)).1 - X)) n = s * (bord v n + 2 * bx X Y (fun p => if onWb v n p = false ∧ sumN (cw v p) n % 2 = 1 then 1 else 0) - 2) := by
  obtain ⟨s, hs, es, e1, e2⟩ := spin h
  refine ⟨s, hs, ?_⟩
  have e := bxs_sum X Y (fun k p => zzE (v k) (v (k + 1)) p) n
  rw [bx_c (G := fun p => cc v n 0 * (if onWb v n p = true then 1 else 0) + 2 * cc v n 0 * (if onWb v n p = false ∧ sumN (cw v p) n % 2 = 1 then 1 else 0) + -1 * sumN (fun k => if p = v (k + 1) then tp v k + tm v k else 0) n) fun x y hx hy => zz_all h hX hF ⟨⟨by show (0 : Int) ≤ x; omega, by show (x : Int) ≤ X; omega⟩, by show (0 : Int) ≤ y; omega, by show (y : Int) ≤ Y; omega⟩, bx_add, bx_add, bx_mul, bx_mul, bx_mul, bord_cnt h hF, bxs_sum (F := fun k p => if p = v (k + 1) then tp v k + tm v k else 0), es] at e
  have e3 : sumN (fun k => bx X Y fun p => if p = v (k + 1) then tp v k + tm v k else 0) n = 2 * s := by
    rw [sumN_c (f := fun k => bx X Y fun p => if p = v (k + 1) then tp v k + tm v k else 0) (g := fun k => tp v k + tm v k) (fun k _ => hit_one (hF (k + 1)).1 (hF (k + 1)).2 _), sumN_add, ← rs_0n, ← rs_0n, e1, e2]
    omega
  have e4 : sumN (fun k => bx X Y (fun p => zzE (v k) (v (k + 1)) p)) n = sumN (fun k => ((v (k + 1)).2 - (v k).2) * ((v k).1 + (v (k + 1)).1 - X)) n := by
    refine sumN_c fun k _ => ?_
    have nat : ∀ j, ∃ a b : Nat, v j = mp a b ∧ a ≤ X ∧ b ≤ Y := fun j => by
      have := hF j
      unfold ptF at this
      exact ⟨(v j).1.toNat, (v j).2.toNat, Prod.ext (by simp; omega) (by simp; omega), by omega, by omega⟩
    obtain ⟨a, b, q1, q2, q3⟩ := nat k
    obtain ⟨a', b', q1', q2', q3'⟩ := nat (k + 1)
    rw [q1, q1']
    exact lat hX q2 q2' q3 q3'
  rw [e3, e4] at e
  rw [← e]
  rcases hs with rfl | rfl <;> omega
theorem bord_ge (h : SP v n) : (n : Int) ≤ bord v n := by
  have : ∀ m : Nat, (m : Int) ≤ sumN (fun k => (Int.gcd ((v (k + 1)).1 - (v k).1) ((v (k + 1)).2 - (v k).2) : Int)) m := by
    intro m
    induction m with
    | zero => exact Int.le_refl _
    | succ m ih =>
      obtain ⟨e, x, y, -, -, hg⟩ := step_ex (v_ne h (show m < m + 1 by omega) (by have := h.1; omega))
      rw [sumN_s]
      omega
  exact this n
end PICK3

