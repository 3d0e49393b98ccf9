section PICK4
/-- a polygon's corners, round and round -/
def vL (l : List Pt) (j : Nat) : Pt := ptk l (j % l.length)
theorem vL_0 {l : List Pt} {k : Nat} (hk : k < l.length) : vL l k = ptk l k := by unfold vL; rw [Nat.mod_eq_of_lt hk]
theorem vL_1 {l : List Pt} {k : Nat} (hk : k < l.length) : vL l (k + 1) = ptk l (nx l.length k) := by
  unfold vL nx
  split
  · rename_i e
    rw [e, Nat.mod_self]
  · rw [Nat.mod_eq_of_lt (by omega)]
theorem vL_per {l : List Pt} (k : Nat) : vL l (k + l.length) = vL l k := by unfold vL; rw [Nat.add_mod_right]
def bordL (l : List Pt) : Int := sumN (fun k => (Int.gcd ((ptk l (nx l.length k)).1 - (ptk l k).1) ((ptk l (nx l.length k)).2 - (ptk l k).2) : Int)) l.length
theorem onAny_vL {l : List Pt} (p : Pt) : onWb (vL l) l.length p = onAny l p := by
  unfold onWb onAny
  rw [Bool.eq_iff_iff, anyN_iff, anyN_iff]
  constructor
  · rintro ⟨k, hk, e⟩
    rw [vL_0 hk, vL_1 hk] at e
    exact ⟨k, hk, e⟩
  · rintro ⟨k, hk, e⟩
    rw [← vL_0 hk, ← vL_1 hk] at e
    exact ⟨k, hk, e⟩
theorem xor_cnt (f : Nat → Bool) (g : Nat → Int) (n : Nat) (h : ∀ k, k < n → (g k = 0 ∨ g k = 1 ∨ g k = -1) ∧ f k = decide (g k ≠ 0)) : foldN (fun k b => Bool.xor b (f k)) false n = decide (sumN g n % 2 = 1) := by
  induction n with
  | zero => rfl
  | succ n ih =>
    rw [sumN_s]
    show Bool.xor (foldN (fun k b => Bool.xor b (f k)) false n) (f n) = _
    rw [ih fun k hk => h k (by omega)]
    obtain ⟨e1, e2⟩ := h n (by omega)
    rw [e2]
    generalize sumN g n = S
    have : S % 2 = 0 ∨ S % 2 = 1 := by omega
    rcases e1 with e | e | e <;> rw [e] <;> rcases this with z | z
    · rw [show (S + 0) % 2 = 0 by omega, z]; rfl
    · rw [show (S + 0) % 2 = 1 by omega, z]; rfl
    · rw [show (S + 1) % 2 = 1 by omega, z]; rfl
    · rw [show (S + 1) % 2 = 0 by omega, z]; rfl
    · rw [show (S + -1) % 2 = 1 by omega, z]; rfl
    · rw [show (S + -1) % 2 = 0 by omega, z]; rfl
theorem parB_vL {l : List Pt} {X Y : Nat} (hX : X ≤ 30) (hF : ∀ k, ptF X Y (vL l k)) {x y : Nat} (hx : x ≤ X) : parB l (mp x y) = decide (sumN (cw (vL l) (mp x y)) l.length % 2 = 1) := by
  unfold parB
  refine xor_cnt _ _ _ fun k hk => ⟨?_, ?_⟩
  · unfold cw cP cI
    repeat' split
    all_goals omega
  · rw [← vL_0 hk, ← vL_1 hk]
    exact ray_cP hX (hF k) (hF (k + 1)) x y hx
theorem pickL {f : Fld} {l : List Pt} {X Y : Nat} (h : SP (vL l) l.length) (e1 : f.1.1 = X) (e2 : f.1.2 = Y) (hX : X ≤ 30) (hF : ∀ q ∈ l, ptF X Y q) : dblA l ≠ 0 ∧ countAll f l 1 = bordL l ∧ 2 * countAll f l 2 = areaA l - bordL l + 2 ∧ 3 ≤ bordL l := by
  have h3 := h.1
  have hF' : ∀ k, ptF X Y (vL l k) := fun k => by
    have : k % l.length < l.length := Nat.mod_lt _ (by omega)
    unfold vL ptk
    rw [List.getD_eq_getElem?_getD, List.getElem?_eq_getElem this]
    exact hF _ (List.getElem_mem this)
  obtain ⟨s, hs, e⟩ := pick h hX hF'
  have hb := bord_ge h
  have hc := bord_cnt h hF'
  have eb : bord (vL l) l.length = bordL l := sumN_c fun k hk => by rw [vL_0 hk, vL_1 hk]
  have ec : ∀ s, countAll f l s = bx X Y (fun p => if sideOf l p = s then 1 else 0) := fun s => by
    unfold countAll bx
    rw [e1, e2]
    rfl
  have c1 : countAll f l 1 = bordL l := by
    rw [ec, ← eb, ← hc]
    refine bx_c fun x y _ _ => ?_
    rw [onAny_vL]
    unfold sideOf
    cases onAny l (mp x y) <;> cases parB l (mp x y) <;> rfl
  have c2 : countAll f l 2 = bx X Y (fun p => if onWb (vL l) l.length p = false ∧ sumN (cw (vL l) p) l.length % 2 = 1 then 1 else 0) := by
    rw [ec]
    refine bx_c fun x y hx _ => ?_
    rw [onAny_vL]
    have := parB_vL (l := l) hX hF' (y := y) hx
    unfold sideOf
    rw [this]
    by_cases z : sumN (cw (vL l) (mp x y)) l.length % 2 = 1
    · rw [decide_eq_true z]
      cases onAny l (mp x y) <;> simp [z]
    · rw [decide_eq_false z]
      cases onAny l (mp x y) <;> simp [z]
  have ed : sumN (fun k => ((vL l (k + 1)).2 - (vL l k).2) * ((vL l k).1 + (vL l (k + 1)).1 - X)) l.length = dblA l := by
    have t := rs_tel (fun k => (vL l k).1 * (vL l k).2 - X * (vL l k).2) 0 l.length
    rw [Nat.zero_add, show vL l l.length = vL l 0 by have := vL_per (l := l) 0; rwa [Nat.zero_add] at this, Int.sub_self, rs_0n] at t
    unfold dblA
    rw [sumN_c (g := fun k => tnZ 0 0 (vL l k).1 (vL l k).2 (vL l (k + 1)).1 (vL l (k + 1)).2 + ((vL l (k + 1)).1 * (vL l (k + 1)).2 - X * (vL l (k + 1)).2 - ((vL l k).1 * (vL l k).2 - X * (vL l k).2))) fun k _ => ?_, sumN_add, t, Int.add_zero]
    · exact sumN_c fun k hk => by rw [vL_0 hk, vL_1 hk]
    · unfold tnZ
      grind
  rw [ed, ← c2, eb] at e
  have hI : 0 ≤ countAll f l 2 := by
    rw [ec]
    unfold bx
    have nn : ∀ (g : Nat → Int) n, (∀ k, 0 ≤ g k) → 0 ≤ sumN g n := by
      intro g n hg
      induction n with
      | zero => exact Int.le_refl _
      | succ n ih => rw [sumN_s]; have := hg n; omega
    exact nn _ _ fun k => nn _ _ fun j => by show (0 : Int) ≤ if sideOf l (mp k j) = 2 then 1 else 0; split <;> omega
  rw [eb] at hb
  have ha : areaA l = bordL l + 2 * countAll f l 2 - 2 := by
    unfold areaA
    rw [e]
    rcases hs with rfl | rfl
    · rw [Int.one_mul, if_neg (by omega)]
    · rw [if_pos (by omega)]; omega
  refine ⟨?_, c1, by omega, by omega⟩
  rw [e]
  rcases hs with rfl | rfl <;> omega
end PICK4

