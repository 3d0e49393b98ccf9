section INV2
variable {f : Fld}
theorem fldI_ne (h : fldI f) {p k j : Nat} (hp : p < nP f) (hk : k < lenP f p) (hj : j < lenP f p) (hkj : k ≠ j) : corn f p k ≠ corn f p j := h.1 p k p j hp hk hp hj (.inr hkj)
/-- a side is bent -/
theorem fldI_bend (h : fldI f) {p k : Nat} (hp : p < nP f) (hk : k < lenP f p) {q : Pt} (hq : ((0 : Int) ≤ q.1 ∧ q.1 ≤ f.1.1) ∧ 0 ≤ q.2 ∧ q.2 ≤ f.1.2) (hr : bendR f p k q = 0) : fldI (insF f p (k + 1) q) := by
  unfold bendR at hr
  have op : (plk f p).2.1 = true := by
    cases e : (plk f p).2.1 with
    | true => rfl
    | false => rw [if_pos e] at hr; cases hr
  rw [op, if_neg (by decide)] at hr
  have nf : (plk f p).2.2.length ≠ 12 := fun e => by rw [if_pos e] at hr; cases hr
  rw [if_neg nf] at hr
  have nt : takenB f q = false := by
    cases e : takenB f q with
    | false => rfl
    | true => rw [if_pos e] at hr; cases hr
  rw [nt, if_neg (by decide)] at hr
  unfold takenB at nt
  rw [Bool.or_eq_false_iff] at nt
  have fr := fun j hj => corn_fresh nt.1 hp (k := j) hj
  have hr2 : lineR f ((p : Int), (k : Int), -1, -1) (corn f p k) q = 0 ∧ lineR f ((p : Int), (k : Int), -1, -1) (sidB f p k) q = 0 := by
    split at hr
    · omega
    · rename_i c
      change ¬ lineR f ((p : Int), (k : Int), -1, -1) (corn f p k) q > 0 at c
      refine ⟨?_, hr⟩
      have : ∀ a b, lineR f ((p : Int), (k : Int), -1, -1) a b ≥ 0 := fun a b => by unfold lineR; repeat' split; all_goals omega
      have := this (corn f p k) q
      omega
  obtain ⟨r1, r2⟩ := hr2
  obtain ⟨b1, m1⟩ := lineR_0 r1
  obtain ⟨b2, m2⟩ := lineR_0 r2
  have l3 : 3 ≤ lenP f p := h.2.2.1 p hp op
  have hl : k + 1 ≤ (plk f p).2.2.length := hk
  have sd : sidesN (plk f p) = lenP f p := by unfold sidesN; rw [op]; rfl
  have ln := insL_len (l := (plk f p).2.2) (k := k + 1) (q := q) hl
  have sd' : sidesN ((plk f p).1, (plk f p).2.1, insL (plk f p).2.2 (k + 1) q) = lenP f p + 1 := by
    unfold sidesN
    rw [op]
    exact ln
  have lo : ∀ i, i < k + 1 → ptk (insL (plk f p).2.2 (k + 1) q) i = corn f p i := fun i hi => insL_lo hl hi
  have at' : ptk (insL (plk f p).2.2 (k + 1) q) (k + 1) = q := insL_at hl
  have hi' : ∀ i, k + 1 < i → ptk (insL (plk f p).2.2 (k + 1) q) i = corn f p (i - 1) := fun i hi => insL_hi hl hi
  have nxk : nx (lenP f p) k ≠ k ∧ nx (lenP f p) k < lenP f p := ⟨by unfold nx; split <;> omega, nx_lt hk⟩
  have B1 : ptk (insL (plk f p).2.2 (k + 1) q) (nx (lenP f p + 1) (k + 1)) = sidB f p k := by
    show _ = ptk (plk f p).2.2 (nx (lenP f p) k)
    rcases Nat.lt_or_ge (k + 1) (lenP f p) with c | c
    · rw [nx_s (by omega), nx_s c, hi' _ (by omega)]; rfl
    · rw [nx_e (by omega), nx_e (by omega), lo 0 (by omega)]
  refine fldI_set h hp (fun j => j = k) (fun i => i = k ∨ i = k + 1) (fun i => if i ≤ k then i else i - 1) (fun i => if i ≤ k then i else i - 1) (k + 1) q (fun _ => nt.1) (fun i hi => ?_) (fun i j a b c d => by (try dsimp only); split <;> split <;> omega) (fun i hi => ?_) (fun i j a b c d => by (try dsimp only at c d ⊢); split <;> split <;> omega) (fun i j a b c d => ?_) (fun _ => ?_) (fun g hg => ?_)
  · dsimp only at hi
    rw [ln] at hi
    dsimp only
    rcases Nat.lt_trichotomy i (k + 1) with c | c | c
    · exact .inl ⟨by omega, by rw [if_pos (by omega)]; unfold lenP; omega, by rw [if_pos (by omega), lo i c]⟩
    · exact .inr ⟨c, by rw [c]; exact at'⟩
    · exact .inl ⟨by omega, by rw [if_neg (by omega)]; unfold lenP; omega, by rw [if_neg (by omega), hi' i c]⟩
  · rw [sd'] at hi
    dsimp only
    rw [ln]
    change _ ∨ (_ ∧ ∀ p_1 k', _ → _ → _ → meB (ptk (insL (plk f p).2.2 (k + 1) q) i) (ptk (insL (plk f p).2.2 (k + 1) q) (nx (lenP f p + 1) i)) _ _ = false)
    by_cases c : i = k ∨ i = k + 1
    · refine .inr ⟨c, fun p' k' a1 a2 a3 => ?_⟩
      rcases c with rfl | rfl
      · rw [nx_s (by omega), at', lo i (by omega)]
        exact m1 p' k' a1 a2 (by show ¬ ((p' : Int) = p ∧ ((k' : Int) = i ∨ (k' : Int) = -1)); omega)
      · rw [B1, at', meB_rv]
        exact m2 p' k' a1 a2 (by show ¬ ((p' : Int) = p ∧ ((k' : Int) = k ∨ (k' : Int) = -1)); omega)
    · refine .inl ⟨c, ?_⟩
      change _ ∧ _ ∧ ptk (insL (plk f p).2.2 (k + 1) q) i = _ ∧ ptk (insL (plk f p).2.2 (k + 1) q) (nx (lenP f p + 1) i) = ptk (plk f p).2.2 (nx (lenP f p) _)
      rw [sd]
      rcases Nat.lt_or_ge i k with d | d
      · rw [if_pos (by omega), lo i (by omega), nx_s (by omega), nx_s (by omega), lo (i + 1) (by omega)]
        exact ⟨by omega, by omega, rfl, rfl⟩
      · rw [if_neg (by omega), hi' i (by omega)]
        refine ⟨by omega, by omega, rfl, ?_⟩
        rcases Nat.lt_or_ge i (lenP f p) with z | z
        · rw [nx_s (by omega), nx_s (by omega), hi' _ (by omega), show i - 1 + 1 = i + 1 - 1 by omega]
        · rw [nx_e (by omega), nx_e (by omega), lo 0 (by omega)]
  · dsimp only at c d ⊢
    rw [ln]
    change meB (ptk (insL (plk f p).2.2 (k + 1) q) i) (ptk (insL (plk f p).2.2 (k + 1) q) (nx (lenP f p + 1) i)) (ptk (insL (plk f p).2.2 (k + 1) q) j) (ptk (insL (plk f p).2.2 (k + 1) q) (nx (lenP f p + 1) j)) = false
    obtain rfl : i = k := by omega
    obtain rfl : j = i + 1 := by omega
    rw [B1, nx_s (by omega), at', lo i (by omega)]
    have w1 := b1 p (nx (lenP f p) i) hp nxk.2 (by show ¬ ((p : Int) = p ∧ ((nx (lenP f p) i : Nat) : Int) = -1); omega)
    have w2 := b2 p i hp hk (by show ¬ ((p : Int) = p ∧ (i : Int) = -1); omega)
    have ne := fldI_ne h hp hk nxk.2 (Ne.symm nxk.1)
    have w3 : wiB q (sidB f p i) (corn f p i) = false := by
      unfold wiB at w2 ⊢
      rw [onB_sw, Bool.and_comm (decide (corn f p i ≠ q))]
      exact w2
    have z1 : ∀ a b : Pt, tnP a b b = 0 := fun a b => by unfold tnP tnZ; grind
    unfold meB crB
    rw [w3, show wiB (corn f p i) q (sidB f p i) = false from w1, z1, show wiB (corn f p i) q q = false by unfold wiB; simp, show wiB q (sidB f p i) q = false by unfold wiB; simp, show apB 0 (tnP (corn f p i) q (sidB f p i)) = false by unfold apB; simp, decide_eq_false]
    · rfl
    · rintro (⟨z, -⟩ | ⟨z, -⟩)
      · exact fr i hk z
      · exact ne z
  · dsimp only
    rw [ln]
    unfold lenP at l3
    omega
  · rcases insL_mem hg with x | x
    · rw [x]; exact hq
    · exact corn_box h hp g x
/-- a corner is taken out -/
theorem fldI_out (h : fldI f) {p k : Nat} (hp : p < nP f) (hk : k < lenP f p) (hr : outR f p k = 0) : fldI (outF f p k) := by
  unfold outR at hr
  have op : (plk f p).2.1 = true := by
    cases e : (plk f p).2.1 with
    | true => rfl
    | false => rw [if_pos e] at hr; cases hr
  rw [op, if_neg (by decide)] at hr
  have nf : (plk f p).2.2.length ≠ 3 := fun e => by rw [if_pos e] at hr; cases hr
  rw [if_neg nf] at hr
  obtain ⟨b1, m1⟩ := lineR_0 hr
  have l3 : 3 ≤ lenP f p := h.2.2.1 p hp op
  have l4 : 4 ≤ lenP f p := by unfold lenP at *; omega
  have sd : sidesN (plk f p) = lenP f p := by unfold sidesN; rw [op]; rfl
  have ln : ((plk f p).2.2.eraseIdx k).length = lenP f p - 1 := outL_len hk
  have sd' : sidesN ((plk f p).1, (plk f p).2.1, (plk f p).2.2.eraseIdx k) = lenP f p - 1 := by
    unfold sidesN
    rw [op]
    exact ln
  have lo : ∀ i, i < k → ptk ((plk f p).2.2.eraseIdx k) i = corn f p i := fun i hi => outL_lo hi
  have hi' : ∀ i, k ≤ i → ptk ((plk f p).2.2.eraseIdx k) i = corn f p (i + 1) := fun i hi => outL_hi hi
  refine fldI_set h hp (fun j => j = pv (lenP f p) k ∨ j = k) (fun i => i = pv (lenP f p - 1) k) (fun i => if i < k then i else i + 1) (fun i => if i < k then i else i + 1) (lenP f p) (0, 0) (fun z => absurd z (by dsimp only; rw [ln]; omega)) (fun i hi => ?_) (fun i j a b c d => by (try dsimp only); split <;> split <;> omega) (fun i hi => ?_) (fun i j a b c d => by (try dsimp only at c d ⊢); split <;> split <;> omega) (fun i j a b c d => by (try dsimp only at c d); omega) (fun _ => ?_) (fun g hg => ?_)
  · dsimp only at hi
    rw [ln] at hi
    dsimp only
    rcases Nat.lt_or_ge i k with c | c
    · exact .inl ⟨by omega, by rw [if_pos c]; omega, by rw [if_pos c, lo i c]⟩
    · exact .inl ⟨by omega, by rw [if_neg (by omega)]; omega, by rw [if_neg (by omega), hi' i c]⟩
  · rw [sd'] at hi
    dsimp only
    rw [ln]
    by_cases c : i = pv (lenP f p - 1) k
    · refine .inr ⟨c, fun p' k' a1 a2 a3 => ?_⟩
      have g1 : ptk ((plk f p).2.2.eraseIdx k) i = corn f p (pv (lenP f p) k) := by
        unfold pv at c ⊢
        split at c
        · rw [if_pos (by assumption), hi' i (by omega)]
          congr 1
          omega
        · rw [if_neg (by assumption), lo i (by omega), c]
      have g2 : ptk ((plk f p).2.2.eraseIdx k) (nx (lenP f p - 1) i) = corn f p (nx (lenP f p) k) := by
        unfold pv at c
        split at c
        · rename_i k0
          rw [nx_e (by omega), nx_s (by omega), hi' 0 (by omega), k0]
        · rcases Nat.lt_or_ge (k + 1) (lenP f p) with d | d
          · rw [nx_s (by omega), nx_s d, hi' _ (by omega), show i + 1 + 1 = k + 1 by omega]
          · rw [nx_e (by omega), nx_e (by omega), lo 0 (by omega)]
      rw [g1, g2]
      exact m1 p' k' a1 a2 (by
        rintro ⟨z1, z2⟩
        change (p' : Int) = p at z1
        change (k' : Int) = (pv (lenP f p) k : Nat) ∨ (k' : Int) = k at z2
        refine a3 ⟨by omega, ?_⟩
        rcases z2 with z2 | z2
        · left; omega
        · right; omega)
    · refine .inl ⟨c, ?_⟩
      change _ ∧ _ ∧ _ ∧ ptk ((plk f p).2.2.eraseIdx k) (nx (lenP f p - 1) i) = ptk (plk f p).2.2 (nx (lenP f p) _)
      rw [sd]
      unfold pv at c ⊢
      rcases Nat.lt_or_ge i k with d | d
      · rw [if_neg (by omega)] at c
        rw [if_pos d, lo i d, nx_s (by omega), nx_s (by omega), lo (i + 1) (by omega), if_neg (by omega)]
        exact ⟨by omega, by omega, rfl, rfl⟩
      · rw [if_neg (by omega), hi' i d]
        refine ⟨by omega, by split at c <;> split <;> omega, rfl, ?_⟩
        rcases Nat.lt_or_ge (i + 1) (lenP f p - 1) with z | z
        · rw [nx_s z, nx_s (by omega), hi' _ (by omega)]
        · rw [nx_e (by omega), nx_e (by omega)]
          split at c
          · omega
          · rw [lo 0 (by omega)]
  · dsimp only
    rw [ln]
    omega
  · exact corn_box h hp g (List.mem_of_mem_eraseIdx hg)
/-- a new polygon -/
theorem fldI_add (h : fldI f) {o : Int} {q : Pt} (hq : ((0 : Int) ≤ q.1 ∧ q.1 ≤ f.1.1) ∧ 0 ≤ q.2 ∧ q.2 ≤ f.1.2) (hr : takenB f q = false) : fldI (addF f o q) := by
  unfold takenB at hr
  rw [Bool.or_eq_false_iff] at hr
  have lt : ∀ p, p < nP (addF f o q) → p < nP f ∨ p = nP f := fun p hp => by rw [addF_n] at hp; omega
  have ls : lenP (addF f o q) (nP f) = 1 := by unfold lenP; rw [addF_s]; rfl
  have cs : ∀ k, k < 1 → corn (addF f o q) (nP f) k = q := fun k hk => by unfold corn; rw [addF_s, show k = 0 by omega]; rfl
  have ss : sidesN (plk (addF f o q) (nP f)) = 0 := by rw [addF_s]; rfl
  refine ⟨?_, ?_, ?_, ?_⟩
  · intro p k p' k' a1 a2 a3 a4 a5
    rcases lt p a1 with c | rfl <;> rcases lt p' a3 with d | rfl
    · unfold lenP corn at *
      rw [addF_o c, addF_o d] at *
      exact h.1 _ _ _ _ c a2 d a4 a5
    · rw [ls] at a4
      rw [cs k' a4]
      unfold lenP corn at *
      rw [addF_o c] at *
      exact corn_fresh hr.1 c a2
    · rw [ls] at a2
      rw [cs k a2]
      unfold lenP corn at *
      rw [addF_o d] at *
      exact (corn_fresh hr.1 d a4).symm
    · rw [ls] at a2 a4
      omega
  · intro p k p' k' a1 a2 a3 a4 a5
    rcases lt p a1 with c | rfl
    · rcases lt p' a3 with d | rfl
      · unfold corn sidB
        rw [addF_o c, addF_o d] at *
        exact h.2.1 _ _ _ _ c a2 d a4 a5
      · rw [ss] at a4; omega
    · rw [ss] at a2; omega
  · intro p a1 a2
    rcases lt p a1 with c | rfl
    · unfold lenP
      rw [addF_o c] at *
      exact h.2.2.1 p c a2
    · rw [addF_s] at a2; cases a2
  · intro pl hpl
    rcases List.mem_append.mp hpl with x | x
    · exact h.2.2.2 pl x
    · obtain rfl := List.mem_singleton.mp x
      intro g hg
      obtain rfl := List.mem_singleton.mp hg
      exact hq
/-- a polygon is removed -/
theorem fldI_rem (h : fldI f) {p0 : Nat} (hp : p0 < nP f) : fldI (remF f p0) := by
  have key : ∀ p, p < nP (remF f p0) → ∃ j, j < nP f ∧ plk (remF f p0) p = plk f j ∧ j = if p < p0 then p else p + 1 := fun p h1 => by
    rw [remF_n hp] at h1
    rcases Nat.lt_or_ge p p0 with c | c
    · exact ⟨p, by omega, remF_lo c, by rw [if_pos c]⟩
    · exact ⟨p + 1, by omega, remF_hi c, by rw [if_neg (by omega)]⟩
  refine ⟨?_, ?_, ?_, ?_⟩
  · intro p k p' k' a1 a2 a3 a4 a5
    obtain ⟨j, j1, j2, j3⟩ := key p a1
    obtain ⟨i, i1, i2, i3⟩ := key p' a3
    unfold lenP at *
    unfold corn at *
    rw [j2] at a2
    rw [i2] at a4
    rw [j2, i2]
    refine h.1 _ _ _ _ j1 a2 i1 a4 ?_
    split at j3 <;> split at i3 <;> omega
  · intro p k p' k' a1 a2 a3 a4 a5
    obtain ⟨j, j1, j2, j3⟩ := key p a1
    obtain ⟨i, i1, i2, i3⟩ := key p' a3
    unfold sidB corn at *
    rw [j2] at a2
    rw [i2] at a4
    rw [j2, i2]
    refine h.2.1 _ _ _ _ j1 a2 i1 a4 ?_
    split at j3 <;> split at i3 <;> omega
  · intro p a1 a2
    obtain ⟨j, j1, j2, j3⟩ := key p a1
    unfold lenP
    rw [j2] at a2 ⊢
    exact h.2.2.1 j j1 a2
  · intro pl hpl
    exact h.2.2.2 pl (List.mem_of_mem_eraseIdx hpl)
end INV2

