/-! ===== changes of a field's value, and of the data ===== -/
def insL (l : List Pt) (k : Nat) (q : Pt) : List Pt := l.take k ++ q :: l.drop k
def setP (f : Fld) (p : Nat) (pl : Poly) : Fld := (f.1, f.2.1, f.2.2.1, f.2.2.2.set p pl)
def insF (f : Fld) (p k : Nat) (q : Pt) : Fld := setP f p ((plk f p).1, (plk f p).2.1, insL (plk f p).2.2 k q)
def addF (f : Fld) (o : Int) (q : Pt) : Fld := (f.1, f.2.1, f.2.2.1, f.2.2.2 ++ [(o, false, [q])])
def closeF (f : Fld) (p : Nat) : Fld := setP f p ((plk f p).1, true, (plk f p).2.2)
def outF (f : Fld) (p k : Nat) : Fld := setP f p ((plk f p).1, (plk f p).2.1, (plk f p).2.2.eraseIdx k)
def remF (f : Fld) (p : Nat) : Fld := (f.1, f.2.1, f.2.2.1, f.2.2.2.eraseIdx p)
section UPD
variable {f : Fld}
theorem setP_n {p : Nat} {pl : Poly} : nP (setP f p pl) = nP f := List.length_set
theorem setP_s {p : Nat} {pl : Poly} (hp : p < nP f) : plk (setP f p pl) p = pl := by
  unfold plk setP nP at *
  dsimp only
  rw [List.getD_eq_getElem?_getD, List.getElem?_set_self hp]
  rfl
theorem setP_o {p j : Nat} {pl : Poly} (hj : j ≠ p) : plk (setP f p pl) j = plk f j := by
  unfold plk setP
  dsimp only
  rw [List.getD_eq_getElem?_getD, List.getD_eq_getElem?_getD, List.getElem?_set_ne (Ne.symm hj)]
theorem insL_len {l : List Pt} {k : Nat} {q : Pt} (hk : k ≤ l.length) : (insL l k q).length = l.length + 1 := by
  unfold insL
  rw [List.length_append, List.length_cons, List.length_take, List.length_drop]
  omega
theorem insL_lo {l : List Pt} {k i : Nat} {q : Pt} (hk : k ≤ l.length) (hi : i < k) : ptk (insL l k q) i = ptk l i := by
  unfold ptk insL
  rw [List.getD_eq_getElem?_getD, List.getD_eq_getElem?_getD, List.getElem?_append_left (by rw [List.length_take]; omega), List.getElem?_take_of_lt hi]
theorem insL_at {l : List Pt} {k : Nat} {q : Pt} (hk : k ≤ l.length) : ptk (insL l k q) k = q := by
  unfold ptk insL
  rw [List.getD_eq_getElem?_getD, List.getElem?_append_right (by rw [List.length_take]; omega), List.length_take, Nat.min_eq_left hk, Nat.sub_self]
  rfl
theorem insL_hi {l : List Pt} {k i : Nat} {q : Pt} (hk : k ≤ l.length) (hi : k < i) : ptk (insL l k q) i = ptk l (i - 1) := by
  unfold ptk insL
  rw [List.getD_eq_getElem?_getD, List.getD_eq_getElem?_getD, List.getElem?_append_right (by rw [List.length_take]; omega), List.length_take, Nat.min_eq_left hk, show i - k = (i - 1 - k) + 1 by omega, List.getElem?_cons_succ, List.getElem?_drop]
  congr 2
  omega
theorem outL_len {l : List Pt} {k : Nat} (hk : k < l.length) : (l.eraseIdx k).length = l.length - 1 := List.length_eraseIdx_of_lt hk
theorem outL_lo {l : List Pt} {k i : Nat} (hi : i < k) : ptk (l.eraseIdx k) i = ptk l i := by
  unfold ptk
  rw [List.getD_eq_getElem?_getD, List.getD_eq_getElem?_getD, List.getElem?_eraseIdx_of_lt hi]
theorem outL_hi {l : List Pt} {k i : Nat} (hi : k ≤ i) : ptk (l.eraseIdx k) i = ptk l (i + 1) := by
  unfold ptk
  rw [List.getD_eq_getElem?_getD, List.getD_eq_getElem?_getD, List.getElem?_eraseIdx_of_ge hi]
theorem remF_n {p : Nat} (hp : p < nP f) : nP (remF f p) = nP f - 1 := List.length_eraseIdx_of_lt hp
theorem remF_lo {p i : Nat} (hi : i < p) : plk (remF f p) i = plk f i := by
  unfold plk remF
  dsimp only
  rw [List.getD_eq_getElem?_getD, List.getD_eq_getElem?_getD, List.getElem?_eraseIdx_of_lt hi]
theorem remF_hi {p i : Nat} (hi : p ≤ i) : plk (remF f p) i = plk f (i + 1) := by
  unfold plk remF
  dsimp only
  rw [List.getD_eq_getElem?_getD, List.getD_eq_getElem?_getD, List.getElem?_eraseIdx_of_ge hi]
theorem addF_n {o : Int} {q : Pt} : nP (addF f o q) = nP f + 1 := by
  unfold nP addF
  dsimp only
  rw [List.length_append]
  rfl
theorem addF_o {o : Int} {q : Pt} {p : Nat} (hp : p < nP f) : plk (addF f o q) p = plk f p := by
  unfold plk addF nP at *
  dsimp only
  rw [List.getD_eq_getElem?_getD, List.getD_eq_getElem?_getD, List.getElem?_append_left hp]
theorem addF_s {o : Int} {q : Pt} : plk (addF f o q) (nP f) = (o, false, [q]) := by
  unfold plk addF nP
  dsimp only
  rw [List.getD_eq_getElem?_getD, List.getElem?_append_right (Nat.le_refl _), Nat.sub_self]
  rfl
/-- bounds stay -/
theorem setP_B {p : Nat} {pl : Poly} (hf : fldB f) (hp : plB pl) : fldB (setP f p pl) := by
  obtain ⟨h1, h2, h3, h4, h5, h6⟩ := hf
  refine ⟨h1, h2, h3, by rw [setP_n]; exact h4, fun g hg => ?_, h6⟩
  rcases List.mem_or_eq_of_mem_set hg with x | x
  · exact h5 g x
  · rw [x]; exact hp
theorem insL_mem {l : List Pt} {k : Nat} {q g : Pt} (h : g ∈ insL l k q) : g = q ∨ g ∈ l := by
  unfold insL at h
  rcases List.mem_append.mp h with x | x
  · exact Or.inr (List.mem_of_mem_take x)
  · rcases List.mem_cons.mp x with x | x
    · exact Or.inl x
    · exact Or.inr (List.mem_of_mem_drop x)
theorem insF_B {p k : Nat} {q : Pt} (hf : fldB f) (hp : p < nP f) (hk : k ≤ (plk f p).2.2.length) (hl : (plk f p).2.2.length < 12) (hq : ptB q) : fldB (insF f p k q) := by
  have hpl := plk_B hf hp
  refine setP_B hf ⟨hpl.1, ?_, ?_, fun g hg => ?_⟩
  · show 1 ≤ (insL _ k q).length
    rw [insL_len hk]; omega
  · show (insL _ k q).length ≤ 12
    rw [insL_len hk]; omega
  · rcases insL_mem hg with x | x
    · rw [x]; exact hq
    · exact hpl.2.2.2 g x
theorem closeF_B {p : Nat} (hf : fldB f) (hp : p < nP f) : fldB (closeF f p) := setP_B hf (plk_B hf hp)
theorem outF_B {p k : Nat} (hf : fldB f) (hp : p < nP f) (hk : k < (plk f p).2.2.length) (hl : 1 < (plk f p).2.2.length) : fldB (outF f p k) := by
  have hpl := plk_B hf hp
  refine setP_B hf ⟨hpl.1, ?_, ?_, fun g hg => hpl.2.2.2 g (List.mem_of_mem_eraseIdx hg)⟩
  · show 1 ≤ (List.eraseIdx _ k).length
    rw [outL_len hk]; omega
  · show (List.eraseIdx _ k).length ≤ 12
    rw [outL_len hk]; have := hpl.2.2.1; omega
theorem remF_B {p : Nat} (hf : fldB f) (hp : p < nP f) : fldB (remF f p) := by
  obtain ⟨h1, h2, h3, h4, h5, h6⟩ := hf
  refine ⟨h1, h2, h3, by rw [remF_n hp]; omega, fun g hg => h5 g (List.mem_of_mem_eraseIdx hg), h6⟩
theorem addF_B {o : Int} {q : Pt} (hf : fldB f) (hn : nP f < 6) (ho : 0 ≤ o ∧ o ≤ 3) (hq : ptB q) : fldB (addF f o q) := by
  obtain ⟨h1, h2, h3, h4, h5, h6⟩ := hf
  refine ⟨h1, h2, h3, by rw [addF_n]; omega, fun g hg => ?_, h6⟩
  rcases List.mem_append.mp hg with x | x
  · exact h5 g x
  · rw [List.mem_singleton] at x
    rw [x]
    refine ⟨ho, Nat.le_refl _, (show (1 : Nat) ≤ 12 by decide), fun r hr => ?_⟩
    rw [List.mem_singleton] at hr
    rw [hr]; exact hq
/-- the data of a changed field -/
theorem TE.setP {D D' : Nat → Int} (hf : fldB f) (h : TE D f) {p : Nat} {pl : Poly} (hp : p < nP f) (hD : ∀ j, j < 66 + 27 * p ∨ 66 + 27 * p + 27 ≤ j → D' j = D j) (hP : PE D' (66 + 27 * p) pl) : TE D' (setP f p pl) := by
  have h20 := hf.2.1
  have h6 := hf.2.2.2.1
  obtain ⟨h0, h1, h2, h3, ⟨h4, h5, hcd⟩, hs, hpp⟩ := h
  refine ⟨(hD _ (by omega)).trans h0, (hD _ (by omega)).trans h1, (hD _ (by omega)).trans h2, ?_, ⟨(hD _ (by omega)).trans h4, (hD _ (by omega)).trans h5, fun i hi => (hD _ (by omega)).trans (hcd i hi)⟩, fun k hk => ?_, fun j hj => ?_⟩
  · rw [setP_n]
    exact (hD _ (by omega)).trans h3
  · obtain ⟨s1, s2, s3⟩ := hs k hk
    have hk : k < nS f := hk
    exact ⟨(hD _ (by omega)).trans s1, (hD _ (by omega)).trans s2, (hD _ (by omega)).trans s3⟩
  · rw [setP_n] at hj
    by_cases e : j = p
    · subst e
      rw [setP_s hp]; exact hP
    · rw [setP_o e]
      have hb := (plk_B hf hj).2.2.1
      obtain ⟨p1, p2, p3, p4⟩ := hpp j hj
      refine ⟨(hD _ (by omega)).trans p1, (hD _ (by omega)).trans p2, (hD _ (by omega)).trans p3, fun k hk => ⟨(hD _ (by omega)).trans (p4 k hk).1, (hD _ (by omega)).trans (p4 k hk).2⟩⟩
theorem TE.ins {D D' : Nat → Int} (hf : fldB f) (h : TE D f) {p k : Nat} {q : Pt} (hp : p < nP f) (hk : k ≤ (plk f p).2.2.length) (hl : (plk f p).2.2.length < 12) (hD : ∀ j, D' j = putD D (66 + 27 * p) (plk f p).2.2.length k q.1 q.2 j) : TE D' (insF f p k q) := by
  obtain ⟨p1, p2, p3, p4⟩ := h.2.2.2.2.2.2 p hp
  refine h.setP hf hp (fun j hj => ?_) ⟨?_, ?_, ?_, fun i hi => ?_⟩
  · rw [hD]; unfold putD
    rw [if_neg (by omega), if_neg (by omega), if_neg (by omega), if_neg (by omega)]
  · rw [hD]; unfold putD
    rw [if_neg (by omega), if_neg (by omega), if_neg (by omega), if_neg (by omega)]
    exact p1
  · rw [hD]; unfold putD
    rw [if_pos rfl]
    show _ = ((insL _ k q).length : Int)
    rw [insL_len hk]; rfl
  · rw [hD]; unfold putD
    rw [if_neg (by omega), if_neg (by omega), if_neg (by omega), if_neg (by omega)]
    exact p3
  · have hi : i < (insL (plk f p).2.2 k q).length := hi
    rw [insL_len hk] at hi
    show _ = (ptk (insL (plk f p).2.2 k q) i).1 ∧ _ = (ptk (insL (plk f p).2.2 k q) i).2
    rw [hD, hD]; unfold putD
    rcases Nat.lt_trichotomy i k with x | x | x
    · rw [insL_lo hk x, if_neg (by omega), if_neg (by omega), if_neg (by omega), if_neg (by omega), if_neg (by omega), if_neg (by omega), if_neg (by omega), if_neg (by omega)]
      exact p4 i (by omega)
    · subst x
      rw [insL_at hk, if_neg (by omega), if_pos rfl, if_neg (by omega), if_neg (by omega), if_pos rfl]
      exact ⟨rfl, rfl⟩
    · rw [insL_hi hk x, if_neg (by omega), if_neg (by omega), if_neg (by omega), if_pos (by omega), if_neg (by omega), if_neg (by omega), if_neg (by omega), if_pos (by omega)]
      have := p4 (i - 1) (by omega)
      rw [show 66 + 27 * p + 3 + 2 * i - 2 = 66 + 27 * p + 3 + 2 * (i - 1) by omega, show 66 + 27 * p + 3 + 2 * i + 1 - 2 = 66 + 27 * p + 3 + 2 * (i - 1) + 1 by omega]
      exact this
theorem TE.close {D D' : Nat → Int} (hf : fldB f) (h : TE D f) {p : Nat} (hp : p < nP f) (hD : ∀ j, D' j = if j = 66 + 27 * p + 2 then 1 else D j) : TE D' (closeF f p) := by
  obtain ⟨p1, p2, p3, p4⟩ := h.2.2.2.2.2.2 p hp
  refine h.setP hf hp (fun j hj => ?_) ⟨?_, ?_, ?_, fun i hi => ?_⟩
  · rw [hD, if_neg (by omega)]
  · rw [hD, if_neg (by omega)]; exact p1
  · rw [hD, if_neg (by omega)]; exact p2
  · rw [hD, if_pos rfl]; rfl
  · rw [hD, hD, if_neg (by omega), if_neg (by omega)]
    exact p4 i hi
theorem TE.out {D D' : Nat → Int} (hf : fldB f) (h : TE D f) {p k : Nat} (hp : p < nP f) (hk : k < (plk f p).2.2.length) (hD : ∀ j, D' j = if j = 66 + 27 * p + 1 then ((plk f p).2.2.length : Int) - 1 else if 66 + 27 * p + 3 + 2 * k ≤ j ∧ j < 66 + 27 * p + 3 + 2 * ((plk f p).2.2.length - 1) then D (j + 2) else D j) : TE D' (outF f p k) := by
  have hb := (plk_B hf hp).2.2.1
  obtain ⟨p1, p2, p3, p4⟩ := h.2.2.2.2.2.2 p hp
  refine h.setP hf hp (fun j hj => ?_) ⟨?_, ?_, ?_, fun i hi => ?_⟩
  · rw [hD, if_neg (by omega), if_neg (by omega)]
  · rw [hD, if_neg (by omega), if_neg (by omega)]; exact p1
  · rw [hD, if_pos rfl]
    show _ = ((List.eraseIdx _ k).length : Int)
    rw [outL_len hk]; omega
  · rw [hD, if_neg (by omega), if_neg (by omega)]; exact p3
  · have hi : i < ((plk f p).2.2.eraseIdx k).length := hi
    rw [outL_len hk] at hi
    show _ = (ptk ((plk f p).2.2.eraseIdx k) i).1 ∧ _ = (ptk ((plk f p).2.2.eraseIdx k) i).2
    by_cases x : i < k
    · rw [outL_lo x, hD (66 + 27 * p + 3 + 2 * i), if_neg (by omega), if_neg (by omega), hD, if_neg (by omega), if_neg (by omega)]
      exact p4 i (by omega)
    · rw [outL_hi (by omega), hD (66 + 27 * p + 3 + 2 * i), if_neg (by omega), if_pos (by omega), hD, if_neg (by omega), if_pos (by omega)]
      have := p4 (i + 1) (by omega)
      rw [show 66 + 27 * p + 3 + 2 * i + 2 = 66 + 27 * p + 3 + 2 * (i + 1) by omega, show 66 + 27 * p + 3 + 2 * i + 1 + 2 = 66 + 27 * p + 3 + 2 * (i + 1) + 1 by omega]
      exact this
theorem TE.rem {D D' : Nat → Int} (hf : fldB f) (h : TE D f) {p : Nat} (hp : p < nP f) (hD : ∀ j, D' j = if j = 3 then (nP f : Int) - 1 else if 66 + 27 * p ≤ j ∧ j < 66 + 27 * (nP f - 1) then D (j + 27) else D j) : TE D' (remF f p) := by
  have h20 := hf.2.1
  have h6 := hf.2.2.2.1
  have e : ∀ j, j ≠ 3 → j < 66 + 27 * p ∨ 228 ≤ j → D' j = D j := fun j a b => by rw [hD, if_neg a, if_neg (by omega)]
  obtain ⟨h0, h1, h2, h3, ⟨h4, h5, hcd⟩, hs, hpp⟩ := h
  refine ⟨(e _ (by omega) (by omega)).trans h0, (e _ (by omega) (by omega)).trans h1, (e _ (by omega) (by omega)).trans h2, ?_, ⟨(e _ (by omega) (by omega)).trans h4, (e _ (by omega) (by omega)).trans h5, fun i hi => (e _ (by omega) (by omega)).trans (hcd i hi)⟩, fun k hk => ?_, fun j hj => ?_⟩
  · rw [hD, if_pos rfl, remF_n hp]; omega
  · obtain ⟨s1, s2, s3⟩ := hs k hk
    have hk : k < nS f := hk
    exact ⟨(e _ (by omega) (by omega)).trans s1, (e _ (by omega) (by omega)).trans s2, (e _ (by omega) (by omega)).trans s3⟩
  · rw [remF_n hp] at hj
    by_cases x : j < p
    · rw [remF_lo x]
      have hb := (plk_B hf (p := j) (by omega)).2.2.1
      obtain ⟨p1, p2, p3, p4⟩ := hpp j (by omega)
      exact ⟨(e _ (by omega) (by omega)).trans p1, (e _ (by omega) (by omega)).trans p2, (e _ (by omega) (by omega)).trans p3, fun k hk => ⟨(e _ (by omega) (by omega)).trans (p4 k hk).1, (e _ (by omega) (by omega)).trans (p4 k hk).2⟩⟩
    · rw [remF_hi (by omega)]
      have hb := (plk_B hf (p := j + 1) (by omega)).2.2.1
      obtain ⟨p1, p2, p3, p4⟩ := hpp (j + 1) (by omega)
      have e2 : ∀ i, i < 27 → D' (66 + 27 * j + i) = D (66 + 27 * (j + 1) + i) := fun i hi => by
        rw [hD, if_neg (by omega), if_pos (by omega)]
        congr 1
        omega
      refine ⟨(e2 0 (by omega)).trans p1, (e2 1 (by omega)).trans p2, (e2 2 (by omega)).trans p3, fun k hk => ?_⟩
      have a1 := e2 (3 + 2 * k) (by omega)
      have a2 := e2 (3 + 2 * k + 1) (by omega)
      simp only [← Nat.add_assoc] at a1 a2
      exact ⟨a1.trans (p4 k hk).1, a2.trans (p4 k hk).2⟩
theorem TE.add {D D' : Nat → Int} (hf : fldB f) (h : TE D f) (hn : nP f < 6) {o : Int} {q : Pt} (hD : ∀ j, D' j = begD D (nP f) o q.1 q.2 j) : TE D' (addF f o q) := by
  have h20 := hf.2.1
  have h6 := hf.2.2.2.1
  have e : ∀ j, j ≠ 3 → j < 66 + 27 * nP f ∨ 228 ≤ j → D' j = D j := fun j a b => by
    rw [hD]; unfold begD
    rw [if_neg (by omega), if_neg (by omega), if_neg (by omega), if_neg (by omega), if_neg (by omega), if_neg (by omega)]
  obtain ⟨h0, h1, h2, h3, ⟨h4, h5, hcd⟩, hs, hpp⟩ := h
  refine ⟨(e _ (by omega) (by omega)).trans h0, (e _ (by omega) (by omega)).trans h1, (e _ (by omega) (by omega)).trans h2, ?_, ⟨(e _ (by omega) (by omega)).trans h4, (e _ (by omega) (by omega)).trans h5, fun i hi => (e _ (by omega) (by omega)).trans (hcd i hi)⟩, fun k hk => ?_, fun j hj => ?_⟩
  · rw [hD, addF_n]; unfold begD
    rw [if_neg (by omega), if_neg (by omega), if_neg (by omega), if_pos rfl]
    rfl
  · obtain ⟨s1, s2, s3⟩ := hs k hk
    have hk : k < nS f := hk
    exact ⟨(e _ (by omega) (by omega)).trans s1, (e _ (by omega) (by omega)).trans s2, (e _ (by omega) (by omega)).trans s3⟩
  · rw [addF_n] at hj
    by_cases x : j < nP f
    · rw [addF_o x]
      have hb := (plk_B hf x).2.2.1
      obtain ⟨p1, p2, p3, p4⟩ := hpp j x
      exact ⟨(e _ (by omega) (by omega)).trans p1, (e _ (by omega) (by omega)).trans p2, (e _ (by omega) (by omega)).trans p3, fun k hk => ⟨(e _ (by omega) (by omega)).trans (p4 k hk).1, (e _ (by omega) (by omega)).trans (p4 k hk).2⟩⟩
    · have x : j = nP f := by omega
      subst x
      rw [addF_s]
      refine ⟨?_, ?_, ?_, fun k hk => ?_⟩
      · rw [hD]; unfold begD
        rw [if_neg (by omega), if_neg (by omega), if_neg (by omega), if_neg (by omega), if_neg (by omega), if_pos rfl]
      · rw [hD]; unfold begD
        rw [if_pos rfl]; rfl
      · rw [hD]; unfold begD
        rw [if_neg (by omega), if_neg (by omega), if_neg (by omega), if_neg (by omega), if_pos rfl]
        rfl
      · have hk : k < 1 := hk
        have hk : k = 0 := by omega
        subst hk
        rw [hD, hD]; unfold begD
        rw [if_neg (by omega), if_pos (by omega), if_neg (by omega), if_neg (by omega), if_pos (by omega)]
        exact ⟨rfl, rfl⟩
end UPD

