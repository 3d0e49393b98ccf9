/-! ===== the mathematical value of a field, and what is asked of it ===== -/
abbrev Pt : Type := Int × Int
/-- owner, closed, corners -/
abbrev Poly : Type := Int × Bool × List Pt
/-- a score's expression: literals .int, variables .arg (area, stones, corners, dents, inner), .add .sub .mul .div -/
abbrev Sc : Type := Jvm.Term
/-- width, height; stones (point, value); the score, if any; polygons -/
abbrev Fld : Type := (Int × Int) × List (Pt × Int) × Option Sc × List Poly
/-- its code in postfix order -/
def cdS : Sc → List Int
  | .int v => [0, v.toInt]
  | .arg i => [1, (i : Int)]
  | .add a b => cdS a ++ cdS b ++ [2]
  | .sub a b => cdS a ++ cdS b ++ [3]
  | .mul a b => cdS a ++ cdS b ++ [4]
  | .div a b => cdS a ++ cdS b ++ [5]
  | _ => []
def wfS : Sc → Prop
  | .int v => 0 ≤ v.toInt ∧ v.toInt ≤ 9999
  | .arg i => i ≤ 4
  | .add a b => wfS a ∧ wfS b
  | .sub a b => wfS a ∧ wfS b
  | .mul a b => wfS a ∧ wfS b
  | .div a b => wfS a ∧ wfS b
  | _ => False
def lim6 (v : Int) : Int := if 1000000 < v then 1000000 else if v < -1000000 then -1000000 else v
def evS (env : Nat → Int) : Sc → Int
  | .int v => v.toInt
  | .arg i => env i
  | .add a b => lim6 (evS env a + evS env b)
  | .sub a b => lim6 (evS env a - evS env b)
  | .mul a b => lim6 (evS env a * evS env b)
  | .div a b => if evS env b = 0 then 0 else (evS env a).tdiv (evS env b)
  | _ => 0
def lim5 (v : Int) : Int := if v < -99999 then -99999 else if 99999 < v then 99999 else v
def anyN (n : Nat) (f : Nat → Bool) : Bool := (List.range n).any f
theorem anyN_t {n k : Nat} {f : Nat → Bool} (hk : k < n) (hf : f k = true) : anyN n f = true := List.any_eq_true.mpr ⟨k, List.mem_range.mpr hk, hf⟩
theorem anyN_f {n : Nat} {f : Nat → Bool} (h : ∀ k, k < n → f k = false) : anyN n f = false := by
  cases e : anyN n f with
  | false => rfl
  | true =>
    obtain ⟨k, hk, hf⟩ := List.any_eq_true.mp e
    rw [h k (List.mem_range.mp hk)] at hf
    cases hf
theorem anyN_iff {n : Nat} {f : Nat → Bool} : anyN n f = true ↔ ∃ k, k < n ∧ f k = true := by
  constructor
  · intro e
    obtain ⟨k, hk, hf⟩ := List.any_eq_true.mp e
    exact ⟨k, List.mem_range.mp hk, hf⟩
  · rintro ⟨k, hk, hf⟩
    exact anyN_t hk hf
theorem anyN_congr {n : Nat} {f g : Nat → Bool} (h : ∀ k, k < n → f k = g k) : anyN n f = anyN n g := by
  cases e : anyN n g with
  | true =>
    obtain ⟨k, hk, hg⟩ := anyN_iff.mp e
    exact anyN_t hk (by rw [h k hk]; exact hg)
  | false =>
    refine anyN_f fun k hk => ?_
    rw [h k hk]
    cases eg : g k with
    | false => rfl
    | true => rw [anyN_t hk eg] at e; cases e
def foldN {α : Type} (f : Nat → α → α) (a : α) : Nat → α
  | 0 => a
  | n + 1 => f n (foldN f a n)
def sumN (f : Nat → Int) (n : Nat) : Int := foldN (fun k s => s + f k) 0 n
def cntN (f : Nat → Bool) (n : Nat) : Int := sumN (fun k => if f k = true then 1 else 0) n
theorem sumN_0 (f : Nat → Int) : sumN f 0 = 0 := rfl
theorem sumN_s (f : Nat → Int) (n : Nat) : sumN f (n + 1) = sumN f n + f n := rfl
/-- the turn of three points -/
def tnZ (ax ay bx by' cx cy : Int) : Int := (bx - ax) * (cy - ay) - (by' - ay) * (cx - ax)
def tnP (a b c : Pt) : Int := tnZ a.1 a.2 b.1 b.2 c.1 c.2
def inB (v a b : Int) : Bool := decide (a ≤ v ∧ v ≤ b)
/-- p is on the line from a to b -/
def onB (a b p : Pt) : Bool := decide (tnP a b p = 0) && (inB p.1 (min a.1 b.1) (max a.1 b.1) && inB p.2 (min a.2 b.2) (max a.2 b.2))
def apB (a b : Int) : Bool := decide ((a < 0 ∧ 0 < b) ∨ (0 < a ∧ b < 0))
def crB (a b c d : Pt) : Bool := apB (tnP a b c) (tnP a b d) && apB (tnP c d a) (tnP c d b)
def wiB (a b p : Pt) : Bool := onB a b p && (decide (p ≠ a) && decide (p ≠ b))
/-- the reference's question whether a line and a side meet -/
def meB (a b c d : Pt) : Bool := crB a b c d || (wiB a b c || (wiB a b d || (wiB c d a || wiB c d b))) || decide ((a = c ∧ b = d) ∨ (a = d ∧ b = c))
def ptk (l : List Pt) (k : Nat) : Pt := l.getD k (0, 0)
def nx (n k : Nat) : Nat := if k + 1 = n then 0 else k + 1
def pv (n k : Nat) : Nat := if k = 0 then n - 1 else k - 1
def sidesN (pl : Poly) : Nat := if pl.2.1 = true then pl.2.2.length else pl.2.2.length - 1
def plk (f : Fld) (p : Nat) : Poly := f.2.2.2.getD p (0, false, [])
def stk' (f : Fld) (k : Nat) : Pt × Int := f.2.1.getD k ((0, 0), 0)
def nP (f : Fld) : Nat := f.2.2.2.length
def nS (f : Fld) : Nat := f.2.1.length
def isStoneB (f : Fld) (q : Pt) : Bool := anyN (nS f) fun k => decide ((stk' f k).1 = q)
def isCornB (f : Fld) (q : Pt) : Bool := anyN (nP f) fun p => anyN (plk f p).2.2.length fun k => decide (ptk (plk f p).2.2 k = q)
def takenB (f : Fld) (q : Pt) : Bool := isCornB f q || isStoneB f q
def onSideB (f : Fld) (q : Pt) : Bool := anyN (nP f) fun p => anyN (sidesN (plk f p)) fun k => onB (ptk (plk f p).2.2 k) (ptk (plk f p).2.2 (nx (plk f p).2.2.length k)) q
/-- what goes: polygon, two sides, a corner -/
abbrev Gs : Type := Int × Int × Int × Int
def blockB (f : Fld) (g : Gs) (a b : Pt) : Bool := anyN (nS f) (fun k => onB a b (stk' f k).1) || anyN (nP f) fun p => anyN (plk f p).2.2.length fun k => !(decide ((p : Int) = g.1 ∧ (k : Int) = g.2.2.2)) && wiB a b (ptk (plk f p).2.2 k)
def crossB (f : Fld) (g : Gs) (a b : Pt) : Bool := anyN (nP f) fun p => anyN (sidesN (plk f p)) fun k => !(decide ((p : Int) = g.1 ∧ ((k : Int) = g.2.1 ∨ (k : Int) = g.2.2.1))) && meB a b (ptk (plk f p).2.2 k) (ptk (plk f p).2.2 (nx (plk f p).2.2.length k))
def lineR (f : Fld) (g : Gs) (a b : Pt) : Int := if blockB f g a b = true then 4 else if crossB f g a b = true then 5 else 0
def cornR (f : Fld) (p : Nat) (q : Pt) : Int := if (plk f p).2.1 = true then 1 else if (plk f p).2.2.length = 12 then 2 else if takenB f q = true then 3 else lineR f (-1, -1, -1, -1) (ptk (plk f p).2.2 ((plk f p).2.2.length - 1)) q
def closR (f : Fld) (p : Nat) : Int := if (plk f p).2.1 = true then 1 else if (plk f p).2.2.length < 3 then 6 else lineR f (-1, -1, -1, -1) (ptk (plk f p).2.2 ((plk f p).2.2.length - 1)) (ptk (plk f p).2.2 0)
def bendR (f : Fld) (p k : Nat) (q : Pt) : Int := if (plk f p).2.1 = false then 1 else if (plk f p).2.2.length = 12 then 2 else if takenB f q = true then 3 else
  if lineR f ((p : Int), (k : Int), -1, -1) (ptk (plk f p).2.2 k) q > 0 then lineR f ((p : Int), (k : Int), -1, -1) (ptk (plk f p).2.2 k) q else lineR f ((p : Int), (k : Int), -1, -1) (ptk (plk f p).2.2 (nx (plk f p).2.2.length k)) q
def outR (f : Fld) (p k : Nat) : Int := if (plk f p).2.1 = false then 1 else if (plk f p).2.2.length = 3 then 6 else lineR f ((p : Int), (pv (plk f p).2.2.length k : Int), (k : Int), (k : Int)) (ptk (plk f p).2.2 (pv (plk f p).2.2.length k)) (ptk (plk f p).2.2 (nx (plk f p).2.2.length k))
/-- areas -/
def dblA (l : List Pt) : Int := sumN (fun k => tnZ 0 0 (ptk l k).1 (ptk l k).2 (ptk l (nx l.length k)).1 (ptk l (nx l.length k)).2) l.length
def areaA (l : List Pt) : Int := if dblA l < 0 then -dblA l else dblA l
/-- a way to the right crosses the side from a to b -/
def rayB (a b q : Pt) : Bool := if decide (q.2 < a.2) = decide (q.2 < b.2) then false else if a.2 < b.2 then decide (0 < tnP a b q) else decide (tnP a b q < 0)
def onAny (l : List Pt) (q : Pt) : Bool := anyN l.length fun k => onB (ptk l k) (ptk l (nx l.length k)) q
def parB (l : List Pt) (q : Pt) : Bool := foldN (fun k b => Bool.xor b (rayB (ptk l k) (ptk l (nx l.length k)) q)) false l.length
def sideOf (l : List Pt) (q : Pt) : Int := if onAny l q = true then 1 else if parB l q = true then 2 else 0
def countAll (f : Fld) (l : List Pt) (s : Int) : Int := sumN (fun x => sumN (fun y => if sideOf l ((x : Int), (y : Int)) = s then 1 else 0) (f.1.2 + 1).toNat) (f.1.1 + 1).toNat
def dentsA (l : List Pt) : Int := sumN (fun k => if 0 < dblA l then (if tnP (ptk l (pv l.length k)) (ptk l k) (ptk l (nx l.length k)) < 0 then 1 else 0) else (if 0 < tnP (ptk l (pv l.length k)) (ptk l k) (ptk l (nx l.length k)) then 1 else 0)) l.length
/-- the closed polygon with the smallest area around q, but for one -/
def arouA (f : Fld) (q : Pt) (but : Int) : Int := foldN (fun p best => if (p : Int) ≠ but ∧ (plk f p).2.1 = true ∧ sideOf (plk f p).2.2 q = 2 ∧ (best = -1 ∨ areaA (plk f p).2.2 < areaA (plk f best.toNat).2.2) then (p : Int) else best) (-1) (nP f)
def claimerA (f : Fld) (k : Nat) : Int := arouA f (stk' f k).1 (-1)
def claimedA (f : Fld) : Int := sumN (fun k => if claimerA f k = -1 then 0 else 1) (nS f)
/-- the score of a polygon -/
def stonesA (f : Fld) (p : Nat) : Int := sumN (fun k => if claimerA f k = (p : Int) then (stk' f k).2 else 0) (nS f)
def envA (f : Fld) (p : Nat) : Nat → Int
  | 0 => areaA (plk f p).2.2
  | 1 => stonesA f p
  | 2 => ((plk f p).2.2.length : Int)
  | 3 => dentsA (plk f p).2.2
  | _ => countAll f (plk f p).2.2 2
def scoA (f : Fld) (p : Nat) : Int := lim5 (match f.2.2.1 with
  | none => areaA (plk f p).2.2 + stonesA f p
  | some s => evS (envA f p) s)
def poiA (f : Fld) (pl : Int) : Int := sumN (fun p => if (plk f p).2.1 = true ∧ (plk f p).1 = pl then scoA f p else 0) (nP f)
/-- bounds -/
def r30 (x : Int) : Prop := 0 ≤ x ∧ x ≤ 30
def ptB (q : Pt) : Prop := r30 q.1 ∧ r30 q.2
def plB (pl : Poly) : Prop := (0 ≤ pl.1 ∧ pl.1 ≤ 3) ∧ 1 ≤ pl.2.2.length ∧ pl.2.2.length ≤ 12 ∧ ∀ q ∈ pl.2.2, ptB q
def fldB (f : Fld) : Prop := (r30 f.1.1 ∧ r30 f.1.2) ∧ nS f ≤ 20 ∧ (∀ s ∈ f.2.1, ptB s.1 ∧ 1 ≤ s.2 ∧ s.2 ≤ 99) ∧ nP f ≤ 6 ∧ (∀ pl ∈ f.2.2.2, plB pl) ∧ ∀ c, f.2.2.1 = some c → (cdS c).length ≤ 1300 ∧ wfS c
theorem mul_bd {u v : Int} (h1 : -30 ≤ u) (h2 : u ≤ 30) (h3 : -30 ≤ v) (h4 : v ≤ 30) : -900 ≤ u * v ∧ u * v ≤ 900 := by
  have e1 := Int.mul_nonneg (show 0 ≤ 30 - u by omega) (show 0 ≤ 30 - v by omega)
  have e2 := Int.mul_nonneg (show 0 ≤ 30 + u by omega) (show 0 ≤ 30 + v by omega)
  have e3 := Int.mul_nonneg (show 0 ≤ 30 - u by omega) (show 0 ≤ 30 + v by omega)
  have e4 := Int.mul_nonneg (show 0 ≤ 30 + u by omega) (show 0 ≤ 30 - v by omega)
  simp only [Int.sub_mul, Int.mul_sub, Int.add_mul, Int.mul_add] at e1 e2 e3 e4
  omega
theorem tn_bd {ax ay bx by' cx cy : Int} (h1 : r30 ax) (h2 : r30 ay) (h3 : r30 bx) (h4 : r30 by') (h5 : r30 cx) (h6 : r30 cy) : -1800 ≤ tnZ ax ay bx by' cx cy ∧ tnZ ax ay bx by' cx cy ≤ 1800 := by
  unfold r30 at h1 h2 h3 h4 h5 h6
  have e1 := mul_bd (u := bx - ax) (v := cy - ay) (by omega) (by omega) (by omega) (by omega)
  have e2 := mul_bd (u := by' - ay) (v := cx - ax) (by omega) (by omega) (by omega) (by omega)
  unfold tnZ
  omega
theorem tnP_bd {a b c : Pt} (ha : ptB a) (hb : ptB b) (hc : ptB c) : -1800 ≤ tnP a b c ∧ tnP a b c ≤ 1800 := tn_bd ha.1 ha.2 hb.1 hb.2 hc.1 hc.2
theorem plk_some {f : Fld} {p : Nat} (hp : p < nP f) : f.2.2.2[p]? = some (plk f p) := by
  unfold plk nP at *
  rw [List.getD_eq_getElem?_getD, List.getElem?_eq_getElem hp]
  rfl
theorem plk_B {f : Fld} (hf : fldB f) {p : Nat} (hp : p < nP f) : plB (plk f p) := hf.2.2.2.2.1 _ (List.mem_of_getElem? (plk_some hp))
theorem ptk_some {l : List Pt} {k : Nat} (hk : k < l.length) : l[k]? = some (ptk l k) := by
  unfold ptk
  rw [List.getD_eq_getElem?_getD, List.getElem?_eq_getElem hk]
  rfl
theorem ptk_B {pl : Poly} (hp : plB pl) {k : Nat} (hk : k < pl.2.2.length) : ptB (ptk pl.2.2 k) := hp.2.2.2 _ (List.mem_of_getElem? (ptk_some hk))
theorem stk_some {f : Fld} {k : Nat} (hk : k < nS f) : f.2.1[k]? = some (stk' f k) := by
  unfold stk' nS at *
  rw [List.getD_eq_getElem?_getD, List.getElem?_eq_getElem hk]
  rfl
theorem stk_B {f : Fld} (hf : fldB f) {k : Nat} (hk : k < nS f) : ptB (stk' f k).1 ∧ 1 ≤ (stk' f k).2 ∧ (stk' f k).2 ≤ 99 := hf.2.2.1 _ (List.mem_of_getElem? (stk_some hk))
theorem nx_lt {n k : Nat} (hk : k < n) : nx n k < n := by unfold nx; split <;> omega
theorem pv_lt {n k : Nat} (hk : k < n) : pv n k < n := by unfold pv; split <;> omega
theorem sides_le (pl : Poly) : sidesN pl ≤ pl.2.2.length := by unfold sidesN; split <;> omega
theorem rdI {z : Int} {k n : Nat} (hz : z = (k : Int)) (hk : k < n) (hn : n ≤ 2147483648) : vp_in (iZ z) n ∧ (iZ z).toNatClampNeg = k := by
  rw [vp_in_iZ (by omega) (by omega), ix_iZ (by omega) (by omega)]
  omega

