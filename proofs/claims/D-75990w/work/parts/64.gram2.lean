/-! ===== the grammar of a field ===== -/
def addSt (f : Fld) (q : Pt) (v : Int) : Fld := (f.1, f.2.1 ++ [(q, v)], f.2.2.1, f.2.2.2)
def stoneS (X : List Int) (f : Fld) (start p : Nat) : Rs (Fld × Nat) :=
  if nS f = 20 then .error (-5, start) else
    match numS X p 0 f.1.1 with
    | .error e => .error e
    | .ok rx => match numS X rx.2.2 0 f.1.2 with
      | .error e => .error e
      | .ok ry => if (takenB f (rx.1, ry.1) || onSideB f (rx.1, ry.1)) = true then .error (-4, (ry.2.1 : Nat)) else
        match numS X ry.2.2 1 99 with
        | .error e => .error e
        | .ok rv => .ok (addSt f (rx.1, ry.1) rv.1, rv.2.2)
/-- the corners of polygon i -/
def polL (X : List Int) (i : Nat) : Nat → Fld → Nat → Rs (Fld × Nat)
  | 0, f, p => .ok (f, skp X p)
  | n + 1, f, p => if digB (byB X (skp X p)) = true then
      (match numS X (skp X p) 0 f.1.1 with
      | .error e => .error e
      | .ok rx => match numS X rx.2.2 0 f.1.2 with
        | .error e => .error e
        | .ok ry => if cornR f i (rx.1, ry.1) ≠ 0 then .error (-4, (ry.2.1 : Nat)) else polL X i n (insF f i (lenP f i) (rx.1, ry.1)) ry.2.2)
    else .ok (f, skp X p)
def polyS (X : List Int) (f : Fld) (start p : Nat) : Rs (Fld × Nat) :=
  if nP f = 6 then .error (-5, start) else
    match numS X p 0 3 with
    | .error e => .error e
    | .ok ro => match numS X ro.2.2 0 f.1.1 with
      | .error e => .error e
      | .ok rx => match numS X rx.2.2 0 f.1.2 with
        | .error e => .error e
        | .ok ry => if (takenB f (rx.1, ry.1) || onSideB f (rx.1, ry.1)) = true then .error (-4, (ry.2.1 : Nat)) else
          match polL X (nP f) (X.length - ry.2.2) (addF f ro.1 (rx.1, ry.1)) ry.2.2 with
          | .error e => .error e
          | .ok r => if byB X r.2 = 59 then (if closR r.1 (nP f) ≠ 0 then .error (-4, (r.2 : Nat)) else .ok (closeF r.1 (nP f), r.2)) else .error (-2, (r.2 : Nat))
def setS (f : Fld) (s : Sc) : Fld := (f.1, f.2.1, some s, f.2.2.2)
def scorS (X : List Int) (f : Fld) (start p : Nat) : Rs (Fld × Nat) :=
  if f.2.2.1.isSome = true then .error (-2, start) else
    match pxS X (3 * X.length + 3) 3 0 .result p with
    | .error e => .error e
    | .ok r => .ok (setS f r.1, r.2)
def statS (X : List Int) (f : Fld) (p : Nat) : Rs (Fld × Nat) :=
  match (if isW X wStone (skp X p) = true then stoneS X f (skp X p) (skp X p + 5) else if isW X wPolygon (skp X p) = true then polyS X f (skp X p) (skp X p + 7) else if isW X wScore (skp X p) = true then scorS X f (skp X p) (skp X p + 5) else .error (-2, (skp X p : Nat))) with
  | .error e => .error e
  | .ok r => match expS X 59 r.2 with
    | .error e => .error e
    | .ok p' => .ok (r.1, p')
def stmL (X : List Int) : Nat → Fld → Nat → Rs Fld
  | 0, f, _ => .ok f
  | n + 1, f, p => if byB X (skp X p) = -1 then .ok f else
    match statS X f (skp X p) with
    | .error e => .error e
    | .ok r => stmL X n r.1 r.2
def newF (w h : Int) : Fld := ((w, h), [], none, [])
def loadS (X : List Int) : Rs Fld :=
  if isW X wField (skp X 0) = true then
    (match numS X (skp X 0 + 5) 2 30 with
    | .error e => .error e
    | .ok rw => match numS X rw.2.2 2 30 with
      | .error e => .error e
      | .ok rh => match expS X 59 rh.2.2 with
        | .error e => .error e
        | .ok p => stmL X (X.length - p) (newF rw.1 rh.1) p)
  else .error (-2, (skp X 0 : Nat))

