/-! ===== heap rows ===== -/
def hset (h : MH) (a : Nat) (c : MC) : MH := fun q => if q = a then some c else h q
theorem hset_self {h : MH} {a : Nat} {c : MC} : hset h a c a = some c := if_pos rfl
theorem hset_ne {h : MH} {a b : Nat} {c : MC} (hb : b ≠ a) : hset h a c b = h b := if_neg hb
theorem HR.set {w : Wd} {h : MH} {H H1 : Heap} {a : Nat} {c : MC} (hR : HR w h H) (hc : cellAt w a c H1) (hk : ∀ q, q ≠ a → H1[q]? = H[q]?) : HR w (hset h a c) H1 := by
  intro q c' hq h1
  by_cases e : q = a
  · subst e
    rw [hset_self] at h1
    cases h1
    exact hc
  · rw [hset_ne e] at h1
    exact (hR q c' hq h1).kept (hk q e)
theorem HR.push {w : Wd} {h : MH} {H H1 : Heap} {c : MC} (hR : HR w h H) (hc : cellAt w H.size c H1) (hk : ∀ q, q < H.size → H1[q]? = H[q]?) : HR w (hset h H.size c) H1 := by
  intro q c' hq h1
  by_cases e : q = H.size
  · subst e
    rw [hset_self] at h1
    cases h1
    exact hc
  · rw [hset_ne e] at h1
    have h2 := hR q c' hq h1
    exact h2.kept (hk q h2.lt)
theorem HR.fresh {w : Wd} {h : MH} {H : Heap} (hR : HR w h H) (hN : wN w ≤ H.size) : h H.size = none := by
  cases hh : h H.size with
  | none => rfl
  | some c => exact absurd (hR _ c hN hh).lt (Nat.lt_irrefl _)
theorem BR.set {w : Wd} {U : State} {H H1 : Heap} {a : Nat} (hB : BR w U H) (ha : wN w ≤ a) (hz : H1.size = H.size) (hk : ∀ q, q ≠ a → H1[q]? = H[q]?) : BR w U H1 :=
  hB.kept (by rw [hz]; exact hB.1) (fun q hq => hk q (by omega))
theorem BR.push {w : Wd} {U : State} {H H1 : Heap} (hB : BR w U H) (hz : H1.size = H.size + 1) (hk : ∀ q, q < H.size → H1[q]? = H[q]?) : BR w U H1 :=
  hB.kept (by have := hB.1; omega) (fun q hq => hk q (Nat.lt_of_lt_of_le hq hB.1))
theorem VS.set {w : Wd} {H0 H H1 : Heap} {locs : List Loc} {a i : Nat} (hS : va_S (fr w) H0 H locs) (ha : wN w ≤ a) (hz : H1.size = H.size) (hk : ∀ q, q ≠ a → H1[q]? = H[q]?) : va_S (fr w) H0 H1 (locs ++ [⟨a, i⟩]) := hS.put hz hk ha
theorem VS.push {w : Wd} {H0 H H1 : Heap} {locs : List Loc} (hS : va_S (fr w) H0 H locs) (hz : H1.size = H.size + 1) (hk : ∀ q, q < H.size → H1[q]? = H[q]?) : va_S (fr w) H0 H1 locs :=
  ⟨Nat.le_trans hS.1 (by omega), fun x h1 h2 => (hk x (Nat.lt_of_lt_of_le h1 hS.1)).trans (hS.2.1 x h1 h2), hS.2.2⟩
/-- a field by its pool entry: class (place in cxL), number; to read -/
def FldRO (own : String) (idx ci k : Nat) : Prop := ∃ (C : String) (T : u_T) (N : Nat) (ref : String), cxL[ci]? = some (C, T, N) ∧ k < N ∧ (∀ v ∈ u_ws C T N, v ∈ lw_all) ∧ (ref = (T k).1 ∨ Jvm.Cond.sameField ref (T k).1 (T k).2.1 (T k).2.2.1 ∈ lw_all) ∧ (Jvm.Cond.fieldLink own idx ref (T k).2.1 (T k).2.2.1 ∈ lw_all ∨ ∃ host, Jvm.Cond.fieldLinkNest own idx ref (T k).2.1 (T k).2.2.1 host ∈ lw_tbl)
/-- .. to read and write: type, whether final -/
def FldOK (own : String) (idx ci k : Nat) (ty : FieldType) (fin : Bool) : Prop := ∃ (C : String) (T : u_T) (N : Nat) (tyf : Nat → FieldType) (ref : String), cxL[ci]? = some (C, T, N) ∧ k < N ∧ (∀ v ∈ u_ws C T N, v ∈ lw_all) ∧ (∀ j, j < N → parseFieldDescriptor (T j).2.2.1 = some (tyf j)) ∧ (∀ a, a < N → ∀ b, b < N → a ≠ b → (T a).2.1 ≠ (T b).2.1) ∧ tyf k = ty ∧ (T k).2.2.2 = fin ∧ (fin = true → (T k).1 = own) ∧
  (ref = (T k).1 ∨ Jvm.Cond.sameField ref (T k).1 (T k).2.1 (T k).2.2.1 ∈ lw_all) ∧ (Jvm.Cond.fieldLink own idx ref (T k).2.1 (T k).2.2.1 ∈ lw_all ∨ (fin = false ∧ ∃ host, Jvm.Cond.fieldLinkNest own idx ref (T k).2.1 (T k).2.2.1 host ∈ lw_tbl))
theorem FldOK.ro {own : String} {idx ci k : Nat} {ty : FieldType} {fin : Bool} (h : FldOK own idx ci k ty fin) : FldRO own idx ci k := by
  obtain ⟨C, T, N, tyf, ref, f1, f2, f3, -, -, -, -, -, f9, f10⟩ := h
  exact ⟨C, T, N, ref, f1, f2, f3, f9, f10.elim Or.inl (fun x => Or.inr x.2)⟩
/-- an entry: number, class, field, type; none: to read only; some: whether final -/
def FldE (own : String) (e : Nat × (Nat × Nat × FieldType × Option Bool)) : Prop := match e.2.2.2.2 with
  | none => FldRO own e.1 e.2.1 e.2.2.1
  | some fin => FldOK own e.1 e.2.1 e.2.2.1 e.2.2.2.1 fin
theorem FldE.ro {own : String} {e : Nat × (Nat × Nat × FieldType × Option Bool)} (h : FldE own e) : FldRO own e.1 e.2.1 e.2.2.1 := by
  unfold FldE at h
  split at h
  · exact h
  · exact h.ro
def NewOK (own : String) (idx ci : Nat) (fs : List Value) : Prop := ∃ (C : String) (T : u_T) (N : Nat) (tyf : Nat → FieldType), cxL[ci]? = some (C, T, N) ∧ (∀ v ∈ u_ws C T N, v ∈ lw_all) ∧ (∀ j, j < N → parseFieldDescriptor (T j).2.2.1 = some (tyf j)) ∧ Jvm.Cond.classLink own idx C ∈ lw_all ∧ Jvm.Cond.instantiable C N ∈ lw_all ∧ Jvm.Cond.initialized C ∈ lw_all ∧ (∀ j, j < N → defaultValue (tyf j) = vp_V fs j) ∧ fs.length = N
def fitv (ty : FieldType) (v : Value) : Prop := narrow ty v = v ∧ fits ty v = true
section XHEAP
variable {w : Wd} {M : Md} {d mc ms pc ck sk : Nat} {ls : List (Option Value)} {r : List Value} {h : MH} {Q : Out → MH → Prop}
theorem cx_of_at {w : Wd} {a ci : Nat} {fs : List Value} {H : Heap} {C : String} {T : u_T} {N : Nat} (h : cellAt w a (ob ci fs) H) (hc : cxL[ci]? = some (C, T, N)) : t_OB a ((wD w).1 ci) N ((wD w).2 ci) H (vp_V fs) := by
  obtain ⟨r, h1, h2⟩ := (show va_at (wD w) cxL (a, .inr (ci, fs)) H from h)
  have hr : r = (C, T, N) := Option.some.inj (h1.symm.trans hc)
  subst hr
  exact h2
theorem x_getf {idx a ci k : Nat} {fs : List Value} {v : Value} (hd : decode M.2.1 pc = .ok (.getfield idx, 3)) (hF : FldRO M.1.cls idx ci k) (ha : rd w h a = some (ob ci fs)) (hv : fs[k]? = some v) (K : X w M d mc ms (pc + 3) ls (v :: r) h ck sk Q) : X w M d mc ms pc ls (.ref a :: r) h ck sk Q := by
  intro p e s m args below meth c H locs la hc hS hB hR hl h1 h2
  obtain ⟨C, T, N, ref, f1, f2, f3, f9, f10⟩ := hF
  have hts := hc.2.2.2.2.2.2.2.1
  have hown := hc.2.2.2.2.2.1
  have hSR := hc.2.2.2.2.2.2.2.2.2.2.2
  obtain ⟨cell, q1, q2, q3, q4⟩ := cx_of_at (HR.look hB hR ha) f1
  obtain ⟨hSl, hfc, kC, hkC, hkind⟩ := hSR.2.1.1 ci _ f1
  obtain ⟨cf, kf, fi, f, hi, hsl⟩ := hSl k f2
  have hi2 : s.fieldFound? ref (T k).2.1 (T k).2.2.1 = some (cf, kf, fi, f) := by
    rcases f9 with e9 | e9
    · rw [e9]; exact hi
    · exact u_same (hts _ e9) _ hi
  have hst := (u_facts hfc hkC (u_lays (ws := lw_all) hts f3 f2) hi).1
  have hsv : cell.slots[f.slot]? = some v := by
    rw [hsl, q4 k f2]
    simp [vp_V, hv]
  rcases f10 with f10 | ⟨host, f10⟩
  · exact W.getf hc.1 hc.2.1 hown (hts _ f10) hi2 hst q1 (by rw [q3]; exact fun h => by cases h) (v := v) hsv rfl rfl hd (K p e s m args below meth c H locs la hc hS hB hR hl h1 h2)
  · exact va_Wgetf hc.1 hc.2.1 hown (va_Nw.use rfl (hSR.2.2.1 _ f10 rfl)) hi2 hst q1 (by rw [q3]; exact fun h => by cases h) (v := v) hsv rfl rfl hd (K p e s m args below meth c H locs la hc hS hB hR hl h1 h2)
theorem x_putf {idx a ci k : Nat} {ty : FieldType} {fs : List Value} {v : Value} {fin : Bool} (hd : decode M.2.1 pc = .ok (.putfield idx, 3)) (hF : FldOK M.1.cls idx ci k ty fin) (hini : fin = true → M.1.name = "<init>") (hN : wN w ≤ a) (ha : h a = some (ob ci fs)) (hlt : k < fs.length) (hfit : fitv ty v) (K : X w M d mc ms (pc + 3) ls r (hset h a (ob ci (fs.set k v))) ck sk Q) : X w M d mc ms pc ls (v :: .ref a :: r) h ck sk Q := by
  intro p e s m args below meth c H locs la hc hS hB hR hl h1 h2
  obtain ⟨C, T, N, tyf, ref, f1, f2, f3, f4, f5, f6, f7, f8, f9, f10⟩ := hF
  have hts := hc.2.2.2.2.2.2.2.1
  have hown := hc.2.2.2.2.2.1
  have hSR := hc.2.2.2.2.2.2.2.2.2.2.2
  obtain ⟨cell, q1, q2, q3, q4⟩ := cx_of_at (hR a _ hN ha) f1
  obtain ⟨hSl, hfc, kC, hkC, hkind⟩ := hSR.2.1.1 ci _ f1
  obtain ⟨cf, kf, fi, f, hi, hsl⟩ := hSl k f2
  have hi2 : s.fieldFound? ref (T k).2.1 (T k).2.2.1 = some (cf, kf, fi, f) := by
    rcases f9 with e9 | e9
    · rw [e9]; exact hi
    · exact u_same (hts _ e9) _ hi
  have hst := (u_facts hfc hkC (u_lays (ws := lw_all) hts f3 f2) hi).1
  have hap := va_apart (own := C) hts f3 tyf f4 f5 hSR.2.1 f1
  have hlay := hts _ (f3 _ (u_in_lay f2))
  unfold u_lay at hlay
  have go : ∀ H' : Heap, H'[a]? = some (cell.setSlot f.slot v) → H'.size = H.size → (∀ q, q ≠ a → H'[q]? = H[q]?) → W p (wL w) e (rmm d mc ms) s m args below meth c H' (locs ++ [⟨a, f.slot⟩]) ck sk (vx_MQ below (QcO w Q) (XcO w Q) args s mc ms (fr w)) (F0 m (pc + 3) la r) := by
    intro H' e1 e2 e3
    rw [hsl] at e1
    refine K p e s m args below meth c H' _ la hc (VS.set hS hN e2 e3) (hB.set hN e2 e3) (hR.set ?_ e3) hl h1 h2
    exact (show va_at (wD w) cxL (a, .inr (ci, fs.set k v)) H' from ⟨_, f1, t_OB.to (V := updV (vp_V fs) k v) ⟨_, e1, q2, q3, t_set q4 hap f2 v⟩ (fun j _ => vp_updV_set hlt v j)⟩)
  cases hfn : fin with
  | false =>
    rw [hfn] at f7
    rw [if_neg (by rw [f7]; decide)] at hlay
    have h6 := u_store hfc hkC hkind hlay hi (by rw [f4 k f2, f6]) hfit.1 hfit.2
    rcases f10 with f10 | ⟨-, host, f10⟩
    · exact W.putK hc.1 hc.2.1 (f := f) ⟨hown, hts _ f10, ⟨_, _, _, hi2⟩, hst⟩ (by rw [q2]; exact h6) q1 q3 (by rw [hsl]; exact k2_hasslot (q4 k f2)) rfl rfl hd go
    · exact va_WputK hc.1 hc.2.1 (f := f) hown (va_Nw.use rfl (hSR.2.2.1 _ f10 rfl)) hi2 hst (by rw [q2]; exact h6) q1 q3 (by rw [hsl]; exact k2_hasslot (q4 k f2)) rfl rfl hd go
  | true =>
    rw [hfn] at f7
    rw [if_pos f7] at hlay
    have hcf : m.cls = cf := by
      obtain ⟨_, _, c', _, _, _, -, -, hf', -, -, -, hown2, -⟩ := Cond.laysFinal_spec hlay
      have e1 : c' = cf := by have := hi.symm.trans hf'; simp at this; exact this.1.symm
      rw [f8 hfn] at hown2
      rw [← e1]; exact Option.some.inj (hown.symm.trans hown2)
    have h6 := u_fits hfc hkC hkind (Or.inr hlay) hi (by rw [f4 k f2, f6]) hfit.1 hfit.2
    rcases f10 with f10 | ⟨f10, -⟩
    · exact W.putFinK hc.1 hc.2.1 hown (hts _ f10) hi2 hst hcf (hc.2.2.2.2.2.2.1.trans (hini hfn)) (by rw [q2]; exact h6) q1 q3 (by rw [hsl]; exact k2_hasslot (q4 k f2)) rfl rfl hd go
    · rw [hfn] at f10; cases f10
theorem x_new {idx ci : Nat} {fs : List Value} (hd : decode M.2.1 pc = .ok (.new idx, 3)) (hF : NewOK M.1.cls idx ci fs) (hck : ck + 1 ≤ mc) (hsk : sk + fs.length ≤ ms) (K : ∀ a, wN w ≤ a → h a = none → X w M d mc ms (pc + 3) ls (.ref a :: r) (hset h a (ob ci fs)) (ck + 1) (sk + fs.length) Q) : X w M d mc ms pc ls r h ck sk Q := by
  intro p e s m args below meth c H locs la hc hS hB hR hl h1 h2
  obtain ⟨C, T, N, tyf, f1, f2, f3, f4, f5, f6, f7, f8⟩ := hF
  have hts := hc.2.2.2.2.2.2.2.1
  have hown := hc.2.2.2.2.2.1
  have hSR := hc.2.2.2.2.2.2.2.2.2.2.2
  have hKn := hSR.2.1.1 ci _ f1
  refine W.newcK hc.1 hc.2.1 hown (hts _ f4) (hts _ f5) (hts _ f6) rfl hd hck (by rw [← f8]; exact hsk) hKn.2.1 rfl fun H1 kC hkC e1 z1 o1 => ?_
  rw [← f8]
  refine K H.size hB.1 (hR.fresh hB.1) p e s m args below meth c H1 locs la hc (VS.push hS z1 o1) (hB.push z1 o1) (hR.push ?_ o1) hl hck hsk
  exact (show va_at (wD w) cxL (H.size, .inr (ci, fs)) H1 from ⟨_, f1, (u_born tyf (ws := lw_all) hts f2 hKn hkC e1 f3).to f7⟩)
theorem at_arr {w : Wd} {a : Nat} {t : FieldType × vp_A} {H : Heap} (h : cellAt w a (.inr (.inl t)) H) : t.1 ∈ tyL ∧ H[a]? = some (vp_cell (wA w t.1) t.2) := h
theorem arr_K {w : Wd} {U : State} (h : SR w U) {ty : FieldType} (ht : ty ∈ tyL) : ArrOfT U (wA w ty) ty ∧ va_RA U (wA w ty) ty := by
  obtain ⟨i, hi⟩ := List.getElem?_of_mem ht
  exact h.2.1.2 i (wA w ty, ty) (by rw [List.getElem?_map, hi]; rfl)
theorem x_iald {a n : Nat} {f : Nat → Int32} {i : Int32} (hd : decode M.2.1 pc = .ok (.iaload, 1)) (ha : rd w h a = some (aI .int n f)) (hin : vp_in i n) (K : X w M d mc ms (pc + 1) ls (.int (f i.toNatClampNeg) :: r) h ck sk Q) : X w M d mc ms pc ls (.int i :: .ref a :: r) h ck sk Q := by
  intro p e s m args below meth c H locs la hc hS hB hR hl h1 h2
  have hSR := hc.2.2.2.2.2.2.2.2.2.2.2
  obtain ⟨ht, hcell⟩ := at_arr (HR.look hB hR ha)
  have hlt : i.toNatClampNeg < n := Nat.not_le.mp fun q => hin (Or.inr q)
  exact W.iald (v := .int (f i.toNatClampNeg)) hc.1 hc.2.1 hcell ((arr_K hSR ht).1 n (fun j => .int (f j))) (fun q => by cases q) (by show ¬ (i < 0 ∨ (arrV _ _ _).slots.size ≤ _); rw [arrV_size]; exact hin) (by show (arrV _ _ _).slots[_]? = _; rw [arrV_read _ _ hlt]) rfl rfl hd (K p e s m args below meth c H locs la hc hS hB hR hl h1 h2)
theorem x_bald {a n : Nat} {f : Nat → Int32} {i : Int32} (hd : decode M.2.1 pc = .ok (.baload, 1)) (ha : rd w h a = some (aI .byte n f)) (hin : vp_in i n) (K : X w M d mc ms (pc + 1) ls (.int (f i.toNatClampNeg) :: r) h ck sk Q) : X w M d mc ms pc ls (.int i :: .ref a :: r) h ck sk Q := by
  intro p e s m args below meth c H locs la hc hS hB hR hl h1 h2
  have hSR := hc.2.2.2.2.2.2.2.2.2.2.2
  obtain ⟨ht, hcell⟩ := at_arr (HR.look hB hR ha)
  have hlt : i.toNatClampNeg < n := Nat.not_le.mp fun q => hin (Or.inr q)
  exact W.bald (v := .int (f i.toNatClampNeg)) hc.1 hc.2.1 hcell ((arr_K hSR ht).1 n (fun j => .int (f j))) (fun q => by cases q) (by show ¬ (i < 0 ∨ (arrV _ _ _).slots.size ≤ _); rw [arrV_size]; exact hin) (by show (arrV _ _ _).slots[_]? = _; rw [arrV_read _ _ hlt]) rfl rfl hd (K p e s m args below meth c H locs la hc hS hB hR hl h1 h2)
theorem x_lald {a n : Nat} {f : Nat → Int64} {i : Int32} (hd : decode M.2.1 pc = .ok (.laload, 1)) (ha : rd w h a = some (aL n f)) (hin : vp_in i n) (K : X w M d mc ms (pc + 1) ls (.long (f i.toNatClampNeg) :: r) h ck sk Q) : X w M d mc ms pc ls (.int i :: .ref a :: r) h ck sk Q := by
  intro p e s m args below meth c H locs la hc hS hB hR hl h1 h2
  have hSR := hc.2.2.2.2.2.2.2.2.2.2.2
  obtain ⟨ht, hcell⟩ := at_arr (HR.look hB hR ha)
  have hlt : i.toNatClampNeg < n := Nat.not_le.mp fun q => hin (Or.inr q)
  exact W.lald (v := .long (f i.toNatClampNeg)) hc.1 hc.2.1 hcell ((arr_K hSR ht).1 n (fun j => .long (f j))) (fun q => by cases q) (by show ¬ (i < 0 ∨ (arrV _ _ _).slots.size ≤ _); rw [arrV_size]; exact hin) (by show (arrV _ _ _).slots[_]? = _; rw [arrV_read _ _ hlt]) rfl rfl hd (K p e s m args below meth c H locs la hc hS hB hR hl h1 h2)
theorem x_aald {a n : Nat} {ty : FieldType} {f : Nat → Option Nat} {i : Int32} (hd : decode M.2.1 pc = .ok (.aaload, 1)) (ha : rd w h a = some (aQ ty n f)) (hty : ty.isReference = true) (hin : vp_in i n) (K : X w M d mc ms (pc + 1) ls (va_rf (f i.toNatClampNeg) :: r) h ck sk Q) : X w M d mc ms pc ls (.int i :: .ref a :: r) h ck sk Q := by
  intro p e s m args below meth c H locs la hc hS hB hR hl h1 h2
  have hSR := hc.2.2.2.2.2.2.2.2.2.2.2
  obtain ⟨ht, hcell⟩ := at_arr (HR.look hB hR ha)
  have hlt : i.toNatClampNeg < n := Nat.not_le.mp fun q => hin (Or.inr q)
  exact W.aald (v := va_rf (f i.toNatClampNeg)) hc.1 hc.2.1 hcell ((arr_K hSR ht).1 n (fun j => va_rf (f j))) hty (fun q => by cases q) (by show ¬ (i < 0 ∨ (arrV _ _ _).slots.size ≤ _); rw [arrV_size]; exact hin) (by show (arrV _ _ _).slots[_]? = _; rw [arrV_read _ _ hlt]) rfl rfl hd (K p e s m args below meth c H locs la hc hS hB hR hl h1 h2)
theorem vp_cell_size (cA : ClassId) (a : vp_A) : (vp_cell cA a).slots.size = a.1 := by
  unfold vp_cell
  split <;> exact arrV_size _ _ _
theorem vp_cell_ex (cA : ClassId) (a : vp_A) : ∃ f : Nat → Value, vp_cell cA a = arrV cA a.1 f := by
  unfold vp_cell
  split <;> exact ⟨_, rfl⟩
theorem x_alen {a : Nat} {t : FieldType × vp_A} (hd : decode M.2.1 pc = .ok (.arraylength, 1)) (ha : rd w h a = some (.inr (.inl t))) (K : X w M d mc ms (pc + 1) ls (.int (iZ t.2.1) :: r) h ck sk Q) : X w M d mc ms pc ls (.ref a :: r) h ck sk Q := by
  intro p e s m args below meth c H locs la hc hS hB hR hl h1 h2
  have hSR := hc.2.2.2.2.2.2.2.2.2.2.2
  obtain ⟨ht, hcell⟩ := at_arr (HR.look hB hR ha)
  obtain ⟨f, hf⟩ := vp_cell_ex (wA w t.1) t.2
  refine W.alen (n := iZ t.2.1) hc.1 hc.2.1 hcell (by rw [hf]; exact (arr_K hSR ht).1 _ f) ?_ rfl rfl hd (K p e s m args below meth c H locs la hc hS hB hR hl h1 h2)
  rw [vp_cell_size]
  exact (Int32.ofInt_eq_ofNat).symm
/-- stores into arrays -/
theorem x_iast {a n : Nat} {f : Nat → Int32} {i x : Int32} (hd : decode M.2.1 pc = .ok (.iastore, 1)) (hN : wN w ≤ a) (ha : h a = some (aI .int n f)) (hin : vp_in i n) (K : X w M d mc ms (pc + 1) ls r (hset h a (aI .int n (upd f i.toNatClampNeg x))) ck sk Q) : X w M d mc ms pc ls (.int x :: .int i :: .ref a :: r) h ck sk Q := by
  intro p e s m args below meth c H locs la hc hS hB hR hl h1 h2
  have hSR := hc.2.2.2.2.2.2.2.2.2.2.2
  obtain ⟨ht, hcell⟩ := at_arr (hR a _ hN ha)
  refine W.iast hc.1 hc.2.1 hcell ((arr_K hSR ht).1 n (fun j => .int (f j))) (fun q => by cases q) (by show ¬ (i < 0 ∨ (arrV _ _ _).slots.size ≤ _); rw [arrV_size]; exact hin) rfl rfl hd fun H1 e1 z oq => ?_
  refine K p e s m args below meth c H1 _ la hc (VS.set hS hN z oq) (hB.set hN z oq) (hR.set ⟨ht, ?_⟩ oq) hl h1 h2
  show H1[a]? = some (vp_cell _ _)
  rw [e1, vp_cell_i, vp_cell_i, arrV_store]
  congr 2
  funext q
  by_cases hq : q = i.toNatClampNeg
  · subst hq; simp [updV, upd]
  · simp [updV, upd, hq]
theorem x_bast {a n : Nat} {f : Nat → Int32} {i x : Int32} (hd : decode M.2.1 pc = .ok (.bastore, 1)) (hN : wN w ≤ a) (ha : h a = some (aI .byte n f)) (hin : vp_in i n) (K : X w M d mc ms (pc + 1) ls r (hset h a (aI .byte n (upd f i.toNatClampNeg x.toInt8.toInt32))) ck sk Q) : X w M d mc ms pc ls (.int x :: .int i :: .ref a :: r) h ck sk Q := by
  intro p e s m args below meth c H locs la hc hS hB hR hl h1 h2
  have hSR := hc.2.2.2.2.2.2.2.2.2.2.2
  obtain ⟨ht, hcell⟩ := at_arr (hR a _ hN ha)
  refine W.bast hc.1 hc.2.1 hcell ((arr_K hSR ht).1 n (fun j => .int (f j))) (fun q => by cases q) (by show ¬ (i < 0 ∨ (arrV _ _ _).slots.size ≤ _); rw [arrV_size]; exact hin) rfl rfl hd fun H1 e1 z oq => ?_
  refine K p e s m args below meth c H1 _ la hc (VS.set hS hN z oq) (hB.set hN z oq) (hR.set ⟨ht, ?_⟩ oq) hl h1 h2
  show H1[a]? = some (vp_cell _ _)
  rw [e1, vp_cell_i, vp_cell_i, arrV_store]
  congr 2
  funext q
  by_cases hq : q = i.toNatClampNeg
  · subst hq
    simp [updV, upd]
    try rfl
  · simp [updV, upd, hq]
theorem x_last {a n : Nat} {f : Nat → Int64} {i : Int32} {x : Int64} (hd : decode M.2.1 pc = .ok (.lastore, 1)) (hN : wN w ≤ a) (ha : h a = some (aL n f)) (hin : vp_in i n) (K : X w M d mc ms (pc + 1) ls r (hset h a (aL n (vp_updL f i.toNatClampNeg x))) ck sk Q) : X w M d mc ms pc ls (.long x :: .int i :: .ref a :: r) h ck sk Q := by
  intro p e s m args below meth c H locs la hc hS hB hR hl h1 h2
  have hSR := hc.2.2.2.2.2.2.2.2.2.2.2
  obtain ⟨ht, hcell⟩ := at_arr (hR a _ hN ha)
  refine W.last hc.1 hc.2.1 hcell ((arr_K hSR ht).1 n (fun j => .long (f j))) (fun q => by cases q) (by show ¬ (i < 0 ∨ (arrV _ _ _).slots.size ≤ _); rw [arrV_size]; exact hin) rfl rfl hd fun H1 e1 z oq => ?_
  refine K p e s m args below meth c H1 _ la hc (VS.set hS hN z oq) (hB.set hN z oq) (hR.set ⟨ht, ?_⟩ oq) hl h1 h2
  show H1[a]? = some (vp_cell _ _)
  rw [e1, vp_cell_l, vp_cell_l, arrV_store]
  congr 2
  funext q
  by_cases hq : q = i.toNatClampNeg
  · subst hq; simp [updV, vp_updL]
  · simp [updV, vp_updL, hq]
theorem x_aastN {a n : Nat} {C : String} {f : Nat → Option Nat} {i : Int32} (hd : decode M.2.1 pc = .ok (.aastore, 1)) (hN : wN w ≤ a) (ha : h a = some (aQ (.object C) n f)) (hin : vp_in i n) (K : X w M d mc ms (pc + 1) ls r (hset h a (aQ (.object C) n (va_up f i.toNatClampNeg none))) ck sk Q) : X w M d mc ms pc ls (.null :: .int i :: .ref a :: r) h ck sk Q := by
  intro p e s m args below meth c H locs la hc hS hB hR hl h1 h2
  have hSR := hc.2.2.2.2.2.2.2.2.2.2.2
  obtain ⟨ht, hcell⟩ := at_arr (hR a _ hN ha)
  refine va_WaastN hc.1 hc.2.1 hcell ((arr_K hSR ht).1 n (fun j => va_rf (f j))) (fun q => by cases q) (by show ¬ (i < 0 ∨ (arrV _ _ _).slots.size ≤ _); rw [arrV_size]; exact hin) rfl rfl hd fun H1 e1 z oq => ?_
  refine K p e s m args below meth c H1 _ la hc (VS.set hS hN z oq) (hB.set hN z oq) (hR.set ⟨ht, ?_⟩ oq) hl h1 h2
  show H1[a]? = some (vp_cell _ _)
  rw [e1, vp_cell_q, vp_cell_q, arrV_store]
  congr 2
  funext q
  by_cases hq : q = i.toNatClampNeg
  · subst hq; simp [updV, va_up, va_rf]
  · simp [updV, va_up, hq]
/-- an object of class ci' may be stored where a C is asked -/
def CastOK (ci : Nat) (C : String) : Prop := ∃ (C' : String) (T : u_T) (N : Nat), cxL[ci]? = some (C', T, N) ∧ (C' = C ∨ Jvm.Cond.castable C' C ∈ lw_tbl)
theorem CastOK.asg {w : Wd} {s : State} {ci : Nat} {C : String} {comp : ClassId} (h : CastOK ci C) (hSR : SR w s) (hk : s.vm.findClass C = some comp) : s.vm.assignable ((wD w).1 ci) comp = true := by
  obtain ⟨C', T, N, h1, h2⟩ := h
  have hcls := (hSR.2.1.1 ci _ h1).2
  rcases h2 with h2 | h2
  · subst h2
    cases Option.some.inj (hk.symm.trans hcls.1)
    exact va_assign hcls
  · obtain ⟨c0, t1, f1, f2, f3⟩ := Cond.castable_spec (va_Nw.use (A := #[]) rfl (hSR.2.2.1 _ h2 rfl))
    cases hcls.1.symm.trans f1
    cases hk.symm.trans f2
    exact f3
theorem x_aast {a n v ci : Nat} {C : String} {vs : List Value} {f : Nat → Option Nat} {i : Int32} (hd : decode M.2.1 pc = .ok (.aastore, 1)) (hN : wN w ≤ a) (ha : h a = some (aQ (.object C) n f)) (hv : rd w h v = some (ob ci vs)) (hca : CastOK ci C) (hin : vp_in i n) (K : X w M d mc ms (pc + 1) ls r (hset h a (aQ (.object C) n (va_up f i.toNatClampNeg (some v)))) ck sk Q) : X w M d mc ms pc ls (.ref v :: .int i :: .ref a :: r) h ck sk Q := by
  intro p e s m args below meth c H locs la hc hS hB hR hl h1 h2
  have hSR := hc.2.2.2.2.2.2.2.2.2.2.2
  obtain ⟨ht, hcell⟩ := at_arr (hR a _ hN ha)
  have hlt : i.toNatClampNeg < n := Nat.not_le.mp fun q => hin (Or.inr q)
  have h0 : ¬ i < 0 := fun q => hin (Or.inl q)
  have hca0 := hca
  obtain ⟨C', T, N, g0, -⟩ := hca0
  obtain ⟨cellV, g1, g2, g3, -⟩ := cx_of_at (HR.look hB hR hv) g0
  obtain ⟨hAr, kA, comp, k1, k2, k3, -⟩ := arr_K hSR ht
  obtain ⟨kE, hkE, -⟩ := Vm.findClass_spec k3
  obtain ⟨-, kC, hkC, -⟩ := (hSR.2.1.1 ci _ g0).2
  refine W.aast hc.1 hc.2.1 hcell (fun q h => by cases h) (fun h => by cases h) k1 k2 rfl hkE ⟨h0, by show _ < (arrV _ _ _).slots.size; rw [arrV_size]; exact hlt⟩ g1 (fun q h => by rw [g3] at h; cases h) (by rw [g2]; exact hkC) (by rw [g2]; exact hca.asg hSR k3) rfl rfl hd fun H1 e1 z oq => ?_
  refine K p e s m args below meth c H1 _ la hc (VS.set hS hN z oq) (hB.set hN z oq) (hR.set ⟨ht, ?_⟩ oq) hl h1 h2
  show H1[a]? = some (vp_cell _ _)
  rw [e1, vp_cell_q, vp_cell_q, arrV_store]
  congr 2
  funext q
  by_cases hq : q = i.toNatClampNeg
  · subst hq; simp [updV, va_up, va_rf]
  · simp [updV, va_up, hq]
/-- new arrays -/
theorem x_newa {atype : ArrayType} {ty : FieldType} {n : Int32} {N : Nat} {a0 : vp_A} (hd : decode M.2.1 pc = .ok (.newarray atype, 2)) (hw : Jvm.Cond.arrayClass (newarray.typeOf atype) ∈ lw_all) (hty : newarray.typeOf atype = ty) (htl : ty ∈ tyL) (ha : ∀ cA : ClassId, vp_cell cA a0 = arrV cA N (fun _ => defaultValue ty)) (hra : ∀ (U : State) (cA : ClassId), va_RA U cA ty → U.vm.findClass ("[" ++ ty.toString) = some cA) (hn : ¬ n < 0) (hN : n.toNatClampNeg = N) (hbytes : N * componentBytes ty ≤ 536870912) (hck : ck + 1 ≤ mc) (hsk : sk + N ≤ ms)
    (K : ∀ a, wN w ≤ a → h a = none → X w M d mc ms (pc + 2) ls (.ref a :: r) (hset h a (.inr (.inl (ty, a0)))) (ck + 1) (sk + N) Q) : X w M d mc ms pc ls (.int n :: r) h ck sk Q := by
  intro p e s m args below meth c H locs la hc hS hB hR hl h1 h2
  have hSR := hc.2.2.2.2.2.2.2.2.2.2.2
  subst hty
  refine va_newaK hc.1 hc.2.1 (hc.2.2.2.2.2.2.2.1 _ hw) rfl hd rfl hn hN hbytes hck hsk rfl fun H1 cA e1 z1 o1 hAr hNm => ?_
  have hcA : cA = wA w (newarray.typeOf atype) := Option.some.inj (hNm.symm.trans (hra s _ (arr_K hSR htl).2))
  refine K H.size hB.1 (hR.fresh hB.1) p e s m args below meth c H1 locs la hc (VS.push hS z1 o1) (hB.push z1 o1) (hR.push ⟨htl, ?_⟩ o1) hl hck hsk
  show H1[H.size]? = some (vp_cell _ _)
  rw [ha, e1, hcA]
theorem x_newq {idx : Nat} {C : String} {n : Int32} {N : Nat} (hd : decode M.2.1 pc = .ok (.anewarray idx, 3)) (hw : Jvm.Cond.classLink M.1.cls idx C ∈ lw_all) (hov : Jvm.Cond.arrayOver (.object C) ∈ lw_tbl) (htl : FieldType.object C ∈ tyL) (hn : ¬ n < 0) (hN : n.toNatClampNeg = N) (hbytes : N * 4 ≤ 536870912) (hck : ck + 1 ≤ mc) (hsk : sk + N ≤ ms)
    (K : ∀ a, wN w ≤ a → h a = none → X w M d mc ms (pc + 3) ls (.ref a :: r) (hset h a (aQ (.object C) N (fun _ => none))) (ck + 1) (sk + N) Q) : X w M d mc ms pc ls (.int n :: r) h ck sk Q := by
  intro p e s m args below meth c H locs la hc hS hB hR hl h1 h2
  have hSR := hc.2.2.2.2.2.2.2.2.2.2.2
  subst hN
  refine W.anew hc.1 hc.2.1 hc.2.2.2.2.2.1 (hc.2.2.2.2.2.2.2.1 _ hw) (va_AO.use (hSR.2.2.2.2.2.1.1 C hov)) rfl hd rfl hn hbytes hck hsk fun cA kA comp f1 f2 f3 f4 => ?_
  generalize hH1 : H.push _ = H1
  have z1 : H1.size = H.size + 1 := by rw [← hH1, Array.size_push]
  have e1 : H1[H.size]? = some (arrV cA n.toNatClampNeg (fun _ => .null)) := by rw [← hH1, Array.getElem?_push_size, ← arrV_new]
  have o1 : ∀ q : Nat, q < H.size → H1[q]? = H[q]? := fun q hq => by rw [← hH1, Array.getElem?_push, if_neg (Nat.ne_of_lt hq)]
  obtain ⟨-, kA', comp', -, -, -, g4⟩ := arr_K hSR htl
  have hcA : cA = wA w (.object C) := Option.some.inj (f1.symm.trans g4)
  refine K H.size hB.1 (hR.fresh hB.1) p e s m args below meth c H1 locs la hc (VS.push hS z1 o1) (hB.push z1 o1) (hR.push ⟨htl, ?_⟩ o1) hl hck hsk
  show H1[H.size]? = some (vp_cell _ _)
  rw [vp_cell_q, e1, hcA]
  rfl
/-- checkcast, instanceof -/
theorem recv_ob {w : Wd} {s : State} {h : MH} {H : Heap} {a ci : Nat} {fs : List Value} {C : String} {T : u_T} {N : Nat} (hSR : SR w s) (hB : BR w s H) (hR : HR w h H) (ha : rd w h a = some (ob ci fs)) (hc : cxL[ci]? = some (C, T, N)) : ∃ cell : Cell, H[a]? = some cell ∧ cell.vm.isStatics = false ∧ s.vm.findClass C = some cell.cls := by
  obtain ⟨cell, g1, g2, g3, -⟩ := cx_of_at (HR.look hB hR ha) hc
  exact ⟨cell, g1, by rw [g3]; rfl, by rw [g2]; exact (hSR.2.1.1 ci _ hc).2.1⟩
theorem x_cast {idx a ci : Nat} {fs : List Value} {nm : String} (hd : decode M.2.1 pc = .ok (.checkcast idx, 3)) (hw : Jvm.Cond.classLink M.1.cls idx nm ∈ lw_all) (ha : rd w h a = some (ob ci fs)) (hca : CastOK ci nm) (K : X w M d mc ms (pc + 3) ls (.ref a :: r) h ck sk Q) : X w M d mc ms pc ls (.ref a :: r) h ck sk Q := by
  intro p e s m args below meth c H locs la hc hS hB hR hl h1 h2
  have hSR := hc.2.2.2.2.2.2.2.2.2.2.2
  have K := K p e s m args below meth c H locs la hc hS hB hR hl h1 h2
  obtain ⟨C', T, N, g0, g1⟩ := hca
  have hr := recv_ob hSR hB hR ha g0
  rcases g1 with g1 | g1
  · subst g1
    exact va_castS hc.1 hc.2.1 hc.2.2.2.2.2.1 (hc.2.2.2.2.2.2.2.1 _ hw) (hSR.2.1.1 ci _ g0).2 hr hd K
  · exact va_castY hc.1 hc.2.1 hc.2.2.2.2.2.1 (hc.2.2.2.2.2.2.2.1 _ hw) (hSR.2.2.1 _ g1 rfl) hr hd K
theorem x_castN {idx : Nat} (hd : decode M.2.1 pc = .ok (.checkcast idx, 3)) (K : X w M d mc ms (pc + 3) ls (.null :: r) h ck sk Q) : X w M d mc ms pc ls (.null :: r) h ck sk Q := by
  intro p e s m args below meth c H locs la hc hS hB hR hl h1 h2
  exact lv_castN hc.1 hc.2.1 hd (K p e s m args below meth c H locs la hc hS hB hR hl h1 h2)
theorem x_instY {idx a ci : Nat} {fs : List Value} {nm : String} (hd : decode M.2.1 pc = .ok (.instanceof idx, 3)) (hw : Jvm.Cond.classLink M.1.cls idx nm ∈ lw_all) (ha : rd w h a = some (ob ci fs)) (hca : CastOK ci nm) (K : X w M d mc ms (pc + 3) ls (.int 1 :: r) h ck sk Q) : X w M d mc ms pc ls (.ref a :: r) h ck sk Q := by
  intro p e s m args below meth c H locs la hc hS hB hR hl h1 h2
  have hSR := hc.2.2.2.2.2.2.2.2.2.2.2
  have K := K p e s m args below meth c H locs la hc hS hB hR hl h1 h2
  obtain ⟨C', T, N, g0, g1⟩ := hca
  have hr := recv_ob hSR hB hR ha g0
  rcases g1 with g1 | g1
  · subst g1
    exact va_instS hc.1 hc.2.1 hc.2.2.2.2.2.1 (hc.2.2.2.2.2.2.2.1 _ hw) (hSR.2.1.1 ci _ g0).2 hr hd K
  · exact va_instY hc.1 hc.2.1 hc.2.2.2.2.2.1 (hc.2.2.2.2.2.2.2.1 _ hw) (hSR.2.2.1 _ g1 rfl) hr hd K
theorem x_instNo {idx a ci : Nat} {fs : List Value} {nm C : String} {T : u_T} {N : Nat} (hd : decode M.2.1 pc = .ok (.instanceof idx, 3)) (hw : Jvm.Cond.classLink M.1.cls idx nm ∈ lw_all) (ha : rd w h a = some (ob ci fs)) (hc0 : cxL[ci]? = some (C, T, N)) (hn : (C, nm) ∈ ncL) (K : X w M d mc ms (pc + 3) ls (.int 0 :: r) h ck sk Q) : X w M d mc ms pc ls (.ref a :: r) h ck sk Q := by
  intro p e s m args below meth c H locs la hc hS hB hR hl h1 h2
  have hSR := hc.2.2.2.2.2.2.2.2.2.2.2
  exact va_instNo hc.1 hc.2.1 hc.2.2.2.2.2.1 (hc.2.2.2.2.2.2.2.1 _ hw) (hSR.2.2.2.1 _ hn) (recv_ob hSR hB hR ha hc0) hd (K p e s m args below meth c H locs la hc hS hB hR hl h1 h2)
theorem x_instN {idx : Nat} (hd : decode M.2.1 pc = .ok (.instanceof idx, 3)) (K : X w M d mc ms (pc + 3) ls (.int 0 :: r) h ck sk Q) : X w M d mc ms pc ls (.null :: r) h ck sk Q := by
  intro p e s m args below meth c H locs la hc hS hB hR hl h1 h2
  exact lv_instN hc.1 hc.2.1 hd (K p e s m args below meth c H locs la hc hS hB hR hl h1 h2)
/-- constants of the pool; statics; String constants -/
def LdcOK (own : String) (idx : Nat) (v : Value) : Prop := (∃ x : Int32, v = .int x ∧ Jvm.Cond.constant own idx x ∈ lw_all) ∨ ∃ x : Int64, v = .long x ∧ Jvm.Cond.constantLong own idx x ∈ lw_all
theorem x_ldc {idx : Nat} {v : Value} (hd : decode M.2.1 pc = .ok (.ldc idx, 2)) (hw : LdcOK M.1.cls idx v) (hi : v.category = 1) (K : X w M d mc ms (pc + 2) ls (v :: r) h ck sk Q) : X w M d mc ms pc ls r h ck sk Q := by
  intro p e s m args below meth c H locs la hc hS hB hR hl h1 h2
  rcases hw with ⟨x, e9, hw⟩ | ⟨x, e9, hw⟩
  · subst e9; exact lv_ldc hc.1 hc.2.1 hc.2.2.2.2.2.1 (hc.2.2.2.2.2.2.2.1 _ hw) hd (K p e s m args below meth c H locs la hc hS hB hR hl h1 h2)
  · subst e9; cases hi
theorem x_ldcw {idx : Nat} {v : Value} (hd : decode M.2.1 pc = .ok (.ldc_w idx, 3)) (hw : LdcOK M.1.cls idx v) (hi : v.category = 1) (K : X w M d mc ms (pc + 3) ls (v :: r) h ck sk Q) : X w M d mc ms pc ls r h ck sk Q := by
  intro p e s m args below meth c H locs la hc hS hB hR hl h1 h2
  rcases hw with ⟨x, e9, hw⟩ | ⟨x, e9, hw⟩
  · subst e9; exact lv_ldcw hc.1 hc.2.1 hc.2.2.2.2.2.1 (hc.2.2.2.2.2.2.2.1 _ hw) hd (K p e s m args below meth c H locs la hc hS hB hR hl h1 h2)
  · subst e9; cases hi
theorem x_ldc2 {idx : Nat} {v : Value} (hd : decode M.2.1 pc = .ok (.ldc2_w idx, 3)) (hw : LdcOK M.1.cls idx v) (hi : v.category = 2) (K : X w M d mc ms (pc + 3) ls (v :: r) h ck sk Q) : X w M d mc ms pc ls r h ck sk Q := by
  intro p e s m args below meth c H locs la hc hS hB hR hl h1 h2
  rcases hw with ⟨x, e9, hw⟩ | ⟨x, e9, hw⟩
  · subst e9; cases hi
  · subst e9; exact lv_ldc2 hc.1 hc.2.1 hc.2.2.2.2.2.1 (hc.2.2.2.2.2.2.2.1 _ hw) hd (K p e s m args below meth c H locs la hc hS hB hR hl h1 h2)
theorem x_ldcS {idx : Nat} {tx : String} (hd : decode M.2.1 pc = .ok (.ldc idx, 2)) (hw : (M.1.cls, idx, tx) ∈ sL) (K : X w M d mc ms (pc + 2) ls (.ref (wS w tx) :: r) h ck sk Q) : X w M d mc ms pc ls r h ck sk Q := by
  intro p e s m args below meth c H locs la hc hS hB hR hl h1 h2
  have hSR := hc.2.2.2.2.2.2.2.2.2.2.2
  exact va_ldcS hc.1 hc.2.1 hc.2.2.2.2.2.1 (hSR.2.2.2.2.2.2.1 _ hw) hd (K p e s m args below meth c H locs la hc hS hB hR hl h1 h2)
/-- a static, by the table zL -/
theorem x_gets {idx : Nat} {C n d' ref : String} {v : Value} (hd : decode M.2.1 pc = .ok (.getstatic idx, 3)) (hz : (C, n, d', v) ∈ zL w) (hw : Jvm.Cond.fieldLink M.1.cls idx ref n d' ∈ lw_all) (hsame : ref = C ∨ Jvm.Cond.sameField ref C n d' ∈ lw_all) (K : X w M d mc ms (pc + 3) ls (v :: r) h ck sk Q) : X w M d mc ms pc ls r h ck sk Q := by
  intro p e s m args below meth c H locs la hc hS hB hR hl h1 h2
  have hts := hc.2.2.2.2.2.2.2.1
  obtain ⟨cf, kf, fi, f, a, cell, z1, z2, z3, z4, z5, z6, z7, z8⟩ := hB.2.2.1 _ hz
  have hi2 : s.fieldFound? ref n d' = some (cf, kf, fi, f) := by
    rcases hsame with e9 | e9
    · rw [e9]; exact z1
    · exact u_same (hts _ e9) _ z1
  exact W.gets hc.1 hc.2.1 hc.2.2.2.2.2.1 (hts _ hw) hi2 z2 z3 z4 z5 (fun q => by rw [q] at z6; cases z6) z7 rfl hd (K p e s m args below meth c H locs la hc hS hB hR hl h1 h2)
/-- ends -/
theorem x_iret {x : Int32} {ty : FieldType} (hd : decode M.2.1 pc = .ok (.ireturn, 1)) (hr : M.2.2.2.1 = some ty) (hn : narrow ty (.int x) = .int x) (hQ : Q (.inl (some (.int x))) h) : X w M d mc ms pc ls [.int x] h ck sk Q := by
  intro p e s m args below meth c H locs la hc hS hB hR hl h1 h2
  refine W.widen h1 h2 (vx_ret ?_)
  exact W.zret hc.1 hc.2.1 (hc.2.2.2.1.trans hr) hn (fun t ht hW => ⟨hS.F ht, _, h, rfl, by rw [ht]; exact hR, hQ⟩) hS.2.2 hd hc.2.2.2.2.1
theorem x_lret {x : Int64} (hd : decode M.2.1 pc = .ok (.lreturn, 1)) (hr : M.2.2.2.1 = some .long) (hQ : Q (.inl (some (.long x))) h) : X w M d mc ms pc ls [.long x] h ck sk Q := by
  intro p e s m args below meth c H locs la hc hS hB hR hl h1 h2
  refine W.widen h1 h2 (vx_ret ?_)
  exact W.lret hc.1 hc.2.1 (hc.2.2.2.1.trans hr) (fun t ht hW => ⟨hS.F ht, _, h, rfl, by rw [ht]; exact hR, hQ⟩) hS.2.2 hd hc.2.2.2.2.1
theorem x_vret (hd : decode M.2.1 pc = .ok (.return_, 1)) (hr : M.2.2.2.1 = none) (hQ : Q (.inl none) h) : X w M d mc ms pc ls [] h ck sk Q := by
  intro p e s m args below meth c H locs la hc hS hB hR hl h1 h2
  refine W.widen h1 h2 (vx_ret ?_)
  exact W.vret hc.1 hc.2.1 (hc.2.2.2.1.trans hr) (fun t ht hW => ⟨hS.F ht, _, h, rfl, by rw [ht]; exact hR, hQ⟩) hS.2.2 hd hc.2.2.2.2.1
def refT (t : Option FieldType) : Prop := match t with
  | some (.object _) => True
  | some (.array _) => True
  | _ => False
theorem x_aret {v : Value} (hd : decode M.2.1 pc = .ok (.areturn, 1)) (hr : refT M.2.2.2.1) (hv : v = .null ∨ ∃ a, v = .ref a) (hQ : Q (.inl (some v)) h) : X w M d mc ms pc ls [v] h ck sk Q := by
  intro p e s m args below meth c H locs la hc hS hB hR hl h1 h2
  have hrr : ∃ rt, M.2.2.2.1 = some rt ∧ ((∃ n, rt = .object n) ∨ ∃ t, rt = .array t) := by
    unfold refT at hr
    split at hr
    · exact ⟨_, by assumption, Or.inl ⟨_, rfl⟩⟩
    · exact ⟨_, by assumption, Or.inr ⟨_, rfl⟩⟩
    · exact hr.elim
  obtain ⟨rt, e1, e2⟩ := hrr
  refine W.widen h1 h2 (vx_ret ?_)
  exact W.aret hc.1 hc.2.1 (hc.2.2.2.1.trans e1) e2 hv (fun t ht hW => ⟨hS.F ht, _, h, rfl, by rw [ht]; exact hR, hQ⟩) hS.2.2 hd hc.2.2.2.2.1
theorem x_athrow {q ci : Nat} {fs : List Value} {C : String} {T : u_T} {N : Nat} (hd : decode M.2.1 pc = .ok (.athrow, 1)) (ha : rd w h q = some (ob ci fs)) (hc0 : cxL[ci]? = some (C, T, N)) (K : XT w M d mc ms pc ls C q h ck sk Q) : X w M d mc ms pc ls (.ref q :: r) h ck sk Q := by
  intro p e s m args below meth c H locs la hc hS hB hR hl h1 h2
  have hSR := hc.2.2.2.2.2.2.2.2.2.2.2
  obtain ⟨cell, g1, g2, g3, -⟩ := cx_of_at (HR.look hB hR ha) hc0
  exact vx_athrow hc.1 hc.2.1 hd (K p e s m args below meth c H locs la r cell hc hS hB hR hl h1 h2 g1 g3 (by rw [g2]; exact (hSR.2.1.1 ci _ hc0).2.1))
/-- counted cells may be rounded up -/
theorem x_widen {k n : Nat} (h1 : ck ≤ k) (h2 : sk ≤ n) (h3 : k ≤ mc) (h4 : n ≤ ms) {st : List Value} (K : X w M d mc ms pc ls st h k n Q) : X w M d mc ms pc ls st h ck sk Q := by
  intro p e s m args below meth c H locs la hc hS hB hR hl _ _
  exact W.widen h1 h2 (K p e s m args below meth c H locs la hc hS hB hR hl h3 h4)
/-- what is known of the heap may be forgotten -/
theorem x_forget {h2 : MH} {st : List Value} (hh : ∀ a c, h2 a = some c → h a = some c) (K : X w M d mc ms pc ls st h2 ck sk Q) : X w M d mc ms pc ls st h ck sk Q := by
  intro p e s m args below meth c H locs la hc hS hB hR hl h1 h3
  exact K p e s m args below meth c H locs la hc hS hB (fun a c ha hq => hR a c ha (hh a c hq)) hl h1 h3
end XHEAP
