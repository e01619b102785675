/-! G ROWS: cells (printed in part by gen/heap.py) -/
set_option maxRecDepth 100000
def gObj (h : gHp) (r : Option Nat) (ci : Nat) : Option (Nat × List gV) := match r with
  | none => none
  | some a => match h.1 a with
    | some (.inr o) => if o.1 = ci then some (a, o.2) else none
    | _ => none
def gArr (h : gHp) (r : Option Nat) (ti : Nat) : Option (Nat × vp_A) := match r with
  | none => none
  | some a => match h.1 a with
    | some (.inl x) => if x.1 = ti then some (a, x.2) else none
    | _ => none
theorem gObj_some {h : gHp} {r : Option Nat} {ci : Nat} {q : Nat × List gV} (e : gObj h r ci = some q) : r = some q.1 ∧ h.1 q.1 = some (.inr (ci, q.2)) := by
  unfold gObj at e
  cases r with
  | none => cases e
  | some a =>
    simp only at e
    split at e
    · rename_i o ho
      split at e
      · rename_i hc
        cases e
        obtain ⟨c, fs⟩ := o
        simp only at hc
        subst hc
        exact ⟨rfl, ho⟩
      · cases e
    · cases e
theorem gArr_some {h : gHp} {r : Option Nat} {ti : Nat} {q : Nat × vp_A} (e : gArr h r ti = some q) : r = some q.1 ∧ h.1 q.1 = some (.inl (ti, q.2)) := by
  unfold gArr at e
  cases r with
  | none => cases e
  | some a =>
    simp only at e
    split at e
    · rename_i o ho
      split at e
      · rename_i hc
        cases e
        obtain ⟨c, fs⟩ := o
        simp only at hc
        subst hc
        exact ⟨rfl, ho⟩
      · cases e
    · cases e
/-- fields: an int, a reference -/
def gGi (h : gHp) (r : Option Nat) (ci k : Nat) : Option Int32 := match gObj h r ci with
  | some q => match q.2[k]? with
    | some (.inl x) => some x
    | _ => none
  | none => none
def gGq (h : gHp) (r : Option Nat) (ci k : Nat) : Option (Option Nat) := match gObj h r ci with
  | some q => match q.2[k]? with
    | some (.inr (.inl x)) => some x
    | _ => none
  | none => none
def gPv (h : gHp) (r : Option Nat) (ci k : Nat) (v : gV) : Option gHp := match gObj h r ci with
  | some q => if h.2.2.2.1 ≤ q.1 ∧ k < q.2.length then some (gset h q.1 (.inr (ci, q.2.set k v))) else none
  | none => none
/-- an int into a field, a reference into a field, an int that fits a small type -/
def gPi (h : gHp) (r : Option Nat) (ci k : Nat) (x : Int32) : Option gHp := gPv h r ci k (gi x)
def gPq (h : gHp) (r : Option Nat) (ci k : Nat) (x : Option Nat) : Option gHp := gPv h r ci k (gq x)
def gfz (x : Int32) : Bool := x == 0 || x == 1
def gfb (x : Int32) : Bool := x.toInt8.toInt32 == x
def gPz (h : gHp) (r : Option Nat) (ci k : Nat) (x : Int32) : Option gHp := if gfz x = true then gPv h r ci k (gi x) else none
def gPb (h : gHp) (r : Option Nat) (ci k : Nat) (x : Int32) : Option gHp := if gfb x = true then gPv h r ci k (gi x) else none
theorem gGi_some {h : gHp} {r : Option Nat} {ci k : Nat} {x : Int32} (e : gGi h r ci k = some x) : ∃ a fs, r = some a ∧ h.1 a = some (.inr (ci, fs)) ∧ fs[k]? = some (gi x) := by
  unfold gGi at e
  split at e
  · rename_i q hq
    obtain ⟨e1, e2⟩ := gObj_some hq
    split at e
    · rename_i y hy
      cases e
      exact ⟨_, _, e1, e2, hy⟩
    · cases e
  · cases e
theorem gGq_some {h : gHp} {r : Option Nat} {ci k : Nat} {x : Option Nat} (e : gGq h r ci k = some x) : ∃ a fs, r = some a ∧ h.1 a = some (.inr (ci, fs)) ∧ fs[k]? = some (gq x) := by
  unfold gGq at e
  split at e
  · rename_i q hq
    obtain ⟨e1, e2⟩ := gObj_some hq
    split at e
    · rename_i y hy
      cases e
      exact ⟨_, _, e1, e2, hy⟩
    · cases e
  · cases e
theorem gPv_some {h h' : gHp} {r : Option Nat} {ci k : Nat} {v : gV} (e : gPv h r ci k v = some h') : ∃ a fs, r = some a ∧ h.1 a = some (.inr (ci, fs)) ∧ h.2.2.2.1 ≤ a ∧ k < fs.length ∧ h' = gset h a (.inr (ci, fs.set k v)) := by
  unfold gPv at e
  split at e
  · rename_i q hq
    obtain ⟨e1, e2⟩ := gObj_some hq
    split at e
    · rename_i hc
      cases e
      exact ⟨_, _, e1, e2, hc.1, hc.2, rfl⟩
    · cases e
  · cases e
theorem gP1 {K : gKT} {H : Heap} {a ci : Nat} {fs : List gV} (hg : gat K a (.inr (ci, fs)) H) : va_P (K.2.1, K.2.2.1) gcl [(a, .inr (ci, fs.map gval))] H := by
  intro k q hq
  have hk : k < 1 := (List.getElem?_eq_some_iff.mp hq).1
  rw [show k = 0 by omega] at hq
  cases hq
  exact hg
theorem gP2 {K : gKT} {H : Heap} {a ti : Nat} {x : vp_A} (h1 : gat K a (.inl (ti, x)) H) : ti < 7 ∧ va_P (K.2.1, K.2.2.1) gcl [(a, .inl (K.2.2.2.1 ti, x))] H := by
  refine ⟨h1.1, ?_⟩
  intro k q hq
  have hk : k < 1 := (List.getElem?_eq_some_iff.mp hq).1
  rw [show k = 0 by omega] at hq
  cases hq
  exact h1.2
theorem gVm {fs : List gV} {k : Nat} {v : gV} (h : fs[k]? = some v) : (fs.map gval)[k]? = some (gval v) := by rw [List.getElem?_map, h]; rfl
theorem gOldF {X : gXT} (C : gCtx X) {a ci k : Nat} {fs : List gV} {Cn : String} {T : u_T} {N : Nat} {v : gV} (h2 : kOld (xK X) a = some (.inr (ci, fs))) (hc : gcl[ci]? = some (Cn, T, N)) (hf : fs[k]? = some v) : va_OF (T k).1 (T k).2.1 (T k).2.2.1 (gval v) a (gAb (xK X)) (xs X) (kH (xK X)) := by
  have h3 := C.hOl a _ h2
  unfold gOl at h3
  split at h3
  · rename_i e
    cases e
  · rename_i e
    cases e
  · rename_i w c e
    cases e
    cases hc
    match k, hf with
    | 0, hf => cases hf; exact h3.2.1
    | 1, hf => cases hf; exact h3.2.2
    | k + 2, hf => simp at hf
  · exact h3.elim
section GH
variable {X : gXT} {h : gHp} {pc : Nat} {lv : List (Nat × gV)} {st : List gV} {α : Type} {out : α}
theorem r_getf_i (C : gCtx X) {own ref Cn : String} {T : u_T} {N index : Nat} {r : Option Nat} {kk : Int32 → Option α} (ci k : Nat) (hc : gcl[ci]? = some (Cn, T, N)) (hin : ∀ w ∈ u_ws Cn T N, w ∈ lw_all) (hk : k < N) (hw : xw X = own) (hl : Cond.fieldLink own index ref (T k).2.1 (T k).2.2.1 ∈ lw_all) (hs : ∀ x, (xs X).fieldFound? (T k).1 (T k).2.1 (T k).2.2.1 = some x → (xs X).fieldFound? ref (T k).2.1 (T k).2.2.1 = some x)
    (d : decode (xy X) pc = .ok (.getfield index, 3)) (he : bd (gGi h r ci k) kk = some out) (kt : ∀ v, kk v = some out → gW X h (pc + 3) lv (gi v :: st)) : gW X h pc lv (gq r :: st) := by
  obtain ⟨v, e1, e2⟩ := bd_some he
  obtain ⟨a, fs, rfl, f2, f3⟩ := gGi_some e1
  intro H locs ls P
  rcases P.1.1 a _ f2 with hg | ⟨ho1, ho2⟩
  · exact va_get C.hx C.hb C.hts hin (by rw [← hw]; exact C.hown) C.hKs.1 (gP1 hg) 0 rfl hc k hk (C.hts _ hl) hs (gVm f3) d (kt v e2 H locs ls P)
  · obtain ⟨cf, kk9, fi, f, cell, g1, g2, g3, g4, g5, g6⟩ := gOldF C ho2 hc f3
    exact W.getf C.hx C.hb (by rw [← hw]; exact C.hown) (C.hts _ hl) (hs _ g1) g2 (by rw [P.1.2.2.2.1 a ho1]; exact g3) g4 g5 rfl rfl d (kt v e2 H locs ls P)
theorem r_getf_q (C : gCtx X) {own ref Cn : String} {T : u_T} {N index : Nat} {r : Option Nat} {kk : Option Nat → Option α} (ci k : Nat) (hc : gcl[ci]? = some (Cn, T, N)) (hin : ∀ w ∈ u_ws Cn T N, w ∈ lw_all) (hk : k < N) (hw : xw X = own) (hl : Cond.fieldLink own index ref (T k).2.1 (T k).2.2.1 ∈ lw_all) (hs : ∀ x, (xs X).fieldFound? (T k).1 (T k).2.1 (T k).2.2.1 = some x → (xs X).fieldFound? ref (T k).2.1 (T k).2.2.1 = some x)
    (d : decode (xy X) pc = .ok (.getfield index, 3)) (he : bd (gGq h r ci k) kk = some out) (kt : ∀ v, kk v = some out → gW X h (pc + 3) lv (gq v :: st)) : gW X h pc lv (gq r :: st) := by
  obtain ⟨v, e1, e2⟩ := bd_some he
  obtain ⟨a, fs, rfl, f2, f3⟩ := gGq_some e1
  intro H locs ls P
  rcases P.1.1 a _ f2 with hg | ⟨ho1, ho2⟩
  · exact va_get C.hx C.hb C.hts hin (by rw [← hw]; exact C.hown) C.hKs.1 (gP1 hg) 0 rfl hc k hk (C.hts _ hl) hs (gVm f3) d (kt v e2 H locs ls P)
  · obtain ⟨cf, kk9, fi, f, cell, g1, g2, g3, g4, g5, g6⟩ := gOldF C ho2 hc f3
    exact W.getf C.hx C.hb (by rw [← hw]; exact C.hown) (C.hts _ hl) (hs _ g1) g2 (by rw [P.1.2.2.2.1 a ho1]; exact g3) g4 g5 rfl rfl d (kt v e2 H locs ls P)
theorem r_getfN_i (C : gCtx X) {own ref Cn host : String} {T : u_T} {N index : Nat} {r : Option Nat} {kk : Int32 → Option α} (ci k : Nat) (hc : gcl[ci]? = some (Cn, T, N)) (hin : ∀ w ∈ u_ws Cn T N, w ∈ lw_all) (hk : k < N) (hw : xw X = own) (hl : Cond.fieldLinkNest own index ref (T k).2.1 (T k).2.2.1 host ∈ gNl) (hs : ∀ x, (xs X).fieldFound? (T k).1 (T k).2.1 (T k).2.2.1 = some x → (xs X).fieldFound? ref (T k).2.1 (T k).2.2.1 = some x)
    (d : decode (xy X) pc = .ok (.getfield index, 3)) (he : bd (gGi h r ci k) kk = some out) (kt : ∀ v, kk v = some out → gW X h (pc + 3) lv (gi v :: st)) : gW X h pc lv (gq r :: st) := by
  obtain ⟨v, e1, e2⟩ := bd_some he
  obtain ⟨a, fs, rfl, f2, f3⟩ := gGi_some e1
  intro H locs ls P
  rcases P.1.1 a _ f2 with hg | ⟨ho1, ho2⟩
  · exact va_getN C.hx C.hb C.hts hin (by rw [← hw]; exact C.hown) C.hKs.1 (gP1 hg) 0 rfl hc k hk (va_Nw.use rfl (C.hKs.2.1 _ hl)) hs (gVm f3) d (kt v e2 H locs ls P)
  · obtain ⟨cf, kk9, fi, f, cell, g1, g2, g3, g4, g5, g6⟩ := gOldF C ho2 hc f3
    exact va_Wgetf C.hx C.hb (by rw [← hw]; exact C.hown) (va_Nw.use rfl (C.hKs.2.1 _ hl)) (hs _ g1) g2 (by rw [P.1.2.2.2.1 a ho1]; exact g3) g4 g5 rfl rfl d (kt v e2 H locs ls P)
theorem r_getfN_q (C : gCtx X) {own ref Cn host : String} {T : u_T} {N index : Nat} {r : Option Nat} {kk : Option Nat → Option α} (ci k : Nat) (hc : gcl[ci]? = some (Cn, T, N)) (hin : ∀ w ∈ u_ws Cn T N, w ∈ lw_all) (hk : k < N) (hw : xw X = own) (hl : Cond.fieldLinkNest own index ref (T k).2.1 (T k).2.2.1 host ∈ gNl) (hs : ∀ x, (xs X).fieldFound? (T k).1 (T k).2.1 (T k).2.2.1 = some x → (xs X).fieldFound? ref (T k).2.1 (T k).2.2.1 = some x)
    (d : decode (xy X) pc = .ok (.getfield index, 3)) (he : bd (gGq h r ci k) kk = some out) (kt : ∀ v, kk v = some out → gW X h (pc + 3) lv (gq v :: st)) : gW X h pc lv (gq r :: st) := by
  obtain ⟨v, e1, e2⟩ := bd_some he
  obtain ⟨a, fs, rfl, f2, f3⟩ := gGq_some e1
  intro H locs ls P
  rcases P.1.1 a _ f2 with hg | ⟨ho1, ho2⟩
  · exact va_getN C.hx C.hb C.hts hin (by rw [← hw]; exact C.hown) C.hKs.1 (gP1 hg) 0 rfl hc k hk (va_Nw.use rfl (C.hKs.2.1 _ hl)) hs (gVm f3) d (kt v e2 H locs ls P)
  · obtain ⟨cf, kk9, fi, f, cell, g1, g2, g3, g4, g5, g6⟩ := gOldF C ho2 hc f3
    exact va_Wgetf C.hx C.hb (by rw [← hw]; exact C.hown) (va_Nw.use rfl (C.hKs.2.1 _ hl)) (hs _ g1) g2 (by rw [P.1.2.2.2.1 a ho1]; exact g3) g4 g5 rfl rfl d (kt v e2 H locs ls P)
/-- behind a store into a field -/
theorem gPut {H H' : Heap} {locs : List Loc} {ls : Array Slot} {ci a k : Nat} {Cn : String} {T : u_T} {N : Nat} {fs : List gV} {cell : Cell} {v : gV} (P : gPt X h lv H locs ls) (f2 : h.1 a = some (.inr (ci, fs))) (hb : h.2.2.2.1 ≤ a) (hc : gcl[ci]? = some (Cn, T, N)) (hl : k < fs.length) (hk : k < N)
    (q1 : H[a]? = some cell) (q2 : cell.cls = (xK X).2.1 ci) (q3 : cell.vm = .none) (q4 : ∀ j, j < N → cell.slots[(xK X).2.2.1 ci j]? = some (vp_V (fs.map gval) j)) (hap : ∀ x y, x < N → y < N → x ≠ y → (xK X).2.2.1 ci x ≠ (xK X).2.2.1 ci y)
    (e1 : H'[a]? = some (cell.setSlot ((xK X).2.2.1 ci k) (gval v))) (e2 : H'.size = H.size) (e3 : ∀ q, q ≠ a → H'[q]? = H[q]?) : gPt X (gset h a (.inr (ci, fs.set k v))) lv H' (locs ++ [⟨a, (xK X).2.2.1 ci k⟩]) ls := by
  have hb' : kB (xK X) ≤ a := by rw [← P.1.2.2.2.2.1]; exact hb
  refine ⟨gI_upd P.1 f2 ?_ e2 e3 ?_ hb', ?_, by rw [e2]; exact P.2.2.1, P.2.2.2⟩
  · refine ⟨_, hc, ?_⟩
    refine t_OB.to (V := updV (vp_V (fs.map gval)) k (gval v)) ⟨_, e1, q2, q3, t_set q4 hap hk (gval v)⟩ (fun j _ => ?_)
    rw [List.map_set]
    exact vp_updV_set (by simpa using hl) (gval v) j
  · intro c c' g1 g2
    rw [q1] at g1
    rw [e1] at g2
    cases g1
    cases g2
    simp [Cell.setSlot]
  · intro z hz
    rcases List.mem_append.mp hz with g | g
    · exact P.2.1 z g
    · rw [List.mem_singleton.mp g]
      exact hb'
theorem r_putf (C : gCtx X) {own ref Cn : String} {T : u_T} {N index : Nat} {r : Option Nat} {v : gV} {h' : gHp} (ci k : Nat) (hc : gcl[ci]? = some (Cn, T, N)) (hin : ∀ w ∈ u_ws Cn T N, w ∈ lw_all) {ty0 : Nat → FieldType} (hty : ∀ k, k < N → parseFieldDescriptor (T k).2.2.1 = some (ty0 k)) (hnm : ∀ a, a < N → ∀ b, b < N → a ≠ b → (T a).2.1 ≠ (T b).2.1) (hk : k < N) (hw : xw X = own) (hl : Cond.fieldLink own index ref (T k).2.1 (T k).2.2.1 ∈ lw_all) (hs : ∀ x, (xs X).fieldFound? (T k).1 (T k).2.1 (T k).2.2.1 = some x → (xs X).fieldFound? ref (T k).2.1 (T k).2.2.1 = some x) (hfin : (T k).2.2.2 = false)
    (hn : narrow (ty0 k) (gval v) = gval v) (hfit : fits (ty0 k) (gval v) = true) (d : decode (xy X) pc = .ok (.putfield index, 3)) (e : gPv h r ci k v = some h') (kt : gW X h' (pc + 3) lv st) : gW X h pc lv (v :: gq r :: st) := by
  obtain ⟨a, fs, rfl, f2, hb, hlen, rfl⟩ := gPv_some e
  intro H locs ls P
  have hown : (xs X).vm.findClass own = some (xm X).cls := by rw [← hw]; exact C.hown
  have hap := va_apart (own := own) C.hts hin ty0 hty hnm C.hKs.1 hc
  obtain ⟨r, h1, cell, q1, q2, q3, q4⟩ := gStrb P.1 f2 hb
  have hr : r = (Cn, T, N) := Option.some.inj (h1.symm.trans hc)
  subst hr
  obtain ⟨hS, hfc, kC, hkC, hkind⟩ := C.hKs.1.1 ci _ hc
  obtain ⟨cf, kf, fi, f, hi, hsl⟩ := hS k hk
  have hlay := C.hts _ (hin _ (u_in_lay hk))
  unfold u_lay at hlay
  rw [if_neg (by rw [hfin]; decide)] at hlay
  have hst := (u_facts hfc hkC (u_lays C.hts hin hk) hi).1
  have h6 := u_store hfc hkC hkind hlay hi (hty k hk) hn hfit
  refine W.putK C.hx C.hb (f := f) ⟨hown, C.hts _ hl, ⟨_, _, _, hs _ hi⟩, hst⟩ (by rw [q2]; exact h6) q1 q3 (by rw [hsl]; exact k2_hasslot (q4 k hk)) rfl rfl d fun H' e1 e2 e3 => ?_
  rw [hsl] at e1 ⊢
  exact kt H' _ ls (gPut P f2 hb hc hlen hk q1 q2 q3 q4 hap e1 e2 e3)
theorem r_putfN (C : gCtx X) {own ref Cn host : String} {T : u_T} {N index : Nat} {r : Option Nat} {v : gV} {h' : gHp} (ci k : Nat) (hc : gcl[ci]? = some (Cn, T, N)) (hin : ∀ w ∈ u_ws Cn T N, w ∈ lw_all) {ty0 : Nat → FieldType} (hty : ∀ k, k < N → parseFieldDescriptor (T k).2.2.1 = some (ty0 k)) (hnm : ∀ a, a < N → ∀ b, b < N → a ≠ b → (T a).2.1 ≠ (T b).2.1) (hk : k < N) (hw : xw X = own) (hl : Cond.fieldLinkNest own index ref (T k).2.1 (T k).2.2.1 host ∈ gNl) (hs : ∀ x, (xs X).fieldFound? (T k).1 (T k).2.1 (T k).2.2.1 = some x → (xs X).fieldFound? ref (T k).2.1 (T k).2.2.1 = some x) (hfin : (T k).2.2.2 = false)
    (hn : narrow (ty0 k) (gval v) = gval v) (hfit : fits (ty0 k) (gval v) = true) (d : decode (xy X) pc = .ok (.putfield index, 3)) (e : gPv h r ci k v = some h') (kt : gW X h' (pc + 3) lv st) : gW X h pc lv (v :: gq r :: st) := by
  obtain ⟨a, fs, rfl, f2, hb, hlen, rfl⟩ := gPv_some e
  intro H locs ls P
  have hown : (xs X).vm.findClass own = some (xm X).cls := by rw [← hw]; exact C.hown
  have hap := va_apart (own := own) C.hts hin ty0 hty hnm C.hKs.1 hc
  obtain ⟨r, h1, cell, q1, q2, q3, q4⟩ := gStrb P.1 f2 hb
  have hr : r = (Cn, T, N) := Option.some.inj (h1.symm.trans hc)
  subst hr
  obtain ⟨hS, hfc, kC, hkC, hkind⟩ := C.hKs.1.1 ci _ hc
  obtain ⟨cf, kf, fi, f, hi, hsl⟩ := hS k hk
  have hlay := C.hts _ (hin _ (u_in_lay hk))
  unfold u_lay at hlay
  rw [if_neg (by rw [hfin]; decide)] at hlay
  have hst := (u_facts hfc hkC (u_lays C.hts hin hk) hi).1
  have h6 := u_store hfc hkC hkind hlay hi (hty k hk) hn hfit
  refine va_WputK C.hx C.hb (f := f) hown (va_Nw.use rfl (C.hKs.2.1 _ hl)) (hs _ hi) hst (by rw [q2]; exact h6) q1 q3 (by rw [hsl]; exact k2_hasslot (q4 k hk)) rfl rfl d fun H' e1 e2 e3 => ?_
  rw [hsl] at e1 ⊢
  exact kt H' _ ls (gPut P f2 hb hc hlen hk q1 q2 q3 q4 hap e1 e2 e3)
theorem r_putfF (C : gCtx X) {own ref Cn : String} {T : u_T} {N index : Nat} {r : Option Nat} {v : gV} {h' : gHp} (ci k : Nat) (hc : gcl[ci]? = some (Cn, T, N)) (hin : ∀ w ∈ u_ws Cn T N, w ∈ lw_all) {ty0 : Nat → FieldType} (hty : ∀ k, k < N → parseFieldDescriptor (T k).2.2.1 = some (ty0 k)) (hnm : ∀ a, a < N → ∀ b, b < N → a ≠ b → (T a).2.1 ≠ (T b).2.1) (hk : k < N) (hw : xw X = own) (hl : Cond.fieldLink own index ref (T k).2.1 (T k).2.2.1 ∈ lw_all) (hs : ∀ x, (xs X).fieldFound? (T k).1 (T k).2.1 (T k).2.2.1 = some x → (xs X).fieldFound? ref (T k).2.1 (T k).2.2.1 = some x) (hfin : (T k).2.2.2 = true) (hin2 : (xM X).name = "<init>") (hdecl : (T k).1 = own)
    (hn : narrow (ty0 k) (gval v) = gval v) (hfit : fits (ty0 k) (gval v) = true) (d : decode (xy X) pc = .ok (.putfield index, 3)) (e : gPv h r ci k v = some h') (kt : gW X h' (pc + 3) lv st) : gW X h pc lv (v :: gq r :: st) := by
  obtain ⟨a, fs, rfl, f2, hb, hlen, rfl⟩ := gPv_some e
  intro H locs ls P
  have hown : (xs X).vm.findClass own = some (xm X).cls := by rw [← hw]; exact C.hown
  have hap := va_apart (own := own) C.hts hin ty0 hty hnm C.hKs.1 hc
  obtain ⟨r, h1, cell, q1, q2, q3, q4⟩ := gStrb P.1 f2 hb
  have hr : r = (Cn, T, N) := Option.some.inj (h1.symm.trans hc)
  subst hr
  obtain ⟨hS, hfc, kC, hkC, hkind⟩ := C.hKs.1.1 ci _ hc
  obtain ⟨cf, kf, fi, f, hi, hsl⟩ := hS k hk
  have hlay := C.hts _ (hin _ (u_in_lay hk))
  unfold u_lay at hlay
  rw [if_pos hfin] at hlay
  have hst := (u_facts hfc hkC (u_lays C.hts hin hk) hi).1
  have hcf : (xm X).cls = cf := by
    obtain ⟨_, _, c', _, _, _, -, -, hf', -, -, -, hown2, -⟩ := Cond.laysFinal_spec hlay
    have e1 : c' = cf := by have := hi.symm.trans hf'; simp at this; exact this.1.symm
    rw [hdecl] at hown2
    rw [← e1]; exact Option.some.inj (hown.symm.trans hown2)
  have h6 := u_fits hfc hkC hkind (Or.inr hlay) hi (hty k hk) hn hfit
  refine W.putFinK C.hx C.hb hown (C.hts _ hl) (hs _ hi) hst hcf hin2 (by rw [q2]; exact h6) q1 q3 (by rw [hsl]; exact k2_hasslot (q4 k hk)) rfl rfl d fun H' e1 e2 e3 => ?_
  rw [hsl] at e1 ⊢
  exact kt H' _ ls (gPut P f2 hb hc hlen hk q1 q2 q3 q4 hap e1 e2 e3)
end GH
