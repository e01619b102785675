/-! G ROWS: what the printed walks use beside the rows -/
set_option maxRecDepth 100000
theorem dk {c c' : ByteArray} {pc : Nat} {r : Except DecodeError (Instr × Nat)} (h : c = c') (d : decode c' pc = r) : decode c pc = r := by rw [h]; exact d
abbrev gHyp (X : gXT) (c : ByteArray) (own : String) (n : Nat) (ret : Option FieldType) (tbl : List ExceptionTableEntry) (d : Nat) (nm : String) : Prop :=
  gCtx X ∧ xy X = c ∧ xw X = own ∧ (xc X).maxLocals = n ∧ (xM X).sig.returnType = ret ∧ (xc X).exceptionTable.toList = tbl ∧ xd X = d ∧ (xM X).name = nm
def bd2 {α β γ : Type} (o : Option (β × γ)) (k : β → γ → Option α) : Option α := match o with
  | none => none
  | some v => k v.1 v.2
theorem bd2_some {α β γ : Type} {o : Option (β × γ)} {k : β → γ → Option α} {out : α} (h : bd2 o k = some out) : ∃ a b, o = some (a, b) ∧ k a b = some out := by
  cases o with
  | none => cases h
  | some v => exact ⟨v.1, v.2, rfl, h⟩
def ap2 {α β γ : Type} (v : β × γ) (k : β → γ → α) : α := k v.1 v.2
theorem ap2_m {α β γ : Type} {a : β} {b : γ} {k : β → γ → Option α} {out : α} (h : ap2 (a, b) k = some out) : k a b = some out := h
def gEl {α β γ : Type} (z : β ⊕ γ) (f : β → α) (g : γ → α) : α := match z with
  | .inl a => f a
  | .inr b => g b
theorem gEl_l {α β γ : Type} {a : β} {f : β → Option α} {g : γ → Option α} {out : α} (h : gEl (.inl a) f g = some out) : f a = some out := h
theorem gEl_r {α β γ : Type} {b : γ} {f : β → Option α} {g : γ → Option α} {out : α} (h : gEl (.inr b) f g = some out) : g b = some out := h
def nm {α β : Type} (x : β) (k : β → Option α) : Option α := k x
def gTi (r : Int32 ⊕ (Nat × Nat)) : gO := match r with
  | .inl v => .inl (some (gi v))
  | .inr x => .inr x
def gTq (r : Option Nat ⊕ (Nat × Nat)) : gO := match r with
  | .inl v => .inl (some (gq v))
  | .inr x => .inr x
def gTf (r : UInt32 ⊕ (Nat × Nat)) : gO := match r with
  | .inl v => .inl (some (gf v))
  | .inr x => .inr x
def gTd (r : UInt64 ⊕ (Nat × Nat)) : gO := match r with
  | .inl v => .inl (some (gd v))
  | .inr x => .inr x
def gTu (r : Unit ⊕ (Nat × Nat)) : gO := match r with
  | .inl _ => .inl none
  | .inr x => .inr x
theorem g_ite {α : Type} {c : Prop} [Decidable c] {a b : Option α} {out : α} {G : Prop} (he : (if c then a else b) = some out) (kt : c → a = some out → G) (kf : ¬ c → b = some out → G) : G := by
  by_cases h : c
  · rw [if_pos h] at he
    exact kt h he
  · rw [if_neg h] at he
    exact kf h he
theorem gpn {P : ExceptionTableEntry → Prop} : ∀ z ∈ ([] : List ExceptionTableEntry), P z := fun _ h => nomatch h
theorem gpc {P : ExceptionTableEntry → Prop} {x : ExceptionTableEntry} {l : List ExceptionTableEntry} (h : P x) (t : ∀ z ∈ l, P z) : ∀ z ∈ x :: l, P z := fun z hz => (List.mem_cons.mp hz).elim (fun e => by rw [e]; exact h) (t z)
theorem gpn0 {pc : Nat} : ∀ x ∈ ([] : List ExceptionTableEntry), covers x pc = false := fun _ h => nomatch h
theorem gpv {pc : Nat} {l : List ExceptionTableEntry} (h : (l.all fun x => !(covers x pc)) = true) : ∀ x ∈ l, covers x pc = false := fun x hx => by
  have h1 := List.all_eq_true.mp h x hx
  cases hc : covers x pc with
  | false => rfl
  | true => rw [hc] at h1; cases h1
theorem gnq_o {c : String} (r : Option Nat) : narrow (.object c) (gval (gq r)) = gval (gq r) := by cases r <;> rfl
theorem gnq_a {t : FieldType} (r : Option Nat) : narrow (.array t) (gval (gq r)) = gval (gq r) := by cases r <;> rfl
theorem gfq_o {c : String} (r : Option Nat) : fits (.object c) (gval (gq r)) = true := by cases r <;> rfl
theorem gfq_a {t : FieldType} (r : Option Nat) : fits (.array t) (gval (gq r)) = true := by cases r <;> rfl
theorem gto : ∀ w ∈ gNl, ∀ (A : Array Value) (U : State), va_Nw w U → w.before A U = true := by
  intro w hw A U h
  have hk := gNk_all w hw
  unfold gNk at hk
  split at hk
  · exact va_any rfl h
  · exact va_any rfl h
  · exact va_any rfl h
  · exact va_any rfl h
  · exact va_AO.use h
  · exact va_any rfl h
  · exact va_any rfl h
  · exact va_any rfl h
  · exact va_any rfl h
  · exact va_any rfl h
  · cases hk
def gIs (h : gHp) (a ci : Nat) : Option Unit := match h.1 a with
  | some (.inr o) => if o.1 = ci then some () else none
  | _ => none
theorem gIs_some {h : gHp} {a ci : Nat} {u : Unit} (e : gIs h a ci = some u) : ∃ fs, h.1 a = some (.inr (ci, fs)) := by
  unfold gIs at e
  split at e
  · rename_i o ho
    split at e
    · rename_i hc
      obtain ⟨c, fs⟩ := o
      simp only at hc
      subst hc
      exact ⟨fs, ho⟩
    · cases e
  · cases e
def gRcv (h : gHp) (r : Option Nat) (ci : Nat) : Option Nat := match r with
  | none => none
  | some a => match gIs h a ci with
    | some _ => some a
    | none => none
theorem gRcv_some {h : gHp} {r : Option Nat} {ci a : Nat} (e : gRcv h r ci = some a) : ∃ fs, r = some a ∧ h.1 a = some (.inr (ci, fs)) := by
  unfold gRcv at e
  cases r with
  | none => cases e
  | some b =>
    simp only at e
    split at e
    · rename_i u hu
      cases e
      obtain ⟨fs, o⟩ := gIs_some hu
      exact ⟨fs, rfl, o⟩
    · cases e
/-- casts and stores of objects of one of several classes -/
def gCastL (h : gHp) (r : Option Nat) (cs : List Nat) : Option Unit := match r with
  | none => some ()
  | some a => match h.1 a with
    | some (.inr o) => if o.1 ∈ cs then some () else none
    | _ => none
def gSqL (h : gHp) (r : Option Nat) (ti : Nat) (i : Int32) (v : Option Nat) (cs : List Nat) : Option gHp := match v with
  | none => none
  | some a => match h.1 a with
    | some (.inr o) => if o.1 ∈ cs then gSq h r ti i (some a) o.1 else none
    | _ => none
def gCloneB (h : gHp) (r : Option Nat) : Option (Nat × gHp) := match gArr h r 1 with
  | some (a, n, .inl f) => if gFit h n = true ∧ (List.range n).all (fun i => gfb (f i)) = true ∧ h.2.2.2.1 ≤ a then some (h.2.1, gpush h (.inl (1, n, .inl f)) n) else none
  | _ => none
/-- an array that isn't one of the old ones -/
def gArrN (h : gHp) (r : Option Nat) (ti : Nat) : Option (Nat × vp_A) := match gArr h r ti with
  | some q => if h.2.2.2.1 ≤ q.1 then some q else none
  | none => none
theorem gArrN_some {h : gHp} {r : Option Nat} {ti : Nat} {q : Nat × vp_A} (e : gArrN h r ti = some q) : r = some q.1 ∧ h.1 q.1 = some (.inl (ti, q.2)) ∧ h.2.2.2.1 ≤ q.1 := by
  unfold gArrN at e
  split at e
  · rename_i q' hq
    split at e
    · rename_i hb
      cases e
      obtain ⟨f1, f2⟩ := gArr_some hq
      exact ⟨f1, f2, hb⟩
    · cases e
  · cases e
section GHL
variable {X : gXT} {h h' : gHp} {pc : Nat} {lv : List (Nat × gV)} {st : List gV} {α : Type} {out : α}
theorem r_istoreN_n (C : gCtx X) {n : Fin 4} {i : Nat} {x : Int32} {lv' : Int32 → List (Nat × gV)} {nL : Nat} {kk : Int32 → Option α} (d : decode (xy X) pc = .ok (.istore_n n, 1)) (hi : (n : Nat) = i) (hL : (xc X).maxLocals = nL) (hn : i < nL) (hl : ∀ v, gst1 i (gi v) lv = lv' v) (he : nm x kk = some out) (k : ∀ v, kk v = some out → gW X h (pc + 1) (lv' v) st) : gW X h pc lv (gi x :: st) :=
  r_istore_n C d hi hL hn (hl x) (k x he)
theorem r_istoreN (C : gCtx X) {i : Nat} {x : Int32} {lv' : Int32 → List (Nat × gV)} {nL : Nat} {kk : Int32 → Option α} (d : decode (xy X) pc = .ok (.istore i, 2)) (hL : (xc X).maxLocals = nL) (hn : i < nL) (hl : ∀ v, gst1 i (gi v) lv = lv' v) (he : nm x kk = some out) (k : ∀ v, kk v = some out → gW X h (pc + 2) (lv' v) st) : gW X h pc lv (gi x :: st) :=
  r_istore C d hL hn (hl x) (k x he)
theorem r_iincN (C : gCtx X) {i : Nat} {x c : Int32} {n : Int} {lv' : Int32 → List (Nat × gV)} {nL : Nat} {kk : Int32 → Option α} (j : Nat) (d : decode (xy X) pc = .ok (.iinc i n, 3)) (hL : (xc X).maxLocals = nL) (hn : i < nL) (hj : lv[j]? = some (i, gi x)) (hc : Int32.ofInt n = c) (hl : ∀ v, gst1 i (gi v) lv = lv' v) (he : nm (x + c) kk = some out) (k : ∀ v, kk v = some out → gW X h (pc + 3) (lv' v) st) : gW X h pc lv st :=
  r_iinc C j d hL hn hj (by rw [hc]) (hl (x + c)) (k (x + c) he)
theorem r_fconst0 (C : gCtx X) {v : UInt32} (d : decode (xy X) pc = .ok (.fconst 0, 1)) (hv : v = FP.fconst0) (k : gW X h (pc + 1) lv (gf v :: st)) : gW X h pc lv st := by
  subst hv
  exact fun H locs ls P => lv_fconst0 C.hx C.hb d (k H locs ls P)
theorem r_fconst1 (C : gCtx X) {v : UInt32} (d : decode (xy X) pc = .ok (.fconst 1, 1)) (hv : v = FP.fconst1) (k : gW X h (pc + 1) lv (gf v :: st)) : gW X h pc lv st := by
  subst hv
  exact fun H locs ls P => lv_fconst1 C.hx C.hb d (k H locs ls P)
theorem r_dconst0 (C : gCtx X) {v : UInt64} (d : decode (xy X) pc = .ok (.dconst 0, 1)) (hv : v = FP.dconst0) (k : gW X h (pc + 1) lv (gd v :: st)) : gW X h pc lv st := by
  subst hv
  exact fun H locs ls P => lv_dconst0 C.hx C.hb d (k H locs ls P)
theorem r_castL (C : gCtx X) {own nm : String} {index : Nat} {r : Option Nat} {kk : Unit → Option α} (cs : List Nat) (hcs : ∀ ci ∈ cs, ∃ rc : vw_C, gcl[ci]? = some rc ∧ (Cond.castable rc.1 nm ∈ gNl ∨ rc.1 = nm)) (hw : xw X = own) (hl : Cond.classLink own index nm ∈ lw_all) (d : decode (xy X) pc = .ok (.checkcast index, 3)) (he : bd (gCastL h r cs) kk = some out) (kt : kk () = some out → gW X h (pc + 3) lv (gq r :: st)) : gW X h pc lv (gq r :: st) := by
  obtain ⟨⟨⟩, e1, e2⟩ := bd_some he
  cases r with
  | none =>
    have kt1 := kt e2
    exact fun H locs ls P => lv_castN C.hx C.hb d (kt1 H locs ls P)
  | some a =>
    unfold gCastL at e1
    simp only at e1
    split at e1
    · rename_i o ho
      split at e1
      · rename_i hc
        obtain ⟨rc, h1, h2⟩ := hcs _ hc
        refine r_cast (kk := kk) C o.1 h1 hw hl h2 d ?_ kt
        have : gCast h (some a) o.1 = some () := by
          unfold gCast gObj
          simp [ho]
        rw [this]
        exact e2
      · cases e1
    · cases e1
theorem r_aastL (C : gCtx X) {r v : Option Nat} {i : Int32} {kk : gHp → Option α} {En : String} {cs : List Nat} (ti : Nat) (hat : gAT ti = .object En) (hcs : ∀ ci ∈ cs, ∃ rc : vw_C, gcl[ci]? = some rc ∧ (Cond.castable rc.1 En ∈ gNl ∨ rc.1 = En)) (d : decode (xy X) pc = .ok (.aastore, 1)) (he : bd (gSqL h r ti i v cs) kk = some out) (kt : ∀ h', kk h' = some out → gW X h' (pc + 1) lv st) : gW X h pc lv (gq v :: gi i :: gq r :: st) := by
  obtain ⟨w, e1, e2⟩ := bd_some he
  unfold gSqL at e1
  cases v with
  | none => cases e1
  | some a =>
    simp only at e1
    split at e1
    · rename_i o ho
      split at e1
      · rename_i hc
        obtain ⟨rc, h1, h2⟩ := hcs _ hc
        refine r_aast (kk := kk) C ti o.1 hat h1 h2 d ?_ kt
        rw [e1]
        exact e2
      · cases e1
    · cases e1
theorem r_castAr (C : gCtx X) {own nm : String} {index : Nat} {r : Option Nat} {kk : Nat × vp_A → Option α} (ti : Nat) (hnm : ∀ (U : State) (cA : ClassId), va_RA U cA (gAT ti) → U.vm.findClass nm = some cA) (hw : xw X = own) (hl : Cond.classLink own index nm ∈ lw_all) (d : decode (xy X) pc = .ok (.checkcast index, 3)) (he : bd (gArrN h r ti) kk = some out) (kt : ∀ q, kk q = some out → gW X h (pc + 3) lv (gq r :: st)) : gW X h pc lv (gq r :: st) := by
  obtain ⟨q, e1, e2⟩ := bd_some he
  obtain ⟨f1, f2, f3⟩ := gArrN_some e1
  cases f1
  intro H locs ls P
  obtain ⟨h1, h2⟩ := gP2 (gStrb P.1 f2 f3)
  exact va_castA C.hx C.hb (by rw [← hw]; exact C.hown) (C.hts _ hl) h2 0 rfl (hnm _ _ (C.hKs.1.2 ti _ (gAr C h1)).2) d (kt q e2 H locs ls P)
theorem r_castA1 (C : gCtx X) {own : String} {index : Nat} {r : Option Nat} {kk : Nat × vp_A → Option α} (hw : xw X = own) (hl : Cond.classLink own index "[B" ∈ lw_all) (d : decode (xy X) pc = .ok (.checkcast index, 3)) (he : bd (gArrN h r 1) kk = some out) (kt : ∀ q, kk q = some out → gW X h (pc + 3) lv (gq r :: st)) : gW X h pc lv (gq r :: st) :=
  r_castAr C 1 (fun _ _ h9 => h9) hw hl d he kt
theorem r_castA5 (C : gCtx X) {own : String} {index : Nat} {r : Option Nat} {kk : Nat × vp_A → Option α} (hw : xw X = own) (hl : Cond.classLink own index "[Ljava/lang/Object;" ∈ lw_all) (d : decode (xy X) pc = .ok (.checkcast index, 3)) (he : bd (gArrN h r 5) kk = some out) (kt : ∀ q, kk q = some out → gW X h (pc + 3) lv (gq r :: st)) : gW X h pc lv (gq r :: st) :=
  r_castAr C 5 (fun _ _ h9 => va_nmO h9 rfl) hw hl d he kt
theorem r_newO' (C : gCtx X) {own Cn : String} {T : u_T} {N index a : Nat} (ci : Nat) (fs : List gV) (hc : gcl[ci]? = some (Cn, T, N)) (hin : ∀ w ∈ u_ws Cn T N, w ∈ lw_all) {ty0 : Nat → FieldType} (hty : ∀ k, k < N → parseFieldDescriptor (T k).2.2.1 = some (ty0 k)) (hw : xw X = own) (hl : Cond.classLink own index Cn ∈ lw_all) (hi : Cond.instantiable Cn N ∈ lw_all) (hini : Cond.initialized Cn ∈ lw_all)
    (hfs : ∀ j, j < N → defaultValue (ty0 j) = vp_V (fs.map gval) j) (d : decode (xy X) pc = .ok (.new index, 3)) (e : gNewO h ci fs N = some (a, h')) (kt : gW X h' (pc + 3) lv (gq (some a) :: st)) : gW X h pc lv st :=
  r_newO (kk := fun v => some v) (out := (a, h')) C ci fs hc hin hty hw hl hi hini hfs d (by rw [e]; rfl) (fun v hv => by cases hv; exact kt)
theorem r_newAx (C : gCtx X) {atype : ArrayType} {n : Int32} {a : Nat} (ti : Nat) (hti : ti < 5) (hat : newarray.typeOf atype = gAT ti) (ha : Cond.arrayClass (newarray.typeOf atype) ∈ lw_all) (hcb : componentBytes (newarray.typeOf atype) ≤ 8) (h0 : ∀ cA m, vp_cell cA (gA0 ti m) = arrV cA m (fun _ => defaultValue (newarray.typeOf atype)))
    (hRA : ∀ (U : State) (cA : ClassId), va_RA U cA (gAT ti) → U.vm.findClass ("[" ++ (gAT ti).toString) = some cA) (d : decode (xy X) pc = .ok (.newarray atype, 2)) (e : gNewA h ti n = some (a, h')) (kt : gW X h' (pc + 2) lv (gq (some a) :: st)) : gW X h pc lv (gi n :: st) :=
  r_newA (kk := fun v => some v) (out := (a, h')) C ti hti hat ha hcb h0 hRA d (by rw [e]; rfl) (fun v hv => by cases hv; exact kt)
theorem r_newA0 (C : gCtx X) {n : Int32} {a : Nat} (d : decode (xy X) pc = .ok (.newarray .int, 2)) (e : gNewA h 0 n = some (a, h')) (kt : gW X h' (pc + 2) lv (gq (some a) :: st)) : gW X h pc lv (gi n :: st) :=
  r_newAx (atype := .int) C 0 (by decide) rfl q229 (by decide) (fun _ _ => rfl) (fun _ _ h9 => h9) d e kt
theorem r_newA1 (C : gCtx X) {n : Int32} {a : Nat} (d : decode (xy X) pc = .ok (.newarray .byte, 2)) (e : gNewA h 1 n = some (a, h')) (kt : gW X h' (pc + 2) lv (gq (some a) :: st)) : gW X h pc lv (gi n :: st) :=
  r_newAx (atype := .byte) C 1 (by decide) rfl q182 (by decide) (fun _ _ => rfl) (fun _ _ h9 => h9) d e kt
theorem r_newA2 (C : gCtx X) {n : Int32} {a : Nat} (d : decode (xy X) pc = .ok (.newarray .boolean, 2)) (e : gNewA h 2 n = some (a, h')) (kt : gW X h' (pc + 2) lv (gq (some a) :: st)) : gW X h pc lv (gi n :: st) :=
  r_newAx (atype := .boolean) C 2 (by decide) rfl q1916 (by decide) (fun _ _ => rfl) (fun _ _ h9 => h9) d e kt
theorem r_newA3 (C : gCtx X) {n : Int32} {a : Nat} (d : decode (xy X) pc = .ok (.newarray .long, 2)) (e : gNewA h 3 n = some (a, h')) (kt : gW X h' (pc + 2) lv (gq (some a) :: st)) : gW X h pc lv (gi n :: st) :=
  r_newAx (atype := .long) C 3 (by decide) rfl q2424 (by decide) (fun _ _ => rfl) (fun _ _ h9 => h9) d e kt
theorem r_newA4 (C : gCtx X) {n : Int32} {a : Nat} (d : decode (xy X) pc = .ok (.newarray .double, 2)) (e : gNewA h 4 n = some (a, h')) (kt : gW X h' (pc + 2) lv (gq (some a) :: st)) : gW X h pc lv (gi n :: st) :=
  r_newAx (atype := .double) C 4 (by decide) rfl q2425 (by decide) (fun _ _ => rfl) (fun _ _ h9 => h9) d e kt
theorem gmO : Cond.arrayOver (.object "java/lang/Object") ∈ gNl := by
  have h : (gNl.any fun w => match w with
    | .arrayOver (.object "java/lang/Object") => true
    | _ => false) = true := by decide +kernel
  obtain ⟨w, h1, h2⟩ := List.any_eq_true.mp h
  split at h2
  · exact h1
  · cases h2
theorem gmS : Cond.arrayOver (.object "LikedOrders$State") ∈ gNl := by
  have h : (gNl.any fun w => match w with
    | .arrayOver (.object "LikedOrders$State") => true
    | _ => false) = true := by decide +kernel
  obtain ⟨w, h1, h2⟩ := List.any_eq_true.mp h
  split at h2
  · exact h1
  · cases h2
theorem r_newQ5 (C : gCtx X) {own : String} {index a : Nat} {n : Int32} (hw : xw X = own) (hl : Cond.classLink own index "java/lang/Object" ∈ lw_all) (d : decode (xy X) pc = .ok (.anewarray index, 3)) (e : gNewA h 5 n = some (a, h')) (kt : gW X h' (pc + 3) lv (gq (some a) :: st)) : gW X h pc lv (gi n :: st) :=
  r_newQ (kk := fun v => some v) (out := (a, h')) C 5 (by decide) rfl hw hl gmO d (by rw [e]; rfl) (fun v hv => by cases hv; exact kt)
theorem r_newQ6 (C : gCtx X) {own : String} {index a : Nat} {n : Int32} (hw : xw X = own) (hl : Cond.classLink own index "LikedOrders$State" ∈ lw_all) (d : decode (xy X) pc = .ok (.anewarray index, 3)) (e : gNewA h 6 n = some (a, h')) (kt : gW X h' (pc + 3) lv (gq (some a) :: st)) : gW X h pc lv (gi n :: st) :=
  r_newQ (kk := fun v => some v) (out := (a, h')) C 6 (by decide) rfl hw hl gmS d (by rw [e]; rfl) (fun v hv => by cases hv; exact kt)
theorem r_cloneB (C : gCtx X) {own : String} {index a : Nat} {r : Option Nat} (hw : xw X = own) (hl : Cond.methodLink own index ⟨"[B", "clone", "()Ljava/lang/Object;"⟩ ∈ lw_all) (hsm : Cond.sameMethod "[B" "java/lang/Object" "clone" "()Ljava/lang/Object;" ∈ lw_all) (hnat : Cond.native ⟨"java/lang/Object", "clone", "()Ljava/lang/Object;"⟩ ∈ lw_all) (hinst : Cond.instanceMethod ⟨"java/lang/Object", "clone", "()Ljava/lang/Object;"⟩ ∈ lw_all)
    (hsel : Cond.selects "[B" ⟨"[B", "clone", "()Ljava/lang/Object;"⟩ ⟨"java/lang/Object", "clone", "()Ljava/lang/Object;"⟩ ∈ lw_all) (hcl : Cond.castable "[B" "java/lang/Cloneable" ∈ gNl) (hd : 1 ≤ xd X) (hwt : Nat.ble (gWt st) 8 = true) (d : decode (xy X) pc = .ok (.invokevirtual index, 3)) (e : gCloneB h r = some (a, h')) (kt : gW X h' (pc + 3) lv (gq (some a) :: st)) : gW X h pc lv (gq r :: st) := by
  unfold gCloneB at e
  split at e
  · rename_i a0 n f hq
    obtain ⟨e1, e2⟩ := gArr_some hq
    split at e
    · rename_i hc
      cases e
      cases e1
      intro H locs ls P
      refine gTight C P (fun hsp => ?_)
      obtain ⟨f1, f2⟩ := gFit_of P.1 hc.1
      have g1 := P.2.2.1
      have g2 := P.1.2.1
      have hR1 := C.hRc
      have hR2 := C.hRs
      obtain ⟨hd1, hd2⟩ := C.hd
      have hwt9 := Nat.le_of_ble_eq_true hwt
      have hc0 := gStrb P.1 e2 hc.2.2
      intro T hT S
      have hx := C.hx
      have hb := C.hb
      have hcellT : T.heap[a0]? = some (vp_cell ((xK X).2.2.2.1 1) (n, .inl f)) := by rw [hT]; exact hc0.2
      have hnm : (xs X).vm.findClass "[B" = some ((xK X).2.2.2.1 1) := (C.hKs.1.2 1 _ (gAr C (by omega))).2
      obtain ⟨c0, t0', u1, u2, u3⟩ := Cond.castable_spec (va_Nw.use (A := xa X) rfl (C.hKs.2.1 _ hcl))
      cases hnm.symm.trans u1
      obtain ⟨-, kA, hkA, comp, hkind⟩ := State.isArrayOf_alike S.warmed.alike ((C.hKs.1.2 1 _ (gAr C (by omega))).1 0 (fun _ => .null))
      obtain ⟨-, kS, hkS, compS, hkindS⟩ := (C.hKs.1.2 1 _ (gAr C (by omega))).1 0 (fun _ => .null)
      have hsz : (vp_cell ((xK X).2.2.2.1 1) (n, .inl f)).slots.size = n := arrV_size _ _ _
      obtain ⟨vm', X', st9⟩ := S.cloneArray hx (by rw [← hw]; exact C.hown) (C.hts _ hl) (C.hts _ hsm) (C.hts _ hnat) (C.hts _ hinst) (C.hts _ hsel) (a := a0) (cell := vp_cell ((xK X).2.2.2.1 1) (n, .inl f)) hcellT (fun k h => by cases h) (fun h => by cases h) hnm u2 u3
        (fun i v hv => by
          have hk' : T.vm.classes[(xK X).2.2.2.1 1]? = some kA := hkA
          have hi : i < n := by
            have h1 := (Array.getElem?_eq_some_iff.mp hv).1
            rw [hsz] at h1
            exact h1
          have hv2 : (arrV ((xK X).2.2.2.1 1) n (fun j => .int (f j))).slots[i]? = some v := hv
          rw [arrV_read _ _ hi] at hv2
          have hv3 : v = .int (f i) := (Option.some.inj hv2).symm
          have hfb := gfit_b (List.all_eq_true.mp hc.2.1 i (List.mem_range.mpr hi))
          rw [← hv3] at hfb
          show State.fitsSlot T ((xK X).2.2.2.1 1) _ i v = true
          have hkind' : kA.kind = .array comp .byte := hkind
          simpa [State.fitsSlot, State.slotType?, hk', hkind'] using hfb)
        (g := F0 (xm X) pc ls ((gq (some a0) :: st).map gval)) rfl P.2.2.2.1 rfl (by rw [hb]; exact d) (by omega) (by show 2 * 0 + ((st.map gval).map fun v => v.category).sum + 14 ≤ _; rw [gWt_ok]; omega) (by omega) (by rw [hsz]; omega) (hloader := Vm.clonesLoader_of_array hkS hkindS)
      rw [hsz] at X'
      obtain ⟨t, b1, b2⟩ := kt (H.push (vp_cell ((xK X).2.2.2.1 1) (n, .inl f))) locs ls ⟨gI_push P.1 ⟨by show 1 < 7; omega, by rw [Array.getElem?_push_size]⟩ hsz f1 f2, P.2.1, gle_push P.2.2.1, P.2.2.2⟩ ((T.setVm vm').pushCell (vp_cell ((xK X).2.2.2.1 1) (n, .inl f))) (by rw [← hT]; rfl) (stand_widen X' (by omega) (by omega))
      refine ⟨t, st9 t ?_, b2⟩
      rw [hT, g2]
      exact b1
    · cases e
  · cases e
end GHL
