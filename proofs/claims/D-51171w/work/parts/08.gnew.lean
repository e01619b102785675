/-! G ROWS: new cells, constants, casts, arraycopy, references handed back -/
set_option maxRecDepth 100000
section GN
variable {X : gXT} {h : gHp} {pc : Nat} {lv : List (Nat × gV)} {st : List gV} {α : Type} {out : α}
theorem gnn {z : Int32} (hz : ¬ z < 0) : z.toInt = (z.toNatClampNeg : Int) := by
  have hz0 : (0 : Int) ≤ z.toInt := by
    have := Int32.not_lt.mp hz
    simpa using Int32.le_iff_toInt_le.mp this
  show z.toInt = ((z.toInt.toNat : Nat) : Int)
  omega
theorem gle_push {H : Heap} {c : Cell} {n : Nat} (h : n ≤ H.size) : n ≤ (H.push c).size := by
  rw [Array.size_push]
  omega
/-- the walk at its own measure, and back at the whole room -/
theorem gTight (C : gCtx X) {H : Heap} {locs : List Loc} {ls : Array Slot} {g : JFrame} (P : gPt X h lv H locs ls) (k : ghs (kB (xK X)) (xs X).heap ≤ h.2.2.1 → gWW X H locs (h.2.1 - (xs X).heap.size) (h.2.2.1 - ghs (kB (xK X)) (xs X).heap) g) : gWW X H locs (xR X).cells (xR X).slots g := by
  intro T hT S
  have hsp : ghs (kB (xK X)) (xs X).heap ≤ h.2.2.1 := by
    obtain ⟨s1, s2, s3, s4, s5, s6⟩ := S.same
    have h1 : (xs X).heap.size ≤ T.heap.size := s2
    have h2 := ghs_split C.hbs h1 (fun i c hc => by
      obtain ⟨c', e1, -, e3, -⟩ := s6 i c hc
      exact ⟨c', e1, e3⟩)
    rw [hT, P.1.2.2.1] at h2
    omega
  exact k hsp T hT (gStand_tight C S (by rw [hT]; exact P.1))
theorem gWide (C : gCtx X) {H : Heap} {locs : List Loc} {cells slots : Nat} {g : JFrame} (h1 : cells ≤ (xR X).cells) (h2 : slots ≤ (xR X).slots) (k : gWW X H locs (xR X).cells (xR X).slots g) : gWW X H locs cells slots g := fun T hT S => k T hT (stand_widen S h1 h2)
theorem r_newO (C : gCtx X) {own Cn : String} {T : u_T} {N index : Nat} {kk : Nat × gHp → Option α} (ci : Nat) (fs : List gV) (hc : gcl[ci]? = some (Cn, T, N)) (hin : ∀ w ∈ u_ws Cn T N, w ∈ lw_all) {ty0 : Nat → FieldType} (hty : ∀ k, k < N → parseFieldDescriptor (T k).2.2.1 = some (ty0 k)) (hw : xw X = own) (hl : Cond.classLink own index Cn ∈ lw_all) (hi : Cond.instantiable Cn N ∈ lw_all) (hini : Cond.initialized Cn ∈ lw_all)
    (hfs : ∀ j, j < N → defaultValue (ty0 j) = vp_V (fs.map gval) j) (d : decode (xy X) pc = .ok (.new index, 3)) (he : bd (gNewO h ci fs N) kk = some out) (kt : ∀ v, kk v = some out → gW X v.2 (pc + 3) lv (gq (some v.1) :: st)) : gW X h pc lv st := by
  obtain ⟨v, e1, e2⟩ := bd_some he
  unfold gNewO at e1
  split at e1
  · rename_i hfit
    cases e1
    intro H locs ls P
    refine gTight C P (fun hsp => ?_)
    obtain ⟨f1, f2⟩ := gFit_of P.1 hfit
    have g1 := P.2.2.1
    have g2 := P.1.2.1
    have hR1 := C.hRc
    have hR2 := C.hRs
    refine W.newc C.hx C.hb (by rw [← hw]; exact C.hown) (C.hts _ hl) (C.hts _ hi) (C.hts _ hini) rfl d (by omega) (by omega) (fun cC kC q1 q2 q3 q4 => ?_)
    have hKn := C.hKs.1.1 ci _ hc
    obtain ⟨hS, hfc, kC0, hkC0, hkind⟩ := hKn
    cases hfc.symm.trans q1
    refine gWide C (by omega) (by omega) ?_
    show gWW X _ _ _ _ (F0 (xm X) (pc + 3) ls (.ref H.size :: st.map gval))
    rw [g2]
    refine kt (h.2.1, gpush h (.inr (ci, fs)) N) e2 _ _ ls ⟨gI_push P.1 ?_ ?_ f1 f2, P.2.1, gle_push P.2.2.1, P.2.2.2⟩
    · refine ⟨_, hc, ?_⟩
      exact (u_born ty0 C.hts hin (C.hKs.1.1 ci _ hc) q2 (by rw [Array.getElem?_push_size]; rfl) hty).to hfs
    · show (kC.instanceTypes.map defaultValue).size = N
      rw [Array.size_map, q4]
  · cases e1

theorem gtyOf : ∀ a : ArrayType, newarray.typeOf a = .int ∨ newarray.typeOf a ≠ .int := fun a => by
  by_cases h : newarray.typeOf a = .int
  · exact Or.inl h
  · exact Or.inr h
theorem r_newA (C : gCtx X) {atype : ArrayType} {n : Int32} {kk : Nat × gHp → Option α} (ti : Nat) (hti : ti < 5) (hat : newarray.typeOf atype = gAT ti) (ha : Cond.arrayClass (newarray.typeOf atype) ∈ lw_all) (hcb : componentBytes (newarray.typeOf atype) ≤ 8) (h0 : ∀ cA m, vp_cell cA (gA0 ti m) = arrV cA m (fun _ => defaultValue (newarray.typeOf atype)))
    (hRA : ∀ (U : State) (cA : ClassId), va_RA U cA (gAT ti) → U.vm.findClass ("[" ++ (gAT ti).toString) = some cA) (d : decode (xy X) pc = .ok (.newarray atype, 2)) (he : bd (gNewA h ti n) kk = some out) (kt : ∀ v, kk v = some out → gW X v.2 (pc + 2) lv (gq (some v.1) :: st)) : gW X h pc lv (gi n :: st) := by
  obtain ⟨v, e1, e2⟩ := bd_some he
  unfold gNewA at e1
  split at e1
  · rename_i hfit
    cases e1
    intro H locs ls P
    refine gTight C P (fun hsp => ?_)
    obtain ⟨f1, f2⟩ := gFit_of P.1 hfit.2
    have g1 := P.2.2.1
    have g2 := P.1.2.1
    have hR1 := C.hRc
    have hR2 := C.hRs
    have hsmall : n.toNatClampNeg * componentBytes (newarray.typeOf atype) ≤ 536870912 := by
      have h1 : n.toNatClampNeg ≤ 5495482 := Nat.le_trans (Nat.le_add_left _ _) f2
      have h2 := Nat.mul_le_mul h1 hcb
      omega
    refine W.newa C.hx C.hb (C.hts _ ha) rfl d rfl (Int32.not_lt.mpr hfit.1) hsmall (by omega) (by omega) (fun cA kA comp q1 q2 q3 => ?_)
    have hcA : cA = (xK X).2.2.2.1 ti := by
      have h3 := hRA _ _ ((C.hKs.1.2 ti _ (gAr C (by omega))).2)
      rw [← hat] at h3
      exact Option.some.inj (q1.symm.trans h3)
    refine gWide C (by omega) (by omega) ?_
    rw [g2]
    refine kt (h.2.1, gpush h (.inl (ti, gA0 ti n.toNatClampNeg)) n.toNatClampNeg) e2 _ _ ls ⟨gI_push P.1 ⟨by show ti < 7; omega, ?_⟩ ?_ f1 f2, P.2.1, gle_push P.2.2.1, P.2.2.2⟩
    · show _ = some (vp_cell ((xK X).2.2.2.1 ti) (gA0 ti n.toNatClampNeg))
      rw [h0, Array.getElem?_push_size, hcA, arrV_new]
    · show (Array.replicate n.toNatClampNeg _).size = _
      rw [Array.size_replicate]
  · cases e1
theorem r_newQ (C : gCtx X) {own Cn : String} {index : Nat} {n : Int32} {kk : Nat × gHp → Option α} (ti : Nat) (hti : 5 ≤ ti ∧ ti < 7) (hat : gAT ti = .object Cn) (hw : xw X = own) (hl : Cond.classLink own index Cn ∈ lw_all) (ho : Cond.arrayOver (.object Cn) ∈ gNl) (d : decode (xy X) pc = .ok (.anewarray index, 3)) (he : bd (gNewA h ti n) kk = some out) (kt : ∀ v, kk v = some out → gW X v.2 (pc + 3) lv (gq (some v.1) :: st)) : gW X h pc lv (gi n :: st) := by
  obtain ⟨v, e1, e2⟩ := bd_some he
  unfold gNewA at e1
  split at e1
  · rename_i hfit
    cases e1
    intro H locs ls P
    refine gTight C P (fun hsp => ?_)
    obtain ⟨f1, f2⟩ := gFit_of P.1 hfit.2
    have g1 := P.2.2.1
    have g2 := P.1.2.1
    have hR1 := C.hRc
    have hR2 := C.hRs
    have hsmall : n.toNatClampNeg * 4 ≤ 536870912 := by
      have h1 : n.toNatClampNeg ≤ 5495482 := Nat.le_trans (Nat.le_add_left _ _) f2
      omega
    refine W.anew C.hx C.hb (by rw [← hw]; exact C.hown) (C.hts _ hl) (va_AO.use (C.hKs.2.1 _ ho)) rfl d rfl (Int32.not_lt.mpr hfit.1) hsmall (by omega) (by omega) (fun cA kA comp q1 q2 q3 q4 => ?_)
    have hcA : cA = (xK X).2.2.2.1 ti := by
      have h3 := (C.hKs.1.2 ti _ (gAr C (by omega))).2
      simp only [hat] at h3
      obtain ⟨_, _, _, _, _, h4⟩ := h3
      exact Option.some.inj (q1.symm.trans h4)
    refine gWide C (by omega) (by omega) ?_
    rw [g2]
    refine kt (h.2.1, gpush h (.inl (ti, gA0 ti n.toNatClampNeg)) n.toNatClampNeg) e2 _ _ ls ⟨gI_push P.1 ⟨by show ti < 7; omega, ?_⟩ ?_ f1 f2, P.2.1, gle_push P.2.2.1, P.2.2.2⟩
    · show _ = some (vp_cell ((xK X).2.2.2.1 ti) (gA0 ti n.toNatClampNeg))
      have h0 : ∀ cA m, vp_cell cA (gA0 ti m) = arrV cA m (fun _ => .null) := by
        intro cA m
        rcases (show ti = 5 ∨ ti = 6 by omega) with rfl | rfl <;> rfl
      rw [h0, Array.getElem?_push_size, hcA, arrV_new]
    · show (Array.replicate n.toNatClampNeg _).size = _
      rw [Array.size_replicate]
  · cases e1
/-- stores of references -/
theorem r_aastN (C : gCtx X) {r : Option Nat} {i : Int32} {kk : gHp → Option α} {Cn : String} (ti : Nat) (hat : gAT ti = .object Cn) (d : decode (xy X) pc = .ok (.aastore, 1)) (he : bd (gSn h r ti i) kk = some out) (kt : ∀ h', kk h' = some out → gW X h' (pc + 1) lv st) : gW X h pc lv (gq none :: gi i :: gq r :: st) := by
  obtain ⟨v, e1, e2⟩ := bd_some he
  unfold gSn at e1
  split at e1
  · rename_i a n f hq
    obtain ⟨f1, f2⟩ := gArr_some hq
    split at e1
    · rename_i hin
      cases e1
      cases f1
      intro H locs ls P
      have h1 := gStrb P.1 f2 hin.2
      have hin1 := gin_vp hin.1
      have ha := (C.hKs.1.2 ti _ (gAr C h1.1)).1
      simp only [hat] at ha
      refine va_WaastN (C := Cn) C.hx C.hb h1.2 (ha n (fun j => va_rf (f j))) (fun h => by cases h) (by show ¬ (i < 0 ∨ (arrV _ _ _).slots.size ≤ _); rw [arrV_size]; exact hin1) rfl rfl d fun H1 e z oq => ?_
      refine kt _ e2 H1 _ ls (gSto P f2 hin.2 ?_ z oq (fun q hq => by rw [List.mem_singleton.mp hq]))
      show H1[a]? = some (vp_cell _ _)
      rw [e]
      rw [vp_cell_q, vp_cell_q, arrV_store]
      congr 2
      funext q
      by_cases hq : q = i.toNatClampNeg
      · subst hq
        simp [updV, va_up, va_rf]
      · simp [updV, va_up, hq]
    · cases e1
  · cases e1
theorem gRecv (C : gCtx X) {H : Heap} {locs : List Loc} {ls : Array Slot} {a ci : Nat} {fs : List gV} {rc : vw_C} (P : gPt X h lv H locs ls) (f2 : h.1 a = some (.inr (ci, fs))) (hc : gcl[ci]? = some rc) : ∃ cell : Cell, H[a]? = some cell ∧ cell.vm.isStatics = false ∧ (xs X).vm.findClass rc.1 = some cell.cls := by
  rcases P.1.1 a _ f2 with hg | ⟨ho1, ho2⟩
  · exact va_recv (q0 := 0) (fs := fs.map gval) C.hKs.1 (gP1 hg) hc rfl
  · have h3 := C.hOl a _ ho2
    unfold gOl at h3
    split at h3
    · rename_i e
      cases e
    · rename_i e
      cases e
    · rename_i w c e
      cases e
      cases hc
      obtain ⟨⟨cell, g1, g2, g3, -⟩, -⟩ := h3
      exact ⟨cell, by rw [P.1.2.2.2.1 a ho1]; exact g1, g2, g3⟩
    · exact h3.elim
theorem r_aast (C : gCtx X) {r v : Option Nat} {i : Int32} {kk : gHp → Option α} {En : String} {rc : vw_C} (ti ci : Nat) (hat : gAT ti = .object En) (hc : gcl[ci]? = some rc) (hcast : Cond.castable rc.1 En ∈ gNl ∨ rc.1 = En) (d : decode (xy X) pc = .ok (.aastore, 1)) (he : bd (gSq h r ti i v ci) kk = some out) (kt : ∀ h', kk h' = some out → gW X h' (pc + 1) lv st) : gW X h pc lv (gq v :: gi i :: gq r :: st) := by
  obtain ⟨w, e1, e2⟩ := bd_some he
  unfold gSq at e1
  split at e1
  · rename_i a n f hq
    obtain ⟨f1, f2⟩ := gArr_some hq
    split at e1
    · rename_i qv hv
      obtain ⟨v1, v2⟩ := gObj_some hv
      split at e1
      · rename_i hin
        cases e1
        cases f1
        cases v1
        intro H locs ls P
        have h1 := gStrb P.1 f2 hin.2
        have hin1 := gin_vp hin.1
        obtain ⟨cellV, g1, g3, g2'⟩ := gRecv C P v2 hc
        have hcls := (C.hKs.1.1 ci rc hc).2
        have g2 : cellV.cls = (xK X).2.1 ci := Option.some.inj (g2'.symm.trans hcls.1)
        have hA := (C.hKs.1.2 ti _ (gAr C h1.1)).2
        simp only [hat] at hA
        obtain ⟨kA, comp, k1, k2, k3, -⟩ := hA
        obtain ⟨kE, hkE, -⟩ := Vm.findClass_spec k3
        obtain ⟨kC, hkC, -⟩ := hcls.2
        have hasg : (xs X).vm.assignable ((xK X).2.1 ci) comp = true := by
          rcases hcast with hcast | hcast
          · obtain ⟨c0, t1, r1, r2, r3⟩ := Cond.castable_spec (va_Nw.use (A := xa X) rfl (C.hKs.2.1 _ hcast))
            cases hcls.1.symm.trans r1
            cases k3.symm.trans r2
            exact r3
          · rw [← hcast] at k3
            have hcomp : comp = (xK X).2.1 ci := Option.some.inj (k3.symm.trans hcls.1)
            rw [hcomp]
            exact va_assign hcls
        have hlt : i.toNatClampNeg < n := Nat.not_le.mp fun q => hin1 (Or.inr q)
        refine W.aast C.hx C.hb h1.2 (fun q h => by cases h) (fun h => by cases h) k1 k2 rfl hkE ⟨fun q => hin1 (Or.inl q), by show _ < (arrV _ _ _).slots.size; rw [arrV_size]; exact hlt⟩ g1 (fun q h => by rw [h] at g3; cases g3) (by rw [g2]; exact hkC) (by rw [g2]; exact hasg) rfl rfl d fun H1 e z oq => ?_
        refine kt _ e2 H1 _ ls (gSto P f2 hin.2 ?_ z oq (fun q hq => by rw [List.mem_singleton.mp hq]))
        show H1[a]? = some (vp_cell _ _)
        rw [e]
        rw [vp_cell_q, vp_cell_q, arrV_store]
        congr 2
        funext q
        by_cases hq : q = i.toNatClampNeg
        · subst hq
          simp [updV, va_up, va_rf]
        · simp [updV, va_up, hq]
      · cases e1
    · cases e1
  · cases e1
/-- constants -/
theorem r_getsQ (C : gCtx X) {own Cn n dd : String} {index k : Nat} (hw : xw X = own) (hz : (Cn, n, dd, k) ∈ gZl) (hl : Cond.fieldLink own index Cn n dd ∈ lw_all) (d : decode (xy X) pc = .ok (.getstatic index, 3)) (kt : gW X h (pc + 3) lv (gq (h.2.2.2.2 k) :: st)) : gW X h pc lv st := by
  intro H locs ls P
  obtain ⟨cf, kf, fi, f, a, cell, h1, h2, h3, h4, h5, h6, h7, h8⟩ := C.hKs.2.2.2.1 _ hz
  have ha : a < kB (xK X) := (Array.getElem?_eq_some_iff.mp h5).1
  have kt2 := kt H locs ls P
  rw [P.1.2.2.2.2.2.1] at kt2
  exact W.gets C.hx C.hb (by rw [← hw]; exact C.hown) (C.hts _ hl) h1 h2 h3 h4 (by rw [P.1.2.2.2.1 a ha]; exact h5) (fun e => by rw [e] at h6; cases h6) h7 rfl d kt2
theorem r_getsC (C : gCtx X) {own : String} {index : Nat} (hw : xw X = own) (hl : Cond.fieldLink own index "java/lang/String" "COMPACT_STRINGS" "Z" ∈ lw_all) (d : decode (xy X) pc = .ok (.getstatic index, 3)) (kt : gW X h (pc + 3) lv (gi 1 :: st)) : gW X h pc lv st := by
  intro H locs ls P
  obtain ⟨cf, kf, fi, f, a, cell, h1, h2, h3, h4, h5, h6, h7, h8⟩ := C.hKs.2.2.2.2.1
  have ha : a < kB (xK X) := (Array.getElem?_eq_some_iff.mp h5).1
  exact W.gets C.hx C.hb (by rw [← hw]; exact C.hown) (C.hts _ hl) h1 h2 h3 h4 (by rw [P.1.2.2.2.1 a ha]; exact h5) (fun e => by rw [e] at h6; cases h6) h7 rfl d (kt H locs ls P)
theorem r_ldcS (C : gCtx X) {own tx : String} {index k : Nat} (hw : xw X = own) (hz : (own, index, tx, k) ∈ gSl) (d : decode (xy X) pc = .ok (.ldc index, 2)) (kt : gW X h (pc + 2) lv (gq (h.2.2.2.2 k) :: st)) : gW X h pc lv st := by
  intro H locs ls P
  obtain ⟨a, e1, e2⟩ := C.hKs.2.2.2.2.2.1 _ hz
  have kt2 := kt H locs ls P
  rw [P.1.2.2.2.2.2.1] at kt2
  simp only at e1
  rw [e1] at kt2
  exact va_ldcS C.hx C.hb (by rw [← hw]; exact C.hown) e2 d kt2
theorem r_ldcSW (C : gCtx X) {own tx : String} {index k : Nat} (hw : xw X = own) (hz : (own, index, tx, k) ∈ gSl) (d : decode (xy X) pc = .ok (.ldc_w index, 3)) (kt : gW X h (pc + 3) lv (gq (h.2.2.2.2 k) :: st)) : gW X h pc lv st := by
  intro H locs ls P
  obtain ⟨a, e1, e2⟩ := C.hKs.2.2.2.2.2.1 _ hz
  have kt2 := kt H locs ls P
  rw [P.1.2.2.2.2.2.1] at kt2
  simp only at e1
  rw [e1] at kt2
  intro T hT S
  obtain ⟨t, a1, b1⟩ := kt2 T hT S
  exact ⟨t, S.ldcStringW C.hx (own := own) (text := tx) (index := index) (a := a) (by rw [← hw]; exact C.hown) e2.1 e2.2 (g := F0 (xm X) pc ls (st.map gval)) rfl (by rw [C.hb]; exact d) t a1, b1⟩
theorem r_ldcM (C : gCtx X) {own : String} {index : Nat} (hw : xw X = own) (hl : Cond.classLink own index "[Ljava/lang/Object;" ∈ lw_all) (d : decode (xy X) pc = .ok (.ldc index, 2)) (kt : gW X h (pc + 2) lv (gq (h.2.2.2.2 8) :: st)) : gW X h pc lv st := by
  intro H locs ls P
  obtain ⟨mi, e1, e2⟩ := C.hKs.2.2.2.2.2.2.1
  have kt2 := kt H locs ls P
  rw [P.1.2.2.2.2.2.1] at kt2
  rw [e1] at kt2
  exact va_ldcM C.hx C.hb (by rw [← hw]; exact C.hown) (C.hts _ hl) e2 d kt2
theorem r_ldcI (C : gCtx X) {own : String} {index : Nat} {v : Int32} (hw : xw X = own) (hl : Cond.constant own index v ∈ lw_all) (d : decode (xy X) pc = .ok (.ldc index, 2)) (kt : gW X h (pc + 2) lv (gi v :: st)) : gW X h pc lv st := fun H locs ls P => lv_ldc C.hx C.hb (by rw [← hw]; exact C.hown) (C.hts _ hl) d (kt H locs ls P)
theorem r_ldcIW (C : gCtx X) {own : String} {index : Nat} {v : Int32} (hw : xw X = own) (hl : Cond.constant own index v ∈ lw_all) (d : decode (xy X) pc = .ok (.ldc_w index, 3)) (kt : gW X h (pc + 3) lv (gi v :: st)) : gW X h pc lv st := fun H locs ls P => lv_ldcw C.hx C.hb (by rw [← hw]; exact C.hown) (C.hts _ hl) d (kt H locs ls P)
theorem r_ldcL (C : gCtx X) {own : String} {index : Nat} {v : Int64} (hw : xw X = own) (hl : Cond.constantLong own index v ∈ lw_all) (d : decode (xy X) pc = .ok (.ldc2_w index, 3)) (kt : gW X h (pc + 3) lv (gl v :: st)) : gW X h pc lv st := fun H locs ls P => lv_ldc2 C.hx C.hb (by rw [← hw]; exact C.hown) (C.hts _ hl) d (kt H locs ls P)
/-- casts: null passes; an object of a known class -/
def gCast (h : gHp) (r : Option Nat) (ci : Nat) : Option Unit := match r with
  | none => some ()
  | some _ => match gObj h r ci with
    | some _ => some ()
    | none => none
theorem r_cast (C : gCtx X) {own nm : String} {index : Nat} {r : Option Nat} {kk : Unit → Option α} {rc : vw_C} (ci : Nat) (hc : gcl[ci]? = some rc) (hw : xw X = own) (hl : Cond.classLink own index nm ∈ lw_all) (hcast : Cond.castable rc.1 nm ∈ gNl ∨ rc.1 = nm) (d : decode (xy X) pc = .ok (.checkcast index, 3)) (he : bd (gCast h r ci) kk = some out) (kt : kk () = some out → gW X h (pc + 3) lv (gq r :: st)) : gW X h pc lv (gq r :: st) := by
  obtain ⟨⟨⟩, e1, e2⟩ := bd_some he
  have kt1 := kt e2
  intro H locs ls P
  have kt2 := kt1 H locs ls P
  have hown : (xs X).vm.findClass own = some (xm X).cls := by rw [← hw]; exact C.hown
  cases r with
  | none => exact lv_castN C.hx C.hb d kt2
  | some a =>
    unfold gCast at e1
    simp only at e1
    split at e1
    · rename_i q hq
      obtain ⟨q1, q2⟩ := gObj_some hq
      cases q1
      have hr := gRecv C P q2 hc
      rcases hcast with hcast | hcast
      · exact va_castY C.hx C.hb hown (C.hts _ hl) (C.hKs.2.1 _ hcast) hr d kt2
      · rw [hcast] at hr
        exact va_castS C.hx C.hb hown (C.hts _ hl) (by have := (C.hKs.1.1 ci rc hc).2; rw [hcast] at this; exact this) hr d kt2
    · cases e1
theorem r_inst (C : gCtx X) {own nm : String} {index : Nat} {r : Option Nat} {kk : Nat × List gV → Option α} {rc : vw_C} (ci : Nat) (hc : gcl[ci]? = some rc) (hw : xw X = own) (hl : Cond.classLink own index nm ∈ lw_all) (hcast : rc.1 = nm) (d : decode (xy X) pc = .ok (.instanceof index, 3)) (he : bd (gObj h r ci) kk = some out) (kt : ∀ q, kk q = some out → gW X h (pc + 3) lv (gi 1 :: st)) : gW X h pc lv (gq r :: st) := by
  obtain ⟨q, e1, e2⟩ := bd_some he
  obtain ⟨q1, q2⟩ := gObj_some e1
  cases q1
  intro H locs ls P
  have hown : (xs X).vm.findClass own = some (xm X).cls := by rw [← hw]; exact C.hown
  have hr := gRecv C P q2 hc
  rw [hcast] at hr
  exact va_instS C.hx C.hb hown (C.hts _ hl) (by have := (C.hKs.1.1 ci rc hc).2; rw [hcast] at this; exact this) hr d (kt q e2 H locs ls P)
theorem r_areturn {x : Option Nat} (C : gCtx X) {rt : FieldType} (hr : (xM X).sig.returnType = some rt) (hrt : (∃ n, rt = .object n) ∨ ∃ t, rt = .array t) (ho : xo X = (.inl (some (gq x)), h)) (d : decode (xy X) pc = .ok (.areturn, 1)) : gW X h pc lv [gq x] := fun H locs ls P => gW_mono (fun t q => gMQ q) (W.aret (v := va_rf x) C.hx C.hb hr hrt (va_rf_or x) (fun t ht hW => ⟨by rw [ho]; rfl, by rw [ho, ht]; exact P.1, by rw [ho]; trivial⟩) P.2.1 d (hlocks := C.hlk))
end GN
