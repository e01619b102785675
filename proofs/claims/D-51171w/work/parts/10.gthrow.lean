/-! G ROWS: throws, catches, further kinds of calls, arraycopy. gThrowRaw follows vx_throw0 of laws/EXCEPTIONS.to-paste -/
set_option maxRecDepth 100000
theorem gThrowRaw {p : Program} {l : Launch} {e : Env} {R : Room} {s : State} {m : MethodId} {args : Array Value} {below : List Frame} {meth : Method} {c : Code} {H : Heap} {locs : List Loc} {cells slots : Nat} {ls : Array Slot} {rest : List Value} {Q : State → Prop} {cc : ByteArray} {pc : Nat} (hexec : p.tables.exec = Jvm.exec) (hb : c.code = cc) (hl : l.stackTraces = false) {own cls : String} {names : List String} {ik ic : Nat} {A : Nat → Prop}
    (hown : s.vm.findClass own = some m.cls) (hcls : Bundle.fit cls = true) (hnames : ∀ n ∈ names, Bundle.fit n = true)
    (hk : (Cond.classLink own ik cls).before args s = true) (hini : (Cond.initialized cls).before args s = true) (hat : ∀ w ∈ vx_at0 own ic cls names, w.before args s = true)
    (hgood : ∀ w ∈ Cond.classLink own ik cls :: Cond.initialized cls :: vx_at0 own ic cls names, vx_ot w = true)
    (hU : vx_Zq Bundle.tN "UNASSIGNED_STACK" Bundle.steD A s s.heap) (hN : vx_Zq Bundle.tN "SUPPRESSED_SENTINEL" Bundle.listD A s s.heap) (hS : va_S A s.heap H locs) (hsize : ls.size = c.maxLocals)
    (d0 : decode cc pc = .ok (.new ik, 3)) (d3 : decode cc (pc + 3) = .ok (.dup, 1)) (d4 : decode cc (pc + 4) = .ok (.invokespecial ic, 3)) (d7 : decode cc (pc + 7) = .ok (.athrow, 1))
    (hout : ∀ x ∈ c.exceptionTable.toList, covers x (pc + 7) = false)
    (hRframes : names.length + 3 < R.frames) (hRlocals : (rest.map fun v => v.category).sum + (13 * (names.length + 1) + 42) ≤ R.locals) (hRcells : cells + 1 ≤ R.cells) (hRslots : slots + 6 ≤ R.slots) (hlocks : meth.locks = false)
    (hq : ∀ (U : State) (ce : Cell), U.status = .running → Ended U below (.threw H.size) → U.heap = H.push ce → ce.slots.size = 6 → ce.vm = .none → s.vm.findClass cls = some ce.cls → s.WarmedH U.vm → s.sameButNew ({ U with vm := s.vm } : State) locs (cells + 1) (slots + 6) → Q U) :
    W p l e R s m args below meth c H locs cells slots Q (F0 m pc ls rest) := by
  intro T hT X
  have htr : e.platform.stackTraces = false := (show e.platform.stackTraces = l.stackTraces by rw [X.admits.platform]).trans hl
  have Y := vx_rebase X (R' := { frames := R.frames, locals := R.locals, cells := 1, slots := 6 }) (Nat.le_refl _) (Nat.le_refl _) hRcells hRslots
  obtain ⟨s', hA⟩ : ∃ z, z = (T.setVm s.vm).setFrames (.invoking m args :: below) := ⟨_, rfl⟩
  rw [← hA] at Y
  have hvm : s'.vm = s.vm := by rw [hA]; rfl
  have hhp : s'.heap = H := by rw [hA]; exact hT
  have hW0 : s.WarmedH s'.vm := by rw [hvm]; exact State.WarmedH.refl s
  have hat' : ∀ w ∈ vx_at0 own ic cls names, w.before args s' = true := fun w hw => vx_ot_at hW0 hvm.symm (hgood w (List.mem_cons_of_mem _ (List.mem_cons_of_mem _ hw))) (hat w hw)
  have hk' : (Cond.classLink own ik cls).before args s' = true := vx_ot_at hW0 hvm.symm (hgood _ List.mem_cons_self) hk
  have hini' : (Cond.initialized cls).before args s' = true := vx_ot_at hW0 hvm.symm (hgood _ (List.mem_cons_of_mem _ List.mem_cons_self)) hini
  have hU' : vx_Zq Bundle.tN "UNASSIGNED_STACK" Bundle.steD A s' s'.heap := by rw [hhp]; exact vx_Zq.moved hW0.alike (hU.kept hS.2.1)
  have hN' : vx_Zq Bundle.tN "SUPPRESSED_SENTINEL" Bundle.listD A s' s'.heap := by rw [hhp]; exact vx_Zq.moved hW0.alike (hN.kept hS.2.1)
  have h : ∀ w ∈ Bundle.ownAtoms0 own ic cls names, w.before args s' = true := vx_own hat' (vx_isRefq hU'.1) (vx_isRefq hN'.1) hU'.2.word hN'.2.word
  have hown' : s'.vm.findClass own = some m.cls := by rw [hvm]; exact hown
  have hins : (Cond.instantiable cls 6).before args s' = true := h _ (by simp [Bundle.ownAtoms0])
  obtain ⟨vm₁, cX, kX, hfX, hkX, -, -, X₁, st1⟩ := Y.newCold hexec (own := own) (C := cls) (index := ik) (n := 6) hown' hk' hins hini'
    (g := F0 m pc ls rest) rfl (by rw [hb]; exact d0) (Nat.le_refl _) (Nat.le_refl _)
  generalize hT1 : (T.setVm vm₁).pushCell { cls := cX, slots := kX.instanceTypes.map defaultValue, vm := .none } = T1 at X₁ st1
  have hcat : (Value.ref T.heap.size).category = 1 := rfl
  have hcellA : T1.heap[T.heap.size]? = some (freshCell cX kX) := by rw [← hT1]; exact State.heap_pushCell_size _ _
  have d3' : decode c.code (pc + 3) = .ok (.dup, 1) := by rw [hb]; exact d3
  obtain ⟨U, hsteps, hrun, hend, hW, hsame, ce, hce, hO⟩ := X₁.ctorThrow0 hexec htr (own := own) (cls := cls) (names := names) (ic := ic) hown' hcls hnames h (fun x hx => nomatch hx) hfX hkX hcellA (by rw [hhp, hT]; exact Nat.le_refl _)
    (g := { method := m, pc := pc + 4, locals := ls, stack := .ref T.heap.size :: .ref T.heap.size :: rest, locked := none }) rfl hsize rfl rfl (rest := rest) rfl
    (by rw [hb]; exact d4) (by rw [hb]; exact d7) hout hRframes (by simp only [List.map_cons, List.sum_cons, hcat]; omega) hlocks
  obtain ⟨f1, f2⟩ := vx_frame hsame
  rw [hhp] at f1 f2
  have hWs : s.WarmedH U.vm := State.WarmedH.trans hW0 hW
  have hcl : s.vm.findClass cls = some ce.cls := by
    have h9 := hO.cls
    rw [hvm] at h9
    exact h9
  have hU0 : T.heap.size < U.heap.size := (Array.getElem?_eq_some_iff.mp hce).1
  have hU1 : U.heap.size ≤ T.heap.size + 1 := by
    have h9 : U.heap.size ≤ s'.heap.size + (0 + 1) := hsame.2.2.1
    rw [hhp, ← hT] at h9
    exact h9
  have hUh : U.heap = H.push ce := by
    apply Array.ext_getElem?
    intro i
    rw [Array.getElem?_push]
    by_cases hi : i < H.size
    · rw [if_neg (Nat.ne_of_lt hi)]
      exact f2 i hi (fun z hz => nomatch hz)
    · by_cases hi2 : i = H.size
      · rw [if_pos hi2, hi2, ← hT]
        exact hce
      · rw [hT] at hU0 hU1
        rw [if_neg hi2, Array.getElem?_eq_none (by omega), Array.getElem?_eq_none (by omega)]
  have hall : s.sameButNew ({ U with vm := s.vm } : State) locs (cells + 1) (slots + 6) := by
    subst hA
    obtain ⟨e1, e2⟩ := hsame
    rw [State.setFrames_setFrames] at e1
    have h2 : (T.setVm s.vm).sameButNew ({ U with vm := s.vm } : State) [] (0 + 1) (0 + 6) := ⟨e1, e2⟩
    have h3 := X.same.trans h2
    rw [List.append_nil] at h3
    exact h3.mono (by omega) (by omega)
  refine ⟨U, ?_, hq U ce hrun (by rw [← hT]; exact hend) hUh hO.size hO.vm hcl hWs hall⟩
  refine st1 _ ?_
  show Steps p.tables e below (T1.setTop { method := m, pc := pc + 3, locals := ls, stack := .ref T.heap.size :: rest, locked := none }) _
  jvm_step X₁.here [X₁.here.top, hexec, d3', Value.category]
  exact hsteps
section GX
variable {X : gXT} {h h' : gHp} {pc maxL d : Nat} {lv : List (Nat × gV)} {st : List gV} {y : MethodName}
/-- a static heap fact of the start, at the method's own start -/
theorem gLk (C : gCtx X) {H : Heap} {locs : List Loc} {ls : Array Slot} (P : gPt X h lv H locs ls) : ∀ a : Nat, a < (kH (xK X)).size → ¬ gAb (xK X) a → H[a]? = (kH (xK X))[a]? := fun a ha _ => P.1.2.2.2.1 a ha
theorem gZq_of {C n d : String} {A : Nat → Prop} {U : State} {H : Heap} {r : Option Nat} (h : va_Z C n d (va_rf r) A U H) : va_Zq C n d A U H := by
  cases r with
  | none => exact Or.inl h
  | some a => exact Or.inr ⟨a, h⟩
/-- 'throw new E()', that leaves the method -/
theorem r_throw0 (C : gCtx X) {own cls : String} {names : List String} {ik ic k : Nat} (hk9 : gxn k = cls) (ho : xo X = (.inr (k, h.2.1), gpush0 h 6)) (hfit9 : gFit h 6 = true) (hw : xw X = own) (hcls : Bundle.fit cls = true) (hnames : ∀ n ∈ names, Bundle.fit n = true) (hk : Cond.classLink own ik cls ∈ lw_all) (hini : Cond.initialized cls ∈ lw_all) (hat : ∀ w ∈ vx_at0 own ic cls names, w ∈ lw_all ∨ w ∈ gNl)
    (hgood : ∀ w ∈ Cond.classLink own ik cls :: Cond.initialized cls :: vx_at0 own ic cls names, vx_ot w = true) (hto : ∀ w ∈ gNl, ∀ A U, va_Nw w U → w.before A U = true)
    (d0 : decode (xy X) pc = .ok (.new ik, 3)) (d3 : decode (xy X) (pc + 3) = .ok (.dup, 1)) (d4 : decode (xy X) (pc + 4) = .ok (.invokespecial ic, 3)) (d7 : decode (xy X) (pc + 7) = .ok (.athrow, 1))
    (hout : ∀ x ∈ (xc X).exceptionTable.toList, covers x (pc + 7) = false) (hd : names.length + 4 ≤ xd X) (hwt : Nat.ble (gWt st) 8 = true) : gW X h pc lv st := by
  intro H locs ls P
  refine gTight C P (fun hsp => ?_)
  obtain ⟨f1, f2⟩ := gFit_of P.1 hfit9
  have g1 := P.2.2.1
  have g2 := P.1.2.1
  have hR1 := C.hRc
  have hR2 := C.hRs
  obtain ⟨q1, q2⟩ := C.hd
  have hwt' := Nat.le_of_ble_eq_true hwt
  have hz0 : (Bundle.tN, "UNASSIGNED_STACK", Bundle.steD, 6) ∈ gZl := List.mem_of_getElem? (i := 6) rfl
  have hz1 : (Bundle.tN, "SUPPRESSED_SENTINEL", Bundle.listD, 7) ∈ gZl := List.mem_of_getElem? (i := 7) rfl
  obtain ⟨-, -, -, zz, -, -, -, -, l0, l1, -, hst, -⟩ := C.hKs
  have hU : vx_Zq Bundle.tN "UNASSIGNED_STACK" Bundle.steD (gAb (xK X)) (xs X) H := ⟨va_Zq.kept (gZq_of (zz _ hz0)) (gLk C P), vx_L.kept l0 (gLk C P)⟩
  have hN : vx_Zq Bundle.tN "SUPPRESSED_SENTINEL" Bundle.listD (gAb (xK X)) (xs X) H := ⟨va_Zq.kept (gZq_of (zz _ hz1)) (gLk C P), vx_L.kept l1 (gLk C P)⟩
  intro T hT S
  have hkS : ∀ a : Nat, a < (kH (xK X)).size → ¬ gAb (xK X) a → (xs X).heap[a]? = (kH (xK X))[a]? := by
    intro a ha _
    have hb : a < (xs X).heap.size := Nat.lt_of_lt_of_le ha C.hbs
    have e1 := P.1.2.2.2.1 a ha
    obtain ⟨c', r1, r2, r3, r4⟩ := S.same.2.2.2.2.2 a _ (Array.getElem?_eq_getElem hb)
    have r1' : H[a]? = some c' := by rw [← hT]; exact r1
    rw [← e1, r1', Array.getElem?_eq_getElem hb]
    have hs : c'.slots = ((xs X).heap[a]).slots := Array.ext_getElem? fun i => r4 i (fun hm => by
      have := P.2.1 _ hm
      have h9 : kB (xK X) ≤ a := this
      exact absurd ha (Nat.not_lt.mpr h9))
    rw [hs] at r2
    exact congrArg some r2.symm
  have hU0 : vx_Zq Bundle.tN "UNASSIGNED_STACK" Bundle.steD (gAb (xK X)) (xs X) (xs X).heap := ⟨va_Zq.kept (gZq_of (zz _ hz0)) hkS, vx_L.kept l0 hkS⟩
  have hN0 : vx_Zq Bundle.tN "SUPPRESSED_SENTINEL" Bundle.listD (gAb (xK X)) (xs X) (xs X).heap := ⟨va_Zq.kept (gZq_of (zz _ hz1)) hkS, vx_L.kept l1 hkS⟩
  have hSS : va_S (gAb (xK X)) (xs X).heap H locs := by
    refine ⟨g1, fun q hq hA => ?_, P.2.1⟩
    have hq2 : q < (kH (xK X)).size := Nat.lt_of_not_le hA
    rw [P.1.2.2.2.1 q hq2, hkS q hq2 hA]
  have K : gWW X H locs (h.2.1 - (xs X).heap.size) (h.2.2.1 - ghs (kB (xK X)) (xs X).heap) (F0 (xm X) pc ls (st.map gval)) := by
    refine gThrowRaw C.hx C.hb hst (by rw [← hw]; exact C.hown) hcls hnames (C.hts _ hk) (C.hts _ hini) (fun w hw => (hat w hw).elim (fun e => C.hts _ e) (fun e => hto w e _ _ (C.hKs.2.1 _ e))) hgood hU0 hN0 hSS P.2.2.2.1 d0 d3 d4 d7 hout (by omega) (by rw [gWt_ok]; omega) (by omega) (by omega) C.hlk ?_
    intro U ce h1 h2 h3 h4 h5 h6 h7 h8
    refine ⟨.threw H.size, h1, h2, by rw [ho, g2]; rfl, ?_, ?_, h7, locs, h8.mono (by omega) (by omega), P.2.1⟩
    · rw [ho, h3]
      exact gI_push0 P.1 h4 f1 f2
    · rw [ho]
      refine ⟨ce, ?_, h5, by simp only [hk9]; exact h6⟩
      show U.heap[h.2.1]? = _
      rw [h3, ← g2, Array.getElem?_push_size]
  exact K T hT S
/-- 'throw x' of an object that was made -/
theorem r_athrow (C : gCtx X) {q k ci : Nat} {fs : List gV} {rc : vw_C} (hci : gcl[ci]? = some rc) (hq : h.1 q = some (.inr (ci, fs))) (hk : rc.1 = gxn k) (d : decode (xy X) pc = .ok (.athrow, 1)) (kt : gT X h pc lv (k, q)) : gW X h pc lv (gq (some q) :: st) := by
  intro H locs ls P
  have hn9 : gNo (.inr (ci, fs)) = true := by
    by_cases h16 : ci = 16
    · subst h16
      cases hci
      exfalso
      unfold gxn at hk
      split at hk <;> exact absurd hk (by decide)
    · simp [gNo, h16]
  obtain ⟨r, hr, cell, g1, g2, g3, -⟩ := gStr C P.1 hq hn9
  have hcls := (C.hKs.1.1 ci rc hci).2.1
  intro T hT S
  obtain ⟨t, st9, hq9⟩ := kt H locs ls (st.map gval) cell P g1 g3 (by rw [← hk, hcls, g2]) T hT S
  refine ⟨t, ?_, hq9⟩
  have hexec := C.hx
  have hdg' : decode (xc X).code pc = .ok (.athrow, 1) := by rw [C.hb]; exact d
  jvm_step S.here [S.here.top, hexec, hdg', athrow.wp_sem]
  exact st9
/-- it leaves the method -/
theorem r_out (C : gCtx X) {own : String} {x9 : Nat × Nat} (hw : xw X = own) (ho : xo X = (.inr x9, h)) (hpass : ∀ z ∈ (xc X).exceptionTable.toList, covers z pc = false ∨ (z.catchType ≠ 0 ∧ ∃ nm : String, Cond.classLink own z.catchType nm ∈ lw_all ∧ (gxn x9.1, nm) ∈ gNc)) : gT X h pc lv x9 := by
  intro H locs ls st0 ce P hcell hv hcl T hT S
  have hown : (xs X).vm.findClass own = some (xm X).cls := by rw [← hw]; exact C.hown
  have hpl : (xe X).platform.magicAccessors = ({} : Platform).magicAccessors := by rw [S.admits.platform]
  obtain ⟨vm', hW', X', st⟩ := S.outThrough C.hlk x9.2 (g := F0 (xm X) pc ls st0) rfl rfl rfl (cell := ce) (by rw [hT]; exact hcell) (by rw [hv]; rfl)
    (by obtain ⟨k9, h9, -⟩ := Vm.findClass_spec hcl; exact ⟨k9, h9⟩) (fun z hz => by
      rcases hpass z hz with h | ⟨hz0, nm, hl1, hn0⟩
      · exact Or.inl h
      · obtain ⟨c6, hc6, hcl6⟩ := Cond.classLink_spec hown (C.hts _ hl1) (xe X).platform hpl
        obtain ⟨a8, b8, h1, h2, h3⟩ := C.hKs.2.2.2.2.2.2.2.2.2.2.1 _ hn0
        cases Option.some.inj (h1.symm.trans hcl)
        cases Option.some.inj (h2.symm.trans hc6)
        exact Or.inr ⟨hz0, _, hcl6, h3⟩)
  obtain ⟨g₀, hfr⟩ := X'.frames_eq
  have hcell9 : ((T.setVm vm').setFrames (.throwing x9.2 :: xb X)).heap[x9.2]? = some ce := by
    show T.heap[x9.2]? = some ce
    rw [hT]; exact hcell
  have hend : Ended ((T.setVm vm').setFrames (.throwing x9.2 :: xb X)) (xb X) (.threw x9.2) := State.frames_setFrames _ (State.cur_lt_of_frames hfr)
  refine ⟨(T.setVm vm').setFrames (.throwing x9.2 :: xb X), ?_, .threw x9.2, X'.here.running, hend, by rw [ho]; rfl, ?_, by rw [ho]; exact ⟨ce, hcell9, hv, hcl⟩, (X'.ends _).1, locs, (X'.ends _).2, P.2.1⟩
  · rw [S.pushThrowing_eq]
    exact st
  · rw [ho]
    show gI (xK X) h T.heap
    rw [hT]
    exact P.1
/-- it is caught by the row x of this method's table -/
theorem r_catch (C : gCtx X) {own name : String} {x9 : Nat × Nat} (hw : xw X = own) (pre : List ExceptionTableEntry) (x : ExceptionTableEntry) (suf : List ExceptionTableEntry) (hsplit : (xc X).exceptionTable.toList = pre ++ x :: suf)
    (hpass : ∀ z ∈ pre, covers z pc = false ∨ (z.catchType ≠ 0 ∧ ∃ nm : String, Cond.classLink own z.catchType nm ∈ lw_all ∧ (gxn x9.1, nm) ∈ gNc)) (hx : covers x pc = true) (h0 : x.catchType ≠ 0) (hl : Cond.classLink own x.catchType name ∈ lw_all) (hcast : Cond.castable (gxn x9.1) name ∈ gNl) (kt : gW X h x.handlerPc lv [gq (some x9.2)]) : gT X h pc lv x9 := by
  intro H locs ls st0 ce P hcell hv hcl
  have hown : (xs X).vm.findClass own = some (xm X).cls := by rw [← hw]; exact C.hown
  exact vx_catch hown pre x suf hsplit (fun z hz => (hpass z hz).elim Or.inl (fun ⟨z0, nm, z1, z2⟩ => Or.inr ⟨z0, nm, C.hts _ z1, C.hKs.2.2.2.2.2.2.2.2.2.2.1 _ z2⟩)) hx h0 (C.hts _ hl) (va_Nw.use rfl (C.hKs.2.1 _ hcast)) hcell hv hcl (kt H locs ls P)
/-! further kinds of invocation -/
theorem i_U (C : gCtx X) {own owner : String} {index n a : Nat} {x : MethodName} {bytes : ByteArray} {ret : Option FieldType} {args : List gV} {fs : List gV} {rc : vw_C} (ci : Nat) (hci : gcl[ci]? = some rc) (ha : h.1 a = some (.inr (ci, fs))) (hw : xw X = own) (hl : Cond.methodLink own index x ∈ lw_all) (hsm : Cond.sameMethod x.cls owner x.name x.desc ∈ lw_all) (hd0 : va_Decl (xs X) ⟨owner, x.name, x.desc⟩) (hon : owner ≠ "java/lang/invoke/MethodHandle" ∧ owner ≠ "java/lang/invoke/VarHandle") (hse : Cond.selects rc.1 x y ∈ lw_all) (hin : Cond.instanceMethod y ∈ lw_all) (hc : Cond.code y bytes maxL ret ∈ lw_all) (hg : gSig x n = true) (hn : args.length = n) (hwt : Nat.ble (gWt st) 8 = true)
    (d : decode (xy X) pc = .ok (.invokevirtual index, 3)) : gInv X h lv pc 3 y (gq (some a) :: args) (args.reverse ++ gq (some a) :: st) st := by
  intro H locs ls T cells slots Pre Post PostX P hT S hB hpre
  obtain ⟨g1, g2⟩ := gSig_ok hg
  obtain ⟨cell, r1, r2, r3⟩ := gRecv C P ha hci
  exact vx_callVU S C.hx (by rw [← hw]; exact C.hown) (C.hts _ hl) (C.hts _ hsm) hd0 hon (C.hts _ hse) (C.hts _ hin) (C.hts _ hc) hB (by rw [hT]; exact r1) r2 r3 (g := F0 (xm X) pc ls ((args.reverse ++ gq (some a) :: st).map gval)) rfl P.2.2.2.1 (argsL := args.map gval) (rest := st.map gval) (fun sig h => by rw [List.length_map, hn]; exact g2 sig h) (by show (args.reverse ++ gq (some a) :: st).map gval = _; rw [List.map_append, List.map_reverse]; rfl) (by show 2 * 0 + _ ≤ 8; rw [gWt_ok]; have := Nat.le_of_ble_eq_true hwt; omega) (by rw [C.hb]; exact d) hpre
theorem gDecl (C : gCtx X) {x : MethodName} {b : ByteArray} {n : Nat} {r : Option FieldType} (hi : Cond.instanceMethod x ∈ lw_all) (hc : Cond.code x b n r ∈ lw_all) : va_Decl (xs X) x := va_Decl.of (C.hts _ hi) (C.hts _ hc)
theorem gDeclA (C : gCtx X) {x : MethodName} (hi : Cond.declares x ∈ gNl) : va_Decl (xs X) x := va_Decl.abs (C.hKs.2.1 _ hi)
theorem i_SU (C : gCtx X) {own : String} {index n a : Nat} {bytes : ByteArray} {ret : Option FieldType} {args : List gV} {fs : List gV} {rc : vw_C} (ci : Nat) (hci : gcl[ci]? = some rc) (ha : h.1 a = some (.inr (ci, fs))) (hcO : rc.1 = own) (hw : xw X = own) (hl : Cond.methodLink own index y ∈ lw_all) (hsm : Cond.sameMethod y.cls y.cls y.name y.desc ∈ lw_all) (hsu : Cond.superclass own y.cls ∈ lw_all) (hin : Cond.instanceMethod y ∈ lw_all) (hc : Cond.code y bytes maxL ret ∈ lw_all) (hno : y.name ≠ "<init>") (hg : gSig y n = true) (hn : args.length = n) (hwt : Nat.ble (gWt st) 8 = true)
    (d : decode (xy X) pc = .ok (.invokespecial index, 3)) : gInv X h lv pc 3 y (gq (some a) :: args) (args.reverse ++ gq (some a) :: st) st := by
  intro H locs ls T cells slots Pre Post PostX P hT S hB hpre
  obtain ⟨g1, g2⟩ := gSig_ok hg
  obtain ⟨cell, r1, r2, r3⟩ := gRecv C P ha hci
  obtain ⟨kB9, hkB, -⟩ := Vm.findClass_spec r3
  exact vx_callSU S C.hx (by rw [← hw]; exact C.hown) (C.hts _ hl) (C.hts _ hsm) (C.hts _ hsu) (C.hts _ hin) (C.hts _ hc) hno hB (by rw [hT]; exact r1) r2 hkB (g := F0 (xm X) pc ls ((args.reverse ++ gq (some a) :: st).map gval)) rfl P.2.2.2.1 (argsL := args.map gval) (rest := st.map gval) (fun sig h => by rw [List.length_map, hn]; exact g2 sig h) (by show (args.reverse ++ gq (some a) :: st).map gval = _; rw [List.map_append, List.map_reverse]; rfl) (by show 2 * 0 + _ ≤ 8; rw [gWt_ok]; have := Nat.le_of_ble_eq_true hwt; omega) (by rw [C.hb]; exact d) hpre
theorem i_F (C : gCtx X) {own : String} {index count n a : Nat} {x : MethodName} {bytes : ByteArray} {ret : Option FieldType} {args : List gV} {fs : List gV} {rc : vw_C} (ci : Nat) (hci : gcl[ci]? = some rc) (ha : h.1 a = some (.inr (ci, fs))) (hw : xw X = own) (hl : Cond.methodLink own index x ∈ lw_all) (hF : (rc.1, x, y) ∈ gFl) (hse : Cond.selects rc.1 x y ∈ lw_all) (hin : Cond.instanceMethod y ∈ lw_all) (hc : Cond.code y bytes maxL ret ∈ lw_all) (hg : gSig x n = true) (hn : args.length = n) (hwt : Nat.ble (gWt st) 8 = true)
    (d : decode (xy X) pc = .ok (.invokeinterface index count, 5)) : gInv X h lv pc 5 y (gq (some a) :: args) (args.reverse ++ gq (some a) :: st) st := by
  intro H locs ls T cells slots Pre Post PostX P hT S hB hpre
  obtain ⟨g1, g2⟩ := gSig_ok hg
  obtain ⟨cell, r1, r2, r3⟩ := gRecv C P ha hci
  obtain ⟨kB9, hkB, -⟩ := Vm.findClass_spec r3
  obtain ⟨u1, u2, u3, u4, u5⟩ := C.hKs.2.2.1 _ hF
  exact vx_callIF S C.hx (by rw [← hw]; exact C.hown) (C.hts _ hl) (va_any rfl u1) (va_any rfl u2) (C.hts _ hse) (C.hts _ hin) (va_any rfl u3) (va_any rfl u4) (va_any rfl u5) (C.hts _ hc) g1 hB (by rw [hT]; exact r1) r2 r3 hkB (g := F0 (xm X) pc ls ((args.reverse ++ gq (some a) :: st).map gval)) rfl P.2.2.2.1 (argsL := args.map gval) (rest := st.map gval) (fun sig h => by rw [List.length_map, hn]; exact g2 sig h) (by show (args.reverse ++ gq (some a) :: st).map gval = _; rw [List.map_append, List.map_reverse]; rfl) (by show 2 * 0 + _ ≤ 8; rw [gWt_ok]; have := Nat.le_of_ble_eq_true hwt; omega) (by rw [C.hb]; exact d) hpre
theorem i_VX (C : gCtx X) {own : String} {index n a : Nat} {bytes : ByteArray} {ret : Option FieldType} {hh : List (Nat × Nat × Nat × Nat)} {args : List gV} {fs : List gV} {rc : vw_C} (ci : Nat) (hci : gcl[ci]? = some rc) (ha : h.1 a = some (.inr (ci, fs))) (hw : xw X = own) (hl : Cond.methodLink own index y ∈ lw_all) (hin : Cond.instanceMethod y ∈ lw_all) (hse : Cond.selects rc.1 y y ∈ lw_all) (hc : Cond.codeWith y bytes maxL ret hh ∈ lw_all) (hg : gSig y n = true) (hn : args.length = n) (hwt : Nat.ble (gWt st) 8 = true)
    (d : decode (xy X) pc = .ok (.invokevirtual index, 3)) : gInv X h lv pc 3 y (gq (some a) :: args) (args.reverse ++ gq (some a) :: st) st := by
  intro H locs ls T cells slots Pre Post PostX P hT S hB hpre
  obtain ⟨g1, g2⟩ := gSig_ok hg
  obtain ⟨cell, r1, r2, r3⟩ := gRecv C P ha hci
  exact vx_callVX S C.hx (by rw [← hw]; exact C.hown) (C.hts _ hl) (C.hts _ hin) (C.hts _ hse) (C.hts _ hc) g1 hB (by rw [hT]; exact r1) r2 r3 (g := F0 (xm X) pc ls ((args.reverse ++ gq (some a) :: st).map gval)) rfl P.2.2.2.1 (argsL := args.map gval) (rest := st.map gval) (fun sig h => by rw [List.length_map, hn]; exact g2 sig h) (by show (args.reverse ++ gq (some a) :: st).map gval = _; rw [List.map_append, List.map_reverse]; rfl) (by show 2 * 0 + _ ≤ 8; rw [gWt_ok]; have := Nat.le_of_ble_eq_true hwt; omega) (by rw [C.hb]; exact d) hpre
theorem i_SX (C : gCtx X) {own : String} {index n : Nat} {bytes : ByteArray} {ret : Option FieldType} {hh : List (Nat × Nat × Nat × Nat)} {args : List gV} (hw : xw X = own) (hl : Cond.methodLink own index y ∈ lw_all) (hs : Cond.static y ∈ lw_all) (hi : Cond.initialized y.cls ∈ lw_all) (hc : Cond.codeWith y bytes maxL ret hh ∈ lw_all) (hg : gSig y n = true) (hn : args.length = n) (hwt : Nat.ble (gWt st) 8 = true)
    (d : decode (xy X) pc = .ok (.invokestatic index, 3)) : gInv X h lv pc 3 y args (args.reverse ++ st) st := by
  intro H locs ls T cells slots Pre Post PostX P hT S hB hpre
  obtain ⟨g1, g2⟩ := gSig_ok hg
  exact vx_callSX S C.hx (by rw [← hw]; exact C.hown) (C.hts _ hl) (C.hts _ hs) (C.hts _ hi) (C.hts _ hc) g1 hB (g := F0 (xm X) pc ls ((args.reverse ++ st).map gval)) rfl P.2.2.2.1 (argsL := args.map gval) (rest := st.map gval) (fun sig h => by rw [List.length_map, hn]; exact g2 sig h) (by show (args.reverse ++ st).map gval = _; rw [List.map_append, List.map_reverse]) (by show 2 * 0 + _ ≤ 8; rw [gWt_ok]; have := Nat.le_of_ble_eq_true hwt; omega) (by rw [C.hb]; exact d) hpre
/-! System.arraycopy -/
def gCpi (h : gHp) (r : Option Nat) (sp : Int32) (q : Option Nat) (dp n : Int32) (ti : Nat) : Option gHp := match gArr h r ti with
  | some (a0, n0, .inl f) => match gArr h q ti with
    | some (a, n1, .inl g) => if (0 ≤ sp ∧ 0 ≤ dp ∧ 0 ≤ n) ∧ sp.toNatClampNeg + n.toNatClampNeg ≤ n0 ∧ dp.toNatClampNeg + n.toNatClampNeg ≤ n1 ∧ h.2.2.2.1 ≤ a ∧ (ti = 0 ∨ (List.range n.toNatClampNeg).all (fun i => gfb (f (sp.toNatClampNeg + i))) = true) then some (gset h a (.inl (ti, n1, .inl (va_cpy f g sp.toNatClampNeg dp.toNatClampNeg n.toNatClampNeg)))) else none
    | _ => none
  | _ => none
def gCpq (h : gHp) (r : Option Nat) (sp : Int32) (q : Option Nat) (dp n : Int32) : Option gHp := match gArr h r 5 with
  | some (a0, n0, .inr (.inr (.inr (.inr f)))) => match gArr h q 5 with
    | some (a, n1, .inr (.inr (.inr (.inr g)))) => if (0 ≤ sp ∧ 0 ≤ dp ∧ 0 ≤ n) ∧ sp.toNatClampNeg + n.toNatClampNeg ≤ n0 ∧ dp.toNatClampNeg + n.toNatClampNeg ≤ n1 ∧ h.2.2.2.1 ≤ a ∧ (List.range n.toNatClampNeg).all (fun i => match f (sp.toNatClampNeg + i) with
          | none => true
          | some y => match h.1 y with
            | some (.inr o) => decide (o.1 = 3) || decide (o.1 = 6) || decide (o.1 = 8)
            | _ => false) = true then some (gset h a (.inl (5, n1, .inr (.inr (.inr (.inr (va_cpy f g sp.toNatClampNeg dp.toNatClampNeg n.toNatClampNeg))))))) else none
    | _ => none
  | _ => none
theorem gfit_b {x : Int32} (h : gfb x = true) : fits .byte (.int x) = true := by
  have h1 : x.toInt8.toInt32 = x := by simpa [gfb] using h
  rw [← h1]
  exact pk_fb x
end GX
