/-! G ROWS: calls. gBack follows vx_back of laws/EXCEPTIONS.to-paste (itself after the library's Back.of_free) -/
set_option maxRecDepth 100000
theorem gKs_same {K : gKT} {u U : State} (hv : U.vm = u.vm) (h : gKs K u) : gKs K U := gKs_moved (by rw [hv]; exact State.WarmedH.refl u) h
def gPreP (K : gKT) (R rm : Room) (av : List gV) (h : gHp) : Pt → Array Value → Prop := fun A a => a = (av.map gval).toArray ∧ gI K h A.U.heap ∧ gKs K A.U ∧ A.cells + rm.cells ≤ R.cells ∧ A.slots + rm.slots ≤ R.slots
def gPostP (K : gKT) (R rm : Room) (o : gO) (h' : gHp) : Pt → Array Value → Option Value → Pt → Prop := fun A _ v B => (∃ v9, o = .inl v9 ∧ v = v9.map gval) ∧ gI K h' B.U.heap ∧ A.cells + rm.cells ≤ R.cells ∧ A.slots + rm.slots ≤ R.slots ∧ ∃ L, B = (B.U, A.locs ++ L, A.cells + rm.cells, A.slots + rm.slots) ∧ ∀ z ∈ L, kB K ≤ z.base
def gPostX (K : gKT) (R rm : Room) (o : gO) (h' : gHp) : Pt → Array Value → Addr → Pt → Prop := fun A _ q B => (∃ x9, o = .inr x9 ∧ q = x9.2) ∧ gI K h' B.U.heap ∧ gXc o A.U B.U ∧ A.cells + rm.cells ≤ R.cells ∧ A.slots + rm.slots ≤ R.slots ∧ ∃ L, B = (B.U, A.locs ++ L, A.cells + rm.cells, A.slots + rm.slots) ∧ ∀ z ∈ L, kB K ≤ z.base
theorem gBack {K : gKT} {R : Room} {p : Program} {e : Env} {below : List Frame} {s : State} {sargs : Array Value} {y : MethodName} {len W9 : Nat} {ws : List Cond} {rm : Room} {d maxL : Nat} {av : List gV} {h h' : gHp} {o9 : gO} (hrm : rm = gRoom K d h)
    (hM : MetFree K.1 y (headSpec ws rm) (gPre K av h) (fun _ _ _ _ _ => True) (gPost K o9 h' rm)) (hframes : rm.frames + 1 ≤ R.frames) (hlocals : W9 + (maxL + 11) + rm.locals ≤ R.locals)
    (hws : ∀ w ∈ ws, ∀ (a' : Array Value) (U : State), s.WarmedH U.vm → w.before a' U = true) (hcode : ∀ (U : State) (mk : MethodId), s.WarmedH U.vm → U.methodNamed? y = some mk → ∃ methY cY, U.vm.method? mk = some methY ∧ methY.code = some cY ∧ cY.maxLocals = maxL) (hinit : ∀ (a' : Array Value) (U : State), s.WarmedH U.vm → (Cond.initialized y.cls).before a' U = true) :
    vx_Back K.1 R p e below s sargs y len W9 (gPreP K R rm av h) (gPostP K R rm o9 h') (gPostX K R rm o9 h') := by
  intro m meth c A g ig mk a X hg hsize hdg hW hn hp
  obtain ⟨rfl, pI, pK, pc1, ps1⟩ := hp
  have h1 : (headSpec ws rm).pre.before (av.map gval).toArray A.U = true := atoms_intro fun w hw => hws w hw _ _ X.warmed
  have h3 : (Cond.initialized y.cls).before (av.map gval).toArray A.U = true := hinit _ _ X.warmed
  have h4 : A.cells + (headSpec ws rm).room.cells ≤ R.cells := pc1
  have h5 : A.slots + (headSpec ws rm).room.slots ≤ R.slots := ps1
  have hPc : gPre K av h (av.map gval).toArray (A.U.calling g mk (av.map gval).toArray) := ⟨rfl, pI, gKs_same (u := A.U) (U := A.U.calling g mk (av.map gval).toArray) rfl pK⟩
  obtain ⟨methY, cY, hmY, hcY, hlY⟩ := hcode _ _ X.warmed hn
  obtain ⟨U, Ls, c0, s0⟩ := A
  dsimp only [Pt.U, Pt.locs, Pt.cells, Pt.slots] at h1 h3 h4 h5 X hn hPc hmY ⊢
  obtain ⟨kY, hkY, -⟩ := className_of_methodNamed hn
  have hinitY : kY.init = .initialized := Cond.initialized_spec (findClass_of_methodNamed hn) hkY h3
  have h : At U g.method c below := by rw [hg]; exact X.here
  have hlocals9 : W9 + (maxL + 11) + (headSpec ws rm).room.locals ≤ R.locals := hlocals
  have happ : (headSpec ws rm).appliesLoose y e.platform (U.calling g mk (av.map gval).toArray) = true :=
    Spec.appliesLoose_calling (g := g) h hdg hn hkY hinitY
      (X.room_calling (g := g) (R' := (headSpec ws rm).room) hsize hmY hcY hframes (by rw [hlY]; omega) h4 h5) h1
  obtain ⟨mid, hmid⟩ := h.above
  have hfr : (U.setTop g).frames = (.java g :: mid) ++ below := by rw [State.frames_setTop' g h.top, hmid]; rfl
  obtain ⟨o, s₂, hsteps, -, hend, hq⟩ := Steps.callFree hM p X.admits X.cas X.clock (acts := []) hfr happ hPc trivial
  have hq' : gPost K o9 h' rm (av.map gval).toArray (U.calling g mk (av.map gval).toArray) o s₂ := hq
  rw [State.frames_setTop' g h.top] at hend
  obtain ⟨g₀, hg0⟩ := Option.isSome_iff_exists.mp h.top
  obtain ⟨r, hr⟩ := State.topJava?_eq_some.mp hg0
  have hr' : (({ U with heap := s₂.heap, slotsUsed := s₂.slotsUsed } : State).setVm s₂.vm).frames = .java g₀ :: r := hr
  obtain ⟨ho, gI9, gX9, hW₂, L, hsm, hL⟩ := hq'
  rcases o9 with v9 | x9
  · subst ho
    obtain ⟨v, hv9⟩ : ∃ v, v = v9.map gval := ⟨_, rfl⟩
    have hend : Ended s₂ (.java g :: U.frames.tail) (.returned v) := by rw [hv9]; exact hend
    obtain ⟨e2, q2, q3, q4, q5, q6⟩ := id hsm
    have e3 : s₂ = ({ (U.calling g mk (av.map gval).toArray).setFrames s₂.frames with heap := s₂.heap, slotsUsed := s₂.slotsUsed } : State).setVm s₂.vm := by
      have : s₂ = ({ s₂ with vm := (U.calling g mk (av.map gval).toArray).vm } : State).setVm s₂.vm := rfl
      rw [e2] at this
      exact this
    obtain ⟨c₂, i₂, len₂, hc₂, hd₂, hf₂⟩ := hend
    have hW' : U.WarmedH s₂.vm := hW₂
    have hcc : c₂ = c := by
      have h1 : s₂.code? g.method = U.code? g.method := by
        rw [State.code?_eq, State.code?_eq, hW'.alike.method?]
      exact Option.some.inj (hc₂.symm.trans (h1.trans h.code))
    subst hcc
    have hlen : len₂ = len := by rw [hdg] at hd₂; cases hd₂; rfl
    subst hlen
    have hs₂ : s₂ = (({ U with heap := s₂.heap, slotsUsed := s₂.slotsUsed } : State).setVm s₂.vm).setTop { g with pc := g.pc + len₂, stack := v.toList ++ g.stack } := by
      refine e3.trans ?_
      rw [hf₂, State.calling_eq h.top, State.setFrames_setFrames, State.setTop_of_frames _ hr', hr]
      rfl
    have hsame : U.sameButNew ({ U with heap := s₂.heap, slotsUsed := s₂.slotsUsed } : State) L rm.cells rm.slots := by
      refine ⟨?_, q2, q3, q4, q5, q6⟩
      obtain ⟨t, ht, -⟩ := State.frames_cons hr
      show ({ U with heap := s₂.heap, slotsUsed := s₂.slotsUsed } : State) = { U.setFrames U.frames with heap := s₂.heap, slotsUsed := s₂.slotsUsed }
      rw [State.setFrames_self ht]
    subst hg
    refine Or.inl ⟨v, ⟨(({ U with heap := s₂.heap, slotsUsed := s₂.slotsUsed } : State).setVm s₂.vm), Ls ++ L, c0 + rm.cells, s0 + rm.slots⟩,
      ⟨X.admits, X.cas, X.clock, X.frames, X.room, X.hears, X.method, X.code, (X.here.setHeapUsed s₂.heap s₂.slotsUsed).setVm hW'.alike, X.tail, State.WarmedH.trans X.warmed hW', X.limits, X.bytes, X.same.trans (hsame.setVm s.vm)⟩,
      ⟨⟨v9, rfl, hv9⟩, gI9, pc1, ps1, L, rfl, hL⟩, ?_⟩
    show Steps p.tables e below _ ((({ U with heap := s₂.heap, slotsUsed := s₂.slotsUsed } : State).setVm s₂.vm).setTop { g with pc := g.pc + len₂, stack := v.toList ++ g.stack })
    rw [← hs₂]
    exact hsteps
  · subst ho
    obtain ⟨q, hq9⟩ : ∃ q, q = x9.2 := ⟨_, rfl⟩
    have hend : Ended s₂ (.java g :: U.frames.tail) (.threw q) := by rw [hq9]; exact hend
    obtain ⟨e2, q2, q3, q4, q5, q6⟩ := id hsm
    have e3 : s₂ = ({ (U.calling g mk (av.map gval).toArray).setFrames s₂.frames with heap := s₂.heap, slotsUsed := s₂.slotsUsed } : State).setVm s₂.vm := by
      have : s₂ = ({ s₂ with vm := (U.calling g mk (av.map gval).toArray).vm } : State).setVm s₂.vm := rfl
      rw [e2] at this
      exact this
    have hf₂ : s₂.frames = .throwing q :: .java g :: U.frames.tail := hend
    have hW' : U.WarmedH s₂.vm := hW₂
    have hs₂ : s₂ = ((({ U with heap := s₂.heap, slotsUsed := s₂.slotsUsed } : State).setVm s₂.vm).setTop g).pushFrame (.throwing q) := by
      refine e3.trans ?_
      rw [hf₂, State.calling_eq h.top, State.setFrames_setFrames, State.pushFrame, State.frames_setTop _ hr', State.setTop_of_frames _ hr', State.setFrames_setFrames, hr]
      rfl
    have hsame : U.sameButNew ({ U with heap := s₂.heap, slotsUsed := s₂.slotsUsed } : State) L rm.cells rm.slots := by
      refine ⟨?_, q2, q3, q4, q5, q6⟩
      obtain ⟨t, ht, -⟩ := State.frames_cons hr
      show ({ U with heap := s₂.heap, slotsUsed := s₂.slotsUsed } : State) = { U.setFrames U.frames with heap := s₂.heap, slotsUsed := s₂.slotsUsed }
      rw [State.setFrames_self ht]
    subst hg
    refine Or.inr ⟨q, ⟨(({ U with heap := s₂.heap, slotsUsed := s₂.slotsUsed } : State).setVm s₂.vm), Ls ++ L, c0 + rm.cells, s0 + rm.slots⟩,
      ⟨X.admits, X.cas, X.clock, X.frames, X.room, X.hears, X.method, X.code, (X.here.setHeapUsed s₂.heap s₂.slotsUsed).setVm hW'.alike, X.tail, State.WarmedH.trans X.warmed hW', X.limits, X.bytes, X.same.trans (hsame.setVm s.vm)⟩,
      ⟨⟨x9, rfl, hq9⟩, gI9, gX9, pc1, ps1, L, rfl, hL⟩, ?_⟩
    show Steps p.tables e below _ (((({ U with heap := s₂.heap, slotsUsed := s₂.slotsUsed } : State).setVm s₂.vm).setTop g).pushFrame (.throwing q))
    rw [← hs₂]
    exact hsteps
section GC
variable {X : gXT} {h h' : gHp} {pc len maxL d : Nat} {lv : List (Nat × gV)} {st : List gV} {y : MethodName} {av : List gV} {ws : List Cond}
abbrev gVB (X : gXT) (y : MethodName) (len : Nat) (Pre : Pt → Array Value → Prop) (Post : Pt → Array Value → Option Value → Pt → Prop) (PostX : Pt → Array Value → Addr → Pt → Prop) : Prop := vx_Back (xK X).1 (xR X) (xp X) (xe X) (xb X) (xs X) (xa X) y len 8 Pre Post PostX
/-- an invocation of y with the values av, from pc with the stack st0, leaving st -/
def gInv (X : gXT) (h : gHp) (lv : List (Nat × gV)) (pc len : Nat) (y : MethodName) (av st0 st : List gV) : Prop :=
  ∀ (H : Heap) (locs : List Loc) (ls : Array Slot) (T : State) (cells slots : Nat) (Pre : Pt → Array Value → Prop) (Post : Pt → Array Value → Option Value → Pt → Prop) (PostX : Pt → Array Value → Addr → Pt → Prop), gPt X h lv H locs ls → T.heap = H →
    Stand (xp X) (xK X).1 (xe X) (xR X) (xs X) (xm X) (xa X) (xb X) (xM X) (xc X) T locs cells slots → gVB X y len Pre Post PostX → (∀ vm₁, (xs X).WarmedH vm₁ → Pre ⟨T.setVm vm₁, locs, cells, slots⟩ (av.map gval).toArray) →
    (∃ (v : Option Value) (vm₁ : Vm) (B : Pt), (xs X).WarmedH vm₁ ∧ Stand (xp X) (xK X).1 (xe X) (xR X) (xs X) (xm X) (xa X) (xb X) (xM X) (xc X) B.U B.locs B.cells B.slots ∧ Post ⟨T.setVm vm₁, locs, cells, slots⟩ (av.map gval).toArray v B ∧
      ∀ target, Steps (xp X).tables (xe X) (xb X) (B.U.setTop (F0 (xm X) (pc + len) ls (v.toList ++ st.map gval))) target → Steps (xp X).tables (xe X) (xb X) (T.setTop (F0 (xm X) pc ls (st0.map gval))) target) ∨
    (∃ (q : Addr) (vm₁ : Vm) (B : Pt), (xs X).WarmedH vm₁ ∧ Stand (xp X) (xK X).1 (xe X) (xR X) (xs X) (xm X) (xa X) (xb X) (xM X) (xc X) B.U B.locs B.cells B.slots ∧ PostX ⟨T.setVm vm₁, locs, cells, slots⟩ (av.map gval).toArray q B ∧
      Steps (xp X).tables (xe X) (xb X) (T.setTop (F0 (xm X) pc ls (st0.map gval))) ((B.U.setTop (F0 (xm X) pc ls (st.map gval))).pushFrame (.throwing q)))
/-- the callee's code, among its words, with or without a table of handlers -/
def gCode (y : MethodName) (maxL : Nat) (ws : List Cond) : Prop := (∃ b r, Cond.code y b maxL r ∈ ws) ∨ ∃ b r hh, Cond.codeWith y b maxL r hh ∈ ws
theorem gCode_c {b : ByteArray} {r : Option FieldType} : gCode y maxL (Cond.code y b maxL r :: lw_all) := Or.inl ⟨b, r, List.mem_cons_self⟩
theorem gCode_w {b : ByteArray} {r : Option FieldType} {hh : List (Nat × Nat × Nat × Nat)} : gCode y maxL (Cond.codeWith y b maxL r hh :: lw_all) := Or.inr ⟨b, r, hh, List.mem_cons_self⟩
theorem gGood_c {b : ByteArray} {r : Option FieldType} (h : Cond.code y b maxL r ∈ lw_all) : GoodIn lw_all (Cond.code y b maxL r :: lw_all) := lw_meth h
theorem gGood_w {b : ByteArray} {r : Option FieldType} {hh : List (Nat × Nat × Nat × Nat)} (h : Cond.codeWith y b maxL r hh ∈ lw_all) : GoodIn lw_all (Cond.codeWith y b maxL r hh :: lw_all) := by
  intro w hw
  rcases List.mem_cons.mp hw with e | e
  · rw [e]
    exact lw_self _ h
  · exact lw_self _ e
/-- what a call asks of its callee beside the contract -/
def gCal (X : gXT) (y : MethodName) (ws : List Cond) (d maxL : Nat) : Prop := GoodIn lw_all ws ∧ gCode y maxL ws ∧ Cond.initialized y.cls ∈ lw_all ∧ d + 1 ≤ xd X ∧ maxL ≤ 100
theorem gCallee (C : gCtx X) (q : gCal X y ws d maxL) {o : gO} (hM : gMet (xK X) y ws d av h o h') : gVB X y len (gPreP (xK X) (xR X) (gRoom (xK X) d h) av h) (gPostP (xK X) (xR X) (gRoom (xK X) d h) o h') (gPostX (xK X) (xR X) (gRoom (xK X) d h) o h') := by
  obtain ⟨hG, hc, hi, hd, hm⟩ := q
  obtain ⟨f1, f2⟩ := C.hd
  have hws : ∀ w ∈ ws, ∀ (a' : Array Value) (U : State), (xs X).WarmedH U.vm → w.before a' U = true := pay_in C.hts hG
  refine gBack (maxL := maxL) rfl hM (Nat.le_trans hd f1) (by show 8 + (maxL + 11) + 128 * d ≤ _; omega) hws ?_ (fun a' U hW => word_at hW (Or.inl rfl) (C.hts _ hi))
  intro U mk hW hn
  rcases hc with ⟨b, r, hc⟩ | ⟨b, r, hh, hc⟩
  · obtain ⟨methY, cY, hmY, hcY, -, hlY, -, -, -, -⟩ := Cond.code_spec hn (hws _ hc #[] U hW)
    exact ⟨methY, cY, hmY, hcY, hlY⟩
  · obtain ⟨m9, methY, cY, hn9, hmY, hcY, -, hlY, -⟩ := Cond.codeWith_spec (hws _ hc #[] U hW)
    cases Option.some.inj (hn9.symm.trans hn)
    exact ⟨methY, cY, hmY, hcY, hlY⟩
/-- a call, whatever its kind: what comes back goes on; what is thrown is thrown here -/
theorem r_call (C : gCtx X) {st0 : List gV} {o : gO} (i : gInv X h lv pc len y av st0 st) (q : gCal X y ws d maxL) (hM : gMet (xK X) y ws d av h o h')
    (kr : ∀ v, o = .inl v → gW X h' (pc + len) lv (v.toList ++ st)) (kx : ∀ x, o = .inr x → gT X h' pc lv x) : gW X h pc lv st0 := by
  intro H locs ls P
  refine gTight C P (fun hsp => ?_)
  intro T hT S
  have hR1 := C.hRc
  have hR2 := C.hRs
  have g1 := P.2.2.1
  have g2 := P.1.2.1
  obtain ⟨-, -, -, -, -, -, i7, i8, i9⟩ := P.1
  have hc : h.2.1 - (xs X).heap.size + (gRoom (xK X) d h).cells ≤ (xR X).cells := by show _ + (kB (xK X) + gLC - h.2.1) ≤ _; omega
  have hs : h.2.2.1 - ghs (kB (xK X)) (xs X).heap + (gRoom (xK X) d h).slots ≤ (xR X).slots := by show _ + (gLS - h.2.2.1) ≤ _; omega
  have hsz : ∀ {B : State} {l c n}, Stand (xp X) (xK X).1 (xe X) (xR X) (xs X) (xm X) (xa X) (xb X) (xM X) (xc X) B l c n → (xs X).heap.size ≤ B.heap.size := fun S => S.same.2.1
  rcases i H locs ls T _ _ _ _ _ P hT S (gCallee C q hM) (fun vm₁ hW => ⟨rfl, by show gI _ _ T.heap; rw [hT]; exact P.1, gKs_moved hW C.hKs, hc, hs⟩) with ⟨v, vm₁, B, hW, S', ⟨⟨v9, rfl, hv⟩, hI, p1, p2, L, hB, hL⟩, step⟩ | ⟨q9, vm₁, B, hW, S', ⟨⟨x9, rfl, hv⟩, hI, hX, p1, p2, L, hB, hL⟩, step⟩
  · have hl : ∀ z ∈ B.locs, kB (xK X) ≤ z.base := by
      rw [hB]
      intro z hz
      rcases List.mem_append.mp hz with g | g
      · exact P.2.1 z g
      · exact hL z g
    have k := kr v9 rfl B.U.heap B.locs ls ⟨hI, hl, hsz S', P.2.2.2⟩
    obtain ⟨t, a1, a2⟩ := k B.U rfl (stand_widen S' (by rw [hB]; exact hc) (by rw [hB]; exact hs))
    refine ⟨t, step t ?_, a2⟩
    rw [hv]
    cases v9 <;> exact a1
  · have hl : ∀ z ∈ B.locs, kB (xK X) ≤ z.base := by
      rw [hB]
      intro z hz
      rcases List.mem_append.mp hz with g | g
      · exact P.2.1 z g
      · exact hL z g
    obtain ⟨ce, c1, c2, c3⟩ := hX
    have k := kx x9 rfl B.U.heap B.locs ls (st.map gval) ce ⟨hI, hl, hsz S', P.2.2.2⟩ c1 c2 (vx_cls hW c3)
    obtain ⟨t, a1, a2⟩ := k B.U rfl (stand_widen S' (by rw [hB]; exact hc) (by rw [hB]; exact hs))
    subst hv
    exact ⟨t, step.trans a1, a2⟩
theorem r_callV (C : gCtx X) {st0 : List gV} {v : gV} (i : gInv X h lv pc len y av st0 st) (q : gCal X y ws d maxL) (hM : gMet (xK X) y ws d av h (.inl (some v)) h') (k : gW X h' (pc + len) lv (v :: st)) : gW X h pc lv st0 :=
  r_call C i q hM (fun w hw => by cases hw; exact k) (fun x hx => by cases hx)
theorem r_call0 (C : gCtx X) {st0 : List gV} (i : gInv X h lv pc len y av st0 st) (q : gCal X y ws d maxL) (hM : gMet (xK X) y ws d av h (.inl none) h') (k : gW X h' (pc + len) lv st) : gW X h pc lv st0 :=
  r_call C i q hM (fun w hw => by cases hw; exact k) (fun x hx => by cases hx)
theorem r_callX (C : gCtx X) {st0 : List gV} {x : Nat × Nat} (i : gInv X h lv pc len y av st0 st) (q : gCal X y ws d maxL) (hM : gMet (xK X) y ws d av h (.inr x) h') (k : gT X h' pc lv x) : gW X h pc lv st0 :=
  r_call C i q hM (fun w hw => by cases hw) (fun x hx => by cases hx; exact k)
/-! the kinds of invocation -/
def gSig (y : MethodName) (n : Nat) : Bool := decide (y.cls ≠ "java/lang/invoke/MethodHandle") && decide (y.cls ≠ "java/lang/invoke/VarHandle") && decide ((parseMethodDescriptor y.desc).map (fun d => d.parameters.length) = some n)
theorem gSig_ok {n : Nat} (h : gSig y n = true) : (y.cls ≠ "java/lang/invoke/MethodHandle" ∧ y.cls ≠ "java/lang/invoke/VarHandle") ∧ ∀ sig, parseMethodDescriptor y.desc = some sig → n = sig.parameters.length := by
  simp only [gSig, Bool.and_eq_true, decide_eq_true_eq] at h
  refine ⟨h.1, fun sig hs => ?_⟩
  have h2 := h.2
  rw [hs] at h2
  exact (Option.some.inj h2).symm
def gWt (st : List gV) : Nat := (st.map gcat).sum
theorem gWt_ok (st : List gV) : ((st.map gval).map fun v => v.category).sum = gWt st := by
  unfold gWt
  rw [List.map_map]
  congr 1
  exact List.map_congr_left fun v _ => gcat_ok v
theorem i_S (C : gCtx X) {own : String} {index n : Nat} {bytes : ByteArray} {ret : Option FieldType} {args : List gV} (hw : xw X = own) (hl : Cond.methodLink own index y ∈ lw_all) (hs : Cond.static y ∈ lw_all) (hi : Cond.initialized y.cls ∈ lw_all) (hc : Cond.code y bytes maxL ret ∈ lw_all) (hg : gSig y n = true) (hn : args.length = n) (hwt : Nat.ble (gWt st) 8 = true)
    (d : decode (xy X) pc = .ok (.invokestatic index, 3)) : gInv X h lv pc 3 y args (args.reverse ++ st) st := by
  intro H locs ls T cells slots Pre Post PostX P hT S hB hpre
  obtain ⟨g1, g2⟩ := gSig_ok hg
  exact vx_callS S C.hx (by rw [← hw]; exact C.hown) (C.hts _ hl) (C.hts _ hs) (C.hts _ hi) (C.hts _ hc) g1 hB (g := F0 (xm X) pc ls ((args.reverse ++ st).map gval)) rfl P.2.2.2.1 (argsL := args.map gval) (rest := st.map gval) (fun sig h => by rw [List.length_map, hn]; exact g2 sig h) (by show (args.reverse ++ st).map gval = _; rw [List.map_append, List.map_reverse]) (by show 2 * 0 + _ ≤ 8; rw [gWt_ok]; have := Nat.le_of_ble_eq_true hwt; omega) (by rw [C.hb]; exact d) hpre
theorem i_SN (C : gCtx X) {own host : String} {index n : Nat} {bytes : ByteArray} {ret : Option FieldType} {args : List gV} (hw : xw X = own) (hl : Cond.methodLinkNest own index y host ∈ gNl) (hs : Cond.static y ∈ lw_all) (hi : Cond.initialized y.cls ∈ lw_all) (hc : Cond.code y bytes maxL ret ∈ lw_all) (hg : gSig y n = true) (hn : args.length = n) (hwt : Nat.ble (gWt st) 8 = true)
    (d : decode (xy X) pc = .ok (.invokestatic index, 3)) : gInv X h lv pc 3 y args (args.reverse ++ st) st := by
  intro H locs ls T cells slots Pre Post PostX P hT S hB hpre
  obtain ⟨g1, g2⟩ := gSig_ok hg
  exact vx_callSN S C.hx (by rw [← hw]; exact C.hown) (va_Nw.use rfl (C.hKs.2.1 _ hl)) (C.hts _ hs) (C.hts _ hi) (C.hts _ hc) g1 hB (g := F0 (xm X) pc ls ((args.reverse ++ st).map gval)) rfl P.2.2.2.1 (argsL := args.map gval) (rest := st.map gval) (fun sig h => by rw [List.length_map, hn]; exact g2 sig h) (by show (args.reverse ++ st).map gval = _; rw [List.map_append, List.map_reverse]) (by show 2 * 0 + _ ≤ 8; rw [gWt_ok]; have := Nat.le_of_ble_eq_true hwt; omega) (by rw [C.hb]; exact d) hpre
theorem i_V (C : gCtx X) {own : String} {index n a : Nat} {bytes : ByteArray} {ret : Option FieldType} {args : List gV} {fs : List gV} {rc : vw_C} (ci : Nat) (hci : gcl[ci]? = some rc) (ha : h.1 a = some (.inr (ci, fs))) (hw : xw X = own) (hl : Cond.methodLink own index y ∈ lw_all) (hin : Cond.instanceMethod y ∈ lw_all) (hse : Cond.selects rc.1 y y ∈ lw_all) (hc : Cond.code y bytes maxL ret ∈ lw_all) (hg : gSig y n = true) (hn : args.length = n) (hwt : Nat.ble (gWt st) 8 = true)
    (d : decode (xy X) pc = .ok (.invokevirtual index, 3)) : gInv X h lv pc 3 y (gq (some a) :: args) (args.reverse ++ gq (some a) :: st) st := by
  intro H locs ls T cells slots Pre Post PostX P hT S hB hpre
  obtain ⟨g1, g2⟩ := gSig_ok hg
  obtain ⟨cell, r1, r2, r3⟩ := gRecv C P ha hci
  exact vx_callV S C.hx (by rw [← hw]; exact C.hown) (C.hts _ hl) (C.hts _ hin) (C.hts _ hse) (C.hts _ hc) g1 hB (by rw [hT]; exact r1) r2 r3 (g := F0 (xm X) pc ls ((args.reverse ++ gq (some a) :: st).map gval)) rfl P.2.2.2.1 (argsL := args.map gval) (rest := st.map gval) (fun sig h => by rw [List.length_map, hn]; exact g2 sig h) (by show (args.reverse ++ gq (some a) :: st).map gval = _; rw [List.map_append, List.map_reverse]; rfl) (by show 2 * 0 + _ ≤ 8; rw [gWt_ok]; have := Nat.le_of_ble_eq_true hwt; omega) (by rw [C.hb]; exact d) hpre
theorem i_VN (C : gCtx X) {own host : String} {index n a : Nat} {bytes : ByteArray} {ret : Option FieldType} {args : List gV} {fs : List gV} {rc : vw_C} (ci : Nat) (hci : gcl[ci]? = some rc) (ha : h.1 a = some (.inr (ci, fs))) (hw : xw X = own) (hl : Cond.methodLinkNest own index y host ∈ gNl) (hin : Cond.instanceMethod y ∈ lw_all) (hse : Cond.selects rc.1 y y ∈ lw_all) (hc : Cond.code y bytes maxL ret ∈ lw_all) (hg : gSig y n = true) (hn : args.length = n) (hwt : Nat.ble (gWt st) 8 = true)
    (d : decode (xy X) pc = .ok (.invokevirtual index, 3)) : gInv X h lv pc 3 y (gq (some a) :: args) (args.reverse ++ gq (some a) :: st) st := by
  intro H locs ls T cells slots Pre Post PostX P hT S hB hpre
  obtain ⟨g1, g2⟩ := gSig_ok hg
  obtain ⟨cell, r1, r2, r3⟩ := gRecv C P ha hci
  exact vx_callVN S C.hx (by rw [← hw]; exact C.hown) (va_Nw.use rfl (C.hKs.2.1 _ hl)) (C.hts _ hin) (C.hts _ hse) (C.hts _ hc) g1 hB (by rw [hT]; exact r1) r2 r3 (g := F0 (xm X) pc ls ((args.reverse ++ gq (some a) :: st).map gval)) rfl P.2.2.2.1 (argsL := args.map gval) (rest := st.map gval) (fun sig h => by rw [List.length_map, hn]; exact g2 sig h) (by show (args.reverse ++ gq (some a) :: st).map gval = _; rw [List.map_append, List.map_reverse]; rfl) (by show 2 * 0 + _ ≤ 8; rw [gWt_ok]; have := Nat.le_of_ble_eq_true hwt; omega) (by rw [C.hb]; exact d) hpre
theorem i_I (C : gCtx X) {own : String} {index n a : Nat} {bytes : ByteArray} {args : List gV} (hw : xw X = own) (hnm : y.name = "<init>") (hl : Cond.methodLink own index y ∈ lw_all) (hin : Cond.instanceMethod y ∈ lw_all) (hc : Cond.code y bytes maxL none ∈ lw_all) (hg : gSig y n = true) (hn : args.length = n) (hwt : Nat.ble (gWt st) 8 = true)
    (d : decode (xy X) pc = .ok (.invokespecial index, 3)) : gInv X h lv pc 3 y (gq (some a) :: args) (args.reverse ++ gq (some a) :: st) st := by
  intro H locs ls T cells slots Pre Post PostX P hT S hB hpre
  obtain ⟨g1, g2⟩ := gSig_ok hg
  exact vx_callI S C.hx (by rw [← hw]; exact C.hown) hnm (C.hts _ hl) (C.hts _ hin) (C.hts _ hc) g1 hB (g := F0 (xm X) pc ls ((args.reverse ++ gq (some a) :: st).map gval)) rfl P.2.2.2.1 (argsL := args.map gval) (rest := st.map gval) (fun sig h => by rw [List.length_map, hn]; exact g2 sig h) (by show (args.reverse ++ gq (some a) :: st).map gval = _; rw [List.map_append, List.map_reverse]; rfl) (by show 2 * 0 + _ ≤ 8; rw [gWt_ok]; have := Nat.le_of_ble_eq_true hwt; omega) (by rw [C.hb]; exact d) hpre
theorem i_IN (C : gCtx X) {own host : String} {index n a : Nat} {bytes : ByteArray} {args : List gV} (hw : xw X = own) (hnm : y.name = "<init>") (hl : Cond.methodLinkNest own index y host ∈ gNl) (hin : Cond.instanceMethod y ∈ lw_all) (hc : Cond.code y bytes maxL none ∈ lw_all) (hg : gSig y n = true) (hn : args.length = n) (hwt : Nat.ble (gWt st) 8 = true)
    (d : decode (xy X) pc = .ok (.invokespecial index, 3)) : gInv X h lv pc 3 y (gq (some a) :: args) (args.reverse ++ gq (some a) :: st) st := by
  intro H locs ls T cells slots Pre Post PostX P hT S hB hpre
  obtain ⟨g1, g2⟩ := gSig_ok hg
  exact vx_callIN S C.hx (by rw [← hw]; exact C.hown) hnm (va_Nw.use rfl (C.hKs.2.1 _ hl)) (C.hts _ hin) (C.hts _ hc) g1 hB (g := F0 (xm X) pc ls ((args.reverse ++ gq (some a) :: st).map gval)) rfl P.2.2.2.1 (argsL := args.map gval) (rest := st.map gval) (fun sig h => by rw [List.length_map, hn]; exact g2 sig h) (by show (args.reverse ++ gq (some a) :: st).map gval = _; rw [List.map_append, List.map_reverse]; rfl) (by show 2 * 0 + _ ≤ 8; rw [gWt_ok]; have := Nat.le_of_ble_eq_true hwt; omega) (by rw [C.hb]; exact d) hpre
/-- Object's own constructor -/
theorem r_objInit (C : gCtx X) {own : String} {index a : Nat} (hw : xw X = own) (hl : Cond.methodLink own index objectInit ∈ lw_all) (hin : Cond.instanceMethod objectInit ∈ lw_all) (hc : Cond.code objectInit ⟨#[0xb1]⟩ 1 none ∈ lw_all) (hwt : Nat.ble (gWt st) 8 = true) (hd : 1 ≤ xd X) (d : decode (xy X) pc = .ok (.invokespecial index, 3)) (k : gW X h (pc + 3) lv st) : gW X h pc lv (gq (some a) :: st) := by
  intro H locs ls P
  obtain ⟨f1, f2⟩ := C.hd
  have := Nat.le_of_ble_eq_true hwt
  refine W.objInit C.hx C.hb (by rw [← hw]; exact C.hown) (C.hts _ hl) (C.hts _ hin) (C.hts _ hc) rfl P.2.2.2.1 rfl d (by omega) (by show 2 * 0 + _ + 12 ≤ _; rw [gWt_ok]; omega) ?_
  exact k H locs ls P
end GC
