/-! G ROWS: System.arraycopy (after va_copyi, va_copyq of the kit), getClass of an Object[], small values handed back -/
set_option maxRecDepth 100000
section GCP
variable {X : gXT} {h h' : gHp} {pc : Nat} {lv : List (Nat × gV)} {st : List gV} {α : Type} {out : α}
/-- behind a copy -/
theorem gCpd {H : Heap} {T : State} {vm' : Vm} {locs L : List Loc} {ls : Array Slot} {a ti n : Nat} {x y : (Nat → Int32) ⊕ (Nat → Int64) ⊕ (Nat → UInt32) ⊕ (Nat → UInt64) ⊕ (Nat → Option Nat)} (P : gPt X h lv H locs ls) (hT : T.heap = H) (f2 : h.1 a = some (.inl (ti, n, x))) (hb : h.2.2.2.1 ≤ a) (hL : ∀ q ∈ L, q.base = a) :
    gPt X (gset h a (.inl (ti, n, y))) lv ((T.setVm vm').setCell a (vp_cell ((xK X).2.2.2.1 ti) (n, y))).heap (locs ++ L) ls := by
  have hheap : ((T.setVm vm').setCell a (vp_cell ((xK X).2.2.2.1 ti) (n, y))).heap = H.setIfInBounds a (vp_cell ((xK X).2.2.2.1 ti) (n, y)) := by rw [← hT]; rfl
  have hl : a < H.size := gat_lt (gStrb P.1 f2 hb)
  rw [hheap]
  exact gSto P f2 hb (by simp [Array.getElem?_setIfInBounds, hl]) (by simp) (fun q hq => by simp [Array.getElem?_setIfInBounds, Ne.symm hq]) hL
/-- a source of ints or bytes, old or new -/
theorem gSrc (C : gCtx X) {H : Heap} {locs : List Loc} {ls : Array Slot} {a ti n : Nat} {f : Nat → Int32} (P : gPt X h lv H locs ls) (f2 : h.1 a = some (.inl (ti, n, .inl f))) (hti : ti = 0 ∨ ti = 1) : ∃ scr : Cell, H[a]? = some scr ∧ (xs X).isArrayOf scr (gAT ti) ∧ scr.vm ≠ .unknown ∧ n ≤ scr.slots.size ∧ ∀ j : Nat, j < n → scr.slots[j]? = some (.int (f j)) := by
  rcases P.1.1 a _ f2 with hg | ⟨ho1, ho2⟩
  · refine ⟨_, hg.2, (C.hKs.1.2 ti _ (gAr C hg.1)).1 n (fun j => .int (f j)), (fun h => by cases h), ?_, fun j hj => ?_⟩
    · show n ≤ (arrV _ n (fun j => .int (f j))).slots.size
      rw [arrV_size]
      exact Nat.le_refl _
    · exact arrV_read _ _ hj
  · obtain ⟨f9, q1, ⟨q2, scr, g1, g2, g3, g4, g5⟩ | ⟨q2, cell, g1, g2, g3, g4, g5, g6, g7⟩⟩ := gOldA C ho2
    · cases q1
      cases q2
      exact ⟨scr, by rw [P.1.2.2.2.1 a ho1]; exact g1, g2, g3, Nat.le_of_eq g4.symm, g5⟩
    · cases q1
      cases q2
      exact ⟨cell, by rw [P.1.2.2.2.1 a ho1]; exact g1, g2, g3, g4, g6⟩
theorem r_cpi (C : gCtx X) {own : String} {index : Nat} {r q : Option Nat} {sp dp n : Int32} {kk : gHp → Option α} (ti : Nat) (hti : ti = 0 ∨ ti = 1) (hw : xw X = own) (hlink : Cond.methodLink own index arraycopyName ∈ lw_all) (hnat : Cond.native arraycopyName ∈ lw_all) (hstat : Cond.static arraycopyName ∈ lw_all) (hini : Cond.initialized "java/lang/System" ∈ lw_all) (hd : 1 ≤ xd X) (hwt : Nat.ble (gWt st) 8 = true)
    (d : decode (xy X) pc = .ok (.invokestatic index, 3)) (he : bd (gCpi h r sp q dp n ti) kk = some out) (kt : ∀ v, kk v = some out → gW X v (pc + 3) lv st) : gW X h pc lv (gi n :: gi dp :: gq q :: gi sp :: gq r :: st) := by
  obtain ⟨v, e1, e2⟩ := bd_some he
  unfold gCpi at e1
  split at e1
  · rename_i a0 n0 f hq0
    obtain ⟨f1, f2⟩ := gArr_some hq0
    split at e1
    · rename_i a n1 g hq1
      obtain ⟨f3, f4⟩ := gArr_some hq1
      split at e1
      · rename_i hc
        obtain ⟨⟨h1, h2, h3⟩, h4, h5, hb, hfit⟩ := hc
        have h1 := Int32.not_lt.mpr h1
        have h2 := Int32.not_lt.mpr h2
        have h3 := Int32.not_lt.mpr h3
        cases e1
        cases f1
        cases f3
        intro H locs ls P T hT S
        have hx := C.hx
        have hb9 := C.hb
        obtain ⟨hR1, hR2⟩ := C.hd
        obtain ⟨scr, hc0, ⟨hs6, k0, hk0, cm0, hkk0⟩, hs3, hs4, hs5⟩ := gSrc C P f2 hti
        have hc1 := (gStrb P.1 f4 hb).2
        have h7 : ti < 7 := by omega
        obtain ⟨-, k1, hk1, cm1, hkk1⟩ := (C.hKs.1.2 ti _ (gAr C h7)).1 n1 (fun j => .int (g j))
        have hprim : refKind (gAT ti) = false := by rcases hti with rfl | rfl <;> rfl
        have hfit9 : ∀ i, i < n.toNatClampNeg → fits (gAT ti) (.int (f (sp.toNatClampNeg + i))) = true := by
          intro i hi
          rcases hti with rfl | rfl
          · rfl
          · rcases hfit with hfit | hfit
            · cases hfit
            · exact gfit_b (List.all_eq_true.mp hfit i (List.mem_range.mpr hi))
        have hwt9 := Nat.le_of_ble_eq_true hwt
        have hnf : nativeFrameWords "java/lang/System" "arraycopy" 5 ≤ 40 := by decide
        obtain ⟨vm', X', step⟩ := S.arraycopy hx (by rw [← hw]; exact C.hown) (C.hts _ hlink) (C.hts _ hnat) (C.hts _ hstat) (C.hts _ hini) (src := a0) (dst := a) (cs := scr) (cd := vp_cell ((xK X).2.2.2.1 ti) (n1, .inl g)) (srcPos := sp) (destPos := dp) (n := n) (by rw [hT]; exact hc0) (by rw [hT]; exact hc1)
          hs6 (fun _ h => by cases h) hs3 (fun h => by cases h) hk0 hk1 hkk0 hkk1 (by simp [hprim]) h1 h2 h3
          (by rw [gnn h1, gnn h3]; omega)
          (by rw [gnn h2, gnn h3]; show ¬ _ > ((arrV _ n1 (fun j => .int (g j))).slots.size : Int); rw [arrV_size]; omega)
          (fun vm₁ _ i hi => by
            have e : scr.slots.getD (sp.toNatClampNeg + i) .null = .int (f (sp.toNatClampNeg + i)) := by
              rw [Array.getD_eq_getD_getElem?, hs5 _ (by omega)]
              rfl
            refine ⟨?_, ?_⟩
            · rw [e]
              exact hfit9 i hi
            · rw [e]
              exact trivial)
          (g := F0 (xm X) pc ls ((gi n :: gi dp :: gq (some a) :: gi sp :: gq (some a0) :: st).map gval)) rfl P.2.2.2.1 (rest := st.map gval) rfl (by rw [hb9]; exact d) (by omega) (by show 2 * 0 + _ + _ ≤ _; rw [gWt_ok]; omega)
        have e9 : copied scr (vp_cell ((xK X).2.2.2.1 ti) (n1, .inl g)) sp dp n = vp_cell ((xK X).2.2.2.1 ti) (n1, .inl (va_cpy f g sp.toNatClampNeg dp.toNatClampNeg n.toNatClampNeg)) := va_copiedX (fun z => .int z) scr _ f g hs5 h4
        rw [e9] at X' step
        obtain ⟨t, a1, b1⟩ := kt _ e2 _ _ ls (gCpd (vm' := vm') P hT f4 hb (fun q hq => by
          obtain ⟨z, -, hz⟩ := List.mem_map.mp hq
          rw [← hz])) _ rfl X'
        exact ⟨t, step t a1, b1⟩
      · cases e1
    · cases e1
  · cases e1
theorem r_cpq (C : gCtx X) {own : String} {index : Nat} {r q : Option Nat} {sp dp n : Int32} {kk : gHp → Option α} (hw : xw X = own) (hlink : Cond.methodLink own index arraycopyName ∈ lw_all) (hnat : Cond.native arraycopyName ∈ lw_all) (hstat : Cond.static arraycopyName ∈ lw_all) (hini : Cond.initialized "java/lang/System" ∈ lw_all) (hd : 1 ≤ xd X) (hwt : Nat.ble (gWt st) 8 = true)
    (hca : Cond.castable RX4 "java/lang/Object" ∈ gNl ∧ Cond.castable RX8 "java/lang/Object" ∈ gNl ∧ Cond.castable RX10 "java/lang/Object" ∈ gNl)
    (d : decode (xy X) pc = .ok (.invokestatic index, 3)) (he : bd (gCpq h r sp q dp n) kk = some out) (kt : ∀ v, kk v = some out → gW X v (pc + 3) lv st) : gW X h pc lv (gi n :: gi dp :: gq q :: gi sp :: gq r :: st) := by
  obtain ⟨v, e1, e2⟩ := bd_some he
  unfold gCpq at e1
  split at e1
  · rename_i a0 n0 f hq0
    obtain ⟨f1, f2⟩ := gArr_some hq0
    split at e1
    · rename_i a n1 g hq1
      obtain ⟨f3, f4⟩ := gArr_some hq1
      split at e1
      · rename_i hc
        obtain ⟨⟨h1, h2, h3⟩, h4, h5, hb, hfit⟩ := hc
        have h1 := Int32.not_lt.mpr h1
        have h2 := Int32.not_lt.mpr h2
        have h3 := Int32.not_lt.mpr h3
        cases e1
        cases f1
        cases f3
        intro H locs ls P T hT S
        have hx := C.hx
        have hb9 := C.hb
        obtain ⟨hR1, hR2⟩ := C.hd
        have hc0 := (gStr C P.1 f2 rfl).2
        have hc1 := (gStr C P.1 f4 rfl).2
        have h7 := (gStr C P.1 f2 rfl).1
        obtain ⟨-, k0, hk0, cm0, hkk0⟩ := (C.hKs.1.2 5 _ (gAr C h7)).1 n0 (fun j => va_rf (f j))
        obtain ⟨-, k1, hk1, cm1, hkk1⟩ := (C.hKs.1.2 5 _ (gAr C h7)).1 n1 (fun j => va_rf (g j))
        have hwt9 := Nat.le_of_ble_eq_true hwt
        have hnf : nativeFrameWords "java/lang/System" "arraycopy" 5 ≤ 40 := by decide
        obtain ⟨vm', X', step⟩ := S.arraycopy hx (by rw [← hw]; exact C.hown) (C.hts _ hlink) (C.hts _ hnat) (C.hts _ hstat) (C.hts _ hini) (src := a0) (dst := a) (cs := vp_cell ((xK X).2.2.2.1 5) (n0, .inr (.inr (.inr (.inr f))))) (cd := vp_cell ((xK X).2.2.2.1 5) (n1, .inr (.inr (.inr (.inr g))))) (srcPos := sp) (destPos := dp) (n := n) (by rw [hT]; exact hc0) (by rw [hT]; exact hc1)
          (fun _ h => by cases h) (fun _ h => by cases h) (fun h => by cases h) (fun h => by cases h) hk0 hk1 hkk0 hkk1 (by simp) h1 h2 h3
          (by rw [gnn h1, gnn h3]; show ¬ _ > ((arrV _ n0 (fun j => va_rf (f j))).slots.size : Int); rw [arrV_size]; omega)
          (by rw [gnn h2, gnn h3]; show ¬ _ > ((arrV _ n1 (fun j => va_rf (g j))).slots.size : Int); rw [arrV_size]; omega)
          (fun vm₁ hal i hi => by
            have e : (vp_cell ((xK X).2.2.2.1 5) (n0, .inr (.inr (.inr (.inr f))))).slots.getD (sp.toNatClampNeg + i) .null = va_rf (f (sp.toNatClampNeg + i)) := by
              show (arrV _ n0 (fun j => va_rf (f j))).slots.getD _ _ = _
              rw [Array.getD_eq_getD_getElem?, arrV_read _ _ (by omega)]
              rfl
            rw [e]
            have hf9 := List.all_eq_true.mp hfit i (List.mem_range.mpr hi)
            cases hy : f (sp.toNatClampNeg + i) with
            | none => exact ⟨rfl, trivial⟩
            | some y =>
              simp only [hy] at hf9
              split at hf9
              · rename_i o ho
                have hn9 : gNo (.inr o) = true := by
                  have hz := hf9
                  simp only [Bool.or_eq_true, decide_eq_true_eq] at hz
                  rcases hz with (h9 | h9) | h9 <;> simp [gNo, h9]
                obtain ⟨rv, hrv, cellV, g1, g2, g3, -⟩ := gStr C P.1 ho hn9
                obtain ⟨kA, comp, r1, r2, r3, -⟩ := (C.hKs.1.2 5 _ (gAr C h7)).2
                cases hk1.symm.trans r1
                cases hkk1.symm.trans r2
                have hcls := (C.hKs.1.1 o.1 rv hrv).2
                obtain ⟨kC, hkC, -⟩ := hcls.2
                obtain ⟨kE, hkE, -⟩ := Vm.findClass_spec r3
                obtain ⟨kC', hkC', -⟩ := hal.2.2 _ _ hkC
                obtain ⟨kE', hkE', -⟩ := hal.2.2 _ _ hkE
                have hca9 : Cond.castable rv.1 "java/lang/Object" ∈ gNl := by
                  simp only [Bool.or_eq_true, decide_eq_true_eq] at hf9
                  rcases hf9 with (h9 | h9) | h9
                  · rw [h9] at hrv; cases hrv; exact hca.1
                  · rw [h9] at hrv; cases hrv; exact hca.2.1
                  · rw [h9] at hrv; cases hrv; exact hca.2.2
                obtain ⟨c0, t1, u1, u2, u3⟩ := Cond.castable_spec (va_Nw.use (A := xa X) rfl (C.hKs.2.1 _ hca9))
                cases hcls.1.symm.trans u1
                cases r3.symm.trans u2
                refine ⟨rfl, cellV, (show T.heap[y]? = some cellV by rw [hT]; exact g1), (fun q h => by rw [h] at g3; cases g3), ⟨kC', by rw [g2]; exact hkC'⟩, ?_, ?_⟩
                · exact ⟨kE', hkE'⟩
                · show vm₁.assignable _ _ = true
                  rw [hal.assignable, g2]
                  exact u3
              · cases hf9)
          (g := F0 (xm X) pc ls ((gi n :: gi dp :: gq (some a) :: gi sp :: gq (some a0) :: st).map gval)) rfl P.2.2.2.1 (rest := st.map gval) rfl (by rw [hb9]; exact d) (by omega) (by show 2 * 0 + _ + _ ≤ _; rw [gWt_ok]; omega)
        have e9 : copied (vp_cell ((xK X).2.2.2.1 5) (n0, .inr (.inr (.inr (.inr f))))) (vp_cell ((xK X).2.2.2.1 5) (n1, .inr (.inr (.inr (.inr g))))) sp dp n = vp_cell ((xK X).2.2.2.1 5) (n1, .inr (.inr (.inr (.inr (va_cpy f g sp.toNatClampNeg dp.toNatClampNeg n.toNatClampNeg))))) := by
          rw [vp_cell_q, vp_cell_q, vp_cell_q]
          exact va_copied (fun z => va_rf z) _ _ f g h4
        rw [e9] at X' step
        obtain ⟨t, a1, b1⟩ := kt _ e2 _ _ ls (gCpd (vm' := vm') P hT f4 hb (fun q hq => by
          obtain ⟨z, -, hz⟩ := List.mem_map.mp hq
          rw [← hz])) _ rfl X'
        exact ⟨t, step t a1, b1⟩
      · cases e1
    · cases e1
  · cases e1
/-- getClass of an Object[] -/
theorem r_getC (C : gCtx X) {own : String} {index : Nat} {r : Option Nat} {kk : Nat × vp_A → Option α} (hw : xw X = own) (hlink : Cond.methodLink own index ⟨"java/lang/Object", "getClass", "()Ljava/lang/Class;"⟩ ∈ lw_all) (hsel : Cond.selects "[Ljava/lang/Object;" ⟨"java/lang/Object", "getClass", "()Ljava/lang/Class;"⟩ ⟨"java/lang/Object", "getClass", "()Ljava/lang/Class;"⟩ ∈ lw_all) (hinst : Cond.instanceMethod ⟨"java/lang/Object", "getClass", "()Ljava/lang/Class;"⟩ ∈ lw_all) (hnat : Cond.native ⟨"java/lang/Object", "getClass", "()Ljava/lang/Class;"⟩ ∈ lw_all) (hd : 1 ≤ xd X) (hwt : Nat.ble (gWt st) 8 = true)
    (d : decode (xy X) pc = .ok (.invokevirtual index, 3)) (he : bd (gArr h r 5) kk = some out) (kt : ∀ v, kk v = some out → gW X h (pc + 3) lv (gq (h.2.2.2.2 8) :: st)) : gW X h pc lv (gq r :: st) := by
  obtain ⟨v, e1, e2⟩ := bd_some he
  obtain ⟨f1, f2⟩ := gArr_some e1
  cases f1
  intro H locs ls P
  obtain ⟨mi, m1, m2⟩ := C.hKs.2.2.2.2.2.2.1
  have kt2 := kt v e2 H locs ls P
  rw [P.1.2.2.2.2.2.1, m1] at kt2
  obtain ⟨hR1, hR2⟩ := C.hd
  have hwt9 := Nat.le_of_ble_eq_true hwt
  have hc1 := gStr C P.1 f2 rfl
  have hRA := (C.hKs.1.2 5 _ (gAr C hc1.1)).2
  have hvm0 : (vp_cell ((xK X).2.2.2.1 5) v.2).vm.isStatics = false := by
    obtain ⟨-, n, f | f | f | f | f⟩ := v <;> rfl
  have hcl0 : (vp_cell ((xK X).2.2.2.1 5) v.2).cls = (xK X).2.2.2.1 5 := by
    obtain ⟨-, n, f | f | f | f | f⟩ := v <;> rfl
  exact va_getC C.hx C.hb P.2.2.2.1.symm (by rw [← hw]; exact C.hown) (C.hts _ hlink) (va_Dc.use C.hKs.2.2.2.2.2.2.2.1) (C.hts _ hsel) (C.hts _ hinst) (C.hts _ hnat) m2 ⟨_, hc1.2, hvm0, by rw [hcl0]; exact va_nmO hRA rfl⟩ (by omega) (by rw [gWt_ok]; omega) d kt2
/-- what a method of a small type hands back -/
def gRz (x : Int32) : Option Int32 := if gfz x = true then some x else none
def gRb (x : Int32) : Option Int32 := if gfb x = true then some x else none
def gRc (x : Int32) : Option Int32 := if (x.toUInt32 % 65536).toInt32 = x then some x else none
theorem gRz_n {x v : Int32} (h : gRz x = some v) : x = v ∧ narrow .boolean (.int x) = .int x := by
  unfold gRz at h
  split at h
  · rename_i q
    refine ⟨Option.some.inj h, ?_⟩
    simp only [gfz, Bool.or_eq_true, beq_iff_eq] at q
    rcases q with rfl | rfl <;> rfl
  · cases h
theorem gRb_n {x v : Int32} (h : gRb x = some v) : x = v ∧ narrow .byte (.int x) = .int x := by
  unfold gRb at h
  split at h
  · rename_i q
    refine ⟨Option.some.inj h, ?_⟩
    have h1 : x.toInt8.toInt32 = x := by simpa [gfb] using q
    rw [← h1]
    exact pk_nb x
  · cases h
theorem gRc_n {x v : Int32} (h : gRc x = some v) : x = v ∧ narrow .char (.int x) = .int x := by
  unfold gRc at h
  split at h
  · rename_i q
    refine ⟨Option.some.inj h, ?_⟩
    rw [← q]
    exact pk_nc x
  · cases h
/-- a store of a small int into a field -/
theorem gPz_n {r : Option Nat} {ci k : Nat} {x : Int32} (e : gPz h r ci k x = some h') : gPv h r ci k (gi x) = some h' ∧ narrow .boolean (gval (gi x)) = gval (gi x) ∧ fits .boolean (gval (gi x)) = true := by
  unfold gPz at e
  split at e
  · rename_i q
    refine ⟨e, ?_⟩
    simp only [gfz, Bool.or_eq_true, beq_iff_eq] at q
    rcases q with rfl | rfl <;> exact ⟨rfl, rfl⟩
  · cases e
theorem gPb_n {r : Option Nat} {ci k : Nat} {x : Int32} (e : gPb h r ci k x = some h') : gPv h r ci k (gi x) = some h' ∧ narrow .byte (gval (gi x)) = gval (gi x) ∧ fits .byte (gval (gi x)) = true := by
  unfold gPb at e
  split at e
  · rename_i q
    have h1 : x.toInt8.toInt32 = x := by simpa [gfb] using q
    refine ⟨e, ?_, ?_⟩
    · show narrow .byte (.int x) = .int x
      rw [← h1]
      exact pk_nb x
    · exact gfit_b q
  · cases e
end GCP
/-! loops: a body that goes on with new numbers or leaves -/
def lp {σ ε : Type} (B : σ → Option (σ ⊕ ε)) : Nat → σ → Option ε
  | 0, _ => none
  | n + 1, x => match B x with
    | none => none
    | some (.inl y) => lp B n y
    | some (.inr e) => some e
/-- a loop's walk: at its head for every state, out of the walk of its body -/
theorem lp_walk {σ ε : Type} {B : σ → Option (σ ⊕ ε)} {P : σ → Prop} {K : ε → Prop} (step : ∀ x z, B x = some z → (match z with
  | .inl y => P y
  | .inr e => K e) → P x) : ∀ (n : Nat) (x : σ) (e : ε), lp B n x = some e → K e → P x := by
  intro n
  induction n with
  | zero => intro x e h; cases h
  | succ n ih =>
    intro x e h hK
    unfold lp at h
    split at h
    · cases h
    · rename_i y hy
      exact step x _ hy (ih y e h hK)
    · rename_i e' he
      cases h
      exact step x _ he hK
