/-! G ROWS: arrays, new, constants, casts, arraycopy (printed by gen/arr.py) -/
set_option maxRecDepth 100000
def gLen (h : gHp) (r : Option Nat) : Option Int32 := match r with
  | none => none
  | some a => match h.1 a with
    | some (.inl x) => some (Int32.ofNat x.2.1)
    | _ => none
def gin (i : Int32) (n : Nat) : Bool := !(decide (i < 0)) && decide (i.toNatClampNeg < n)
theorem gin_vp {i : Int32} {n : Nat} (h : gin i n = true) : vp_in i n := by
  simp [gin] at h
  intro q
  rcases q with q | q
  · exact absurd q (Int32.not_lt.mpr h.1)
  · omega
def gAi (h : gHp) (r : Option Nat) (ti : Nat) (i : Int32) : Option Int32 := match gArr h r ti with
  | some (_, n, .inl f) => if gin i n = true then some (f i.toNatClampNeg) else none
  | _ => none
def gAl (h : gHp) (r : Option Nat) (i : Int32) : Option Int64 := match gArr h r 3 with
  | some (_, n, .inr (.inl f)) => if gin i n = true then some (f i.toNatClampNeg) else none
  | _ => none
def gAd (h : gHp) (r : Option Nat) (i : Int32) : Option UInt64 := match gArr h r 4 with
  | some (_, n, .inr (.inr (.inr (.inl f)))) => if gin i n = true then some (f i.toNatClampNeg) else none
  | _ => none
def gAq (h : gHp) (r : Option Nat) (ti : Nat) (i : Int32) : Option (Option Nat) := match gArr h r ti with
  | some (_, n, .inr (.inr (.inr (.inr f)))) => if gin i n = true then some (f i.toNatClampNeg) else none
  | _ => none
def gSi (h : gHp) (r : Option Nat) (ti : Nat) (i x : Int32) : Option gHp := match gArr h r ti with
  | some (a, n, .inl f) => if gin i n = true ∧ h.2.2.2.1 ≤ a then some (gset h a (.inl (ti, n, .inl (upd f i.toNatClampNeg x)))) else none
  | _ => none
def gSl' (h : gHp) (r : Option Nat) (i : Int32) (x : Int64) : Option gHp := match gArr h r 3 with
  | some (a, n, .inr (.inl f)) => if gin i n = true ∧ h.2.2.2.1 ≤ a then some (gset h a (.inl (3, n, .inr (.inl (vp_updL f i.toNatClampNeg x))))) else none
  | _ => none
def gSd (h : gHp) (r : Option Nat) (i : Int32) (x : UInt64) : Option gHp := match gArr h r 4 with
  | some (a, n, .inr (.inr (.inr (.inl f)))) => if gin i n = true ∧ h.2.2.2.1 ≤ a then some (gset h a (.inl (4, n, .inr (.inr (.inr (.inl (va_up f i.toNatClampNeg x))))))) else none
  | _ => none
/-- a known object into an array of references: of the numbered class -/
def gSq (h : gHp) (r : Option Nat) (ti : Nat) (i : Int32) (v : Option Nat) (ci : Nat) : Option gHp := match gArr h r ti with
  | some (a, n, .inr (.inr (.inr (.inr f)))) => match gObj h v ci with
    | some q => if gin i n = true ∧ h.2.2.2.1 ≤ a then some (gset h a (.inl (ti, n, .inr (.inr (.inr (.inr (va_up f i.toNatClampNeg (some q.1)))))))) else none
    | none => none
  | _ => none
/-- null into an array of references -/
def gSn (h : gHp) (r : Option Nat) (ti : Nat) (i : Int32) : Option gHp := match gArr h r ti with
  | some (a, n, .inr (.inr (.inr (.inr f)))) => if gin i n = true ∧ h.2.2.2.1 ≤ a then some (gset h a (.inl (ti, n, .inr (.inr (.inr (.inr (va_up f i.toNatClampNeg none))))))) else none
  | _ => none
def gA0 (ti : Nat) (n : Nat) : vp_A := match ti with
  | 3 => (n, .inr (.inl (fun _ => 0)))
  | 4 => (n, .inr (.inr (.inr (.inl (fun _ => 0)))))
  | 5 => (n, .inr (.inr (.inr (.inr (fun _ => none)))))
  | 6 => (n, .inr (.inr (.inr (.inr (fun _ => none)))))
  | _ => (n, .inl (fun _ => 0))
/-- room for a cell of n slots -/
def gFit (h : gHp) (n : Nat) : Bool := decide (h.2.1 < h.2.2.2.1 + gLC) && decide (h.2.2.1 + n ≤ gLS)
def gNewA (h : gHp) (ti : Nat) (n : Int32) : Option (Nat × gHp) := if 0 ≤ n ∧ gFit h n.toNatClampNeg = true then some (h.2.1, gpush h (.inl (ti, gA0 ti n.toNatClampNeg)) n.toNatClampNeg) else none
def gNewO (h : gHp) (ci : Nat) (fs : List gV) (n : Nat) : Option (Nat × gHp) := if gFit h n = true then some (h.2.1, gpush h (.inr (ci, fs)) n) else none
theorem gFit_of {K : gKT} {h : gHp} {H : Heap} {n : Nat} (hI : gI K h H) (e : gFit h n = true) : h.2.1 < kB K + gLC ∧ h.2.2.1 + n ≤ gLS := by
  simp [gFit] at e
  rw [hI.2.2.2.2.1] at e
  exact e

section GA
variable {X : gXT} {h : gHp} {pc : Nat} {lv : List (Nat × gV)} {st : List gV} {α : Type} {out : α}
theorem gAr (C : gCtx X) {k : Nat} (hk : k < 7) : (gtys (xK X))[k]? = some ((xK X).2.2.2.1 k, gAT k) := gtys_at _ hk
theorem gOldA (C : gCtx X) {a : Nat} {x : Nat × vp_A} (h2 : kOld (xK X) a = some (.inl x)) : ∃ f : Nat → Int32, x.2.2 = .inl f ∧ ((x.1 = 0 ∧ va_X a x.2.1 f (xs X) (kH (xK X))) ∨ (x.1 = 1 ∧ va_T .byte a x.2.1 (fun j => .int (f j)) (gAb (xK X)) (xs X) (kH (xK X)))) := by
  have h3 := C.hOl a _ h2
  unfold gOl at h3
  split at h3
  · rename_i n f e
    cases e
    exact ⟨f, rfl, Or.inl ⟨rfl, h3⟩⟩
  · rename_i n f e
    cases e
    exact ⟨f, rfl, Or.inr ⟨rfl, h3⟩⟩
  · rename_i w c e
    cases e
  · exact h3.elim
theorem r_alen (C : gCtx X) {r : Option Nat} {kk : Int32 → Option α} (d : decode (xy X) pc = .ok (.arraylength, 1)) (he : bd (gLen h r) kk = some out) (kt : ∀ v, kk v = some out → gW X h (pc + 1) lv (gi v :: st)) : gW X h pc lv (gq r :: st) := by
  obtain ⟨v, e1, e2⟩ := bd_some he
  unfold gLen at e1
  cases r with
  | none => cases e1
  | some a =>
    simp only at e1
    split at e1
    · rename_i x hx
      cases e1
      intro H locs ls P
      rcases P.1.1 a _ hx with hg | ⟨ho1, ho2⟩
      · obtain ⟨h1, h2⟩ := gP2 hg
        exact va_alen C.hx C.hb C.hKs.1 h2 0 x.1 rfl (gAr C h1) rfl d (kt _ e2 H locs ls P)
      · obtain ⟨f, q1, ⟨q2, scr, g1, g2, g3, g4, g5⟩ | ⟨q2, cell, g1, g2, g3, g4, g5, g6, g7⟩⟩ := gOldA C ho2
        · exact W.alen (n := Int32.ofNat x.2.1) C.hx C.hb (by rw [P.1.2.2.2.1 a ho1]; exact g1) g2 (by rw [g4]) rfl rfl d (kt _ e2 H locs ls P)
        · exact W.alen (n := Int32.ofNat x.2.1) C.hx C.hb (by rw [P.1.2.2.2.1 a ho1]; exact g1) g2 g5 rfl rfl d (kt _ e2 H locs ls P)
    · cases e1
/-- behind a store into an array -/
theorem gSto {H H1 : Heap} {locs locs1 : List Loc} {ls : Array Slot} {a ti : Nat} {n : Nat} {x y : (Nat → Int32) ⊕ (Nat → Int64) ⊕ (Nat → UInt32) ⊕ (Nat → UInt64) ⊕ (Nat → Option Nat)} (P : gPt X h lv H locs ls) (f2 : h.1 a = some (.inl (ti, n, x))) (hb : h.2.2.2.1 ≤ a) (e : H1[a]? = some (vp_cell ((xK X).2.2.2.1 ti) (n, y))) (z : H1.size = H.size) (oq : ∀ q, q ≠ a → H1[q]? = H[q]?) (hl : ∀ q ∈ locs1, q.base = a) : gPt X (gset h a (.inl (ti, n, y))) lv H1 (locs ++ locs1) ls := by
  have hb' : kB (xK X) ≤ a := by rw [← P.1.2.2.2.2.1]; exact hb
  have h1 := gStrb P.1 f2 hb
  refine ⟨gI_upd P.1 f2 ⟨h1.1, e⟩ z oq ?_ hb', ?_, by rw [z]; exact P.2.2.1, P.2.2.2⟩
  · intro c c' g1 g2
    rw [h1.2] at g1
    rw [e] at g2
    cases g1
    cases g2
    rcases x with x | x | x | x | x <;> rcases y with y | y | y | y | y <;> simp only [vp_cell, arrV_size]
  · intro w hw
    rcases List.mem_append.mp hw with g | g
    · exact P.2.1 w g
    · rw [hl w g]
      exact hb'

theorem r_iald (C : gCtx X) {r : Option Nat} {i : Int32} {kk : Int32 → Option α} (d : decode (xy X) pc = .ok (.iaload, 1)) (he : bd (gAi h r 0 i) kk = some out) (kt : ∀ v, kk v = some out → gW X h (pc + 1) lv (gi v :: st)) : gW X h pc lv (gi i :: gq r :: st) := by
  obtain ⟨v, e1, e2⟩ := bd_some he
  unfold gAi at e1
  split at e1
  · rename_i a n f hq
    obtain ⟨f1, f2⟩ := gArr_some hq
    split at e1
    · rename_i hin
      cases e1
      cases f1
      intro H locs ls P
      rcases P.1.1 a _ f2 with hg | ⟨ho1, ho2⟩
      · obtain ⟨h1, h2⟩ := gP2 hg
        exact va_iald C.hx C.hb C.hKs.1 h2 0 0 rfl (gAr C h1) (gin_vp hin) d (kt _ e2 H locs ls P)
      · obtain ⟨f9, q1, ⟨q2, scr, g1, g2, g3, g4, g5⟩ | ⟨q2, -⟩⟩ := gOldA C ho2
        · cases q1
          have g4 : scr.slots.size = n := g4
          exact W.iald (v := .int (f i.toNatClampNeg)) C.hx C.hb (by rw [P.1.2.2.2.1 a ho1]; exact g1) g2 g3 (by rw [g4]; exact gin_vp hin) (g5 _ (Nat.not_le.mp fun q => gin_vp hin (Or.inr q))) rfl rfl d (kt _ e2 H locs ls P)
        · cases q2
    · cases e1
  · cases e1
theorem r_bald (C : gCtx X) {r : Option Nat} {i : Int32} {kk : Int32 → Option α} (d : decode (xy X) pc = .ok (.baload, 1)) (he : bd (gAi h r 1 i) kk = some out) (kt : ∀ v, kk v = some out → gW X h (pc + 1) lv (gi v :: st)) : gW X h pc lv (gi i :: gq r :: st) := by
  obtain ⟨v, e1, e2⟩ := bd_some he
  unfold gAi at e1
  split at e1
  · rename_i a n f hq
    obtain ⟨f1, f2⟩ := gArr_some hq
    split at e1
    · rename_i hin
      cases e1
      cases f1
      intro H locs ls P
      rcases P.1.1 a _ f2 with hg | ⟨ho1, ho2⟩
      · obtain ⟨h1, h2⟩ := gP2 hg
        exact va_bald C.hx C.hb C.hKs.1 h2 0 1 rfl (gAr C h1) (gin_vp hin) d (kt _ e2 H locs ls P)
      · obtain ⟨f9, q1, ⟨q2, -⟩ | ⟨q2, cell, g1, g2, g3, g4, g5, g6, g7⟩⟩ := gOldA C ho2
        · cases q2
        · cases q1
          have hlt : i.toNatClampNeg < n := Nat.not_le.mp fun q => gin_vp hin (Or.inr q)
          have hin' : ¬ (i < 0 ∨ cell.slots.size ≤ i.toNatClampNeg) := by
            intro q
            rcases q with q | q
            · exact gin_vp hin (Or.inl q)
            · have g4' : n ≤ cell.slots.size := by omega
              omega
          exact W.bald (v := .int (f i.toNatClampNeg)) C.hx C.hb (by rw [P.1.2.2.2.1 a ho1]; exact g1) g2 g3 hin' (g6 _ hlt) rfl rfl d (kt _ e2 H locs ls P)
    · cases e1
  · cases e1
theorem r_zald (C : gCtx X) {r : Option Nat} {i : Int32} {kk : Int32 → Option α} (d : decode (xy X) pc = .ok (.baload, 1)) (he : bd (gAi h r 2 i) kk = some out) (kt : ∀ v, kk v = some out → gW X h (pc + 1) lv (gi v :: st)) : gW X h pc lv (gi i :: gq r :: st) := by
  obtain ⟨v, e1, e2⟩ := bd_some he
  unfold gAi at e1
  split at e1
  · rename_i a n f hq
    obtain ⟨f1, f2⟩ := gArr_some hq
    split at e1
    · rename_i hin
      cases e1
      cases f1
      intro H locs ls P
      obtain ⟨h1, h2⟩ := gP2 (gStr C P.1 f2 rfl)
      exact va_zald C.hx C.hb C.hKs.1 h2 0 2 rfl (gAr C h1) (gin_vp hin) d (kt _ e2 H locs ls P)
    · cases e1
  · cases e1
theorem r_lald (C : gCtx X) {r : Option Nat} {i : Int32} {kk : Int64 → Option α} (d : decode (xy X) pc = .ok (.laload, 1)) (he : bd (gAl h r i) kk = some out) (kt : ∀ v, kk v = some out → gW X h (pc + 1) lv (gl v :: st)) : gW X h pc lv (gi i :: gq r :: st) := by
  obtain ⟨v, e1, e2⟩ := bd_some he
  unfold gAl at e1
  split at e1
  · rename_i a n f hq
    obtain ⟨f1, f2⟩ := gArr_some hq
    split at e1
    · rename_i hin
      cases e1
      cases f1
      intro H locs ls P
      obtain ⟨h1, h2⟩ := gP2 (gStr C P.1 f2 rfl)
      exact va_lald C.hx C.hb C.hKs.1 h2 0 3 rfl (gAr C h1) (gin_vp hin) d (kt _ e2 H locs ls P)
    · cases e1
  · cases e1
theorem r_dald (C : gCtx X) {r : Option Nat} {i : Int32} {kk : UInt64 → Option α} (d : decode (xy X) pc = .ok (.daload, 1)) (he : bd (gAd h r i) kk = some out) (kt : ∀ v, kk v = some out → gW X h (pc + 1) lv (gd v :: st)) : gW X h pc lv (gi i :: gq r :: st) := by
  obtain ⟨v, e1, e2⟩ := bd_some he
  unfold gAd at e1
  split at e1
  · rename_i a n f hq
    obtain ⟨f1, f2⟩ := gArr_some hq
    split at e1
    · rename_i hin
      cases e1
      cases f1
      intro H locs ls P
      obtain ⟨h1, h2⟩ := gP2 (gStr C P.1 f2 rfl)
      exact va_dald C.hx C.hb C.hKs.1 h2 0 4 rfl (gAr C h1) (gin_vp hin) d (kt _ e2 H locs ls P)
    · cases e1
  · cases e1
theorem r_aald5 (C : gCtx X) {r : Option Nat} {i : Int32} {kk : Option Nat → Option α} (d : decode (xy X) pc = .ok (.aaload, 1)) (he : bd (gAq h r 5 i) kk = some out) (kt : ∀ v, kk v = some out → gW X h (pc + 1) lv (gq v :: st)) : gW X h pc lv (gi i :: gq r :: st) := by
  obtain ⟨v, e1, e2⟩ := bd_some he
  unfold gAq at e1
  split at e1
  · rename_i a n f hq
    obtain ⟨f1, f2⟩ := gArr_some hq
    split at e1
    · rename_i hin
      cases e1
      cases f1
      intro H locs ls P
      obtain ⟨h1, h2⟩ := gP2 (gStr C P.1 f2 rfl)
      exact va_aldq C.hx C.hb C.hKs.1 h2 0 5 rfl (gAr C h1) (gin_vp hin) d (kt _ e2 H locs ls P)
    · cases e1
  · cases e1
theorem r_aald6 (C : gCtx X) {r : Option Nat} {i : Int32} {kk : Option Nat → Option α} (d : decode (xy X) pc = .ok (.aaload, 1)) (he : bd (gAq h r 6 i) kk = some out) (kt : ∀ v, kk v = some out → gW X h (pc + 1) lv (gq v :: st)) : gW X h pc lv (gi i :: gq r :: st) := by
  obtain ⟨v, e1, e2⟩ := bd_some he
  unfold gAq at e1
  split at e1
  · rename_i a n f hq
    obtain ⟨f1, f2⟩ := gArr_some hq
    split at e1
    · rename_i hin
      cases e1
      cases f1
      intro H locs ls P
      obtain ⟨h1, h2⟩ := gP2 (gStr C P.1 f2 rfl)
      exact va_aldq C.hx C.hb C.hKs.1 h2 0 6 rfl (gAr C h1) (gin_vp hin) d (kt _ e2 H locs ls P)
    · cases e1
  · cases e1
theorem r_iast (C : gCtx X) {r : Option Nat} {i : Int32} {x : Int32} {kk : gHp → Option α} (d : decode (xy X) pc = .ok (.iastore, 1)) (he : bd (gSi h r 0 i x) kk = some out) (kt : ∀ h', kk h' = some out → gW X h' (pc + 1) lv st) : gW X h pc lv (gi x :: gi i :: gq r :: st) := by
  obtain ⟨v, e1, e2⟩ := bd_some he
  unfold gSi at e1
  split at e1
  · rename_i a n f hq
    obtain ⟨f1, f2⟩ := gArr_some hq
    split at e1
    · rename_i hin
      cases e1
      cases f1
      intro H locs ls P
      have h1 := gStrb P.1 f2 hin.2
      have hin1 := gin_vp hin.1
      refine W.iast C.hx C.hb h1.2 ((C.hKs.1.2 0 _ (gAr C h1.1)).1 n (fun j => .int (f j))) (fun q => by cases q) (by show ¬ (i < 0 ∨ (arrV _ _ _).slots.size ≤ _); rw [arrV_size]; exact hin1) rfl rfl d fun H1 e z oq => ?_
      refine kt _ e2 H1 _ ls (gSto P f2 hin.2 ?_ z oq (fun q hq => by rw [List.mem_singleton.mp hq]))
      show H1[a]? = some (vp_cell _ _)
      rw [e]
      rw [vp_cell_i, vp_cell_i, arrV_store]
      congr 2
      funext q
      by_cases hq : q = i.toNatClampNeg
      · subst hq
        simp [updV, upd]
        try rfl
      · simp [updV, upd, hq]
    · cases e1
  · cases e1
theorem r_bast (C : gCtx X) {r : Option Nat} {i : Int32} {x : Int32} {kk : gHp → Option α} (d : decode (xy X) pc = .ok (.bastore, 1)) (he : bd (gSi h r 1 i (vp_nar .byte x)) kk = some out) (kt : ∀ h', kk h' = some out → gW X h' (pc + 1) lv st) : gW X h pc lv (gi x :: gi i :: gq r :: st) := by
  obtain ⟨v, e1, e2⟩ := bd_some he
  unfold gSi at e1
  split at e1
  · rename_i a n f hq
    obtain ⟨f1, f2⟩ := gArr_some hq
    split at e1
    · rename_i hin
      cases e1
      cases f1
      intro H locs ls P
      have h1 := gStrb P.1 f2 hin.2
      have hin1 := gin_vp hin.1
      refine W.bast C.hx C.hb h1.2 ((C.hKs.1.2 1 _ (gAr C h1.1)).1 n (fun j => .int (f j))) (fun q => by cases q) (by show ¬ (i < 0 ∨ (arrV _ _ _).slots.size ≤ _); rw [arrV_size]; exact hin1) rfl rfl d fun H1 e z oq => ?_
      refine kt _ e2 H1 _ ls (gSto P f2 hin.2 ?_ z oq (fun q hq => by rw [List.mem_singleton.mp hq]))
      show H1[a]? = some (vp_cell _ _)
      rw [e]
      rw [vp_cell_i, vp_cell_i, arrV_store]
      congr 2
      funext q
      by_cases hq : q = i.toNatClampNeg
      · subst hq
        simp [updV, upd, vp_nar]
        try rfl
      · simp [updV, upd, vp_nar, hq]
    · cases e1
  · cases e1
theorem r_zast (C : gCtx X) {r : Option Nat} {i : Int32} {x : Int32} {kk : gHp → Option α} (d : decode (xy X) pc = .ok (.bastore, 1)) (he : bd (gSi h r 2 i (vp_nar .boolean x)) kk = some out) (kt : ∀ h', kk h' = some out → gW X h' (pc + 1) lv st) : gW X h pc lv (gi x :: gi i :: gq r :: st) := by
  obtain ⟨v, e1, e2⟩ := bd_some he
  unfold gSi at e1
  split at e1
  · rename_i a n f hq
    obtain ⟨f1, f2⟩ := gArr_some hq
    split at e1
    · rename_i hin
      cases e1
      cases f1
      intro H locs ls P
      have h1 := gStrb P.1 f2 hin.2
      have hin1 := gin_vp hin.1
      refine W.zast C.hx C.hb h1.2 ((C.hKs.1.2 2 _ (gAr C h1.1)).1 n (fun j => .int (f j))) (fun q => by cases q) (by show ¬ (i < 0 ∨ (arrV _ _ _).slots.size ≤ _); rw [arrV_size]; exact hin1) rfl rfl d fun H1 e z oq => ?_
      refine kt _ e2 H1 _ ls (gSto P f2 hin.2 ?_ z oq (fun q hq => by rw [List.mem_singleton.mp hq]))
      show H1[a]? = some (vp_cell _ _)
      rw [e]
      rw [vp_cell_i, vp_cell_i, arrV_store]
      congr 2
      funext q
      by_cases hq : q = i.toNatClampNeg
      · subst hq
        simp [updV, upd, vp_nar]
        try rfl
      · simp [updV, upd, vp_nar, hq]
    · cases e1
  · cases e1
theorem r_last (C : gCtx X) {r : Option Nat} {i : Int32} {x : Int64} {kk : gHp → Option α} (d : decode (xy X) pc = .ok (.lastore, 1)) (he : bd (gSl' h r i x) kk = some out) (kt : ∀ h', kk h' = some out → gW X h' (pc + 1) lv st) : gW X h pc lv (gl x :: gi i :: gq r :: st) := by
  obtain ⟨v, e1, e2⟩ := bd_some he
  unfold gSl' at e1
  split at e1
  · rename_i a n f hq
    obtain ⟨f1, f2⟩ := gArr_some hq
    split at e1
    · rename_i hin
      cases e1
      cases f1
      intro H locs ls P
      have h1 := gStrb P.1 f2 hin.2
      have hin1 := gin_vp hin.1
      refine W.last C.hx C.hb h1.2 ((C.hKs.1.2 3 _ (gAr C h1.1)).1 n (fun j => .long (f j))) (fun q => by cases q) (by show ¬ (i < 0 ∨ (arrV _ _ _).slots.size ≤ _); rw [arrV_size]; exact hin1) rfl rfl d fun H1 e z oq => ?_
      refine kt _ e2 H1 _ ls (gSto P f2 hin.2 ?_ z oq (fun q hq => by rw [List.mem_singleton.mp hq]))
      show H1[a]? = some (vp_cell _ _)
      rw [e]
      rw [vp_cell_l, vp_cell_l, arrV_store]
      congr 2
      funext q
      by_cases hq : q = i.toNatClampNeg
      · subst hq
        simp [updV, vp_updL]
        try rfl
      · simp [updV, vp_updL, hq]
    · cases e1
  · cases e1
theorem r_dast (C : gCtx X) {r : Option Nat} {i : Int32} {x : UInt64} {kk : gHp → Option α} (d : decode (xy X) pc = .ok (.dastore, 1)) (he : bd (gSd h r i x) kk = some out) (kt : ∀ h', kk h' = some out → gW X h' (pc + 1) lv st) : gW X h pc lv (gd x :: gi i :: gq r :: st) := by
  obtain ⟨v, e1, e2⟩ := bd_some he
  unfold gSd at e1
  split at e1
  · rename_i a n f hq
    obtain ⟨f1, f2⟩ := gArr_some hq
    split at e1
    · rename_i hin
      cases e1
      cases f1
      intro H locs ls P
      have h1 := gStrb P.1 f2 hin.2
      have hin1 := gin_vp hin.1
      refine W.dast C.hx C.hb h1.2 ((C.hKs.1.2 4 _ (gAr C h1.1)).1 n (fun j => .double (f j))) (fun q => by cases q) (by show ¬ (i < 0 ∨ (arrV _ _ _).slots.size ≤ _); rw [arrV_size]; exact hin1) rfl rfl d fun H1 e z oq => ?_
      refine kt _ e2 H1 _ ls (gSto P f2 hin.2 ?_ z oq (fun q hq => by rw [List.mem_singleton.mp hq]))
      show H1[a]? = some (vp_cell _ _)
      rw [e]
      rw [vp_cell_d, vp_cell_d, arrV_store]
      congr 2
      funext q
      by_cases hq : q = i.toNatClampNeg
      · subst hq
        simp [updV, va_up]
        try rfl
      · simp [updV, va_up, hq]
    · cases e1
  · cases e1
end GA
