/-! L2 HEAP: kinds of cells, what a step may change, room, and the primitives over known cells -/
set_option maxRecDepth 100000
def kd (o : Option gE) : Nat := match o with
  | some (.inr q) => q.1
  | some (.inl q) => 100 + q.1
  | none => 200
/-- room for c cells and slots together; nothing lies beyond the heap's end -/
def rm (h : gHp) (c : Nat) : Prop := h.2.2.2.1 ≤ h.2.1 ∧ h.2.1 + h.2.2.1 + c ≤ h.2.2.2.1 + gLC ∧ ∀ a, h.2.1 ≤ a → h.1 a = none
/-- a step: of the old cells those in X may change, and from B on those of the kinds ks; c cells and slots are new -/
def stk (X : Nat → Prop) (B : Nat) (ks : List Nat) (c : Nat) (h h' : gHp) : Prop :=
  h.2.1 ≤ h'.2.1 ∧ h'.2.1 + h'.2.2.1 ≤ h.2.1 + h.2.2.1 + c ∧ h'.2.2.2 = h.2.2.2 ∧ (∀ a, h'.2.1 ≤ a → h'.1 a = none) ∧ ∀ a, a < h.2.1 → ¬ X a → (a < B ∨ kd (h.1 a) ∉ ks) → h'.1 a = h.1 a
/-- nothing that was there changes -/
abbrev stn (c : Nat) (h h' : gHp) : Prop := stk (fun _ => False) 0 [] c h h'
theorem rm_lt {h : gHp} {c a : Nat} {e : gE} (hr : rm h c) (ha : h.1 a = some e) : a < h.2.1 := by
  by_cases hl : a < h.2.1
  · exact hl
  · rw [hr.2.2 a (by omega)] at ha
    cases ha
theorem rm_w {h : gHp} {c c' : Nat} (hr : rm h c) (hc : c' ≤ c) : rm h c' := ⟨hr.1, by have := hr.2.1; omega, hr.2.2⟩
theorem rm_st {X : Nat → Prop} {B : Nat} {ks : List Nat} {h h' : gHp} {c c' d : Nat} (hr : rm h c) (hs : stk X B ks d h h') (hc : d + c' ≤ c) : rm h' c' := by
  obtain ⟨r1, r2, r3⟩ := hr
  obtain ⟨s1, s2, s3, s4, s5⟩ := hs
  refine ⟨by rw [s3]; omega, by rw [s3]; omega, s4⟩
theorem stk_rfl {X : Nat → Prop} {B : Nat} {ks : List Nat} {h : gHp} {c : Nat} (hr : rm h c) : stk X B ks 0 h h := ⟨Nat.le_refl _, Nat.le_refl _, rfl, hr.2.2, fun _ _ _ _ => rfl⟩
theorem stk_tr {X X' : Nat → Prop} {B B' : Nat} {ks ks' : List Nat} {h h1 h2 : gHp} {c c' : Nat} (s1 : stk X B ks c h h1) (s2 : stk X' B' ks' c' h1 h2) (hw : ∀ a, a < h.2.1 → ¬ X a → (a < B ∨ kd (h.1 a) ∉ ks) → ¬ X' a ∧ (a < B' ∨ kd (h.1 a) ∉ ks')) : stk X B ks (c + c') h h2 := by
  obtain ⟨a1, a2, a3, a4, a5⟩ := s1
  obtain ⟨b1, b2, b3, b4, b5⟩ := s2
  refine ⟨Nat.le_trans a1 b1, by omega, b3.trans a3, b4, fun a ha hX hk => ?_⟩
  have h1 := hw a ha hX hk
  have h2 := a5 a ha hX hk
  exact (b5 a (by omega) h1.1 (by rw [h2]; exact h1.2)).trans h2
/-- one step behind another of the same kind -/
theorem stk_t {X : Nat → Prop} {B : Nat} {ks : List Nat} {h h1 h2 : gHp} {c c' : Nat} (s1 : stk X B ks c h h1) (s2 : stk X B ks c' h1 h2) : stk X B ks (c + c') h h2 := stk_tr s1 s2 (fun _ _ h1 h2 => ⟨h1, h2⟩)
theorem stk_w {X X' : Nat → Prop} {B B' : Nat} {ks ks' : List Nat} {h h' : gHp} {c c' : Nat} (s : stk X' B' ks' c' h h') (hc : c' ≤ c) (hw : ∀ a, a < h.2.1 → ¬ X a → (a < B ∨ kd (h.1 a) ∉ ks) → ¬ X' a ∧ (a < B' ∨ kd (h.1 a) ∉ ks')) : stk X B ks c h h' := by
  obtain ⟨a1, a2, a3, a4, a5⟩ := s
  exact ⟨a1, by omega, a3, a4, fun a ha hX hk => a5 a ha (hw a ha hX hk).1 (hw a ha hX hk).2⟩
theorem stn_w {X : Nat → Prop} {B : Nat} {ks : List Nat} {h h' : gHp} {c c' : Nat} (s : stn c' h h') (hc : c' ≤ c) : stk X B ks c h h' := stk_w s hc (fun _ _ _ _ => ⟨fun h => h, .inr (fun h => nomatch h)⟩)
theorem stk_c {X : Nat → Prop} {B : Nat} {ks : List Nat} {h h' : gHp} {c c' : Nat} (s : stk X B ks c' h h') (hc : c' ≤ c) : stk X B ks c h h' := stk_w s hc (fun _ _ h1 h2 => ⟨h1, h2⟩)
/-- only new cells change: from the heap's end on -/
theorem stk_new {X : Nat → Prop} {B B' : Nat} {ks ks' : List Nat} {h h' : gHp} {c : Nat} (s : stk (fun _ => False) B' ks' c h h') (hB : h.2.1 ≤ B') : stk X B ks c h h' := stk_w s (Nat.le_refl _) (fun a ha _ _ => ⟨fun h => h, .inl (by omega)⟩)
theorem stk_ks {X : Nat → Prop} {B : Nat} {ks ks' : List Nat} {h h' : gHp} {c c' : Nat} (s : stk (fun _ => False) B ks' c' h h') (hc : c' ≤ c) (hk : ∀ k ∈ ks', k ∈ ks) : stk X B ks c h h' := stk_w s hc (fun a _ _ h2 => ⟨fun h => h, h2.imp id (fun h h3 => h (hk _ h3))⟩)
theorem stk_keep {X : Nat → Prop} {B : Nat} {ks : List Nat} {h h' : gHp} {c c' a : Nat} {e : gE} (hr : rm h c') (s : stk X B ks c h h') (ha : h.1 a = some e) (hX : ¬ X a) (hk : a < B ∨ kd (some e) ∉ ks) : h'.1 a = some e := by
  rw [s.2.2.2.2 a (rm_lt hr ha) hX (by rw [ha]; exact hk), ha]
theorem stn_keep {h h' : gHp} {c c' a : Nat} {e : gE} (hr : rm h c') (s : stn c h h') (ha : h.1 a = some e) : h'.1 a = some e := stk_keep hr s ha (fun h => h) (.inr (fun h => nomatch h))
/-! new cells and changed cells -/
theorem push_at (h : gHp) (e : gE) (n : Nat) : (gpush h e n).1 h.2.1 = some e := if_pos rfl
theorem push_ne {h : gHp} {e : gE} {n a : Nat} (ha : a ≠ h.2.1) : (gpush h e n).1 a = h.1 a := if_neg ha
theorem push_1 (h : gHp) (e : gE) (n a : Nat) : (gpush h e n).1 a = if a = h.2.1 then some e else h.1 a := rfl
theorem push_2 (h : gHp) (e : gE) (n : Nat) : (gpush h e n).2 = (h.2.1 + 1, h.2.2.1 + n, h.2.2.2) := rfl
theorem push0_1 (h : gHp) (n a : Nat) : (gpush0 h n).1 a = if a = h.2.1 then none else h.1 a := rfl
theorem push0_2 (h : gHp) (n : Nat) : (gpush0 h n).2 = (h.2.1 + 1, h.2.2.1 + n, h.2.2.2) := rfl
theorem gset_1 (h : gHp) (a : Nat) (e : gE) (b : Nat) : (gset h a e).1 b = if b = a then some e else h.1 b := rfl
theorem gset_2 (h : gHp) (a : Nat) (e : gE) : (gset h a e).2 = h.2 := rfl
theorem set_at (h : gHp) (a : Nat) (e : gE) : (gset h a e).1 a = some e := if_pos rfl
theorem set_ne {h : gHp} {a b : Nat} {e : gE} (hb : b ≠ a) : (gset h a e).1 b = h.1 b := if_neg hb
theorem push_st {h : gHp} {e : gE} {n c : Nat} (hr : rm h c) : stn (n + 1) h (gpush h e n) := by
  refine ⟨Nat.le_succ _, ?_, rfl, fun a ha => ?_, fun a ha _ _ => push_ne (by omega)⟩
  · show h.2.1 + 1 + (h.2.2.1 + n) ≤ _
    omega
  · have ha : h.2.1 + 1 ≤ a := ha
    rw [push_ne (by omega)]
    exact hr.2.2 a (by omega)
theorem push0_st {h : gHp} {n c : Nat} (hr : rm h c) : stn (n + 1) h (gpush0 h n) := by
  refine ⟨Nat.le_succ _, ?_, rfl, fun a ha => ?_, fun a ha _ _ => if_neg (by omega)⟩
  · show h.2.1 + 1 + (h.2.2.1 + n) ≤ _
    omega
  · have ha : h.2.1 + 1 ≤ a := ha
    rw [push0_1, if_neg (by omega)]
    exact hr.2.2 a (by omega)
theorem set_st {X : Nat → Prop} {B : Nat} {ks : List Nat} {h : gHp} {c a : Nat} {e0 e : gE} (hr : rm h c) (ha : h.1 a = some e0) (hw : X a ∨ (B ≤ a ∧ kd (some e0) ∈ ks)) : stk X B ks 0 h (gset h a e) := by
  refine ⟨Nat.le_refl _, Nat.le_refl _, rfl, fun b hb => ?_, fun b hb hX hk => ?_⟩
  · have := rm_lt hr ha
    rw [set_ne (by show b ≠ a; have hb : h.2.1 ≤ b := hb; omega)]
    exact hr.2.2 b hb
  · refine set_ne (fun e1 => ?_)
    subst e1
    rcases hw with h1 | ⟨h1, h2⟩
    · exact hX h1
    · rw [ha] at hk
      rcases hk with h3 | h3
      · omega
      · exact h3 h2
theorem fit_ok {h : gHp} {c n : Nat} (hr : rm h c) (hc : n + 1 ≤ c) : gFit h n = true := by
  obtain ⟨r1, r2, -⟩ := hr
  unfold gFit
  rw [Bool.and_eq_true, decide_eq_true_iff, decide_eq_true_iff]
  unfold gLC at *
  unfold gLS
  omega
theorem nO_ok {h : gHp} {c n ci : Nat} {fs : List gV} (hr : rm h c) (hc : n + 1 ≤ c) : gNewO h ci fs n = some (h.2.1, gpush h (.inr (ci, fs)) n) := by
  unfold gNewO
  rw [if_pos (fit_ok hr hc)]
theorem nA_ok {h : gHp} {c n ti : Nat} (hr : rm h c) (hc : n + 1 ≤ c) (hn : n < 2 ^ 31) : gNewA h ti (nI n) = some (h.2.1, gpush h (.inl (ti, gA0 ti n)) n) := by
  unfold gNewA
  rw [zb_cl hn, if_pos ⟨nI_pos' hn, fit_ok hr hc⟩]
theorem gObj_o {h : gHp} {a ci : Nat} {fs : List gV} (hx : h.1 a = some (.inr (ci, fs))) : gObj h (some a) ci = some (a, fs) := by
  unfold gObj
  simp only [hx, if_true]
theorem gIs_o {h : gHp} {a ci : Nat} {fs : List gV} (hx : h.1 a = some (.inr (ci, fs))) : gIs h a ci = some () := by
  unfold gIs
  simp only [hx, if_true]
theorem gRcv_o {h : gHp} {a ci : Nat} {fs : List gV} (hx : h.1 a = some (.inr (ci, fs))) : gRcv h (some a) ci = some a := by
  unfold gRcv
  simp only [gIs_o hx]
theorem gGi_o {h : gHp} {a ci k : Nat} {fs : List gV} {x : Int32} (hx : h.1 a = some (.inr (ci, fs))) (hk : fs[k]? = some (gi x)) : gGi h (some a) ci k = some x := by
  unfold gGi
  rw [gObj_o hx]
  simp only [hk]
theorem gGq_o {h : gHp} {a ci k : Nat} {fs : List gV} {x : Option Nat} (hx : h.1 a = some (.inr (ci, fs))) (hk : fs[k]? = some (gq x)) : gGq h (some a) ci k = some x := by
  unfold gGq
  rw [gObj_o hx]
  simp only [hk]
theorem gPv_o {h : gHp} {a ci k : Nat} {fs : List gV} {v : gV} (hx : h.1 a = some (.inr (ci, fs))) (hb : h.2.2.2.1 ≤ a) (hk : k < fs.length) : gPv h (some a) ci k v = some (gset h a (.inr (ci, fs.set k v))) := by
  unfold gPv
  rw [gObj_o hx]
  simp only []
  rw [if_pos ⟨hb, hk⟩]
theorem gPi_o {h : gHp} {a ci k : Nat} {fs : List gV} {x : Int32} (hx : h.1 a = some (.inr (ci, fs))) (hb : h.2.2.2.1 ≤ a) (hk : k < fs.length) : gPi h (some a) ci k x = some (gset h a (.inr (ci, fs.set k (gi x)))) := gPv_o hx hb hk
theorem gPq_o {h : gHp} {a ci k : Nat} {fs : List gV} {x : Option Nat} (hx : h.1 a = some (.inr (ci, fs))) (hb : h.2.2.2.1 ≤ a) (hk : k < fs.length) : gPq h (some a) ci k x = some (gset h a (.inr (ci, fs.set k (gq x)))) := gPv_o hx hb hk
theorem gPb_o {h : gHp} {a ci k : Nat} {fs : List gV} {x : Int32} (hx : h.1 a = some (.inr (ci, fs))) (hb : h.2.2.2.1 ≤ a) (hk : k < fs.length) (hz : gfb x = true) : gPb h (some a) ci k x = some (gset h a (.inr (ci, fs.set k (gi x)))) := by
  unfold gPb
  rw [if_pos hz]
  exact gPv_o hx hb hk
theorem gCastL_o {h : gHp} {a ci : Nat} {fs : List gV} {cs : List Nat} (hx : h.1 a = some (.inr (ci, fs))) (hc : ci ∈ cs) : gCastL h (some a) cs = some () := by
  unfold gCastL
  simp only [hx, if_pos hc]
theorem gArr_o {h : gHp} {a ti : Nat} {v : vp_A} (hx : h.1 a = some (.inl (ti, v))) : gArr h (some a) ti = some (a, v) := by
  unfold gArr
  simp only [hx, if_true]
theorem gLen_o {h : gHp} {a ti : Nat} {v : vp_A} (hx : h.1 a = some (.inl (ti, v))) : gLen h (some a) = some (nI v.1) := by
  unfold gLen
  simp only [hx]
  rfl
theorem gAi_o {h : gHp} {a ti n i : Nat} {f : Nat → Int32} (hx : h.1 a = some (.inl (ti, n, .inl f))) (hi : i < n) (hn : n ≤ 1048576) : gAi h (some a) ti (nI i) = some (f i) := by
  unfold gAi
  rw [gArr_o hx]
  simp only []
  rw [if_pos (zb_gin hi (by omega)), zb_cl (by omega)]
theorem gAl_o {h : gHp} {a n i : Nat} {f : Nat → Int64} (hx : h.1 a = some (.inl (3, n, .inr (.inl f)))) (hi : i < n) (hn : n ≤ 1048576) : gAl h (some a) (nI i) = some (f i) := by
  unfold gAl
  rw [gArr_o hx]
  simp only []
  rw [if_pos (zb_gin hi (by omega)), zb_cl (by omega)]
theorem gAd_o {h : gHp} {a n i : Nat} {f : Nat → UInt64} (hx : h.1 a = some (.inl (4, n, .inr (.inr (.inr (.inl f)))))) (hi : i < n) (hn : n ≤ 1048576) : gAd h (some a) (nI i) = some (f i) := by
  unfold gAd
  rw [gArr_o hx]
  simp only []
  rw [if_pos (zb_gin hi (by omega)), zb_cl (by omega)]
theorem gAq_o {h : gHp} {a ti n i : Nat} {f : Nat → Option Nat} (hx : h.1 a = some (.inl (ti, n, .inr (.inr (.inr (.inr f)))))) (hi : i < n) (hn : n ≤ 1048576) : gAq h (some a) ti (nI i) = some (f i) := by
  unfold gAq
  rw [gArr_o hx]
  simp only []
  rw [if_pos (zb_gin hi (by omega)), zb_cl (by omega)]
theorem gSi_o {h : gHp} {a ti n i : Nat} {f : Nat → Int32} {x : Int32} (hx : h.1 a = some (.inl (ti, n, .inl f))) (hb : h.2.2.2.1 ≤ a) (hi : i < n) (hn : n ≤ 1048576) : gSi h (some a) ti (nI i) x = some (gset h a (.inl (ti, n, .inl (upd f i x)))) := by
  unfold gSi
  rw [gArr_o hx]
  simp only []
  rw [if_pos ⟨zb_gin hi (by omega), hb⟩, zb_cl (by omega)]
theorem gSl_o {h : gHp} {a n i : Nat} {f : Nat → Int64} {x : Int64} (hx : h.1 a = some (.inl (3, n, .inr (.inl f)))) (hb : h.2.2.2.1 ≤ a) (hi : i < n) (hn : n ≤ 1048576) : gSl' h (some a) (nI i) x = some (gset h a (.inl (3, n, .inr (.inl (vp_updL f i x))))) := by
  unfold gSl'
  rw [gArr_o hx]
  simp only []
  rw [if_pos ⟨zb_gin hi (by omega), hb⟩, zb_cl (by omega)]
theorem gSd_o {h : gHp} {a n i : Nat} {f : Nat → UInt64} {x : UInt64} (hx : h.1 a = some (.inl (4, n, .inr (.inr (.inr (.inl f)))))) (hb : h.2.2.2.1 ≤ a) (hi : i < n) (hn : n ≤ 1048576) : gSd h (some a) (nI i) x = some (gset h a (.inl (4, n, .inr (.inr (.inr (.inl (va_up f i x))))))) := by
  unfold gSd
  rw [gArr_o hx]
  simp only []
  rw [if_pos ⟨zb_gin hi (by omega), hb⟩, zb_cl (by omega)]
theorem gSn_o {h : gHp} {a ti n i : Nat} {f : Nat → Option Nat} (hx : h.1 a = some (.inl (ti, n, .inr (.inr (.inr (.inr f)))))) (hb : h.2.2.2.1 ≤ a) (hi : i < n) (hn : n ≤ 1048576) : gSn h (some a) ti (nI i) = some (gset h a (.inl (ti, n, .inr (.inr (.inr (.inr (va_up f i none))))))) := by
  unfold gSn
  rw [gArr_o hx]
  simp only []
  rw [if_pos ⟨zb_gin hi (by omega), hb⟩, zb_cl (by omega)]
theorem gSq_o {h : gHp} {a b ti n i ci : Nat} {fs : List gV} {f : Nat → Option Nat} (hx : h.1 a = some (.inl (ti, n, .inr (.inr (.inr (.inr f)))))) (hv : h.1 b = some (.inr (ci, fs))) (hb : h.2.2.2.1 ≤ a) (hi : i < n) (hn : n ≤ 1048576) : gSq h (some a) ti (nI i) (some b) ci = some (gset h a (.inl (ti, n, .inr (.inr (.inr (.inr (va_up f i (some b)))))))) := by
  unfold gSq
  rw [gArr_o hx, gObj_o hv]
  simp only []
  rw [if_pos ⟨zb_gin hi (by omega), hb⟩, zb_cl (by omega)]
theorem gSqL_o {h : gHp} {a b ti n i ci : Nat} {fs : List gV} {cs : List Nat} {f : Nat → Option Nat} (hx : h.1 a = some (.inl (ti, n, .inr (.inr (.inr (.inr f)))))) (hv : h.1 b = some (.inr (ci, fs))) (hc : ci ∈ cs) (hb : h.2.2.2.1 ≤ a) (hi : i < n) (hn : n ≤ 1048576) : gSqL h (some a) ti (nI i) (some b) cs = some (gset h a (.inl (ti, n, .inr (.inr (.inr (.inr (va_up f i (some b)))))))) := by
  unfold gSqL
  simp only [hv, if_pos hc]
  exact gSq_o hx hv hb hi hn
theorem gCpi_o {h : gHp} {a b n0 n1 sp dp n : Nat} {f g : Nat → Int32} (hf : h.1 a = some (.inl (0, n0, .inl f))) (hg : h.1 b = some (.inl (0, n1, .inl g))) (hb : h.2.2.2.1 ≤ b) (h1 : sp + n ≤ n0) (h2 : dp + n ≤ n1) (hn0 : n0 ≤ 1048576) (hn1 : n1 ≤ 1048576) : gCpi h (some a) (nI sp) (some b) (nI dp) (nI n) 0 = some (gset h b (.inl (0, n1, .inl (va_cpy f g sp dp n)))) := by
  unfold gCpi
  rw [gArr_o hf, gArr_o hg]
  simp only []
  rw [zb_cl (by omega), zb_cl (by omega), zb_cl (by omega), if_pos ⟨⟨nI_pos' (by omega), nI_pos' (by omega), nI_pos' (by omega)⟩, h1, h2, hb, .inl trivial⟩]
theorem gCpb_o {h : gHp} {a b n0 n1 sp dp n : Nat} {f g : Nat → Int32} (hf : h.1 a = some (.inl (1, n0, .inl f))) (hg : h.1 b = some (.inl (1, n1, .inl g))) (hb : h.2.2.2.1 ≤ b) (h1 : sp + n ≤ n0) (h2 : dp + n ≤ n1) (hn0 : n0 ≤ 1048576) (hn1 : n1 ≤ 1048576) (hy : ∀ i, i < n → gfb (f (sp + i)) = true) : gCpi h (some a) (nI sp) (some b) (nI dp) (nI n) 1 = some (gset h b (.inl (1, n1, .inl (va_cpy f g sp dp n)))) := by
  unfold gCpi
  rw [gArr_o hf, gArr_o hg]
  simp only []
  rw [zb_cl (by omega), zb_cl (by omega), zb_cl (by omega), if_pos ⟨⟨nI_pos' (by omega), nI_pos' (by omega), nI_pos' (by omega)⟩, h1, h2, hb, .inr (List.all_eq_true.mpr (fun i hi => hy i (List.mem_range.mp hi)))⟩]
theorem gCpq_o {h : gHp} {a b n0 n1 sp dp n : Nat} {f g : Nat → Option Nat} (hf : h.1 a = some (.inl (5, n0, .inr (.inr (.inr (.inr f)))))) (hg : h.1 b = some (.inl (5, n1, .inr (.inr (.inr (.inr g)))))) (hb : h.2.2.2.1 ≤ b) (h1 : sp + n ≤ n0) (h2 : dp + n ≤ n1) (hn0 : n0 ≤ 1048576) (hn1 : n1 ≤ 1048576) (hy : ∀ i, i < n → ∀ y, f (sp + i) = some y → ∃ ci fs, h.1 y = some (.inr (ci, fs)) ∧ (ci = 3 ∨ ci = 6 ∨ ci = 8)) : gCpq h (some a) (nI sp) (some b) (nI dp) (nI n) = some (gset h b (.inl (5, n1, .inr (.inr (.inr (.inr (va_cpy f g sp dp n))))))) := by
  have key : ∀ i, i < n → (match f (sp + i) with
      | none => true
      | some y => match h.1 y with
        | some (.inr o) => decide (o.1 = 3) || decide (o.1 = 6) || decide (o.1 = 8)
        | _ => false) = true := by
    intro i hi
    cases hfi : f (sp + i) with
    | none => rfl
    | some y =>
      obtain ⟨ci, fs, e1, e2⟩ := hy i hi y hfi
      simp only [e1]
      rcases e2 with rfl | rfl | rfl <;> rfl
  unfold gCpq
  rw [gArr_o hf, gArr_o hg]
  simp only []
  rw [zb_cl (by omega), zb_cl (by omega), zb_cl (by omega), if_pos ⟨⟨nI_pos' (by omega), nI_pos' (by omega), nI_pos' (by omega)⟩, h1, h2, hb, List.all_eq_true.mpr (fun i hi => key i (List.mem_range.mp hi))⟩]
theorem gCloneB_o {h : gHp} {a n c : Nat} {f : Nat → Int32} (hf : h.1 a = some (.inl (1, n, .inl f))) (hr : rm h c) (hc : n + 1 ≤ c) (hb : h.2.2.2.1 ≤ a) (hy : ∀ i, i < n → gfb (f i) = true) : gCloneB h (some a) = some (h.2.1, gpush h (.inl (1, n, .inl f)) n) := by
  unfold gCloneB
  rw [gArr_o hf]
  simp only []
  rw [if_pos ⟨fit_ok hr hc, List.all_eq_true.mpr (fun i hi => hy i (List.mem_range.mp hi)), hb⟩]
/-! pictures: strings, items, answers, rows, states -/
def strR (L : Nat → Prop) (h : gHp) (sa : Nat) (cs : List Nat) : Prop := ∃ v g rest, L sa ∧ L v ∧ h.1 sa = some (.inr (16, gq (some v) :: gi (nI 0) :: rest)) ∧ h.1 v = some (.inl (1, cs.length, .inl g)) ∧ cs.length ≤ 4000 ∧ ∀ i, i < cs.length → g i = nI (cs.getD i 0) ∧ cs.getD i 0 < 128
def itR (L : Nat → Prop) (h : gHp) (a : Nat) (p : List Nat × Nat) : Prop := L a ∧ ∃ sa, h.1 a = some (.inr (6, [gq (some sa), gi (nI p.2)])) ∧ strR L h sa p.1
def anR (L : Nat → Prop) (h : gHp) (a : Nat) (p : Nat × Nat) : Prop := L a ∧ h.1 a = some (.inr (8, [gi (nI p.1), gi (nI p.2)]))
def rowR (M : Nat → Prop) (h : gHp) (r l e n : Nat) (P : Nat → Nat → Prop) : Prop := ∃ cap mc f, M r ∧ M l ∧ M e ∧ h.1 r = some (.inr (4, [gq (some l)])) ∧ h.1 l = some (.inr (14, [gi mc, gq (some e), gi (nI n)])) ∧ h.1 e = some (.inl (5, cap, .inr (.inr (.inr (.inr f))))) ∧ n ≤ cap ∧ 0 < cap ∧ cap ≤ 90 ∧ ∀ i, i < n → ∃ a, f i = some a ∧ P i a
/-- items (name, worth), answers, method, given, taken -/
abbrev stT : Type := List (List Nat × Nat) × List (Nat × Nat) × Nat × Nat × Nat
def stR (M L : Nat → Prop) (h : gHp) (a : Nat) (st : stT) : Prop := M a ∧ ∃ ri li ei ra la ea, li ≠ la ∧ ei ≠ ea ∧ h.1 a = some (.inr (3, [gq (some ri), gq (some ra), gi (nI st.2.2.1), gi (nI st.2.2.2.1), gi (nI st.2.2.2.2)])) ∧
  rowR M h ri li ei st.1.length (fun i e => itR L h e (st.1.getD i ([], 0))) ∧ rowR M h ra la ea st.2.1.length (fun i e => anR L h e (st.2.1.getD i (0, 0)))
/-- cells of L that have some of the kinds stay -/
def kps (L : Nat → Prop) (ks : List Nat) (h h' : gHp) : Prop := ∀ a e, L a → h.1 a = some e → kd (some e) ∈ ks → h'.1 a = some e
theorem strR_k {L : Nat → Prop} {h h' : gHp} {sa : Nat} {cs : List Nat} (hp : strR L h sa cs) (hk : kps L [16, 101] h h') : strR L h' sa cs := by
  obtain ⟨v, g, rest, h1, h2, h3, h4, h5⟩ := hp
  exact ⟨v, g, rest, h1, h2, hk _ _ h1 h3 (by simp [kd]), hk _ _ h2 h4 (by simp [kd]), h5⟩
theorem itR_k {L : Nat → Prop} {h h' : gHp} {a : Nat} {p : List Nat × Nat} (hp : itR L h a p) (hk : kps L [6, 16, 101] h h') : itR L h' a p := by
  obtain ⟨h1, sa, h2, h3⟩ := hp
  exact ⟨h1, sa, hk _ _ h1 h2 (by simp [kd]), strR_k h3 (fun a e h4 h5 h6 => hk a e h4 h5 (List.mem_cons_of_mem _ h6))⟩
theorem anR_k {L : Nat → Prop} {h h' : gHp} {a : Nat} {p : Nat × Nat} (hp : anR L h a p) (hk : kps L [8] h h') : anR L h' a p := ⟨hp.1, hk _ _ hp.1 hp.2 (by simp [kd])⟩
theorem rowR_k {M : Nat → Prop} {h h' : gHp} {r l e n : Nat} {P P' : Nat → Nat → Prop} (hp : rowR M h r l e n P) (hk : kps M [4, 14, 105] h h') (hP : ∀ i a, i < n → P i a → P' i a) : rowR M h' r l e n P' := by
  obtain ⟨cap, mc, f, h1, h2, h3, h4, h5, h6, h7, h8, h9, h10⟩ := hp
  refine ⟨cap, mc, f, h1, h2, h3, hk _ _ h1 h4 (by simp [kd]), hk _ _ h2 h5 (by simp [kd]), hk _ _ h3 h6 (by simp [kd]), h7, h8, h9, fun i hi => ?_⟩
  obtain ⟨a, e1, e2⟩ := h10 i hi
  exact ⟨a, e1, hP i a hi e2⟩
/-- a row's cells, one by one -/
theorem rowR_c {M : Nat → Prop} {h h' : gHp} {r l e n : Nat} {P P' : Nat → Nat → Prop} (hp : rowR M h r l e n P) (hk : ∀ a x, (a = r ∨ a = l ∨ a = e) → h.1 a = some x → h'.1 a = some x) (hP : ∀ i a, i < n → P i a → P' i a) : rowR M h' r l e n P' := by
  obtain ⟨cap, mc, f, h1, h2, h3, h4, h5, h6, h7, h8, h9, h10⟩ := hp
  refine ⟨cap, mc, f, h1, h2, h3, hk _ _ (.inl rfl) h4, hk _ _ (.inr (.inl rfl)) h5, hk _ _ (.inr (.inr rfl)) h6, h7, h8, h9, fun i hi => ?_⟩
  obtain ⟨a, e1, e2⟩ := h10 i hi
  exact ⟨a, e1, hP i a hi e2⟩
theorem stR_k {M L : Nat → Prop} {h h' : gHp} {a : Nat} {st : stT} (hp : stR M L h a st) (hM : kps M [3, 4, 14, 105] h h') (hL : kps L [6, 8, 16, 101] h h') : stR M L h' a st := by
  obtain ⟨h1, ri, li, ei, ra, la, ea, n1, n2, h2, h3, h4⟩ := hp
  refine ⟨h1, ri, li, ei, ra, la, ea, n1, n2, hM _ _ h1 h2 (by simp [kd]), rowR_k h3 (fun a e h4 h5 h6 => hM a e h4 h5 (List.mem_cons_of_mem _ h6)) (fun i a _ hi => itR_k hi (fun a e h4 h5 h6 => hL a e h4 h5 ?_)), rowR_k h4 (fun a e h4 h5 h6 => hM a e h4 h5 (List.mem_cons_of_mem _ h6)) (fun i a _ hi => anR_k hi (fun a e h4 h5 h6 => hL a e h4 h5 ?_))⟩
  · simp only [List.mem_cons, List.not_mem_nil, or_false] at h6 ⊢
    omega
  · simp only [List.mem_cons, List.not_mem_nil, or_false] at h6 ⊢
    omega
theorem strR_m {L L' : Nat → Prop} {h : gHp} {sa : Nat} {cs : List Nat} (hp : strR L h sa cs) (hL : ∀ a e, L a → h.1 a = some e → L' a) : strR L' h sa cs := by
  obtain ⟨v, g, rest, h1, h2, h3, h4, h5⟩ := hp
  exact ⟨v, g, rest, hL _ _ h1 h3, hL _ _ h2 h4, h3, h4, h5⟩
theorem itR_m {L L' : Nat → Prop} {h : gHp} {a : Nat} {p : List Nat × Nat} (hp : itR L h a p) (hL : ∀ a e, L a → h.1 a = some e → L' a) : itR L' h a p := by
  obtain ⟨h1, sa, h2, h3⟩ := hp
  exact ⟨hL _ _ h1 h2, sa, h2, strR_m h3 hL⟩
theorem anR_m {L L' : Nat → Prop} {h : gHp} {a : Nat} {p : Nat × Nat} (hp : anR L h a p) (hL : ∀ a e, L a → h.1 a = some e → L' a) : anR L' h a p := ⟨hL _ _ hp.1 hp.2, hp.2⟩
theorem rowR_m {M M' : Nat → Prop} {h : gHp} {r l e n : Nat} {P P' : Nat → Nat → Prop} (hp : rowR M h r l e n P) (hM : ∀ a e, M a → h.1 a = some e → M' a) (hP : ∀ i a, i < n → P i a → P' i a) : rowR M' h r l e n P' := by
  obtain ⟨cap, mc, f, h1, h2, h3, h4, h5, h6, h7, h8, h9, h10⟩ := hp
  refine ⟨cap, mc, f, hM _ _ h1 h4, hM _ _ h2 h5, hM _ _ h3 h6, h4, h5, h6, h7, h8, h9, fun i hi => ?_⟩
  obtain ⟨a, e1, e2⟩ := h10 i hi
  exact ⟨a, e1, hP i a hi e2⟩
theorem stR_m {M M' L L' : Nat → Prop} {h : gHp} {a : Nat} {st : stT} (hp : stR M L h a st) (hM : ∀ a e, M a → h.1 a = some e → M' a) (hL : ∀ a e, L a → h.1 a = some e → L' a) : stR M' L' h a st := by
  obtain ⟨h1, ri, li, ei, ra, la, ea, n1, n2, h2, h3, h4⟩ := hp
  exact ⟨hM _ _ h1 h2, ri, li, ei, ra, la, ea, n1, n2, h2, rowR_m h3 hM (fun i a _ hi => itR_m hi hL), rowR_m h4 hM (fun i a _ hi => anR_m hi hL)⟩
/-- a step that leaves L's kinds alone -/
theorem kps_st {L X : Nat → Prop} {B : Nat} {ks ks' : List Nat} {h h' : gHp} {c c' : Nat} (hr : rm h c') (s : stk X B ks c h h') (hX : ∀ a, L a → ¬ X a) (hk : ∀ k ∈ ks', k ∉ ks) : kps L ks' h h' :=
  fun a _ hL ha hm => stk_keep hr s ha (hX a hL) (.inr (hk _ hm))
/-- a step that leaves alone what lies below B -/
theorem kps_lt {L X : Nat → Prop} {B : Nat} {ks ks' : List Nat} {h h' : gHp} {c c' : Nat} (hr : rm h c') (s : stk X B ks c h h') (hX : ∀ a, L a → ¬ X a) (hB : ∀ a, L a → a < B) : kps L ks' h h' :=
  fun a _ hL ha _ => stk_keep hr s ha (hX a hL) (.inl (hB a hL))
theorem kps_n {L : Nat → Prop} {ks' : List Nat} {h h' : gHp} {c c' : Nat} (hr : rm h c') (s : stn c h h') : kps L ks' h h' := fun _ _ _ ha _ => stn_keep hr s ha
