/-! L2 MODEL: the picture of the model's cells, and the primitives over it -/
set_option maxRecDepth 100000
/-- the model's ints by their fields, and its arrays by their fields -/
abbrev mSt : Type := (Nat → Int32) × (Nat → Nat → Int32)
def mfl (m : Nat) (F : Nat → Int32) : List gV := [gi (F 0), gi (F 1), gq (some (m + 1)), gq (some (m + 2)), gi (F 4), gq (some (m + 3)), gq (some (m + 4)), gq (some (m + 5)), gq (some (m + 6)), gq (some (m + 7)), gi (F 10), gi (F 11), gi (F 12), gi (F 13), gi (F 14), gi (F 15), gi (F 16), gq (some (m + 8)), gi (F 18), gi (F 19), gi (F 20), gi (F 21), gi (F 22), gi (F 23), gi (F 24), gi (F 25), gi (F 26), gi (F 27), gq (some (m + 9)), gq (some (m + 10)), gi (F 30)]
def mar (j : Nat) (A : Nat → Nat → Int32) : gE := match j with
  | 1 => .inl (0, 195, .inl (A 2))
  | 2 => .inl (0, 2145, .inl (A 3))
  | 3 => .inl (2, 2, .inl (A 5))
  | 4 => .inl (0, 10, .inl (A 6))
  | 5 => .inl (0, 1024, .inl (A 7))
  | 6 => .inl (0, 1024, .inl (A 8))
  | 7 => .inl (0, 400, .inl (A 9))
  | 8 => .inl (0, 500, .inl (A 17))
  | 9 => .inl (0, 10, .inl (A 28))
  | _ => .inl (0, 1000, .inl (A 29))
def mH (m : Nat) (h : gHp) (s : mSt) : gHp := (fun a => if a = m then some (.inr (1, mfl m s.1)) else if m < a ∧ a ≤ m + 10 then some (mar (a - m) s.2) else h.1 a, h.2)
def uF (s : mSt) (k : Nat) (v : Int32) : mSt := (fun j => if j = k then v else s.1 j, s.2)
def sA (s : mSt) (j : Nat) (f : Nat → Int32) : mSt := (s.1, fun i => if i = j then f else s.2 i)
theorem uF_1 (s : mSt) (k j : Nat) (v : Int32) : (uF s k v).1 j = if j = k then v else s.1 j := rfl
theorem uF_2 (s : mSt) (k : Nat) (v : Int32) : (uF s k v).2 = s.2 := rfl
theorem sA_1 (s : mSt) (j : Nat) (f : Nat → Int32) : (sA s j f).1 = s.1 := rfl
theorem sA_2 (s : mSt) (j i : Nat) (f : Nat → Int32) : (sA s j f).2 i = if i = j then f else s.2 i := rfl
theorem sA_sA (s : mSt) (j : Nat) (f g : Nat → Int32) : sA (sA s j f) j g = sA s j g := by
  refine Prod.ext rfl (funext fun i => ?_)
  simp only [sA_2]
  split <;> rfl
theorem sA_id (s : mSt) (j : Nat) : sA s j (s.2 j) = s := by
  refine Prod.ext rfl (funext fun i => ?_)
  simp only [sA_2]
  split
  · rename_i e; rw [e]
  · rfl
theorem mH_2 (m : Nat) (h : gHp) (s : mSt) : (mH m h s).2 = h.2 := rfl
theorem mH_at (m : Nat) (h : gHp) (s : mSt) : (mH m h s).1 m = some (.inr (1, mfl m s.1)) := if_pos rfl
theorem mH_ar (m : Nat) (h : gHp) (s : mSt) (j : Nat) (h1 : 0 < j) (h2 : j ≤ 10) : (mH m h s).1 (m + j) = some (mar j s.2) := by
  show (if m + j = m then _ else if m < m + j ∧ m + j ≤ m + 10 then some (mar (m + j - m) s.2) else _) = _
  rw [if_neg (by omega), if_pos (by omega), Nat.add_sub_cancel_left]
theorem mH_out {m a : Nat} {h : gHp} {s : mSt} (ha : a < m ∨ m + 10 < a) : (mH m h s).1 a = h.1 a := by
  show (if a = m then _ else if m < a ∧ a ≤ m + 10 then _ else _) = _
  rw [if_neg (by omega), if_neg (by omega)]
theorem mH_set {m : Nat} {h : gHp} {s s' : mSt} {e : gE} {j : Nat} (hj : j ≤ 10) (h0 : (mH m h s').1 (m + j) = some e) (hr : ∀ i, i ≤ 10 → i ≠ j → (mH m h s').1 (m + i) = (mH m h s).1 (m + i)) : gset (mH m h s) (m + j) e = mH m h s' := by
  refine Prod.ext (funext fun a => ?_) rfl
  show (if a = m + j then some e else (mH m h s).1 a) = _
  by_cases ha : a = m + j
  · rw [if_pos ha, ha, h0]
  · rw [if_neg ha]
    by_cases hi : a < m ∨ m + 10 < a
    · rw [mH_out hi, mH_out hi]
    · obtain ⟨i, rfl⟩ : ∃ i, a = m + i := ⟨a - m, by omega⟩
      exact (hr i (by omega) (by omega)).symm
theorem gIs_m (m : Nat) (h : gHp) (s : mSt) : gIs (mH m h s) m 1 = some () := by
  unfold gIs
  rw [mH_at]
  rfl
theorem gRcv_m (m : Nat) (h : gHp) (s : mSt) : gRcv (mH m h s) (some m) 1 = some m := by
  unfold gRcv
  simp only [gIs_m]
theorem gObj_m (m : Nat) (h : gHp) (s : mSt) : gObj (mH m h s) (some m) 1 = some (m, mfl m s.1) := by
  unfold gObj
  simp only [mH_at]
  rfl
theorem gGi_mk {m : Nat} {h : gHp} {s : mSt} {k : Nat} {x : Int32} (e : (mfl m s.1)[k]? = some (gi x)) : gGi (mH m h s) (some m) 1 k = some x := by
  unfold gGi
  rw [gObj_m]
  simp only [e]
theorem gGq_mk {m : Nat} {h : gHp} {s : mSt} {k : Nat} {x : Option Nat} (e : (mfl m s.1)[k]? = some (gq x)) : gGq (mH m h s) (some m) 1 k = some x := by
  unfold gGq
  rw [gObj_m]
  simp only [e]
theorem gPv_mk {m : Nat} {h : gHp} {s : mSt} {k : Nat} {x : Int32} (hb : h.2.2.2.1 ≤ m) (hk : k < 31) (e : (mfl m s.1).set k (gi x) = mfl m (uF s k x).1) : gPv (mH m h s) (some m) 1 k (gi x) = some (mH m h (uF s k x)) := by
  unfold gPv
  rw [gObj_m]
  show (if (mH m h s).2.2.2.1 ≤ m ∧ k < (mfl m s.1).length then some (gset (mH m h s) m (.inr (1, (mfl m s.1).set k (gi x)))) else none) = _
  rw [if_pos ⟨hb, hk⟩, e]
  refine congrArg some (mH_set (j := 0) (by omega) (mH_at m h _) (fun i hi h0 => ?_))
  rw [mH_ar _ _ _ i (by omega) hi, mH_ar _ _ _ i (by omega) hi]
  rfl
theorem gGi_m0 (m : Nat) (h : gHp) (s : mSt) : gGi (mH m h s) (some m) 1 0 = some (s.1 0) := gGi_mk rfl
theorem gGi_m1 (m : Nat) (h : gHp) (s : mSt) : gGi (mH m h s) (some m) 1 1 = some (s.1 1) := gGi_mk rfl
theorem gGi_m4 (m : Nat) (h : gHp) (s : mSt) : gGi (mH m h s) (some m) 1 4 = some (s.1 4) := gGi_mk rfl
theorem gGi_m10 (m : Nat) (h : gHp) (s : mSt) : gGi (mH m h s) (some m) 1 10 = some (s.1 10) := gGi_mk rfl
theorem gGi_m11 (m : Nat) (h : gHp) (s : mSt) : gGi (mH m h s) (some m) 1 11 = some (s.1 11) := gGi_mk rfl
theorem gGi_m12 (m : Nat) (h : gHp) (s : mSt) : gGi (mH m h s) (some m) 1 12 = some (s.1 12) := gGi_mk rfl
theorem gGi_m13 (m : Nat) (h : gHp) (s : mSt) : gGi (mH m h s) (some m) 1 13 = some (s.1 13) := gGi_mk rfl
theorem gGi_m14 (m : Nat) (h : gHp) (s : mSt) : gGi (mH m h s) (some m) 1 14 = some (s.1 14) := gGi_mk rfl
theorem gGi_m15 (m : Nat) (h : gHp) (s : mSt) : gGi (mH m h s) (some m) 1 15 = some (s.1 15) := gGi_mk rfl
theorem gGi_m16 (m : Nat) (h : gHp) (s : mSt) : gGi (mH m h s) (some m) 1 16 = some (s.1 16) := gGi_mk rfl
theorem gGi_m18 (m : Nat) (h : gHp) (s : mSt) : gGi (mH m h s) (some m) 1 18 = some (s.1 18) := gGi_mk rfl
theorem gGi_m19 (m : Nat) (h : gHp) (s : mSt) : gGi (mH m h s) (some m) 1 19 = some (s.1 19) := gGi_mk rfl
theorem gGi_m20 (m : Nat) (h : gHp) (s : mSt) : gGi (mH m h s) (some m) 1 20 = some (s.1 20) := gGi_mk rfl
theorem gGi_m21 (m : Nat) (h : gHp) (s : mSt) : gGi (mH m h s) (some m) 1 21 = some (s.1 21) := gGi_mk rfl
theorem gGi_m22 (m : Nat) (h : gHp) (s : mSt) : gGi (mH m h s) (some m) 1 22 = some (s.1 22) := gGi_mk rfl
theorem gGi_m23 (m : Nat) (h : gHp) (s : mSt) : gGi (mH m h s) (some m) 1 23 = some (s.1 23) := gGi_mk rfl
theorem gGi_m24 (m : Nat) (h : gHp) (s : mSt) : gGi (mH m h s) (some m) 1 24 = some (s.1 24) := gGi_mk rfl
theorem gGi_m25 (m : Nat) (h : gHp) (s : mSt) : gGi (mH m h s) (some m) 1 25 = some (s.1 25) := gGi_mk rfl
theorem gGi_m26 (m : Nat) (h : gHp) (s : mSt) : gGi (mH m h s) (some m) 1 26 = some (s.1 26) := gGi_mk rfl
theorem gGi_m27 (m : Nat) (h : gHp) (s : mSt) : gGi (mH m h s) (some m) 1 27 = some (s.1 27) := gGi_mk rfl
theorem gGi_m30 (m : Nat) (h : gHp) (s : mSt) : gGi (mH m h s) (some m) 1 30 = some (s.1 30) := gGi_mk rfl
theorem gPi_m0 {m : Nat} {h : gHp} (s : mSt) (x : Int32) (hb : h.2.2.2.1 ≤ m) : gPi (mH m h s) (some m) 1 0 x = some (mH m h (uF s 0 x)) := gPv_mk hb (by decide) rfl
theorem gPi_m1 {m : Nat} {h : gHp} (s : mSt) (x : Int32) (hb : h.2.2.2.1 ≤ m) : gPi (mH m h s) (some m) 1 1 x = some (mH m h (uF s 1 x)) := gPv_mk hb (by decide) rfl
theorem gPi_m4 {m : Nat} {h : gHp} (s : mSt) (x : Int32) (hb : h.2.2.2.1 ≤ m) : gPi (mH m h s) (some m) 1 4 x = some (mH m h (uF s 4 x)) := gPv_mk hb (by decide) rfl
theorem gPi_m10 {m : Nat} {h : gHp} (s : mSt) (x : Int32) (hb : h.2.2.2.1 ≤ m) : gPi (mH m h s) (some m) 1 10 x = some (mH m h (uF s 10 x)) := gPv_mk hb (by decide) rfl
theorem gPi_m11 {m : Nat} {h : gHp} (s : mSt) (x : Int32) (hb : h.2.2.2.1 ≤ m) : gPi (mH m h s) (some m) 1 11 x = some (mH m h (uF s 11 x)) := gPv_mk hb (by decide) rfl
theorem gPi_m12 {m : Nat} {h : gHp} (s : mSt) (x : Int32) (hb : h.2.2.2.1 ≤ m) : gPi (mH m h s) (some m) 1 12 x = some (mH m h (uF s 12 x)) := gPv_mk hb (by decide) rfl
theorem gPi_m13 {m : Nat} {h : gHp} (s : mSt) (x : Int32) (hb : h.2.2.2.1 ≤ m) : gPi (mH m h s) (some m) 1 13 x = some (mH m h (uF s 13 x)) := gPv_mk hb (by decide) rfl
theorem gPi_m14 {m : Nat} {h : gHp} (s : mSt) (x : Int32) (hb : h.2.2.2.1 ≤ m) : gPi (mH m h s) (some m) 1 14 x = some (mH m h (uF s 14 x)) := gPv_mk hb (by decide) rfl
theorem gPi_m15 {m : Nat} {h : gHp} (s : mSt) (x : Int32) (hb : h.2.2.2.1 ≤ m) : gPi (mH m h s) (some m) 1 15 x = some (mH m h (uF s 15 x)) := gPv_mk hb (by decide) rfl
theorem gPi_m16 {m : Nat} {h : gHp} (s : mSt) (x : Int32) (hb : h.2.2.2.1 ≤ m) : gPi (mH m h s) (some m) 1 16 x = some (mH m h (uF s 16 x)) := gPv_mk hb (by decide) rfl
theorem gPi_m18 {m : Nat} {h : gHp} (s : mSt) (x : Int32) (hb : h.2.2.2.1 ≤ m) : gPi (mH m h s) (some m) 1 18 x = some (mH m h (uF s 18 x)) := gPv_mk hb (by decide) rfl
theorem gPi_m19 {m : Nat} {h : gHp} (s : mSt) (x : Int32) (hb : h.2.2.2.1 ≤ m) : gPi (mH m h s) (some m) 1 19 x = some (mH m h (uF s 19 x)) := gPv_mk hb (by decide) rfl
theorem gPi_m20 {m : Nat} {h : gHp} (s : mSt) (x : Int32) (hb : h.2.2.2.1 ≤ m) : gPi (mH m h s) (some m) 1 20 x = some (mH m h (uF s 20 x)) := gPv_mk hb (by decide) rfl
theorem gPi_m21 {m : Nat} {h : gHp} (s : mSt) (x : Int32) (hb : h.2.2.2.1 ≤ m) : gPi (mH m h s) (some m) 1 21 x = some (mH m h (uF s 21 x)) := gPv_mk hb (by decide) rfl
theorem gPi_m22 {m : Nat} {h : gHp} (s : mSt) (x : Int32) (hb : h.2.2.2.1 ≤ m) : gPi (mH m h s) (some m) 1 22 x = some (mH m h (uF s 22 x)) := gPv_mk hb (by decide) rfl
theorem gPi_m23 {m : Nat} {h : gHp} (s : mSt) (x : Int32) (hb : h.2.2.2.1 ≤ m) : gPi (mH m h s) (some m) 1 23 x = some (mH m h (uF s 23 x)) := gPv_mk hb (by decide) rfl
theorem gPi_m24 {m : Nat} {h : gHp} (s : mSt) (x : Int32) (hb : h.2.2.2.1 ≤ m) : gPi (mH m h s) (some m) 1 24 x = some (mH m h (uF s 24 x)) := gPv_mk hb (by decide) rfl
theorem gPi_m25 {m : Nat} {h : gHp} (s : mSt) (x : Int32) (hb : h.2.2.2.1 ≤ m) : gPi (mH m h s) (some m) 1 25 x = some (mH m h (uF s 25 x)) := gPv_mk hb (by decide) rfl
theorem gPi_m26 {m : Nat} {h : gHp} (s : mSt) (x : Int32) (hb : h.2.2.2.1 ≤ m) : gPi (mH m h s) (some m) 1 26 x = some (mH m h (uF s 26 x)) := gPv_mk hb (by decide) rfl
theorem gPi_m27 {m : Nat} {h : gHp} (s : mSt) (x : Int32) (hb : h.2.2.2.1 ≤ m) : gPi (mH m h s) (some m) 1 27 x = some (mH m h (uF s 27 x)) := gPv_mk hb (by decide) rfl
theorem gPi_m30 {m : Nat} {h : gHp} (s : mSt) (x : Int32) (hb : h.2.2.2.1 ≤ m) : gPi (mH m h s) (some m) 1 30 x = some (mH m h (uF s 30 x)) := gPv_mk hb (by decide) rfl
theorem gPz_m1 {m : Nat} {h : gHp} (s : mSt) (x : Int32) (hz : gfz x = true) (hb : h.2.2.2.1 ≤ m) : gPz (mH m h s) (some m) 1 1 x = some (mH m h (uF s 1 x)) := by
  unfold gPz
  rw [if_pos hz]
  exact gPv_mk hb (by decide) rfl
theorem gPz_m10 {m : Nat} {h : gHp} (s : mSt) (x : Int32) (hz : gfz x = true) (hb : h.2.2.2.1 ≤ m) : gPz (mH m h s) (some m) 1 10 x = some (mH m h (uF s 10 x)) := by
  unfold gPz
  rw [if_pos hz]
  exact gPv_mk hb (by decide) rfl
theorem gPz_m11 {m : Nat} {h : gHp} (s : mSt) (x : Int32) (hz : gfz x = true) (hb : h.2.2.2.1 ≤ m) : gPz (mH m h s) (some m) 1 11 x = some (mH m h (uF s 11 x)) := by
  unfold gPz
  rw [if_pos hz]
  exact gPv_mk hb (by decide) rfl
theorem gGq_m2 (m : Nat) (h : gHp) (s : mSt) : gGq (mH m h s) (some m) 1 2 = some (some (m + 1)) := gGq_mk rfl
theorem gGq_m3 (m : Nat) (h : gHp) (s : mSt) : gGq (mH m h s) (some m) 1 3 = some (some (m + 2)) := gGq_mk rfl
theorem gGq_m5 (m : Nat) (h : gHp) (s : mSt) : gGq (mH m h s) (some m) 1 5 = some (some (m + 3)) := gGq_mk rfl
theorem gGq_m6 (m : Nat) (h : gHp) (s : mSt) : gGq (mH m h s) (some m) 1 6 = some (some (m + 4)) := gGq_mk rfl
theorem gGq_m7 (m : Nat) (h : gHp) (s : mSt) : gGq (mH m h s) (some m) 1 7 = some (some (m + 5)) := gGq_mk rfl
theorem gGq_m8 (m : Nat) (h : gHp) (s : mSt) : gGq (mH m h s) (some m) 1 8 = some (some (m + 6)) := gGq_mk rfl
theorem gGq_m9 (m : Nat) (h : gHp) (s : mSt) : gGq (mH m h s) (some m) 1 9 = some (some (m + 7)) := gGq_mk rfl
theorem gGq_m17 (m : Nat) (h : gHp) (s : mSt) : gGq (mH m h s) (some m) 1 17 = some (some (m + 8)) := gGq_mk rfl
theorem gGq_m28 (m : Nat) (h : gHp) (s : mSt) : gGq (mH m h s) (some m) 1 28 = some (some (m + 9)) := gGq_mk rfl
theorem gGq_m29 (m : Nat) (h : gHp) (s : mSt) : gGq (mH m h s) (some m) 1 29 = some (some (m + 10)) := gGq_mk rfl
theorem gArr_mk {m : Nat} {h : gHp} {s : mSt} {j ti n : Nat} {f : Nat → Int32} (h1 : 0 < j) (h2 : j ≤ 10) (e : mar j s.2 = .inl (ti, n, .inl f)) : gArr (mH m h s) (some (m + j)) ti = some (m + j, n, .inl f) := by
  unfold gArr
  simp only [mH_ar m h s j h1 h2, e]
  rfl
theorem gLen_mk {m : Nat} {h : gHp} {s : mSt} {j ti n : Nat} {f : Nat → Int32} (h1 : 0 < j) (h2 : j ≤ 10) (e : mar j s.2 = .inl (ti, n, .inl f)) : gLen (mH m h s) (some (m + j)) = some (nI n) := by
  unfold gLen
  simp only [mH_ar m h s j h1 h2, e]
  rfl
theorem gAi_mk {m : Nat} {h : gHp} {s : mSt} {j ti n : Nat} {f : Nat → Int32} {i : Nat} (h1 : 0 < j) (h2 : j ≤ 10) (e : mar j s.2 = .inl (ti, n, .inl f)) (hi : i < n) (hn : n ≤ 4096) : gAi (mH m h s) (some (m + j)) ti (nI i) = some (f i) := by
  unfold gAi
  rw [gArr_mk h1 h2 e]
  simp only []
  rw [if_pos (zb_gin hi (by omega)), zb_cl (by omega)]
theorem gSi_mk {m : Nat} {h : gHp} {s : mSt} {j ti n q : Nat} {f : Nat → Int32} {i : Nat} {x : Int32} (hb : h.2.2.2.1 ≤ m) (h1 : 0 < j) (h2 : j ≤ 10) (e : mar j s.2 = .inl (ti, n, .inl f)) (hi : i < n) (hn : n ≤ 4096) (e2 : mar j (sA s q (upd f i x)).2 = .inl (ti, n, .inl (upd f i x))) (hr : ∀ k, 0 < k → k ≤ 10 → k ≠ j → mar k (sA s q (upd f i x)).2 = mar k s.2) : gSi (mH m h s) (some (m + j)) ti (nI i) x = some (mH m h (sA s q (upd f i x))) := by
  unfold gSi
  rw [gArr_mk h1 h2 e]
  show (if gin (nI i) n = true ∧ (mH m h s).2.2.2.1 ≤ m + j then some (gset (mH m h s) (m + j) (.inl (ti, n, .inl (upd f (nI i).toNatClampNeg x)))) else none) = _
  rw [if_pos ⟨zb_gin hi (by omega), by rw [mH_2]; omega⟩, zb_cl (by omega)]
  refine congrArg some (mH_set h2 (by rw [mH_ar _ _ _ j h1 h2, e2]) (fun k hk hkj => ?_))
  by_cases h0 : k = 0
  · subst h0
    rw [Nat.add_zero, mH_at, mH_at]
    rfl
  · rw [mH_ar _ _ _ k (by omega) hk, mH_ar _ _ _ k (by omega) hk, hr k (by omega) hk hkj]
theorem gAi_m2 {m : Nat} {h : gHp} (s : mSt) {i : Nat} (hi : i < 195) : gAi (mH m h s) (some (m + 1)) 0 (nI i) = some (s.2 2 i) := gAi_mk (by decide) (by decide) rfl hi (by decide)
theorem mar_q2 (s : mSt) (f : Nat → Int32) (k : Nat) (h0 : 0 < k) (h1 : k ≤ 10) (h2 : k ≠ 1) : mar k (sA s 2 f).2 = mar k s.2 := by
  rcases (show k = 1 ∨ k = 2 ∨ k = 3 ∨ k = 4 ∨ k = 5 ∨ k = 6 ∨ k = 7 ∨ k = 8 ∨ k = 9 ∨ k = 10 by omega) with rfl | rfl | rfl | rfl | rfl | rfl | rfl | rfl | rfl | rfl <;> first | rfl | exact absurd rfl h2
theorem gSi_m2 {m : Nat} {h : gHp} (s : mSt) {i : Nat} (x : Int32) (hi : i < 195) (hb : h.2.2.2.1 ≤ m) : gSi (mH m h s) (some (m + 1)) 0 (nI i) x = some (mH m h (sA s 2 (upd (s.2 2) i x))) := gSi_mk hb (by decide) (by decide) rfl hi (by decide) rfl (fun k h0 h1 h2 => mar_q2 s _ k h0 h1 h2)
theorem gAi_m3 {m : Nat} {h : gHp} (s : mSt) {i : Nat} (hi : i < 2145) : gAi (mH m h s) (some (m + 2)) 0 (nI i) = some (s.2 3 i) := gAi_mk (by decide) (by decide) rfl hi (by decide)
theorem mar_q3 (s : mSt) (f : Nat → Int32) (k : Nat) (h0 : 0 < k) (h1 : k ≤ 10) (h2 : k ≠ 2) : mar k (sA s 3 f).2 = mar k s.2 := by
  rcases (show k = 1 ∨ k = 2 ∨ k = 3 ∨ k = 4 ∨ k = 5 ∨ k = 6 ∨ k = 7 ∨ k = 8 ∨ k = 9 ∨ k = 10 by omega) with rfl | rfl | rfl | rfl | rfl | rfl | rfl | rfl | rfl | rfl <;> first | rfl | exact absurd rfl h2
theorem gSi_m3 {m : Nat} {h : gHp} (s : mSt) {i : Nat} (x : Int32) (hi : i < 2145) (hb : h.2.2.2.1 ≤ m) : gSi (mH m h s) (some (m + 2)) 0 (nI i) x = some (mH m h (sA s 3 (upd (s.2 3) i x))) := gSi_mk hb (by decide) (by decide) rfl hi (by decide) rfl (fun k h0 h1 h2 => mar_q3 s _ k h0 h1 h2)
theorem gAi_m5 {m : Nat} {h : gHp} (s : mSt) {i : Nat} (hi : i < 2) : gAi (mH m h s) (some (m + 3)) 2 (nI i) = some (s.2 5 i) := gAi_mk (by decide) (by decide) rfl hi (by decide)
theorem mar_q5 (s : mSt) (f : Nat → Int32) (k : Nat) (h0 : 0 < k) (h1 : k ≤ 10) (h2 : k ≠ 3) : mar k (sA s 5 f).2 = mar k s.2 := by
  rcases (show k = 1 ∨ k = 2 ∨ k = 3 ∨ k = 4 ∨ k = 5 ∨ k = 6 ∨ k = 7 ∨ k = 8 ∨ k = 9 ∨ k = 10 by omega) with rfl | rfl | rfl | rfl | rfl | rfl | rfl | rfl | rfl | rfl <;> first | rfl | exact absurd rfl h2
theorem gSi_m5 {m : Nat} {h : gHp} (s : mSt) {i : Nat} (x : Int32) (hi : i < 2) (hb : h.2.2.2.1 ≤ m) : gSi (mH m h s) (some (m + 3)) 2 (nI i) x = some (mH m h (sA s 5 (upd (s.2 5) i x))) := gSi_mk hb (by decide) (by decide) rfl hi (by decide) rfl (fun k h0 h1 h2 => mar_q5 s _ k h0 h1 h2)
theorem gAi_m6 {m : Nat} {h : gHp} (s : mSt) {i : Nat} (hi : i < 10) : gAi (mH m h s) (some (m + 4)) 0 (nI i) = some (s.2 6 i) := gAi_mk (by decide) (by decide) rfl hi (by decide)
theorem mar_q6 (s : mSt) (f : Nat → Int32) (k : Nat) (h0 : 0 < k) (h1 : k ≤ 10) (h2 : k ≠ 4) : mar k (sA s 6 f).2 = mar k s.2 := by
  rcases (show k = 1 ∨ k = 2 ∨ k = 3 ∨ k = 4 ∨ k = 5 ∨ k = 6 ∨ k = 7 ∨ k = 8 ∨ k = 9 ∨ k = 10 by omega) with rfl | rfl | rfl | rfl | rfl | rfl | rfl | rfl | rfl | rfl <;> first | rfl | exact absurd rfl h2
theorem gSi_m6 {m : Nat} {h : gHp} (s : mSt) {i : Nat} (x : Int32) (hi : i < 10) (hb : h.2.2.2.1 ≤ m) : gSi (mH m h s) (some (m + 4)) 0 (nI i) x = some (mH m h (sA s 6 (upd (s.2 6) i x))) := gSi_mk hb (by decide) (by decide) rfl hi (by decide) rfl (fun k h0 h1 h2 => mar_q6 s _ k h0 h1 h2)
theorem gAi_m7 {m : Nat} {h : gHp} (s : mSt) {i : Nat} (hi : i < 1024) : gAi (mH m h s) (some (m + 5)) 0 (nI i) = some (s.2 7 i) := gAi_mk (by decide) (by decide) rfl hi (by decide)
theorem mar_q7 (s : mSt) (f : Nat → Int32) (k : Nat) (h0 : 0 < k) (h1 : k ≤ 10) (h2 : k ≠ 5) : mar k (sA s 7 f).2 = mar k s.2 := by
  rcases (show k = 1 ∨ k = 2 ∨ k = 3 ∨ k = 4 ∨ k = 5 ∨ k = 6 ∨ k = 7 ∨ k = 8 ∨ k = 9 ∨ k = 10 by omega) with rfl | rfl | rfl | rfl | rfl | rfl | rfl | rfl | rfl | rfl <;> first | rfl | exact absurd rfl h2
theorem gSi_m7 {m : Nat} {h : gHp} (s : mSt) {i : Nat} (x : Int32) (hi : i < 1024) (hb : h.2.2.2.1 ≤ m) : gSi (mH m h s) (some (m + 5)) 0 (nI i) x = some (mH m h (sA s 7 (upd (s.2 7) i x))) := gSi_mk hb (by decide) (by decide) rfl hi (by decide) rfl (fun k h0 h1 h2 => mar_q7 s _ k h0 h1 h2)
theorem gAi_m8 {m : Nat} {h : gHp} (s : mSt) {i : Nat} (hi : i < 1024) : gAi (mH m h s) (some (m + 6)) 0 (nI i) = some (s.2 8 i) := gAi_mk (by decide) (by decide) rfl hi (by decide)
theorem mar_q8 (s : mSt) (f : Nat → Int32) (k : Nat) (h0 : 0 < k) (h1 : k ≤ 10) (h2 : k ≠ 6) : mar k (sA s 8 f).2 = mar k s.2 := by
  rcases (show k = 1 ∨ k = 2 ∨ k = 3 ∨ k = 4 ∨ k = 5 ∨ k = 6 ∨ k = 7 ∨ k = 8 ∨ k = 9 ∨ k = 10 by omega) with rfl | rfl | rfl | rfl | rfl | rfl | rfl | rfl | rfl | rfl <;> first | rfl | exact absurd rfl h2
theorem gSi_m8 {m : Nat} {h : gHp} (s : mSt) {i : Nat} (x : Int32) (hi : i < 1024) (hb : h.2.2.2.1 ≤ m) : gSi (mH m h s) (some (m + 6)) 0 (nI i) x = some (mH m h (sA s 8 (upd (s.2 8) i x))) := gSi_mk hb (by decide) (by decide) rfl hi (by decide) rfl (fun k h0 h1 h2 => mar_q8 s _ k h0 h1 h2)
theorem gAi_m9 {m : Nat} {h : gHp} (s : mSt) {i : Nat} (hi : i < 400) : gAi (mH m h s) (some (m + 7)) 0 (nI i) = some (s.2 9 i) := gAi_mk (by decide) (by decide) rfl hi (by decide)
theorem mar_q9 (s : mSt) (f : Nat → Int32) (k : Nat) (h0 : 0 < k) (h1 : k ≤ 10) (h2 : k ≠ 7) : mar k (sA s 9 f).2 = mar k s.2 := by
  rcases (show k = 1 ∨ k = 2 ∨ k = 3 ∨ k = 4 ∨ k = 5 ∨ k = 6 ∨ k = 7 ∨ k = 8 ∨ k = 9 ∨ k = 10 by omega) with rfl | rfl | rfl | rfl | rfl | rfl | rfl | rfl | rfl | rfl <;> first | rfl | exact absurd rfl h2
theorem gSi_m9 {m : Nat} {h : gHp} (s : mSt) {i : Nat} (x : Int32) (hi : i < 400) (hb : h.2.2.2.1 ≤ m) : gSi (mH m h s) (some (m + 7)) 0 (nI i) x = some (mH m h (sA s 9 (upd (s.2 9) i x))) := gSi_mk hb (by decide) (by decide) rfl hi (by decide) rfl (fun k h0 h1 h2 => mar_q9 s _ k h0 h1 h2)
theorem gAi_m17 {m : Nat} {h : gHp} (s : mSt) {i : Nat} (hi : i < 500) : gAi (mH m h s) (some (m + 8)) 0 (nI i) = some (s.2 17 i) := gAi_mk (by decide) (by decide) rfl hi (by decide)
theorem mar_q17 (s : mSt) (f : Nat → Int32) (k : Nat) (h0 : 0 < k) (h1 : k ≤ 10) (h2 : k ≠ 8) : mar k (sA s 17 f).2 = mar k s.2 := by
  rcases (show k = 1 ∨ k = 2 ∨ k = 3 ∨ k = 4 ∨ k = 5 ∨ k = 6 ∨ k = 7 ∨ k = 8 ∨ k = 9 ∨ k = 10 by omega) with rfl | rfl | rfl | rfl | rfl | rfl | rfl | rfl | rfl | rfl <;> first | rfl | exact absurd rfl h2
theorem gSi_m17 {m : Nat} {h : gHp} (s : mSt) {i : Nat} (x : Int32) (hi : i < 500) (hb : h.2.2.2.1 ≤ m) : gSi (mH m h s) (some (m + 8)) 0 (nI i) x = some (mH m h (sA s 17 (upd (s.2 17) i x))) := gSi_mk hb (by decide) (by decide) rfl hi (by decide) rfl (fun k h0 h1 h2 => mar_q17 s _ k h0 h1 h2)
theorem gAi_m28 {m : Nat} {h : gHp} (s : mSt) {i : Nat} (hi : i < 10) : gAi (mH m h s) (some (m + 9)) 0 (nI i) = some (s.2 28 i) := gAi_mk (by decide) (by decide) rfl hi (by decide)
theorem mar_q28 (s : mSt) (f : Nat → Int32) (k : Nat) (h0 : 0 < k) (h1 : k ≤ 10) (h2 : k ≠ 9) : mar k (sA s 28 f).2 = mar k s.2 := by
  rcases (show k = 1 ∨ k = 2 ∨ k = 3 ∨ k = 4 ∨ k = 5 ∨ k = 6 ∨ k = 7 ∨ k = 8 ∨ k = 9 ∨ k = 10 by omega) with rfl | rfl | rfl | rfl | rfl | rfl | rfl | rfl | rfl | rfl <;> first | rfl | exact absurd rfl h2
theorem gSi_m28 {m : Nat} {h : gHp} (s : mSt) {i : Nat} (x : Int32) (hi : i < 10) (hb : h.2.2.2.1 ≤ m) : gSi (mH m h s) (some (m + 9)) 0 (nI i) x = some (mH m h (sA s 28 (upd (s.2 28) i x))) := gSi_mk hb (by decide) (by decide) rfl hi (by decide) rfl (fun k h0 h1 h2 => mar_q28 s _ k h0 h1 h2)
theorem gAi_m29 {m : Nat} {h : gHp} (s : mSt) {i : Nat} (hi : i < 1000) : gAi (mH m h s) (some (m + 10)) 0 (nI i) = some (s.2 29 i) := gAi_mk (by decide) (by decide) rfl hi (by decide)
theorem mar_q29 (s : mSt) (f : Nat → Int32) (k : Nat) (h0 : 0 < k) (h1 : k ≤ 10) (h2 : k ≠ 10) : mar k (sA s 29 f).2 = mar k s.2 := by
  rcases (show k = 1 ∨ k = 2 ∨ k = 3 ∨ k = 4 ∨ k = 5 ∨ k = 6 ∨ k = 7 ∨ k = 8 ∨ k = 9 ∨ k = 10 by omega) with rfl | rfl | rfl | rfl | rfl | rfl | rfl | rfl | rfl | rfl <;> first | rfl | exact absurd rfl h2
theorem gSi_m29 {m : Nat} {h : gHp} (s : mSt) {i : Nat} (x : Int32) (hi : i < 1000) (hb : h.2.2.2.1 ≤ m) : gSi (mH m h s) (some (m + 10)) 0 (nI i) x = some (mH m h (sA s 29 (upd (s.2 29) i x))) := gSi_mk hb (by decide) (by decide) rfl hi (by decide) rfl (fun k h0 h1 h2 => mar_q29 s _ k h0 h1 h2)
theorem il_mk (n : Nat) : Int32.ofNat n = nI n := by
  unfold nI
  exact Eq.refl _
theorem il0 : (0 : Int32) = nI 0 := il_mk 0
theorem il1 : (1 : Int32) = nI 1 := il_mk 1
theorem il2 : (2 : Int32) = nI 2 := il_mk 2
theorem il3 : (3 : Int32) = nI 3 := il_mk 3
theorem il4 : (4 : Int32) = nI 4 := il_mk 4
theorem il5 : (5 : Int32) = nI 5 := il_mk 5
theorem il6 : (6 : Int32) = nI 6 := il_mk 6
theorem il7 : (7 : Int32) = nI 7 := il_mk 7
theorem il8 : (8 : Int32) = nI 8 := il_mk 8
theorem il9 : (9 : Int32) = nI 9 := il_mk 9
theorem il10 : (10 : Int32) = nI 10 := il_mk 10
theorem il11 : (11 : Int32) = nI 11 := il_mk 11
theorem il12 : (12 : Int32) = nI 12 := il_mk 12
theorem il13 : (13 : Int32) = nI 13 := il_mk 13
theorem il14 : (14 : Int32) = nI 14 := il_mk 14
theorem il15 : (15 : Int32) = nI 15 := il_mk 15
theorem il16 : (16 : Int32) = nI 16 := il_mk 16
theorem il17 : (17 : Int32) = nI 17 := il_mk 17
theorem il18 : (18 : Int32) = nI 18 := il_mk 18
theorem il19 : (19 : Int32) = nI 19 := il_mk 19
theorem il20 : (20 : Int32) = nI 20 := il_mk 20
theorem il24 : (24 : Int32) = nI 24 := il_mk 24
theorem il28 : (28 : Int32) = nI 28 := il_mk 28
theorem il30 : (30 : Int32) = nI 30 := il_mk 30
theorem il31 : (31 : Int32) = nI 31 := il_mk 31
theorem il32 : (32 : Int32) = nI 32 := il_mk 32
theorem il40 : (40 : Int32) = nI 40 := il_mk 40
theorem il44 : (44 : Int32) = nI 44 := il_mk 44
theorem il45 : (45 : Int32) = nI 45 := il_mk 45
theorem il48 : (48 : Int32) = nI 48 := il_mk 48
theorem il57 : (57 : Int32) = nI 57 := il_mk 57
theorem il58 : (58 : Int32) = nI 58 := il_mk 58
theorem il59 : (59 : Int32) = nI 59 := il_mk 59
theorem il60 : (60 : Int32) = nI 60 := il_mk 60
theorem il62 : (62 : Int32) = nI 62 := il_mk 62
theorem il63 : (63 : Int32) = nI 63 := il_mk 63
theorem il65 : (65 : Int32) = nI 65 := il_mk 65
theorem il75 : (75 : Int32) = nI 75 := il_mk 75
theorem il97 : (97 : Int32) = nI 97 := il_mk 97
theorem il99 : (99 : Int32) = nI 99 := il_mk 99
theorem il100 : (100 : Int32) = nI 100 := il_mk 100
theorem il122 : (122 : Int32) = nI 122 := il_mk 122
theorem il124 : (124 : Int32) = nI 124 := il_mk 124
theorem il195 : (195 : Int32) = nI 195 := il_mk 195
theorem il200 : (200 : Int32) = nI 200 := il_mk 200
theorem il255 : (255 : Int32) = nI 255 := il_mk 255
theorem il256 : (256 : Int32) = nI 256 := il_mk 256
theorem il500 : (500 : Int32) = nI 500 := il_mk 500
theorem il1000 : (1000 : Int32) = nI 1000 := il_mk 1000
theorem il1024 : (1024 : Int32) = nI 1024 := il_mk 1024
theorem il1365 : (1365 : Int32) = nI 1365 := il_mk 1365
theorem il1950 : (1950 : Int32) = nI 1950 := il_mk 1950
theorem il4095 : (4095 : Int32) = nI 4095 := il_mk 4095
