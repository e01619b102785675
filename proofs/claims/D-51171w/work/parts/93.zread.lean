/-! L2 COMPONENT: guards, and the calls that read (1) -/
set_option maxRecDepth 100000
/-- a call's answer: a value, or an exception of a kind -/
def cAns {α : Type} (N c : Nat) (h : gHp) (m : Option ((α ⊕ (Nat × Nat)) × gHp)) (r : α ⊕ Nat) : Prop := ∃ z h', m = some (z, h') ∧ ro N c h h' ∧ match r with
  | .inl v => z = .inl v
  | .inr k => ∃ q, z = .inr (k, q)
theorem cAns_v {α : Type} {N c : Nat} {h h' : gHp} {m : Option ((α ⊕ (Nat × Nat)) × gHp)} {v : α} (e : m = some (.inl v, h')) (s : ro N c h h') : cAns N c h m (.inl v) := ⟨_, h', e, s, rfl⟩
theorem cAns_x {α : Type} {N c d k : Nat} {h : gHp} {m : Option ((α ⊕ (Nat × Nat)) × gHp)} (hr : rm h d) (hc : 7 ≤ c) (e : m = some (.inr (k, h.2.1), gpush0 h 6)) : cAns N c h m (.inr k) := ⟨_, _, e, ro_c (ro_n hr (push0_st hr)) hc, _, rfl⟩
theorem cAns_c {α : Type} {N c c' : Nat} {h : gHp} {m : Option ((α ⊕ (Nat × Nat)) × gHp)} {r : α ⊕ Nat} (s : cAns N c h m r) (hc : c ≤ c') : cAns N c' h m r := by
  obtain ⟨z, h', e, s, p⟩ := s
  exact ⟨z, h', e, ro_c s hc, p⟩
theorem ck_index {h : gHp} {c : Nat} (hr : rm h c) (hc : 7 ≤ c) (p : Bool) : fX1_checkIndex (bI p) h = if p = true then some (.inl (), h) else some (.inr (1, h.2.1), gpush0 h 6) := by
  cases p with
  | true => simp only [fX1_checkIndex, il0, bI_0, Bool.true_eq_false, if_false, if_true]
  | false => simp only [fX1_checkIndex, il0, bI_0, if_true, fit_ok hr hc, Bool.false_eq_true, if_false]
theorem ck_range {h : gHp} {c : Nat} (hr : rm h c) (hc : 7 ≤ c) (p : Bool) : fX1_checkRange (bI p) h = if p = true then some (.inl (), h) else some (.inr (2, h.2.1), gpush0 h 6) := by
  cases p with
  | true => simp only [fX1_checkRange, il0, bI_0, Bool.true_eq_false, if_false, if_true]
  | false => simp only [fX1_checkRange, il0, bI_0, if_true, fit_ok hr hc, Bool.false_eq_true, if_false]
theorem z_one (p : Bool) (h : gHp) : fX1_one (bI p) h = some (bI p, h) := by cases p <;> rfl
theorem toInt0 : (nI 0).toInt = 0 := by decide
section
variable {N a : Nat} {h : gHp} {st : stT}
theorem ze_item (he : eR N h a st) (wf : wfT st) {c : Nat} (hr : rm h c) (hc : 7 ≤ c) (x : Int32) : fX1_withItem N x h = if iN x 0 ((st.1.length : Int) - 1) = true then some (.inl (some a), h) else some (.inr (1, h.2.1), gpush0 h 6) := by
  obtain ⟨ri, i1, i2, i3, i4, i5, -⟩ := st_its (ze_st he)
  have hn := wf.2.1
  simp only [fX1_withItem, ze_is he, bd_s, ze_state he, bd2_s, gEl_i, i1, i2, i5 x (by omega), ck_index hr hc]
  cases iN x 0 ((st.1.length : Int) - 1) <;> simp [bd2_s, gEl_i, gEl_e]
theorem ze_items (he : eR N h a st) (wf : wfT st) {c : Nat} (hr : rm h c) (hc : 7 ≤ c) (x y : Int32) : fX1_withItems N x y h = if (iN x 0 ((st.1.length : Int) - 1) && iN y 0 ((st.1.length : Int) - 1)) = true then some (.inl (some a), h) else some (.inr (1, h.2.1), gpush0 h 6) := by
  obtain ⟨ri, i1, i2, i3, i4, i5, -⟩ := st_its (ze_st he)
  have hn := wf.2.1
  simp only [fX1_withItems, ze_is he, bd_s, ze_item he wf hr hc]
  cases iN x 0 ((st.1.length : Int) - 1) with
  | false => simp [bd2_s, gEl_e]
  | true =>
    simp only [if_true, bd2_s, gEl_i, i1, bd_s, i2, i5 y (by omega), ck_index hr hc, Bool.true_and]
    cases iN y 0 ((st.1.length : Int) - 1) <;> simp [bd2_s, gEl_i, gEl_e]
theorem ze_two (he : eR N h a st) (wf : wfT st) {c : Nat} (hr : rm h c) (hc : 7 ≤ c) (x y : Int32) : fX1_withTwo N x y h = if (iN x 0 ((st.1.length : Int) - 1) && iN y 0 ((st.1.length : Int) - 1)) = true then (if x = y then some (.inr (2, h.2.1), gpush0 h 6) else some (.inl (some a), h)) else some (.inr (1, h.2.1), gpush0 h 6) := by
  simp only [fX1_withTwo, ze_is he, bd_s, ze_items he wf hr hc]
  cases (iN x 0 ((st.1.length : Int) - 1) && iN y 0 ((st.1.length : Int) - 1)) with
  | false => simp [bd2_s, gEl_e]
  | true =>
    simp only [if_true, bd2_s, gEl_i, fX1_withTwo_j17, il0, il1, ← bI_t, ← bI_f, ck_range hr hc, Bool.false_eq_true, if_false]
    by_cases hxy : x = y
    · simp only [if_pos hxy, bd2_s, gEl_e]
    · simp only [if_neg hxy, bd2_s, gEl_i]
theorem ze_ansr (he : eR N h a st) (wf : wfT st) {c : Nat} (hr : rm h c) (hc : 7 ≤ c) (x : Int32) : fX1_withAnswer N x h = if iN x 0 ((st.2.1.length : Int) - 1) = true then some (.inl (some a), h) else some (.inr (1, h.2.1), gpush0 h 6) := by
  obtain ⟨ri, i1, i2, i3, i4, i5, -⟩ := st_ans (ze_st he)
  have hn := wf.2.2.1
  simp only [fX1_withAnswer, ze_is he, bd_s, ze_state he, bd2_s, gEl_i, i1, i2, i5 x (by omega), ck_index hr hc]
  cases iN x 0 ((st.2.1.length : Int) - 1) <;> simp [bd2_s, gEl_i, gEl_e]
/-- what is known, from a loaded component -/
theorem ze_known (he : eR N h a st) (wf : wfT st) {c : Nat} (hr : rm h c) (hc : 26 ≤ c) : ∃ k h', gRcv h (some a) 3 = some a ∧ fX4_known a h = some (some k, h') ∧ stn 26 h h' ∧ ro N 26 h h' ∧ eR N h' a st ∧ knR h.2.1 h' k st.1.length (kn st.2.1) ∧ rm h' (c - 26) := by
  obtain ⟨k, h', e1, e2, e3⟩ := zt_known (ze_st he) wf.2.1 wf.2.2.1 wf.2.2.2.1 (rm_w hr hc)
  have hro := ro_n (N := N) hr e2
  exact ⟨k, h', st_rcv (ze_st he), e1, e2, hro, eR_ro hr he hro, e3, rm_st hr e2 (by omega)⟩
end
/-! worths -/
def wo (st : stT) (x : Nat) : Nat := (st.1.getD x ([], 0)).2
def wor (st : stT) (x y : Nat) : Bool := decide (wo st y < wo st x) || (decide (wo st x = wo st y) && decide (x < y))
theorem wo_le {st : stT} (wf : wfT st) {x : Nat} (hx : x < st.1.length) : wo st x ≤ 99 := (wf.2.2.2.2.2.2 _ (getD_m hx)).2.2.2
theorem sub_pos' {x y : Nat} (hx : x ≤ 99) (hy : y ≤ 99) : (nI 0 < nI x - nI y) = (y < x) := by
  rw [zb_lti, toInt0, pk_sub_toInt (by omega) (by omega)]
  exact propext (by omega)
theorem sub_zero' {x y : Nat} (hx : x ≤ 99) (hy : y ≤ 99) : (nI x - nI y = nI 0) = (x = y) := by
  refine propext ⟨fun e => ?_, fun e => ?_⟩
  · have h1 := congrArg Int32.toInt e
    rw [toInt0, pk_sub_toInt (by omega) (by omega)] at h1
    omega
  · rw [e, zb_sub (Nat.le_refl _), Nat.sub_self]
theorem zt_wor {M L : Nat → Prop} {h : gHp} {s : Nat} {st : stT} (hs : stR M L h s st) (wf : wfT st) {x y : Nat} (hx : x < st.1.length) (hy : y < st.1.length) : fX4_isWorthier s (nI x) (nI y) h = some (bI (wor st x y), h) := by
  obtain ⟨ri, i1, i2, i3, i4, i5, i6⟩ := st_its hs
  obtain ⟨ax, x1, x2⟩ := i6 x hx
  obtain ⟨ay, y1, y2⟩ := i6 y hy
  have hn := wf.2.1
  have hwx := wo_le wf hx
  have hwy := wo_le wf hy
  simp only [fX4_isWorthier, i1, bd_s, i2, x1, bd2_s, it_cast x2, it_w x2, y1, it_cast y2, it_w y2, nm_s, il0, il1]
  show (if nI 0 < nI (wo st x) - nI (wo st y) then _ else if nI (wo st x) - nI (wo st y) = nI 0 then _ else _) = _
  simp only [sub_pos' hwx hwy, sub_zero' hwx hwy, zb_le (show y < 2 ^ 31 by omega) (show x < 2 ^ 31 by omega), gRz_1, gRz_0, bd_s]
  unfold wor
  by_cases h1 : wo st y < wo st x
  · rw [if_pos h1, decide_eq_true h1]; rfl
  · rw [if_neg h1, decide_eq_false h1]
    by_cases h2 : wo st x = wo st y
    · rw [if_pos h2, decide_eq_true h2]
      by_cases h3 : y ≤ x
      · rw [if_pos h3, decide_eq_false (show ¬ x < y by omega)]; rfl
      · rw [if_neg h3, decide_eq_true (show x < y by omega)]; rfl
    · rw [if_neg h2, decide_eq_false h2]; rfl
/-! what a known relation says -/
def sLe (R : Nat → Nat → Bool) (x : Nat) : Nat := sm (fun y => (R y x).toNat) 10
def sGr (n : Nat) (R : Nat → Nat → Bool) (x : Nat) : Int32 := nI (n - 1) - nI (sm (fun y => (R x y).toNat) 10)
def sFixed (n : Nat) (R : Nat → Nat → Bool) : Nat := sm (fun x => (decide (nI (sLe R x) = sGr n R x)).toNat) n
def sAt (n : Nat) (R : Nat → Nat → Bool) (p : Int32) : Option Nat := fi (fun x => decide (nI (sLe R x) = p) && decide (sGr n R x = p)) n
def sLoose (n : Nat) (R : Nat → Nat → Bool) : Nat := itr (fun j b => if sGr n R (j + 1) - nI (sLe R (j + 1)) ≤ sGr n R b - nI (sLe R b) then b else j + 1) (n - 1) 0
section
variable {B k n : Nat} {h : gHp} {R : Nat → Nat → Bool}
theorem zk_twos (hp : knR B h k n R) (hn : n ≤ 10) : fX9_twos k h = some (nI (sm (sLe R) n), h) := by
  have hl : lp (fun t => fX9_twos_b4 k t.1 t.2.1 t.2.2) 4096 (nI 0, nI 0, h) = some (nI (sm (sLe R) n), h) := by
    refine zb_for (fun j => (nI (sm (sLe R) j), nI j, h)) n _ (by omega) (fun j hj => ?_) ?_
    · simp only [fX9_twos_b4, zk_many hp, bd_s, if_neg (nI_ge hj (show n < 2 ^ 31 by omega)), zk_is hp, zk_least hp (show j < 10 by omega), bd2_s, nm_s, il1, zb_add]
      rfl
    · simp only [fX9_twos_b4, zk_many hp, bd_s, if_pos (nI_le (Nat.le_refl n) (show n < 2 ^ 31 by omega))]
  simp only [fX9_twos, il0, fl_X9_twos_b4, hl, bd_s, ap2_s]
theorem zk_fixed (hp : knR B h k n R) (hn : n ≤ 10) (hn1 : 1 ≤ n) : fX1_fixed (some k) h = some (nI (sFixed n R), h) := by
  have hl : lp (fun t => fX1_fixed_b4 (some k) t.1 t.2.1 t.2.2) 4096 (nI 0, nI 0, h) = some (nI (sFixed n R), h) := by
    refine zb_for (fun j => (nI (sm (fun x => (decide (nI (sLe R x) = sGr n R x)).toNat) j), nI j, h)) n _ (by omega) (fun j hj => ?_) ?_
    · simp only [fX1_fixed_b4, zk_many hp, bd_s, if_neg (nI_ge hj (show n < 2 ^ 31 by omega)), zk_rcv hp, zk_is hp, zk_least hp (show j < 10 by omega), zk_greatest hp (show j < 10 by omega) hn1, bd2_s, fX1_fixed_j31, il0, il1, ← bI_t, ← bI_f, z_one, nm_s]
      show (if nI (sLe R j) = sGr n R j then _ else _) = _
      by_cases hc : nI (sLe R j) = sGr n R j
      · rw [if_pos hc]
        show _ = some (Sum.inl (nI (_ + (decide (nI (sLe R j) = sGr n R j)).toNat), _, _))
        rw [decide_eq_true hc, bI_t, zb_add, zb_add]
        rfl
      · rw [if_neg hc]
        show _ = some (Sum.inl (nI (_ + (decide (nI (sLe R j) = sGr n R j)).toNat), _, _))
        rw [decide_eq_false hc, bI_f, bI_t, zb_add, zb_add]
        rfl
    · simp only [fX1_fixed_b4, zk_many hp, bd_s, if_pos (nI_le (Nat.le_refl n) (show n < 2 ^ 31 by omega))]
      rfl
  simp only [fX1_fixed, il0, fl_X1_fixed_b4, hl, bd_s, ap2_s]
theorem zk_itemAt (hp : knR B h k n R) (hn : n ≤ 10) (hn1 : 1 ≤ n) (p : Int32) : fX1_itemAt (some k) p h = some (oI (sAt n R p), h) := by
  obtain ⟨e, e1, e2⟩ := zb_lp (B := fun t => fX1_itemAt_b2 (some k) p t.1 t.2) (fun j t => t = (nI j, h) ∧ fi (fun x => decide (nI (sLe R x) = p) && decide (sGr n R x = p)) j = none) (fun e => e = match sAt n R p with | some j => .inl (nI j, h) | none => .inr h) n (by omega) (fun j t hj ht => by
    obtain ⟨rfl, hf⟩ := ht
    by_cases hjn : j < n
    · simp only [fX1_itemAt_b2, zk_many hp, bd_s, if_neg (nI_ge hjn (show n < 2 ^ 31 by omega)), zk_rcv hp, zk_is hp, zk_least hp (show j < 10 by omega), zk_greatest hp (show j < 10 by omega) hn1, bd2_s, nm_s, il1, zb_add]
      have hstep : fi (fun x => decide (nI (sLe R x) = p) && decide (sGr n R x = p)) (j + 1) = if (decide (nI (sLe R j) = p) && decide (sGr n R j = p)) = true then some j else none := by
        show (match fi (fun x => decide (nI (sLe R x) = p) && decide (sGr n R x = p)) j with | some k => some k | none => _) = _
        rw [hf]
      by_cases hc1 : nI (sLe R j) = p
      · by_cases hc2 : sGr n R j = p
        · right
          refine ⟨.inl (nI j, h), ?_, ?_⟩
          · rw [if_pos (show nI (sm (fun x => (R x j).toNat) 10) = p from hc1), if_pos (show nI (n - 1) - nI (sm (fun y => (R j y).toNat) 10) = p from hc2)]
          · have : sAt n R p = some j := fi_some.mpr ⟨hjn, by rw [decide_eq_true hc1, decide_eq_true hc2]; rfl, fi_none.mp hf⟩
            rw [this]
        · left
          refine ⟨hjn, (nI (j + 1), h), ?_, rfl, ?_⟩
          · rw [if_pos (show nI (sm (fun x => (R x j).toNat) 10) = p from hc1), if_neg (show ¬ nI (n - 1) - nI (sm (fun y => (R j y).toNat) 10) = p from hc2)]
          · rw [hstep, decide_eq_false hc2, Bool.and_false]; rfl
      · left
        refine ⟨hjn, (nI (j + 1), h), ?_, rfl, ?_⟩
        · rw [if_neg (show ¬ nI (sm (fun x => (R x j).toNat) 10) = p from hc1)]
        · rw [hstep, decide_eq_false hc1, Bool.false_and]; rfl
    · right
      have : j = n := by omega
      subst this
      refine ⟨.inr h, ?_, ?_⟩
      · simp only [fX1_itemAt_b2, zk_many hp, bd_s, if_pos (nI_le (Nat.le_refl j) (show j < 2 ^ 31 by omega))]
      · have : sAt j R p = none := hf
        rw [this]) (t0 := (nI 0, h)) ⟨rfl, rfl⟩
  simp only [fX1_itemAt, il0, fl_X1_itemAt_b2, e1, bd_s, e2]
  cases sAt n R p with
  | some j => simp only [gEl_i, ap2_s, oI_s]
  | none => simp only [gEl_e, oI_n, il1]
theorem sLoose_lt {n : Nat} {R : Nat → Nat → Bool} : ∀ j, itr (fun j b => if sGr n R (j + 1) - nI (sLe R (j + 1)) ≤ sGr n R b - nI (sLe R b) then b else j + 1) j 0 ≤ j
  | 0 => Nat.le_refl _
  | j + 1 => by
    show (if _ then _ else j + 1) ≤ j + 1
    split
    · exact Nat.le_succ_of_le (sLoose_lt j)
    · exact Nat.le_refl _
end
/-! the first calls -/
section
variable {N a : Nat} {h : gHp} {st : stT}
theorem q_at (he : eR N h a st) (wf : wfT st) (hr : rm h 100) (p : Int32) : cAns N 100 h (fX1_at N p h) (.inl (oI (sAt st.1.length (kn st.2.1) p))) := by
  obtain ⟨k, h', k1, k2, k3, k4, k5, k6, k7⟩ := ze_known he wf hr (by omega)
  refine cAns_v (h' := h') ?_ (ro_c k4 (by omega))
  simp only [fX1_at, ze_is he, bd_s, ze_state he, bd2_s, gEl_i, k1, k2, zk_itemAt k6 wf.2.1 wf.1]
theorem q_known (he : eR N h a st) (wf : wfT st) (hr : rm h 100) (x y : Int32) : cAns N 100 h (fX1_known N x y h) (if (iN x 0 ((st.1.length : Int) - 1) && iN y 0 ((st.1.length : Int) - 1)) = true then .inl (if kn st.2.1 x.toNatClampNeg y.toNatClampNeg = true then nI 1 else if kn st.2.1 y.toNatClampNeg x.toNatClampNeg = true then nI 2 else nI 0) else .inr 1) := by
  have hn := wf.2.1
  cases hg : (iN x 0 ((st.1.length : Int) - 1) && iN y 0 ((st.1.length : Int) - 1)) with
  | false =>
    refine cAns_x hr (by omega) ?_
    simp only [fX1_known, ze_is he, bd_s, ze_items he wf hr (by omega), hg, Bool.false_eq_true, if_false, bd2_s, gEl_e]
  | true =>
    have hg2 := hg
    rw [Bool.and_eq_true] at hg2
    obtain ⟨i, rfl, hi, hi2⟩ := iN_of hg2.1 (by omega)
    obtain ⟨j, rfl, hj, hj2⟩ := iN_of hg2.2 (by omega)
    obtain ⟨k, h', k1, k2, k3, k4, k5, k6, k7⟩ := ze_known he wf hr (by omega)
    rw [if_pos rfl]
    refine cAns_v (h' := h') ?_ (ro_c k4 (by omega))
    simp only [fX1_known, ze_is he, bd_s, ze_items he wf hr (show 7 ≤ 100 by omega), hg, if_true, bd2_s, gEl_i, k1, k2, zk_rcv k6, zk_is k6, zk_isBetter k6 (show i < 10 by omega) (show j < 10 by omega), zk_isBetter k6 (show j < 10 by omega) (show i < 10 by omega), il0, bI_0, zb_cl hi2, zb_cl hj2]
    cases kn st.2.1 i j <;> cases kn st.2.1 j i <;> simp [il1, il2, il0]
theorem q_loose (he : eR N h a st) (wf : wfT st) (hr : rm h 100) : cAns N 100 h (fX1_loose N h) (.inl (nI (sLoose st.1.length (kn st.2.1)))) := by
  obtain ⟨k, h', k1, k2, k3, k4, k5, k6, k7⟩ := ze_known he wf hr (by omega)
  have hn := wf.2.1
  have hn1 := wf.1
  refine cAns_v (h' := h') ?_ (ro_c k4 (by omega))
  have hl : lp (fun t => fX1_loose_b12 (some k) t.1 t.2.1 t.2.2) 4096 (nI 0, nI 1, h') = some (nI (sLoose st.1.length (kn st.2.1)), h') := by
    refine zb_for (fun j => (nI (itr (fun j b => if sGr st.1.length (kn st.2.1) (j + 1) - nI (sLe (kn st.2.1) (j + 1)) ≤ sGr st.1.length (kn st.2.1) b - nI (sLe (kn st.2.1) b) then b else j + 1) j 0), nI (j + 1), h')) (st.1.length - 1) _ (by omega) (fun j hj => ?_) ?_
    · have hb := sLoose_lt (n := st.1.length) (R := kn st.2.1) j
      generalize hbe : itr (fun j b => if sGr st.1.length (kn st.2.1) (j + 1) - nI (sLe (kn st.2.1) (j + 1)) ≤ sGr st.1.length (kn st.2.1) b - nI (sLe (kn st.2.1) b) then b else j + 1) j 0 = b at hb
      have hnext : itr (fun j b => if sGr st.1.length (kn st.2.1) (j + 1) - nI (sLe (kn st.2.1) (j + 1)) ≤ sGr st.1.length (kn st.2.1) b - nI (sLe (kn st.2.1) b) then b else j + 1) (j + 1) 0 = if sGr st.1.length (kn st.2.1) (j + 1) - nI (sLe (kn st.2.1) (j + 1)) ≤ sGr st.1.length (kn st.2.1) b - nI (sLe (kn st.2.1) b) then b else j + 1 := by rw [← hbe]; rfl
      rw [hnext]
      simp only [fX1_loose_b12, zk_many k6, bd_s, if_neg (nI_ge (show j + 1 < st.1.length by omega) (show st.1.length < 2 ^ 31 by omega)), zk_rcv k6, zk_is k6, zk_least k6 (show j + 1 < 10 by omega), zk_greatest k6 (show j + 1 < 10 by omega) hn1, zk_least k6 (show b < 10 by omega), zk_greatest k6 (show b < 10 by omega) hn1, bd2_s, nm_s, il1, zb_add]
      show (if sGr st.1.length (kn st.2.1) (j + 1) - nI (sLe (kn st.2.1) (j + 1)) ≤ sGr st.1.length (kn st.2.1) b - nI (sLe (kn st.2.1) b) then _ else _) = _
      by_cases hc : sGr st.1.length (kn st.2.1) (j + 1) - nI (sLe (kn st.2.1) (j + 1)) ≤ sGr st.1.length (kn st.2.1) b - nI (sLe (kn st.2.1) b)
      · simp only [if_pos hc]
      · simp only [if_neg hc]
    · simp only [fX1_loose_b12, zk_many k6, bd_s, if_pos (nI_le (show st.1.length ≤ st.1.length - 1 + 1 by omega) (show st.1.length - 1 + 1 < 2 ^ 31 by omega))]
      rfl
  simp only [fX1_loose, ze_is he, bd_s, ze_state he, bd2_s, gEl_i, k1, k2, fl_X1_loose_b12, il0, il1, hl, ap2_s]
end
