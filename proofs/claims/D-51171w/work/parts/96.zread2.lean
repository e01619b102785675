/-! L2 COMPONENT: the calls that read (2) -/
set_option maxRecDepth 100000
def anA (st : stT) (k : Nat) : Nat := (st.2.1.getD k (0, 0)).1
def anB (st : stT) (k : Nat) : Nat := (st.2.1.getD k (0, 0)).2
theorem an_lt {st : stT} (wf : wfT st) {k : Nat} (hk : k < st.2.1.length) : anA st k < st.1.length ∧ anB st k < st.1.length := wf.2.2.2.1 _ (getD_m hk)
def sWrong (st : stT) : Nat := sm (fun k => (!wor st (anA st k) (anB st k)).toNat) st.2.1.length
def sOf (st : stT) (item : Nat) (isB : Bool) : Nat := sm (fun k => (decide ((if isB = true then anA st k else anB st k) = item)).toNat) st.2.1.length
def sPlace (st : stT) (item : Nat) : Nat := sm (fun k => (decide (k ≠ item) && wor st k item).toNat) st.1.length
def sTold (st : stT) (x y : Nat) : Bool := (fi (fun k => decide (anA st k = x) && decide (anB st k = y)) st.2.1.length).isSome
theorem zt_wrong {M L : Nat → Prop} {h : gHp} {s : Nat} {st : stT} (hs : stR M L h s st) (wf : wfT st) : fX4_wrong s h = some (nI (sWrong st), h) := by
  obtain ⟨ra, a1, a2, a3, a4, -, a6⟩ := st_ans hs
  have ha := wf.2.2.1
  have hl : lp (fun t => fX4_wrong_b4 s t.1 t.2.1 t.2.2) 4096 (nI 0, nI 0, h) = some (nI (sWrong st), h) := by
    refine zb_for (fun j => (nI (sm (fun k => (!wor st (anA st k) (anB st k)).toNat) j), nI j, h)) st.2.1.length _ (by omega) (fun j hj => ?_) ?_
    · obtain ⟨y, y1, y2⟩ := a6 j hj
      have hlt := an_lt wf hj
      have hw := zt_wor hs wf hlt.1 hlt.2
      simp only [fX4_wrong_b4, a1, bd_s, a2, a4, bd2_s, if_neg (nI_ge hj (show st.2.1.length < 2 ^ 31 by omega)), y1, an_cast y2, an_b y2, an_w y2, st_is hs]
      show bd2 (fX4_isWorthier s (nI (anA st j)) (nI (anB st j)) h) _ = _
      rw [hw]
      simp only [bd2_s, il0, il1, bI_0, fX4_wrong_j56, ← bI_t, ← bI_f, z_one, nm_s]
      show _ = some (Sum.inl (nI (_ + (!wor st (anA st j) (anB st j)).toNat), _, _))
      cases wor st (anA st j) (anB st j) with
      | false => rw [if_pos rfl]; simp only [bI, zb_add]; rfl
      | true => rw [if_neg (show ¬ bI true = bI false by decide)]; simp only [bI, zb_add]; rfl
    · simp only [fX4_wrong_b4, a1, bd_s, a2, a4, bd2_s, if_pos (nI_le (Nat.le_refl st.2.1.length) (show st.2.1.length < 2 ^ 31 by omega))]
      rfl
  simp only [fX4_wrong, il0, fl_X4_wrong_b4, hl, bd_s, ap2_s]
section
variable {N a : Nat} {h : gHp} {st : stT}
theorem ze_of (he : eR N h a st) (wf : wfT st) {item : Nat} (hi : item < st.1.length) (isB : Bool) : fX1_answersOf N (nI item) (bI isB) h = some (nI (sOf st item isB), h) := by
  obtain ⟨ra, a1, a2, a3, a4, -, a6⟩ := st_ans (ze_st he)
  have ha := wf.2.2.1
  have hn := wf.2.1
  have hl : lp (fun t => fX1_answersOf_b5 N (nI item) (bI isB) t.1 t.2.1 t.2.2) 4096 (nI 0, nI 0, h) = some (nI (sOf st item isB), h) := by
    refine zb_for (fun j => (nI (sm (fun k => (decide ((if isB = true then anA st k else anB st k) = item)).toNat) j), nI j, h)) st.2.1.length _ (by omega) (fun j hj => ?_) ?_
    · obtain ⟨y, y1, y2⟩ := a6 j hj
      have hlt := an_lt wf hj
      have key : ∀ v, v < st.1.length → fX1_answersOf_j64 N (nI item) (bI isB) (nI j) (nI v) (nI (sm (fun k => (decide ((if isB = true then anA st k else anB st k) = item)).toNat) j)) h = some (.inl (nI (sm (fun k => (decide ((if isB = true then anA st k else anB st k) = item)).toNat) j + (decide (v = item)).toNat), nI (j + 1), h)) := by
        intro v hv
        simp only [fX1_answersOf_j64, zb_eq (show v < 2 ^ 31 by omega) (show item < 2 ^ 31 by omega), fX1_answersOf_j73, il0, il1, ← bI_t, ← bI_f, z_one, bd2_s, nm_s]
        by_cases hc : v = item
        · rw [if_pos hc, decide_eq_true hc]; simp only [bI, zb_add]; rfl
        · rw [if_neg hc, decide_eq_false hc]; simp only [bI, zb_add]; rfl
      simp only [fX1_answersOf_b5, ze_now he, a1, bd_s, a2, a4, bd2_s, if_neg (nI_ge hj (show st.2.1.length < 2 ^ 31 by omega)), y1, an_cast y2, an_b y2, an_w y2, il0, bI_0]
      cases isB with
      | false =>
        rw [if_pos rfl]
        exact key (anB st j) hlt.2
      | true =>
        rw [if_neg (by simp)]
        exact key (anA st j) hlt.1
    · simp only [fX1_answersOf_b5, ze_now he, a1, bd_s, a2, a4, bd2_s, if_pos (nI_le (Nat.le_refl st.2.1.length) (show st.2.1.length < 2 ^ 31 by omega))]
      rfl
  simp only [fX1_answersOf, il0, fl_X1_answersOf_b5, hl, bd_s, ap2_s]
theorem ze_place (he : eR N h a st) (wf : wfT st) {item : Nat} (hi : item < st.1.length) : fX1_placeByWorth N (nI item) h = some (nI (sPlace st item), h) := by
  obtain ⟨ra, a1, a2, a3, a4, -, a6⟩ := st_its (ze_st he)
  have hn := wf.2.1
  have hl : lp (fun t => fX1_placeByWorth_b4 N (nI item) t.1 t.2.1 t.2.2) 4096 (nI 0, nI 0, h) = some (nI (sPlace st item), h) := by
    refine zb_for (fun j => (nI (sm (fun k => (decide (k ≠ item) && wor st k item).toNat) j), nI j, h)) st.1.length _ (by omega) (fun j hj => ?_) ?_
    · have hw := zt_wor (ze_st he) wf hj hi
      simp only [fX1_placeByWorth_b4, ze_now he, a1, bd_s, a2, a4, bd2_s, if_neg (nI_ge hj (show st.1.length < 2 ^ 31 by omega)), zb_eq (show j < 2 ^ 31 by omega) (show item < 2 ^ 31 by omega), st_rcv (ze_st he), hw, il0, il1, bI_0, fX1_placeByWorth_j40, fX1_placeByWorth_j41, ← bI_t, ← bI_f, z_one, nm_s]
      show _ = some (Sum.inl (nI (_ + (decide (j ≠ item) && wor st j item).toNat), _, _))
      by_cases hc : j = item
      · rw [if_pos hc, decide_eq_false (show ¬ j ≠ item by omega), Bool.false_and]; simp only [bI, zb_add]; rfl
      · rw [if_neg hc, decide_eq_true (show j ≠ item from hc), Bool.true_and]
        cases wor st j item with
        | false => rw [if_pos rfl]; simp only [bI, zb_add]; rfl
        | true => rw [if_neg (show ¬ bI true = bI false by decide)]; simp only [bI, zb_add]; rfl
    · simp only [fX1_placeByWorth_b4, ze_now he, a1, bd_s, a2, a4, bd2_s, if_pos (nI_le (Nat.le_refl st.1.length) (show st.1.length < 2 ^ 31 by omega))]
      rfl
  simp only [fX1_placeByWorth, il0, fl_X1_placeByWorth_b4, hl, bd_s, ap2_s]
theorem ze_told (he : eR N h a st) (wf : wfT st) {x y : Nat} (hx : x < st.1.length) (hy : y < st.1.length) : fX1_isAnswered N (nI x) (nI y) h = some (bI (sTold st x y), h) := by
  obtain ⟨ra, a1, a2, a3, a4, -, a6⟩ := st_ans (ze_st he)
  have ha := wf.2.2.1
  have hn := wf.2.1
  obtain ⟨e, e1, e2⟩ := zb_lp (B := fun t => fX1_isAnswered_b2 N (nI x) (nI y) t.1 t.2) (fun j t => t = (nI j, h) ∧ fi (fun k => decide (anA st k = x) && decide (anB st k = y)) j = none) (fun e => e = if sTold st x y = true then .inl h else .inr h) st.2.1.length (by omega) (fun j t hj ht => by
    obtain ⟨rfl, hf⟩ := ht
    by_cases hjn : j < st.2.1.length
    · obtain ⟨z, z1, z2⟩ := a6 j hjn
      have hlt := an_lt wf hjn
      have hstep : fi (fun k => decide (anA st k = x) && decide (anB st k = y)) (j + 1) = if (decide (anA st j = x) && decide (anB st j = y)) = true then some j else none := by
        show (match fi (fun k => decide (anA st k = x) && decide (anB st k = y)) j with | some k => some k | none => _) = _
        rw [hf]
      simp only [fX1_isAnswered_b2, ze_now he, a1, bd_s, a2, a4, bd2_s, if_neg (nI_ge hjn (show st.2.1.length < 2 ^ 31 by omega)), z1, an_cast z2, an_b z2, an_w z2, nm_s, il1, zb_add]
      show (_ ∧ ∃ t', (if nI (anA st j) = nI x then (if nI (anB st j) = nI y then _ else _) else _) = _ ∧ _) ∨ ∃ e, (if nI (anA st j) = nI x then (if nI (anB st j) = nI y then _ else _) else _) = _ ∧ _
      simp only [zb_eq (show anA st j < 2 ^ 31 by omega) (show x < 2 ^ 31 by omega), zb_eq (show anB st j < 2 ^ 31 by omega) (show y < 2 ^ 31 by omega)]
      by_cases hc1 : anA st j = x
      · by_cases hc2 : anB st j = y
        · right
          refine ⟨.inl h, by rw [if_pos hc1, if_pos hc2], ?_⟩
          have : fi (fun k => decide (anA st k = x) && decide (anB st k = y)) st.2.1.length = some j := fi_some.mpr ⟨hjn, by rw [decide_eq_true hc1, decide_eq_true hc2]; rfl, fi_none.mp hf⟩
          rw [if_pos (by unfold sTold; rw [this]; rfl)]
        · left
          refine ⟨hjn, (nI (j + 1), h), by rw [if_pos hc1, if_neg hc2], rfl, ?_⟩
          rw [hstep, decide_eq_false hc2, Bool.and_false]; rfl
      · left
        refine ⟨hjn, (nI (j + 1), h), by rw [if_neg hc1], rfl, ?_⟩
        rw [hstep, decide_eq_false hc1, Bool.false_and]; rfl
    · right
      have hj2 : j = st.2.1.length := by omega
      refine ⟨.inr h, ?_, ?_⟩
      · simp only [fX1_isAnswered_b2, ze_now he, a1, bd_s, a2, a4, bd2_s, if_pos (nI_le (show st.2.1.length ≤ j by omega) (show j < 2 ^ 31 by omega))]
      · rw [if_neg (by unfold sTold; rw [← hj2, hf]; simp)]) (t0 := (nI 0, h)) ⟨rfl, rfl⟩
  simp only [fX1_isAnswered, il0, fl_X1_isAnswered_b2, e1, bd_s, e2]
  cases sTold st x y with
  | true => simp only [if_true, gEl_i, il1, gRz_1, bd_s, bI_t]
  | false => simp only [Bool.false_eq_true, if_false, gEl_e, gRz_0, bd_s, bI_f]
theorem ro_nil {c d : Nat} (hr : rm h c) : ro N d h h := ro_c (ro_rfl hr) (Nat.zero_le _)
/-- count -/
def spCount (st : stT) (w : Int32) : Int32 ⊕ Nat := if w = nI 0 then .inl (nI st.1.length) else if w = nI 1 then .inl (nI st.2.1.length) else if w = nI 2 then .inl (nI st.2.2.1) else if w = nI 3 then .inl (nI (sm (sLe (kn st.2.1)) st.1.length)) else
  if w = nI 4 then .inl (waysV st.1.length (canC (kn st.2.1) st.1.length) (2 ^ st.1.length - 1)) else if w = nI 5 then .inl (nI (sFixed st.1.length (kn st.2.1))) else if w = nI 6 then .inl (nI st.2.2.2.1) else if w = nI 7 then .inl (nI st.2.2.2.2) else if w = nI 8 then .inl (nI (sWrong st)) else .inr 2
theorem sw_rng {w : Int32} {n : Nat} (hn : n < 1000) : ((w : Int32).toInt < 0 ∨ (n : Int) < (w : Int32).toInt) ↔ ¬ ∃ k, k ≤ n ∧ w = nI k := by
  constructor
  · rintro h1 ⟨k, hk, rfl⟩
    rw [nI_toInt (by omega)] at h1
    omega
  · intro h1
    by_cases h0 : w < 0
    · left
      have := Int32.lt_iff_toInt_lt.mp h0
      exact this
    · obtain ⟨j, hj, rfl⟩ := nI_of h0
      right
      rw [nI_toInt hj]
      have : ¬ j ≤ n := fun h2 => h1 ⟨j, h2, rfl⟩
      omega
theorem q_count (he : eR N h a st) (wf : wfT st) (hr : rm h 100) (w : Int32) : cAns N 100 h (fX1_count N w h) (spCount st w) := by
  have hn := wf.2.1
  obtain ⟨ri, i1, i2, i3, i4, -, -⟩ := st_its (ze_st he)
  obtain ⟨ra, a1, a2, a3, a4, -, -⟩ := st_ans (ze_st he)
  by_cases hin : ∃ k, k ≤ 8 ∧ w = nI k
  · have hsw : ¬ ((w : Int32).toInt < 0 ∨ 8 < (w : Int32).toInt) := fun h1 => (sw_rng (n := 8) (by omega)).mp h1 hin
    obtain ⟨k, hk, rfl⟩ := hin
    obtain ⟨kk, h', k1, k2, k3, k4, k5, k6, k7⟩ := ze_known he wf hr (by omega)
    have hN : N + 20 ≤ h.2.1 := he.2.1
    obtain ⟨wv, o1, -, o3⟩ := ze_orders k5 k6 (wfT_in wf) hn hN k7
    have e0 : ∀ i j, i < 20 → j < 20 → (nI i = nI j) = (i = j) := fun i j hi hj => zb_eq (by omega) (by omega)
    rcases (show k = 0 ∨ k = 1 ∨ k = 2 ∨ k = 3 ∨ k = 4 ∨ k = 5 ∨ k = 6 ∨ k = 7 ∨ k = 8 by omega) with rfl | rfl | rfl | rfl | rfl | rfl | rfl | rfl | rfl
    · refine cAns_v (h' := h) ?_ (ro_nil hr)
      simp only [fX1_count, ze_is he, bd_s, ze_state he, bd2_s, gEl_i, if_neg hsw, il0, if_true, i1, i2, i4]
    · refine cAns_v (h' := h) ?_ (ro_nil hr)
      simp only [fX1_count, ze_is he, bd_s, ze_state he, bd2_s, gEl_i, if_neg hsw, il0, il1, e0 1 0 (by omega) (by omega), Nat.reduceEqDiff, if_false, if_true, a1, a2, a4]
    · refine cAns_v (h' := h) ?_ (ro_nil hr)
      simp only [fX1_count, ze_is he, bd_s, ze_state he, bd2_s, gEl_i, if_neg hsw, il0, il1, il2, e0 2 0 (by omega) (by omega), e0 2 1 (by omega) (by omega), Nat.reduceEqDiff, if_false, if_true, st_meth (ze_st he)]
    · refine cAns_v (h' := h') ?_ (ro_c k4 (by omega))
      simp only [fX1_count, ze_is he, bd_s, ze_state he, bd2_s, gEl_i, if_neg hsw, il0, il1, il2, il3, e0 3 0 (by omega) (by omega), e0 3 1 (by omega) (by omega), e0 3 2 (by omega) (by omega), Nat.reduceEqDiff, if_false, if_true, k1, k2, zk_rcv k6, zk_twos k6 hn]
    · refine cAns_v (h' := _) ?_ (ro_c (ro_t k4 o3) (by omega))
      simp only [fX1_count, ze_is he, bd_s, ze_state he, bd2_s, gEl_i, if_neg hsw, il0, il1, il2, il3, il4, e0 4 0 (by omega) (by omega), e0 4 1 (by omega) (by omega), e0 4 2 (by omega) (by omega), e0 4 3 (by omega) (by omega), Nat.reduceEqDiff, if_false, if_true, k1, k2, ze_is k5, o1]
    · refine cAns_v (h' := h') ?_ (ro_c k4 (by omega))
      simp only [fX1_count, ze_is he, bd_s, ze_state he, bd2_s, gEl_i, if_neg hsw, il0, il1, il2, il3, il4, il5, e0 5 0 (by omega) (by omega), e0 5 1 (by omega) (by omega), e0 5 2 (by omega) (by omega), e0 5 3 (by omega) (by omega), e0 5 4 (by omega) (by omega), Nat.reduceEqDiff, if_false, if_true, k1, k2, zk_fixed k6 hn wf.1]
    · refine cAns_v (h' := h) ?_ (ro_nil hr)
      simp only [fX1_count, ze_is he, bd_s, ze_state he, bd2_s, gEl_i, if_neg hsw, il0, il1, il2, il3, il4, il5, il6, e0 6 0 (by omega) (by omega), e0 6 1 (by omega) (by omega), e0 6 2 (by omega) (by omega), e0 6 3 (by omega) (by omega), e0 6 4 (by omega) (by omega), e0 6 5 (by omega) (by omega), Nat.reduceEqDiff, if_false, if_true, st_given (ze_st he)]
    · refine cAns_v (h' := h) ?_ (ro_nil hr)
      simp only [fX1_count, ze_is he, bd_s, ze_state he, bd2_s, gEl_i, if_neg hsw, il0, il1, il2, il3, il4, il5, il6, il7, e0 7 0 (by omega) (by omega), e0 7 1 (by omega) (by omega), e0 7 2 (by omega) (by omega), e0 7 3 (by omega) (by omega), e0 7 4 (by omega) (by omega), e0 7 5 (by omega) (by omega), e0 7 6 (by omega) (by omega), Nat.reduceEqDiff, if_false, if_true, st_taken (ze_st he)]
    · refine cAns_v (h' := h) ?_ (ro_nil hr)
      simp only [fX1_count, ze_is he, bd_s, ze_state he, bd2_s, gEl_i, if_neg hsw, il0, il1, il2, il3, il4, il5, il6, il7, il8, e0 8 0 (by omega) (by omega), e0 8 1 (by omega) (by omega), e0 8 2 (by omega) (by omega), e0 8 3 (by omega) (by omega), e0 8 4 (by omega) (by omega), e0 8 5 (by omega) (by omega), e0 8 6 (by omega) (by omega), e0 8 7 (by omega) (by omega), Nat.reduceEqDiff, if_false, if_true, st_rcv (ze_st he), zt_wrong (ze_st he) wf]
  · have hsw : ((w : Int32).toInt < 0 ∨ 8 < (w : Int32).toInt) := (sw_rng (n := 8) (by omega)).mpr hin
    have hno : ∀ k, k ≤ 8 → ¬ w = nI k := fun k hk e => hin ⟨k, hk, e⟩
    have hsp : spCount st w = .inr 2 := by
      unfold spCount
      rw [if_neg (hno 0 (by omega)), if_neg (hno 1 (by omega)), if_neg (hno 2 (by omega)), if_neg (hno 3 (by omega)), if_neg (hno 4 (by omega)), if_neg (hno 5 (by omega)), if_neg (hno 6 (by omega)), if_neg (hno 7 (by omega)), if_neg (hno 8 (by omega))]
    rw [hsp]
    refine cAns_x hr (by omega) ?_
    simp only [fX1_count, ze_is he, bd_s, ze_state he, bd2_s, gEl_i, if_pos hsw, fit_ok hr (show 6 + 1 ≤ 100 by omega), if_true]
end
