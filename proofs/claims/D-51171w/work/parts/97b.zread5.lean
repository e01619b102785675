/-! L2 COMPONENT: the calls that read (5): item, letter, answer, told -/
set_option maxRecDepth 100000
section
variable {N a : Nat} {h : gHp} {st : stT}
def nmA (st : stT) (i : Nat) : List Nat := (st.1.getD i ([], 0)).1
theorem nm_len {st : stT} (wf : wfT st) {i : Nat} (hi : i < st.1.length) : 1 ≤ (nmA st i).length ∧ (nmA st i).length ≤ 6 := ⟨(wf.2.2.2.2.2.2 _ (getD_m hi)).1, (wf.2.2.2.2.2.2 _ (getD_m hi)).2.1⟩
def spItem (st : stT) (x w : Int32) : Int32 ⊕ Nat := if iN x 0 ((st.1.length : Int) - 1) = true then
    (if w = nI 0 then .inl (nI (wo st x.toNatClampNeg)) else if w = nI 1 then .inl (nI (sLe (kn st.2.1) x.toNatClampNeg)) else if w = nI 2 then .inl (sGr st.1.length (kn st.2.1) x.toNatClampNeg) else if w = nI 3 then .inl (nI (sOf st x.toNatClampNeg true)) else if w = nI 4 then .inl (nI (sOf st x.toNatClampNeg false)) else
      if w = nI 5 then .inl (nI (sPlace st x.toNatClampNeg)) else if w = nI 6 then .inl (nI (nmA st x.toNatClampNeg).length) else .inr 2) else .inr 1
theorem q_item (he : eR N h a st) (wf : wfT st) (hr : rm h 100) (x w : Int32) : cAns N 100 h (fX1_item N x w h) (spItem st x w) := by
  have hn := wf.2.1
  have hg2 := ze_item he wf hr (show 7 ≤ 100 by omega) x
  unfold spItem
  cases hg : iN x 0 ((st.1.length : Int) - 1) with
  | false =>
    rw [hg] at hg2
    refine cAns_x hr (by omega) ?_
    simp only [fX1_item, ze_is he, bd_s, hg2, Bool.false_eq_true, if_false, bd2_s, gEl_e]
  | true =>
    rw [hg] at hg2
    rw [if_pos rfl]
    obtain ⟨i, rfl, hi, hi2⟩ := iN_of hg (by omega)
    have hil : i < st.1.length := by omega
    rw [zb_cl hi2]
    obtain ⟨ri, i1, i2, i3, i4, -, i6⟩ := st_its (ze_st he)
    obtain ⟨y, y1, y2⟩ := i6 i hil
    obtain ⟨sa, n1, n2⟩ := it_n y2
    by_cases hin : ∃ k, k ≤ 6 ∧ w = nI k
    · have hsw : ¬ ((w : Int32).toInt < 0 ∨ 6 < (w : Int32).toInt) := fun h1 => (sw_rng (n := 6) (by omega)).mp h1 hin
      obtain ⟨k, hk, rfl⟩ := hin
      obtain ⟨kk, h', k1, k2, k3, k4, k5, k6, k7⟩ := ze_known he wf hr (by omega)
      have e0 : ∀ i j, i < 20 → j < 20 → (nI i = nI j) = (i = j) := fun i j hi hj => zb_eq (by omega) (by omega)
      have hof1 := ze_of he wf hil true
      have hof0 := ze_of he wf hil false
      rw [bI_t] at hof1
      rw [bI_f] at hof0
      rcases (show k = 0 ∨ k = 1 ∨ k = 2 ∨ k = 3 ∨ k = 4 ∨ k = 5 ∨ k = 6 by omega) with rfl | rfl | rfl | rfl | rfl | rfl | rfl
      · refine cAns_v (h' := h) ?_ (ro_nil hr)
        simp only [fX1_item, ze_is he, bd_s, hg2, if_true, bd2_s, gEl_i, if_neg hsw, il0, i1, i2, y1, it_cast y2, it_w y2]
        rfl
      · refine cAns_v (h' := h') ?_ (ro_c k4 (by omega))
        simp only [fX1_item, ze_is he, bd_s, hg2, if_true, bd2_s, gEl_i, if_neg hsw, il0, il1, e0 1 0 (by omega) (by omega), Nat.reduceEqDiff, if_false, k1, k2, zk_rcv k6, zk_least k6 (show i < 10 by omega)]
        rfl
      · refine cAns_v (h' := h') ?_ (ro_c k4 (by omega))
        simp only [fX1_item, ze_is he, bd_s, hg2, if_true, bd2_s, gEl_i, if_neg hsw, il0, il1, il2, e0 2 0 (by omega) (by omega), e0 2 1 (by omega) (by omega), Nat.reduceEqDiff, if_false, k1, k2, zk_rcv k6, zk_greatest k6 (show i < 10 by omega) wf.1]
        rfl
      · refine cAns_v (h' := h) ?_ (ro_nil hr)
        simp only [fX1_item, ze_is he, bd_s, hg2, if_true, bd2_s, gEl_i, if_neg hsw, il0, il1, il2, il3, e0 3 0 (by omega) (by omega), e0 3 1 (by omega) (by omega), e0 3 2 (by omega) (by omega), Nat.reduceEqDiff, if_false, hof1]
      · refine cAns_v (h' := h) ?_ (ro_nil hr)
        simp only [fX1_item, ze_is he, bd_s, hg2, if_true, bd2_s, gEl_i, if_neg hsw, il0, il1, il2, il3, il4, e0 4 0 (by omega) (by omega), e0 4 1 (by omega) (by omega), e0 4 2 (by omega) (by omega), e0 4 3 (by omega) (by omega), Nat.reduceEqDiff, if_false, hof0]
      · refine cAns_v (h' := h) ?_ (ro_nil hr)
        simp only [fX1_item, ze_is he, bd_s, hg2, if_true, bd2_s, gEl_i, if_neg hsw, il0, il1, il2, il3, il4, il5, e0 5 0 (by omega) (by omega), e0 5 1 (by omega) (by omega), e0 5 2 (by omega) (by omega), e0 5 3 (by omega) (by omega), e0 5 4 (by omega) (by omega), Nat.reduceEqDiff, if_false, ze_place he wf hil]
      · refine cAns_v (h' := h) ?_ (ro_nil hr)
        simp only [fX1_item, ze_is he, bd_s, hg2, if_true, bd2_s, gEl_i, if_neg hsw, il0, il1, il2, il3, il4, il5, il6, e0 6 0 (by omega) (by omega), e0 6 1 (by omega) (by omega), e0 6 2 (by omega) (by omega), e0 6 3 (by omega) (by omega), e0 6 4 (by omega) (by omega), e0 6 5 (by omega) (by omega), Nat.reduceEqDiff, if_false, i1, i2, y1, it_cast y2, n1, zs_rcv n2, zs_len n2]
        rfl
    · have hsw : ((w : Int32).toInt < 0 ∨ 6 < (w : Int32).toInt) := (sw_rng (n := 6) (by omega)).mpr hin
      have hno : ∀ k, k ≤ 6 → ¬ w = nI k := fun k hk e => hin ⟨k, hk, e⟩
      rw [if_neg (hno 0 (by omega)), if_neg (hno 1 (by omega)), if_neg (hno 2 (by omega)), if_neg (hno 3 (by omega)), if_neg (hno 4 (by omega)), if_neg (hno 5 (by omega)), if_neg (hno 6 (by omega))]
      refine cAns_x hr (by omega) ?_
      simp only [fX1_item, ze_is he, bd_s, hg2, if_true, bd2_s, gEl_i, if_pos hsw, fit_ok hr (show 6 + 1 ≤ 100 by omega)]
theorem q_letter (he : eR N h a st) (wf : wfT st) (hr : rm h 100) (x y : Int32) : cAns N 100 h (fX1_letter N x y h) (if iN x 0 ((st.1.length : Int) - 1) = true then .inl (if iN y 0 (((nmA st x.toNatClampNeg).length : Int) - 1) = true then nI ((nmA st x.toNatClampNeg).getD y.toNatClampNeg 0) else -nI 1) else .inr 1) := by
  have hn := wf.2.1
  have hg2 := ze_item he wf hr (show 7 ≤ 100 by omega) x
  cases hg : iN x 0 ((st.1.length : Int) - 1) with
  | false =>
    rw [hg] at hg2
    refine cAns_x hr (by omega) ?_
    simp only [fX1_letter, ze_is he, bd_s, hg2, Bool.false_eq_true, if_false, bd2_s, gEl_e]
  | true =>
    rw [hg] at hg2
    rw [if_pos rfl]
    obtain ⟨i, rfl, hi, hi2⟩ := iN_of hg (by omega)
    have hil : i < st.1.length := by omega
    rw [zb_cl hi2]
    obtain ⟨ri, i1, i2, i3, i4, -, i6⟩ := st_its (ze_st he)
    obtain ⟨z, z1, z2⟩ := i6 i hil
    obtain ⟨sa, n1, n2⟩ := it_n z2
    have n2' : strR (Lp N) h sa (nmA st i) := n2
    have hnl := nm_len wf hil
    have hm : (nI (nmA st i).length - nI 1).toInt = ((nmA st i).length : Int) - 1 := pk_sub_toInt (by omega) (by omega)
    refine cAns_v (h' := h) ?_ (ro_nil hr)
    cases hy : iN y 0 (((nmA st i).length : Int) - 1) with
    | false =>
      simp only [fX1_letter, ze_is he, bd_s, hg2, if_true, bd2_s, gEl_i, i1, i2, z1, it_cast z2, n1, zs_rcv n2', zs_len n2', zb_in1, il0, il1, hm, toInt0, hy, bI_f, Bool.false_eq_true, if_false]
    | true =>
      obtain ⟨j, rfl, hj, hj2⟩ := iN_of hy (by omega)
      rw [zb_cl hj2]
      simp only [fX1_letter, ze_is he, bd_s, hg2, if_true, bd2_s, gEl_i, i1, i2, z1, it_cast z2, n1, zs_rcv n2', zs_is n2', zs_len n2', zb_in1, il0, il1, hm, toInt0, hy, bI_t, one_ne0, if_false, zs_char n2' (show j < (nmA st i).length by omega)]
/-- whether an answer would be known without it -/
def sSpare (st : stT) (i : Nat) : Bool := kn (st.2.1.eraseIdx i) (anA st i) (anB st i)
theorem zt_spare {M L : Nat → Prop} {s : Nat} (hs : stR M L h s st) (wf : wfT st) {i : Nat} (hi : i < st.2.1.length) (hr : rm h 26) : ∃ h', fX1_isNeedless (some s) (nI i) h = some (bI (sSpare st i), h') ∧ stn 26 h h' := by
  have hn := wf.2.1
  have ha := wf.2.2.1
  obtain ⟨k, h1, c1, c2, c3⟩ := zt_but hs hn ha wf.2.2.2.1 hr (some i) (fun j hj => by cases hj; omega)
  have hs1 := stR_k hs (kps_n hr c2) (kps_n hr c2)
  obtain ⟨ra, a1, a2, a3, a4, -, a6⟩ := st_ans hs1
  obtain ⟨y, y1, y2⟩ := a6 i hi
  have hlt := an_lt wf hi
  refine ⟨h1, ?_, c2⟩
  have hb := zk_isBetter c3 (show anA st i < 10 by omega) (show anB st i < 10 by omega)
  simp only [fX1_isNeedless, st_rcv hs, bd_s]
  rw [show nI i = oI (some i) from rfl, c1]
  simp only [bd2_s, a1, bd_s, a2]
  rw [show oI (some i) = nI i from rfl]
  simp only [y1, bd2_s, an_cast y2, bd_s, an_b y2, an_w y2, a1, a2, zk_rcv c3]
  show bd2 (fX9_isBetter k (nI (anA st i)) (nI (anB st i)) h1) _ = _
  rw [hb]
  simp only [bd2_s, gRz_b, bd_s]
  rfl
def spAns (st : stT) (x w : Int32) : Int32 ⊕ Nat := if iN x 0 ((st.2.1.length : Int) - 1) = true then
    (if w = nI 0 then .inl (nI (anA st x.toNatClampNeg)) else if w = nI 1 then .inl (nI (anB st x.toNatClampNeg)) else if w = nI 2 then .inl (bI (sSpare st x.toNatClampNeg)) else if w = nI 3 then .inl (bI (!wor st (anA st x.toNatClampNeg) (anB st x.toNatClampNeg))) else .inr 2) else .inr 1
theorem q_answer (he : eR N h a st) (wf : wfT st) (hr : rm h 100) (x w : Int32) : cAns N 100 h (fX1_answer N x w h) (spAns st x w) := by
  have hn := wf.2.1
  have ha := wf.2.2.1
  have hg2 := ze_ansr he wf hr (show 7 ≤ 100 by omega) x
  unfold spAns
  cases hg : iN x 0 ((st.2.1.length : Int) - 1) with
  | false =>
    rw [hg] at hg2
    refine cAns_x hr (by omega) ?_
    simp only [fX1_answer, ze_is he, bd_s, hg2, Bool.false_eq_true, if_false, bd2_s, gEl_e]
  | true =>
    rw [hg] at hg2
    rw [if_pos rfl]
    obtain ⟨i, rfl, hi, hi2⟩ := iN_of hg (by omega)
    have hil : i < st.2.1.length := by omega
    rw [zb_cl hi2]
    obtain ⟨ra, a1, a2, a3, a4, -, a6⟩ := st_ans (ze_st he)
    obtain ⟨y, y1, y2⟩ := a6 i hil
    have hlt := an_lt wf hil
    by_cases hin : ∃ k, k ≤ 3 ∧ w = nI k
    · have hsw : ¬ ((w : Int32).toInt < 0 ∨ 3 < (w : Int32).toInt) := fun h1 => (sw_rng (n := 3) (by omega)).mp h1 hin
      obtain ⟨k, hk, rfl⟩ := hin
      have e0 : ∀ i j, i < 20 → j < 20 → (nI i = nI j) = (i = j) := fun i j hi hj => zb_eq (by omega) (by omega)
      rcases (show k = 0 ∨ k = 1 ∨ k = 2 ∨ k = 3 by omega) with rfl | rfl | rfl | rfl
      · refine cAns_v (h' := h) ?_ (ro_nil hr)
        simp only [fX1_answer, ze_is he, bd_s, hg2, if_true, bd2_s, gEl_i, if_neg hsw, il0, a1, a2, y1, an_cast y2, an_b y2]
        rfl
      · refine cAns_v (h' := h) ?_ (ro_nil hr)
        simp only [fX1_answer, ze_is he, bd_s, hg2, if_true, bd2_s, gEl_i, if_neg hsw, il0, il1, e0 1 0 (by omega) (by omega), Nat.reduceEqDiff, if_false, a1, a2, y1, an_cast y2, an_w y2]
        rfl
      · obtain ⟨h', p1, p2⟩ := zt_spare (ze_st he) wf hil (rm_w hr (by omega))
        refine cAns_v (h' := h') ?_ (ro_c (ro_n hr p2) (by omega))
        simp only [fX1_answer, ze_is he, bd_s, hg2, if_true, bd2_s, gEl_i, if_neg hsw, il0, il1, il2, e0 2 0 (by omega) (by omega), e0 2 1 (by omega) (by omega), Nat.reduceEqDiff, if_false, a1, a2, y1, an_cast y2, p1, z_one]
      · refine cAns_v (h' := h) ?_ (ro_nil hr)
        simp only [fX1_answer, ze_is he, bd_s, hg2, if_true, bd2_s, gEl_i, if_neg hsw, il0, il1, il2, il3, e0 3 0 (by omega) (by omega), e0 3 1 (by omega) (by omega), e0 3 2 (by omega) (by omega), Nat.reduceEqDiff, if_false, a1, a2, y1, an_cast y2, an_b y2, an_w y2, st_rcv (ze_st he)]
        show bd2 (fX4_isWorthier a (nI (anA st i)) (nI (anB st i)) h) _ = _
        rw [zt_wor (ze_st he) wf hlt.1 hlt.2]
        simp only [bd2_s, bI_0, fX1_answer_j101, ← bI_t, ← bI_f, z_one]
        cases wor st (anA st i) (anB st i) <;> rfl
    · have hsw : ((w : Int32).toInt < 0 ∨ 3 < (w : Int32).toInt) := (sw_rng (n := 3) (by omega)).mpr hin
      have hno : ∀ k, k ≤ 3 → ¬ w = nI k := fun k hk e => hin ⟨k, hk, e⟩
      rw [if_neg (hno 0 (by omega)), if_neg (hno 1 (by omega)), if_neg (hno 2 (by omega)), if_neg (hno 3 (by omega))]
      refine cAns_x hr (by omega) ?_
      simp only [fX1_answer, ze_is he, bd_s, hg2, if_true, bd2_s, gEl_i, a1, a2, y1, an_cast y2, if_pos hsw, fit_ok hr (show 6 + 1 ≤ 100 by omega)]
end
