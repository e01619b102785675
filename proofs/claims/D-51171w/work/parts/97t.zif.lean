/-! L2 COMPONENT: toComeIf -/
set_option maxRecDepth 100000
section
variable {N a : Nat} {h : gHp} {st : stT}
theorem q_toComeIf (he : eR N h a st) (wf : wfT st) (hr : rm h 300) (x y : Int32) : cAns N 300 h (fX1_toComeIf N x y h) (if (iN x 0 ((st.1.length : Int) - 1) && iN y 0 ((st.1.length : Int) - 1)) = true then (if x = y then .inr 2 else if kn st.2.1 y.toNatClampNeg x.toNatClampNeg = true then .inr 2 else .inl (nI (sasks (wor st) (tell (kn st.2.1) x.toNatClampNeg y.toNatClampNeg) st.2.2.1 st.1.length))) else .inr 1) := by
  have hn := wf.2.1
  cases hg : (iN x 0 ((st.1.length : Int) - 1) && iN y 0 ((st.1.length : Int) - 1)) with
  | false =>
    refine cAns_x hr (by omega) ?_
    simp only [fX1_toComeIf, ze_is he, bd_s, ze_two he wf hr (show 7 ≤ 300 by omega), hg, Bool.false_eq_true, if_false, bd2_s, gEl_e]
  | true =>
    have hg2 := hg
    rw [Bool.and_eq_true] at hg2
    obtain ⟨i, rfl, hi, hi2⟩ := iN_of hg2.1 (by omega)
    obtain ⟨j, rfl, hj, hj2⟩ := iN_of hg2.2 (by omega)
    rw [if_pos rfl]
    by_cases hij : nI i = nI j
    · rw [if_pos hij]
      refine cAns_x hr (by omega) ?_
      simp only [fX1_toComeIf, ze_is he, bd_s, ze_two he wf hr (show 7 ≤ 300 by omega), hg, if_true, if_pos hij, bd2_s, gEl_e]
    · rw [if_neg hij, zb_cl hi2, zb_cl hj2]
      obtain ⟨k, h', k1, k2, k3, k4, k5, k6, k7⟩ := ze_known he wf hr (by omega)
      have hib := zk_isBetter k6 (show j < 10 by omega) (show i < 10 by omega)
      cases hR : kn st.2.1 j i with
      | true =>
        rw [hR] at hib
        rw [if_pos rfl]
        have hck : fX1_checkRange (nI 0) h' = some (.inr (2, h'.2.1), gpush0 h' 6) := ck_range k7 (show 7 ≤ 300 - 26 by omega) false
        refine ⟨.inr (2, h'.2.1), gpush0 h' 6, ?_, ro_c (ro_t k4 (ro_n k7 (push0_st k7))) (by omega), _, rfl⟩
        simp only [fX1_toComeIf, ze_is he, bd_s, ze_two he wf hr (show 7 ≤ 300 by omega), hg, if_true, if_neg hij, bd2_s, gEl_i, k1, k2, zk_rcv k6, hib, bI_t, il0, if_neg n10_ne, fX1_toComeIf_j28, hck, Bool.false_eq_true, if_false, gEl_e]
      | false =>
        rw [hR] at hib
        simp only [Bool.false_eq_true, if_false]
        have hck : fX1_checkRange (nI 1) h' = some (.inl (), h') := ck_range k7 (show 7 ≤ 300 - 26 by omega) true
        have hbB : h'.2.2.2.1 ≤ h.2.1 := by have := he.1; have := he.2.1; rw [k3.2.2.1]; omega
        obtain ⟨h2, t1, t2, t3⟩ := zk_tells k6 hn (wfT_in wf) (kn_tr _) (show i < st.1.length by omega) (show j < st.1.length by omega) (rm_w k7 (by omega)) hbB
        have ro2 : ro N (26 + 0) h h2 := ro_f k4 k7 t2 (Nat.le_refl _) he.2.1
        have he2 := eR_ro hr he ro2
        have r2 : rm h2 270 := rm_st hr ro2.1 (by omega)
        obtain ⟨h3, w1, w2⟩ := zq_asks he2 wf t3 he.2.1 (tell_in (wfT_in wf) (show i < st.1.length by omega) (show j < st.1.length by omega)) (tell_tr (kn_tr _)) wf.2.2.2.2.2.1 r2 (by omega)
        have hmeth := st_meth he2.2.2.2.2.2
        refine cAns_v (h' := h3) ?_ (ro_c (ro_t ro2 w2) (by omega))
        simp only [fX1_toComeIf, ze_is he, bd_s, ze_two he wf hr (show 7 ≤ 300 by omega), hg, if_true, if_neg hij, bd2_s, gEl_i, k1, k2, zk_rcv k6, hib, bI_f, il0, fX1_toComeIf_j28, il1, hck, t1, hmeth, ze_is he2, w1]
end
