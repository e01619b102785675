/-! L2 COMPONENT: toComeWithout -/
set_option maxRecDepth 100000
section
variable {N a : Nat} {h : gHp} {st : stT}
theorem q_toComeWithout (he : eR N h a st) (wf : wfT st) (hr : rm h 300) (x : Int32) : cAns N 300 h (fX1_toComeWithout N x h) (if iN x 0 ((st.2.1.length : Int) - 1) = true then .inl (nI (sasks (wor st) (kn (st.2.1.eraseIdx x.toNatClampNeg)) st.2.2.1 st.1.length)) else .inr 1) := by
  have hn := wf.2.1
  have ha := wf.2.2.1
  cases hg : iN x 0 ((st.2.1.length : Int) - 1) with
  | false =>
    refine cAns_x hr (by omega) ?_
    simp only [fX1_toComeWithout, ze_is he, bd_s, ze_ansr he wf hr (show 7 ≤ 300 by omega), hg, Bool.false_eq_true, if_false, bd2_s, gEl_e]
  | true =>
    obtain ⟨i, rfl, hi, hi2⟩ := iN_of hg (by omega)
    have hst := he.2.2.2.2.2
    obtain ⟨k, h', k1, k2, k3⟩ := zt_but hst hn ha wf.2.2.2.1 (rm_w hr (by omega)) (some i) (fun j hj => by cases hj; exact hi2)
    have k1 : fX4_knownBut a (nI i) h = some (some k, h') := k1
    have k3 : knR h.2.1 h' k st.1.length (kn (st.2.1.eraseIdx i)) := k3
    have he' : eR N h' a st := eR_ro hr he (ro_n hr k2)
    have r' : rm h' 274 := rm_st hr k2 (by omega)
    obtain ⟨h2, w1, w2⟩ := zq_asks he' wf k3 he.2.1 (kn_er_in wf i) (kn_tr _) wf.2.2.2.2.2.1 r' (by omega)
    have hmeth := st_meth he'.2.2.2.2.2
    rw [if_pos rfl, zb_cl hi2]
    refine cAns_v (h' := h2) ?_ (ro_c (ro_t (ro_n hr k2) w2) (by omega))
    simp only [fX1_toComeWithout, ze_is he, bd_s, ze_ansr he wf hr (show 7 ≤ 300 by omega), hg, if_true, bd2_s, gEl_i, st_rcv hst, k1, hmeth, ze_is he', w1]
end
