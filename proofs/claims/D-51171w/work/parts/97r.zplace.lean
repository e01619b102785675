/-! L2 COMPONENT: placeThen, afresh -/
set_option maxRecDepth 100000
/-- a sort that asks comes to its end -/
theorem sgo_true (W R : Nat → Nat → Bool) (mt : Nat) {n : Nat} (hn : n ≤ 10) : ∃ v, sgo (jd true W) mt n (R, 0, 0) = .inl v ∧ v.1.Perm (List.range n) := by
  have h1 := sf_go mt hn (jd true W) (fun _ => True) (fun _ => False) (fun x y d s _ _ _ _ => by
    by_cases hu : s.1 x y = false ∧ s.1 y x = false
    · rw [jd_ask hu]; trivial
    · rw [jd_known hu]; trivial) (R, 0, 0) trivial
  cases hz : sgo (jd true W) mt n (R, 0, 0) with
  | inl v => simp only [hz] at h1; exact ⟨v, rfl, h1.1⟩
  | inr er => simp only [hz] at h1; exact h1.1.elim
/-- the order that would come of the worths -/
def sThen (W R : Nat → Nat → Bool) (mt n : Nat) : List Nat := match sgo (jd true W) mt n (R, 0, 0) with
  | .inl v => v.1
  | .inr _ => []
section
variable {N a : Nat} {h : gHp} {st : stT}
theorem q_placeThen (he : eR N h a st) (wf : wfT st) (hr : rm h 300) (x : Int32) : cAns N 300 h (fX1_placeThen N x h) (if iN x 0 ((st.1.length : Int) - 1) = true then .inl (nI ((sThen (wor st) (kn st.2.1) st.2.2.1 st.1.length).idxOf x.toNatClampNeg)) else .inr 1) := by
  have hn := wf.2.1
  cases hg : iN x 0 ((st.1.length : Int) - 1) with
  | false =>
    refine cAns_x hr (by omega) ?_
    simp only [fX1_placeThen, ze_is he, bd_s, ze_item he wf hr (show 7 ≤ 300 by omega), hg, Bool.false_eq_true, if_false, bd2_s, gEl_e]
  | true =>
    obtain ⟨i, rfl, hi, hi2⟩ := iN_of hg (by omega)
    obtain ⟨k, h', k1, k2, k3, k4, k5, k6, k7⟩ := ze_known he wf hr (by omega)
    obtain ⟨va, h2, w1, w2, w3⟩ := zq_found k5 wf k6 he.2.1 (wfT_in wf) (kn_tr _) wf.2.2.2.2.2.1 k7 (by omega)
    obtain ⟨v, hv, hp⟩ := sgo_true (wor st) (kn st.2.1) st.2.2.1 hn
    have hS : sThen (wor st) (kn st.2.1) st.2.2.1 st.1.length = v.1 := by unfold sThen; rw [hv]
    rw [hv] at w3
    obtain ⟨-, w4⟩ := w3
    rw [if_pos rfl, zb_cl hi2, hS]
    have hmem : i ∈ v.1 := hp.mem_iff.2 (List.mem_range.2 (by omega))
    have hpl := zx_place w4 hmem (fun y hy => by have := List.mem_range.1 (hp.mem_iff.1 hy); omega)
    have hmeth := st_meth k5.2.2.2.2.2
    refine cAns_v (h' := h2) ?_ (ro_c (ro_t k4 w2) (by omega))
    simp only [fX1_placeThen, ze_is he, bd_s, ze_item he wf hr (show 7 ≤ 300 by omega), hg, if_true, bd2_s, gEl_i, k1, k2, hmeth, ze_is k5, w1, hpl]
theorem q_afresh (he : eR N h a st) (wf : wfT st) (hr : rm h 300) (x : Int32) : cAns N 300 h (fX1_afresh N x h) (if iN x 0 2 = true then .inl (nI (sasks (wor st) (fun _ _ => false) x.toNatClampNeg st.1.length)) else .inr 2) := by
  cases hg : iN x 0 2 with
  | false =>
    refine cAns_x hr (by omega) ?_
    simp only [fX1_afresh, ze_is he, bd_s, ze_state he, bd2_s, gEl_i, il0, il2, in_02, hg, ck_range hr (show 7 ≤ 300 by omega), Bool.false_eq_true, if_false, gEl_e]
  | true =>
    obtain ⟨m, rfl, hm, hm2⟩ := iN_of hg (by omega)
    have s1 : stn 4 h (gpush h (.inr (7, [gq none, gq none, gi (nI 0)])) 3) := push_st hr
    have w1 : gNewO h 7 dfX9 3 = some (h.2.1, gpush h (.inr (7, [gq none, gq none, gi (nI 0)])) 3) := by rw [dfX9_e]; exact nO_ok hr (by omega)
    have q1 := push_at h (.inr (7, [gq none, gq none, gi (nI 0)])) 3
    generalize gpush h (.inr (7, [gq none, gq none, gi (nI 0)])) 3 = g1 at s1 w1 q1
    have r1 : rm g1 296 := rm_st hr s1 (by omega)
    have he1 : eR N g1 a st := eR_ro hr he (ro_n hr s1)
    obtain ⟨g2, w2, s2, hk2⟩ := zk_new (B := h.2.1) (n := st.1.length) q1 (Nat.le_refl _) (rm_w r1 (by omega)) (by have := he1.1; have := he.2.1; omega)
    have s12 : stn 26 h g2 := stk_c (stk_tr s1 s2 (fun y hy _ _ => ⟨fun h9 => by omega, .inr not_nil⟩)) (by omega)
    have r2 : rm g2 274 := rm_st hr s12 (by omega)
    have he2 : eR N g2 a st := eR_ro hr he (ro_n hr s12)
    obtain ⟨g3, w3, s3⟩ := zq_asks (mt := m) he2 wf hk2 he.2.1 (fun _ _ h => by cases h) (fun _ _ _ h => by cases h) (by omega) r2 (by omega)
    obtain ⟨r, e1, e2, e3, e4, -⟩ := st_its he1.2.2.2.2.2
    rw [if_pos rfl, zb_cl hm2]
    refine cAns_v (h' := g3) ?_ (ro_c (ro_t (ro_n hr s12) s3) (by omega))
    simp only [fX1_afresh, ze_is he, bd_s, ze_state he, bd2_s, gEl_i, il0, il2, in_02, hg, ck_range hr (show 7 ≤ 300 by omega), if_true, w1, e1, e2, e4, w2, ze_is he2, w3]
end
