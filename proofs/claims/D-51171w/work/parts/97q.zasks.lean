/-! L2 COMPONENT: how many questions are to come -/
set_option maxRecDepth 100000
section
variable {N a : Nat} {h : gHp} {st : stT}
theorem zq_asks {B q mt c : Nat} {R : Nat → Nat → Bool} (he : eR N h a st) (wf : wfT st) (hk : knR B h q st.1.length R) (hB : N + 20 ≤ B) (hR : rin R st.1.length) (ht : trR R) (hm : mt < 3) (hr : rm h c) (hc : 180 ≤ c) : ∃ h', fX1_asksFor N (some a) (some q) (nI mt) h = some (nI (sasks (wor st) R mt st.1.length), h') ∧ ro N 180 h h' := by
  obtain ⟨va, h', e1, e2, e3⟩ := zq_found he wf hk hB hR ht hm hr hc
  refine ⟨h', ?_, e2⟩
  have hn : gGi h' (some N) 0 11 = some (nI (sasks (wor st) R mt st.1.length)) := by
    unfold sasks
    cases hz : sgo (jd true (wor st)) mt st.1.length (R, 0, 0) with
    | inl v => rw [hz] at e3; exact e3.1
    | inr er => rw [hz] at e3; exact e3.1
  simp only [fX1_asksFor, ze_is he, bd_s, e1, bd2_s, hn]
theorem in_02 (x : Int32) (h : gHp) : fX1_in x (nI 0) (nI 2) h = some (bI (iN x 0 2), h) := by
  rw [zb_in1, zb_ti (by omega), zb_ti (by omega)]
  rfl
theorem q_toCome (he : eR N h a st) (wf : wfT st) (hr : rm h 300) (x : Int32) : cAns N 300 h (fX1_toCome N x h) (if iN x 0 2 = true then .inl (nI (sasks (wor st) (kn st.2.1) x.toNatClampNeg st.1.length)) else .inr 2) := by
  cases hg : iN x 0 2 with
  | false =>
    refine cAns_x hr (by omega) ?_
    simp only [fX1_toCome, ze_is he, bd_s, ze_state he, bd2_s, gEl_i, il0, il2, in_02, hg, ck_range hr (show 7 ≤ 300 by omega), Bool.false_eq_true, if_false, gEl_e]
  | true =>
    obtain ⟨m, rfl, hm, hm2⟩ := iN_of hg (by omega)
    obtain ⟨k, h', k1, k2, k3, k4, k5, k6, k7⟩ := ze_known he wf hr (by omega)
    obtain ⟨h2, w1, w2⟩ := zq_asks (mt := m) k5 wf k6 he.2.1 (wfT_in wf) (kn_tr _) (by omega) k7 (by omega)
    rw [if_pos rfl, zb_cl hm2]
    refine cAns_v (h' := h2) ?_ (ro_c (ro_t k4 w2) (by omega))
    simp only [fX1_toCome, ze_is he, bd_s, ze_state he, bd2_s, gEl_i, il0, il2, in_02, hg, ck_range hr (show 7 ≤ 300 by omega), if_true, k1, k2, ze_is k5, w1]
/-- the method with the fewest questions -/
def sBest (st : stT) : Nat :=
  let q := fun m => sasks (wor st) (kn st.2.1) m st.1.length
  let b := if nI (q 0) ≤ nI (q 1) then 0 else 1
  if nI (q b) ≤ nI (q 2) then b else 2
theorem q_bestMethod (he : eR N h a st) (wf : wfT st) (hr : rm h 800) : cAns N 800 h (fX1_bestMethod N h) (.inl (nI (sBest st))) := by
  obtain ⟨k, h', k1, k2, k3, k4, k5, k6, k7⟩ := ze_known he wf hr (by omega)
  have kB : N + 20 ≤ h.2.1 := he.2.1
  have kp : ∀ {d : Nat} {g g' : gHp}, rm g d → knR h.2.1 g k st.1.length (kn st.2.1) → ro N 180 g g' → knR h.2.1 g' k st.1.length (kn st.2.1) := fun hrg hp s => knR_k hp (fun y e hy hz _ => stk_keep hrg s.1 hz (by have hy : h.2.1 ≤ y := hy; omega) (.inr not_nil))
  have step : ∀ (b m c : Nat) (g : gHp), b < 3 → m < 3 → eR N g a st → knR h.2.1 g k st.1.length (kn st.2.1) → rm g c → 360 ≤ c → ∃ g', fX1_bestMethod_b15 N (some a) (some k) (nI b) (nI m) g = some (.inl (nI (if nI (sasks (wor st) (kn st.2.1) b st.1.length) ≤ nI (sasks (wor st) (kn st.2.1) m st.1.length) then b else m), nI (m + 1), g')) ∧ ro N 360 g g' ∧ eR N g' a st ∧ knR h.2.1 g' k st.1.length (kn st.2.1) ∧ rm g' (c - 360) := by
    intro b m c g hb3 hm3 heg hkg hrg hcg
    obtain ⟨g2, w1, w2⟩ := zq_asks (mt := m) heg wf hkg kB (wfT_in wf) (kn_tr _) hm3 hrg (by omega)
    have he2 := eR_ro hrg heg w2
    have r2 : rm g2 (c - 180) := rm_st hrg w2.1 (by omega)
    have hk2 := kp hrg hkg w2
    obtain ⟨g3, w3, w4⟩ := zq_asks (mt := b) he2 wf hk2 kB (wfT_in wf) (kn_tr _) hb3 r2 (by omega)
    have r3 : rm g3 (c - 360) := rm_st r2 w4.1 (by omega)
    refine ⟨g3, ?_, ro_t w2 w4, eR_ro r2 he2 w4, kp r2 hk2 w4, r3⟩
    simp only [fX1_bestMethod_b15, il3, if_neg (nI_ge hm3 (show 3 < 2 ^ 31 by omega)), ze_is heg, bd_s, w1, bd2_s, ze_is he2, w3, il1, zb_add, nm_s]
    split <;> rfl
  obtain ⟨g1, w1, s1, e1, p1, r1⟩ := step 0 1 _ h' (by omega) (by omega) k5 k6 k7 (by omega)
  obtain ⟨b1, hb1⟩ : ∃ b1, b1 = (if nI (sasks (wor st) (kn st.2.1) 0 st.1.length) ≤ nI (sasks (wor st) (kn st.2.1) 1 st.1.length) then 0 else 1) := ⟨_, rfl⟩
  have hb13 : b1 < 3 := by rw [hb1]; split <;> omega
  rw [← hb1] at w1
  obtain ⟨g2, w2, s2, e2, p2, r2⟩ := step b1 2 _ g1 hb13 (by omega) e1 p1 r1 (by omega)
  have hS : sBest st = (if nI (sasks (wor st) (kn st.2.1) b1 st.1.length) ≤ nI (sasks (wor st) (kn st.2.1) 2 st.1.length) then b1 else 2) := by
    rw [hb1]; rfl
  rw [← hS] at w2
  refine cAns_v (h' := g2) ?_ (ro_c (ro_t k4 (ro_t s1 s2)) (by omega))
  have hl : lp (fun t => fX1_bestMethod_b15 N (some a) (some k) t.1 t.2.1 t.2.2) 4096 (nI 0, nI 1, h') = some (nI (sBest st), g2) := by
    rw [show (4096 : Nat) = 4093 + 1 + 1 + 1 from rfl, lp_s]
    simp only [w1]
    rw [lp_s]
    simp only [w2]
    rw [lp_s]
    simp only [fX1_bestMethod_b15, il3, if_pos (nI_le (Nat.le_refl (2 + 1)) (show 2 + 1 < 2 ^ 31 by omega))]
  simp only [fX1_bestMethod, ze_is he, bd_s, ze_state he, bd2_s, gEl_i, k1, k2, fl_X1_bestMethod_b15, il0, il1, hl, ap2_s]
end
