/-! L2 COMPONENT: the calls that read (4) -/
set_option maxRecDepth 100000
section
variable {N a : Nat} {h : gHp} {st : stT}
theorem q_fairest (he : eR N h a st) (wf : wfT st) (hr : rm h 6000) (second : Int32) : cAns N 6000 h (fX1_fairest N second h) (.inl (match sFair st.1.length (kn st.2.1) with | none => -nI 1 | some p => if second = nI 0 then nI p.1 else nI p.2)) := by
  have hn := wf.2.1
  have hN := he.2.1
  obtain ⟨k, h0, k1, k2, k3, k4, k5, k6, k7⟩ := ze_known he wf hr (by omega)
  generalize hR : kn st.2.1 = R at k6
  have hRin : rin R st.1.length := by rw [← hR]; exact wfT_in wf
  have hRtr : trR R := by rw [← hR]; exact kn_tr _
  -- one row
  have row : ∀ (x : Nat) (s : Option (Nat × Nat) × Int32) (g : gHp), x < st.1.length → okP st.1.length s.1 → ro N (520 * x) h0 g → ∃ g', lp (fun t => fX1_fairest_b31 N second (some k) (nI x) t.1 t.2.1 t.2.2.1 t.2.2.2) 4096 (oP s.1, s.2, nI (x + 1), g) = some (oP (frow st.1.length R x s).1, (frow st.1.length R x s).2, g') ∧ ro N (520 * (x + 1)) h0 g' := by
    intro x s g hx hs hg
    obtain ⟨e, e1, e2⟩ := zb_lp (B := fun t => fX1_fairest_b31 N second (some k) (nI x) t.1 t.2.1 t.2.2.1 t.2.2.2) (fun j t => t.1 = oP (itr (fun j s => fstp st.1.length R x (x + 1 + j) s) j s).1 ∧ t.2.1 = (itr (fun j s => fstp st.1.length R x (x + 1 + j) s) j s).2 ∧ t.2.2.1 = nI (x + 1 + j) ∧ ro N (520 * x + 52 * j) h0 t.2.2.2) (fun e => e.1 = oP (frow st.1.length R x s).1 ∧ e.2.1 = (frow st.1.length R x s).2 ∧ ro N (520 * (x + 1)) h0 e.2.2) (st.1.length - (x + 1)) (by omega) (fun j t hj ht => by
      obtain ⟨t1, t2, t3, t4⟩ := t
      obtain ⟨q1, q2, q3, q4⟩ := ht
      simp only at q1 q2 q3 q4
      subst q1 q2 q3
      have r4 : rm t4 52 := rm_st k7 q4.1 (by omega)
      have he4 := eR_ro k7 k5 q4
      have hk4 := ro_ks k7 q4 hN k6
      have hm := zk_many hk4
      by_cases hjl : j < st.1.length - (x + 1)
      · left
        refine ⟨hjl, ?_⟩
        obtain ⟨h5, o1, o2⟩ := ze_with he4 hk4 hn hRin hRtr hN hx (show x + 1 + j < st.1.length by omega) r4 (by omega)
        have he5 := eR_ro r4 he4 o2
        have hk5 := ro_ks r4 o2 hN hk4
        have r5 : rm h5 26 := rm_st r4 o2.1 (by omega)
        obtain ⟨h6, o3, o4⟩ := ze_with he5 hk5 hn hRin hRtr hN (show x + 1 + j < st.1.length by omega) hx r5 (by omega)
        have hro := ro_t q4 (ro_t o2 o4)
        generalize hcur : itr (fun j s => fstp st.1.length R x (x + 1 + j) s) j s = cur
        have hnext : itr (fun j s => fstp st.1.length R x (x + 1 + j) s) (j + 1) s = fstp st.1.length R x (x + 1 + j) cur := by rw [← hcur]; rfl
        have hbody : fX1_fairest_b31 N second (some k) (nI x) (oP cur.1) cur.2 (nI (x + 1 + j)) t4 = if cur.2 < (if sOW st.1.length R (x + 1 + j) x < sOW st.1.length R x (x + 1 + j) then sOW st.1.length R (x + 1 + j) x else sOW st.1.length R x (x + 1 + j)) then some (.inl (nI (10 * x + (x + 1 + j)), (if sOW st.1.length R (x + 1 + j) x < sOW st.1.length R x (x + 1 + j) then sOW st.1.length R (x + 1 + j) x else sOW st.1.length R x (x + 1 + j)), nI (x + 1 + j + 1), h6)) else some (.inl (oP cur.1, cur.2, nI (x + 1 + j + 1), h6)) := by
          simp only [fX1_fairest_b31, hm, bd_s, if_neg (nI_ge (show x + 1 + j < st.1.length by omega) (show st.1.length < 2 ^ 31 by omega)), ze_is he4, o1, bd2_s, ze_is he5, o3, nm_s, il10, il1, zb_mul, zb_add]
        rw [hnext]
        by_cases hc : cur.2 < (if sOW st.1.length R (x + 1 + j) x < sOW st.1.length R x (x + 1 + j) then sOW st.1.length R (x + 1 + j) x else sOW st.1.length R x (x + 1 + j))
        · refine ⟨_, by rw [hbody, if_pos hc], ?_, ?_, rfl, ro_c hro (by omega)⟩
          · rw [fstp_t hc]; rfl
          · rw [fstp_t hc]
        · refine ⟨_, by rw [hbody, if_neg hc], ?_, ?_, rfl, ro_c hro (by omega)⟩
          · rw [fstp_f hc]
          · rw [fstp_f hc]
      · right
        have hjl2 : j = st.1.length - (x + 1) := by omega
        refine ⟨(oP (itr (fun j s => fstp st.1.length R x (x + 1 + j) s) j s).1, (itr (fun j s => fstp st.1.length R x (x + 1 + j) s) j s).2, t4), ?_, ?_, ?_, ro_c q4 (by omega)⟩
        · simp only [fX1_fairest_b31, hm, bd_s, if_pos (nI_le (show st.1.length ≤ x + 1 + j by omega) (show x + 1 + j < 2 ^ 31 by omega))]
        · rw [hjl2]; rfl
        · rw [hjl2]; rfl) (t0 := (oP s.1, s.2, nI (x + 1), g)) ⟨rfl, rfl, rfl, ro_c hg (by omega)⟩
    obtain ⟨e3, e4, e5⟩ := e
    obtain ⟨f1, f2, f3⟩ := e2
    simp only at f1 f2 f3
    subst f1 f2
    exact ⟨e5, e1, f3⟩
  obtain ⟨e, e1, e2⟩ := zb_lp (B := fun t => fX1_fairest_b16 N second (some k) t.1 t.2.1 t.2.2.1 t.2.2.2) (fun x t => t.1 = oP (itr (frow st.1.length R) x (none, nI 0)).1 ∧ t.2.1 = (itr (frow st.1.length R) x (none, nI 0)).2 ∧ t.2.2.1 = nI x ∧ ro N (520 * x) h0 t.2.2.2) (fun e => e.1 = oP (sFair st.1.length R) ∧ ro N 5200 h0 e.2) st.1.length (by omega) (fun x t hx ht => by
    obtain ⟨t1, t2, t3, t4⟩ := t
    obtain ⟨q1, q2, q3, q4⟩ := ht
    simp only at q1 q2 q3 q4
    subst q1 q2 q3
    have hk4 := ro_ks k7 q4 hN k6
    have hm := zk_many hk4
    by_cases hxl : x < st.1.length
    · left
      refine ⟨hxl, ?_⟩
      obtain ⟨g', w1, w2⟩ := row x (itr (frow st.1.length R) x (none, nI 0)) t4 hxl (fair_ok x (by omega)) q4
      refine ⟨(oP (itr (frow st.1.length R) (x + 1) (none, nI 0)).1, (itr (frow st.1.length R) (x + 1) (none, nI 0)).2, nI (x + 1), g'), ?_, rfl, rfl, rfl, w2⟩
      simp only [fX1_fairest_b16, hm, bd_s, if_neg (nI_ge hxl (show st.1.length < 2 ^ 31 by omega)), nm_s, il1, zb_add, fl_X1_fairest_b31, w1, ap2_s]
      rfl
    · right
      have hxl2 : x = st.1.length := by omega
      refine ⟨(oP (itr (frow st.1.length R) x (none, nI 0)).1, t4), ?_, ?_, ro_c q4 (by omega)⟩
      · simp only [fX1_fairest_b16, hm, bd_s, if_pos (nI_le (show st.1.length ≤ x by omega) (show x < 2 ^ 31 by omega))]
      · rw [hxl2]; rfl) (t0 := (oP none, nI 0, nI 0, h0)) ⟨rfl, rfl, rfl, ro_nil k7⟩
  obtain ⟨ev, eh⟩ := e
  obtain ⟨f1, f2⟩ := e2
  simp only at f1 f2
  subst f1
  have hok : okP st.1.length (sFair st.1.length R) := fair_ok _ (Nat.le_refl _)
  refine cAns_v (h' := eh) ?_ (ro_c (ro_t k4 f2) (by omega))
  have hoP : (-nI 1 : Int32) = oP none := rfl
  simp only [fX1_fairest, ze_is he, bd_s, ze_state he, bd2_s, gEl_i, k1, k2, il1, il0, hoP, fl_X1_fairest_b16, e1, ap2_s]
  cases hf : sFair st.1.length R with
  | none => simp only [if_true, oP]
  | some p =>
    have hp := hok p hf
    have hne : ¬ oP (some p) = oP none := by
      show ¬ nI (10 * p.1 + p.2) = -nI 1
      rw [zb_nm1 (by omega)]
      exact not_f
    rw [if_neg hne]
    show (if second = nI 0 then bd (gidiv (nI (10 * p.1 + p.2)) 10) _ else bd (girem (nI (10 * p.1 + p.2)) 10) _) = _
    rw [il10, zb_div (by omega) (by omega) (by omega), zb_rem (by omega) (by omega) (by omega), show (10 * p.1 + p.2) / 10 = p.1 by omega, show (10 * p.1 + p.2) % 10 = p.2 by omega]
    simp only [bd_s]
    by_cases hs : second = nI 0
    · rw [if_pos hs, if_pos hs]
    · rw [if_neg hs, if_neg hs]
/-- pairs whose order is against their worths -/
def sSwaps (st : stT) : Nat := sm (fun x => sm (fun y => (kn st.2.1 x y && wor st y x).toNat) st.1.length) st.1.length
theorem q_swaps (he : eR N h a st) (wf : wfT st) (hr : rm h 100) : cAns N 100 h (fX1_swaps N h) (.inl (nI (sSwaps st))) := by
  have hn := wf.2.1
  obtain ⟨k, h', k1, k2, k3, k4, k5, k6, k7⟩ := ze_known he wf hr (by omega)
  refine cAns_v (h' := h') ?_ (ro_c k4 (by omega))
  have row : ∀ x n0, x < st.1.length → lp (fun t => fX1_swaps_b27 (some a) (some k) (nI x) t.1 t.2.1 t.2.2) 4096 (nI n0, nI 0, h') = some (nI (n0 + sm (fun y => (kn st.2.1 x y && wor st y x).toNat) st.1.length), h') := by
    intro x n0 hx
    refine zb_for (fun y => (nI (n0 + sm (fun y => (kn st.2.1 x y && wor st y x).toNat) y), nI y, h')) st.1.length _ (by omega) (fun y hy => ?_) ?_
    · have hw := zt_wor (ze_st k5) wf hy hx
      simp only [fX1_swaps_b27, zk_many k6, bd_s, if_neg (nI_ge hy (show st.1.length < 2 ^ 31 by omega)), zk_rcv k6, zk_isBetter k6 (show x < 10 by omega) (show y < 10 by omega), bd2_s, il0, il1, bI_0, st_rcv (ze_st k5), hw, fX1_swaps_j63, fX1_swaps_j64, ← bI_t, ← bI_f, z_one, nm_s]
      show _ = some (Sum.inl (nI (n0 + (_ + (kn st.2.1 x y && wor st y x).toNat)), _, _))
      cases kn st.2.1 x y with
      | false => rw [if_pos rfl]; simp only [bI, zb_add]; rfl
      | true =>
        rw [if_neg (show ¬ bI true = bI false by decide)]
        cases wor st y x with
        | false => rw [if_pos rfl]; simp only [bI, zb_add]; rfl
        | true => rw [if_neg (show ¬ bI true = bI false by decide)]; simp only [bI, zb_add]; rfl
    · simp only [fX1_swaps_b27, zk_many k6, bd_s, if_pos (nI_le (Nat.le_refl st.1.length) (show st.1.length < 2 ^ 31 by omega))]
  have hl : lp (fun t => fX1_swaps_b15 (some a) (some k) t.1 t.2.1 t.2.2) 4096 (nI 0, nI 0, h') = some (nI (sSwaps st), h') := by
    refine zb_for (fun x => (nI (sm (fun x => sm (fun y => (kn st.2.1 x y && wor st y x).toNat) st.1.length) x), nI x, h')) st.1.length _ (by omega) (fun x hx => ?_) ?_
    · simp only [fX1_swaps_b15, zk_many k6, bd_s, if_neg (nI_ge hx (show st.1.length < 2 ^ 31 by omega)), fl_X1_swaps_b27, il0, row x _ hx, ap2_s, nm_s, il1, zb_add]
      rfl
    · simp only [fX1_swaps_b15, zk_many k6, bd_s, if_pos (nI_le (Nat.le_refl st.1.length) (show st.1.length < 2 ^ 31 by omega))]
      rfl
  simp only [fX1_swaps, ze_is he, bd_s, ze_state he, bd2_s, gEl_i, k1, k2, il0, fl_X1_swaps_b15, hl, ap2_s]
/-- why -/
theorem q_why (he : eR N h a st) (wf : wfT st) (hr : rm h 100) (x y : Int32) : cAns N 100 h (fX1_why N x y h) (if (iN x 0 ((st.1.length : Int) - 1) && iN y 0 ((st.1.length : Int) - 1)) = true then (if x = y then .inr 2 else .inl (if (kn st.2.1 x.toNatClampNeg y.toNatClampNeg || kn st.2.1 y.toNatClampNeg x.toNatClampNeg) = true then (if (sTold st x.toNatClampNeg y.toNatClampNeg || sTold st y.toNatClampNeg x.toNatClampNeg) = true then nI 1 else nI 2) else nI 0)) else .inr 1) := by
  have hn := wf.2.1
  have hg2 := ze_two he wf hr (show 7 ≤ 100 by omega) x y
  cases hg : (iN x 0 ((st.1.length : Int) - 1) && iN y 0 ((st.1.length : Int) - 1)) with
  | false =>
    rw [hg] at hg2
    refine cAns_x hr (by omega) ?_
    simp only [fX1_why, ze_is he, bd_s, hg2, Bool.false_eq_true, if_false, bd2_s, gEl_e]
  | true =>
    rw [hg] at hg2
    rw [if_pos rfl]
    by_cases hxy : x = y
    · rw [if_pos hxy]
      refine cAns_x hr (by omega) ?_
      simp only [fX1_why, ze_is he, bd_s, hg2, if_true, if_pos hxy, bd2_s, gEl_e]
    · rw [if_neg hxy]
      rw [Bool.and_eq_true] at hg
      obtain ⟨i, rfl, hi, hi2⟩ := iN_of hg.1 (by omega)
      obtain ⟨j, rfl, hj, hj2⟩ := iN_of hg.2 (by omega)
      obtain ⟨k, h', k1, k2, k3, k4, k5, k6, k7⟩ := ze_known he wf hr (by omega)
      rw [zb_cl hi2, zb_cl hj2]
      refine cAns_v (h' := h') ?_ (ro_c k4 (by omega))
      have hil : i < st.1.length := by omega
      have hjl : j < st.1.length := by omega
      have hj30 : fX1_why_j30 N (nI i) (nI j) h' = some (.inl (if (sTold st i j || sTold st j i) = true then nI 1 else nI 2), h') := by
        simp only [fX1_why_j30, ze_is k5, bd_s, ze_told k5 wf hil hjl, ze_told k5 wf hjl hil, bd2_s, il0, il1, il2, bI_0]
        cases sTold st i j <;> cases sTold st j i <;> simp
      simp only [fX1_why, ze_is he, bd_s, hg2, if_true, if_neg hxy, bd2_s, gEl_i, k1, k2, zk_rcv k6, zk_is k6, zk_isBetter k6 (show i < 10 by omega) (show j < 10 by omega), zk_isBetter k6 (show j < 10 by omega) (show i < 10 by omega), il0, bI_0, hj30]
      cases kn st.2.1 i j <;> cases kn st.2.1 j i <;> simp
end
