/-! L2 COMPONENT: the calls that read (3) -/
set_option maxRecDepth 100000
/-- what is known is copied -/
theorem zk_copy {B B2 : Nat} {h : gHp} {k q n : Nat} {R : Nat → Nat → Bool} (hp : knR B h k n R) (hx : h.1 q = some (.inr (7, [gq none, gq none, gi (nI 0)]))) (hBq : B2 ≤ q) (hr : rm h 22) (hB : h.2.2.2.1 ≤ B2) :
    ∃ h', fX9_init_3 q (some k) h = some h' ∧ stk (fun a => a = q) 0 [] 22 h h' ∧ knR B2 h' q n R := by
  have hm := zk_many hp
  have hqs := rm_lt hr hx
  obtain ⟨g1, b', w', e1, s1, c1, c2, c3, c4, c5, c6⟩ := zk_new0 (n := n) hx hr (by omega)
  have r1 : rm g1 0 := rm_st hr s1 (by omega)
  obtain ⟨b, w, fb, fw, h1, h2, h3, h4, h5, h6, h7, h8, h9⟩ := hp
  have hkq : k ≠ q := fun e => by rw [e, hx] at h5; cases h5
  have hbq : b ≠ q := fun e => by rw [e, hx] at h6; cases h6
  have hwq : w ≠ q := fun e => by rw [e, hx] at h7; cases h7
  have h51 := stk_keep hr s1 h5 hkq (.inr not_nil)
  have h61 := stk_keep hr s1 h6 hbq (.inr not_nil)
  have h71 := stk_keep hr s1 h7 hwq (.inr not_nil)
  have hks := rm_lt hr h5
  have hbs := rm_lt hr h6
  have hws := rm_lt hr h7
  have b1 : g1.2.2.2.1 = h.2.2.2.1 := by rw [s1.2.2.1]
  have w1 : gCpi g1 (some b) (nI 0) (some b') (nI 0) (nI 10) 0 = some (gset g1 b' (.inl (0, 10, .inl (va_cpy fb (fun _ => 0) 0 0 10)))) := gCpi_o h61 c5 (by omega) (by omega) (by omega) (by omega) (by omega)
  have x2 : (gset g1 b' (.inl (0, 10, .inl (va_cpy fb (fun _ => 0) 0 0 10)))).1 b' = some (.inl (0, 10, .inl (va_cpy fb (fun _ => 0) 0 0 10))) := set_at _ _ _
  have s2 : stk (fun a => a = b' ∨ a = w') 0 [] 0 g1 (gset g1 b' (.inl (0, 10, .inl (va_cpy fb (fun _ => 0) 0 0 10)))) := set_st r1 c5 (.inl (.inl rfl))
  have k2 : (gset g1 b' (.inl (0, 10, .inl (va_cpy fb (fun _ => 0) 0 0 10)))).1 k = some (.inr (7, [gq (some b), gq (some w), gi (nI n)])) := by rw [set_ne (by omega)]; exact h51
  have q2 : (gset g1 b' (.inl (0, 10, .inl (va_cpy fb (fun _ => 0) 0 0 10)))).1 q = some (.inr (7, [gq (some b'), gq (some w'), gi (nI n)])) := by rw [set_ne (by omega)]; exact c4
  have w2' : (gset g1 b' (.inl (0, 10, .inl (va_cpy fb (fun _ => 0) 0 0 10)))).1 w = some (.inl (0, 10, .inl fw)) := by rw [set_ne (by omega)]; exact h71
  have w3' : (gset g1 b' (.inl (0, 10, .inl (va_cpy fb (fun _ => 0) 0 0 10)))).1 w' = some (.inl (0, 10, .inl (fun _ => 0))) := by rw [set_ne (fun e => c3 e.symm)]; exact c6
  generalize gset g1 b' (.inl (0, 10, .inl (va_cpy fb (fun _ => 0) 0 0 10))) = g2 at w1 x2 s2 k2 q2 w2' w3'
  have r2 : rm g2 0 := rm_st r1 s2 (by omega)
  have w4 : gCpi g2 (some w) (nI 0) (some w') (nI 0) (nI 10) 0 = some (gset g2 w' (.inl (0, 10, .inl (va_cpy fw (fun _ => 0) 0 0 10)))) := gCpi_o w2' w3' (by rw [s2.2.2.1]; omega) (by omega) (by omega) (by omega) (by omega)
  have s3 : stk (fun a => a = b' ∨ a = w') 0 [] 0 g2 (gset g2 w' (.inl (0, 10, .inl (va_cpy fw (fun _ => 0) 0 0 10)))) := set_st r2 w3' (.inl (.inr rfl))
  have hcp : ∀ (f : Nat → Int32) i, i < 10 → va_cpy f (fun _ => 0) 0 0 10 i = f i := fun f i hi => by rw [pk_cpy_in (Nat.zero_le _) (by omega), Nat.zero_add, Nat.sub_zero]
  refine ⟨gset g2 w' (.inl (0, 10, .inl (va_cpy fw (fun _ => 0) 0 0 10))), (by simp only [fX9_init_3, hm, bd_s, e1, gGq_o (k := 0) h51 rfl, gGq_o (k := 0) c4 rfl, il0, il10, w1, gGq_o (k := 1) k2 rfl, gGq_o (k := 1) q2 rfl, w4]), ?_, b', w', va_cpy fb (fun _ => 0) 0 0 10, va_cpy fw (fun _ => 0) 0 0 10, hBq, by omega, by omega, c3, ?_, ?_, set_at _ _ _, fun y hy => (hcp fb y hy).trans (h8 y hy), fun x hx => (hcp fw x hx).trans (h9 x hx)⟩
  · exact stk_c (stk_tr s1 (stk_t s2 s3) (fun a ha _ _ => ⟨fun e => by omega, .inr not_nil⟩)) (by omega)
  · rw [set_ne (by omega)]; exact q2
  · rw [set_ne c3]; exact x2
/-- orders with one answer more -/
def sOW (n : Nat) (R : Nat → Nat → Bool) (x y : Nat) : Int32 := if R y x = true then nI 0 else waysV n (canC (tell R x y) n) (2 ^ n - 1)
section
variable {N a : Nat} {h : gHp} {st : stT}
theorem ro_ks {N c d B k n : Nat} {h h' : gHp} {R : Nat → Nat → Bool} (hr : rm h d) (s : ro N c h h') (hB : N + 20 ≤ B) (hp : knR B h k n R) : knR B h' k n R :=
  knR_k hp (fun a e hL ha _ => stk_keep hr s.1 ha (fun h9 => by omega) (.inr not_nil))
theorem ze_with {B k : Nat} {R : Nat → Nat → Bool} {x y c : Nat} (he : eR N h a st) (hp : knR B h k st.1.length R) (hn : st.1.length ≤ 10) (hR : rin R st.1.length) (ht : trR R) (hB : N + 20 ≤ B) (hx : x < st.1.length) (hy : y < st.1.length) (hr : rm h c) (hc : 26 ≤ c) :
    ∃ h', fX1_ordersWith N (some k) (nI x) (nI y) h = some (sOW st.1.length R x y, h') ∧ ro N 26 h h' := by
  unfold sOW
  have hib := zk_isBetter hp (show y < 10 by omega) (show x < 10 by omega)
  cases hyx : R y x with
  | true =>
    rw [hyx] at hib
    refine ⟨h, ?_, ro_nil hr⟩
    simp only [fX1_ordersWith, zk_rcv hp, bd_s, hib, bd2_s, il0, bI_0, Bool.true_eq_false, if_false, if_true]
  | false =>
    rw [hyx] at hib
    have hbN := he.1
    have hN := he.2.1
    have w1 : gNewO h 7 dfX9 3 = some (h.2.1, gpush h (.inr (7, dfX9)) 3) := nO_ok hr (by omega)
    have q1 : (gpush h (.inr (7, dfX9)) 3).1 h.2.1 = some (.inr (7, [gq none, gq none, gi (nI 0)])) := by rw [push_at, dfX9_e]
    have s1 : stn 4 h (gpush h (.inr (7, dfX9)) 3) := push_st hr
    generalize gpush h (.inr (7, dfX9)) 3 = g1 at w1 q1 s1
    have r1 : rm g1 22 := rm_st hr s1 (by omega)
    have p1 : knR B g1 k st.1.length R := knR_k hp (kps_n hr s1)
    obtain ⟨g2, w2, s2, p2⟩ := zk_copy p1 q1 (Nat.le_refl _) r1 (by rw [s1.2.2.1]; exact hr.1)
    have r2 : rm g2 0 := rm_st r1 s2 (by omega)
    have t2 : stn (4 + 22) h g2 := stk_tr s1 s2 (fun a ha _ _ => ⟨by omega, .inr not_nil⟩)
    obtain ⟨g3, w3, s3, p3⟩ := zk_tells p2 hn hR ht hx hy r2 (by rw [t2.2.2.1]; exact hr.1)
    have r3 : rm g3 0 := rm_st r2 s3 (by omega)
    have ro3 : ro N (4 + 22 + 0) h g3 := ro_f (ro_n hr t2) r2 s3 (Nat.le_refl _) hN
    have he3 := eR_ro hr he ro3
    obtain ⟨wv, o1, -, o3⟩ := ze_orders he3 p3 (tell_in hR hx hy) hn hN r3
    refine ⟨_, ?_, ro_c (ro_t ro3 o3) (by omega)⟩
    simp only [fX1_ordersWith, zk_rcv hp, bd_s, hib, bd2_s, il0, bI_0, if_true, w1, w2, zk_is p2, w3, ze_is he3, o1, Bool.false_eq_true, if_false]
theorem q_ordersIf (he : eR N h a st) (wf : wfT st) (hr : rm h 100) (x y : Int32) : cAns N 100 h (fX1_ordersIf N x y h) (if (iN x 0 ((st.1.length : Int) - 1) && iN y 0 ((st.1.length : Int) - 1)) = true then (if x = y then .inr 2 else .inl (sOW st.1.length (kn st.2.1) x.toNatClampNeg y.toNatClampNeg)) else .inr 1) := by
  have hn := wf.2.1
  have hg2 := ze_two he wf hr (show 7 ≤ 100 by omega) x y
  cases hg : (iN x 0 ((st.1.length : Int) - 1) && iN y 0 ((st.1.length : Int) - 1)) with
  | false =>
    rw [hg] at hg2
    refine cAns_x hr (by omega) ?_
    simp only [fX1_ordersIf, ze_is he, bd_s, hg2, Bool.false_eq_true, if_false, bd2_s, gEl_e]
  | true =>
    rw [hg] at hg2
    rw [if_pos rfl]
    by_cases hxy : x = y
    · rw [if_pos hxy]
      refine cAns_x hr (by omega) ?_
      simp only [fX1_ordersIf, ze_is he, bd_s, hg2, if_true, if_pos hxy, bd2_s, gEl_e]
    · rw [if_neg hxy]
      rw [Bool.and_eq_true] at hg
      obtain ⟨i, rfl, hi, hi2⟩ := iN_of hg.1 (by omega)
      obtain ⟨j, rfl, hj, hj2⟩ := iN_of hg.2 (by omega)
      obtain ⟨k, h', k1, k2, k3, k4, k5, k6, k7⟩ := ze_known he wf hr (by omega)
      obtain ⟨h2, o1, o2⟩ := ze_with k5 k6 hn (wfT_in wf) (kn_tr _) he.2.1 (show i < st.1.length by omega) (show j < st.1.length by omega) k7 (by omega)
      rw [zb_cl hi2, zb_cl hj2]
      refine cAns_v (h' := h2) ?_ (ro_c (ro_t k4 o2) (by omega))
      simp only [fX1_ordersIf, ze_is he, bd_s, hg2, if_true, if_neg hxy, bd2_s, gEl_i, k1, k2, ze_is k5, o1]
/-- the answer without which there are the most orders -/
def wstp (st : stT) (i : Nat) (s : Option Nat × Int32) : Option Nat × Int32 := if s.2 < waysV st.1.length (canC (kn (st.2.1.eraseIdx i)) st.1.length) (2 ^ st.1.length - 1) then (some i, waysV st.1.length (canC (kn (st.2.1.eraseIdx i)) st.1.length) (2 ^ st.1.length - 1)) else s
theorem wstp_t {st : stT} {i : Nat} {s : Option Nat × Int32} (h : s.2 < waysV st.1.length (canC (kn (st.2.1.eraseIdx i)) st.1.length) (2 ^ st.1.length - 1)) : wstp st i s = (some i, waysV st.1.length (canC (kn (st.2.1.eraseIdx i)) st.1.length) (2 ^ st.1.length - 1)) := if_pos h
theorem wstp_f {st : stT} {i : Nat} {s : Option Nat × Int32} (h : ¬ s.2 < waysV st.1.length (canC (kn (st.2.1.eraseIdx i)) st.1.length) (2 ^ st.1.length - 1)) : wstp st i s = s := if_neg h
def sWorst (st : stT) : Option Nat := (itr (wstp st) st.2.1.length (none, nI 0)).1
theorem kn_er_in {st : stT} (wf : wfT st) (i : Nat) : rin (kn (st.2.1.eraseIdx i)) st.1.length := kn_in (fun p hp => wf.2.2.2.1 p (List.mem_of_mem_eraseIdx hp))
theorem q_worst (he : eR N h a st) (wf : wfT st) (hr : rm h 2000) : cAns N 2000 h (fX1_worst N h) (.inl (oI (sWorst st))) := by
  have hn := wf.2.1
  have ha := wf.2.2.1
  have hN := he.2.1
  obtain ⟨e, e1, e2⟩ := zb_lp (B := fun t => fX1_worst_b12 N (some a) t.1 t.2.1 t.2.2.1 t.2.2.2) (fun i t => t.1 = oI (itr (wstp st) i (none, nI 0)).1 ∧ t.2.1 = (itr (wstp st) i (none, nI 0)).2 ∧ t.2.2.1 = nI i ∧ ro N (26 * i) h t.2.2.2) (fun e => e.1 = oI (sWorst st) ∧ ro N 2000 h e.2) st.2.1.length (by omega) (fun i t hi ht => by
    obtain ⟨t1, t2, t3, t4⟩ := t
    obtain ⟨q1, q2, q3, q4⟩ := ht
    simp only at q1 q2 q3 q4
    subst q1 q2 q3
    have r4 : rm t4 26 := rm_st hr q4.1 (by omega)
    have he4 := eR_ro hr he q4
    obtain ⟨ra, a1, a2, a3, a4, -, a6⟩ := st_ans (ze_st he4)
    by_cases hil : i < st.2.1.length
    · left
      refine ⟨hil, ?_⟩
      obtain ⟨k, h5, c1, c2, c3⟩ := zt_but (ze_st he4) hn ha wf.2.2.2.1 r4 (some i) (fun j hj => by cases hj; omega)
      have ro5 := ro_n (N := N) r4 c2
      have he5 := eR_ro r4 he4 ro5
      have r5 : rm h5 0 := rm_st r4 c2 (by omega)
      obtain ⟨wv, o1, -, o3⟩ := ze_orders he5 c3 (kn_er_in wf i) hn (Nat.le_trans hN q4.1.1) r5
      have hro := ro_t q4 (ro_t ro5 o3)
      have hoi : nI i = oI (some i) := rfl
      have hbody : fX1_worst_b12 N (some a) (oI (itr (wstp st) i (none, nI 0)).1) (itr (wstp st) i (none, nI 0)).2 (nI i) t4 = if (itr (wstp st) i (none, nI 0)).2 < waysV st.1.length (canC (kn (st.2.1.eraseIdx i)) st.1.length) (2 ^ st.1.length - 1) then some (.inl (nI i, waysV st.1.length (canC (kn (st.2.1.eraseIdx i)) st.1.length) (2 ^ st.1.length - 1), nI (i + 1), gset h5 (N + 5) (.inl (0, 1024, .inl wv)))) else some (.inl (oI (itr (wstp st) i (none, nI 0)).1, (itr (wstp st) i (none, nI 0)).2, nI (i + 1), gset h5 (N + 5) (.inl (0, 1024, .inl wv)))) := by
        simp only [fX1_worst_b12, a1, bd_s, a2, a4, bd2_s, if_neg (nI_ge hil (show st.2.1.length < 2 ^ 31 by omega)), st_rcv (ze_st he4)]
        rw [hoi, c1]
        simp only [bd2_s, ze_is he5, bd_s]
        rw [o1]
        simp only [bd2_s, nm_s, il1, oI_s, zb_add]
        rfl
      have hnext : itr (wstp st) (i + 1) (none, nI 0) = wstp st i (itr (wstp st) i (none, nI 0)) := rfl
      by_cases hc : (itr (wstp st) i (none, nI 0)).2 < waysV st.1.length (canC (kn (st.2.1.eraseIdx i)) st.1.length) (2 ^ st.1.length - 1)
      · refine ⟨_, by rw [hbody, if_pos hc], ?_, ?_, rfl, ro_c hro (by omega)⟩
        · rw [hnext, wstp_t hc]; rfl
        · rw [hnext, wstp_t hc]
      · refine ⟨_, by rw [hbody, if_neg hc], ?_, ?_, rfl, ro_c hro (by omega)⟩
        · rw [hnext, wstp_f hc]
        · rw [hnext, wstp_f hc]
    · right
      have hil2 : i = st.2.1.length := by omega
      refine ⟨(oI (itr (wstp st) i (none, nI 0)).1, t4), ?_, ?_, ro_c q4 (by omega)⟩
      · simp only [fX1_worst_b12, a1, bd_s, a2, a4, bd2_s, if_pos (nI_le (show st.2.1.length ≤ i by omega) (show i < 2 ^ 31 by omega))]
      · rw [hil2]; rfl) (t0 := (oI none, nI 0, nI 0, h)) ⟨rfl, rfl, rfl, ro_nil hr⟩
  obtain ⟨ev, eh⟩ := e
  obtain ⟨f1, f2⟩ := e2
  simp only at f1 f2
  refine cAns_v (h' := eh) ?_ f2
  simp only [fX1_worst, ze_is he, bd_s, ze_state he, bd2_s, gEl_i, il0, il1, fl_X1_worst_b12, ← oI_n, e1, ap2_s, f1]
/-- the two whose comparison leaves the most in any case -/
def fstp (n : Nat) (R : Nat → Nat → Bool) (x y : Nat) (s : Option (Nat × Nat) × Int32) : Option (Nat × Nat) × Int32 := if s.2 < (if sOW n R y x < sOW n R x y then sOW n R y x else sOW n R x y) then (some (x, y), if sOW n R y x < sOW n R x y then sOW n R y x else sOW n R x y) else s
def frow (n : Nat) (R : Nat → Nat → Bool) (x : Nat) (s : Option (Nat × Nat) × Int32) : Option (Nat × Nat) × Int32 := itr (fun j s => fstp n R x (x + 1 + j) s) (n - (x + 1)) s
def sFair (n : Nat) (R : Nat → Nat → Bool) : Option (Nat × Nat) := (itr (frow n R) n (none, nI 0)).1
def oP (o : Option (Nat × Nat)) : Int32 := oI (o.map (fun p => 10 * p.1 + p.2))
def okP (n : Nat) (o : Option (Nat × Nat)) : Prop := ∀ p, o = some p → p.1 < n ∧ p.2 < n
theorem fstp_t {n x y : Nat} {R : Nat → Nat → Bool} {s : Option (Nat × Nat) × Int32} (h : s.2 < (if sOW n R y x < sOW n R x y then sOW n R y x else sOW n R x y)) : fstp n R x y s = (some (x, y), if sOW n R y x < sOW n R x y then sOW n R y x else sOW n R x y) := if_pos h
theorem fstp_f {n x y : Nat} {R : Nat → Nat → Bool} {s : Option (Nat × Nat) × Int32} (h : ¬ s.2 < (if sOW n R y x < sOW n R x y then sOW n R y x else sOW n R x y)) : fstp n R x y s = s := if_neg h
theorem fstp_ok {n x y : Nat} {R : Nat → Nat → Bool} {s : Option (Nat × Nat) × Int32} (hx : x < n) (hy : y < n) (h : okP n s.1) : okP n (fstp n R x y s).1 := by
  by_cases hc : s.2 < (if sOW n R y x < sOW n R x y then sOW n R y x else sOW n R x y)
  · rw [fstp_t hc]
    intro p hp
    cases hp
    exact ⟨hx, hy⟩
  · rw [fstp_f hc]
    exact h
theorem frow_ok {n x : Nat} {R : Nat → Nat → Bool} (hx : x < n) : ∀ (j : Nat) (s : Option (Nat × Nat) × Int32), j ≤ n - (x + 1) → okP n s.1 → okP n (itr (fun j s => fstp n R x (x + 1 + j) s) j s).1
  | 0, s, _, h => h
  | j + 1, s, hj, h => fstp_ok hx (by omega) (frow_ok hx j s (by omega) h)
theorem fair_ok {n : Nat} {R : Nat → Nat → Bool} : ∀ (x : Nat), x ≤ n → okP n (itr (frow n R) x (none, nI 0)).1
  | 0, _ => fun p hp => by cases hp
  | x + 1, hx => frow_ok (by omega) _ _ (Nat.le_refl _) (fair_ok x (by omega))
end
