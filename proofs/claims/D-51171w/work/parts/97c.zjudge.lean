/-! L2 JUDGES: the one that stops, the one that asks, against the spec's -/
set_option maxRecDepth 100000
/-- a judge's cells: p the judge, K b w what it knows, N the component; for the one that asks sa the state -/
def jR (N p K b w : Nat) (k : Bool) (sa : Nat × List gV) (st : stT) (n : Nat) (s : sJ) (h : gHp) : Prop :=
  knX h K b w n s.1 ∧ n ≤ 10 ∧ rin s.1 n ∧ trR s.1 ∧ h.2.2.2.1 ≤ N ∧ N + 20 ≤ p ∧ N + 20 ≤ b ∧ N + 20 ≤ w ∧ N + 20 ≤ K ∧
  (∃ fs c q, fs.length = 10 ∧ h.1 N = some (.inr (0, fs ++ [gi c, gi q])) ∧ (k = false → c = nI s.2.1) ∧ (k = true → q = nI s.2.2) ∧ fs = sa.2) ∧
  (k = false → h.1 p = some (.inr (10, [gq (some K), gq (some N)]))) ∧
  (k = true → (∃ o, h.1 p = some (.inr (12, [gq (some K), gq o, gq (some sa.1), gq (some N)]))) ∧ stR (Lp N) (Lp N) h sa.1 st ∧ wfT st ∧ n = st.1.length)
/-- what a judge may change -/
def jX (N b w : Nat) : Nat → Prop := fun a => a = N ∨ a = b ∨ a = w
/-- an Unknown -/
def unC (h : gHp) (u : Nat) (e : sE) : Prop := ∃ fs, h.1 u = some (.inr (11, fs)) ∧ fs[6]? = some (gi (nI e.1)) ∧ fs[7]? = some (gi (nI e.2.1)) ∧ fs[8]? = some (gi (nI e.2.2))
theorem jR_k {N p K b w n d c : Nat} {sa : Nat × List gV} {k : Bool} {st : stT} {s : sJ} {X : Nat → Prop} {h h' : gHp} (hj : jR N p K b w k sa st n s h) (hr : rm h d) (hs : stk X 0 [] c h h') (hX : ∀ a e, X a → h.1 a = some e → a ≠ N ∧ a ≠ b ∧ a ≠ w ∧ kd (some e) ∉ [10, 12, 7, 3, 4, 14, 105, 6, 8, 16, 101]) : jR N p K b w k sa st n s h' := by
  have kp : ∀ a e, h.1 a = some e → (kd (some e) ∈ [10, 12, 7, 3, 4, 14, 105, 6, 8, 16, 101] ∨ a = N ∨ a = b ∨ a = w) → h'.1 a = some e := fun a e ha hk => stk_keep hr hs ha (fun hx => by
    have := hX a e hx ha
    rcases hk with hk | hk | hk | hk
    · exact this.2.2.2 hk
    · exact this.1 hk
    · exact this.2.1 hk
    · exact this.2.2.1 hk) (.inr not_nil)
  obtain ⟨⟨fb, fw, h1, h2, h3, h4, h5⟩, j2, j3, j4, j5, j6, j7, j8, j9, ⟨fs, c1, q1, g1, g2, g3⟩, j11, j12⟩ := hj
  refine ⟨⟨fb, fw, h1, kp _ _ h2 (.inl (by simp [kd])), kp _ _ h3 (.inr (.inr (.inl rfl))), kp _ _ h4 (.inr (.inr (.inr rfl))), h5⟩, j2, j3, j4, by rw [hs.2.2.1]; exact j5, j6, j7, j8, j9, ⟨fs, c1, q1, g1, kp _ _ g2 (.inr (.inl rfl)), g3⟩, fun hk => kp _ _ (j11 hk) (.inl (by simp [kd])), fun hk => ?_⟩
  obtain ⟨⟨o, m1⟩, m2, m3⟩ := j12 hk
  exact ⟨⟨o, kp _ _ m1 (.inl (by simp [kd]))⟩, stR_k m2 (fun a e _ ha hk => kp a e ha (.inl (by simp only [List.mem_cons, List.not_mem_nil, or_false] at hk ⊢; omega))) (fun a e _ ha hk => kp a e ha (.inl (by simp only [List.mem_cons, List.not_mem_nil, or_false] at hk ⊢; omega))), m3⟩
/-- what comes of a program and of its spec: a value, or the comparison at which it stops -/
def jOut {α β : Type} (X : Nat → Prop) (c : Nat) (h h' : gHp) (z : β ⊕ (Nat × Nat)) (r : (α × sJ) ⊕ (sE × sJ)) (Q : α → sJ → Prop) (E : sJ → Prop) : Prop := match r with
  | .inl v => stk X 0 [] c h h' ∧ Q v.1 v.2
  | .inr e => stk X 0 [] (c + 10) h h' ∧ E e.2 ∧ ∃ u, z = .inr (3, u) ∧ unC h' u e.1
theorem dfX14_e : dfX14 = [gq none, gq none, gq none, gq none, gq none, gi (nI 0), gi (nI 0), gi (nI 0), gi (nI 0)] := by simp only [dfX14, il0]
/-- a new Unknown -/
theorem zu_new {h : gHp} {x y d c : Nat} (hr : rm h c) (hc : 10 ≤ c) : ∃ h1 h', gNewO h 11 dfX14 9 = some (h.2.1, h1) ∧ fX14_init h.2.1 (nI x) (nI y) (nI d) h1 = some h' ∧ gIs h' h.2.1 11 = some () ∧ stn 10 h h' ∧ unC h' h.2.1 (x, y, d) := by
  have w1 : gNewO h 11 dfX14 9 = some (h.2.1, gpush h (.inr (11, dfX14)) 9) := nO_ok hr (by omega)
  have q1 : (gpush h (.inr (11, dfX14)) 9).1 h.2.1 = some (.inr (11, [gq none, gq none, gq none, gq none, gq none, gi (nI 0), gi (nI 0), gi (nI 0), gi (nI 0)])) := by rw [push_at, dfX14_e]
  have s1 : stn 10 h (gpush h (.inr (11, dfX14)) 9) := push_st hr
  generalize gpush h (.inr (11, dfX14)) 9 = g1 at w1 q1 s1
  have r1 : rm g1 0 := rm_st hr s1 (by omega)
  have hb1 : g1.2.2.2.1 ≤ h.2.1 := by rw [s1.2.2.1]; exact hr.1
  have stepq : ∀ (g : gHp) (fs : List gV) (k : Nat) (v : Option Nat), rm g 0 → g.2.2.2.1 ≤ h.2.1 → g.1 h.2.1 = some (.inr (11, fs)) → k < fs.length → ∃ g', gPq g (some h.2.1) 11 k v = some g' ∧ g'.1 h.2.1 = some (.inr (11, fs.set k (gq v))) ∧ stk (fun a => a = h.2.1) 0 [] 0 g g' ∧ rm g' 0 ∧ g'.2.2.2.1 ≤ h.2.1 := by
    intro g fs k v hr hb hx hk
    have hs := set_st (X := fun a => a = h.2.1) (B := 0) (ks := []) (e := .inr (11, fs.set k (gq v))) hr hx (.inl rfl)
    exact ⟨_, gPq_o hx hb hk, set_at _ _ _, hs, rm_st hr hs (by omega), by rw [gset_2]; exact hb⟩
  have stepi : ∀ (g : gHp) (fs : List gV) (k : Nat) (v : Int32), rm g 0 → g.2.2.2.1 ≤ h.2.1 → g.1 h.2.1 = some (.inr (11, fs)) → k < fs.length → ∃ g', gPi g (some h.2.1) 11 k v = some g' ∧ g'.1 h.2.1 = some (.inr (11, fs.set k (gi v))) ∧ stk (fun a => a = h.2.1) 0 [] 0 g g' ∧ rm g' 0 ∧ g'.2.2.2.1 ≤ h.2.1 := by
    intro g fs k v hr hb hx hk
    have hs := set_st (X := fun a => a = h.2.1) (B := 0) (ks := []) (e := .inr (11, fs.set k (gi v))) hr hx (.inl rfl)
    exact ⟨_, gPi_o hx hb hk, set_at _ _ _, hs, rm_st hr hs (by omega), by rw [gset_2]; exact hb⟩
  obtain ⟨g2, w2, q2, s2, r2, b2⟩ := stepq g1 _ 0 (some h.2.1) r1 hb1 q1 (by simp)
  obtain ⟨g3, w3, q3, s3, r3, b3⟩ := stepq g2 _ 1 (g2.2.2.2.2 6) r2 b2 q2 (by simp)
  obtain ⟨g4, w4, q4, s4, r4, b4⟩ := stepq g3 _ 2 (g3.2.2.2.2 7) r3 b3 q3 (by simp)
  obtain ⟨g5, w5, q5, s5, r5, b5⟩ := stepq g4 _ 1 none r4 b4 q4 (by simp)
  obtain ⟨g6, w6, q6, s6, r6, b6⟩ := stepq g5 _ 3 none r5 b5 q5 (by simp)
  obtain ⟨g7, w7, q7, s7, r7, b7⟩ := stepq g6 _ 0 none r6 b6 q6 (by simp)
  obtain ⟨g8, w8, q8, s8, r8, b8⟩ := stepq g7 _ 2 none r7 b7 q7 (by simp)
  obtain ⟨g9, w9, q9, s9, r9, b9⟩ := stepi g8 _ 6 (nI x) r8 b8 q8 (by simp)
  obtain ⟨g10, w10, q10, s10, r10, b10⟩ := stepi g9 _ 7 (nI y) r9 b9 q9 (by simp)
  obtain ⟨g11, w11, q11, s11, r11, b11⟩ := stepi g10 _ 8 (nI d) r10 b10 q10 (by simp)
  have sA := stk_t s2 (stk_t s3 (stk_t s4 (stk_t s5 (stk_t s6 (stk_t s7 (stk_t s8 (stk_t s9 (stk_t s10 s11))))))))
  refine ⟨g1, g11, w1, ?_, gIs_o q11, stk_c (stk_tr s1 sA (fun a ha _ _ => ⟨by omega, .inr not_nil⟩)) (by omega), _, q11, rfl, rfl, rfl⟩
  simp only [fX14_init, fJ3_init_3u, fJ2_init_3u, fJ2_init_3u_j41, il0, w2, w3, w4, w5, w6, w7, w8, w9, w10, w11, bd_s, if_true]
/-- the judge's answer -/
theorem zj_judge {N p K b w n x y d c : Nat} {sa : Nat × List gV} {k : Bool} {st : stT} {s : sJ} {h : gHp} (hj : jR N p K b w k sa st n s h) (hx : x < n) (hy : y < n) (hr : rm h c) (hc : 10 ≤ c) :
    ∃ z h', fJudge (some p) (nI x) (nI y) (nI d) h = some (z, h') ∧ jOut (jX N b w) 0 h h' z (jd k (wor st) x y d s) (fun r s' => z = .inl (bI r) ∧ jR N p K b w k sa st n s' h') (fun s' => jR N p K b w k sa st n s' h') := by
  have hj0 := hj
  obtain ⟨hk, j2, j3, j4, j5, j6, j7, j8, j9, ⟨fs, c1, q1, g1, g2, g3, g4, g5⟩, j11, j12⟩ := hj
  have hkR : knR N h K n s.1 := knX_R hk (by omega) (by omega) (by omega)
  have ib1 := zk_isBetter hkR (show x < 10 by omega) (show y < 10 by omega)
  have ib2 := zk_isBetter hkR (show y < 10 by omega) (show x < 10 by omega)
  have hrcK := zk_rcv hkR
  have hKN : K ≠ N := by omega
  have hgl : ∀ g : Int32, (fs ++ [gi c1, gi q1]).set 10 (gi g) = fs ++ [gi g, gi q1] := fun g => by
    rw [List.set_append_right _ _ (by omega), g1]
    rfl
  have hgq : ∀ g : Int32, (fs ++ [gi c1, gi q1]).set 11 (gi g) = fs ++ [gi c1, gi g] := fun g => by
    rw [List.set_append_right _ _ (by omega), g1]
    rfl
  have hget10 : (fs ++ [gi c1, gi q1])[10]? = some (gi c1) := by
    rw [List.getElem?_append_right (by omega), g1]; rfl
  have hget11 : (fs ++ [gi c1, gi q1])[11]? = some (gi q1) := by
    rw [List.getElem?_append_right (by omega), g1]; rfl
  have hne : ∀ e : gE, ∀ a, h.1 a = some e → kd (some e) ≠ 0 → a ≠ N := fun e a ha hk e2 => by
    rw [e2, g2] at ha
    cases ha
    exact hk rfl
  cases k with
  | false =>
    have hp := j11 rfl
    have hc1 := g3 rfl
    have hJ : ∀ g : gHp, g.1 p = some (.inr (10, [gq (some K), gq (some N)])) → fJudge (some p) (nI x) (nI y) (nI d) g = fX13_prefers p (nI x) (nI y) (nI d) g := fun g hg => by
      unfold fJudge
      simp only [hg, if_true]
    rw [hJ h hp]
    by_cases hu : s.1 x y = false ∧ s.1 y x = false
    · obtain ⟨h1, h', w1, w2, w3, s1, u1⟩ := zu_new (x := x) (y := y) (d := d) hr hc
      refine ⟨.inr (3, h.2.1), h', ?_, ?_⟩
      · simp only [fX13_prefers, gGq_o (k := 0) hp rfl, bd_s, hrcK, ib1, bd2_s, il0, bI_0, hu.1, if_true, ib2, hu.2, w1, w2, w3]
      · rw [jd_stop hu]
        exact ⟨stn_w s1 (by omega), jR_k hj0 hr s1 (fun a e hx => hx.elim), h.2.1, rfl, u1⟩
    · -- the counter
      have w1 : gPi h (some N) 0 10 (c1 + nI 1) = some (gset h N (.inr (0, fs ++ [gi (c1 + nI 1), gi q1]))) := by rw [gPi_o g2 j5 (by simp [g1]), hgl]
      have s1 : stk (jX N b w) 0 [] 0 h (gset h N (.inr (0, fs ++ [gi (c1 + nI 1), gi q1]))) := set_st hr g2 (.inl (.inl rfl))
      have hp1 : (gset h N (.inr (0, fs ++ [gi (c1 + nI 1), gi q1]))).1 p = some (.inr (10, [gq (some K), gq (some N)])) := by rw [set_ne (by omega)]; exact hp
      have hk1 : knX (gset h N (.inr (0, fs ++ [gi (c1 + nI 1), gi q1]))) K b w n s.1 := by
        obtain ⟨fb, fw, h1, h2, h3, h4, h5⟩ := hk
        exact ⟨fb, fw, h1, by rw [set_ne (by omega)]; exact h2, by rw [set_ne (by omega)]; exact h3, by rw [set_ne (by omega)]; exact h4, h5⟩
      have hkR1 : knR N _ K n s.1 := knX_R hk1 (by omega) (by omega) (by omega)
      have j35 : fX13_prefers_j35 p (nI x) (nI y) h = some (.inl (bI (s.1 x y)), gset h N (.inr (0, fs ++ [gi (c1 + nI 1), gi q1]))) := by
        simp only [fX13_prefers_j35, gGq_o (k := 1) hp rfl, bd_s, gGi_o (k := 10) g2 hget10, il1, w1, gGq_o (k := 0) hp1 rfl, zk_rcv hkR1, zk_isBetter hkR1 (show x < 10 by omega) (show y < 10 by omega), bd2_s, gRz_b]
      refine ⟨.inl (bI (s.1 x y)), gset h N (.inr (0, fs ++ [gi (c1 + nI 1), gi q1])), ?_, ?_⟩
      · simp only [fX13_prefers, gGq_o (k := 0) hp rfl, bd_s, hrcK, ib1, bd2_s, il0, bI_0, ib2, j35]
        cases h8 : s.1 x y with
        | true => rw [if_neg (show ¬ true = false by simp)]
        | false =>
          rw [if_pos rfl]
          cases h9 : s.1 y x with
          | true => rw [if_neg (show ¬ true = false by simp)]
          | false => exact absurd ⟨h8, h9⟩ hu
      · rw [jd_known hu]
        refine ⟨s1, rfl, hk1, j2, j3, j4, j5, j6, j7, j8, j9, ⟨fs, c1 + nI 1, q1, g1, set_at _ _ _, fun _ => by rw [hc1, zb_add], fun h => (by cases h), g5⟩, fun _ => hp1, fun h => (by cases h)⟩
  | true =>
    obtain ⟨⟨o, hp⟩, m2, m3, m4⟩ := j12 rfl
    have hq1 := g4 rfl
    have hJ : ∀ g : gHp, g.1 p = some (.inr (12, [gq (some K), gq o, gq (some sa.1), gq (some N)])) → fJudge (some p) (nI x) (nI y) (nI d) g = bd2 (fX15_prefers p (nI x) (nI y) (nI d) g) fun v h2 => some (.inl v, h2) := fun g hg => by
      unfold fJudge
      simp only [hg, if_true]
      rfl
    rw [hJ h hp]
    by_cases hu : s.1 x y = false ∧ s.1 y x = false
    · have w1 : gPi h (some N) 0 11 (q1 + nI 1) = some (gset h N (.inr (0, fs ++ [gi c1, gi (q1 + nI 1)]))) := by rw [gPi_o g2 j5 (by simp [g1]), hgq]
      have s1 : stk (jX N b w) 0 [] 0 h (gset h N (.inr (0, fs ++ [gi c1, gi (q1 + nI 1)]))) := set_st hr g2 (.inl (.inl rfl))
      have hp1 : (gset h N (.inr (0, fs ++ [gi c1, gi (q1 + nI 1)]))).1 p = some (.inr (12, [gq (some K), gq o, gq (some sa.1), gq (some N)])) := by rw [set_ne (by omega)]; exact hp
      have hk1 : knX (gset h N (.inr (0, fs ++ [gi c1, gi (q1 + nI 1)]))) K b w n s.1 := by
        obtain ⟨fb, fw, h1, h2, h3, h4, h5⟩ := hk
        exact ⟨fb, fw, h1, by rw [set_ne (by omega)]; exact h2, by rw [set_ne (by omega)]; exact h3, by rw [set_ne (by omega)]; exact h4, h5⟩
      have m21 : stR (Lp N) (Lp N) (gset h N (.inr (0, fs ++ [gi c1, gi (q1 + nI 1)]))) sa.1 st := stR_k m2 (fun a e hL ha _ => by have hL : N + 20 ≤ a := hL; rw [set_ne (by omega)]; exact ha) (fun a e hL ha _ => by have hL : N + 20 ≤ a := hL; rw [set_ne (by omega)]; exact ha)
      have hN1 : (gset h N (.inr (0, fs ++ [gi c1, gi (q1 + nI 1)]))).1 N = some (.inr (0, fs ++ [gi c1, gi (q1 + nI 1)])) := set_at _ _ _
      have b1 : (gset h N (.inr (0, fs ++ [gi c1, gi (q1 + nI 1)]))).2.2.2.1 = h.2.2.2.1 := by rw [gset_2]
      generalize gset h N (.inr (0, fs ++ [gi c1, gi (q1 + nI 1)])) = h1 at w1 s1 hp1 hk1 m21 hN1 b1
      have r1 : rm h1 0 := rm_st hr s1 (by omega)
      have hwr := zt_wor m21 m3 (show x < st.1.length by omega) (show y < st.1.length by omega)
      have hkR1 : knR N h1 K n s.1 := knX_R hk1 (by omega) (by omega) (by omega)
      -- told by worth
      have fin : ∀ x' y', x' < n → y' < n → ∃ h', fX9_tells K (nI x') (nI y') h1 = some (some K, h') ∧ stk (jX N b w) 0 [] 0 h h' ∧ jR N p K b w true sa st n (tell s.1 x' y', s.2.1 + 1, s.2.2 + 1) h' ∧ fX15_prefers_j76 p (nI x) (nI y) h' = some (bI (tell s.1 x' y' x y), h') := by
        intro x' y' hx' hy'
        obtain ⟨h', e1, e2, e3⟩ := zk_tells0 hk1 j2 j3 j4 hx' hy' r1 (by omega) (by omega)
        have s2 : stk (jX N b w) 0 [] 0 h h' := stk_c (stk_tr s1 e2 (fun a _ hX _ => ⟨fun h9 => hX (.inr h9), .inr not_nil⟩)) (by omega)
        have hb : h1.1 b = h1.1 b := rfl
        obtain ⟨fb, fw, k1, k2, k3, k4, k5⟩ := hk1
        have kp : ∀ a e, h1.1 a = some e → kd (some e) ≠ 100 → h'.1 a = some e := fun a e ha hk => stk_keep r1 e2 ha (fun h9 => by
          rcases h9 with h9 | h9
          · rw [h9, k3] at ha; cases ha; exact hk rfl
          · rw [h9, k4] at ha; cases ha; exact hk rfl) (.inr not_nil)
        have hp2 := kp _ _ hp1 (by simp [kd])
        refine ⟨h', e1, s2, ⟨e3, j2, tell_in j3 hx' hy', tell_tr j4, by rw [s2.2.2.1]; exact j5, j6, j7, j8, j9, ⟨fs, c1, q1 + nI 1, g1, kp _ _ hN1 (by simp [kd]), fun h => (by cases h), fun _ => by rw [hq1, zb_add], g5⟩, fun h => (by cases h), fun _ => ⟨⟨o, hp2⟩, stR_k m21 (fun a e _ ha hk => kp a e ha (by simp only [List.mem_cons, List.not_mem_nil, or_false] at hk; omega)) (fun a e _ ha hk => kp a e ha (by simp only [List.mem_cons, List.not_mem_nil, or_false] at hk; omega)), m3, m4⟩⟩, ?_⟩
        have hkR2 : knR N h' K n (tell s.1 x' y') := knX_R e3 (by omega) (by omega) (by omega)
        simp only [fX15_prefers_j76, gGq_o (k := 0) hp2 rfl, bd_s, zk_rcv hkR2, zk_isBetter hkR2 (show x < 10 by omega) (show y < 10 by omega), bd2_s, gRz_b]
      rw [jd_ask hu]
      cases hW : wor st x y with
      | true =>
        obtain ⟨h', e1, e2, e3, e4⟩ := fin x y hx hy
        refine ⟨.inl (bI (tell s.1 x y x y)), h', ?_, e2, by simp only [if_true], by simp only [if_true]; exact e3⟩
        simp only [fX15_prefers, gGq_o (k := 0) hp rfl, bd_s, hrcK, ib1, bd2_s, il0, bI_0, hu.1, if_true, ib2, hu.2, gGq_o (k := 3) hp rfl, gGi_o (k := 11) g2 hget11, il1, w1, gGq_o (k := 2) hp1 rfl, st_rcv m21, hwr, hW, Bool.true_eq_false, if_false, gGq_o (k := 0) hp1 rfl, zk_rcv hkR1, e1, fX15_prefers_j74, e4]
      | false =>
        obtain ⟨h', e1, e2, e3, e4⟩ := fin y x hy hx
        refine ⟨.inl (bI (tell s.1 y x x y)), h', ?_, e2, by simp only [Bool.false_eq_true, if_false], by simp only [Bool.false_eq_true, if_false]; exact e3⟩
        simp only [fX15_prefers, gGq_o (k := 0) hp rfl, bd_s, hrcK, ib1, bd2_s, il0, bI_0, hu.1, if_true, ib2, hu.2, gGq_o (k := 3) hp rfl, gGi_o (k := 11) g2 hget11, il1, w1, gGq_o (k := 2) hp1 rfl, st_rcv m21, hwr, hW, gGq_o (k := 0) hp1 rfl, zk_rcv hkR1, e1, fX15_prefers_j74, e4]
    · have j76 : fX15_prefers_j76 p (nI x) (nI y) h = some (bI (s.1 x y), h) := by
        simp only [fX15_prefers_j76, gGq_o (k := 0) hp rfl, bd_s, hrcK, ib1, bd2_s, gRz_b]
      refine ⟨.inl (bI (s.1 x y)), h, ?_, ?_⟩
      · simp only [fX15_prefers, gGq_o (k := 0) hp rfl, bd_s, hrcK, ib1, bd2_s, il0, bI_0, ib2, j76]
        cases h8 : s.1 x y with
        | true => rw [if_neg (show ¬ true = false by simp)]; simp only [bd2_s]
        | false =>
          rw [if_pos rfl]
          cases h9 : s.1 y x with
          | true => rw [if_neg (show ¬ true = false by simp)]; simp only [bd2_s]
          | false => exact absurd ⟨h8, h9⟩ hu
      · rw [jd_known hu]
        exact ⟨stk_rfl hr, rfl, hk, j2, j3, j4, j5, j6, j7, j8, j9, ⟨fs, c1, q1, g1, g2, fun h => (by cases h), g4, g5⟩, fun h => (by cases h), fun _ => ⟨⟨o, hp⟩, m2, m3, m4⟩⟩
