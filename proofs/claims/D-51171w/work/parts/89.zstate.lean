/-! L2 STATES: new, copied, told more; what is known -/
set_option maxRecDepth 100000
theorem dfJ0 : (0 : Int32) = nI 0 := il0
theorem dfX4_e : dfX4 = [gq none, gq none, gi (nI 0), gi (nI 0), gi (nI 0)] := by simp only [dfX4, il0]
theorem dfX9_e : dfX9 = [gq none, gq none, gi (nI 0)] := by simp only [dfX9, il0]
theorem dfX10_e : dfX10 = [gi (nI 0), gi (nI 0)] := by simp only [dfX10, il0]
theorem dfX8_e : dfX8 = [gq none, gi (nI 0)] := by simp only [dfX8, il0]
theorem not_f : ¬ False := fun h => h
theorem not_nil {k : Nat} : k ∉ ([] : List Nat) := fun h => nomatch h
theorem zt_init {B : Nat} {h : gHp} {s : Nat} (hx : h.1 s = some (.inr (3, [gq none, gq none, gi (nI 0), gi (nI 0), gi (nI 0)]))) (hBs : B ≤ s) (hr : rm h 34) (hB : h.2.2.2.1 ≤ B) :
    ∃ h' ri li ei ra la ea, fX4_init s h = some h' ∧ stk (fun a => a = s) 0 [] 34 h h' ∧ li ≠ la ∧ ei ≠ ea ∧ h'.1 s = some (.inr (3, [gq (some ri), gq (some ra), gi (nI 0), gi (nI 0), gi (nI 0)])) ∧ (∀ P : Nat → Nat → Prop, rowR (fun a => B ≤ a) h' ri li ei 0 P) ∧ ∀ P : Nat → Nat → Prop, rowR (fun a => B ≤ a) h' ra la ea 0 P := by
  have hss := rm_lt hr hx
  have w1 : gNewO h 4 dfX5 1 = some (h.2.1, gpush h (.inr (4, dfX5)) 1) := nO_ok hr (by omega)
  have q1 : (gpush h (.inr (4, dfX5)) 1).1 h.2.1 = some (.inr (4, [gq none])) := push_at _ _ _
  have s1 : stn 2 h (gpush h (.inr (4, dfX5)) 1) := push_st hr
  have z1 : (gpush h (.inr (4, dfX5)) 1).2.1 = h.2.1 + 1 := by rw [push_2]
  generalize gpush h (.inr (4, dfX5)) 1 = g1 at w1 q1 s1 z1
  have r1 : rm g1 32 := rm_st hr s1 (by omega)
  obtain ⟨g2, li, ei, w2, s2, zl2, ze2, p2⟩ := zx_new (B := B) q1 (by omega) (rm_w r1 (by omega)) (by rw [s1.2.2.1]; exact hB)
  have r2 : rm g2 17 := rm_st r1 s2 (by omega)
  have x1 := stn_keep hr s1 hx
  have x2 : g2.1 s = some (.inr (3, [gq none, gq none, gi (nI 0), gi (nI 0), gi (nI 0)])) := stk_keep r1 s2 x1 (by omega) (.inr not_nil)
  have b2 : g2.2.2.2.1 = h.2.2.2.1 := by rw [s2.2.2.1, s1.2.2.1]
  have w3 : gPq g2 (some s) 3 0 (some h.2.1) = some (gset g2 s (.inr (3, [gq (some h.2.1), gq none, gi (nI 0), gi (nI 0), gi (nI 0)]))) := gPq_o x2 (by omega) (by simp)
  have x3 : (gset g2 s (.inr (3, [gq (some h.2.1), gq none, gi (nI 0), gi (nI 0), gi (nI 0)]))).1 s = some (.inr (3, [gq (some h.2.1), gq none, gi (nI 0), gi (nI 0), gi (nI 0)])) := set_at _ _ _
  have s3 : stk (fun a => a = s) 0 [] 0 g2 (gset g2 s (.inr (3, [gq (some h.2.1), gq none, gi (nI 0), gi (nI 0), gi (nI 0)]))) := set_st r2 x2 (.inl rfl)
  have s3' : stk (fun _ => False) B [3] 0 g2 (gset g2 s (.inr (3, [gq (some h.2.1), gq none, gi (nI 0), gi (nI 0), gi (nI 0)]))) := set_st r2 x2 (.inr ⟨hBs, by simp [kd]⟩)
  generalize gset g2 s (.inr (3, [gq (some h.2.1), gq none, gi (nI 0), gi (nI 0), gi (nI 0)])) = g3 at w3 x3 s3 s3'
  have r3 : rm g3 17 := rm_st r2 s3 (by omega)
  have p3 : ∀ P : Nat → Nat → Prop, rowR (fun a => B ≤ a) g3 h.2.1 li ei 0 P := fun P => rowR_k (p2 P) (kps_st r2 s3' (fun _ _ => not_f) (by simp)) (fun _ _ _ h => h)
  have w4 : gNewO g3 4 dfX5 1 = some (g3.2.1, gpush g3 (.inr (4, dfX5)) 1) := nO_ok r3 (by omega)
  have q4 : (gpush g3 (.inr (4, dfX5)) 1).1 g3.2.1 = some (.inr (4, [gq none])) := push_at _ _ _
  have s4 : stn 2 g3 (gpush g3 (.inr (4, dfX5)) 1) := push_st r3
  generalize gpush g3 (.inr (4, dfX5)) 1 = g4 at w4 q4 s4
  have r4 : rm g4 15 := rm_st r3 s4 (by omega)
  have b4 : g4.2.2.2.1 = h.2.2.2.1 := by rw [s4.2.2.1, s3.2.2.1, b2]
  have z3 : h.2.1 + 1 ≤ g3.2.1 := by have h1 := s2.1; have h2 := s3.1; omega
  obtain ⟨g5, la, ea, w5, s5, zl5, ze5, p5⟩ := zx_new (B := B) q4 (by omega) (rm_w r4 (by omega)) (by omega)
  have r5 : rm g5 0 := rm_st r4 s5 (by omega)
  have x4 := stn_keep r3 s4 x3
  have x5 : g5.1 s = some (.inr (3, [gq (some h.2.1), gq none, gi (nI 0), gi (nI 0), gi (nI 0)])) := stk_keep r4 s5 x4 (by omega) (.inr not_nil)
  have p4 : ∀ P : Nat → Nat → Prop, rowR (fun a => B ≤ a) g4 h.2.1 li ei 0 P := fun P => rowR_k (p3 P) (kps_n r3 s4) (fun _ _ _ h => h)
  have p5' : ∀ P : Nat → Nat → Prop, rowR (fun a => B ≤ a) g5 h.2.1 li ei 0 P := fun P => by
    obtain ⟨cap, mc, f, h1, h2, h3, h4, h5, h6, h7⟩ := p3 P
    have a4 := rm_lt r3 h4
    have a5 := rm_lt r3 h5
    have a6 := rm_lt r3 h6
    exact ⟨cap, mc, f, h1, h2, h3, stk_keep r4 s5 (stn_keep r3 s4 h4) (by omega) (.inr not_nil), stk_keep r4 s5 (stn_keep r3 s4 h5) (by omega) (.inr not_nil), stk_keep r4 s5 (stn_keep r3 s4 h6) (by omega) (.inr not_nil), h7⟩
  have b5 : g5.2.2.2.1 = h.2.2.2.1 := by rw [s5.2.2.1, b4]
  have w6 : gPq g5 (some s) 3 1 (some g3.2.1) = some (gset g5 s (.inr (3, [gq (some h.2.1), gq (some g3.2.1), gi (nI 0), gi (nI 0), gi (nI 0)]))) := gPq_o x5 (by omega) (by simp)
  have s6 : stk (fun a => a = s) 0 [] 0 g5 (gset g5 s (.inr (3, [gq (some h.2.1), gq (some g3.2.1), gi (nI 0), gi (nI 0), gi (nI 0)]))) := set_st r5 x5 (.inl rfl)
  have s6' : stk (fun _ => False) B [3] 0 g5 (gset g5 s (.inr (3, [gq (some h.2.1), gq (some g3.2.1), gi (nI 0), gi (nI 0), gi (nI 0)]))) := set_st r5 x5 (.inr ⟨hBs, by simp [kd]⟩)
  have n1 : li ≠ la := by
    obtain ⟨cap, mc, f, h1, h2, h3, h4, h5, h6, h7⟩ := p3 (fun _ _ => True)
    have := rm_lt r3 h5
    have := s4.1
    omega
  have n2 : ei ≠ ea := by
    obtain ⟨cap, mc, f, h1, h2, h3, h4, h5, h6, h7⟩ := p3 (fun _ _ => True)
    have := rm_lt r3 h6
    have := s4.1
    omega
  refine ⟨_, h.2.1, li, ei, g3.2.1, la, ea, (by simp only [fX4_init, w1, bd2_s, w2, bd_s, w3, w4, w5, w6]; try rfl), ?_, n1, n2, set_at _ _ _, fun P => rowR_k (p5' P) (kps_st r5 s6' (fun _ _ => not_f) (by simp)) (fun _ _ _ h => h), fun P => rowR_k (p5 P) (kps_st r5 s6' (fun _ _ => not_f) (by simp)) (fun _ _ _ h => h)⟩
  have u1 : stk (fun a => a = s) 0 [] (2 + 15) h g2 := stk_tr (stn_w s1 (Nat.le_refl _)) s2 (fun a ha _ _ => ⟨by omega, .inr not_nil⟩)
  have u2 : stk (fun a => a = s) 0 [] (2 + 15 + 0 + 2) h g4 := stk_t (stk_t u1 s3) (stn_w s4 (Nat.le_refl _))
  have u3 : stk (fun a => a = s) 0 [] (2 + 15 + 0 + 2 + 15) h g5 := stk_tr u2 s5 (fun a ha _ _ => ⟨by omega, .inr not_nil⟩)
  exact stk_c (stk_t u3 s6) (by omega)
theorem stR_items {L : Nat → Prop} {h : gHp} {n : Nat} {l : List (List Nat × Nat)} : ∀ i y, i < n → itR L h y (l.getD i ([], 0)) → ∃ ci fs, h.1 y = some (.inr (ci, fs)) ∧ (ci = 6 ∨ ci = 8) := by
  intro i y _ hy
  obtain ⟨-, sa, h1, -⟩ := hy
  exact ⟨_, _, h1, .inl rfl⟩
theorem stR_ans {L : Nat → Prop} {h : gHp} {n : Nat} {l : List (Nat × Nat)} : ∀ i y, i < n → anR L h y (l.getD i (0, 0)) → ∃ ci fs, h.1 y = some (.inr (ci, fs)) ∧ (ci = 6 ∨ ci = 8) := fun i y _ hy => ⟨_, _, hy.2, .inr rfl⟩
/-- a state is copied -/
theorem zt_copy {M L : Nat → Prop} {h : gHp} {s : Nat} {st : stT} (hs : stR M L h s st) (hi : st.1.length ≤ 10) (ha : st.2.1.length ≤ 60) (hr : rm h 6500) :
    ∃ q h', fX4_copy s h = some (some q, h') ∧ stn 6500 h h' ∧ h.2.1 ≤ q ∧ stR (fun a => h.2.1 ≤ a) L h' q st := by
  have hbB : h.2.2.2.1 ≤ h.2.1 := hr.1
  obtain ⟨hM, si, sli, sei, sa, sla, sea, -, -, f1, f2, f3⟩ := hs
  have w1 : gNewO h 3 dfX4 5 = some (h.2.1, gpush h (.inr (3, dfX4)) 5) := nO_ok hr (by omega)
  have q1 : (gpush h (.inr (3, dfX4)) 5).1 h.2.1 = some (.inr (3, [gq none, gq none, gi (nI 0), gi (nI 0), gi (nI 0)])) := by rw [push_at, dfX4_e]
  have s1 : stn 6 h (gpush h (.inr (3, dfX4)) 5) := push_st hr
  generalize gpush h (.inr (3, dfX4)) 5 = g1 at w1 q1 s1
  have r1 : rm g1 6494 := rm_st hr s1 (by omega)
  obtain ⟨g2, ri, -, -, ra, -, -, w2, s2, -, -, x2, -, -⟩ := zt_init (B := h.2.1) q1 (Nat.le_refl _) (rm_w r1 (by omega)) (by rw [s1.2.2.1]; omega)
  have r2 : rm g2 6460 := rm_st r1 s2 (by omega)
  have t2 : stn (6 + 34) h g2 := stk_tr s1 s2 (fun a ha _ _ => ⟨by omega, .inr not_nil⟩)
  have f12 := stn_keep hr t2 f1
  obtain ⟨qi, qli, qei, g4, w4, s4, z4, zl4, ze4, p4⟩ := zx_copy (rowR_k f2 (kps_n hr t2) (fun i a _ h => itR_k h (kps_n hr t2))) (by omega) (rm_w r2 (by omega)) stR_items
  have r4 : rm g4 5533 := rm_st r2 s4 (by omega)
  have x4 := stn_keep r2 s4 x2
  have t4 : stn (6 + 34 + (17 + 91 * st.1.length)) h g4 := stk_t t2 s4
  have b4 : g4.2.2.2.1 = h.2.2.2.1 := by rw [t4.2.2.1]
  have w5 : gPq g4 (some h.2.1) 3 0 (some qi) = some (gset g4 h.2.1 (.inr (3, [gq (some qi), gq (some ra), gi (nI 0), gi (nI 0), gi (nI 0)]))) := gPq_o x4 (by omega) (by simp)
  have x5 : (gset g4 h.2.1 (.inr (3, [gq (some qi), gq (some ra), gi (nI 0), gi (nI 0), gi (nI 0)]))).1 h.2.1 = some (.inr (3, [gq (some qi), gq (some ra), gi (nI 0), gi (nI 0), gi (nI 0)])) := set_at _ _ _
  have s5 : stk (fun _ => False) h.2.1 [3] 0 g4 (gset g4 h.2.1 (.inr (3, [gq (some qi), gq (some ra), gi (nI 0), gi (nI 0), gi (nI 0)]))) := set_st r4 x4 (.inr ⟨Nat.le_refl _, by simp [kd]⟩)
  generalize gset g4 h.2.1 (.inr (3, [gq (some qi), gq (some ra), gi (nI 0), gi (nI 0), gi (nI 0)])) = g5 at w5 x5 s5
  have r5 : rm g5 5533 := rm_st r4 s5 (by omega)
  have t5 : stn (6 + 34 + (17 + 91 * st.1.length) + 0) h g5 := stk_tr t4 s5 (fun a ha _ _ => ⟨not_f, .inl ha⟩)
  have f15 := stn_keep hr t5 f1
  have f35 := rowR_k f3 (kps_n hr t5) (fun i a _ h => anR_k h (kps_n hr t5))
  obtain ⟨qa, qla, qea, g7, w7, s7, z7, zl7, ze7, p7⟩ := zx_copy f35 ha (rm_w r5 (by omega)) stR_ans
  have r7 : rm g7 0 := rm_st r5 s7 (by omega)
  have x7 := stn_keep r5 s7 x5
  have t7 : stn (6 + 34 + (17 + 91 * st.1.length) + 0 + (17 + 91 * st.2.1.length)) h g7 := stk_t t5 s7
  have b7 : g7.2.2.2.1 = h.2.2.2.1 := by rw [t7.2.2.1]
  -- the fields
  have fin : ∀ (g : gHp) (o1 o2 : Option Nat) (i1 i2 i3 : Int32), g.1 h.2.1 = some (.inr (3, [gq o1, gq o2, gi i1, gi i2, gi i3])) → stk (fun _ => False) h.2.1 [3] 0 g7 g → ∀ (o1' o2' : Option Nat) (j1 j2 j3 : Int32),
      (gset g h.2.1 (.inr (3, [gq o1', gq o2', gi j1, gi j2, gi j3]))).1 h.2.1 = some (.inr (3, [gq o1', gq o2', gi j1, gi j2, gi j3])) ∧ stk (fun _ => False) h.2.1 [3] 0 g7 (gset g h.2.1 (.inr (3, [gq o1', gq o2', gi j1, gi j2, gi j3]))) ∧ g.2.2.2.1 ≤ h.2.1 ∧ g.1 s = some (.inr (3, [gq (some si), gq (some sa), gi (nI st.2.2.1), gi (nI st.2.2.2.1), gi (nI st.2.2.2.2)])) := by
    intro g o1 o2 i1 i2 i3 hx hst o1' o2' j1 j2 j3
    have rg : rm g 0 := rm_st r7 hst (by omega)
    have tg := stk_tr t7 hst (fun a ha _ _ => ⟨not_f, .inl ha⟩)
    exact ⟨set_at _ _ _, stk_c (stk_t hst (set_st rg hx (.inr ⟨Nat.le_refl _, by simp [kd]⟩))) (by omega), by rw [tg.2.2.1]; exact hbB, stn_keep hr tg f1⟩
  obtain ⟨x8, s8, b8, -⟩ := fin g7 _ _ _ _ _ x7 (stk_rfl r7) (some qi) (some qa) (nI 0) (nI 0) (nI 0)
  have w8 : gPq g7 (some h.2.1) 3 1 (some qa) = some (gset g7 h.2.1 (.inr (3, [gq (some qi), gq (some qa), gi (nI 0), gi (nI 0), gi (nI 0)]))) := gPq_o x7 b8 (by simp)
  generalize gset g7 h.2.1 (.inr (3, [gq (some qi), gq (some qa), gi (nI 0), gi (nI 0), gi (nI 0)])) = g8 at w8 x8 s8
  obtain ⟨x9, s9, b9, f18⟩ := fin g8 _ _ _ _ _ x8 s8 (some qi) (some qa) (nI st.2.2.1) (nI 0) (nI 0)
  have w9 : gPi g8 (some h.2.1) 3 2 (nI st.2.2.1) = some (gset g8 h.2.1 (.inr (3, [gq (some qi), gq (some qa), gi (nI st.2.2.1), gi (nI 0), gi (nI 0)]))) := gPi_o x8 b9 (by simp)
  generalize gset g8 h.2.1 (.inr (3, [gq (some qi), gq (some qa), gi (nI st.2.2.1), gi (nI 0), gi (nI 0)])) = g9 at w9 x9 s9
  obtain ⟨x10, s10, b10, f19⟩ := fin g9 _ _ _ _ _ x9 s9 (some qi) (some qa) (nI st.2.2.1) (nI st.2.2.2.1) (nI 0)
  have w10 : gPi g9 (some h.2.1) 3 3 (nI st.2.2.2.1) = some (gset g9 h.2.1 (.inr (3, [gq (some qi), gq (some qa), gi (nI st.2.2.1), gi (nI st.2.2.2.1), gi (nI 0)]))) := gPi_o x9 b10 (by simp)
  generalize gset g9 h.2.1 (.inr (3, [gq (some qi), gq (some qa), gi (nI st.2.2.1), gi (nI st.2.2.2.1), gi (nI 0)])) = g10 at w10 x10 s10
  obtain ⟨x11, s11, b11, f110⟩ := fin g10 _ _ _ _ _ x10 s10 (some qi) (some qa) (nI st.2.2.1) (nI st.2.2.2.1) (nI st.2.2.2.2)
  have w11 : gPi g10 (some h.2.1) 3 4 (nI st.2.2.2.2) = some (gset g10 h.2.1 (.inr (3, [gq (some qi), gq (some qa), gi (nI st.2.2.1), gi (nI st.2.2.2.1), gi (nI st.2.2.2.2)]))) := gPi_o x10 b11 (by simp)
  generalize gset g10 h.2.1 (.inr (3, [gq (some qi), gq (some qa), gi (nI st.2.2.1), gi (nI st.2.2.2.1), gi (nI st.2.2.2.2)])) = g11 at w11 x11 s11
  have t11 := stk_tr t7 s11 (fun a ha _ _ => ⟨not_f, .inl ha⟩)
  have r11 : rm g11 0 := rm_st r7 s11 (by omega)
  have n1 : qli ≠ qla := by
    obtain ⟨cap, mc, f, h1, h2, h3, h4, h5, h6, h7⟩ := p4
    have := rm_lt r4 h5
    have := s5.1
    omega
  have n2 : qei ≠ qea := by
    obtain ⟨cap, mc, f, h1, h2, h3, h4, h5, h6, h7⟩ := p4
    have := rm_lt r4 h6
    have := s5.1
    omega
  refine ⟨h.2.1, g11, ?_, stk_c t11 (by omega), Nat.le_refl _, Nat.le_refl _, qi, qli, qei, qa, qla, qea, n1, n2, x11, ?_, ?_⟩
  · simp only [fX4_copy, w1, bd2_s, bd_s, w2, gGq_o (k := 0) f12 rfl, zx_rcv (rowR_k f2 (kps_n hr t2) (fun _ _ _ h => h)), w4, w5, gGq_o (k := 1) f15 rfl, zx_rcv f35, w7, w8, gGi_o (k := 2) f18 rfl, w9, gGi_o (k := 3) f19 rfl, w10, gGi_o (k := 4) f110 rfl, w11]
  · have k1 : kps (fun a => h.2.1 ≤ a) [4, 14, 105] g4 g5 := kps_st r4 s5 (fun _ _ => not_f) (by simp)
    have k2 : kps (fun a => h.2.1 ≤ a) [4, 14, 105] g7 g11 := kps_st r7 s11 (fun _ _ => not_f) (by simp)
    have k3 : kps L [6, 16, 101] g2 g11 := fun a e h1 h2 h3 => by
      have e4 := stn_keep r2 s4 h2
      have e5 := stk_keep r4 s5 e4 not_f (.inr (by
        simp only [List.mem_cons, List.not_mem_nil, or_false] at h3 ⊢
        omega))
      have e7 := stn_keep r5 s7 e5
      exact stk_keep r7 s11 e7 not_f (.inr (by
        simp only [List.mem_cons, List.not_mem_nil, or_false] at h3 ⊢
        omega))
    have p4' := rowR_m p4 (M' := fun a => h.2.1 ≤ a) (fun a e h1 _ => by have h2 : g2.2.1 ≤ a := h1; have h3 := t2.1; omega) (fun _ _ _ h => h)
    have p5' := rowR_k p4' k1 (fun _ _ _ h => h)
    have p7' := rowR_k p5' (kps_n r5 s7) (fun _ _ _ h => h)
    exact rowR_k p7' k2 (fun i a _ h => itR_k h k3)
  · have k2 : kps (fun a => h.2.1 ≤ a) [4, 14, 105] g7 g11 := kps_st r7 s11 (fun _ _ => not_f) (by simp)
    have k3 : kps L [8] g5 g11 := fun a e h1 h2 h3 => by
      have e7 := stn_keep r5 s7 h2
      exact stk_keep r7 s11 e7 not_f (.inr (by
        simp only [List.mem_cons, List.not_mem_nil, or_false] at h3 ⊢
        omega))
    have p7' := rowR_m p7 (M' := fun a => h.2.1 ≤ a) (fun a e h1 _ => by have h2 : g5.2.1 ≤ a := h1; have h3 := t5.1; omega) (fun _ _ _ h => h)
    exact rowR_k p7' k2 (fun i a _ h => anR_k h k3)
/-- a fresh state is told an answer -/
theorem zt_answers {B : Nat} {L : Nat → Prop} {h : gHp} {s a b : Nat} {st : stT} (hs : stR (fun a => B ≤ a) L h s st) (hL : ∀ a, B ≤ a → L a) (ha : st.2.1.length < 60) (hr : rm h 94) (hB : h.2.2.2.1 ≤ B) :
    ∃ h', fX4_answers s (nI a) (nI b) h = some h' ∧ stk (fun _ => False) B [3, 14, 105] 94 h h' ∧ stR (fun a => B ≤ a) L h' s (st.1, st.2.1 ++ [(a, b)], st.2.2.1, st.2.2.2.1 + 1, st.2.2.2.2) := by
  obtain ⟨hM, si, sli, sei, sa, sla, sea, n1, n2, f1, f2, f3⟩ := hs
  have hss := rm_lt hr f1
  have hBs : B ≤ h.2.1 := by have hM : B ≤ s := hM; omega
  have w1 : gNewO h 8 dfX10 2 = some (h.2.1, gpush h (.inr (8, dfX10)) 2) := nO_ok hr (by omega)
  have q1 : (gpush h (.inr (8, dfX10)) 2).1 h.2.1 = some (.inr (8, [gi (nI 0), gi (nI 0)])) := by rw [push_at, dfX10_e]
  have s1 : stn 3 h (gpush h (.inr (8, dfX10)) 2) := push_st hr
  generalize gpush h (.inr (8, dfX10)) 2 = g1 at w1 q1 s1
  have r1 : rm g1 91 := rm_st hr s1 (by omega)
  have b1 : g1.2.2.2.1 = h.2.2.2.1 := by rw [s1.2.2.1]
  have w2 : gPi g1 (some h.2.1) 8 0 (nI a) = some (gset g1 h.2.1 (.inr (8, [gi (nI a), gi (nI 0)]))) := gPi_o q1 (by omega) (by simp)
  have q2 : (gset g1 h.2.1 (.inr (8, [gi (nI a), gi (nI 0)]))).1 h.2.1 = some (.inr (8, [gi (nI a), gi (nI 0)])) := set_at _ _ _
  have s2 : stk (fun a => a = h.2.1) 0 [] 0 g1 (gset g1 h.2.1 (.inr (8, [gi (nI a), gi (nI 0)]))) := set_st r1 q1 (.inl rfl)
  generalize gset g1 h.2.1 (.inr (8, [gi (nI a), gi (nI 0)])) = g2 at w2 q2 s2
  have r2 : rm g2 91 := rm_st r1 s2 (by omega)
  have w3 : gPi g2 (some h.2.1) 8 1 (nI b) = some (gset g2 h.2.1 (.inr (8, [gi (nI a), gi (nI b)]))) := gPi_o q2 (by rw [s2.2.2.1]; omega) (by simp)
  have q3 : (gset g2 h.2.1 (.inr (8, [gi (nI a), gi (nI b)]))).1 h.2.1 = some (.inr (8, [gi (nI a), gi (nI b)])) := set_at _ _ _
  have s3 : stk (fun a => a = h.2.1) 0 [] 0 g2 (gset g2 h.2.1 (.inr (8, [gi (nI a), gi (nI b)]))) := set_st r2 q2 (.inl rfl)
  generalize gset g2 h.2.1 (.inr (8, [gi (nI a), gi (nI b)])) = g3 at w3 q3 s3
  have r3 : rm g3 91 := rm_st r2 s3 (by omega)
  have t3 : stn (3 + 0 + 0) h g3 := stk_tr (stk_tr s1 s2 (fun a ha _ _ => ⟨by omega, .inr not_nil⟩)) s3 (fun a ha _ _ => ⟨by omega, .inr not_nil⟩)
  have f33 := rowR_k f3 (kps_n hr t3) (fun _ _ _ h => h)
  obtain ⟨g4, sea', w4, s4, hen, p4⟩ := zx_add f33 r3 ha (by rw [t3.2.2.1]; exact hB) q3 (.inr rfl) (fun i y _ hy => ⟨_, _, stn_keep hr t3 hy.2, .inr rfl⟩)
  have r4 : rm g4 0 := rm_st r3 s4 (by omega)
  obtain ⟨hBl, hBe, mc3, cap3, fx3, x3l, x3e⟩ : B ≤ sla ∧ B ≤ sea ∧ ∃ mc cap f, g3.1 sla = some (.inr (14, [gi mc, gq (some sea), gi (nI st.2.1.length)])) ∧ g3.1 sea = some (.inl (5, cap, .inr (.inr (.inr (.inr f))))) := by
    obtain ⟨cap, mc, f, h1, h2, h3, h4, h5, h6, h7⟩ := f33
    exact ⟨h2, h3, mc, cap, f, h5, h6⟩
  have f13 := stn_keep hr t3 f1
  have f14 := stk_keep r3 s4 f13 (fun h9 => by
    rcases h9 with h9 | h9
    · rw [h9, x3l] at f13; cases f13
    · rw [h9, x3e] at f13; cases f13) (.inr not_nil)
  have t4 : stk (fun _ => False) B [3, 14, 105] (3 + 0 + 0 + 91) h g4 := stk_t (stn_w t3 (Nat.le_refl _)) (stk_w s4 (Nat.le_refl _) (fun a ha _ hk => ⟨fun h9 => by
    rcases h9 with h9 | h9
    · rw [h9, x3l] at hk
      rcases hk with hk | hk
      · omega
      · exact hk (by simp [kd])
    · rw [h9, x3e] at hk
      rcases hk with hk | hk
      · omega
      · exact hk (by simp [kd]), .inr not_nil⟩))
  have w5 : gPi g4 (some s) 3 3 (nI (st.2.2.2.1 + 1)) = some (gset g4 s (.inr (3, [gq (some si), gq (some sa), gi (nI st.2.2.1), gi (nI (st.2.2.2.1 + 1)), gi (nI st.2.2.2.2)]))) := gPi_o f14 (by rw [t4.2.2.1]; have hM : B ≤ s := hM; omega) (by simp)
  have s5 : stk (fun _ => False) B [3] 0 g4 (gset g4 s (.inr (3, [gq (some si), gq (some sa), gi (nI st.2.2.1), gi (nI (st.2.2.2.1 + 1)), gi (nI st.2.2.2.2)]))) := set_st r4 f14 (.inr ⟨hM, by simp [kd]⟩)
  refine ⟨_, (by simp only [fX4_answers, gGq_o (k := 1) f1 rfl, bd_s, w1, bd2_s, fX10_init, fX7_init, w2, w3, zx_rcv f33, w4, gGi_o (k := 3) f14 rfl, il1, zb_add, w5]; try rfl), stk_c (stk_t t4 (stk_ks s5 (Nat.le_refl _) (by simp))) (by omega), hM, si, sli, sei, sa, sla, sea', n1, ?_, set_at _ _ _, ?_, ?_⟩
  · rcases hen with h9 | h9
    · rw [h9]; exact n2
    · have := rm_lt hr (f2.choose_spec.choose_spec.choose_spec).2.2.2.2.2.1
      have := t3.1
      omega
  · -- the row of items is another one
    have k5 : ∀ x e, g4.1 x = some e → kd (some e) ≠ 3 → (gset g4 s (.inr (3, [gq (some si), gq (some sa), gi (nI st.2.2.1), gi (nI (st.2.2.2.1 + 1)), gi (nI st.2.2.2.2)]))).1 x = some e := fun x e h1 h2 => by
      rw [set_ne (fun h9 => by rw [h9, f14] at h1; cases h1; exact h2 rfl)]
      exact h1
    obtain ⟨cap, mc, f, h1, h2, h3, h4, h5, h6, h7⟩ := f2
    have kk : ∀ x e, h.1 x = some e → x ≠ sla → x ≠ sea → kd (some e) ≠ 3 → (gset g4 s (.inr (3, [gq (some si), gq (some sa), gi (nI st.2.2.1), gi (nI (st.2.2.2.1 + 1)), gi (nI st.2.2.2.2)]))).1 x = some e := fun x e h1 h2 h3 h4 => k5 x e (stk_keep r3 s4 (stn_keep hr t3 h1) (fun h9 => by rcases h9 with h9 | h9; exact h2 h9; exact h3 h9) (.inr not_nil)) h4
    have hsl : ∀ x e, h.1 x = some e → kd (some e) ≠ 14 → x ≠ sla := fun x e h1 h2 h9 => by
      rw [h9] at h1
      rw [stn_keep hr t3 h1] at x3l
      cases x3l
      exact h2 rfl
    have hse : ∀ x e, h.1 x = some e → kd (some e) ≠ 105 → x ≠ sea := fun x e h1 h2 h9 => by
      rw [h9] at h1
      rw [stn_keep hr t3 h1] at x3e
      cases x3e
      exact h2 rfl
    refine ⟨cap, mc, f, h1, h2, h3, kk _ _ h4 (hsl _ _ h4 (by simp [kd])) (hse _ _ h4 (by simp [kd])) (by simp [kd]), kk _ _ h5 n1 (hse _ _ h5 (by simp [kd])) (by simp [kd]), kk _ _ h6 (hsl _ _ h6 (by simp [kd])) n2 (by simp [kd]), h7.1, h7.2.1, h7.2.2.1, fun i hi => ?_⟩
    obtain ⟨y, y1, y2⟩ := h7.2.2.2 i hi
    exact ⟨y, y1, itR_k y2 (fun x e _ h2 h3 => kk x e h2 (hsl _ _ h2 (by simp only [List.mem_cons, List.not_mem_nil, or_false] at h3; omega)) (hse _ _ h2 (by simp only [List.mem_cons, List.not_mem_nil, or_false] at h3; omega)) (by simp only [List.mem_cons, List.not_mem_nil, or_false] at h3; omega))⟩
  · have p4' := p4 (fun i e => anR L (gset g4 s (.inr (3, [gq (some si), gq (some sa), gi (nI st.2.2.1), gi (nI (st.2.2.2.1 + 1)), gi (nI st.2.2.2.2)]))) e ((st.2.1 ++ [(a, b)]).getD i (0, 0))) (fun i y hi hy => ?_) ?_
    · have hlen : (st.2.1 ++ [(a, b)]).length = st.2.1.length + 1 := by simp
      show rowR _ _ sa sla sea' (st.2.1 ++ [(a, b)]).length _
      rw [hlen]
      exact rowR_k p4' (kps_st r4 s5 (fun _ _ => not_f) (by simp)) (fun _ _ _ h => h)
    · have e1 : (st.2.1 ++ [(a, b)]).getD i (0, 0) = st.2.1.getD i (0, 0) := by
        rw [List.getD_eq_getElem?_getD, List.getD_eq_getElem?_getD, List.getElem?_append_left hi]
      rw [e1]
      refine ⟨hy.1, ?_⟩
      have z1 := stn_keep hr t3 hy.2
      rw [set_ne (fun h9 => by rw [h9] at z1; rw [f13] at z1; cases z1)]
      refine stk_keep r3 s4 z1 (fun h9 => ?_) (.inr not_nil)
      rcases h9 with h9 | h9
      · rw [h9, x3l] at z1; cases z1
      · rw [h9, x3e] at z1; cases z1
    · have e1 : (st.2.1 ++ [(a, b)]).getD st.2.1.length (0, 0) = (a, b) := by
        rw [List.getD_eq_getElem?_getD, List.getElem?_append_right (Nat.le_refl _), Nat.sub_self]
        rfl
      rw [e1]
      refine ⟨hL _ hBs, ?_⟩
      rw [set_ne (fun h9 => by rw [h9] at q3; rw [f13] at q3; cases q3)]
      refine stk_keep r3 s4 q3 (fun h9 => ?_) (.inr not_nil)
      rcases h9 with h9 | h9
      · rw [h9, x3l] at q3; cases q3
      · rw [h9, x3e] at q3; cases q3
