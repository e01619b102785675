/-! L2 COMPONENT: a sort that asks by the worths -/
set_option maxRecDepth 100000
theorem dfX15_e : dfX15 = [gq none, gq none, gq none, gq none] := rfl
section
variable {N a : Nat} {h : gHp} {st : stT}
theorem zq_found {B q mt c : Nat} {R : Nat → Nat → Bool} (he : eR N h a st) (wf : wfT st) (hk : knR B h q st.1.length R) (hB : N + 20 ≤ B) (hR : rin R st.1.length) (ht : trR R) (hm : mt < 3) (hr : rm h c) (hc : 180 ≤ c) : ∃ va h', fX1_found N (some a) (some q) (nI mt) h = some (some va, h') ∧ ro N 180 h h' ∧ match sgo (jd true (wor st)) mt st.1.length (R, 0, 0) with
    | .inl v => gGi h' (some N) 0 11 = some (nI v.2.2.2) ∧ arP h' va st.1.length v.1
    | .inr er => gGi h' (some N) 0 11 = some (nI er.2.2.2) ∧ arP h' va 0 [] := by
  obtain ⟨hb, hN, ⟨fs, hx, hf4, hf8, hf9⟩, hw5, hw6, hst⟩ := id he
  have hxx := hx
  have hn10 := wf.2.1
  obtain ⟨hfl, c0, q0, hx⟩ := hx
  -- the counter
  have w0 : gPi h (some N) 0 11 (nI 0) = some (gset h N (.inr (0, fs ++ [gi c0, gi (nI 0)]))) := by
    rw [gPi_o hx hb (by simp [hfl]), List.set_append_right _ _ (by omega), hfl]
    rfl
  have s0 : stk (fun x => x = N ∨ h.2.1 ≤ x) 0 [] 0 h (gset h N (.inr (0, fs ++ [gi c0, gi (nI 0)]))) := set_st hr hx (.inl (.inl rfl))
  have x0 := set_at h N (.inr (0, fs ++ [gi c0, gi (nI 0)]))
  have n0 : (gset h N (.inr (0, fs ++ [gi c0, gi (nI 0)]))).2 = h.2 := rfl
  have r0 : rm (gset h N (.inr (0, fs ++ [gi c0, gi (nI 0)]))) c := rm_st hr s0 (by omega)
  generalize gset h N (.inr (0, fs ++ [gi c0, gi (nI 0)])) = g0 at w0 s0 x0 n0 r0
  have n01 : g0.2.1 = h.2.1 := by rw [n0]
  have hb0 : g0.2.2.2.1 ≤ N := by rw [n0]; exact hb
  -- two objects
  have s1 : stn 2 g0 (gpush g0 (.inr (9, [gq none])) 1) := push_st r0
  have w1 : gNewO g0 9 dfX11 1 = some (h.2.1, gpush g0 (.inr (9, [gq none])) 1) := by rw [dfX11_e, ← n01]; exact nO_ok r0 (by omega)
  have q1 : (gpush g0 (.inr (9, [gq none])) 1).1 h.2.1 = some (.inr (9, [gq none])) := by rw [← n01]; exact push_at ..
  have m1 : (gpush g0 (.inr (9, [gq none])) 1).2.1 = h.2.1 + 1 := by rw [← n01]; rfl
  generalize gpush g0 (.inr (9, [gq none])) 1 = g1 at s1 w1 q1 m1
  have x1 := stn_keep r0 s1 x0
  have r1 : rm g1 (c - 2) := rm_st r0 s1 (by omega)
  have s2 : stn 5 g1 (gpush g1 (.inr (12, [gq none, gq none, gq none, gq none])) 4) := push_st r1
  have w2 : gNewO g1 12 dfX15 4 = some (h.2.1 + 1, gpush g1 (.inr (12, [gq none, gq none, gq none, gq none])) 4) := by rw [dfX15_e, ← m1]; exact nO_ok r1 (by omega)
  have q2 : (gpush g1 (.inr (12, [gq none, gq none, gq none, gq none])) 4).1 (h.2.1 + 1) = some (.inr (12, [gq none, gq none, gq none, gq none])) := by rw [← m1]; exact push_at ..
  have m2 : (gpush g1 (.inr (12, [gq none, gq none, gq none, gq none])) 4).2.1 = h.2.1 + 2 := by show g1.2.1 + 1 = _; rw [m1]
  generalize gpush g1 (.inr (12, [gq none, gq none, gq none, gq none])) 4 = g2 at s2 w2 q2 m2
  have x2 := stn_keep r1 s2 x1
  have q1 := stn_keep r1 s2 q1
  have r2 : rm g2 (c - 2 - 5) := rm_st r1 s2 (by omega)
  have hb2 : g2.2.2.2.1 ≤ N := by rw [s2.2.2.1, s1.2.2.1]; exact hb0
  have w3 : gPq g2 (some (h.2.1 + 1)) 12 3 (some N) = some (gset g2 (h.2.1 + 1) (.inr (12, [gq none, gq none, gq none, gq (some N)]))) := gPq_o q2 (by omega) (by simp)
  have w4 : gPq (gset g2 (h.2.1 + 1) (.inr (12, [gq none, gq none, gq none, gq (some N)]))) (some (h.2.1 + 1)) 12 1 (some q) = some (gset g2 (h.2.1 + 1) (.inr (12, [gq none, gq (some q), gq none, gq (some N)]))) := by
    rw [gPq_o (set_at _ _ _) (show (gset g2 (h.2.1 + 1) _).2.2.2.1 ≤ _ by rw [gset_2]; omega) (by simp), gset_gset]
    rfl
  have w5 : gPq (gset g2 (h.2.1 + 1) (.inr (12, [gq none, gq (some q), gq none, gq (some N)]))) (some (h.2.1 + 1)) 12 2 (some a) = some (gset g2 (h.2.1 + 1) (.inr (12, [gq none, gq (some q), gq (some a), gq (some N)]))) := by
    rw [gPq_o (set_at _ _ _) (show (gset g2 (h.2.1 + 1) _).2.2.2.1 ≤ _ by rw [gset_2]; omega) (by simp), gset_gset]
    rfl
  have s3 : stk (fun x => x = N ∨ h.2.1 ≤ x) 0 [] 0 g2 (gset g2 (h.2.1 + 1) (.inr (12, [gq none, gq (some q), gq (some a), gq (some N)]))) := set_st r2 q2 (.inl (.inr (by omega)))
  have q23 := set_at g2 (h.2.1 + 1) (.inr (12, [gq none, gq (some q), gq (some a), gq (some N)]))
  have x3 : (gset g2 (h.2.1 + 1) (.inr (12, [gq none, gq (some q), gq (some a), gq (some N)]))).1 N = some (.inr (0, fs ++ [gi c0, gi (nI 0)])) := by rw [set_ne (by omega)]; exact x2
  have q13 : (gset g2 (h.2.1 + 1) (.inr (12, [gq none, gq (some q), gq (some a), gq (some N)]))).1 h.2.1 = some (.inr (9, [gq none])) := by rw [set_ne (by omega)]; exact q1
  have n3 : (gset g2 (h.2.1 + 1) (.inr (12, [gq none, gq (some q), gq (some a), gq (some N)]))).2 = g2.2 := rfl
  have r3 : rm (gset g2 (h.2.1 + 1) (.inr (12, [gq none, gq (some q), gq (some a), gq (some N)]))) (c - 2 - 5) := rm_st r2 s3 (by omega)
  generalize gset g2 (h.2.1 + 1) (.inr (12, [gq none, gq (some q), gq (some a), gq (some N)])) = g3 at w5 s3 q23 x3 q13 n3 r3
  have m3 : g3.2.1 = h.2.1 + 2 := by rw [n3]; exact m2
  -- a copy of what is known
  have s4 : stn 4 g3 (gpush g3 (.inr (7, [gq none, gq none, gi (nI 0)])) 3) := push_st r3
  have w6 : gNewO g3 7 dfX9 3 = some (h.2.1 + 2, gpush g3 (.inr (7, [gq none, gq none, gi (nI 0)])) 3) := by rw [dfX9_e, ← m3]; exact nO_ok r3 (by omega)
  have q4 : (gpush g3 (.inr (7, [gq none, gq none, gi (nI 0)])) 3).1 (h.2.1 + 2) = some (.inr (7, [gq none, gq none, gi (nI 0)])) := by rw [← m3]; exact push_at ..
  generalize gpush g3 (.inr (7, [gq none, gq none, gi (nI 0)])) 3 = g4 at s4 w6 q4
  have x4 := stn_keep r3 s4 x3
  have q24 := stn_keep r3 s4 q23
  have q14 := stn_keep r3 s4 q13
  have r4 : rm g4 (c - 2 - 5 - 4) := rm_st r3 s4 (by omega)
  have s04 : stk (fun x => x = N ∨ h.2.1 ≤ x) 0 [] 11 h g4 := stk_c (stk_t s0 (stk_t (stn_w s1 (Nat.le_refl _)) (stk_t (stn_w s2 (Nat.le_refl _)) (stk_t s3 (stn_w s4 (Nat.le_refl _)))))) (by omega)
  have hk4 : knR B g4 q st.1.length R := knR_k hk (fun y e hy hz _ => stk_keep hr s04 hz (by have := rm_lt hr hz; have hy : B ≤ y := hy; omega) (.inr not_nil))
  have hb4 : g4.2.2.2.1 ≤ N := by rw [s04.2.2.1]; exact hb
  obtain ⟨g5, w7, s5, hK⟩ := zk_copy (B2 := h.2.1 + 2) hk4 q4 (Nat.le_refl _) (rm_w r4 (by omega)) (by omega)
  have r5 : rm g5 (c - 2 - 5 - 4 - 22) := rm_st r4 s5 (by omega)
  have x5 := stk_keep r4 s5 x4 (by omega) (.inr not_nil)
  have q25 := stk_keep r4 s5 q24 (by omega) (.inr not_nil)
  have q15 := stk_keep r4 s5 q14 (by omega) (.inr not_nil)
  have s05 : stk (fun x => x = N ∨ h.2.1 ≤ x) 0 [] 33 h g5 := stk_c (stk_t s04 (stk_w s5 (Nat.le_refl _) (fun y _ hX _ => ⟨fun h9 => hX (.inr (by omega)), .inr not_nil⟩))) (by omega)
  have hb5 : g5.2.2.2.1 ≤ N := by rw [s05.2.2.1]; exact hb
  have w8 : gPq g5 (some (h.2.1 + 1)) 12 0 (some (h.2.1 + 2)) = some (gset g5 (h.2.1 + 1) (.inr (12, [gq (some (h.2.1 + 2)), gq (some q), gq (some a), gq (some N)]))) := gPq_o q25 (by omega) (by simp)
  have w9 : gPq (gset g5 (h.2.1 + 1) (.inr (12, [gq (some (h.2.1 + 2)), gq (some q), gq (some a), gq (some N)]))) (some h.2.1) 9 0 (some (h.2.1 + 1)) = some (gset (gset g5 (h.2.1 + 1) (.inr (12, [gq (some (h.2.1 + 2)), gq (some q), gq (some a), gq (some N)]))) h.2.1 (.inr (9, [gq (some (h.2.1 + 1))]))) := gPq_o (fs := [gq none]) (by rw [set_ne (by omega)]; exact q15) (show g5.2.2.2.1 ≤ _ by omega) (by simp)
  have s6 : stk (fun x => x = N ∨ h.2.1 ≤ x) 0 [] 0 g5 (gset g5 (h.2.1 + 1) (.inr (12, [gq (some (h.2.1 + 2)), gq (some q), gq (some a), gq (some N)]))) := set_st r5 q25 (.inl (.inr (by omega)))
  have r6 := rm_st r5 s6 (c' := c - 2 - 5 - 4 - 22) (by omega)
  have s7 : stk (fun x => x = N ∨ h.2.1 ≤ x) 0 [] 0 (gset g5 (h.2.1 + 1) (.inr (12, [gq (some (h.2.1 + 2)), gq (some q), gq (some a), gq (some N)]))) (gset (gset g5 (h.2.1 + 1) (.inr (12, [gq (some (h.2.1 + 2)), gq (some q), gq (some a), gq (some N)]))) h.2.1 (.inr (9, [gq (some (h.2.1 + 1))]))) := set_st r6 (e0 := .inr (9, [gq none])) (by rw [set_ne (by omega)]; exact q15) (.inl (.inr (Nat.le_refl _)))
  have q27 : (gset (gset g5 (h.2.1 + 1) (.inr (12, [gq (some (h.2.1 + 2)), gq (some q), gq (some a), gq (some N)]))) h.2.1 (.inr (9, [gq (some (h.2.1 + 1))]))).1 (h.2.1 + 1) = some (.inr (12, [gq (some (h.2.1 + 2)), gq (some q), gq (some a), gq (some N)])) := by
    rw [set_ne (by omega)]
    exact set_at _ _ _
  have x7 : (gset (gset g5 (h.2.1 + 1) (.inr (12, [gq (some (h.2.1 + 2)), gq (some q), gq (some a), gq (some N)]))) h.2.1 (.inr (9, [gq (some (h.2.1 + 1))]))).1 N = some (.inr (0, fs ++ [gi c0, gi (nI 0)])) := by
    rw [set_ne (by omega), set_ne (by omega)]
    exact x5
  have q17 := set_at (gset g5 (h.2.1 + 1) (.inr (12, [gq (some (h.2.1 + 2)), gq (some q), gq (some a), gq (some N)]))) h.2.1 (.inr (9, [gq (some (h.2.1 + 1))]))
  have r7 := rm_st r6 s7 (c' := c - 2 - 5 - 4 - 22) (by omega)
  have hK7 : knR (h.2.1 + 2) (gset (gset g5 (h.2.1 + 1) (.inr (12, [gq (some (h.2.1 + 2)), gq (some q), gq (some a), gq (some N)]))) h.2.1 (.inr (9, [gq (some (h.2.1 + 1))]))) (h.2.1 + 2) st.1.length R := knR_k hK (fun y e hy hz _ => by
    have hy : h.2.1 + 2 ≤ y := hy
    rw [set_ne (by omega), set_ne (by omega)]
    exact hz)
  generalize gset g5 (h.2.1 + 1) (.inr (12, [gq (some (h.2.1 + 2)), gq (some q), gq (some a), gq (some N)])) = g6 at w8 w9 s6 r6 s7 q27 x7 q17 r7 hK7
  generalize gset g6 h.2.1 (.inr (9, [gq (some (h.2.1 + 1))])) = g7 at w9 s7 q27 x7 q17 r7 hK7
  have s07 : stk (fun x => x = N ∨ h.2.1 ≤ x) 0 [] 33 h g7 := stk_c (stk_t s05 (stk_t s6 s7)) (by omega)
  have s07' : stk (fun x => x = N) 0 [] 33 h g7 := stk_w s07 (Nat.le_refl _) (fun y hy hX _ => ⟨fun h9 => h9.elim hX (fun h9 => by omega), .inr not_nil⟩)
  have he7 : eR N g7 a st := eR_ro hr he (ro_mk hr s07' hxx ⟨hfl, c0, nI 0, x7⟩)
  have hst7 := he7.2.2.2.2.2
  obtain ⟨b, w, fb, fw, k1, k2, k3, k4, k5, k6, k7, k8⟩ := hK7
  obtain ⟨g8, w10, s8, q8⟩ := zt_row hst7 wf.2.1 r7 (by omega)
  have r8 : rm g8 110 := rm_st r7 s8 (by omega)
  have hj7 : jR N (h.2.1 + 1) (h.2.1 + 2) b w true (a, fs) st st.1.length (R, 0, 0) g7 := ⟨⟨fb, fw, k4, k5, k6, k7, k8⟩, wf.2.1, hR, ht, he7.1, by omega, by omega, by omega, by omega, ⟨fs, c0, nI 0, hfl, x7, fun h => (by cases h), fun _ => rfl, rfl⟩, fun h => (by cases h), fun _ => ⟨⟨_, q27⟩, hst7, wf, rfl⟩⟩
  have hj8 := jR_k hj7 r7 s8 (fun _ _ h9 _ => h9.elim)
  have q18 := stn_keep r7 s8 q17
  have hb8 : g8.2.2.2.1 ≤ g7.2.1 := by have := s07.1; have := he7.1; rw [s8.2.2.1]; omega
  have hbw : g7.2.1 ≠ b ∧ g7.2.1 ≠ w := by
    have := rm_lt r7 k6
    have := rm_lt r7 k7
    omega
  have o := zq_orders (mt := mt) wf.1 hm hbw.1 hbw.2 hb8 hj8 r8 (Nat.le_refl _) q8 q18
  have s08 : stk (fun x => x = N) 0 [] (33 + (st.1.length + 1)) h g8 := stk_t s07' (stn_w s8 (Nat.le_refl _))
  have hf1 : gGq g4 (some (h.2.1 + 1)) 12 1 = some (some q) := gGq_o q24 rfl
  have hbody : fX1_found N (some a) (some q) (nI mt) h = bd2 (fX11_orders 6 h.2.1 (some g7.2.1) (nI mt) g8) fun z h7 => gEl z (fun v7 => some (v7, h7)) (fun x7 => ap2 x7 fun k7 q7_ => if k7 = 3 then (bd2 (gNewA h7 0 (nI 0)) fun a8 h8 => some (some a8, h8)) else (none)) := by
    simp only [fX1_found, il0, w0, bd_s, w1, bd2_s, w2, fX15_init, w3, w4, w5, fX12_init, w6, hf1, w7, w8, fX11_init, w9, st_rcv hst7, w10, gIs_o q18]
  rw [hbody]
  have hfin : ∀ (s' : sJ) (h' : gHp) (cc : Nat), cc ≤ 112 → stk (jX N b w) 0 [] cc g8 h' → jR N (h.2.1 + 1) (h.2.1 + 2) b w true (a, fs) st st.1.length s' h' → ro N 180 h h' ∧ gGi h' (some N) 0 11 = some (nI s'.2.2) := by
    intro s' h' cc hcc t1 t2
    obtain ⟨-, -, -, -, -, -, -, -, -, ⟨fs', c1, q1, z1, z2, -, z3, z4⟩, -⟩ := t2
    have z4 : fs' = fs := z4
    subst z4
    have hc1 := z3 rfl
    subst hc1
    refine ⟨ro_mk hr (stk_c (stk_tr s08 t1 (fun y hy hX _ => ⟨fun h9 => ?_, .inr not_nil⟩)) (by omega)) hxx ⟨z1, _, _, z2⟩, gGi_o z2 ?_⟩
    · rcases h9 with h9 | h9 | h9
      · exact hX h9
      · omega
      · omega
    · rw [List.getElem?_append_right (by omega), z1]
      rfl
  cases hz : sgo (jd true (wor st)) mt st.1.length (R, 0, 0) with
  | inl v =>
    rw [hz] at o
    obtain ⟨va, h', y1, y2, y3, y4, -⟩ := o
    obtain ⟨f1, f2⟩ := hfin _ _ _ (by omega) y2 y3
    rw [y1]
    exact ⟨va, h', rfl, f1, f2, y4⟩
  | inr er =>
    rw [hz] at o
    obtain ⟨u, h', y1, y2, y3, -⟩ := o
    have r9 : rm h' 0 := rm_st r8 y2 (by omega)
    have r9' : rm h' 1 := rm_st (rm_st r7 s8 (c' := c - 2 - 5 - 4 - 22 - 11) (by omega)) y2 (by omega)
    obtain ⟨g9, w11, s9, q9, hj9, -⟩ := zq_newA (tot := 0) y3 r9' (Nat.le_refl _) (by omega)
    obtain ⟨f1, f2⟩ := hfin _ _ 111 (by omega) (stk_c (stk_t y2 (stn_w s9 (Nat.le_refl _))) (by omega)) hj9
    rw [y1]
    refine ⟨h'.2.1, g9, ?_, f1, f2, q9⟩
    simp only [bd2_s, gEl_e, ap2_s, if_true, w11]
end
