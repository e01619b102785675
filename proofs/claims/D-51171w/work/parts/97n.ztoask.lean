/-! L2 COMPONENT: what is to be asked -/
set_option maxRecDepth 100000
theorem dfX11_e : dfX11 = [gq none] := rfl
theorem dfX13_e : dfX13 = [gq none, gq none] := rfl
/-- only the component's object changes among the old cells, and its first ten fields stay -/
theorem ro_mk {N c d : Nat} {h h' : gHp} {fs : List gV} (hr : rm h d) (s : stk (fun a => a = N) 0 [] c h h') (hx : xO N h fs) (hx' : xO N h' fs) : ro N c h h' := by
  refine ⟨stk_w s (Nat.le_refl _) (fun a _ hX _ => ⟨fun h9 => hX (.inl h9), .inr not_nil⟩), fun gs hg => ?_, fun ⟨w, h1⟩ => ⟨w, stk_keep hr s h1 (by omega) (.inr not_nil)⟩, fun ⟨w, h1⟩ => ⟨w, stk_keep hr s h1 (by omega) (.inr not_nil)⟩⟩
  obtain ⟨h1, c1, q1, h2⟩ := hx
  obtain ⟨h3, c2, q2, h4⟩ := hg
  rw [h2] at h4
  have h5 : fs ++ [gi c1, gi q1] = gs ++ [gi c2, gi q2] := by
    injection h4 with h4
    injection h4 with h4
    injection h4 with _ h4
  have h6 := (List.append_inj h5 (by rw [h1, h3])).1
  rw [← h6]
  exact hx'
section
variable {N a : Nat} {h : gHp} {st : stT}
theorem zq_toAsk {c : Nat} (he : eR N h a st) (wf : wfT st) (hr : rm h c) (hc : 160 ≤ c) : ∃ r h', fX1_toAsk N (some a) h = some (r, h') ∧ ro N 160 h h' ∧ match sgo (jd false (wor st)) st.2.2.1 st.1.length (kn st.2.1, 0, 0) with
    | .inl v => r = none ∧ gGi h' (some N) 0 10 = some (nI v.2.2.1)
    | .inr er => ∃ u, r = some u ∧ unC h' u er.1 ∧ gGi h' (some N) 0 10 = some (nI er.2.2.1) := by
  obtain ⟨hb, hN, ⟨fs, hx, hf4, hf8, hf9⟩, hw5, hw6, hst⟩ := id he
  have hxx := hx
  obtain ⟨hfl, c0, q0, hx⟩ := hx
  have s1 : stn 2 h (gpush h (.inr (9, [gq none])) 1) := push_st hr
  have w1 : gNewO h 9 dfX11 1 = some (h.2.1, gpush h (.inr (9, [gq none])) 1) := by rw [dfX11_e]; exact nO_ok hr (by omega)
  have q1 := push_at h (.inr (9, [gq none])) 1
  have n1 : (gpush h (.inr (9, [gq none])) 1).2.1 = h.2.1 + 1 := rfl
  generalize gpush h (.inr (9, [gq none])) 1 = g1 at s1 w1 q1 n1
  have r1 : rm g1 (c - 2) := rm_st hr s1 (by omega)
  have s2 : stn 3 g1 (gpush g1 (.inr (10, [gq none, gq none])) 2) := push_st r1
  have w2 : gNewO g1 10 dfX13 2 = some (g1.2.1, gpush g1 (.inr (10, [gq none, gq none])) 2) := by rw [dfX13_e]; exact nO_ok r1 (by omega)
  have q2 := push_at g1 (.inr (10, [gq none, gq none])) 2
  have n2 : (gpush g1 (.inr (10, [gq none, gq none])) 2).2.1 = g1.2.1 + 1 := rfl
  generalize gpush g1 (.inr (10, [gq none, gq none])) 2 = g2 at s2 w2 q2 n2
  have q1 := stn_keep r1 s2 q1
  have r2 : rm g2 (c - 2 - 3) := rm_st r1 s2 (by omega)
  have s12 : stn 5 h g2 := stk_t s1 s2
  have he2 : eR N g2 a st := eR_ro hr he (ro_n hr s12)
  obtain ⟨K, g3, w3, w4, s3, -, he3, hK, -⟩ := ze_known he2 wf r2 (by omega)
  have r3 : rm g3 (c - 2 - 3 - 26) := rm_st r2 s3 (by omega)
  have q1 := stn_keep r2 s3 q1
  have q2 := stn_keep r2 s3 q2
  obtain ⟨b, w, fb, fw, k1, k2, k3, k4, k5, k6, k7, k8⟩ := hK
  have s13 : stn 31 h g3 := stk_t s12 s3
  have x3 := stn_keep hr s13 hx
  have hb3 : g3.2.2.2.1 ≤ N := by rw [s13.2.2.1]; exact hb
  -- the new objects are filled
  have w5 : gPq g3 (some g1.2.1) 10 1 (some N) = some (gset g3 g1.2.1 (.inr (10, [gq none, gq (some N)]))) := gPq_o q2 (by omega) (by simp)
  have w6 : gPq (gset g3 g1.2.1 (.inr (10, [gq none, gq (some N)]))) (some g1.2.1) 10 0 (some K) = some (gset g3 g1.2.1 (.inr (10, [gq (some K), gq (some N)]))) := by
    rw [gPq_o (set_at _ _ _) (show (gset g3 g1.2.1 _).2.2.2.1 ≤ _ by rw [gset_2]; omega) (by simp), gset_gset]
    rfl
  have s4 : stk (fun x => x = N ∨ x = h.2.1 ∨ x = g1.2.1) 0 [] 0 g3 (gset g3 g1.2.1 (.inr (10, [gq (some K), gq (some N)]))) := set_st r3 q2 (.inl (.inr (.inr rfl)))
  have q2' := set_at g3 g1.2.1 (.inr (10, [gq (some K), gq (some N)]))
  have x4 : (gset g3 g1.2.1 (.inr (10, [gq (some K), gq (some N)]))).1 N = some (.inr (0, fs ++ [gi c0, gi q0])) := by rw [set_ne (by omega)]; exact x3
  have q1' : (gset g3 g1.2.1 (.inr (10, [gq (some K), gq (some N)]))).1 h.2.1 = some (.inr (9, [gq none])) := by rw [set_ne (by omega)]; exact q1
  have hb4 : (gset g3 g1.2.1 (.inr (10, [gq (some K), gq (some N)]))).2.2.2.1 ≤ N := hb3
  have r4 : rm (gset g3 g1.2.1 (.inr (10, [gq (some K), gq (some N)]))) (c - 2 - 3 - 26) := rm_st r3 s4 (by omega)
  generalize gset g3 g1.2.1 (.inr (10, [gq (some K), gq (some N)])) = g4 at w6 s4 q2' x4 q1' hb4 r4
  have w7 : gPi g4 (some N) 0 10 (nI 0) = some (gset g4 N (.inr (0, fs ++ [gi (nI 0), gi q0]))) := by
    rw [gPi_o x4 hb4 (by simp [hfl]), List.set_append_right _ _ (by omega), hfl]
    rfl
  have s5 : stk (fun x => x = N ∨ x = h.2.1 ∨ x = g1.2.1) 0 [] 0 g4 (gset g4 N (.inr (0, fs ++ [gi (nI 0), gi q0]))) := set_st r4 x4 (.inl (.inl rfl))
  have x5 := set_at g4 N (.inr (0, fs ++ [gi (nI 0), gi q0]))
  have q25 : (gset g4 N (.inr (0, fs ++ [gi (nI 0), gi q0]))).1 g1.2.1 = some (.inr (10, [gq (some K), gq (some N)])) := by rw [set_ne (by omega)]; exact q2'
  have q15 : (gset g4 N (.inr (0, fs ++ [gi (nI 0), gi q0]))).1 h.2.1 = some (.inr (9, [gq none])) := by rw [set_ne (by omega)]; exact q1'
  have hb5 : (gset g4 N (.inr (0, fs ++ [gi (nI 0), gi q0]))).2.2.2.1 ≤ N := hb4
  have r5 : rm (gset g4 N (.inr (0, fs ++ [gi (nI 0), gi q0]))) (c - 2 - 3 - 26) := rm_st r4 s5 (by omega)
  generalize gset g4 N (.inr (0, fs ++ [gi (nI 0), gi q0])) = g5 at w7 s5 x5 q25 q15 hb5 r5
  have w8 : gPq g5 (some h.2.1) 9 0 (some g1.2.1) = some (gset g5 h.2.1 (.inr (9, [gq (some g1.2.1)]))) := gPq_o q15 (by omega) (by simp)
  have s6 : stk (fun x => x = N ∨ x = h.2.1 ∨ x = g1.2.1) 0 [] 0 g5 (gset g5 h.2.1 (.inr (9, [gq (some g1.2.1)]))) := set_st r5 q15 (.inl (.inr (.inl rfl)))
  have q16 := set_at g5 h.2.1 (.inr (9, [gq (some g1.2.1)]))
  have x6 : (gset g5 h.2.1 (.inr (9, [gq (some g1.2.1)]))).1 N = some (.inr (0, fs ++ [gi (nI 0), gi q0])) := by rw [set_ne (by omega)]; exact x5
  have q26 : (gset g5 h.2.1 (.inr (9, [gq (some g1.2.1)]))).1 g1.2.1 = some (.inr (10, [gq (some K), gq (some N)])) := by rw [set_ne (by omega)]; exact q25
  have hb6 : (gset g5 h.2.1 (.inr (9, [gq (some g1.2.1)]))).2.2.2.1 ≤ N := hb5
  have r6 : rm (gset g5 h.2.1 (.inr (9, [gq (some g1.2.1)]))) (c - 2 - 3 - 26) := rm_st r5 s6 (by omega)
  generalize gset g5 h.2.1 (.inr (9, [gq (some g1.2.1)])) = g6 at w8 s6 q16 x6 q26 hb6 r6
  have s36 : stk (fun x => x = N ∨ x = h.2.1 ∨ x = g1.2.1) 0 [] 0 g3 g6 := stk_c (stk_t s4 (stk_t s5 s6)) (by omega)
  have hB : g3.2.1 ≤ g6.2.1 := s36.1
  have kp : ∀ y e, g2.2.1 ≤ y → g3.1 y = some e → g6.1 y = some e := fun y e hy hz => stk_keep r3 s36 hz (by omega) (.inr not_nil)
  have s06 : stk (fun x => x = N) 0 [] 31 h g6 := stk_c (stk_tr (X := fun x => x = N) (B := 0) (ks := []) (stn_w s13 (Nat.le_refl _)) s36 (fun y hy hX _ => ⟨fun h9 => by omega, .inr not_nil⟩)) (by omega)
  have he6 : eR N g6 a st := eR_ro hr he (ro_mk hr s06 hxx ⟨hfl, nI 0, q0, x6⟩)
  have hst6 := he6.2.2.2.2.2
  obtain ⟨g7, w9, s7, q7⟩ := zt_row hst6 wf.2.1 r6 (by have := wf.2.1; omega)
  have r7 : rm g7 110 := rm_st r6 s7 (by have := wf.2.1; omega)
  have hj6 : jR N g1.2.1 K b w false (0, fs) st st.1.length (kn st.2.1, 0, 0) g6 := ⟨⟨fb, fw, k4, kp _ _ k1 k5, kp _ _ k2 k6, kp _ _ k3 k7, k8⟩, wf.2.1, wfT_in wf, kn_tr _, hb6, by omega, by omega, by omega, by omega, ⟨fs, nI 0, q0, hfl, x6, fun _ => rfl, fun h => (by cases h), rfl⟩, fun _ => q26, fun h => (by cases h)⟩
  have hj7 := jR_k hj6 r6 s7 (fun _ _ h9 _ => h9.elim)
  have q17 := stn_keep r6 s7 q16
  have hb7 : g7.2.2.2.1 ≤ g6.2.1 := by have := s3.1; rw [s7.2.2.1]; omega
  have hbw : g6.2.1 ≠ b ∧ g6.2.1 ≠ w := by
    have := s3.1
    have := rm_lt r3 k6
    have := rm_lt r3 k7
    omega
  have o := zq_orders (mt := st.2.2.1) wf.1 wf.2.2.2.2.2.1 hbw.1 hbw.2 hb7 hj7 r7 (Nat.le_refl _) q7 q17
  have s07 : stk (fun x => x = N) 0 [] (31 + (st.1.length + 1)) h g7 := stk_t s06 (stn_w s7 (Nat.le_refl _))
  have hmeth : gGi g7 (some a) 3 2 = some (nI st.2.2.1) := st_meth (eR_ro r6 he6 (ro_n r6 s7)).2.2.2.2.2
  have hbody : fX1_toAsk N (some a) h = bd2 (fX11_orders 6 h.2.1 (some g6.2.1) (nI st.2.2.1) g7) fun z h8 => gEl z (fun v8 => some (none, h8)) (fun x8 => ap2 x8 fun k8 q8_ => if k8 = 3 then (some (some q8_, h8)) else (none)) := by
    simp only [fX1_toAsk, w1, bd2_s, w2, w3, bd_s, w4, fX13_init, w5, fX12_init, w6, il0, w7, fX11_init, w8, st_is hst6, w9, hmeth, gIs_o q17]
  rw [hbody]
  have hfin : ∀ (s' : sJ) (h' : gHp) (cc : Nat), cc ≤ 110 → stk (jX N b w) 0 [] cc g7 h' → jR N g1.2.1 K b w false (0, fs) st st.1.length s' h' → ro N 160 h h' ∧ gGi h' (some N) 0 10 = some (nI s'.2.1) := by
    intro s' h' cc hcc t1 t2
    obtain ⟨-, -, -, -, -, -, -, -, -, ⟨fs', c1, q1, z1, z2, z3, -, z4⟩, -⟩ := t2
    have z4 : fs' = fs := z4
    subst z4
    have hc1 := z3 rfl
    subst hc1
    refine ⟨ro_mk hr (stk_c (stk_tr s07 t1 (fun y hy hX _ => ⟨fun h9 => ?_, .inr not_nil⟩)) (by have := wf.2.1; omega)) hxx ⟨z1, _, _, z2⟩, gGi_o z2 ?_⟩
    · rcases h9 with h9 | h9 | h9
      · exact hX h9
      · omega
      · omega
    · rw [List.getElem?_append_right (by omega), z1]
      rfl
  cases hz : sgo (jd false (wor st)) st.2.2.1 st.1.length (kn st.2.1, 0, 0) with
  | inl v =>
    rw [hz] at o
    obtain ⟨va, h', y1, y2, y3, -⟩ := o
    obtain ⟨f1, f2⟩ := hfin _ _ _ (by omega) y2 y3
    rw [y1]
    exact ⟨none, h', rfl, f1, rfl, f2⟩
  | inr er =>
    rw [hz] at o
    obtain ⟨u, h', y1, y2, y3, y4⟩ := o
    obtain ⟨f1, f2⟩ := hfin _ _ _ (by omega) y2 y3
    rw [y1]
    exact ⟨some u, h', rfl, f1, u, rfl, y4, f2⟩
end
