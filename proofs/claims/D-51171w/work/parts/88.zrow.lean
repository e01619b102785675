/-! L2 ROWS: new, copied, one removed, one replaced -/
set_option maxRecDepth 100000
theorem kd_r (q : Nat × List gV) : kd (some (.inr q)) = q.1 := rfl
theorem kd_l (q : Nat × vp_A) : kd (some (.inl q)) = 100 + q.1 := rfl
theorem zx_new {B : Nat} {h : gHp} {r : Nat} (hx : h.1 r = some (.inr (4, [gq none]))) (hBr : B ≤ r) (hr : rm h 15) (hB : h.2.2.2.1 ≤ B) :
    ∃ h' l e, fX5_init r h = some h' ∧ stk (fun a => a = r) 0 [] 15 h h' ∧ h.2.1 ≤ l ∧ h.2.1 ≤ e ∧ ∀ P : Nat → Nat → Prop, rowR (fun a => B ≤ a) h' r l e 0 P := by
  have hrs := rm_lt hr hx
  have w1 : gNewO h 14 dfJ9 3 = some (h.2.1, gpush h (.inr (14, dfJ9)) 3) := nO_ok hr (by omega)
  generalize hg1 : gpush h (.inr (14, dfJ9)) 3 = g1 at w1
  have q1 : g1.1 h.2.1 = some (.inr (14, [gi (nI 0), gq none, gi (nI 0)])) := by rw [← hg1]; exact push_at _ _ _
  have q1n : ∀ b, b ≠ h.2.1 → g1.1 b = h.1 b := fun b hb => by rw [← hg1]; exact push_ne hb
  have q12 : g1.2.1 = h.2.1 + 1 := by rw [← hg1]; rfl
  have s1 : stn 4 h g1 := by rw [← hg1]; exact push_st hr
  have r1 : rm g1 11 := rm_st hr s1 (by omega)
  have b1 : g1.2.2.2.1 = h.2.2.2.1 := by rw [s1.2.2.1]
  have w2 : gPi g1 (some h.2.1) 14 0 (nI 0) = some (gset g1 h.2.1 (.inr (14, [gi (nI 0), gq none, gi (nI 0)]))) := gPi_o q1 (by omega) (by simp)
  generalize hg2 : gset g1 h.2.1 (.inr (14, [gi (nI 0), gq none, gi (nI 0)])) = g2 at w2
  have q2 : g2.1 h.2.1 = some (.inr (14, [gi (nI 0), gq none, gi (nI 0)])) := by rw [← hg2]; exact set_at _ _ _
  have q2n : ∀ b, b ≠ h.2.1 → g2.1 b = g1.1 b := fun b hb => by rw [← hg2]; exact set_ne hb
  have q22 : g2.2 = g1.2 := by rw [← hg2]; rfl
  have s2 : stk (fun _ => False) h.2.1 [14] 0 g1 g2 := by rw [← hg2]; exact set_st r1 q1 (.inr ⟨Nat.le_refl _, by simp [kd]⟩)
  have r2 : rm g2 11 := rm_st r1 s2 (by omega)
  have w3 : gNewA g2 5 (nI 10) = some (g2.2.1, gpush g2 (.inl (5, gA0 5 10)) 10) := nA_ok r2 (by omega) (by omega)
  have z2 : g2.2.1 = h.2.1 + 1 := by rw [q22, q12]
  generalize hg3 : gpush g2 (.inl (5, gA0 5 10)) 10 = g3 at w3
  have q3 : g3.1 g2.2.1 = some (.inl (5, 10, .inr (.inr (.inr (.inr (fun _ => none)))))) := by rw [← hg3]; exact push_at _ _ _
  have q3n : ∀ b, b ≠ g2.2.1 → g3.1 b = g2.1 b := fun b hb => by rw [← hg3]; exact push_ne hb
  have s3 : stn 11 g2 g3 := by rw [← hg3]; exact push_st r2
  have r3 : rm g3 0 := rm_st r2 s3 (by omega)
  have q3l : g3.1 h.2.1 = some (.inr (14, [gi (nI 0), gq none, gi (nI 0)])) := by rw [q3n _ (by omega)]; exact q2
  have b3 : g3.2.2.2.1 = h.2.2.2.1 := by rw [s3.2.2.1, q22, b1]
  have w4 : gPq g3 (some h.2.1) 14 1 (some g2.2.1) = some (gset g3 h.2.1 (.inr (14, [gi (nI 0), gq (some g2.2.1), gi (nI 0)]))) := gPq_o q3l (by omega) (by simp)
  generalize hg4 : gset g3 h.2.1 (.inr (14, [gi (nI 0), gq (some g2.2.1), gi (nI 0)])) = g4 at w4
  have q4 : g4.1 h.2.1 = some (.inr (14, [gi (nI 0), gq (some g2.2.1), gi (nI 0)])) := by rw [← hg4]; exact set_at _ _ _
  have q4n : ∀ b, b ≠ h.2.1 → g4.1 b = g3.1 b := fun b hb => by rw [← hg4]; exact set_ne hb
  have q42 : g4.2 = g3.2 := by rw [← hg4]; rfl
  have s4 : stk (fun _ => False) h.2.1 [14] 0 g3 g4 := by rw [← hg4]; exact set_st r3 q3l (.inr ⟨Nat.le_refl _, by simp [kd]⟩)
  have r4 : rm g4 0 := rm_st r3 s4 (by omega)
  have q4r : g4.1 r = some (.inr (4, [gq none])) := by rw [q4n r (by omega), q3n r (by omega), q2n r (by omega), q1n r (by omega)]; exact hx
  have w5 : gPq g4 (some r) 4 0 (some h.2.1) = some (gset g4 r (.inr (4, [gq (some h.2.1)]))) := gPq_o q4r (by rw [q42]; omega) (by simp)
  have s5 : stk (fun a => a = r) 0 [] 0 g4 (gset g4 r (.inr (4, [gq (some h.2.1)]))) := set_st r4 q4r (.inl rfl)
  have hle : ¬ nI 10 ≤ nI 0 := nI_ge (by omega) (by omega)
  refine ⟨gset g4 r (.inr (4, [gq (some h.2.1)])), h.2.1, g2.2.1, ?_, ?_, Nat.le_refl _, by omega, fun P => ?_⟩
  · simp only [fX5_init, fJ9_init, fJ8_init, fJ0_init, w1, bd2_s, bd_s, il0, il10, w2, if_neg hle, w3, w4, w5]
  · have t1 : stn (4 + 0 + 11 + 0) h g4 := by
      refine stk_tr (stk_tr (stk_tr s1 s2 (fun a ha _ _ => ⟨fun h => h, .inl ha⟩)) s3 (fun _ _ _ _ => ⟨fun h => h, .inr (fun h => nomatch h)⟩)) s4 (fun a ha _ _ => ⟨fun h => h, .inl ha⟩)
    exact stk_c (stk_t (stn_w t1 (Nat.le_refl _)) s5) (by omega)
  · refine ⟨10, nI 0, fun _ => none, hBr, by show B ≤ h.2.1; omega, by show B ≤ g2.2.1; omega, set_at _ _ _, ?_, ?_, by omega, by omega, by omega, fun i hi => by omega⟩
    · rw [set_ne (by omega)]; exact q4
    · rw [set_ne (by omega), q4n _ (by omega)]; exact q3
/-- a row is copied -/
theorem zx_copy {M : Nat → Prop} {h : gHp} {r l e n : Nat} {P : Nat → Nat → Prop} (hp : rowR M h r l e n P) (hn : n ≤ 60) (hr : rm h (17 + 91 * n)) (hE : ∀ i y, i < n → P i y → ∃ ci fs, h.1 y = some (.inr (ci, fs)) ∧ (ci = 6 ∨ ci = 8)) :
    ∃ q lq eq h', fX5_copy r h = some (some q, h') ∧ stn (17 + 91 * n) h h' ∧ h.2.1 ≤ q ∧ h.2.1 ≤ lq ∧ h.2.1 ≤ eq ∧ rowR (fun a => h.2.1 ≤ a) h' q lq eq n P := by
  have w1 : gNewO h 4 dfX5 1 = some (h.2.1, gpush h (.inr (4, dfX5)) 1) := nO_ok hr (by omega)
  generalize hg1 : gpush h (.inr (4, dfX5)) 1 = g1 at w1
  have q1 : g1.1 h.2.1 = some (.inr (4, [gq none])) := by rw [← hg1]; exact push_at _ _ _
  have s1 : stn 2 h g1 := by rw [← hg1]; exact push_st hr
  have r1 : rm g1 (15 + 91 * n) := rm_st hr s1 (by omega)
  have b1 : g1.2.2.2.1 = h.2.2.2.1 := by rw [s1.2.2.1]
  obtain ⟨g2, l0, e0, w2, s2, zl, ze, p2⟩ := zx_new q1 (Nat.le_refl _) (rm_w r1 (by omega)) (by have := hr.1; omega)
  have r2 : rm g2 (91 * n) := rm_st r1 s2 (by omega)
  have t2 : stn (2 + 15) h g2 := stk_tr s1 s2 (fun a ha _ _ => ⟨fun h => by omega, .inr (fun h => nomatch h)⟩)
  have hpk : ∀ {g c}, stn c h g → rowR M g r l e n P := fun {g c} s => rowR_k hp (kps_n hr s) (fun _ _ _ h => h)
  have hEk : ∀ {g c}, stn c h g → ∀ i y, i < n → P i y → ∃ ci fs, g.1 y = some (.inr (ci, fs)) ∧ (ci = 6 ∨ ci = 8) := fun {g c} s i y hi hy => by
    obtain ⟨ci, fs, e1, e2⟩ := hE i y hi hy
    exact ⟨ci, fs, stn_keep hr s e1, e2⟩
  obtain ⟨gz, e1, e2⟩ := zb_lp (B := fun t => fX5_copy_b10 r (some h.2.1) t.1 t.2) (fun k t => t.1 = nI k ∧ stn (17 + 91 * k) h t.2 ∧ ∃ ek, h.2.1 ≤ ek ∧ rowR (fun a => h.2.1 ≤ a) t.2 h.2.1 l0 ek k P) (fun g => stn (17 + 91 * n) h g ∧ ∃ ek, h.2.1 ≤ ek ∧ rowR (fun a => h.2.1 ≤ a) g h.2.1 l0 ek n P) n (by omega) (fun k t hk ht => by
    obtain ⟨t1, t2⟩ := t
    obtain ⟨rfl, hs, ek, hek, hrow⟩ := ht
    simp only at hs hrow
    have hpt := hpk hs
    by_cases hkn : k < n
    · left
      refine ⟨hkn, ?_⟩
      obtain ⟨a, f1, f2⟩ := zx_get hpt hkn (hEk hs)
      obtain ⟨ci, fs, f3, f4⟩ := hEk hs k a hkn f2
      have rt : rm t2 91 := rm_st hr hs (by omega)
      obtain ⟨h', ek', k1, k2, k4, k3⟩ := zx_add hrow rt (by omega) (by have := hr.1; rw [hs.2.2.1]; omega) f3 f4 (fun i y hi hy => hEk hs i y (by omega) hy)
      refine ⟨(nI (k + 1), h'), ?_, rfl, ?_, ek', (by have := hs.1; rcases k4 with k4 | k4 <;> omega), k3 P (fun _ _ _ h => h) f2⟩
      · obtain ⟨cap, mc, f, h1, h2, h3, h4, h5, h6, h7, h8, h9, h10⟩ := hpt
        obtain ⟨y, y1, y2⟩ := h10 k hkn
        have hga : f k = some a := by
          have f1' := f1
          simp only [fX5_get, gGq_o (k := 0) h4 rfl, gRcv_o h5, zj_get h5 h6 h7 h9 hkn, bd_s, bd2_s] at f1'
          cases hc : gCastL t2 (f k) [6, 8] with
          | none => rw [hc] at f1'; cases f1'
          | some u => rw [hc] at f1'; simp only [bd_s] at f1'; exact (Prod.mk.inj (Option.some.inj f1')).1
        have hc : gCastL t2 (some a) [6, 8] = some () := gCastL_o f3 (by rcases f4 with rfl | rfl <;> simp)
        have hlt : ¬ nI n ≤ nI k := nI_ge hkn (by omega)
        simp only [fX5_copy_b10, gGq_o (k := 0) h4 rfl, gRcv_o h5, zj_size h5, bd_s, bd2_s, if_neg hlt, zj_get h5 h6 h7 h9 hkn, hga, hc, zx_rcv hrow, k1, nm_s, il1, zb_add]
      · exact stk_c (stk_tr hs k2 (fun a ha _ _ => ⟨fun h9 => by have := s1.1; rcases h9 with h9 | h9 <;> omega, .inr (fun h => nomatch h)⟩)) (by omega)
    · right
      have : k = n := by omega
      subst this
      refine ⟨t2, ?_, hs, ek, hek, hrow⟩
      obtain ⟨cap, mc, f, h1, h2, h3, h4, h5, h6, h7, h8, h9, h10⟩ := hpt
      simp only [fX5_copy_b10, gGq_o (k := 0) h4 rfl, gRcv_o h5, zj_size h5, bd_s, bd2_s, if_pos (show nI k ≤ nI k from nI_le (Nat.le_refl _) (by omega))]) (t0 := (nI 0, g2)) ⟨rfl, stk_c t2 (by omega), e0, by have := s1.1; omega, p2 P⟩
  obtain ⟨ex, ek, hek, hrow⟩ := e2
  refine ⟨h.2.1, l0, ek, gz, ?_, ex, Nat.le_refl _, by have := s1.1; omega, hek, hrow⟩
  simp only [fX5_copy, w1, bd2_s, bd_s, w2, fl_X5_copy_b10, il0, e1]
/-- one is removed -/
theorem zx_remove {B : Nat} {h : gHp} {r l e n i : Nat} {P : Nat → Nat → Prop} (hp : rowR (fun a => B ≤ a) h r l e n P) (hi : i < n) (hr : rm h 0) (hB : h.2.2.2.1 ≤ B) (hE : ∀ i y, i < n → P i y → ∃ ci fs, h.1 y = some (.inr (ci, fs)) ∧ (ci = 6 ∨ ci = 8)) :
    ∃ a h', fX5_remove r (nI i) h = some (some a, h') ∧ P i a ∧ stk (fun a => a = l ∨ a = e) 0 [] 0 h h' ∧ ∀ P' : Nat → Nat → Prop, (∀ j y, j < i → P j y → P' j y) → (∀ j y, i ≤ j → j + 1 < n → P (j + 1) y → P' j y) → rowR (fun a => B ≤ a) h' r l e (n - 1) P' := by
  obtain ⟨cap, mc, f, h1, h2, h3, h4, h5, h6, h7, h8, h9, h10⟩ := hp
  obtain ⟨a, ha1, ha2⟩ := h10 i hi
  obtain ⟨ci, fs, ha3, ha4⟩ := hE i a hi ha2
  have hle : e ≠ l := fun e1 => by rw [e1, h5] at h6; cases h6
  have hla : a ≠ l := fun e1 => by rw [e1, h5] at ha3; cases ha3; omega
  have hea : a ≠ e := fun e1 => by rw [e1, h6] at ha3; cases ha3
  have hrl : r ≠ l := fun e1 => by rw [e1, h5] at h4; cases h4
  have hre : r ≠ e := fun e1 => by rw [e1, h6] at h4; cases h4
  have hP1 : gPi h (some l) 14 0 (mc + nI 1) = some (gset h l (.inr (14, [gi (mc + nI 1), gq (some e), gi (nI n)]))) := gPi_o h5 (by omega) (by simp)
  have q1 : (gset h l (.inr (14, [gi (mc + nI 1), gq (some e), gi (nI n)]))).1 l = some (.inr (14, [gi (mc + nI 1), gq (some e), gi (nI n)])) := set_at _ _ _
  have s1 : stk (fun a => a = l ∨ a = e) 0 [] 0 h (gset h l (.inr (14, [gi (mc + nI 1), gq (some e), gi (nI n)]))) := set_st hr h5 (.inl (.inl rfl))
  generalize hg1 : gset h l (.inr (14, [gi (mc + nI 1), gq (some e), gi (nI n)])) = g1 at q1 hP1 s1
  have q1n : ∀ b, b ≠ l → g1.1 b = h.1 b := fun b hb => by rw [← hg1]; exact set_ne hb
  have q12 : g1.2 = h.2 := by rw [← hg1]; rfl
  have r1 : rm g1 0 := rm_st hr s1 (by omega)
  have q1e : g1.1 e = some (.inl (5, cap, .inr (.inr (.inr (.inr f))))) := by rw [q1n e hle]; exact h6
  have hcast : ∀ g : gHp, g.1 a = some (.inr (ci, fs)) → gCastL g (some a) [6, 8] = some () := fun g hg => gCastL_o hg (by rcases ha4 with rfl | rfl <;> simp)
  -- the last two writes
  have fin : ∀ (g : gHp) (f' : Nat → Option Nat), stk (fun a => a = l ∨ a = e) 0 [] 0 g1 g → g.1 l = some (.inr (14, [gi (mc + nI 1), gq (some e), gi (nI n)])) → g.1 e = some (.inl (5, cap, .inr (.inr (.inr (.inr f'))))) → g.1 a = some (.inr (ci, fs)) → g.1 r = some (.inr (4, [gq (some l)])) → (∀ j, j < i → f' j = f j) → (∀ j, i ≤ j → j + 1 < n → f' j = f (j + 1)) →
      ∃ h', fJ9_fastRemove_j34 l (some e) (nI (n - 1)) g = some h' ∧ gCastL h' (some a) [6, 8] = some () ∧ stk (fun a => a = l ∨ a = e) 0 [] 0 h h' ∧ ∀ P' : Nat → Nat → Prop, (∀ j y, j < i → P j y → P' j y) → (∀ j y, i ≤ j → j + 1 < n → P (j + 1) y → P' j y) → rowR (fun a => B ≤ a) h' r l e (n - 1) P' := by
    intro g f' sg gl ge ga gr hf1 hf2
    have rg : rm g 0 := rm_st r1 sg (by omega)
    have hbg : g.2.2.2.1 = h.2.2.2.1 := by rw [sg.2.2.1, q12]
    have t1 : gPi g (some l) 14 2 (nI (n - 1)) = some (gset g l (.inr (14, [gi (mc + nI 1), gq (some e), gi (nI (n - 1))]))) := gPi_o gl (by omega) (by simp)
    have u1 : stk (fun a => a = l ∨ a = e) 0 [] 0 g (gset g l (.inr (14, [gi (mc + nI 1), gq (some e), gi (nI (n - 1))]))) := set_st rg gl (.inl (.inl rfl))
    have t2 : (gset g l (.inr (14, [gi (mc + nI 1), gq (some e), gi (nI (n - 1))]))).1 e = some (.inl (5, cap, .inr (.inr (.inr (.inr f'))))) := by rw [set_ne hle]; exact ge
    have t3 : gSn (gset g l (.inr (14, [gi (mc + nI 1), gq (some e), gi (nI (n - 1))]))) (some e) 5 (nI (n - 1)) = some (gset (gset g l (.inr (14, [gi (mc + nI 1), gq (some e), gi (nI (n - 1))]))) e (.inl (5, cap, .inr (.inr (.inr (.inr (va_up f' (n - 1) none))))))) := gSn_o t2 (by rw [gset_2]; omega) (by omega) (by omega)
    have u2 := set_st (X := fun a => a = l ∨ a = e) (B := 0) (ks := []) (e := .inl (5, cap, .inr (.inr (.inr (.inr (va_up f' (n - 1) none)))))) (rm_st (c' := 0) rg u1 (by omega)) t2 (.inl (.inr rfl))
    refine ⟨_, (by simp only [fJ9_fastRemove_j34, t1, bd_s, t3]; rfl), ?_, ?_, fun P' hP1 hP2 => ?_⟩
    · exact hcast _ (by rw [set_ne hea, set_ne hla]; exact ga)
    · exact stk_t s1 (stk_t sg (stk_t u1 u2))
    · refine ⟨cap, mc + nI 1, va_up f' (n - 1) none, h1, h2, h3, ?_, ?_, set_at _ _ _, by omega, h8, h9, fun j hj => ?_⟩
      · rw [set_ne hre, set_ne hrl]; exact gr
      · rw [set_ne (fun e1 => hle e1.symm), set_at]
      · have hj' : va_up f' (n - 1) none j = f' j := if_neg (by omega)
        rw [hj']
        by_cases hji : j < i
        · obtain ⟨y, e1, e2⟩ := h10 j (by omega)
          exact ⟨y, by rw [hf1 j hji, e1], hP1 j y hji e2⟩
        · obtain ⟨y, e1, e2⟩ := h10 (j + 1) (by omega)
          exact ⟨y, by rw [hf2 j (by omega) (by omega), e1], hP2 j y (by omega) (by omega) e2⟩
  have hrem0 : ∀ h', fJ9_fastRemove l (some e) (nI i) h = some h' → gCastL h' (some a) [6, 8] = some () → fX5_remove r (nI i) h = some (some a, h') := by
    intro h' e1 e2
    simp only [fX5_remove, fJ9_remove, gGq_o (k := 0) h4 rfl, gRcv_o h5, gGi_o (k := 2) h5 rfl, zj_ci2 hi (show n < 2 ^ 31 by omega), gGq_o (k := 1) h5 rfl, gAq_o h6 (show i < cap by omega) (show cap ≤ 1048576 by omega), ha1, gIs_o h5, e1, e2, bd_s, bd2_s]
  have hsub : nI n - nI 1 = nI (n - 1) := zb_sub (by omega)
  have q1a : g1.1 a = some (.inr (ci, fs)) := by rw [q1n a hla]; exact ha3
  have q1r : g1.1 r = some (.inr (4, [gq (some l)])) := by rw [q1n r hrl]; exact h4
  by_cases hlast : n - 1 ≤ i
  · obtain ⟨h', k1, k2, k3, k4⟩ := fin g1 f (stk_rfl r1) q1 q1e q1a q1r (fun _ _ => rfl) (fun j h1 h2 => by omega)
    refine ⟨a, h', hrem0 h' ?_ k2, ha2, k3, k4⟩
    simp only [fJ9_fastRemove, gGi_o (k := 0) h5 rfl, bd_s, il1, hP1, gGi_o (k := 2) q1 rfl, nm_s, hsub, if_pos (nI_le hlast (by omega)), k1]
  · have w2 : gCpq g1 (some e) (nI (i + 1)) (some e) (nI i) (nI (n - 1 - i)) = some (gset g1 e (.inl (5, cap, .inr (.inr (.inr (.inr (va_cpy f f (i + 1) i (n - 1 - i)))))))) := by
      refine gCpq_o q1e q1e (by rw [q12]; omega) (by omega) (by omega) (by omega) (by omega) (fun j hj y hy => ?_)
      obtain ⟨y', e1, e2⟩ := h10 (i + 1 + j) (by omega)
      rw [hy] at e1
      cases e1
      obtain ⟨ci', fs', e3, e4⟩ := hE (i + 1 + j) y (by omega) e2
      refine ⟨ci', fs', ?_, .inr e4⟩
      rw [q1n y (fun e5 => ?_)]
      · exact e3
      · rw [e5, h5] at e3
        cases e3
        omega
    have s2 : stk (fun a => a = l ∨ a = e) 0 [] 0 g1 (gset g1 e (.inl (5, cap, .inr (.inr (.inr (.inr (va_cpy f f (i + 1) i (n - 1 - i)))))))) := set_st r1 q1e (.inl (.inr rfl))
    obtain ⟨h', k1, k2, k3, k4⟩ := fin (gset g1 e (.inl (5, cap, .inr (.inr (.inr (.inr (va_cpy f f (i + 1) i (n - 1 - i)))))))) (va_cpy f f (i + 1) i (n - 1 - i)) s2 (by rw [set_ne (fun e1 => hle e1.symm)]; exact q1) (set_at _ _ _) (by rw [set_ne hea]; exact q1a) (by rw [set_ne hre]; exact q1r) (fun j hj => pk_cpy_out (.inl hj)) (fun j hj1 hj2 => by
      rw [pk_cpy_in hj1 (by omega)]
      congr 1
      omega)
    refine ⟨a, h', hrem0 h' ?_ k2, ha2, k3, k4⟩
    simp only [fJ9_fastRemove, gGi_o (k := 0) h5 rfl, bd_s, il1, hP1, gGi_o (k := 2) q1 rfl, nm_s, hsub, if_neg (nI_ge (show i < n - 1 by omega) (by omega)), zb_add, zb_sub (show i ≤ n - 1 by omega), w2, k1]
/-- one is replaced -/
theorem zx_replace {B : Nat} {h : gHp} {r l e n i b cb : Nat} {fb : List gV} {P : Nat → Nat → Prop} (hp : rowR (fun a => B ≤ a) h r l e n P) (hi : i < n) (hr : rm h 0) (hB : h.2.2.2.1 ≤ B) (hb : h.1 b = some (.inr (cb, fb))) (hcb : cb = 6 ∨ cb = 8) (hE : ∀ i y, i < n → P i y → ∃ ci fs, h.1 y = some (.inr (ci, fs)) ∧ (ci = 6 ∨ ci = 8)) :
    ∃ h', fX5_replace r (nI i) (some b) h = some h' ∧ stk (fun a => a = l ∨ a = e) 0 [] 0 h h' ∧ ∀ P' : Nat → Nat → Prop, (∀ j y, j ≠ i → j < n → P j y → P' j y) → P' i b → rowR (fun a => B ≤ a) h' r l e n P' := by
  obtain ⟨cap, mc, f, h1, h2, h3, h4, h5, h6, h7, h8, h9, h10⟩ := hp
  obtain ⟨a, ha1, ha2⟩ := h10 i hi
  obtain ⟨ci, fs, ha3, ha4⟩ := hE i a hi ha2
  have hle : e ≠ l := fun e1 => by rw [e1, h5] at h6; cases h6
  have hea : a ≠ e := fun e1 => by rw [e1, h6] at ha3; cases ha3
  have hre : r ≠ e := fun e1 => by rw [e1, h6] at h4; cases h4
  have w1 : gSqL h (some e) 5 (nI i) (some b) [3, 6, 8] = some (gset h e (.inl (5, cap, .inr (.inr (.inr (.inr (va_up f i (some b)))))))) := gSqL_o h6 hb (by rcases hcb with rfl | rfl <;> simp) (by omega) (by omega) (by omega)
  have hc : gCastL (gset h e (.inl (5, cap, .inr (.inr (.inr (.inr (va_up f i (some b)))))))) (some a) [6, 8] = some () := gCastL_o (by rw [set_ne hea]; exact ha3) (by rcases ha4 with rfl | rfl <;> simp)
  refine ⟨gset h e (.inl (5, cap, .inr (.inr (.inr (.inr (va_up f i (some b))))))), ?_, set_st hr h6 (.inl (.inr rfl)), fun P' hP1 hP2 => ?_⟩
  · simp only [fX5_replace, fJ9_set, fJ9_elementData, gGq_o (k := 0) h4 rfl, gRcv_o h5, gGi_o (k := 2) h5 rfl, zj_ci2 hi (show n < 2 ^ 31 by omega), gIs_o h5, gGq_o (k := 1) h5 rfl, gAq_o h6 (show i < cap by omega) (show cap ≤ 1048576 by omega), ha1, w1, hc, bd_s, bd2_s]
  · refine ⟨cap, mc, va_up f i (some b), h1, h2, h3, ?_, ?_, set_at _ _ _, h7, h8, h9, fun j hj => ?_⟩
    · rw [set_ne hre]; exact h4
    · rw [set_ne (fun e1 => hle e1.symm)]; exact h5
    · by_cases hji : j = i
      · subst hji
        exact ⟨b, if_pos rfl, hP2⟩
      · obtain ⟨y, e1, e2⟩ := h10 j hj
        exact ⟨y, by show (if j = i then _ else f j) = _; rw [if_neg hji, e1], hP1 j y hji hj e2⟩
