/-! L2 LISTS: ArrayList and Row -/
set_option maxRecDepth 100000
theorem zb_shr {n k : Nat} (hn : n < 2 ^ 31) (hk : k < 32) : nI n >>> (nI k &&& nI 31) = nI (n / 2 ^ k) := pk_shrN hn _ k (zb_sh k hk)
theorem zj_ci {i n : Nat} {r : Option Nat} {h : gHp} (hi : i < n) (hn : n < 2 ^ 31) : fJ17_checkIndex (nI i) (nI n) r h = some (nI i, h) := by
  simp (disch := first | assumption | omega) only [fJ17_checkIndex, il0, zb_lt, Nat.not_lt_zero, if_false, if_pos hi]
theorem zj_ci2 {i n : Nat} {h : gHp} (hi : i < n) (hn : n < 2 ^ 31) : fJ20_checkIndex (nI i) (nI n) h = some (nI i, h) := by
  simp only [fJ20_checkIndex, zj_ci hi hn, bd2_s]
section
variable {h : gHp} {l n : Nat} {mc : Int32} {e : Option Nat}
theorem zj_size (hl : h.1 l = some (.inr (14, [gi mc, gq e, gi (nI n)]))) : fJ9_size l h = some (nI n, h) := by
  simp only [fJ9_size, gGi_o (k := 2) hl rfl, bd_s]
theorem zj_get {e cap i : Nat} {f : Nat → Option Nat} (hl : h.1 l = some (.inr (14, [gi mc, gq (some e), gi (nI n)]))) (he : h.1 e = some (.inl (5, cap, .inr (.inr (.inr (.inr f)))))) (hc : n ≤ cap) (hc2 : cap ≤ 90) (hi : i < n) : fJ9_get l (nI i) h = some (f i, h) := by
  simp only [fJ9_get, fJ9_elementData, gGi_o (k := 2) hl rfl, gGq_o (k := 1) hl rfl, zj_ci2 hi (show n < 2 ^ 31 by omega), gIs_o hl, gAq_o he (show i < cap by omega) (show cap ≤ 1048576 by omega), bd_s, bd2_s]
end
section
variable {M : Nat → Prop} {h : gHp} {r l e n : Nat} {P : Nat → Nat → Prop}
theorem zx_size (hp : rowR M h r l e n P) : fX5_size r h = some (nI n, h) := by
  obtain ⟨cap, mc, f, h1, h2, h3, h4, h5, h6, h7, h8, h9, h10⟩ := hp
  simp only [fX5_size, gGq_o (k := 0) h4 rfl, gRcv_o h5, zj_size h5, bd_s, bd2_s]
theorem zx_rcv (hp : rowR M h r l e n P) : gRcv h (some r) 4 = some r := by
  obtain ⟨cap, mc, f, h1, h2, h3, h4, h5, h6, h7, h8, h9, h10⟩ := hp
  exact gRcv_o h4
theorem zx_is (hp : rowR M h r l e n P) : gIs h r 4 = some () := by
  obtain ⟨cap, mc, f, h1, h2, h3, h4, h5, h6, h7, h8, h9, h10⟩ := hp
  exact gIs_o h4
theorem zx_get (hp : rowR M h r l e n P) {i : Nat} (hi : i < n) (hE : ∀ i y, i < n → P i y → ∃ ci fs, h.1 y = some (.inr (ci, fs)) ∧ (ci = 6 ∨ ci = 8)) : ∃ a, fX5_get r (nI i) h = some (some a, h) ∧ P i a := by
  obtain ⟨cap, mc, f, h1, h2, h3, h4, h5, h6, h7, h8, h9, h10⟩ := hp
  obtain ⟨a, e1, e2⟩ := h10 i hi
  obtain ⟨ci, fs, e3, e4⟩ := hE i a hi e2
  refine ⟨a, ?_, e2⟩
  have hc : gCastL h (some a) [6, 8] = some () := gCastL_o e3 (by rcases e4 with rfl | rfl <;> simp)
  simp only [fX5_get, gGq_o (k := 0) h4 rfl, gRcv_o h5, zj_get h5 h6 h7 h9 hi, e1, hc, bd_s, bd2_s]
theorem zx_has (hp : rowR M h r l e n P) (hn : n ≤ 60) (hn1 : 1 ≤ n ∨ n = 0) (x : Int32) : fX5_has r x h = some (bI (iN x 0 ((n : Int) - 1)), h) := by
  obtain ⟨cap, mc, f, h1, h2, h3, h4, h5, h6, h7, h8, h9, h10⟩ := hp
  have hm : (nI n - nI 1).toInt = (n : Int) - 1 := pk_sub_toInt (by omega) (by omega)
  have h0 : (nI 0).toInt = 0 := by decide
  simp only [fX5_has, gGq_o (k := 0) h4 rfl, gRcv_o h5, zj_size h5, bd_s, bd2_s, zb_in1, il0, il1, hm, h0, gRz_b]
end
/-- a row of its own, from B on, takes one more -/
theorem zx_add {B : Nat} {h : gHp} {r l e n a ci : Nat} {fs : List gV} {P : Nat → Nat → Prop} (hp : rowR (fun a => B ≤ a) h r l e n P) (hr : rm h 91) (hn : n < 60) (hB : h.2.2.2.1 ≤ B) (ha : h.1 a = some (.inr (ci, fs))) (hci : ci = 6 ∨ ci = 8)
    (hE : ∀ i y, i < n → P i y → ∃ ci fs, h.1 y = some (.inr (ci, fs)) ∧ (ci = 6 ∨ ci = 8)) :
    ∃ h' e', fX5_add r (some a) h = some h' ∧ stk (fun a => a = l ∨ a = e) 0 [] 91 h h' ∧ (e' = e ∨ h.2.1 ≤ e') ∧ ∀ P' : Nat → Nat → Prop, (∀ i y, i < n → P i y → P' i y) → P' n a → rowR (fun a => B ≤ a) h' r l e' (n + 1) P' := by
  obtain ⟨cap, mc, f, h1, h2, h3, h4, h5, h6, h7, h8, h9, h10⟩ := hp
  have hle : e ≠ l := fun e1 => by rw [e1, h5] at h6; cases h6
  have hla : a ≠ l := fun e1 => by rw [e1, h5] at ha; cases ha; omega
  have hea : a ≠ e := fun e1 => by rw [e1, h6] at ha; cases ha
  have hrl : r ≠ l := fun e1 => by rw [e1, h5] at h4; cases h4
  have hre : r ≠ e := fun e1 => by rw [e1, h6] at h4; cases h4
  have hls := rm_lt hr h5
  have hes := rm_lt hr h6
  have has := rm_lt hr ha
  have hrs := rm_lt hr h4
  have hcs : ci ∈ [3, 6, 8] := by rcases hci with rfl | rfl <;> simp
  -- the list's counter of changes
  have q1 : (gset h l (.inr (14, [gi (mc + nI 1), gq (some e), gi (nI n)]))).1 l = some (.inr (14, [gi (mc + nI 1), gq (some e), gi (nI n)])) := set_at _ _ _
  have hP1 : gPi h (some l) 14 0 (mc + nI 1) = some (gset h l (.inr (14, [gi (mc + nI 1), gq (some e), gi (nI n)]))) := gPi_o h5 (by omega) (by simp)
  generalize hg1 : gset h l (.inr (14, [gi (mc + nI 1), gq (some e), gi (nI n)])) = g1 at q1 hP1
  have q1n : ∀ b, b ≠ l → g1.1 b = h.1 b := fun b hb => by rw [← hg1]; exact set_ne hb
  have q12 : g1.2 = h.2 := by rw [← hg1]; rfl
  have s1 : stk (fun a => a = l ∨ a = e) 0 [] 0 h g1 := by rw [← hg1]; exact set_st hr h5 (.inl (.inl rfl))
  have r1 : rm g1 91 := rm_st hr s1 (by omega)
  have hadd0 : fX5_add r (some a) h = bd (fJ9_add_2 l (some a) (some e) (nI n) g1) (fun h5 => some h5) := by
    simp only [fX5_add, fJ9_add, gGq_o (k := 0) h4 rfl, gRcv_o h5, gGi_o (k := 0) h5 rfl, bd_s, il1, hP1, gGq_o (k := 1) q1 rfl, gGi_o (k := 2) q1 rfl, gIs_o q1, bd2_s, gRz_1]
    cases fJ9_add_2 l (some a) (some e) (nI n) g1 <;> rfl
  have q1e : g1.1 e = some (.inl (5, cap, .inr (.inr (.inr (.inr f))))) := by rw [q1n e hle]; exact h6
  have q1a : g1.1 a = some (.inr (ci, fs)) := by rw [q1n a hla]; exact ha
  have q1r : g1.1 r = some (.inr (4, [gq (some l)])) := by rw [q1n r hrl]; exact h4
  have hB1 : g1.2.2.2.1 ≤ B := by rw [q12]; exact hB
  -- the last two writes, over an array with room
  have fin : ∀ (g : gHp) (e' cap' : Nat) (f' : Nat → Option Nat) (c : Nat), (e' = e ∨ g1.2.1 ≤ e') → rm g 0 → stk (fun a => a = l ∨ a = e) 0 [] c g1 g → g.2.2.2.1 ≤ B → B ≤ e' → g.1 l = some (.inr (14, [gi (mc + nI 1), gq (some e'), gi (nI n)])) → g.1 e' = some (.inl (5, cap', .inr (.inr (.inr (.inr f'))))) → g.1 a = some (.inr (ci, fs)) → g.1 r = some (.inr (4, [gq (some l)])) → n < cap' → cap' ≤ 90 → (∀ i, i < n → f' i = f i) → c ≤ 91 →
      ∃ h', fJ9_add_2_j11 l (some a) (some e') (nI n) g = some h' ∧ stk (fun a => a = l ∨ a = e) 0 [] c g1 h' ∧ ∀ P' : Nat → Nat → Prop, (∀ i y, i < n → P i y → P' i y) → P' n a → rowR (fun a => B ≤ a) h' r l e' (n + 1) P' := by
    intro g e' cap' f' c hen rg sg hBg he' gl ge ga gr hcap hcap2 hff hc
    have hl' : e' ≠ l := fun e1 => by rw [e1, gl] at ge; cases ge
    have hr' : r ≠ e' := fun e1 => by rw [e1, ge] at gr; cases gr
    have t1 : gSqL g (some e') 5 (nI n) (some a) [3, 6, 8] = some (gset g e' (.inl (5, cap', .inr (.inr (.inr (.inr (va_up f' n (some a)))))))) := gSqL_o ge ga hcs (by omega) hcap (by omega)
    have t2 : (gset g e' (.inl (5, cap', .inr (.inr (.inr (.inr (va_up f' n (some a)))))))).1 l = some (.inr (14, [gi (mc + nI 1), gq (some e'), gi (nI n)])) := by rw [set_ne (fun e1 => hl' e1.symm)]; exact gl
    have u1 : stk (fun a => a = l ∨ a = e') 0 [] 0 g (gset g e' (.inl (5, cap', .inr (.inr (.inr (.inr (va_up f' n (some a)))))))) := set_st rg ge (.inl (.inr rfl))
    have t3 : gPi (gset g e' (.inl (5, cap', .inr (.inr (.inr (.inr (va_up f' n (some a)))))))) (some l) 14 2 (nI n + nI 1) = some (gset (gset g e' (.inl (5, cap', .inr (.inr (.inr (.inr (va_up f' n (some a)))))))) l (.inr (14, [gi (mc + nI 1), gq (some e'), gi (nI n + nI 1)]))) := gPi_o t2 (by rw [gset_2]; omega) (by simp)
    refine ⟨_, (by simp only [fJ9_add_2_j11, t1, bd_s, il1, t3]; rfl), ?_, fun P' hP' hPa => ?_⟩
    · have u2 := set_st (e := .inr (14, [gi (mc + nI 1), gq (some e'), gi (nI n + nI 1)])) (X := fun a => a = l ∨ a = e') (B := 0) (ks := []) (rm_st (c' := 0) rg u1 (by omega)) t2 (.inl (.inl rfl))
      refine stk_c (stk_tr sg (stk_t u1 u2) (fun x hx hX _ => ⟨fun h => ?_, .inr (fun h => nomatch h)⟩)) (by omega)
      rcases h with h | h
      · exact hX (.inl h)
      · rcases hen with h9 | h9
        · exact hX (.inr (h.trans h9))
        · omega
    · refine ⟨cap', mc + nI 1, va_up f' n (some a), h1, h2, he', ?_, ?_, ?_, by omega, by omega, hcap2, fun i hi => ?_⟩
      · rw [set_ne hrl, set_ne hr']; exact gr
      · rw [set_at, zb_add]
      · rw [set_ne hl', set_at]
      · by_cases hin : i = n
        · subst hin
          exact ⟨a, if_pos rfl, hPa⟩
        · obtain ⟨y, e1, e2⟩ := h10 i (by omega)
          exact ⟨y, by show (if i = n then _ else f' i) = _; rw [if_neg hin, hff i (by omega), e1], hP' i y (by omega) e2⟩
  rw [hadd0]
  by_cases hfull : n = cap
  · -- a longer array
    have hk : nI n >>> (nI 1 &&& nI 31) = nI (n / 2) := zb_shr (by omega) (by decide)
    obtain ⟨m, hm1, hm2, hm3⟩ : ∃ m, (if 1 < n / 2 then nI (n / 2) else nI 1) = nI m ∧ 1 ≤ m ∧ n + m ≤ 90 := by
      by_cases hq : 1 < n / 2
      · exact ⟨n / 2, by rw [if_pos hq], by omega, by omega⟩
      · exact ⟨1, by rw [if_neg hq], by omega, by omega⟩
    have hnl : fJ14_newLength (nI n) (nI 1) (nI (n / 2)) g1 = some (nI (n + m), g1) := by
      simp (disch := first | assumption | omega) only [fJ14_newLength, nm_s, zb_lt, hm1, zb_add, il0, zb_le, show (2147483639 : Int32) = nI 2147483639 from rfl]
      rw [if_neg (by omega), if_neg (by omega)]
    have hz1 : g1.2.1 = h.2.1 := by rw [q12]
    -- the new array
    have w1 : gNewA g1 5 (nI (n + m)) = some (g1.2.1, gpush g1 (.inl (5, gA0 5 (n + m))) (n + m)) := nA_ok r1 (by omega) (by omega)
    generalize hg2 : gpush g1 (.inl (5, gA0 5 (n + m))) (n + m) = g2 at w1
    have q2 : g2.1 g1.2.1 = some (.inl (5, n + m, .inr (.inr (.inr (.inr (fun _ => none)))))) := by rw [← hg2]; exact push_at _ _ _
    have q2n : ∀ b, b ≠ g1.2.1 → g2.1 b = g1.1 b := fun b hb => by rw [← hg2]; exact push_ne hb
    have s2 : stn (n + m + 1) g1 g2 := by rw [← hg2]; exact push_st r1
    have q2e : g2.1 e = some (.inl (5, cap, .inr (.inr (.inr (.inr f))))) := by rw [q2n e (by omega)]; exact q1e
    have r2 : rm g2 0 := rm_st r1 s2 (by omega)
    have hb2 : g2.2.2.2.1 = h.2.2.2.1 := by rw [s2.2.2.1, q12]
    have w2 : gCpq g2 (some e) (nI 0) (some g1.2.1) (nI 0) (nI n) = some (gset g2 g1.2.1 (.inl (5, n + m, .inr (.inr (.inr (.inr (va_cpy f (fun _ => none) 0 0 n))))))) := by
      refine gCpq_o q2e q2 (by omega) (by omega) (by omega) (by omega) (by omega) (fun i hi y hy => ?_)
      rw [Nat.zero_add] at hy
      obtain ⟨y', e1, e2⟩ := h10 i (by omega)
      rw [hy] at e1
      cases e1
      obtain ⟨ci', fs', e3, e4⟩ := hE i y (by omega) e2
      have := rm_lt hr e3
      refine ⟨ci', fs', ?_, .inr e4⟩
      rw [q2n y (by omega), q1n y (fun e5 => ?_)]
      · exact e3
      · rw [e5, h5] at e3
        cases e3
        omega
    generalize hg3 : gset g2 g1.2.1 (.inl (5, n + m, .inr (.inr (.inr (.inr (va_cpy f (fun _ => none) 0 0 n)))))) = g3 at w2
    have q3 : g3.1 g1.2.1 = some (.inl (5, n + m, .inr (.inr (.inr (.inr (va_cpy f (fun _ => none) 0 0 n)))))) := by rw [← hg3]; exact set_at _ _ _
    have q3n : ∀ b, b ≠ g1.2.1 → g3.1 b = g2.1 b := fun b hb => by rw [← hg3]; exact set_ne hb
    have q32 : g3.2 = g2.2 := by rw [← hg3]; rfl
    have s3 : stk (fun a => a = g1.2.1) 0 [] 0 g2 g3 := by rw [← hg3]; exact set_st r2 q2 (.inl rfl)
    have q3l : g3.1 l = some (.inr (14, [gi (mc + nI 1), gq (some e), gi (nI n)])) := by rw [q3n l (by omega), q2n l (by omega)]; exact q1
    have hz2 : g2.2.1 = g1.2.1 + 1 := by rw [← hg2]; rfl
    have w3 : gPq g3 (some l) 14 1 (some g1.2.1) = some (gset g3 l (.inr (14, [gi (mc + nI 1), gq (some g1.2.1), gi (nI n)]))) := gPq_o q3l (by rw [q32]; omega) (by simp)
    have r3 : rm g3 0 := rm_st r2 s3 (by omega)
    have s4 : stk (fun a => a = l ∨ a = e) 0 [] 0 g3 (gset g3 l (.inr (14, [gi (mc + nI 1), gq (some g1.2.1), gi (nI n)]))) := set_st r3 q3l (.inl (.inl rfl))
    have hgrow : fJ9_add_2 l (some a) (some e) (nI n) g1 = fJ9_add_2_j11 l (some a) (some g1.2.1) (nI n) (gset g3 l (.inr (14, [gi (mc + nI 1), gq (some g1.2.1), gi (nI n)]))) := by
      have hmin : (if nI (n + m) < nI n then nI (n + m) else nI n) = nI n := if_neg (nI_nlt (by omega) (by omega))
      have hcp : fJ16_copyOf_2 (some e) (nI (n + m)) g1 = some (some g1.2.1, g3) := by
        simp only [fJ16_copyOf_2, fJ16_copyOf_3, gArr_o q1e, bd_s, w1, bd2_s, gLen_o q2e, nm_s, ← hfull, hmin, il0, w2, if_true]
      have hsub : nI (n + 1) - nI n = nI 1 := by rw [zb_sub (by omega), Nat.add_sub_cancel_left]
      have hpos : nI 0 < nI n := nI_lt (by omega) (by omega)
      simp only [fJ9_add_2, gLen_o q1e, bd_s, ← hfull, if_true, gIs_o q1, fJ9_grow, gGi_o (k := 2) q1 rfl, fJ9_grow_2, gGq_o (k := 1) q1 rfl, il0, il1, il31, if_pos hpos, fJ9_grow_2_j20, zb_add, hsub, hk, hnl, hcp, w3, bd2_s]
    rw [hgrow]
    obtain ⟨h', k1, k2, k3⟩ := fin (gset g3 l (.inr (14, [gi (mc + nI 1), gq (some g1.2.1), gi (nI n)]))) g1.2.1 (n + m) (va_cpy f (fun _ => none) 0 0 n) (n + m + 1 + 0 + 0) (.inr (Nat.le_refl _)) (rm_st r3 s4 (by omega)) (stk_t (stk_tr (stn_w s2 (Nat.le_refl _)) s3 (fun x hx _ _ => ⟨by omega, .inr (fun h => nomatch h)⟩)) s4) (by rw [gset_2, q32]; omega) (by omega) (set_at _ _ _) (by rw [set_ne (by omega)]; exact q3) (by rw [set_ne hla, q3n a (by omega), q2n a (by omega)]; exact q1a) (by rw [set_ne hrl, q3n r (by omega), q2n r (by omega)]; exact q1r) (by omega) hm3 (fun i hi => by
      show (if 0 ≤ i ∧ i < 0 + n then f (0 + (i - 0)) else none) = f i
      rw [if_pos (by omega), Nat.zero_add, Nat.sub_zero]) (by omega)
    exact ⟨h', g1.2.1, by simp only [k1, bd_s], stk_c (stk_t s1 k2) (by omega), .inr (by omega), k3⟩
  · have hno : fJ9_add_2 l (some a) (some e) (nI n) g1 = fJ9_add_2_j11 l (some a) (some e) (nI n) g1 := by
      have hne : ¬ nI n = nI cap := fun e1 => hfull ((nI_eq (by omega) (by omega)).mp e1)
      simp only [fJ9_add_2, gLen_o q1e, bd_s, if_neg hne]
    rw [hno]
    obtain ⟨h', k1, k2, k3⟩ := fin g1 e cap f 0 (.inl rfl) (rm_w r1 (by omega)) (stk_rfl r1) hB1 h3 q1 q1e q1a q1r (by omega) h9 (fun _ _ => rfl) (by omega)
    exact ⟨h', e, by simp only [k1, bd_s], stk_c (stk_t s1 k2) (by omega), .inl rfl, k3⟩
