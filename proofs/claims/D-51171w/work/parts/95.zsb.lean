/-! L2 BUILDERS: new, one sign more, a text more, to a string -/
set_option maxRecDepth 100000
theorem nar_c : ∀ c, c < 128 → (nI c).toInt8.toInt32 = nI c := by decide +kernel
theorem nar_b {c : Nat} (hc : c < 128) : vp_nar .byte ((nI c).toInt8.toInt32) = nI c := by
  rw [pk_vb, nar_c c hc]
theorem ch_c : ∀ c, c < 128 → ((nI c).toUInt32 % 65536).toInt32 = nI c := by decide +kernel
theorem getD_snoc {l : List Nat} {c i : Nat} (hi : i < l.length + 1) : (l ++ [c]).getD i 0 = if i = l.length then c else l.getD i 0 := by
  by_cases h : i = l.length
  · rw [if_pos h, h, List.getD_eq_getElem?_getD, List.getElem?_append_right (Nat.le_refl _), Nat.sub_self]
    rfl
  · rw [if_neg h, List.getD_eq_getElem?_getD, List.getD_eq_getElem?_getD, List.getElem?_append_left (by omega)]
theorem getD_app2 {l l' : List Nat} {i : Nat} : (l ++ l').getD i 0 = if i < l.length then l.getD i 0 else l'.getD (i - l.length) 0 := by
  by_cases h : i < l.length
  · rw [if_pos h, List.getD_eq_getElem?_getD, List.getD_eq_getElem?_getD, List.getElem?_append_left h]
  · rw [if_neg h, List.getD_eq_getElem?_getD, List.getD_eq_getElem?_getD, List.getElem?_append_right (by omega)]
theorem dfX12_e : dfJ12 = [gq none, gi (nI 0), gi (nI 0), gi (nI 0)] := by simp only [dfJ12, il0]
/-- a builder is new -/
theorem zsb_new {h : gHp} {n c : Nat} (hr : rm h c) (hc : n + 7 ≤ c) (hn : n ≤ 4000) : ∃ h' v, bd2 (gNewO h 15 dfJ12 4) (fun a1 h1 => bd (fJ12_init_2 a1 (nI n) h1) fun h2 => some (a1, h2)) = some (h.2.1, h') ∧ stn (n + 6) h h' ∧ sbR h.2.1 h' h.2.1 v n [] ∧ (∀ {α : Type} (k : Nat → gHp → Option α), bd2 (gNewO h 15 dfJ12 4) (fun a1 h1 => bd (fJ12_init_2 a1 (nI n) h1) fun h2 => k a1 h2) = k h.2.1 h') := by
  have hbB : h.2.2.2.1 ≤ h.2.1 := hr.1
  have w1 : gNewO h 15 dfJ12 4 = some (h.2.1, gpush h (.inr (15, dfJ12)) 4) := nO_ok hr (by omega)
  have q1 : (gpush h (.inr (15, dfJ12)) 4).1 h.2.1 = some (.inr (15, [gq none, gi (nI 0), gi (nI 0), gi (nI 0)])) := by rw [push_at, dfX12_e]
  have s1 : stn 5 h (gpush h (.inr (15, dfJ12)) 4) := push_st hr
  have z1 : (gpush h (.inr (15, dfJ12)) 4).2.1 = h.2.1 + 1 := by rw [push_2]
  generalize gpush h (.inr (15, dfJ12)) 4 = g1 at w1 q1 s1 z1
  have r1 : rm g1 (n + 2) := rm_st hr s1 (by omega)
  have w2 : gNewA g1 1 (nI n) = some (g1.2.1, gpush g1 (.inl (1, gA0 1 n)) n) := nA_ok r1 (by omega) (by omega)
  have q2 : (gpush g1 (.inl (1, gA0 1 n)) n).1 g1.2.1 = some (.inl (1, n, .inl (fun _ => 0))) := push_at _ _ _
  have s2 : stn (n + 1) g1 (gpush g1 (.inl (1, gA0 1 n)) n) := push_st r1
  generalize gpush g1 (.inl (1, gA0 1 n)) n = g2 at w2 q2 s2
  have r2 : rm g2 0 := rm_st r1 s2 (by omega)
  have x2 := stn_keep r1 s2 q1
  have w3 : gPq g2 (some h.2.1) 15 0 (some g1.2.1) = some (gset g2 h.2.1 (.inr (15, [gq (some g1.2.1), gi (nI 0), gi (nI 0), gi (nI 0)]))) := gPq_o x2 (by rw [s2.2.2.1, s1.2.2.1]; omega) (by simp)
  have x3 : (gset g2 h.2.1 (.inr (15, [gq (some g1.2.1), gi (nI 0), gi (nI 0), gi (nI 0)]))).1 h.2.1 = some (.inr (15, [gq (some g1.2.1), gi (nI 0), gi (nI 0), gi (nI 0)])) := set_at _ _ _
  have s3 : stk (fun a => a = h.2.1) 0 [] 0 g2 (gset g2 h.2.1 (.inr (15, [gq (some g1.2.1), gi (nI 0), gi (nI 0), gi (nI 0)]))) := set_st r2 x2 (.inl rfl)
  generalize gset g2 h.2.1 (.inr (15, [gq (some g1.2.1), gi (nI 0), gi (nI 0), gi (nI 0)])) = g3 at w3 x3 s3
  have r3 : rm g3 0 := rm_st r2 s3 (by omega)
  have w4 : gPb g3 (some h.2.1) 15 1 (nI 0) = some (gset g3 h.2.1 (.inr (15, [gq (some g1.2.1), gi (nI 0), gi (nI 0), gi (nI 0)]))) := gPb_o x3 (by rw [s3.2.2.1, s2.2.2.1, s1.2.2.1]; omega) (by simp) (by decide)
  have s4 : stk (fun a => a = h.2.1) 0 [] 0 g3 (gset g3 h.2.1 (.inr (15, [gq (some g1.2.1), gi (nI 0), gi (nI 0), gi (nI 0)]))) := set_st r3 x3 (.inl rfl)
  have t4 : stn (5 + (n + 1) + 0 + 0) h (gset g3 h.2.1 (.inr (15, [gq (some g1.2.1), gi (nI 0), gi (nI 0), gi (nI 0)]))) := stk_tr (stk_tr (stk_t s1 s2) s3 (fun a ha _ _ => ⟨by omega, .inr not_nil⟩)) s4 (fun a ha _ _ => ⟨by omega, .inr not_nil⟩)
  have hone : ¬ (nI 1 : Int32) = nI 0 := one_ne0
  refine ⟨_, g1.2.1, ?_, stk_c t4 (by omega), ?_, fun k => ?_⟩
  · simp only [w1, bd2_s, fJ12_init_2, fJ11_init, il1, il0, if_neg hone, w2, w3, bd_s, w4]
  · refine ⟨fun _ => 0, nI 0, Nat.le_refl _, by omega, set_at _ _ _, ?_, Nat.zero_le _, by omega, fun i _ => by show gfb 0 = true; decide, fun i hi => absurd hi (Nat.not_lt_zero i)⟩
    rw [set_ne (by omega)]
    exact stk_keep r2 s3 q2 (show ¬ g1.2.1 = h.2.1 by omega) (.inr not_nil)
  · simp only [w1, bd2_s, fJ12_init_2, fJ11_init, il1, il0, if_neg hone, w2, w3, bd_s, w4]
/-- one sign more -/
theorem zsb_char {B b v cap c : Nat} {h : gHp} {cs : List Nat} (hp : sbR B h b v cap cs) (hc : c < 128) (hl : cs.length < 1400) (hr : rm h (4 * cs.length + 12)) (hB : h.2.2.2.1 ≤ B) :
    ∃ h' v' cap', fJ12_append_3 b (nI c) h = some (some b, h') ∧ stk (fun a => a = b ∨ a = v) 0 [] (2 * (cap' - cap)) h h' ∧ sbR B h' b v' cap' (cs ++ [c]) ∧ cap ≤ cap' ∧ (cap' = cap ∨ cap' ≤ 2 * cs.length + 4) ∧ (v' = v ∨ h.2.1 ≤ v') := by
  obtain ⟨g1, v', cap', w1, s1, p1, hm, hcc, hcb, hv, -⟩ := zsb_ens (m := cs.length + 1) hp (by omega) (rm_w hr (by omega)) hB
  have r1 : rm g1 0 := rm_st hr s1 (by rcases hcb with rfl | h9 <;> omega)
  have hp0 := hp
  obtain ⟨g0, ml0, a1, a2, a3, a4, a5, a6, a7, a8⟩ := hp
  have p10 := p1
  obtain ⟨g, ml, h1, h2, h3, h4, h5, h6, h7, h8⟩ := p1
  have w2 : gPi g1 (some b) 15 3 (nI (cs.length + 1)) = some (gset g1 b (.inr (15, [gq (some v'), gi (nI 0), gi ml, gi (nI (cs.length + 1))]))) := gPi_o h3 (by rw [s1.2.2.1]; omega) (by simp)
  have hbv : v' ≠ b := fun e => by rw [e, h3] at h4; cases h4
  have x2 : (gset g1 b (.inr (15, [gq (some v'), gi (nI 0), gi ml, gi (nI (cs.length + 1))]))).1 v' = some (.inl (1, cap', .inl g)) := by rw [set_ne hbv]; exact h4
  have s2 : stk (fun a => a = b ∨ a = v') 0 [] 0 g1 (gset g1 b (.inr (15, [gq (some v'), gi (nI 0), gi ml, gi (nI (cs.length + 1))]))) := set_st r1 h3 (.inl (.inl rfl))
  have y2 : (gset g1 b (.inr (15, [gq (some v'), gi (nI 0), gi ml, gi (nI (cs.length + 1))]))).1 b = some (.inr (15, [gq (some v'), gi (nI 0), gi ml, gi (nI (cs.length + 1))])) := set_at _ _ _
  have b2 : (gset g1 b (.inr (15, [gq (some v'), gi (nI 0), gi ml, gi (nI (cs.length + 1))]))).2.2.2.1 ≤ B := by rw [gset_2, s1.2.2.1]; exact hB
  generalize gset g1 b (.inr (15, [gq (some v'), gi (nI 0), gi ml, gi (nI (cs.length + 1))])) = g2 at w2 x2 s2 y2 b2
  have r2 : rm g2 0 := rm_st r1 s2 (by omega)
  have w3 : gSi g2 (some v') 1 (nI cs.length) (nI c) = some (gset g2 v' (.inl (1, cap', .inl (upd g cs.length (nI c))))) := gSi_o x2 (by omega) (by omega) (by omega)
  have s3 : stk (fun a => a = b ∨ a = v') 0 [] 0 g2 (gset g2 v' (.inl (1, cap', .inl (upd g cs.length (nI c))))) := set_st r2 x2 (.inl (.inr rfl))
  have hlat : fJ11_isLatin1 b g1 = some (nI 1, g1) := by
    simp only [fJ11_isLatin1, il1, il0, if_neg one_ne0, gGi_o (k := 1) h3 rfl, bd_s, if_true, gRz_1]
  have henc : fJ18_canEncode (nI c) g1 = some (nI 1, g1) := by
    simp only [fJ18_canEncode, il255, il1, il0, if_neg (nI_nlt (show c ≤ 255 by omega) (show 255 < 2 ^ 31 by omega)), gRz_1, bd_s]
  refine ⟨_, v', cap', (by simp only [fJ12_append_3, gIs_o a3, bd_s, fJ11_append_3, gGi_o (k := 3) a3 rfl, il1, zb_add, w1, gIs_o h3, hlat, bd2_s, il0, if_neg one_ne0, henc, gGq_o (k := 0) h3 rfl, gGi_o (k := 3) h3 rfl, w2, nar_b hc, w3]; try rfl), ?_, ?_, hcc, by omega, hv⟩
  · refine stk_c (stk_tr (stk_w s1 (Nat.le_refl _) (fun a _ hX _ => ⟨fun e => hX (.inl e), .inr not_nil⟩)) (stk_t s2 s3) (fun a ha hX _ => ⟨fun e => ?_, .inr not_nil⟩)) (by omega)
    rcases e with e | e
    · exact hX (.inl e)
    · rcases hv with e2 | e2
      · exact hX (.inr (e.trans e2))
      · omega
  · have hlen : (cs ++ [c]).length = cs.length + 1 := by simp
    refine ⟨upd g cs.length (nI c), ml, h1, h2, ?_, set_at _ _ _, by omega, h6, fun i hi => ?_, fun i hi => ?_⟩
    · rw [hlen, set_ne (fun e => hbv e.symm)]; exact y2
    · by_cases hic : i = cs.length
      · rw [hic, pk_us]; exact gfb_c c hc
      · rw [pk_un hic]; exact h7 i hi
    · rw [hlen] at hi
      rw [getD_snoc hi]
      by_cases hic : i = cs.length
      · rw [hic, pk_us, if_pos rfl]; exact ⟨rfl, hc⟩
      · rw [pk_un hic, if_neg hic]; exact h8 i (by omega)
/-- a text more -/
theorem zsb_str {B b v cap t : Nat} {L : Nat → Prop} {h : gHp} {cs ts : List Nat} (hp : sbR B h b v cap cs) (ht : strR L h t ts) (hl : cs.length + ts.length < 1400) (hr : rm h (4 * (cs.length + ts.length) + 12)) (hB : h.2.2.2.1 ≤ B) (htv : ∀ r, h.1 t = some (.inr (16, r)) → ∀ q, r[0]? = some (gq (some q)) → q ≠ v) :
    ∃ h' v' cap', fJ12_append b (some t) h = some (some b, h') ∧ stk (fun a => a = b ∨ a = v) 0 [] (2 * (cap' - cap)) h h' ∧ sbR B h' b v' cap' (cs ++ ts) ∧ cap ≤ cap' ∧ (cap' = cap ∨ cap' ≤ 2 * (cs.length + ts.length) + 2) ∧ (v' = v ∨ h.2.1 ≤ v') := by
  obtain ⟨g1, v', cap', w1, s1, p1, hm, hcc, hcb, hv, -⟩ := zsb_ens (m := cs.length + ts.length) hp (by omega) (rm_w hr (by omega)) hB
  have r1 : rm g1 0 := rm_st hr s1 (by rcases hcb with rfl | h9 <;> omega)
  have hlen0 := zs_len ht
  have hrcv := zs_rcv ht
  obtain ⟨q, gt, rest, t1, t2, t3, t4, t5, t6⟩ := ht
  have hqv : q ≠ v := htv _ t3 q rfl
  have hp0 := hp
  obtain ⟨g0, ml0, a1, a2, a3, a4, a5, a6, a7, a8⟩ := hp
  obtain ⟨g, ml, h1, h2, h3, h4, h5, h6, h7, h8⟩ := p1
  have htb : t ≠ b := fun e => by rw [e, a3] at t3; cases t3
  have hqb : q ≠ b := fun e => by rw [e, a3] at t4; cases t4
  have t31 := stk_keep hr s1 t3 htb (.inr not_nil)
  have t41 := stk_keep hr s1 t4 hqb (.inr not_nil)
  have hcod : fJ7_coder t g1 = some (nI 0, g1) := zs_coder (L := fun _ => True) ⟨q, gt, rest, trivial, trivial, t31, t41, t5, t6⟩
  have eshl : ∀ n, n < 2 ^ 31 → nI n <<< (nI 0 &&& nI 31) = nI n := fun n hn => by
    rw [pk_shlN (nI 0 &&& nI 31) 0 (by decide) (by omega), Nat.pow_zero, Nat.mul_one]
  have w2 : gCpi g1 (some q) (nI 0) (some v') (nI cs.length) (nI ts.length) 1 = some (gset g1 v' (.inl (1, cap', .inl (va_cpy gt g 0 cs.length ts.length)))) := gCpb_o t41 h4 (by rw [s1.2.2.1]; omega) (by omega) (by omega) (by omega) (by omega) (fun i hi => by rw [Nat.zero_add, (t6 i hi).1]; exact gfb_c _ (t6 i hi).2)
  have hbv : v' ≠ b := fun e => by rw [e, h3] at h4; cases h4
  have x2 : (gset g1 v' (.inl (1, cap', .inl (va_cpy gt g 0 cs.length ts.length)))).1 b = some (.inr (15, [gq (some v'), gi (nI 0), gi ml, gi (nI cs.length)])) := by rw [set_ne (fun e => hbv e.symm)]; exact h3
  have y2 : (gset g1 v' (.inl (1, cap', .inl (va_cpy gt g 0 cs.length ts.length)))).1 v' = some (.inl (1, cap', .inl (va_cpy gt g 0 cs.length ts.length))) := set_at _ _ _
  have s2 : stk (fun a => a = b ∨ a = v') 0 [] 0 g1 (gset g1 v' (.inl (1, cap', .inl (va_cpy gt g 0 cs.length ts.length)))) := set_st r1 h4 (.inl (.inr rfl))
  have b2 : (gset g1 v' (.inl (1, cap', .inl (va_cpy gt g 0 cs.length ts.length)))).2.2.2.1 ≤ B := by rw [gset_2, s1.2.2.1]; exact hB
  generalize gset g1 v' (.inl (1, cap', .inl (va_cpy gt g 0 cs.length ts.length))) = g2 at w2 x2 s2 y2 b2
  have r2 : rm g2 0 := rm_st r1 s2 (by omega)
  have w3 : gPi g2 (some b) 15 3 (nI (cs.length + ts.length)) = some (gset g2 b (.inr (15, [gq (some v'), gi (nI 0), gi ml, gi (nI (cs.length + ts.length))]))) := gPi_o x2 (by omega) (by simp)
  have s3 : stk (fun a => a = b ∨ a = v') 0 [] 0 g2 (gset g2 b (.inr (15, [gq (some v'), gi (nI 0), gi ml, gi (nI (cs.length + ts.length))]))) := set_st r2 x2 (.inl (.inl rfl))
  have hnn : ¬ (some t : Option Nat) = none := by simp
  have hinf : fJ11_inflateIfNeededFor b (some t) g1 = some g1 := by
    simp only [fJ11_inflateIfNeededFor, il1, il0, if_neg one_ne0, gGi_o (k := 1) h3 rfl, bd_s, gRcv_o t31, hcod, bd2_s, if_true]
  have hgb : fJ7_getBytes t (some v') (nI cs.length) (nI 0) g1 = some g2 := by
    simp only [fJ7_getBytes, gIs_o t31, bd_s, hcod, bd2_s, if_true, gGq_o (k := 0) t31 rfl, gLen_o t41, il0, il31, eshl cs.length (by omega), w2]
  refine ⟨_, v', cap', (by simp only [fJ12_append, gIs_o a3, bd_s, fJ11_append, if_neg hnn, hrcv, hlen0, bd2_s, gGi_o (k := 3) a3 rfl, zb_add, w1, gGi_o (k := 3) h3 rfl, gIs_o h3, fJ11_putStringAt, hinf, gGq_o (k := 0) h3 rfl, gGi_o (k := 1) h3 rfl, gRcv_o t31, hgb, gGi_o (k := 3) x2 rfl, w3]; try rfl), ?_, ?_, hcc, hcb, hv⟩
  · refine stk_c (stk_tr (stk_w s1 (Nat.le_refl _) (fun a _ hX _ => ⟨fun e => hX (.inl e), .inr not_nil⟩)) (stk_t s2 s3) (fun a ha hX _ => ⟨fun e => ?_, .inr not_nil⟩)) (by omega)
    rcases e with e | e
    · exact hX (.inl e)
    · rcases hv with e2 | e2
      · exact hX (.inr (e.trans e2))
      · omega
  · have hlen : (cs ++ ts).length = cs.length + ts.length := List.length_append
    refine ⟨va_cpy gt g 0 cs.length ts.length, ml, h1, h2, by rw [hlen]; exact set_at _ _ _, ?_, by omega, h6, fun i hi => ?_, fun i hi => ?_⟩
    · rw [set_ne hbv]; exact y2
    · by_cases hic : cs.length ≤ i ∧ i < cs.length + ts.length
      · rw [pk_cpy_in hic.1 hic.2, Nat.zero_add, (t6 _ (by omega)).1]
        exact gfb_c _ (t6 _ (by omega)).2
      · rw [pk_cpy_out (by omega)]; exact h7 i hi
    · rw [hlen] at hi
      rw [getD_app2]
      by_cases hic : i < cs.length
      · rw [pk_cpy_out (.inl hic), if_pos hic]; exact h8 i hic
      · rw [pk_cpy_in (by omega) hi, if_neg hic, Nat.zero_add]
        exact t6 _ (by omega)
theorem dfJ7_e : dfJ7 = [gq none, gi (nI 0), gi (nI 0), gi (nI 0)] := by simp only [dfJ7, il0]
/-- to a string, in new cells -/
theorem zsb_to {B b v cap : Nat} {h : gHp} {cs : List Nat} (hp : sbR B h b v cap cs) (hl : cs.length ≤ 4000) (hr : rm h (cs.length + 6)) (hB : h.2.2.2.1 ≤ B) :
    ∃ h', fJ12_toString b h = some (some h.2.1, h') ∧ stn (cs.length + 6) h h' ∧ strR (fun a => h.2.1 ≤ a) h' h.2.1 cs := by
  have hbB : h.2.2.2.1 ≤ h.2.1 := hr.1
  obtain ⟨g, ml, h1, h2, h3, h4, h5, h6, h7, h8⟩ := hp
  have w1 : gNewO h 16 dfJ7 4 = some (h.2.1, gpush h (.inr (16, dfJ7)) 4) := nO_ok hr (by omega)
  have q1 : (gpush h (.inr (16, dfJ7)) 4).1 h.2.1 = some (.inr (16, [gq none, gi (nI 0), gi (nI 0), gi (nI 0)])) := by rw [push_at, dfJ7_e]
  have s1 : stn 5 h (gpush h (.inr (16, dfJ7)) 4) := push_st hr
  have z1 : (gpush h (.inr (16, dfJ7)) 4).2.1 = h.2.1 + 1 := by rw [push_2]
  generalize gpush h (.inr (16, dfJ7)) 4 = g1 at w1 q1 s1 z1
  have r1 : rm g1 (cs.length + 1) := rm_st hr s1 (by omega)
  have h31 := stn_keep hr s1 h3
  have h41 := stn_keep hr s1 h4
  have hlat : fJ11_isLatin1 b g1 = some (nI 1, g1) := by
    simp only [fJ11_isLatin1, il1, il0, if_neg one_ne0, gGi_o (k := 1) h31 rfl, bd_s, if_true, gRz_1]
  have w2 : gPb g1 (some h.2.1) 16 1 (nI 0) = some (gset g1 h.2.1 (.inr (16, [gq none, gi (nI 0), gi (nI 0), gi (nI 0)]))) := gPb_o q1 (by rw [s1.2.2.1]; exact hbB) (by simp) (by decide)
  have q2 : (gset g1 h.2.1 (.inr (16, [gq none, gi (nI 0), gi (nI 0), gi (nI 0)]))).1 h.2.1 = some (.inr (16, [gq none, gi (nI 0), gi (nI 0), gi (nI 0)])) := set_at _ _ _
  have s2 : stk (fun a => a = h.2.1) 0 [] 0 g1 (gset g1 h.2.1 (.inr (16, [gq none, gi (nI 0), gi (nI 0), gi (nI 0)]))) := set_st r1 q1 (.inl rfl)
  generalize gset g1 h.2.1 (.inr (16, [gq none, gi (nI 0), gi (nI 0), gi (nI 0)])) = g2 at w2 q2 s2
  have r2 : rm g2 (cs.length + 1) := rm_st r1 s2 (by omega)
  have hbs := rm_lt hr h3
  have hvs := rm_lt hr h4
  have h32 := stk_keep r1 s2 h31 (show ¬ b = h.2.1 by omega) (.inr not_nil)
  have h42 := stk_keep r1 s2 h41 (show ¬ v = h.2.1 by omega) (.inr not_nil)
  have b2 : g2.2.2.2.1 = h.2.2.2.1 := by rw [s2.2.2.1, s1.2.2.1]
  have z2 : g2.2.1 = h.2.1 + 1 ∨ h.2.1 + 1 ≤ g2.2.1 := by have := s2.1; omega
  -- the copy
  have hcopy : ∃ g4 f, fJ16_copyOfRange (some v) (nI 0) (nI cs.length) g2 = some (some g2.2.1, g4) ∧ stn (cs.length + 1) g2 g4 ∧ g4.1 g2.2.1 = some (.inl (1, cs.length, .inl f)) ∧ ∀ i, i < cs.length → f i = nI (cs.getD i 0) := by
    by_cases hfull : cs.length = cap
    · have w3 : gCloneB g2 (some v) = some (g2.2.1, gpush g2 (.inl (1, cap, .inl g)) cap) := gCloneB_o h42 r2 (by omega) (by omega) h7
      have q3 : (gpush g2 (.inl (1, cap, .inl g)) cap).1 g2.2.1 = some (.inl (1, cap, .inl g)) := push_at _ _ _
      have s3 : stn (cap + 1) g2 (gpush g2 (.inl (1, cap, .inl g)) cap) := push_st r2
      have hb3 : (gpush g2 (.inl (1, cap, .inl g)) cap).2.2.2.1 ≤ g2.2.1 := by rw [push_2]; show g2.2.2.2.1 ≤ _; omega
      have hN : gArrN (gpush g2 (.inl (1, cap, .inl g)) cap) (some g2.2.1) 1 = some (g2.2.1, cap, .inl g) := by
        unfold gArrN
        rw [gArr_o q3]
        simp only []
        rw [if_pos hb3]
      generalize gpush g2 (.inl (1, cap, .inl g)) cap = g3 at w3 q3 s3 hN
      refine ⟨g3, g, ?_, by rw [hfull]; exact s3, by rw [hfull]; exact q3, fun i hi => (h8 i hi).1⟩
      simp only [fJ16_copyOfRange, il0, if_true, gLen_o h42, bd_s, hfull, w3, bd2_s, hN]
    · have w3 : gNewA g2 1 (nI cs.length) = some (g2.2.1, gpush g2 (.inl (1, gA0 1 cs.length)) cs.length) := nA_ok r2 (by omega) (by omega)
      have q3 : (gpush g2 (.inl (1, gA0 1 cs.length)) cs.length).1 g2.2.1 = some (.inl (1, cs.length, .inl (fun _ => 0))) := push_at _ _ _
      have s3 : stn (cs.length + 1) g2 (gpush g2 (.inl (1, gA0 1 cs.length)) cs.length) := push_st r2
      generalize gpush g2 (.inl (1, gA0 1 cs.length)) cs.length = g3 at w3 q3 s3
      have r3 : rm g3 0 := rm_st r2 s3 (by omega)
      have h43 := stn_keep r2 s3 h42
      have w4 : gCpi g3 (some v) (nI 0) (some g2.2.1) (nI 0) (nI cs.length) 1 = some (gset g3 g2.2.1 (.inl (1, cs.length, .inl (va_cpy g (fun _ => 0) 0 0 cs.length)))) := gCpb_o h43 q3 (by rw [s3.2.2.1]; omega) (by omega) (by omega) (by omega) (by omega) (fun i hi => by rw [Nat.zero_add]; exact h7 i (by omega))
      have s4 : stk (fun a => a = g2.2.1) 0 [] 0 g3 (gset g3 g2.2.1 (.inl (1, cs.length, .inl (va_cpy g (fun _ => 0) 0 0 cs.length)))) := set_st r3 q3 (.inl rfl)
      have hne : ¬ nI cs.length = nI cap := fun e => hfull ((nI_eq (by omega) (by omega)).mp e)
      have hle : nI 0 ≤ nI cs.length := nI_le (Nat.zero_le _) (by omega)
      have hmin : (if nI cs.length < nI cap - nI 0 then nI cs.length else nI cap - nI 0) = nI cs.length := by
        rw [zb_sub (Nat.zero_le _), Nat.sub_zero]
        by_cases h9 : cs.length < cap
        · rw [if_pos (nI_lt h9 (by omega))]
        · omega
      have hs0 : nI cs.length - nI 0 = nI cs.length := by rw [zb_sub (Nat.zero_le _), Nat.sub_zero]
      refine ⟨_, va_cpy g (fun _ => 0) 0 0 cs.length, (by simp only [fJ16_copyOfRange, il0, if_true, gLen_o h42, bd_s, if_neg hne, fJ16_copyOfRange_j10, fJ16_copyOfRangeByte, fJ16_checkLength, if_pos hle, nm_s, hs0, w3, bd2_s, gLen_o h43, hmin, w4]; try rfl), ?_, set_at _ _ _, fun i hi => ?_⟩
      · exact stk_c (stk_tr s3 s4 (fun a ha _ _ => ⟨by omega, .inr not_nil⟩)) (by omega)
      · rw [pk_cpy_in (Nat.zero_le _) (by omega), Nat.zero_add, Nat.sub_zero]; exact (h8 i hi).1
  obtain ⟨g4, f, w3, s3, q3, hf⟩ := hcopy
  have r4 : rm g4 0 := rm_st r2 s3 (by omega)
  have q24 := stn_keep r2 s3 q2
  have w5 : gPq g4 (some h.2.1) 16 0 (some g2.2.1) = some (gset g4 h.2.1 (.inr (16, [gq (some g2.2.1), gi (nI 0), gi (nI 0), gi (nI 0)]))) := gPq_o q24 (by rw [s3.2.2.1]; omega) (by simp)
  have s5 : stk (fun a => a = h.2.1) 0 [] 0 g4 (gset g4 h.2.1 (.inr (16, [gq (some g2.2.1), gi (nI 0), gi (nI 0), gi (nI 0)]))) := set_st r4 q24 (.inl rfl)
  have t5 : stn (5 + 0 + (cs.length + 1) + 0) h (gset g4 h.2.1 (.inr (16, [gq (some g2.2.1), gi (nI 0), gi (nI 0), gi (nI 0)]))) := stk_tr (stk_t (stk_tr s1 s2 (fun a ha _ _ => ⟨by omega, .inr not_nil⟩)) s3) s5 (fun a ha _ _ => ⟨by omega, .inr not_nil⟩)
  refine ⟨_, (by simp only [fJ12_toString, w1, bd2_s, fJ7_init, fJ7_init_2, gRcv_o h31, bd_s, fJ11_getValue, gGq_o (k := 0) h31 rfl, gIs_o h31, fJ12_length, fJ11_length, gGi_o (k := 3) h31 rfl, hlat, il0, if_neg one_ne0, w2, w3, w5]; try rfl), stk_c t5 (by omega), g2.2.1, f, _, Nat.le_refl _, by show h.2.1 ≤ g2.2.1; omega, set_at _ _ _, ?_, hl, fun i hi => ⟨hf i hi, (h8 i hi).2⟩⟩
  rw [set_ne (by omega)]
  exact q3
