/-! L2 STRINGS: read, compared, built -/
set_option maxRecDepth 100000
theorem gRb_0 : gRb (nI 0) = some (nI 0) := by decide
theorem gRc_c : ∀ c, c < 128 → gRc ((((nI c &&& nI 255).toUInt32) % 65536).toInt32) = some (nI c) := by decide +kernel
theorem gRc_d : ∀ c, c < 128 → gRc (nI c) = some (nI c) := by decide +kernel
theorem gfb_c : ∀ c, c < 128 → gfb (nI c) = true := by decide +kernel
theorem one_ne0 : ¬ (nI 1 : Int32) = nI 0 := by decide
section
variable {L : Nat → Prop} {h : gHp} {s : Nat} {cs : List Nat}
theorem zs_rcv (hs : strR L h s cs) : gRcv h (some s) 16 = some s := by
  obtain ⟨v, g, rest, h1, h2, h3, h4, h5⟩ := hs
  exact gRcv_o h3
theorem zs_is (hs : strR L h s cs) : gIs h s 16 = some () := by
  obtain ⟨v, g, rest, h1, h2, h3, h4, h5⟩ := hs
  exact gIs_o h3
theorem zs_coder (hs : strR L h s cs) : fJ7_coder s h = some (nI 0, h) := by
  obtain ⟨v, g, rest, h1, h2, h3, h4, h5⟩ := hs
  simp only [fJ7_coder, il1, il0, if_neg one_ne0, gGi_o (k := 1) h3 rfl, bd_s, gRb_0]
theorem zs_len (hs : strR L h s cs) : fJ7_length s h = some (nI cs.length, h) := by
  have hs0 := hs
  obtain ⟨v, g, rest, h1, h2, h3, h4, h5, h6⟩ := hs
  have e : nI cs.length >>> (nI 0 &&& nI 31) = nI cs.length := by rw [zb_shr (by omega) (by omega), Nat.pow_zero, Nat.div_one]
  simp only [fJ7_length, gGq_o (k := 0) h3 rfl, bd_s, gLen_o h4, gIs_o h3, zs_coder hs0, bd2_s, il31, e]
theorem zs_char (hs : strR L h s cs) {i : Nat} (hi : i < cs.length) : fJ7_charAt s (nI i) h = some (nI (cs.getD i 0), h) := by
  obtain ⟨v, g, rest, h1, h2, h3, h4, h5, h6⟩ := hs
  obtain ⟨e1, e2⟩ := h6 i hi
  simp only [fJ7_charAt, gIs_o h3, bd_s, fJ7_isLatin1, il1, il0, if_neg one_ne0, gGi_o (k := 1) h3 rfl, if_true, gRz_1, bd2_s, gGq_o (k := 0) h3 rfl, fJ18_charAt, gLen_o h4, fJ7_checkIndex, zj_ci hi (show cs.length < 2 ^ 31 by omega), gAi_o h4 hi (show cs.length ≤ 1048576 by omega), e1, il255, gRc_c _ e2, gRc_d _ e2]
theorem zs_empty (hs : strR L h s cs) : fJ7_isEmpty s h = some (bI (decide (cs = [])), h) := by
  obtain ⟨v, g, rest, h1, h2, h3, h4, h5, h6⟩ := hs
  simp only [fJ7_isEmpty, gGq_o (k := 0) h3 rfl, bd_s, gLen_o h4, il0, il1, gRz_0, gRz_1]
  cases cs with
  | nil => rw [if_pos (show nI ([] : List Nat).length = nI 0 from rfl)]; rfl
  | cons c cs =>
    have hlen : (c :: cs).length = cs.length + 1 := rfl
    rw [hlen] at h5
    rw [hlen, if_neg (fun e => by have := (nI_eq (show cs.length + 1 < 2 ^ 31 by omega) (show 0 < 2 ^ 31 by omega)).mp e; omega), decide_eq_false (by simp)]
    rfl
end
theorem getD_ext {l l' : List Nat} (hl : l.length = l'.length) (h : ∀ i, i < l.length → l.getD i 0 = l'.getD i 0) : l = l' := by
  refine List.ext_getElem hl (fun i h1 h2 => ?_)
  have := h i h1
  rw [getD_el h1, getD_el h2] at this
  exact this
theorem zs_eq {L L' : Nat → Prop} {h : gHp} {s s' : Nat} {cs cs' : List Nat} (hs : strR L h s cs) (hs' : strR L' h s' cs') : fJ7_equals s (some s') h = some (bI (decide (cs = cs')), h) := by
  obtain ⟨v, g, rest, h1, h2, h3, h4, h5, h6⟩ := hs
  obtain ⟨v', g', rest', h1', h2', h3', h4', h5', h6'⟩ := hs'
  by_cases hss : (some s : Option Nat) = some s'
  · have hss' := Option.some.inj hss
    subst hss'
    rw [h3] at h3'
    cases h3'
    rw [h4] at h4'
    have hlen : cs.length = cs'.length := by
      have := congrArg (fun o => match o with | some (Sum.inl (_, n, _)) => n | _ => 0) h4'
      exact this
    have hg : g = g' := by
      have := congrArg (fun o => match o with | some (Sum.inl (_, _, Sum.inl f)) => f | _ => fun _ => 0) h4'
      exact this
    have : cs = cs' := getD_ext hlen (fun i hi => by
      obtain ⟨e1, e2⟩ := h6 i hi
      obtain ⟨e1', e2'⟩ := h6' i (by omega)
      rw [← hg, e1] at e1'
      exact (nI_eq (by omega) (by omega)).mp e1')
    rw [decide_eq_true this]
    simp only [fJ7_equals, if_true, il1, gRz_1, bd_s, bI_t]
  · simp only [fJ7_equals, if_neg hss, gObj_o h3', bd_s, il1, il0, if_neg one_ne0, gCastL_o h3' (show 16 ∈ [16] by simp), gGi_o (k := 1) h3 rfl, gGi_o (k := 1) h3' rfl, if_true, fJ7_equals_j36, gGq_o (k := 0) h3 rfl, gGq_o (k := 0) h3' rfl, fJ18_equals, gLen_o h4, gLen_o h4', zb_eq (show cs.length < 2 ^ 31 by omega) (show cs'.length < 2 ^ 31 by omega), gRz_0, gRz_1]
    by_cases hlen : cs.length = cs'.length
    · rw [if_pos hlen]
      obtain ⟨e, e1, e2⟩ := zb_lp (B := fun t => fJ18_equals_b9 (some v) (some v') t h) (fun k t => t = nI k ∧ ∀ i, i < k → cs.getD i 0 = cs'.getD i 0) (fun e => e = if cs = cs' then .inr () else .inl ()) cs.length (by omega) (fun k t hk ht => by
        obtain ⟨rfl, hp⟩ := ht
        by_cases hkn : k < cs.length
        · obtain ⟨x1, x2⟩ := h6 k hkn
          obtain ⟨y1, y2⟩ := h6' k (by omega)
          simp only [fJ18_equals_b9, gLen_o h4, bd_s, if_neg (nI_ge hkn (show cs.length < 2 ^ 31 by omega)), gAi_o h4 hkn (show cs.length ≤ 1048576 by omega), gAi_o h4' (show k < cs'.length by omega) (show cs'.length ≤ 1048576 by omega), x1, y1, zb_eq (Nat.lt_trans x2 (show 128 < 2 ^ 31 by omega)) (Nat.lt_trans y2 (show 128 < 2 ^ 31 by omega)), nm_s, il1, zb_add]
          by_cases hc : cs.getD k 0 = cs'.getD k 0
          · left
            refine ⟨hkn, nI (k + 1), by rw [if_pos hc], rfl, fun i hi => ?_⟩
            by_cases hik : i = k
            · rw [hik, hc]
            · exact hp i (by omega)
          · right
            refine ⟨.inl (), by rw [if_neg hc], ?_⟩
            rw [if_neg (fun e => hc (by rw [e]))]
        · right
          have hkl : k = cs.length := by omega
          refine ⟨.inr (), ?_, ?_⟩
          · simp only [fJ18_equals_b9, gLen_o h4, bd_s, if_pos (nI_le (show cs.length ≤ k by omega) (show k < 2 ^ 31 by omega))]
          · rw [if_pos (getD_ext hlen (fun i hi => hp i (by omega)))]) (t0 := nI 0) ⟨rfl, fun i hi => by omega⟩
      simp only [fl_J18_equals_b9, e1, e2, bd_s]
      by_cases hcc : cs = cs'
      · simp only [if_pos hcc, gEl_e, bd2_s, one_ne0, if_false, decide_eq_true hcc, bI_t]
      · simp only [if_neg hcc, gEl_i, bd2_s, if_true, decide_eq_false hcc, bI_f]
    · rw [if_neg hlen, decide_eq_false (fun e => hlen (by rw [e]))]
      simp only [bd2_s, if_true, bI_f]
/-! a text that is being built, in cells of its own from B on -/
def sbR (B : Nat) (h : gHp) (b v cap : Nat) (cs : List Nat) : Prop := ∃ g ml, B ≤ b ∧ B ≤ v ∧ h.1 b = some (.inr (15, [gq (some v), gi (nI 0), gi ml, gi (nI cs.length)])) ∧ h.1 v = some (.inl (1, cap, .inl g)) ∧ cs.length ≤ cap ∧ cap ≤ 4096 ∧ (∀ i, i < cap → gfb (g i) = true) ∧ ∀ i, i < cs.length → g i = nI (cs.getD i 0) ∧ cs.getD i 0 < 128
theorem zsb_rcv {B b v cap : Nat} {h : gHp} {cs : List Nat} (hp : sbR B h b v cap cs) : gRcv h (some b) 15 = some b := by
  obtain ⟨g, ml, h1, h2, h3, h4⟩ := hp
  exact gRcv_o h3
theorem zsb_is {B b v cap : Nat} {h : gHp} {cs : List Nat} (hp : sbR B h b v cap cs) : gIs h b 15 = some () := by
  obtain ⟨g, ml, h1, h2, h3, h4⟩ := hp
  exact gIs_o h3
theorem zsb_k {B b v cap : Nat} {h h' : gHp} {cs : List Nat} (hp : sbR B h b v cap cs) (hk : kps (fun a => B ≤ a) [15, 101] h h') : sbR B h' b v cap cs := by
  obtain ⟨g, ml, h1, h2, h3, h4, h5⟩ := hp
  exact ⟨g, ml, h1, h2, hk _ _ h1 h3 (by simp [kd]), hk _ _ h2 h4 (by simp [kd]), h5⟩
/-- room for a text -/
theorem zsb_ens {B b v cap m : Nat} {h : gHp} {cs : List Nat} (hp : sbR B h b v cap cs) (hm : m ≤ 1500) (hr : rm h (2 * m + 3)) (hB : h.2.2.2.1 ≤ B) : ∃ h' v' cap', fJ11_ensureCapacityInternal b (nI m) h = some h' ∧ stk (fun a => a = b) 0 [] (2 * (cap' - cap)) h h' ∧ sbR B h' b v' cap' cs ∧ m ≤ cap' ∧ cap ≤ cap' ∧ (cap' = cap ∨ cap' ≤ 2 * m + 2) ∧ (v' = v ∨ h.2.1 ≤ v') ∧ (cap' = cap → h' = h ∧ v' = v) := by
  have hp0 := hp
  obtain ⟨g, ml, h1, h2, h3, h4, h5, h6, h7, h8⟩ := hp
  have hbs := rm_lt hr h3
  have hvs := rm_lt hr h4
  have esh : ∀ n, n < 2 ^ 31 → nI n >>> (nI 0 &&& nI 31) = nI n := fun n hn => by rw [zb_shr hn (by omega), Nat.pow_zero, Nat.div_one]
  have eshl : ∀ n, n < 2 ^ 31 → nI n <<< (nI 0 &&& nI 31) = nI n := fun n hn => by
    rw [pk_shlN (nI 0 &&& nI 31) 0 (by decide) (by omega), Nat.pow_zero, Nat.mul_one]
  by_cases hle : m ≤ cap
  · refine ⟨h, v, cap, ?_, by rw [Nat.sub_self]; exact stk_rfl hr, hp0, hle, Nat.le_refl _, .inl rfl, .inl rfl, fun _ => ⟨rfl, rfl⟩⟩
    have hneg : (nI m - nI cap) ≤ nI 0 := by
      rw [zb_lei, toInt0, pk_sub_toInt (by omega) (by omega)]
      omega
    simp only [fJ11_ensureCapacityInternal, gGq_o (k := 0) h3 rfl, bd_s, gLen_o h4, gGi_o (k := 1) h3 rfl, il31, il0, esh cap (by omega), nm_s, if_pos hneg]
  · obtain ⟨q, hq1, hq2, hq3⟩ : ∃ q, (if nI (m - cap) < nI (cap + 2) then nI (cap + 2) else nI (m - cap)) = nI q ∧ m ≤ cap + q ∧ cap + q ≤ 2 * m + 2 ∧ cap + 2 ≤ q := by
      by_cases hc : m - cap < cap + 2
      · exact ⟨cap + 2, by rw [if_pos (nI_lt hc (by omega))], by omega, by omega, by omega⟩
      · exact ⟨m - cap, by rw [if_neg (nI_nlt (by omega) (by omega))], by omega, by omega, by omega⟩
    have hneg : ¬ (nI m - nI cap) ≤ nI 0 := by
      rw [zb_lei, toInt0, pk_sub_toInt (by omega) (by omega)]
      omega
    have hnl : fJ14_newLength (nI cap) (nI (m - cap)) (nI (cap + 2)) h = some (nI (cap + q), h) := by
      simp only [fJ14_newLength, nm_s, hq1, zb_add, il0, show (2147483639 : Int32) = nI 2147483639 from rfl]
      rw [if_neg (nI_ge (show 0 < cap + q by omega) (by omega)), if_neg (nI_nlt (by omega) (by omega))]
    have hne : ¬ nI (cap + q) = nI 2147483647 := fun e => by
      have := (nI_eq (show cap + q < 2 ^ 31 by omega) (show 2147483647 < 2 ^ 31 by omega)).mp e
      omega
    have hnc : fJ11_newCapacity b (nI m) h = some (nI (cap + q), h) := by
      simp only [fJ11_newCapacity, gGq_o (k := 0) h3 rfl, bd_s, gLen_o h4, gGi_o (k := 1) h3 rfl, il31, nm_s, eshl m (by omega), zb_sub (show cap ≤ m by omega), il2, eshl 2 (by omega), zb_add, hnl, bd2_s, show (2147483647 : Int32) = nI 2147483647 from rfl, if_neg hne, esh (cap + q) (by omega)]
    -- the longer array
    have w1 : gNewA h 1 (nI (cap + q)) = some (h.2.1, gpush h (.inl (1, gA0 1 (cap + q))) (cap + q)) := nA_ok hr (by omega) (by omega)
    have q1 : (gpush h (.inl (1, gA0 1 (cap + q))) (cap + q)).1 h.2.1 = some (.inl (1, cap + q, .inl (fun _ => 0))) := push_at _ _ _
    have s1 : stn (cap + q + 1) h (gpush h (.inl (1, gA0 1 (cap + q))) (cap + q)) := push_st hr
    generalize gpush h (.inl (1, gA0 1 (cap + q))) (cap + q) = g1 at w1 q1 s1
    have r1 : rm g1 0 := rm_st hr s1 (by omega)
    have h31 := stn_keep hr s1 h3
    have h41 := stn_keep hr s1 h4
    have hbB : h.2.2.2.1 ≤ h.2.1 := hr.1
    have w2 : gCpi g1 (some v) (nI 0) (some h.2.1) (nI 0) (nI cap) 1 = some (gset g1 h.2.1 (.inl (1, cap + q, .inl (va_cpy g (fun _ => 0) 0 0 cap)))) := gCpb_o h41 q1 (by rw [s1.2.2.1]; exact hbB) (by omega) (by omega) (by omega) (by omega) (fun i hi => by rw [Nat.zero_add]; exact h7 i hi)
    have q2 : (gset g1 h.2.1 (.inl (1, cap + q, .inl (va_cpy g (fun _ => 0) 0 0 cap)))).1 h.2.1 = some (.inl (1, cap + q, .inl (va_cpy g (fun _ => 0) 0 0 cap))) := set_at _ _ _
    have s2 : stk (fun a => a = h.2.1) 0 [] 0 g1 (gset g1 h.2.1 (.inl (1, cap + q, .inl (va_cpy g (fun _ => 0) 0 0 cap)))) := set_st r1 q1 (.inl rfl)
    generalize gset g1 h.2.1 (.inl (1, cap + q, .inl (va_cpy g (fun _ => 0) 0 0 cap))) = g2 at w2 q2 s2
    have r2 : rm g2 0 := rm_st r1 s2 (by omega)
    have h32 := stk_keep r1 s2 h31 (show ¬ b = h.2.1 by omega) (.inr not_nil)
    have w3 : gPq g2 (some b) 15 0 (some h.2.1) = some (gset g2 b (.inr (15, [gq (some h.2.1), gi (nI 0), gi ml, gi (nI cs.length)]))) := gPq_o h32 (by rw [s2.2.2.1, s1.2.2.1]; omega) (by simp)
    have s3 : stk (fun a => a = b) 0 [] 0 g2 (gset g2 b (.inr (15, [gq (some h.2.1), gi (nI 0), gi ml, gi (nI cs.length)]))) := set_st r2 h32 (.inl rfl)
    have hcne : ¬ nI (cap + q) = nI cap := fun e => by
      have := (nI_eq (show cap + q < 2 ^ 31 by omega) (show cap < 2 ^ 31 by omega)).mp e
      omega
    have hmin : (if nI (cap + q) < nI cap then nI (cap + q) else nI cap) = nI cap := if_neg (nI_nlt (by omega) (by omega))
    have hcp : fJ16_copyOf (some v) (nI (cap + q)) h = some (some h.2.1, g2) := by
      simp only [fJ16_copyOf, gLen_o h4, bd_s, if_neg hcne, w1, bd2_s, gLen_o h41, nm_s, hmin, il0, w2]
    have t2 : stn (cap + q + 1 + 0) h g2 := stk_tr s1 s2 (fun a ha _ _ => ⟨by omega, .inr not_nil⟩)
    refine ⟨_, h.2.1, cap + q, (by simp only [fJ11_ensureCapacityInternal, gGq_o (k := 0) h3 rfl, bd_s, gLen_o h4, gGi_o (k := 1) h3 rfl, il31, il0, esh cap (by omega), nm_s, if_neg hneg, gIs_o h3, hnc, bd2_s, eshl (cap + q) (by omega), hcp, w3]; try rfl), stk_c (stk_t (stn_w t2 (Nat.le_refl _)) s3) (by omega), ?_, hq2, by omega, .inr hq3.1, .inr (Nat.le_refl _), fun e => by omega⟩
    refine ⟨va_cpy g (fun _ => 0) 0 0 cap, ml, h1, by omega, set_at _ _ _, ?_, by omega, by omega, fun i hi => ?_, fun i hi => ?_⟩
    · rw [set_ne (by omega)]; exact q2
    · by_cases hic : i < cap
      · rw [pk_cpy_in (Nat.zero_le _) (by omega), Nat.zero_add, Nat.sub_zero]; exact h7 i hic
      · rw [pk_cpy_out (.inr (by omega))]; rfl
    · rw [pk_cpy_in (Nat.zero_le _) (by omega), Nat.zero_add, Nat.sub_zero]; exact h8 i hi
