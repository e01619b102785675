/-! L2 SORTS OF THE COMPONENT: merging -/
set_option maxRecDepth 100000
section
variable {N p K b w n th : Nat} {sa : Nat × List gV} {k : Bool} {st : stT}
theorem zq_newA {s : sJ} {h : gHp} {c tot : Nat} (hj : jR N p K b w k sa st n s h) (hr : rm h c) (hc : tot + 1 ≤ c) (ht : tot ≤ 100) :
    ∃ g1, gNewA h 0 (nI tot) = some (h.2.1, g1) ∧ stn (tot + 1) h g1 ∧ arP g1 h.2.1 tot [] ∧ jR N p K b w k sa st n s g1 ∧ h.2.1 ≠ b ∧ h.2.1 ≠ w ∧ g1.2.2.2.1 ≤ h.2.1 := by
  have s1 : stn (tot + 1) h (gpush h (.inl (0, gA0 0 tot)) tot) := push_st hr
  have q1 := push_at h (.inl (0, gA0 0 tot)) tot
  have hbne : h.2.1 ≠ b ∧ h.2.1 ≠ w := by
    obtain ⟨⟨fb, fw, z1, z2, z3, z4, -⟩, -⟩ := hj
    have := rm_lt hr z3
    have := rm_lt hr z4
    omega
  exact ⟨_, nA_ok (ti := 0) (n := tot) hr (by omega) (by omega), s1, ⟨_, q1, Nat.zero_le _, ht, fun i hi => nomatch hi⟩, jR_k hj hr s1 (fun _ _ h9 _ => h9.elim), hbne.1, hbne.2, hr.1⟩
theorem jR_set {s : sJ} {h : gHp} {c ca tot : Nat} {f : Nat → Int32} {e : gE} (hj : jR N p K b w k sa st n s h) (hr : rm h c) (hx : h.1 ca = some (.inl (0, tot, .inl f))) (hcb : ca ≠ b) (hcw : ca ≠ w) : jR N p K b w k sa st n s (gset h ca e) :=
  jR_k hj hr (X := fun a => a = ca) (set_st hr hx (.inl rfl)) (fun a e hx' he => by
    rw [hx'] at he ⊢
    rw [hx] at he
    cases he
    exact ⟨jR_ne hj hx (by simp [kd]), hcb, hcw, by simp [kd]⟩)
theorem zq_cp {s : sJ} {h : gHp} {c la ca tl tot sp m dp : Nat} {l acc : List Nat} (hj : jR N p K b w k sa st n s h) (hr : rm h c) (hl : arP h la tl l) (hc : arP h ca tot acc) (hcb : ca ≠ b) (hcw : ca ≠ w) (hb : h.2.2.2.1 ≤ ca) (h1 : sp + m ≤ l.length) (hd : dp = acc.length) (h2 : dp + m ≤ tot) :
    ∃ h', gCpi h (some la) (nI sp) (some ca) (nI dp) (nI m) 0 = some h' ∧ stk (jY N b w ca) 0 [] 0 h h' ∧ arP h' ca tot (acc ++ (l.drop sp).take m) ∧ jR N p K b w k sa st n s h' := by
  subst hd
  obtain ⟨f, x1, x2, x3, x4⟩ := hl
  obtain ⟨g, y1, y2, y3, y4⟩ := hc
  have hlen : (acc ++ (l.drop sp).take m).length = acc.length + m := by
    rw [List.length_append, List.length_take, List.length_drop]
    omega
  refine ⟨_, gCpi_o x1 y1 hb (by omega) h2 (by omega) (by omega), set_st hr y1 (.inl (.inr rfl)), ⟨_, set_at _ _ _, by omega, y3, fun i hi => ?_⟩, jR_set hj hr y1 hcb hcw⟩
  rw [hlen] at hi
  rw [getD_app2]
  unfold va_cpy
  by_cases h3 : i < acc.length
  · rw [if_neg (by omega), if_pos h3]
    exact y4 i h3
  · rw [if_pos (by omega), if_neg h3, x4 _ (by omega)]
    congr 1
    rw [List.getD_eq_getElem?_getD, List.getD_eq_getElem?_getD, List.getElem?_take_of_lt (by omega), List.getElem?_drop]
theorem zq_set {s : sJ} {h : gHp} {c ca tot x i : Nat} {acc : List Nat} (hj : jR N p K b w k sa st n s h) (hr : rm h c) (hc : arP h ca tot acc) (hcb : ca ≠ b) (hcw : ca ≠ w) (hb : h.2.2.2.1 ≤ ca) (hi : i = acc.length) (h2 : acc.length < tot) :
    ∃ h', gSi h (some ca) 0 (nI i) (nI x) = some h' ∧ stk (jY N b w ca) 0 [] 0 h h' ∧ arP h' ca tot (acc ++ [x]) ∧ jR N p K b w k sa st n s h' := by
  subst hi
  obtain ⟨g, y1, y2, y3, y4⟩ := hc
  refine ⟨_, gSi_o y1 hb h2 (by omega), set_st hr y1 (.inl (.inr rfl)), ⟨_, set_at _ _ _, by rw [List.length_append]; exact h2, y3, fun i hi => ?_⟩, jR_set hj hr y1 hcb hcw⟩
  rw [List.length_append, List.length_singleton] at hi
  rw [getD_app2]
  by_cases h3 : i < acc.length
  · rw [if_pos h3, pk_un (by omega)]
    exact y4 i h3
  · rw [if_neg h3, show i = acc.length by omega, pk_us, Nat.sub_self]
    rfl
/-- a part of an array -/
theorem zq_part {s : sJ} {h : gHp} {c la tl frm to : Nat} {l : List Nat} (hj : jR N p K b w k sa st n s h) (hr : rm h c) (hc : to - frm + 1 ≤ c) (hl : arP h la tl l) (h1 : frm ≤ to) (h2 : to ≤ l.length) :
    ∃ g1, fX11_part (some la) (nI frm) (nI to) h = some (some h.2.1, g1) ∧ stk (jX N b w) 0 [] (to - frm + 1) h g1 ∧ arP g1 h.2.1 (to - frm) ((l.drop frm).take (to - frm)) ∧ jR N p K b w k sa st n s g1 ∧ h.2.1 ≠ b ∧ h.2.1 ≠ w ∧ g1.2.2.2.1 ≤ h.2.1 := by
  have ht := hl.choose_spec.2
  obtain ⟨g1, w1, s1, q1, hj1, b1, b2, b3⟩ := zq_newA (tot := to - frm) hj hr hc (by omega)
  have hl1 : arP g1 la tl l := arP_k hl (fun e he => stn_keep hr s1 he)
  have r1 : rm g1 0 := rm_st hr s1 (by omega)
  obtain ⟨g2, w2, s2, q2, hj2⟩ := zq_cp (m := to - frm) (sp := frm) (dp := 0) hj1 r1 hl1 q1 b1 b2 b3 (by omega) rfl (by omega)
  rw [List.nil_append] at q2
  refine ⟨g2, ?_, jY_out (stn_w s1 (Nat.le_refl _)) s2 (Nat.le_refl _) (Nat.le_refl _), q2, hj2, b1, b2, by rw [s2.2.2.1]; exact b3⟩
  simp only [fX11_part, zb_sub h1, w1, bd2_s, arP_len q1, bd_s, il0, w2]
theorem smg_n {J : sJd} (m : Nat) {acc A B : List Nat} (h : A = [] ∨ B = []) (s : sJ) : smg J m acc A B s = .inl (acc ++ A ++ B, s) := by
  cases m with
  | zero => rfl
  | succ m =>
    rcases h with h | h
    · subst h; rfl
    · subst h
      cases A <;> rfl
theorem drop_c {l : List Nat} {i : Nat} (h : i < l.length) : l.drop i = l.getD i 0 :: l.drop (i + 1) := by
  rw [List.drop_eq_getElem_cons h, List.getD_eq_getElem?_getD, List.getElem?_eq_getElem h]
  rfl
theorem zx_one0 (h : gHp) : fX1_one (nI 0) h = some (nI 0, h) := by
  simp only [fX1_one, il0, if_true]
theorem n10_ne : ¬ nI 1 = nI 0 := by decide
theorem zx_one1 (h : gHp) : fX1_one (nI 1) h = some (nI 1, h) := by
  simp only [fX1_one, il0, il1, if_neg n10_ne]
theorem zx_one (r : Bool) (h : gHp) : fX1_one (bI r) h = some (bI r, h) := by
  cases r with
  | false => simp only [fX1_one, bI, bI_0, il0, il1]; rfl
  | true => simp only [fX1_one, bI, bI_0, il0, il1]; rfl
theorem zq_mgL {F : Nat → Option Nat → Int32 → gHp → Option (((Option Nat) ⊕ (Nat × Nat)) × gHp)} {va vb ca tot : Nat} {A B : List Nat} (hA : ∀ x ∈ A, x < n) (hB : ∀ x ∈ B, x < n) (hab : va ≠ b ∧ va ≠ w ∧ va ≠ ca) (hbb : vb ≠ b ∧ vb ≠ w ∧ vb ≠ ca) (hcb : ca ≠ b) (hcw : ca ≠ w) (hAB : A.length + B.length = tot) : ∀ (f m i j : Nat) (acc : List Nat) (s : sJ) (h : gHp), f < m → (A.length - i) + (B.length - j) ≤ f → i ≤ A.length → j ≤ B.length → acc.length = i + j → (∀ x ∈ acc, x < n) → jR N p K b w k sa st n s h → rm h 10 → arP h ca tot acc → arP h va A.length A → arP h vb B.length B → h.1 th = some (.inr (9, [gq (some p)])) → h.2.2.2.1 ≤ ca →
    ∃ z, lp (fun t => fX11_byMerging_b45 F th (some va) (some vb) (some ca) t.1 t.2.1 t.2.2) m (nI i, nI j, h) = some z ∧ match smg (jd k (wor st)) f acc (A.drop i) (B.drop j) s with
      | .inl v => ∃ i' j' acc' h', z = .inl (nI i', nI j', h') ∧ stk (jY N b w ca) 0 [] 0 h h' ∧ jR N p K b w k sa st n v.2 h' ∧ arP h' ca tot acc' ∧ acc'.length = i' + j' ∧ i' ≤ A.length ∧ j' ≤ B.length ∧ (∀ x ∈ acc', x < n) ∧ v.1 = acc' ++ A.drop i' ++ B.drop j'
      | .inr er => ∃ u h', z = .inr ((3, u), h') ∧ stk (jY N b w ca) 0 [] 10 h h' ∧ jR N p K b w k sa st n er.2 h' ∧ unC h' u er.1
  | _, 0, _, _, _, _, _, h1, _, _, _, _, _, _, _, _, _, _, _, _ => absurd h1 (by omega)
  | f, m + 1, i, j, acc, s, h, h1, h2, h3, h4, h5, h6, hj, hr, hc, hl, hm, hth, hbc => by
    have ht1 := hl.choose_spec.2.2.1
    have ht2 := hm.choose_spec.2.2.1
    by_cases hi : A.length ≤ i
    · refine ⟨.inl (nI i, nI j, h), ?_, ?_⟩
      · rw [lp_s]
        simp only [fX11_byMerging_b45, arP_len hl, bd_s, if_pos (nI_le hi (show i < 2 ^ 31 by omega))]
      · rw [smg_n _ (.inl (List.drop_eq_nil_of_le hi))]
        exact ⟨i, j, acc, h, rfl, stk_rfl hr, hj, hc, h5, h3, h4, h6, rfl⟩
    by_cases hi2 : B.length ≤ j
    · refine ⟨.inl (nI i, nI j, h), ?_, ?_⟩
      · rw [lp_s]
        simp only [fX11_byMerging_b45, arP_len hl, arP_len hm, bd_s, if_neg (nI_ge (show i < A.length by omega) (show A.length < 2 ^ 31 by omega)), if_pos (nI_le hi2 (show j < 2 ^ 31 by omega))]
      · rw [smg_n _ (.inr (List.drop_eq_nil_of_le hi2))]
        exact ⟨i, j, acc, h, rfl, stk_rfl hr, hj, hc, h5, h3, h4, h6, rfl⟩
    have hx : A.getD i 0 ∈ A := getD_mem (by omega)
    have hy : B.getD j 0 ∈ B := getD_mem (by omega)
    obtain ⟨z, h', e1, e2⟩ := zj_judge (d := 3) hj (hA _ hx) (hB _ hy) hr (Nat.le_refl _)
    match f, h1, h2 with
    | 0, h1, h2 => omega
    | f + 1, h1, h2 =>
    have hsp : smg (jd k (wor st)) (f + 1) acc (A.drop i) (B.drop j) s = sbd (jd k (wor st) (A.getD i 0) (B.getD j 0) 3) (fun r => if r = true then smg (jd k (wor st)) f (acc ++ [A.getD i 0]) (A.drop (i + 1)) (B.getD j 0 :: B.drop (j + 1)) else smg (jd k (wor st)) f (acc ++ [B.getD j 0]) (A.getD i 0 :: A.drop (i + 1)) (B.drop (j + 1))) s := by
      rw [drop_c (show i < A.length by omega), drop_c (show j < B.length by omega)]
      rfl
    rw [← drop_c (show i < A.length by omega), ← drop_c (show j < B.length by omega)] at hsp
    rw [hsp, lp_s]
    unfold sbd
    cases hz : jd k (wor st) (A.getD i 0) (B.getD j 0) 3 s with
    | inr er =>
      rw [hz] at e2
      obtain ⟨g1, g2, u, g3, g4⟩ := e2
      subst g3
      refine ⟨.inr ((3, u), h'), ?_, u, h', rfl, stk_w g1 (by omega) (fun a _ hX _ => ⟨fun h9 => hX (.inl h9), .inr not_nil⟩), g2, g4⟩
      simp only [fX11_byMerging_b45, arP_len hl, arP_len hm, bd_s, if_neg (nI_ge (show i < A.length by omega) (show A.length < 2 ^ 31 by omega)), if_neg (nI_ge (show j < B.length by omega) (show B.length < 2 ^ 31 by omega)), gGq_o (k := 0) hth rfl, arP_get hl (show i < A.length by omega), arP_get hm (show j < B.length by omega), il3, e1, bd2_s, gEl_e]
    | inl v =>
      rw [hz] at e2
      obtain ⟨g1, g3, g2⟩ := e2
      subst g3
      have g1' : stk (jY N b w ca) 0 [] 0 h h' := stk_w g1 (Nat.le_refl _) (fun a _ hX _ => ⟨fun h9 => hX (.inl h9), .inr not_nil⟩)
      have hr' : rm h' 10 := rm_st hr g1 (by omega)
      have hl' := jY_ar hj hr g1' hl hab.1 hab.2.1 hab.2.2
      have hm' := jY_ar hj hr g1' hm hbb.1 hbb.2.1 hbb.2.2
      have hth' := jY_th hj hr g1' hc hth
      have hc' : arP h' ca tot acc := arP_k hc (fun e he => stk_keep hr g1 he (fun h9 => by
        rcases h9 with h9 | h9 | h9
        · obtain ⟨fc, y1, -⟩ := hc
          exact jR_ne hj y1 (by simp [kd]) h9
        · exact hcb h9
        · exact hcw h9) (.inr not_nil))
      have hb' : h'.2.2.2.1 ≤ ca := by rw [g1.2.2.1]; exact hbc
      have hlt : acc.length < tot := by omega
      have hbody : ∀ (r : Bool) (h2 : gHp), v.1 = r → gSi h' (some ca) 0 (nI (i + j)) (nI (if r = true then A.getD i 0 else B.getD j 0)) = some h2 → fX11_byMerging_b45 F th (some va) (some vb) (some ca) (nI i) (nI j) h = some (.inl (nI (if r = true then i + 1 else i), nI (if r = true then j else j + 1), h2)) := by
        intro r h2 hv hs
        simp only [fX11_byMerging_b45, arP_len hl, arP_len hm, bd_s, if_neg (nI_ge (show i < A.length by omega) (show A.length < 2 ^ 31 by omega)), if_neg (nI_ge (show j < B.length by omega) (show B.length < 2 ^ 31 by omega)), gGq_o (k := 0) hth rfl, arP_get hl (show i < A.length by omega), arP_get hm (show j < B.length by omega), il3, e1, bd2_s, gEl_i, hv, il0, bI_0, arP_get hl' (show i < A.length by omega), arP_get hm' (show j < B.length by omega)]
        cases r with
        | false =>
          simp only [Bool.false_eq_true, if_false] at hs
          simp only [bI_f, if_true, fX11_byMerging_j103, fX11_byMerging_j126, zb_add, hs, bd_s, zx_one0, zx_one1, bd2_s, nm_s, il0, il1, Nat.add_zero, Bool.false_eq_true, if_false]
        | true =>
          simp only [if_true] at hs
          simp only [bI_t, if_neg n10_ne, Bool.true_eq_false, if_false, if_true, fX11_byMerging_j103, fX11_byMerging_j126, zb_add, hs, bd_s, zx_one0, zx_one1, bd2_s, nm_s, il0, il1, Nat.add_zero]
      obtain ⟨h2', w2, s2, q2, hj2⟩ := zq_set (i := i + j) (x := if v.1 = true then A.getD i 0 else B.getD j 0) g2 hr' hc' hcb hcw hb' h5.symm hlt
      rw [hbody v.1 h2' rfl w2]
      have s3 := stk_t g1' s2
      have hr2 : rm h2' 10 := rm_st hr s3 (by omega)
      have hxn : (if v.1 = true then A.getD i 0 else B.getD j 0) < n := by
        split
        · exact hA _ hx
        · exact hB _ hy
      obtain ⟨e, y1, y2⟩ := zq_mgL (F := F) hA hB hab hbb hcb hcw hAB f m (if v.1 = true then i + 1 else i) (if v.1 = true then j else j + 1) (acc ++ [if v.1 = true then A.getD i 0 else B.getD j 0]) v.2 h2' (by omega) (by split <;> omega) (by split <;> omega) (by split <;> omega) (by rw [List.length_append, List.length_singleton]; split <;> omega) (fun x hx => (List.mem_append.1 hx).elim (h6 x) (fun hx => by rw [List.mem_singleton.1 hx]; exact hxn)) hj2 hr2 q2 (jY_ar g2 hr' s2 hl' hab.1 hab.2.1 hab.2.2) (jY_ar g2 hr' s2 hm' hbb.1 hbb.2.1 hbb.2.2) (jY_th g2 hr' s2 hc' hth') (by rw [s2.2.2.1]; exact hb')
      refine ⟨e, y1, ?_⟩
      have hq : (if v.1 = true then smg (jd k (wor st)) f (acc ++ [A.getD i 0]) (A.drop (i + 1)) (B.drop j) else smg (jd k (wor st)) f (acc ++ [B.getD j 0]) (A.drop i) (B.drop (j + 1))) = smg (jd k (wor st)) f (acc ++ [if v.1 = true then A.getD i 0 else B.getD j 0]) (A.drop (if v.1 = true then i + 1 else i)) (B.drop (if v.1 = true then j else j + 1)) := by
        cases v.1 <;> rfl
      simp only [hq]
      cases hz2 : smg (jd k (wor st)) f (acc ++ [if v.1 = true then A.getD i 0 else B.getD j 0]) (A.drop (if v.1 = true then i + 1 else i)) (B.drop (if v.1 = true then j else j + 1)) v.2 with
      | inl v2 =>
        rw [hz2] at y2
        obtain ⟨i', j', acc', h3, x1, x2, x3⟩ := y2
        exact ⟨i', j', acc', h3, x1, stk_c (stk_t s3 x2) (by omega), x3⟩
      | inr er =>
        rw [hz2] at y2
        obtain ⟨u, h3, x1, x2, x3⟩ := y2
        exact ⟨u, h3, x1, stk_c (stk_t s3 x2) (by omega), x3⟩
end
