/-! L2 SORTS OF THE COMPONENT: merging, the whole -/
set_option maxRecDepth 100000
/-- what a merge sort of t items allocates -/
def mc (t : Nat) : Nat := [0, 0, 7, 16, 25, 36, 47, 58, 69, 82, 95].getD t 0
theorem mc_s {t : Nat} (h : t ≤ 10) (h2 : 2 ≤ t) : 2 * t + 3 + mc ((t + 1) / 2) + mc (t - (t + 1) / 2) ≤ mc t := by
  have : ∀ u : Fin 11, 2 ≤ u.val → 2 * u.val + 3 + mc ((u.val + 1) / 2) + mc (u.val - (u.val + 1) / 2) ≤ mc u.val := by decide
  exact this ⟨t, by omega⟩ h2
section
variable {N p K b w n th : Nat} {sa : Nat × List gV} {k : Bool} {st : stT}
theorem jX_ar {s : sJ} {h h' : gHp} {a tot d c : Nat} {l : List Nat} (hj : jR N p K b w k sa st n s h) (hr : rm h d) (hs : stk (jX N b w) 0 [] c h h') (hp : arP h a tot l) (hab : a ≠ b) (haw : a ≠ w) : arP h' a tot l := arP_k hp (fun e he => stk_keep hr hs he (fun h9 => by
    rcases h9 with h9 | h9 | h9
    · obtain ⟨fc, y1, -⟩ := hp
      exact jR_ne hj y1 (by simp [kd]) h9
    · exact hab h9
    · exact haw h9) (.inr not_nil))
theorem jX_th {s : sJ} {h h' : gHp} {d c : Nat} (hj : jR N p K b w k sa st n s h) (hr : rm h d) (hs : stk (jX N b w) 0 [] c h h') (hth : h.1 th = some (.inr (9, [gq (some p)]))) : h'.1 th = some (.inr (9, [gq (some p)])) := stk_keep hr hs hth (fun h9 => by
    rcases h9 with h9 | h9 | h9
    · exact jR_ne hj hth (by simp [kd]) h9
    · exact (jR_nbw hj hth (by simp [kd])).1 h9
    · exact (jR_nbw hj hth (by simp [kd])).2 h9) (.inr not_nil)
/-- what the recursion gives -/
def oHyp (N p K b w : Nat) (sa : Nat × List gV) (n th : Nat) (k : Bool) (st : stT) (F : Nat → Option Nat → Int32 → gHp → Option (((Option Nat) ⊕ (Nat × Nat)) × gHp)) (mt : Nat) (S : List Nat → sM (List Nat)) (cst : Nat → Nat) (lim : Nat) : Prop :=
  ∀ (la tot c : Nat) (l : List Nat) (s : sJ) (h : gHp), l.length = tot → (∀ x ∈ l, x < n) → 1 ≤ tot → tot ≤ lim → tot ≤ 10 → la ≠ b → la ≠ w → h.2.2.2.1 ≤ la → jR N p K b w k sa st n s h → rm h c → cst tot + 10 ≤ c → arP h la tot l → h.1 th = some (.inr (9, [gq (some p)])) →
    oOut N p K b w k sa st n tot (cst tot) h (F th (some la) (nI mt) h) (S l s)
theorem zq_j135 {F : Nat → Option Nat → Int32 → gHp → Option (((Option Nat) ⊕ (Nat × Nat)) × gHp)} {va vb ca tot i j c : Nat} {A B acc : List Nat} {s : sJ} {h : gHp} (hj : jR N p K b w k sa st n s h) (hr : rm h c) (hl : arP h va A.length A) (hm : arP h vb B.length B) (hc : arP h ca tot acc) (hcb : ca ≠ b) (hcw : ca ≠ w) (hac : va ≠ b ∧ va ≠ w ∧ va ≠ ca) (hbc : vb ≠ b ∧ vb ≠ w ∧ vb ≠ ca) (hb : h.2.2.2.1 ≤ ca) (h1 : acc.length = i + j) (hi : i ≤ A.length) (hjl : j ≤ B.length) (ht : A.length + B.length = tot) :
    ∃ h', fX11_byMerging_j135 F (some va) (some vb) (some ca) (nI i) (nI j) h = some (.inl (some ca), h') ∧ stk (jY N b w ca) 0 [] 0 h h' ∧ arP h' ca tot (acc ++ A.drop i ++ B.drop j) ∧ jR N p K b w k sa st n s h' := by
  obtain ⟨g1, w1, s1, q1, hj1⟩ := zq_cp (m := A.length - i) (sp := i) (dp := i + j) hj hr hl hc hcb hcw hb (by omega) h1.symm (by omega)
  have r1 : rm g1 c := rm_st hr s1 (by omega)
  have hm1 := jY_ar hj hr s1 hm hbc.1 hbc.2.1 hbc.2.2
  have hl1 := jY_ar hj hr s1 hl hac.1 hac.2.1 hac.2.2
  have e1 : (A.drop i).take (A.length - i) = A.drop i := List.take_of_length_le (by rw [List.length_drop]; omega)
  have e2 : (B.drop j).take (B.length - j) = B.drop j := List.take_of_length_le (by rw [List.length_drop]; omega)
  rw [e1] at q1
  obtain ⟨g2, w2, s2, q2, hj2⟩ := zq_cp (m := B.length - j) (sp := j) (dp := A.length + j) hj1 r1 hm1 q1 hcb hcw (by rw [s1.2.2.1]; exact hb) (by omega) (by rw [List.length_append, List.length_drop]; omega) (by omega)
  rw [e2] at q2
  refine ⟨g2, ?_, stk_c (stk_t s1 s2) (by omega), q2, hj2⟩
  simp only [fX11_byMerging_j135, arP_len hl, bd_s, zb_add, zb_sub hi, w1, arP_len hl1, arP_len hm1, zb_sub hjl, w2]
theorem smerges_s {J : sJd} {f : Nat} {l : List Nat} (h : ¬ l.length < 2) : smerges J (f + 1) l = sbd (smerges J f (l.take ((l.length + 1) / 2))) (fun A => sbd (smerges J f (l.drop ((l.length + 1) / 2))) (fun B => smg J (A.length + B.length) [] A B)) := by
  show (if l.length < 2 then _ else _) = _
  rw [if_neg h]
theorem zq_merging {F : Nat → Option Nat → Int32 → gHp → Option (((Option Nat) ⊕ (Nat × Nat)) × gHp)} {f lim la tot c : Nat} {l : List Nat} {s : sJ} {h : gHp} (hF : oHyp N p K b w sa n th k st F 2 (smerges (jd k (wor st)) f) mc lim) (hll : l.length = tot) (hln : ∀ x ∈ l, x < n) (h1 : 2 ≤ tot) (hlim : tot ≤ 2 * lim) (h10 : tot ≤ 10) (hlb : la ≠ b) (hlw : la ≠ w) (hj : jR N p K b w k sa st n s h) (hr : rm h c) (hc : mc tot + 10 ≤ c) (hl : arP h la tot l) (hth : h.1 th = some (.inr (9, [gq (some p)]))) :
    oOut N p K b w k sa st n tot (mc tot) h (fX11_byMerging F th (some la) h) (smerges (jd k (wor st)) (f + 1) l s) := by
  have hmc := mc_s h10 h1
  rw [smerges_s (by omega), hll]
  have hhf : 1 ≤ (tot + 1) / 2 ∧ (tot + 1) / 2 < tot ∧ (tot + 1) / 2 ≤ lim ∧ tot - (tot + 1) / 2 ≤ lim := by omega
  have hdiv : gidiv (nI (tot + 1)) (nI 2) = some (nI ((tot + 1) / 2)) := zb_div (by omega) (by omega) (by omega)
  generalize (tot + 1) / 2 = hf at hmc hhf hdiv ⊢
  obtain ⟨hf1, hf2, hf3, hf4⟩ := hhf
  obtain ⟨g1, w1, s1, q1, hj1, b1, b2, b3⟩ := zq_part (frm := 0) (to := hf) hj hr (by omega) hl (Nat.zero_le _) (by omega)
  have hl1 := jX_ar hj hr s1 hl hlb hlw
  have hth1 := jX_th hj hr s1 hth
  rw [Nat.sub_zero, List.drop_zero] at q1
  have r1 : rm g1 (c - (hf + 1)) := rm_st hr s1 (by omega)
  have o1 := hF h.2.1 hf _ (l.take hf) s g1 (by rw [List.length_take]; omega) (fun x hx => hln x (List.mem_of_mem_take hx)) hf1 hf3 (by omega) b1 b2 b3 hj1 r1 (by omega) q1 hth1
  have hbody : fX11_byMerging F th (some la) h = bd2 (F th (some h.2.1) (nI 2) g1) fun z h4 => gEl z (fun v4 => bd (gLen h4 (some la)) fun v5 => bd2 (fX11_part (some la) (nI hf) v5 h4) fun v6 h6 => bd (gIs h6 th 9) fun _ => bd2 (F th v6 (nI 2) h6) fun z h7 => gEl z (fun v7 => bd (gLen h7 (some la)) fun v8 => bd2 (gNewA h7 0 v8) fun a9 h9 => bd (fl_X11_byMerging_b45 F th v4 v7 (some a9) (nI 0, nI 0, h9)) (fun e => gEl e (fun t => ap2 t fun l6_10 t => ap2 t fun l7_10 h10 => fX11_byMerging_j135 F v4 v7 (some a9) l6_10 l7_10 h10) (fun t => ap2 t fun x10 h10 => some (.inr x10, h10)))) (fun x7 => some (.inr x7, h7))) (fun x4 => some (.inr x4, h4)) := by
    simp only [fX11_byMerging, arP_len hl, bd_s, il0, il1, il2, zb_add, hdiv, w1, bd2_s, gIs_o hth1]
  rw [hbody]
  unfold sbd
  cases hz1 : smerges (jd k (wor st)) f (l.take hf) s with
  | inr er =>
    rw [hz1] at o1
    obtain ⟨u, h', y1, y2, y3, y4⟩ := o1
    rw [y1]
    exact ⟨u, h', rfl, stk_c (stk_t s1 y2) (by omega), y3, y4⟩
  | inl vA =>
    rw [hz1] at o1
    obtain ⟨va, g2, y1, y2, y3, y4, y5, y6, y7, y8, y9⟩ := o1
    rw [y1]
    have s2 := stk_t s1 y2
    have r2 : rm g2 (c - (hf + 1) - mc hf) := rm_st r1 y2 (by omega)
    have hl2 := jX_ar hj1 r1 y2 hl1 hlb hlw
    have hth2 := jX_th hj1 r1 y2 hth1
    obtain ⟨g3, w3, s3, q3, hj3, b4, b5, b6⟩ := zq_part (frm := hf) (to := tot) y3 r2 (by omega) hl2 (by omega) (by omega)
    have hl3 := jX_ar y3 r2 s3 hl2 hlb hlw
    have hth3 := jX_th y3 r2 s3 hth2
    have hva3 := jX_ar y3 r2 s3 y4 y7 y8
    have r3 : rm g3 (c - (hf + 1) - mc hf - (tot - hf + 1)) := rm_st r2 s3 (by omega)
    have e3 : (l.drop hf).take (tot - hf) = l.drop hf := List.take_of_length_le (by rw [List.length_drop]; omega)
    rw [e3] at q3
    have o2 := hF g2.2.1 (tot - hf) _ (l.drop hf) vA.2 g3 (by rw [List.length_drop]; omega) (fun x hx => hln x (List.mem_of_mem_drop hx)) (by omega) hf4 (by omega) b4 b5 b6 hj3 r3 (by omega) q3 hth3
    simp only [bd2_s, gEl_i, arP_len hl2, bd_s, w3, gIs_o hth3]
    cases hz2 : smerges (jd k (wor st)) f (l.drop hf) vA.2 with
    | inr er =>
      rw [hz2] at o2
      obtain ⟨u, h', x1, x2, x3, x4⟩ := o2
      rw [x1]
      exact ⟨u, h', rfl, stk_c (stk_t s2 (stk_t s3 x2)) (by omega), x3, x4⟩
    | inl vB =>
      rw [hz2] at o2
      obtain ⟨vb, g4, x1, x2, x3, x4, x5, x6, x7, x8, x9⟩ := o2
      rw [x1]
      have s4 := stk_t s2 (stk_t s3 x2)
      have r4 : rm g4 (c - (hf + 1) - mc hf - (tot - hf + 1) - mc (tot - hf)) := rm_st r3 x2 (by omega)
      have hl4 := jX_ar hj3 r3 x2 hl3 hlb hlw
      have hth4 := jX_th hj3 r3 x2 hth3
      have hva4 := jX_ar hj3 r3 x2 hva3 y7 y8
      obtain ⟨g5, w5, s5, q5, hj5, b7, b8, b9⟩ := zq_newA (tot := tot) x3 r4 (by omega) (by omega)
      have s5' : stk (jX N b w) 0 [] (tot + 1) g4 g5 := stn_w s5 (Nat.le_refl _)
      have hva5 := jX_ar x3 r4 s5' hva4 y7 y8
      have hvb5 := jX_ar x3 r4 s5' x4 x7 x8
      have hth5 := jX_th x3 r4 s5' hth4
      have r5 : rm g5 10 := rm_st r4 s5 (by omega)
      have hvac : va ≠ g4.2.1 := by have := rm_lt r4 hva4.choose_spec.1; omega
      have hvbc : vb ≠ g4.2.1 := by have := rm_lt r4 x4.choose_spec.1; omega
      rw [← y5] at hva5
      rw [← x5] at hvb5
      obtain ⟨e, e1, e2⟩ := zq_mgL (F := F) (th := th) (tot := tot) y6 x6 ⟨y7, y8, hvac⟩ ⟨x7, x8, hvbc⟩ b7 b8 (by omega) (vA.1.length + vB.1.length) 4096 0 0 [] vB.2 g5 (by omega) (by omega) (Nat.zero_le _) (Nat.zero_le _) rfl (fun x hx => nomatch hx) hj5 r5 q5 hva5 hvb5 hth5 b9
      rw [List.drop_zero, List.drop_zero] at e2
      simp only [bd2_s, gEl_i, arP_len hl4, bd_s, w5, fl_X11_byMerging_b45, e1]
      have s6 := stk_t s4 s5'
      have hca : h.2.1 ≤ g4.2.1 := s4.1
      have hlen : vA.1.length + vB.1.length = tot := by omega
      cases hz3 : smg (jd k (wor st)) (vA.1.length + vB.1.length) [] vA.1 vB.1 vB.2 with
      | inr er =>
        rw [hz3] at e2
        obtain ⟨u, h', z1, z2, z3, z4⟩ := e2
        subst z1
        exact ⟨u, h', rfl, jY_out s6 z2 hca (by omega), z3, z4⟩
      | inl v =>
        rw [hz3] at e2
        obtain ⟨i', j', acc', g6, z1, z2, z3, z4, z5, z6, z7, z8, z9⟩ := e2
        subst z1
        have hva6 := jY_ar hj5 r5 z2 hva5 y7 y8 hvac
        have hvb6 := jY_ar hj5 r5 z2 hvb5 x7 x8 hvbc
        obtain ⟨g7, w7, s7, q7, hj7⟩ := zq_j135 (F := F) (i := i') (j := j') (tot := tot) z3 (rm_st r5 z2 (c' := 0) (by omega)) hva6 hvb6 z4 b7 b8 ⟨y7, y8, hvac⟩ ⟨x7, x8, hvbc⟩ (by rw [z2.2.2.1]; exact b9) z5 z6 z7 hlen
        have s8 := jY_out s6 (stk_t z2 s7) hca (Nat.le_refl _)
        refine ⟨g4.2.1, g7, ?_, stk_c s8 (by omega), hj7, by rw [z9]; exact q7, ?_, ?_, b7, b8, by rw [s7.2.2.1, z2.2.2.1]; exact b9⟩
        · simp only [gEl_i, ap2_s, w7]
        · rw [z9, List.length_append, List.length_append, List.length_drop, List.length_drop]; omega
        · intro x hx
          rw [z9] at hx
          rcases List.mem_append.1 hx with hx | hx
          · rcases List.mem_append.1 hx with hx | hx
            · exact z8 x hx
            · exact y6 x (List.mem_of_mem_drop hx)
          · exact x6 x (List.mem_of_mem_drop hx)
end
