/-! L2 SORTS OF THE COMPONENT: halving -/
set_option maxRecDepth 100000
section
variable {N p K b w n th : Nat} {sa : Nat × List gV} {k : Bool} {st : stT}
theorem jR_ne {s : sJ} {h : gHp} {a : Nat} {e : gE} (hj : jR N p K b w k sa st n s h) (ha : h.1 a = some e) (hk : kd (some e) ≠ 0) : a ≠ N := fun h9 => by
  obtain ⟨-, -, -, -, -, -, -, -, -, ⟨fs, c1, q1, z1, z2, -⟩, -⟩ := hj
  rw [h9, z2] at ha
  cases ha
  exact hk rfl
theorem jR_nbw {s : sJ} {h : gHp} {a : Nat} {e : gE} (hj : jR N p K b w k sa st n s h) (ha : h.1 a = some e) (hk : kd (some e) ≠ 100) : a ≠ b ∧ a ≠ w := by
  obtain ⟨⟨fb, fw, z1, z2, z3, z4, -⟩, -⟩ := hj
  exact ⟨fun e9 => by rw [e9, z3] at ha; cases ha; exact hk rfl, fun e9 => by rw [e9, z4] at ha; cases ha; exact hk rfl⟩
theorem jY_ar {s : sJ} {h h' : gHp} {a ca tot d c : Nat} {l : List Nat} (hj : jR N p K b w k sa st n s h) (hr : rm h d) (hs : stk (jY N b w ca) 0 [] c h h') (hp : arP h a tot l) (hab : a ≠ b) (haw : a ≠ w) (hac : a ≠ ca) : arP h' a tot l := arP_k hp (fun e he => stk_keep hr hs he (fun h9 => by
    rcases h9 with (h9 | h9 | h9) | h9
    · obtain ⟨fc, y1, -⟩ := hp
      exact jR_ne hj y1 (by simp [kd]) h9
    · exact hab h9
    · exact haw h9
    · exact hac h9) (.inr not_nil))
theorem jY_th {s : sJ} {h h' : gHp} {ca tot d c : Nat} {l : List Nat} (hj : jR N p K b w k sa st n s h) (hr : rm h d) (hs : stk (jY N b w ca) 0 [] c h h') (hp : arP h ca tot l) (hth : h.1 th = some (.inr (9, [gq (some p)]))) : h'.1 th = some (.inr (9, [gq (some p)])) := stk_keep hr hs hth (fun h9 => by
    rcases h9 with (h9 | h9 | h9) | h9
    · exact jR_ne hj hth (by simp [kd]) h9
    · exact (jR_nbw hj hth (by simp [kd])).1 h9
    · exact (jR_nbw hj hth (by simp [kd])).2 h9
    · obtain ⟨fc, y1, -⟩ := hp
      rw [h9, y1] at hth
      cases hth) (.inr not_nil)
theorem sput_mem {ask : Nat → Nat → Nat → sM Bool} {l : List Nat} {frm item : Nat} {s : sJ} {v : List Nat × sJ} (h : sput ask l frm item s = .inl v) : ∀ x ∈ v.1, x = item ∨ x ∈ l := by
  unfold sput sbd at h
  split at h
  · next z q =>
    cases h
    intro x hx
    rcases List.mem_append.1 hx with hx | hx
    · exact .inr (List.mem_of_mem_take hx)
    · rcases List.mem_cons.1 hx with hx | hx
      · exact .inl hx
      · exact .inr (List.mem_of_mem_drop hx)
  · cases h
theorem zq_halfL {la ca tot : Nat} {l : List Nat} (hln : ∀ x ∈ l, x < n) (hll : l.length = tot) (hlb : la ≠ b) (hlw : la ≠ w) (hcb : ca ≠ b) (hcw : ca ≠ w) (hlc : la ≠ ca) : ∀ (r chain : List Nat) (m : Nat) (s : sJ) (h : gHp), r.length < m → chain.length + r.length = tot → 1 ≤ chain.length → l.drop chain.length = r → (∀ x ∈ chain, x < n) → jR N p K b w k sa st n s h → rm h 10 → arP h ca tot chain → arP h la tot l → h.1 th = some (.inr (9, [gq (some p)])) → h.2.2.2.1 ≤ ca →
    ∃ z, lp (fun t => fX11_byHalving_b13 th (some la) (some ca) t.1 t.2) m (nI chain.length, h) = some z ∧ match shalf (jd k (wor st)) chain r s with
      | .inl v => ∃ h', z = .inl h' ∧ stk (jY N b w ca) 0 [] 0 h h' ∧ jR N p K b w k sa st n v.2 h' ∧ arP h' ca tot v.1 ∧ v.1.length = tot ∧ (∀ x ∈ v.1, x < n)
      | .inr er => ∃ u h', z = .inr ((3, u), h') ∧ stk (jY N b w ca) 0 [] 10 h h' ∧ jR N p K b w k sa st n er.2 h' ∧ unC h' u er.1
  | _, _, 0, _, _, h1, _, _, _, _, _, _, _, _, _, _ => absurd h1 (by omega)
  | [], chain, m + 1, s, h, h1, h2, h3, h4, h5, hj, hr, hc, hl, hth, hbc => by
    have htot := hl.choose_spec.2.2.1
    refine ⟨.inl h, ?_, h, rfl, stk_rfl hr, hj, hc, by simpa using h2, h5⟩
    rw [lp_s]
    simp only [fX11_byHalving_b13, arP_len hl, bd_s, if_pos (nI_le (show tot ≤ chain.length by simp at h2; omega) (show chain.length < 2 ^ 31 by simp at h2; omega))]
  | x :: r, chain, m + 1, s, h, h1, h2, h3, h4, h5, hj, hr, hc, hl, hth, hbc => by
    have htot := hl.choose_spec.2.2.1
    rw [List.length_cons] at h1 h2
    have hx : l.getD chain.length 0 = x := by
      rw [List.getD_eq_getElem?_getD, show chain.length = chain.length + 0 from rfl, ← List.getElem?_drop, h4]
      rfl
    have hxl : x ∈ l := by rw [← hx]; exact getD_mem (by omega)
    obtain ⟨z, h', e1, e2⟩ := zq_put (frm := 0) (hln x hxl) h5 hcb hcw (Nat.zero_le _) (by omega) hj hr (Nat.le_refl _) hc hth hbc
    have hbody : fX11_byHalving_b13 th (some la) (some ca) (nI chain.length) h = gEl z (fun v3 => some (.inl (nI (chain.length + 1), h'))) (fun x3 => some (.inr (.inr (x3, h')))) := by
      simp only [fX11_byHalving_b13, arP_len hl, bd_s, if_neg (nI_ge (show chain.length < tot by omega) (show tot < 2 ^ 31 by omega)), arP_get hl (show chain.length < l.length by omega), hx, gIs_o hth, il0, e1, bd2_s, il1, zb_add, nm_s]
    rw [lp_s]
    simp only [hbody]
    have hsp : shalf (jd k (wor st)) chain (x :: r) s = sbd (sput (jd k (wor st)) chain 0 x) (fun c => shalf (jd k (wor st)) c r) s := rfl
    rw [hsp]
    unfold sbd
    cases hz : sput (jd k (wor st)) chain 0 x s with
    | inr er =>
      rw [hz] at e2
      obtain ⟨r1, r2, u, r3, r4⟩ := e2
      subst r3
      exact ⟨_, rfl, u, h', rfl, r1, r2, r4⟩
    | inl v =>
      rw [hz] at e2
      obtain ⟨r1, r2, r3, r4, r5⟩ := e2
      subst r2
      have hm := sput_mem hz
      obtain ⟨e, q1, q2⟩ := zq_halfL hln hll hlb hlw hcb hcw hlc r v.1 m v.2 h' (by omega) (by omega) (by omega) (by rw [r5, ← List.drop_drop, h4]; rfl) (fun y hy => (hm y hy).elim (fun q => q ▸ hln x hxl) (h5 y)) r4 (rm_st hr r1 (by omega)) r3 (jY_ar hj hr r1 hl hlb hlw hlc) (jY_th hj hr r1 hc hth) (by rw [r1.2.2.1]; exact hbc)
      rw [r5] at q1
      refine ⟨e, q1, ?_⟩
      cases hz2 : shalf (jd k (wor st)) v.1 r v.2 with
      | inl v2 =>
        rw [hz2] at q2
        obtain ⟨h2, y1, y2, y3, y4, y5, y6⟩ := q2
        simp only [hz2]
        exact ⟨h2, y1, stk_c (stk_t r1 y2) (by omega), y3, y4, y5, y6⟩
      | inr er =>
        rw [hz2] at q2
        obtain ⟨u, h2, y1, y2, y3⟩ := q2
        simp only [hz2]
        exact ⟨u, h2, y1, stk_c (stk_t r1 y2) (by omega), y3⟩
/-- a sort's answer: an array that holds the list, or an Unknown -/
def oOut (N p K b w : Nat) (k : Bool) (sa : Nat × List gV) (st : stT) (n tot c : Nat) (h : gHp) (r : Option (((Option Nat) ⊕ (Nat × Nat)) × gHp)) (q : (List Nat × sJ) ⊕ (sE × sJ)) : Prop := match q with
  | .inl v => ∃ a h', r = some (.inl (some a), h') ∧ stk (jX N b w) 0 [] c h h' ∧ jR N p K b w k sa st n v.2 h' ∧ arP h' a tot v.1 ∧ v.1.length = tot ∧ (∀ x ∈ v.1, x < n) ∧ a ≠ b ∧ a ≠ w ∧ h'.2.2.2.1 ≤ a
  | .inr er => ∃ u h', r = some (.inr (3, u), h') ∧ stk (jX N b w) 0 [] (c + 10) h h' ∧ jR N p K b w k sa st n er.2 h' ∧ unC h' u er.1
theorem jY_out {ca c d e : Nat} {h h1 h' : gHp} (s1 : stk (jX N b w) 0 [] c h h1) (s2 : stk (jY N b w ca) 0 [] d h1 h') (hca : h.2.1 ≤ ca) (he : c + d ≤ e) : stk (jX N b w) 0 [] e h h' :=
  stk_c (stk_tr s1 s2 (fun a ha hX _ => ⟨fun h9 => h9.elim hX (fun q => by omega), .inr not_nil⟩)) he
theorem zq_halving {la tot c : Nat} {l : List Nat} {s : sJ} {h : gHp} (hln : ∀ x ∈ l, x < n) (hll : l.length = tot) (h1 : 1 ≤ tot) (hlb : la ≠ b) (hlw : la ≠ w) (hj : jR N p K b w k sa st n s h) (hr : rm h c) (hc : tot + 11 ≤ c) (hl : arP h la tot l) (hth : h.1 th = some (.inr (9, [gq (some p)]))) :
    oOut N p K b w k sa st n tot (tot + 1) h (fX11_byHalving th (some la) h) (shalf (jd k (wor st)) (l.take 1) (l.drop 1) s) := by
  have htot := hl.choose_spec.2.2.1
  have hal := nA_ok (ti := 0) (n := tot) hr (by omega) (by omega)
  have s1 : stn (tot + 1) h (gpush h (.inl (0, gA0 0 tot)) tot) := push_st hr
  have q1 := push_at h (.inl (0, gA0 0 tot)) tot
  have hla : la < h.2.1 := rm_lt hr hl.choose_spec.1
  have hl1 : arP (gpush h (.inl (0, gA0 0 tot)) tot) la tot l := arP_k hl (fun e he => stn_keep hr s1 he)
  have hj1 : jR N p K b w k sa st n s (gpush h (.inl (0, gA0 0 tot)) tot) := jR_k hj hr s1 (fun _ _ h9 _ => h9.elim)
  have hth1 := stn_keep hr s1 hth
  have r1 : rm (gpush h (.inl (0, gA0 0 tot)) tot) 10 := rm_st hr s1 (by omega)
  have hb : (gpush h (.inl (0, gA0 0 tot)) tot).2.2.2.1 ≤ h.2.1 := hr.1
  have hbne : h.2.1 ≠ b ∧ h.2.1 ≠ w := by
    obtain ⟨⟨fb, fw, z1, z2, z3, z4, -⟩, -⟩ := hj
    have := rm_lt hr z3
    have := rm_lt hr z4
    omega
  generalize gpush h (.inl (0, gA0 0 tot)) tot = g1 at hal s1 q1 hl1 hj1 hth1 r1 hb
  have h0 : l.getD 0 0 ∈ l := getD_mem (by omega)
  have q1' : g1.1 h.2.1 = some (.inl (0, tot, .inl (fun _ => nI 0))) := by rw [q1, ← il0]; rfl
  have hset : gSi g1 (some h.2.1) 0 (nI 0) (nI (l.getD 0 0)) = some (gset g1 h.2.1 (.inl (0, tot, .inl (upd (fun _ => nI 0) 0 (nI (l.getD 0 0)))))) := gSi_o q1' hb (by omega) (by omega)
  have s2 : stk (jY N b w h.2.1) 0 [] 0 g1 (gset g1 h.2.1 (.inl (0, tot, .inl (upd (fun _ => nI 0) 0 (nI (l.getD 0 0)))))) := set_st r1 q1' (.inl (.inr rfl))
  have ht1 : l.take 1 = [l.getD 0 0] := by cases l with
    | nil => simp at hll; omega
    | cons x r => rfl
  have har : arP (gset g1 h.2.1 (.inl (0, tot, .inl (upd (fun _ => nI 0) 0 (nI (l.getD 0 0)))))) h.2.1 tot (l.take 1) := by
    refine ⟨_, set_at _ _ _, by rw [ht1]; exact h1, htot, fun i hi => ?_⟩
    rw [ht1] at hi ⊢
    have : i = 0 := by simp at hi; omega
    subst this
    exact pk_us
  have q0 : arP g1 h.2.1 tot [] := ⟨_, q1', Nat.zero_le _, htot, fun i hi => nomatch hi⟩
  have hj2 : jR N p K b w k sa st n s (gset g1 h.2.1 (.inl (0, tot, .inl (upd (fun _ => nI 0) 0 (nI (l.getD 0 0)))))) := jR_k hj1 r1 (X := fun a => a = h.2.1) (set_st r1 q1' (.inl rfl)) (fun a e hx he => by
    rw [hx] at he ⊢
    rw [q1'] at he
    cases he
    exact ⟨jR_ne hj1 q1' (by simp [kd]), hbne.1, hbne.2, by simp [kd]⟩)
  have hl2 := jY_ar hj1 r1 s2 hl1 hlb hlw (by omega)
  have hth2 := jY_th hj1 r1 s2 q0 hth1
  have r2 := rm_st r1 s2 (c' := 10) (by omega)
  have hlen1 : (l.take 1).length = 1 := by rw [ht1]; rfl
  have hlen2 : (l.drop 1).length = tot - 1 := by rw [List.length_drop, hll]
  obtain ⟨e, e1, e2⟩ := zq_halfL (th := th) hln hll hlb hlw hbne.1 hbne.2 (show la ≠ h.2.1 by omega) (l.drop 1) (l.take 1) 4096 s _ (by omega) (by omega) (by omega) (by rw [hlen1]) (fun x hx => hln x (List.mem_of_mem_take hx)) hj2 r2 har hl2 hth2 (by rw [gset_2]; exact hb)
  rw [hlen1] at e1
  have hbody : fX11_byHalving th (some la) h = bd (some e) (fun e => gEl e (fun h5 => some (.inl (some h.2.1), h5)) (fun t => ap2 t fun x5 h5 => some (.inr x5, h5))) := by
    simp only [fX11_byHalving, arP_len hl, bd_s, hal, bd2_s, il0, arP_get hl1 (show 0 < l.length by omega), hset, fl_X11_byHalving_b13, il1, e1]
  rw [hbody]
  have s12 : stk (jX N b w) 0 [] (tot + 1) h g1 := stn_w s1 (Nat.le_refl _)
  unfold oOut
  cases hz : shalf (jd k (wor st)) (l.take 1) (l.drop 1) s with
  | inr er =>
    rw [hz] at e2
    obtain ⟨u, h', y1, y2, y3, y4⟩ := e2
    subst y1
    exact ⟨u, h', rfl, jY_out s12 (stk_t s2 y2) (Nat.le_refl _) (by omega), y3, y4⟩
  | inl v =>
    rw [hz] at e2
    obtain ⟨h', y1, y2, y3, y4, y5, y6⟩ := e2
    subst y1
    have s3 := jY_out s12 (stk_t s2 y2) (Nat.le_refl _) (show tot + 1 + (0 + 0) ≤ tot + 1 by omega)
    exact ⟨h.2.1, h', rfl, s3, y3, y4, y5, y6, hbne.1, hbne.2, by rw [s3.2.2.1]; exact hr.1⟩
end
