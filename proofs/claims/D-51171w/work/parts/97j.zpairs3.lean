/-! L2 SORTS OF THE COMPONENT: by pairs, the whole -/
set_option maxRecDepth 100000
/-- what a sort by pairs of t items allocates -/
def pc (t : Nat) : Nat := [0, 0, 16, 17, 35, 36, 39, 40, 60, 61, 64].getD t 0
theorem pc_s {t : Nat} (h : t ≤ 10) (h2 : 2 ≤ t) : t / 2 + t + 13 + pc (t / 2) ≤ pc t := by
  have : ∀ u : Fin 11, 2 ≤ u.val → u.val / 2 + u.val + 13 + pc (u.val / 2) ≤ pc u.val := by decide
  exact this ⟨t, by omega⟩ h2
theorem spairs_s {J : sJd} {f : Nat} {l : List Nat} (h : ¬ l.length < 2) : spairs J (f + 1) l = sbd (spw J (l.length / 2) l [] []) (fun p => sbd (spairs J f p.1) (fun o =>
      sins J (l.length / 2) (l.length - l.length / 2) (l.getD (l.length - 1) 0) o p.1 p.2 (o ++ [p.2.getD (p.1.idxOf (o.getD (l.length / 2 - 1) 0)) 0]) [3, 2, 5, 4])) := by
  show (if l.length < 2 then _ else _) = _
  rw [if_neg h]
section
variable {N p K b w n th : Nat} {sa : Nat × List gV} {k : Bool} {st : stT}
theorem jX_lo {s : sJ} {h h' : gHp} {a d c : Nat} {ws ls : List Nat} (hj : jR N p K b w k sa st n s h) (hr : rm h d) (hs : stk (jX N b w) 0 [] c h h') (hp : loR h a ws ls) (hab : a ≠ b) (haw : a ≠ w) : loR h' a ws ls := by
  obtain ⟨f, h1, h2⟩ := hp
  refine ⟨f, stk_keep hr hs h1 (fun h9 => ?_) (.inr not_nil), h2⟩
  rcases h9 with h9 | h9 | h9
  · exact jR_ne hj h1 (by simp [kd]) h9
  · exact hab h9
  · exact haw h9
/-- the two rounds of the losers -/
theorem zq_insAll {F : Nat → Option Nat → Int32 → gHp → Option (((Option Nat) ⊕ (Nat × Nat)) × gHp)} {la va lo ca half tot : Nat} {l o ws ls chain : List Nat} {s : sJ} {h : gHp} (hln : ∀ x ∈ l, x < n) (hlsn : ∀ x ∈ ls, x < n) (hll : l.length = tot) (h2 : 2 ≤ tot) (h10 : tot ≤ 10) (hhf : half = tot / 2) (hol : o.length = half) (how : ∀ x ∈ o, x ∈ ws) (hla : la ≠ b ∧ la ≠ w ∧ la ≠ ca) (hva : va ≠ b ∧ va ≠ w ∧ va ≠ ca) (hlo : lo ≠ b ∧ lo ≠ w ∧ lo ≠ ca) (hcb : ca ≠ b) (hcw : ca ≠ w) (hcl : chain.length = half + 1) (h6 : ∀ x ∈ chain, x < n) (h7 : ∀ x ∈ o, x ∈ chain) (hj : jR N p K b w k sa st n s h) (hr : rm h 10) (hl : arP h la tot l) (hv : arP h va half o) (ho : loR h lo ws ls) (hc : arP h ca tot chain) (hth : h.1 th = some (.inr (9, [gq (some p)]))) (hbc : h.2.2.2.1 ≤ ca) :
    ∃ z, fl_X11_byPairs_b145 F th (some la) (nI half) (some lo) (some va) (some ca) (nI (half + 1), nI 1, nI 3, h) = some z ∧ match sins (jd k (wor st)) half (tot - half) (l.getD (tot - 1) 0) o ws ls chain [3, 2, 5, 4] s with
      | .inl v => ∃ h', z = .inl h' ∧ stk (jY N b w ca) 0 [] 0 h h' ∧ jR N p K b w k sa st n v.2 h' ∧ arP h' ca tot v.1 ∧ v.1.length = tot ∧ (∀ x ∈ v.1, x < n)
      | .inr er => ∃ u h', z = .inr ((3, u), h') ∧ stk (jY N b w ca) 0 [] 10 h h' ∧ jR N p K b w k sa st n er.2 h' ∧ unC h' u er.1 := by
  have hrest : tot - half ≤ 5 ∧ 1 ≤ tot - half ∧ half ≤ tot := by omega
  unfold fl_X11_byPairs_b145
  by_cases hr1 : tot - half < 2
  · refine ⟨.inl h, ?_, ?_⟩
    · rw [show (4096 : Nat) = 4095 + 1 from rfl, lp_s]
      simp only [fX11_byPairs_b145, arP_len hl, bd_s, zb_sub hrest.2.2, if_pos (nI_le (show tot - half ≤ 1 by omega) (show 1 < 2 ^ 31 by omega))]
    · rw [sins_skip (by omega), sins_skip (by omega), sins_skip (by omega), sins_skip (by omega)]
      exact ⟨h, rfl, stk_rfl hr, hj, hc, (show chain.length = tot by omega), h6⟩
  have hmin : (if tot - half < 3 then nI (tot - half) else nI 3) = nI (min (tot - half) 3) := by split <;> congr 1 <;> omega
  obtain ⟨e, e1, e2⟩ := zq_insL (F := F) (th := th) (l9 := nI 3) (lw := 1) hln hlsn hll (by omega) hrest.2.2 hol how hla hva hlo hcb hcw (min (tot - half) 3 - 1) 4096 chain s h (by omega) (by omega) (by omega) h6 h7 hj hr hl hv ho hc hth hbc
  rw [show 1 + (min (tot - half) 3 - 1) = min (tot - half) 3 by omega, hcl] at e1
  rw [sins_split (by omega) hrest.1, show (4096 : Nat) = 4095 + 1 from rfl, lp_s]
  have hbody : fX11_byPairs_b145 F th (some la) (nI half) (some lo) (some va) (some ca) (nI (half + 1)) (nI 1) (nI 3) h = bd (some e) (fun e => gEl e (fun t => ap2 t fun l7_4 h4 => bd (gLen h4 (some la)) fun v5 => nm (if (v5 - nI half) < nI 3 then (v5 - nI half) else nI 3) fun v6 => some (.inl (l7_4, v6, nI 5, h4))) (fun t => ap2 t fun x4 h4 => some (.inr (.inr ((x4, h4)))))) := by
    simp only [fX11_byPairs_b145, arP_len hl, bd_s, zb_sub hrest.2.2, if_neg (nI_ge (show 1 < tot - half by omega) (show tot - half < 2 ^ 31 by omega)), zb_lt (show tot - half < 2 ^ 31 by omega) (show 3 < 2 ^ 31 by omega), hmin, nm_s, fl_X11_byPairs_b165, e1, il3, il5, if_true]
  simp only [hbody]
  unfold sbd
  cases hz : sins (jd k (wor st)) half (tot - half) (l.getD (tot - 1) 0) o ws ls chain (dnl 1 (min (tot - half) 3 - 1)) s with
  | inr er =>
    rw [hz] at e2
    obtain ⟨u, h', y1, y2, y3, y4⟩ := e2
    subst y1
    exact ⟨_, rfl, u, h', rfl, y2, y3, y4⟩
  | inl v =>
    rw [hz] at e2
    obtain ⟨h', y1, y2, y3, y4, y5, y6, y7⟩ := e2
    subst y1
    have hl' := jY_ar hj hr y2 hl hla.1 hla.2.1 hla.2.2
    have hv' := jY_ar hj hr y2 hv hva.1 hva.2.1 hva.2.2
    have ho' := jY_lo hj hr y2 ho hlo.1 hlo.2.1 hlo.2.2
    have hth' := jY_th hj hr y2 hc hth
    have r2 : rm h' 10 := rm_st hr y2 (by omega)
    simp only [bd_s, gEl_i, ap2_s, arP_len hl', zb_sub hrest.2.2, zb_lt (show tot - half < 2 ^ 31 by omega) (show 3 < 2 ^ 31 by omega), hmin, nm_s]
    rw [show (4095 : Nat) = 4094 + 1 from rfl, lp_s]
    by_cases hr3 : tot - half ≤ 3
    · refine ⟨.inl h', ?_, ?_⟩
      · simp only [fX11_byPairs_b145, arP_len hl', bd_s, zb_sub hrest.2.2, if_pos (nI_le (show tot - half ≤ min (tot - half) 3 by omega) (show min (tot - half) 3 < 2 ^ 31 by omega))]
      · rw [show tot - half - 3 = 0 by omega]
        exact ⟨h', rfl, y2, y3, y4, (show v.1.length = tot by omega), y6⟩
    have hm3 : min (tot - half) 3 = 3 := by omega
    have hmin5 : (if tot - half < 5 then nI (tot - half) else nI 5) = nI (tot - half) := by split <;> congr 1 <;> omega
    obtain ⟨e, e1, e2⟩ := zq_insL (F := F) (th := th) (l9 := nI 5) (lw := 3) hln hlsn hll (by omega) hrest.2.2 hol how hla hva hlo hcb hcw (tot - half - 3) 4096 v.1 v.2 h' (by omega) (by omega) (by omega) y6 y7 y3 r2 hl' hv' ho' y4 hth' (by rw [y2.2.2.1]; exact hbc)
    rw [show 3 + (tot - half - 3) = tot - half by omega] at e1
    have hn53 : ¬ nI 5 = nI 3 := by decide
    have hbody2 : fX11_byPairs_b145 F th (some la) (nI half) (some lo) (some va) (some ca) (nI v.1.length) (nI (min (tot - half) 3)) (nI 5) h' = bd (some e) (fun e => gEl e (fun t => ap2 t fun l7_4 h4 => bd (gLen h4 (some la)) fun v5 => nm (if (v5 - nI half) < nI 5 then (v5 - nI half) else nI 5) fun v6 => some (.inl (l7_4, v6, nI 11, h4))) (fun t => ap2 t fun x4 h4 => some (.inr (.inr ((x4, h4)))))) := by
      simp only [fX11_byPairs_b145, hm3, arP_len hl', bd_s, zb_sub hrest.2.2, if_neg (nI_ge (show 3 < tot - half by omega) (show tot - half < 2 ^ 31 by omega)), zb_lt (show tot - half < 2 ^ 31 by omega) (show 5 < 2 ^ 31 by omega), hmin5, nm_s, fl_X11_byPairs_b165, e1, il3, il5, il11, if_neg hn53]
    simp only [hbody2]
    cases hz2 : sins (jd k (wor st)) half (tot - half) (l.getD (tot - 1) 0) o ws ls v.1 (dnl 3 (tot - half - 3)) v.2 with
    | inr er =>
      rw [hz2] at e2
      obtain ⟨u, h2, x1, x2, x3, x4⟩ := e2
      subst x1
      exact ⟨_, rfl, u, h2, rfl, stk_c (stk_t y2 x2) (by omega), x3, x4⟩
    | inl v2 =>
      rw [hz2] at e2
      obtain ⟨h2, x1, x2, x3, x4, x5, x6, x7⟩ := e2
      subst x1
      have hl2 := jY_ar y3 r2 x2 hl' hla.1 hla.2.1 hla.2.2
      refine ⟨.inl h2, ?_, h2, rfl, stk_c (stk_t y2 x2) (by omega), x3, x4, by omega, x6⟩
      simp only [bd_s, gEl_i, ap2_s, arP_len hl2, zb_sub hrest.2.2, zb_lt (show tot - half < 2 ^ 31 by omega) (show 5 < 2 ^ 31 by omega), hmin5, nm_s]
      rw [show (4094 : Nat) = 4093 + 1 from rfl, lp_s]
      simp only [fX11_byPairs_b145, arP_len hl2, bd_s, zb_sub hrest.2.2, if_pos (nI_le (Nat.le_refl (tot - half)) (show tot - half < 2 ^ 31 by omega))]
end
