/-! L2 SORTS OF THE COMPONENT: by pairs, the whole; the orders -/
set_option maxRecDepth 100000
section
variable {N p K b w n th : Nat} {sa : Nat × List gV} {k : Bool} {st : stT}
theorem zq_pairing {F : Nat → Option Nat → Int32 → gHp → Option (((Option Nat) ⊕ (Nat × Nat)) × gHp)} {f lim la tot c : Nat} {l : List Nat} {s : sJ} {h : gHp} (hF : ∀ (la tot c : Nat) (l : List Nat) (s : sJ) (h : gHp), l.Nodup → l.length = tot → (∀ x ∈ l, x < n) → 1 ≤ tot → tot ≤ lim → tot ≤ 10 → la ≠ b → la ≠ w → h.2.2.2.1 ≤ la → jR N p K b w k sa st n s h → rm h c → pc tot + 10 ≤ c → arP h la tot l → h.1 th = some (.inr (9, [gq (some p)])) → oOut N p K b w k sa st n tot (pc tot) h (F th (some la) (nI 0) h) (spairs (jd k (wor st)) f l s)) (hd : l.Nodup) (hll : l.length = tot) (hln : ∀ x ∈ l, x < n) (h1 : 2 ≤ tot) (hlim : tot ≤ 2 * lim + 1) (h10 : tot ≤ 10) (hlb : la ≠ b) (hlw : la ≠ w) (hj : jR N p K b w k sa st n s h) (hr : rm h c) (hc : pc tot + 10 ≤ c) (hl : arP h la tot l) (hth : h.1 th = some (.inr (9, [gq (some p)]))) :
    oOut N p K b w k sa st n tot (pc tot) h (fX11_byPairs F th (some la) h) (spairs (jd k (wor st)) (f + 1) l s) := by
  have hmc := pc_s h10 h1
  rw [spairs_s (by omega), hll]
  obtain ⟨half, hhf⟩ : ∃ q, q = tot / 2 := ⟨_, rfl⟩
  have hdiv : gidiv (nI tot) (nI 2) = some (nI half) := by rw [hhf]; exact zb_div (by omega) (by omega) (by omega)
  rw [← hhf] at hmc ⊢
  obtain ⟨g1, w1, s1, q1, hj1, b1, b2, b3⟩ := zq_newA (tot := half) hj hr (by omega) (by omega)
  have s1' : stk (jX N b w) 0 [] (half + 1) h g1 := stn_w s1 (Nat.le_refl _)
  have hl1 := jX_ar hj hr s1' hl hlb hlw
  have hth1 := jX_th hj hr s1' hth
  have r1 : rm g1 (c - (half + 1)) := rm_st hr s1 (by omega)
  obtain ⟨g2, w2, s2, q2, hj2, b4, b5, b6⟩ := zq_newA (tot := 10) hj1 r1 (by omega) (by omega)
  have s2' : stk (jX N b w) 0 [] (10 + 1) g1 g2 := stn_w s2 (Nat.le_refl _)
  have hl2 := jX_ar hj1 r1 s2' hl1 hlb hlw
  have hth2 := jX_th hj1 r1 s2' hth1
  have hw2 := jX_ar hj1 r1 s2' q1 b1 b2
  have r2 : rm g2 (c - (half + 1) - 11) := rm_st r1 s2 (by omega)
  have ho2 : loR g2 g1.2.1 [] [] := by
    obtain ⟨fo, y1, -⟩ := q2
    exact ⟨fo, y1, rfl, (fun x hx => nomatch hx), (fun x hx => nomatch hx)⟩
  have hla1 : la < h.2.1 := rm_lt hr hl.choose_spec.1
  have hwa1 : h.2.1 < g1.2.1 := rm_lt r1 q1.choose_spec.1
  have s12 := stk_t s1' s2'
  obtain ⟨e, e1, e2⟩ := zq_pwL (F := F) (th := th) hln hd hll (show 2 * half ≤ tot by omega) (show la ≠ b ∧ la ≠ w ∧ la ≠ h.2.1 ∧ la ≠ g1.2.1 from ⟨hlb, hlw, by omega, by omega⟩) ⟨b1, b2, by omega⟩ ⟨b4, b5⟩ half 4096 0 [] [] s g2 (by omega) (by omega) rfl (fun x hx => nomatch hx) hj2 (rm_w r2 (by omega)) hl2 hw2 ho2 hth2 (by rw [s2.2.2.1]; exact b3) b6
  rw [show 2 * 0 = 0 from rfl, List.drop_zero] at e2
  have hbody : fX11_byPairs F th (some la) h = bd (some e) (fun e => gEl e (fun h5 => bd (gIs h5 th 9) fun _ => bd2 (F th (some h.2.1) (nI 0) h5) fun z h6 => gEl z (fun v6 => bd (gLen h6 (some la)) fun v7 => bd2 (gNewA h6 0 v7) fun a8 h8 => bd (gCpi h8 v6 (nI 0) (some a8) (nI 0) (nI half) 0) fun h9 => bd (gAi h9 v6 0 (nI (half - 1))) fun v10 => bd (gAi h9 (some g1.2.1) 0 v10) fun v11 => bd (gSi h9 (some a8) 0 (nI half) v11) fun h12 => nm (nI (half + 1)) fun v13 => bd (fl_X11_byPairs_b145 F th (some la) (nI half) (some g1.2.1) v6 (some a8) (v13, nI 1, nI 3, h12)) (fun e => gEl e (fun h14 => some (.inl (some a8), h14)) (fun t => ap2 t fun x14 h14 => some (.inr x14, h14)))) (fun x6 => some (.inr x6, h6))) (fun t => ap2 t fun x5 h5 => some (.inr x5, h5))) := by
    simp only [fX11_byPairs, arP_len hl, bd_s, il2, hdiv, w1, bd2_s, il10, w2, fl_X11_byPairs_b18, il0, e1, il1, zb_sub (show 1 ≤ half by omega), zb_add, il3]
  rw [hbody]
  have hps := sf_pw half l [] [] hln hd (by omega)
  unfold sbd
  cases hz1 : spw (jd k (wor st)) half l [] [] s with
  | inr er =>
    rw [hz1] at e2
    obtain ⟨u, h', y1, y2, y3, y4⟩ := e2
    subst y1
    refine ⟨u, h', rfl, stk_c (stk_tr s12 y2 (fun a ha hX _ => ⟨fun h9 => ?_, .inr not_nil⟩)) (by omega), y3, y4⟩
    rcases h9 with h9 | h9 | h9
    · exact hX h9
    · omega
    · omega
  | inl v =>
    obtain ⟨⟨ws, ls⟩, s3v⟩ := v
    have hp := sf_val hps hz1
    obtain ⟨hp1, hp2, hp3⟩ := hp
    simp only [List.length_nil, Nat.zero_add, List.nil_append] at hp1 hp2 hp3
    rw [hz1] at e2
    obtain ⟨g3, y1, y2, y3, y4, y5, y6, y7⟩ := e2
    subst y1
    have hnd : (ws ++ ls).Nodup := hp3.nodup_iff.2 (hd.sublist (List.take_sublist _ _))
    have hwsd : ws.Nodup := hnd.sublist (List.sublist_append_left _ _)
    have hmem : ∀ x, x ∈ ws ∨ x ∈ ls → x < n := fun x hx => hln x (List.mem_of_mem_take (hp3.mem_iff.1 (List.mem_append.2 hx)))
    have s3 : stk (jX N b w) 0 [] (half + 1 + (10 + 1) + 0) h g3 := stk_tr s12 y2 (fun a ha hX _ => ⟨fun h9 => by
      rcases h9 with h9 | h9 | h9
      · exact hX h9
      · omega
      · omega, .inr not_nil⟩)
    have hb3 : g3.2.2.2.1 ≤ h.2.1 := by rw [s3.2.2.1]; exact hr.1
    have r3 : rm g3 (c - (half + 1) - 11) := rm_st r2 y2 (by omega)
    have o1 := hF h.2.1 half _ ws s3v g3 hwsd hp1 (fun x hx => hmem x (.inl hx)) (by omega) (by omega) (by omega) b1 b2 hb3 y3 r3 (by omega) y4 y7
    simp only [bd_s, gEl_i, gIs_o y7]
    cases hz2 : spairs (jd k (wor st)) f ws s3v with
    | inr er =>
      rw [hz2] at o1
      obtain ⟨u, h', x1, x2, x3, x4⟩ := o1
      rw [x1]
      exact ⟨u, h', rfl, stk_c (stk_t s3 x2) (by omega), x3, x4⟩
    | inl vo =>
      obtain ⟨o, s4v⟩ := vo
      have hpo : o.Perm ws := sf_val (sf_pairs f ws (fun x hx => hmem x (.inl hx)) hwsd (by omega)) hz2
      rw [hz2] at o1
      obtain ⟨va, g4, x1, x2, x3, x4, x5, x6, x7, x8, x9⟩ := o1
      rw [x1]
      have s4 := stk_t s3 x2
      have r4 : rm g4 (c - (half + 1) - 11 - pc half) := rm_st r3 x2 (by omega)
      have hl4 := jX_ar y3 r3 x2 y6 hlb hlw
      have hth4 := jX_th y3 r3 x2 y7
      have ho4 := jX_lo y3 r3 x2 y5 b4 b5
      obtain ⟨g5, w5, s5, q5, hj5, b7, b8, b9⟩ := zq_newA (tot := tot) x3 r4 (by omega) (by omega)
      have s5' : stk (jX N b w) 0 [] (tot + 1) g4 g5 := stn_w s5 (Nat.le_refl _)
      have hl5 := jX_ar x3 r4 s5' hl4 hlb hlw
      have hva5 := jX_ar x3 r4 s5' x4 x7 x8
      have hth5 := jX_th x3 r4 s5' hth4
      have ho5 := jX_lo x3 r4 s5' ho4 b4 b5
      have r5 : rm g5 10 := rm_st r4 s5 (by omega)
      have hvac : va ≠ g4.2.1 := by have := rm_lt r4 x4.choose_spec.1; omega
      have hlac : la ≠ g4.2.1 := by have := rm_lt r4 hl4.choose_spec.1; omega
      have hloc : g1.2.1 ≠ g4.2.1 := by have := rm_lt r4 ho4.choose_spec.1; omega
      have x5' : o.length = half := x5
      obtain ⟨g6, w6, s6, q6, hj6⟩ := zq_cp (m := half) (sp := 0) (dp := 0) hj5 r5 hva5 q5 b7 b8 b9 (by omega) rfl (by omega)
      rw [List.nil_append, List.drop_zero, List.take_of_length_le (by omega)] at q6
      have hl6 := jY_ar hj5 r5 s6 hl5 hlb hlw hlac
      have hva6 := jY_ar hj5 r5 s6 hva5 x7 x8 hvac
      have hth6 := jY_th hj5 r5 s6 q5 hth5
      have ho6 := jY_lo hj5 r5 s6 ho5 b4 b5 hloc
      have r6 : rm g6 10 := rm_st r5 s6 (by omega)
      have hlast : o.getD (half - 1) 0 ∈ o := getD_mem (by omega)
      have hlastw := hpo.mem_iff.1 hlast
      obtain ⟨g7, w7, s7, q7, hj7⟩ := zq_set (i := half) (x := ls.getD (ws.idxOf (o.getD (half - 1) 0)) 0) hj6 r6 q6 b7 b8 (by rw [s6.2.2.1]; exact b9) x5'.symm (by omega)
      have hl7 := jY_ar hj6 r6 s7 hl6 hlb hlw hlac
      have hva7 := jY_ar hj6 r6 s7 hva6 x7 x8 hvac
      have hth7 := jY_th hj6 r6 s7 q6 hth6
      have ho7 := jY_lo hj6 r6 s7 ho6 b4 b5 hloc
      have r7 : rm g7 10 := rm_st r6 s7 (by omega)
      have hx7 : ls.getD (ws.idxOf (o.getD (half - 1) 0)) 0 < n := hmem _ (.inr (getD_mem (by have := List.idxOf_lt_length_of_mem hlastw; omega)))
      obtain ⟨e, e1, e2⟩ := zq_insAll (F := F) (th := th) (chain := o ++ [ls.getD (ws.idxOf (o.getD (half - 1) 0)) 0]) hln (fun x hx => hmem x (.inr hx)) hll h1 h10 hhf x5' (fun x hx => hpo.mem_iff.1 hx) ⟨hlb, hlw, hlac⟩ ⟨x7, x8, hvac⟩ ⟨b4, b5, hloc⟩ b7 b8 (by rw [List.length_append, x5']; rfl) (fun x hx => (List.mem_append.1 hx).elim (x6 x) (fun hx => by rw [List.mem_singleton.1 hx]; exact hx7)) (fun x hx => List.mem_append.2 (.inl hx)) hj7 r7 hl7 hva7 ho7 q7 hth7 (by rw [s7.2.2.1, s6.2.2.1]; exact b9)
      simp only [bd2_s, gEl_i, arP_len hl4, bd_s, w5, w6, arP_get hva6 (show half - 1 < o.length by omega), loR_get ho6 hlastw, w7, nm_s, e1]
      have s8 := stk_t s4 s5'
      have hca : h.2.1 ≤ g4.2.1 := s4.1
      cases hz3 : sins (jd k (wor st)) half (tot - half) (l.getD (tot - 1) 0) o ws ls (o ++ [ls.getD (ws.idxOf (o.getD (half - 1) 0)) 0]) [3, 2, 5, 4] s4v with
      | inr er =>
        rw [hz3] at e2
        obtain ⟨u, h', z1, z2, z3, z4⟩ := e2
        subst z1
        exact ⟨u, h', rfl, jY_out s8 (stk_t s6 (stk_t s7 z2)) hca (by omega), z3, z4⟩
      | inl vv =>
        rw [hz3] at e2
        obtain ⟨h', z1, z2, z3, z4, z5, z6⟩ := e2
        subst z1
        exact ⟨g4.2.1, h', rfl, jY_out s8 (stk_t s6 (stk_t s7 z2)) hca (by omega), z3, z4, z5, z6, b7, b8, by rw [z2.2.2.1, s7.2.2.1, s6.2.2.1]; exact b9⟩
end
