/-! L2 SORTS OF THE COMPONENT: by pairs, the comparing of the pairs; the place of an item -/
set_option maxRecDepth 100000
/-- the losers, by their winners -/
def loR (h : gHp) (a : Nat) (ws ls : List Nat) : Prop := ∃ f, h.1 a = some (.inl (0, 10, .inl f)) ∧ ws.length = ls.length ∧ (∀ x ∈ ws, x < 10) ∧ ∀ x ∈ ws, f x = nI (ls.getD (ws.idxOf x) 0)
theorem loR_get {h : gHp} {a x : Nat} {ws ls : List Nat} (hp : loR h a ws ls) (hx : x ∈ ws) : gAi h (some a) 0 (nI x) = some (nI (ls.getD (ws.idxOf x) 0)) := by
  obtain ⟨f, h1, h2, h3, h4⟩ := hp
  rw [gAi_o h1 (h3 x hx) (by omega), h4 x hx]
theorem sput_sub {ask : Nat → Nat → Nat → sM Bool} {l : List Nat} {frm item : Nat} {s : sJ} {v : List Nat × sJ} (h : sput ask l frm item s = .inl v) : ∀ x ∈ l, x ∈ v.1 := by
  unfold sput sbd at h
  split at h
  · next z q =>
    cases h
    intro x hx
    rw [← List.take_append_drop z.1 l] at hx
    rcases List.mem_append.1 hx with hx | hx
    · exact List.mem_append.2 (.inl hx)
    · exact List.mem_append.2 (.inr (List.mem_cons_of_mem _ hx))
  · cases h
/-- the place of an item in an order -/
theorem zx_place {h : gHp} {ca tot x : Nat} {l : List Nat} (hc : arP h ca tot l) (hx : x ∈ l) (hb : ∀ y ∈ l, y < 2 ^ 31) : fX11_placeOf (some ca) (nI x) h = some (nI (l.idxOf x), h) := by
  have hlen := hc.choose_spec.2.1
  have hlen2 := hc.choose_spec.2.2.1
  have hi := List.idxOf_lt_length_of_mem hx
  have H : ∀ (d m i : Nat), i + d = l.idxOf x → d < m → lp (fun t => fX11_placeOf_b2 (some ca) (nI x) t h) m (nI i) = some (nI (l.idxOf x)) := by
    intro d
    induction d with
    | zero =>
      intro m i h1 h2
      obtain ⟨m, rfl⟩ : ∃ q, m = q + 1 := ⟨m - 1, by omega⟩
      rw [Nat.add_zero] at h1
      subst h1
      rw [lp_s]
      have : l.getD (l.idxOf x) 0 = x := by rw [getD_el hi]; exact List.getElem_idxOf hi
      simp only [fX11_placeOf_b2, arP_get hc hi, bd_s, this, if_true]
    | succ d ih =>
      intro m i h1 h2
      obtain ⟨m, rfl⟩ : ∃ q, m = q + 1 := ⟨m - 1, by omega⟩
      have hil : i < l.length := by omega
      have hne : ¬ nI (l.getD i 0) = nI x := by
        rw [zb_eq (hb _ (getD_mem hil)) (hb _ hx), getD_el hil]
        intro e
        have hnl : i < l.findIdx (· == x) := (show i < l.idxOf x by omega)
        have := List.not_of_lt_findIdx hnl
        simp [e] at this
      rw [lp_s]
      simp only [fX11_placeOf_b2, arP_get hc hil, bd_s, if_neg hne, il1, zb_add, nm_s]
      exact ih m (i + 1) (by omega) (by omega)
  simp only [fX11_placeOf, fl_X11_placeOf_b2, il0, H (l.idxOf x) 4096 0 (by omega) (by omega), bd_s]
section
variable {N p K b w n th : Nat} {sa : Nat × List gV} {k : Bool} {st : stT}
theorem jY_e {s : sJ} {h h' : gHp} {a ca d c : Nat} {e : Nat × Nat × _} (hj : jR N p K b w k sa st n s h) (hr : rm h d) (hs : stk (jY N b w ca) 0 [] c h h') (he : h.1 a = some (.inl e)) (hab : a ≠ b) (haw : a ≠ w) (hac : a ≠ ca) : h'.1 a = some (.inl e) := stk_keep hr hs he (fun h9 => by
    rcases h9 with (h9 | h9 | h9) | h9
    · obtain ⟨-, -, -, -, -, -, -, -, -, ⟨fs, c1, q1, z1, z2, -⟩, -⟩ := hj
      rw [h9, z2] at he
      cases he
    · exact hab h9
    · exact haw h9
    · exact hac h9) (.inr not_nil)
theorem jY_lo {s : sJ} {h h' : gHp} {a ca d c : Nat} {ws ls : List Nat} (hj : jR N p K b w k sa st n s h) (hr : rm h d) (hs : stk (jY N b w ca) 0 [] c h h') (hp : loR h a ws ls) (hab : a ≠ b) (haw : a ≠ w) (hac : a ≠ ca) : loR h' a ws ls := by
  obtain ⟨f, h1, h2⟩ := hp
  exact ⟨f, jY_e hj hr hs h1 hab haw hac, h2⟩
/-- a pair's loser is written down -/
theorem zq_lose {s : sJ} {h : gHp} {c a x y : Nat} {ws ls : List Nat} (hj : jR N p K b w k sa st n s h) (hr : rm h c) (hp : loR h a ws ls) (hab : a ≠ b) (haw : a ≠ w) (hb : h.2.2.2.1 ≤ a) (hx : x < 10) (hxw : x ∉ ws) :
    ∃ h', gSi h (some a) 0 (nI x) (nI y) = some h' ∧ stk (jY N b w a) 0 [] 0 h h' ∧ loR h' a (ws ++ [x]) (ls ++ [y]) ∧ jR N p K b w k sa st n s h' := by
  obtain ⟨f, h1, h2, h3, h4⟩ := hp
  refine ⟨_, gSi_o h1 hb hx (by omega), set_st hr h1 (.inl (.inr rfl)), ⟨_, set_at _ _ _, by simp [h2], ?_, ?_⟩, jR_set hj hr h1 hab haw⟩
  · intro z hz
    rcases List.mem_append.1 hz with hz | hz
    · exact h3 z hz
    · rw [List.mem_singleton.1 hz]; exact hx
  · intro z hz
    by_cases hzw : z ∈ ws
    · have hne : z ≠ x := fun e => hxw (e ▸ hzw)
      rw [pk_un hne, h4 z hzw, List.idxOf_append, if_pos hzw, getD_app2, if_pos (by rw [← h2]; exact List.idxOf_lt_length_of_mem hzw)]
    · have hzx : z = x := by
        rcases List.mem_append.1 hz with hz | hz
        · exact absurd hz hzw
        · exact List.mem_singleton.1 hz
      subst hzx
      rw [pk_us, List.idxOf_append, if_neg hzw, getD_app2, h2, if_neg (by omega)]
      simp
theorem zq_pwL {F : Nat → Option Nat → Int32 → gHp → Option (((Option Nat) ⊕ (Nat × Nat)) × gHp)} {la wa lo half tot : Nat} {l : List Nat} (hln : ∀ x ∈ l, x < n) (hd : l.Nodup) (hll : l.length = tot) (hhf : 2 * half ≤ tot) (hlab : la ≠ b ∧ la ≠ w ∧ la ≠ wa ∧ la ≠ lo) (hwb : wa ≠ b ∧ wa ≠ w ∧ wa ≠ lo) (hlb : lo ≠ b ∧ lo ≠ w) : ∀ (f m i : Nat) (ws ls : List Nat) (s : sJ) (h : gHp), f < m → f + i = half → ws.length = i → (∀ x ∈ ws, x ∉ l.drop (2 * i)) → jR N p K b w k sa st n s h → rm h 10 → arP h la tot l → arP h wa half ws → loR h lo ws ls → h.1 th = some (.inr (9, [gq (some p)])) → h.2.2.2.1 ≤ wa → h.2.2.2.1 ≤ lo →
    ∃ z, lp (fun t => fX11_byPairs_b18 F th (some la) (nI half) (some wa) (some lo) t.1 t.2) m (nI i, h) = some z ∧ match spw (jd k (wor st)) f (l.drop (2 * i)) ws ls s with
      | .inl v => ∃ h', z = .inl h' ∧ stk (fun a => jX N b w a ∨ a = wa ∨ a = lo) 0 [] 0 h h' ∧ jR N p K b w k sa st n v.2 h' ∧ arP h' wa half v.1.1 ∧ loR h' lo v.1.1 v.1.2 ∧ arP h' la tot l ∧ h'.1 th = some (.inr (9, [gq (some p)]))
      | .inr er => ∃ u h', z = .inr ((3, u), h') ∧ stk (fun a => jX N b w a ∨ a = wa ∨ a = lo) 0 [] 10 h h' ∧ jR N p K b w k sa st n er.2 h' ∧ unC h' u er.1
  | _, 0, _, _, _, _, _, h1, _, _, _, _, _, _, _, _, _, _, _ => absurd h1 (by omega)
  | 0, m + 1, i, ws, ls, s, h, h1, h2, h3, h4, hj, hr, hl, hw, ho, hth, hbw, hbl => by
    have ht := hl.choose_spec.2.2.1
    refine ⟨.inl h, ?_, h, rfl, stk_rfl hr, hj, hw, ho, hl, hth⟩
    rw [lp_s]
    simp only [fX11_byPairs_b18, if_pos (nI_le (show half ≤ i by omega) (show i < 2 ^ 31 by omega))]
  | f + 1, m + 1, i, ws, ls, s, h, h1, h2, h3, h4, hj, hr, hl, hw, ho, hth, hbw, hbl => by
    have ht := hl.choose_spec.2.2.1
    have hdr : l.drop (2 * i) = l.getD (2 * i) 0 :: l.getD (2 * i + 1) 0 :: l.drop (2 * (i + 1)) := by
      rw [drop_c (show 2 * i < l.length by omega), drop_c (show 2 * i + 1 < l.length by omega)]
      rfl
    have hdn : (l.drop (2 * i)).Nodup := hd.sublist (List.drop_sublist _ _)
    have hx : l.getD (2 * i) 0 < n := hln _ (getD_mem (by omega))
    have hy : l.getD (2 * i + 1) 0 < n := hln _ (getD_mem (by omega))
    have hn10 : n ≤ 10 := hj.2.1
    obtain ⟨z, h', e1, e2⟩ := zj_judge (d := 1) hj hx hy hr (Nat.le_refl _)
    rw [hdr] at hdn h4 ⊢
    have hdn1 := List.nodup_cons.1 hdn
    have hdn2 := List.nodup_cons.1 hdn1.2
    have hsp : spw (jd k (wor st)) (f + 1) (l.getD (2 * i) 0 :: l.getD (2 * i + 1) 0 :: l.drop (2 * (i + 1))) ws ls s = sbd (jd k (wor st) (l.getD (2 * i) 0) (l.getD (2 * i + 1) 0) 1) (fun w => spw (jd k (wor st)) f (l.drop (2 * (i + 1))) (ws ++ [if w = true then l.getD (2 * i) 0 else l.getD (2 * i + 1) 0]) (ls ++ [if w = true then l.getD (2 * i + 1) 0 else l.getD (2 * i) 0])) s := rfl
    rw [hsp, lp_s]
    unfold sbd
    cases hz : jd k (wor st) (l.getD (2 * i) 0) (l.getD (2 * i + 1) 0) 1 s with
    | inr er =>
      rw [hz] at e2
      obtain ⟨g1, g2, u, g3, g4⟩ := e2
      subst g3
      refine ⟨.inr ((3, u), h'), ?_, u, h', rfl, stk_w g1 (by omega) (fun a _ hX _ => ⟨fun h9 => hX (.inl h9), .inr not_nil⟩), g2, g4⟩
      simp only [fX11_byPairs_b18, if_neg (nI_ge (show i < half by omega) (show half < 2 ^ 31 by omega)), gGq_o (k := 0) hth rfl, bd_s, il2, il1, zb_mul, zb_add, arP_get hl (show 2 * i < l.length by omega), arP_get hl (show 2 * i + 1 < l.length by omega), e1, bd2_s, gEl_e]
    | inl v =>
      rw [hz] at e2
      obtain ⟨g1, g3, g2⟩ := e2
      subst g3
      have g1' : ∀ ca, stk (jY N b w ca) 0 [] 0 h h' := fun ca => stk_w g1 (Nat.le_refl _) (fun a _ hX _ => ⟨fun h9 => hX (.inl h9), .inr not_nil⟩)
      have r1 : rm h' 10 := rm_st hr g1 (by omega)
      have hl1 := jX_ar hj hr g1 hl hlab.1 hlab.2.1
      have hw1 := jX_ar hj hr g1 hw hwb.1 hwb.2.1
      have hth1 := jX_th hj hr g1 hth
      have ho1 := jY_lo (ca := wa) hj hr (g1' wa) ho hlb.1 hlb.2 (fun e => hwb.2.2 e.symm)
      obtain ⟨h2', w2, s2, q2, hj2⟩ := zq_set (i := i) (x := if v.1 = true then l.getD (2 * i) 0 else l.getD (2 * i + 1) 0) g2 r1 hw1 hwb.1 hwb.2.1 (by rw [g1.2.2.1]; exact hbw) h3.symm (by omega)
      have r2 : rm h2' 10 := rm_st r1 s2 (by omega)
      have hl2 := jY_ar g2 r1 s2 hl1 hlab.1 hlab.2.1 hlab.2.2.1
      have ho2 := jY_lo g2 r1 s2 ho1 hlb.1 hlb.2 (fun e => hwb.2.2 e.symm)
      have hth2 := jY_th g2 r1 s2 hw1 hth1
      have hxw : (if v.1 = true then l.getD (2 * i) 0 else l.getD (2 * i + 1) 0) ∉ ws := by
        split
        · exact fun q => h4 _ q (List.mem_cons_self ..)
        · exact fun q => h4 _ q (List.mem_cons_of_mem _ (List.mem_cons_self ..))
      obtain ⟨h3', w3, s3, q3, hj3⟩ := zq_lose (x := if v.1 = true then l.getD (2 * i) 0 else l.getD (2 * i + 1) 0) (y := if v.1 = true then l.getD (2 * i + 1) 0 else l.getD (2 * i) 0) hj2 r2 ho2 hlb.1 hlb.2 (by rw [s2.2.2.1, g1.2.2.1]; exact hbl) (by split <;> omega) hxw
      have r3 : rm h3' 10 := rm_st r2 s3 (by omega)
      have hl3 := jY_ar hj2 r2 s3 hl2 hlab.1 hlab.2.1 hlab.2.2.2
      have hw3 := jY_ar hj2 r2 s3 q2 hwb.1 hwb.2.1 hwb.2.2
      have hth3 : h3'.1 th = some (.inr (9, [gq (some p)])) := by
        refine stk_keep r2 s3 hth2 (fun h9 => ?_) (.inr not_nil)
        rcases h9 with (h9 | h9 | h9) | h9
        · exact jR_ne hj2 hth2 (by simp [kd]) h9
        · exact (jR_nbw hj2 hth2 (by simp [kd])).1 h9
        · exact (jR_nbw hj2 hth2 (by simp [kd])).2 h9
        · obtain ⟨fo, y1, -⟩ := ho2
          rw [h9, y1] at hth2
          cases hth2
      have s13 : stk (fun a => jX N b w a ∨ a = wa ∨ a = lo) 0 [] 0 h h3' := stk_c (stk_t (stk_t (stk_w g1 (Nat.le_refl _) (fun a _ hX _ => ⟨fun h9 => hX (.inl h9), .inr not_nil⟩)) (stk_w s2 (Nat.le_refl _) (fun a _ hX _ => ⟨fun h9 => hX (h9.elim .inl (fun q => .inr (.inl q))), .inr not_nil⟩))) (stk_w s3 (Nat.le_refl _) (fun a _ hX _ => ⟨fun h9 => hX (h9.elim .inl (fun q => .inr (.inr q))), .inr not_nil⟩))) (by omega)
      have hbody : fX11_byPairs_b18 F th (some la) (nI half) (some wa) (some lo) (nI i) h = some (.inl (nI (i + 1), h3')) := by
        simp only [fX11_byPairs_b18, if_neg (nI_ge (show i < half by omega) (show half < 2 ^ 31 by omega)), gGq_o (k := 0) hth rfl, bd_s, il2, il1, zb_mul, zb_add, arP_get hl (show 2 * i < l.length by omega), arP_get hl (show 2 * i + 1 < l.length by omega), e1, bd2_s, gEl_i]
        have hwi : gAi h2' (some wa) 0 (nI i) = some (nI (if v.1 = true then l.getD (2 * i) 0 else l.getD (2 * i + 1) 0)) := by
          have := arP_get (i := i) q2 (by rw [List.length_append, List.length_singleton]; omega)
          rw [this, getD_app2, if_neg (by omega), h3, Nat.sub_self]
          rfl
        cases hv : v.1 with
        | false =>
          simp only [hv, Bool.false_eq_true, if_false] at w2 w3 hwi
          simp only [bI_f, il0, if_true, fX11_byPairs_j66, zx_one0, zx_one1, bd2_s, bd_s, zb_add, zb_mul, il1, il2, Nat.add_zero, arP_get hl1 (show 2 * i + 1 < l.length by omega), arP_get hl2 (show 2 * i < l.length by omega), w2, hwi, w3, nm_s]
        | true =>
          simp only [hv, if_true] at w2 w3 hwi
          simp only [bI_t, il0, if_neg n10_ne, fX11_byPairs_j66, zx_one0, zx_one1, bd2_s, bd_s, zb_add, zb_mul, il1, il2, Nat.add_zero, arP_get hl1 (show 2 * i < l.length by omega), arP_get hl2 (show 2 * i + 1 < l.length by omega), w2, hwi, w3, nm_s]
      rw [hbody]
      obtain ⟨e, y1, y2⟩ := zq_pwL (F := F) hln hd hll hhf hlab hwb hlb f m (i + 1) _ _ v.2 h3' (by omega) (by omega) (by rw [List.length_append, List.length_singleton]; omega) (fun x hx => by
        rcases List.mem_append.1 hx with hx | hx
        · exact fun q => h4 x hx (List.mem_cons_of_mem _ (List.mem_cons_of_mem _ q))
        · rw [List.mem_singleton.1 hx]
          split
          · exact fun q => hdn1.1 (List.mem_cons_of_mem _ q)
          · exact hdn2.1) hj3 r3 hl3 hw3 q3 hth3 (by rw [s13.2.2.1]; exact hbw) (by rw [s13.2.2.1]; exact hbl)
      refine ⟨e, y1, ?_⟩
      simp only
      cases hz2 : spw (jd k (wor st)) f (l.drop (2 * (i + 1))) (ws ++ [if v.1 = true then l.getD (2 * i) 0 else l.getD (2 * i + 1) 0]) (ls ++ [if v.1 = true then l.getD (2 * i + 1) 0 else l.getD (2 * i) 0]) v.2 with
      | inl v2 =>
        rw [hz2] at y2
        obtain ⟨h4', x1, x2, x3⟩ := y2
        exact ⟨h4', x1, stk_c (stk_t s13 x2) (by omega), x3⟩
      | inr er =>
        rw [hz2] at y2
        obtain ⟨u, h4', x1, x2, x3⟩ := y2
        exact ⟨u, h4', x1, stk_c (stk_t s13 x2) (by omega), x3⟩
end
