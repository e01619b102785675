/-! L2 SORTS OF THE COMPONENT: by pairs, the losers come in -/
set_option maxRecDepth 100000
/-- the numbers lo+d, …, lo+1 -/
def dnl (lo : Nat) : Nat → List Nat
  | 0 => []
  | d + 1 => (lo + d + 1) :: dnl lo d
theorem sins_skip {J : sJd} {half rest odd q : Nat} {o ws ls chain ks : List Nat} (h : rest < q) (s : sJ) : sins J half rest odd o ws ls chain (q :: ks) s = sins J half rest odd o ws ls chain ks s := by
  show sbd (sIn J half rest odd o ws ls chain q) (fun c => sins J half rest odd o ws ls c ks) s = _
  unfold sIn
  rw [if_neg (by omega)]
  rfl
theorem sins_app {J : sJd} {half rest odd : Nat} {o ws ls : List Nat} : ∀ (ks ks' chain : List Nat) (s : sJ), sins J half rest odd o ws ls chain (ks ++ ks') s = sbd (sins J half rest odd o ws ls chain ks) (fun c => sins J half rest odd o ws ls c ks') s
  | [], ks', chain, s => rfl
  | q :: ks, ks', chain, s => by
    show sbd (sIn J half rest odd o ws ls chain q) (fun c => sins J half rest odd o ws ls c (ks ++ ks')) s = sbd (sbd (sIn J half rest odd o ws ls chain q) (fun c => sins J half rest odd o ws ls c ks)) (fun c => sins J half rest odd o ws ls c ks') s
    unfold sbd
    cases sIn J half rest odd o ws ls chain q s with
    | inl v => exact sins_app ks ks' v.1 v.2
    | inr e => rfl
theorem sins_split {J : sJd} {half rest odd : Nat} {o ws ls chain : List Nat} {s : sJ} (h2 : 2 ≤ rest) (h5 : rest ≤ 5) : sins J half rest odd o ws ls chain [3, 2, 5, 4] s = sbd (sins J half rest odd o ws ls chain (dnl 1 (min rest 3 - 1))) (fun c => sins J half rest odd o ws ls c (dnl 3 (rest - 3))) s := by
  rcases (show rest = 2 ∨ rest = 3 ∨ rest = 4 ∨ rest = 5 by omega) with h | h | h | h
  · subst h
    rw [sins_skip (by omega), show [2, 5, 4] = dnl 1 1 ++ [5, 4] from rfl, sins_app]
    show sbd (sins J half 2 odd o ws ls chain (dnl 1 1)) _ s = sbd (sins J half 2 odd o ws ls chain (dnl 1 1)) _ s
    congr 1
  · subst h
    rw [show [3, 2, 5, 4] = dnl 1 2 ++ [5, 4] from rfl, sins_app]
    show sbd (sins J half 3 odd o ws ls chain (dnl 1 2)) _ s = sbd (sins J half 3 odd o ws ls chain (dnl 1 2)) _ s
    congr 1
  · subst h
    rw [show [3, 2, 5, 4] = dnl 1 2 ++ [5, 4] from rfl, sins_app]
    show sbd (sins J half 4 odd o ws ls chain (dnl 1 2)) _ s = sbd (sins J half 4 odd o ws ls chain (dnl 1 2)) _ s
    congr 1
  · subst h
    rw [show [3, 2, 5, 4] = dnl 1 2 ++ dnl 3 2 from rfl, sins_app]
    rfl
section
variable {N p K b w n th : Nat} {sa : Nat × List gV} {k : Bool} {st : stT}
theorem zq_insL {F : Nat → Option Nat → Int32 → gHp → Option (((Option Nat) ⊕ (Nat × Nat)) × gHp)} {la va lo ca half tot lw : Nat} {l9 : Int32} {l o ws ls : List Nat} (hln : ∀ x ∈ l, x < n) (hlsn : ∀ x ∈ ls, x < n) (hll : l.length = tot) (h1 : 1 ≤ tot) (hhf : half ≤ tot) (hol : o.length = half) (how : ∀ x ∈ o, x ∈ ws) (hla : la ≠ b ∧ la ≠ w ∧ la ≠ ca) (hva : va ≠ b ∧ va ≠ w ∧ va ≠ ca) (hlo : lo ≠ b ∧ lo ≠ w ∧ lo ≠ ca) (hcb : ca ≠ b) (hcw : ca ≠ w) : ∀ (d m : Nat) (chain : List Nat) (s : sJ) (h : gHp), d < m → chain.length + d ≤ tot → lw + d ≤ tot - half → (∀ x ∈ chain, x < n) → (∀ x ∈ o, x ∈ chain) → jR N p K b w k sa st n s h → rm h 10 → arP h la tot l → arP h va half o → loR h lo ws ls → arP h ca tot chain → h.1 th = some (.inr (9, [gq (some p)])) → h.2.2.2.1 ≤ ca →
    ∃ z, lp (fun t => fX11_byPairs_b165 F th (some la) (nI half) (some lo) (some va) (some ca) (nI lw) l9 t.1 t.2.1 t.2.2) m (nI chain.length, nI (lw + d), h) = some z ∧ match sins (jd k (wor st)) half (tot - half) (l.getD (tot - 1) 0) o ws ls chain (dnl lw d) s with
      | .inl v => ∃ h', z = .inl (nI v.1.length, h') ∧ stk (jY N b w ca) 0 [] 0 h h' ∧ jR N p K b w k sa st n v.2 h' ∧ arP h' ca tot v.1 ∧ v.1.length = chain.length + d ∧ (∀ x ∈ v.1, x < n) ∧ (∀ x ∈ o, x ∈ v.1)
      | .inr er => ∃ u h', z = .inr ((3, u), h') ∧ stk (jY N b w ca) 0 [] 10 h h' ∧ jR N p K b w k sa st n er.2 h' ∧ unC h' u er.1
  | _, 0, _, _, _, h1, _, _, _, _, _, _, _, _, _, _, _, _ => absurd h1 (by omega)
  | 0, m + 1, chain, s, h, h3, h4, h5, h6, h7, hj, hr, hl, hv, ho, hc, hth, hbc => by
    have ht := hl.choose_spec.2.2.1
    refine ⟨.inl (nI chain.length, h), ?_, h, rfl, stk_rfl hr, hj, hc, rfl, h6, h7⟩
    rw [lp_s]
    simp only [fX11_byPairs_b165, Nat.add_zero, if_pos (nI_le (Nat.le_refl lw) (show lw < 2 ^ 31 by omega))]
  | d + 1, m + 1, chain, s, h, h3, h4, h5, h6, h7, hj, hr, hl, hv, ho, hc, hth, hbc => by
    have ht := hl.choose_spec.2.2.1
    have hn10 : n ≤ 10 := hj.2.1
    have hgo : ∀ (frm item : Nat), frm ≤ chain.length → item < n → sIn (jd k (wor st)) half (tot - half) (l.getD (tot - 1) 0) o ws ls chain (lw + d + 1) = sput (jd k (wor st)) chain frm item → (∀ z h', fX11_putsIn th (some ca) (nI chain.length) (nI frm) (nI item) h = some (z, h') → fX11_byPairs_b165 F th (some la) (nI half) (some lo) (some va) (some ca) (nI lw) l9 (nI chain.length) (nI (lw + (d + 1))) h = gEl z (fun v1 => some (.inl (v1, nI (lw + d), h'))) (fun x1 => some (.inr (.inr (x1, h'))))) →
        ∃ z, lp (fun t => fX11_byPairs_b165 F th (some la) (nI half) (some lo) (some va) (some ca) (nI lw) l9 t.1 t.2.1 t.2.2) (m + 1) (nI chain.length, nI (lw + (d + 1)), h) = some z ∧ match sins (jd k (wor st)) half (tot - half) (l.getD (tot - 1) 0) o ws ls chain (dnl lw (d + 1)) s with
          | .inl v => ∃ h', z = .inl (nI v.1.length, h') ∧ stk (jY N b w ca) 0 [] 0 h h' ∧ jR N p K b w k sa st n v.2 h' ∧ arP h' ca tot v.1 ∧ v.1.length = chain.length + (d + 1) ∧ (∀ x ∈ v.1, x < n) ∧ (∀ x ∈ o, x ∈ v.1)
          | .inr er => ∃ u h', z = .inr ((3, u), h') ∧ stk (jY N b w ca) 0 [] 10 h h' ∧ jR N p K b w k sa st n er.2 h' ∧ unC h' u er.1 := by
      intro frm item q1 q2 q3 q4
      obtain ⟨z, h', e1, e2⟩ := zq_put q2 h6 hcb hcw q1 (by omega) hj hr (Nat.le_refl _) hc hth hbc
      have hsp : sins (jd k (wor st)) half (tot - half) (l.getD (tot - 1) 0) o ws ls chain (dnl lw (d + 1)) s = sbd (sput (jd k (wor st)) chain frm item) (fun c => sins (jd k (wor st)) half (tot - half) (l.getD (tot - 1) 0) o ws ls c (dnl lw d)) s := by
        rw [← q3]
        rfl
      rw [hsp, lp_s]
      simp only [q4 z h' e1]
      unfold sbd
      cases hz : sput (jd k (wor st)) chain frm item s with
      | inr er =>
        rw [hz] at e2
        obtain ⟨r1, r2, u, r3, r4⟩ := e2
        subst r3
        exact ⟨_, rfl, u, h', rfl, r1, r2, r4⟩
      | inl v =>
        rw [hz] at e2
        obtain ⟨r1, r2, r3, r4, r5⟩ := e2
        subst r2
        have hm := sput_mem hz
        have hs := sput_sub hz
        obtain ⟨e, y1, y2⟩ := zq_insL (F := F) (l9 := l9) (lw := lw) hln hlsn hll h1 hhf hol how hla hva hlo hcb hcw d m v.1 v.2 h' (by omega) (by omega) (by omega) (fun y hy => (hm y hy).elim (fun q => q ▸ q2) (h6 y)) (fun x hx => hs x (h7 x hx)) r4 (rm_st hr r1 (by omega)) (jY_ar hj hr r1 hl hla.1 hla.2.1 hla.2.2) (jY_ar hj hr r1 hv hva.1 hva.2.1 hva.2.2) (jY_lo hj hr r1 ho hlo.1 hlo.2.1 hlo.2.2) r3 (jY_th hj hr r1 hc hth) (by rw [r1.2.2.1]; exact hbc)
        rw [r5] at y1
        refine ⟨e, y1, ?_⟩
        simp only
        cases hz2 : sins (jd k (wor st)) half (tot - half) (l.getD (tot - 1) 0) o ws ls v.1 (dnl lw d) v.2 with
        | inl v2 =>
          rw [hz2] at y2
          obtain ⟨h2, x1, x2, x3, x4, x5, x6⟩ := y2
          exact ⟨h2, x1, stk_c (stk_t r1 x2) (by omega), x3, x4, by omega, x6⟩
        | inr er =>
          rw [hz2] at y2
          obtain ⟨u, h2, x1, x2, x3⟩ := y2
          exact ⟨u, h2, x1, stk_c (stk_t r1 x2) (by omega), x3⟩
    by_cases hk : lw + d + 1 ≤ half
    · have hov : o.getD (half - (lw + d + 1)) 0 ∈ o := getD_mem (by omega)
      have hvc := h7 _ hov
      have hvw := how _ hov
      have hli : ls.getD (ws.idxOf (o.getD (half - (lw + d + 1)) 0)) 0 < n := hlsn _ (getD_mem (by rw [← ho.choose_spec.2.1]; exact List.idxOf_lt_length_of_mem hvw))
      have hidx := List.idxOf_lt_length_of_mem hvc
      refine hgo (chain.idxOf (o.getD (half - (lw + d + 1)) 0) + 1) _ (by omega) hli ?_ (fun z h' e1 => ?_)
      · unfold sIn
        rw [if_pos (by omega), if_neg (by omega)]
      · have hpl := zx_place hc hvc (fun y hy => by have := h6 y hy; omega)
        simp only [fX11_byPairs_b165, fX11_byPairs_j196, fX11_byPairs_j230, if_neg (nI_ge (show lw < lw + (d + 1) by omega) (show lw + (d + 1) < 2 ^ 31 by omega)), if_pos (nI_le (show lw + (d + 1) ≤ half by omega) (show half < 2 ^ 31 by omega)), zb_sub (show lw + (d + 1) ≤ half by omega), show half - (lw + (d + 1)) = half - (lw + d + 1) by omega, arP_get hv (show half - (lw + d + 1) < o.length by omega), bd_s, hpl, bd2_s, il1, zb_add, loR_get ho hvw, gRcv_o hth, e1, zb_dec (show 1 ≤ lw + (d + 1) by omega), nm_s, show lw + (d + 1) - 1 = lw + d by omega]
    · have hli : l.getD (tot - 1) 0 < n := hln _ (getD_mem (by omega))
      refine hgo 0 (l.getD (tot - 1) 0) (Nat.zero_le _) hli ?_ (fun z h' e1 => ?_)
      · unfold sIn
        rw [if_pos (by omega), if_pos (by omega)]
      · simp only [fX11_byPairs_b165, fX11_byPairs_j196, fX11_byPairs_j230, if_neg (nI_ge (show lw < lw + (d + 1) by omega) (show lw + (d + 1) < 2 ^ 31 by omega)), if_neg (nI_ge (show half < lw + (d + 1) by omega) (show lw + (d + 1) < 2 ^ 31 by omega)), arP_len hl, bd_s, il0, il1, zb_sub h1, arP_get hl (show tot - 1 < l.length by omega), gRcv_o hth, e1, bd2_s, zb_dec (show 1 ≤ lw + (d + 1) by omega), nm_s, show lw + (d + 1) - 1 = lw + d by omega]
end
