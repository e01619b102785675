/-! L2 SORTS OF THE COMPONENT: the orders, by the three methods -/
set_option maxRecDepth 100000
section
variable {N p K b w n th : Nat} {sa : Nat × List gV} {k : Bool} {st : stT}
theorem oOut_id {tot c : Nat} {h : gHp} {r : Option (((Option Nat) ⊕ (Nat × Nat)) × gHp)} {q : (List Nat × sJ) ⊕ (sE × sJ)} (ho : oOut N p K b w k sa st n tot c h r q) : oOut N p K b w k sa st n tot c h (bd2 r fun z h4 => gEl z (fun v => some (.inl v, h4)) (fun x => some (.inr x, h4))) q := by
  unfold oOut at ho ⊢
  cases q with
  | inl v =>
    obtain ⟨a, h', y1, y2⟩ := ho
    exact ⟨a, h', by rw [y1]; rfl, y2⟩
  | inr er =>
    obtain ⟨u, h', y1, y2⟩ := ho
    exact ⟨u, h', by rw [y1]; rfl, y2⟩
theorem oOut_one {la c : Nat} {l : List Nat} {s : sJ} {h : gHp} (hr : rm h c) (hl : arP h la 1 l) (hll : l.length = 1) (hln : ∀ x ∈ l, x < n) (hlb : la ≠ b) (hlw : la ≠ w) (hb : h.2.2.2.1 ≤ la) (hj : jR N p K b w k sa st n s h) : oOut N p K b w k sa st n 1 0 h (some (.inl (some la), h)) (sret l s) :=
  ⟨la, h, rfl, stk_rfl hr, hj, hl, hll, hln, hlb, hlw, hb⟩
theorem oOut_c {tot c c' : Nat} {h : gHp} {r : Option (((Option Nat) ⊕ (Nat × Nat)) × gHp)} {q : (List Nat × sJ) ⊕ (sE × sJ)} (ho : oOut N p K b w k sa st n tot c h r q) (hc : c ≤ c') : oOut N p K b w k sa st n tot c' h r q := by
  unfold oOut at ho ⊢
  cases q with
  | inl v =>
    obtain ⟨a, h', y1, y2, y3⟩ := ho
    exact ⟨a, h', y1, stk_c y2 hc, y3⟩
  | inr er =>
    obtain ⟨u, h', y1, y2, y3⟩ := ho
    exact ⟨u, h', y1, stk_c y2 (by omega), y3⟩
theorem zq_oPairs : ∀ (f la tot c : Nat) (l : List Nat) (s : sJ) (h : gHp), l.Nodup → l.length = tot → (∀ x ∈ l, x < n) → 1 ≤ tot → tot ≤ 2 ^ f → tot ≤ 10 → la ≠ b → la ≠ w → h.2.2.2.1 ≤ la → jR N p K b w k sa st n s h → rm h c → pc tot + 10 ≤ c → arP h la tot l → h.1 th = some (.inr (9, [gq (some p)])) → oOut N p K b w k sa st n tot (pc tot) h (fX11_orders (f + 1) th (some la) (nI 0) h) (spairs (jd k (wor st)) (f + 1) l s)
  | f, la, tot, c, l, s, h, hd, hll, hln, h1, hlim, h10, hlb, hlw, hb, hj, hr, hc, hl, hth => by
    by_cases ht : tot = 1
    · subst ht
      have e1 : fX11_orders (f + 1) th (some la) (nI 0) h = some (.inl (some la), h) := by
        simp only [fX11_orders, fX11_orders_o, arP_len hl, bd_s, il1, if_true]
      have e2 : spairs (jd k (wor st)) (f + 1) l s = sret l s := by
        simp only [spairs, smerges, if_pos (show l.length < 2 by omega)]
      rw [e1, e2]
      exact oOut_one hr hl hll hln hlb hlw hb hj
    · have hne : ¬ nI tot = nI 1 := by rw [zb_eq (by omega) (by omega)]; exact ht
      match f, hlim with
      | 0, hlim => rw [Nat.pow_zero] at hlim; omega
      | f + 1, hlim =>
      rw [Nat.pow_succ] at hlim
      have e1 : fX11_orders (f + 1 + 1) th (some la) (nI 0) h = bd2 (fX11_byPairs (fX11_orders (f + 1)) th (some la) h) fun z h4 => gEl z (fun v4 => some (.inl v4, h4)) (fun x4 => some (.inr x4, h4)) := by
        rw [fX11_orders]
        simp only [fX11_orders_o, arP_len hl, bd_s, il1, if_neg hne, il0, if_true, gIs_o hth]
      rw [e1]
      exact oOut_id (zq_pairing (lim := 2 ^ f) (fun la tot c l s h => zq_oPairs f la tot c l s h) hd hll hln (by omega) (by omega) h10 hlb hlw hj hr hc hl hth)
theorem zq_oMerges : ∀ (f la tot c : Nat) (l : List Nat) (s : sJ) (h : gHp), l.length = tot → (∀ x ∈ l, x < n) → 1 ≤ tot → tot ≤ 2 ^ f → tot ≤ 10 → la ≠ b → la ≠ w → h.2.2.2.1 ≤ la → jR N p K b w k sa st n s h → rm h c → mc tot + 10 ≤ c → arP h la tot l → h.1 th = some (.inr (9, [gq (some p)])) → oOut N p K b w k sa st n tot (mc tot) h (fX11_orders (f + 1) th (some la) (nI 2) h) (smerges (jd k (wor st)) (f + 1) l s)
  | f, la, tot, c, l, s, h, hll, hln, h1, hlim, h10, hlb, hlw, hb, hj, hr, hc, hl, hth => by
    by_cases ht : tot = 1
    · subst ht
      have e1 : fX11_orders (f + 1) th (some la) (nI 2) h = some (.inl (some la), h) := by
        simp only [fX11_orders, fX11_orders_o, arP_len hl, bd_s, il1, if_true]
      have e2 : smerges (jd k (wor st)) (f + 1) l s = sret l s := by
        simp only [spairs, smerges, if_pos (show l.length < 2 by omega)]
      rw [e1, e2]
      exact oOut_one hr hl hll hln hlb hlw hb hj
    · have hne : ¬ nI tot = nI 1 := by rw [zb_eq (by omega) (by omega)]; exact ht
      have h20 : ¬ nI 2 = nI 0 := by decide
      have h21 : ¬ nI 2 = nI 1 := by decide
      match f, hlim with
      | 0, hlim => rw [Nat.pow_zero] at hlim; omega
      | f + 1, hlim =>
      rw [Nat.pow_succ] at hlim
      have e1 : fX11_orders (f + 1 + 1) th (some la) (nI 2) h = bd2 (fX11_byMerging (fX11_orders (f + 1)) th (some la) h) fun z h4 => gEl z (fun v4 => some (.inl v4, h4)) (fun x4 => some (.inr x4, h4)) := by
        rw [fX11_orders]
        simp only [fX11_orders_o, arP_len hl, bd_s, il1, if_neg hne, il0, if_neg h20, if_neg h21, gIs_o hth]
      rw [e1]
      exact oOut_id (zq_merging (lim := 2 ^ f) (fun la tot c l s h => zq_oMerges f la tot c l s h) hll hln (by omega) (by omega) h10 hlb hlw hj hr hc hl hth)
theorem pc_le {t : Nat} (h : t ≤ 10) : pc t ≤ 100 := by
  have : ∀ u : Fin 11, pc u.val ≤ 100 := by decide
  exact this ⟨t, by omega⟩
theorem mc_le {t : Nat} (h : t ≤ 10) : mc t ≤ 100 := by
  have : ∀ u : Fin 11, mc u.val ≤ 100 := by decide
  exact this ⟨t, by omega⟩
/-- the orders of the items 0, …, n-1 by a method -/
theorem zq_orders {la mt c : Nat} {s : sJ} {h : gHp} (h1 : 1 ≤ n) (hm : mt < 3) (hlb : la ≠ b) (hlw : la ≠ w) (hb : h.2.2.2.1 ≤ la) (hj : jR N p K b w k sa st n s h) (hr : rm h c) (hc : 110 ≤ c) (hl : arP h la n (List.range n)) (hth : h.1 th = some (.inr (9, [gq (some p)]))) :
    oOut N p K b w k sa st n n 100 h (fX11_orders 6 th (some la) (nI mt) h) (sgo (jd k (wor st)) mt n s) := by
  have hn10 : n ≤ 10 := hj.2.1
  have hp := pc_le hn10
  have hq := mc_le hn10
  have hll : (List.range n).length = n := List.length_range
  have hln : ∀ x ∈ List.range n, x < n := fun x hx => List.mem_range.1 hx
  rcases (show mt = 0 ∨ mt = 1 ∨ mt = 2 by omega) with h9 | h9 | h9
  · subst h9
    exact oOut_c (zq_oPairs 5 la n c (List.range n) s h List.nodup_range hll hln h1 (by omega) hn10 hlb hlw hb hj hr (by omega) hl hth) hp
  · subst h9
    have e2 : sgo (jd k (wor st)) 1 n s = shalf (jd k (wor st)) ((List.range n).take 1) ((List.range n).drop 1) s := rfl
    rw [e2]
    by_cases ht : n = 1
    · subst ht
      have e1 : fX11_orders 6 th (some la) (nI 1) h = some (.inl (some la), h) := by
        simp only [fX11_orders, fX11_orders_o, arP_len hl, bd_s, il1, if_true]
      rw [e1]
      exact oOut_c (oOut_one hr hl hll hln hlb hlw hb hj) (by omega)
    · have hne : ¬ nI n = nI 1 := by rw [zb_eq (by omega) (by omega)]; exact ht
      have e1 : fX11_orders 6 th (some la) (nI 1) h = bd2 (fX11_byHalving th (some la) h) fun z h4 => gEl z (fun v4 => some (.inl v4, h4)) (fun x4 => some (.inr x4, h4)) := by
        rw [show (6 : Nat) = 5 + 1 from rfl, fX11_orders]
        simp only [fX11_orders_o, arP_len hl, bd_s, il1, if_neg hne, il0, if_neg n10_ne, if_true, gIs_o hth]
      rw [e1]
      exact oOut_c (oOut_id (zq_halving hln hll h1 hlb hlw hj hr (by omega) hl hth)) (by omega)
  · subst h9
    exact oOut_c (zq_oMerges 5 la n c (List.range n) s h hll hln h1 (by omega) hn10 hlb hlw hb hj hr (by omega) hl hth) hq
end
