/-! L2 SORTS OF THE COMPONENT: putting in, halving -/
set_option maxRecDepth 100000
/-- an int array of tot places, of which the first hold a list -/
def arP (h : gHp) (a tot : Nat) (l : List Nat) : Prop := ∃ f, h.1 a = some (.inl (0, tot, .inl f)) ∧ l.length ≤ tot ∧ tot ≤ 100 ∧ ∀ i, i < l.length → f i = nI (l.getD i 0)
theorem arP_k {h h' : gHp} {a tot : Nat} {l : List Nat} (hp : arP h a tot l) (hk : ∀ e, h.1 a = some e → h'.1 a = some e) : arP h' a tot l := by
  obtain ⟨f, h1, h2⟩ := hp
  exact ⟨f, hk _ h1, h2⟩
theorem arP_get {h : gHp} {a tot i : Nat} {l : List Nat} (hp : arP h a tot l) (hi : i < l.length) : gAi h (some a) 0 (nI i) = some (nI (l.getD i 0)) := by
  obtain ⟨f, h1, h2, h3, h4⟩ := hp
  rw [gAi_o h1 (by omega) (by omega), h4 i hi]
theorem arP_len {h : gHp} {a tot : Nat} {l : List Nat} (hp : arP h a tot l) : gLen h (some a) = some (nI tot) := by
  obtain ⟨f, h1, h2, h3, h4⟩ := hp
  exact gLen_o h1
theorem ins_getD {l : List Nat} {low item i : Nat} (hl : low ≤ l.length) (hi : i < l.length + 1) : (l.take low ++ item :: l.drop low).getD i 0 = if i < low then l.getD i 0 else if i = low then item else l.getD (i - 1) 0 := by
  have ht : (l.take low).length = low := by rw [List.length_take]; omega
  rw [getD_app2, ht]
  by_cases h1 : i < low
  · rw [if_pos h1, if_pos h1, List.getD_eq_getElem?_getD, List.getD_eq_getElem?_getD, List.getElem?_take_of_lt h1]
  · rw [if_neg h1, if_neg h1]
    by_cases h2 : i = low
    · rw [if_pos h2, h2, Nat.sub_self]
      rfl
    · rw [if_neg h2, show i - low = (i - low - 1) + 1 by omega, List.getD_cons_succ, List.getD_eq_getElem?_getD, List.getElem?_drop, List.getD_eq_getElem?_getD]
      congr 2
      omega
theorem lp_s {α β : Type} (B : α → Option (Sum α β)) (m : Nat) (x : α) : lp B (m + 1) x = match B x with
    | none => none
    | some (.inl y) => lp B m y
    | some (.inr e) => some e := by
  cases h : B x with
  | none => simp only [lp, h]
  | some z => cases z <;> simp only [lp, h]
theorem sbin_lt {ask : Nat → Nat → Nat → sM Bool} {l : List Nat} {item f low high : Nat} (h : low < high) (s : sJ) : sbin ask l item (f + 1) low high s = sbd (ask item (l.getD (low + (high - low) / 2) 0) 2) (fun r => if r = true then sbin ask l item f low (low + (high - low) / 2) else sbin ask l item f (low + (high - low) / 2 + 1) high) s := by
  simp only [sbin, if_pos h]
theorem sbin_ge {ask : Nat → Nat → Nat → sM Bool} {l : List Nat} {item f low high : Nat} (h : ¬ low < high) (s : sJ) : sbin ask l item (f + 1) low high s = .inl (low, s) := by
  simp only [sbin, if_neg h, sret]
section
variable {N p K b w n th : Nat} {sa : Nat × List gV} {k : Bool} {st : stT}
/-- the search for a place -/
theorem zq_bin {ca tot item : Nat} {l : List Nat} (hit : item < n) (hln : ∀ x ∈ l, x < n) (hcb : ca ≠ b) (hcw : ca ≠ w) : ∀ (f m low high : Nat) (s : sJ) (h : gHp), f ≤ m → high - low < f → low ≤ high → high ≤ l.length → jR N p K b w k sa st n s h → rm h 10 → arP h ca tot l → h.1 th = some (.inr (9, [gq (some p)])) →
    ∃ e, lp (fun t => fX11_putsIn_b6 th (some ca) (nI l.length) (nI item) t.1 t.2.1 t.2.2) m (nI low, nI high, h) = some e ∧ match sbin (jd k (wor st)) l item f low high s with
      | .inl v => ∃ h', e = .inl (nI v.1, h') ∧ stk (jX N b w) 0 [] 0 h h' ∧ jR N p K b w k sa st n v.2 h' ∧ v.1 ≤ l.length ∧ low ≤ v.1
      | .inr er => ∃ u h', e = .inr ((3, u), h') ∧ stk (jX N b w) 0 [] 10 h h' ∧ jR N p K b w k sa st n er.2 h' ∧ unC h' u er.1
  | 0, m, low, high, s, h, _, h2, _, _, _, _, _, _ => absurd h2 (by omega)
  | f + 1, 0, low, high, s, h, h1, _, _, _, _, _, _, _ => absurd h1 (by omega)
  | f + 1, m + 1, low, high, s, h, h1, h2, h3, h4, hj, hr, hc, hth => by
    have hlen := hc.choose_spec.2.1
    have hlen2 := hc.choose_spec.2.2.1
    by_cases hlt : low < high
    · have hmid : low + (high - low) / 2 < high := by omega
      have hmem : l.getD (low + (high - low) / 2) 0 ∈ l := getD_mem (by omega)
      obtain ⟨z, h', e1, e2⟩ := zj_judge (d := 2) hj hit (hln _ hmem) hr (Nat.le_refl _)
      have hdiv : gidiv (nI (high - low)) (nI 2) = some (nI ((high - low) / 2)) := zb_div (by omega) (by omega) (by omega)
      have hbody : fX11_putsIn_b6 th (some ca) (nI l.length) (nI item) (nI low) (nI high) h = gEl z (fun v5 => if v5 = nI 0 then (some (.inl (nI (low + (high - low) / 2 + 1), nI high, h'))) else (some (.inl (nI low, nI (low + (high - low) / 2), h')))) (fun x5 => some (.inr (.inr ((x5, h'))))) := by
        simp only [fX11_putsIn_b6, if_neg (nI_ge hlt (show high < 2 ^ 31 by omega)), zb_sub (show low ≤ high by omega), il2, hdiv, bd_s, nm_s, zb_add, gGq_o (k := 0) hth rfl, arP_get hc (show low + (high - low) / 2 < l.length by omega), e1, bd2_s, il0, il1]
      have hsp := sbin_lt (ask := jd k (wor st)) (l := l) (item := item) (f := f) hlt s
      rw [hsp, lp_s, hbody]
      unfold sbd
      cases hjd : jd k (wor st) item (l.getD (low + (high - low) / 2) 0) 2 s with
      | inr er =>
        rw [hjd] at e2
        obtain ⟨g1, g2, u, g3, g4⟩ := e2
        subst g3
        exact ⟨.inr ((3, u), h'), rfl, u, h', rfl, g1, g2, g4⟩
      | inl v =>
        rw [hjd] at e2
        obtain ⟨g1, g3, g2⟩ := e2
        subst g3
        have hr' : rm h' 10 := rm_st hr g1 (by omega)
        have hN : ∀ a e, h.1 a = some e → kd (some e) ≠ 0 → a ≠ N := fun a e ha hk e9 => by
          obtain ⟨-, -, -, -, -, -, -, -, -, ⟨fs, c1, q1, z1, z2, -⟩, -⟩ := hj
          rw [e9, z2] at ha
          cases ha
          exact hk rfl
        have hbk : ∀ a e, h.1 a = some e → kd (some e) ≠ 100 → a ≠ b ∧ a ≠ w := fun a e ha hk => by
          obtain ⟨⟨fb, fw, z1, z2, z3, z4, -⟩, -⟩ := hj
          exact ⟨fun e9 => by rw [e9, z3] at ha; cases ha; exact hk rfl, fun e9 => by rw [e9, z4] at ha; cases ha; exact hk rfl⟩
        have hc' : arP h' ca tot l := arP_k hc (fun e he => stk_keep hr g1 he (fun h9 => by
          rcases h9 with h9 | h9 | h9
          · obtain ⟨fc, y1, -⟩ := hc
            exact hN _ _ y1 (by simp [kd]) h9
          · exact hcb h9
          · exact hcw h9) (.inr not_nil))
        have hth' : h'.1 th = some (.inr (9, [gq (some p)])) := stk_keep hr g1 hth (fun h9 => by
          rcases h9 with h9 | h9 | h9
          · exact hN _ _ hth (by simp [kd]) h9
          · exact (hbk _ _ hth (by simp [kd])).1 h9
          · exact (hbk _ _ hth (by simp [kd])).2 h9) (.inr not_nil)
        have hgo : ∀ (low' high' : Nat), low ≤ low' → high' - low' < f → low' ≤ high' → high' ≤ l.length → ∃ e, lp (fun t => fX11_putsIn_b6 th (some ca) (nI l.length) (nI item) t.1 t.2.1 t.2.2) m (nI low', nI high', h') = some e ∧ match sbin (jd k (wor st)) l item f low' high' v.2 with
            | .inl v => ∃ h', e = .inl (nI v.1, h') ∧ stk (jX N b w) 0 [] 0 h h' ∧ jR N p K b w k sa st n v.2 h' ∧ v.1 ≤ l.length ∧ low ≤ v.1
            | .inr er => ∃ u h', e = .inr ((3, u), h') ∧ stk (jX N b w) 0 [] 10 h h' ∧ jR N p K b w k sa st n er.2 h' ∧ unC h' u er.1 := by
          intro low' high' q0 q1 q2 q3
          obtain ⟨e, r1, r2⟩ := zq_bin hit hln hcb hcw f m low' high' v.2 h' (by omega) q1 q2 q3 g2 hr' hc' hth'
          refine ⟨e, r1, ?_⟩
          cases hz : sbin (jd k (wor st)) l item f low' high' v.2 with
          | inl v2 =>
            rw [hz] at r2
            obtain ⟨h2, y1, y2, y3, y4, y5⟩ := r2
            exact ⟨h2, y1, stk_c (stk_t g1 y2) (by omega), y3, y4, by omega⟩
          | inr er =>
            rw [hz] at r2
            obtain ⟨u, h2, y1, y2, y3⟩ := r2
            exact ⟨u, h2, y1, stk_c (stk_t g1 y2) (by omega), y3⟩
        cases hv : v.1 with
        | true =>
          obtain ⟨e, r1, r2⟩ := hgo low (low + (high - low) / 2) (Nat.le_refl _) (by omega) (by omega) (by omega)
          refine ⟨e, ?_, ?_⟩
          · simp only [gEl_i, hv, bI_0, Bool.true_eq_false, if_false]
            exact r1
          · simp only [hv, if_true]
            exact r2
        | false =>
          obtain ⟨e, r1, r2⟩ := hgo (low + (high - low) / 2 + 1) high (by omega) (by omega) (by omega) (by omega)
          refine ⟨e, ?_, ?_⟩
          · simp only [gEl_i, hv, bI_0, if_true]
            exact r1
          · simp only [hv, Bool.false_eq_true, if_false]
            exact r2
    · rw [sbin_ge hlt, lp_s]
      refine ⟨.inl (nI low, h), ?_, h, rfl, stk_rfl hr, hj, by omega, Nat.le_refl _⟩
      simp only [fX11_putsIn_b6, if_pos (nI_le (show high ≤ low by omega) (show low < 2 ^ 31 by omega))]
/-- what a sort may change beside: an array of its own -/
def jY (N b w ca : Nat) : Nat → Prop := fun a => jX N b w a ∨ a = ca
theorem zq_put {ca tot item frm c : Nat} {l : List Nat} {s : sJ} {h : gHp} (hit : item < n) (hln : ∀ x ∈ l, x < n) (hcb : ca ≠ b) (hcw : ca ≠ w) (hfr : frm ≤ l.length) (hlt : l.length < tot) (hj : jR N p K b w k sa st n s h) (hr : rm h c) (hc10 : 10 ≤ c) (hc : arP h ca tot l) (hth : h.1 th = some (.inr (9, [gq (some p)]))) (hbc : h.2.2.2.1 ≤ ca) :
    ∃ z h', fX11_putsIn th (some ca) (nI l.length) (nI frm) (nI item) h = some (z, h') ∧ jOut (jY N b w ca) 0 h h' z (sput (jd k (wor st)) l frm item s) (fun l' s' => z = .inl (nI (l.length + 1)) ∧ arP h' ca tot l' ∧ jR N p K b w k sa st n s' h' ∧ l'.length = l.length + 1) (fun s' => jR N p K b w k sa st n s' h') := by
  have hlen2 : tot ≤ 100 := by
    obtain ⟨fc0, -, -, hlen2, -⟩ := hc
    exact hlen2
  obtain ⟨e, e1, e2⟩ := zq_bin (th := th) hit hln hcb hcw (l.length + 1) 4096 frm l.length s h (by omega) (by omega) hfr (Nat.le_refl _) hj (rm_w hr hc10) hc hth
  have hsp : sput (jd k (wor st)) l frm item s = sbd (sbin (jd k (wor st)) l item (l.length + 1) frm l.length) (fun low => sret (l.take low ++ item :: l.drop low)) s := rfl
  rw [hsp]
  unfold sbd
  cases hz : sbin (jd k (wor st)) l item (l.length + 1) frm l.length s with
  | inr er =>
    rw [hz] at e2
    obtain ⟨u, h', r1, r2, r3, r4⟩ := e2
    subst r1
    refine ⟨.inr (3, u), h', ?_, stk_w r2 (by omega) (fun a _ hX _ => ⟨fun h9 => hX (.inl h9), .inr not_nil⟩), r3, u, rfl, r4⟩
    simp only [fX11_putsIn, fl_X11_putsIn_b6, e1, bd_s, gEl_e, ap2_s]
  | inl v =>
    rw [hz] at e2
    obtain ⟨h1, r1, r2, r3, r4, r5⟩ := e2
    subst r1
    have rm1 : rm h1 0 := rm_st hr r2 (by omega)
    have hb1 : h1.2.2.2.1 ≤ ca := by rw [r2.2.2.1]; exact hbc
    have hc1 : arP h1 ca tot l := arP_k hc (fun e he => stk_keep hr r2 he (fun h9 => by
      rcases h9 with h9 | h9 | h9
      · obtain ⟨-, -, -, -, -, -, -, -, -, ⟨fs, c1, q1, z1, z2, -⟩, -⟩ := hj
        obtain ⟨fc, y1, -⟩ := hc
        rw [h9, z2] at y1
        cases y1
      · exact hcb h9
      · exact hcw h9) (.inr not_nil))
    obtain ⟨f, y1, y2, y3, y4⟩ := hc1
    -- those behind make room
    have hl : lp (fun t => fX11_putsIn_b61 (some ca) (nI l.length) (nI item) (nI v.1) t.1 t.2) 4096 (nI l.length, gset h1 ca (.inl (0, tot, .inl f))) = some (gset h1 ca (.inl (0, tot, .inl (fun i => if v.1 < i ∧ i ≤ l.length then f (i - 1) else f i)))) := by
      have := zb_for (B := fun t => fX11_putsIn_b61 (some ca) (nI l.length) (nI item) (nI v.1) t.1 t.2) (fun j => (nI (l.length - j), gset h1 ca (.inl (0, tot, .inl (fun i => if l.length - j < i ∧ i ≤ l.length then f (i - 1) else f i))))) (l.length - v.1) (gset h1 ca (.inl (0, tot, .inl (fun i => if v.1 < i ∧ i ≤ l.length then f (i - 1) else f i)))) (by omega) (fun j hjl => ?_) ?_
      · have h0 : (fun i => if l.length < i ∧ i ≤ l.length then f (i - 1) else f i) = f := funext fun i => if_neg (by omega)
        simp only [Nat.sub_zero, h0] at this
        exact this
      · have hgt : ¬ nI (l.length - j) ≤ nI v.1 := nI_ge (by omega) (by omega)
        simp only [fX11_putsIn_b61, if_neg hgt, il1, zb_sub (show 1 ≤ l.length - j by omega), gAi_o (set_at _ _ _) (show l.length - j - 1 < tot by omega) (show tot ≤ 1048576 by omega), bd_s, gSi_o (set_at _ _ _) (show (gset h1 ca _).2.2.2.1 ≤ ca from hb1) (show l.length - j < tot by omega) (show tot ≤ 1048576 by omega), gset_gset, nm_s, zb_dec (show 1 ≤ l.length - j by omega)]
        rw [show l.length - j - 1 = l.length - (j + 1) by omega, if_neg (show ¬ (l.length - j < l.length - (j + 1) ∧ _) by omega)]
        refine congrArg (fun q => some (Sum.inl (nI (l.length - (j + 1)), gset h1 ca (.inl (0, tot, .inl q))))) (funext fun i => ?_)
        show (if i = l.length - j then _ else if l.length - j < i ∧ i ≤ l.length then f (i - 1) else f i) = _
        by_cases hi : i = l.length - j
        · rw [if_pos hi, if_pos (by omega), hi, show l.length - j - 1 = l.length - (j + 1) by omega]
        · rw [if_neg hi]
          by_cases hi2 : l.length - j < i ∧ i ≤ l.length
          · rw [if_pos hi2, if_pos (by omega)]
          · rw [if_neg hi2, if_neg (by omega)]
      · simp only [fX11_putsIn_b61, show l.length - (l.length - v.1) = v.1 by omega, if_pos (nI_le (Nat.le_refl v.1) (show v.1 < 2 ^ 31 by omega))]
    rw [gset_self y1] at hl
    have hset : gSi (gset h1 ca (.inl (0, tot, .inl (fun i => if v.1 < i ∧ i ≤ l.length then f (i - 1) else f i)))) (some ca) 0 (nI v.1) (nI item) = some (gset h1 ca (.inl (0, tot, .inl (upd (fun i => if v.1 < i ∧ i ≤ l.length then f (i - 1) else f i) v.1 (nI item))))) := by
      rw [gSi_o (set_at _ _ _) (show (gset h1 ca _).2.2.2.1 ≤ ca from hb1) (by omega) (by omega), gset_gset]
    have sset : stk (jY N b w ca) 0 [] 0 h1 (gset h1 ca (.inl (0, tot, .inl (upd (fun i => if v.1 < i ∧ i ≤ l.length then f (i - 1) else f i) v.1 (nI item))))) := set_st rm1 y1 (.inl (.inr rfl))
    have hlen : (l.take v.1 ++ item :: l.drop v.1).length = l.length + 1 := by
      rw [List.length_append, List.length_cons, List.length_take, List.length_drop]
      omega
    refine ⟨.inl (nI (l.length + 1)), _, (by simp only [fX11_putsIn, fl_X11_putsIn_b6, e1, bd_s, gEl_i, ap2_s, fl_X11_putsIn_b61, hl, hset, il1, zb_add]; try rfl), ?_, rfl, ?_, ?_, hlen⟩
    · exact stk_c (stk_t (stk_w r2 (Nat.le_refl _) (fun a _ hX _ => ⟨fun h9 => hX (.inl h9), .inr not_nil⟩)) sset) (by omega)
    · refine ⟨_, set_at _ _ _, (show _ ≤ tot by rw [hlen]; omega), y3, fun i hi => ?_⟩
      rw [hlen] at hi
      rw [ins_getD r4 hi]
      by_cases h9 : i = v.1
      · rw [h9, pk_us, if_neg (by omega), if_pos rfl]
      · rw [pk_un h9, if_neg h9]
        by_cases h8 : i < v.1
        · rw [if_pos h8, if_neg (by omega)]; exact y4 i (by omega)
        · rw [if_neg h8, if_pos (by omega)]; exact y4 (i - 1) (by omega)
    · refine jR_k r3 rm1 (X := fun a => a = ca) (set_st rm1 y1 (.inl rfl)) (fun a e hx he => ?_)
      rw [hx] at he ⊢
      rw [y1] at he
      cases he
      refine ⟨fun h9 => ?_, hcb, hcw, by simp [kd]⟩
      obtain ⟨-, -, -, -, -, -, -, -, -, ⟨fs, c1, q1, z1, z2, -⟩, -⟩ := r3
      rw [← h9, y1] at z2
      cases z2
end
