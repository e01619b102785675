/-! L2 KNOWN: the component's pairs of sets -/
set_option maxRecDepth 100000
/-- a list, but one -/
def ers {α : Type} (l : List α) (o : Option Nat) : List α := match o with
  | none => l
  | some i => l.eraseIdx i
theorem ers_sub {α : Type} {l : List α} {o : Option Nat} : ∀ p ∈ ers l o, p ∈ l := by
  intro p hp
  cases o with
  | none => exact hp
  | some i => exact List.mem_of_mem_eraseIdx hp
theorem ers_take {α : Type} {l : List α} {o : Option Nat} {k : Nat} (hk : k < l.length) : ers (l.take (k + 1)) o = if o = some k then ers (l.take k) o else ers (l.take k) o ++ [l[k]] := by
  have e1 : l.take (k + 1) = l.take k ++ [l[k]] := by rw [List.take_append_getElem]
  have hl : (l.take k).length = k := by rw [List.length_take]; omega
  cases o with
  | none => rw [if_neg (by simp)]; exact e1
  | some i =>
    show (l.take (k + 1)).eraseIdx i = if some i = some k then (l.take k).eraseIdx i else (l.take k).eraseIdx i ++ [l[k]]
    rw [e1]
    by_cases hik : i = k
    · subst hik
      rw [if_pos rfl, List.eraseIdx_append_of_length_le (show (l.take i).length ≤ i by omega), hl, Nat.sub_self, List.eraseIdx_of_length_le (show (l.take i).length ≤ i by omega)]
      simp
    · rw [if_neg (fun e => hik (Option.some.inj e))]
      by_cases hlt : i < k
      · rw [List.eraseIdx_append_of_lt_length (show i < (l.take k).length by omega)]
      · rw [List.eraseIdx_of_length_le (show (l.take k ++ [l[k]]).length ≤ i by simp; omega), List.eraseIdx_of_length_le (show (l.take k).length ≤ i by omega)]
/-- the sets of what is known, in cells of their own from B on -/
def knR (B : Nat) (h : gHp) (k n : Nat) (R : Nat → Nat → Bool) : Prop := ∃ b w fb fw, B ≤ k ∧ B ≤ b ∧ B ≤ w ∧ b ≠ w ∧ h.1 k = some (.inr (7, [gq (some b), gq (some w), gi (nI n)])) ∧ h.1 b = some (.inl (0, 10, .inl fb)) ∧ h.1 w = some (.inl (0, 10, .inl fw)) ∧ (∀ y, y < 10 → fb y = ms (fun x => R x y)) ∧ ∀ x, x < 10 → fw x = ms (R x)
theorem knR_k {B : Nat} {h h' : gHp} {k n : Nat} {R : Nat → Nat → Bool} (hp : knR B h k n R) (hk : kps (fun a => B ≤ a) [7, 100] h h') : knR B h' k n R := by
  obtain ⟨b, w, fb, fw, h1, h2, h3, h4, h5, h6, h7, h8⟩ := hp
  exact ⟨b, w, fb, fw, h1, h2, h3, h4, hk _ _ h1 h5 (by simp [kd]), hk _ _ h2 h6 (by simp [kd]), hk _ _ h3 h7 (by simp [kd]), h8⟩
theorem knR_B {B B' : Nat} {h : gHp} {k n : Nat} {R : Nat → Nat → Bool} (hp : knR B h k n R) (hB : B' ≤ B) : knR B' h k n R := by
  obtain ⟨b, w, fb, fw, h1, h2, h3, h4⟩ := hp
  exact ⟨b, w, fb, fw, by omega, by omega, by omega, h4⟩
theorem zk_has {p : Nat → Bool} {k : Nat} (hk : k < 10) (h : gHp) : fX1_has (ms p) (nI k) h = some (bI (p k), h) := by
  simp only [fX1_has, il31, il1, il0, ms_bit hk, bI_1]
  cases p k <;> rfl
theorem zk_hasN {S k : Nat} (hS : S < 2 ^ 31) (hk : k < 32) (h : gHp) : fX1_has (nI S) (nI k) h = some (bI (S.testBit k), h) := by
  simp only [fX1_has, il31, il1, il0, zb_bit hS hk, bI_1]
  cases S.testBit k <;> rfl
theorem zk_rcv {B : Nat} {h : gHp} {k n : Nat} {R : Nat → Nat → Bool} (hp : knR B h k n R) : gRcv h (some k) 7 = some k := by
  obtain ⟨b, w, fb, fw, h1, h2, h3, h4, h5, h6, h7, h8⟩ := hp
  exact gRcv_o h5
theorem zk_is {B : Nat} {h : gHp} {k n : Nat} {R : Nat → Nat → Bool} (hp : knR B h k n R) : gIs h k 7 = some () := by
  obtain ⟨b, w, fb, fw, h1, h2, h3, h4, h5, h6, h7, h8⟩ := hp
  exact gIs_o h5
theorem zk_many {B : Nat} {h : gHp} {k n : Nat} {R : Nat → Nat → Bool} (hp : knR B h k n R) : gGi h (some k) 7 2 = some (nI n) := by
  obtain ⟨b, w, fb, fw, h1, h2, h3, h4, h5, h6, h7, h8⟩ := hp
  exact gGi_o h5 rfl
theorem zk_isBetter {B : Nat} {h : gHp} {k n x y : Nat} {R : Nat → Nat → Bool} (hp : knR B h k n R) (hx : x < 10) (hy : y < 10) : fX9_isBetter k (nI x) (nI y) h = some (bI (R x y), h) := by
  obtain ⟨b, w, fb, fw, h1, h2, h3, h4, h5, h6, h7, h8, h9⟩ := hp
  simp only [fX9_isBetter, gGq_o (k := 0) h5 rfl, gAi_o h6 hy (by omega), h8 y hy, zk_has hx, bd_s, bd2_s, gRz_b]
theorem zk_least {B : Nat} {h : gHp} {k n y : Nat} {R : Nat → Nat → Bool} (hp : knR B h k n R) (hy : y < 10) : fX9_least k (nI y) h = some (nI (sm (fun x => (R x y).toNat) 10), h) := by
  obtain ⟨b, w, fb, fw, h1, h2, h3, h4, h5, h6, h7, h8, h9⟩ := hp
  simp only [fX9_least, gGq_o (k := 0) h5 rfl, gAi_o h6 hy (by omega), h8 y hy, ms_def, zb_bc (bs10 _), cn_bs, bd_s, bd2_s]
theorem zk_greatest {B : Nat} {h : gHp} {k n x : Nat} {R : Nat → Nat → Bool} (hp : knR B h k n R) (hx : x < 10) (hn : 1 ≤ n) : fX9_greatest k (nI x) h = some (nI (n - 1) - nI (sm (fun y => (R x y).toNat) 10), h) := by
  obtain ⟨b, w, fb, fw, h1, h2, h3, h4, h5, h6, h7, h8, h9⟩ := hp
  simp only [fX9_greatest, gGi_o (k := 2) h5 rfl, gGq_o (k := 1) h5 rfl, gAi_o h7 hx (by omega), h9 x hx, ms_def, zb_bc (bs10 _), cn_bs, bd_s, bd2_s, il1, zb_sub hn]
/-- the same, with the cells named -/
def knX (h : gHp) (k b w n : Nat) (R : Nat → Nat → Bool) : Prop := ∃ fb fw, b ≠ w ∧ h.1 k = some (.inr (7, [gq (some b), gq (some w), gi (nI n)])) ∧ h.1 b = some (.inl (0, 10, .inl fb)) ∧ h.1 w = some (.inl (0, 10, .inl fw)) ∧ (∀ y, y < 10 → fb y = ms (fun x => R x y)) ∧ ∀ x, x < 10 → fw x = ms (R x)
theorem knX_R {B : Nat} {h : gHp} {k b w n : Nat} {R : Nat → Nat → Bool} (hp : knX h k b w n R) (h1 : B ≤ k) (h2 : B ≤ b) (h3 : B ≤ w) : knR B h k n R := by
  obtain ⟨fb, fw, h4, h5⟩ := hp
  exact ⟨b, w, fb, fw, h1, h2, h3, h4, h5⟩
theorem knR_X {B : Nat} {h : gHp} {k n : Nat} {R : Nat → Nat → Bool} (hp : knR B h k n R) : ∃ b w, B ≤ k ∧ B ≤ b ∧ B ≤ w ∧ knX h k b w n R := by
  obtain ⟨b, w, fb, fw, h1, h2, h3, h4, h5⟩ := hp
  exact ⟨b, w, h1, h2, h3, fb, fw, h4, h5⟩
/-- one answer more -/
theorem zk_tells0 {h : gHp} {k pb pw n a b : Nat} {R : Nat → Nat → Bool} (hpx : knX h k pb pw n R) (hn : n ≤ 10) (hR : rin R n) (ht : trR R) (ha : a < n) (hb : b < n) (hr : rm h 0) (hBb : h.2.2.2.1 ≤ pb) (hBw : h.2.2.2.1 ≤ pw) :
    ∃ h', fX9_tells k (nI a) (nI b) h = some (some k, h') ∧ stk (fun a => a = pb ∨ a = pw) 0 [] 0 h h' ∧ knX h' k pb pw n (tell R a b) := by
  have hp : knR 0 h k n R := knX_R hpx (Nat.zero_le _) (Nat.zero_le _) (Nat.zero_le _)
  have hIB := zk_isBetter hp (show a < 10 by omega) (show b < 10 by omega)
  cases hab : R a b with
  | true =>
    rw [hab] at hIB
    refine ⟨h, ?_, stk_rfl hr, by rw [tell_known ht hab]; exact hpx⟩
    simp only [fX9_tells, zk_is hp, bd_s, hIB, bd2_s, il0, bI_0, Bool.true_eq_false, if_false]
  | false =>
    rw [hab] at hIB
    have hp0 := hp
    obtain ⟨fb, fw, h4, h5, h6, h7, h8, h9⟩ := hpx
    have hab1 : fb a ||| nI (2 ^ a) = ms (fun x => x == a || R x a) := by
      rw [h8 a (by omega), ms_one (by omega), ms_or]
      exact ms_congr (fun k _ => Bool.or_comm _ _)
    have hbe1 : fw b ||| nI (2 ^ b) = ms (fun y => y == b || R b y) := by
      rw [h9 b (by omega), ms_one (by omega), ms_or]
      exact ms_congr (fun k _ => Bool.or_comm _ _)
    obtain ⟨e, e1, e2⟩ := zb_lp (B := fun t => fX9_tells_b37 k (ms (fun x => x == a || R x a)) (ms (fun y => y == b || R b y)) t.1 t.2)
      (fun j t => t.1 = nI j ∧ stk (fun a => a = pb ∨ a = pw) 0 [] 0 h t.2 ∧ ∃ gb gw, t.2.1 k = some (.inr (7, [gq (some pb), gq (some pw), gi (nI n)])) ∧ t.2.1 pb = some (.inl (0, 10, .inl gb)) ∧ t.2.1 pw = some (.inl (0, 10, .inl gw)) ∧ (∀ y, y < 10 → gb y = if y < j then ms (fun x => tell R a b x y) else fb y) ∧ ∀ x, x < 10 → gw x = if x < j then ms (tell R a b x) else fw x)
      (fun g => stk (fun a => a = pb ∨ a = pw) 0 [] 0 h g ∧ knX g k pb pw n (tell R a b)) n (by omega) (fun j t hj htp => by
      obtain ⟨t1, t2⟩ := t
      obtain ⟨rfl, hs, gb, gw, c1, c2, c3, c4, c5⟩ := htp
      simp only at hs c1 c2 c3
      have rt : rm t2 0 := rm_st hr hs (by omega)
      by_cases hjn : j < n
      · left
        refine ⟨hjn, ?_⟩
        have hle : ¬ nI n ≤ nI j := nI_ge hjn (by omega)
        have hbt : t2.2.2.2.1 = h.2.2.2.1 := by rw [hs.2.2.1]
        -- the set of those that are better
        have step1 : ∃ g1 gb1, (if bI (j == b || R b j) = nI 0 then fX9_tells_j67 k (ms (fun x => x == a || R x a)) (ms (fun y => y == b || R b y)) (nI j) t2 else bd (gGq t2 (some k) 7 0) fun v3 => bd (gAi t2 v3 0 (nI j)) fun v4 => bd (gSi t2 v3 0 (nI j) (v4 ||| ms (fun x => x == a || R x a))) fun h5 => fX9_tells_j67 k (ms (fun x => x == a || R x a)) (ms (fun y => y == b || R b y)) (nI j) h5) = fX9_tells_j67 k (ms (fun x => x == a || R x a)) (ms (fun y => y == b || R b y)) (nI j) g1 ∧ stk (fun a => a = pb ∨ a = pw) 0 [] 0 t2 g1 ∧ g1.1 k = some (.inr (7, [gq (some pb), gq (some pw), gi (nI n)])) ∧ g1.1 pb = some (.inl (0, 10, .inl gb1)) ∧ g1.1 pw = some (.inl (0, 10, .inl gw)) ∧ ∀ y, y < 10 → gb1 y = if y < j + 1 then ms (fun x => tell R a b x y) else fb y := by
          cases hbj : (j == b || R b j) with
          | false =>
            refine ⟨t2, gb, by rw [if_pos bI_f], stk_rfl rt, c1, c2, c3, fun y hy => ?_⟩
            rw [c4 y hy]
            by_cases hyj : y = j
            · subst hyj
              rw [if_neg (by omega), if_pos (by omega), h8 y hy]
              refine ms_congr (fun x _ => ?_)
              unfold tell
              rw [hbj, Bool.and_false, Bool.or_false]
            · by_cases hy2 : y < j
              · rw [if_pos hy2, if_pos (by omega)]
              · rw [if_neg hy2, if_neg (by omega)]
          | true =>
            have w1 : gSi t2 (some pb) 0 (nI j) (gb j ||| ms (fun x => x == a || R x a)) = some (gset t2 pb (.inl (0, 10, .inl (upd gb j (gb j ||| ms (fun x => x == a || R x a)))))) := gSi_o c2 (by omega) (by omega) (by omega)
            refine ⟨_, _, by rw [if_neg (by simp [bI_0]), gGq_o (k := 0) c1 rfl, bd_s, gAi_o c2 (by omega) (by omega), bd_s, w1, bd_s], set_st rt c2 (.inl (.inl rfl)), ?_, set_at _ _ _, ?_, fun y hy => ?_⟩
            · rw [set_ne (fun h9 => by rw [h9, c2] at c1; cases c1)]; exact c1
            · rw [set_ne (fun h9 => h4 h9.symm)]; exact c3
            · show (if y = j then _ else gb y) = _
              by_cases hyj : y = j
              · subst hyj
                rw [if_pos rfl, if_pos (by omega), c4 y hy, if_neg (by omega), h8 y hy, ms_or]
                refine ms_congr (fun x _ => ?_)
                unfold tell
                rw [hbj, Bool.and_true]
              · rw [if_neg hyj, c4 y hy]
                by_cases hy2 : y < j
                · rw [if_pos hy2, if_pos (by omega)]
                · rw [if_neg hy2, if_neg (by omega)]
        obtain ⟨g1, gb1, d0, d1, d2, d3, d4, d5⟩ := step1
        have r1 : rm g1 0 := rm_st rt d1 (by omega)
        have hhas : fX1_has (ms (fun y => y == b || R b y)) (nI j) t2 = some (bI (j == b || R b j), t2) := zk_has (by omega) t2
        have hhas2 : fX1_has (ms (fun x => x == a || R x a)) (nI j) g1 = some (bI (j == a || R j a), g1) := zk_has (by omega) g1
        -- the set of those that are worse
        cases haj : (j == a || R j a) with
        | false =>
          rw [haj] at hhas2
          refine ⟨(nI (j + 1), g1), ?_, rfl, stk_c (stk_t hs d1) (by omega), gb1, gw, d2, d3, d4, d5, fun x hx => ?_⟩
          · simp only [fX9_tells_b37, gGi_o (k := 2) c1 rfl, bd_s, if_neg hle, hhas, bd2_s, il0, d0]
            simp only [fX9_tells_j67, hhas2, bd2_s, il0, bI_0, if_true, nm_s, il1, zb_add]
          · rw [c5 x hx]
            by_cases hxj : x = j
            · subst hxj
              rw [if_neg (by omega), if_pos (by omega), h9 x hx]
              refine ms_congr (fun y _ => ?_)
              unfold tell
              rw [haj, Bool.false_and, Bool.or_false]
            · by_cases hx2 : x < j
              · rw [if_pos hx2, if_pos (by omega)]
              · rw [if_neg hx2, if_neg (by omega)]
        | true =>
          rw [haj] at hhas2
          have w2 : gSi g1 (some pw) 0 (nI j) (gw j ||| ms (fun y => y == b || R b y)) = some (gset g1 pw (.inl (0, 10, .inl (upd gw j (gw j ||| ms (fun y => y == b || R b y)))))) := gSi_o d4 (by rw [d1.2.2.1]; omega) (by omega) (by omega)
          have s2 : stk (fun a => a = pb ∨ a = pw) 0 [] 0 g1 (gset g1 pw (.inl (0, 10, .inl (upd gw j (gw j ||| ms (fun y => y == b || R b y)))))) := set_st r1 d4 (.inl (.inr rfl))
          refine ⟨(nI (j + 1), gset g1 pw (.inl (0, 10, .inl (upd gw j (gw j ||| ms (fun y => y == b || R b y)))))), ?_, rfl, stk_c (stk_t hs (stk_t d1 s2)) (by omega), gb1, _, ?_, ?_, set_at _ _ _, d5, fun x hx => ?_⟩
          · simp only [fX9_tells_b37, gGi_o (k := 2) c1 rfl, bd_s, if_neg hle, hhas, bd2_s, il0, d0]
            simp only [fX9_tells_j67, hhas2, bd2_s, il0, bI_0, Bool.true_eq_false, if_false, gGq_o (k := 1) d2 rfl, gAi_o d4 (show j < 10 by omega) (show 10 ≤ 1048576 by omega), w2, bd_s, nm_s, il1, zb_add]
          · rw [set_ne (fun h9 => by rw [h9, d4] at d2; cases d2)]; exact d2
          · rw [set_ne h4]; exact d3
          · show (if x = j then _ else gw x) = _
            by_cases hxj : x = j
            · subst hxj
              rw [if_pos rfl, if_pos (by omega), c5 x hx, if_neg (by omega), h9 x hx, ms_or]
              refine ms_congr (fun y _ => ?_)
              unfold tell
              rw [haj, Bool.true_and]
            · rw [if_neg hxj, c5 x hx]
              by_cases hx2 : x < j
              · rw [if_pos hx2, if_pos (by omega)]
              · rw [if_neg hx2, if_neg (by omega)]
      · right
        have : j = n := by omega
        subst this
        refine ⟨t2, ?_, hs, gb, gw, h4, c1, c2, c3, fun y hy => ?_, fun x hx => ?_⟩
        · simp only [fX9_tells_b37, gGi_o (k := 2) c1 rfl, bd_s, if_pos (nI_le (Nat.le_refl j) (show j < 2 ^ 31 by omega))]
        · rw [c4 y hy]
          by_cases hy2 : y < j
          · rw [if_pos hy2]
          · rw [if_neg hy2, h8 y hy]
            refine ms_congr (fun x _ => ?_)
            unfold tell
            rw [rin_f2 hR (show j ≤ y by omega), rin_f2 hR (show j ≤ y by omega), beq_eq_false_iff_ne.mpr (show y ≠ b by omega)]
            simp
        · rw [c5 x hx]
          by_cases hx2 : x < j
          · rw [if_pos hx2]
          · rw [if_neg hx2, h9 x hx]
            refine ms_congr (fun y _ => ?_)
            unfold tell
            rw [rin_f hR (show j ≤ x by omega), rin_f hR (show j ≤ x by omega), beq_eq_false_iff_ne.mpr (show x ≠ a by omega)]
            simp) (t0 := (nI 0, h)) ⟨rfl, stk_rfl hr, fb, fw, h5, h6, h7, fun y hy => by rw [if_neg (by omega)], fun x hx => by rw [if_neg (by omega)]⟩
    refine ⟨e, ?_, e2.1, e2.2⟩
    simp only [fX9_tells, zk_is hp0, bd_s, hIB, bd2_s, il0, bI_0, if_true, gGq_o (k := 0) h5 rfl, gAi_o h6 (show a < 10 by omega) (show 10 ≤ 1048576 by omega), nm_s, gGq_o (k := 1) h5 rfl, gAi_o h7 (show b < 10 by omega) (show 10 ≤ 1048576 by omega), il1, il31, zb_shl (show a < 31 by omega), zb_shl (show b < 31 by omega), hab1, hbe1, fl_X9_tells_b37, e1]
theorem zk_tells {B : Nat} {h : gHp} {k n a b : Nat} {R : Nat → Nat → Bool} (hp : knR B h k n R) (hn : n ≤ 10) (hR : rin R n) (ht : trR R) (ha : a < n) (hb : b < n) (hr : rm h 0) (hB : h.2.2.2.1 ≤ B) :
    ∃ h', fX9_tells k (nI a) (nI b) h = some (some k, h') ∧ stk (fun _ => False) B [100] 0 h h' ∧ knR B h' k n (tell R a b) := by
  obtain ⟨pb, pw, h1, h2, h3, hx⟩ := knR_X hp
  obtain ⟨h', e1, e2, e3⟩ := zk_tells0 hx hn hR ht ha hb hr (by omega) (by omega)
  refine ⟨h', e1, stk_w e2 (Nat.le_refl _) (fun x _ _ hk => ⟨fun e => ?_, .inr (fun h => nomatch h)⟩), knX_R e3 h1 h2 h3⟩
  obtain ⟨fb, fw, h4, h5, h6, h7, h8⟩ := hx
  rcases e with e | e
  · rw [e, h6] at hk
    rcases hk with hk | hk
    · omega
    · exact hk (by simp [kd])
  · rw [e, h7] at hk
    rcases hk with hk | hk
    · omega
    · exact hk (by simp [kd])
/-- nothing is known -/
theorem zk_new0 {h : gHp} {k n : Nat} (hx : h.1 k = some (.inr (7, [gq none, gq none, gi (nI 0)]))) (hr : rm h 22) (hB : h.2.2.2.1 ≤ k) :
    ∃ h' b w, fX9_init_2 k (nI n) h = some h' ∧ stk (fun a => a = k) 0 [] 22 h h' ∧ h.2.1 ≤ b ∧ h.2.1 ≤ w ∧ b ≠ w ∧ h'.1 k = some (.inr (7, [gq (some b), gq (some w), gi (nI n)])) ∧ h'.1 b = some (.inl (0, 10, .inl (fun _ => 0))) ∧ h'.1 w = some (.inl (0, 10, .inl (fun _ => 0))) := by
  have hks := rm_lt hr hx
  have w1 : gNewA h 0 (nI 10) = some (h.2.1, gpush h (.inl (0, gA0 0 10)) 10) := nA_ok hr (by omega) (by omega)
  have q1 : (gpush h (.inl (0, gA0 0 10)) 10).1 h.2.1 = some (.inl (0, 10, .inl (fun _ => 0))) := push_at _ _ _
  have s1 : stn 11 h (gpush h (.inl (0, gA0 0 10)) 10) := push_st hr
  have z1 : (gpush h (.inl (0, gA0 0 10)) 10).2.1 = h.2.1 + 1 := by rw [push_2]
  generalize gpush h (.inl (0, gA0 0 10)) 10 = g1 at w1 q1 s1 z1
  have r1 : rm g1 11 := rm_st hr s1 (by omega)
  have x1 := stn_keep hr s1 hx
  have w2 : gPq g1 (some k) 7 0 (some h.2.1) = some (gset g1 k (.inr (7, [gq (some h.2.1), gq none, gi (nI 0)]))) := gPq_o x1 (by rw [s1.2.2.1]; omega) (by simp)
  have x2 : (gset g1 k (.inr (7, [gq (some h.2.1), gq none, gi (nI 0)]))).1 k = some (.inr (7, [gq (some h.2.1), gq none, gi (nI 0)])) := set_at _ _ _
  have s2 : stk (fun a => a = k) 0 [] 0 g1 (gset g1 k (.inr (7, [gq (some h.2.1), gq none, gi (nI 0)]))) := set_st r1 x1 (.inl rfl)
  generalize gset g1 k (.inr (7, [gq (some h.2.1), gq none, gi (nI 0)])) = g2 at w2 x2 s2
  have r2 : rm g2 11 := rm_st r1 s2 (by omega)
  have z2 : h.2.1 + 1 ≤ g2.2.1 := by have := s2.1; omega
  have q2 := stk_keep r1 s2 q1 (show ¬ h.2.1 = k by omega) (.inr not_nil)
  have w3 : gNewA g2 0 (nI 10) = some (g2.2.1, gpush g2 (.inl (0, gA0 0 10)) 10) := nA_ok r2 (by omega) (by omega)
  have q3 : (gpush g2 (.inl (0, gA0 0 10)) 10).1 g2.2.1 = some (.inl (0, 10, .inl (fun _ => 0))) := push_at _ _ _
  have s3 : stn 11 g2 (gpush g2 (.inl (0, gA0 0 10)) 10) := push_st r2
  generalize gpush g2 (.inl (0, gA0 0 10)) 10 = g3 at w3 q3 s3
  have r3 : rm g3 0 := rm_st r2 s3 (by omega)
  have x3 := stn_keep r2 s3 x2
  have q23 := stn_keep r2 s3 q2
  have b3 : g3.2.2.2.1 = h.2.2.2.1 := by rw [s3.2.2.1, s2.2.2.1, s1.2.2.1]
  have w4 : gPq g3 (some k) 7 1 (some g2.2.1) = some (gset g3 k (.inr (7, [gq (some h.2.1), gq (some g2.2.1), gi (nI 0)]))) := gPq_o x3 (by omega) (by simp)
  have x4 : (gset g3 k (.inr (7, [gq (some h.2.1), gq (some g2.2.1), gi (nI 0)]))).1 k = some (.inr (7, [gq (some h.2.1), gq (some g2.2.1), gi (nI 0)])) := set_at _ _ _
  have s4 : stk (fun a => a = k) 0 [] 0 g3 (gset g3 k (.inr (7, [gq (some h.2.1), gq (some g2.2.1), gi (nI 0)]))) := set_st r3 x3 (.inl rfl)
  generalize gset g3 k (.inr (7, [gq (some h.2.1), gq (some g2.2.1), gi (nI 0)])) = g4 at w4 x4 s4
  have r4 : rm g4 0 := rm_st r3 s4 (by omega)
  have w5 : gPi g4 (some k) 7 2 (nI n) = some (gset g4 k (.inr (7, [gq (some h.2.1), gq (some g2.2.1), gi (nI n)]))) := gPi_o x4 (by rw [s4.2.2.1]; omega) (by simp)
  have s5 : stk (fun a => a = k) 0 [] 0 g4 (gset g4 k (.inr (7, [gq (some h.2.1), gq (some g2.2.1), gi (nI n)]))) := set_st r4 x4 (.inl rfl)
  have z4 := s3.1
  refine ⟨_, h.2.1, g2.2.1, (by simp only [fX9_init_2, il10, w1, bd2_s, w2, bd_s, w3, w4, w5]; try rfl), ?_, Nat.le_refl _, by omega, by omega, set_at _ _ _, ?_, ?_⟩
  · exact stk_c (stk_t (stk_t (stk_t (stk_t (stn_w s1 (Nat.le_refl _)) s2) (stn_w s3 (Nat.le_refl _))) s4) s5) (by omega)
  · rw [set_ne (by omega)]
    exact stk_keep r3 s4 q23 (show ¬ h.2.1 = k by omega) (.inr not_nil)
  · rw [set_ne (by omega)]
    exact stk_keep r3 s4 q3 (show ¬ g2.2.1 = k by omega) (.inr not_nil)
theorem zk_new {B : Nat} {h : gHp} {k n : Nat} (hx : h.1 k = some (.inr (7, [gq none, gq none, gi (nI 0)]))) (hBk : B ≤ k) (hr : rm h 22) (hB : h.2.2.2.1 ≤ B) :
    ∃ h', fX9_init_2 k (nI n) h = some h' ∧ stk (fun a => a = k) 0 [] 22 h h' ∧ knR B h' k n (fun _ _ => false) := by
  have hks := rm_lt hr hx
  obtain ⟨h', b, w, e1, e2, e3, e4, e5, e6, e7, e8⟩ := zk_new0 (n := n) hx hr (by omega)
  exact ⟨h', e1, e2, b, w, _, _, hBk, by omega, by omega, e5, e6, e7, e8, fun y _ => by show (0 : Int32) = _; rw [il0]; exact ms_empty.symm, fun x _ => by show (0 : Int32) = _; rw [il0]; exact ms_empty.symm⟩
