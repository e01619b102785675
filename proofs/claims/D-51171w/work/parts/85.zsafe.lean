/-! L2 SPEC: what the methods compare, and that they order -/
set_option maxRecDepth 100000
/-- a program compares two different ones below n, and its answer has a property -/
def sf (n : Nat) {α : Type} (p : sJd → sM α) (Q : α → Prop) : Prop := ∀ (J : sJd) (I : sJ → Prop) (E : sE → Prop),
  (∀ x y d s, x < n → y < n → x ≠ y → I s → match J x y d s with | .inl z => I z.2 | .inr z => E z.1 ∧ I z.2) →
  ∀ s, I s → match p J s with | .inl z => Q z.1 ∧ I z.2 | .inr z => E z.1 ∧ I z.2
theorem sf_ret {n : Nat} {α : Type} {v : α} {Q : α → Prop} (h : Q v) : sf n (fun _ => sret v) Q := fun _ _ _ _ _ hs => ⟨h, hs⟩
theorem sf_bd {n : Nat} {α β : Type} {p : sJd → sM α} {f : sJd → α → sM β} {P : α → Prop} {Q : β → Prop} (hp : sf n p P) (hf : ∀ v, P v → sf n (fun J => f J v) Q) : sf n (fun J => sbd (p J) (f J)) Q := by
  intro J I E hJ s hs
  have h1 := hp J I E hJ s hs
  show match sbd (p J) (f J) s with
    | .inl z => _
    | .inr z => _
  unfold sbd
  cases hz : p J s with
  | inl z =>
    rw [hz] at h1
    exact hf z.1 h1.1 J I E hJ z.2 h1.2
  | inr z =>
    rw [hz] at h1
    exact h1
theorem sf_J {n : Nat} {x y d : Nat} (hx : x < n) (hy : y < n) (hxy : x ≠ y) : sf n (fun J => J x y d) (fun _ => True) := by
  intro J I E hJ s hs
  have h1 := hJ x y d s hx hy hxy hs
  cases hz : J x y d s with
  | inl z => rw [hz] at h1; simp only [hz]; exact ⟨trivial, h1⟩
  | inr z => rw [hz] at h1; simp only [hz]; exact h1
theorem sf_w {n : Nat} {α : Type} {p : sJd → sM α} {P Q : α → Prop} (hp : sf n p P) (h : ∀ v, P v → Q v) : sf n p Q := by
  intro J I E hJ s hs
  have h1 := hp J I E hJ s hs
  cases hz : p J s with
  | inl z => rw [hz] at h1; exact ⟨h _ h1.1, h1.2⟩
  | inr z => rw [hz] at h1; exact h1
theorem sf_val {n : Nat} {α : Type} {p : sJd → sM α} {Q : α → Prop} (h : sf n p Q) {J : sJd} {s s' : sJ} {v : α} (e : p J s = .inl (v, s')) : Q v := by
  have h1 := h J (fun _ => True) (fun _ => True) (fun x y d s _ _ _ _ => by cases J x y d s <;> simp) s trivial
  rw [e] at h1
  exact h1.1
theorem sf_it {n : Nat} {α : Type} {c : Prop} [Decidable c] {p r : sJd → sM α} {Q : α → Prop} (hp : c → sf n p Q) (hr : ¬ c → sf n r Q) : sf n (fun J => if c then p J else r J) Q := by
  by_cases h : c
  · simp only [if_pos h]; exact hp h
  · simp only [if_neg h]; exact hr h
theorem getD_el {l : List Nat} {k d : Nat} (h : k < l.length) : l.getD k d = l[k] := by
  rw [List.getD_eq_getElem?_getD, List.getElem?_eq_getElem h]
  rfl
theorem getD_mem {l : List Nat} {k d : Nat} (h : k < l.length) : l.getD k d ∈ l := by
  rw [getD_el h]
  exact List.getElem_mem h
theorem sf_bin {n : Nat} {chain : List Nat} {item : Nat} (hc : ∀ x ∈ chain, x < n) (hi : item < n) (hn : item ∉ chain) : ∀ (f low high : Nat), low ≤ high → high ≤ chain.length → sf n (fun J => sbin J chain item f low high) (fun r => low ≤ r ∧ r ≤ high)
  | 0, low, high, h1, h2 => sf_ret ⟨Nat.le_refl _, h1⟩
  | f + 1, low, high, h1, h2 => by
    refine sf_it (fun hlt => ?_) (fun _ => sf_ret ⟨Nat.le_refl _, h1⟩)
    have hm : low + (high - low) / 2 < high := by omega
    have hmem : chain.getD (low + (high - low) / 2) 0 ∈ chain := getD_mem (by omega)
    refine sf_bd (sf_J hi (hc _ hmem) (fun e => hn (by rw [e]; exact hmem))) (fun v _ => ?_)
    refine sf_it (fun _ => ?_) (fun _ => ?_)
    · exact sf_w (sf_bin hc hi hn f low _ (by omega) (by omega)) (fun r hr => ⟨hr.1, by omega⟩)
    · exact sf_w (sf_bin hc hi hn f _ high (by omega) h2) (fun r hr => ⟨by omega, hr.2⟩)
theorem sf_put {n : Nat} {chain : List Nat} {frm item : Nat} (hc : ∀ x ∈ chain, x < n) (hi : item < n) (hn : item ∉ chain) (hf : frm ≤ chain.length) : sf n (fun J => sput J chain frm item) (fun c => c.Perm (item :: chain)) := by
  refine sf_bd (sf_bin hc hi hn _ _ _ hf (Nat.le_refl _)) (fun v hv => sf_ret ?_)
  refine List.perm_middle.trans ?_
  rw [List.take_append_drop]
theorem sf_half {n : Nat} : ∀ (r chain : List Nat), (∀ x ∈ chain ++ r, x < n) → (chain ++ r).Nodup → sf n (fun J => shalf J chain r) (fun c => c.Perm (chain ++ r))
  | [], chain, _, _ => sf_ret (by rw [List.append_nil])
  | x :: r, chain, h1, h2 => by
    have hp : (chain ++ x :: r).Perm ((x :: chain) ++ r) := List.perm_middle
    have hd := hp.nodup h2
    refine sf_bd (sf_put (fun y hy => h1 y (List.mem_append_left _ hy)) (h1 x (List.mem_append_right _ List.mem_cons_self)) (fun hx => ?_) (Nat.zero_le _)) (fun c hcp => ?_)
    · exact (List.nodup_cons.mp hd).1 (List.mem_append_left _ hx)
    · have hcr : (c ++ r).Perm (chain ++ x :: r) := (hcp.append_right r).trans hp.symm
      exact sf_w (sf_half r c (fun y hy => h1 y (hcr.mem_iff.mp hy)) (hcr.symm.nodup h2)) (fun z hz => hz.trans hcr)
theorem sf_mg {n : Nat} : ∀ (k : Nat) (acc A B : List Nat), (∀ x ∈ A ++ B, x < n) → (A ++ B).Nodup → sf n (fun J => smg J k acc A B) (fun c => c.Perm (acc ++ A ++ B))
  | 0, acc, A, B, _, _ => sf_ret (List.Perm.refl _)
  | k + 1, acc, [], B, _, _ => sf_ret (List.Perm.refl _)
  | k + 1, acc, x :: A, [], _, _ => sf_ret (List.Perm.refl _)
  | k + 1, acc, x :: A, y :: B, h1, h2 => by
    have hx : x < n := h1 x (List.mem_append_left _ List.mem_cons_self)
    have hy : y < n := h1 y (List.mem_append_right _ List.mem_cons_self)
    have hd := List.nodup_append.mp h2
    show sf n (fun J => sbd (J x y 3) (fun r => if r = true then smg J k (acc ++ [x]) A (y :: B) else smg J k (acc ++ [y]) (x :: A) B)) _
    refine sf_bd (sf_J hx hy (hd.2.2 x List.mem_cons_self y List.mem_cons_self)) (fun v _ => sf_it (fun _ => ?_) (fun _ => ?_))
    · refine sf_w (sf_mg k (acc ++ [x]) A (y :: B) (fun z hz => h1 z ?_) ?_) (fun z hz => hz.trans ?_)
      · exact List.mem_cons_of_mem x hz
      · exact (List.nodup_cons.mp (show (x :: (A ++ y :: B)).Nodup from h2)).2
      · rw [List.append_assoc acc]
        exact List.Perm.refl _
    · have hp : (A ++ y :: B).Perm (y :: (A ++ B)) := List.perm_middle
      have hp2 : (x :: A ++ y :: B).Perm (y :: (x :: A ++ B)) := List.perm_middle
      refine sf_w (sf_mg k (acc ++ [y]) (x :: A) B (fun z hz => h1 z (hp2.symm.mem_iff.mp (List.mem_cons_of_mem y hz))) (List.nodup_cons.mp (hp2.nodup h2)).2) (fun z hz => hz.trans ?_)
      rw [List.append_assoc acc, List.append_assoc acc, List.append_assoc acc]
      exact List.Perm.append_left acc hp2.symm
theorem sf_merges {n : Nat} : ∀ (f : Nat) (l : List Nat), (∀ x ∈ l, x < n) → l.Nodup → sf n (fun J => smerges J f l) (fun c => c.Perm l)
  | 0, l, _, _ => sf_ret (List.Perm.refl _)
  | f + 1, l, h1, h2 => by
    refine sf_it (fun _ => sf_ret (List.Perm.refl _)) (fun _ => ?_)
    have hl := List.take_append_drop ((l.length + 1) / 2) l
    have hd : (l.take ((l.length + 1) / 2) ++ l.drop ((l.length + 1) / 2)).Nodup := by rw [hl]; exact h2
    have hd' := List.nodup_append.mp hd
    refine sf_bd (sf_merges f _ (fun x hx => h1 x (List.mem_of_mem_take hx)) hd'.1) (fun A hA => ?_)
    refine sf_bd (sf_merges f _ (fun x hx => h1 x (List.mem_of_mem_drop hx)) hd'.2.1) (fun B hB => ?_)
    have hAB : (A ++ B).Perm l := by
      have := hA.append hB
      rw [hl] at this
      exact this
    exact sf_w (sf_mg _ _ A B (fun x hx => h1 x (hAB.mem_iff.mp hx)) (hAB.symm.nodup h2)) (fun z hz => hz.trans hAB)
theorem sf_pw {n : Nat} : ∀ (k : Nat) (l ws ls : List Nat), (∀ x ∈ l, x < n) → l.Nodup → 2 * k ≤ l.length → sf n (fun J => spw J k l ws ls) (fun p => p.1.length = ws.length + k ∧ p.2.length = ls.length + k ∧ (p.1 ++ p.2).Perm (ws ++ ls ++ l.take (2 * k)))
  | 0, l, ws, ls, _, _, _ => sf_ret ⟨rfl, rfl, by simp⟩
  | k + 1, [], ws, ls, _, _, h => absurd h (by simp)
  | k + 1, [x], ws, ls, _, _, h => absurd h (by simp; omega)
  | k + 1, x :: y :: r, ws, ls, h1, h2, h3 => by
    have hx : x < n := h1 x List.mem_cons_self
    have hy : y < n := h1 y (List.mem_cons_of_mem _ List.mem_cons_self)
    have hd := List.nodup_cons.mp h2
    have hd2 := List.nodup_cons.mp hd.2
    have hxy : x ≠ y := fun e => hd.1 (by rw [e]; exact List.mem_cons_self)
    show sf n (fun J => sbd (J x y 1) (fun w => spw J k r (ws ++ [if w = true then x else y]) (ls ++ [if w = true then y else x]))) _
    refine sf_bd (sf_J hx hy hxy) (fun v _ => ?_)
    refine sf_w (sf_pw k r _ _ (fun z hz => h1 z (List.mem_cons_of_mem _ (List.mem_cons_of_mem _ hz))) hd2.2 (by simp only [List.length_cons] at h3; omega)) (fun p hp => ?_)
    obtain ⟨p1, p2, p3⟩ := hp
    refine ⟨by rw [p1]; simp; omega, by rw [p2]; simp; omega, p3.trans ?_⟩
    rw [show 2 * (k + 1) = 2 * k + 1 + 1 by omega, List.take_succ_cons, List.take_succ_cons]
    generalize r.take (2 * k) = t
    have e1 : (ws ++ [if v = true then x else y] ++ (ls ++ [if v = true then y else x])).Perm (ws ++ ls ++ [x, y]) := by
      have e2 : (ws ++ [if v = true then x else y] ++ (ls ++ [if v = true then y else x])).Perm (ws ++ ls ++ [if v = true then x else y, if v = true then y else x]) := by
        rw [List.append_assoc, List.append_assoc]
        refine List.Perm.append_left ws ?_
        rw [← List.append_assoc, show [if v = true then x else y, if v = true then y else x] = [if v = true then x else y] ++ [if v = true then y else x] from rfl, ← List.append_assoc]
        exact List.Perm.append_right _ List.perm_append_comm
      refine e2.trans (List.Perm.append_left _ ?_)
      cases v
      · exact List.Perm.swap x y []
      · exact List.Perm.refl _
    have e3 := e1.append_right t
    rw [List.append_assoc (ws ++ ls)] at e3
    exact e3
/-- the item of a number, by which the losers come in -/
def sgk (half odd : Nat) (o ws ls : List Nat) (k : Nat) : Nat := if half < k then odd else ls.getD (ws.idxOf (o.getD (half - k) 0)) 0
theorem map_rng (o : List Nat) : (List.range' 1 o.length).map (fun k => o.getD (o.length - k) 0) = o.reverse := by
  refine List.ext_getElem (by simp) (fun i h1 h2 => ?_)
  rw [List.getElem_map, List.getElem_range', List.getElem_reverse]
  rw [List.length_map, List.length_range'] at h1
  rw [getD_el (by omega)]
  congr 1
  omega
theorem map_idx (ws ls : List Nat) (hd : ws.Nodup) (hl : ws.length = ls.length) : ws.map (fun w => ls.getD (ws.idxOf w) 0) = ls := by
  refine List.ext_getElem (by simp [hl]) (fun i h1 h2 => ?_)
  rw [List.getElem_map, hd.idxOf_getElem, getD_el h2]
theorem sgk_perm {half odd : Nat} {o ws ls : List Nat} (hw : ws.length = half) (hl : ls.length = half) (hd : ws.Nodup) (ho : o.Perm ws) : ((List.range' 1 half).map (sgk half odd o ws ls)).Perm ls := by
  have hol : o.length = half := ho.length_eq.trans hw
  have e1 : (List.range' 1 half).map (sgk half odd o ws ls) = o.reverse.map (fun w => ls.getD (ws.idxOf w) 0) := by
    rw [← map_rng o, List.map_map, hol]
    refine List.map_congr_left (fun k hk => ?_)
    have hk := List.mem_range'_1.mp hk
    unfold sgk
    rw [if_neg (by omega)]
    rfl
  rw [e1]
  have e2 := ((List.reverse_perm o).trans ho).map (fun w => ls.getD (ws.idxOf w) 0)
  rw [map_idx ws ls hd (hw.trans hl.symm)] at e2
  exact e2
theorem sf_ins {n half rest odd : Nat} {o ws ls l : List Nat} (hl : ∀ x ∈ l, x < n) (hd : l.Nodup) (hall : (o ++ (List.range' 1 rest).map (sgk half odd o ws ls)).Perm l) (hw : o.length = half) (hsub : ∀ x ∈ o, x ∈ ws) :
    ∀ (ks K chain : List Nat), (∀ k ∈ K ++ ks.filter (fun k => decide (k ≤ rest)), 1 ≤ k ∧ k ≤ rest) → (K ++ ks.filter (fun k => decide (k ≤ rest))).Nodup → chain.Perm (o ++ K.map (sgk half odd o ws ls)) →
      sf n (fun J => sins J half rest odd o ws ls chain ks) (fun c => c.Perm (o ++ (K ++ ks.filter (fun k => decide (k ≤ rest))).map (sgk half odd o ws ls)))
  | [], K, chain, _, _, hc => sf_ret (by rw [List.filter_nil, List.append_nil]; exact hc)
  | k :: ks, K, chain, hk, hkd, hc => by
    by_cases hkr : k ≤ rest
    · have hf : (k :: ks).filter (fun k => decide (k ≤ rest)) = k :: ks.filter (fun k => decide (k ≤ rest)) := by
        rw [List.filter_cons_of_pos (by simpa using hkr)]
      rw [hf] at hk hkd ⊢
      have hk1 : 1 ≤ k := (hk k (List.mem_append_right _ List.mem_cons_self)).1
      have hKd := List.nodup_append.mp hkd
      have hkK : k ∉ K := fun h => hKd.2.2 k h k List.mem_cons_self rfl
      -- all numbers to rest, once each
      have hall2 : (o ++ (List.range' 1 rest).map (sgk half odd o ws ls)).Nodup := hall.symm.nodup hd
      have hod := List.nodup_append.mp hall2
      have hrm : ∀ j, 1 ≤ j → j ≤ rest → j ∈ List.range' 1 rest := fun j h1 h2 => List.mem_range'_1.mpr ⟨h1, by omega⟩
      have hinj : ∀ i j, 1 ≤ i → i ≤ rest → 1 ≤ j → j ≤ rest → sgk half odd o ws ls i = sgk half odd o ws ls j → i = j := by
        intro i j hi1 hi2 hj1 hj2 he
        have hp := hod.2.1
        rw [List.nodup_iff_pairwise_ne, List.pairwise_iff_getElem] at hp
        have key : ∀ i j, 1 ≤ i → i < j → j ≤ rest → sgk half odd o ws ls i ≠ sgk half odd o ws ls j := by
          intro i j h1 h2 h3 h4
          have h5 := hp (i - 1) (j - 1) (by simp; omega) (by simp; omega) (by omega)
          simp only [List.getElem_map, List.getElem_range'] at h5
          rw [show 1 + 1 * (i - 1) = i by omega, show 1 + 1 * (j - 1) = j by omega] at h5
          exact h5 h4
        rcases Nat.lt_trichotomy i j with h | h | h
        · exact absurd he (key i j hi1 h hj2)
        · exact h
        · exact absurd he.symm (key j i hj1 h hi2)
      have hmem : ∀ x ∈ o ++ K.map (sgk half odd o ws ls), x ∈ l := by
        intro x hx
        refine hall.mem_iff.mp ?_
        rcases List.mem_append.mp hx with h | h
        · exact List.mem_append_left _ h
        · obtain ⟨j, hj, rfl⟩ := List.mem_map.mp h
          have := hk j (List.mem_append_left _ hj)
          exact List.mem_append_right _ (List.mem_map.mpr ⟨j, hrm j this.1 this.2, rfl⟩)
      have hgl : sgk half odd o ws ls k ∈ l := hall.mem_iff.mp (List.mem_append_right _ (List.mem_map.mpr ⟨k, hrm k hk1 hkr, rfl⟩))
      have hgc : sgk half odd o ws ls k ∉ chain := by
        intro h
        rcases List.mem_append.mp (hc.mem_iff.mp h) with h | h
        · exact hod.2.2 _ h _ (List.mem_map.mpr ⟨k, hrm k hk1 hkr, rfl⟩) rfl
        · obtain ⟨j, hj, he⟩ := List.mem_map.mp h
          have hj1 := hk j (List.mem_append_left _ hj)
          have := hinj j k hj1.1 hj1.2 hk1 hkr he
          exact hkK (this ▸ hj)
      have hcl : ∀ x ∈ chain, x < n := fun x hx => hl x (hmem x (hc.mem_iff.mp hx))
      have hnext : ∀ c : List Nat, c.Perm (sgk half odd o ws ls k :: chain) → sf n (fun J => sins J half rest odd o ws ls c ks) (fun c => c.Perm (o ++ (K ++ k :: ks.filter (fun k => decide (k ≤ rest))).map (sgk half odd o ws ls))) := by
        intro c hcp
        have e0 : K ++ k :: ks.filter (fun k => decide (k ≤ rest)) = (K ++ [k]) ++ ks.filter (fun k => decide (k ≤ rest)) := by simp
        rw [e0] at hk hkd ⊢
        refine sf_ins hl hd hall hw hsub ks (K ++ [k]) c hk hkd ?_
        refine hcp.trans ((hc.cons _).trans ?_)
        rw [List.map_append, ← List.append_assoc]
        exact (List.perm_append_singleton _ _).symm
      refine sf_bd (P := fun c => c.Perm (sgk half odd o ws ls k :: chain)) ?_ hnext
      refine sf_it (fun _ => sf_it (fun hlt => ?_) (fun hlt => ?_)) (fun h => absurd hkr h)
      · have e : sgk half odd o ws ls k = odd := by unfold sgk; rw [if_pos hlt]
        have h9 := sf_put (frm := 0) hcl (hl _ hgl) hgc (Nat.zero_le _)
        rw [e] at h9
        exact sf_w h9 (fun c hc => by rw [e]; exact hc)
      · have e : sgk half odd o ws ls k = ls.getD (ws.idxOf (o.getD (half - k) 0)) 0 := by unfold sgk; rw [if_neg hlt]
        have ho : o.getD (half - k) 0 ∈ chain := hc.symm.mem_iff.mp (List.mem_append_left _ (getD_mem (by omega)))
        have h9 := sf_put (frm := chain.idxOf (o.getD (half - k) 0) + 1) hcl (hl _ hgl) hgc (List.idxOf_lt_length_of_mem ho)
        rw [e] at h9
        exact sf_w h9 (fun c hc => by rw [e]; exact hc)
    · have hf : (k :: ks).filter (fun k => decide (k ≤ rest)) = ks.filter (fun k => decide (k ≤ rest)) := by
        rw [List.filter_cons_of_neg (by simpa using hkr)]
      rw [hf] at hk hkd ⊢
      refine sf_bd (P := fun c => c = chain) (sf_it (fun h => absurd h hkr) (fun _ => sf_ret rfl)) (fun c hcc => ?_)
      subst hcc
      exact sf_ins hl hd hall hw hsub ks K c hk hkd hc
theorem ks_ok : ∀ rest, rest < 6 → 1 ≤ rest → ([1] ++ [3, 2, 5, 4].filter (fun k => decide (k ≤ rest))).Perm (List.range' 1 rest) := by
  intro rest h1 h2
  rcases (show rest = 1 ∨ rest = 2 ∨ rest = 3 ∨ rest = 4 ∨ rest = 5 by omega) with rfl | rfl | rfl | rfl | rfl <;> decide
theorem sf_pairs {n : Nat} : ∀ (f : Nat) (l : List Nat), (∀ x ∈ l, x < n) → l.Nodup → l.length ≤ 10 → sf n (fun J => spairs J f l) (fun c => c.Perm l)
  | 0, l, _, _, _ => sf_ret (List.Perm.refl _)
  | f + 1, l, h1, h2, h3 => by
    refine sf_it (fun _ => sf_ret (List.Perm.refl _)) (fun hlen => ?_)
    refine sf_bd (sf_pw (l.length / 2) l [] [] h1 h2 (by omega)) (fun p hp => ?_)
    obtain ⟨p1, p2, p3⟩ := hp
    simp only [List.length_nil, Nat.zero_add, List.append_nil, List.nil_append] at p1 p2 p3
    have hsub : ∀ x ∈ p.1 ++ p.2, x ∈ l := fun x hx => List.mem_of_mem_take (p3.mem_iff.mp hx)
    have hnd : (p.1 ++ p.2).Nodup := p3.symm.nodup (h2.sublist (List.take_sublist _ _))
    have hnd' := List.nodup_append.mp hnd
    refine sf_bd (sf_pairs f p.1 (fun x hx => h1 x (hsub x (List.mem_append_left _ hx))) hnd'.1 (by omega)) (fun o ho => ?_)
    have hol : o.length = l.length / 2 := ho.length_eq.trans p1
    have hk := sgk_perm (odd := l.getD (l.length - 1) 0) p1 p2 hnd'.1 ho
    have hall : (o ++ (List.range' 1 (l.length - l.length / 2)).map (sgk (l.length / 2) (l.getD (l.length - 1) 0) o p.1 p.2)).Perm l := by
      have hop := ho.append hk
      by_cases hev : l.length - l.length / 2 = l.length / 2
      · rw [hev]
        refine (hop.trans p3).trans ?_
        rw [List.take_of_length_le (by omega)]
      · have hod : l.length - l.length / 2 = l.length / 2 + 1 := by omega
        rw [hod, List.range'_concat, List.map_append, ← List.append_assoc]
        have e1 : [1 + 1 * (l.length / 2)].map (sgk (l.length / 2) (l.getD (l.length - 1) 0) o p.1 p.2) = [l.getD (l.length - 1) 0] := by
          simp only [List.map_cons, List.map_nil]
          unfold sgk
          rw [if_pos (by omega)]
        rw [e1]
        refine ((hop.trans p3).append_right _).trans ?_
        have e2 : l.getD (l.length - 1) 0 = l[2 * (l.length / 2)]'(by omega) := by
          rw [getD_el (by omega)]
          congr 1
          omega
        rw [e2, List.take_append_getElem, List.take_of_length_le (by omega)]
    have hks := ks_ok (l.length - l.length / 2) (by omega) (by omega)
    have h1m : sgk (l.length / 2) (l.getD (l.length - 1) 0) o p.1 p.2 1 = p.2.getD (p.1.idxOf (o.getD (l.length / 2 - 1) 0)) 0 := by
      unfold sgk
      rw [if_neg (by omega)]
    refine sf_w (sf_ins h1 h2 hall hol (fun x hx => ho.mem_iff.mp hx) [3, 2, 5, 4] [1] _ (fun k hk => ?_) (hks.symm.nodup (List.nodup_range' (step := 1))) ?_) (fun c hc => hc.trans ?_)
    · have := List.mem_range'_1.mp (hks.mem_iff.mp hk)
      omega
    · rw [← h1m]
      exact List.Perm.refl _
    · exact (List.Perm.append_left o (hks.map _)).trans hall
theorem sf_go {n : Nat} (method : Nat) (hn : n ≤ 10) : sf n (fun J => sgo J method n) (fun c => c.Perm (List.range n)) := by
  have h1 : ∀ x ∈ List.range n, x < n := fun x hx => List.mem_range.mp hx
  refine sf_it (fun _ => ?_) (fun _ => sf_it (fun _ => ?_) (fun _ => ?_))
  · exact sf_pairs 6 _ h1 List.nodup_range (by rw [List.length_range]; exact hn)
  · have := sf_half (n := n) ((List.range n).drop 1) ((List.range n).take 1) (by rw [List.take_append_drop]; exact h1) (by rw [List.take_append_drop]; exact List.nodup_range)
    rw [List.take_append_drop] at this
    exact this
  · exact sf_merges 6 _ h1 List.nodup_range
/-- where a method stops, two different items stand -/
theorem sstop_ok {R : Nat → Nat → Bool} {method n a b d : Nat} (hn : n ≤ 10) (h : sstop R method n = some (a, b, d)) : a < n ∧ b < n ∧ a ≠ b ∧ R a b = false ∧ R b a = false := by
  have h1 := sf_go method hn (jd false (fun _ _ => false)) (fun s => s.1 = R) (fun e => e.1 < n ∧ e.2.1 < n ∧ e.1 ≠ e.2.1 ∧ R e.1 e.2.1 = false ∧ R e.2.1 e.1 = false) (fun x y d s hx hy hxy hs => by
    unfold jd
    by_cases hu : s.1 x y = false ∧ s.1 y x = false
    · simp only [if_pos hu, Bool.false_eq_true, if_false]
      rw [hs] at hu
      exact ⟨⟨hx, hy, hxy, hu.1, hu.2⟩, hs⟩
    · simp only [if_neg hu]
      exact hs) (R, 0, 0) rfl
  unfold sstop at h
  cases hz : sgo (jd false (fun _ _ => false)) method n (R, 0, 0) with
  | inl z => rw [hz] at h; cases h
  | inr z =>
    rw [hz] at h
    simp only [hz] at h1
    have hz1 : z.1 = (a, b, d) := Option.some.inj h
    have h2 := h1.1
    rw [hz1] at h2
    exact h2
