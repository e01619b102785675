/-! L2 SPEC: orders, what is known by answers, the methods of sorting as pure programs -/
set_option maxRecDepth 100000
def trR (R : Nat → Nat → Bool) : Prop := ∀ x y z, R x y = true → R y z = true → R x z = true
def ordR (R : Nat → Nat → Bool) : Prop := (∀ x, R x x = false) ∧ trR R
theorem ordR_as {R : Nat → Nat → Bool} (h : ordR R) {x y : Nat} (hxy : R x y = true) : R y x = false := by
  cases hyx : R y x with
  | false => rfl
  | true => rw [← h.1 x, h.2 x y x hxy hyx]
theorem tell_iff {R : Nat → Nat → Bool} {a b x y : Nat} : tell R a b x y = true ↔ R x y = true ∨ ((x = a ∨ R x a = true) ∧ (y = b ∨ R b y = true)) := by
  unfold tell
  rw [Bool.or_eq_true, Bool.and_eq_true, Bool.or_eq_true, Bool.or_eq_true, beq_iff_eq, beq_iff_eq]
theorem tell_mono {R : Nat → Nat → Bool} {a b x y : Nat} (h : R x y = true) : tell R a b x y = true := tell_iff.mpr (.inl h)
theorem tell_self (R : Nat → Nat → Bool) (a b : Nat) : tell R a b a b = true := tell_iff.mpr (.inr ⟨.inl rfl, .inl rfl⟩)
theorem tell_tr {R : Nat → Nat → Bool} {a b : Nat} (h : trR R) : trR (tell R a b) := by
  intro x y z h1 h2
  rw [tell_iff] at h1 h2 ⊢
  rcases h1 with h1 | ⟨h1, h1'⟩
  · rcases h2 with h2 | ⟨h2, h2'⟩
    · exact .inl (h x y z h1 h2)
    · refine .inr ⟨.inr ?_, h2'⟩
      rcases h2 with h2 | h2
      · rw [← h2]; exact h1
      · exact h x y a h1 h2
  · rcases h2 with h2 | ⟨h2, h2'⟩
    · refine .inr ⟨h1, .inr ?_⟩
      rcases h1' with h3 | h3
      · rw [← h3]; exact h2
      · exact h b y z h3 h2
    · exact .inr ⟨h1, h2'⟩
theorem tell_ord {R : Nat → Nat → Bool} {a b : Nat} (h : ordR R) (hab : a ≠ b) (hba : R b a = false) : ordR (tell R a b) := by
  refine ⟨fun x => ?_, tell_tr h.2⟩
  cases hx : tell R a b x x with
  | false => rfl
  | true =>
    exfalso
    rw [tell_iff] at hx
    rcases hx with h1 | ⟨h1 | h1, h2 | h2⟩
    · rw [h.1 x] at h1; cases h1
    · exact hab (h1.symm.trans h2)
    · rw [h1, hba] at h2; cases h2
    · rw [h2, hba] at h1; cases h1
    · have := h.2 b x a h2 h1
      rw [hba] at this; cases this
theorem tell_known {R : Nat → Nat → Bool} {a b : Nat} (h : trR R) (hab : R a b = true) : tell R a b = R := by
  funext x y
  cases hR : R x y with
  | true => exact tell_mono hR
  | false =>
    cases hT : tell R a b x y with
    | false => rfl
    | true =>
      rw [tell_iff, hR] at hT
      rcases hT with h1 | ⟨h1, h2⟩
      · cases h1
      · have h3 : R x b = true := by
          rcases h1 with h1 | h1
          · rw [h1]; exact hab
          · exact h x a b h1 hab
        have h4 : R x y = true := by
          rcases h2 with h2 | h2
          · rw [h2]; exact h3
          · exact h x b y h3 h2
        rw [hR] at h4; cases h4
theorem tell_le {R Q : Nat → Nat → Bool} {a b : Nat} (hQ : trR Q) (h : ∀ x y, R x y = true → Q x y = true) (hab : Q a b = true) : ∀ x y, tell R a b x y = true → Q x y = true := by
  intro x y hT
  rw [tell_iff] at hT
  rcases hT with h1 | ⟨h1, h2⟩
  · exact h x y h1
  · have h3 : Q x b = true := by
      rcases h1 with h1 | h1
      · rw [h1]; exact hab
      · exact hQ x a b (h x a h1) hab
    rcases h2 with h2 | h2
    · rw [h2]; exact h3
    · exact hQ x b y h3 (h b y h2)
def knF (R : Nat → Nat → Bool) (l : List (Nat × Nat)) : Nat → Nat → Bool := l.foldl (fun R p => tell R p.1 p.2) R
/-- what is known by answers -/
def kn (l : List (Nat × Nat)) : Nat → Nat → Bool := knF (fun _ _ => false) l
theorem kn_nil : kn [] = fun _ _ => false := rfl
theorem kn_snoc (l : List (Nat × Nat)) (a b : Nat) : kn (l ++ [(a, b)]) = tell (kn l) a b := by
  unfold kn knF
  rw [List.foldl_append]
  rfl
theorem knF_tr {l : List (Nat × Nat)} : ∀ {R : Nat → Nat → Bool}, trR R → trR (knF R l) := by
  induction l with
  | nil => intro R h; exact h
  | cons p l ih => intro R h; exact ih (tell_tr h)
theorem kn_tr (l : List (Nat × Nat)) : trR (kn l) := knF_tr (fun _ _ _ h => by cases h)
theorem knF_in {n : Nat} {l : List (Nat × Nat)} : ∀ {R : Nat → Nat → Bool}, rin R n → (∀ p ∈ l, p.1 < n ∧ p.2 < n) → rin (knF R l) n := by
  induction l with
  | nil => intro R h _; exact h
  | cons p l ih => intro R h hl; exact ih (tell_in h (hl p List.mem_cons_self).1 (hl p List.mem_cons_self).2) (fun q hq => hl q (List.mem_cons_of_mem _ hq))
theorem kn_in {n : Nat} {l : List (Nat × Nat)} (h : ∀ p ∈ l, p.1 < n ∧ p.2 < n) : rin (kn l) n := knF_in (fun _ _ h => by cases h) h
theorem knF_le {Q : Nat → Nat → Bool} (hQ : trR Q) {l : List (Nat × Nat)} : ∀ {R : Nat → Nat → Bool}, (∀ x y, R x y = true → Q x y = true) → (∀ p ∈ l, Q p.1 p.2 = true) → ∀ x y, knF R l x y = true → Q x y = true := by
  induction l with
  | nil => intro R h _; exact h
  | cons p l ih => intro R h hl; exact ih (tell_le hQ h (hl p List.mem_cons_self)) (fun q hq => hl q (List.mem_cons_of_mem _ hq))
theorem kn_le {Q : Nat → Nat → Bool} (hQ : trR Q) {l : List (Nat × Nat)} (h : ∀ p ∈ l, Q p.1 p.2 = true) : ∀ x y, kn l x y = true → Q x y = true := knF_le hQ (fun _ _ h => by cases h) h
theorem knF_mono {l : List (Nat × Nat)} : ∀ {R : Nat → Nat → Bool} {x y : Nat}, R x y = true → knF R l x y = true := by
  induction l with
  | nil => intro R x y h; exact h
  | cons p l ih => intro R x y h; exact ih (tell_mono h)
theorem knF_has {l : List (Nat × Nat)} : ∀ {R : Nat → Nat → Bool} {p : Nat × Nat}, p ∈ l → knF R l p.1 p.2 = true := by
  induction l with
  | nil => intro R p h; cases h
  | cons q l ih =>
    intro R p h
    rcases List.mem_cons.mp h with rfl | h
    · exact knF_mono (R := tell R p.1 p.2) (tell_self R p.1 p.2)
    · exact ih h
theorem kn_has {l : List (Nat × Nat)} {p : Nat × Nat} (h : p ∈ l) : kn l p.1 p.2 = true := knF_has h
theorem kn_sub {l l' : List (Nat × Nat)} (h : ∀ p ∈ l', p ∈ l) : ∀ x y, kn l' x y = true → kn l x y = true := kn_le (kn_tr l) (fun p hp => kn_has (h p hp))
theorem kn_ord_sub {l l' : List (Nat × Nat)} (h : ∀ p ∈ l', p ∈ l) (ho : ordR (kn l)) : ordR (kn l') := by
  refine ⟨fun x => ?_, kn_tr l'⟩
  cases hx : kn l' x x with
  | false => rfl
  | true =>
    have := kn_sub h x x hx
    rw [ho.1 x] at this
    cases this
/-! programs that ask a judge -/
/-- what is known, comparisons, asked -/
abbrev sJ : Type := (Nat → Nat → Bool) × Nat × Nat
abbrev sE : Type := Nat × Nat × Nat
abbrev sM (α : Type) : Type := sJ → (α × sJ) ⊕ (sE × sJ)
def sret {α : Type} (a : α) : sM α := fun s => .inl (a, s)
def sbd {α β : Type} (x : sM α) (f : α → sM β) : sM β := fun s => match x s with
  | .inl r => f r.1 r.2
  | .inr e => .inr e
abbrev sJd : Type := Nat → Nat → Nat → sM Bool
/-- the judge: asking (by worth), or stopping at what isn't known -/
def jd (k : Bool) (W : Nat → Nat → Bool) : sJd := fun a b d s =>
  if s.1 a b = false ∧ s.1 b a = false then
    (if k = true then .inl ((if W a b = true then tell s.1 a b else tell s.1 b a) a b, (if W a b = true then tell s.1 a b else tell s.1 b a), s.2.1 + 1, s.2.2 + 1) else .inr ((a, b, d), s))
  else .inl (s.1 a b, s.1, s.2.1 + 1, s.2.2)
def sbin (J : sJd) (chain : List Nat) (item : Nat) : Nat → Nat → Nat → sM Nat
  | 0, low, _ => sret low
  | f + 1, low, high => if low < high then sbd (J item (chain.getD (low + (high - low) / 2) 0) 2) (fun r => if r = true then sbin J chain item f low (low + (high - low) / 2) else sbin J chain item f (low + (high - low) / 2 + 1) high) else sret low
def sput (J : sJd) (chain : List Nat) (frm item : Nat) : sM (List Nat) := sbd (sbin J chain item (chain.length + 1) frm chain.length) (fun low => sret (chain.take low ++ item :: chain.drop low))
def shalf (J : sJd) : List Nat → List Nat → sM (List Nat)
  | chain, [] => sret chain
  | chain, x :: r => sbd (sput J chain 0 x) (fun c => shalf J c r)
def smg (J : sJd) : Nat → List Nat → List Nat → List Nat → sM (List Nat)
  | 0, acc, A, B => sret (acc ++ A ++ B)
  | n + 1, acc, A, B => match A, B with
    | a :: A', b :: B' => sbd (J a b 3) (fun r => if r = true then smg J n (acc ++ [a]) A' (b :: B') else smg J n (acc ++ [b]) (a :: A') B')
    | A, B => sret (acc ++ A ++ B)
def smerges (J : sJd) : Nat → List Nat → sM (List Nat)
  | 0, l => sret l
  | f + 1, l => if l.length < 2 then sret l else sbd (smerges J f (l.take ((l.length + 1) / 2))) (fun A => sbd (smerges J f (l.drop ((l.length + 1) / 2))) (fun B => smg J (A.length + B.length) [] A B))
def spw (J : sJd) : Nat → List Nat → List Nat → List Nat → sM (List Nat × List Nat)
  | 0, _, ws, ls => sret (ws, ls)
  | n + 1, l, ws, ls => match l with
    | a :: b :: r => sbd (J a b 1) (fun w => spw J n r (ws ++ [if w = true then a else b]) (ls ++ [if w = true then b else a]))
    | _ => sret (ws, ls)
/-- one loser (or the odd item) comes in -/
def sIn (J : sJd) (half rest odd : Nat) (o ws ls chain : List Nat) (k : Nat) : sM (List Nat) :=
  if k ≤ rest then (if half < k then sput J chain 0 odd else sput J chain (chain.idxOf (o.getD (half - k) 0) + 1) (ls.getD (ws.idxOf (o.getD (half - k) 0)) 0)) else sret chain
def sins (J : sJd) (half rest odd : Nat) (o ws ls : List Nat) : List Nat → List Nat → sM (List Nat)
  | chain, [] => sret chain
  | chain, k :: ks => sbd (sIn J half rest odd o ws ls chain k) (fun c => sins J half rest odd o ws ls c ks)
def spairs (J : sJd) : Nat → List Nat → sM (List Nat)
  | 0, l => sret l
  | f + 1, l => if l.length < 2 then sret l else sbd (spw J (l.length / 2) l [] []) (fun p => sbd (spairs J f p.1) (fun o =>
      sins J (l.length / 2) (l.length - l.length / 2) (l.getD (l.length - 1) 0) o p.1 p.2 (o ++ [p.2.getD (p.1.idxOf (o.getD (l.length / 2 - 1) 0)) 0]) [3, 2, 5, 4]))
/-- the order of n items by a method -/
def sgo (J : sJd) (method n : Nat) : sM (List Nat) := if method = 0 then spairs J 6 (List.range n) else if method = 1 then shalf J ((List.range n).take 1) ((List.range n).drop 1) else smerges J 6 (List.range n)
/-! the same program under three judges: one that stops at (a, b), one that asks, one that knows the answer to (a, b) beforehand -/
section R3
def ph1 (R R' : Nat → Nat → Bool) (q : Nat) (s0 s1 s2 : sJ) : Prop := s0.1 = R ∧ s1.1 = R ∧ s2.1 = R' ∧ s1.2.2 = q ∧ s2.2.2 = q
def ph2 (s1 s2 : sJ) : Prop := s1.1 = s2.1 ∧ s1.2.2 = s2.2.2 + 1
def rl3 (W R R' : Nat → Nat → Bool) (a b q : Nat) {α : Type} (p : sJd → sM α) : Prop :=
  (∀ s0 s1 s2, ph1 R R' q s0 s1 s2 → match p (jd false W) s0 with
    | .inl z => ∃ s1' s2', p (jd true W) s1 = .inl (z.1, s1') ∧ p (jd true W) s2 = .inl (z.1, s2') ∧ ph1 R R' q z.2 s1' s2'
    | .inr z => z.1.1 = a → z.1.2.1 = b → ∃ v s1' s2', p (jd true W) s1 = .inl (v, s1') ∧ p (jd true W) s2 = .inl (v, s2') ∧ ph2 s1' s2') ∧
  (∀ s1 s2, ph2 s1 s2 → ∃ v s1' s2', p (jd true W) s1 = .inl (v, s1') ∧ p (jd true W) s2 = .inl (v, s2') ∧ ph2 s1' s2')
theorem rl3_ret {W R R' : Nat → Nat → Bool} {a b q : Nat} {α : Type} (v : α) : rl3 W R R' a b q (fun _ => sret v) :=
  ⟨fun s0 s1 s2 h => ⟨s1, s2, rfl, rfl, h⟩, fun s1 s2 h => ⟨v, s1, s2, rfl, rfl, h⟩⟩
theorem rl3_bd {W R R' : Nat → Nat → Bool} {a b q : Nat} {α β : Type} {p : sJd → sM α} {f : sJd → α → sM β} (hp : rl3 W R R' a b q p) (hf : ∀ v, rl3 W R R' a b q (fun J => f J v)) : rl3 W R R' a b q (fun J => sbd (p J) (f J)) := by
  refine ⟨fun s0 s1 s2 h => ?_, fun s1 s2 h => ?_⟩
  · have h1 := hp.1 s0 s1 s2 h
    show match sbd (p (jd false W)) (f (jd false W)) s0 with
      | .inl z => _
      | .inr z => _
    unfold sbd
    cases hz : p (jd false W) s0 with
    | inl z =>
      rw [hz] at h1
      obtain ⟨s1', s2', e1, e2, h2⟩ := h1
      have h3 := (hf z.1).1 z.2 s1' s2' h2
      simp only [e1, e2]
      exact h3
    | inr z =>
      rw [hz] at h1
      intro ha hb
      obtain ⟨v, s1', s2', e1, e2, h2⟩ := h1 ha hb
      obtain ⟨w, s1'', s2'', e3, e4, h3⟩ := (hf v).2 s1' s2' h2
      exact ⟨w, s1'', s2'', by simp only [e1]; exact e3, by simp only [e2]; exact e4, h3⟩
  · obtain ⟨v, s1', s2', e1, e2, h2⟩ := hp.2 s1 s2 h
    obtain ⟨w, s1'', s2'', e3, e4, h3⟩ := (hf v).2 s1' s2' h2
    exact ⟨w, s1'', s2'', by unfold sbd; simp only [e1]; exact e3, by unfold sbd; simp only [e2]; exact e4, h3⟩
theorem jd_stop {W : Nat → Nat → Bool} {a b d : Nat} {s : sJ} (hu : s.1 a b = false ∧ s.1 b a = false) : jd false W a b d s = .inr ((a, b, d), s) := by
  unfold jd
  rw [if_pos hu]
  rfl
theorem jd_ask {W : Nat → Nat → Bool} {a b d : Nat} {s : sJ} (hu : s.1 a b = false ∧ s.1 b a = false) : jd true W a b d s = .inl ((if W a b = true then tell s.1 a b else tell s.1 b a) a b, (if W a b = true then tell s.1 a b else tell s.1 b a), s.2.1 + 1, s.2.2 + 1) := by
  unfold jd
  rw [if_pos hu]
  rfl
theorem jd_known {k : Bool} {W : Nat → Nat → Bool} {a b d : Nat} {s : sJ} (hu : ¬ (s.1 a b = false ∧ s.1 b a = false)) : jd k W a b d s = .inl (s.1 a b, s.1, s.2.1 + 1, s.2.2) := by
  unfold jd
  rw [if_neg hu]
theorem rl3_J {W R R' : Nat → Nat → Bool} {a b q : Nat} (hR' : R' = if W a b = true then tell R a b else tell R b a) (ho : ordR R') (x y d : Nat) : rl3 W R R' a b q (fun J => J x y d) := by
  have hsub : ∀ u v, R u v = true → R' u v = true := fun u v h => by
    rw [hR']
    split <;> exact tell_mono h
  have hkn : R' a b = true ∨ R' b a = true := by
    rw [hR']
    split
    · exact .inl (tell_self _ _ _)
    · exact .inr (tell_self _ _ _)
  refine ⟨?_, ?_⟩
  · rintro ⟨R0, c0, q0⟩ ⟨R1, c1, q1⟩ ⟨R2, c2, q2⟩ ⟨h0, h1, h2, h3, h4⟩
    simp only at h0 h1 h2 h3 h4
    subst R0 R1 R2 q1 q2
    by_cases hu : R x y = false ∧ R y x = false
    · simp only [jd_stop (s := (R, c0, q0)) hu]
      rintro rfl rfl
      have hn : ¬ (R' x y = false ∧ R' y x = false) := by
        rintro ⟨h5, h6⟩
        rcases hkn with h7 | h7
        · rw [h5] at h7; cases h7
        · rw [h6] at h7; cases h7
      have e2 : jd true W x y d (R', c2, q) = .inl ((if W x y = true then tell R x y else tell R y x) x y, R', c2 + 1, q) := by rw [jd_known (s := (R', c2, q)) hn, ← hR']
      exact ⟨_, _, _, jd_ask (s := (R, c1, q)) hu, e2, hR'.symm, rfl⟩
    · have hn : ¬ (R' x y = false ∧ R' y x = false) := by
        rintro ⟨h5, h6⟩
        refine hu ⟨?_, ?_⟩
        · cases h7 : R x y with
          | false => rfl
          | true => rw [hsub x y h7] at h5; cases h5
        · cases h7 : R y x with
          | false => rfl
          | true => rw [hsub y x h7] at h6; cases h6
      have he : R' x y = R x y := by
        cases h5 : R x y with
        | true => exact hsub x y h5
        | false =>
          cases h6 : R y x with
          | false => exact absurd ⟨h5, h6⟩ hu
          | true => exact ordR_as ho (hsub y x h6)
      simp only [jd_known (s := (R, c0, q0)) hu]
      have e2 : jd true W x y d (R', c2, q) = .inl (R x y, R', c2 + 1, q) := by rw [jd_known (s := (R', c2, q)) hn]; show Sum.inl (R' x y, _) = _; rw [he]
      exact ⟨_, _, jd_known (s := (R, c1, q)) hu, e2, rfl, rfl, rfl, rfl, rfl⟩
  · rintro ⟨R1, c1, q1⟩ ⟨R2, c2, q2⟩ ⟨h1, h2⟩
    simp only at h1 h2
    subst R1 q1
    by_cases hu : R2 x y = false ∧ R2 y x = false
    · exact ⟨_, _, _, jd_ask (s := (R2, c1, q2 + 1)) hu, jd_ask (s := (R2, c2, q2)) hu, rfl, rfl⟩
    · exact ⟨_, _, _, jd_known (s := (R2, c1, q2 + 1)) hu, jd_known (s := (R2, c2, q2)) hu, rfl, rfl⟩
theorem rl3_it {W R R' : Nat → Nat → Bool} {a b q : Nat} {α : Type} {c : Prop} [Decidable c] {p r : sJd → sM α} (hp : rl3 W R R' a b q p) (hr : rl3 W R R' a b q r) : rl3 W R R' a b q (fun J => if c then p J else r J) := by
  by_cases h : c
  · simp only [if_pos h]; exact hp
  · simp only [if_neg h]; exact hr
theorem rl3_bin {W R R' : Nat → Nat → Bool} {a b q : Nat} (hJ : ∀ x y d, rl3 W R R' a b q (fun J => J x y d)) (chain : List Nat) (item : Nat) : ∀ (f low high : Nat), rl3 W R R' a b q (fun J => sbin J chain item f low high)
  | 0, low, high => rl3_ret low
  | f + 1, low, high => by
    refine rl3_it (c := low < high) (rl3_bd (hJ _ _ _) (fun v => ?_)) (rl3_ret low)
    exact rl3_it (rl3_bin hJ chain item f _ _) (rl3_bin hJ chain item f _ _)
theorem rl3_put {W R R' : Nat → Nat → Bool} {a b q : Nat} (hJ : ∀ x y d, rl3 W R R' a b q (fun J => J x y d)) (chain : List Nat) (frm item : Nat) : rl3 W R R' a b q (fun J => sput J chain frm item) :=
  rl3_bd (rl3_bin hJ chain item _ _ _) (fun v => rl3_ret _)
theorem rl3_half {W R R' : Nat → Nat → Bool} {a b q : Nat} (hJ : ∀ x y d, rl3 W R R' a b q (fun J => J x y d)) : ∀ (r chain : List Nat), rl3 W R R' a b q (fun J => shalf J chain r)
  | [], chain => rl3_ret chain
  | x :: r, chain => rl3_bd (rl3_put hJ chain 0 x) (fun c => rl3_half hJ r c)
theorem rl3_mg {W R R' : Nat → Nat → Bool} {a b q : Nat} (hJ : ∀ x y d, rl3 W R R' a b q (fun J => J x y d)) : ∀ (n : Nat) (acc A B : List Nat), rl3 W R R' a b q (fun J => smg J n acc A B)
  | 0, acc, A, B => rl3_ret _
  | n + 1, acc, [], B => rl3_ret _
  | n + 1, acc, x :: A, [] => rl3_ret _
  | n + 1, acc, x :: A, y :: B => by
    show rl3 W R R' a b q (fun J => sbd (J x y 3) (fun r => if r = true then smg J n (acc ++ [x]) A (y :: B) else smg J n (acc ++ [y]) (x :: A) B))
    exact rl3_bd (hJ x y 3) (fun v => rl3_it (rl3_mg hJ n _ _ _) (rl3_mg hJ n _ _ _))
theorem rl3_merges {W R R' : Nat → Nat → Bool} {a b q : Nat} (hJ : ∀ x y d, rl3 W R R' a b q (fun J => J x y d)) : ∀ (f : Nat) (l : List Nat), rl3 W R R' a b q (fun J => smerges J f l)
  | 0, l => rl3_ret l
  | f + 1, l => rl3_it (c := l.length < 2) (rl3_ret l) (rl3_bd (rl3_merges hJ f _) (fun A => rl3_bd (rl3_merges hJ f _) (fun B => rl3_mg hJ _ _ _ _)))
theorem rl3_pw {W R R' : Nat → Nat → Bool} {a b q : Nat} (hJ : ∀ x y d, rl3 W R R' a b q (fun J => J x y d)) : ∀ (n : Nat) (l ws ls : List Nat), rl3 W R R' a b q (fun J => spw J n l ws ls)
  | 0, l, ws, ls => rl3_ret (ws, ls)
  | n + 1, [], ws, ls => rl3_ret (ws, ls)
  | n + 1, [x], ws, ls => rl3_ret (ws, ls)
  | n + 1, x :: y :: r, ws, ls => by
    show rl3 W R R' a b q (fun J => sbd (J x y 1) (fun w => spw J n r (ws ++ [if w = true then x else y]) (ls ++ [if w = true then y else x])))
    exact rl3_bd (hJ x y 1) (fun w => rl3_pw hJ n r _ _)
theorem rl3_ins {W R R' : Nat → Nat → Bool} {a b q : Nat} (hJ : ∀ x y d, rl3 W R R' a b q (fun J => J x y d)) (half rest odd : Nat) (o ws ls : List Nat) : ∀ (ks chain : List Nat), rl3 W R R' a b q (fun J => sins J half rest odd o ws ls chain ks)
  | [], chain => rl3_ret chain
  | k :: ks, chain => rl3_bd (rl3_it (c := k ≤ rest) (rl3_it (c := half < k) (rl3_put hJ _ _ _) (rl3_put hJ _ _ _)) (rl3_ret chain)) (fun c => rl3_ins hJ half rest odd o ws ls ks c)
theorem rl3_pairs {W R R' : Nat → Nat → Bool} {a b q : Nat} (hJ : ∀ x y d, rl3 W R R' a b q (fun J => J x y d)) : ∀ (f : Nat) (l : List Nat), rl3 W R R' a b q (fun J => spairs J f l)
  | 0, l => rl3_ret l
  | f + 1, l => rl3_it (c := l.length < 2) (rl3_ret l) (rl3_bd (rl3_pw hJ _ _ _ _) (fun p => rl3_bd (rl3_pairs hJ f _) (fun o => rl3_ins hJ _ _ _ _ _ _ _ _)))
theorem rl3_go {W R R' : Nat → Nat → Bool} {a b q : Nat} (hJ : ∀ x y d, rl3 W R R' a b q (fun J => J x y d)) (method n : Nat) : rl3 W R R' a b q (fun J => sgo J method n) :=
  rl3_it (rl3_pairs hJ _ _) (rl3_it (rl3_half hJ _ _) (rl3_merges hJ _ _))
/-- what is asked by a method, from what is known -/
def sasks (W R : Nat → Nat → Bool) (method n : Nat) : Nat := match sgo (jd true W) method n (R, 0, 0) with
  | .inl z => z.2.2.2
  | .inr z => z.2.2.2
/-- where a method stops -/
def sstop (R : Nat → Nat → Bool) (method n : Nat) : Option sE := match sgo (jd false (fun _ _ => false)) method n (R, 0, 0) with
  | .inl _ => none
  | .inr z => some z.1
theorem jd_W (W W' : Nat → Nat → Bool) : jd false W = jd false W' := rfl
theorem sasks_stop {W R R' : Nat → Nat → Bool} {method n a b d : Nat} (hs : sstop R method n = some (a, b, d)) (hR' : R' = if W a b = true then tell R a b else tell R b a) (ho : ordR R') : sasks W R method n = sasks W R' method n + 1 := by
  have h := (rl3_go (W := W) (R := R) (q := 0) (rl3_J hR' ho) method n).1 (R, 0, 0) (R, 0, 0) (R', 0, 0) ⟨rfl, rfl, rfl, rfl, rfl⟩
  unfold sstop at hs
  rw [jd_W _ W] at hs
  cases hz : sgo (jd false W) method n (R, 0, 0) with
  | inl z => rw [hz] at hs; cases hs
  | inr z =>
    rw [hz] at hs
    simp only [hz] at h
    have hz1 : z.1 = (a, b, d) := Option.some.inj hs
    obtain ⟨v, s1', s2', e1, e2, -, h2⟩ := h (by rw [hz1]) (by rw [hz1])
    unfold sasks
    rw [e1, e2]
    exact h2
theorem sasks_none {W R : Nat → Nat → Bool} {method n N : Nat} (hs : sstop R method n = none) (ho : ordR R) (hin : rin R N) : sasks W R method n = 0 := by
  obtain ⟨R', hR'⟩ : ∃ R', R' = if W N (N + 1) = true then tell R N (N + 1) else tell R (N + 1) N := ⟨_, rfl⟩
  have ho' : ordR R' := by
    rw [hR']
    split
    · exact tell_ord ho (by omega) (rin_f hin (by omega))
    · exact tell_ord ho (by omega) (rin_f hin (by omega))
  have h := (rl3_go (W := W) (R := R) (q := 0) (rl3_J hR' ho') method n).1 (R, 0, 0) (R, 0, 0) (R', 0, 0) ⟨rfl, rfl, rfl, rfl, rfl⟩
  unfold sstop at hs
  rw [jd_W _ W] at hs
  cases hz : sgo (jd false W) method n (R, 0, 0) with
  | inr z => rw [hz] at hs; cases hs
  | inl z =>
    simp only [hz] at h
    obtain ⟨s1', s2', e1, -, h2⟩ := h
    unfold sasks
    rw [e1]
    exact h2.2.2.2.1
end R3
