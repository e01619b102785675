/-! L2 BASE: how the printed functions run; loops; numbers and sets of bits -/
set_option maxRecDepth 100000
/-- (not by rfl: so that the kernel need not find it again) -/
theorem nrfl {α : Type} {a b : α} (h : a = b) : a = b := by
  cases h
  exact Eq.refl _
theorem bd_s {α β : Type} (v : β) (k : β → Option α) : bd (some v) k = k v := nrfl rfl
theorem bd2_s {α β γ : Type} (a : β) (b : γ) (k : β → γ → Option α) : bd2 (some (a, b)) k = k a b := nrfl rfl
theorem nm_s {α β : Type} (x : β) (k : β → Option α) : nm x k = k x := nrfl rfl
theorem ap2_s {α β γ : Type} (a : β) (b : γ) (k : β → γ → α) : ap2 (a, b) k = k a b := nrfl rfl
theorem gEl_i {α β γ : Type} (a : β) (f : β → α) (g : γ → α) : gEl (.inl a : β ⊕ γ) f g = f a := nrfl rfl
theorem gEl_e {α β γ : Type} (b : γ) (f : β → α) (g : γ → α) : gEl (.inr b : β ⊕ γ) f g = g b := nrfl rfl
/-- a loop with a counter: k rounds are done; at most N rounds go on -/
theorem zb_lp {σ ε : Type} {B : σ → Option (σ ⊕ ε)} (P : Nat → σ → Prop) (Q : ε → Prop) (N : Nat) (hN : N < 4096)
    (hs : ∀ k t, k ≤ N → P k t → (k < N ∧ ∃ t', B t = some (.inl t') ∧ P (k + 1) t') ∨ (∃ e, B t = some (.inr e) ∧ Q e)) {t0 : σ} (h0 : P 0 t0) : ∃ e, lp B 4096 t0 = some e ∧ Q e := by
  have H : ∀ (n k : Nat) (t : σ), N + 1 ≤ k + n → k ≤ N → P k t → ∃ e, lp B n t = some e ∧ Q e := by
    intro n
    induction n with
    | zero => intro k t h1 h2; omega
    | succ n ih =>
      intro k t h1 h2 hp
      rcases hs k t h2 hp with ⟨hk, t', e1, hp'⟩ | ⟨e, e1, hq⟩
      · obtain ⟨e, e2, hq⟩ := ih (k + 1) t' (by omega) (by omega) hp'
        exact ⟨e, by rw [lp, e1]; exact e2, hq⟩
      · exact ⟨e, by rw [lp, e1], hq⟩
  exact H 4096 0 t0 (by omega) (by omega) h0
/-- a loop whose states are known -/
theorem zb_for {σ ε : Type} {B : σ → Option (σ ⊕ ε)} (st : Nat → σ) (N : Nat) (e : ε) (hN : N < 4096) (hs : ∀ k, k < N → B (st k) = some (.inl (st (k + 1)))) (he : B (st N) = some (.inr e)) : lp B 4096 (st 0) = some e := by
  obtain ⟨e', h1, h2⟩ := zb_lp (B := B) (fun k t => t = st k) (fun e' => e' = e) N hN (fun k t hk ht => by
    subst ht
    by_cases h : k < N
    · exact .inl ⟨h, _, hs k h, rfl⟩
    · have : k = N := by omega
      subst this
      exact .inr ⟨e, he, rfl⟩) (t0 := st 0) rfl
  rw [h1, h2]
/-- the first place of those below n with a property -/
def fi (p : Nat → Bool) : Nat → Option Nat
  | 0 => none
  | n + 1 => match fi p n with
    | some k => some k
    | none => if p n = true then some n else none
theorem fi_none {p : Nat → Bool} : ∀ {n : Nat}, fi p n = none ↔ ∀ k, k < n → p k = false
  | 0 => ⟨fun _ k h => absurd h (Nat.not_lt_zero k), fun _ => rfl⟩
  | n + 1 => by
    have ih := fi_none (p := p) (n := n)
    unfold fi
    cases hf : fi p n with
    | some j =>
      refine ⟨fun h => (by cases h), fun h => ?_⟩
      have := ih.mpr (fun k hk => h k (by omega))
      rw [hf] at this
      cases this
    | none =>
      have h1 := ih.mp hf
      cases hp : p n with
      | true =>
        simp only [if_true]
        refine ⟨fun h => (by cases h), fun h => ?_⟩
        have := h n (by omega)
        rw [hp] at this
        cases this
      | false =>
        simp only [Bool.false_eq_true, if_false, true_iff]
        intro k hk
        by_cases hkn : k < n
        · exact h1 k hkn
        · have : k = n := by omega
          subst this
          exact hp
theorem fi_some {p : Nat → Bool} : ∀ {n j : Nat}, fi p n = some j ↔ j < n ∧ p j = true ∧ ∀ k, k < j → p k = false
  | 0, j => ⟨fun h => (by cases h), fun h => (by omega)⟩
  | n + 1, j => by
    have ih := fi_some (p := p) (n := n) (j := j)
    unfold fi
    cases hf : fi p n with
    | some i =>
      have hi := (fi_some (p := p) (n := n) (j := i)).mp hf
      refine ⟨fun h => ?_, fun h => ?_⟩
      · cases h
        exact ⟨by omega, hi.2⟩
      · have h1 : ¬ j < i := fun hh => by rw [hi.2.2 j hh] at h; exact absurd h.2.1 (by simp)
        have h2 : ¬ i < j := fun hh => by
          have := h.2.2 i hh
          rw [hi.2.1] at this
          cases this
        have : i = j := by omega
        rw [this]
    | none =>
      have h1 := fi_none.mp hf
      cases hp : p n with
      | true =>
        simp only [if_true]
        refine ⟨fun h => ?_, fun h => ?_⟩
        · cases h
          exact ⟨by omega, hp, h1⟩
        · by_cases hj : j < n
          · rw [h1 j hj] at h
            exact absurd h.2.1 (by simp)
          · have : n = j := by omega
            rw [this]
      | false =>
        simp only [Bool.false_eq_true, if_false]
        refine ⟨fun h => (by cases h), fun h => ?_⟩
        by_cases hj : j < n
        · rw [h1 j hj] at h
          exact absurd h.2.1 (by simp)
        · have : n = j := by omega
          subst this
          rw [hp] at h
          exact absurd h.2.1 (by simp)
theorem fi_congr {p q : Nat → Bool} : ∀ {n : Nat}, (∀ k, k < n → p k = q k) → fi p n = fi q n
  | 0, _ => rfl
  | n + 1, h => by
    unfold fi
    rw [fi_congr (n := n) (fun k hk => h k (by omega)), h n (by omega)]
/-- a sum below n -/
def sm (f : Nat → Nat) : Nat → Nat
  | 0 => 0
  | n + 1 => sm f n + f n
theorem sm_congr {f g : Nat → Nat} : ∀ {n : Nat}, (∀ k, k < n → f k = g k) → sm f n = sm g n
  | 0, _ => rfl
  | n + 1, h => by
    unfold sm
    rw [sm_congr (n := n) (fun k hk => h k (by omega)), h n (by omega)]
theorem sm_le {f g : Nat → Nat} : ∀ {n : Nat}, (∀ k, k < n → f k ≤ g k) → sm f n ≤ sm g n
  | 0, _ => Nat.le_refl _
  | n + 1, h => Nat.add_le_add (sm_le (n := n) (fun k hk => h k (by omega))) (h n (by omega))
theorem sm_const (c : Nat) : ∀ n, sm (fun _ => c) n = n * c
  | 0 => by simp [sm]
  | n + 1 => by
    unfold sm
    rw [sm_const c n, Nat.succ_mul]
theorem sm_bound {f : Nat → Nat} {c n : Nat} (h : ∀ k, k < n → f k ≤ c) : sm f n ≤ n * c := by
  rw [← sm_const c n]
  exact sm_le h
theorem sm_add (f g : Nat → Nat) : ∀ n, sm (fun k => f k + g k) n = sm f n + sm g n
  | 0 => rfl
  | n + 1 => by
    unfold sm
    rw [sm_add f g n]
    omega
theorem sm_zero {f : Nat → Nat} {n : Nat} (h : ∀ k, k < n → f k = 0) : sm f n = 0 := by
  rw [sm_congr (g := fun _ => 0) h, sm_const, Nat.mul_zero]
theorem sm_swap (f : Nat → Nat → Nat) (m : Nat) : ∀ n, sm (fun i => sm (fun j => f i j) m) n = sm (fun j => sm (fun i => f i j) n) m
  | 0 => by
    rw [sm_zero (f := fun j => sm (fun i => f i j) 0) (fun _ _ => rfl)]
    rfl
  | n + 1 => by
    show sm (fun i => sm (fun j => f i j) m) n + sm (fun j => f n j) m = _
    rw [sm_swap f m n, ← sm_add]
    rfl
/-- a boolean as the machine has it -/
def bI (p : Bool) : Int32 := nI p.toNat
theorem bI_t : bI true = nI 1 := rfl
theorem bI_f : bI false = nI 0 := rfl
theorem bI_0 {p : Bool} : bI p = nI 0 ↔ p = false := by cases p <;> decide
theorem bI_1 {p : Bool} : bI p = nI 1 ↔ p = true := by cases p <;> decide
theorem bI_ite {c : Prop} [Decidable c] : (if c then nI 1 else nI 0) = bI (decide c) := by by_cases h : c <;> simp [h, bI]
theorem bI_itn {c : Prop} [Decidable c] : (if c then nI 0 else nI 1) = bI (!decide c) := by by_cases h : c <;> simp [h, bI]
theorem gRz_b (p : Bool) : gRz (bI p) = some (bI p) := by cases p <;> rfl
theorem gRz_0 : gRz (nI 0) = some (nI 0) := rfl
theorem gRz_1 : gRz (nI 1) = some (nI 1) := rfl
theorem gfz_b (p : Bool) : gfz (bI p) = true := by cases p <;> rfl
/-- a place, or -1 -/
def oI (o : Option Nat) : Int32 := match o with
  | some k => nI k
  | none => -nI 1
theorem oI_n : oI none = -nI 1 := rfl
theorem oI_s (k : Nat) : oI (some k) = nI k := rfl
theorem zb_m1 : (-nI 1).toInt = -1 := by decide
theorem zb_nm1 {k : Nat} (h : k < 2 ^ 31) : (nI k = -nI 1) = False := by
  refine eq_false (fun e => ?_)
  have := congrArg Int32.toInt e
  rw [nI_toInt h, zb_m1] at this
  omega
theorem zb_m1n {k : Nat} (h : k < 2 ^ 31) : (-nI 1 = nI k) = False := by
  refine eq_false (fun e => ?_)
  have := congrArg Int32.toInt e
  rw [nI_toInt h, zb_m1] at this
  omega
theorem oI_m1 {o : Option Nat} (h : ∀ k, o = some k → k < 2 ^ 31) : (oI o = -nI 1) = (o = none) := by
  cases o with
  | none => simp [oI]
  | some k =>
    rw [oI_s, zb_nm1 (h k rfl)]
    simp
theorem zb_le {a b : Nat} (ha : a < 2 ^ 31) (hb : b < 2 ^ 31) : (nI a ≤ nI b) = (a ≤ b) := propext (nI_leI ha hb)
theorem zb_lt {a b : Nat} (ha : a < 2 ^ 31) (hb : b < 2 ^ 31) : (nI a < nI b) = (a < b) := propext (nI_ltI ha hb)
theorem zb_eq {a b : Nat} (ha : a < 2 ^ 31) (hb : b < 2 ^ 31) : (nI a = nI b) = (a = b) := propext (nI_eq ha hb)
theorem zb_add (a b : Nat) : nI a + nI b = nI (a + b) := nI_add a b
theorem zb_mul (a b : Nat) : nI a * nI b = nI (a * b) := pk_mul a b
theorem zb_sub {a b : Nat} (h : b ≤ a) : nI a - nI b = nI (a - b) := pk_sub h
theorem zb_dec {a : Nat} (h : 1 ≤ a) : nI a + -nI 1 = nI (a - 1) := by
  obtain ⟨k, rfl⟩ : ∃ k, a = k + 1 := ⟨a - 1, by omega⟩
  exact pk_m1 k
theorem zb_div {a d : Nat} (ha : a < 2 ^ 31) (h0 : 0 < d) (hd : d < 2 ^ 31) : gidiv (nI a) (nI d) = some (nI (a / d)) := by
  unfold gidiv
  rw [if_neg (nI_ne0 h0 hd), pk_div ha h0 hd]
theorem zb_rem {a d : Nat} (ha : a < 2 ^ 31) (h0 : 0 < d) (hd : d < 2 ^ 31) : girem (nI a) (nI d) = some (nI (a % d)) := by
  unfold girem
  rw [if_neg (nI_ne0 h0 hd), pk_rem ha h0 hd]
theorem zb_gin {k n : Nat} (h : k < n) (hk : k < 2 ^ 31) : gin (nI k) n = true := by
  unfold gin
  rw [nI_clamp hk]
  simp [nI_pos hk, h]
theorem zb_cl {k : Nat} (hk : k < 2 ^ 31) : (nI k).toNatClampNeg = k := nI_clamp hk
theorem zb_ti {k : Nat} (hk : k < 2 ^ 31) : (nI k).toInt = (k : Int) := nI_toInt hk
theorem zb_tl (x : Int32) : (Int32.toInt64 x).toInt = x.toInt := Int32.toInt_toInt64 x
/-- an int within bounds -/
def iN (x : Int32) (a b : Int) : Bool := decide (a ≤ x.toInt ∧ x.toInt ≤ b)
theorem iN_n {k : Nat} (hk : k < 2 ^ 31) {a b : Int} : iN (nI k) a b = decide (a ≤ (k : Int) ∧ (k : Int) ≤ b) := by unfold iN; rw [nI_toInt hk]
theorem iN_of {x : Int32} {b : Int} (h : iN x 0 b = true) (hb : b < 2147483648) : ∃ k : Nat, x = nI k ∧ (k : Int) ≤ b ∧ k < 2 ^ 31 := by
  unfold iN at h
  have h := of_decide_eq_true h
  have h0 : ¬ x < 0 := by
    rw [Int32.lt_iff_toInt_lt]
    show ¬ x.toInt < 0
    omega
  obtain ⟨j, hj, rfl⟩ := nI_of h0
  refine ⟨j, rfl, ?_, hj⟩
  rw [nI_toInt hj] at h
  omega
theorem zb_lti {x y : Int32} : (x < y) = (x.toInt < y.toInt) := propext Int32.lt_iff_toInt_lt
theorem zb_lei {x y : Int32} : (x ≤ y) = (x.toInt ≤ y.toInt) := propext Int32.le_iff_toInt_le
theorem zb_in1 (x a b : Int32) (h : gHp) : fX1_in x a b h = some (bI (iN x a.toInt b.toInt), h) := by
  unfold fX1_in iN
  simp only [zb_lti]
  by_cases h1 : x.toInt < a.toInt
  · rw [if_pos h1, decide_eq_false (by omega)]
    rfl
  · rw [if_neg h1]
    by_cases h2 : b.toInt < x.toInt
    · rw [if_pos h2, decide_eq_false (by omega)]
      rfl
    · rw [if_neg h2, decide_eq_true (by omega)]
      rfl
theorem zb_lcmp_lt (a b : Int64) : (glc a b < 0) = (a.toInt < b.toInt) := by
  unfold glc lg_cmp
  simp only [gt_iff_lt, Int64.lt_iff_toInt_lt]
  refine propext ?_
  by_cases h1 : b.toInt < a.toInt
  · rw [if_pos h1]
    exact ⟨fun h => absurd h (by decide), fun h => (by omega)⟩
  · rw [if_neg h1]
    by_cases h2 : a = b
    · subst h2
      rw [if_pos rfl]
      exact ⟨fun h => absurd h (by decide), fun h => (by omega)⟩
    · rw [if_neg h2]
      have : a.toInt ≠ b.toInt := fun e => h2 (Int64.toInt_inj.mp e)
      exact ⟨fun _ => by omega, fun _ => by decide⟩
theorem zb_lcmp_gt (a b : Int64) : (0 < glc a b) = (b.toInt < a.toInt) := by
  unfold glc lg_cmp
  simp only [gt_iff_lt, Int64.lt_iff_toInt_lt]
  refine propext ?_
  by_cases h1 : b.toInt < a.toInt
  · rw [if_pos h1]
    exact ⟨fun _ => h1, fun _ => by decide⟩
  · rw [if_neg h1]
    by_cases h2 : a = b
    · rw [if_pos h2]
      exact ⟨fun h => absurd h (by decide), fun h => absurd h h1⟩
    · rw [if_neg h2]
      exact ⟨fun h => absurd h (by decide), fun h => absurd h h1⟩
theorem zb_in2 (x a b : Int64) (h : gHp) : fX2_in x a b h = some (bI (decide (a.toInt ≤ x.toInt ∧ x.toInt ≤ b.toInt)), h) := by
  unfold fX2_in
  simp only [zb_lcmp_lt, zb_lcmp_gt]
  by_cases h1 : x.toInt < a.toInt
  · rw [if_pos h1, decide_eq_false (by omega)]
    rfl
  · rw [if_neg h1]
    by_cases h2 : b.toInt < x.toInt
    · rw [if_pos h2, decide_eq_false (by omega)]
      rfl
    · rw [if_neg h2, decide_eq_true (by omega)]
      rfl
/-! sets of bits -/
def bs (p : Nat → Bool) : Nat → Nat
  | 0 => 0
  | n + 1 => bs p n ||| (if p n = true then 2 ^ n else 0)
theorem bs_tb (p : Nat → Bool) : ∀ (n i : Nat), (bs p n).testBit i = (decide (i < n) && p i)
  | 0, i => by simp [bs]
  | n + 1, i => by
    unfold bs
    rw [Nat.testBit_or, bs_tb p n i]
    by_cases hi : i = n
    · subst hi
      cases hp : p i <;> simp [Nat.testBit_two_pow]
    · have h1 : (if p n = true then 2 ^ n else 0).testBit i = false := by
        split
        · rw [Nat.testBit_two_pow]
          exact decide_eq_false (fun e => hi e.symm)
        · exact Nat.zero_testBit i
      rw [h1, Bool.or_false]
      congr 1
      exact decide_eq_decide.mpr (by omega)
theorem bs_lt (p : Nat → Bool) (n : Nat) : bs p n < 2 ^ n := by
  refine Nat.lt_pow_two_of_testBit _ (fun i hi => ?_)
  rw [bs_tb, decide_eq_false (by omega)]
  rfl
theorem bs_congr {p q : Nat → Bool} {n : Nat} (h : ∀ k, k < n → p k = q k) : bs p n = bs q n := by
  refine Nat.eq_of_testBit_eq (fun i => ?_)
  rw [bs_tb, bs_tb]
  by_cases hi : i < n
  · rw [h i hi]
  · rw [decide_eq_false hi]
    rfl
theorem bs_of {S n : Nat} (h : S < 2 ^ n) : bs S.testBit n = S := by
  refine Nat.eq_of_testBit_eq (fun i => ?_)
  rw [bs_tb]
  by_cases hi : i < n
  · rw [decide_eq_true hi]
    rfl
  · rw [decide_eq_false hi, Nat.testBit_lt_two_pow (Nat.lt_of_lt_of_le h (Nat.pow_le_pow_right (by decide) (by omega)))]
    rfl
theorem zb_sh : ∀ n, n < 32 → ((nI n &&& nI 31).toBitVec.smod 32).toNat = n := by decide +kernel
theorem zb_bit {S k : Nat} (hS : S < 2 ^ 31) (hk : k < 32) : (nI S >>> (nI k &&& nI 31)) &&& nI 1 = bI (S.testBit k) := by
  rw [pk_shrN hS _ k (zb_sh k hk), pk_andN (Nat.lt_of_le_of_lt (Nat.div_le_self _ _) (by omega)) 1 (by decide), Nat.testBit_eq_decide_div_mod_eq]
  unfold bI
  congr 1
  have : S / 2 ^ k % 2 < 2 := Nat.mod_lt _ (by decide)
  by_cases h : S / 2 ^ k % 2 = 1
  · rw [decide_eq_true h, Nat.pow_one, h]
    rfl
  · rw [decide_eq_false h, Nat.pow_one]
    show _ = 0
    omega
theorem zb_shl {k : Nat} (hk : k < 31) : nI 1 <<< (nI k &&& nI 31) = nI (2 ^ k) := by
  have h1 : 2 ^ k < 2 ^ 32 := Nat.pow_lt_pow_right (by decide) (by omega)
  rw [pk_shlN (nI k &&& nI 31) k (zb_sh k (by omega)) (by rw [Nat.one_mul]; exact h1), Nat.one_mul]
theorem zb_tb (n : Nat) : (nI n).toBitVec = BitVec.ofNat 32 n := rfl
theorem zb_or (a b : Nat) : nI a ||| nI b = nI (a ||| b) := by
  refine Int32.toBitVec_inj.mp ?_
  rw [Int32.toBitVec_or, zb_tb, zb_tb, zb_tb]
  refine BitVec.eq_of_toNat_eq ?_
  rw [BitVec.toNat_or, BitVec.toNat_ofNat, BitVec.toNat_ofNat, BitVec.toNat_ofNat, Nat.or_mod_two_pow]
theorem zb_and (a b : Nat) : nI a &&& nI b = nI (a &&& b) := by
  refine Int32.toBitVec_inj.mp ?_
  rw [Int32.toBitVec_and, zb_tb, zb_tb, zb_tb]
  refine BitVec.eq_of_toNat_eq ?_
  rw [BitVec.toNat_and, BitVec.toNat_ofNat, BitVec.toNat_ofNat, BitVec.toNat_ofNat, Nat.and_mod_two_pow]
/-- a set of items below 10 -/
def ms (p : Nat → Bool) : Int32 := nI (bs p 10)
theorem ms_def (p : Nat → Bool) : ms p = nI (bs p 10) := rfl
theorem bs10 (p : Nat → Bool) : bs p 10 < 1024 := bs_lt p 10
theorem ms_congr {p q : Nat → Bool} (h : ∀ k, k < 10 → p k = q k) : ms p = ms q := congrArg nI (bs_congr h)
theorem ms_bit {p : Nat → Bool} {k : Nat} (hk : k < 10) : (ms p >>> (nI k &&& nI 31)) &&& nI 1 = bI (p k) := by
  have := bs10 p
  rw [ms_def, zb_bit (by omega) (by omega), bs_tb, decide_eq_true hk]
  rfl
theorem ms_or (p q : Nat → Bool) : ms p ||| ms q = ms (fun k => p k || q k) := by
  rw [ms_def, ms_def, zb_or]
  refine congrArg nI (Nat.eq_of_testBit_eq (fun i => ?_))
  rw [Nat.testBit_or, bs_tb, bs_tb, bs_tb]
  cases decide (i < 10) <;> simp
theorem ms_one {k : Nat} (hk : k < 10) : nI (2 ^ k) = ms (fun j => j == k) := by
  refine congrArg nI (Nat.eq_of_testBit_eq (fun i => ?_))
  rw [Nat.testBit_two_pow, bs_tb]
  by_cases h : k = i
  · subst h
    simp [hk]
  · rw [decide_eq_false h]
    have : (i == k) = false := by simpa using fun e => h e.symm
    rw [this, Bool.and_false]
theorem ms_zero {p : Nat → Bool} : ms p = nI 0 ↔ ∀ k, k < 10 → p k = false := by
  have h0 := bs10 p
  rw [ms_def, nI_eq (by omega) (by omega)]
  refine ⟨fun h k hk => ?_, fun h => ?_⟩
  · have h1 := bs_tb p 10 k
    rw [h, Nat.zero_testBit, decide_eq_true hk] at h1
    simpa using h1.symm
  · refine Nat.eq_of_testBit_eq (fun i => ?_)
    rw [bs_tb, Nat.zero_testBit]
    by_cases hi : i < 10
    · rw [h i hi, Bool.and_false]
    · rw [decide_eq_false hi]
      rfl
theorem ms_empty : ms (fun _ => false) = nI 0 := ms_zero.mpr (fun _ _ => rfl)
/-- the number of a set's items -/
def cn (S : Nat) : Nat := sm (fun k => (S.testBit k).toNat) 10
theorem cn_le (S : Nat) : cn S ≤ 10 := by
  have := sm_bound (f := fun k => (S.testBit k).toNat) (c := 1) (n := 10) (fun k _ => Bool.toNat_le _)
  exact this
theorem zb_bc0 : ∀ S, S < 1024 → (fJ19_bitCount (nI S) ((fun _ => none), 0, 0, 0, (fun _ => none))).map (·.1) = some (nI (cn S)) := by decide +kernel
theorem zb_bcm (x : Int32) (h h' : gHp) : (fJ19_bitCount x h).map (·.1) = (fJ19_bitCount x h').map (·.1) := rfl
theorem zb_bch (x : Int32) (h : gHp) : ∃ v, fJ19_bitCount x h = some (v, h) := ⟨_, rfl⟩
theorem zb_bc {S : Nat} (hS : S < 1024) (h : gHp) : fJ19_bitCount (nI S) h = some (nI (cn S), h) := by
  obtain ⟨v, hv⟩ := zb_bch (nI S) h
  have h1 := zb_bc0 S hS
  rw [zb_bcm _ _ h, hv] at h1
  rw [hv]
  have h2 : v = nI (cn S) := Option.some.inj h1
  rw [h2]
theorem cn_bs (p : Nat → Bool) : cn (bs p 10) = sm (fun k => (p k).toNat) 10 := by
  refine sm_congr (fun k hk => ?_)
  rw [bs_tb, decide_eq_true hk]
  rfl
