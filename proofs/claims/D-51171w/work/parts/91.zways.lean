/-! L2 WAYS: in how many ways sets can come first, and what is left can follow -/
set_option maxRecDepth 100000
def itr {α : Type} (f : Nat → α → α) : Nat → α → α
  | 0, a => a
  | k + 1, a => f k (itr f k a)
/-- whether an item can come next behind a set -/
def canC (R : Nat → Nat → Bool) (n S x : Nat) : Bool := !(S.testBit x) && decide (∀ y, y < n → R y x = true → S.testBit y = true)
theorem canC_bit {R : Nat → Nat → Bool} {n S x : Nat} (h : canC R n S x = true) : S.testBit x = false := by
  unfold canC at h
  rw [Bool.and_eq_true] at h
  simpa using h.1
theorem or_ne {S x : Nat} (h : S.testBit x = false) : S ||| 2 ^ x ≠ S := by
  intro e
  have h1 : (S ||| 2 ^ x).testBit x = true := by rw [Nat.testBit_or, Nat.testBit_two_pow_self, Bool.or_true]
  rw [e, h] at h1
  cases h1
theorem or_lt {S x n : Nat} (hS : S < 2 ^ n) (hx : x < n) : S ||| 2 ^ x < 2 ^ n := Nat.or_lt_two_pow hS (Nat.pow_lt_pow_right (by decide) hx)
def wstep (can : Nat → Nat → Bool) (S x : Nat) (w : Nat → Int32) : Nat → Int32 := if can S x = true then upd w (S ||| 2 ^ x) (w (S ||| 2 ^ x) + w S) else w
def wrow (n : Nat) (can : Nat → Nat → Bool) (S : Nat) (w : Nat → Int32) : Nat → Int32 := if w S ≤ nI 0 then w else itr (wstep can S) n w
def wall (n : Nat) (can : Nat → Nat → Bool) (k : Nat) (w : Nat → Int32) : Nat → Int32 := itr (wrow n can) k w
def rstep (can : Nat → Nat → Bool) (S x : Nat) (r : Nat → Int32) : Nat → Int32 := if can S x = true then upd r S (r S + r (S ||| 2 ^ x)) else r
def rall (n : Nat) (can : Nat → Nat → Bool) (k : Nat) (r : Nat → Int32) : Nat → Int32 := itr (fun j r => itr (rstep can (2 ^ n - 2 - j)) n r) k r
def waysV (n : Nat) (can : Nat → Nat → Bool) : Nat → Int32 := wall n can (2 ^ n) (fun S => if S = 0 then nI 1 else nI 0)
def restsV (n : Nat) (can : Nat → Nat → Bool) : Nat → Int32 := rall n can (2 ^ n - 1) (fun S => if S = 2 ^ n - 1 then nI 1 else nI 0)
theorem wstep_t {can : Nat → Nat → Bool} {S x : Nat} {w : Nat → Int32} (h : can S x = true) : wstep can S x w = upd w (S ||| 2 ^ x) (w (S ||| 2 ^ x) + w S) := if_pos h
theorem wstep_f {can : Nat → Nat → Bool} {S x : Nat} {w : Nat → Int32} (h : can S x = false) : wstep can S x w = w := if_neg (by rw [h]; simp)
theorem rstep_t {can : Nat → Nat → Bool} {S x : Nat} {w : Nat → Int32} (h : can S x = true) : rstep can S x w = upd w S (w S + w (S ||| 2 ^ x)) := if_pos h
theorem rstep_f {can : Nat → Nat → Bool} {S x : Nat} {w : Nat → Int32} (h : can S x = false) : rstep can S x w = w := if_neg (by rw [h]; simp)
theorem itr_S {R : Nat → Nat → Bool} {n S : Nat} {w : Nat → Int32} : ∀ x, itr (wstep (canC R n) S) x w S = w S
  | 0 => rfl
  | x + 1 => by
    show wstep (canC R n) S x (itr (wstep (canC R n) S) x w) S = w S
    unfold wstep
    split
    · rename_i h
      rw [pk_un (fun e => or_ne (canC_bit h) e.symm)]
      exact itr_S x
    · exact itr_S x
/-- two that agree below M, do so on -/
theorem itr_ag {M : Nat} {f : Nat → (Nat → Int32) → (Nat → Int32)} {N : Nat} (hf : ∀ k, k < N → ∀ a b : Nat → Int32, (∀ S, S < M → a S = b S) → ∀ S, S < M → f k a S = f k b S) : ∀ k, k ≤ N → ∀ a b : Nat → Int32, (∀ S, S < M → a S = b S) → ∀ S, S < M → itr f k a S = itr f k b S
  | 0, _, _, _, h => h
  | k + 1, hk, a, b, h => hf k (by omega) _ _ (itr_ag hf k (by omega) a b h)
theorem upd_ag {M i : Nat} {a b : Nat → Int32} {x y : Int32} (h : ∀ S, S < M → a S = b S) (hxy : i < M → x = y) : ∀ S, S < M → upd a i x S = upd b i y S := by
  intro S hS
  by_cases e : S = i
  · subst e
    rw [pk_us, pk_us, hxy hS]
  · rw [pk_un e, pk_un e, h S hS]
theorem wrow_ag {n : Nat} {can : Nat → Nat → Bool} {S : Nat} (hS : S < 2 ^ n) {a b : Nat → Int32} (h : ∀ T, T < 2 ^ n → a T = b T) : ∀ T, T < 2 ^ n → wrow n can S a T = wrow n can S b T := by
  unfold wrow
  rw [h S hS]
  split
  · exact h
  · refine itr_ag (N := n) (fun x hx a b hab => ?_) n (Nat.le_refl _) a b h
    unfold wstep
    split
    · exact upd_ag hab (fun hlt => by rw [hab _ hlt, hab S hS])
    · exact hab
theorem wall_ag {n : Nat} {can : Nat → Nat → Bool} {a b : Nat → Int32} (h : ∀ T, T < 2 ^ n → a T = b T) : ∀ T, T < 2 ^ n → wall n can (2 ^ n) a T = wall n can (2 ^ n) b T :=
  itr_ag (N := 2 ^ n) (fun S hS _ _ hab => wrow_ag hS hab) _ (Nat.le_refl _) a b h
theorem rall_ag {n : Nat} {can : Nat → Nat → Bool} {a b : Nat → Int32} (h : ∀ T, T < 2 ^ n → a T = b T) : ∀ T, T < 2 ^ n → rall n can (2 ^ n - 1) a T = rall n can (2 ^ n - 1) b T := by
  refine itr_ag (N := 2 ^ n - 1) (fun j hj a b hab => ?_) _ (Nat.le_refl _) a b h
  refine itr_ag (N := n) (fun x hx a b hab => ?_) n (Nat.le_refl _) a b hab
  have hlt : 2 ^ n - 2 - j < 2 ^ n := by omega
  unfold rstep
  split
  · exact upd_ag hab (fun _ => by rw [hab _ hlt, hab _ (or_lt hlt hx)])
  · exact hab
theorem pow_le10 {n : Nat} (hn : n ≤ 10) : 2 ^ n ≤ 1024 := Nat.pow_le_pow_right (by decide) hn
theorem pow_pos' (n : Nat) : 0 < 2 ^ n := Nat.pow_pos (by decide)
theorem zb_not (b : Nat) (i : Nat) (hi : i < 32) : (nI b ^^^ -nI 1).toBitVec.getLsbD i = !(b.testBit i) := by
  have h1 : (-nI 1).toBitVec = BitVec.allOnes 32 := by decide
  rw [Int32.toBitVec_xor, h1, BitVec.getLsbD_xor, zb_tb, BitVec.getLsbD_ofNat, BitVec.getLsbD_allOnes]
  simp [hi]
theorem zb_andn {a b : Nat} (ha : a < 2 ^ 31) : nI a &&& (nI b ^^^ -nI 1) = nI 0 ↔ ∀ i, a.testBit i = true → b.testBit i = true := by
  constructor
  · intro h i hi
    by_cases h32 : i < 32
    · have h1 := congrArg (fun x => x.toBitVec.getLsbD i) h
      simp only [Int32.toBitVec_and, BitVec.getLsbD_and, zb_not b i h32] at h1
      rw [zb_tb, zb_tb, BitVec.getLsbD_ofNat, BitVec.getLsbD_ofNat, Nat.zero_testBit, hi] at h1
      simpa [h32] using h1
    · rw [Nat.testBit_lt_two_pow (Nat.lt_of_lt_of_le ha (Nat.pow_le_pow_right (by decide) (by omega)))] at hi
      cases hi
  · intro h
    refine Int32.toBitVec_inj.mp (BitVec.eq_of_getLsbD_eq (fun i hi => ?_))
    rw [Int32.toBitVec_and, BitVec.getLsbD_and, zb_not b i hi, zb_tb, zb_tb, BitVec.getLsbD_ofNat, BitVec.getLsbD_ofNat, Nat.zero_testBit]
    cases ha' : a.testBit i with
    | false => simp
    | true => rw [h i ha']; simp
/-! the component's -/
theorem gset_gset (h : gHp) (a : Nat) (e e' : gE) : gset (gset h a e) a e' = gset h a e' := by
  refine Prod.ext (funext fun b => ?_) rfl
  show (if b = a then some e' else if b = a then some e else h.1 b) = if b = a then some e' else h.1 b
  split <;> rfl
theorem gset_self {h : gHp} {a : Nat} {e : gE} (he : h.1 a = some e) : gset h a e = h := by
  refine Prod.ext (funext fun b => ?_) rfl
  show (if b = a then some e else h.1 b) = h.1 b
  split
  · rename_i hb; rw [hb, he]
  · rfl
theorem zk_next {B : Nat} {h : gHp} {k n S x : Nat} {R : Nat → Nat → Bool} (hp : knR B h k n R) (hR : rin R n) (hn : n ≤ 10) (hS : S < 1024) (hx : x < n) : fX9_mayBeNext k (nI S) (nI x) h = some (bI (canC R n S x), h) := by
  obtain ⟨b, w, fb, fw, h1, h2, h3, h4, h5, h6, h7, h8, h9⟩ := hp
  have hb10 := bs10 (fun y => R y x)
  simp only [fX9_mayBeNext, zk_hasN (show S < 2 ^ 31 by omega) (show x < 32 by omega), bd2_s, il0, bI_0]
  unfold canC
  cases hSx : S.testBit x with
  | true => rw [if_neg (by simp)]; rfl
  | false =>
    simp only [if_true, gGq_o (k := 0) h5 rfl, gAi_o h6 (show x < 10 by omega) (show 10 ≤ 1048576 by omega), bd_s, h8 x (by omega), ms_def, il1]
    have hiff : (∀ i, (bs (fun y => R y x) 10).testBit i = true → S.testBit i = true) ↔ ∀ y, y < n → R y x = true → S.testBit y = true := by
      refine ⟨fun h y hy hr => h y ?_, fun h i hi => ?_⟩
      · rw [bs_tb, decide_eq_true (show y < 10 by omega)]; exact hr
      · rw [bs_tb, Bool.and_eq_true] at hi
        exact h i (hR i x hi.2).1 hi.2
    by_cases hc : ∀ y, y < n → R y x = true → S.testBit y = true
    · rw [if_pos ((zb_andn (by omega)).mpr (hiff.mpr hc)), decide_eq_true hc]; rfl
    · rw [if_neg (fun h => hc (hiff.mp ((zb_andn (by omega)).mp h))), decide_eq_false hc]; rfl
theorem knR_wy {B wy : Nat} {h : gHp} {k n : Nat} {R : Nat → Nat → Bool} {e : gE} (hp : knR B h k n R) (hw : wy < B) : knR B (gset h wy e) k n R :=
  knR_k hp (fun a x hL ha _ => by rw [set_ne (by omega)]; exact ha)
theorem zj_fill {h : gHp} {a n : Nat} {v : Int32} {f : Nat → Int32} (hf : h.1 a = some (.inl (0, n, .inl f))) (hb : h.2.2.2.1 ≤ a) (hn : n < 4096) : fJ16_fill_2 (some a) v h = some (gset h a (.inl (0, n, .inl (fun i => if i < n then v else f i)))) := by
  have hl : lp (fun t => fJ16_fill_2_b5 (some a) v (nI n) t.1 t.2) 4096 (nI 0, gset h a (.inl (0, n, .inl (fun i => if i < 0 then v else f i)))) = some (gset h a (.inl (0, n, .inl (fun i => if i < n then v else f i)))) := by
    refine zb_for (fun k => (nI k, gset h a (.inl (0, n, .inl (fun i => if i < k then v else f i))))) n _ hn (fun k hk => ?_) ?_
    · have h1 : gSi (gset h a (.inl (0, n, .inl (fun i => if i < k then v else f i)))) (some a) 0 (nI k) v = some (gset h a (.inl (0, n, .inl (fun i => if i < k + 1 then v else f i)))) := by
        rw [gSi_o (set_at _ _ _) (by rw [gset_2]; exact hb) hk (by omega), gset_gset]
        refine congrArg (fun q => some (gset h a (.inl (0, n, .inl q)))) (funext fun i => ?_)
        show (if i = k then v else if i < k then v else f i) = _
        by_cases hik : i = k
        · rw [if_pos hik, if_pos (by omega)]
        · rw [if_neg hik]
          by_cases h2 : i < k
          · rw [if_pos h2, if_pos (by omega)]
          · rw [if_neg h2, if_neg (by omega)]
      simp only [fJ16_fill_2_b5, if_neg (nI_ge hk (show n < 2 ^ 31 by omega)), h1, bd_s, nm_s, il1, zb_add]
    · simp only [fJ16_fill_2_b5, if_pos (nI_le (Nat.le_refl n) (show n < 2 ^ 31 by omega))]
  have h0 : gset h a (.inl (0, n, .inl (fun i => if i < 0 then v else f i))) = h := by
    simp only [Nat.not_lt_zero, if_false]
    exact gset_self hf
  rw [h0] at hl
  simp only [fJ16_fill_2, gLen_o hf, bd_s, il0, fl_J16_fill_2_b5, hl]
theorem zk_ways {B wy : Nat} {h : gHp} {k n : Nat} {R : Nat → Nat → Bool} {w0 : Nat → Int32} (hp : knR B h k n R) (hR : rin R n) (hn : n ≤ 10) (hw : h.1 wy = some (.inl (0, 1024, .inl w0))) (hb : h.2.2.2.1 ≤ wy) (hwB : wy < B) :
    ∃ w, fX9_laysWays k (some wy) h = some (gset h wy (.inl (0, 1024, .inl w))) ∧ ∀ S, S < 2 ^ n → w S = waysV n (canC R n) S := by
  have hp2 := pow_le10 hn
  have hp3 := pow_pos' n
  have hpk : ∀ e, knR B (gset h wy e) k n R := fun e => knR_wy hp hwB
  have hmany : ∀ e, gGi (gset h wy e) (some k) 7 2 = some (nI n) := fun e => zk_many (hpk e)
  -- the row of a set
  have inner : ∀ (S : Nat) (w : Nat → Int32), S < 2 ^ n → lp (fun t => fX9_laysWays_b23 k (some wy) (nI S) t.1 t.2) 4096 (nI 0, gset h wy (.inl (0, 1024, .inl w))) = some (gset h wy (.inl (0, 1024, .inl (wrow n (canC R n) S w)))) := by
    intro S w hS
    unfold wrow
    by_cases hw0 : w S ≤ nI 0
    · rw [if_pos hw0]
      refine zb_for (fun _ => (nI 0, gset h wy (.inl (0, 1024, .inl w)))) 0 _ (by omega) (fun k hk => by omega) ?_
      simp only [fX9_laysWays_b23, hmany, bd_s]
      by_cases hn0 : n = 0
      · rw [if_pos (nI_le (show n ≤ 0 by omega) (by omega))]
      · rw [if_neg (nI_ge (show 0 < n by omega) (by omega)), gAi_o (set_at _ _ _) (by omega) (by omega)]
        simp only [bd_s, il0, if_pos hw0]
    · rw [if_neg hw0]
      refine zb_for (fun x => (nI x, gset h wy (.inl (0, 1024, .inl (itr (wstep (canC R n) S) x w))))) n _ (by omega) (fun x hx => ?_) ?_
      · have hlt := or_lt hS hx
        have e1 : itr (wstep (canC R n) S) x w S = w S := itr_S x
        simp only [fX9_laysWays_b23, hmany, bd_s, if_neg (nI_ge hx (show n < 2 ^ 31 by omega)), gAi_o (set_at _ _ _) (show S < 1024 by omega) (show 1024 ≤ 1048576 by omega), e1, il0, if_neg hw0, zk_is (hpk _), zk_next (hpk _) hR hn (show S < 1024 by omega) hx, bd2_s, bI_0, il1, il31, zb_shl (show x < 31 by omega), zb_or, gAi_o (set_at _ _ _) (show S ||| 2 ^ x < 1024 by omega) (show 1024 ≤ 1048576 by omega), gSi_o (set_at _ _ _) (show (gset h wy _).2.2.2.1 ≤ wy from hb) (show S ||| 2 ^ x < 1024 by omega) (show 1024 ≤ 1048576 by omega), gset_gset, nm_s, zb_add]
        show _ = some (Sum.inl (nI (x + 1), gset h wy (.inl (0, 1024, .inl (wstep (canC R n) S x (itr (wstep (canC R n) S) x w))))))
        cases hc : canC R n S x with
        | false => rw [wstep_f hc]; simp only [if_true]
        | true => rw [wstep_t hc]; simp only [Bool.true_eq_false, if_false, e1]
      · simp only [fX9_laysWays_b23, hmany, bd_s, if_pos (nI_le (Nat.le_refl n) (show n < 2 ^ 31 by omega))]
  have hfill := zj_fill (v := nI 0) hw hb (by omega)
  have outer : ∀ w, lp (fun t => fX9_laysWays_b11 k (some wy) t.1 t.2) 4096 (nI 0, gset h wy (.inl (0, 1024, .inl w))) = some (gset h wy (.inl (0, 1024, .inl (wall n (canC R n) (2 ^ n) w)))) := by
    intro w
    refine zb_for (fun S => (nI S, gset h wy (.inl (0, 1024, .inl (wall n (canC R n) S w))))) (2 ^ n) _ (by omega) (fun S hS => ?_) ?_
    · simp only [fX9_laysWays_b11, hmany, bd_s, il1, il31, zb_shl (show n < 31 by omega), if_neg (nI_ge hS (show 2 ^ n < 2 ^ 31 by omega)), fl_X9_laysWays_b23, il0, inner S _ hS, nm_s, zb_add]
      rfl
    · simp only [fX9_laysWays_b11, hmany, bd_s, il1, il31, zb_shl (show n < 31 by omega), if_pos (nI_le (Nat.le_refl (2 ^ n)) (show 2 ^ n < 2 ^ 31 by omega))]
  refine ⟨wall n (canC R n) (2 ^ n) (upd (fun i => if i < 1024 then nI 0 else w0 i) 0 (nI 1)), ?_, fun S hS => wall_ag (fun T hT => ?_) S hS⟩
  · simp only [fX9_laysWays, il0, hfill, bd_s, il1, gSi_o (set_at _ _ _) (show (gset h wy _).2.2.2.1 ≤ wy from hb) (show 0 < 1024 by omega) (show 1024 ≤ 1048576 by omega), gset_gset, fl_X9_laysWays_b11, outer]
  · show (if T = 0 then nI 1 else if T < 1024 then nI 0 else w0 T) = _
    by_cases hT0 : T = 0
    · rw [if_pos hT0, if_pos hT0]
    · rw [if_neg hT0, if_neg hT0, if_pos (by omega)]
theorem zk_rests {B wy : Nat} {h : gHp} {k n : Nat} {R : Nat → Nat → Bool} {w0 : Nat → Int32} (hp : knR B h k n R) (hR : rin R n) (hn : n ≤ 10) (hn1 : 1 ≤ n) (hw : h.1 wy = some (.inl (0, 1024, .inl w0))) (hb : h.2.2.2.1 ≤ wy) (hwB : wy < B) :
    ∃ w, fX9_laysRests k (some wy) h = some (gset h wy (.inl (0, 1024, .inl w))) ∧ ∀ S, S < 2 ^ n → w S = restsV n (canC R n) S := by
  have hp2 := pow_le10 hn
  have hp3 : 2 ≤ 2 ^ n := Nat.le_trans (by decide) (Nat.pow_le_pow_right (by decide) hn1)
  have hpk : ∀ e, knR B (gset h wy e) k n R := fun e => knR_wy hp hwB
  have hmany : ∀ e, gGi (gset h wy e) (some k) 7 2 = some (nI n) := fun e => zk_many (hpk e)
  have inner : ∀ (S : Nat) (w : Nat → Int32), S < 2 ^ n → lp (fun t => fX9_laysRests_b31 k (some wy) (nI S) t.1 t.2) 4096 (nI 0, gset h wy (.inl (0, 1024, .inl w))) = some (gset h wy (.inl (0, 1024, .inl (itr (rstep (canC R n) S) n w)))) := by
    intro S w hS
    refine zb_for (fun x => (nI x, gset h wy (.inl (0, 1024, .inl (itr (rstep (canC R n) S) x w))))) n _ (by omega) (fun x hx => ?_) ?_
    · have hlt := or_lt hS hx
      simp only [fX9_laysRests_b31, hmany, bd_s, if_neg (nI_ge hx (show n < 2 ^ 31 by omega)), gAi_o (set_at _ _ _) (show S < 1024 by omega) (show 1024 ≤ 1048576 by omega), il0, zk_is (hpk _), zk_next (hpk _) hR hn (show S < 1024 by omega) hx, bd2_s, bI_0, il1, il31, zb_shl (show x < 31 by omega), zb_or, gAi_o (set_at _ _ _) (show S ||| 2 ^ x < 1024 by omega) (show 1024 ≤ 1048576 by omega), gSi_o (set_at _ _ _) (show (gset h wy _).2.2.2.1 ≤ wy from hb) (show S < 1024 by omega) (show 1024 ≤ 1048576 by omega), gset_gset, nm_s, zb_add]
      show _ = some (Sum.inl (nI (x + 1), gset h wy (.inl (0, 1024, .inl (rstep (canC R n) S x (itr (rstep (canC R n) S) x w))))))
      cases hc : canC R n S x with
      | false => rw [rstep_f hc]; simp only [if_true]
      | true => rw [rstep_t hc]; simp only [Bool.true_eq_false, if_false]
    · simp only [fX9_laysRests_b31, hmany, bd_s, if_pos (nI_le (Nat.le_refl n) (show n < 2 ^ 31 by omega))]
  have hfill := zj_fill (v := nI 0) hw hb (by omega)
  have hneg : (-nI 1 : Int32) < nI 0 := by decide
  have outer : ∀ w, lp (fun t => fX9_laysRests_b25 k (some wy) t.1 t.2) 4096 (nI (2 ^ n - 2), gset h wy (.inl (0, 1024, .inl w))) = some (gset h wy (.inl (0, 1024, .inl (rall n (canC R n) (2 ^ n - 1) w)))) := by
    intro w
    have := zb_for (B := fun t => fX9_laysRests_b25 k (some wy) t.1 t.2) (fun j => (if j = 2 ^ n - 1 then -nI 1 else nI (2 ^ n - 2 - j), gset h wy (.inl (0, 1024, .inl (rall n (canC R n) j w))))) (2 ^ n - 1) (gset h wy (.inl (0, 1024, .inl (rall n (canC R n) (2 ^ n - 1) w)))) (by omega) (fun j hj => ?_) ?_
    · rw [if_neg (by omega)] at this
      exact this
    · simp only [if_neg (show ¬ j = 2 ^ n - 1 by omega), fX9_laysRests_b25, il0, if_neg (nI_pos (show 2 ^ n - 2 - j < 2 ^ 31 by omega)), fl_X9_laysRests_b31, inner (2 ^ n - 2 - j) _ (by omega), bd_s, nm_s, il1]
      have e0 : ¬ nI (2 ^ n - 2 - j) < nI 0 := nI_nlt (by omega) (by omega)
      have hr1 : rall n (canC R n) (j + 1) w = itr (rstep (canC R n) (2 ^ n - 2 - j)) n (rall n (canC R n) j w) := rfl
      rw [if_neg e0, hr1]
      by_cases hl : j + 1 = 2 ^ n - 1
      · rw [if_pos hl, show 2 ^ n - 2 - j = 0 by omega, show (nI 0 + -nI 1 : Int32) = -nI 1 by decide]
      · rw [if_neg hl, zb_dec (show 1 ≤ 2 ^ n - 2 - j by omega), show 2 ^ n - 2 - j - 1 = 2 ^ n - 2 - (j + 1) by omega]
    · simp only [if_true, fX9_laysRests_b25, il0, if_pos hneg]
  refine ⟨rall n (canC R n) (2 ^ n - 1) (upd (fun i => if i < 1024 then nI 0 else w0 i) (2 ^ n - 1) (nI 1)), ?_, fun S hS => rall_ag (fun T hT => ?_) S hS⟩
  · simp only [fX9_laysRests, il0, hfill, bd_s, il1, il2, il31, hmany, zb_shl (show n < 31 by omega), zb_sub (show 1 ≤ 2 ^ n by omega), zb_sub (show 2 ≤ 2 ^ n by omega), gSi_o (set_at _ _ _) (show (gset h wy _).2.2.2.1 ≤ wy from hb) (show 2 ^ n - 1 < 1024 by omega) (show 1024 ≤ 1048576 by omega), gset_gset, nm_s, fl_X9_laysRests_b25, outer]
  · show (if T = 2 ^ n - 1 then nI 1 else if T < 1024 then nI 0 else w0 T) = _
    by_cases hT0 : T = 2 ^ n - 1
    · rw [if_pos hT0, if_pos hT0]
    · rw [if_neg hT0, if_neg hT0, if_pos (by omega)]
