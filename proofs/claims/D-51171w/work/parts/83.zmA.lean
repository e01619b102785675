/-! L2 MODEL A: what is known, counts, ways -/
set_option maxRecDepth 100000
/-- one answer more -/
def tell (R : Nat → Nat → Bool) (a b : Nat) : Nat → Nat → Bool := fun x y => R x y || ((x == a || R x a) && (y == b || R b y))
/-- a relation between the first n -/
def rin (R : Nat → Nat → Bool) (n : Nat) : Prop := ∀ x y, R x y = true → x < n ∧ y < n
theorem tell_in {R : Nat → Nat → Bool} {n a b : Nat} (h : rin R n) (ha : a < n) (hb : b < n) : rin (tell R a b) n := by
  intro x y hxy
  unfold tell at hxy
  rw [Bool.or_eq_true, Bool.and_eq_true, Bool.or_eq_true, Bool.or_eq_true, beq_iff_eq, beq_iff_eq] at hxy
  rcases hxy with h1 | ⟨h1 | h1, h2 | h2⟩
  · exact h x y h1
  · subst h1 h2; exact ⟨ha, hb⟩
  · subst h1; exact ⟨ha, (h b y h2).2⟩
  · subst h2; exact ⟨(h x a h1).1, hb⟩
  · exact ⟨(h x a h1).1, (h b y h2).2⟩
theorem rin_f {R : Nat → Nat → Bool} {n x y : Nat} (h : rin R n) (hx : n ≤ x) : R x y = false := by
  cases hR : R x y with
  | false => rfl
  | true => exact absurd (h x y hR).1 (by omega)
theorem rin_f2 {R : Nat → Nat → Bool} {n x y : Nat} (h : rin R n) (hy : n ≤ y) : R x y = false := by
  cases hR : R x y with
  | false => rfl
  | true => exact absurd (h x y hR).2 (by omega)
/-- the model's rows of those that are worse -/
def mW (s : mSt) (R : Nat → Nat → Bool) : Prop := ∀ x, x < 10 → s.2 6 x = ms (R x)
theorem zm_items {m : Nat} {h : gHp} (s : mSt) : fX2_items m (mH m h s) = some (s.2 2 0, mH m h s) := by
  simp (disch := first | assumption | omega) only [fX2_items, il0, il1, il2, il3, il4, il5, il6, il7, il8, il9, il10, il11, il12, il13, il14, il15, il16, il17, il18, il19, il20, il24, il28, il30, il31, il32, il40, il44, il45, il48, il57, il58, il59, il60, il62, il63, il65, il75, il97, il99, il100, il122, il124, il195, il200, il255, il256, il500, il1000, il1024, il1365, il1950, il4095, bd_s, bd2_s, nm_s, ap2_s, gEl_i, gEl_e, gRz_b, gRz_0, gRz_1, gIs_m, gRcv_m, gGi_m0, gPi_m0, gGi_m1, gPi_m1, gGi_m4, gPi_m4, gGi_m10, gPi_m10, gGi_m11, gPi_m11, gGi_m12, gPi_m12, gGi_m13, gPi_m13, gGi_m14, gPi_m14, gGi_m15, gPi_m15, gGi_m16, gPi_m16, gGi_m18, gPi_m18, gGi_m19, gPi_m19, gGi_m20, gPi_m20, gGi_m21, gPi_m21, gGi_m22, gPi_m22, gGi_m23, gPi_m23, gGi_m24, gPi_m24, gGi_m25, gPi_m25, gGi_m26, gPi_m26, gGi_m27, gPi_m27, gGi_m30, gPi_m30, gPz_m1, gPz_m10, gPz_m11, gGq_m2, gAi_m2, gSi_m2, gGq_m3, gAi_m3, gSi_m3, gGq_m5, gAi_m5, gSi_m5, gGq_m6, gAi_m6, gSi_m6, gGq_m7, gAi_m7, gSi_m7, gGq_m8, gAi_m8, gSi_m8, gGq_m9, gAi_m9, gSi_m9, gGq_m17, gAi_m17, gSi_m17, gGq_m28, gAi_m28, gSi_m28, gGq_m29, gAi_m29, gSi_m29, mH_2, uF_1, uF_2, sA_1, sA_2, if_true, if_false, Nat.reduceEqDiff]
theorem zm_flag (p : Bool) (h : gHp) : fX2_flag (bI p) h = some (bI p, h) := by cases p <;> rfl
theorem zm_isBetter {m : Nat} {h : gHp} (s : mSt) {p : Nat → Bool} {x y : Nat} (hx : x < 10) (hy : y < 10) (hp : s.2 6 x = ms p) : fX2_isBetter m (nI x) (nI y) (mH m h s) = some (bI (p y), mH m h s) := by
  simp (disch := first | assumption | omega) only [fX2_isBetter, il0, il1, il2, il3, il4, il5, il6, il7, il8, il9, il10, il11, il12, il13, il14, il15, il16, il17, il18, il19, il20, il24, il28, il30, il31, il32, il40, il44, il45, il48, il57, il58, il59, il60, il62, il63, il65, il75, il97, il99, il100, il122, il124, il195, il200, il255, il256, il500, il1000, il1024, il1365, il1950, il4095, bd_s, bd2_s, nm_s, ap2_s, gEl_i, gEl_e, gRz_b, gRz_0, gRz_1, gIs_m, gRcv_m, gGi_m0, gPi_m0, gGi_m1, gPi_m1, gGi_m4, gPi_m4, gGi_m10, gPi_m10, gGi_m11, gPi_m11, gGi_m12, gPi_m12, gGi_m13, gPi_m13, gGi_m14, gPi_m14, gGi_m15, gPi_m15, gGi_m16, gPi_m16, gGi_m18, gPi_m18, gGi_m19, gPi_m19, gGi_m20, gPi_m20, gGi_m21, gPi_m21, gGi_m22, gPi_m22, gGi_m23, gPi_m23, gGi_m24, gPi_m24, gGi_m25, gPi_m25, gGi_m26, gPi_m26, gGi_m27, gPi_m27, gGi_m30, gPi_m30, gPz_m1, gPz_m10, gPz_m11, gGq_m2, gAi_m2, gSi_m2, gGq_m3, gAi_m3, gSi_m3, gGq_m5, gAi_m5, gSi_m5, gGq_m6, gAi_m6, gSi_m6, gGq_m7, gAi_m7, gSi_m7, gGq_m8, gAi_m8, gSi_m8, gGq_m9, gAi_m9, gSi_m9, gGq_m17, gAi_m17, gSi_m17, gGq_m28, gAi_m28, gSi_m28, gGq_m29, gAi_m29, gSi_m29, mH_2, uF_1, uF_2, sA_1, sA_2, if_true, if_false, Nat.reduceEqDiff, hp, ms_bit, bI_1]
  cases p y <;> rfl
theorem zm_thrown {m : Nat} {h : gHp} (s : mSt) : fX2_thrown m (mH m h s) = some (s.1 0, mH m h s) := by
  simp only [fX2_thrown, bd_s, bd2_s, nm_s, ap2_s, gEl_i, gEl_e, gRz_b, gRz_0, gRz_1, gIs_m, gRcv_m, gGi_m0, gPi_m0, gGi_m1, gPi_m1, gGi_m4, gPi_m4, gGi_m10, gPi_m10, gGi_m11, gPi_m11, gGi_m12, gPi_m12, gGi_m13, gPi_m13, gGi_m14, gPi_m14, gGi_m15, gPi_m15, gGi_m16, gPi_m16, gGi_m18, gPi_m18, gGi_m19, gPi_m19, gGi_m20, gPi_m20, gGi_m21, gPi_m21, gGi_m22, gPi_m22, gGi_m23, gPi_m23, gGi_m24, gPi_m24, gGi_m25, gPi_m25, gGi_m26, gPi_m26, gGi_m27, gPi_m27, gGi_m30, gPi_m30, gPz_m1, gPz_m10, gPz_m11, gGq_m2, gAi_m2, gSi_m2, gGq_m3, gAi_m3, gSi_m3, gGq_m5, gAi_m5, gSi_m5, gGq_m6, gAi_m6, gSi_m6, gGq_m7, gAi_m7, gSi_m7, gGq_m8, gAi_m8, gSi_m8, gGq_m9, gAi_m9, gSi_m9, gGq_m17, gAi_m17, gSi_m17, gGq_m28, gAi_m28, gSi_m28, gGq_m29, gAi_m29, gSi_m29, mH_2, uF_1, uF_2, sA_1, sA_2, if_true, if_false, Nat.reduceEqDiff]
theorem zm_better {m : Nat} {h : gHp} (s : mSt) {i : Nat} (hi : i < 60) : fX2_better m (nI i) (mH m h s) = some (s.2 2 (75 + 2 * i), mH m h s) := by
  simp (disch := first | assumption | omega) only [fX2_better, il0, il1, il2, il3, il4, il5, il6, il7, il8, il9, il10, il11, il12, il13, il14, il15, il16, il17, il18, il19, il20, il24, il28, il30, il31, il32, il40, il44, il45, il48, il57, il58, il59, il60, il62, il63, il65, il75, il97, il99, il100, il122, il124, il195, il200, il255, il256, il500, il1000, il1024, il1365, il1950, il4095, bd_s, bd2_s, nm_s, ap2_s, gEl_i, gEl_e, gRz_b, gRz_0, gRz_1, gIs_m, gRcv_m, gGi_m0, gPi_m0, gGi_m1, gPi_m1, gGi_m4, gPi_m4, gGi_m10, gPi_m10, gGi_m11, gPi_m11, gGi_m12, gPi_m12, gGi_m13, gPi_m13, gGi_m14, gPi_m14, gGi_m15, gPi_m15, gGi_m16, gPi_m16, gGi_m18, gPi_m18, gGi_m19, gPi_m19, gGi_m20, gPi_m20, gGi_m21, gPi_m21, gGi_m22, gPi_m22, gGi_m23, gPi_m23, gGi_m24, gPi_m24, gGi_m25, gPi_m25, gGi_m26, gPi_m26, gGi_m27, gPi_m27, gGi_m30, gPi_m30, gPz_m1, gPz_m10, gPz_m11, gGq_m2, gAi_m2, gSi_m2, gGq_m3, gAi_m3, gSi_m3, gGq_m5, gAi_m5, gSi_m5, gGq_m6, gAi_m6, gSi_m6, gGq_m7, gAi_m7, gSi_m7, gGq_m8, gAi_m8, gSi_m8, gGq_m9, gAi_m9, gSi_m9, gGq_m17, gAi_m17, gSi_m17, gGq_m28, gAi_m28, gSi_m28, gGq_m29, gAi_m29, gSi_m29, mH_2, uF_1, uF_2, sA_1, sA_2, if_true, if_false, Nat.reduceEqDiff, zb_add, zb_mul]
theorem zm_other {m : Nat} {h : gHp} (s : mSt) {i : Nat} (hi : i < 60) : fX2_other m (nI i) (mH m h s) = some (s.2 2 (75 + 2 * i + 1), mH m h s) := by
  simp (disch := first | assumption | omega) only [fX2_other, il0, il1, il2, il3, il4, il5, il6, il7, il8, il9, il10, il11, il12, il13, il14, il15, il16, il17, il18, il19, il20, il24, il28, il30, il31, il32, il40, il44, il45, il48, il57, il58, il59, il60, il62, il63, il65, il75, il97, il99, il100, il122, il124, il195, il200, il255, il256, il500, il1000, il1024, il1365, il1950, il4095, bd_s, bd2_s, nm_s, ap2_s, gEl_i, gEl_e, gRz_b, gRz_0, gRz_1, gIs_m, gRcv_m, gGi_m0, gPi_m0, gGi_m1, gPi_m1, gGi_m4, gPi_m4, gGi_m10, gPi_m10, gGi_m11, gPi_m11, gGi_m12, gPi_m12, gGi_m13, gPi_m13, gGi_m14, gPi_m14, gGi_m15, gPi_m15, gGi_m16, gPi_m16, gGi_m18, gPi_m18, gGi_m19, gPi_m19, gGi_m20, gPi_m20, gGi_m21, gPi_m21, gGi_m22, gPi_m22, gGi_m23, gPi_m23, gGi_m24, gPi_m24, gGi_m25, gPi_m25, gGi_m26, gPi_m26, gGi_m27, gPi_m27, gGi_m30, gPi_m30, gPz_m1, gPz_m10, gPz_m11, gGq_m2, gAi_m2, gSi_m2, gGq_m3, gAi_m3, gSi_m3, gGq_m5, gAi_m5, gSi_m5, gGq_m6, gAi_m6, gSi_m6, gGq_m7, gAi_m7, gSi_m7, gGq_m8, gAi_m8, gSi_m8, gGq_m9, gAi_m9, gSi_m9, gGq_m17, gAi_m17, gSi_m17, gGq_m28, gAi_m28, gSi_m28, gGq_m29, gAi_m29, gSi_m29, mH_2, uF_1, uF_2, sA_1, sA_2, if_true, if_false, Nat.reduceEqDiff, zb_add, zb_mul]
theorem zm_knows {m : Nat} {h : gHp} (hb : h.2.2.2.1 ≤ m) (s : mSt) {R : Nat → Nat → Bool} {n a b : Nat} (hn : s.2 2 0 = nI n) (hn1 : n ≤ 10) (hw : mW s R) (hR : rin R n) (ha : a < n) (hbn : b < n) :
    ∃ w, fX2_knows m (nI a) (nI b) (mH m h s) = some (mH m h (sA s 6 w)) ∧ ∀ x, x < 10 → w x = ms (tell R a b x) := by
  have hmore : ms (R b) ||| nI (2 ^ b) = ms (fun y => y == b || R b y) := by
    rw [ms_one (by omega), ms_or]
    exact ms_congr (fun k _ => Bool.or_comm _ _)
  refine ⟨fun x => if x < n then ms (tell R a b x) else s.2 6 x, ?_, fun x hx => ?_⟩
  · simp (disch := first | assumption | omega) only [fX2_knows, il0, il1, il2, il3, il4, il5, il6, il7, il8, il9, il10, il11, il12, il13, il14, il15, il16, il17, il18, il19, il20, il24, il28, il30, il31, il32, il40, il44, il45, il48, il57, il58, il59, il60, il62, il63, il65, il75, il97, il99, il100, il122, il124, il195, il200, il255, il256, il500, il1000, il1024, il1365, il1950, il4095, bd_s, bd2_s, nm_s, ap2_s, gEl_i, gEl_e, gRz_b, gRz_0, gRz_1, gIs_m, gRcv_m, gGi_m0, gPi_m0, gGi_m1, gPi_m1, gGi_m4, gPi_m4, gGi_m10, gPi_m10, gGi_m11, gPi_m11, gGi_m12, gPi_m12, gGi_m13, gPi_m13, gGi_m14, gPi_m14, gGi_m15, gPi_m15, gGi_m16, gPi_m16, gGi_m18, gPi_m18, gGi_m19, gPi_m19, gGi_m20, gPi_m20, gGi_m21, gPi_m21, gGi_m22, gPi_m22, gGi_m23, gPi_m23, gGi_m24, gPi_m24, gGi_m25, gPi_m25, gGi_m26, gPi_m26, gGi_m27, gPi_m27, gGi_m30, gPi_m30, gPz_m1, gPz_m10, gPz_m11, gGq_m2, gAi_m2, gSi_m2, gGq_m3, gAi_m3, gSi_m3, gGq_m5, gAi_m5, gSi_m5, gGq_m6, gAi_m6, gSi_m6, gGq_m7, gAi_m7, gSi_m7, gGq_m8, gAi_m8, gSi_m8, gGq_m9, gAi_m9, gSi_m9, gGq_m17, gAi_m17, gSi_m17, gGq_m28, gAi_m28, gSi_m28, gGq_m29, gAi_m29, gSi_m29, mH_2, uF_1, uF_2, sA_1, sA_2, if_true, if_false, Nat.reduceEqDiff, zb_shl, hw b (by omega), hmore, fl_X2_knows_b14]
    have h0 : mH m h s = mH m h (sA s 6 (fun x => if x < 0 then ms (tell R a b x) else s.2 6 x)) := by
      simp only [Nat.not_lt_zero, if_false]
      rw [show (fun x => s.2 6 x) = s.2 6 from rfl, sA_id]
    rw [h0]
    have hl : lp (fun t => fX2_knows_b14 m (nI a) (ms (fun y => y == b || R b y)) t.1 t.2) 4096 (nI 0, mH m h (sA s 6 (fun x => if x < 0 then ms (tell R a b x) else s.2 6 x))) = some (mH m h (sA s 6 (fun x => if x < n then ms (tell R a b x) else s.2 6 x))) := by
      refine zb_for (fun k => (nI k, mH m h (sA s 6 (fun x => if x < k then ms (tell R a b x) else s.2 6 x)))) n _ (by omega) (fun k hk => ?_) ?_
      · simp (disch := first | assumption | omega) only [fX2_knows_b14, fX2_knows_j39, il0, il1, il2, il3, il4, il5, il6, il7, il8, il9, il10, il11, il12, il13, il14, il15, il16, il17, il18, il19, il20, il24, il28, il30, il31, il32, il40, il44, il45, il48, il57, il58, il59, il60, il62, il63, il65, il75, il97, il99, il100, il122, il124, il195, il200, il255, il256, il500, il1000, il1024, il1365, il1950, il4095, bd_s, bd2_s, nm_s, ap2_s, gEl_i, gEl_e, gRz_b, gRz_0, gRz_1, gIs_m, gRcv_m, gGi_m0, gPi_m0, gGi_m1, gPi_m1, gGi_m4, gPi_m4, gGi_m10, gPi_m10, gGi_m11, gPi_m11, gGi_m12, gPi_m12, gGi_m13, gPi_m13, gGi_m14, gPi_m14, gGi_m15, gPi_m15, gGi_m16, gPi_m16, gGi_m18, gPi_m18, gGi_m19, gPi_m19, gGi_m20, gPi_m20, gGi_m21, gPi_m21, gGi_m22, gPi_m22, gGi_m23, gPi_m23, gGi_m24, gPi_m24, gGi_m25, gPi_m25, gGi_m26, gPi_m26, gGi_m27, gPi_m27, gGi_m30, gPi_m30, gPz_m1, gPz_m10, gPz_m11, gGq_m2, gAi_m2, gSi_m2, gGq_m3, gAi_m3, gSi_m3, gGq_m5, gAi_m5, gSi_m5, gGq_m6, gAi_m6, gSi_m6, gGq_m7, gAi_m7, gSi_m7, gGq_m8, gAi_m8, gSi_m8, gGq_m9, gAi_m9, gSi_m9, gGq_m17, gAi_m17, gSi_m17, gGq_m28, gAi_m28, gSi_m28, gGq_m29, gAi_m29, gSi_m29, mH_2, uF_1, uF_2, sA_1, sA_2, if_true, if_false, Nat.reduceEqDiff, zm_items, hn, zb_le, zb_eq, zb_add, Nat.reduceEqDiff, if_false, if_true]
        have hcur : (if k < k then ms (tell R a b k) else s.2 6 k) = ms (R k) := by rw [if_neg (by omega), hw k (by omega)]
        have hup : ∀ (v : Int32), v = ms (tell R a b k) → sA (sA s 6 (fun x => if x < k then ms (tell R a b x) else s.2 6 x)) 6 (upd (fun x => if x < k then ms (tell R a b x) else s.2 6 x) k v) = sA s 6 (fun x => if x < k + 1 then ms (tell R a b x) else s.2 6 x) := by
          intro v hv
          rw [sA_sA]
          refine congrArg (sA s 6) (funext fun x => ?_)
          show (if x = k then v else _) = _
          by_cases hxk : x = k
          · subst hxk
            rw [if_pos rfl, if_pos (by omega), hv]
          · rw [if_neg hxk]
            by_cases hx2 : x < k
            · simp only [if_pos hx2, if_pos (show x < k + 1 by omega)]
            · simp only [if_neg hx2, if_neg (show ¬ x < k + 1 by omega)]
        have hno : tell R a b k = R k → sA s 6 (fun x => if x < k then ms (tell R a b x) else s.2 6 x) = sA s 6 (fun x => if x < k + 1 then ms (tell R a b x) else s.2 6 x) := by
          intro hv
          refine congrArg (sA s 6) (funext fun x => ?_)
          by_cases hxk : x = k
          · subst hxk
            rw [if_neg (by omega), if_pos (by omega), hv, hw x (by omega)]
          · by_cases hx2 : x < k
            · rw [if_pos hx2, if_pos (by omega)]
            · rw [if_neg hx2, if_neg (by omega)]
        rw [if_neg (by omega)]
        by_cases hka : k = a
        · rw [if_pos hka, hcur, ms_or, hup _ (ms_congr (fun y _ => by subst hka; unfold tell; rw [beq_self_eq_true, Bool.true_or, Bool.true_and]))]
        · rw [if_neg hka, zm_isBetter _ (p := R k) (by omega) (by omega) (by simp only [sA_2, if_true]; exact hcur)]
          simp only [bd2_s, bI_0]
          cases hRk : R k a with
          | false =>
            rw [if_pos rfl, hno (funext fun y => by unfold tell; rw [hRk, beq_eq_false_iff_ne.mpr hka]; simp)]
          | true =>
            simp (disch := first | assumption | omega) only [Bool.true_eq_false, if_false, il0, il1, il2, il3, il4, il5, il6, il7, il8, il9, il10, il11, il12, il13, il14, il15, il16, il17, il18, il19, il20, il24, il28, il30, il31, il32, il40, il44, il45, il48, il57, il58, il59, il60, il62, il63, il65, il75, il97, il99, il100, il122, il124, il195, il200, il255, il256, il500, il1000, il1024, il1365, il1950, il4095, bd_s, bd2_s, nm_s, ap2_s, gEl_i, gEl_e, gRz_b, gRz_0, gRz_1, gIs_m, gRcv_m, gGi_m0, gPi_m0, gGi_m1, gPi_m1, gGi_m4, gPi_m4, gGi_m10, gPi_m10, gGi_m11, gPi_m11, gGi_m12, gPi_m12, gGi_m13, gPi_m13, gGi_m14, gPi_m14, gGi_m15, gPi_m15, gGi_m16, gPi_m16, gGi_m18, gPi_m18, gGi_m19, gPi_m19, gGi_m20, gPi_m20, gGi_m21, gPi_m21, gGi_m22, gPi_m22, gGi_m23, gPi_m23, gGi_m24, gPi_m24, gGi_m25, gPi_m25, gGi_m26, gPi_m26, gGi_m27, gPi_m27, gGi_m30, gPi_m30, gPz_m1, gPz_m10, gPz_m11, gGq_m2, gAi_m2, gSi_m2, gGq_m3, gAi_m3, gSi_m3, gGq_m5, gAi_m5, gSi_m5, gGq_m6, gAi_m6, gSi_m6, gGq_m7, gAi_m7, gSi_m7, gGq_m8, gAi_m8, gSi_m8, gGq_m9, gAi_m9, gSi_m9, gGq_m17, gAi_m17, gSi_m17, gGq_m28, gAi_m28, gSi_m28, gGq_m29, gAi_m29, gSi_m29, mH_2, uF_1, uF_2, sA_1, sA_2, if_true, if_false, Nat.reduceEqDiff, zb_add, Nat.reduceEqDiff]
            rw [hcur, ms_or, hup _ (ms_congr (fun y _ => by unfold tell; rw [hRk, Bool.or_true, Bool.true_and]))]
      · simp (disch := first | assumption | omega) only [fX2_knows_b14, fX2_knows_j39, il0, il1, il2, il3, il4, il5, il6, il7, il8, il9, il10, il11, il12, il13, il14, il15, il16, il17, il18, il19, il20, il24, il28, il30, il31, il32, il40, il44, il45, il48, il57, il58, il59, il60, il62, il63, il65, il75, il97, il99, il100, il122, il124, il195, il200, il255, il256, il500, il1000, il1024, il1365, il1950, il4095, bd_s, bd2_s, nm_s, ap2_s, gEl_i, gEl_e, gRz_b, gRz_0, gRz_1, gIs_m, gRcv_m, gGi_m0, gPi_m0, gGi_m1, gPi_m1, gGi_m4, gPi_m4, gGi_m10, gPi_m10, gGi_m11, gPi_m11, gGi_m12, gPi_m12, gGi_m13, gPi_m13, gGi_m14, gPi_m14, gGi_m15, gPi_m15, gGi_m16, gPi_m16, gGi_m18, gPi_m18, gGi_m19, gPi_m19, gGi_m20, gPi_m20, gGi_m21, gPi_m21, gGi_m22, gPi_m22, gGi_m23, gPi_m23, gGi_m24, gPi_m24, gGi_m25, gPi_m25, gGi_m26, gPi_m26, gGi_m27, gPi_m27, gGi_m30, gPi_m30, gPz_m1, gPz_m10, gPz_m11, gGq_m2, gAi_m2, gSi_m2, gGq_m3, gAi_m3, gSi_m3, gGq_m5, gAi_m5, gSi_m5, gGq_m6, gAi_m6, gSi_m6, gGq_m7, gAi_m7, gSi_m7, gGq_m8, gAi_m8, gSi_m8, gGq_m9, gAi_m9, gSi_m9, gGq_m17, gAi_m17, gSi_m17, gGq_m28, gAi_m28, gSi_m28, gGq_m29, gAi_m29, gSi_m29, mH_2, uF_1, uF_2, sA_1, sA_2, if_true, if_false, Nat.reduceEqDiff, zm_items, hn, zb_le, Nat.reduceEqDiff, if_false, Nat.le_refl, if_true]
    rw [hl]
    rfl
  · by_cases hx2 : x < n
    · simp only [if_pos hx2]
    · simp only [if_neg hx2, hw x hx]
      refine ms_congr (fun y _ => ?_)
      unfold tell
      rw [rin_f hR (by omega), rin_f hR (by omega), beq_eq_false_iff_ne.mpr (by omega)]
      rfl
