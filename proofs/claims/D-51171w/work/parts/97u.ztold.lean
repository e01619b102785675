/-! L2 COMPONENT: told -/
set_option maxRecDepth 100000
/-- the most questions of the sort by pairs -/
def sTl (m : Nat) : Nat := [0, 0, 1, 3, 5, 7, 10, 13, 16, 19, 22].getD m 0
theorem told_0 : ∀ m, m < 11 → 1 ≤ m → fl_X1_told_b20 ((fun _ => none), 0, 0, 0, (fun _ => none)) (nI m) (nI 0, nI 1) = some (nI (sTl m)) := by decide +kernel
theorem told_h (x : Int32) (y : Int32 × Int32) (h h' : gHp) : fl_X1_told_b20 h x y = fl_X1_told_b20 h' x y := rfl
theorem in_110 (x : Int32) (h : gHp) : fX1_in x (nI 1) (nI 10) h = some (bI (iN x 1 10), h) := by
  rw [zb_in1, zb_ti (by omega), zb_ti (by omega)]
  rfl
section
variable {N a : Nat} {h : gHp} {st : stT}
theorem q_told (he : eR N h a st) (hr : rm h 100) (x : Int32) : cAns N 100 h (fX1_told N x h) (if iN x 1 10 = true then .inl (nI (sTl x.toNatClampNeg)) else .inr 2) := by
  cases hg : iN x 1 10 with
  | false =>
    refine cAns_x hr (by omega) ?_
    simp only [fX1_told, ze_is he, bd_s, ze_state he, bd2_s, gEl_i, il1, il10, in_110, hg, ck_range hr (show 7 ≤ 100 by omega), Bool.false_eq_true, if_false, gEl_e]
  | true =>
    have hg0 : iN x 0 10 = true := by
      unfold iN at hg ⊢
      rw [decide_eq_true_iff] at hg ⊢
      omega
    obtain ⟨m, rfl, hm, hm2⟩ := iN_of hg0 (by omega)
    have hm1 : 1 ≤ m := by
      rw [iN_n hm2, decide_eq_true_iff] at hg
      omega
    have ht := told_0 m (by omega) hm1
    rw [told_h _ _ _ h] at ht
    rw [if_pos rfl, zb_cl hm2]
    refine cAns_v (h' := h) ?_ (ro_c (ro_rfl hr) (by omega))
    simp only [fX1_told, ze_is he, bd_s, ze_state he, bd2_s, gEl_i, il1, il10, in_110, hg, ck_range hr (show 7 ≤ 100 by omega), if_true, il0, ht]
end
