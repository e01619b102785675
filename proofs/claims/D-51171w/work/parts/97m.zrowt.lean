/-! L2 THE ROW OF A STATE'S ITEMS -/
set_option maxRecDepth 100000
section
variable {M L : Nat → Prop} {s : Nat} {st : stT}
theorem zt_row {h : gHp} {c : Nat} (hs : stR M L h s st) (hn : st.1.length ≤ 10) (hr : rm h c) (hc : st.1.length + 1 ≤ c) :
    ∃ h', fX4_row s h = some (some h.2.1, h') ∧ stn (st.1.length + 1) h h' ∧ arP h' h.2.1 st.1.length (List.range st.1.length) := by
  obtain ⟨r, e1, e2, e3, e4, e5, e6⟩ := st_its hs
  generalize hnn : st.1.length = n at *
  have s1 : stn (n + 1) h (gpush h (.inl (0, gA0 0 n)) n) := push_st hr
  have q1 := push_at h (.inl (0, gA0 0 n)) n
  have hal := nA_ok (ti := 0) (n := n) hr (by omega) (by omega)
  have hb : (gpush h (.inl (0, gA0 0 n)) n).2.2.2.1 ≤ h.2.1 := hr.1
  have r1 : rm (gpush h (.inl (0, gA0 0 n)) n) 0 := rm_st hr s1 (by omega)
  generalize gpush h (.inl (0, gA0 0 n)) n = g1 at s1 q1 hal hb r1
  have q1' : g1.1 h.2.1 = some (.inl (0, n, .inl (fun _ => nI 0))) := by rw [q1, ← il0]; rfl
  have hl : lp (fun t => fX4_row_b12 (some h.2.1) t.1 t.2) 4096 (nI 0, gset g1 h.2.1 (.inl (0, n, .inl (fun _ => nI 0)))) = some (gset g1 h.2.1 (.inl (0, n, .inl (fun i => if i < n then nI i else nI 0)))) := by
    have := zb_for (B := fun t => fX4_row_b12 (some h.2.1) t.1 t.2) (fun j => (nI j, gset g1 h.2.1 (.inl (0, n, .inl (fun i => if i < j then nI i else nI 0))))) n (gset g1 h.2.1 (.inl (0, n, .inl (fun i => if i < n then nI i else nI 0)))) (by omega) (fun j hjl => ?_) ?_
    · have h0 : (fun i => if i < 0 then nI i else nI 0) = (fun _ => nI 0) := funext fun i => if_neg (by omega)
      simp only [h0] at this
      exact this
    · simp only [fX4_row_b12, gLen_o (set_at _ _ _), bd_s, if_neg (nI_ge hjl (show n < 2 ^ 31 by omega)), gSi_o (set_at _ _ _) (show (gset g1 h.2.1 _).2.2.2.1 ≤ h.2.1 from hb) hjl (show n ≤ 1048576 by omega), gset_gset, il1, zb_add, nm_s]
      refine congrArg (fun q => some (Sum.inl (nI (j + 1), gset g1 h.2.1 (.inl (0, n, .inl q))))) (funext fun i => ?_)
      show (if i = j then _ else if i < j then nI i else nI 0) = _
      by_cases hi : i = j
      · rw [if_pos hi, if_pos (by omega), hi]
      · rw [if_neg hi]
        by_cases hi2 : i < j
        · rw [if_pos hi2, if_pos (by omega)]
        · rw [if_neg hi2, if_neg (by omega)]
    · simp only [fX4_row_b12, gLen_o (set_at _ _ _), bd_s, if_pos (nI_le (Nat.le_refl n) (show n < 2 ^ 31 by omega))]
  rw [gset_self q1'] at hl
  refine ⟨_, (by simp only [fX4_row, e1, bd_s, e2, e4, bd2_s, hal, fl_X4_row_b12, il0, hl]; rfl), ?_, ?_⟩
  · exact stk_c (stk_tr s1 (set_st (X := fun a => a = h.2.1) (B := 0) (ks := []) r1 q1' (.inl rfl)) (fun a ha hX _ => ⟨fun h9 => by omega, .inr not_nil⟩)) (by omega)
  · refine ⟨_, set_at _ _ _, by rw [List.length_range]; omega, by omega, fun i hi => ?_⟩
    rw [List.length_range] at hi
    rw [if_pos hi, getD_el (by rw [List.length_range]; exact hi), List.getElem_range]
end
