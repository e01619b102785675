/-! L2 COMPONENT: next, compared, doing -/
set_option maxRecDepth 100000
/-- a round of the state's method, up to the first question -/
def sRun (st : stT) : (List Nat × sJ) ⊕ (sE × sJ) := sgo (jd false (fun _ _ => false)) st.2.2.1 st.1.length (kn st.2.1, 0, 0)
def sNext (st : stT) (x : Int32) : Int32 := match sRun st with
  | .inl _ => -nI 1
  | .inr er => if x = nI 0 then nI er.1.1 else nI er.1.2.1
def sCmp (st : stT) : Int32 := match sRun st with
  | .inl v => nI v.2.2.1
  | .inr er => nI er.2.2.1
def sDoing (st : stT) : Int32 := match sRun st with
  | .inl _ => nI 0
  | .inr er => nI er.1.2.2
section
variable {N a : Nat} {h : gHp} {st : stT}
theorem zq_run (he : eR N h a st) (wf : wfT st) (hr : rm h 160) : ∃ r h', fX1_toAsk N (some a) h = some (r, h') ∧ ro N 160 h h' ∧ match sRun st with
    | .inl v => r = none ∧ gGi h' (some N) 0 10 = some (nI v.2.2.1)
    | .inr er => ∃ u, r = some u ∧ unC h' u er.1 ∧ gGi h' (some N) 0 10 = some (nI er.2.2.1) := zq_toAsk he wf hr (Nat.le_refl _)
theorem q_next (he : eR N h a st) (wf : wfT st) (hr : rm h 160) (x : Int32) : cAns N 160 h (fX1_next N x h) (.inl (sNext st x)) := by
  obtain ⟨r, h', e1, e2, e3⟩ := zq_run he wf hr
  refine cAns_v (h' := h') ?_ e2
  simp only [fX1_next, ze_is he, bd_s, ze_state he, bd2_s, gEl_i, e1]
  unfold sNext
  cases hz : sRun st with
  | inl v =>
    rw [hz] at e3
    obtain ⟨f1, f2⟩ := e3
    subst f1
    simp only [if_true, il1]
  | inr er =>
    rw [hz] at e3
    obtain ⟨u, f1, ⟨fs, u1, u2, u3, u4⟩, f2⟩ := e3
    subst f1
    simp only [if_neg (show ¬ (some u = none) from fun h => nomatch h), il0, gGi_o u1 u2, gGi_o u1 u3, bd_s]
    split <;> rfl
theorem q_compared (he : eR N h a st) (wf : wfT st) (hr : rm h 160) : cAns N 160 h (fX1_compared N h) (.inl (sCmp st)) := by
  obtain ⟨r, h', e1, e2, e3⟩ := zq_run he wf hr
  refine cAns_v (h' := h') ?_ e2
  simp only [fX1_compared, ze_is he, bd_s, ze_state he, bd2_s, gEl_i, e1]
  unfold sCmp
  cases hz : sRun st with
  | inl v =>
    rw [hz] at e3
    simp only [e3.2, bd_s]
  | inr er =>
    rw [hz] at e3
    obtain ⟨u, f1, f3, f2⟩ := e3
    simp only [f2, bd_s]
theorem q_doing (he : eR N h a st) (wf : wfT st) (hr : rm h 160) : cAns N 160 h (fX1_doing N h) (.inl (sDoing st)) := by
  obtain ⟨r, h', e1, e2, e3⟩ := zq_run he wf hr
  refine cAns_v (h' := h') ?_ e2
  simp only [fX1_doing, ze_is he, bd_s, ze_state he, bd2_s, gEl_i, e1]
  unfold sDoing
  cases hz : sRun st with
  | inl v =>
    rw [hz] at e3
    obtain ⟨f1, f2⟩ := e3
    subst f1
    simp only [if_true, il0]
  | inr er =>
    rw [hz] at e3
    obtain ⟨u, f1, ⟨fs, u1, u2, u3, u4⟩, f2⟩ := e3
    subst f1
    simp only [if_neg (show ¬ (some u = none) from fun h => nomatch h), gGi_o u1 u4, bd_s]
end
