/-! L2 COMPONENT: its cells, and what the reading calls begin with -/
set_option maxRecDepth 100000
/-- where the law's own objects end: what lies from N + 20 on are states, names and the like -/
def Lp (N : Nat) : Nat → Prop := fun a => N + 20 ≤ a
/-- the component's object: its first ten fields, the two counters -/
def xO (N : Nat) (h : gHp) (fs : List gV) : Prop := fs.length = 10 ∧ ∃ c q, h.1 N = some (.inr (0, fs ++ [gi c, gi q]))
def wA (a : Nat) (h : gHp) : Prop := ∃ w, h.1 a = some (.inl (0, 1024, .inl w))
/-- a call that reads: the two counters and the two tables may change, and there may be new cells -/
def ro (N c : Nat) (h h' : gHp) : Prop := stk (fun a => a = N ∨ a = N + 5 ∨ a = N + 6) 0 [] c h h' ∧ (∀ fs, xO N h fs → xO N h' fs) ∧ (wA (N + 5) h → wA (N + 5) h') ∧ (wA (N + 6) h → wA (N + 6) h')
theorem ro_rfl {N c : Nat} {h : gHp} (hr : rm h c) : ro N 0 h h := ⟨stk_rfl hr, fun _ h => h, fun h => h, fun h => h⟩
theorem ro_t {N c c' : Nat} {h h1 h2 : gHp} (s1 : ro N c h h1) (s2 : ro N c' h1 h2) : ro N (c + c') h h2 := ⟨stk_t s1.1 s2.1, fun fs h => s2.2.1 fs (s1.2.1 fs h), fun h => s2.2.2.1 (s1.2.2.1 h), fun h => s2.2.2.2 (s1.2.2.2 h)⟩
theorem ro_c {N c c' : Nat} {h h' : gHp} (s : ro N c h h') (hc : c ≤ c') : ro N c' h h' := ⟨stk_c s.1 hc, s.2⟩
theorem ro_n {N c c' : Nat} {h h' : gHp} (hr : rm h c') (s : stn c h h') : ro N c h h' := ⟨stn_w s (Nat.le_refl _), fun _ ⟨h1, a, b, h2⟩ => ⟨h1, a, b, stn_keep hr s h2⟩, fun ⟨w, h1⟩ => ⟨w, stn_keep hr s h1⟩, fun ⟨w, h1⟩ => ⟨w, stn_keep hr s h1⟩⟩
/-- cells change that are new since the start -/
theorem ro_f {N c c' d B : Nat} {ks : List Nat} {h h1 h2 : gHp} (s1 : ro N c h h1) (hr : rm h1 d) (s2 : stk (fun _ => False) B ks c' h1 h2) (hB : h.2.1 ≤ B) (hN : N + 20 ≤ h.2.1) : ro N (c + c') h h2 := by
  have kp : ∀ a e, a < N + 20 → h1.1 a = some e → h2.1 a = some e := fun a e ha he => stk_keep hr s2 he not_f (.inl (by omega))
  exact ⟨stk_tr s1.1 s2 (fun a ha _ _ => ⟨not_f, .inl (by omega)⟩), fun fs hx => by
      obtain ⟨h1, a, b, h2⟩ := s1.2.1 fs hx
      exact ⟨h1, a, b, kp _ _ (by omega) h2⟩, fun hx => by
      obtain ⟨w, h1⟩ := s1.2.2.1 hx
      exact ⟨w, kp _ _ (by omega) h1⟩, fun hx => by
      obtain ⟨w, h1⟩ := s1.2.2.2 hx
      exact ⟨w, kp _ _ (by omega) h1⟩⟩
/-- the tables change -/
theorem ro_w5 {N d : Nat} {h : gHp} {w0 w : Nat → Int32} (hr : rm h d) (hw : h.1 (N + 5) = some (.inl (0, 1024, .inl w0))) : ro N 0 h (gset h (N + 5) (.inl (0, 1024, .inl w))) :=
  ⟨set_st hr hw (.inl (.inr (.inl rfl))), fun _ ⟨h1, a, b, h2⟩ => ⟨h1, a, b, by rw [set_ne (by omega)]; exact h2⟩, fun _ => ⟨w, set_at _ _ _⟩, fun ⟨v, h1⟩ => ⟨v, by rw [set_ne (by omega)]; exact h1⟩⟩
theorem ro_w6 {N d : Nat} {h : gHp} {w0 w : Nat → Int32} (hr : rm h d) (hw : h.1 (N + 6) = some (.inl (0, 1024, .inl w0))) : ro N 0 h (gset h (N + 6) (.inl (0, 1024, .inl w))) :=
  ⟨set_st hr hw (.inl (.inr (.inr rfl))), fun _ ⟨h1, a, b, h2⟩ => ⟨h1, a, b, by rw [set_ne (by omega)]; exact h2⟩, fun ⟨v, h1⟩ => ⟨v, by rw [set_ne (by omega)]; exact h1⟩, fun _ => ⟨w, set_at _ _ _⟩⟩
/-- a loaded component, as the reading calls need it -/
def eR (N : Nat) (h : gHp) (a : Nat) (st : stT) : Prop := h.2.2.2.1 ≤ N ∧ N + 20 ≤ h.2.1 ∧ (∃ fs, xO N h fs ∧ fs[4]? = some (gq (some a)) ∧ fs[8]? = some (gq (some (N + 5))) ∧ fs[9]? = some (gq (some (N + 6)))) ∧ wA (N + 5) h ∧ wA (N + 6) h ∧ stR (Lp N) (Lp N) h a st
theorem kps_ro {N c d : Nat} {ks : List Nat} {h h' : gHp} (hr : rm h d) (s : ro N c h h') : kps (Lp N) ks h h' := fun a e hL ha _ => stk_keep hr s.1 ha (fun h9 => by
  have h2 : N + 20 ≤ a := hL
  omega) (.inr not_nil)
theorem eR_ro {N c d a : Nat} {h h' : gHp} {st : stT} (hr : rm h d) (he : eR N h a st) (s : ro N c h h') : eR N h' a st := by
  obtain ⟨h1, h2, ⟨fs, h3, h4⟩, h5, h6, h7⟩ := he
  exact ⟨by rw [s.1.2.2.1]; exact h1, Nat.le_trans h2 s.1.1, ⟨fs, s.2.1 fs h3, h4⟩, s.2.2.1 h5, s.2.2.2 h6, stR_k h7 (kps_ro hr s) (kps_ro hr s)⟩
/-- what a state that was loaded keeps -/
def wfT (st : stT) : Prop := 1 ≤ st.1.length ∧ st.1.length ≤ 10 ∧ st.2.1.length ≤ 60 ∧ (∀ p ∈ st.2.1, p.1 < st.1.length ∧ p.2 < st.1.length) ∧ ordR (kn st.2.1) ∧ st.2.2.1 < 3 ∧ ∀ p ∈ st.1, 1 ≤ p.1.length ∧ p.1.length ≤ 6 ∧ (∀ c ∈ p.1, 97 ≤ c ∧ c ≤ 122) ∧ p.2 ≤ 99
theorem wfT_in {st : stT} (h : wfT st) : rin (kn st.2.1) st.1.length := kn_in h.2.2.2.1
theorem getD_app {α : Type} (l : List α) (d : α) {k : Nat} (h : k < l.length) : l.getD k d = l[k] := by
  rw [List.getD_eq_getElem?_getD, List.getElem?_eq_getElem h]
  rfl
theorem getD_m {α : Type} {l : List α} {d : α} {k : Nat} (h : k < l.length) : l.getD k d ∈ l := by
  rw [getD_app l d h]
  exact List.getElem_mem h
/-- a reference to an answer, and its fields -/
theorem an_cast {L : Nat → Prop} {h : gHp} {a : Nat} {p : Nat × Nat} (ha : anR L h a p) : gCastL h (some a) [8] = some () := gCastL_o ha.2 (by simp)
theorem an_b {L : Nat → Prop} {h : gHp} {a : Nat} {p : Nat × Nat} (ha : anR L h a p) : gGi h (some a) 8 0 = some (nI p.1) := gGi_o ha.2 rfl
theorem an_w {L : Nat → Prop} {h : gHp} {a : Nat} {p : Nat × Nat} (ha : anR L h a p) : gGi h (some a) 8 1 = some (nI p.2) := gGi_o ha.2 rfl
theorem it_cast {L : Nat → Prop} {h : gHp} {a : Nat} {p : List Nat × Nat} (ha : itR L h a p) : gCastL h (some a) [6] = some () := by
  obtain ⟨-, sa, h1, -⟩ := ha
  exact gCastL_o h1 (by simp)
theorem it_w {L : Nat → Prop} {h : gHp} {a : Nat} {p : List Nat × Nat} (ha : itR L h a p) : gGi h (some a) 6 1 = some (nI p.2) := by
  obtain ⟨-, sa, h1, -⟩ := ha
  exact gGi_o h1 rfl
theorem it_n {L : Nat → Prop} {h : gHp} {a : Nat} {p : List Nat × Nat} (ha : itR L h a p) : ∃ sa, gGq h (some a) 6 0 = some (some sa) ∧ strR L h sa p.1 := by
  obtain ⟨-, sa, h1, h2⟩ := ha
  exact ⟨sa, gGq_o h1 rfl, h2⟩
section
variable {M L : Nat → Prop} {h : gHp} {s : Nat} {st : stT}
theorem st_rcv (hs : stR M L h s st) : gRcv h (some s) 3 = some s := by
  obtain ⟨-, ri, li, ei, ra, la, ea, -, -, h1, -, -⟩ := hs
  exact gRcv_o h1
theorem st_is (hs : stR M L h s st) : gIs h s 3 = some () := by
  obtain ⟨-, ri, li, ei, ra, la, ea, -, -, h1, -, -⟩ := hs
  exact gIs_o h1
theorem st_meth (hs : stR M L h s st) : gGi h (some s) 3 2 = some (nI st.2.2.1) := by
  obtain ⟨-, ri, li, ei, ra, la, ea, -, -, h1, -, -⟩ := hs
  exact gGi_o h1 rfl
theorem st_given (hs : stR M L h s st) : gGi h (some s) 3 3 = some (nI st.2.2.2.1) := by
  obtain ⟨-, ri, li, ei, ra, la, ea, -, -, h1, -, -⟩ := hs
  exact gGi_o h1 rfl
theorem st_taken (hs : stR M L h s st) : gGi h (some s) 3 4 = some (nI st.2.2.2.2) := by
  obtain ⟨-, ri, li, ei, ra, la, ea, -, -, h1, -, -⟩ := hs
  exact gGi_o h1 rfl
/-- the row of items -/
theorem st_its (hs : stR M L h s st) : ∃ r, gGq h (some s) 3 0 = some (some r) ∧ gRcv h (some r) 4 = some r ∧ gIs h r 4 = some () ∧ fX5_size r h = some (nI st.1.length, h) ∧ (∀ x, st.1.length ≤ 60 → fX5_has r x h = some (bI (iN x 0 ((st.1.length : Int) - 1)), h)) ∧ ∀ i, i < st.1.length → ∃ a, fX5_get r (nI i) h = some (some a, h) ∧ itR L h a (st.1.getD i ([], 0)) := by
  obtain ⟨-, ri, li, ei, ra, la, ea, -, -, h1, h2, h3⟩ := hs
  exact ⟨ri, gGq_o h1 rfl, zx_rcv h2, zx_is h2, zx_size h2, fun x hx => zx_has h2 hx (by omega) x, fun i hi => zx_get h2 hi stR_items⟩
/-- the row of answers -/
theorem st_ans (hs : stR M L h s st) : ∃ r, gGq h (some s) 3 1 = some (some r) ∧ gRcv h (some r) 4 = some r ∧ gIs h r 4 = some () ∧ fX5_size r h = some (nI st.2.1.length, h) ∧ (∀ x, st.2.1.length ≤ 60 → fX5_has r x h = some (bI (iN x 0 ((st.2.1.length : Int) - 1)), h)) ∧ ∀ i, i < st.2.1.length → ∃ a, fX5_get r (nI i) h = some (some a, h) ∧ anR L h a (st.2.1.getD i (0, 0)) := by
  obtain ⟨-, ri, li, ei, ra, la, ea, -, -, h1, h2, h3⟩ := hs
  exact ⟨ra, gGq_o h1 rfl, zx_rcv h3, zx_is h3, zx_size h3, fun x hx => zx_has h3 hx (by omega) x, fun i hi => zx_get h3 hi stR_ans⟩
/-- what is known but for one answer -/
theorem zt_but (hs : stR M L h s st) (hn : st.1.length ≤ 10) (ha : st.2.1.length ≤ 60) (hp : ∀ p ∈ st.2.1, p.1 < st.1.length ∧ p.2 < st.1.length) (hr : rm h 26) (o : Option Nat) (ho : ∀ i, o = some i → i < 2 ^ 31) :
    ∃ k h', fX4_knownBut s (oI o) h = some (some k, h') ∧ stn 26 h h' ∧ knR h.2.1 h' k st.1.length (kn (ers st.2.1 o)) := by
  have w1 : gNewO h 7 dfX9 3 = some (h.2.1, gpush h (.inr (7, dfX9)) 3) := nO_ok hr (by omega)
  have q1 : (gpush h (.inr (7, dfX9)) 3).1 h.2.1 = some (.inr (7, [gq none, gq none, gi (nI 0)])) := by rw [push_at, dfX9_e]
  have s1 : stn 4 h (gpush h (.inr (7, dfX9)) 3) := push_st hr
  generalize gpush h (.inr (7, dfX9)) 3 = g1 at w1 q1 s1
  have r1 : rm g1 22 := rm_st hr s1 (by omega)
  have hs1 := stR_k hs (kps_n hr s1) (kps_n hr s1)
  obtain ⟨ri, i1, i2, i3, i4, -, -⟩ := st_its hs1
  obtain ⟨ra, a1, a2, a3, a4, -, -⟩ := st_ans hs1
  obtain ⟨g2, w2, s2, p2⟩ := zk_new (n := st.1.length) q1 (Nat.le_refl _) (rm_w r1 (by omega)) (by rw [s1.2.2.1]; exact hr.1)
  have r2 : rm g2 0 := rm_st r1 s2 (by omega)
  have t2 : stn (4 + 22) h g2 := stk_tr s1 s2 (fun a ha _ _ => ⟨by omega, .inr not_nil⟩)
  have hbB : h.2.2.2.1 ≤ h.2.1 := hr.1
  obtain ⟨g, e1, e2⟩ := zb_lp (B := fun t => fX9_init_b8 h.2.1 (some ra) (oI o) t.1 t.2) (fun k t => t.1 = nI k ∧ stn 26 h t.2 ∧ knR h.2.1 t.2 h.2.1 st.1.length (kn (ers (st.2.1.take k) o))) (fun g => stn 26 h g ∧ knR h.2.1 g h.2.1 st.1.length (kn (ers st.2.1 o))) st.2.1.length (by omega) (fun k t hk ht => by
    obtain ⟨t1, t2⟩ := t
    obtain ⟨rfl, hst, hkn⟩ := ht
    simp only at hst hkn
    have rt : rm t2 0 := rm_st hr hst (by omega)
    have hst2 := stR_k hs (kps_n hr hst) (kps_n hr hst)
    obtain ⟨ra', b1, b2, b3, b4, -, b5⟩ := st_ans hst2
    have hra : ra' = ra := by
      obtain ⟨-, x1, x2, x3, x4, x5, x6, -, -, h2, -, -⟩ := hs
      have h3 := stn_keep hr s1 h2
      have h4 := stn_keep hr hst h2
      rw [gGq_o h3 (k := 1) rfl] at a1
      rw [gGq_o h4 (k := 1) rfl] at b1
      cases a1
      cases b1
      rfl
    subst hra
    by_cases hkn2 : k < st.2.1.length
    · left
      refine ⟨hkn2, ?_⟩
      have hle : ¬ nI st.2.1.length ≤ nI k := nI_ge hkn2 (by omega)
      have het := ers_take (l := st.2.1) (o := o) hkn2
      have hoI : (nI k = oI o) ↔ o = some k := by
        cases o with
        | none => rw [oI_n, zb_nm1 (by omega)]; simp
        | some i => rw [oI_s, nI_eq (by omega) (ho i rfl)]; exact ⟨fun h => by rw [h], fun h => (Option.some.inj h).symm⟩
      by_cases hok : o = some k
      · refine ⟨(nI (k + 1), t2), ?_, rfl, hst, by rw [het, if_pos hok]; exact hkn⟩
        simp only [fX9_init_b8, b2, bd_s, b4, bd2_s, if_neg hle, if_pos (hoI.mpr hok), nm_s, il1, zb_add]
      · obtain ⟨y, y1, y2⟩ := b5 k hkn2
        rw [getD_app _ _ hkn2] at y2
        have hpk := hp _ (List.getElem_mem hkn2)
        have hsub : ∀ p ∈ ers (st.2.1.take k) o, p.1 < st.1.length ∧ p.2 < st.1.length := fun p hp1 => hp p (List.mem_of_mem_take (ers_sub p hp1))
        obtain ⟨h', c1, c2, c3⟩ := zk_tells hkn hn (kn_in hsub) (kn_tr _) hpk.1 hpk.2 rt (by rw [hst.2.2.1]; exact hbB)
        refine ⟨(nI (k + 1), h'), ?_, rfl, ?_, ?_⟩
        · simp only [fX9_init_b8, b2, bd_s, b4, bd2_s, if_neg hle, if_neg (fun h => hok (hoI.mp h)), b3, y1, an_cast y2, an_b y2, an_w y2, zk_is hkn, c1, nm_s, il1, zb_add]
        · exact stk_c (stk_tr hst c2 (fun a ha _ _ => ⟨not_f, .inl ha⟩)) (by omega)
        · rw [het, if_neg hok, kn_snoc]
          exact c3
    · right
      have : k = st.2.1.length := by omega
      subst this
      refine ⟨t2, ?_, hst, by rw [List.take_of_length_le (Nat.le_refl _)] at hkn; exact hkn⟩
      simp only [fX9_init_b8, b2, bd_s, b4, bd2_s, if_pos (nI_le (Nat.le_refl st.2.1.length) (show st.2.1.length < 2 ^ 31 by omega))]) (t0 := (nI 0, g2)) ⟨rfl, stk_c t2 (by omega), by
        have e0 : ers (st.2.1.take 0) o = [] := by
          rw [List.take_zero]
          cases o <;> rfl
        rw [e0]
        exact p2⟩
  refine ⟨h.2.1, g, ?_, e2.1, e2.2⟩
  have hs2a := stR_k hs (kps_n hr t2) (kps_n hr t2)
  simp only [fX4_knownBut, w1, bd2_s, i1, bd_s, i2, i4, a1, fX9_init, w2, fl_X9_init_b8, il0, e1]
theorem zt_known (hs : stR M L h s st) (hn : st.1.length ≤ 10) (ha : st.2.1.length ≤ 60) (hp : ∀ p ∈ st.2.1, p.1 < st.1.length ∧ p.2 < st.1.length) (hr : rm h 26) :
    ∃ k h', fX4_known s h = some (some k, h') ∧ stn 26 h h' ∧ knR h.2.1 h' k st.1.length (kn st.2.1) := by
  obtain ⟨k, h', e1, e2, e3⟩ := zt_but hs hn ha hp hr none (fun i h => by cases h)
  refine ⟨k, h', ?_, e2, e3⟩
  simp only [fX4_known, st_is hs, bd_s, il1, show (-nI 1 : Int32) = oI none from rfl, e1, bd2_s]
end
/-! what the calls begin with -/
/-- an exception of a kind, with its cell -/
def exN (k : Nat) (h : gHp) : (α : Type) → Option ((α ⊕ (Nat × Nat)) × gHp) := fun _ => some (.inr (k, h.2.1), gpush0 h 6)
section
variable {N a : Nat} {h : gHp} {st : stT}
theorem ze_is (he : eR N h a st) : gIs h N 0 = some () := by
  obtain ⟨-, -, ⟨fs, ⟨-, c, q, h1⟩, -⟩, -⟩ := he
  exact gIs_o h1
theorem ze_now (he : eR N h a st) : gGq h (some N) 0 4 = some (some a) := by
  obtain ⟨-, -, ⟨fs, ⟨h0, c, q, h1⟩, h2, -⟩, -⟩ := he
  refine gGq_o h1 ?_
  rw [List.getElem?_append_left (by omega)]
  exact h2
theorem ze_w5 (he : eR N h a st) : gGq h (some N) 0 8 = some (some (N + 5)) := by
  obtain ⟨-, -, ⟨fs, ⟨h0, c, q, h1⟩, -, h2, -⟩, -⟩ := he
  refine gGq_o h1 ?_
  rw [List.getElem?_append_left (by omega)]
  exact h2
theorem ze_w6 (he : eR N h a st) : gGq h (some N) 0 9 = some (some (N + 6)) := by
  obtain ⟨-, -, ⟨fs, ⟨h0, c, q, h1⟩, -, -, h2⟩, -⟩ := he
  refine gGq_o h1 ?_
  rw [List.getElem?_append_left (by omega)]
  exact h2
theorem ze_st (he : eR N h a st) : stR (Lp N) (Lp N) h a st := he.2.2.2.2.2
theorem ze_state (he : eR N h a st) : fX1_state N h = some (.inl (some a), h) := by
  have hne : ¬ (some a : Option Nat) = none := by simp
  simp only [fX1_state, ze_now he, bd_s, if_neg hne]
/-- the ways of what is known -/
theorem ze_orders {B k c : Nat} {R : Nat → Nat → Bool} (he : eR N h a st) (hp : knR B h k st.1.length R) (hR : rin R st.1.length) (hn : st.1.length ≤ 10) (hB : N + 20 ≤ B) (hr : rm h c) :
    ∃ w, fX1_orders N (some k) h = some (waysV st.1.length (canC R st.1.length) (2 ^ st.1.length - 1), gset h (N + 5) (.inl (0, 1024, .inl w))) ∧ (∀ S, S < 2 ^ st.1.length → w S = waysV st.1.length (canC R st.1.length) S) ∧ ro N 0 h (gset h (N + 5) (.inl (0, 1024, .inl w))) := by
  have he0 := he
  obtain ⟨h1, h2, h3, ⟨w0, h4⟩, h5, h6⟩ := he
  obtain ⟨w, e1, e2⟩ := zk_ways hp hR hn h4 (by omega) (by omega)
  have hro : ro N 0 h (gset h (N + 5) (.inl (0, 1024, .inl w))) := ro_w5 hr h4
  have he2 := eR_ro hr he0 hro
  have hp2 := pow_le10 hn
  have hp3 := pow_pos' st.1.length
  refine ⟨w, ?_, e2, hro⟩
  simp only [fX1_orders, ze_w5 he0, bd_s, zk_rcv hp, e1, ze_w5 he2, zk_many (knR_wy hp (show N + 5 < B by omega)), il1, il31, zb_shl (show st.1.length < 31 by omega), zb_sub (show 1 ≤ 2 ^ st.1.length by omega), gAi_o (set_at _ _ _) (show 2 ^ st.1.length - 1 < 1024 by omega) (show 1024 ≤ 1048576 by omega), e2 _ (show 2 ^ st.1.length - 1 < 2 ^ st.1.length by omega)]
end
