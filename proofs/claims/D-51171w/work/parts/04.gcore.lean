/-! G CORE: an abstract heap (cells by address, as a function), and W over it -/
set_option maxRecDepth 100000
def gLC : Nat := 1200144
def gLS : Nat := 5495482
/-- a value of the stack, of a local, of a field: int, reference, long, float, double -/
abbrev gV : Type := Int32 ⊕ (Option Nat) ⊕ Int64 ⊕ UInt32 ⊕ UInt64
def gval (v : gV) : Value := match v with
  | .inl x => .int x
  | .inr (.inl r) => va_rf r
  | .inr (.inr (.inl x)) => .long x
  | .inr (.inr (.inr (.inl x))) => .float x
  | .inr (.inr (.inr (.inr x))) => .double x
def gcat (v : gV) : Nat := match v with
  | .inl _ => 1
  | .inr (.inl _) => 1
  | .inr (.inr (.inl _)) => 2
  | .inr (.inr (.inr (.inl _))) => 1
  | .inr (.inr (.inr (.inr _))) => 2
abbrev gi (x : Int32) : gV := .inl x
abbrev gq (r : Option Nat) : gV := .inr (.inl r)
abbrev gl (x : Int64) : gV := .inr (.inr (.inl x))
abbrev gf (x : UInt32) : gV := .inr (.inr (.inr (.inl x)))
abbrev gd (x : UInt64) : gV := .inr (.inr (.inr (.inr x)))
theorem gcat_ok (v : gV) : (gval v).category = gcat v := by
  rcases v with x | r | x | x | x
  · rfl
  · cases r <;> rfl
  · rfl
  · rfl
  · rfl
/-- a cell: an array (the number of its class, its length and contents), or an object (the number of its class, its fields) -/
abbrev gE : Type := (Nat × vp_A) ⊕ (Nat × List gV)
/-- cells, heap size, slots made, first new address, constants -/
abbrev gHp : Type := (Nat → Option gE) × Nat × Nat × Nat × (Nat → Option Nat)
/-- launch, class numbers, field slots, array classes, the heap at the start, constants -/
abbrev gKT : Type := Launch × (Nat → ClassId) × (Nat → Nat → Nat) × (Nat → ClassId) × (Heap × (Nat → Option gE)) × (Nat → Option Nat)
abbrev kH (K : gKT) : Heap := K.2.2.2.2.1.1
/-- what is known of cells that were there at the start (constants, the script) -/
abbrev kOld (K : gKT) : Nat → Option gE := K.2.2.2.2.1.2
abbrev kB (K : gKT) : Nat := K.2.2.2.2.1.1.size
def gcl : List vw_C := [(RX1, TX1, 12), (RX2, TX2, 31), (RX3, TX3, 9), (RX4, TX4, 5), (RX5, TX5, 1), (RX6, TX6, 8), (RX8, TX8, 2), (RX9, TX9, 3), (RX10, TX10, 2), (RX11, TX11, 1), (RX13, TX13, 2), (RX14, TX14, 9), (RX15, TX15, 4), (RJ1, TJ1, 3), (RJ9, TJ9, 3), (RJ12, TJ12, 4), (RJ7, TJ7, 4)]
def gAT (k : Nat) : FieldType := match k with
  | 0 => .int
  | 1 => .byte
  | 2 => .boolean
  | 3 => .long
  | 4 => .double
  | 5 => .object "java/lang/Object"
  | _ => .object "LikedOrders$State"
def gtys (K : gKT) : List (ClassId × FieldType) := (List.range 7).map fun k => (K.2.2.2.1 k, gAT k)
theorem gtys_at (K : gKT) {k : Nat} (h : k < 7) : (gtys K)[k]? = some (K.2.2.2.1 k, gAT k) := by
  simp [gtys, List.getElem?_map, List.getElem?_range h]
def gat (K : gKT) (a : Nat) (e : gE) (H : Heap) : Prop := match e with
  | .inl x => x.1 < 7 ∧ H[a]? = some (vp_cell (K.2.2.2.1 x.1) x.2)
  | .inr o => ∃ r : vw_C, gcl[o.1]? = some r ∧ t_OB a (K.2.1 o.1) r.2.2 (K.2.2.1 o.1) H (vp_V (o.2.map gval))
def ghs (b : Nat) (H : Heap) : Nat := ((H.toList.drop b).map (·.slots.size)).sum
def gI (K : gKT) (h : gHp) (H : Heap) : Prop :=
  (∀ a e, h.1 a = some e → gat K a e H ∨ (a < kB K ∧ kOld K a = some e)) ∧ H.size = h.2.1 ∧ ghs (kB K) H = h.2.2.1 ∧ (∀ q, q < kB K → H[q]? = (kH K)[q]?) ∧ h.2.2.2.1 = kB K ∧ h.2.2.2.2 = K.2.2.2.2.2 ∧ kB K ≤ h.2.1 ∧ h.2.1 ≤ kB K + gLC ∧ h.2.2.1 ≤ gLS
def gset (h : gHp) (a : Nat) (e : gE) : gHp := (fun q => if q = a then some e else h.1 q, h.2)
def gpush (h : gHp) (e : gE) (n : Nat) : gHp := (fun q => if q = h.2.1 then some e else h.1 q, h.2.1 + 1, h.2.2.1 + n, h.2.2.2)
/-- a cell of which nothing is kept -/
def gpush0 (h : gHp) (n : Nat) : gHp := (fun q => if q = h.2.1 then none else h.1 q, h.2.1 + 1, h.2.2.1 + n, h.2.2.2)
theorem gat_lt {K : gKT} {a : Nat} {e : gE} {H : Heap} (h : gat K a e H) : a < H.size := by
  rcases e with x | o
  · exact (Array.getElem?_eq_some_iff.mp h.2).1
  · obtain ⟨r, h1, cell, h2, -⟩ := h
    exact (Array.getElem?_eq_some_iff.mp h2).1
theorem gat_kept {K : gKT} {a : Nat} {e : gE} {H H1 : Heap} (h : gat K a e H) (hq : H1[a]? = H[a]?) : gat K a e H1 := by
  rcases e with x | o
  · exact ⟨h.1, hq.trans h.2⟩
  · obtain ⟨r, h1, h2⟩ := h
    exact ⟨r, h1, h2.kept hq⟩
theorem ghs_push {b : Nat} {H : Heap} {c : Cell} (hb : b ≤ H.size) : ghs b (H.push c) = ghs b H + c.slots.size := by
  unfold ghs
  rw [Array.toList_push, List.drop_append_of_le_length (by simpa using hb)]
  simp
theorem ghs_split {b : Nat} {A B : Heap} (hb : b ≤ A.size) (hs : A.size ≤ B.size) (he : ∀ (i : Nat) (c : Cell), A[i]? = some c → ∃ c' : Cell, B[i]? = some c' ∧ c'.slots.size = c.slots.size) :
    ghs b B = ghs b A + ((B.toList.drop A.size).map (·.slots.size)).sum := by
  unfold ghs
  have h1 : B.toList.map (·.slots.size) = A.toList.map (·.slots.size) ++ (B.toList.drop A.size).map (·.slots.size) := by
    apply List.ext_getElem?
    intro i
    rw [List.getElem?_map]
    by_cases hi : i < A.size
    · rw [List.getElem?_append_left (by simpa using hi), List.getElem?_map]
      obtain ⟨c', h2, h3⟩ := he i _ (Array.getElem?_eq_getElem hi)
      rw [Array.getElem?_toList, h2, Array.getElem?_toList, Array.getElem?_eq_getElem hi]
      simp [h3]
    · rw [List.getElem?_append_right (by simp; omega), List.getElem?_map, List.getElem?_drop]
      simp only [List.length_map, Array.length_toList]
      rw [show A.size + (i - A.size) = i by omega]
  rw [List.map_drop, h1, List.drop_append_of_le_length (by simpa using hb), List.sum_append, ← List.map_drop, List.map_drop]
theorem ghs_same {b : Nat} {A B : Heap} (hs : B.size = A.size) (he : ∀ (i : Nat) (c : Cell), A[i]? = some c → ∃ c' : Cell, B[i]? = some c' ∧ c'.slots.size = c.slots.size) : ghs b B = ghs b A := by
  unfold ghs
  have h1 : B.toList.map (·.slots.size) = A.toList.map (·.slots.size) := by
    apply List.ext_getElem?
    intro i
    rw [List.getElem?_map, List.getElem?_map, Array.getElem?_toList, Array.getElem?_toList]
    by_cases hi : i < A.size
    · obtain ⟨c', h2, h3⟩ := he i _ (Array.getElem?_eq_getElem hi)
      rw [h2, Array.getElem?_eq_getElem hi]
      simp [h3]
    · rw [Array.getElem?_eq_none (by omega), Array.getElem?_eq_none (by omega)]
  rw [List.map_drop, List.map_drop, h1]
theorem gI_upd {K : gKT} {h : gHp} {H H1 : Heap} {a : Nat} {e0 e : gE} (hI : gI K h H) (ha : h.1 a = some e0) (he : gat K a e H1) (hz : H1.size = H.size) (oq : ∀ q : Nat, q ≠ a → H1[q]? = H[q]?)
    (hsz : ∀ c c', H[a]? = some c → H1[a]? = some c' → c'.slots.size = c.slots.size) (hb : kB K ≤ a) : gI K (gset h a e) H1 := by
  obtain ⟨i1, i2, i3, i4, i5, i6, i7, i8, i9⟩ := hI
  refine ⟨fun q x hq => ?_, hz.trans i2, ?_, fun q hq => (oq q (by omega)).trans (i4 q hq), i5, i6, i7, i8, i9⟩
  · by_cases hqa : q = a
    · subst hqa
      simp only [gset, if_true] at hq
      cases hq
      exact Or.inl he
    · simp only [gset, if_neg hqa] at hq
      exact (i1 q x hq).imp (fun z => gat_kept z (oq q hqa)) id
  · refine Eq.trans ?_ i3
    refine ghs_same hz fun i c hc => ?_
    by_cases hia : i = a
    · subst hia
      have hl : i < H1.size := gat_lt he
      exact ⟨_, Array.getElem?_eq_getElem hl, hsz c _ hc (Array.getElem?_eq_getElem hl)⟩
    · exact ⟨c, (oq i hia).trans hc, rfl⟩
theorem gI_push {K : gKT} {h : gHp} {H : Heap} {e : gE} {c : Cell} {n : Nat} (hI : gI K h H) (he : gat K H.size e (H.push c)) (hn : c.slots.size = n) (hc : h.2.1 < kB K + gLC) (hs : h.2.2.1 + n ≤ gLS) : gI K (gpush h e n) (H.push c) := by
  obtain ⟨i1, i2, i3, i4, i5, i6, i7, i8, i9⟩ := hI
  have oq : ∀ q, q < H.size → (H.push c)[q]? = H[q]? := fun q hq => by rw [Array.getElem?_push, if_neg (Nat.ne_of_lt hq)]
  refine ⟨fun q x hq => ?_, by rw [Array.size_push, i2]; rfl, ?_, fun q hq => (oq q (by omega)).trans (i4 q hq), i5, i6, Nat.le_succ_of_le i7, hc, hs⟩
  · by_cases hqa : q = h.2.1
    · subst hqa
      simp only [gpush, if_true] at hq
      cases hq
      rw [← i2]
      exact Or.inl he
    · simp only [gpush, if_neg hqa] at hq
      exact (i1 q x hq).imp (fun z => gat_kept z (oq q (gat_lt z))) id
  · rw [ghs_push (by omega), i3, hn]
    rfl
theorem gI_push0 {K : gKT} {h : gHp} {H : Heap} {c : Cell} {n : Nat} (hI : gI K h H) (hn : c.slots.size = n) (hc : h.2.1 < kB K + gLC) (hs : h.2.2.1 + n ≤ gLS) : gI K (gpush0 h n) (H.push c) := by
  obtain ⟨i1, i2, i3, i4, i5, i6, i7, i8, i9⟩ := hI
  have oq : ∀ q, q < H.size → (H.push c)[q]? = H[q]? := fun q hq => by rw [Array.getElem?_push, if_neg (Nat.ne_of_lt hq)]
  refine ⟨fun q x hq => ?_, by rw [Array.size_push, i2]; rfl, ?_, fun q hq => (oq q (by omega)).trans (i4 q hq), i5, i6, Nat.le_succ_of_le i7, hc, hs⟩
  · by_cases hqa : q = h.2.1
    · simp only [gpush0, if_pos hqa] at hq
      cases hq
    · simp only [gpush0, if_neg hqa] at hq
      exact (i1 q x hq).imp (fun z => gat_kept z (oq q (gat_lt z))) id
  · rw [ghs_push (by omega), i3, hn]
    rfl
/-! what doesn't ride in the lists of words, and is carried by every contract -/
def gNl : List Cond := [(Jvm.Cond.arrayOver (Jvm.ClassFile.FieldType.object "java/lang/Object")), (Jvm.Cond.arrayOver (Jvm.ClassFile.FieldType.object "LikedOrders$State")), (Jvm.Cond.fieldLinkNest "LikedOrders$Parser" (50 : Nat) "LikedOrders" "buffer" "[B" "LikedOrders"), (Jvm.Cond.fieldLinkNest "LikedOrders$Parser" (41 : Nat) "LikedOrders" "buffered" "I" "LikedOrders"), (Jvm.Cond.fieldLinkNest "LikedOrders$Parser" (44 : Nat) "LikedOrders" "parseError" "I" "LikedOrders"), (Jvm.Cond.fieldLinkNest "LikedOrders$Parser" (47 : Nat) "LikedOrders" "errorPosition" "I" "LikedOrders"), (Jvm.Cond.fieldLinkNest "LikedOrders$Stopper" (17 : Nat) "LikedOrders" "comparisons" "I" "LikedOrders"), (Jvm.Cond.fieldLinkNest "LikedOrders$1Asker" (33 : Nat) "LikedOrders" "asked" "I" "LikedOrders"), (Jvm.Cond.declares ({ cls := "java/util/Deque", name := "size", desc := "()I" } : Jvm.MethodName)), (Jvm.Cond.castable "java/util/ArrayDeque" "java/util/Deque"), (Jvm.Cond.castable "java/lang/ArrayIndexOutOfBoundsException" "java/lang/ArrayIndexOutOfBoundsException"), (Jvm.Cond.declares ({ cls := "java/lang/IndexOutOfBoundsException", name := "<init>", desc := "()V" } : Jvm.MethodName)), (Jvm.Cond.declares ({ cls := "java/lang/IndexOutOfBoundsException", name := "<init>", desc := "(Ljava/lang/String;)V" } : Jvm.MethodName)), (Jvm.Cond.declares ({ cls := "java/lang/RuntimeException", name := "<init>", desc := "()V" } : Jvm.MethodName)), (Jvm.Cond.declares ({ cls := "java/lang/RuntimeException", name := "<init>", desc := "(Ljava/lang/String;)V" } : Jvm.MethodName)), (Jvm.Cond.declares ({ cls := "java/lang/Exception", name := "<init>", desc := "()V" } : Jvm.MethodName)), (Jvm.Cond.declares ({ cls := "java/lang/Exception", name := "<init>", desc := "(Ljava/lang/String;)V" } : Jvm.MethodName)), (Jvm.Cond.declares ({ cls := "java/lang/Throwable", name := "<init>", desc := "()V" } : Jvm.MethodName)), (Jvm.Cond.declares ({ cls := "java/lang/Throwable", name := "<init>", desc := "(Ljava/lang/String;)V" } : Jvm.MethodName)), (Jvm.Cond.castable "java/lang/IndexOutOfBoundsException" "java/lang/IndexOutOfBoundsException"), (Jvm.Cond.methodLinkNest "LikedOrders$Parser" (32 : Nat) ({ cls := "LikedOrders$State", name := "<init>", desc := "()V" } : Jvm.MethodName) "LikedOrders"), (Jvm.Cond.methodLinkNest "LikedOrders$State" (11 : Nat) ({ cls := "LikedOrders$Row", name := "<init>", desc := "()V" } : Jvm.MethodName) "LikedOrders"), (Jvm.Cond.castable "java/lang/IllegalArgumentException" "java/lang/IllegalArgumentException"), (Jvm.Cond.castable "[B" "java/lang/Cloneable"), (Jvm.Cond.fieldLinkNest "LikedOrders$Parser" (115 : Nat) "LikedOrders$State" "items" "LLikedOrders$Row;" "LikedOrders"), (Jvm.Cond.fieldLinkNest "LikedOrders" (98 : Nat) "LikedOrders$State" "items" "LLikedOrders$Row;" "LikedOrders"), (Jvm.Cond.fieldLinkNest "LikedOrders$Parser" (154 : Nat) "LikedOrders$State" "answers" "LLikedOrders$Row;" "LikedOrders"), (Jvm.Cond.fieldLinkNest "LikedOrders" (130 : Nat) "LikedOrders$State" "answers" "LLikedOrders$Row;" "LikedOrders"), (Jvm.Cond.fieldLinkNest "LikedOrders$Parser" (171 : Nat) "LikedOrders$State" "method" "I" "LikedOrders"), (Jvm.Cond.fieldLinkNest "LikedOrders" (152 : Nat) "LikedOrders$State" "method" "I" "LikedOrders"), (Jvm.Cond.fieldLinkNest "LikedOrders" (169 : Nat) "LikedOrders$State" "given" "I" "LikedOrders"), (Jvm.Cond.fieldLinkNest "LikedOrders" (172 : Nat) "LikedOrders$State" "taken" "I" "LikedOrders"), (Jvm.Cond.methodLinkNest "LikedOrders$Parser" (64 : Nat) ({ cls := "LikedOrders", name := "in", desc := "(III)Z" } : Jvm.MethodName) "LikedOrders"), (Jvm.Cond.castable "LikedOrders$FormatException" "LikedOrders$FormatException"), (Jvm.Cond.fieldLinkNest "LikedOrders" (75 : Nat) "LikedOrders$FormatException" "kind" "I" "LikedOrders"), (Jvm.Cond.fieldLinkNest "LikedOrders" (81 : Nat) "LikedOrders$FormatException" "position" "I" "LikedOrders"), (Jvm.Cond.declares ({ cls := "java/util/List", name := "size", desc := "()I" } : Jvm.MethodName)), (Jvm.Cond.castable "java/util/ArrayList" "java/util/List"), (Jvm.Cond.declares ({ cls := "java/util/List", name := "get", desc := "(I)Ljava/lang/Object;" } : Jvm.MethodName)), (Jvm.Cond.methodLinkNest "LikedOrders$Item" (1 : Nat) ({ cls := "LikedOrders$Told", name := "<init>", desc := "()V" } : Jvm.MethodName) "LikedOrders"), (Jvm.Cond.fieldLinkNest "LikedOrders$State" (46 : Nat) "LikedOrders$Item" "name" "Ljava/lang/String;" "LikedOrders"), (Jvm.Cond.fieldLinkNest "LikedOrders" (206 : Nat) "LikedOrders$Item" "name" "Ljava/lang/String;" "LikedOrders"), (Jvm.Cond.fieldLinkNest "LikedOrders$State" (56 : Nat) "LikedOrders$Item" "worth" "I" "LikedOrders"), (Jvm.Cond.fieldLinkNest "LikedOrders" (196 : Nat) "LikedOrders$Item" "worth" "I" "LikedOrders"), (Jvm.Cond.declares ({ cls := "java/util/List", name := "add", desc := "(Ljava/lang/Object;)Z" } : Jvm.MethodName)), (Jvm.Cond.fieldLinkNest "LikedOrders" (256 : Nat) "LikedOrders$Known" "better" "[I" "LikedOrders"), (Jvm.Cond.fieldLinkNest "LikedOrders" (258 : Nat) "LikedOrders$Known" "worse" "[I" "LikedOrders"), (Jvm.Cond.fieldLinkNest "LikedOrders" (138 : Nat) "LikedOrders$Known" "many" "I" "LikedOrders"), (Jvm.Cond.methodLinkNest "LikedOrders$Known" (51 : Nat) ({ cls := "LikedOrders", name := "has", desc := "(II)Z" } : Jvm.MethodName) "LikedOrders"), (Jvm.Cond.methodLinkNest "LikedOrders$Answer" (1 : Nat) ({ cls := "LikedOrders$Told", name := "<init>", desc := "()V" } : Jvm.MethodName) "LikedOrders"), (Jvm.Cond.fieldLinkNest "LikedOrders$Known" (37 : Nat) "LikedOrders$Answer" "better" "I" "LikedOrders"), (Jvm.Cond.fieldLinkNest "LikedOrders$State" (70 : Nat) "LikedOrders$Answer" "better" "I" "LikedOrders"), (Jvm.Cond.fieldLinkNest "LikedOrders" (184 : Nat) "LikedOrders$Answer" "better" "I" "LikedOrders"), (Jvm.Cond.fieldLinkNest "LikedOrders$Known" (39 : Nat) "LikedOrders$Answer" "worse" "I" "LikedOrders"), (Jvm.Cond.fieldLinkNest "LikedOrders$State" (73 : Nat) "LikedOrders$Answer" "worse" "I" "LikedOrders"), (Jvm.Cond.fieldLinkNest "LikedOrders" (187 : Nat) "LikedOrders$Answer" "worse" "I" "LikedOrders"), (Jvm.Cond.declares ({ cls := "java/util/Collection", name := "clear", desc := "()V" } : Jvm.MethodName)), (Jvm.Cond.castable "java/lang/IllegalStateException" "java/lang/IllegalStateException"), (Jvm.Cond.methodLinkNest "LikedOrders" (133 : Nat) ({ cls := "LikedOrders$Known", name := "laysWays", desc := "([I)V" } : Jvm.MethodName) "LikedOrders"), (Jvm.Cond.methodLinkNest "LikedOrders$State" (80 : Nat) ({ cls := "LikedOrders", name := "one", desc := "(Z)I" } : Jvm.MethodName) "LikedOrders"), (Jvm.Cond.methodLinkNest "LikedOrders$Row" (26 : Nat) ({ cls := "LikedOrders", name := "in", desc := "(III)Z" } : Jvm.MethodName) "LikedOrders"), (Jvm.Cond.methodLinkNest "LikedOrders" (253 : Nat) ({ cls := "LikedOrders$Known", name := "laysRests", desc := "([I)V" } : Jvm.MethodName) "LikedOrders"), (Jvm.Cond.methodLinkNest "LikedOrders$Stopper" (7 : Nat) ({ cls := "LikedOrders$Judge", name := "<init>", desc := "()V" } : Jvm.MethodName) "LikedOrders"), (Jvm.Cond.declares ({ cls := "LikedOrders$Judge", name := "prefers", desc := "(III)Z" } : Jvm.MethodName)), (Jvm.Cond.castable "LikedOrders$Unknown" "LikedOrders$Unknown"), (Jvm.Cond.fieldLinkNest "LikedOrders" (296 : Nat) "LikedOrders$Unknown" "first" "I" "LikedOrders"), (Jvm.Cond.fieldLinkNest "LikedOrders" (293 : Nat) "LikedOrders$Unknown" "second" "I" "LikedOrders"), (Jvm.Cond.fieldLinkNest "LikedOrders" (302 : Nat) "LikedOrders$Unknown" "doing" "I" "LikedOrders"), (Jvm.Cond.methodLinkNest "LikedOrders$Method" (49 : Nat) ({ cls := "LikedOrders", name := "one", desc := "(Z)I" } : Jvm.MethodName) "LikedOrders"), (Jvm.Cond.methodLinkNest "LikedOrders$1Asker" (15 : Nat) ({ cls := "LikedOrders$Judge", name := "<init>", desc := "()V" } : Jvm.MethodName) "LikedOrders"), (Jvm.Cond.methodLinkNest "LikedOrders" (337 : Nat) ({ cls := "LikedOrders$Method", name := "placeOf", desc := "([II)I" } : Jvm.MethodName) "LikedOrders"), (Jvm.Cond.declares ({ cls := "java/util/Deque", name := "removeFirst", desc := "()Ljava/lang/Object;" } : Jvm.MethodName)), (Jvm.Cond.declares ({ cls := "java/util/Deque", name := "addLast", desc := "(Ljava/lang/Object;)V" } : Jvm.MethodName)), (Jvm.Cond.declares ({ cls := "java/util/List", name := "remove", desc := "(I)Ljava/lang/Object;" } : Jvm.MethodName)), (Jvm.Cond.methodLinkNest "LikedOrders" (409 : Nat) ({ cls := "LikedOrders$Row", name := "<init>", desc := "()V" } : Jvm.MethodName) "LikedOrders"), (Jvm.Cond.methodLinkNest "LikedOrders$Answer" (16 : Nat) ({ cls := "LikedOrders", name := "one", desc := "(Z)I" } : Jvm.MethodName) "LikedOrders"), (Jvm.Cond.declares ({ cls := "java/util/List", name := "set", desc := "(ILjava/lang/Object;)Ljava/lang/Object;" } : Jvm.MethodName)), (Jvm.Cond.declares ({ cls := "java/util/Collection", name := "isEmpty", desc := "()Z" } : Jvm.MethodName)), (Jvm.Cond.declares ({ cls := "java/util/Deque", name := "removeLast", desc := "()Ljava/lang/Object;" } : Jvm.MethodName)), (Jvm.Cond.castable "java/lang/ArrayIndexOutOfBoundsException" "java/lang/IndexOutOfBoundsException"), (Jvm.Cond.castable "LikedOrders$Answer" "LikedOrders$Told"), (Jvm.Cond.castable "LikedOrders$Item" "LikedOrders$Told"), (Jvm.Cond.castable "LikedOrders$State" "java/lang/Object"), (Jvm.Cond.castable "LikedOrders" "java/lang/Object"), (Jvm.Cond.castable "java/util/ArrayDeque" "java/lang/Object"), (Jvm.Cond.castable "LikedOrdersModel" "java/lang/Object"), (Jvm.Cond.castable "java/lang/ArrayIndexOutOfBoundsException" "java/lang/Object"), (Jvm.Cond.castable "java/lang/IndexOutOfBoundsException" "java/lang/Object"), (Jvm.Cond.castable "LikedOrders$Parser" "java/lang/Object"), (Jvm.Cond.castable "LikedOrders$Token" "java/lang/Object"), (Jvm.Cond.castable "LikedOrders$Row" "java/lang/Object"), (Jvm.Cond.castable "java/util/ArrayList" "java/lang/Object"), (Jvm.Cond.castable "java/lang/IllegalArgumentException" "java/lang/Object"), (Jvm.Cond.castable "java/lang/StringBuilder" "java/lang/Object"), (Jvm.Cond.castable "java/lang/String" "java/lang/Object"), (Jvm.Cond.castable "LikedOrders$FormatException" "java/lang/Object"), (Jvm.Cond.castable "LikedOrders$Item" "java/lang/Object"), (Jvm.Cond.castable "LikedOrders$Known" "java/lang/Object"), (Jvm.Cond.castable "LikedOrders$Answer" "java/lang/Object"), (Jvm.Cond.castable "java/lang/IllegalStateException" "java/lang/Object"), (Jvm.Cond.castable "LikedOrders$Method" "java/lang/Object"), (Jvm.Cond.castable "LikedOrders$Stopper" "java/lang/Object"), (Jvm.Cond.castable "LikedOrders$Unknown" "java/lang/Object"), (Jvm.Cond.castable "LikedOrders$1Asker" "java/lang/Object"), (Jvm.Cond.castable "java/lang/Throwable" "java/lang/Object"), (Jvm.Cond.declares ({ cls := "java/lang/Object", name := "getClass", desc := "()Ljava/lang/Class;" } : Jvm.MethodName)), (Jvm.Cond.castable "[Ljava/lang/Object;" "java/lang/Object"), (Jvm.Cond.castable "[B" "java/lang/Object"), (Jvm.Cond.castable "[LLikedOrders$State;" "java/lang/Object"), (Jvm.Cond.castable "[I" "java/lang/Object"), (Jvm.Cond.castable "[Z" "java/lang/Object"), (Jvm.Cond.castable "[J" "java/lang/Object"), (Jvm.Cond.castable "[D" "java/lang/Object"), (Jvm.Cond.selects "java/lang/StringBuilder" ({ cls := "java/lang/AbstractStringBuilder", name := "appendNull", desc := "()Ljava/lang/AbstractStringBuilder;" } : Jvm.MethodName) ({ cls := "java/lang/AbstractStringBuilder", name := "appendNull", desc := "()Ljava/lang/AbstractStringBuilder;" } : Jvm.MethodName)), (Jvm.Cond.selects "java/lang/StringBuilder" ({ cls := "java/lang/AbstractStringBuilder", name := "ensureCapacityInternal", desc := "(I)V" } : Jvm.MethodName) ({ cls := "java/lang/AbstractStringBuilder", name := "ensureCapacityInternal", desc := "(I)V" } : Jvm.MethodName)), (Jvm.Cond.selects "java/lang/StringBuilder" ({ cls := "java/lang/AbstractStringBuilder", name := "newCapacity", desc := "(I)I" } : Jvm.MethodName) ({ cls := "java/lang/AbstractStringBuilder", name := "newCapacity", desc := "(I)I" } : Jvm.MethodName)), (Jvm.Cond.selects "java/lang/StringBuilder" ({ cls := "java/lang/AbstractStringBuilder", name := "putStringAt", desc := "(ILjava/lang/String;)V" } : Jvm.MethodName) ({ cls := "java/lang/AbstractStringBuilder", name := "putStringAt", desc := "(ILjava/lang/String;)V" } : Jvm.MethodName)), (Jvm.Cond.selects "java/lang/StringBuilder" ({ cls := "java/lang/AbstractStringBuilder", name := "inflateIfNeededFor", desc := "(Ljava/lang/String;)V" } : Jvm.MethodName) ({ cls := "java/lang/AbstractStringBuilder", name := "inflateIfNeededFor", desc := "(Ljava/lang/String;)V" } : Jvm.MethodName)), (Jvm.Cond.selects "java/lang/StringBuilder" ({ cls := "java/lang/AbstractStringBuilder", name := "inflate", desc := "()V" } : Jvm.MethodName) ({ cls := "java/lang/AbstractStringBuilder", name := "inflate", desc := "()V" } : Jvm.MethodName)), (Jvm.Cond.publicMethod ({ cls := "java/util/Collection", name := "clear", desc := "()V" } : Jvm.MethodName)), (Jvm.Cond.publicMethod ({ cls := "java/util/ArrayDeque", name := "clear", desc := "()V" } : Jvm.MethodName)), (Jvm.Cond.unhidden "java/util/ArrayDeque" "clear" "()V"), (Jvm.Cond.interfaceMethod "java/util/Deque" "java/util/Collection" "clear" "()V"), (Jvm.Cond.methodLink "LikedOrders" (87 : Nat) ({ cls := "java/util/Deque", name := "clear", desc := "()V" } : Jvm.MethodName)), (Jvm.Cond.publicMethod ({ cls := "java/util/Collection", name := "isEmpty", desc := "()Z" } : Jvm.MethodName)), (Jvm.Cond.publicMethod ({ cls := "java/util/ArrayDeque", name := "isEmpty", desc := "()Z" } : Jvm.MethodName)), (Jvm.Cond.unhidden "java/util/ArrayDeque" "isEmpty" "()Z"), (Jvm.Cond.interfaceMethod "java/util/Deque" "java/util/Collection" "isEmpty" "()Z"), (Jvm.Cond.methodLink "LikedOrders" (418 : Nat) ({ cls := "java/util/Deque", name := "isEmpty", desc := "()Z" } : Jvm.MethodName))]
def gNp : List Nat := [171, 184, 186, 188, 190, 192, 200, 202, 257, 258, 324, 325, 326, 327, 328, 329, 330, 331, 332, 362, 392, 398, 416, 493, 686, 687, 689, 690, 692, 693, 695, 697, 755, 806, 823, 825, 848, 849, 867, 889, 894, 895, 897, 898, 911, 985, 987, 989, 1008, 1029, 1031, 1032, 1033, 1035, 1036, 1037, 1052, 1079, 1111, 1141, 1157, 1278, 1305, 1337, 1351, 1363, 1365, 1367, 1376, 1471, 1509, 1610, 1629, 1691, 1736, 1742, 1758, 1780, 1789, 2438, 2439, 2440, 2441, 2442, 2443, 2444, 2445, 2446, 2447, 2448, 2449, 2450, 2451, 2452, 2453, 2454, 2455, 2456, 2457, 2458, 2459, 2460, 2461, 2462, 2463, 2466, 2467, 2468, 2469, 2470, 2471, 2472, 2473]
def gFl : List (String × MethodName × MethodName) := [("java/util/ArrayDeque", (⟨"java/util/Deque", "size", "()I"⟩ : MethodName), (⟨"java/util/ArrayDeque", "size", "()I"⟩ : MethodName)), ("java/util/ArrayList", (⟨"java/util/List", "size", "()I"⟩ : MethodName), (⟨"java/util/ArrayList", "size", "()I"⟩ : MethodName)), ("java/util/ArrayList", (⟨"java/util/List", "get", "(I)Ljava/lang/Object;"⟩ : MethodName), (⟨"java/util/ArrayList", "get", "(I)Ljava/lang/Object;"⟩ : MethodName)), ("java/util/ArrayList", (⟨"java/util/List", "add", "(Ljava/lang/Object;)Z"⟩ : MethodName), (⟨"java/util/ArrayList", "add", "(Ljava/lang/Object;)Z"⟩ : MethodName)), ("java/util/ArrayDeque", (⟨"java/util/Deque", "removeFirst", "()Ljava/lang/Object;"⟩ : MethodName), (⟨"java/util/ArrayDeque", "removeFirst", "()Ljava/lang/Object;"⟩ : MethodName)), ("java/util/ArrayDeque", (⟨"java/util/Deque", "addLast", "(Ljava/lang/Object;)V"⟩ : MethodName), (⟨"java/util/ArrayDeque", "addLast", "(Ljava/lang/Object;)V"⟩ : MethodName)), ("java/util/ArrayList", (⟨"java/util/List", "remove", "(I)Ljava/lang/Object;"⟩ : MethodName), (⟨"java/util/ArrayList", "remove", "(I)Ljava/lang/Object;"⟩ : MethodName)), ("java/util/ArrayList", (⟨"java/util/List", "set", "(ILjava/lang/Object;)Ljava/lang/Object;"⟩ : MethodName), (⟨"java/util/ArrayList", "set", "(ILjava/lang/Object;)Ljava/lang/Object;"⟩ : MethodName)), ("java/util/ArrayDeque", (⟨"java/util/Deque", "removeLast", "()Ljava/lang/Object;"⟩ : MethodName), (⟨"java/util/ArrayDeque", "removeLast", "()Ljava/lang/Object;"⟩ : MethodName))]
def gZl : List (String × String × String × Nat) := [("LikedOrders$Token", "INVALID", "LLikedOrders$Token;", 0), ("LikedOrders$Token", "END", "LLikedOrders$Token;", 1), ("LikedOrders$Token", "WORD", "LLikedOrders$Token;", 2), ("LikedOrders$Token", "NUMBER", "LLikedOrders$Token;", 3), ("LikedOrders$Token", "LINE_END", "LLikedOrders$Token;", 4), ("LikedOrders$Token", "BETTER", "LLikedOrders$Token;", 5), ("java/lang/Throwable", "UNASSIGNED_STACK", "[Ljava/lang/StackTraceElement;", 6), ("java/lang/Throwable", "SUPPRESSED_SENTINEL", "Ljava/util/List;", 7), ("jdk/internal/util/Preconditions", "SIOOBE_FORMATTER", "Ljava/util/function/BiFunction;", 13)]
def gSl : List (String × Nat × String × Nat) := [("LikedOrders", 32, "", 9), ("LikedOrders$Parser", 24, "", 9), ("LikedOrders$Parser", 163, "liked", 10), ("LikedOrders$Parser", 174, "item", 11), ("LikedOrders", 365, "?", 12), ("LikedOrdersModel", 253, "liked", 10), ("LikedOrdersModel", 259, "item", 11)]

def gNc : List (String × String) := [("java/lang/IndexOutOfBoundsException", "java/lang/IllegalStateException"), ("java/lang/IllegalArgumentException", "java/lang/IllegalStateException"), ("java/lang/IllegalArgumentException", "java/lang/IndexOutOfBoundsException"), ("java/lang/IllegalStateException", "java/lang/IndexOutOfBoundsException")]
def gAb (K : gKT) : Nat → Prop := fun q => kB K ≤ q
/-- an old cell that is known: the script, a constant's bytes, a constant -/
def gOl (K : gKT) (U : State) (a : Nat) (e : gE) : Prop := match e with
  | .inl (0, n, .inl f) => va_X a n f U (kH K)
  | .inl (1, n, .inl f) => va_T .byte a n (fun j => .int (f j)) (gAb K) U (kH K)
  | .inr (16, [.inr (.inl (some v)), .inl c]) => va_O RJ7 a (gAb K) U (kH K) ∧ va_OF RJ7 "value" "[B" (.ref v) a (gAb K) U (kH K) ∧ va_OF RJ7 "coder" "B" (.int c) a (gAb K) U (kH K)
  | _ => False
theorem gOl.moved {K : gKT} {s U : State} {a : Nat} {e : gE} (hvm : s.vm.Alike U.vm) (h : gOl K s a e) : gOl K U a e := by
  unfold gOl at h ⊢
  split at h
  · exact va_X.moved hvm h
  · exact va_T.moved hvm h
  · exact ⟨va_O.moved hvm h.1, va_OF.moved hvm h.2.1, va_OF.moved hvm h.2.2⟩
  · exact h.elim
/-- what a state must know beside the words: classes, words, interfaces, statics, strings, the class object of Object[] -/
def gKs (K : gKT) (U : State) : Prop := va_K (K.2.1, K.2.2.1) gcl (gtys K) U ∧ (∀ w ∈ gNl, va_Nw w U) ∧ (∀ q ∈ gFl, va_Fw q.1 q.2.1 q.2.2 U) ∧
  (∀ q ∈ gZl, va_Z q.1 q.2.1 q.2.2.1 (va_rf (K.2.2.2.2.2 q.2.2.2)) (gAb K) U (kH K)) ∧ va_Z "java/lang/String" "COMPACT_STRINGS" "Z" (.int 1) (gAb K) U (kH K) ∧
  (∀ q ∈ gSl, ∃ a, K.2.2.2.2.2 q.2.2.2 = some a ∧ vk_R q.1 q.2.1 q.2.2.1 a U) ∧ (∃ mi, K.2.2.2.2.2 8 = some mi ∧ va_Mi "[Ljava/lang/Object;" mi U) ∧ va_Dc U ∧ vx_L Bundle.tN "UNASSIGNED_STACK" Bundle.steD (gAb K) U (kH K) ∧ vx_L Bundle.tN "SUPPRESSED_SENTINEL" Bundle.listD (gAb K) U (kH K) ∧ (∀ q ∈ gNc, va_Nc q.1 q.2 U) ∧ K.1.stackTraces = false ∧ (∀ a e, kOld K a = some e → gOl K U a e)
def gNk (w : Cond) : Bool := match w with
  | .castable .. => true
  | .fieldLinkNest .. => true
  | .methodLinkNest .. => true
  | .declares _ => true
  | .arrayOver (.object _) => true
  | .selects .. => true
  | .publicMethod _ => true
  | .unhidden .. => true
  | .interfaceMethod .. => true
  | .methodLink .. => true
  | _ => false
theorem gNk_all : ∀ w ∈ gNl, gNk w = true := by
  have h : gNl.all gNk = true := by decide +kernel
  exact List.all_eq_true.mp h
theorem gIface {a a' : Array Value} {s U : State} (hal : s.vm.Alike U.vm) {ref owner name desc : String} (h : (Cond.interfaceMethod ref owner name desc).before a s = true) : (Cond.interfaceMethod ref owner name desc).before a' U = true := by
  have h1 : (Cond.interfaceMethod ref owner name desc).before a' (s.setVm U.vm) = (Cond.interfaceMethod ref owner name desc).before a s := by
    simp only [Cond.before, Cond.holds, Cond.value, State.vm_setVm, hal.findClass, State.methodFound?_setVm hal, State.methodNamed?_setVm hal, arm_isInterface_setVm hal]
  have h2 : (Cond.interfaceMethod ref owner name desc).before a' U = (Cond.interfaceMethod ref owner name desc).before a' (s.setVm U.vm) := rfl
  rw [h2, h1]; exact h
theorem gNk_moved {w : Cond} (hk : gNk w = true) {s U : State} (hW : s.WarmedH U.vm) (h : va_Nw w s) : va_Nw w U := by
  unfold gNk at hk
  split at hk
  · exact va_Nw.warmC hW h
  · exact va_Nw.warmF hW h
  · exact va_Nw.warmM hW h
  · exact va_Nw.warmD hW h
  · exact va_AO.moved hW.alike h
  · exact word_at hW (Or.inl rfl) h
  · exact va_tabs rfl (rfl : (s.setVm U.vm).vm = U.vm) (by rw [Cond.publicMethod_setVm hW.alike]; exact h)
  · exact va_tabs rfl (rfl : (s.setVm U.vm).vm = U.vm) (by rw [Cond.unhidden_setVm hW.alike]; exact h)
  · exact gIface hW.alike h
  · exact word_at hW (Or.inl rfl) h
  · cases hk
theorem gFx_all : ∀ q ∈ gFl, q.2.1.cls ≠ "java/lang/invoke/MethodHandle" ∧ q.2.1.cls ≠ "java/lang/invoke/VarHandle" := by
  have h : (gFl.all fun q => decide (q.2.1.cls ≠ "java/lang/invoke/MethodHandle") && decide (q.2.1.cls ≠ "java/lang/invoke/VarHandle")) = true := by decide +kernel
  intro q hq
  have h1 := List.all_eq_true.mp h q hq
  simp only [Bool.and_eq_true, decide_eq_true_eq] at h1
  exact h1
theorem gKs_moved {K : gKT} {s U : State} (hW : s.WarmedH U.vm) (h : gKs K s) : gKs K U := by
  obtain ⟨h1, h2, h3, h4, h5, h6, h7, h8, h9, h10, h11, h12, h13⟩ := h
  refine ⟨va_K.moved hW.alike h1, fun w hw => gNk_moved (gNk_all w hw) hW (h2 w hw), fun q hq => (h3 q hq).moved (gFx_all q hq) hW.alike, fun q hq => (h4 q hq).moved hW.alike, h5.moved hW.alike, fun q hq => ?_, ?_, h8.moved hW.alike, h9.moved hW.alike, h10.moved hW.alike, fun q hq => (h11 q hq).moved hW.alike, h12, fun a e he => (h13 a e he).moved hW.alike⟩
  · obtain ⟨a, e1, e2⟩ := h6 q hq
    exact ⟨a, e1, e2.warm hW⟩
  · obtain ⟨mi, e1, e2⟩ := h7
    exact ⟨mi, e1, e2.moved hW.alike⟩
/-- outcomes: what is returned; or the number of the class and the address of what is thrown -/
abbrev gO : Type := Option gV ⊕ (Nat × Nat)
def gOc (o : gO) : Outcome := match o with
  | .inl v => .returned (v.map gval)
  | .inr x => .threw x.2
def gxn (k : Nat) : String := match k with
  | 0 => "java/lang/IllegalStateException"
  | 1 => "java/lang/IndexOutOfBoundsException"
  | 2 => "java/lang/IllegalArgumentException"
  | 3 => "LikedOrders$Unknown"
  | _ => "LikedOrders$FormatException"
def gXc (o : gO) (st t : State) : Prop := match o with
  | .inl _ => True
  | .inr x => ∃ ce : Cell, t.heap[x.2]? = some ce ∧ ce.vm = .none ∧ st.vm.findClass (gxn x.1) = some ce.cls
def gRoom (K : gKT) (d : Nat) (h : gHp) : Room := { frames := d, cells := kB K + gLC - h.2.1, slots := gLS - h.2.2.1, locals := 128 * d }
def gPre (K : gKT) (av : List gV) (h : gHp) : Array Value → State → Prop := fun a U => a = (av.map gval).toArray ∧ gI K h U.heap ∧ gKs K U
def gPost (K : gKT) (o : gO) (h' : gHp) (R : Room) : Array Value → State → Outcome → State → Prop := fun _ st oc t =>
  oc = gOc o ∧ gI K h' t.heap ∧ gXc o st t ∧ st.WarmedH t.vm ∧ ∃ L : List Loc, st.sameButNew ({ t with vm := st.vm } : State) L R.cells R.slots ∧ ∀ z ∈ L, kB K ≤ z.base
/-- a method's contract: from the heap h with the values av it comes to the outcome o with the heap h' -/
def gMet (K : gKT) (y : MethodName) (ws : List Cond) (d : Nat) (av : List gV) (h : gHp) (o : gO) (h' : gHp) : Prop :=
  MetFree K.1 y (headSpec ws (gRoom K d h)) (gPre K av h) (fun _ _ _ _ _ => True) (gPost K o h' (gRoom K d h))
/-- where a walk stands: constants, program, setting, room, the method's own start, its frame, its outcome, its class, its bytes, its depth -/
abbrev gXT : Type := gKT × Program × Env × Room × State × MethodId × Array Value × List Frame × Method × Code × (gO × gHp) × String × ByteArray × Nat
abbrev xK (X : gXT) : gKT := X.1
abbrev xp (X : gXT) : Program := X.2.1
abbrev xe (X : gXT) : Env := X.2.2.1
abbrev xR (X : gXT) : Room := X.2.2.2.1
abbrev xs (X : gXT) : State := X.2.2.2.2.1
abbrev xm (X : gXT) : MethodId := X.2.2.2.2.2.1
abbrev xa (X : gXT) : Array Value := X.2.2.2.2.2.2.1
abbrev xb (X : gXT) : List Frame := X.2.2.2.2.2.2.2.1
abbrev xM (X : gXT) : Method := X.2.2.2.2.2.2.2.2.1
abbrev xc (X : gXT) : Code := X.2.2.2.2.2.2.2.2.2.1
abbrev xo (X : gXT) : gO × gHp := X.2.2.2.2.2.2.2.2.2.2.1
abbrev xw (X : gXT) : String := X.2.2.2.2.2.2.2.2.2.2.2.1
abbrev xy (X : gXT) : ByteArray := X.2.2.2.2.2.2.2.2.2.2.2.2.1
abbrev xd (X : gXT) : Nat := X.2.2.2.2.2.2.2.2.2.2.2.2.2
def gQ (X : gXT) : State → Prop := fun t => ∃ oc, t.status = .running ∧ Ended t (xb X) oc ∧ gPost (xK X) (xo X).1 (xo X).2 (xR X) (xa X) (xs X) oc t
abbrev gStand (X : gXT) (T : State) (locs : List Loc) : Prop := Stand (xp X) (xK X).1 (xe X) (xR X) (xs X) (xm X) (xa X) (xb X) (xM X) (xc X) T locs (xR X).cells (xR X).slots
abbrev gWW (X : gXT) (H : Heap) (locs : List Loc) (cells slots : Nat) (g : JFrame) : Prop := W (xp X) (xK X).1 (xe X) (xR X) (xs X) (xm X) (xa X) (xb X) (xM X) (xc X) H locs cells slots (gQ X) g
/-- a point of the walk -/
def gPt (X : gXT) (h : gHp) (lv : List (Nat × gV)) (H : Heap) (locs : List Loc) (ls : Array Slot) : Prop :=
  gI (xK X) h H ∧ (∀ z ∈ locs, kB (xK X) ≤ z.base) ∧ (xs X).heap.size ≤ H.size ∧ lv_has ls (xc X).maxLocals (lv.map fun q => (q.1, gval q.2))
/-- THE GOAL: from pc, locals lv, stack st, heap h the method comes to its outcome -/
def gW (X : gXT) (h : gHp) (pc : Nat) (lv : List (Nat × gV)) (st : List gV) : Prop :=
  ∀ (H : Heap) (locs : List Loc) (ls : Array Slot), gPt X h lv H locs ls → gWW X H locs (xR X).cells (xR X).slots (F0 (xm X) pc ls (st.map gval))
/-- the same with x thrown over the frame -/
def gT (X : gXT) (h : gHp) (pc : Nat) (lv : List (Nat × gV)) (x : Nat × Nat) : Prop :=
  ∀ (H : Heap) (locs : List Loc) (ls : Array Slot) (st : List Value) (ce : Cell), gPt X h lv H locs ls → H[x.2]? = some ce → ce.vm = .none → (xs X).vm.findClass (gxn x.1) = some ce.cls →
    vx_W (xp X) (xK X).1 (xe X) (xR X) (xs X) (xm X) (xa X) (xb X) (xM X) (xc X) H locs (xR X).cells (xR X).slots (gQ X) (F0 (xm X) pc ls st) x.2
def gCtx (X : gXT) : Prop :=
  (xp X).tables.exec = Jvm.exec ∧ (xc X).code = xy X ∧ (∀ w ∈ lw_all, w.before (xa X) (xs X) = true) ∧ (xs X).vm.findClass (xw X) = some (xm X).cls ∧ gKs (xK X) (xs X) ∧ (xM X).locks = false ∧
  (xR X).cells = kB (xK X) + gLC - (xs X).heap.size ∧ (xR X).slots = gLS - ghs (kB (xK X)) (xs X).heap ∧ kB (xK X) ≤ (xs X).heap.size ∧ xd X ≤ (xR X).frames ∧ 128 * xd X ≤ (xR X).locals
theorem gCtx.hx {X : gXT} (C : gCtx X) : (xp X).tables.exec = Jvm.exec := C.1
theorem gCtx.hb {X : gXT} (C : gCtx X) : (xc X).code = xy X := C.2.1
theorem gCtx.hts {X : gXT} (C : gCtx X) : ∀ w ∈ lw_all, w.before (xa X) (xs X) = true := C.2.2.1
theorem gCtx.hown {X : gXT} (C : gCtx X) : (xs X).vm.findClass (xw X) = some (xm X).cls := C.2.2.2.1
theorem gCtx.hKs {X : gXT} (C : gCtx X) : gKs (xK X) (xs X) := C.2.2.2.2.1
theorem gCtx.hOl {X : gXT} (C : gCtx X) : ∀ a e, kOld (xK X) a = some e → gOl (xK X) (xs X) a e := C.hKs.2.2.2.2.2.2.2.2.2.2.2.2
theorem gCtx.hlk {X : gXT} (C : gCtx X) : (xM X).locks = false := C.2.2.2.2.2.1
theorem gCtx.hRc {X : gXT} (C : gCtx X) : (xR X).cells = kB (xK X) + gLC - (xs X).heap.size := C.2.2.2.2.2.2.1
theorem gCtx.hRs {X : gXT} (C : gCtx X) : (xR X).slots = gLS - ghs (kB (xK X)) (xs X).heap := C.2.2.2.2.2.2.2.1
theorem gCtx.hbs {X : gXT} (C : gCtx X) : kB (xK X) ≤ (xs X).heap.size := C.2.2.2.2.2.2.2.2.1
theorem gCtx.hd {X : gXT} (C : gCtx X) : xd X ≤ (xR X).frames ∧ 128 * xd X ≤ (xR X).locals := C.2.2.2.2.2.2.2.2.2
/-- how much the walk has made, by the heap itself -/
theorem gStand_tight {X : gXT} (C : gCtx X) {h : gHp} {T : State} {locs : List Loc} {cells slots : Nat} (S : Stand (xp X) (xK X).1 (xe X) (xR X) (xs X) (xm X) (xa X) (xb X) (xM X) (xc X) T locs cells slots) (hI : gI (xK X) h T.heap) :
    Stand (xp X) (xK X).1 (xe X) (xR X) (xs X) (xm X) (xa X) (xb X) (xM X) (xc X) T locs (h.2.1 - (xs X).heap.size) (h.2.2.1 - ghs (kB (xK X)) (xs X).heap) := by
  obtain ⟨s1, s2, s3, s4, s5, s6⟩ := S.same
  have h1 : (xs X).heap.size ≤ T.heap.size := s2
  have h2 := ghs_split C.hbs h1 (fun i c hc => by
    obtain ⟨c', e1, -, e3, -⟩ := s6 i c hc
    exact ⟨c', e1, e3⟩)
  rw [hI.2.2.1] at h2
  have h3 := hI.2.1
  exact { S with same := ⟨s1, s2, by show T.heap.size ≤ _; omega, s4, by show ((T.heap.toList.drop (xs X).heap.size).map (·.slots.size)).sum ≤ _; omega, s6⟩ }
theorem gStand_wide {X : gXT} (C : gCtx X) {T : State} {locs : List Loc} {cells slots : Nat} (S : Stand (xp X) (xK X).1 (xe X) (xR X) (xs X) (xm X) (xa X) (xb X) (xM X) (xc X) T locs cells slots) (hc : cells ≤ (xR X).cells) (hs : slots ≤ (xR X).slots) : gStand X T locs := stand_widen S hc hs
/-- fewer locals, in another order -/
theorem gW_sub {X : gXT} {h : gHp} {pc : Nat} {lv lv' : List (Nat × gV)} {st : List gV} (ks : List Nat) (hl : ks.filterMap (fun i => lv[i]?) = lv') (k : gW X h pc lv' st) : gW X h pc lv st := by
  intro H locs ls P
  refine k H locs ls ⟨P.1, P.2.1, P.2.2.1, P.2.2.2.1, P.2.2.2.2.1, fun q hq => P.2.2.2.2.2 q ?_⟩
  subst hl
  obtain ⟨q', hq', rfl⟩ := List.mem_map.mp hq
  obtain ⟨i, -, hi⟩ := List.mem_filterMap.mp hq'
  exact List.mem_map.mpr ⟨q', List.mem_of_getElem? hi, rfl⟩
/-- a method by the walk of its body -/
theorem gMet_of {K : gKT} {y : MethodName} {ws' : List Cond} {d : Nat} {av : List gV} {h : gHp} {o : gO} {h' : gHp} {cc : ByteArray} {maxL : Nat} {ret : Option FieldType} (hy : plainName y.cls = true) (hws : ∀ w ∈ lw_all, w ∈ ws')
    (body : ∀ X : gXT, gCtx X → xK X = K → xy X = cc → xw X = y.cls → xo X = (o, h') → (xc X).maxLocals = maxL → (xM X).sig.returnType = ret → (xc X).exceptionTable.toList = [] → xd X = d → (xM X).name = y.name →
      ∀ (H : Heap) (ls : Array Slot), gI K h H → (xs X).heap.size ≤ H.size → ls = (entryFrame (xm X) (av.map gval).toArray maxL).locals → gWW X H [] (xR X).cells (xR X).slots (F0 (xm X) 0 ls [])) :
    gMet K y (Cond.code y cc maxL ret :: ws') d av h o h' := by
  refine MetFree.of_bodyS (code := cc) (maxLocals := maxL) (ret := ret) hy ?_ ?_
  · intro args s m h hn
    obtain ⟨meth, c, h1, h2, h3, h4, h5, h6, -, -⟩ := Cond.code_spec hn (atoms_spec (ws := Cond.code y cc maxL ret :: ws') h _ List.mem_cons_self)
    exact ⟨meth, c, h1, h2, h3, h4, h5, h6⟩
  · intro p e s m args below meth c s₁ B hml hP _
    have hh0 : s₁.heap = s.heap := by rw [B.state]; rfl
    have ht : c.exceptionTable.toList = [] := by
      obtain ⟨meth9, c9, h1, h2, -, -, -, -, h7, -⟩ := Cond.code_spec B.named (atoms_spec (ws := Cond.code y cc maxL ret :: ws') B.pre _ List.mem_cons_self)
      cases Option.some.inj (h1.symm.trans B.method)
      cases Option.some.inj (h2.symm.trans (Stand.of_body B).code)
      rw [Array.isEmpty_iff.mp h7]
    obtain ⟨rfl, hI, hKs⟩ := hP
    have hts := atoms_spec (ws := Cond.code y cc maxL ret :: ws') B.pre
    have S0 := stand_widen (Stand.of_body B) (Nat.zero_le (gRoom K d h).cells) (Nat.zero_le (gRoom K d h).slots)
    obtain ⟨t, a1, oc, b1, b2, b3⟩ := body (K, p, e, gRoom K d h, s, m, (av.map gval).toArray, below, meth, c, (o, h'), y.cls, cc, d)
      ⟨B.exec, B.bytes, fun w hw => hts w (List.mem_cons_of_mem _ (hws w hw)), findClass_of_methodNamed B.named, hKs, B.notSynchronized, by show kB K + gLC - h.2.1 = _; rw [← hI.2.1], by show gLS - h.2.2.1 = _; rw [← hI.2.2.1], by show kB K ≤ s.heap.size; rw [hI.2.1]; exact hI.2.2.2.2.2.2.1, Nat.le_refl _, Nat.le_refl _⟩
      rfl rfl rfl rfl hml B.returns ht rfl (name_of_methodNamed B.named B.method).1 s.heap _ hI (Nat.le_refl _) rfl s₁ hh0 S0
    exact ⟨t, oc, a1, b1, b2, b3⟩
/-- a method with a table of handlers, by the walk of its body -/
theorem gMet_ofW {K : gKT} {y : MethodName} {ws' : List Cond} {d : Nat} {av : List gV} {h : gHp} {o : gO} {h' : gHp} {cc : ByteArray} {maxL : Nat} {ret : Option FieldType} {hh : List (Nat × Nat × Nat × Nat)} (hy : plainName y.cls = true) (hws : ∀ w ∈ lw_all, w ∈ ws')
    (body : ∀ X : gXT, gCtx X → xK X = K → xy X = cc → xw X = y.cls → xo X = (o, h') → (xc X).maxLocals = maxL → (xM X).sig.returnType = ret → (xc X).exceptionTable.toList = tableOf hh → xd X = d → (xM X).name = y.name →
      ∀ (H : Heap) (ls : Array Slot), gI K h H → (xs X).heap.size ≤ H.size → ls = (entryFrame (xm X) (av.map gval).toArray maxL).locals → gWW X H [] (xR X).cells (xR X).slots (F0 (xm X) 0 ls [])) :
    gMet K y (Cond.codeWith y cc maxL ret hh :: ws') d av h o h' := by
  refine MetFree.of_bodyS (code := cc) (maxLocals := maxL) (ret := ret) hy ?_ ?_
  · intro args s m h hn
    obtain ⟨m9, meth, c, hn9, h1, h2, h3, h4, -, h5, h6, -⟩ := Cond.codeWith_spec (atoms_spec (ws := Cond.codeWith y cc maxL ret hh :: ws') h _ List.mem_cons_self)
    cases hn.symm.trans hn9
    exact ⟨meth, c, h1, h2, h3, h4, h5, h6⟩
  · intro p e s m args below meth c s₁ B hml hP _
    have hh0 : s₁.heap = s.heap := by rw [B.state]; rfl
    obtain ⟨rfl, hI, hKs⟩ := hP
    have hts := atoms_spec (ws := Cond.codeWith y cc maxL ret hh :: ws') B.pre
    have ht : c.exceptionTable.toList = tableOf hh := vx_table (x := y) B (hts _ List.mem_cons_self)
    have S0 := stand_widen (Stand.of_body B) (Nat.zero_le (gRoom K d h).cells) (Nat.zero_le (gRoom K d h).slots)
    obtain ⟨t, a1, oc, b1, b2, b3⟩ := body (K, p, e, gRoom K d h, s, m, (av.map gval).toArray, below, meth, c, (o, h'), y.cls, cc, d)
      ⟨B.exec, B.bytes, fun w hw => hts w (List.mem_cons_of_mem _ (hws w hw)), findClass_of_methodNamed B.named, hKs, B.notSynchronized, by show kB K + gLC - h.2.1 = _; rw [← hI.2.1], by show gLS - h.2.2.1 = _; rw [← hI.2.2.1], by show kB K ≤ s.heap.size; rw [hI.2.1]; exact hI.2.2.2.2.2.2.1, Nat.le_refl _, Nat.le_refl _⟩
      rfl rfl rfl rfl hml B.returns ht rfl (name_of_methodNamed B.named B.method).1 s.heap _ hI (Nat.le_refl _) rfl s₁ hh0 S0
    exact ⟨t, oc, a1, b1, b2, b3⟩
/-- the walk's start: the locals hold the arguments -/
def gargs : Nat → List gV → List (Nat × gV)
  | _, [] => []
  | i, v :: r => (i, v) :: gargs (i + gcat v) r
theorem gargs_ok : ∀ (vs : List gV) (i : Nat), lv_args i (vs.map gval) = (gargs i vs).map fun q => (q.1, gval q.2)
  | [], i => rfl
  | v :: r, i => by
    have h := gargs_ok r (i + gcat v)
    show _ = (i, gval v) :: (gargs (i + gcat v) r).map fun q => (q.1, gval q.2)
    rw [← h]
    rcases v with x | r9 | x | x | x
    · rfl
    · cases r9 <;> rfl
    · rfl
    · rfl
    · rfl
theorem gStart {X : gXT} {K : gKT} {h : gHp} {av : List gV} {lv : List (Nat × gV)} {maxL : Nat} {H : Heap} {ls : Array Slot} (hK : xK X = K) (hml : (xc X).maxLocals = maxL) (hsz : (lg_sl (av.map gval)).length ≤ maxL) (hlv : gargs 0 av = lv) (hI : gI K h H) (hs : (xs X).heap.size ≤ H.size) (hls : ls = (entryFrame (xm X) (av.map gval).toArray maxL).locals) (k : gW X h 0 lv []) : gWW X H [] (xR X).cells (xR X).slots (F0 (xm X) 0 ls []) := by
  subst hK hml hlv
  refine k H [] ls ⟨hI, (fun z hz => by cases hz), hs, ?_⟩
  have hl := lv_entry (av.map gval) hsz
  rw [gargs_ok] at hl
  rw [hls, lg_entry_eq]
  exact hl
/-- a cell that isn't one of the old ones -/
def gNo (e : gE) : Bool := match e with
  | .inl x => !(x.1 == 0 || x.1 == 1)
  | .inr o => !(o.1 == 16)
theorem gStr {X : gXT} (C : gCtx X) {h : gHp} {H : Heap} {a : Nat} {e : gE} (hI : gI (xK X) h H) (ha : h.1 a = some e) (hn : gNo e = true) : gat (xK X) a e H := by
  rcases hI.1 a e ha with h1 | ⟨-, h2⟩
  · exact h1
  · have h3 := C.hOl a e h2
    unfold gOl at h3
    split at h3
    · simp [gNo] at hn
    · simp [gNo] at hn
    · simp [gNo] at hn
    · exact h3.elim
theorem gStrB {K : gKT} {h : gHp} {H : Heap} {a : Nat} {e : gE} (hI : gI K h H) (ha : h.1 a = some e) (hb : kB K ≤ a) : gat K a e H := by
  rcases hI.1 a e ha with h1 | ⟨h2, -⟩
  · exact h1
  · exact absurd h2 (Nat.not_lt.mpr hb)
theorem gStrb {K : gKT} {h : gHp} {H : Heap} {a : Nat} {e : gE} (hI : gI K h H) (ha : h.1 a = some e) (hb : h.2.2.2.1 ≤ a) : gat K a e H := gStrB hI ha (by rw [← hI.2.2.2.2.1]; exact hb)
