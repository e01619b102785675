/-! G ROWS: the pure instructions (printed by gen/rows.py) -/
set_option maxRecDepth 100000
def bd {α β : Type} (o : Option β) (k : β → Option α) : Option α := match o with
  | none => none
  | some v => k v
abbrev glc (x y : Int64) : Int32 := lg_cmp x y
def gidiv (x y : Int32) : Option Int32 := if y = 0 then none else some (x / y)
def girem (x y : Int32) : Option Int32 := if y = 0 then none else some (x - x / y * y)
def gnn32 (r : UInt32) : Option UInt32 := if r &&& 0x7fffffff ≤ 0x7f800000 then some r else none
def gnn64 (r : UInt64) : Option UInt64 := if r &&& 0x7fffffffffffffff ≤ 0x7ff0000000000000 then some r else none
def gfdiv (x y : UInt32) : Option UInt32 := gnn32 (FP.fdiv x y)
def gddiv (x y : UInt64) : Option UInt64 := gnn64 (FP.ddiv x y)
def gf2d (x : UInt32) : Option UInt64 := gnn64 (FP.f2d x)
theorem gnan32 {r v : UInt32} (h : gnn32 r = some v) : vf_n32 r ∧ r = v := by
  unfold gnn32 at h
  split at h
  · rename_i q
    exact ⟨q, Option.some.inj h⟩
  · cases h
theorem gnan64 {r v : UInt64} (h : gnn64 r = some v) : vf_n64 r ∧ r = v := by
  unfold gnn64 at h
  split at h
  · rename_i q
    exact ⟨q, Option.some.inj h⟩
  · cases h
theorem r_iconst {X : gXT} {h : gHp} {pc : Nat} {lv : List (Nat × gV)} {st : List gV} (C : gCtx X) {n : Int} {v : Int32} (d : decode (xy X) pc = .ok (.iconst n, 1)) (hv : Int32.ofInt n = v) (k : gW X h (pc + 1) lv (gi v :: st)) : gW X h pc lv (st) := fun H locs ls P => lv_iconst C.hx C.hb d hv (k H locs ls P)
theorem r_bipush {X : gXT} {h : gHp} {pc : Nat} {lv : List (Nat × gV)} {st : List gV} (C : gCtx X) {n : Int} {v : Int32} (d : decode (xy X) pc = .ok (.bipush n, 2)) (hv : (Int8.ofInt n).toInt32 = v) (k : gW X h (pc + 2) lv (gi v :: st)) : gW X h pc lv (st) := fun H locs ls P => lv_bipush C.hx C.hb d hv (k H locs ls P)
theorem r_sipush {X : gXT} {h : gHp} {pc : Nat} {lv : List (Nat × gV)} {st : List gV} (C : gCtx X) {n : Int} {v : Int32} (d : decode (xy X) pc = .ok (.sipush n, 3)) (hv : (Int16.ofInt n).toInt32 = v) (k : gW X h (pc + 3) lv (gi v :: st)) : gW X h pc lv (st) := fun H locs ls P => lv_sipush C.hx C.hb d hv (k H locs ls P)
theorem r_lconst {X : gXT} {h : gHp} {pc : Nat} {lv : List (Nat × gV)} {st : List gV} (C : gCtx X) {n : Fin 2} {v : Int64} (d : decode (xy X) pc = .ok (.lconst n, 1)) (hv : Int64.ofNat (n : Nat) = v) (k : gW X h (pc + 1) lv (gl v :: st)) : gW X h pc lv (st) := fun H locs ls P => lv_lconst C.hx C.hb d hv (k H locs ls P)
theorem r_null {X : gXT} {h : gHp} {pc : Nat} {lv : List (Nat × gV)} {st : List gV} (C : gCtx X)  (d : decode (xy X) pc = .ok (.aconst_null, 1))  (k : gW X h (pc + 1) lv (gq none :: st)) : gW X h pc lv (st) := fun H locs ls P => lv_null C.hx C.hb d (k H locs ls P)
theorem r_iadd {X : gXT} {h : gHp} {pc : Nat} {lv : List (Nat × gV)} {st : List gV} (C : gCtx X) {x y : Int32} (d : decode (xy X) pc = .ok (.iadd, 1))  (k : gW X h (pc + 1) lv (gi (x + y) :: st)) : gW X h pc lv (gi y :: gi x :: st) := fun H locs ls P => lv_iadd C.hx C.hb d (k H locs ls P)
theorem r_isub {X : gXT} {h : gHp} {pc : Nat} {lv : List (Nat × gV)} {st : List gV} (C : gCtx X) {x y : Int32} (d : decode (xy X) pc = .ok (.isub, 1))  (k : gW X h (pc + 1) lv (gi (x - y) :: st)) : gW X h pc lv (gi y :: gi x :: st) := fun H locs ls P => lv_isub C.hx C.hb d (k H locs ls P)
theorem r_imul {X : gXT} {h : gHp} {pc : Nat} {lv : List (Nat × gV)} {st : List gV} (C : gCtx X) {x y : Int32} (d : decode (xy X) pc = .ok (.imul, 1))  (k : gW X h (pc + 1) lv (gi (x * y) :: st)) : gW X h pc lv (gi y :: gi x :: st) := fun H locs ls P => lv_imul C.hx C.hb d (k H locs ls P)
theorem r_iand {X : gXT} {h : gHp} {pc : Nat} {lv : List (Nat × gV)} {st : List gV} (C : gCtx X) {x y : Int32} (d : decode (xy X) pc = .ok (.iand, 1))  (k : gW X h (pc + 1) lv (gi (x &&& y) :: st)) : gW X h pc lv (gi y :: gi x :: st) := fun H locs ls P => lv_iand C.hx C.hb d (k H locs ls P)
theorem r_ior {X : gXT} {h : gHp} {pc : Nat} {lv : List (Nat × gV)} {st : List gV} (C : gCtx X) {x y : Int32} (d : decode (xy X) pc = .ok (.ior, 1))  (k : gW X h (pc + 1) lv (gi (x ||| y) :: st)) : gW X h pc lv (gi y :: gi x :: st) := fun H locs ls P => lv_ior C.hx C.hb d (k H locs ls P)
theorem r_ixor {X : gXT} {h : gHp} {pc : Nat} {lv : List (Nat × gV)} {st : List gV} (C : gCtx X) {x y : Int32} (d : decode (xy X) pc = .ok (.ixor, 1))  (k : gW X h (pc + 1) lv (gi (x ^^^ y) :: st)) : gW X h pc lv (gi y :: gi x :: st) := fun H locs ls P => lv_ixor C.hx C.hb d (k H locs ls P)
theorem r_ishl {X : gXT} {h : gHp} {pc : Nat} {lv : List (Nat × gV)} {st : List gV} (C : gCtx X) {x y : Int32} (d : decode (xy X) pc = .ok (.ishl, 1))  (k : gW X h (pc + 1) lv (gi (x <<< (y &&& 31)) :: st)) : gW X h pc lv (gi y :: gi x :: st) := fun H locs ls P => lv_ishl C.hx C.hb d (k H locs ls P)
theorem r_ishr {X : gXT} {h : gHp} {pc : Nat} {lv : List (Nat × gV)} {st : List gV} (C : gCtx X) {x y : Int32} (d : decode (xy X) pc = .ok (.ishr, 1))  (k : gW X h (pc + 1) lv (gi (x >>> (y &&& 31)) :: st)) : gW X h pc lv (gi y :: gi x :: st) := fun H locs ls P => lv_ishr C.hx C.hb d (k H locs ls P)
theorem r_iushr {X : gXT} {h : gHp} {pc : Nat} {lv : List (Nat × gV)} {st : List gV} (C : gCtx X) {x y : Int32} (d : decode (xy X) pc = .ok (.iushr, 1))  (k : gW X h (pc + 1) lv (gi ((x.toUInt32 >>> (y.toUInt32 &&& Int32.toUInt32 31)).toInt32) :: st)) : gW X h pc lv (gi y :: gi x :: st) := fun H locs ls P => lv_iushr C.hx C.hb d rfl (k H locs ls P)
theorem r_ineg {X : gXT} {h : gHp} {pc : Nat} {lv : List (Nat × gV)} {st : List gV} (C : gCtx X) {x : Int32} (d : decode (xy X) pc = .ok (.ineg, 1))  (k : gW X h (pc + 1) lv (gi (-x) :: st)) : gW X h pc lv (gi x :: st) := fun H locs ls P => lv_ineg C.hx C.hb d (k H locs ls P)
theorem r_i2l {X : gXT} {h : gHp} {pc : Nat} {lv : List (Nat × gV)} {st : List gV} (C : gCtx X) {x : Int32} (d : decode (xy X) pc = .ok (.i2l, 1))  (k : gW X h (pc + 1) lv (gl x.toInt64 :: st)) : gW X h pc lv (gi x :: st) := fun H locs ls P => lv_i2l C.hx C.hb d rfl (k H locs ls P)
theorem r_i2b {X : gXT} {h : gHp} {pc : Nat} {lv : List (Nat × gV)} {st : List gV} (C : gCtx X) {x : Int32} (d : decode (xy X) pc = .ok (.i2b, 1))  (k : gW X h (pc + 1) lv (gi x.toInt8.toInt32 :: st)) : gW X h pc lv (gi x :: st) := fun H locs ls P => lv_i2b C.hx C.hb d rfl (k H locs ls P)
theorem r_i2c {X : gXT} {h : gHp} {pc : Nat} {lv : List (Nat × gV)} {st : List gV} (C : gCtx X) {x : Int32} (d : decode (xy X) pc = .ok (.i2c, 1))  (k : gW X h (pc + 1) lv (gi (x.toUInt32 % 65536).toInt32 :: st)) : gW X h pc lv (gi x :: st) := fun H locs ls P => lv_i2c C.hx C.hb d rfl (k H locs ls P)
theorem r_i2d {X : gXT} {h : gHp} {pc : Nat} {lv : List (Nat × gV)} {st : List gV} (C : gCtx X) {x : Int32} (d : decode (xy X) pc = .ok (.i2d, 1))  (k : gW X h (pc + 1) lv (gd (FP.i2d x) :: st)) : gW X h pc lv (gi x :: st) := fun H locs ls P => lv_i2d C.hx C.hb d (k H locs ls P)
theorem r_l2d {X : gXT} {h : gHp} {pc : Nat} {lv : List (Nat × gV)} {st : List gV} (C : gCtx X) {x : Int64} (d : decode (xy X) pc = .ok (.l2d, 1))  (k : gW X h (pc + 1) lv (gd (FP.l2d x) :: st)) : gW X h pc lv (gl x :: st) := fun H locs ls P => lv_l2d C.hx C.hb d (k H locs ls P)
theorem r_i2f {X : gXT} {h : gHp} {pc : Nat} {lv : List (Nat × gV)} {st : List gV} (C : gCtx X) {x : Int32} (d : decode (xy X) pc = .ok (.i2f, 1))  (k : gW X h (pc + 1) lv (gf (FP.i2f x) :: st)) : gW X h pc lv (gi x :: st) := fun H locs ls P => lv_i2f C.hx C.hb d (k H locs ls P)
theorem r_ladd {X : gXT} {h : gHp} {pc : Nat} {lv : List (Nat × gV)} {st : List gV} (C : gCtx X) {x y : Int64} (d : decode (xy X) pc = .ok (.ladd, 1))  (k : gW X h (pc + 1) lv (gl (x + y) :: st)) : gW X h pc lv (gl y :: gl x :: st) := fun H locs ls P => lv_ladd C.hx C.hb d (k H locs ls P)
theorem r_lmul {X : gXT} {h : gHp} {pc : Nat} {lv : List (Nat × gV)} {st : List gV} (C : gCtx X) {x y : Int64} (d : decode (xy X) pc = .ok (.lmul, 1))  (k : gW X h (pc + 1) lv (gl (x * y) :: st)) : gW X h pc lv (gl y :: gl x :: st) := fun H locs ls P => lv_lmul C.hx C.hb d (k H locs ls P)
theorem r_lcmp {X : gXT} {h : gHp} {pc : Nat} {lv : List (Nat × gV)} {st : List gV} (C : gCtx X) {x y : Int64} (d : decode (xy X) pc = .ok (.lcmp, 1))  (k : gW X h (pc + 1) lv (gi (glc x y) :: st)) : gW X h pc lv (gl y :: gl x :: st) := fun H locs ls P => W.lcmp C.hx C.hb d (k H locs ls P)
theorem r_dcmp {X : gXT} {h : gHp} {pc : Nat} {lv : List (Nat × gV)} {st : List gV} (C : gCtx X) {x y : UInt64} {op : CmpOp} (d : decode (xy X) pc = .ok (.dcmp op, 1))  (k : gW X h (pc + 1) lv (gi (Op.cmpValue (FP.dcmp x y) op) :: st)) : gW X h pc lv (gd y :: gd x :: st) := fun H locs ls P => lv_dcmp C.hx C.hb d (k H locs ls P)
theorem r_fcmp {X : gXT} {h : gHp} {pc : Nat} {lv : List (Nat × gV)} {st : List gV} (C : gCtx X) {x y : UInt32} {op : CmpOp} (d : decode (xy X) pc = .ok (.fcmp op, 1))  (k : gW X h (pc + 1) lv (gi (Op.cmpValue (FP.fcmp x y) op) :: st)) : gW X h pc lv (gf y :: gf x :: st) := fun H locs ls P => lv_fcmp C.hx C.hb d (k H locs ls P)
theorem bd_some {α β : Type} {o : Option β} {k : β → Option α} {out : α} (h : bd o k = some out) : ∃ v, o = some v ∧ k v = some out := by
  cases o with
  | none => cases h
  | some v => exact ⟨v, rfl, h⟩
theorem r_idiv {X : gXT} {h : gHp} {pc : Nat} {lv : List (Nat × gV)} {st : List gV} {α β : Type} {out : α} (C : gCtx X) {x y : Int32} {kk : Int32 → Option α} (d : decode (xy X) pc = .ok (.idiv, 1)) (he : bd (gidiv x y) kk = some out) (k : ∀ v, gidiv x y = some v → kk v = some out → gW X h (pc + 1) lv (gi v :: st)) : gW X h pc lv (gi y :: gi x :: st) := by
  obtain ⟨v, e1, e2⟩ := bd_some he
  have hy : ¬ y = 0 := by
    intro h0
    simp [gidiv, h0] at e1
  have hv : x / y = v := by
    simp [gidiv, hy] at e1
    exact e1
  have k2 := k v e1 e2
  intro H locs ls P
  subst hv
  exact lv_idiv C.hx C.hb d hy (k2 H locs ls P)
theorem r_irem {X : gXT} {h : gHp} {pc : Nat} {lv : List (Nat × gV)} {st : List gV} {α β : Type} {out : α} (C : gCtx X) {x y : Int32} {kk : Int32 → Option α} (d : decode (xy X) pc = .ok (.irem, 1)) (he : bd (girem x y) kk = some out) (k : ∀ v, girem x y = some v → kk v = some out → gW X h (pc + 1) lv (gi v :: st)) : gW X h pc lv (gi y :: gi x :: st) := by
  obtain ⟨v, e1, e2⟩ := bd_some he
  have hy : ¬ y = 0 := by
    intro h0
    simp [girem, h0] at e1
  have hv : x - x / y * y = v := by
    simp [girem, hy] at e1
    exact e1
  have k2 := k v e1 e2
  intro H locs ls P
  subst hv
  exact lv_irem C.hx C.hb d hy (k2 H locs ls P)
theorem r_fdiv {X : gXT} {h : gHp} {pc : Nat} {lv : List (Nat × gV)} {st : List gV} {α β : Type} {out : α} (C : gCtx X) {x y : UInt32} {kk : UInt32 → Option α} (d : decode (xy X) pc = .ok (.fdiv, 1)) (he : bd (gfdiv x y) kk = some out) (k : ∀ v, gfdiv x y = some v → kk v = some out → gW X h (pc + 1) lv (gf v :: st)) : gW X h pc lv (gf y :: gf x :: st) := by
  obtain ⟨v, e1, e2⟩ := bd_some he
  obtain ⟨hv, rfl⟩ := gnan32 e1
  have k2 := k _ e1 e2
  exact fun H locs ls P => lv_fdiv C.hx C.hb d hv (k2 H locs ls P)
theorem r_ddiv {X : gXT} {h : gHp} {pc : Nat} {lv : List (Nat × gV)} {st : List gV} {α β : Type} {out : α} (C : gCtx X) {x y : UInt64} {kk : UInt64 → Option α} (d : decode (xy X) pc = .ok (.ddiv, 1)) (he : bd (gddiv x y) kk = some out) (k : ∀ v, gddiv x y = some v → kk v = some out → gW X h (pc + 1) lv (gd v :: st)) : gW X h pc lv (gd y :: gd x :: st) := by
  obtain ⟨v, e1, e2⟩ := bd_some he
  obtain ⟨hv, rfl⟩ := gnan64 e1
  have k2 := k _ e1 e2
  exact fun H locs ls P => lv_ddiv C.hx C.hb d hv (k2 H locs ls P)
theorem r_f2d {X : gXT} {h : gHp} {pc : Nat} {lv : List (Nat × gV)} {st : List gV} {α β : Type} {out : α} (C : gCtx X) {x : UInt32} {kk : UInt64 → Option α} (d : decode (xy X) pc = .ok (.f2d, 1)) (he : bd (gf2d x) kk = some out) (k : ∀ v, gf2d x = some v → kk v = some out → gW X h (pc + 1) lv (gd v :: st)) : gW X h pc lv (gf x :: st) := by
  obtain ⟨v, e1, e2⟩ := bd_some he
  obtain ⟨hv, rfl⟩ := gnan64 e1
  have k2 := k _ e1 e2
  exact fun H locs ls P => lv_f2d C.hx C.hb d hv (k2 H locs ls P)
theorem r_dup {X : gXT} {h : gHp} {pc : Nat} {lv : List (Nat × gV)} {st : List gV} (C : gCtx X) {v : gV} (d : decode (xy X) pc = .ok (.dup, 1)) (hc : gcat v = 1) (k : gW X h (pc + 1) lv (v :: v :: st)) : gW X h pc lv (v :: st) := fun H locs ls P => lv_dup C.hx C.hb d (by rw [gcat_ok, hc]) (k H locs ls P)
theorem r_pop {X : gXT} {h : gHp} {pc : Nat} {lv : List (Nat × gV)} {st : List gV} (C : gCtx X) {v : gV} (d : decode (xy X) pc = .ok (.pop, 1)) (hc : gcat v = 1) (k : gW X h (pc + 1) lv (st)) : gW X h pc lv (v :: st) := fun H locs ls P => lv_pop C.hx C.hb d (by rw [gcat_ok, hc]) (k H locs ls P)
theorem r_dup2 {X : gXT} {h : gHp} {pc : Nat} {lv : List (Nat × gV)} {st : List gV} (C : gCtx X) {v w : gV} (d : decode (xy X) pc = .ok (.dup2, 1)) (hc : gcat v = 1) (hc2 : gcat w = 1) (k : gW X h (pc + 1) lv (v :: w :: v :: w :: st)) : gW X h pc lv (v :: w :: st) := fun H locs ls P => lv_dup2_11 C.hx C.hb d (by rw [gcat_ok, hc]) (by rw [gcat_ok, hc2]) (k H locs ls P)
theorem r_dup_x1 {X : gXT} {h : gHp} {pc : Nat} {lv : List (Nat × gV)} {st : List gV} (C : gCtx X) {v w : gV} (d : decode (xy X) pc = .ok (.dup_x1, 1)) (hc : gcat v = 1) (hc2 : gcat w = 1) (k : gW X h (pc + 1) lv (v :: w :: v :: st)) : gW X h pc lv (v :: w :: st) := fun H locs ls P => lv_dup_x1 C.hx C.hb d (by rw [gcat_ok, hc]) (by rw [gcat_ok, hc2]) (k H locs ls P)
theorem r_icmp_eq {X : gXT} {h : gHp} {pc : Nat} {lv : List (Nat × gV)} {st : List gV} {α : Type} {out : α} {a b : Option α} (C : gCtx X) {x y : Int32} {off : Int} (tgt : Nat) (d : decode (xy X) pc = .ok (.if_icmp .eq off, 3)) (ht : (pc : Int) + off = (tgt : Int)) (he : (if x = y then a else b) = some out) (kt : a = some out → gW X h tgt lv st) (kf : b = some out → gW X h (pc + 3) lv st) : gW X h pc lv (gi y :: gi x :: st) := by
  intro H locs ls P
  refine lv_icmp_eq C.hx C.hb d ht (fun c => ?_) (fun c => ?_)
  · exact kt (by rwa [if_pos c] at he) H locs ls P
  · exact kf (by rwa [if_neg c] at he) H locs ls P
theorem r_if_eq {X : gXT} {h : gHp} {pc : Nat} {lv : List (Nat × gV)} {st : List gV} {α : Type} {out : α} {a b : Option α} (C : gCtx X) {x : Int32} {off : Int} (tgt : Nat) (d : decode (xy X) pc = .ok (.ifCond .eq off, 3)) (ht : (pc : Int) + off = (tgt : Int)) (he : (if x = 0 then a else b) = some out) (kt : a = some out → gW X h tgt lv st) (kf : b = some out → gW X h (pc + 3) lv st) : gW X h pc lv (gi x :: st) := by
  intro H locs ls P
  refine lv_if_eq C.hx C.hb d ht (fun c => ?_) (fun c => ?_)
  · exact kt (by rwa [if_pos c] at he) H locs ls P
  · exact kf (by rwa [if_neg c] at he) H locs ls P
theorem r_icmp_ne {X : gXT} {h : gHp} {pc : Nat} {lv : List (Nat × gV)} {st : List gV} {α : Type} {out : α} {a b : Option α} (C : gCtx X) {x y : Int32} {off : Int} (tgt : Nat) (d : decode (xy X) pc = .ok (.if_icmp .ne off, 3)) (ht : (pc : Int) + off = (tgt : Int)) (he : (if x = y then b else a) = some out) (kt : a = some out → gW X h tgt lv st) (kf : b = some out → gW X h (pc + 3) lv st) : gW X h pc lv (gi y :: gi x :: st) := by
  intro H locs ls P
  refine lv_icmp_ne C.hx C.hb d ht (fun c => ?_) (fun c => ?_)
  · exact kt (by rwa [if_neg c] at he) H locs ls P
  · exact kf (by rwa [if_pos c] at he) H locs ls P
theorem r_if_ne {X : gXT} {h : gHp} {pc : Nat} {lv : List (Nat × gV)} {st : List gV} {α : Type} {out : α} {a b : Option α} (C : gCtx X) {x : Int32} {off : Int} (tgt : Nat) (d : decode (xy X) pc = .ok (.ifCond .ne off, 3)) (ht : (pc : Int) + off = (tgt : Int)) (he : (if x = 0 then b else a) = some out) (kt : a = some out → gW X h tgt lv st) (kf : b = some out → gW X h (pc + 3) lv st) : gW X h pc lv (gi x :: st) := by
  intro H locs ls P
  refine lv_if_ne C.hx C.hb d ht (fun c => ?_) (fun c => ?_)
  · exact kt (by rwa [if_neg c] at he) H locs ls P
  · exact kf (by rwa [if_pos c] at he) H locs ls P
theorem r_icmp_lt {X : gXT} {h : gHp} {pc : Nat} {lv : List (Nat × gV)} {st : List gV} {α : Type} {out : α} {a b : Option α} (C : gCtx X) {x y : Int32} {off : Int} (tgt : Nat) (d : decode (xy X) pc = .ok (.if_icmp .lt off, 3)) (ht : (pc : Int) + off = (tgt : Int)) (he : (if x < y then a else b) = some out) (kt : a = some out → gW X h tgt lv st) (kf : b = some out → gW X h (pc + 3) lv st) : gW X h pc lv (gi y :: gi x :: st) := by
  intro H locs ls P
  refine lv_icmp_lt C.hx C.hb d ht (fun c => ?_) (fun c => ?_)
  · exact kt (by rwa [if_pos c] at he) H locs ls P
  · exact kf (by rwa [if_neg c] at he) H locs ls P
theorem r_if_lt {X : gXT} {h : gHp} {pc : Nat} {lv : List (Nat × gV)} {st : List gV} {α : Type} {out : α} {a b : Option α} (C : gCtx X) {x : Int32} {off : Int} (tgt : Nat) (d : decode (xy X) pc = .ok (.ifCond .lt off, 3)) (ht : (pc : Int) + off = (tgt : Int)) (he : (if x < 0 then a else b) = some out) (kt : a = some out → gW X h tgt lv st) (kf : b = some out → gW X h (pc + 3) lv st) : gW X h pc lv (gi x :: st) := by
  intro H locs ls P
  refine lv_if_lt C.hx C.hb d ht (fun c => ?_) (fun c => ?_)
  · exact kt (by rwa [if_pos c] at he) H locs ls P
  · exact kf (by rwa [if_neg c] at he) H locs ls P
theorem r_icmp_ge {X : gXT} {h : gHp} {pc : Nat} {lv : List (Nat × gV)} {st : List gV} {α : Type} {out : α} {a b : Option α} (C : gCtx X) {x y : Int32} {off : Int} (tgt : Nat) (d : decode (xy X) pc = .ok (.if_icmp .ge off, 3)) (ht : (pc : Int) + off = (tgt : Int)) (he : (if y ≤ x then a else b) = some out) (kt : a = some out → gW X h tgt lv st) (kf : b = some out → gW X h (pc + 3) lv st) : gW X h pc lv (gi y :: gi x :: st) := by
  intro H locs ls P
  refine lv_icmp_ge C.hx C.hb d ht (fun c => ?_) (fun c => ?_)
  · exact kt (by rwa [if_pos c] at he) H locs ls P
  · exact kf (by rwa [if_neg c] at he) H locs ls P
theorem r_if_ge {X : gXT} {h : gHp} {pc : Nat} {lv : List (Nat × gV)} {st : List gV} {α : Type} {out : α} {a b : Option α} (C : gCtx X) {x : Int32} {off : Int} (tgt : Nat) (d : decode (xy X) pc = .ok (.ifCond .ge off, 3)) (ht : (pc : Int) + off = (tgt : Int)) (he : (if 0 ≤ x then a else b) = some out) (kt : a = some out → gW X h tgt lv st) (kf : b = some out → gW X h (pc + 3) lv st) : gW X h pc lv (gi x :: st) := by
  intro H locs ls P
  refine lv_if_ge C.hx C.hb d ht (fun c => ?_) (fun c => ?_)
  · exact kt (by rwa [if_pos c] at he) H locs ls P
  · exact kf (by rwa [if_neg c] at he) H locs ls P
theorem r_icmp_gt {X : gXT} {h : gHp} {pc : Nat} {lv : List (Nat × gV)} {st : List gV} {α : Type} {out : α} {a b : Option α} (C : gCtx X) {x y : Int32} {off : Int} (tgt : Nat) (d : decode (xy X) pc = .ok (.if_icmp .gt off, 3)) (ht : (pc : Int) + off = (tgt : Int)) (he : (if y < x then a else b) = some out) (kt : a = some out → gW X h tgt lv st) (kf : b = some out → gW X h (pc + 3) lv st) : gW X h pc lv (gi y :: gi x :: st) := by
  intro H locs ls P
  refine lv_icmp_gt C.hx C.hb d ht (fun c => ?_) (fun c => ?_)
  · exact kt (by rwa [if_pos c] at he) H locs ls P
  · exact kf (by rwa [if_neg c] at he) H locs ls P
theorem r_if_gt {X : gXT} {h : gHp} {pc : Nat} {lv : List (Nat × gV)} {st : List gV} {α : Type} {out : α} {a b : Option α} (C : gCtx X) {x : Int32} {off : Int} (tgt : Nat) (d : decode (xy X) pc = .ok (.ifCond .gt off, 3)) (ht : (pc : Int) + off = (tgt : Int)) (he : (if 0 < x then a else b) = some out) (kt : a = some out → gW X h tgt lv st) (kf : b = some out → gW X h (pc + 3) lv st) : gW X h pc lv (gi x :: st) := by
  intro H locs ls P
  refine lv_if_gt C.hx C.hb d ht (fun c => ?_) (fun c => ?_)
  · exact kt (by rwa [if_pos c] at he) H locs ls P
  · exact kf (by rwa [if_neg c] at he) H locs ls P
theorem r_icmp_le {X : gXT} {h : gHp} {pc : Nat} {lv : List (Nat × gV)} {st : List gV} {α : Type} {out : α} {a b : Option α} (C : gCtx X) {x y : Int32} {off : Int} (tgt : Nat) (d : decode (xy X) pc = .ok (.if_icmp .le off, 3)) (ht : (pc : Int) + off = (tgt : Int)) (he : (if x ≤ y then a else b) = some out) (kt : a = some out → gW X h tgt lv st) (kf : b = some out → gW X h (pc + 3) lv st) : gW X h pc lv (gi y :: gi x :: st) := by
  intro H locs ls P
  refine lv_icmp_le C.hx C.hb d ht (fun c => ?_) (fun c => ?_)
  · exact kt (by rwa [if_pos c] at he) H locs ls P
  · exact kf (by rwa [if_neg c] at he) H locs ls P
theorem r_if_le {X : gXT} {h : gHp} {pc : Nat} {lv : List (Nat × gV)} {st : List gV} {α : Type} {out : α} {a b : Option α} (C : gCtx X) {x : Int32} {off : Int} (tgt : Nat) (d : decode (xy X) pc = .ok (.ifCond .le off, 3)) (ht : (pc : Int) + off = (tgt : Int)) (he : (if x ≤ 0 then a else b) = some out) (kt : a = some out → gW X h tgt lv st) (kf : b = some out → gW X h (pc + 3) lv st) : gW X h pc lv (gi x :: st) := by
  intro H locs ls P
  refine lv_if_le C.hx C.hb d ht (fun c => ?_) (fun c => ?_)
  · exact kt (by rwa [if_pos c] at he) H locs ls P
  · exact kf (by rwa [if_neg c] at he) H locs ls P
theorem r_acmp_eq {X : gXT} {h : gHp} {pc : Nat} {lv : List (Nat × gV)} {st : List gV} {α : Type} {out : α} {a b : Option α} (C : gCtx X) {x y : Option Nat} {off : Int} (tgt : Nat) (d : decode (xy X) pc = .ok (.if_acmp .eq off, 3)) (ht : (pc : Int) + off = (tgt : Int)) (he : (if x = y then a else b) = some out) (kt : a = some out → gW X h tgt lv st) (kf : b = some out → gW X h (pc + 3) lv st) : gW X h pc lv (gq y :: gq x :: st) := by
  intro H locs ls P
  refine lv_acmp_eq C.hx C.hb d ht (fun c => ?_) (fun c => ?_)
  · exact kt (by rwa [if_pos c] at he) H locs ls P
  · exact kf (by rwa [if_neg c] at he) H locs ls P
theorem r_acmp_ne {X : gXT} {h : gHp} {pc : Nat} {lv : List (Nat × gV)} {st : List gV} {α : Type} {out : α} {a b : Option α} (C : gCtx X) {x y : Option Nat} {off : Int} (tgt : Nat) (d : decode (xy X) pc = .ok (.if_acmp .ne off, 3)) (ht : (pc : Int) + off = (tgt : Int)) (he : (if x = y then b else a) = some out) (kt : a = some out → gW X h tgt lv st) (kf : b = some out → gW X h (pc + 3) lv st) : gW X h pc lv (gq y :: gq x :: st) := by
  intro H locs ls P
  refine lv_acmp_ne C.hx C.hb d ht (fun c => ?_) (fun c => ?_)
  · exact kt (by rwa [if_neg c] at he) H locs ls P
  · exact kf (by rwa [if_pos c] at he) H locs ls P
theorem r_ifnull {X : gXT} {h : gHp} {pc : Nat} {lv : List (Nat × gV)} {st : List gV} {α : Type} {out : α} {a b : Option α} (C : gCtx X) {x : Option Nat} {off : Int} (tgt : Nat) (d : decode (xy X) pc = .ok (.ifnull off, 3)) (ht : (pc : Int) + off = (tgt : Int)) (he : (if x = none then a else b) = some out) (kt : a = some out → gW X h tgt lv st) (kf : b = some out → gW X h (pc + 3) lv st) : gW X h pc lv (gq x :: st) := by
  intro H locs ls P
  cases x with
  | none => exact lv_ifnullN C.hx C.hb d ht (kt (by rwa [if_pos rfl] at he) H locs ls P)
  | some q => exact lv_ifnull C.hx C.hb d (kf (by rwa [if_neg (by simp)] at he) H locs ls P)
theorem r_ifnonnull {X : gXT} {h : gHp} {pc : Nat} {lv : List (Nat × gV)} {st : List gV} {α : Type} {out : α} {a b : Option α} (C : gCtx X) {x : Option Nat} {off : Int} (tgt : Nat) (d : decode (xy X) pc = .ok (.ifnonnull off, 3)) (ht : (pc : Int) + off = (tgt : Int)) (he : (if x = none then b else a) = some out) (kt : a = some out → gW X h tgt lv st) (kf : b = some out → gW X h (pc + 3) lv st) : gW X h pc lv (gq x :: st) := by
  intro H locs ls P
  cases x with
  | none => exact lv_ifnonnullN C.hx C.hb d (kf (by rwa [if_pos rfl] at he) H locs ls P)
  | some q => exact lv_ifnonnull C.hx C.hb d ht (kt (by rwa [if_neg (by simp)] at he) H locs ls P)
theorem r_goto {X : gXT} {h : gHp} {pc : Nat} {lv : List (Nat × gV)} {st : List gV} (C : gCtx X) {off : Int} (tgt : Nat) (d : decode (xy X) pc = .ok (.goto off, 3)) (ht : (pc : Int) + off = (tgt : Int)) (k : gW X h tgt lv st) : gW X h pc lv st := fun H locs ls P => lv_goto C.hx C.hb d ht (k H locs ls P)
theorem r_tsIn {X : gXT} {h : gHp} {pc : Nat} {lv : List (Nat × gV)} {st : List gV} (C : gCtx X) {dflt lo hi : Int} {offs : Array Int} {len : Nat} {x : Int32} {off : Int} (tgt : Nat) (v : Int32) (d : decode (xy X) pc = .ok (.tableswitch dflt lo hi offs, len)) (hx : x = v) (h1 : ¬ v.toInt < lo) (h2 : ¬ hi < v.toInt) (ho : offs[(v.toInt - lo).toNat]? = some off) (ht : (pc : Int) + off = (tgt : Int)) (k : gW X h tgt lv st) : gW X h pc lv (gi x :: st) := by
  subst hx
  exact fun H locs ls P => lv_tableIn C.hx C.hb d h1 h2 ho ht (k H locs ls P)
theorem r_tsOut {X : gXT} {h : gHp} {pc : Nat} {lv : List (Nat × gV)} {st : List gV} (C : gCtx X) {dflt lo hi : Int} {offs : Array Int} {len : Nat} {x : Int32} (tgt : Nat) (d : decode (xy X) pc = .ok (.tableswitch dflt lo hi offs, len)) (hx : x.toInt < lo ∨ hi < x.toInt) (ht : (pc : Int) + dflt = (tgt : Int)) (k : gW X h tgt lv st) : gW X h pc lv (gi x :: st) := fun H locs ls P => lv_tableOut C.hx C.hb d hx ht (k H locs ls P)
theorem r_iload_n {X : gXT} {h : gHp} {pc : Nat} {lv : List (Nat × gV)} {st : List gV} (C : gCtx X) {n : Fin 4} {i : Nat} {x : Int32} (j : Nat) (d : decode (xy X) pc = .ok (.iload_n n, 1)) (hi : (n : Nat) = i) (hj : lv[j]? = some (i, gi x)) (k : gW X h (pc + 1) lv (gi x :: st)) : gW X h pc lv st := fun H locs ls P => lv_iload_n C.hx C.hb d hi (lv_at P.2.2.2 j (by rw [List.getElem?_map, hj]; rfl)) (k H locs ls P)
theorem r_iload {X : gXT} {h : gHp} {pc : Nat} {lv : List (Nat × gV)} {st : List gV} (C : gCtx X) {i : Nat} {x : Int32} (j : Nat) (d : decode (xy X) pc = .ok (.iload i, 2)) (hj : lv[j]? = some (i, gi x)) (k : gW X h (pc + 2) lv (gi x :: st)) : gW X h pc lv st := fun H locs ls P => lv_iload C.hx C.hb d (lv_at P.2.2.2 j (by rw [List.getElem?_map, hj]; rfl)) (k H locs ls P)
theorem r_lload_n {X : gXT} {h : gHp} {pc : Nat} {lv : List (Nat × gV)} {st : List gV} (C : gCtx X) {n : Fin 4} {i : Nat} {x : Int64} (j : Nat) (d : decode (xy X) pc = .ok (.lload_n n, 1)) (hi : (n : Nat) = i) (hj : lv[j]? = some (i, gl x)) (k : gW X h (pc + 1) lv (gl x :: st)) : gW X h pc lv st := fun H locs ls P => lv_lload_n C.hx C.hb d hi (lv_at P.2.2.2 j (by rw [List.getElem?_map, hj]; rfl)) (k H locs ls P)
theorem r_lload {X : gXT} {h : gHp} {pc : Nat} {lv : List (Nat × gV)} {st : List gV} (C : gCtx X) {i : Nat} {x : Int64} (j : Nat) (d : decode (xy X) pc = .ok (.lload i, 2)) (hj : lv[j]? = some (i, gl x)) (k : gW X h (pc + 2) lv (gl x :: st)) : gW X h pc lv st := fun H locs ls P => lv_lload C.hx C.hb d (lv_at P.2.2.2 j (by rw [List.getElem?_map, hj]; rfl)) (k H locs ls P)
theorem r_fload_n {X : gXT} {h : gHp} {pc : Nat} {lv : List (Nat × gV)} {st : List gV} (C : gCtx X) {n : Fin 4} {i : Nat} {x : UInt32} (j : Nat) (d : decode (xy X) pc = .ok (.fload_n n, 1)) (hi : (n : Nat) = i) (hj : lv[j]? = some (i, gf x)) (k : gW X h (pc + 1) lv (gf x :: st)) : gW X h pc lv st := fun H locs ls P => lv_fload_n C.hx C.hb d hi (lv_at P.2.2.2 j (by rw [List.getElem?_map, hj]; rfl)) (k H locs ls P)
theorem r_fload {X : gXT} {h : gHp} {pc : Nat} {lv : List (Nat × gV)} {st : List gV} (C : gCtx X) {i : Nat} {x : UInt32} (j : Nat) (d : decode (xy X) pc = .ok (.fload i, 2)) (hj : lv[j]? = some (i, gf x)) (k : gW X h (pc + 2) lv (gf x :: st)) : gW X h pc lv st := fun H locs ls P => lv_fload C.hx C.hb d (lv_at P.2.2.2 j (by rw [List.getElem?_map, hj]; rfl)) (k H locs ls P)
theorem r_dload_n {X : gXT} {h : gHp} {pc : Nat} {lv : List (Nat × gV)} {st : List gV} (C : gCtx X) {n : Fin 4} {i : Nat} {x : UInt64} (j : Nat) (d : decode (xy X) pc = .ok (.dload_n n, 1)) (hi : (n : Nat) = i) (hj : lv[j]? = some (i, gd x)) (k : gW X h (pc + 1) lv (gd x :: st)) : gW X h pc lv st := fun H locs ls P => lv_dload_n C.hx C.hb d hi (lv_at P.2.2.2 j (by rw [List.getElem?_map, hj]; rfl)) (k H locs ls P)
theorem r_dload {X : gXT} {h : gHp} {pc : Nat} {lv : List (Nat × gV)} {st : List gV} (C : gCtx X) {i : Nat} {x : UInt64} (j : Nat) (d : decode (xy X) pc = .ok (.dload i, 2)) (hj : lv[j]? = some (i, gd x)) (k : gW X h (pc + 2) lv (gd x :: st)) : gW X h pc lv st := fun H locs ls P => lv_dload C.hx C.hb d (lv_at P.2.2.2 j (by rw [List.getElem?_map, hj]; rfl)) (k H locs ls P)
theorem r_aload_n {X : gXT} {h : gHp} {pc : Nat} {lv : List (Nat × gV)} {st : List gV} (C : gCtx X) {n : Fin 4} {i : Nat} {x : Option Nat} (j : Nat) (d : decode (xy X) pc = .ok (.aload_n n, 1)) (hi : (n : Nat) = i) (hj : lv[j]? = some (i, gq x)) (k : gW X h (pc + 1) lv (gq x :: st)) : gW X h pc lv st := by
  intro H locs ls P
  have q := lv_at P.2.2.2 (v := gval (gq x)) j (by rw [List.getElem?_map, hj]; rfl)
  have kk := k H locs ls P
  cases x with
  | none => exact lv_aload_nN C.hx C.hb d hi q kk
  | some a => exact lv_aload_n C.hx C.hb d hi q kk
theorem r_aload {X : gXT} {h : gHp} {pc : Nat} {lv : List (Nat × gV)} {st : List gV} (C : gCtx X) {i : Nat} {x : Option Nat} (j : Nat) (d : decode (xy X) pc = .ok (.aload i, 2)) (hj : lv[j]? = some (i, gq x)) (k : gW X h (pc + 2) lv (gq x :: st)) : gW X h pc lv st := by
  intro H locs ls P
  have q := lv_at P.2.2.2 (v := gval (gq x)) j (by rw [List.getElem?_map, hj]; rfl)
  have kk := k H locs ls P
  cases x with
  | none => exact lv_aloadN C.hx C.hb d q kk
  | some a => exact lv_aload C.hx C.hb d q kk
def gst1 (i : Nat) (v : gV) (lv : List (Nat × gV)) : List (Nat × gV) := (i, v) :: lv.filter (fun q => !(q.1 == i) && !(q.1 + 1 == i && gcat q.2 == 2))
def gst2 (i : Nat) (v : gV) (lv : List (Nat × gV)) : List (Nat × gV) := (i, v) :: lv.filter (fun q => !(q.1 == i) && (!(q.1 == i + 1) && !(q.1 + 1 == i && gcat q.2 == 2)))
theorem gst1_ok (i : Nat) (v : gV) (lv : List (Nat × gV)) : (i, gval v) :: (lv.map fun q => (q.1, gval q.2)).filter (fun q => !(q.1 == i) && !(q.1 + 1 == i && q.2.category == 2)) = (gst1 i v lv).map fun q => (q.1, gval q.2) := by
  simp only [gst1, List.map_cons, List.filter_map]
  congr 2
  apply List.filter_congr
  intro q _
  simp [gcat_ok]
theorem gst2_ok (i : Nat) (v : gV) (lv : List (Nat × gV)) : (i, gval v) :: (lv.map fun q => (q.1, gval q.2)).filter (fun q => !(q.1 == i) && (!(q.1 == i + 1) && !(q.1 + 1 == i && q.2.category == 2))) = (gst2 i v lv).map fun q => (q.1, gval q.2) := by
  simp only [gst2, List.map_cons, List.filter_map]
  congr 2
  apply List.filter_congr
  intro q _
  simp [gcat_ok]
theorem r_istore_n {X : gXT} {h : gHp} {pc : Nat} {lv : List (Nat × gV)} {st : List gV} (C : gCtx X) {n : Fin 4} {i : Nat} {x : Int32} {lv' : List (Nat × gV)} {nL : Nat} (d : decode (xy X) pc = .ok (.istore_n n, 1)) (hi : (n : Nat) = i) (hL : (xc X).maxLocals = nL) (hn : i < nL) (hl : gst1 i (gi x) lv = lv') (k : gW X h (pc + 1) lv' st) : gW X h pc lv (gi x :: st) := by
  subst hl
  exact fun H locs ls P => lv_istore_n C.hx C.hb d hi P.2.2.2 (by rw [hL]; exact hn) (gst1_ok i (gi x) lv) (fun ls' hl' => k H locs ls' ⟨P.1, P.2.1, P.2.2.1, hl'⟩)
theorem r_istore {X : gXT} {h : gHp} {pc : Nat} {lv : List (Nat × gV)} {st : List gV} (C : gCtx X) {i : Nat} {x : Int32} {lv' : List (Nat × gV)} {nL : Nat} (d : decode (xy X) pc = .ok (.istore i, 2)) (hL : (xc X).maxLocals = nL) (hn : i < nL) (hl : gst1 i (gi x) lv = lv') (k : gW X h (pc + 2) lv' st) : gW X h pc lv (gi x :: st) := by
  subst hl
  exact fun H locs ls P => lv_istore C.hx C.hb d P.2.2.2 (by rw [hL]; exact hn) (gst1_ok i (gi x) lv) (fun ls' hl' => k H locs ls' ⟨P.1, P.2.1, P.2.2.1, hl'⟩)
theorem r_lstore_n {X : gXT} {h : gHp} {pc : Nat} {lv : List (Nat × gV)} {st : List gV} (C : gCtx X) {n : Fin 4} {i : Nat} {x : Int64} {lv' : List (Nat × gV)} {nL : Nat} (d : decode (xy X) pc = .ok (.lstore_n n, 1)) (hi : (n : Nat) = i) (hL : (xc X).maxLocals = nL) (hn : i + 1 < nL) (hl : gst2 i (gl x) lv = lv') (k : gW X h (pc + 1) lv' st) : gW X h pc lv (gl x :: st) := by
  subst hl
  exact fun H locs ls P => lv_lstore_n C.hx C.hb d hi P.2.2.2 (by rw [hL]; exact hn) (gst2_ok i (gl x) lv) (fun ls' hl' => k H locs ls' ⟨P.1, P.2.1, P.2.2.1, hl'⟩)
theorem r_lstore {X : gXT} {h : gHp} {pc : Nat} {lv : List (Nat × gV)} {st : List gV} (C : gCtx X) {i : Nat} {x : Int64} {lv' : List (Nat × gV)} {nL : Nat} (d : decode (xy X) pc = .ok (.lstore i, 2)) (hL : (xc X).maxLocals = nL) (hn : i + 1 < nL) (hl : gst2 i (gl x) lv = lv') (k : gW X h (pc + 2) lv' st) : gW X h pc lv (gl x :: st) := by
  subst hl
  exact fun H locs ls P => lv_lstore C.hx C.hb d P.2.2.2 (by rw [hL]; exact hn) (gst2_ok i (gl x) lv) (fun ls' hl' => k H locs ls' ⟨P.1, P.2.1, P.2.2.1, hl'⟩)
theorem r_fstore_n {X : gXT} {h : gHp} {pc : Nat} {lv : List (Nat × gV)} {st : List gV} (C : gCtx X) {n : Fin 4} {i : Nat} {x : UInt32} {lv' : List (Nat × gV)} {nL : Nat} (d : decode (xy X) pc = .ok (.fstore_n n, 1)) (hi : (n : Nat) = i) (hL : (xc X).maxLocals = nL) (hn : i < nL) (hl : gst1 i (gf x) lv = lv') (k : gW X h (pc + 1) lv' st) : gW X h pc lv (gf x :: st) := by
  subst hl
  exact fun H locs ls P => lv_fstore_n C.hx C.hb d hi P.2.2.2 (by rw [hL]; exact hn) (gst1_ok i (gf x) lv) (fun ls' hl' => k H locs ls' ⟨P.1, P.2.1, P.2.2.1, hl'⟩)
theorem r_fstore {X : gXT} {h : gHp} {pc : Nat} {lv : List (Nat × gV)} {st : List gV} (C : gCtx X) {i : Nat} {x : UInt32} {lv' : List (Nat × gV)} {nL : Nat} (d : decode (xy X) pc = .ok (.fstore i, 2)) (hL : (xc X).maxLocals = nL) (hn : i < nL) (hl : gst1 i (gf x) lv = lv') (k : gW X h (pc + 2) lv' st) : gW X h pc lv (gf x :: st) := by
  subst hl
  exact fun H locs ls P => lv_fstore C.hx C.hb d P.2.2.2 (by rw [hL]; exact hn) (gst1_ok i (gf x) lv) (fun ls' hl' => k H locs ls' ⟨P.1, P.2.1, P.2.2.1, hl'⟩)
theorem r_dstore_n {X : gXT} {h : gHp} {pc : Nat} {lv : List (Nat × gV)} {st : List gV} (C : gCtx X) {n : Fin 4} {i : Nat} {x : UInt64} {lv' : List (Nat × gV)} {nL : Nat} (d : decode (xy X) pc = .ok (.dstore_n n, 1)) (hi : (n : Nat) = i) (hL : (xc X).maxLocals = nL) (hn : i + 1 < nL) (hl : gst2 i (gd x) lv = lv') (k : gW X h (pc + 1) lv' st) : gW X h pc lv (gd x :: st) := by
  subst hl
  exact fun H locs ls P => lv_dstore_n C.hx C.hb d hi P.2.2.2 (by rw [hL]; exact hn) (gst2_ok i (gd x) lv) (fun ls' hl' => k H locs ls' ⟨P.1, P.2.1, P.2.2.1, hl'⟩)
theorem r_dstore {X : gXT} {h : gHp} {pc : Nat} {lv : List (Nat × gV)} {st : List gV} (C : gCtx X) {i : Nat} {x : UInt64} {lv' : List (Nat × gV)} {nL : Nat} (d : decode (xy X) pc = .ok (.dstore i, 2)) (hL : (xc X).maxLocals = nL) (hn : i + 1 < nL) (hl : gst2 i (gd x) lv = lv') (k : gW X h (pc + 2) lv' st) : gW X h pc lv (gd x :: st) := by
  subst hl
  exact fun H locs ls P => lv_dstore C.hx C.hb d P.2.2.2 (by rw [hL]; exact hn) (gst2_ok i (gd x) lv) (fun ls' hl' => k H locs ls' ⟨P.1, P.2.1, P.2.2.1, hl'⟩)
theorem r_astore_n {X : gXT} {h : gHp} {pc : Nat} {lv : List (Nat × gV)} {st : List gV} (C : gCtx X) {n : Fin 4} {i : Nat} {x : Option Nat} {lv' : List (Nat × gV)} {nL : Nat} (d : decode (xy X) pc = .ok (.astore_n n, 1)) (hi : (n : Nat) = i) (hL : (xc X).maxLocals = nL) (hn : i < nL) (hl : gst1 i (gq x) lv = lv') (k : gW X h (pc + 1) lv' st) : gW X h pc lv (gq x :: st) := by
  subst hl
  intro H locs ls P
  have kk := fun ls' hl' => k H locs ls' ⟨P.1, P.2.1, P.2.2.1, hl'⟩
  cases x with
  | none => exact lv_astore_nN C.hx C.hb d hi P.2.2.2 (by rw [hL]; exact hn) (gst1_ok i (gq none) lv) kk
  | some a => exact lv_astore_n C.hx C.hb d hi P.2.2.2 (by rw [hL]; exact hn) (gst1_ok i (gq (some a)) lv) kk
theorem r_astore {X : gXT} {h : gHp} {pc : Nat} {lv : List (Nat × gV)} {st : List gV} (C : gCtx X) {i : Nat} {x : Option Nat} {lv' : List (Nat × gV)} {nL : Nat} (d : decode (xy X) pc = .ok (.astore i, 2)) (hL : (xc X).maxLocals = nL) (hn : i < nL) (hl : gst1 i (gq x) lv = lv') (k : gW X h (pc + 2) lv' st) : gW X h pc lv (gq x :: st) := by
  subst hl
  intro H locs ls P
  have kk := fun ls' hl' => k H locs ls' ⟨P.1, P.2.1, P.2.2.1, hl'⟩
  cases x with
  | none => exact lv_astoreN C.hx C.hb d P.2.2.2 (by rw [hL]; exact hn) (gst1_ok i (gq none) lv) kk
  | some a => exact lv_astore C.hx C.hb d P.2.2.2 (by rw [hL]; exact hn) (gst1_ok i (gq (some a)) lv) kk
theorem r_iinc {X : gXT} {h : gHp} {pc : Nat} {lv : List (Nat × gV)} {st : List gV} (C : gCtx X) {i : Nat} {x y : Int32} {n : Int} {lv' : List (Nat × gV)} {nL : Nat} (j : Nat) (d : decode (xy X) pc = .ok (.iinc i n, 3)) (hL : (xc X).maxLocals = nL) (hn : i < nL) (hj : lv[j]? = some (i, gi x)) (hy : x + Int32.ofInt n = y) (hl : gst1 i (gi y) lv = lv') (k : gW X h (pc + 3) lv' st) : gW X h pc lv st := by
  subst hl
  exact fun H locs ls P => lv_iinc (k := j) C.hx C.hb d P.2.2.2 (by rw [List.getElem?_map, hj]; rfl) hy (by rw [hL]; exact hn) (gst1_ok i (gi y) lv) (fun ls' hl' => k H locs ls' ⟨P.1, P.2.1, P.2.2.1, hl'⟩)
theorem n_i {α : Type} {e : Int32} {kk : Int32 → Option α} {out : α} {P : Int32 → Prop} (he : bd (some e) kk = some out) (k : ∀ v, kk v = some out → P v) : P e := k e he
theorem n_l {α : Type} {e : Int64} {kk : Int64 → Option α} {out : α} {P : Int64 → Prop} (he : bd (some e) kk = some out) (k : ∀ v, kk v = some out → P v) : P e := k e he
theorem gW_mono {X : gXT} {H : Heap} {locs : List Loc} {c n : Nat} {g : JFrame} {Q : State → Prop} (hq : ∀ t, Q t → gQ X t) (k : W (xp X) (xK X).1 (xe X) (xR X) (xs X) (xm X) (xa X) (xb X) (xM X) (xc X) H locs c n Q g) : gWW X H locs c n g := by
  intro T hT S
  obtain ⟨t, a1, a2⟩ := k T hT S
  exact ⟨t, a1, hq t a2⟩
theorem gMQ {X : gXT} {t : State} (q : MQ (xb X) (fun _ st oc t => oc = gOc (xo X).1 ∧ gI (xK X) (xo X).2 t.heap ∧ gXc (xo X).1 st t) (xa X) (xs X) (xR X).cells (xR X).slots (fun q => kB (xK X) ≤ q) t) : gQ X t := by
  obtain ⟨oc, a1, a2, ⟨b1, b2, b3⟩, L, ⟨c1, c2, c3⟩, hL⟩ := q
  exact ⟨oc, a1, a2, b1, b2, b3, c2, L, c3, hL⟩
theorem r_ireturn {X : gXT} {h : gHp} {pc : Nat} {lv : List (Nat × gV)} {x : Int32} (C : gCtx X) (hr : (xM X).sig.returnType = some .int) (ho : xo X = (.inl (some (gi x)), h)) (d : decode (xy X) pc = .ok (.ireturn, 1)) : gW X h pc lv [gi x] := fun H locs ls P => gW_mono (fun t q => gMQ q) (W.iret C.hx C.hb hr (fun t ht hW => ⟨by rw [ho]; rfl, by rw [ho, ht]; exact P.1, by rw [ho]; trivial⟩) P.2.1 d (hlocks := C.hlk))
theorem r_zreturn {X : gXT} {h : gHp} {pc : Nat} {lv : List (Nat × gV)} {x : Int32} {ty : FieldType} (C : gCtx X) (hr : (xM X).sig.returnType = some ty) (hn : narrow ty (.int x) = .int x) (ho : xo X = (.inl (some (gi x)), h)) (d : decode (xy X) pc = .ok (.ireturn, 1)) : gW X h pc lv [gi x] := fun H locs ls P => gW_mono (fun t q => gMQ q) (W.zret C.hx C.hb hr hn (fun t ht hW => ⟨by rw [ho]; rfl, by rw [ho, ht]; exact P.1, by rw [ho]; trivial⟩) P.2.1 d (hlocks := C.hlk))
theorem r_freturn {X : gXT} {h : gHp} {pc : Nat} {lv : List (Nat × gV)} {x : UInt32} (C : gCtx X) (hr : (xM X).sig.returnType = some .float) (ho : xo X = (.inl (some (gf x)), h)) (d : decode (xy X) pc = .ok (.freturn, 1)) : gW X h pc lv [gf x] := fun H locs ls P => gW_mono (fun t q => gMQ q) (W.fret C.hx C.hb hr (fun t ht hW => ⟨by rw [ho]; rfl, by rw [ho, ht]; exact P.1, by rw [ho]; trivial⟩) P.2.1 d (hlocks := C.hlk))
theorem r_dreturn {X : gXT} {h : gHp} {pc : Nat} {lv : List (Nat × gV)} {x : UInt64} (C : gCtx X) (hr : (xM X).sig.returnType = some .double) (ho : xo X = (.inl (some (gd x)), h)) (d : decode (xy X) pc = .ok (.dreturn, 1)) : gW X h pc lv [gd x] := fun H locs ls P => gW_mono (fun t q => gMQ q) (W.dret C.hx C.hb hr (fun t ht hW => ⟨by rw [ho]; rfl, by rw [ho, ht]; exact P.1, by rw [ho]; trivial⟩) P.2.1 d (hlocks := C.hlk))
theorem r_return {X : gXT} {h : gHp} {pc : Nat} {lv : List (Nat × gV)} (C : gCtx X) (hr : (xM X).sig.returnType = none) (ho : xo X = (.inl none, h)) (d : decode (xy X) pc = .ok (.return_, 1)) : gW X h pc lv [] := fun H locs ls P => gW_mono (fun t q => gMQ q) (W.vret C.hx C.hb hr (fun t ht hW => ⟨by rw [ho]; rfl, by rw [ho, ht]; exact P.1, by rw [ho]; trivial⟩) P.2.1 d (hlocks := C.hlk))
