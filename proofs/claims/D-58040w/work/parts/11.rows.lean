/-! ROWS OF xk_X: stack, locals, branches (printed by gen/rows.py) -/
set_option maxRecDepth 100000
section XR
variable {γ : Type} {Γ : xk_C} {own nm : String} {cc : ByteArray} {ret : Option FieldType} {d w pc nl : Nat} {L L2 : List (Nat × Value)} {st : List Value} {h : xk_H} {res : γ} {A B : Option γ}
theorem xr_sub (ks : List Nat) (hs2 : ks.filterMap (fun k => L[k]?) = L2) (k : xk_X Γ pc L2 st h) : xk_X Γ pc L st h := by
  have hs : ∀ q ∈ L2, q ∈ L := fun q hq => by
    rw [← hs2] at hq
    obtain ⟨i, -, hi⟩ := List.mem_filterMap.mp hq
    exact List.mem_of_getElem? hi
  obtain ⟨D, base, p, l, e, R, s, m, args, below, meth, c, nL, Q⟩ := Γ
  intro ls H locs cells slots hl hc hR hS h1 h2
  exact k ls H locs cells slots ⟨hl.1, hl.2.1, fun q hq => hl.2.2 q (hs q hq)⟩ (fun q hq => hc q (hs q hq)) hR hS h1 h2
theorem xr_eq {st2 : List Value} (hs : st = st2) (k : xk_X Γ pc L st2 h) : xk_X Γ pc L st h := hs ▸ k
theorem xr_iadd {x y : Int32} (C : xk_Cx Γ own cc nl ret nm d w) (dg : decode cc pc = .ok (.iadd, 1)) (k : xk_X Γ (pc + 1) L (.int (x + y) :: st) h) : xk_X Γ pc L (.int y :: .int x :: st) h := by
  obtain ⟨D, base, p, l, e, R, s, m, args, below, meth, c, nL, Q⟩ := Γ
  obtain ⟨hx, hb, hml, hnl, hown, hts, -⟩ := C
  intro ls H locs cells slots hl hc hR hS h1 h2
  exact lv_iadd hx hb dg (k ls H locs cells slots hl hc hR hS h1 h2)
theorem xr_isub {x y : Int32} (C : xk_Cx Γ own cc nl ret nm d w) (dg : decode cc pc = .ok (.isub, 1)) (k : xk_X Γ (pc + 1) L (.int (x - y) :: st) h) : xk_X Γ pc L (.int y :: .int x :: st) h := by
  obtain ⟨D, base, p, l, e, R, s, m, args, below, meth, c, nL, Q⟩ := Γ
  obtain ⟨hx, hb, hml, hnl, hown, hts, -⟩ := C
  intro ls H locs cells slots hl hc hR hS h1 h2
  exact lv_isub hx hb dg (k ls H locs cells slots hl hc hR hS h1 h2)
theorem xr_imul {x y : Int32} (C : xk_Cx Γ own cc nl ret nm d w) (dg : decode cc pc = .ok (.imul, 1)) (k : xk_X Γ (pc + 1) L (.int (x * y) :: st) h) : xk_X Γ pc L (.int y :: .int x :: st) h := by
  obtain ⟨D, base, p, l, e, R, s, m, args, below, meth, c, nL, Q⟩ := Γ
  obtain ⟨hx, hb, hml, hnl, hown, hts, -⟩ := C
  intro ls H locs cells slots hl hc hR hS h1 h2
  exact lv_imul hx hb dg (k ls H locs cells slots hl hc hR hS h1 h2)
theorem xr_iand {x y : Int32} (C : xk_Cx Γ own cc nl ret nm d w) (dg : decode cc pc = .ok (.iand, 1)) (k : xk_X Γ (pc + 1) L (.int (x &&& y) :: st) h) : xk_X Γ pc L (.int y :: .int x :: st) h := by
  obtain ⟨D, base, p, l, e, R, s, m, args, below, meth, c, nL, Q⟩ := Γ
  obtain ⟨hx, hb, hml, hnl, hown, hts, -⟩ := C
  intro ls H locs cells slots hl hc hR hS h1 h2
  exact lv_iand hx hb dg (k ls H locs cells slots hl hc hR hS h1 h2)
theorem xr_ior {x y : Int32} (C : xk_Cx Γ own cc nl ret nm d w) (dg : decode cc pc = .ok (.ior, 1)) (k : xk_X Γ (pc + 1) L (.int (x ||| y) :: st) h) : xk_X Γ pc L (.int y :: .int x :: st) h := by
  obtain ⟨D, base, p, l, e, R, s, m, args, below, meth, c, nL, Q⟩ := Γ
  obtain ⟨hx, hb, hml, hnl, hown, hts, -⟩ := C
  intro ls H locs cells slots hl hc hR hS h1 h2
  exact lv_ior hx hb dg (k ls H locs cells slots hl hc hR hS h1 h2)
theorem xr_ixor {x y : Int32} (C : xk_Cx Γ own cc nl ret nm d w) (dg : decode cc pc = .ok (.ixor, 1)) (k : xk_X Γ (pc + 1) L (.int (x ^^^ y) :: st) h) : xk_X Γ pc L (.int y :: .int x :: st) h := by
  obtain ⟨D, base, p, l, e, R, s, m, args, below, meth, c, nL, Q⟩ := Γ
  obtain ⟨hx, hb, hml, hnl, hown, hts, -⟩ := C
  intro ls H locs cells slots hl hc hR hS h1 h2
  exact lv_ixor hx hb dg (k ls H locs cells slots hl hc hR hS h1 h2)
theorem xr_idiv {x y : Int32} (C : xk_Cx Γ own cc nl ret nm d w) (hne : ¬ y = 0) (dg : decode cc pc = .ok (.idiv, 1)) (k : xk_X Γ (pc + 1) L (.int (x / y) :: st) h) : xk_X Γ pc L (.int y :: .int x :: st) h := by
  obtain ⟨D, base, p, l, e, R, s, m, args, below, meth, c, nL, Q⟩ := Γ
  obtain ⟨hx, hb, hml, hnl, hown, hts, -⟩ := C
  intro ls H locs cells slots hl hc hR hS h1 h2
  exact lv_idiv hx hb dg hne (k ls H locs cells slots hl hc hR hS h1 h2)
theorem xr_irem {x y : Int32} (C : xk_Cx Γ own cc nl ret nm d w) (hne : ¬ y = 0) (dg : decode cc pc = .ok (.irem, 1)) (k : xk_X Γ (pc + 1) L (.int (x - x / y * y) :: st) h) : xk_X Γ pc L (.int y :: .int x :: st) h := by
  obtain ⟨D, base, p, l, e, R, s, m, args, below, meth, c, nL, Q⟩ := Γ
  obtain ⟨hx, hb, hml, hnl, hown, hts, -⟩ := C
  intro ls H locs cells slots hl hc hR hS h1 h2
  exact lv_irem hx hb dg hne (k ls H locs cells slots hl hc hR hS h1 h2)
theorem xr_ishl {x y : Int32} (C : xk_Cx Γ own cc nl ret nm d w) (dg : decode cc pc = .ok (.ishl, 1)) (k : xk_X Γ (pc + 1) L (.int (x <<< (y &&& 31)) :: st) h) : xk_X Γ pc L (.int y :: .int x :: st) h := by
  obtain ⟨D, base, p, l, e, R, s, m, args, below, meth, c, nL, Q⟩ := Γ
  obtain ⟨hx, hb, hml, hnl, hown, hts, -⟩ := C
  intro ls H locs cells slots hl hc hR hS h1 h2
  exact lv_ishl hx hb dg (k ls H locs cells slots hl hc hR hS h1 h2)
theorem xr_ishr {x y : Int32} (C : xk_Cx Γ own cc nl ret nm d w) (dg : decode cc pc = .ok (.ishr, 1)) (k : xk_X Γ (pc + 1) L (.int (x >>> (y &&& 31)) :: st) h) : xk_X Γ pc L (.int y :: .int x :: st) h := by
  obtain ⟨D, base, p, l, e, R, s, m, args, below, meth, c, nL, Q⟩ := Γ
  obtain ⟨hx, hb, hml, hnl, hown, hts, -⟩ := C
  intro ls H locs cells slots hl hc hR hS h1 h2
  exact lv_ishr hx hb dg (k ls H locs cells slots hl hc hR hS h1 h2)
theorem xr_iushr {x y : Int32} (C : xk_Cx Γ own cc nl ret nm d w) (dg : decode cc pc = .ok (.iushr, 1)) (k : xk_X Γ (pc + 1) L (.int ((x.toUInt32 >>> (y.toUInt32 &&& Int32.toUInt32 31)).toInt32) :: st) h) : xk_X Γ pc L (.int y :: .int x :: st) h := by
  obtain ⟨D, base, p, l, e, R, s, m, args, below, meth, c, nL, Q⟩ := Γ
  obtain ⟨hx, hb, hml, hnl, hown, hts, -⟩ := C
  intro ls H locs cells slots hl hc hR hS h1 h2
  exact lv_iushr hx hb dg rfl (k ls H locs cells slots hl hc hR hS h1 h2)
theorem xr_ineg {x : Int32} (C : xk_Cx Γ own cc nl ret nm d w) (dg : decode cc pc = .ok (.ineg, 1)) (k : xk_X Γ (pc + 1) L (.int (-x) :: st) h) : xk_X Γ pc L (.int x :: st) h := by
  obtain ⟨D, base, p, l, e, R, s, m, args, below, meth, c, nL, Q⟩ := Γ
  obtain ⟨hx, hb, hml, hnl, hown, hts, -⟩ := C
  intro ls H locs cells slots hl hc hR hS h1 h2
  exact lv_ineg hx hb dg (k ls H locs cells slots hl hc hR hS h1 h2)
theorem xr_i2b {x : Int32} (C : xk_Cx Γ own cc nl ret nm d w) (dg : decode cc pc = .ok (.i2b, 1)) (k : xk_X Γ (pc + 1) L (.int (x.toInt8.toInt32) :: st) h) : xk_X Γ pc L (.int x :: st) h := by
  obtain ⟨D, base, p, l, e, R, s, m, args, below, meth, c, nL, Q⟩ := Γ
  obtain ⟨hx, hb, hml, hnl, hown, hts, -⟩ := C
  intro ls H locs cells slots hl hc hR hS h1 h2
  exact lv_i2b hx hb dg rfl (k ls H locs cells slots hl hc hR hS h1 h2)
theorem xr_i2c {x : Int32} (C : xk_Cx Γ own cc nl ret nm d w) (dg : decode cc pc = .ok (.i2c, 1)) (k : xk_X Γ (pc + 1) L (.int ((x.toUInt32 % 65536).toInt32) :: st) h) : xk_X Γ pc L (.int x :: st) h := by
  obtain ⟨D, base, p, l, e, R, s, m, args, below, meth, c, nL, Q⟩ := Γ
  obtain ⟨hx, hb, hml, hnl, hown, hts, -⟩ := C
  intro ls H locs cells slots hl hc hR hS h1 h2
  exact lv_i2c hx hb dg rfl (k ls H locs cells slots hl hc hR hS h1 h2)
theorem xr_i2d {x : Int32} (C : xk_Cx Γ own cc nl ret nm d w) (dg : decode cc pc = .ok (.i2d, 1)) (k : xk_X Γ (pc + 1) L (.double (FP.i2d x) :: st) h) : xk_X Γ pc L (.int x :: st) h := by
  obtain ⟨D, base, p, l, e, R, s, m, args, below, meth, c, nL, Q⟩ := Γ
  obtain ⟨hx, hb, hml, hnl, hown, hts, -⟩ := C
  intro ls H locs cells slots hl hc hR hS h1 h2
  exact lv_i2d hx hb dg (k ls H locs cells slots hl hc hR hS h1 h2)
theorem xr_ddiv {x y : UInt64} (C : xk_Cx Γ own cc nl ret nm d w) (hne : vf_n64 (FP.ddiv x y)) (dg : decode cc pc = .ok (.ddiv, 1)) (k : xk_X Γ (pc + 1) L (.double (FP.ddiv x y) :: st) h) : xk_X Γ pc L (.double y :: .double x :: st) h := by
  obtain ⟨D, base, p, l, e, R, s, m, args, below, meth, c, nL, Q⟩ := Γ
  obtain ⟨hx, hb, hml, hnl, hown, hts, -⟩ := C
  intro ls H locs cells slots hl hc hR hS h1 h2
  exact lv_ddiv hx hb dg hne (k ls H locs cells slots hl hc hR hS h1 h2)
theorem xr_dconst0 (C : xk_Cx Γ own cc nl ret nm d w) (dg : decode cc pc = .ok (.dconst 0, 1)) (k : xk_X Γ (pc + 1) L (.double 0 :: st) h) : xk_X Γ pc L (st) h := by
  obtain ⟨D, base, p, l, e, R, s, m, args, below, meth, c, nL, Q⟩ := Γ
  obtain ⟨hx, hb, hml, hnl, hown, hts, -⟩ := C
  intro ls H locs cells slots hl hc hR hS h1 h2
  exact lv_dconst0 hx hb dg (k ls H locs cells slots hl hc hR hS h1 h2)
theorem xr_iconst {n : Int} (v : Int32) (C : xk_Cx Γ own cc nl ret nm d w) (hv : Int32.ofInt n = v) (dg : decode cc pc = .ok (.iconst n, 1)) (k : xk_X Γ (pc + 1) L (.int v :: st) h) : xk_X Γ pc L (st) h := by
  obtain ⟨D, base, p, l, e, R, s, m, args, below, meth, c, nL, Q⟩ := Γ
  obtain ⟨hx, hb, hml, hnl, hown, hts, -⟩ := C
  intro ls H locs cells slots hl hc hR hS h1 h2
  exact lv_iconst hx hb dg hv (k ls H locs cells slots hl hc hR hS h1 h2)
theorem xr_bipush {n : Int} (v : Int32) (C : xk_Cx Γ own cc nl ret nm d w) (hv : (Int8.ofInt n).toInt32 = v) (dg : decode cc pc = .ok (.bipush n, 2)) (k : xk_X Γ (pc + 2) L (.int v :: st) h) : xk_X Γ pc L (st) h := by
  obtain ⟨D, base, p, l, e, R, s, m, args, below, meth, c, nL, Q⟩ := Γ
  obtain ⟨hx, hb, hml, hnl, hown, hts, -⟩ := C
  intro ls H locs cells slots hl hc hR hS h1 h2
  exact lv_bipush hx hb dg hv (k ls H locs cells slots hl hc hR hS h1 h2)
theorem xr_sipush {n : Int} (v : Int32) (C : xk_Cx Γ own cc nl ret nm d w) (hv : (Int16.ofInt n).toInt32 = v) (dg : decode cc pc = .ok (.sipush n, 3)) (k : xk_X Γ (pc + 3) L (.int v :: st) h) : xk_X Γ pc L (st) h := by
  obtain ⟨D, base, p, l, e, R, s, m, args, below, meth, c, nL, Q⟩ := Γ
  obtain ⟨hx, hb, hml, hnl, hown, hts, -⟩ := C
  intro ls H locs cells slots hl hc hR hS h1 h2
  exact lv_sipush hx hb dg hv (k ls H locs cells slots hl hc hR hS h1 h2)
theorem xr_ldc {n : Nat} {v : Int32} (C : xk_Cx Γ own cc nl ret nm d w) (hw : Cond.constant own n v ∈ lw_all) (dg : decode cc pc = .ok (.ldc n, 2)) (k : xk_X Γ (pc + 2) L (.int v :: st) h) : xk_X Γ pc L (st) h := by
  obtain ⟨D, base, p, l, e, R, s, m, args, below, meth, c, nL, Q⟩ := Γ
  obtain ⟨hx, hb, hml, hnl, hown, hts, -⟩ := C
  intro ls H locs cells slots hl hc hR hS h1 h2
  exact lv_ldc hx hb hown (hts _ hw) dg (k ls H locs cells slots hl hc hR hS h1 h2)
theorem xr_ldcw {n : Nat} {v : Int32} (C : xk_Cx Γ own cc nl ret nm d w) (hw : Cond.constant own n v ∈ lw_all) (dg : decode cc pc = .ok (.ldc_w n, 3)) (k : xk_X Γ (pc + 3) L (.int v :: st) h) : xk_X Γ pc L (st) h := by
  obtain ⟨D, base, p, l, e, R, s, m, args, below, meth, c, nL, Q⟩ := Γ
  obtain ⟨hx, hb, hml, hnl, hown, hts, -⟩ := C
  intro ls H locs cells slots hl hc hR hS h1 h2
  exact lv_ldcw hx hb hown (hts _ hw) dg (k ls H locs cells slots hl hc hR hS h1 h2)
theorem xr_ldcf {n : Nat} {v : UInt32} (C : xk_Cx Γ own cc nl ret nm d w) (hw : Cond.constantFloat own n v ∈ lw_all) (dg : decode cc pc = .ok (.ldc n, 2)) (k : xk_X Γ (pc + 2) L (.float v :: st) h) : xk_X Γ pc L (st) h := by
  obtain ⟨D, base, p, l, e, R, s, m, args, below, meth, c, nL, Q⟩ := Γ
  obtain ⟨hx, hb, hml, hnl, hown, hts, -⟩ := C
  intro ls H locs cells slots hl hc hR hS h1 h2
  exact lv_ldcf hx hb hown (hts _ hw) dg (k ls H locs cells slots hl hc hR hS h1 h2)
theorem xr_null (C : xk_Cx Γ own cc nl ret nm d w) (dg : decode cc pc = .ok (.aconst_null, 1)) (k : xk_X Γ (pc + 1) L (va_rf none :: st) h) : xk_X Γ pc L (st) h := by
  obtain ⟨D, base, p, l, e, R, s, m, args, below, meth, c, nL, Q⟩ := Γ
  obtain ⟨hx, hb, hml, hnl, hown, hts, -⟩ := C
  intro ls H locs cells slots hl hc hR hS h1 h2
  exact lv_null hx hb dg (k ls H locs cells slots hl hc hR hS h1 h2)
theorem xr_dup {a : Value} (C : xk_Cx Γ own cc nl ret nm d w) (ha : a.category = 1) (dg : decode cc pc = .ok (.dup, 1)) (k : xk_X Γ (pc + 1) L (a :: a :: st) h) : xk_X Γ pc L (a :: st) h := by
  obtain ⟨D, base, p, l, e, R, s, m, args, below, meth, c, nL, Q⟩ := Γ
  obtain ⟨hx, hb, hml, hnl, hown, hts, -⟩ := C
  intro ls H locs cells slots hl hc hR hS h1 h2
  exact lv_dup hx hb dg ha (k ls H locs cells slots hl hc hR hS h1 h2)
theorem xr_pop {a : Value} (C : xk_Cx Γ own cc nl ret nm d w) (ha : a.category = 1) (dg : decode cc pc = .ok (.pop, 1)) (k : xk_X Γ (pc + 1) L (st) h) : xk_X Γ pc L (a :: st) h := by
  obtain ⟨D, base, p, l, e, R, s, m, args, below, meth, c, nL, Q⟩ := Γ
  obtain ⟨hx, hb, hml, hnl, hown, hts, -⟩ := C
  intro ls H locs cells slots hl hc hR hS h1 h2
  exact lv_pop hx hb dg ha (k ls H locs cells slots hl hc hR hS h1 h2)
theorem xr_dup_x1 {a b : Value} (C : xk_Cx Γ own cc nl ret nm d w) (ha : a.category = 1) (hb2 : b.category = 1) (dg : decode cc pc = .ok (.dup_x1, 1)) (k : xk_X Γ (pc + 1) L (a :: b :: a :: st) h) : xk_X Γ pc L (a :: b :: st) h := by
  obtain ⟨D, base, p, l, e, R, s, m, args, below, meth, c, nL, Q⟩ := Γ
  obtain ⟨hx, hb, hml, hnl, hown, hts, -⟩ := C
  intro ls H locs cells slots hl hc hR hS h1 h2
  exact lv_dup_x1 hx hb dg ha hb2 (k ls H locs cells slots hl hc hR hS h1 h2)
theorem xr_dup_x2 {a b b2 : Value} (C : xk_Cx Γ own cc nl ret nm d w) (ha : a.category = 1) (hb2 : b.category = 1) (hb3 : b2.category = 1) (dg : decode cc pc = .ok (.dup_x2, 1)) (k : xk_X Γ (pc + 1) L (a :: b :: b2 :: a :: st) h) : xk_X Γ pc L (a :: b :: b2 :: st) h := by
  obtain ⟨D, base, p, l, e, R, s, m, args, below, meth, c, nL, Q⟩ := Γ
  obtain ⟨hx, hb, hml, hnl, hown, hts, -⟩ := C
  intro ls H locs cells slots hl hc hR hS h1 h2
  exact lv_dup_x2 hx hb dg ha hb2 hb3 (k ls H locs cells slots hl hc hR hS h1 h2)
theorem xr_dup2 {a b : Value} (C : xk_Cx Γ own cc nl ret nm d w) (ha : a.category = 1) (hb2 : b.category = 1) (dg : decode cc pc = .ok (.dup2, 1)) (k : xk_X Γ (pc + 1) L (a :: b :: a :: b :: st) h) : xk_X Γ pc L (a :: b :: st) h := by
  obtain ⟨D, base, p, l, e, R, s, m, args, below, meth, c, nL, Q⟩ := Γ
  obtain ⟨hx, hb, hml, hnl, hown, hts, -⟩ := C
  intro ls H locs cells slots hl hc hR hS h1 h2
  exact lv_dup2_11 hx hb dg ha hb2 (k ls H locs cells slots hl hc hR hS h1 h2)
theorem xr_iload_n {k : Fin 4} {i : Nat} {x : Int32} (j : Nat) (C : xk_Cx Γ own cc nl ret nm d w) (hi : (k : Nat) = i) (hj : L[j]? = some (i, .int x)) (dg : decode cc pc = .ok (.iload_n k, 1)) (kk : xk_X Γ (pc + 1) L (.int x :: st) h) : xk_X Γ pc L (st) h := by
  obtain ⟨D, base, p, l, e, R, s, m, args, below, meth, c, nL, Q⟩ := Γ
  obtain ⟨hx, hb, hml, hnl, hown, hts, -⟩ := C
  intro ls H locs cells slots hl hc hR hS h1 h2
  exact lv_iload_n hx hb dg hi (lv_at hl j hj) (kk ls H locs cells slots hl hc hR hS h1 h2)
theorem xr_aload_n {k : Fin 4} {i : Nat} {x : Option Nat} (j : Nat) (C : xk_Cx Γ own cc nl ret nm d w) (hi : (k : Nat) = i) (hj : L[j]? = some (i, va_rf x)) (dg : decode cc pc = .ok (.aload_n k, 1)) (kk : xk_X Γ (pc + 1) L (va_rf x :: st) h) : xk_X Γ pc L st h := by
  obtain ⟨D, base, p, l, e, R, s, m, args, below, meth, c, nL, Q⟩ := Γ
  obtain ⟨hx, hb, hml, hnl, hown, hts, -⟩ := C
  intro ls H locs cells slots hl hc hR hS h1 h2
  cases x with
  | none => exact lv_aload_nN hx hb dg hi (lv_at hl j hj) (kk ls H locs cells slots hl hc hR hS h1 h2)
  | some a => exact lv_aload_n hx hb dg hi (lv_at hl j hj) (kk ls H locs cells slots hl hc hR hS h1 h2)
theorem xr_iload {i : Nat} {x : Int32} (j : Nat) (C : xk_Cx Γ own cc nl ret nm d w) (hj : L[j]? = some (i, .int x)) (dg : decode cc pc = .ok (.iload i, 2)) (kk : xk_X Γ (pc + 2) L (.int x :: st) h) : xk_X Γ pc L (st) h := by
  obtain ⟨D, base, p, l, e, R, s, m, args, below, meth, c, nL, Q⟩ := Γ
  obtain ⟨hx, hb, hml, hnl, hown, hts, -⟩ := C
  intro ls H locs cells slots hl hc hR hS h1 h2
  exact lv_iload hx hb dg (lv_at hl j hj) (kk ls H locs cells slots hl hc hR hS h1 h2)
theorem xr_aload {i : Nat} {x : Option Nat} (j : Nat) (C : xk_Cx Γ own cc nl ret nm d w) (hj : L[j]? = some (i, va_rf x)) (dg : decode cc pc = .ok (.aload i, 2)) (kk : xk_X Γ (pc + 2) L (va_rf x :: st) h) : xk_X Γ pc L st h := by
  obtain ⟨D, base, p, l, e, R, s, m, args, below, meth, c, nL, Q⟩ := Γ
  obtain ⟨hx, hb, hml, hnl, hown, hts, -⟩ := C
  intro ls H locs cells slots hl hc hR hS h1 h2
  cases x with
  | none => exact lv_aloadN hx hb dg (lv_at hl j hj) (kk ls H locs cells slots hl hc hR hS h1 h2)
  | some a => exact lv_aload hx hb dg (lv_at hl j hj) (kk ls H locs cells slots hl hc hR hS h1 h2)
theorem xk_stl {L L2 : List (Nat × Value)} {i : Nat} {v : Value} (hc : ∀ q ∈ L, q.2.category = 1) (hL : (i, v) :: L.filter (fun q => !(q.1 == i)) = L2) : ∀ q ∈ L2, q ∈ (i, v) :: L.filter (fun q => !(q.1 == i) && !(q.1 + 1 == i && q.2.category == 2)) := by
  subst hL
  intro q hq
  rcases List.mem_cons.mp hq with e | e
  · rw [e]; exact List.mem_cons_self
  · obtain ⟨h1, h2⟩ := List.mem_filter.mp e
    refine List.mem_cons_of_mem _ (List.mem_filter.mpr ⟨h1, ?_⟩)
    have h3 := hc q h1
    simp only [h3] at h2 ⊢
    simpa using h2
theorem xk_stc {L L2 : List (Nat × Value)} {i : Nat} {v : Value} (hc : ∀ q ∈ L, q.2.category = 1) (hv : v.category = 1) (hL : (i, v) :: L.filter (fun q => !(q.1 == i)) = L2) : ∀ q ∈ L2, q.2.category = 1 := by
  subst hL
  intro q hq
  rcases List.mem_cons.mp hq with e | e
  · rw [e]; exact hv
  · exact hc q (List.mem_filter.mp e).1
theorem xr_istore_n {k : Fin 4} {i : Nat} {x : Int32} (C : xk_Cx Γ own cc nl ret nm d w) (hi : (k : Nat) = i) (hL : (i, Value.int x) :: L.filter (fun q => !(q.1 == i)) = L2) (dg : decode cc pc = .ok (.istore_n k, 1)) (hn : i < nl) (kk : xk_X Γ (pc + 1) L2 st h) : xk_X Γ pc L (.int x :: st) h := by
  obtain ⟨D, base, p, l, e, R, s, m, args, below, meth, c, nL, Q⟩ := Γ
  obtain ⟨hx, hb, hml, hnl, hown, hts, -⟩ := C
  intro ls H locs cells slots hl hc hR hS h1 h2
  exact lv_istore_n hx hb dg hi hl (hnl.symm ▸ hn) rfl (fun ls hl => kk ls H locs cells slots ⟨hl.1, hl.2.1, fun q hq => hl.2.2 q (xk_stl hc hL q hq)⟩ (xk_stc hc rfl hL) hR hS h1 h2)
theorem xr_astore_n {k : Fin 4} {i : Nat} {x : Option Nat} (C : xk_Cx Γ own cc nl ret nm d w) (hi : (k : Nat) = i) (hL : (i, va_rf x) :: L.filter (fun q => !(q.1 == i)) = L2) (dg : decode cc pc = .ok (.astore_n k, 1)) (hn : i < nl) (kk : xk_X Γ (pc + 1) L2 st h) : xk_X Γ pc L (va_rf x :: st) h := by
  obtain ⟨D, base, p, l, e, R, s, m, args, below, meth, c, nL, Q⟩ := Γ
  obtain ⟨hx, hb, hml, hnl, hown, hts, -⟩ := C
  intro ls H locs cells slots hl hc hR hS h1 h2
  cases x with
  | none => exact lv_astore_nN hx hb dg hi hl (hnl.symm ▸ hn) rfl (fun ls hl => kk ls H locs cells slots ⟨hl.1, hl.2.1, fun q hq => hl.2.2 q (xk_stl hc hL q hq)⟩ (xk_stc hc rfl hL) hR hS h1 h2)
  | some a => exact lv_astore_n hx hb dg hi hl (hnl.symm ▸ hn) rfl (fun ls hl => kk ls H locs cells slots ⟨hl.1, hl.2.1, fun q hq => hl.2.2 q (xk_stl hc hL q hq)⟩ (xk_stc hc rfl hL) hR hS h1 h2)
theorem xr_istore {i : Nat} {x : Int32} (C : xk_Cx Γ own cc nl ret nm d w) (hL : (i, Value.int x) :: L.filter (fun q => !(q.1 == i)) = L2) (dg : decode cc pc = .ok (.istore i, 2)) (hn : i < nl) (kk : xk_X Γ (pc + 2) L2 st h) : xk_X Γ pc L (.int x :: st) h := by
  obtain ⟨D, base, p, l, e, R, s, m, args, below, meth, c, nL, Q⟩ := Γ
  obtain ⟨hx, hb, hml, hnl, hown, hts, -⟩ := C
  intro ls H locs cells slots hl hc hR hS h1 h2
  exact lv_istore hx hb dg hl (hnl.symm ▸ hn) rfl (fun ls hl => kk ls H locs cells slots ⟨hl.1, hl.2.1, fun q hq => hl.2.2 q (xk_stl hc hL q hq)⟩ (xk_stc hc rfl hL) hR hS h1 h2)
theorem xr_astore {i : Nat} {x : Option Nat} (C : xk_Cx Γ own cc nl ret nm d w) (hL : (i, va_rf x) :: L.filter (fun q => !(q.1 == i)) = L2) (dg : decode cc pc = .ok (.astore i, 2)) (hn : i < nl) (kk : xk_X Γ (pc + 2) L2 st h) : xk_X Γ pc L (va_rf x :: st) h := by
  obtain ⟨D, base, p, l, e, R, s, m, args, below, meth, c, nL, Q⟩ := Γ
  obtain ⟨hx, hb, hml, hnl, hown, hts, -⟩ := C
  intro ls H locs cells slots hl hc hR hS h1 h2
  cases x with
  | none => exact lv_astoreN hx hb dg hl (hnl.symm ▸ hn) rfl (fun ls hl => kk ls H locs cells slots ⟨hl.1, hl.2.1, fun q hq => hl.2.2 q (xk_stl hc hL q hq)⟩ (xk_stc hc rfl hL) hR hS h1 h2)
  | some a => exact lv_astore hx hb dg hl (hnl.symm ▸ hn) rfl (fun ls hl => kk ls H locs cells slots ⟨hl.1, hl.2.1, fun q hq => hl.2.2 q (xk_stl hc hL q hq)⟩ (xk_stc hc rfl hL) hR hS h1 h2)
theorem xr_iinc {i : Nat} {n : Int} {x v : Int32} (j : Nat) (C : xk_Cx Γ own cc nl ret nm d w) (hj : L[j]? = some (i, .int x)) (hv : x + Int32.ofInt n = v) (hL : (i, Value.int v) :: L.filter (fun q => !(q.1 == i)) = L2) (dg : decode cc pc = .ok (.iinc i n, 3)) (hn : i < nl) (kk : xk_X Γ (pc + 3) L2 st h) : xk_X Γ pc L st h := by
  obtain ⟨D, base, p, l, e, R, s, m, args, below, meth, c, nL, Q⟩ := Γ
  obtain ⟨hx, hb, hml, hnl, hown, hts, -⟩ := C
  intro ls H locs cells slots hl hc hR hS h1 h2
  exact lv_iinc hx hb dg hl (k := j) hj hv (hnl.symm ▸ hn) rfl (fun ls hl => kk ls H locs cells slots ⟨hl.1, hl.2.1, fun q hq => hl.2.2 q (xk_stl hc hL q hq)⟩ (xk_stc hc rfl hL) hR hS h1 h2)
theorem xr_if_eq {x : Int32} {off : Int} (tgt : Nat) (C : xk_Cx Γ own cc nl ret nm d w) (E : (if x = 0 then A else B) = some res) (dg : decode cc pc = .ok (.ifCond .eq off, 3)) (ht : (pc : Int) + off = (tgt : Int)) (kt : A = some res → xk_X Γ tgt L st h) (kf : B = some res → xk_X Γ (pc + 3) L st h) : xk_X Γ pc L (.int x :: st) h := by
  obtain ⟨D, base, p, l, e, R, s, m, args, below, meth, c, nL, Q⟩ := Γ
  obtain ⟨hx, hb, hml, hnl, hown, hts, -⟩ := C
  intro ls H locs cells slots hl hc hR hS h1 h2
  exact lv_if_eq hx hb dg ht (fun q => kt (by rw [if_pos q] at E; exact E) ls H locs cells slots hl hc hR hS h1 h2) (fun q => kf (by rw [if_neg q] at E; exact E) ls H locs cells slots hl hc hR hS h1 h2)
theorem xr_icmp_eq {x y : Int32} {off : Int} (tgt : Nat) (C : xk_Cx Γ own cc nl ret nm d w) (E : (if x = y then A else B) = some res) (dg : decode cc pc = .ok (.if_icmp .eq off, 3)) (ht : (pc : Int) + off = (tgt : Int)) (kt : A = some res → xk_X Γ tgt L st h) (kf : B = some res → xk_X Γ (pc + 3) L st h) : xk_X Γ pc L (.int y :: .int x :: st) h := by
  obtain ⟨D, base, p, l, e, R, s, m, args, below, meth, c, nL, Q⟩ := Γ
  obtain ⟨hx, hb, hml, hnl, hown, hts, -⟩ := C
  intro ls H locs cells slots hl hc hR hS h1 h2
  exact lv_icmp_eq hx hb dg ht (fun q => kt (by rw [if_pos q] at E; exact E) ls H locs cells slots hl hc hR hS h1 h2) (fun q => kf (by rw [if_neg q] at E; exact E) ls H locs cells slots hl hc hR hS h1 h2)
theorem xr_if_ne {x : Int32} {off : Int} (tgt : Nat) (C : xk_Cx Γ own cc nl ret nm d w) (E : (if x = 0 then B else A) = some res) (dg : decode cc pc = .ok (.ifCond .ne off, 3)) (ht : (pc : Int) + off = (tgt : Int)) (kt : A = some res → xk_X Γ tgt L st h) (kf : B = some res → xk_X Γ (pc + 3) L st h) : xk_X Γ pc L (.int x :: st) h := by
  obtain ⟨D, base, p, l, e, R, s, m, args, below, meth, c, nL, Q⟩ := Γ
  obtain ⟨hx, hb, hml, hnl, hown, hts, -⟩ := C
  intro ls H locs cells slots hl hc hR hS h1 h2
  exact lv_if_ne hx hb dg ht (fun q => kt (by rw [if_neg q] at E; exact E) ls H locs cells slots hl hc hR hS h1 h2) (fun q => kf (by rw [if_pos q] at E; exact E) ls H locs cells slots hl hc hR hS h1 h2)
theorem xr_icmp_ne {x y : Int32} {off : Int} (tgt : Nat) (C : xk_Cx Γ own cc nl ret nm d w) (E : (if x = y then B else A) = some res) (dg : decode cc pc = .ok (.if_icmp .ne off, 3)) (ht : (pc : Int) + off = (tgt : Int)) (kt : A = some res → xk_X Γ tgt L st h) (kf : B = some res → xk_X Γ (pc + 3) L st h) : xk_X Γ pc L (.int y :: .int x :: st) h := by
  obtain ⟨D, base, p, l, e, R, s, m, args, below, meth, c, nL, Q⟩ := Γ
  obtain ⟨hx, hb, hml, hnl, hown, hts, -⟩ := C
  intro ls H locs cells slots hl hc hR hS h1 h2
  exact lv_icmp_ne hx hb dg ht (fun q => kt (by rw [if_neg q] at E; exact E) ls H locs cells slots hl hc hR hS h1 h2) (fun q => kf (by rw [if_pos q] at E; exact E) ls H locs cells slots hl hc hR hS h1 h2)
theorem xr_if_lt {x : Int32} {off : Int} (tgt : Nat) (C : xk_Cx Γ own cc nl ret nm d w) (E : (if x < 0 then A else B) = some res) (dg : decode cc pc = .ok (.ifCond .lt off, 3)) (ht : (pc : Int) + off = (tgt : Int)) (kt : A = some res → xk_X Γ tgt L st h) (kf : B = some res → xk_X Γ (pc + 3) L st h) : xk_X Γ pc L (.int x :: st) h := by
  obtain ⟨D, base, p, l, e, R, s, m, args, below, meth, c, nL, Q⟩ := Γ
  obtain ⟨hx, hb, hml, hnl, hown, hts, -⟩ := C
  intro ls H locs cells slots hl hc hR hS h1 h2
  exact lv_if_lt hx hb dg ht (fun q => kt (by rw [if_pos q] at E; exact E) ls H locs cells slots hl hc hR hS h1 h2) (fun q => kf (by rw [if_neg q] at E; exact E) ls H locs cells slots hl hc hR hS h1 h2)
theorem xr_icmp_lt {x y : Int32} {off : Int} (tgt : Nat) (C : xk_Cx Γ own cc nl ret nm d w) (E : (if x < y then A else B) = some res) (dg : decode cc pc = .ok (.if_icmp .lt off, 3)) (ht : (pc : Int) + off = (tgt : Int)) (kt : A = some res → xk_X Γ tgt L st h) (kf : B = some res → xk_X Γ (pc + 3) L st h) : xk_X Γ pc L (.int y :: .int x :: st) h := by
  obtain ⟨D, base, p, l, e, R, s, m, args, below, meth, c, nL, Q⟩ := Γ
  obtain ⟨hx, hb, hml, hnl, hown, hts, -⟩ := C
  intro ls H locs cells slots hl hc hR hS h1 h2
  exact lv_icmp_lt hx hb dg ht (fun q => kt (by rw [if_pos q] at E; exact E) ls H locs cells slots hl hc hR hS h1 h2) (fun q => kf (by rw [if_neg q] at E; exact E) ls H locs cells slots hl hc hR hS h1 h2)
theorem xr_if_ge {x : Int32} {off : Int} (tgt : Nat) (C : xk_Cx Γ own cc nl ret nm d w) (E : (if 0 ≤ x then A else B) = some res) (dg : decode cc pc = .ok (.ifCond .ge off, 3)) (ht : (pc : Int) + off = (tgt : Int)) (kt : A = some res → xk_X Γ tgt L st h) (kf : B = some res → xk_X Γ (pc + 3) L st h) : xk_X Γ pc L (.int x :: st) h := by
  obtain ⟨D, base, p, l, e, R, s, m, args, below, meth, c, nL, Q⟩ := Γ
  obtain ⟨hx, hb, hml, hnl, hown, hts, -⟩ := C
  intro ls H locs cells slots hl hc hR hS h1 h2
  exact lv_if_ge hx hb dg ht (fun q => kt (by rw [if_pos q] at E; exact E) ls H locs cells slots hl hc hR hS h1 h2) (fun q => kf (by rw [if_neg q] at E; exact E) ls H locs cells slots hl hc hR hS h1 h2)
theorem xr_icmp_ge {x y : Int32} {off : Int} (tgt : Nat) (C : xk_Cx Γ own cc nl ret nm d w) (E : (if y ≤ x then A else B) = some res) (dg : decode cc pc = .ok (.if_icmp .ge off, 3)) (ht : (pc : Int) + off = (tgt : Int)) (kt : A = some res → xk_X Γ tgt L st h) (kf : B = some res → xk_X Γ (pc + 3) L st h) : xk_X Γ pc L (.int y :: .int x :: st) h := by
  obtain ⟨D, base, p, l, e, R, s, m, args, below, meth, c, nL, Q⟩ := Γ
  obtain ⟨hx, hb, hml, hnl, hown, hts, -⟩ := C
  intro ls H locs cells slots hl hc hR hS h1 h2
  exact lv_icmp_ge hx hb dg ht (fun q => kt (by rw [if_pos q] at E; exact E) ls H locs cells slots hl hc hR hS h1 h2) (fun q => kf (by rw [if_neg q] at E; exact E) ls H locs cells slots hl hc hR hS h1 h2)
theorem xr_if_gt {x : Int32} {off : Int} (tgt : Nat) (C : xk_Cx Γ own cc nl ret nm d w) (E : (if 0 < x then A else B) = some res) (dg : decode cc pc = .ok (.ifCond .gt off, 3)) (ht : (pc : Int) + off = (tgt : Int)) (kt : A = some res → xk_X Γ tgt L st h) (kf : B = some res → xk_X Γ (pc + 3) L st h) : xk_X Γ pc L (.int x :: st) h := by
  obtain ⟨D, base, p, l, e, R, s, m, args, below, meth, c, nL, Q⟩ := Γ
  obtain ⟨hx, hb, hml, hnl, hown, hts, -⟩ := C
  intro ls H locs cells slots hl hc hR hS h1 h2
  exact lv_if_gt hx hb dg ht (fun q => kt (by rw [if_pos q] at E; exact E) ls H locs cells slots hl hc hR hS h1 h2) (fun q => kf (by rw [if_neg q] at E; exact E) ls H locs cells slots hl hc hR hS h1 h2)
theorem xr_icmp_gt {x y : Int32} {off : Int} (tgt : Nat) (C : xk_Cx Γ own cc nl ret nm d w) (E : (if y < x then A else B) = some res) (dg : decode cc pc = .ok (.if_icmp .gt off, 3)) (ht : (pc : Int) + off = (tgt : Int)) (kt : A = some res → xk_X Γ tgt L st h) (kf : B = some res → xk_X Γ (pc + 3) L st h) : xk_X Γ pc L (.int y :: .int x :: st) h := by
  obtain ⟨D, base, p, l, e, R, s, m, args, below, meth, c, nL, Q⟩ := Γ
  obtain ⟨hx, hb, hml, hnl, hown, hts, -⟩ := C
  intro ls H locs cells slots hl hc hR hS h1 h2
  exact lv_icmp_gt hx hb dg ht (fun q => kt (by rw [if_pos q] at E; exact E) ls H locs cells slots hl hc hR hS h1 h2) (fun q => kf (by rw [if_neg q] at E; exact E) ls H locs cells slots hl hc hR hS h1 h2)
theorem xr_if_le {x : Int32} {off : Int} (tgt : Nat) (C : xk_Cx Γ own cc nl ret nm d w) (E : (if x ≤ 0 then A else B) = some res) (dg : decode cc pc = .ok (.ifCond .le off, 3)) (ht : (pc : Int) + off = (tgt : Int)) (kt : A = some res → xk_X Γ tgt L st h) (kf : B = some res → xk_X Γ (pc + 3) L st h) : xk_X Γ pc L (.int x :: st) h := by
  obtain ⟨D, base, p, l, e, R, s, m, args, below, meth, c, nL, Q⟩ := Γ
  obtain ⟨hx, hb, hml, hnl, hown, hts, -⟩ := C
  intro ls H locs cells slots hl hc hR hS h1 h2
  exact lv_if_le hx hb dg ht (fun q => kt (by rw [if_pos q] at E; exact E) ls H locs cells slots hl hc hR hS h1 h2) (fun q => kf (by rw [if_neg q] at E; exact E) ls H locs cells slots hl hc hR hS h1 h2)
theorem xr_icmp_le {x y : Int32} {off : Int} (tgt : Nat) (C : xk_Cx Γ own cc nl ret nm d w) (E : (if x ≤ y then A else B) = some res) (dg : decode cc pc = .ok (.if_icmp .le off, 3)) (ht : (pc : Int) + off = (tgt : Int)) (kt : A = some res → xk_X Γ tgt L st h) (kf : B = some res → xk_X Γ (pc + 3) L st h) : xk_X Γ pc L (.int y :: .int x :: st) h := by
  obtain ⟨D, base, p, l, e, R, s, m, args, below, meth, c, nL, Q⟩ := Γ
  obtain ⟨hx, hb, hml, hnl, hown, hts, -⟩ := C
  intro ls H locs cells slots hl hc hR hS h1 h2
  exact lv_icmp_le hx hb dg ht (fun q => kt (by rw [if_pos q] at E; exact E) ls H locs cells slots hl hc hR hS h1 h2) (fun q => kf (by rw [if_neg q] at E; exact E) ls H locs cells slots hl hc hR hS h1 h2)
theorem xr_acmp_eq {x y : Option Nat} {off : Int} (tgt : Nat) (C : xk_Cx Γ own cc nl ret nm d w) (E : (if x = y then A else B) = some res) (dg : decode cc pc = .ok (.if_acmp .eq off, 3)) (ht : (pc : Int) + off = (tgt : Int)) (kt : A = some res → xk_X Γ tgt L st h) (kf : B = some res → xk_X Γ (pc + 3) L st h) : xk_X Γ pc L (va_rf y :: va_rf x :: st) h := by
  obtain ⟨D, base, p, l, e, R, s, m, args, below, meth, c, nL, Q⟩ := Γ
  obtain ⟨hx, hb, hml, hnl, hown, hts, -⟩ := C
  intro ls H locs cells slots hl hc hR hS h1 h2
  exact lv_acmp_eq hx hb dg ht (fun q => kt (by rw [if_pos q] at E; exact E) ls H locs cells slots hl hc hR hS h1 h2) (fun q => kf (by rw [if_neg q] at E; exact E) ls H locs cells slots hl hc hR hS h1 h2)
theorem xr_acmp_ne {x y : Option Nat} {off : Int} (tgt : Nat) (C : xk_Cx Γ own cc nl ret nm d w) (E : (if x = y then B else A) = some res) (dg : decode cc pc = .ok (.if_acmp .ne off, 3)) (ht : (pc : Int) + off = (tgt : Int)) (kt : A = some res → xk_X Γ tgt L st h) (kf : B = some res → xk_X Γ (pc + 3) L st h) : xk_X Γ pc L (va_rf y :: va_rf x :: st) h := by
  obtain ⟨D, base, p, l, e, R, s, m, args, below, meth, c, nL, Q⟩ := Γ
  obtain ⟨hx, hb, hml, hnl, hown, hts, -⟩ := C
  intro ls H locs cells slots hl hc hR hS h1 h2
  exact lv_acmp_ne hx hb dg ht (fun q => kt (by rw [if_neg q] at E; exact E) ls H locs cells slots hl hc hR hS h1 h2) (fun q => kf (by rw [if_pos q] at E; exact E) ls H locs cells slots hl hc hR hS h1 h2)
theorem xr_ifnull {x : Option Nat} {off : Int} (tgt : Nat) (C : xk_Cx Γ own cc nl ret nm d w) (E : (if x = none then A else B) = some res) (dg : decode cc pc = .ok (.ifnull off, 3)) (ht : (pc : Int) + off = (tgt : Int)) (kt : A = some res → xk_X Γ tgt L st h) (kf : B = some res → xk_X Γ (pc + 3) L st h) : xk_X Γ pc L (va_rf x :: st) h := by
  obtain ⟨D, base, p, l, e, R, s, m, args, below, meth, c, nL, Q⟩ := Γ
  obtain ⟨hx, hb, hml, hnl, hown, hts, -⟩ := C
  intro ls H locs cells slots hl hc hR hS h1 h2
  cases x with
  | none => exact lv_ifnullN hx hb dg ht (kt (by simpa using E) ls H locs cells slots hl hc hR hS h1 h2)
  | some a => exact lv_ifnull hx hb dg (kf (by simpa using E) ls H locs cells slots hl hc hR hS h1 h2)
theorem xr_ifnonnull {x : Option Nat} {off : Int} (tgt : Nat) (C : xk_Cx Γ own cc nl ret nm d w) (E : (if x = none then B else A) = some res) (dg : decode cc pc = .ok (.ifnonnull off, 3)) (ht : (pc : Int) + off = (tgt : Int)) (kt : A = some res → xk_X Γ tgt L st h) (kf : B = some res → xk_X Γ (pc + 3) L st h) : xk_X Γ pc L (va_rf x :: st) h := by
  obtain ⟨D, base, p, l, e, R, s, m, args, below, meth, c, nL, Q⟩ := Γ
  obtain ⟨hx, hb, hml, hnl, hown, hts, -⟩ := C
  intro ls H locs cells slots hl hc hR hS h1 h2
  cases x with
  | none => exact lv_ifnonnullN hx hb dg (kf (by simpa using E) ls H locs cells slots hl hc hR hS h1 h2)
  | some a => exact lv_ifnonnull hx hb dg ht (kt (by simpa using E) ls H locs cells slots hl hc hR hS h1 h2)
theorem xr_goto {off : Int} (tgt : Nat) (C : xk_Cx Γ own cc nl ret nm d w) (dg : decode cc pc = .ok (.goto off, 3)) (ht : (pc : Int) + off = (tgt : Int)) (k : xk_X Γ tgt L st h) : xk_X Γ pc L st h := by
  obtain ⟨D, base, p, l, e, R, s, m, args, below, meth, c, nL, Q⟩ := Γ
  obtain ⟨hx, hb, hml, hnl, hown, hts, -⟩ := C
  intro ls H locs cells slots hl hc hR hS h1 h2
  exact lv_goto hx hb dg ht (k ls H locs cells slots hl hc hR hS h1 h2)
theorem xr_tsw {dflt lo hi : Int} {offs : Array Int} {len : Nat} {x : Int32} (tgt : Nat) (v : Int32) (C : xk_Cx Γ own cc nl ret nm d w) (dg : decode cc pc = .ok (.tableswitch dflt lo hi offs, len)) (hv : x = v) (g1 : ¬ v.toInt < lo) (g2 : ¬ hi < v.toInt) {off : Int} (ho : offs[(v.toInt - lo).toNat]? = some off) (ht : (pc : Int) + off = (tgt : Int)) (k : xk_X Γ tgt L st h) : xk_X Γ pc L (.int x :: st) h := by
  subst hv
  obtain ⟨D, base, p, l, e, R, s, m, args, below, meth, c, nL, Q⟩ := Γ
  obtain ⟨hx, hb, hml, hnl, hown, hts, -⟩ := C
  intro ls H locs cells slots hl hc hR hS h1 h2
  exact lv_tableIn hx hb dg g1 g2 ho ht (k ls H locs cells slots hl hc hR hS h1 h2)
theorem xr_tswd {dflt lo hi : Int} {offs : Array Int} {len : Nat} {x : Int32} (tgt : Nat) (C : xk_Cx Γ own cc nl ret nm d w) (dg : decode cc pc = .ok (.tableswitch dflt lo hi offs, len)) (hv : x.toInt < lo ∨ hi < x.toInt) (ht : (pc : Int) + dflt = (tgt : Int)) (k : xk_X Γ tgt L st h) : xk_X Γ pc L (.int x :: st) h := by
  obtain ⟨D, base, p, l, e, R, s, m, args, below, meth, c, nL, Q⟩ := Γ
  obtain ⟨hx, hb, hml, hnl, hown, hts, -⟩ := C
  intro ls H locs cells slots hl hc hR hS h1 h2
  exact lv_tableOut hx hb dg hv ht (k ls H locs cells slots hl hc hR hS h1 h2)
/-! the ends -/
theorem xk_mq {D : va_G} {base : Nat} {h0 h' : xk_H} {s : State} {H : Heap} {locs : List Loc} {o : Option Value} (hR : xk_R D base h' s H) (hS : va_S (fun q => base ≤ q) s.heap H locs) (hb : base ≤ s.heap.size) (hc : h'.2.2.2 ≤ h0.2.2.2) {args : Array Value} : ∀ t : State, t.heap = H → s.WarmedH t.vm → xk_Qc D base h0 o h' args s (.returned o) t := by
  intro t ht hW
  refine ⟨rfl, by rw [ht]; exact hR.moved hW.alike, by rw [ht]; exact hS.1, hc, fun q hq => by rw [ht]; exact hS.2.1 q (by omega) (by omega)⟩
theorem xr_iret {x r : Int32} {h' : xk_H} (C : xk_Cx Γ own cc nl (some .int) nm d w) (Z : xk_Z Γ (some (.int r)) h') (E : some (x, h) = some (r, h')) (dg : decode cc pc = .ok (.ireturn, 1)) : xk_X Γ pc L [.int x] h := by
  cases E
  obtain ⟨D, base, p, l, e, R, s, m, args, below, meth, c, nL, Q⟩ := Γ
  obtain ⟨hx, hb, hml, hnl, hown, hts, hK, hr, hk, -, hbs, -⟩ := C
  obtain ⟨z1, h0, z2, rfl⟩ := Z
  intro ls H locs cells slots hl hc hR hS h1 h2
  refine W.widen (k := h0.2.2.2 - h.2.2.2) (n := h0.2.2.2 - h.2.2.2) (by omega) (by omega) ?_
  exact W.iret hx hb hr (xk_mq hR hS hbs (by omega)) hS.2.2 dg hk
theorem xr_vret {h' : xk_H} {r : Unit} (C : xk_Cx Γ own cc nl none nm d w) (Z : xk_Z Γ none h') (E : some ((), h) = some (r, h')) (dg : decode cc pc = .ok (.return_, 1)) : xk_X Γ pc L [] h := by
  cases E
  obtain ⟨D, base, p, l, e, R, s, m, args, below, meth, c, nL, Q⟩ := Γ
  obtain ⟨hx, hb, hml, hnl, hown, hts, hK, hr, hk, -, hbs, -⟩ := C
  obtain ⟨z1, h0, z2, rfl⟩ := Z
  intro ls H locs cells slots hl hc hR hS h1 h2
  refine W.widen (k := h0.2.2.2 - h.2.2.2) (n := h0.2.2.2 - h.2.2.2) (by omega) (by omega) ?_
  exact W.vret hx hb hr (xk_mq hR hS hbs (by omega)) hS.2.2 dg hk
theorem xr_aret {rt : FieldType} {x r : Option Nat} {h' : xk_H} (C : xk_Cx Γ own cc nl (some rt) nm d w) (Z : xk_Z Γ (some (va_rf r)) h') (E : some (x, h) = some (r, h')) (hrt : (∃ n, rt = .object n) ∨ ∃ t, rt = .array t) (dg : decode cc pc = .ok (.areturn, 1)) : xk_X Γ pc L [va_rf x] h := by
  cases E
  obtain ⟨D, base, p, l, e, R, s, m, args, below, meth, c, nL, Q⟩ := Γ
  obtain ⟨hx, hb, hml, hnl, hown, hts, hK, hr, hk, -, hbs, -⟩ := C
  obtain ⟨z1, h0, z2, rfl⟩ := Z
  intro ls H locs cells slots hl hc hR hS h1 h2
  refine W.widen (k := h0.2.2.2 - h.2.2.2) (n := h0.2.2.2 - h.2.2.2) (by omega) (by omega) ?_
  exact W.aret hx hb hr hrt (by cases x with | none => exact Or.inl rfl | some a => exact Or.inr ⟨a, rfl⟩) (xk_mq hR hS hbs (by omega)) hS.2.2 dg hk
theorem xr_dret {x r : UInt64} {h' : xk_H} (C : xk_Cx Γ own cc nl (some .double) nm d w) (Z : xk_Z Γ (some (.double r)) h') (E : some (x, h) = some (r, h')) (dg : decode cc pc = .ok (.dreturn, 1)) : xk_X Γ pc L [.double x] h := by
  cases E
  obtain ⟨D, base, p, l, e, R, s, m, args, below, meth, c, nL, Q⟩ := Γ
  obtain ⟨hx, hb, hml, hnl, hown, hts, hK, hr, hk, -, hbs, -⟩ := C
  obtain ⟨z1, h0, z2, rfl⟩ := Z
  intro ls H locs cells slots hl hc hR hS h1 h2
  refine W.widen (k := h0.2.2.2 - h.2.2.2) (n := h0.2.2.2 - h.2.2.2) (by omega) (by omega) ?_
  exact W.dret hx hb hr (xk_mq hR hS hbs (by omega)) hS.2.2 dg hk
/-- a boolean, or another small type -/
theorem xr_zret {ty : FieldType} {x : Int32} {h' : xk_H} {ro : Option Value} (C : xk_Cx Γ own cc nl (some ty) nm d w) (Z : xk_Z Γ ro h') (eo : ro = some (.int x)) (E : h = h') (hn : narrow ty (.int x) = .int x) (dg : decode cc pc = .ok (.ireturn, 1)) : xk_X Γ pc L [.int x] h := by
  subst E; subst eo
  obtain ⟨D, base, p, l, e, R, s, m, args, below, meth, c, nL, Q⟩ := Γ
  obtain ⟨hx, hb, hml, hnl, hown, hts, hK, hr, hk, -, hbs, -⟩ := C
  obtain ⟨z1, h0, z2, rfl⟩ := Z
  intro ls H locs cells slots hl hc hR hS h1 h2
  refine W.widen (k := h0.2.2.2 - h.2.2.2) (n := h0.2.2.2 - h.2.2.2) (by omega) (by omega) ?_
  exact W.zret hx hb hr hn (xk_mq hR hS hbs (by omega)) hS.2.2 dg hk
end XR
