/-! ROWS OF xk_X: calls, by contract -/
set_option maxRecDepth 100000
theorem xk_back {l : Launch} {R : Room} {p : Program} {e : Env} {below : List Frame} {s : State} {sargs : Array Value} {y : MethodName} {len W : Nat} {ws : List Cond} {rm : Room} {Pc : Array Value → State → Prop} {Qc : Array Value → State → Outcome → State → Prop} {mc ms : Nat} {free : Addr → Prop} {bytes : ByteArray} {maxL : Nat} {ret : Option FieldType}
    (hM : Met l y ws rm Pc Qc mc ms free) (hbl : FrameBlind Pc) (hf : rm.frames + 1 ≤ R.frames) (hlo : W + (maxL + 11) + rm.locals ≤ R.locals) (hws : ∀ w ∈ ws, ∀ a' U, s.WarmedH U.vm → w.before a' U = true) (hcode : Cond.code y bytes maxL ret ∈ ws) (hinit : (Cond.initialized y.cls).before sargs s = true) :
    Back l R p e below s sargs y len W (fun A a => A.cells + rm.cells ≤ R.cells ∧ A.slots + rm.slots ≤ R.slots ∧ Pc a A.U) (PostOf Qc mc ms free) := by
  refine Back.of_free (S := headSpec ws rm) (P := Pc) (K := fun _ _ _ _ _ => True) (Q := fun a st o t => Qc a st o t ∧ ∃ L, FrameEnd st o t L mc ms ∧ ∀ q ∈ L, free q.base) (bytes := bytes) (maxL := maxL) (ret := ret)
    (E := fun a st o t L k n => k = mc ∧ n = ms ∧ ∀ q ∈ L, free q.base) hM hf hlo ?_ ?_ (fun _ _ _ _ _ _ _ _ _ => trivial) ?_ ?_
  · intro m meth c A a X hp
    exact ⟨atoms_intro fun w hw => hws w hw _ _ X.warmed, hws _ hcode _ _ X.warmed, word_at X.warmed (Or.inl (by first | rfl | simp [Cond.onTables, Cond.keeps, Cond.steady])) hinit, hp.1, hp.2.1⟩
  · intro m meth c A a g mk X hp
    exact hbl _ _ _ _ hp.2.2
  · intro a st o t ⟨hq, L, hF, hL⟩
    exact ⟨L, mc, ms, hF, rfl, rfl, hL⟩
  · intro m meth c A a g mk v t L k n X hp hq hF ⟨e1, e2, hL⟩
    subst e1; subst e2
    exact ⟨g, mk, t, L, rfl, rfl, hq.1, rfl, hL, rfl, rfl⟩
/-- what the machine's rows for calls hand out -/
def xk_Out (p : Program) (l : Launch) (e : Env) (R : Room) (s : State) (m : MethodId) (args : Array Value) (below : List Frame) (meth : Method) (c : Code) (D : va_G) (base : Nat) (h : xk_H) (r : Option Value) (h' : xk_H) (T : State) (locs : List Loc) (cells slots : Nat) (av : Array Value) (len pc : Nat) (ls : Array Slot) (st0 st : List Value) : Prop :=
  ∃ (v : Option Value) (vm₁ : Vm) (B : Pt), s.WarmedH vm₁ ∧ Stand p l e R s m args below meth c B.U B.locs B.cells B.slots ∧ PostOf (xk_Qc D base h r h') (h.2.2.2 - h'.2.2.2) (h.2.2.2 - h'.2.2.2) (fun q => base ≤ q) ⟨T.setVm vm₁, locs, cells, slots⟩ av v B ∧
      ∀ target, Steps p.tables e below (B.U.setTop { F0 m pc ls st0 with pc := pc + len, stack := v.toList ++ st }) target → Steps p.tables e below (T.setTop (F0 m pc ls st0)) target
theorem xk_fin {D : va_G} {base : Nat} {p : Program} {l : Launch} {e : Env} {R : Room} {s : State} {m : MethodId} {args : Array Value} {below : List Frame} {meth : Method} {c : Code} {nL : Nat} {Q : State → Prop} {h : xk_H} {r : Option Value} {h' : xk_H} {T : State} {H : Heap} {locs : List Loc} {cells slots : Nat} {av : Array Value} {len pc : Nat} {ls : Array Slot} {st0 st stk : List Value} {L : List (Nat × Value)}
    (hl : lv_has ls nL L) (hc : ∀ q ∈ L, q.2.category = 1) (hT : T.heap = H) (hS : va_S (fun q => base ≤ q) s.heap H locs) (h1 : cells + h.2.2.2 ≤ R.cells) (h2 : slots + h.2.2.2 ≤ R.slots) (hb : base ≤ s.heap.size)
    (out : xk_Out p l e R s m args below meth c D base h r h' T locs cells slots av len pc ls st0 st) (hstk : stk = r.toList ++ st) (kk : xk_X (D, base, p, l, e, R, s, m, args, below, meth, c, nL, Q) (pc + len) L stk h') : ∃ t, Steps p.tables e below (T.setTop (F0 m pc ls st0)) t ∧ Q t := by
  obtain ⟨v, vm₁, ⟨U', l2, c2, s2⟩, hW₁, X', ⟨g', mk, t, L9, e1, e2, ⟨hv, hR', hz, hcr, hfr⟩, g1, hL, g2, g3⟩, stp⟩ := out
  dsimp only [Pt.U, Pt.locs, Pt.cells, Pt.slots] at X' e1 e2 g1 g2 g3 stp
  subst g1; subst g2; subst g3
  have hvr : v = r := Outcome.returned.inj hv
  subst hvr
  have hz : H.size ≤ t.heap.size := by rw [← hT]; exact hz
  have hfr : ∀ q : Nat, q < base → t.heap[q]? = H[q]? := fun q hq => by rw [← hT]; exact hfr q hq
  have hal : t.vm.Alike s.vm := by rw [← e2]; exact X'.warmed.alike.symm
  subst hstk
  obtain ⟨t2, a1, b1⟩ := kk ls t.heap (locs ++ L9) _ _ hl hc (hR'.moved hal) ⟨Nat.le_trans hS.1 hz, fun q k1 k2 => by rw [hfr q (Nat.lt_of_not_le k2)]; exact hS.2.1 q k1 k2, fun q hq => by
      rcases List.mem_append.mp hq with k | k
      · exact hS.2.2 q k
      · exact hL q k⟩ (by omega) (by omega) U' e1 X'
  exact ⟨t2, stp t2 a1, b1⟩
theorem xk_pre {D : va_G} {base : Nat} {R : Room} {s : State} {h : xk_H} {T : State} {H : Heap} {cells slots : Nat} {locs : List Loc} {av : List Value} (hT : T.heap = H) (hR : xk_R D base h s H) (hK : xk_K D s) (h1 : cells + h.2.2.2 ≤ R.cells) (h2 : slots + h.2.2.2 ≤ R.slots) : ∀ vm₁, s.WarmedH vm₁ → (fun (A : Pt) (a : Array Value) => A.cells + h.2.2.2 ≤ R.cells ∧ A.slots + h.2.2.2 ≤ R.slots ∧ xk_Pc D base av h a A.U) ⟨T.setVm vm₁, locs, cells, slots⟩ av.toArray := by
  intro vm₁ hW
  refine ⟨h1, h2, rfl, ?_, hK.moved (U := T.setVm vm₁) hW⟩
  show xk_R D base h (T.setVm vm₁) T.heap
  rw [hT]
  exact hR.moved (U := T.setVm vm₁) hW.alike
theorem xk_len {y : MethodName} {n : Nat} (hn : (parseMethodDescriptor y.desc).map (fun d => d.parameters.length) = some n) : ∀ sig, parseMethodDescriptor y.desc = some sig → n = sig.parameters.length := fun sig h => by
  rw [h] at hn
  exact (Option.some.inj hn).symm
section XC
variable {γ ρ : Type} {Γ : xk_C} {own nm : String} {cc : ByteArray} {ret : Option FieldType} {d w pc nl : Nat} {L : List (Nat × Value)} {stk : List Value} {h : xk_H} {res : γ}
variable {idx nL' d' w' : Nat} {y : MethodName} {code : ByteArray} {ret' : Option FieldType} {v : Option Nat} {mres : Option (ρ × xk_H)} {κ : ρ → xk_H → Option γ}
abbrev xk_noMH (C : String) : Prop := C ≠ "java/lang/invoke/MethodHandle" ∧ C ≠ "java/lang/invoke/VarHandle"
theorem xr_S (av st : List Value) (rv : ρ → Option Value) (stk2 : ρ → List Value) (C : xk_Cx Γ own cc nl ret nm d w) (E : xm_cl mres κ = some res) (hok : ∀ r h', mres = some (r, h') → xk_Ok (xk_l Γ) (xk_D Γ) (xk_b Γ) y code nL' ret' d' w' av h (rv r) h')
    (q1 : Cond.methodLink own idx y ∈ lw_all) (q2 : Cond.static y ∈ lw_all) (q4 : Cond.initialized y.cls ∈ lw_all) (q5 : Cond.code y code nL' ret' ∈ lw_all) (hy : xk_noMH y.cls) (hn : (parseMethodDescriptor y.desc).map (fun d => d.parameters.length) = some av.length) (hd : d' + 1 ≤ d) (hw : 8 + (nL' + 11) + w' ≤ w) (hst : xk_w1 st) (hsl : st.length ≤ 8) (hstk : stk = av.reverse ++ st) (hs2 : ∀ r, stk2 r = (rv r).toList ++ st) (dg : decode cc pc = .ok (.invokestatic idx, 3)) (kk : ∀ r h', κ r h' = some res → xk_X Γ (pc + 3) L (stk2 r) h') : xk_X Γ pc L stk h := by
  unfold xm_cl at E
  cases mres with
  | none => cases E
  | some q =>
    obtain ⟨r, h'⟩ := q
    have hM := hok r h' rfl
    obtain ⟨D, base, p, l, e, R, s, m, args, below, meth, c, nL, Q⟩ := Γ
    obtain ⟨hx, hb, hml, hnl, hown, hts, hK, -, -, -, hbs, hd1, hw1⟩ := C
    intro ls H locs cells slots hl hc hR hS h1 h2 T hT X
    subst hstk
    have hBk := xk_back (R := R) (p := p) (e := e) (below := below) (s := s) (sargs := args) (len := 3) (W := 8) hM xk_blind (by show d' + 1 ≤ _; omega) (by show 8 + (nL' + 11) + w' ≤ _; omega) (pay_in hts (lw_meth q5)) List.mem_cons_self (hts _ q4)
    exact xk_fin hl hc hT hS h1 h2 hbs (callS X hx (bytes := code) (maxL := nL') (ret := ret') hown (hts _ q1) (hts _ q2) (hts _ q4) (hts _ q5) hy hBk (g := F0 m pc ls (av.reverse ++ st)) rfl (hl.1.trans hml.symm) (argsL := av) (rest := st) (xk_len hn) rfl (by show 2 * 0 + _ ≤ _; rw [xk_w1_sum hst]; omega) (by rw [hb]; exact dg) (xk_pre hT hR hK h1 h2)) (hs2 r) (kk r h' E)
theorem xr_SN {host : String} (av st : List Value) (rv : ρ → Option Value) (stk2 : ρ → List Value) (C : xk_Cx Γ own cc nl ret nm d w) (E : xm_cl mres κ = some res) (hok : ∀ r h', mres = some (r, h') → xk_Ok (xk_l Γ) (xk_D Γ) (xk_b Γ) y code nL' ret' d' w' av h (rv r) h')
    (q1 : (own, idx, y, host) ∈ xk_nms) (q2 : Cond.static y ∈ lw_all) (q4 : Cond.initialized y.cls ∈ lw_all) (q5 : Cond.code y code nL' ret' ∈ lw_all) (hy : xk_noMH y.cls) (hn : (parseMethodDescriptor y.desc).map (fun d => d.parameters.length) = some av.length) (hd : d' + 1 ≤ d) (hw : 8 + (nL' + 11) + w' ≤ w) (hst : xk_w1 st) (hsl : st.length ≤ 8) (hstk : stk = av.reverse ++ st) (hs2 : ∀ r, stk2 r = (rv r).toList ++ st) (dg : decode cc pc = .ok (.invokestatic idx, 3)) (kk : ∀ r h', κ r h' = some res → xk_X Γ (pc + 3) L (stk2 r) h') : xk_X Γ pc L stk h := by
  unfold xm_cl at E
  cases mres with
  | none => cases E
  | some q =>
    obtain ⟨r, h'⟩ := q
    have hM := hok r h' rfl
    obtain ⟨D, base, p, l, e, R, s, m, args, below, meth, c, nL, Q⟩ := Γ
    obtain ⟨hx, hb, hml, hnl, hown, hts, hK, -, -, -, hbs, hd1, hw1⟩ := C
    intro ls H locs cells slots hl hc hR hS h1 h2 T hT X
    subst hstk
    have hBk := xk_back (R := R) (p := p) (e := e) (below := below) (s := s) (sargs := args) (len := 3) (W := 8) hM xk_blind (by show d' + 1 ≤ _; omega) (by show 8 + (nL' + 11) + w' ≤ _; omega) (pay_in hts (lw_meth q5)) List.mem_cons_self (hts _ q4)
    exact xk_fin hl hc hT hS h1 h2 hbs (va_callSN X hx (bytes := code) (maxL := nL') (ret := ret') hown (va_Nw.use rfl (hK.2.2.1 _ q1)) (hts _ q2) (hts _ q4) (hts _ q5) hy hBk (g := F0 m pc ls (av.reverse ++ st)) rfl (hl.1.trans hml.symm) (argsL := av) (rest := st) (xk_len hn) rfl (by show 2 * 0 + _ ≤ _; rw [xk_w1_sum hst]; omega) (by rw [hb]; exact dg) (xk_pre hT hR hK h1 h2)) (hs2 r) (kk r h' E)
/-- a constructor -/
theorem xr_I {b : Nat} (av st : List Value) (rv : ρ → Option Value) (stk2 : ρ → List Value) (C : xk_Cx Γ own cc nl ret nm d w) (E : xm_cl mres κ = some res) (hok : ∀ r h', mres = some (r, h') → xk_Ok (xk_l Γ) (xk_D Γ) (xk_b Γ) y code nL' none d' w' (va_rf (some b) :: av) h (rv r) h')
    (q1 : Cond.methodLink own idx y ∈ lw_all) (q2 : Cond.instanceMethod y ∈ lw_all) (q4 : Cond.initialized y.cls ∈ lw_all) (q5 : Cond.code y code nL' none ∈ lw_all) (hy : xk_noMH y.cls) (hy1 : y.name = "<init>") (hn : (parseMethodDescriptor y.desc).map (fun d => d.parameters.length) = some av.length) (hd : d' + 1 ≤ d) (hw : 8 + (nL' + 11) + w' ≤ w) (hst : xk_w1 st) (hsl : st.length ≤ 8) (hstk : stk = av.reverse ++ va_rf (some b) :: st) (hs2 : ∀ r, stk2 r = (rv r).toList ++ st) (dg : decode cc pc = .ok (.invokespecial idx, 3)) (kk : ∀ r h', κ r h' = some res → xk_X Γ (pc + 3) L (stk2 r) h') : xk_X Γ pc L stk h := by
  unfold xm_cl at E
  cases mres with
  | none => cases E
  | some q =>
    obtain ⟨r, h'⟩ := q
    have hM := hok r h' rfl
    obtain ⟨D, base, p, l, e, R, s, m, args, below, meth, c, nL, Q⟩ := Γ
    obtain ⟨hx, hb, hml, hnl, hown, hts, hK, -, -, -, hbs, hd1, hw1⟩ := C
    intro ls H locs cells slots hl hc hR hS h1 h2 T hT X
    subst hstk
    have hBk := xk_back (R := R) (p := p) (e := e) (below := below) (s := s) (sargs := args) (len := 3) (W := 8) hM xk_blind (by show d' + 1 ≤ _; omega) (by show 8 + (nL' + 11) + w' ≤ _; omega) (pay_in hts (lw_meth q5)) List.mem_cons_self (hts _ q4)
    exact xk_fin hl hc hT hS h1 h2 hbs (callI X hx (bytes := code) (maxL := nL') hown hy1 (hts _ q1) (hts _ q2) (hts _ q5) hy hBk (g := F0 m pc ls (av.reverse ++ va_rf (some b) :: st)) rfl (hl.1.trans hml.symm) (a := b) (argsL := av) (rest := st) (xk_len hn) rfl (by show 2 * 0 + _ ≤ _; rw [xk_w1_sum hst]; omega) (by rw [hb]; exact dg) (xk_pre hT hR hK h1 h2)) (hs2 r) (kk r h' E)
theorem xr_IN {host : String} {b : Nat} (av st : List Value) (rv : ρ → Option Value) (stk2 : ρ → List Value) (C : xk_Cx Γ own cc nl ret nm d w) (E : xm_cl mres κ = some res) (hok : ∀ r h', mres = some (r, h') → xk_Ok (xk_l Γ) (xk_D Γ) (xk_b Γ) y code nL' none d' w' (va_rf (some b) :: av) h (rv r) h')
    (q1 : (own, idx, y, host) ∈ xk_nms) (q2 : Cond.instanceMethod y ∈ lw_all) (q4 : Cond.initialized y.cls ∈ lw_all) (q5 : Cond.code y code nL' none ∈ lw_all) (hy : xk_noMH y.cls) (hy1 : y.name = "<init>") (hn : (parseMethodDescriptor y.desc).map (fun d => d.parameters.length) = some av.length) (hd : d' + 1 ≤ d) (hw : 8 + (nL' + 11) + w' ≤ w) (hst : xk_w1 st) (hsl : st.length ≤ 8) (hstk : stk = av.reverse ++ va_rf (some b) :: st) (hs2 : ∀ r, stk2 r = (rv r).toList ++ st) (dg : decode cc pc = .ok (.invokespecial idx, 3)) (kk : ∀ r h', κ r h' = some res → xk_X Γ (pc + 3) L (stk2 r) h') : xk_X Γ pc L stk h := by
  unfold xm_cl at E
  cases mres with
  | none => cases E
  | some q =>
    obtain ⟨r, h'⟩ := q
    have hM := hok r h' rfl
    obtain ⟨D, base, p, l, e, R, s, m, args, below, meth, c, nL, Q⟩ := Γ
    obtain ⟨hx, hb, hml, hnl, hown, hts, hK, -, -, -, hbs, hd1, hw1⟩ := C
    intro ls H locs cells slots hl hc hR hS h1 h2 T hT X
    subst hstk
    have hBk := xk_back (R := R) (p := p) (e := e) (below := below) (s := s) (sargs := args) (len := 3) (W := 8) hM xk_blind (by show d' + 1 ≤ _; omega) (by show 8 + (nL' + 11) + w' ≤ _; omega) (pay_in hts (lw_meth q5)) List.mem_cons_self (hts _ q4)
    exact xk_fin hl hc hT hS h1 h2 hbs (va_callIN X hx (bytes := code) (maxL := nL') hown hy1 (va_Nw.use rfl (hK.2.2.1 _ q1)) (hts _ q2) (hts _ q5) hy hBk (g := F0 m pc ls (av.reverse ++ va_rf (some b) :: st)) rfl (hl.1.trans hml.symm) (a := b) (argsL := av) (rest := st) (xk_len hn) rfl (by show 2 * 0 + _ ≤ _; rw [xk_w1_sum hst]; omega) (by rw [hb]; exact dg) (xk_pre hT hR hK h1 h2)) (hs2 r) (kk r h' E)
/-- through an object of the class that declares the method -/
theorem xr_V {C0 : String} {ts : List Nat} (av st : List Value) (rv : ρ → Option Value) (stk2 : ρ → List Value) (C : xk_Cx Γ own cc nl ret nm d w) (E : xm_rc ts v h (xm_cl mres κ) = some res) (hI : xk_Is ts C0) (hok : ∀ r h', mres = some (r, h') → xk_Ok (xk_l Γ) (xk_D Γ) (xk_b Γ) y code nL' ret' d' w' (va_rf v :: av) h (rv r) h')
    (q1 : Cond.methodLink own idx y ∈ lw_all) (q2 : Cond.instanceMethod y ∈ lw_all) (q3 : Cond.selects C0 y y ∈ lw_all) (q4 : Cond.initialized y.cls ∈ lw_all) (q5 : Cond.code y code nL' ret' ∈ lw_all) (hy : xk_noMH y.cls) (hn : (parseMethodDescriptor y.desc).map (fun d => d.parameters.length) = some av.length) (hd : d' + 1 ≤ d) (hw : 8 + (nL' + 11) + w' ≤ w) (hst : xk_w1 st) (hsl : st.length ≤ 8) (hstk : stk = av.reverse ++ va_rf v :: st) (hs2 : ∀ r, stk2 r = (rv r).toList ++ st) (dg : decode cc pc = .ok (.invokevirtual idx, 3)) (kk : ∀ r h', κ r h' = some res → xk_X Γ (pc + 3) L (stk2 r) h') : xk_X Γ pc L stk h := by
  unfold xm_rc at E
  cases v with
  | none => cases E
  | some b =>
    dsimp only at E
    split at E
    next ht =>
      unfold xm_cl at E
      cases mres with
      | none => cases E
      | some q =>
        obtain ⟨r, h'⟩ := q
        have hM := hok r h' rfl
        obtain ⟨D, base, p, l, e, R, s, m, args, below, meth, c, nL, Q⟩ := Γ
        obtain ⟨hx, hb, hml, hnl, hown, hts, hK, -, -, -, hbs, hd1, hw1⟩ := C
        intro ls H locs cells slots hl hc hR hS h1 h2 T hT X
        subst hstk
        obtain ⟨g1, rr, hrr, hT0⟩ := hI _ ht
        subst hT0
        obtain ⟨cellB, f1, f2, f3⟩ := xk_cls hK hR g1 hrr
        have hBk := xk_back (R := R) (p := p) (e := e) (below := below) (s := s) (sargs := args) (len := 3) (W := 8) hM xk_blind (by show d' + 1 ≤ _; omega) (by show 8 + (nL' + 11) + w' ≤ _; omega) (pay_in hts (lw_meth q5)) List.mem_cons_self (hts _ q4)
        exact xk_fin hl hc hT hS h1 h2 hbs (callV X hx (C := rr.1) (bytes := code) (maxL := nL') (ret := ret') hown (hts _ q1) (hts _ q2) (hts _ q3) (hts _ q5) hy hBk (by rw [hT]; exact f1) f2 f3 (g := F0 m pc ls (av.reverse ++ va_rf (some b) :: st)) rfl (hl.1.trans hml.symm) (argsL := av) (rest := st) (xk_len hn) rfl (by show 2 * 0 + _ ≤ _; rw [xk_w1_sum hst]; omega) (by rw [hb]; exact dg) (xk_pre hT hR hK h1 h2)) (hs2 r) (kk r h' E)
    next => cases E
theorem xr_VN {host C0 : String} {ts : List Nat} (av st : List Value) (rv : ρ → Option Value) (stk2 : ρ → List Value) (C : xk_Cx Γ own cc nl ret nm d w) (E : xm_rc ts v h (xm_cl mres κ) = some res) (hI : xk_Is ts C0) (hok : ∀ r h', mres = some (r, h') → xk_Ok (xk_l Γ) (xk_D Γ) (xk_b Γ) y code nL' ret' d' w' (va_rf v :: av) h (rv r) h')
    (q1 : (own, idx, y, host) ∈ xk_nms) (q2 : Cond.instanceMethod y ∈ lw_all) (q3 : Cond.selects C0 y y ∈ lw_all) (q4 : Cond.initialized y.cls ∈ lw_all) (q5 : Cond.code y code nL' ret' ∈ lw_all) (hy : xk_noMH y.cls) (hn : (parseMethodDescriptor y.desc).map (fun d => d.parameters.length) = some av.length) (hd : d' + 1 ≤ d) (hw : 8 + (nL' + 11) + w' ≤ w) (hst : xk_w1 st) (hsl : st.length ≤ 8) (hstk : stk = av.reverse ++ va_rf v :: st) (hs2 : ∀ r, stk2 r = (rv r).toList ++ st) (dg : decode cc pc = .ok (.invokevirtual idx, 3)) (kk : ∀ r h', κ r h' = some res → xk_X Γ (pc + 3) L (stk2 r) h') : xk_X Γ pc L stk h := by
  unfold xm_rc at E
  cases v with
  | none => cases E
  | some b =>
    dsimp only at E
    split at E
    next ht =>
      unfold xm_cl at E
      cases mres with
      | none => cases E
      | some q =>
        obtain ⟨r, h'⟩ := q
        have hM := hok r h' rfl
        obtain ⟨D, base, p, l, e, R, s, m, args, below, meth, c, nL, Q⟩ := Γ
        obtain ⟨hx, hb, hml, hnl, hown, hts, hK, -, -, -, hbs, hd1, hw1⟩ := C
        intro ls H locs cells slots hl hc hR hS h1 h2 T hT X
        subst hstk
        obtain ⟨g1, rr, hrr, hT0⟩ := hI _ ht
        subst hT0
        obtain ⟨cellB, f1, f2, f3⟩ := xk_cls hK hR g1 hrr
        have hBk := xk_back (R := R) (p := p) (e := e) (below := below) (s := s) (sargs := args) (len := 3) (W := 8) hM xk_blind (by show d' + 1 ≤ _; omega) (by show 8 + (nL' + 11) + w' ≤ _; omega) (pay_in hts (lw_meth q5)) List.mem_cons_self (hts _ q4)
        exact xk_fin hl hc hT hS h1 h2 hbs (va_callVN X hx (C := rr.1) (bytes := code) (maxL := nL') (ret := ret') hown (va_Nw.use rfl (hK.2.2.1 _ q1)) (hts _ q2) (hts _ q3) (hts _ q5) hy hBk (by rw [hT]; exact f1) f2 f3 (g := F0 m pc ls (av.reverse ++ va_rf (some b) :: st)) rfl (hl.1.trans hml.symm) (argsL := av) (rest := st) (xk_len hn) rfl (by show 2 * 0 + _ ≤ _; rw [xk_w1_sum hst]; omega) (by rw [hb]; exact dg) (xk_pre hT hR hK h1 h2)) (hs2 r) (kk r h' E)
    next => cases E
theorem xk_dec1 {x : MethodName} {b : ByteArray} {n : Nat} {r : Option FieldType} (q1 : Cond.instanceMethod x ∈ lw_all) (q2 : Cond.code x b n r ∈ lw_all) : ∀ (D : va_G) (s : State) (args : Array Value), xk_K D s → (∀ w ∈ lw_all, w.before args s = true) → va_Decl s x := fun D s args hK hts => va_Decl.of (hts _ q1) (hts _ q2)
theorem xk_dec2 {x : MethodName} (q : x ∈ xk_dec) : ∀ (D : va_G) (s : State) (args : Array Value), xk_K D s → (∀ w ∈ lw_all, w.before args s = true) → va_Decl s x := fun D s args hK hts => va_Decl.abs (hK.2.2.2.2.1 _ q)
/-- an inherited or overriding method: what is named is x, found in the class owner; what runs is y -/
theorem xr_U {C0 owner : String} {x : MethodName} {ts : List Nat} (av st : List Value) (rv : ρ → Option Value) (stk2 : ρ → List Value) (C : xk_Cx Γ own cc nl ret nm d w) (E : xm_rc ts v h (xm_cl mres κ) = some res) (hI : xk_Is ts C0) (hok : ∀ r h', mres = some (r, h') → xk_Ok (xk_l Γ) (xk_D Γ) (xk_b Γ) y code nL' ret' d' w' (va_rf v :: av) h (rv r) h')
    (q1 : Cond.methodLink own idx x ∈ lw_all) (q0 : Cond.sameMethod x.cls owner x.name x.desc ∈ lw_all) (hdec : ∀ (D : va_G) (s : State) (args : Array Value), xk_K D s → (∀ w ∈ lw_all, w.before args s = true) → va_Decl s ⟨owner, x.name, x.desc⟩) (q2 : Cond.instanceMethod y ∈ lw_all) (q3 : Cond.selects C0 x y ∈ lw_all) (q4 : Cond.initialized y.cls ∈ lw_all) (q5 : Cond.code y code nL' ret' ∈ lw_all) (hy : xk_noMH owner) (hn : (parseMethodDescriptor x.desc).map (fun d => d.parameters.length) = some av.length) (hd : d' + 1 ≤ d) (hw : 8 + (nL' + 11) + w' ≤ w) (hst : xk_w1 st) (hsl : st.length ≤ 8) (hstk : stk = av.reverse ++ va_rf v :: st) (hs2 : ∀ r, stk2 r = (rv r).toList ++ st) (dg : decode cc pc = .ok (.invokevirtual idx, 3)) (kk : ∀ r h', κ r h' = some res → xk_X Γ (pc + 3) L (stk2 r) h') : xk_X Γ pc L stk h := by
  unfold xm_rc at E
  cases v with
  | none => cases E
  | some b =>
    dsimp only at E
    split at E
    next ht =>
      unfold xm_cl at E
      cases mres with
      | none => cases E
      | some q =>
        obtain ⟨r, h'⟩ := q
        have hM := hok r h' rfl
        obtain ⟨D, base, p, l, e, R, s, m, args, below, meth, c, nL, Q⟩ := Γ
        obtain ⟨hx, hb, hml, hnl, hown, hts, hK, -, -, -, hbs, hd1, hw1⟩ := C
        intro ls H locs cells slots hl hc hR hS h1 h2 T hT X
        subst hstk
        obtain ⟨g1, rr, hrr, hT0⟩ := hI _ ht
        subst hT0
        obtain ⟨cellB, f1, f2, f3⟩ := xk_cls hK hR g1 hrr
        have hBk := xk_back (R := R) (p := p) (e := e) (below := below) (s := s) (sargs := args) (len := 3) (W := 8) hM xk_blind (by show d' + 1 ≤ _; omega) (by show 8 + (nL' + 11) + w' ≤ _; omega) (pay_in hts (lw_meth q5)) List.mem_cons_self (hts _ q4)
        exact xk_fin hl hc hT hS h1 h2 hbs (va_callVU X hx (C := rr.1) (owner := owner) (bytes := code) (maxL := nL') (ret := ret') hown (hts _ q1) (hts _ q0) (hdec D s args hK hts) hy (hts _ q3) (hts _ q2) (hts _ q5) hBk (by rw [hT]; exact f1) f2 f3 (g := F0 m pc ls (av.reverse ++ va_rf (some b) :: st)) rfl (hl.1.trans hml.symm) (argsL := av) (rest := st) (xk_len hn) rfl (by show 2 * 0 + _ ≤ _; rw [xk_w1_sum hst]; omega) (by rw [hb]; exact dg) (xk_pre hT hR hK h1 h2)) (hs2 r) (kk r h' E)
    next => cases E
/-- a private method of an abstract class, on an object of a subclass -/
theorem xr_UP {C0 : String} {ts : List Nat} (av st : List Value) (rv : ρ → Option Value) (stk2 : ρ → List Value) (C : xk_Cx Γ own cc nl ret nm d w) (E : xm_rc ts v h (xm_cl mres κ) = some res) (hI : xk_Is ts C0) (hok : ∀ r h', mres = some (r, h') → xk_Ok (xk_l Γ) (xk_D Γ) (xk_b Γ) y code nL' ret' d' w' (va_rf v :: av) h (rv r) h')
    (q1 : Cond.methodLink own idx y ∈ lw_all) (q0 : Cond.sameMethod y.cls y.cls y.name y.desc ∈ lw_all) (hdec : ∀ (D : va_G) (s : State) (args : Array Value), xk_K D s → (∀ w ∈ lw_all, w.before args s = true) → va_Decl s y) (q2 : Cond.instanceMethod y ∈ lw_all) (q3 : (C0, y) ∈ xk_sel) (q4 : Cond.initialized y.cls ∈ lw_all) (q5 : Cond.code y code nL' ret' ∈ lw_all) (hy : xk_noMH y.cls) (hn : (parseMethodDescriptor y.desc).map (fun d => d.parameters.length) = some av.length) (hd : d' + 1 ≤ d) (hw : 8 + (nL' + 11) + w' ≤ w) (hst : xk_w1 st) (hsl : st.length ≤ 8) (hstk : stk = av.reverse ++ va_rf v :: st) (hs2 : ∀ r, stk2 r = (rv r).toList ++ st) (dg : decode cc pc = .ok (.invokevirtual idx, 3)) (kk : ∀ r h', κ r h' = some res → xk_X Γ (pc + 3) L (stk2 r) h') : xk_X Γ pc L stk h := by
  unfold xm_rc at E
  cases v with
  | none => cases E
  | some b =>
    dsimp only at E
    split at E
    next ht =>
      unfold xm_cl at E
      cases mres with
      | none => cases E
      | some q =>
        obtain ⟨r, h'⟩ := q
        have hM := hok r h' rfl
        obtain ⟨D, base, p, l, e, R, s, m, args, below, meth, c, nL, Q⟩ := Γ
        obtain ⟨hx, hb, hml, hnl, hown, hts, hK, -, -, -, hbs, hd1, hw1⟩ := C
        intro ls H locs cells slots hl hc hR hS h1 h2 T hT X
        subst hstk
        obtain ⟨g1, rr, hrr, hT0⟩ := hI _ ht
        subst hT0
        obtain ⟨cellB, f1, f2, f3⟩ := xk_cls hK hR g1 hrr
        have hBk := xk_back (R := R) (p := p) (e := e) (below := below) (s := s) (sargs := args) (len := 3) (W := 8) hM xk_blind (by show d' + 1 ≤ _; omega) (by show 8 + (nL' + 11) + w' ≤ _; omega) (pay_in hts (lw_meth q5)) List.mem_cons_self (hts _ q4)
        exact xk_fin hl hc hT hS h1 h2 hbs (va_callVU X hx (C := rr.1) (owner := y.cls) (bytes := code) (maxL := nL') (ret := ret') hown (hts _ q1) (hts _ q0) (hdec D s args hK hts) hy (va_Nw.use rfl (hK.2.2.2.2.2.2.2.2.2.2.1 _ q3)) (hts _ q2) (hts _ q5) hBk (by rw [hT]; exact f1) f2 f3 (g := F0 m pc ls (av.reverse ++ va_rf (some b) :: st)) rfl (hl.1.trans hml.symm) (argsL := av) (rest := st) (xk_len hn) rfl (by show 2 * 0 + _ ≤ _; rw [xk_w1_sum hst]; omega) (by rw [hb]; exact dg) (xk_pre hT hR hK h1 h2)) (hs2 r) (kk r h' E)
    next => cases E
/-- through an interface -/
theorem xr_F {C0 : String} {cnt : Nat} {x : MethodName} {ts : List Nat} (av st : List Value) (rv : ρ → Option Value) (stk2 : ρ → List Value) (C : xk_Cx Γ own cc nl ret nm d w) (E : xm_rc ts v h (xm_cl mres κ) = some res) (hI : xk_Is ts C0) (hok : ∀ r h', mres = some (r, h') → xk_Ok (xk_l Γ) (xk_D Γ) (xk_b Γ) y code nL' ret' d' w' (va_rf v :: av) h (rv r) h')
    (q1 : Cond.methodLink own idx x ∈ lw_all) (q0 : (C0, x, y) ∈ xk_fws) (q2 : Cond.instanceMethod y ∈ lw_all) (q3 : Cond.selects C0 x y ∈ lw_all) (q4 : Cond.initialized y.cls ∈ lw_all) (q5 : Cond.code y code nL' ret' ∈ lw_all) (hy : xk_noMH x.cls) (hn : (parseMethodDescriptor x.desc).map (fun d => d.parameters.length) = some av.length) (hd : d' + 1 ≤ d) (hw : 8 + (nL' + 11) + w' ≤ w) (hst : xk_w1 st) (hsl : st.length ≤ 8) (hstk : stk = av.reverse ++ va_rf v :: st) (hs2 : ∀ r, stk2 r = (rv r).toList ++ st) (dg : decode cc pc = .ok (.invokeinterface idx cnt, 5)) (kk : ∀ r h', κ r h' = some res → xk_X Γ (pc + 5) L (stk2 r) h') : xk_X Γ pc L stk h := by
  unfold xm_rc at E
  cases v with
  | none => cases E
  | some b =>
    dsimp only at E
    split at E
    next ht =>
      unfold xm_cl at E
      cases mres with
      | none => cases E
      | some q =>
        obtain ⟨r, h'⟩ := q
        have hM := hok r h' rfl
        obtain ⟨D, base, p, l, e, R, s, m, args, below, meth, c, nL, Q⟩ := Γ
        obtain ⟨hx, hb, hml, hnl, hown, hts, hK, -, -, -, hbs, hd1, hw1⟩ := C
        intro ls H locs cells slots hl hc hR hS h1 h2 T hT X
        subst hstk
        obtain ⟨g1, rr, hrr, hT0⟩ := hI _ ht
        subst hT0
        obtain ⟨cellB, f1, f2, f3⟩ := xk_cls hK hR g1 hrr
        obtain ⟨kB, hkB, -⟩ := Vm.findClass_spec f3
        have hF := hK.2.2.2.2.2.1 _ q0
        have hBk := xk_back (R := R) (p := p) (e := e) (below := below) (s := s) (sargs := args) (len := 5) (W := 8) hM xk_blind (by show d' + 1 ≤ _; omega) (by show 8 + (nL' + 11) + w' ≤ _; omega) (pay_in hts (lw_meth q5)) List.mem_cons_self (hts _ q4)
        exact xk_fin hl hc hT hS h1 h2 hbs (va_callIF X hx (C := rr.1) (bytes := code) (maxL := nL') (ret := ret') hown (hts _ q1) (va_any rfl hF.1) (va_any rfl hF.2.1) (hts _ q3) (hts _ q2) (va_any rfl hF.2.2.1) (va_any rfl hF.2.2.2.1) (va_any rfl hF.2.2.2.2) (hts _ q5) hy hBk (by rw [hT]; exact f1) f2 f3 hkB (g := F0 m pc ls (av.reverse ++ va_rf (some b) :: st)) rfl (hl.1.trans hml.symm) (argsL := av) (rest := st) (xk_len hn) rfl (by show 2 * 0 + _ ≤ _; rw [xk_w1_sum hst]; omega) (by rw [hb]; exact dg) (xk_pre hT hR hK h1 h2)) (hs2 r) (kk r h' E)
    next => cases E
/-- super.m() -/
theorem xr_SU {C0 : String} {ts : List Nat} (av st : List Value) (rv : ρ → Option Value) (stk2 : ρ → List Value) (C : xk_Cx Γ own cc nl ret nm d w) (E : xm_rc ts v h (xm_cl mres κ) = some res) (hI : xk_Is ts C0) (hok : ∀ r h', mres = some (r, h') → xk_Ok (xk_l Γ) (xk_D Γ) (xk_b Γ) y code nL' ret' d' w' (va_rf v :: av) h (rv r) h')
    (q1 : Cond.methodLink own idx y ∈ lw_all) (q0 : Cond.sameMethod y.cls y.cls y.name y.desc ∈ lw_all) (q3 : Cond.superclass own y.cls ∈ lw_all) (q2 : Cond.instanceMethod y ∈ lw_all) (q4 : Cond.initialized y.cls ∈ lw_all) (q5 : Cond.code y code nL' ret' ∈ lw_all) (hy : y.name ≠ "<init>") (hn : (parseMethodDescriptor y.desc).map (fun d => d.parameters.length) = some av.length) (hd : d' + 1 ≤ d) (hw : 8 + (nL' + 11) + w' ≤ w) (hst : xk_w1 st) (hsl : st.length ≤ 8) (hstk : stk = av.reverse ++ va_rf v :: st) (hs2 : ∀ r, stk2 r = (rv r).toList ++ st) (dg : decode cc pc = .ok (.invokespecial idx, 3)) (kk : ∀ r h', κ r h' = some res → xk_X Γ (pc + 3) L (stk2 r) h') : xk_X Γ pc L stk h := by
  unfold xm_rc at E
  cases v with
  | none => cases E
  | some b =>
    dsimp only at E
    split at E
    next ht =>
      unfold xm_cl at E
      cases mres with
      | none => cases E
      | some q =>
        obtain ⟨r, h'⟩ := q
        have hM := hok r h' rfl
        obtain ⟨D, base, p, l, e, R, s, m, args, below, meth, c, nL, Q⟩ := Γ
        obtain ⟨hx, hb, hml, hnl, hown, hts, hK, -, -, -, hbs, hd1, hw1⟩ := C
        intro ls H locs cells slots hl hc hR hS h1 h2 T hT X
        subst hstk
        obtain ⟨g1, rr, hrr, hT0⟩ := hI _ ht
        subst hT0
        obtain ⟨cellB, f1, f2, f3⟩ := xk_cls hK hR g1 hrr
        obtain ⟨kB, hkB, -⟩ := Vm.findClass_spec f3
        have hBk := xk_back (R := R) (p := p) (e := e) (below := below) (s := s) (sargs := args) (len := 3) (W := 8) hM xk_blind (by show d' + 1 ≤ _; omega) (by show 8 + (nL' + 11) + w' ≤ _; omega) (pay_in hts (lw_meth q5)) List.mem_cons_self (hts _ q4)
        exact xk_fin hl hc hT hS h1 h2 hbs (va_callSU X hx (bytes := code) (maxL := nL') (ret := ret') hown (hts _ q1) (hts _ q0) (hts _ q3) (hts _ q2) (hts _ q5) hy hBk (by rw [hT]; exact f1) f2 hkB (g := F0 m pc ls (av.reverse ++ va_rf (some b) :: st)) rfl (hl.1.trans hml.symm) (argsL := av) (rest := st) (xk_len hn) rfl (by show 2 * 0 + _ ≤ _; rw [xk_w1_sum hst]; omega) (by rw [hb]; exact dg) (xk_pre hT hR hK h1 h2)) (hs2 r) (kk r h' E)
    next => cases E
end XC
