set_option maxRecDepth 100000
/-! THE LAW's own walk, but for its loop's pure part -/
def RL : String := "SlatCratesLaw"
/-- behind a call, with the locals as they were -/
theorem xk_finW {D : va_G} {base : Nat} {p : Program} {l : Launch} {e : Env} {R : Room} {s : State} {m : MethodId} {args : Array Value} {below : List Frame} {meth : Method} {c : Code} {Q : State → Prop} {h : xk_H} {r : Option Value} {h' : xk_H} {T : State} {H : Heap} {locs : List Loc} {cells slots : Nat} {av : Array Value} {len pc : Nat} {ls : Array Slot} {st0 st : List Value}
    (hT : T.heap = H) (hS : va_S (fun q => base ≤ q) s.heap H locs) (h1 : cells + h.2.2.2 ≤ R.cells) (h2 : slots + h.2.2.2 ≤ R.slots) (hb : base ≤ s.heap.size)
    (out : xk_Out p l e R s m args below meth c D base h r h' T locs cells slots av len pc ls st0 st) (kk : ∀ (H' : Heap) (locs' : List Loc) (cells' slots' : Nat), xk_R D base h' s H' → va_S (fun q => base ≤ q) s.heap H' locs' → cells' + h'.2.2.2 ≤ R.cells → slots' + h'.2.2.2 ≤ R.slots → W p l e R s m args below meth c H' locs' cells' slots' Q (F0 m (pc + len) ls (r.toList ++ st))) : ∃ t, Steps p.tables e below (T.setTop (F0 m pc ls st0)) t ∧ Q t := by
  obtain ⟨v, vm₁, ⟨U', l2, c2, s2⟩, hW₁, X', ⟨g', mk, t, L9, e1, e2, ⟨hv, hR', hz, hcr, hfr⟩, g1, hL, g2, g3⟩, stp⟩ := out
  dsimp only [Pt.U, Pt.locs, Pt.cells, Pt.slots] at X' e1 e2 g1 g2 g3 stp
  subst g1; subst g2; subst g3
  have hvr : v = r := Outcome.returned.inj hv
  subst hvr
  have hz : H.size ≤ t.heap.size := by rw [← hT]; exact hz
  have hfr : ∀ q : Nat, q < base → t.heap[q]? = H[q]? := fun q hq => by rw [← hT]; exact hfr q hq
  have hal : t.vm.Alike s.vm := by rw [← e2]; exact X'.warmed.alike.symm
  obtain ⟨t2, a1, b1⟩ := kk t.heap (locs ++ L9) _ _ (hR'.moved hal) ⟨Nat.le_trans hS.1 hz, fun q k1 k2 => by rw [hfr q (Nat.lt_of_not_le k2)]; exact hS.2.1 q k1 k2, fun q hq => by
      rcases List.mem_append.mp hq with k | k
      · exact hS.2.2 q k
      · exact hL q k⟩ (by omega) (by omega) U' e1 X'
  exact ⟨t2, stp t2 a1, b1⟩
theorem xw_D {γ : Type} {D : va_G} {base : Nat} {p : Program} {l : Launch} {e : Env} {R : Room} {s : State} {m : MethodId} {args : Array Value} {below : List Frame} {meth : Method} {c : Code} {nL : Nat} {Q : State → Prop} {own nm : String} {cc : ByteArray} {nl : Nat} {ret : Option FieldType} {d w pc idx nL' d' w' : Nat} {y : MethodName} {code : ByteArray} {ret' : Option FieldType} {h : xk_H} {res : γ} {C0 : String} {ts : List Nat} {v : Option Nat} {mres : Option (UInt64 × xk_H)} {κ : UInt64 → xk_H → Option γ}
    (C : xk_Cx (D, base, p, l, e, R, s, m, args, below, meth, c, nL, Q) own cc nl ret nm d w) (E : xm_rc ts v h (xm_cl mres κ) = some res) (hI : xk_Is ts C0) (hok : ∀ r h', mres = some (r, h') → xk_Ok l D base y code nL' ret' d' w' [va_rf v] h (some (.double r)) h')
    (q1 : Cond.methodLink own idx y ∈ lw_all) (q2 : Cond.instanceMethod y ∈ lw_all) (q3 : Cond.selects C0 y y ∈ lw_all) (q4 : Cond.initialized y.cls ∈ lw_all) (q5 : Cond.code y code nL' ret' ∈ lw_all) (hy : xk_noMH y.cls) (hn : (parseMethodDescriptor y.desc).map (fun d => d.parameters.length) = some 0) (hd : d' + 1 ≤ d) (hw : 8 + (nL' + 11) + w' ≤ w) (dg : decode cc pc = .ok (.invokevirtual idx, 3))
    {ls : Array Slot} {H : Heap} {locs : List Loc} {cells slots : Nat} (hsz : ls.size = nL) (hR : xk_R D base h s H) (hS : va_S (fun q => base ≤ q) s.heap H locs) (h1 : cells + h.2.2.2 ≤ R.cells) (h2 : slots + h.2.2.2 ≤ R.slots)
    (kk : ∀ r h', κ r h' = some res → ∀ (H' : Heap) (locs' : List Loc) (cells' slots' : Nat), xk_R D base h' s H' → va_S (fun q => base ≤ q) s.heap H' locs' → cells' + h'.2.2.2 ≤ R.cells → slots' + h'.2.2.2 ≤ R.slots → W p l e R s m args below meth c H' locs' cells' slots' Q (F0 m (pc + 3) ls [.double r])) : W p l e R s m args below meth c H locs cells slots Q (F0 m pc ls [va_rf v]) := by
  unfold xm_rc at E
  cases v with
  | none => cases E
  | some b =>
    dsimp only at E
    split at E
    next ht =>
      unfold xm_cl at E
      cases mres with
      | none => cases E
      | some q =>
        obtain ⟨r, h'⟩ := q
        have hM := hok r h' rfl
        obtain ⟨hx, hb, hml, hnl, hown, hts, hK, -, -, -, hbs, hd1, hw1⟩ := C
        intro T hT X
        obtain ⟨g1, rr, hrr, hT0⟩ := hI _ ht
        subst hT0
        obtain ⟨cellB, f1, f2, f3⟩ := xk_cls hK hR g1 hrr
        have hBk := xk_back (R := R) (p := p) (e := e) (below := below) (s := s) (sargs := args) (len := 3) (W := 8) hM xk_blind (by show d' + 1 ≤ _; omega) (by show 8 + (nL' + 11) + w' ≤ _; omega) (pay_in hts (lw_meth q5)) List.mem_cons_self (hts _ q4)
        exact xk_finW hT hS h1 h2 hbs (callV X hx (C := rr.1) (bytes := code) (maxL := nL') (ret := ret') hown (hts _ q1) (hts _ q2) (hts _ q3) (hts _ q5) hy hBk (by rw [hT]; exact f1) f2 f3 (g := F0 m pc ls [va_rf (some b)]) rfl (hsz.trans hml.symm) (argsL := []) (rest := []) (xk_len hn) rfl (by show 2 * 0 + 0 ≤ 8; omega) (by rw [hb]; exact dg) (xk_pre hT hR hK h1 h2)) (kk r h' E)
    next => cases E
theorem xl_full {γ : Type} {Γ : xk_C} {nm : String} {L : List (Nat × Value)} {h : xk_H} {res : γ} {a1 a2 : Option Nat} {κ : xk_H → Option γ} (j1 : Nat) (hj1 : L[j1]? = some (1, va_rf a1)) (j2 : Nat) (hj2 : L[j2]? = some (2, va_rf a2)) (hLs : ∀ q ∈ L, q.1 < 4) (C : xk_Cx Γ RL cL_law 8 (Option.some FieldType.boolean) nm 41 1059)
    (E : (xm_rc [0] a1 h <| xm_cl (mf_X0_full a1 h) fun x h1 => xm_rc [2] a2 h1 <| xm_cl (mf_X2_full a2 h1) fun y h2 => if x = y then κ h2 else none) = some res) (kk : ∀ h2, κ h2 = some res → xk_X Γ 784 L [] h2) : xk_X Γ 658 L [] h := by
  refine xr_aload_n j1 C rfl hj1 dL_law_658 ?_
  obtain ⟨D, base, p, l, e, R, s, m, args, below, meth, c, nL, Q⟩ := Γ
  have C0 := C
  obtain ⟨hx, hb, hml, hnl, hown, hts, hK, -⟩ := C0
  intro ls H locs cells slots hl hc hR hS h1 h2
  refine xw_D C E (List.forall_mem_cons.mpr ⟨⟨Or.inl (by decide), (RX0, TX0, 4), rfl, rfl⟩, fun _ h => absurd h List.not_mem_nil⟩) (fun r h' e => wk_X0_full e) q2090 q2091 q2092 q78 q2093 (by decide +kernel) (by decide +kernel) (by decide) (by decide) dL_law_659 hl.1 hR hS h1 h2 (fun x h' E H locs cells slots hR hS h1 h2 => ?_)
  have keep : ∀ (i : Nat) (v : Value), 4 ≤ i → ∀ q ∈ L, q ∈ (i, v) :: L.filter (fun q => !(q.1 == i) && (!(q.1 == i + 1) && !(q.1 + 1 == i && q.2.category == 2))) := by
    intro i v hi q hq
    refine List.mem_cons_of_mem _ (List.mem_filter.mpr ⟨hq, ?_⟩)
    have g1 := hLs q hq
    have g2 := hc q hq
    have e1 : (q.1 == i) = false := by simp; omega
    have e2 : (q.1 == i + 1) = false := by simp; omega
    have e3 : (q.2.category == 2) = false := by simp [g2]
    simp [e1, e2, e3]
  refine lv_dstore hx hb dL_law_662 hl (by rw [hnl]; decide) rfl (fun ls hl => ?_)
  have hm2 : ls[2]? = some (.val (va_rf a2)) := hl.2.2 (2, va_rf a2) (keep _ _ (by decide) _ (List.mem_of_getElem? hj2))
  have hm4 : ls[4]? = some (.val (.double x)) := hl.2.2 (4, .double x) List.mem_cons_self
  have hk4 : ∀ q ∈ L, ls[q.1]? = some (.val q.2) := fun q hq => hl.2.2 q (keep _ _ (by decide) _ hq)
  have hl4 : lv_has ls nL ((4, .double x) :: L) := ⟨hl.1, hl.2.1, fun q hq => by
    rcases List.mem_cons.mp hq with e | e
    · rw [e]; exact hm4
    · exact hk4 q e⟩
  clear hl hk4
  have step : W p l e R s m args below meth c H locs cells slots Q (F0 m 665 ls [va_rf a2]) → W p l e R s m args below meth c H locs cells slots Q (F0 m 664 ls []) := by
    intro g
    cases a2 with
    | none => exact lv_aload_nN hx hb dL_law_664 rfl hm2 g
    | some b => exact lv_aload_n hx hb dL_law_664 rfl hm2 g
  refine step ?_
  refine xw_D C E (List.forall_mem_cons.mpr ⟨⟨Or.inl (by decide), (RX2, TX2, 19), rfl, rfl⟩, fun _ h => absurd h List.not_mem_nil⟩) (fun r h' e => wk_X2_full e) q2470 q2471 q2472 q89 q2473 (by decide +kernel) (by decide +kernel) (by decide) (by decide) dL_law_665 hl4.1 hR hS h1 h2 (fun y h' E H locs cells slots hR hS h1 h2 => ?_)
  split at E
  next hxy =>
    subst hxy
    refine lv_dstore hx hb dL_law_668 hl4 (by rw [hnl]; decide) rfl (fun ls hl => ?_)
    have hm6 : ls[6]? = some (.val (.double x)) := hl.2.2 (6, .double x) List.mem_cons_self
    have hm4 : ls[4]? = some (.val (.double x)) := hl.2.2 (4, .double x) (List.mem_cons_of_mem _ (List.mem_filter.mpr ⟨List.mem_cons_self, by rfl⟩))
    have hlL : lv_has ls nL L := ⟨hl.1, hl.2.1, fun q hq => hl.2.2 q (List.mem_cons_of_mem _ (List.mem_filter.mpr ⟨List.mem_cons_of_mem _ hq, by
      have g1 := hLs q hq
      have g2 := hc q hq
      have e1 : (q.1 == 6) = false := by simp; omega
      have e2 : (q.1 == 7) = false := by simp; omega
      have e3 : (q.2.category == 2) = false := by simp [g2]
      simp [e1, e2, e3]⟩))⟩
    clear hl
    have fin : W p l e R s m args below meth c H locs cells slots Q (F0 m 696 ls []) := lv_goto (tgt := 784) hx hb dL_law_696 (by decide) (kk h' E ls H locs cells slots hlL hc hR hS h1 h2)
    refine lv_dload hx hb dL_law_670 hm4 ?_
    refine lv_dload hx hb dL_law_672 hm6 ?_
    refine lv_dcmp hx hb dL_law_674 ?_
    refine lv_if_eq (tgt := 696) hx hb dL_law_675 (by decide) (fun _ => fin) (fun hne => ?_)
    refine lv_dload hx hb dL_law_678 hm4 ?_
    refine lv_dload hx hb dL_law_680 hm4 ?_
    refine lv_dcmp hx hb dL_law_682 ?_
    refine lv_if_eq (tgt := 694) hx hb dL_law_683 (by decide) (fun he => absurd he hne) (fun _ => ?_)
    refine lv_dload hx hb dL_law_686 hm6 ?_
    refine lv_dload hx hb dL_law_688 hm6 ?_
    refine lv_dcmp hx hb dL_law_690 ?_
    exact lv_if_ne (tgt := 696) hx hb dL_law_691 (by decide) (fun _ => fin) (fun he => absurd he hne)
  next => cases E
theorem xn_X0 : xk_Nf 0 [.null, .null, .null, .null] := ⟨(RX0, TX0, 4), tyX0, rfl, rfl, fun k hk => by
    match k, hk with
    | 0, _ => exact ⟨tyX0_ok 0 (by decide), rfl⟩
    | 1, _ => exact ⟨tyX0_ok 1 (by decide), rfl⟩
    | 2, _ => exact ⟨tyX0_ok 2 (by decide), rfl⟩
    | 3, _ => exact ⟨tyX0_ok 3 (by decide), rfl⟩
    | j + 4, hk => exact absurd hk (by show ¬ j + 4 < 4; omega)⟩
theorem xd_X0_init : (parseMethodDescriptor "()V").map (fun d => d.parameters.length) = some 0 := by decide +kernel
theorem xn_X2 : xk_Nf 2 [.null, .null, .null, .int 0, .null, .int 0, .null, .int 0, .int 0, .int 0, .null, .int 0, .null, .int 0, .null, .int 0, .null, .null, .null] := ⟨(RX2, TX2, 19), tyX2, rfl, rfl, fun k hk => by
    match k, hk with
    | 0, _ => exact ⟨tyX2_ok 0 (by decide), rfl⟩
    | 1, _ => exact ⟨tyX2_ok 1 (by decide), rfl⟩
    | 2, _ => exact ⟨tyX2_ok 2 (by decide), rfl⟩
    | 3, _ => exact ⟨tyX2_ok 3 (by decide), rfl⟩
    | 4, _ => exact ⟨tyX2_ok 4 (by decide), rfl⟩
    | 5, _ => exact ⟨tyX2_ok 5 (by decide), rfl⟩
    | 6, _ => exact ⟨tyX2_ok 6 (by decide), rfl⟩
    | 7, _ => exact ⟨tyX2_ok 7 (by decide), rfl⟩
    | 8, _ => exact ⟨tyX2_ok 8 (by decide), rfl⟩
    | 9, _ => exact ⟨tyX2_ok 9 (by decide), rfl⟩
    | 10, _ => exact ⟨tyX2_ok 10 (by decide), rfl⟩
    | 11, _ => exact ⟨tyX2_ok 11 (by decide), rfl⟩
    | 12, _ => exact ⟨tyX2_ok 12 (by decide), rfl⟩
    | 13, _ => exact ⟨tyX2_ok 13 (by decide), rfl⟩
    | 14, _ => exact ⟨tyX2_ok 14 (by decide), rfl⟩
    | 15, _ => exact ⟨tyX2_ok 15 (by decide), rfl⟩
    | 16, _ => exact ⟨tyX2_ok 16 (by decide), rfl⟩
    | 17, _ => exact ⟨tyX2_ok 17 (by decide), rfl⟩
    | 18, _ => exact ⟨tyX2_ok 18 (by decide), rfl⟩
    | j + 19, hk => exact absurd hk (by show ¬ j + 19 < 19; omega)⟩
theorem xd_X2_init : (parseMethodDescriptor "()V").map (fun d => d.parameters.length) = some 0 := by decide +kernel
theorem xt_300 : ∀ t ∈ [300], (100 ≤ t ∧ t < 200 ∨ 300 ≤ t ∧ t < 400) ∧ t % 100 = 0 := by decide
theorem xd_X0_make : (parseMethodDescriptor "(IIII)I").map (fun d => d.parameters.length) = some 4 := by decide +kernel
theorem xd_X2_make : (parseMethodDescriptor "(IIII)I").map (fun d => d.parameters.length) = some 4 := by decide +kernel
theorem xd_X0_put : (parseMethodDescriptor "(II)I").map (fun d => d.parameters.length) = some 2 := by decide +kernel
theorem xd_X2_put : (parseMethodDescriptor "(II)I").map (fun d => d.parameters.length) = some 2 := by decide +kernel
theorem xd_X0_ground : (parseMethodDescriptor "(I)I").map (fun d => d.parameters.length) = some 1 := by decide +kernel
theorem xd_X2_ground : (parseMethodDescriptor "(I)I").map (fun d => d.parameters.length) = some 1 := by decide +kernel
theorem xd_X0_turn : (parseMethodDescriptor "(I)I").map (fun d => d.parameters.length) = some 1 := by decide +kernel
theorem xd_X2_turn : (parseMethodDescriptor "(I)I").map (fun d => d.parameters.length) = some 1 := by decide +kernel
theorem xd_X0_breakUp : (parseMethodDescriptor "(I)I").map (fun d => d.parameters.length) = some 1 := by decide +kernel
theorem xd_X2_breakUp : (parseMethodDescriptor "(I)I").map (fun d => d.parameters.length) = some 1 := by decide +kernel
theorem xd_X0_append : (parseMethodDescriptor "(I)I").map (fun d => d.parameters.length) = some 1 := by decide +kernel
theorem xd_X2_append : (parseMethodDescriptor "(I)I").map (fun d => d.parameters.length) = some 1 := by decide +kernel
theorem xd_X0_clear : (parseMethodDescriptor "()I").map (fun d => d.parameters.length) = some 0 := by decide +kernel
theorem xd_X2_clear : (parseMethodDescriptor "()I").map (fun d => d.parameters.length) = some 0 := by decide +kernel
theorem xd_X0_fault : (parseMethodDescriptor "()I").map (fun d => d.parameters.length) = some 0 := by decide +kernel
theorem xd_X2_fault : (parseMethodDescriptor "()I").map (fun d => d.parameters.length) = some 0 := by decide +kernel
theorem xd_X0_load : (parseMethodDescriptor "()I").map (fun d => d.parameters.length) = some 0 := by decide +kernel
theorem xd_X2_load : (parseMethodDescriptor "()I").map (fun d => d.parameters.length) = some 0 := by decide +kernel
theorem xd_X0_sign : (parseMethodDescriptor "(II)I").map (fun d => d.parameters.length) = some 2 := by decide +kernel
theorem xd_X2_sign : (parseMethodDescriptor "(II)I").map (fun d => d.parameters.length) = some 2 := by decide +kernel
theorem xd_X0_crate : (parseMethodDescriptor "(II)I").map (fun d => d.parameters.length) = some 2 := by decide +kernel
theorem xd_X0_letter : (parseMethodDescriptor "(II)I").map (fun d => d.parameters.length) = some 2 := by decide +kernel
theorem xd_X2_letter : (parseMethodDescriptor "(II)I").map (fun d => d.parameters.length) = some 2 := by decide +kernel
theorem xd_X0_seen : (parseMethodDescriptor "(II)I").map (fun d => d.parameters.length) = some 2 := by decide +kernel
theorem xd_X2_seen : (parseMethodDescriptor "(II)I").map (fun d => d.parameters.length) = some 2 := by decide +kernel
theorem xd_X0_whyNot : (parseMethodDescriptor "(II)I").map (fun d => d.parameters.length) = some 2 := by decide +kernel
theorem xd_X2_whyNot : (parseMethodDescriptor "(II)I").map (fun d => d.parameters.length) = some 2 := by decide +kernel
theorem xd_X0_effort : (parseMethodDescriptor "(II)I").map (fun d => d.parameters.length) = some 2 := by decide +kernel
theorem xd_X2_effort : (parseMethodDescriptor "(II)I").map (fun d => d.parameters.length) = some 2 := by decide +kernel
theorem xd_X0_alike : (parseMethodDescriptor "(IIII)I").map (fun d => d.parameters.length) = some 4 := by decide +kernel
theorem xd_X2_alike : (parseMethodDescriptor "(IIII)I").map (fun d => d.parameters.length) = some 4 := by decide +kernel
theorem xd_X0_nest : (parseMethodDescriptor "(I)I").map (fun d => d.parameters.length) = some 1 := by decide +kernel
theorem xd_X2_nest : (parseMethodDescriptor "(I)I").map (fun d => d.parameters.length) = some 1 := by decide +kernel
theorem xd_X0_count : (parseMethodDescriptor "(I)I").map (fun d => d.parameters.length) = some 1 := by decide +kernel
theorem xd_X2_count : (parseMethodDescriptor "(I)I").map (fun d => d.parameters.length) = some 1 := by decide +kernel
theorem xd_X0_ifTurned : (parseMethodDescriptor "(II)I").map (fun d => d.parameters.length) = some 2 := by decide +kernel
theorem xd_X0_bestTurn : (parseMethodDescriptor "()I").map (fun d => d.parameters.length) = some 0 := by decide +kernel
theorem xd_X2_bestTurn : (parseMethodDescriptor "()I").map (fun d => d.parameters.length) = some 0 := by decide +kernel
theorem xd_X0_undo : (parseMethodDescriptor "()I").map (fun d => d.parameters.length) = some 0 := by decide +kernel
theorem xd_X2_undo : (parseMethodDescriptor "()I").map (fun d => d.parameters.length) = some 0 := by decide +kernel
theorem xd_X0_save : (parseMethodDescriptor "()I").map (fun d => d.parameters.length) = some 0 := by decide +kernel
theorem xd_X2_save : (parseMethodDescriptor "()I").map (fun d => d.parameters.length) = some 0 := by decide +kernel
theorem xd_X0_restore : (parseMethodDescriptor "()I").map (fun d => d.parameters.length) = some 0 := by decide +kernel
theorem xd_X2_restore : (parseMethodDescriptor "()I").map (fun d => d.parameters.length) = some 0 := by decide +kernel
def mf_L_law_L18 (a0 : Option Nat) (a1 : Option Nat) (a2 : Option Nat) : Nat → Int32 → xk_H → Option (Unit × xk_H)
  | 0, _, _ => none
  | n + 1, a3, h0 => xm_len [300] a0 h0 fun x9 => if (x9 - (5 : Int32)) < a3 then (some ((), h0)) else (xm_lI [300] a0 a3 h0 fun x10 => if (x10 &&& (31 : Int32)) = (0 : Int32) then (xm_lI [300] a0 (a3 + (1 : Int32)) h0 fun x11 => xm_lI [300] a0 (a3 + (2 : Int32)) h0 fun x12 => xm_lI [300] a0 (a3 + (3 : Int32)) h0 fun x13 => xm_lI [300] a0 (a3 + (4 : Int32)) h0 fun x14 => xm_rc [0] a1 h0 <| xm_cl (mf_X0_make a1 x11 x12 x13 x14 h0) fun r15 h16 => xm_lI [300] a0 (a3 + (1 : Int32)) h16 fun x17 => xm_lI [300] a0 (a3 + (2 : Int32)) h16 fun x18 => xm_lI [300] a0 (a3 + (3 : Int32)) h16 fun x19 => xm_lI [300] a0 (a3 + (4 : Int32)) h16 fun x20 => xm_rc [2] a2 h16 <| xm_cl (mf_X2_make a2 x17 x18 x19 x20 h16) fun r21 h22 => if r15 = r21 then (mf_L_law_L18 a0 a1 a2 n (a3 + 5) h22) else (none)) else if (x10 &&& (31 : Int32)) = (1 : Int32) then (xm_lI [300] a0 (a3 + (1 : Int32)) h0 fun x23 => xm_lI [300] a0 (a3 + (2 : Int32)) h0 fun x24 => xm_rc [0] a1 h0 <| xm_cl (mf_X0_put a1 x23 x24 h0) fun r25 h26 => xm_lI [300] a0 (a3 + (1 : Int32)) h26 fun x27 => xm_lI [300] a0 (a3 + (2 : Int32)) h26 fun x28 => xm_rc [2] a2 h26 <| xm_cl (mf_X2_put a2 x27 x28 h26) fun r29 h30 => if r25 = r29 then (mf_L_law_L18 a0 a1 a2 n (a3 + 5) h30) else (none)) else if (x10 &&& (31 : Int32)) = (2 : Int32) then (xm_lI [300] a0 (a3 + (1 : Int32)) h0 fun x31 => xm_rc [0] a1 h0 <| xm_cl (mf_X0_ground a1 x31 h0) fun r32 h33 => xm_lI [300] a0 (a3 + (1 : Int32)) h33 fun x34 => xm_rc [2] a2 h33 <| xm_cl (mf_X2_ground a2 x34 h33) fun r35 h36 => if r32 = r35 then (mf_L_law_L18 a0 a1 a2 n (a3 + 5) h36) else (none)) else if (x10 &&& (31 : Int32)) = (3 : Int32) then (xm_lI [300] a0 (a3 + (1 : Int32)) h0 fun x37 => xm_rc [0] a1 h0 <| xm_cl (mf_X0_turn a1 x37 h0) fun r38 h39 => xm_lI [300] a0 (a3 + (1 : Int32)) h39 fun x40 => xm_rc [2] a2 h39 <| xm_cl (mf_X2_turn a2 x40 h39) fun r41 h42 => if r38 = r41 then (mf_L_law_L18 a0 a1 a2 n (a3 + 5) h42) else (none)) else if (x10 &&& (31 : Int32)) = (4 : Int32) then (xm_lI [300] a0 (a3 + (1 : Int32)) h0 fun x43 => xm_rc [0] a1 h0 <| xm_cl (mf_X0_breakUp a1 x43 h0) fun r44 h45 => xm_lI [300] a0 (a3 + (1 : Int32)) h45 fun x46 => xm_rc [2] a2 h45 <| xm_cl (mf_X2_breakUp a2 x46 h45) fun r47 h48 => if r44 = r47 then (mf_L_law_L18 a0 a1 a2 n (a3 + 5) h48) else (none)) else if (x10 &&& (31 : Int32)) = (5 : Int32) then (xm_lI [300] a0 (a3 + (1 : Int32)) h0 fun x49 => xm_rc [0] a1 h0 <| xm_cl (mf_X0_append a1 x49 h0) fun r50 h51 => xm_lI [300] a0 (a3 + (1 : Int32)) h51 fun x52 => xm_rc [2] a2 h51 <| xm_cl (mf_X2_append a2 x52 h51) fun r53 h54 => if r50 = r53 then (mf_L_law_L18 a0 a1 a2 n (a3 + 5) h54) else (none)) else if (x10 &&& (31 : Int32)) = (6 : Int32) then (xm_rc [0] a1 h0 <| xm_cl (mf_X0_clear a1 h0) fun r55 h56 => xm_rc [2] a2 h56 <| xm_cl (mf_X2_clear a2 h56) fun r57 h58 => if r55 = r57 then (mf_L_law_L18 a0 a1 a2 n (a3 + 5) h58) else (none)) else if (x10 &&& (31 : Int32)) = (7 : Int32) then (xm_rc [0] a1 h0 <| xm_cl (mf_X0_fault a1 h0) fun r59 h60 => xm_rc [2] a2 h60 <| xm_cl (mf_X2_fault a2 h60) fun r61 h62 => if r59 = r61 then (mf_L_law_L18 a0 a1 a2 n (a3 + 5) h62) else (none)) else if (x10 &&& (31 : Int32)) = (8 : Int32) then (xm_rc [0] a1 h0 <| xm_cl (mf_X0_load a1 h0) fun r63 h64 => xm_rc [2] a2 h64 <| xm_cl (mf_X2_load a2 h64) fun r65 h66 => if r63 = r65 then (mf_L_law_L18 a0 a1 a2 n (a3 + 5) h66) else (none)) else if (x10 &&& (31 : Int32)) = (9 : Int32) then (xm_lI [300] a0 (a3 + (1 : Int32)) h0 fun x67 => xm_lI [300] a0 (a3 + (2 : Int32)) h0 fun x68 => xm_rc [0] a1 h0 <| xm_cl (mf_X0_sign a1 x67 x68 h0) fun r69 h70 => xm_lI [300] a0 (a3 + (1 : Int32)) h70 fun x71 => xm_lI [300] a0 (a3 + (2 : Int32)) h70 fun x72 => xm_rc [2] a2 h70 <| xm_cl (mf_X2_sign a2 x71 x72 h70) fun r73 h74 => if r69 = r73 then (mf_L_law_L18 a0 a1 a2 n (a3 + 5) h74) else (none)) else if (x10 &&& (31 : Int32)) = (10 : Int32) then (xm_lI [300] a0 (a3 + (1 : Int32)) h0 fun x75 => xm_lI [300] a0 (a3 + (2 : Int32)) h0 fun x76 => xm_rc [0] a1 h0 <| xm_cl (mf_X0_crate a1 x75 x76 h0) fun r77 h78 => xm_lI [300] a0 (a3 + (1 : Int32)) h78 fun x79 => xm_lI [300] a0 (a3 + (2 : Int32)) h78 fun x80 => xm_rc [2] a2 h78 <| xm_cl (mf_X2_crate a2 x79 x80 h78) fun r81 h82 => if r77 = r81 then (mf_L_law_L18 a0 a1 a2 n (a3 + 5) h82) else (none)) else if (x10 &&& (31 : Int32)) = (11 : Int32) then (xm_lI [300] a0 (a3 + (1 : Int32)) h0 fun x83 => xm_lI [300] a0 (a3 + (2 : Int32)) h0 fun x84 => xm_rc [0] a1 h0 <| xm_cl (mf_X0_letter a1 x83 x84 h0) fun r85 h86 => xm_lI [300] a0 (a3 + (1 : Int32)) h86 fun x87 => xm_lI [300] a0 (a3 + (2 : Int32)) h86 fun x88 => xm_rc [2] a2 h86 <| xm_cl (mf_X2_letter a2 x87 x88 h86) fun r89 h90 => if r85 = r89 then (mf_L_law_L18 a0 a1 a2 n (a3 + 5) h90) else (none)) else if (x10 &&& (31 : Int32)) = (12 : Int32) then (xm_lI [300] a0 (a3 + (1 : Int32)) h0 fun x91 => xm_lI [300] a0 (a3 + (2 : Int32)) h0 fun x92 => xm_rc [0] a1 h0 <| xm_cl (mf_X0_seen a1 x91 x92 h0) fun r93 h94 => xm_lI [300] a0 (a3 + (1 : Int32)) h94 fun x95 => xm_lI [300] a0 (a3 + (2 : Int32)) h94 fun x96 => xm_rc [2] a2 h94 <| xm_cl (mf_X2_seen a2 x95 x96 h94) fun r97 h98 => if r93 = r97 then (mf_L_law_L18 a0 a1 a2 n (a3 + 5) h98) else (none)) else if (x10 &&& (31 : Int32)) = (13 : Int32) then (xm_lI [300] a0 (a3 + (1 : Int32)) h0 fun x99 => xm_lI [300] a0 (a3 + (2 : Int32)) h0 fun x100 => xm_rc [0] a1 h0 <| xm_cl (mf_X0_whyNot a1 x99 x100 h0) fun r101 h102 => xm_lI [300] a0 (a3 + (1 : Int32)) h102 fun x103 => xm_lI [300] a0 (a3 + (2 : Int32)) h102 fun x104 => xm_rc [2] a2 h102 <| xm_cl (mf_X2_whyNot a2 x103 x104 h102) fun r105 h106 => if r101 = r105 then (mf_L_law_L18 a0 a1 a2 n (a3 + 5) h106) else (none)) else if (x10 &&& (31 : Int32)) = (14 : Int32) then (xm_lI [300] a0 (a3 + (1 : Int32)) h0 fun x107 => xm_lI [300] a0 (a3 + (2 : Int32)) h0 fun x108 => xm_rc [0] a1 h0 <| xm_cl (mf_X0_effort a1 x107 x108 h0) fun r109 h110 => xm_lI [300] a0 (a3 + (1 : Int32)) h110 fun x111 => xm_lI [300] a0 (a3 + (2 : Int32)) h110 fun x112 => xm_rc [2] a2 h110 <| xm_cl (mf_X2_effort a2 x111 x112 h110) fun r113 h114 => if r109 = r113 then (mf_L_law_L18 a0 a1 a2 n (a3 + 5) h114) else (none)) else if (x10 &&& (31 : Int32)) = (15 : Int32) then (xm_lI [300] a0 (a3 + (1 : Int32)) h0 fun x115 => xm_lI [300] a0 (a3 + (2 : Int32)) h0 fun x116 => xm_lI [300] a0 (a3 + (3 : Int32)) h0 fun x117 => xm_lI [300] a0 (a3 + (4 : Int32)) h0 fun x118 => xm_rc [0] a1 h0 <| xm_cl (mf_X0_alike a1 x115 x116 x117 x118 h0) fun r119 h120 => xm_lI [300] a0 (a3 + (1 : Int32)) h120 fun x121 => xm_lI [300] a0 (a3 + (2 : Int32)) h120 fun x122 => xm_lI [300] a0 (a3 + (3 : Int32)) h120 fun x123 => xm_lI [300] a0 (a3 + (4 : Int32)) h120 fun x124 => xm_rc [2] a2 h120 <| xm_cl (mf_X2_alike a2 x121 x122 x123 x124 h120) fun r125 h126 => if r119 = r125 then (mf_L_law_L18 a0 a1 a2 n (a3 + 5) h126) else (none)) else if (x10 &&& (31 : Int32)) = (16 : Int32) then (xm_lI [300] a0 (a3 + (1 : Int32)) h0 fun x127 => xm_rc [0] a1 h0 <| xm_cl (mf_X0_nest a1 x127 h0) fun r128 h129 => xm_lI [300] a0 (a3 + (1 : Int32)) h129 fun x130 => xm_rc [2] a2 h129 <| xm_cl (mf_X2_nest a2 x130 h129) fun r131 h132 => if r128 = r131 then (mf_L_law_L18 a0 a1 a2 n (a3 + 5) h132) else (none)) else if (x10 &&& (31 : Int32)) = (17 : Int32) then (xm_lI [300] a0 (a3 + (1 : Int32)) h0 fun x133 => xm_rc [0] a1 h0 <| xm_cl (mf_X0_count a1 x133 h0) fun r134 h135 => xm_lI [300] a0 (a3 + (1 : Int32)) h135 fun x136 => xm_rc [2] a2 h135 <| xm_cl (mf_X2_count a2 x136 h135) fun r137 h138 => if r134 = r137 then (mf_L_law_L18 a0 a1 a2 n (a3 + 5) h138) else (none)) else if (x10 &&& (31 : Int32)) = (18 : Int32) then (xm_rc [0] a1 h0 <| xm_cl (mf_X0_full a1 h0) fun x139 h140 => xm_rc [2] a2 h140 <| xm_cl (mf_X2_full a2 h140) fun x141 h142 => if x139 = x141 then (mf_L_law_L18 a0 a1 a2 n (a3 + 5) h142) else none) else if (x10 &&& (31 : Int32)) = (19 : Int32) then (xm_lI [300] a0 (a3 + (1 : Int32)) h0 fun x143 => xm_lI [300] a0 (a3 + (2 : Int32)) h0 fun x144 => xm_rc [0] a1 h0 <| xm_cl (mf_X0_ifTurned a1 x143 x144 h0) fun r145 h146 => xm_lI [300] a0 (a3 + (1 : Int32)) h146 fun x147 => xm_lI [300] a0 (a3 + (2 : Int32)) h146 fun x148 => xm_rc [2] a2 h146 <| xm_cl (mf_X2_ifTurned a2 x147 x148 h146) fun r149 h150 => if r145 = r149 then (mf_L_law_L18 a0 a1 a2 n (a3 + 5) h150) else (none)) else if (x10 &&& (31 : Int32)) = (20 : Int32) then (xm_rc [0] a1 h0 <| xm_cl (mf_X0_bestTurn a1 h0) fun r151 h152 => xm_rc [2] a2 h152 <| xm_cl (mf_X2_bestTurn a2 h152) fun r153 h154 => if r151 = r153 then (mf_L_law_L18 a0 a1 a2 n (a3 + 5) h154) else (none)) else if (x10 &&& (31 : Int32)) = (21 : Int32) then (xm_rc [0] a1 h0 <| xm_cl (mf_X0_undo a1 h0) fun r155 h156 => xm_rc [2] a2 h156 <| xm_cl (mf_X2_undo a2 h156) fun r157 h158 => if r155 = r157 then (mf_L_law_L18 a0 a1 a2 n (a3 + 5) h158) else (none)) else if (x10 &&& (31 : Int32)) = (22 : Int32) then (xm_rc [0] a1 h0 <| xm_cl (mf_X0_save a1 h0) fun r159 h160 => xm_rc [2] a2 h160 <| xm_cl (mf_X2_save a2 h160) fun r161 h162 => if r159 = r161 then (mf_L_law_L18 a0 a1 a2 n (a3 + 5) h162) else (none)) else if (x10 &&& (31 : Int32)) = (23 : Int32) then (xm_rc [0] a1 h0 <| xm_cl (mf_X0_restore a1 h0) fun r163 h164 => xm_rc [2] a2 h164 <| xm_cl (mf_X2_restore a2 h164) fun r165 h166 => if r163 = r165 then (mf_L_law_L18 a0 a1 a2 n (a3 + 5) h166) else (none)) else (mf_L_law_L18 a0 a1 a2 n (a3 + 5) h0))
set_option maxHeartbeats 1000000 in
theorem wk_L_law_L18 {Γ : xk_C} {r : Unit} {h' : xk_H} {nm : String} {a0 : Option Nat} {a1 : Option Nat} {a2 : Option Nat} (C : xk_Cx Γ RL cL_law 8 (Option.some FieldType.boolean) nm 41 1059) (Z : ∀ (L : List (Nat × Value)) (h : xk_H) (pc : Nat), decode cL_law pc = .ok (.ireturn, 1) → xk_X Γ pc L [.int 1] h) : ∀ (n : Nat) (a3 : Int32) (h0 : xk_H), mf_L_law_L18 a0 a1 a2 n a3 h0 = some (r, h') → xk_X Γ 18 [(0, va_rf a0), (1, va_rf a1), (2, va_rf a2), (3, .int a3)] [] h0 := by
  intro n
  induction n with
  | zero =>
    intro a3 h0 E
    rw [mf_L_law_L18] at E
    cases E
  | succ n ih =>
    intro a3 h0 E
    have hkb18 : ∀ (m3 : Int32) (g : xk_H), mf_L_law_L18 a0 a1 a2 n m3 g = some (r, h') → xk_X Γ 18 [(0, va_rf a0), (1, va_rf a1), (2, va_rf a2), (3, .int m3)] [] g := ih
    rw [mf_L_law_L18] at E
    refine xr_iload_n 3 C rfl rfl dL_law_18 ?_
    refine xr_aload_n 0 C rfl rfl dL_law_19 ?_
    refine xr_len 0 .int C E (fun _ => rfl) xt_300 dL_law_20 (fun x9 E => ?_)
    refine xr_iconst (5) C (by decide) dL_law_21 ?_
    refine xr_isub C dL_law_22 ?_
    refine xr_icmp_gt 790 C E dL_law_23 (by decide) (fun E => ?_) (fun E => ?_)
    · refine xr_iconst (1) C (by decide) dL_law_790 ?_
      exact Z _ _ _ dL_law_791
    · refine xr_aload_n 0 C rfl rfl dL_law_26 ?_
      refine xr_iload_n 3 C rfl rfl dL_law_27 ?_
      refine xr_lI C E xt_300 dL_law_28 (fun x10 E => ?_)
      refine xr_bipush (31) C (by decide) dL_law_29 ?_
      refine xr_iand C dL_law_31 ?_
      by_cases s0 : (x10 &&& (31 : Int32)) = (0 : Int32)
      · rw [if_pos s0] at E
        refine xr_tsw 144 (0) C dL_law_32 s0 (by decide) (by decide) (off := 112) rfl (by decide) ?_
        refine xr_aload_n 1 C rfl rfl dL_law_144 ?_
        refine xr_aload_n 0 C rfl rfl dL_law_145 ?_
        refine xr_iload_n 3 C rfl rfl dL_law_146 ?_
        refine xr_iconst (1) C (by decide) dL_law_147 ?_
        refine xr_iadd C dL_law_148 ?_
        refine xr_lI C E xt_300 dL_law_149 (fun x11 E => ?_)
        refine xr_aload_n 0 C rfl rfl dL_law_150 ?_
        refine xr_iload_n 3 C rfl rfl dL_law_151 ?_
        refine xr_iconst (2) C (by decide) dL_law_152 ?_
        refine xr_iadd C dL_law_153 ?_
        refine xr_lI C E xt_300 dL_law_154 (fun x12 E => ?_)
        refine xr_aload_n 0 C rfl rfl dL_law_155 ?_
        refine xr_iload_n 3 C rfl rfl dL_law_156 ?_
        refine xr_iconst (3) C (by decide) dL_law_157 ?_
        refine xr_iadd C dL_law_158 ?_
        refine xr_lI C E xt_300 dL_law_159 (fun x13 E => ?_)
        refine xr_aload_n 0 C rfl rfl dL_law_160 ?_
        refine xr_iload_n 3 C rfl rfl dL_law_161 ?_
        refine xr_iconst (4) C (by decide) dL_law_162 ?_
        refine xr_iadd C dL_law_163 ?_
        refine xr_lI C E xt_300 dL_law_164 (fun x14 E => ?_)
        refine xr_V (v := a1) [.int x11, .int x12, .int x13, .int x14] [] (fun r => some (.int r)) (fun r => .int r :: []) C E xi_0_SlatCrates (fun r h' e => wk_X0_make e) q251 q252 q253 q78 q254 xh_SlatCrates xd_X0_make (by decide) (by decide) trivial (Nat.le_of_ble_eq_true rfl) rfl (fun _ => rfl) dL_law_165 (fun r15 h16 E => ?_)
        refine xr_aload_n 2 C rfl rfl dL_law_168 ?_
        refine xr_aload_n 0 C rfl rfl dL_law_169 ?_
        refine xr_iload_n 3 C rfl rfl dL_law_170 ?_
        refine xr_iconst (1) C (by decide) dL_law_171 ?_
        refine xr_iadd C dL_law_172 ?_
        refine xr_lI C E xt_300 dL_law_173 (fun x17 E => ?_)
        refine xr_aload_n 0 C rfl rfl dL_law_174 ?_
        refine xr_iload_n 3 C rfl rfl dL_law_175 ?_
        refine xr_iconst (2) C (by decide) dL_law_176 ?_
        refine xr_iadd C dL_law_177 ?_
        refine xr_lI C E xt_300 dL_law_178 (fun x18 E => ?_)
        refine xr_aload_n 0 C rfl rfl dL_law_179 ?_
        refine xr_iload_n 3 C rfl rfl dL_law_180 ?_
        refine xr_iconst (3) C (by decide) dL_law_181 ?_
        refine xr_iadd C dL_law_182 ?_
        refine xr_lI C E xt_300 dL_law_183 (fun x19 E => ?_)
        refine xr_aload_n 0 C rfl rfl dL_law_184 ?_
        refine xr_iload_n 3 C rfl rfl dL_law_185 ?_
        refine xr_iconst (4) C (by decide) dL_law_186 ?_
        refine xr_iadd C dL_law_187 ?_
        refine xr_lI C E xt_300 dL_law_188 (fun x20 E => ?_)
        refine xr_V (v := a2) [.int x17, .int x18, .int x19, .int x20] [.int r15] (fun r => some (.int r)) (fun r => .int r :: [.int r15]) C E xi_2_SlatCratesModel (fun r h' e => wk_X2_make e) q2201 q2202 q2203 q89 q2204 xh_SlatCratesModel xd_X2_make (by decide) (by decide) ⟨rfl, trivial⟩ (Nat.le_of_ble_eq_true rfl) rfl (fun _ => rfl) dL_law_189 (fun r21 h22 E => ?_)
        refine xr_icmp_eq 784 C E dL_law_192 (by decide) (fun E => ?_) (fun E => ?_)
        · refine xr_iinc (v := (a3 + 5)) (L2 := [(3, .int (a3 + 5)), (0, va_rf a0), (1, va_rf a1), (2, va_rf a2)]) 3 C rfl rfl rfl dL_law_784 (by decide) ?_
          refine xr_goto 18 C dL_law_787 (by decide) ?_
          refine xr_sub [1, 2, 3, 0] rfl ?_
          exact hkb18 (a3 + 5) h22 E
        · refine xr_iconst (0) C (by decide) dL_law_195 ?_
          cases E
      rw [if_neg s0] at E
      by_cases s1 : (x10 &&& (31 : Int32)) = (1 : Int32)
      · rw [if_pos s1] at E
        refine xr_tsw 197 (1) C dL_law_32 s1 (by decide) (by decide) (off := 165) rfl (by decide) ?_
        refine xr_aload_n 1 C rfl rfl dL_law_197 ?_
        refine xr_aload_n 0 C rfl rfl dL_law_198 ?_
        refine xr_iload_n 3 C rfl rfl dL_law_199 ?_
        refine xr_iconst (1) C (by decide) dL_law_200 ?_
        refine xr_iadd C dL_law_201 ?_
        refine xr_lI C E xt_300 dL_law_202 (fun x23 E => ?_)
        refine xr_aload_n 0 C rfl rfl dL_law_203 ?_
        refine xr_iload_n 3 C rfl rfl dL_law_204 ?_
        refine xr_iconst (2) C (by decide) dL_law_205 ?_
        refine xr_iadd C dL_law_206 ?_
        refine xr_lI C E xt_300 dL_law_207 (fun x24 E => ?_)
        refine xr_V (v := a1) [.int x23, .int x24] [] (fun r => some (.int r)) (fun r => .int r :: []) C E xi_0_SlatCrates (fun r h' e => wk_X0_put e) q901 q902 q903 q78 q904 xh_SlatCrates xd_X0_put (by decide) (by decide) trivial (Nat.le_of_ble_eq_true rfl) rfl (fun _ => rfl) dL_law_208 (fun r25 h26 E => ?_)
        refine xr_aload_n 2 C rfl rfl dL_law_211 ?_
        refine xr_aload_n 0 C rfl rfl dL_law_212 ?_
        refine xr_iload_n 3 C rfl rfl dL_law_213 ?_
        refine xr_iconst (1) C (by decide) dL_law_214 ?_
        refine xr_iadd C dL_law_215 ?_
        refine xr_lI C E xt_300 dL_law_216 (fun x27 E => ?_)
        refine xr_aload_n 0 C rfl rfl dL_law_217 ?_
        refine xr_iload_n 3 C rfl rfl dL_law_218 ?_
        refine xr_iconst (2) C (by decide) dL_law_219 ?_
        refine xr_iadd C dL_law_220 ?_
        refine xr_lI C E xt_300 dL_law_221 (fun x28 E => ?_)
        refine xr_V (v := a2) [.int x27, .int x28] [.int r25] (fun r => some (.int r)) (fun r => .int r :: [.int r25]) C E xi_2_SlatCratesModel (fun r h' e => wk_X2_put e) q2227 q2228 q2229 q89 q2230 xh_SlatCratesModel xd_X2_put (by decide) (by decide) ⟨rfl, trivial⟩ (Nat.le_of_ble_eq_true rfl) rfl (fun _ => rfl) dL_law_222 (fun r29 h30 E => ?_)
        refine xr_icmp_eq 784 C E dL_law_225 (by decide) (fun E => ?_) (fun E => ?_)
        · refine xr_iinc (v := (a3 + 5)) (L2 := [(3, .int (a3 + 5)), (0, va_rf a0), (1, va_rf a1), (2, va_rf a2)]) 3 C rfl rfl rfl dL_law_784 (by decide) ?_
          refine xr_goto 18 C dL_law_787 (by decide) ?_
          refine xr_sub [1, 2, 3, 0] rfl ?_
          exact hkb18 (a3 + 5) h30 E
        · refine xr_iconst (0) C (by decide) dL_law_228 ?_
          cases E
      rw [if_neg s1] at E
      by_cases s2 : (x10 &&& (31 : Int32)) = (2 : Int32)
      · rw [if_pos s2] at E
        refine xr_tsw 230 (2) C dL_law_32 s2 (by decide) (by decide) (off := 198) rfl (by decide) ?_
        refine xr_aload_n 1 C rfl rfl dL_law_230 ?_
        refine xr_aload_n 0 C rfl rfl dL_law_231 ?_
        refine xr_iload_n 3 C rfl rfl dL_law_232 ?_
        refine xr_iconst (1) C (by decide) dL_law_233 ?_
        refine xr_iadd C dL_law_234 ?_
        refine xr_lI C E xt_300 dL_law_235 (fun x31 E => ?_)
        refine xr_V (v := a1) [.int x31] [] (fun r => some (.int r)) (fun r => .int r :: []) C E xi_0_SlatCrates (fun r h' e => wk_X0_ground e) q1023 q1024 q1025 q78 q1026 xh_SlatCrates xd_X0_ground (by decide) (by decide) trivial (Nat.le_of_ble_eq_true rfl) rfl (fun _ => rfl) dL_law_236 (fun r32 h33 E => ?_)
        refine xr_aload_n 2 C rfl rfl dL_law_239 ?_
        refine xr_aload_n 0 C rfl rfl dL_law_240 ?_
        refine xr_iload_n 3 C rfl rfl dL_law_241 ?_
        refine xr_iconst (1) C (by decide) dL_law_242 ?_
        refine xr_iadd C dL_law_243 ?_
        refine xr_lI C E xt_300 dL_law_244 (fun x34 E => ?_)
        refine xr_V (v := a2) [.int x34] [.int r32] (fun r => some (.int r)) (fun r => .int r :: [.int r32]) C E xi_2_SlatCratesModel (fun r h' e => wk_X2_ground e) q2271 q2272 q2273 q89 q2274 xh_SlatCratesModel xd_X2_ground (by decide) (by decide) ⟨rfl, trivial⟩ (Nat.le_of_ble_eq_true rfl) rfl (fun _ => rfl) dL_law_245 (fun r35 h36 E => ?_)
        refine xr_icmp_eq 784 C E dL_law_248 (by decide) (fun E => ?_) (fun E => ?_)
        · refine xr_iinc (v := (a3 + 5)) (L2 := [(3, .int (a3 + 5)), (0, va_rf a0), (1, va_rf a1), (2, va_rf a2)]) 3 C rfl rfl rfl dL_law_784 (by decide) ?_
          refine xr_goto 18 C dL_law_787 (by decide) ?_
          refine xr_sub [1, 2, 3, 0] rfl ?_
          exact hkb18 (a3 + 5) h36 E
        · refine xr_iconst (0) C (by decide) dL_law_251 ?_
          cases E
      rw [if_neg s2] at E
      by_cases s3 : (x10 &&& (31 : Int32)) = (3 : Int32)
      · rw [if_pos s3] at E
        refine xr_tsw 253 (3) C dL_law_32 s3 (by decide) (by decide) (off := 221) rfl (by decide) ?_
        refine xr_aload_n 1 C rfl rfl dL_law_253 ?_
        refine xr_aload_n 0 C rfl rfl dL_law_254 ?_
        refine xr_iload_n 3 C rfl rfl dL_law_255 ?_
        refine xr_iconst (1) C (by decide) dL_law_256 ?_
        refine xr_iadd C dL_law_257 ?_
        refine xr_lI C E xt_300 dL_law_258 (fun x37 E => ?_)
        refine xr_V (v := a1) [.int x37] [] (fun r => some (.int r)) (fun r => .int r :: []) C E xi_0_SlatCrates (fun r h' e => wk_X0_turn e) q1032 q1033 q1034 q78 q1035 xh_SlatCrates xd_X0_turn (by decide) (by decide) trivial (Nat.le_of_ble_eq_true rfl) rfl (fun _ => rfl) dL_law_259 (fun r38 h39 E => ?_)
        refine xr_aload_n 2 C rfl rfl dL_law_262 ?_
        refine xr_aload_n 0 C rfl rfl dL_law_263 ?_
        refine xr_iload_n 3 C rfl rfl dL_law_264 ?_
        refine xr_iconst (1) C (by decide) dL_law_265 ?_
        refine xr_iadd C dL_law_266 ?_
        refine xr_lI C E xt_300 dL_law_267 (fun x40 E => ?_)
        refine xr_V (v := a2) [.int x40] [.int r38] (fun r => some (.int r)) (fun r => .int r :: [.int r38]) C E xi_2_SlatCratesModel (fun r h' e => wk_X2_turn e) q2279 q2280 q2281 q89 q2282 xh_SlatCratesModel xd_X2_turn (by decide) (by decide) ⟨rfl, trivial⟩ (Nat.le_of_ble_eq_true rfl) rfl (fun _ => rfl) dL_law_268 (fun r41 h42 E => ?_)
        refine xr_icmp_eq 784 C E dL_law_271 (by decide) (fun E => ?_) (fun E => ?_)
        · refine xr_iinc (v := (a3 + 5)) (L2 := [(3, .int (a3 + 5)), (0, va_rf a0), (1, va_rf a1), (2, va_rf a2)]) 3 C rfl rfl rfl dL_law_784 (by decide) ?_
          refine xr_goto 18 C dL_law_787 (by decide) ?_
          refine xr_sub [1, 2, 3, 0] rfl ?_
          exact hkb18 (a3 + 5) h42 E
        · refine xr_iconst (0) C (by decide) dL_law_274 ?_
          cases E
      rw [if_neg s3] at E
      by_cases s4 : (x10 &&& (31 : Int32)) = (4 : Int32)
      · rw [if_pos s4] at E
        refine xr_tsw 276 (4) C dL_law_32 s4 (by decide) (by decide) (off := 244) rfl (by decide) ?_
        refine xr_aload_n 1 C rfl rfl dL_law_276 ?_
        refine xr_aload_n 0 C rfl rfl dL_law_277 ?_
        refine xr_iload_n 3 C rfl rfl dL_law_278 ?_
        refine xr_iconst (1) C (by decide) dL_law_279 ?_
        refine xr_iadd C dL_law_280 ?_
        refine xr_lI C E xt_300 dL_law_281 (fun x43 E => ?_)
        refine xr_V (v := a1) [.int x43] [] (fun r => some (.int r)) (fun r => .int r :: []) C E xi_0_SlatCrates (fun r h' e => wk_X0_breakUp e) q1041 q1042 q1043 q78 q1044 xh_SlatCrates xd_X0_breakUp (by decide) (by decide) trivial (Nat.le_of_ble_eq_true rfl) rfl (fun _ => rfl) dL_law_282 (fun r44 h45 E => ?_)
        refine xr_aload_n 2 C rfl rfl dL_law_285 ?_
        refine xr_aload_n 0 C rfl rfl dL_law_286 ?_
        refine xr_iload_n 3 C rfl rfl dL_law_287 ?_
        refine xr_iconst (1) C (by decide) dL_law_288 ?_
        refine xr_iadd C dL_law_289 ?_
        refine xr_lI C E xt_300 dL_law_290 (fun x46 E => ?_)
        refine xr_V (v := a2) [.int x46] [.int r44] (fun r => some (.int r)) (fun r => .int r :: [.int r44]) C E xi_2_SlatCratesModel (fun r h' e => wk_X2_breakUp e) q2286 q2287 q2288 q89 q2289 xh_SlatCratesModel xd_X2_breakUp (by decide) (by decide) ⟨rfl, trivial⟩ (Nat.le_of_ble_eq_true rfl) rfl (fun _ => rfl) dL_law_291 (fun r47 h48 E => ?_)
        refine xr_icmp_eq 784 C E dL_law_294 (by decide) (fun E => ?_) (fun E => ?_)
        · refine xr_iinc (v := (a3 + 5)) (L2 := [(3, .int (a3 + 5)), (0, va_rf a0), (1, va_rf a1), (2, va_rf a2)]) 3 C rfl rfl rfl dL_law_784 (by decide) ?_
          refine xr_goto 18 C dL_law_787 (by decide) ?_
          refine xr_sub [1, 2, 3, 0] rfl ?_
          exact hkb18 (a3 + 5) h48 E
        · refine xr_iconst (0) C (by decide) dL_law_297 ?_
          cases E
      rw [if_neg s4] at E
      by_cases s5 : (x10 &&& (31 : Int32)) = (5 : Int32)
      · rw [if_pos s5] at E
        refine xr_tsw 299 (5) C dL_law_32 s5 (by decide) (by decide) (off := 267) rfl (by decide) ?_
        refine xr_aload_n 1 C rfl rfl dL_law_299 ?_
        refine xr_aload_n 0 C rfl rfl dL_law_300 ?_
        refine xr_iload_n 3 C rfl rfl dL_law_301 ?_
        refine xr_iconst (1) C (by decide) dL_law_302 ?_
        refine xr_iadd C dL_law_303 ?_
        refine xr_lI C E xt_300 dL_law_304 (fun x49 E => ?_)
        refine xr_V (v := a1) [.int x49] [] (fun r => some (.int r)) (fun r => .int r :: []) C E xi_0_SlatCrates (fun r h' e => wk_X0_append e) q1061 q1062 q1063 q78 q1064 xh_SlatCrates xd_X0_append (by decide) (by decide) trivial (Nat.le_of_ble_eq_true rfl) rfl (fun _ => rfl) dL_law_305 (fun r50 h51 E => ?_)
        refine xr_aload_n 2 C rfl rfl dL_law_308 ?_
        refine xr_aload_n 0 C rfl rfl dL_law_309 ?_
        refine xr_iload_n 3 C rfl rfl dL_law_310 ?_
        refine xr_iconst (1) C (by decide) dL_law_311 ?_
        refine xr_iadd C dL_law_312 ?_
        refine xr_lI C E xt_300 dL_law_313 (fun x52 E => ?_)
        refine xr_V (v := a2) [.int x52] [.int r50] (fun r => some (.int r)) (fun r => .int r :: [.int r50]) C E xi_2_SlatCratesModel (fun r h' e => wk_X2_append e) q2294 q2295 q2296 q89 q2297 xh_SlatCratesModel xd_X2_append (by decide) (by decide) ⟨rfl, trivial⟩ (Nat.le_of_ble_eq_true rfl) rfl (fun _ => rfl) dL_law_314 (fun r53 h54 E => ?_)
        refine xr_icmp_eq 784 C E dL_law_317 (by decide) (fun E => ?_) (fun E => ?_)
        · refine xr_iinc (v := (a3 + 5)) (L2 := [(3, .int (a3 + 5)), (0, va_rf a0), (1, va_rf a1), (2, va_rf a2)]) 3 C rfl rfl rfl dL_law_784 (by decide) ?_
          refine xr_goto 18 C dL_law_787 (by decide) ?_
          refine xr_sub [1, 2, 3, 0] rfl ?_
          exact hkb18 (a3 + 5) h54 E
        · refine xr_iconst (0) C (by decide) dL_law_320 ?_
          cases E
      rw [if_neg s5] at E
      by_cases s6 : (x10 &&& (31 : Int32)) = (6 : Int32)
      · rw [if_pos s6] at E
        refine xr_tsw 322 (6) C dL_law_32 s6 (by decide) (by decide) (off := 290) rfl (by decide) ?_
        refine xr_aload_n 1 C rfl rfl dL_law_322 ?_
        refine xr_V (v := a1) [] [] (fun r => some (.int r)) (fun r => .int r :: []) C E xi_0_SlatCrates (fun r h' e => wk_X0_clear e) q1086 q1087 q1088 q78 q1089 xh_SlatCrates xd_X0_clear (by decide) (by decide) trivial (Nat.le_of_ble_eq_true rfl) rfl (fun _ => rfl) dL_law_323 (fun r55 h56 E => ?_)
        refine xr_aload_n 2 C rfl rfl dL_law_326 ?_
        refine xr_V (v := a2) [] [.int r55] (fun r => some (.int r)) (fun r => .int r :: [.int r55]) C E xi_2_SlatCratesModel (fun r h' e => wk_X2_clear e) q2298 q2299 q2300 q89 q2301 xh_SlatCratesModel xd_X2_clear (by decide) (by decide) ⟨rfl, trivial⟩ (Nat.le_of_ble_eq_true rfl) rfl (fun _ => rfl) dL_law_327 (fun r57 h58 E => ?_)
        refine xr_icmp_eq 784 C E dL_law_330 (by decide) (fun E => ?_) (fun E => ?_)
        · refine xr_iinc (v := (a3 + 5)) (L2 := [(3, .int (a3 + 5)), (0, va_rf a0), (1, va_rf a1), (2, va_rf a2)]) 3 C rfl rfl rfl dL_law_784 (by decide) ?_
          refine xr_goto 18 C dL_law_787 (by decide) ?_
          refine xr_sub [1, 2, 3, 0] rfl ?_
          exact hkb18 (a3 + 5) h58 E
        · refine xr_iconst (0) C (by decide) dL_law_333 ?_
          cases E
      rw [if_neg s6] at E
      by_cases s7 : (x10 &&& (31 : Int32)) = (7 : Int32)
      · rw [if_pos s7] at E
        refine xr_tsw 335 (7) C dL_law_32 s7 (by decide) (by decide) (off := 303) rfl (by decide) ?_
        refine xr_aload_n 1 C rfl rfl dL_law_335 ?_
        refine xr_V (v := a1) [] [] (fun r => some (.int r)) (fun r => .int r :: []) C E xi_0_SlatCrates (fun r h' e => wk_X0_fault e) q1110 q1111 q1112 q78 q1113 xh_SlatCrates xd_X0_fault (by decide) (by decide) trivial (Nat.le_of_ble_eq_true rfl) rfl (fun _ => rfl) dL_law_336 (fun r59 h60 E => ?_)
        refine xr_aload_n 2 C rfl rfl dL_law_339 ?_
        refine xr_V (v := a2) [] [.int r59] (fun r => some (.int r)) (fun r => .int r :: [.int r59]) C E xi_2_SlatCratesModel (fun r h' e => wk_X2_fault e) q2302 q2303 q2304 q89 q2305 xh_SlatCratesModel xd_X2_fault (by decide) (by decide) ⟨rfl, trivial⟩ (Nat.le_of_ble_eq_true rfl) rfl (fun _ => rfl) dL_law_340 (fun r61 h62 E => ?_)
        refine xr_icmp_eq 784 C E dL_law_343 (by decide) (fun E => ?_) (fun E => ?_)
        · refine xr_iinc (v := (a3 + 5)) (L2 := [(3, .int (a3 + 5)), (0, va_rf a0), (1, va_rf a1), (2, va_rf a2)]) 3 C rfl rfl rfl dL_law_784 (by decide) ?_
          refine xr_goto 18 C dL_law_787 (by decide) ?_
          refine xr_sub [1, 2, 3, 0] rfl ?_
          exact hkb18 (a3 + 5) h62 E
        · refine xr_iconst (0) C (by decide) dL_law_346 ?_
          cases E
      rw [if_neg s7] at E
      by_cases s8 : (x10 &&& (31 : Int32)) = (8 : Int32)
      · rw [if_pos s8] at E
        refine xr_tsw 348 (8) C dL_law_32 s8 (by decide) (by decide) (off := 316) rfl (by decide) ?_
        refine xr_aload_n 1 C rfl rfl dL_law_348 ?_
        refine xr_V (v := a1) [] [] (fun r => some (.int r)) (fun r => .int r :: []) C E xi_0_SlatCrates (fun r h' e => wk_X0_load e) q1180 q1181 q1182 q78 q1183 xh_SlatCrates xd_X0_load (by decide) (by decide) trivial (Nat.le_of_ble_eq_true rfl) rfl (fun _ => rfl) dL_law_349 (fun r63 h64 E => ?_)
        refine xr_aload_n 2 C rfl rfl dL_law_352 ?_
        refine xr_V (v := a2) [] [.int r63] (fun r => some (.int r)) (fun r => .int r :: [.int r63]) C E xi_2_SlatCratesModel (fun r h' e => wk_X2_load e) q2330 q2331 q2332 q89 q2333 xh_SlatCratesModel xd_X2_load (by decide) (by decide) ⟨rfl, trivial⟩ (Nat.le_of_ble_eq_true rfl) rfl (fun _ => rfl) dL_law_353 (fun r65 h66 E => ?_)
        refine xr_icmp_eq 784 C E dL_law_356 (by decide) (fun E => ?_) (fun E => ?_)
        · refine xr_iinc (v := (a3 + 5)) (L2 := [(3, .int (a3 + 5)), (0, va_rf a0), (1, va_rf a1), (2, va_rf a2)]) 3 C rfl rfl rfl dL_law_784 (by decide) ?_
          refine xr_goto 18 C dL_law_787 (by decide) ?_
          refine xr_sub [1, 2, 3, 0] rfl ?_
          exact hkb18 (a3 + 5) h66 E
        · refine xr_iconst (0) C (by decide) dL_law_359 ?_
          cases E
      rw [if_neg s8] at E
      by_cases s9 : (x10 &&& (31 : Int32)) = (9 : Int32)
      · rw [if_pos s9] at E
        refine xr_tsw 361 (9) C dL_law_32 s9 (by decide) (by decide) (off := 329) rfl (by decide) ?_
        refine xr_aload_n 1 C rfl rfl dL_law_361 ?_
        refine xr_aload_n 0 C rfl rfl dL_law_362 ?_
        refine xr_iload_n 3 C rfl rfl dL_law_363 ?_
        refine xr_iconst (1) C (by decide) dL_law_364 ?_
        refine xr_iadd C dL_law_365 ?_
        refine xr_lI C E xt_300 dL_law_366 (fun x67 E => ?_)
        refine xr_aload_n 0 C rfl rfl dL_law_367 ?_
        refine xr_iload_n 3 C rfl rfl dL_law_368 ?_
        refine xr_iconst (2) C (by decide) dL_law_369 ?_
        refine xr_iadd C dL_law_370 ?_
        refine xr_lI C E xt_300 dL_law_371 (fun x68 E => ?_)
        refine xr_V (v := a1) [.int x67, .int x68] [] (fun r => some (.int r)) (fun r => .int r :: []) C E xi_0_SlatCrates (fun r h' e => wk_X0_sign e) q1197 q1198 q1199 q78 q1200 xh_SlatCrates xd_X0_sign (by decide) (by decide) trivial (Nat.le_of_ble_eq_true rfl) rfl (fun _ => rfl) dL_law_372 (fun r69 h70 E => ?_)
        refine xr_aload_n 2 C rfl rfl dL_law_375 ?_
        refine xr_aload_n 0 C rfl rfl dL_law_376 ?_
        refine xr_iload_n 3 C rfl rfl dL_law_377 ?_
        refine xr_iconst (1) C (by decide) dL_law_378 ?_
        refine xr_iadd C dL_law_379 ?_
        refine xr_lI C E xt_300 dL_law_380 (fun x71 E => ?_)
        refine xr_aload_n 0 C rfl rfl dL_law_381 ?_
        refine xr_iload_n 3 C rfl rfl dL_law_382 ?_
        refine xr_iconst (2) C (by decide) dL_law_383 ?_
        refine xr_iadd C dL_law_384 ?_
        refine xr_lI C E xt_300 dL_law_385 (fun x72 E => ?_)
        refine xr_V (v := a2) [.int x71, .int x72] [.int r69] (fun r => some (.int r)) (fun r => .int r :: [.int r69]) C E xi_2_SlatCratesModel (fun r h' e => wk_X2_sign e) q2338 q2339 q2340 q89 q2341 xh_SlatCratesModel xd_X2_sign (by decide) (by decide) ⟨rfl, trivial⟩ (Nat.le_of_ble_eq_true rfl) rfl (fun _ => rfl) dL_law_386 (fun r73 h74 E => ?_)
        refine xr_icmp_eq 784 C E dL_law_389 (by decide) (fun E => ?_) (fun E => ?_)
        · refine xr_iinc (v := (a3 + 5)) (L2 := [(3, .int (a3 + 5)), (0, va_rf a0), (1, va_rf a1), (2, va_rf a2)]) 3 C rfl rfl rfl dL_law_784 (by decide) ?_
          refine xr_goto 18 C dL_law_787 (by decide) ?_
          refine xr_sub [1, 2, 3, 0] rfl ?_
          exact hkb18 (a3 + 5) h74 E
        · refine xr_iconst (0) C (by decide) dL_law_392 ?_
          cases E
      rw [if_neg s9] at E
      by_cases s10 : (x10 &&& (31 : Int32)) = (10 : Int32)
      · rw [if_pos s10] at E
        refine xr_tsw 394 (10) C dL_law_32 s10 (by decide) (by decide) (off := 362) rfl (by decide) ?_
        refine xr_aload_n 1 C rfl rfl dL_law_394 ?_
        refine xr_aload_n 0 C rfl rfl dL_law_395 ?_
        refine xr_iload_n 3 C rfl rfl dL_law_396 ?_
        refine xr_iconst (1) C (by decide) dL_law_397 ?_
        refine xr_iadd C dL_law_398 ?_
        refine xr_lI C E xt_300 dL_law_399 (fun x75 E => ?_)
        refine xr_aload_n 0 C rfl rfl dL_law_400 ?_
        refine xr_iload_n 3 C rfl rfl dL_law_401 ?_
        refine xr_iconst (2) C (by decide) dL_law_402 ?_
        refine xr_iadd C dL_law_403 ?_
        refine xr_lI C E xt_300 dL_law_404 (fun x76 E => ?_)
        refine xr_V (v := a1) [.int x75, .int x76] [] (fun r => some (.int r)) (fun r => .int r :: []) C E xi_0_SlatCrates (fun r h' e => wk_X0_crate e) q1233 q1234 q1235 q78 q1236 xh_SlatCrates xd_X0_crate (by decide) (by decide) trivial (Nat.le_of_ble_eq_true rfl) rfl (fun _ => rfl) dL_law_405 (fun r77 h78 E => ?_)
        refine xr_aload_n 2 C rfl rfl dL_law_408 ?_
        refine xr_aload_n 0 C rfl rfl dL_law_409 ?_
        refine xr_iload_n 3 C rfl rfl dL_law_410 ?_
        refine xr_iconst (1) C (by decide) dL_law_411 ?_
        refine xr_iadd C dL_law_412 ?_
        refine xr_lI C E xt_300 dL_law_413 (fun x79 E => ?_)
        refine xr_aload_n 0 C rfl rfl dL_law_414 ?_
        refine xr_iload_n 3 C rfl rfl dL_law_415 ?_
        refine xr_iconst (2) C (by decide) dL_law_416 ?_
        refine xr_iadd C dL_law_417 ?_
        refine xr_lI C E xt_300 dL_law_418 (fun x80 E => ?_)
        refine xr_V (v := a2) [.int x79, .int x80] [.int r77] (fun r => some (.int r)) (fun r => .int r :: [.int r77]) C E xi_2_SlatCratesModel (fun r h' e => wk_X2_crate e) q2366 q2367 q2368 q89 q2369 xh_SlatCratesModel xd_X2_crate (by decide) (by decide) ⟨rfl, trivial⟩ (Nat.le_of_ble_eq_true rfl) rfl (fun _ => rfl) dL_law_419 (fun r81 h82 E => ?_)
        refine xr_icmp_eq 784 C E dL_law_422 (by decide) (fun E => ?_) (fun E => ?_)
        · refine xr_iinc (v := (a3 + 5)) (L2 := [(3, .int (a3 + 5)), (0, va_rf a0), (1, va_rf a1), (2, va_rf a2)]) 3 C rfl rfl rfl dL_law_784 (by decide) ?_
          refine xr_goto 18 C dL_law_787 (by decide) ?_
          refine xr_sub [1, 2, 3, 0] rfl ?_
          exact hkb18 (a3 + 5) h82 E
        · refine xr_iconst (0) C (by decide) dL_law_425 ?_
          cases E
      rw [if_neg s10] at E
      by_cases s11 : (x10 &&& (31 : Int32)) = (11 : Int32)
      · rw [if_pos s11] at E
        refine xr_tsw 427 (11) C dL_law_32 s11 (by decide) (by decide) (off := 395) rfl (by decide) ?_
        refine xr_aload_n 1 C rfl rfl dL_law_427 ?_
        refine xr_aload_n 0 C rfl rfl dL_law_428 ?_
        refine xr_iload_n 3 C rfl rfl dL_law_429 ?_
        refine xr_iconst (1) C (by decide) dL_law_430 ?_
        refine xr_iadd C dL_law_431 ?_
        refine xr_lI C E xt_300 dL_law_432 (fun x83 E => ?_)
        refine xr_aload_n 0 C rfl rfl dL_law_433 ?_
        refine xr_iload_n 3 C rfl rfl dL_law_434 ?_
        refine xr_iconst (2) C (by decide) dL_law_435 ?_
        refine xr_iadd C dL_law_436 ?_
        refine xr_lI C E xt_300 dL_law_437 (fun x84 E => ?_)
        refine xr_V (v := a1) [.int x83, .int x84] [] (fun r => some (.int r)) (fun r => .int r :: []) C E xi_0_SlatCrates (fun r h' e => wk_X0_letter e) q1787 q1788 q1789 q78 q1790 xh_SlatCrates xd_X0_letter (by decide) (by decide) trivial (Nat.le_of_ble_eq_true rfl) rfl (fun _ => rfl) dL_law_438 (fun r85 h86 E => ?_)
        refine xr_aload_n 2 C rfl rfl dL_law_441 ?_
        refine xr_aload_n 0 C rfl rfl dL_law_442 ?_
        refine xr_iload_n 3 C rfl rfl dL_law_443 ?_
        refine xr_iconst (1) C (by decide) dL_law_444 ?_
        refine xr_iadd C dL_law_445 ?_
        refine xr_lI C E xt_300 dL_law_446 (fun x87 E => ?_)
        refine xr_aload_n 0 C rfl rfl dL_law_447 ?_
        refine xr_iload_n 3 C rfl rfl dL_law_448 ?_
        refine xr_iconst (2) C (by decide) dL_law_449 ?_
        refine xr_iadd C dL_law_450 ?_
        refine xr_lI C E xt_300 dL_law_451 (fun x88 E => ?_)
        refine xr_V (v := a2) [.int x87, .int x88] [.int r85] (fun r => some (.int r)) (fun r => .int r :: [.int r85]) C E xi_2_SlatCratesModel (fun r h' e => wk_X2_letter e) q2406 q2407 q2408 q89 q2409 xh_SlatCratesModel xd_X2_letter (by decide) (by decide) ⟨rfl, trivial⟩ (Nat.le_of_ble_eq_true rfl) rfl (fun _ => rfl) dL_law_452 (fun r89 h90 E => ?_)
        refine xr_icmp_eq 784 C E dL_law_455 (by decide) (fun E => ?_) (fun E => ?_)
        · refine xr_iinc (v := (a3 + 5)) (L2 := [(3, .int (a3 + 5)), (0, va_rf a0), (1, va_rf a1), (2, va_rf a2)]) 3 C rfl rfl rfl dL_law_784 (by decide) ?_
          refine xr_goto 18 C dL_law_787 (by decide) ?_
          refine xr_sub [1, 2, 3, 0] rfl ?_
          exact hkb18 (a3 + 5) h90 E
        · refine xr_iconst (0) C (by decide) dL_law_458 ?_
          cases E
      rw [if_neg s11] at E
      by_cases s12 : (x10 &&& (31 : Int32)) = (12 : Int32)
      · rw [if_pos s12] at E
        refine xr_tsw 460 (12) C dL_law_32 s12 (by decide) (by decide) (off := 428) rfl (by decide) ?_
        refine xr_aload_n 1 C rfl rfl dL_law_460 ?_
        refine xr_aload_n 0 C rfl rfl dL_law_461 ?_
        refine xr_iload_n 3 C rfl rfl dL_law_462 ?_
        refine xr_iconst (1) C (by decide) dL_law_463 ?_
        refine xr_iadd C dL_law_464 ?_
        refine xr_lI C E xt_300 dL_law_465 (fun x91 E => ?_)
        refine xr_aload_n 0 C rfl rfl dL_law_466 ?_
        refine xr_iload_n 3 C rfl rfl dL_law_467 ?_
        refine xr_iconst (2) C (by decide) dL_law_468 ?_
        refine xr_iadd C dL_law_469 ?_
        refine xr_lI C E xt_300 dL_law_470 (fun x92 E => ?_)
        refine xr_V (v := a1) [.int x91, .int x92] [] (fun r => some (.int r)) (fun r => .int r :: []) C E xi_0_SlatCrates (fun r h' e => wk_X0_seen e) q1794 q1795 q1796 q78 q1797 xh_SlatCrates xd_X0_seen (by decide) (by decide) trivial (Nat.le_of_ble_eq_true rfl) rfl (fun _ => rfl) dL_law_471 (fun r93 h94 E => ?_)
        refine xr_aload_n 2 C rfl rfl dL_law_474 ?_
        refine xr_aload_n 0 C rfl rfl dL_law_475 ?_
        refine xr_iload_n 3 C rfl rfl dL_law_476 ?_
        refine xr_iconst (1) C (by decide) dL_law_477 ?_
        refine xr_iadd C dL_law_478 ?_
        refine xr_lI C E xt_300 dL_law_479 (fun x95 E => ?_)
        refine xr_aload_n 0 C rfl rfl dL_law_480 ?_
        refine xr_iload_n 3 C rfl rfl dL_law_481 ?_
        refine xr_iconst (2) C (by decide) dL_law_482 ?_
        refine xr_iadd C dL_law_483 ?_
        refine xr_lI C E xt_300 dL_law_484 (fun x96 E => ?_)
        refine xr_V (v := a2) [.int x95, .int x96] [.int r93] (fun r => some (.int r)) (fun r => .int r :: [.int r93]) C E xi_2_SlatCratesModel (fun r h' e => wk_X2_seen e) q2413 q2414 q2415 q89 q2416 xh_SlatCratesModel xd_X2_seen (by decide) (by decide) ⟨rfl, trivial⟩ (Nat.le_of_ble_eq_true rfl) rfl (fun _ => rfl) dL_law_485 (fun r97 h98 E => ?_)
        refine xr_icmp_eq 784 C E dL_law_488 (by decide) (fun E => ?_) (fun E => ?_)
        · refine xr_iinc (v := (a3 + 5)) (L2 := [(3, .int (a3 + 5)), (0, va_rf a0), (1, va_rf a1), (2, va_rf a2)]) 3 C rfl rfl rfl dL_law_784 (by decide) ?_
          refine xr_goto 18 C dL_law_787 (by decide) ?_
          refine xr_sub [1, 2, 3, 0] rfl ?_
          exact hkb18 (a3 + 5) h98 E
        · refine xr_iconst (0) C (by decide) dL_law_491 ?_
          cases E
      rw [if_neg s12] at E
      by_cases s13 : (x10 &&& (31 : Int32)) = (13 : Int32)
      · rw [if_pos s13] at E
        refine xr_tsw 493 (13) C dL_law_32 s13 (by decide) (by decide) (off := 461) rfl (by decide) ?_
        refine xr_aload_n 1 C rfl rfl dL_law_493 ?_
        refine xr_aload_n 0 C rfl rfl dL_law_494 ?_
        refine xr_iload_n 3 C rfl rfl dL_law_495 ?_
        refine xr_iconst (1) C (by decide) dL_law_496 ?_
        refine xr_iadd C dL_law_497 ?_
        refine xr_lI C E xt_300 dL_law_498 (fun x99 E => ?_)
        refine xr_aload_n 0 C rfl rfl dL_law_499 ?_
        refine xr_iload_n 3 C rfl rfl dL_law_500 ?_
        refine xr_iconst (2) C (by decide) dL_law_501 ?_
        refine xr_iadd C dL_law_502 ?_
        refine xr_lI C E xt_300 dL_law_503 (fun x100 E => ?_)
        refine xr_V (v := a1) [.int x99, .int x100] [] (fun r => some (.int r)) (fun r => .int r :: []) C E xi_0_SlatCrates (fun r h' e => wk_X0_whyNot e) q1803 q1804 q1805 q78 q1806 xh_SlatCrates xd_X0_whyNot (by decide) (by decide) trivial (Nat.le_of_ble_eq_true rfl) rfl (fun _ => rfl) dL_law_504 (fun r101 h102 E => ?_)
        refine xr_aload_n 2 C rfl rfl dL_law_507 ?_
        refine xr_aload_n 0 C rfl rfl dL_law_508 ?_
        refine xr_iload_n 3 C rfl rfl dL_law_509 ?_
        refine xr_iconst (1) C (by decide) dL_law_510 ?_
        refine xr_iadd C dL_law_511 ?_
        refine xr_lI C E xt_300 dL_law_512 (fun x103 E => ?_)
        refine xr_aload_n 0 C rfl rfl dL_law_513 ?_
        refine xr_iload_n 3 C rfl rfl dL_law_514 ?_
        refine xr_iconst (2) C (by decide) dL_law_515 ?_
        refine xr_iadd C dL_law_516 ?_
        refine xr_lI C E xt_300 dL_law_517 (fun x104 E => ?_)
        refine xr_V (v := a2) [.int x103, .int x104] [.int r101] (fun r => some (.int r)) (fun r => .int r :: [.int r101]) C E xi_2_SlatCratesModel (fun r h' e => wk_X2_whyNot e) q2417 q2418 q2419 q89 q2420 xh_SlatCratesModel xd_X2_whyNot (by decide) (by decide) ⟨rfl, trivial⟩ (Nat.le_of_ble_eq_true rfl) rfl (fun _ => rfl) dL_law_518 (fun r105 h106 E => ?_)
        refine xr_icmp_eq 784 C E dL_law_521 (by decide) (fun E => ?_) (fun E => ?_)
        · refine xr_iinc (v := (a3 + 5)) (L2 := [(3, .int (a3 + 5)), (0, va_rf a0), (1, va_rf a1), (2, va_rf a2)]) 3 C rfl rfl rfl dL_law_784 (by decide) ?_
          refine xr_goto 18 C dL_law_787 (by decide) ?_
          refine xr_sub [1, 2, 3, 0] rfl ?_
          exact hkb18 (a3 + 5) h106 E
        · refine xr_iconst (0) C (by decide) dL_law_524 ?_
          cases E
      rw [if_neg s13] at E
      by_cases s14 : (x10 &&& (31 : Int32)) = (14 : Int32)
      · rw [if_pos s14] at E
        refine xr_tsw 526 (14) C dL_law_32 s14 (by decide) (by decide) (off := 494) rfl (by decide) ?_
        refine xr_aload_n 1 C rfl rfl dL_law_526 ?_
        refine xr_aload_n 0 C rfl rfl dL_law_527 ?_
        refine xr_iload_n 3 C rfl rfl dL_law_528 ?_
        refine xr_iconst (1) C (by decide) dL_law_529 ?_
        refine xr_iadd C dL_law_530 ?_
        refine xr_lI C E xt_300 dL_law_531 (fun x107 E => ?_)
        refine xr_aload_n 0 C rfl rfl dL_law_532 ?_
        refine xr_iload_n 3 C rfl rfl dL_law_533 ?_
        refine xr_iconst (2) C (by decide) dL_law_534 ?_
        refine xr_iadd C dL_law_535 ?_
        refine xr_lI C E xt_300 dL_law_536 (fun x108 E => ?_)
        refine xr_V (v := a1) [.int x107, .int x108] [] (fun r => some (.int r)) (fun r => .int r :: []) C E xi_0_SlatCrates (fun r h' e => wk_X0_effort e) q1807 q1808 q1809 q78 q1810 xh_SlatCrates xd_X0_effort (by decide) (by decide) trivial (Nat.le_of_ble_eq_true rfl) rfl (fun _ => rfl) dL_law_537 (fun r109 h110 E => ?_)
        refine xr_aload_n 2 C rfl rfl dL_law_540 ?_
        refine xr_aload_n 0 C rfl rfl dL_law_541 ?_
        refine xr_iload_n 3 C rfl rfl dL_law_542 ?_
        refine xr_iconst (1) C (by decide) dL_law_543 ?_
        refine xr_iadd C dL_law_544 ?_
        refine xr_lI C E xt_300 dL_law_545 (fun x111 E => ?_)
        refine xr_aload_n 0 C rfl rfl dL_law_546 ?_
        refine xr_iload_n 3 C rfl rfl dL_law_547 ?_
        refine xr_iconst (2) C (by decide) dL_law_548 ?_
        refine xr_iadd C dL_law_549 ?_
        refine xr_lI C E xt_300 dL_law_550 (fun x112 E => ?_)
        refine xr_V (v := a2) [.int x111, .int x112] [.int r109] (fun r => some (.int r)) (fun r => .int r :: [.int r109]) C E xi_2_SlatCratesModel (fun r h' e => wk_X2_effort e) q2421 q2422 q2423 q89 q2424 xh_SlatCratesModel xd_X2_effort (by decide) (by decide) ⟨rfl, trivial⟩ (Nat.le_of_ble_eq_true rfl) rfl (fun _ => rfl) dL_law_551 (fun r113 h114 E => ?_)
        refine xr_icmp_eq 784 C E dL_law_554 (by decide) (fun E => ?_) (fun E => ?_)
        · refine xr_iinc (v := (a3 + 5)) (L2 := [(3, .int (a3 + 5)), (0, va_rf a0), (1, va_rf a1), (2, va_rf a2)]) 3 C rfl rfl rfl dL_law_784 (by decide) ?_
          refine xr_goto 18 C dL_law_787 (by decide) ?_
          refine xr_sub [1, 2, 3, 0] rfl ?_
          exact hkb18 (a3 + 5) h114 E
        · refine xr_iconst (0) C (by decide) dL_law_557 ?_
          cases E
      rw [if_neg s14] at E
      by_cases s15 : (x10 &&& (31 : Int32)) = (15 : Int32)
      · rw [if_pos s15] at E
        refine xr_tsw 559 (15) C dL_law_32 s15 (by decide) (by decide) (off := 527) rfl (by decide) ?_
        refine xr_aload_n 1 C rfl rfl dL_law_559 ?_
        refine xr_aload_n 0 C rfl rfl dL_law_560 ?_
        refine xr_iload_n 3 C rfl rfl dL_law_561 ?_
        refine xr_iconst (1) C (by decide) dL_law_562 ?_
        refine xr_iadd C dL_law_563 ?_
        refine xr_lI C E xt_300 dL_law_564 (fun x115 E => ?_)
        refine xr_aload_n 0 C rfl rfl dL_law_565 ?_
        refine xr_iload_n 3 C rfl rfl dL_law_566 ?_
        refine xr_iconst (2) C (by decide) dL_law_567 ?_
        refine xr_iadd C dL_law_568 ?_
        refine xr_lI C E xt_300 dL_law_569 (fun x116 E => ?_)
        refine xr_aload_n 0 C rfl rfl dL_law_570 ?_
        refine xr_iload_n 3 C rfl rfl dL_law_571 ?_
        refine xr_iconst (3) C (by decide) dL_law_572 ?_
        refine xr_iadd C dL_law_573 ?_
        refine xr_lI C E xt_300 dL_law_574 (fun x117 E => ?_)
        refine xr_aload_n 0 C rfl rfl dL_law_575 ?_
        refine xr_iload_n 3 C rfl rfl dL_law_576 ?_
        refine xr_iconst (4) C (by decide) dL_law_577 ?_
        refine xr_iadd C dL_law_578 ?_
        refine xr_lI C E xt_300 dL_law_579 (fun x118 E => ?_)
        refine xr_V (v := a1) [.int x115, .int x116, .int x117, .int x118] [] (fun r => some (.int r)) (fun r => .int r :: []) C E xi_0_SlatCrates (fun r h' e => wk_X0_alike e) q1824 q1825 q1826 q78 q1827 xh_SlatCrates xd_X0_alike (by decide) (by decide) trivial (Nat.le_of_ble_eq_true rfl) rfl (fun _ => rfl) dL_law_580 (fun r119 h120 E => ?_)
        refine xr_aload_n 2 C rfl rfl dL_law_583 ?_
        refine xr_aload_n 0 C rfl rfl dL_law_584 ?_
        refine xr_iload_n 3 C rfl rfl dL_law_585 ?_
        refine xr_iconst (1) C (by decide) dL_law_586 ?_
        refine xr_iadd C dL_law_587 ?_
        refine xr_lI C E xt_300 dL_law_588 (fun x121 E => ?_)
        refine xr_aload_n 0 C rfl rfl dL_law_589 ?_
        refine xr_iload_n 3 C rfl rfl dL_law_590 ?_
        refine xr_iconst (2) C (by decide) dL_law_591 ?_
        refine xr_iadd C dL_law_592 ?_
        refine xr_lI C E xt_300 dL_law_593 (fun x122 E => ?_)
        refine xr_aload_n 0 C rfl rfl dL_law_594 ?_
        refine xr_iload_n 3 C rfl rfl dL_law_595 ?_
        refine xr_iconst (3) C (by decide) dL_law_596 ?_
        refine xr_iadd C dL_law_597 ?_
        refine xr_lI C E xt_300 dL_law_598 (fun x123 E => ?_)
        refine xr_aload_n 0 C rfl rfl dL_law_599 ?_
        refine xr_iload_n 3 C rfl rfl dL_law_600 ?_
        refine xr_iconst (4) C (by decide) dL_law_601 ?_
        refine xr_iadd C dL_law_602 ?_
        refine xr_lI C E xt_300 dL_law_603 (fun x124 E => ?_)
        refine xr_V (v := a2) [.int x121, .int x122, .int x123, .int x124] [.int r119] (fun r => some (.int r)) (fun r => .int r :: [.int r119]) C E xi_2_SlatCratesModel (fun r h' e => wk_X2_alike e) q2425 q2426 q2427 q89 q2428 xh_SlatCratesModel xd_X2_alike (by decide) (by decide) ⟨rfl, trivial⟩ (Nat.le_of_ble_eq_true rfl) rfl (fun _ => rfl) dL_law_604 (fun r125 h126 E => ?_)
        refine xr_icmp_eq 784 C E dL_law_607 (by decide) (fun E => ?_) (fun E => ?_)
        · refine xr_iinc (v := (a3 + 5)) (L2 := [(3, .int (a3 + 5)), (0, va_rf a0), (1, va_rf a1), (2, va_rf a2)]) 3 C rfl rfl rfl dL_law_784 (by decide) ?_
          refine xr_goto 18 C dL_law_787 (by decide) ?_
          refine xr_sub [1, 2, 3, 0] rfl ?_
          exact hkb18 (a3 + 5) h126 E
        · refine xr_iconst (0) C (by decide) dL_law_610 ?_
          cases E
      rw [if_neg s15] at E
      by_cases s16 : (x10 &&& (31 : Int32)) = (16 : Int32)
      · rw [if_pos s16] at E
        refine xr_tsw 612 (16) C dL_law_32 s16 (by decide) (by decide) (off := 580) rfl (by decide) ?_
        refine xr_aload_n 1 C rfl rfl dL_law_612 ?_
        refine xr_aload_n 0 C rfl rfl dL_law_613 ?_
        refine xr_iload_n 3 C rfl rfl dL_law_614 ?_
        refine xr_iconst (1) C (by decide) dL_law_615 ?_
        refine xr_iadd C dL_law_616 ?_
        refine xr_lI C E xt_300 dL_law_617 (fun x127 E => ?_)
        refine xr_V (v := a1) [.int x127] [] (fun r => some (.int r)) (fun r => .int r :: []) C E xi_0_SlatCrates (fun r h' e => wk_X0_nest e) q1834 q1835 q1836 q78 q1837 xh_SlatCrates xd_X0_nest (by decide) (by decide) trivial (Nat.le_of_ble_eq_true rfl) rfl (fun _ => rfl) dL_law_618 (fun r128 h129 E => ?_)
        refine xr_aload_n 2 C rfl rfl dL_law_621 ?_
        refine xr_aload_n 0 C rfl rfl dL_law_622 ?_
        refine xr_iload_n 3 C rfl rfl dL_law_623 ?_
        refine xr_iconst (1) C (by decide) dL_law_624 ?_
        refine xr_iadd C dL_law_625 ?_
        refine xr_lI C E xt_300 dL_law_626 (fun x130 E => ?_)
        refine xr_V (v := a2) [.int x130] [.int r128] (fun r => some (.int r)) (fun r => .int r :: [.int r128]) C E xi_2_SlatCratesModel (fun r h' e => wk_X2_nest e) q2433 q2434 q2435 q89 q2436 xh_SlatCratesModel xd_X2_nest (by decide) (by decide) ⟨rfl, trivial⟩ (Nat.le_of_ble_eq_true rfl) rfl (fun _ => rfl) dL_law_627 (fun r131 h132 E => ?_)
        refine xr_icmp_eq 784 C E dL_law_630 (by decide) (fun E => ?_) (fun E => ?_)
        · refine xr_iinc (v := (a3 + 5)) (L2 := [(3, .int (a3 + 5)), (0, va_rf a0), (1, va_rf a1), (2, va_rf a2)]) 3 C rfl rfl rfl dL_law_784 (by decide) ?_
          refine xr_goto 18 C dL_law_787 (by decide) ?_
          refine xr_sub [1, 2, 3, 0] rfl ?_
          exact hkb18 (a3 + 5) h132 E
        · refine xr_iconst (0) C (by decide) dL_law_633 ?_
          cases E
      rw [if_neg s16] at E
      by_cases s17 : (x10 &&& (31 : Int32)) = (17 : Int32)
      · rw [if_pos s17] at E
        refine xr_tsw 635 (17) C dL_law_32 s17 (by decide) (by decide) (off := 603) rfl (by decide) ?_
        refine xr_aload_n 1 C rfl rfl dL_law_635 ?_
        refine xr_aload_n 0 C rfl rfl dL_law_636 ?_
        refine xr_iload_n 3 C rfl rfl dL_law_637 ?_
        refine xr_iconst (1) C (by decide) dL_law_638 ?_
        refine xr_iadd C dL_law_639 ?_
        refine xr_lI C E xt_300 dL_law_640 (fun x133 E => ?_)
        refine xr_V (v := a1) [.int x133] [] (fun r => some (.int r)) (fun r => .int r :: []) C E xi_0_SlatCrates (fun r h' e => wk_X0_count e) q1855 q1856 q1857 q78 q1858 xh_SlatCrates xd_X0_count (by decide) (by decide) trivial (Nat.le_of_ble_eq_true rfl) rfl (fun _ => rfl) dL_law_641 (fun r134 h135 E => ?_)
        refine xr_aload_n 2 C rfl rfl dL_law_644 ?_
        refine xr_aload_n 0 C rfl rfl dL_law_645 ?_
        refine xr_iload_n 3 C rfl rfl dL_law_646 ?_
        refine xr_iconst (1) C (by decide) dL_law_647 ?_
        refine xr_iadd C dL_law_648 ?_
        refine xr_lI C E xt_300 dL_law_649 (fun x136 E => ?_)
        refine xr_V (v := a2) [.int x136] [.int r134] (fun r => some (.int r)) (fun r => .int r :: [.int r134]) C E xi_2_SlatCratesModel (fun r h' e => wk_X2_count e) q2449 q2450 q2451 q89 q2452 xh_SlatCratesModel xd_X2_count (by decide) (by decide) ⟨rfl, trivial⟩ (Nat.le_of_ble_eq_true rfl) rfl (fun _ => rfl) dL_law_650 (fun r137 h138 E => ?_)
        refine xr_icmp_eq 784 C E dL_law_653 (by decide) (fun E => ?_) (fun E => ?_)
        · refine xr_iinc (v := (a3 + 5)) (L2 := [(3, .int (a3 + 5)), (0, va_rf a0), (1, va_rf a1), (2, va_rf a2)]) 3 C rfl rfl rfl dL_law_784 (by decide) ?_
          refine xr_goto 18 C dL_law_787 (by decide) ?_
          refine xr_sub [1, 2, 3, 0] rfl ?_
          exact hkb18 (a3 + 5) h138 E
        · refine xr_iconst (0) C (by decide) dL_law_656 ?_
          cases E
      rw [if_neg s17] at E
      by_cases s18 : (x10 &&& (31 : Int32)) = (18 : Int32)
      · rw [if_pos s18] at E
        refine xr_tsw 658 (18) C dL_law_32 s18 (by decide) (by decide) (off := 626) rfl (by decide) ?_
        refine xl_full (a1 := a1) (a2 := a2) 1 rfl 2 rfl (by intro q hq; simp only [List.mem_cons, List.not_mem_nil, or_false] at hq; rcases hq with rfl | rfl | rfl | rfl <;> exact Nat.le_of_ble_eq_true rfl) C E (fun h142 E => ?_)
        refine xr_iinc (v := (a3 + 5)) (L2 := [(3, .int (a3 + 5)), (0, va_rf a0), (1, va_rf a1), (2, va_rf a2)]) 3 C rfl rfl rfl dL_law_784 (by decide) ?_
        refine xr_goto 18 C dL_law_787 (by decide) ?_
        refine xr_sub [1, 2, 3, 0] rfl ?_
        exact hkb18 (a3 + 5) h142 E
      rw [if_neg s18] at E
      by_cases s19 : (x10 &&& (31 : Int32)) = (19 : Int32)
      · rw [if_pos s19] at E
        refine xr_tsw 699 (19) C dL_law_32 s19 (by decide) (by decide) (off := 667) rfl (by decide) ?_
        refine xr_aload_n 1 C rfl rfl dL_law_699 ?_
        refine xr_aload_n 0 C rfl rfl dL_law_700 ?_
        refine xr_iload_n 3 C rfl rfl dL_law_701 ?_
        refine xr_iconst (1) C (by decide) dL_law_702 ?_
        refine xr_iadd C dL_law_703 ?_
        refine xr_lI C E xt_300 dL_law_704 (fun x143 E => ?_)
        refine xr_aload_n 0 C rfl rfl dL_law_705 ?_
        refine xr_iload_n 3 C rfl rfl dL_law_706 ?_
        refine xr_iconst (2) C (by decide) dL_law_707 ?_
        refine xr_iadd C dL_law_708 ?_
        refine xr_lI C E xt_300 dL_law_709 (fun x144 E => ?_)
        refine xr_V (v := a1) [.int x143, .int x144] [] (fun r => some (.int r)) (fun r => .int r :: []) C E xi_0_SlatCrates (fun r h' e => wk_X0_ifTurned e) q2094 q2095 q2096 q78 q2097 xh_SlatCrates xd_X0_ifTurned (by decide) (by decide) trivial (Nat.le_of_ble_eq_true rfl) rfl (fun _ => rfl) dL_law_710 (fun r145 h146 E => ?_)
        refine xr_aload_n 2 C rfl rfl dL_law_713 ?_
        refine xr_aload_n 0 C rfl rfl dL_law_714 ?_
        refine xr_iload_n 3 C rfl rfl dL_law_715 ?_
        refine xr_iconst (1) C (by decide) dL_law_716 ?_
        refine xr_iadd C dL_law_717 ?_
        refine xr_lI C E xt_300 dL_law_718 (fun x147 E => ?_)
        refine xr_aload_n 0 C rfl rfl dL_law_719 ?_
        refine xr_iload_n 3 C rfl rfl dL_law_720 ?_
        refine xr_iconst (2) C (by decide) dL_law_721 ?_
        refine xr_iadd C dL_law_722 ?_
        refine xr_lI C E xt_300 dL_law_723 (fun x148 E => ?_)
        refine xr_V (v := a2) [.int x147, .int x148] [.int r145] (fun r => some (.int r)) (fun r => .int r :: [.int r145]) C E xi_2_SlatCratesModel (fun r h' e => wk_X2_ifTurned e) q2474 q2475 q2476 q89 q2477 xh_SlatCratesModel xd_X2_ifTurned (by decide) (by decide) ⟨rfl, trivial⟩ (Nat.le_of_ble_eq_true rfl) rfl (fun _ => rfl) dL_law_724 (fun r149 h150 E => ?_)
        refine xr_icmp_eq 784 C E dL_law_727 (by decide) (fun E => ?_) (fun E => ?_)
        · refine xr_iinc (v := (a3 + 5)) (L2 := [(3, .int (a3 + 5)), (0, va_rf a0), (1, va_rf a1), (2, va_rf a2)]) 3 C rfl rfl rfl dL_law_784 (by decide) ?_
          refine xr_goto 18 C dL_law_787 (by decide) ?_
          refine xr_sub [1, 2, 3, 0] rfl ?_
          exact hkb18 (a3 + 5) h150 E
        · refine xr_iconst (0) C (by decide) dL_law_730 ?_
          cases E
      rw [if_neg s19] at E
      by_cases s20 : (x10 &&& (31 : Int32)) = (20 : Int32)
      · rw [if_pos s20] at E
        refine xr_tsw 732 (20) C dL_law_32 s20 (by decide) (by decide) (off := 700) rfl (by decide) ?_
        refine xr_aload_n 1 C rfl rfl dL_law_732 ?_
        refine xr_V (v := a1) [] [] (fun r => some (.int r)) (fun r => .int r :: []) C E xi_0_SlatCrates (fun r h' e => wk_X0_bestTurn e) q2102 q2103 q2104 q78 q2105 xh_SlatCrates xd_X0_bestTurn (by decide) (by decide) trivial (Nat.le_of_ble_eq_true rfl) rfl (fun _ => rfl) dL_law_733 (fun r151 h152 E => ?_)
        refine xr_aload_n 2 C rfl rfl dL_law_736 ?_
        refine xr_V (v := a2) [] [.int r151] (fun r => some (.int r)) (fun r => .int r :: [.int r151]) C E xi_2_SlatCratesModel (fun r h' e => wk_X2_bestTurn e) q2478 q2479 q2480 q89 q2481 xh_SlatCratesModel xd_X2_bestTurn (by decide) (by decide) ⟨rfl, trivial⟩ (Nat.le_of_ble_eq_true rfl) rfl (fun _ => rfl) dL_law_737 (fun r153 h154 E => ?_)
        refine xr_icmp_eq 784 C E dL_law_740 (by decide) (fun E => ?_) (fun E => ?_)
        · refine xr_iinc (v := (a3 + 5)) (L2 := [(3, .int (a3 + 5)), (0, va_rf a0), (1, va_rf a1), (2, va_rf a2)]) 3 C rfl rfl rfl dL_law_784 (by decide) ?_
          refine xr_goto 18 C dL_law_787 (by decide) ?_
          refine xr_sub [1, 2, 3, 0] rfl ?_
          exact hkb18 (a3 + 5) h154 E
        · refine xr_iconst (0) C (by decide) dL_law_743 ?_
          cases E
      rw [if_neg s20] at E
      by_cases s21 : (x10 &&& (31 : Int32)) = (21 : Int32)
      · rw [if_pos s21] at E
        refine xr_tsw 745 (21) C dL_law_32 s21 (by decide) (by decide) (off := 713) rfl (by decide) ?_
        refine xr_aload_n 1 C rfl rfl dL_law_745 ?_
        refine xr_V (v := a1) [] [] (fun r => some (.int r)) (fun r => .int r :: []) C E xi_0_SlatCrates (fun r h' e => wk_X0_undo e) q2106 q2107 q2108 q78 q2109 xh_SlatCrates xd_X0_undo (by decide) (by decide) trivial (Nat.le_of_ble_eq_true rfl) rfl (fun _ => rfl) dL_law_746 (fun r155 h156 E => ?_)
        refine xr_aload_n 2 C rfl rfl dL_law_749 ?_
        refine xr_V (v := a2) [] [.int r155] (fun r => some (.int r)) (fun r => .int r :: [.int r155]) C E xi_2_SlatCratesModel (fun r h' e => wk_X2_undo e) q2483 q2484 q2485 q89 q2486 xh_SlatCratesModel xd_X2_undo (by decide) (by decide) ⟨rfl, trivial⟩ (Nat.le_of_ble_eq_true rfl) rfl (fun _ => rfl) dL_law_750 (fun r157 h158 E => ?_)
        refine xr_icmp_eq 784 C E dL_law_753 (by decide) (fun E => ?_) (fun E => ?_)
        · refine xr_iinc (v := (a3 + 5)) (L2 := [(3, .int (a3 + 5)), (0, va_rf a0), (1, va_rf a1), (2, va_rf a2)]) 3 C rfl rfl rfl dL_law_784 (by decide) ?_
          refine xr_goto 18 C dL_law_787 (by decide) ?_
          refine xr_sub [1, 2, 3, 0] rfl ?_
          exact hkb18 (a3 + 5) h158 E
        · refine xr_iconst (0) C (by decide) dL_law_756 ?_
          cases E
      rw [if_neg s21] at E
      by_cases s22 : (x10 &&& (31 : Int32)) = (22 : Int32)
      · rw [if_pos s22] at E
        refine xr_tsw 758 (22) C dL_law_32 s22 (by decide) (by decide) (off := 726) rfl (by decide) ?_
        refine xr_aload_n 1 C rfl rfl dL_law_758 ?_
        refine xr_V (v := a1) [] [] (fun r => some (.int r)) (fun r => .int r :: []) C E xi_0_SlatCrates (fun r h' e => wk_X0_save e) q2129 q2130 q2131 q78 q2132 xh_SlatCrates xd_X0_save (by decide) (by decide) trivial (Nat.le_of_ble_eq_true rfl) rfl (fun _ => rfl) dL_law_759 (fun r159 h160 E => ?_)
        refine xr_aload_n 2 C rfl rfl dL_law_762 ?_
        refine xr_V (v := a2) [] [.int r159] (fun r => some (.int r)) (fun r => .int r :: [.int r159]) C E xi_2_SlatCratesModel (fun r h' e => wk_X2_save e) q2487 q2488 q2489 q89 q2490 xh_SlatCratesModel xd_X2_save (by decide) (by decide) ⟨rfl, trivial⟩ (Nat.le_of_ble_eq_true rfl) rfl (fun _ => rfl) dL_law_763 (fun r161 h162 E => ?_)
        refine xr_icmp_eq 784 C E dL_law_766 (by decide) (fun E => ?_) (fun E => ?_)
        · refine xr_iinc (v := (a3 + 5)) (L2 := [(3, .int (a3 + 5)), (0, va_rf a0), (1, va_rf a1), (2, va_rf a2)]) 3 C rfl rfl rfl dL_law_784 (by decide) ?_
          refine xr_goto 18 C dL_law_787 (by decide) ?_
          refine xr_sub [1, 2, 3, 0] rfl ?_
          exact hkb18 (a3 + 5) h162 E
        · refine xr_iconst (0) C (by decide) dL_law_769 ?_
          cases E
      rw [if_neg s22] at E
      by_cases s23 : (x10 &&& (31 : Int32)) = (23 : Int32)
      · rw [if_pos s23] at E
        refine xr_tsw 771 (23) C dL_law_32 s23 (by decide) (by decide) (off := 739) rfl (by decide) ?_
        refine xr_aload_n 1 C rfl rfl dL_law_771 ?_
        refine xr_V (v := a1) [] [] (fun r => some (.int r)) (fun r => .int r :: []) C E xi_0_SlatCrates (fun r h' e => wk_X0_restore e) q2133 q2134 q2135 q78 q2136 xh_SlatCrates xd_X0_restore (by decide) (by decide) trivial (Nat.le_of_ble_eq_true rfl) rfl (fun _ => rfl) dL_law_772 (fun r163 h164 E => ?_)
        refine xr_aload_n 2 C rfl rfl dL_law_775 ?_
        refine xr_V (v := a2) [] [.int r163] (fun r => some (.int r)) (fun r => .int r :: [.int r163]) C E xi_2_SlatCratesModel (fun r h' e => wk_X2_restore e) q2491 q2492 q2493 q89 q2494 xh_SlatCratesModel xd_X2_restore (by decide) (by decide) ⟨rfl, trivial⟩ (Nat.le_of_ble_eq_true rfl) rfl (fun _ => rfl) dL_law_776 (fun r165 h166 E => ?_)
        refine xr_icmp_eq 784 C E dL_law_779 (by decide) (fun E => ?_) (fun E => ?_)
        · refine xr_iinc (v := (a3 + 5)) (L2 := [(3, .int (a3 + 5)), (0, va_rf a0), (1, va_rf a1), (2, va_rf a2)]) 3 C rfl rfl rfl dL_law_784 (by decide) ?_
          refine xr_goto 18 C dL_law_787 (by decide) ?_
          refine xr_sub [1, 2, 3, 0] rfl ?_
          exact hkb18 (a3 + 5) h166 E
        · refine xr_iconst (0) C (by decide) dL_law_782 ?_
          cases E
      rw [if_neg s23] at E
      refine xr_tswd 784 C dL_law_32 (by have t0 := lv_neT s0 (a := 0) rfl; have t1 := lv_neT s1 (a := 1) rfl; have t2 := lv_neT s2 (a := 2) rfl; have t3 := lv_neT s3 (a := 3) rfl; have t4 := lv_neT s4 (a := 4) rfl; have t5 := lv_neT s5 (a := 5) rfl; have t6 := lv_neT s6 (a := 6) rfl; have t7 := lv_neT s7 (a := 7) rfl; have t8 := lv_neT s8 (a := 8) rfl; have t9 := lv_neT s9 (a := 9) rfl; have t10 := lv_neT s10 (a := 10) rfl; have t11 := lv_neT s11 (a := 11) rfl; have t12 := lv_neT s12 (a := 12) rfl; have t13 := lv_neT s13 (a := 13) rfl; have t14 := lv_neT s14 (a := 14) rfl; have t15 := lv_neT s15 (a := 15) rfl; have t16 := lv_neT s16 (a := 16) rfl; have t17 := lv_neT s17 (a := 17) rfl; have t18 := lv_neT s18 (a := 18) rfl; have t19 := lv_neT s19 (a := 19) rfl; have t20 := lv_neT s20 (a := 20) rfl; have t21 := lv_neT s21 (a := 21) rfl; have t22 := lv_neT s22 (a := 22) rfl; have t23 := lv_neT s23 (a := 23) rfl; omega) (by decide) ?_
      refine xr_iinc (v := (a3 + 5)) (L2 := [(3, .int (a3 + 5)), (0, va_rf a0), (1, va_rf a1), (2, va_rf a2)]) 3 C rfl rfl rfl dL_law_784 (by decide) ?_
      refine xr_goto 18 C dL_law_787 (by decide) ?_
      refine xr_sub [1, 2, 3, 0] rfl ?_
      exact hkb18 (a3 + 5) h0 E
def mf_L_law (a0 : Option Nat) (h0 : xk_H) : Option (Unit × xk_H) :=
  xm_new 0 [.null, .null, .null, .null] h0 fun b1 h2 => xm_cl (mf_X0_init b1 h2) fun r3 h4 => xm_new 2 [.null, .null, .null, .int 0, .null, .int 0, .null, .int 0, .int 0, .int 0, .null, .int 0, .null, .int 0, .null, .int 0, .null, .null, .null] h4 fun b5 h6 => xm_cl (mf_X2_init b5 h6) fun r7 h8 => mf_L_law_L18 a0 (some b1) (some b5) xk_fu (0 : Int32) h8
set_option maxHeartbeats 1000000 in
theorem wk_L_law {Γ : xk_C} {r : Unit} {h' : xk_H} {nm : String} {a0 : Option Nat} {h0 : xk_H} (C : xk_Cx Γ RL cL_law 8 (Option.some FieldType.boolean) nm 41 1059) (Z : ∀ (L : List (Nat × Value)) (h : xk_H) (pc : Nat), decode cL_law pc = .ok (.ireturn, 1) → xk_X Γ pc L [.int 1] h) (E : mf_L_law a0 h0 = some (r, h')) : xk_X Γ 0 [(0, va_rf a0)] [] h0 := by
  rw [mf_L_law] at E
  refine xr_new (t := 0) (C0 := "SlatCrates") (n := 4) C E (by decide) xn_X0 (fun r hr => by cases hr; exact ⟨rfl, rfl⟩) q128 q129 q78 dL_law_0 (fun b1 h2 E => ?_)
  refine xr_dup C (xk_crf _) dL_law_3 ?_
  refine xr_I (b := b1) [] [va_rf (some b1)] (fun _ => none) (fun _ => [va_rf (some b1)]) C E (fun r h' e => wk_X0_init e) q130 q131 q78 q132 xh_SlatCrates rfl xd_X0_init (by decide) (by decide) ⟨xk_crf _, trivial⟩ (Nat.le_of_ble_eq_true rfl) rfl (fun _ => rfl) dL_law_4 (fun r3 h4 E => ?_)
  refine xr_astore_n (L2 := [(1, va_rf (some b1)), (0, va_rf a0)]) C rfl rfl dL_law_7 (by decide) ?_
  refine xr_new (t := 2) (C0 := "SlatCratesModel") (n := 19) C E (by decide) xn_X2 (fun r hr => by cases hr; exact ⟨rfl, rfl⟩) q2137 q2138 q89 dL_law_8 (fun b5 h6 E => ?_)
  refine xr_dup C (xk_crf _) dL_law_11 ?_
  refine xr_I (b := b5) [] [va_rf (some b5)] (fun _ => none) (fun _ => [va_rf (some b5)]) C E (fun r h' e => wk_X2_init e) q2139 q2140 q89 q2141 xh_SlatCratesModel rfl xd_X2_init (by decide) (by decide) ⟨xk_crf _, trivial⟩ (Nat.le_of_ble_eq_true rfl) rfl (fun _ => rfl) dL_law_12 (fun r7 h8 E => ?_)
  refine xr_astore_n (L2 := [(2, va_rf (some b5)), (1, va_rf (some b1)), (0, va_rf a0)]) C rfl rfl dL_law_15 (by decide) ?_
  refine xr_iconst (0) C (by decide) dL_law_16 ?_
  refine xr_istore_n (L2 := [(3, .int (0 : Int32)), (2, va_rf (some b5)), (1, va_rf (some b1)), (0, va_rf a0)]) C rfl rfl dL_law_17 (by decide) ?_
  refine xr_sub [3, 2, 1, 0] rfl ?_
  exact wk_L_law_L18 (a0 := a0) (a1 := (some b1)) (a2 := (some b5)) C Z xk_fu (0 : Int32) h8 E
