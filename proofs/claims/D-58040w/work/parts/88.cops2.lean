/-! PURE LAW, the class's operations: append, clear, undo, save, restore -/
set_option maxRecDepth 10000
section
variable {w w' : Nat → Nat × Nat} {K : KD} {h h' : xk_H} {L : LD} {y : YD} {x : Nat} {S : SD}
theorem C_appendO (G : Gd K h) (C : CS w K h x S) (O : SOk S) (cr : 18000 ≤ h.2.2.2) {c : Int} (c1 : -2147483648 ≤ c) (c2 : c ≤ 2147483647) : ∃ h' w', mf_X0_append (some x) (zI c) h = some (zI (oAppend S c).1, h') ∧ CR w K h x 18000 (oAppend S c).2 h' w' := by
  have R0 : CR w K h x 18000 S h w := ⟨(Fx.rfl G.fs).le (by omega), fun _ _ _ => rfl, C⟩
  have pl : S.2.2.2.length ≤ 80 := O.2.2.2.2.1
  obtain ⟨pb, pv, cap, rd, B, cc, RR⟩ := C.pad G.fs
  unfold mf_X0_append oAppend
  rw [show (33 : Int32) = zI 33 by decide, show (126 : Int32) = zI 126 by decide, C_in h c1 c2 (by omega) (by omega) (by omega) (by omega), cl_some]
  by_cases q1 : 33 ≤ c ∧ c ≤ 126
  case neg => rw [decide_eq_false q1, if_pos (by decide), if_neg q1]; exact ⟨h, w, rfl, R0⟩
  rw [decide_eq_true q1, if_neg (by decide), if_pos q1, rd, B.rc, C_slen B, cl_some]
  by_cases q2 : S.2.2.2.length = 80
  · rw [if_pos (by rw [q2]; rfl), if_pos q2]; exact ⟨h, w, rfl, R0⟩
  · obtain ⟨h1, v1, cap1, a1, X1, B1, n1, n2, n3⟩ := C_append G.fs B (M := 80) (by omega) (by omega) (by omega) (by omega) (x := c) (by omega) (by omega)
    obtain ⟨R1, rd1⟩ := RR X1 B1 (by omega) n3
    refine ⟨h1, _, ?_, by rw [if_neg q2]; exact R1.le (by omega)⟩
    rw [if_neg (show ¬ zI S.2.2.2.length = (80 : Int32) by rw [show (80 : Int32) = zI 80 by decide, zI_inj (by omega) (by omega) (by omega) (by omega)]; omega), if_neg q2, rd, B.rc, (byte_ok (x := c) (by omega) (by omega)).2.2.2.2, a1, cl_some, rd1, B1.rc, C_slen B1, cl_some, List.length_append]
    rfl
theorem C_clearO (G : Gd K h) (C : CS w K h x S) (O : SOk S) : ∃ h' w', mf_X0_clear (some x) h = some (zI (oClear S).1, h') ∧ CR w K h x 18000 (oClear S).2 h' w' := by
  obtain ⟨pb, pv, cap, rd, B, cc, RR⟩ := C.pad G.fs
  obtain ⟨h1, a1, X1, B1⟩ := C_clear G.fs B
  obtain ⟨R1, rd1⟩ := RR (X1.mono (fun _ => Or.inl) (Nat.le_refl _)) B1 cc (Or.inl rfl)
  refine ⟨h1, _, ?_, R1.le (by omega)⟩
  unfold mf_X0_clear
  rw [rd, B.rc, C_slen B, cl_some, rd, B.rc, show (0 : Int32) = zI 0 from rfl, a1, cl_some]; rfl
theorem C_undo (G : Gd K h) (C : CS w K h x S) (O : SOk S) : ∃ h' w', mf_X0_undo (some x) h = some (zI (oUndo S).1, h') ∧ CR w K h x 18000 (oUndo S).2 h' w' := by
  have F := G.fs
  have R0 : CR w K h x 18000 S h w := ⟨(Fx.rfl G.fs).le (by omega), fun _ _ _ => rfl, C⟩
  obtain ⟨L, hl, pb, pv, cap, kr, Hs, Lk, c1, c2, c3, c4, c5, c6, c7, c8, c9, c10, c11⟩ := C
  have n4 := c4.n4
  unfold mf_X0_undo oUndo
  rw [gR_ok (x := some hl) c1 (by simp) rfl, c4.rc, L_isEmpty c4, cl_some]
  cases hg : S.2.1.getLast? with
  | none =>
    have e0 : S.2.1 = [] := List.getLast?_eq_none_iff.1 hg
    rw [decide_eq_true (by rw [e0]; rfl), if_neg (by decide)]
    exact ⟨h, w, rfl, R0⟩
  | some d =>
    obtain ⟨gl, n0⟩ := getLast_get hg
    rw [decide_eq_false (by omega), if_pos (by decide), gR_ok (x := some hl) c1 (by simp) rfl, c4.rc]
    obtain ⟨h1, a1, x1, A1⟩ := L_removeLast F c4 n0
    obtain ⟨d1, d2, d3, d4⟩ := c5 _ d gl
    have yq : ∀ (M : LD) a, w a = (1, 1) → (w a).1 ≠ Ly M + 2 ∧ (w a).1 ≠ 0 := fun M a z => by
      rw [z]; exact ⟨by simp only []; omega, by simp⟩
    have D1 := d1.fx F x1 (yq _)
    have e1 : h1.1 x = (0, [.ref (Ly L), .ref hl, va_rf kr, .ref pb]) := x1.get F c1 (by simp) (Or.inr fun z => by rw [c2] at z; simp at z)
    let M := Hs (S.2.1.length - 1)
    let h2 := xk_set h1 x (0, [.ref (Ly M), .ref hl, va_rf kr, .ref pb])
    have x2 : Fx (fun a => a = x) 0 h1 h2 := (Fx.rfl (Q := fun a => a = x) x1.fs).set' e1 (by simp) fun _ => rfl
    have e2 : h2.1 x = (0, [.ref (Ly M), .ref hl, va_rf kr, .ref pb]) := if_pos rfl
    have xq : ∀ (M : LD) a, a = x → (w a).1 ≠ Ly M + 2 ∧ (w a).1 ≠ 0 := fun M a z => by
      subst z; rw [c2]; exact ⟨by simp only []; omega, by simp⟩
    have yy : ∀ (M : LD) (y' : YD), YA w K h M y' → YA w K h2 M y' := fun M y' A => (A.fx F x1 (yq M)).fx x1.fs x2 (xq M)
    have A2 : LL w h2 hl (S.2.1.length - 1) (fun i => Ly (Hs i)) := A1.fx x1.fs x2 fun a z => by subst z; rw [c2]; simp
    refine ⟨h2, w, ?_, ((x1.mono (R := fun a => w a ≠ (1, 9) ∧ (w a).1 ≠ 0) (fun a z => by rw [z]; simp) (Nat.le_refl _)).trans (x2.mono (R := fun a => w a ≠ (1, 9) ∧ (w a).1 ≠ 0) (fun a z => by subst z; rw [c2]; simp) (Nat.le_refl _))).le (by omega), fun _ _ _ => rfl, M, hl, pb, pv, cap, kr, Hs, Lk, e2, c2, yy M d d1, ?_, fun i y' e => ?_, fun y' e => ?_, c7, (c8.fx F x1 (fun z => by rw [c9] at z; simp at z) (fun z => by rw [c10] at z; simp at z)).fx x1.fs x2 (fun z => by subst z; rw [c2] at c9; simp at c9) (fun z => by subst z; rw [c2] at c10; simp at c10), c9, c10, c11⟩
    · rw [a1, cl_some, cast_ok D1.1 (by simp), pV_w (vs' := [.ref (Ly M), .ref hl, va_rf kr, .ref pb]) e1 (by simp) rfl]
      show xm_gR [0] 1 (some x) h2 _ = _
      rw [gR_ok (x := some hl) e2 (by simp) rfl, A2.rc, L_size A2, cl_some]
      exact congrArg (fun z => some (zI z, h2)) (by show ((S.2.1.length - 1 : Nat) : Int) = (S.2.1.length : Int) - 1; omega)
    · show LL w h2 hl S.2.1.dropLast.length _
      rw [List.length_dropLast]; exact A2
    · have e : S.2.1.dropLast[i]? = some y' := e
      have hi : i < S.2.1.length - 1 := by have := (List.getElem?_eq_some_iff.1 e).1; rw [List.length_dropLast] at this; exact this
      have e : S.2.1[i]? = some y' := by
        rw [List.getElem?_dropLast, if_pos hi] at e; exact e
      obtain ⟨f1, f2, f3, f4⟩ := c5 i y' e
      exact ⟨yy _ _ f1, d3 i hi, f3, f4⟩
    · obtain ⟨f1, f2, f3⟩ := c6 y' e
      exact ⟨f1, yy _ _ f2, fun q => d4 (by rw [f1, q])⟩
theorem C_save (G : Gd K h) (C : CS w K h x S) (O : SOk S) (cr : 18000 ≤ h.2.2.2) : ∃ h' w', mf_X0_save (some x) h = some (zI (oSave S).1, h') ∧ CR w K h x 18000 (oSave S).2 h' w' := by
  have F := G.fs
  obtain ⟨L, hl, pb, pv, cap, kr, Hs, Lk, c1, c2, c3, c4, c5, c6, c7, c8, c9, c10, c11⟩ := C
  obtain ⟨h1, w1, M, a1, x1, W1, Y1, nM, _⟩ := Y_copy G c3 O.1 (by omega)
  have e1 : h1.1 x = (0, [.ref (Ly L), .ref hl, va_rf kr, .ref pb]) := x1.get F c1 (by simp) (Or.inr id)
  have lx : x < h.2.2.1 := F.lt c1 (by simp)
  have w1x : w1 x = (1, 3) := (W1 x lx).trans c2
  let h2 := xk_set h1 x (0, [.ref (Ly L), .ref hl, .ref (Ly M), .ref pb])
  have x2 : Fx (fun a => a = x) 0 h1 h2 := (Fx.rfl (Q := fun a => a = x) x1.fs).set' e1 (by simp) fun _ => rfl
  have e2 : h2.1 x = (0, [.ref (Ly L), .ref hl, .ref (Ly M), .ref pb]) := if_pos rfl
  have xq : ∀ (M : LD) a, a = x → (w1 a).1 ≠ Ly M + 2 ∧ (w1 a).1 ≠ 0 := fun M a z => by
    subst z; rw [w1x]; exact ⟨by simp only []; omega, by simp⟩
  have yy : ∀ (M : LD) (y' : YD), YA w K h M y' → YA w1 K h2 M y' := fun M y' A => ((A.wx F W1).ex F x1).fx x1.fs x2 (xq M)
  have nl : ∀ N : LD, (∃ y', YA w K h N y') → Ly N ≠ Ly M := fun N ⟨y', A⟩ e => by
    have := F.lt A.1 (by simp)
    omega
  have Y2 := yy L _ c3
  have sb : w1 pb = (1, 2) ∧ w1 pv = (1, 2) := by
    obtain ⟨mb, t, s1, s2, _⟩ := c8
    exact ⟨(W1 _ (F.lt s1 (by simp))).trans c9, (W1 _ (F.lt s2 (by simp))).trans c10⟩
  refine ⟨h2, w1, ?_, ((x1.mono (R := fun a => w a ≠ (1, 9) ∧ (w a).1 ≠ 0) (fun a z => z.elim) (Nat.le_refl _)).andthen x2 (fun a l z => by subst z; rw [c2]; simp)).le (by omega), fun a l q => W1 a l, L, hl, pb, pv, cap, some (Ly M), Hs, M, e2, w1x, Y2, ?_, fun i y' e => ?_, fun y' e => ?_, ?_, (c8.fx F x1 id id).fx x1.fs x2 (fun z => by subst z; rw [c2] at c9; simp at c9) (fun z => by subst z; rw [c2] at c10; simp at c10), sb.1, sb.2, c11⟩
  · unfold mf_X0_save
    rw [gR_ok (x := some (Ly L)) c1 (by simp) rfl, Y_rc c3, a1, cl_some, pV_w (vs' := [.ref (Ly L), .ref hl, .ref (Ly M), .ref pb]) e1 (by simp) rfl]
    show xm_gR [0] 0 (some x) h2 _ = _
    rw [gR_ok (x := some (Ly L)) e2 (by simp) rfl, Y_rc Y2, Y_size Y2, cl_some]
    rfl
  · exact (c4.both F x1 (fun _ q => q.elim) fun a l z => (W1 a l).trans z).fx x1.fs x2 fun a z => by subst z; rw [w1x]; simp
  · obtain ⟨f1, f2, f3, f4⟩ := c5 i y' e
    exact ⟨yy _ _ f1, f2, f3, fun q => nl _ ⟨_, f1⟩ (Option.some.inj q).symm⟩
  · have : y' = S.1 := (Option.some.inj e).symm
    subst this
    exact ⟨rfl, Y1.fx x1.fs x2 (xq M), (nl L ⟨_, c3⟩).symm⟩
  · intro e; cases e
theorem C_restore (G : Gd K h) (C : CS w K h x S) (O : SOk S) (cr : 18000 ≤ h.2.2.2) : ∃ h' w', mf_X0_restore (some x) h = some (zI (oRestore S).1, h') ∧ CR w K h x 18000 (oRestore S).2 h' w' := by
  have R0 : CR w K h x 18000 S h w := ⟨(Fx.rfl G.fs).le (by omega), fun _ _ _ => rfl, C⟩
  unfold mf_X0_restore oRestore
  cases hk : S.2.2.1 with
  | none =>
    obtain ⟨L, hl, pb, pv, cap, kr, Hs, Lk, c1, c2, c3, c4, c5, c6, c7, c8, c9, c10, c11⟩ := C
    rw [gR_ok (x := kr) c1 (by simp) rfl, if_pos (c7 hk)]
    exact ⟨h, w, rfl, R0⟩
  | some d =>
    have rd0 : ∃ a, ∀ {γ : Type} {κ : Option Nat → Option γ}, xm_gR [0] 2 (some x) h κ = κ (some a) := by
      obtain ⟨L, hl, pb, pv, cap, kr, Hs, Lk, c1, c2, c3, c4, c5, c6, c7, c8, c9, c10, c11⟩ := C
      obtain ⟨f1, _⟩ := c6 d hk
      exact ⟨Ly Lk, by rw [f1] at c1; exact gR_ok (x := some (Ly Lk)) c1 (by simp) rfl⟩
    obtain ⟨a0, rd0⟩ := rd0
    obtain ⟨h1, w1, a1, R1⟩ := C_records G C O (by omega)
    have G1 := G.fx R1.1
    have k1 := R1.1.cr
    rw [rd0, if_neg (by simp), C.rc, a1, cl_some]
    obtain ⟨R11, R12, R13⟩ := R1
    obtain ⟨L, hl, pb, pv, cap, kr, Hs, Lk, c1, c2, c3, c4, c5, c6, c7, c8, c9, c10, c11⟩ := R13
    have F := G1.fs
    obtain ⟨f1, f2, f3⟩ := c6 d hk
    have Od : YOk d := O.2.2.2.1 d hk
    obtain ⟨h2, w2, M, a2, x2, W2, Y2, nM, _⟩ := Y_copy G1 f2 Od (by omega)
    have e2 : h2.1 x = (0, [.ref (Ly L), .ref hl, va_rf kr, .ref pb]) := x2.get F c1 (by simp) (Or.inr id)
    have lx : x < h1.2.2.1 := F.lt c1 (by simp)
    have w2x : w2 x = (1, 3) := (W2 x lx).trans c2
    let h3 := xk_set h2 x (0, [.ref (Ly M), .ref hl, va_rf kr, .ref pb])
    have x3 : Fx (fun a => a = x) 0 h2 h3 := (Fx.rfl (Q := fun a => a = x) x2.fs).set' e2 (by simp) fun _ => rfl
    have e3 : h3.1 x = (0, [.ref (Ly M), .ref hl, va_rf kr, .ref pb]) := if_pos rfl
    have xq : ∀ (M : LD) a, a = x → (w2 a).1 ≠ Ly M + 2 ∧ (w2 a).1 ≠ 0 := fun M a z => by
      subst z; rw [w2x]; exact ⟨by simp only []; omega, by simp⟩
    have yy : ∀ (M : LD) (y' : YD), YA w1 K h1 M y' → YA w2 K h3 M y' := fun M y' A => ((A.wx F W2).ex F x2).fx x2.fs x3 (xq M)
    have nl : ∀ N : LD, (∃ y', YA w1 K h1 N y') → Ly N ≠ Ly M := fun N ⟨y', A⟩ e => by
      have := F.lt A.1 (by simp)
      omega
    have Y3 := Y2.fx x2.fs x3 (xq M)
    have sb : w2 pb = (1, 2) ∧ w2 pv = (1, 2) := by
      obtain ⟨mb, t, s1, s2, _⟩ := c8
      exact ⟨(W2 _ (F.lt s1 (by simp))).trans c9, (W2 _ (F.lt s2 (by simp))).trans c10⟩
    have RR : CR w1 K h1 x 800 (d, hrec S.2.1 S.1, S.2.2) h3 w2 := by
      refine ⟨((x2.mono (R := fun a => w1 a ≠ (1, 9) ∧ (w1 a).1 ≠ 0) (fun a z => z.elim) (Nat.le_refl _)).andthen x3 (fun a l z => by subst z; rw [c2]; simp)).le (by omega), fun a l q => W2 a l, M, hl, pb, pv, cap, kr, Hs, Lk, e3, w2x, Y3, ?_, fun i y' e => ?_, fun y' e => ?_, c7, (c8.fx F x2 id id).fx x2.fs x3 (fun z => by subst z; rw [c2] at c9; simp at c9) (fun z => by subst z; rw [c2] at c10; simp at c10), sb.1, sb.2, c11⟩
      · exact (c4.both F x2 (fun _ q => q.elim) fun a l z => (W2 a l).trans z).fx x2.fs x3 fun a z => by subst z; rw [w2x]; simp
      · obtain ⟨g1, g2, g3, g4⟩ := c5 i y' e
        exact ⟨yy _ _ g1, nl _ ⟨_, g1⟩, g3, g4⟩
      · obtain ⟨g1, g2, g3⟩ := c6 y' e
        exact ⟨g1, yy _ _ g2, nl _ ⟨_, g2⟩⟩
    have RX : CR w K h x 1964 (S.1, hrec S.2.1 S.1, S.2.2) h1 w1 := ⟨R11, R12, L, hl, pb, pv, cap, kr, Hs, Lk, c1, c2, c3, c4, c5, c6, c7, c8, c9, c10, c11⟩
    refine ⟨h3, w2, ?_, (RX.trans RR).le (by omega)⟩
    have c1' := c1
    rw [f1] at c1'
    rw [gR_ok (x := some (Ly Lk)) c1' (by simp) rfl, Y_rc f2, a2, cl_some, pV_w (vs' := [.ref (Ly M), .ref hl, va_rf kr, .ref pb]) e2 (by simp) rfl]
    show xm_gR [0] 0 (some x) h3 _ = _
    rw [gR_ok (x := some (Ly M)) e3 (by simp) rfl, Y_rc Y3, Y_size Y3, cl_some]
end
