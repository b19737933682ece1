/-! PURE LAW, the class's state: recording, the past, the snapshot -/
set_option maxRecDepth 10000
section
variable {w w' : Nat → Nat × Nat} {K : KD} {h h' : xk_H} {L : LD} {y : YD} {x cr c d : Nat} {S S1 S2 : SD} {Q : Nat → Prop}
theorem CR.trans {h1 h2 : xk_H} {w1 w2 : Nat → Nat × Nat} (A : CR w K h x c S1 h1 w1) (B : CR w1 K h1 x d S2 h2 w2) : CR w K h x (c + d) S2 h2 w2 := by
  obtain ⟨a1, a2, a3⟩ := A
  obtain ⟨b1, b2, b3⟩ := B
  exact ⟨a1.andthen b1 fun a l q => ⟨fun r => q.1 ((a2 a l (Or.inl r)).trans r), fun r => q.2 (by rw [a2 a l (Or.inr r)]; exact r)⟩, fun a l q => (b2 a (Nat.lt_of_lt_of_le l a1.2.2.1) (by rw [a2 a l q]; exact q)).trans (a2 a l q), b3⟩
theorem CR.le (A : CR w K h x c S h' w') (l : c ≤ d) : CR w K h x d S h' w' := ⟨A.1.le l, A.2⟩
theorem CR.ex (F : Fs h) (C : CS w K h x S) (X : Ex c h h') : CR w K h x c S h' w :=
  ⟨X.mono (fun _ q => q.elim) (Nat.le_refl _), fun _ _ _ => rfl, C.fx F X fun _ q => q.elim⟩
theorem CS.rc (C : CS w K h x S) {γ : Type} {κ : Option γ} : xm_rc [0] (some x) h κ = κ := by
  obtain ⟨L, hl, pb, pv, cap, kr, Hs, Lk, c1, _⟩ := C
  exact rc_ok c1 (by simp)
/-- the first state is dropped -/
theorem C_dropFirst (F : Fs h) (C : CS w K h x S) (n : 0 < S.2.1.length) : ∃ h' r hl, (∀ {γ : Type} {κ : Option Nat → Option γ}, xm_gR [0] 1 (some x) h κ = κ (some hl)) ∧ (∀ {γ : Type} {κ : Option γ}, xm_rc [7] (some hl) h κ = κ) ∧ mf_J4_size (some hl) h = some (zI S.2.1.length, h) ∧ mf_J4_removeFirst (some hl) h = some (r, h') ∧ CR w K h x 0 (S.1, S.2.1.tail, S.2.2) h' w := by
  obtain ⟨L, hl, pb, pv, cap, kr, Hs, Lk, c1, c2, c3, c4, c5, c6, c7, c8, c9, c10, c11⟩ := C
  obtain ⟨h1, a1, x1, A1⟩ := L_removeFirst F c4 n
  have tl : S.2.1.tail.length = S.2.1.length - 1 := List.length_tail
  have yq : ∀ (M : LD) a, w a = (1, 1) → (w a).1 ≠ Ly M + 2 ∧ (w a).1 ≠ 0 := fun M a z => by
    rw [z]; exact ⟨by simp only []; omega, by simp⟩
  refine ⟨h1, _, hl, gR_ok (x := some hl) c1 (by simp) rfl, c4.rc, L_size c4, a1, x1.mono (fun a z => ⟨fun q => by rw [z] at q; simp at q, by rw [z]; simp⟩) (Nat.le_refl _), fun _ _ _ => rfl, L, hl, pb, pv, cap, kr, fun i => Hs (i + 1), Lk, x1.get F c1 (by simp) (Or.inr fun z => by rw [c2] at z; simp at z), c2, c3.fx F x1 (yq L), by rw [tl]; exact A1, fun i y' e => ?_, fun y' e => ⟨(c6 y' e).1, (c6 y' e).2.1.fx F x1 (yq _), (c6 y' e).2.2⟩, c7, c8.fx F x1 (fun z => by rw [c9] at z; simp at z) (fun z => by rw [c10] at z; simp at z), c9, c10, c11⟩
  have e' : S.2.1[i + 1]? = some y' := by rw [← List.getElem?_tail]; exact e
  obtain ⟨d1, d2, d3, d4⟩ := c5 (i + 1) y' e'
  exact ⟨d1.fx F x1 (yq _), d2, fun j hj => d3 (j + 1) (by omega), d4⟩
/-- a state is added -/
theorem C_rec1 (G : Gd K h) (C : CS w K h x S) (O : YOk S.1) (n : S.2.1.length ≤ 3) (cr : 1964 ≤ h.2.2.2) : ∃ h' w', mf_X0_records_J19 (some x) h = some ((), h') ∧ CR w K h x 1964 (S.1, S.2.1 ++ [S.1], S.2.2) h' w' := by
  obtain ⟨L, hl, pb, pv, cap, kr, Hs, Lk, c1, c2, c3, c4, c5, c6, c7, c8, c9, c10, c11⟩ := C
  have F := G.fs
  obtain ⟨h1, w1, M, a1, x1, W1, Y1, nM, _⟩ := Y_copy G c3 O (by omega)
  have G1 := G.fx x1
  have k1 := x1.cr
  have B4 : LL w1 h1 hl S.2.1.length (fun i => Ly (Hs i)) := c4.both F x1 (fun _ q => q.elim) fun a l q => (W1 a l).trans q
  obtain ⟨h2, a2, x2, A2⟩ := L_addLast (x := Ly M) G1.fs B4 n (by omega)
  have W2 : Wx h1 w1 (wN w1 h1 (1, 1)) := wN_x _ _ _
  have W12 : Wx h w (wN w1 h1 (1, 1)) := W1.trans W2 x1.2.2.1
  have up : ∀ {a o} {p : xk_O}, h.1 a = p → p.1 ≠ 999 → w a = o → wN w1 h1 (1, 1) a = o := fun {a o p} q t r => (W12 a (F.lt q t)).trans r
  have yq : ∀ (M : LD) a, w1 a = (1, 1) → (w1 a).1 ≠ Ly M + 2 ∧ (w1 a).1 ≠ 0 := fun M a z => by
    rw [z]; exact ⟨by simp only []; omega, by simp⟩
  have yy : ∀ (M : LD) (y' : YD), YA w K h M y' → YA (wN w1 h1 (1, 1)) K h2 M y' := fun M y' A => ((A.wx F W1).ex F x1).both G1.fs x2 (yq M) fun a l _ => W2 a l
  have sb : ∃ mb t, h.1 pb = (8, [.ref pv, .int 0, .int mb, .int (zI S.2.2.2.length)]) ∧ h.1 pv = (101, lab (S.2.2.2 ++ t)) := by
    obtain ⟨mb, t, s1, s2, _⟩ := c8
    exact ⟨mb, t, s1, s2⟩
  obtain ⟨mb, t, s1, s2⟩ := sb
  have nl : ∀ N : LD, (∃ y', YA w K h N y') → Ly N ≠ Ly M := fun N ⟨y', A⟩ e => by
    have := F.lt A.1 (by simp)
    omega
  have nkr : ∀ a, kr = some a → a < h.2.2.1 := fun a e => by
    cases hk : S.2.2.1 with
    | none => rw [c7 hk] at e; cases e
    | some y' =>
      obtain ⟨d1, d2, _⟩ := c6 y' hk
      rw [d1] at e; cases e
      exact F.lt d2.1 (by simp)
  have q1 : ∀ {a : Nat} {o : Nat × Nat} {p : xk_O}, h.1 a = p → p.1 ≠ 999 → w a = o → o ≠ (1, 1) → ¬ w1 a = (1, 1) := fun {a o p} q t r ne z => ne (by rw [← r, ← W1 a (F.lt q t), z])
  refine ⟨h2, wN w1 h1 (1, 1), ?_, ?_, fun a l q => W12 a l, L, hl, pb, pv, cap, kr, fun i => if i = S.2.1.length then M else Hs i, Lk, ?_, up c1 (by simp) c2, yy L _ c3, ?_, fun i y' e => ?_, fun y' e => ⟨(c6 y' e).1, yy _ _ (c6 y' e).2.1, (c6 y' e).2.2⟩, c7, (c8.fx F x1 id id).fx G1.fs x2 (q1 s1 (by simp) c9 (by simp)) (q1 s2 (by simp) c10 (by simp)), up s1 (by simp) c9, up s2 (by simp) c10, c11⟩
  · unfold mf_X0_records_J19
    rw [gR_ok (x := some hl) c1 (by simp) rfl, gR_ok (x := some (Ly L)) c1 (by simp) rfl, Y_rc c3, a1, cl_some, B4.rc, a2, cl_some]
  · refine ((x1.mono (R := fun a => w a ≠ (1, 9) ∧ (w a).1 ≠ 0) (fun _ q => q.elim) (Nat.le_refl _)).andthen x2 fun a l q => ?_).le (by omega)
    rw [W1 a l] at q
    rw [q]; simp
  · exact x2.get G1.fs (x1.get F c1 (by simp) (Or.inr id)) (by simp) (Or.inr (q1 c1 (by simp) c2 (by simp)))
  · have : (fun i => if i = S.2.1.length then Ly M else Ly (Hs i)) = fun i => Ly (if i = S.2.1.length then M else Hs i) := funext fun i => by split <;> rfl
    rw [← this]
    show LL _ h2 hl (S.2.1 ++ [S.1]).length _
    rw [List.length_append]; exact A2
  · have e : (S.2.1 ++ [S.1])[i]? = some y' := e
    show YA _ K h2 (if i = S.2.1.length then M else Hs i) y' ∧ Ly (if i = S.2.1.length then M else Hs i) ≠ Ly L ∧ (∀ j, j < i → Ly (if j = S.2.1.length then M else Hs j) ≠ Ly (if i = S.2.1.length then M else Hs i)) ∧ kr ≠ some (Ly (if i = S.2.1.length then M else Hs i))
    by_cases q : i = S.2.1.length
    · have : y' = S.1 := by
        rw [q, List.getElem?_append_right (Nat.le_refl _), Nat.sub_self] at e
        exact (Option.some.inj e).symm
      subst this
      simp only [if_pos q]
      refine ⟨Y1.both G1.fs x2 (yq M) fun a l _ => W2 a l, (nl L ⟨_, c3⟩).symm, fun j hj => ?_, fun e => ?_⟩
      · rw [if_neg (by omega)]
        have hj' : j < S.2.1.length := by omega
        exact nl _ ⟨_, (c5 j _ (List.getElem?_eq_getElem hj')).1⟩
      · have := nkr _ e; omega
    · have hi : i < S.2.1.length := by
        have := (List.getElem?_eq_some_iff.1 e).1
        rw [List.length_append, List.length_singleton] at this; omega
      rw [List.getElem?_append_left hi] at e
      obtain ⟨d1, d2, d3, d4⟩ := c5 i y' e
      simp only [if_neg q]
      exact ⟨yy _ _ d1, d2, fun j hj => by rw [if_neg (by omega)]; exact d3 j hj, d4⟩
theorem C_records (G : Gd K h) (C : CS w K h x S) (O : SOk S) (cr : 1964 ≤ h.2.2.2) : ∃ h' w', mf_X0_records (some x) h = some ((), h') ∧ CR w K h x 1964 (S.1, hrec S.2.1 S.1, S.2.2) h' w' := by
  have F := G.fs
  have O1 : YOk S.1 := O.1
  have n4 : S.2.1.length ≤ 4 := O.2.1
  by_cases q : S.2.1.length = 4
  · obtain ⟨h1, r, hl, b1, b2, b4, b3, R1⟩ := C_dropFirst F C (by omega)
    have G1 := G.fx R1.1
    have k1 := R1.1.cr
    obtain ⟨h2, w2, a2, R2⟩ := C_rec1 G1 R1.2.2 O1 (by show S.2.1.tail.length ≤ 3; rw [List.length_tail]; omega) (by omega)
    refine ⟨h2, w2, ?_, ?_⟩
    · unfold mf_X0_records
      rw [b1, b2, b4, cl_some, if_pos (by rw [q]; rfl), b1, b2, b3, cl_some, a2]
    · have := (R1.trans R2).le (d := 1964) (by omega)
      unfold hrec
      rw [if_pos q]; exact this
  · obtain ⟨h2, w2, a2, R2⟩ := C_rec1 G C O1 (by omega) cr
    have hh : ∃ hl, (∀ {γ : Type} {κ : Option Nat → Option γ}, xm_gR [0] 1 (some x) h κ = κ (some hl)) ∧ (∀ {γ : Type} {κ : Option γ}, xm_rc [7] (some hl) h κ = κ) ∧ mf_J4_size (some hl) h = some (zI S.2.1.length, h) := by
      obtain ⟨L, hl, pb, pv, cap, kr, Hs, Lk, c1, c2, c3, c4, _⟩ := C
      exact ⟨hl, gR_ok (x := some hl) c1 (by simp) rfl, c4.rc, L_size c4⟩
    obtain ⟨hl, b1, b2, b4⟩ := hh
    refine ⟨h2, w2, ?_, ?_⟩
    · unfold mf_X0_records
      rw [b1, b2, b4, cl_some, if_neg (by rw [show (4 : Int32) = zI 4 by decide, zI_inj (by omega) (by omega) (by omega) (by omega)]; omega), a2]
    · unfold hrec
      rw [if_neg q]; exact R2
end
