/-! PURE LAW, the class's whole state in the heap -/
set_option maxRecDepth 10000
section
variable {w w' : Nat → Nat × Nat} {K : KD} {h h' : xk_H} {L : LD} {y : YD} {x cr : Nat} {S : SD} {Q : Nat → Prop}
theorem LA.wq {l e : Nat} {o : Nat × Nat} {xs : List Nat} {m : Int32} (F : Fs h) (A : LA w K h l o xs m e) (q : ∀ a, a < h.2.2.1 → w a = o → w' a = o) : LA w' K h l o xs m e := by
  refine ⟨A.1, q _ (F.lt A.1 (by simp)) A.2.1, ?_⟩
  rcases A.2.2 with r | ⟨t, r, s, u⟩
  · exact Or.inl r
  · exact Or.inr ⟨t, r, q _ (F.lt r (by simp)) s, u⟩
theorem CA.wq {o : Nat × Nat} {a b p : Nat} {f : Nat → Int} {l : List Int} {js : List Nat} (F : Fs h) (C : CA w K h o a b p f l js) (q : ∀ a, a < h.2.2.1 → w a = o → w' a = o) (q0 : ∀ a, a < h.2.2.1 → (w a).1 = 0 → (w' a).1 = 0) : CA w' K h o a b p f l js := by
  obtain ⟨c1, c2, ⟨c3, c4⟩, m, e, c5⟩ := C
  exact ⟨c1, q _ (F.lt c1 (by simp)) c2, ⟨c3, q0 _ (F.lt c3 (by simp)) c4⟩, m, e, c5.wq F q⟩
theorem YA.wq (F : Fs h) (Y : YA w K h L y) (q : ∀ a, a < h.2.2.1 → (w a).1 = Ly L + 2 ∨ (w a).1 = 0 → w' a = w a) : YA w' K h L y := by
  obtain ⟨y1, y2, ⟨m, e, y3⟩, y4⟩ := Y
  have qq : ∀ k, ∀ a, a < h.2.2.1 → w a = (Ly L + 2, k) → w' a = (Ly L + 2, k) := fun k a l z => (q a l (Or.inl (by rw [z]))).trans z
  exact ⟨y1, qq 0 _ (F.lt y1 (by simp)) y2, ⟨m, e, y3.wq F (qq 0)⟩, fun k hk => (y4 k hk).wq F (qq (k + 1)) fun a l z => by rw [q a l (Or.inr z)]; exact z⟩
theorem CA.both {o : Nat × Nat} {a b p : Nat} {f : Nat → Int} {l : List Int} {js : List Nat} (F : Fs h) (C : CA w K h o a b p f l js) (x : Fx Q cr h h') (q : ∀ a, Q a → w a ≠ o ∧ (w a).1 ≠ 0) (v : ∀ a, a < h.2.2.1 → w a = o → w' a = o) (v0 : ∀ a, a < h.2.2.1 → (w a).1 = 0 → (w' a).1 = 0) : CA w' K h' o a b p f l js := by
  obtain ⟨c1, c2, ⟨c3, c4⟩, m, e, c5⟩ := C
  refine ⟨x.get F c1 (by simp) (Or.inr fun z => (q _ z).1 c2), v _ (F.lt c1 (by simp)) c2, ⟨x.get F c3 (by simp) (Or.inr fun z => (q _ z).2 c4), v0 _ (F.lt c3 (by simp)) c4⟩, m, e, (c5.wq F v).fx F x (fun z => (q _ z).1 c5.2.1) fun z1 z => ?_⟩
  rcases c5.2.2 with ⟨r1, r2⟩ | ⟨t, r1, r2, _⟩
  · exact z1.elim (fun s => s r1) (fun s => s r2)
  · exact (q _ z).1 r2
theorem YA.both (F : Fs h) (Y : YA w K h L y) (x : Fx Q cr h h') (q : ∀ a, Q a → (w a).1 ≠ Ly L + 2 ∧ (w a).1 ≠ 0) (v : ∀ a, a < h.2.2.1 → (w a).1 = Ly L + 2 ∨ (w a).1 = 0 → w' a = w a) : YA w' K h' L y := by
  obtain ⟨y1, y2, ⟨m, e, y3⟩, y4⟩ := Y
  have qq : ∀ k, ∀ a, a < h.2.2.1 → w a = (Ly L + 2, k) → w' a = (Ly L + 2, k) := fun k a l z => (v a l (Or.inl (by rw [z]))).trans z
  refine ⟨x.get F y1 (by simp) (Or.inr fun z => (q _ z).1 (by rw [y2])), qq 0 _ (F.lt y1 (by simp)) y2, ⟨m, e, (y3.wq F (qq 0)).fx F x (fun z => (q _ z).1 (by rw [y3.2.1])) fun z1 z => ?_⟩, fun k hk => (y4 k hk).both F x (fun a z => ⟨fun r => (q a z).1 (by rw [r]), (q a z).2⟩) (qq (k + 1)) fun a l z => by rw [v a l (Or.inr z)]; exact z⟩
  rcases y3.2.2 with ⟨r1, r2⟩ | ⟨t, r1, r2, _⟩
  · exact z1.elim (fun s => s r1) (fun s => s r2)
  · exact (q _ z).1 (by rw [r2])
/-- at x lies a SlatCrates that stands for S -/
def CS (w : Nat → Nat × Nat) (K : KD) (h : xk_H) (x : Nat) (S : SD) : Prop := ∃ (L : LD) (hl pb pv cap : Nat) (kr : Option Nat) (Hs : Nat → LD) (Lk : LD),
  h.1 x = (0, [.ref (Ly L), .ref hl, va_rf kr, .ref pb]) ∧ w x = (1, 3) ∧ YA w K h L S.1 ∧ LL w h hl S.2.1.length (fun i => Ly (Hs i)) ∧
  (∀ i y', S.2.1[i]? = some y' → YA w K h (Hs i) y' ∧ Ly (Hs i) ≠ Ly L ∧ (∀ j, j < i → Ly (Hs j) ≠ Ly (Hs i)) ∧ kr ≠ some (Ly (Hs i))) ∧
  (∀ y', S.2.2.1 = some y' → kr = some (Ly Lk) ∧ YA w K h Lk y' ∧ Ly Lk ≠ Ly L) ∧ (S.2.2.1 = none → kr = none) ∧
  SB h pb pv S.2.2.2 cap ∧ w pb = (1, 2) ∧ w pv = (1, 2) ∧ cap ≤ 162
/-- what an operation of the class makes -/
def CR (w : Nat → Nat × Nat) (K : KD) (h : xk_H) (x c : Nat) (S' : SD) (h' : xk_H) (w' : Nat → Nat × Nat) : Prop := Fx (fun a => w a ≠ (1, 9) ∧ (w a).1 ≠ 0) c h h' ∧ (∀ a, a < h.2.2.1 → w a = (1, 9) ∨ (w a).1 = 0 → w' a = w a) ∧ CS w' K h' x S'
theorem CS.both (F : Fs h) (C : CS w K h x S) (X : Fx Q cr h h') (q : ∀ a, Q a → w a = (1, 9)) (W : Wx h w w') : CS w' K h' x S := by
  obtain ⟨L, hl, pb, pv, cap, kr, Hs, Lk, c1, c2, c3, c4, c5, c6, c7, c8, c9, c10, c11⟩ := C
  have yq : ∀ (M : LD) a, Q a → (w a).1 ≠ Ly M + 2 ∧ (w a).1 ≠ 0 := fun M a z => by
    rw [q a z]
    exact ⟨by simp only []; omega, by simp⟩
  have yy : ∀ (M : LD) (y' : YD), YA w K h M y' → YA w' K h' M y' := fun M y' A => A.both F X (yq M) fun a l _ => W a l
  have sb : w' pb = (1, 2) ∧ w' pv = (1, 2) := by
    obtain ⟨mb, t, s1, s2, _⟩ := c8
    exact ⟨(W _ (F.lt s1 (by simp))).trans c9, (W _ (F.lt s2 (by simp))).trans c10⟩
  exact ⟨L, hl, pb, pv, cap, kr, Hs, Lk, X.get F c1 (by simp) (Or.inr fun z => by rw [q _ z] at c2; simp at c2), (W _ (F.lt c1 (by simp))).trans c2, yy L _ c3, c4.both F X (fun a z => by rw [q a z]; simp) fun a l z => (W a l).trans z, fun i y' e => ⟨yy _ _ (c5 i y' e).1, (c5 i y' e).2⟩, fun y' e => ⟨(c6 y' e).1, yy _ _ (c6 y' e).2.1, (c6 y' e).2.2⟩, c7,
    c8.fx F X (fun z => by rw [q _ z] at c9; simp at c9) (fun z => by rw [q _ z] at c10; simp at c10), sb.1, sb.2, c11⟩
theorem CS.fx (F : Fs h) (C : CS w K h x S) (X : Fx Q cr h h') (q : ∀ a, Q a → w a = (1, 9)) : CS w K h' x S := C.both F X q Wx.rfl
/-- the SlatCrates at x has its yard at L -/
def XN (h : xk_H) (x : Nat) (L : LD) : Prop := ∃ o : List Value, h.1 x = (0, o) ∧ o[0]? = some (.ref (Ly L))
theorem XN.ex {c : Nat} (F : Fs h) (A : XN h x L) (X : Ex c h h') : XN h' x L := by
  obtain ⟨o, a, b⟩ := A
  exact ⟨o, X.get F a (by simp) (Or.inr id), b⟩
theorem XN.rd (A : XN h x L) {γ : Type} {κ : Option Nat → Option γ} : xm_gR [0] 0 (some x) h κ = κ (some (Ly L)) := by
  obtain ⟨o, a, b⟩ := A
  exact gR_ok (x := some (Ly L)) a (by simp) b
theorem XN.rc (A : XN h x L) {γ : Type} {κ : Option γ} : xm_rc [0] (some x) h κ = κ := by
  obtain ⟨o, a, b⟩ := A
  exact rc_ok a (by simp)
/-- what the questions see -/
theorem CS.now (F : Fs h) (C : CS w K h x S) : ∃ L, XN h x L ∧ (∀ {γ : Type} {κ : Option Nat → Option γ}, xm_gR [0] 0 (some x) h κ = κ (some (Ly L))) ∧ YA w K h L S.1 ∧
    ∀ {h' : xk_H} {w' : Nat → Nat × Nat} {L' : LD} {z : YD} {c : Nat}, Fx (Own w L) c h h' → Wo w L h w' → Ly L' = Ly L → YA w' K h' L' z → CR w K h x c (z, S.2) h' w' := by
  obtain ⟨L, hl, pb, pv, cap, kr, Hs, Lk, c1, c2, c3, c4, c5, c6, c7, c8, c9, c10, c11⟩ := C
  refine ⟨L, ⟨_, c1, rfl⟩, gR_ok (x := some (Ly L)) c1 (by simp) rfl, c3, fun {h' w' L' z c} X W e Y => ?_⟩
  have yq : ∀ (M : LD), Ly M ≠ Ly L → ∀ a, Own w L a → (w a).1 ≠ Ly M + 2 ∧ (w a).1 ≠ 0 := fun M ne a z => by
    have z : (w a).1 = Ly L + 2 := z
    rw [z]; omega
  have no : ∀ {a o}, w a = (1, o) → ¬ Own w L a := fun {a o} q z => by
    have z : (w a).1 = Ly L + 2 := z
    rw [q] at z; simp only [] at z; omega
  have wk : ∀ {a o} {p : xk_O}, h.1 a = p → p.1 ≠ 999 → w a = (1, o) → w' a = (1, o) := fun {a o p} q t r => (W a (F.lt q t) (by rw [r]; simp only []; omega)).trans r
  have wy : ∀ (M : LD) (y' : YD), Ly M ≠ Ly L → YA w K h M y' → YA w' K h' M y' := fun M y' ne A => A.both F X (yq M ne) fun a l z => W a l (by omega)
  have wp : w' pb = (1, 2) ∧ w' pv = (1, 2) := by
    obtain ⟨mb, t, s1, s2, _⟩ := c8
    exact ⟨wk s1 (by simp) c9, wk s2 (by simp) c10⟩
  refine ⟨X.mono (fun a z => ⟨fun q => no q z, by have z : (w a).1 = Ly L + 2 := z; rw [z]; omega⟩) (Nat.le_refl _), fun a l q => W a l (by rcases q with q | q; (rw [q]; simp only []; omega); (rw [q]; omega)), L', hl, pb, pv, cap, kr, Hs, Lk, ?_, wk c1 (by simp) c2, Y, c4.both F X (fun a z q => no q z) fun a l q => (W a l (by rw [q]; simp only []; omega)).trans q, fun i y' q => ?_, fun y' q => ?_, c7, c8.fx F X (no c9) (no c10), wp.1, wp.2, c11⟩
  · rw [e]; exact X.get F c1 (by simp) (Or.inr (no c2))
  · rw [e]; exact ⟨wy _ _ (c5 i y' q).2.1 (c5 i y' q).1, (c5 i y' q).2⟩
  · rw [e]; exact ⟨(c6 y' q).1, wy _ _ (c6 y' q).2.2 (c6 y' q).2.1, (c6 y' q).2.2⟩
/-- the pad alone changes -/
theorem CS.pad (F : Fs h) (C : CS w K h x S) : ∃ pb pv cap, (∀ {γ : Type} {κ : Option Nat → Option γ}, xm_gR [0] 3 (some x) h κ = κ (some pb)) ∧ SB h pb pv S.2.2.2 cap ∧ cap ≤ 162 ∧
    ∀ {h' : xk_H} {v' c cap' : Nat} {cs : List Int}, Fx (fun b => b = pb ∨ b = pv) c h h' → SB h' pb v' cs cap' → cap' ≤ 162 → (v' = pv ∨ h.2.2.1 ≤ v') → CR w K h x c (S.1, S.2.1, S.2.2.1, cs) h' (wN w h (1, 2)) ∧ ∀ {γ : Type} {κ : Option Nat → Option γ}, xm_gR [0] 3 (some x) h' κ = κ (some pb) := by
  obtain ⟨L, hl, pb, pv, cap, kr, Hs, Lk, c1, c2, c3, c4, c5, c6, c7, c8, c9, c10, c11⟩ := C
  refine ⟨pb, pv, cap, gR_ok (x := some pb) c1 (by simp) rfl, c8, c11, fun {h' v' c cap' cs} X B cc vv => ?_⟩
  have W : Wx h w (wN w h (1, 2)) := wN_x _ _ _
  have q : ∀ a, (a = pb ∨ a = pv) → w a = (1, 2) := fun a z => by rcases z with rfl | rfl; exact c9; exact c10
  have yq : ∀ (M : LD) a, (a = pb ∨ a = pv) → (w a).1 ≠ Ly M + 2 ∧ (w a).1 ≠ 0 := fun M a z => by
    rw [q a z]; exact ⟨by simp only []; omega, by simp⟩
  have yy : ∀ (M : LD) (y' : YD), YA w K h M y' → YA (wN w h (1, 2)) K h' M y' := fun M y' A => A.both F X (yq M) fun a l _ => W a l
  have nx : ∀ a, w a = (1, 3) → ¬ (a = pb ∨ a = pv) := fun a r z => by rw [q a z] at r; simp at r
  have e1 := X.get F c1 (by simp) (Or.inr (nx _ c2))
  refine ⟨⟨X.mono (fun a z => ⟨fun r => by rw [q a z] at r; simp at r, by rw [q a z]; simp⟩) (Nat.le_refl _), fun a l r => W a l, L, hl, pb, v', cap', kr, Hs, Lk, e1, (W _ (F.lt c1 (by simp))).trans c2, yy L _ c3, c4.both F X (fun a z => by rw [q a z]; simp) fun a l z => (W a l).trans z, fun i y' e => ⟨yy _ _ (c5 i y' e).1, (c5 i y' e).2⟩, fun y' e => ⟨(c6 y' e).1, yy _ _ (c6 y' e).2.1, (c6 y' e).2.2⟩, c7, B, ?_, ?_, cc⟩, gR_ok (x := some pb) e1 (by simp) rfl⟩
  · obtain ⟨mb, t, s1, s2, _⟩ := c8
    exact (W _ (F.lt s1 (by simp))).trans c9
  · rcases vv with rfl | vv
    · obtain ⟨mb, t, s1, s2, _⟩ := c8
      exact (W _ (F.lt s2 (by simp))).trans c10
    · exact wN_n vv
end
