/-! PURE LAW, the class's side: what changes between two heaps; the JDK's fixed objects; lists -/
set_option maxRecDepth 10000
/-- from h to h' only what Q allows has changed (and never what was there before the run, tags from 200 on); at most c of credit is gone -/
def Fx (Q : Nat → Prop) (c : Nat) (h h' : xk_H) : Prop := (∀ a, a < h.2.2.1 → (200 ≤ (h.1 a).1 ∨ ¬ Q a) → h'.1 a = h.1 a) ∧ h'.2.1 = h.2.1 ∧ h.2.2.1 ≤ h'.2.2.1 ∧ (∀ a, h'.2.2.1 ≤ a → (h'.1 a).1 = 999) ∧ h.2.2.2 ≤ h'.2.2.2 + c
/-- nothing but new objects -/
abbrev Ex (c : Nat) (h h' : xk_H) : Prop := Fx (fun _ => False) c h h'
def Fs (h : xk_H) : Prop := ∀ a, h.2.2.1 ≤ a → (h.1 a).1 = 999
section
variable {Q R : Nat → Prop} {c d : Nat} {h h1 h2 : xk_H}
theorem Fs.lt (F : Fs h) {a : Nat} {o : xk_O} (e : h.1 a = o) (t : o.1 ≠ 999) : a < h.2.2.1 := by
  rcases Nat.lt_or_ge a h.2.2.1 with l | g
  · exact l
  · have := F a g; rw [e] at this; exact absurd this t
theorem Fx.fs (x : Fx Q c h h1) : Fs h1 := x.2.2.2.1
theorem Fx.rfl (F : Fs h) : Fx Q 0 h h := ⟨fun _ _ _ => _root_.rfl, _root_.rfl, Nat.le_refl _, F, Nat.le_refl _⟩
theorem Fx.trans (x : Fx Q c h h1) (y : Fx Q d h1 h2) : Fx Q (c + d) h h2 := by
  refine ⟨fun a l q => ?_, y.2.1.trans x.2.1, Nat.le_trans x.2.2.1 y.2.2.1, y.2.2.2.1, ?_⟩
  · have e := x.1 a l q
    exact (y.1 a (Nat.lt_of_lt_of_le l x.2.2.1) (by rw [e]; exact q)).trans e
  · have := x.2.2.2.2; have := y.2.2.2.2; omega
theorem Fx.mono (x : Fx Q c h h1) (s : ∀ a, Q a → R a) (l : c ≤ d) : Fx R d h h1 :=
  ⟨fun a b q => x.1 a b (q.imp_right fun n m => n (s a m)), x.2.1, x.2.2.1, x.2.2.2.1, by have := x.2.2.2.2; omega⟩
theorem Fx.le (x : Fx Q c h h1) (l : c ≤ d) : Fx Q d h h1 := x.mono (fun _ => id) l
/-- new objects may change at will later -/
theorem Fx.andthen (x : Fx Q c h h1) (y : Fx R d h1 h2) (s : ∀ a, a < h.2.2.1 → R a → Q a) : Fx Q (c + d) h h2 := by
  refine ⟨fun a l q => ?_, y.2.1.trans x.2.1, Nat.le_trans x.2.2.1 y.2.2.1, y.2.2.2.1, ?_⟩
  · have e := x.1 a l q
    exact (y.1 a (Nat.lt_of_lt_of_le l x.2.2.1) (by rw [e]; exact q.imp_right fun n m => n (s a l m))).trans e
  · have := x.2.2.2.2; have := y.2.2.2.2; omega
theorem Fs.set (F : Fs h) {a : Nat} {o : xk_O} (l : a < h.2.2.1) : Fs (xk_set h a o) := fun b g => by
  have g : h.2.2.1 ≤ b := g
  rw [set_1, if_neg (by omega)]; exact F b g
theorem Fs.push (F : Fs h) (o : xk_O) : Fs (xk_push h o) := fun b g => by
  have g : h.2.2.1 + 1 ≤ b := g
  rw [push_1, if_neg (by omega)]; exact F b (by omega)
theorem Fx.set (F : Fs h) {a : Nat} {o : xk_O} (l : a < h.2.2.1) (q : Q a) (t : (h.1 a).1 < 200) : Fx Q 0 h (xk_set h a o) :=
  ⟨fun b k z => by
    rw [set_1, if_neg]
    rintro rfl
    rcases z with z | z
    · omega
    · exact z q, _root_.rfl, Nat.le_refl _, F.set l, Nat.le_refl _⟩
theorem Fx.push (F : Fs h) (o : xk_O) : Fx Q (o.2.length + 1) h (xk_push h o) :=
  ⟨fun b k z => by rw [push_1, if_neg (by omega)], _root_.rfl, Nat.le_succ _, F.push o, by
    show h.2.2.2 ≤ h.2.2.2 - (o.2.length + 1) + (o.2.length + 1); omega⟩
/-- a step that changes one address after a start: the address is new, or Q allows it -/
theorem Fx.set' (x : Fx Q c h h1) {a : Nat} {o o' : xk_O} (e : h1.1 a = o') (t : o'.1 < 200) (q : a < h.2.2.1 → Q a) : Fx Q c h (xk_set h1 a o) := by
  have y : Fx (fun b => b = a) 0 h1 (xk_set h1 a o) := Fx.set x.fs (x.fs.lt e (by omega)) _root_.rfl (by rw [e]; exact t)
  exact (x.andthen y fun b l m => by subst m; exact q l).le (Nat.le_refl _)
theorem Fx.push' (x : Fx Q c h h1) (o : xk_O) : Fx Q (c + (o.2.length + 1)) h (xk_push h1 o) := x.trans (Fx.push x.fs o)
theorem Fx.get (x : Fx Q c h h1) {a : Nat} {o : xk_O} (F : Fs h) (e : h.1 a = o) (t : o.1 ≠ 999) (q : 200 ≤ o.1 ∨ ¬ Q a) : h1.1 a = o := by
  rw [x.1 a (F.lt e t) (by rw [e]; exact q), e]
theorem Fx.low (x : Fx Q c h h1) : Fx (fun a => Q a ∧ (h.1 a).1 < 200) c h h1 :=
  ⟨fun a l q => x.1 a l (by
    rcases q with q | q
    · exact Or.inl q
    · by_cases z : 200 ≤ (h.1 a).1
      · exact Or.inl z
      · exact Or.inr fun r => q ⟨r, by omega⟩), x.2⟩
theorem Fx.cr (x : Fx Q c h h1) : h.2.2.2 ≤ h1.2.2.2 + c := x.2.2.2.2
end
/-- the JDK's fixed objects: the empty array, the cache of Integers, its Integers, the tables of digits -/
abbrev KD : Type := Nat × Nat × (Nat → Nat) × Nat × Nat
def Gd (K : KD) (h : xk_H) : Prop := Fs h ∧ (h.2.1 0 = some K.1 ∧ h.1 K.1 = (302, [])) ∧
  (h.2.1 1 = some K.2.1 ∧ h.1 K.2.1 = (304, (List.range 256).map fun k => .ref (K.2.2.1 k))) ∧ (∀ k, k < 256 → h.1 (K.2.2.1 k) = (211, [.int (zI ((k : Int) - 128))])) ∧
  (h.2.1 2 = some K.2.2.2.1 ∧ h.1 K.2.2.2.1 = (301, (List.range 100).map fun k => .int (zI (48 + (k / 10 : Nat))))) ∧
  (h.2.1 3 = some K.2.2.2.2 ∧ h.1 K.2.2.2.2 = (301, (List.range 100).map fun k => .int (zI (48 + (k % 10 : Nat))))) ∧ h.2.1 4 ≠ none
/-- the cached Integer of a small number -/
def iad (K : KD) (j : Nat) : Nat := K.2.2.1 (j + 128)
section
variable {Q : Nat → Prop} {c : Nat} {h h1 : xk_H} {K : KD}
theorem Gd.fx (G : Gd K h) (x : Fx Q c h h1) : Gd K h1 := by
  obtain ⟨F, ⟨a0, a1⟩, ⟨b0, b1⟩, i, ⟨c0, c1⟩, ⟨d0, d1⟩, p⟩ := G
  refine ⟨x.fs, ⟨by rw [x.2.1]; exact a0, x.get F a1 (by decide) (Or.inl (by decide))⟩, ⟨by rw [x.2.1]; exact b0, x.get F b1 (by simp) (Or.inl (by simp))⟩, fun k l => x.get F (i k l) (by simp) (Or.inl (by simp)), ⟨by rw [x.2.1]; exact c0, x.get F c1 (by simp) (Or.inl (by simp))⟩, ⟨by rw [x.2.1]; exact d0, x.get F d1 (by simp) (Or.inl (by simp))⟩, by rw [x.2.1]; exact p⟩
theorem Gd.fs (G : Gd K h) : Fs h := G.1
theorem Gd.ad (G : Gd K h) {j : Nat} (l : j < 128) : h.1 (iad K j) = (211, [.int (zI j)]) := by
  have := G.2.2.2.1 (j + 128) (by omega)
  rw [show ((j + 128 : Nat) : Int) - 128 = j by omega] at this
  exact this
theorem C_valueOf (G : Gd K h) {j : Nat} (l : j < 128) : mf_J22_valueOf (zI j) h = some (some (iad K j), h) := by
  unfold mf_J22_valueOf
  have e1 : ¬ zI j < (-128 : Int32) := by
    rw [show (-128 : Int32) = zI (-128) by decide, zI_lt (by omega) (by omega) (by omega) (by omega)]; omega
  have e2 : ¬ (127 : Int32) < zI j := by
    rw [show (127 : Int32) = zI 127 by decide, zI_lt (by omega) (by omega) (by omega) (by omega)]; omega
  rw [if_neg e1, if_neg e2, show (128 : Int32) = zI 128 by decide, zI_add, G.2.2.1.1]
  refine lR_ok (x := some (iad K j)) (by omega) (by omega) G.2.2.1.2 (by simp) ?_
  rw [show ((j : Int) + 128).toNat = j + 128 by omega]
  show ((List.range 256).map _)[j + 128]? = _
  rw [List.getElem?_map, List.getElem?_range (by omega)]
  rfl
theorem C_intValue (G : Gd K h) {j : Nat} (l : j < 128) : mf_J22_intValue (some (iad K j)) h = some (zI j, h) := by
  unfold mf_J22_intValue
  exact gI_ok (G.ad l) (by simp) rfl
end
section
variable {γ : Type}
/-- a write, what it makes of the object given -/
theorem pV_w {ts : List Nat} {k a t : Nat} {x : Value} {h : xk_H} {vs vs' : List Value} {κ : xk_H → Option γ} (e : h.1 a = (t, vs)) (m : t ∈ ts) (s : vs.set k x = vs') : xm_pV ts k (some a) x h κ = κ (xk_set h a (t, vs')) := by
  rw [pV_ok e m]; subst s; rfl
theorem pN_w {ts : List Nat} {k a t : Nat} {x : Int32} {h : xk_H} {vs vs' : List Value} {κ : xk_H → Option γ} (hx : x = zI 0 ∨ x = zI 1) (e : h.1 a = (t, vs)) (m : t ∈ ts) (s : vs.set k (.int x) = vs') : xm_pN .boolean ts k (some a) x h κ = κ (xk_set h a (t, vs')) := by
  rw [pNb_ok hx e m]; subst s; rfl
end
