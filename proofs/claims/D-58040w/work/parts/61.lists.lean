/-! PURE LAW, ArrayList: reads -/
set_option maxRecDepth 10000
/-- at l lies an ArrayList of the objects xs, its array at e; w: to whom an address belongs -/
def LA (w : Nat → Nat × Nat) (K : KD) (h : xk_H) (l : Nat) (o : Nat × Nat) (xs : List Nat) (m : Int32) (e : Nat) : Prop :=
  h.1 l = (6, [.int m, .ref e, .int (zI xs.length)]) ∧ w l = o ∧ (e = K.1 ∧ xs = [] ∨ ∃ t : Nat, h.1 e = (102, xs.map Value.ref ++ List.replicate t .null) ∧ w e = o ∧ 0 < xs.length + t ∧ xs.length + t ≤ 100)
def Wx (h : xk_H) (w w' : Nat → Nat × Nat) : Prop := ∀ a, a < h.2.2.1 → w' a = w a
/-- new addresses belong to o -/
def wN (w : Nat → Nat × Nat) (h : xk_H) (o : Nat × Nat) : Nat → Nat × Nat := fun a => if a < h.2.2.1 then w a else o
theorem wN_x (w : Nat → Nat × Nat) (h : xk_H) (o : Nat × Nat) : Wx h w (wN w h o) := fun a l => if_pos l
theorem wN_n {w : Nat → Nat × Nat} {h : xk_H} {o : Nat × Nat} {a : Nat} (l : h.2.2.1 ≤ a) : wN w h o a = o := if_neg (by omega)
theorem Wx.rfl {h : xk_H} {w : Nat → Nat × Nat} : Wx h w w := fun _ _ => _root_.rfl
theorem Wx.trans {h h1 : xk_H} {w w1 w2 : Nat → Nat × Nat} (x : Wx h w w1) (y : Wx h1 w1 w2) (n : h.2.2.1 ≤ h1.2.2.1) : Wx h w w2 := fun a l => (y a (by omega)).trans (x a l)
theorem sh1 : ∀ n, n < 101 → zI ((n : Nat) : Int) >>> ((1 : Int32) &&& 31) = zI ((n / 2 : Nat) : Int) := by decide
section
variable {γ : Type}
theorem cpy_ok {ts td : List Nat} {es : Value → Bool} {a b : Nat} {sp dp n : Int} {h : xk_H} {oa ob : xk_O} {κ : xk_H → Option γ} (s0 : 0 ≤ sp) (s1 : sp ≤ 2147483647) (d0 : 0 ≤ dp) (d1 : dp ≤ 2147483647) (n0 : 0 ≤ n) (n1 : n ≤ 2147483647)
    (ea : h.1 a = oa) (eb : h.1 b = ob) (ma : oa.1 ∈ ts) (mb : ob.1 ∈ td) (la : sp.toNat + n.toNat ≤ oa.2.length) (lb : dp.toNat + n.toNat ≤ ob.2.length) (al : ((oa.2.drop sp.toNat).take n.toNat).all es = true) :
    xm_cpy ts td es (some a) (zI sp) (some b) (zI dp) (zI n) h κ = κ (xk_set h b (ob.1, xk_cp oa.2 ob.2 sp.toNat dp.toNat n.toNat)) := by
  unfold xm_cpy
  have q : ∀ z : Int, 0 ≤ z → z ≤ 2147483647 → ¬ zI z < 0 := fun z z0 z1 => by
    rw [zI_lit 0, zI_lt (by omega) (by omega) (by decide) (by decide)]; exact Int.not_lt.2 z0
  simp only [ea, eb]
  rw [zI_nat (by omega) s1, zI_nat (by omega) d1, zI_nat (by omega) n1, if_pos ⟨ma, mb, q _ s0 s1, q _ d0 d1, q _ n0 n1, la, lb, al⟩]
theorem sR_ok {ts es : List Nat} {a x : Nat} {i : Int} {h : xk_H} {o : xk_O} {κ : xk_H → Option γ} (hx : (h.1 x).1 ∈ es) (h0 : 0 ≤ i) (h1 : i ≤ 2147483647) (e : h.1 a = o) (m : o.1 ∈ ts) (g : i.toNat < o.2.length) : xm_sR ts es (some a) (zI i) (some x) h κ = κ (xk_set h a (o.1, o.2.set i.toNat (.ref x))) := by
  unfold xm_sR
  rw [if_pos (show xk_el es h (va_rf (some x)) = true from decide_eq_true hx)]
  exact sV_ok h0 h1 e m g
theorem sN_ok {ts es : List Nat} {a : Nat} {i : Int} {h : xk_H} {o : xk_O} {κ : xk_H → Option γ} (h0 : 0 ≤ i) (h1 : i ≤ 2147483647) (e : h.1 a = o) (m : o.1 ∈ ts) (g : i.toNat < o.2.length) : xm_sR ts es (some a) (zI i) none h κ = κ (xk_set h a (o.1, o.2.set i.toNat .null)) := by
  unfold xm_sR
  rw [if_pos (show xk_el es h (va_rf none) = true from rfl)]
  exact sV_ok h0 h1 e m g
theorem cast_ok {ts : List Nat} {a : Nat} {h : xk_H} {o : xk_O} {κ : Option γ} (e : h.1 a = o) (m : o.1 ∈ ts) : xm_cast ts (some a) h κ = κ := by
  unfold xm_cast; simp only [e, if_pos m]
end
section
variable {w w' : Nat → Nat × Nat} {K : KD} {h h' : xk_H} {l l' e e' : Nat} {o o' : Nat × Nat} {xs ys : List Nat} {m m' : Int32} {Q : Nat → Prop} {c : Nat}
theorem LA.ob (L : LA w K h l o xs m e) : h.1 l = (6, [.int m, .ref e, .int (zI xs.length)]) := L.1
theorem LA.wl (L : LA w K h l o xs m e) : w l = o := L.2.1
theorem LA.arr (G : Gd K h) (L : LA w K h l o xs m e) : ∃ a : xk_O, h.1 e = a ∧ a.1 ∈ [102, 302] ∧ a.2.length ≤ 100 ∧ ∃ t, a.2 = xs.map Value.ref ++ List.replicate t .null := by
  rcases L.2.2 with ⟨rfl, rfl⟩ | ⟨t, q, _, _, q2⟩
  · exact ⟨_, G.2.1.2, by simp, by simp, 0, rfl⟩
  · exact ⟨_, q, by simp, by simp only [List.length_append, List.length_map, List.length_replicate]; exact q2, t, rfl⟩
theorem LA.len (G : Gd K h) (L : LA w K h l o xs m e) : xs.length ≤ 100 := by
  obtain ⟨a, _, _, q, t, r⟩ := L.arr G
  rw [r] at q; simp only [List.length_append, List.length_map] at q; omega
theorem C_size (L : LA w K h l o xs m e) : mf_J2_size (some l) h = some (zI xs.length, h) := gI_ok L.1 (by simp) rfl
theorem C_isEmpty (G : Gd K h) (L : LA w K h l o xs m e) : mf_J2_isEmpty (some l) h = some (xs.isEmpty, h) := by
  unfold mf_J2_isEmpty
  rw [gI_ok (x := zI xs.length) L.1 (by simp) rfl]
  have := L.len G
  cases xs with
  | nil => rfl
  | cons x xs =>
    rw [if_neg]; · rfl
    simp only [List.length_cons] at this ⊢
    rw [zI_lit 0, zI_inj (by omega) (by omega) (by decide) (by decide)]
    show ¬ ((xs.length + 1 : Nat) : Int) = 0; omega
theorem C_checkIndex {i n : Int} (h0 : 0 ≤ i) (h1 : i < n) (h2 : n ≤ 2147483647) : mf_J10_checkIndex (zI i) (zI n) h = some (zI i, h) := by
  unfold mf_J10_checkIndex mf_J11_checkIndex
  have n0 : ¬ zI i < 0 := by
    rw [zI_lit 0, zI_lt (by omega) (by omega) (by decide) (by decide)]; exact Int.not_lt.2 h0
  rw [if_neg n0, if_pos (by rw [zI_lt (by omega) (by omega) (by omega) (by omega)]; exact h1), cl_some]
theorem LA.get (G : Gd K h) (L : LA w K h l o xs m e) {k x : Nat} (q : xs[k]? = some x) {γ : Type} {κ : Option Nat → Option γ} : xm_lR [102, 302] (some e) (zI k) h κ = κ (some x) := by
  obtain ⟨a, e1, m1, n1, t, r⟩ := L.arr G
  have hk : k < xs.length := (List.getElem?_eq_some_iff.1 q).1
  have := L.len G
  refine lR_ok (x := some x) (by omega) (by omega) e1 m1 ?_
  rw [r, Int.toNat_natCast, List.getElem?_append_left (by simpa using hk), List.getElem?_map, q]; rfl
theorem C_get (G : Gd K h) (L : LA w K h l o xs m e) {k x : Nat} (q : xs[k]? = some x) : mf_J2_get (some l) (zI k) h = some (some x, h) := by
  have hk : k < xs.length := (List.getElem?_eq_some_iff.1 q).1
  have := L.len G
  unfold mf_J2_get mf_J2_elementData
  rw [gI_ok (x := zI xs.length) L.1 (by simp) rfl, C_checkIndex (by omega) (by omega) (by omega), cl_some, rc_ok L.1 (by simp), gR_ok (x := some e) L.1 (by simp) rfl, L.get G q, cl_some]
/-- the tags allow nothing between a list's object and arrays -/
theorem LA.fx (F : Fs h) (L : LA w K h l o xs m e) (x : Fx Q c h h') (ql : ¬ Q l) (qe : e ≠ K.1 ∨ xs ≠ [] → ¬ Q e) : LA w K h' l o xs m e := by
  refine ⟨x.get F L.1 (by simp) (Or.inr ql), L.2.1, ?_⟩
  rcases L.2.2 with q | ⟨t, q, r, s⟩
  · exact Or.inl q
  · by_cases z : e ≠ K.1 ∨ xs ≠ []
    · exact Or.inr ⟨t, x.get F q (by simp) (Or.inr (qe z)), r, s⟩
    · rw [not_or, Classical.not_not, Classical.not_not] at z
      exact Or.inl z
theorem LA.wx (F : Fs h) (L : LA w K h l o xs m e) (x : Wx h w w') : LA w' K h l o xs m e := by
  refine ⟨L.1, (x l (F.lt L.1 (by simp))).trans L.2.1, ?_⟩
  rcases L.2.2 with q | ⟨t, q, r, s⟩
  · exact Or.inl q
  · exact Or.inr ⟨t, q, (x e (F.lt q (by simp))).trans r, s⟩
/-- w may change where the list was not -/
theorem LA.wx' (L' : LA w K h' l o xs m e) (x : Wx h w w') (F : Fs h) (L : LA w K h l o xs m e) : LA w' K h' l o xs m e := by
  refine ⟨L'.1, (x l (F.lt L.1 (by simp))).trans L.2.1, ?_⟩
  rcases L.2.2 with q | ⟨t, q, r, s⟩
  · exact Or.inl q
  · rcases L'.2.2 with q' | ⟨t', q', r', s'⟩
    · exact Or.inl q'
    · exact Or.inr ⟨t', q', (x e (F.lt q (by simp))).trans r, s'⟩
theorem LA.ex (F : Fs h) (L : LA w K h l o xs m e) (x : Ex c h h') : LA w K h' l o xs m e := L.fx F x id fun _ => id
theorem LA.ne_tag (G : Gd K h) (L : LA w K h l o xs m e) {a : Nat} {t : Nat} {v : List Value} (q : h.1 a = (t, v)) (n6 : t ≠ 6) (n1 : t ≠ 102) (n3 : t ≠ 302) : a ≠ l ∧ a ≠ e := by
  constructor
  · rintro rfl; rw [L.1] at q; exact n6 (congrArg Prod.fst q).symm
  · rintro rfl
    obtain ⟨b, e1, m1, _⟩ := L.arr G
    rw [e1] at q; rw [q] at m1
    simp only [List.mem_cons, List.not_mem_nil, or_false] at m1; omega
theorem LA.lne (G : Gd K h) (L : LA w K h l o xs m e) (L' : LA w K h l' o' ys m' e') (n : o ≠ o') : l' ≠ l ∧ l' ≠ e ∧ (e' ≠ K.1 ∨ ys ≠ [] → e' ≠ l ∧ e' ≠ e) := by
  refine ⟨fun q => n (by rw [← L.2.1, ← L'.2.1, q]), (fun q => ?_), fun z => ⟨fun q => ?_, fun q => ?_⟩⟩
  · obtain ⟨b, e1, m1, _⟩ := L.arr G
    rw [← q, L'.1] at e1; rw [← e1] at m1; simp at m1
  · obtain ⟨b, e1, m1, _⟩ := L'.arr G
    rw [q, L.1] at e1; rw [← e1] at m1; simp at m1
  · subst q
    rcases L'.2.2 with ⟨q1, q2⟩ | ⟨t, q, r, s⟩
    · exact z.elim (fun f => f q1) (fun f => f q2)
    · rcases L.2.2 with ⟨q1, q2⟩ | ⟨t', q', r', s'⟩
      · have g := G.2.1.2
        rw [← q1, q] at g; exact absurd (congrArg Prod.fst g) (by simp)
      · exact n (r'.symm.trans r)
/-- a list with another owner stays -/
theorem LA.off (G : Gd K h) (L : LA w K h l o xs m e) (L' : LA w K h l' o' ys m' e') (n : o ≠ o') (x : Fx (fun a => a = l ∨ a = e) c h h') : LA w K h' l' o' ys m' e' := by
  obtain ⟨a, b, d⟩ := L.lne G L' n
  exact L'.fx G.fs x (fun q => q.elim a b) fun z q => q.elim (d z).1 (d z).2
end
