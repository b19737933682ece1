/-! PURE LAW, ArrayList: growth, add, remove, set, addAll, the iterator -/
set_option maxRecDepth 10000
section
variable {w w' : Nat → Nat × Nat} {K : KD} {h h' : xk_H} {l l' e e' : Nat} {o o' : Nat × Nat} {xs ys : List Nat} {m m' : Int32} {Q : Nat → Prop} {c : Nat}
/-- what may lie in a list -/
def El (h : xk_H) (xs : List Nat) : Prop := ∀ x ∈ xs, (h.1 x).1 ∈ [3, 211]
theorem El.all (E : El h xs) : (xs.map Value.ref).all (xk_el [3, 211] h) = true := by
  rw [List.all_eq_true]
  intro v m
  obtain ⟨x, mx, rfl⟩ := List.mem_map.1 m
  exact decide_eq_true (E x mx)
theorem C_max {a b : Int} (a0 : -1000 ≤ a) (a1 : a ≤ 100000) (b0 : -1000 ≤ b) (b1 : b ≤ 100000) : mf_J17_max (zI a) (zI b) h = some (zI (max a b), h) := by
  unfold mf_J17_max
  by_cases q : a < b
  · rw [if_pos (show zI a < zI b by rw [zI_lt (by omega) (by omega) (by omega) (by omega)]; exact q), show max a b = b by omega]
  · rw [if_neg (show ¬ zI a < zI b by rw [zI_lt (by omega) (by omega) (by omega) (by omega)]; exact q), show max a b = a by omega]
theorem C_min {a b : Int} (a0 : -1000 ≤ a) (a1 : a ≤ 100000) (b0 : -1000 ≤ b) (b1 : b ≤ 100000) : mf_J17_min (zI a) (zI b) h = some (zI (min a b), h) := by
  unfold mf_J17_min
  by_cases q : b < a
  · rw [if_pos (show zI b < zI a by rw [zI_lt (by omega) (by omega) (by omega) (by omega)]; exact q), show min a b = b by omega]
  · rw [if_neg (show ¬ zI b < zI a by rw [zI_lt (by omega) (by omega) (by omega) (by omega)]; exact q), show min a b = a by omega]
theorem C_newLength {a b d : Int} (a0 : 0 ≤ a) (a1 : a ≤ 1000) (b0 : -1000 ≤ b) (b1 : b ≤ 1000) (d0 : 0 ≤ d) (d1 : d ≤ 1000) (s : 0 < a + max b d) : mf_J16_newLength (zI a) (zI b) (zI d) h = some (zI (a + max b d), h) := by
  unfold mf_J16_newLength
  rw [C_max (by omega) (by omega) (by omega) (by omega), cl_some, zI_add]
  rw [if_neg, if_neg]
  · rw [show (2147483639 : Int32) = zI 2147483639 by decide, zI_lt (by omega) (by omega) (by omega) (by omega)]; omega
  · rw [show (0 : Int32) = zI 0 by decide, zI_le (by omega) (by omega) (by omega) (by omega)]; omega
/-- Arrays.copyOf -/
theorem C_copyOf (F : Fs h) {a : Nat} {oa : xk_O} (ea : h.1 a = oa) (ma : oa.1 ∈ [102, 302]) {t : Nat} (r : oa.2 = xs.map Value.ref ++ List.replicate t .null) (E : El h xs) {N : Nat} (n0 : oa.2.length ≤ 100) (n1 : N ≤ 100) (cr : N + 1 ≤ h.2.2.2) :
    mf_J18_copyOf_2 (some a) (zI N) h = some (some h.2.2.1, xk_push h (102, oa.2.take N ++ List.replicate (N - oa.2.length) .null)) := by
  unfold mf_J18_copyOf_2 mf_J18_copyOf_3
  rw [rc_ok ea ma, if_pos rfl, nwa_ok (by omega) (by omega) (by omega)]
  have e1 : (xk_push h (102, List.replicate (N : Int).toNat Value.null)).1 a = oa := by
    rw [push_1, if_neg (Nat.ne_of_lt (F.lt ea (by intro q; rw [q] at ma; simp at ma)))]; exact ea
  rw [len_ok e1 ma, C_min (by omega) (by omega) (by omega) (by omega), cl_some, show (0 : Int32) = zI 0 from rfl]
  have e2 : (xk_push h (102, List.replicate (N : Int).toNat Value.null)).1 h.2.2.1 = (102, List.replicate N Value.null) := by
    rw [push_1, if_pos rfl, Int.toNat_natCast]
  have mn : (min (oa.2.length : Int) (N : Int)).toNat = min oa.2.length N := by omega
  rw [cpy_ok (by omega) (by omega) (by omega) (by omega) (by omega) (by omega) e1 e2 ma (by simp) (by rw [mn]; simp; omega) (by rw [mn]; simp; omega)]
  · rw [cl_some]
    congr 2
    refine Prod.ext (funext fun j => ?_) (Prod.ext rfl (Prod.ext rfl ?_))
    rotate_left
    · show h.2.2.2 - ((List.replicate (N : Int).toNat Value.null).length + 1) = h.2.2.2 - ((oa.2.take N ++ List.replicate (N - oa.2.length) Value.null).length + 1)
      rw [Int.toNat_natCast, List.length_append, List.length_take, List.length_replicate, List.length_replicate]; omega
    rw [set_1, push_1, push_1]
    by_cases q : j = h.2.2.1
    · rw [if_pos q, if_pos q, mn]
      refine Prod.ext rfl ?_
      show xk_cp oa.2 (List.replicate N Value.null) 0 0 (min oa.2.length N) = _
      unfold xk_cp
      rw [List.take_zero, List.nil_append, List.drop_zero, Nat.zero_add, List.drop_replicate]
      by_cases g : oa.2.length ≤ N
      · rw [show min oa.2.length N = oa.2.length by omega, List.take_length, List.take_of_length_le g]
      · rw [show min oa.2.length N = N by omega, show N - N = 0 by omega, show N - oa.2.length = 0 by omega]
    · rw [if_neg q, if_neg q, if_neg q]
  · rw [mn]
    show ((oa.2.drop 0).take _).all _ = true
    rw [List.drop_zero, List.all_eq_true]
    intro v mv
    have mv := List.mem_of_mem_take mv
    rw [r] at mv
    rcases List.mem_append.1 mv with mv | mv
    · obtain ⟨x, mx, rfl⟩ := List.mem_map.1 mv
      have lx : x < h.2.2.1 := by
        rcases Nat.lt_or_ge x h.2.2.1 with g | g
        · exact g
        · have := F x g; have q := E x mx; rw [this] at q; simp at q
      show decide (((xk_push h _).1 x).1 ∈ [3, 211]) = true
      rw [push_1, if_neg (Nat.ne_of_lt lx)]
      exact decide_eq_true (E x mx)
    · rw [List.eq_of_mem_replicate mv]; rfl
theorem El.lt (F : Fs h) (E : El h xs) : ∀ x ∈ xs, x < h.2.2.1 := fun x mx => by
  rcases Nat.lt_or_ge x h.2.2.1 with g | g
  · exact g
  · have := F x g; have q := E x mx; rw [this] at q; simp at q
theorem El.fx (F : Fs h) (E : El h xs) (x : Fx Q c h h') (q : ∀ a, Q a → (h.1 a).1 ≠ 3) : El h' xs := fun y my => by
  have e := E y my
  have : h'.1 y = h.1 y := x.1 y (E.lt F y my) (by
    simp only [List.mem_cons, List.not_mem_nil, or_false] at e
    rcases e with e | e
    · exact Or.inr fun r => q y r e
    · exact Or.inl (by omega))
  rw [this]; exact e
theorem El.ex (F : Fs h) (E : El h xs) (x : Ex c h h') : El h' xs := E.fx F x fun a q => q.elim
/-- only a list's object changes, with its tag -/
theorem C_grow (G : Gd K h) (L : LA w K h l o xs m e) (E : El h xs) {N : Nat} (aN : (h.1 e).2.length < N) (xN : xs.length ≤ N) (N30 : N ≤ 30) (hc : 11 ≤ c ∧ N + N / 2 + 1 ≤ c) (cr : c ≤ h.2.2.2) :
    ∃ h' t, mf_J2_grow (some l) (zI N) h = some (some h.2.2.1, h') ∧ Fx (fun a => a = l) c h h' ∧ h'.1 l = (6, [.int m, .ref h.2.2.1, .int (zI xs.length)]) ∧ h'.1 h.2.2.1 = (102, xs.map Value.ref ++ List.replicate t .null) ∧ N ≤ xs.length + t ∧ xs.length + t ≤ 60 ∧ h.2.2.1 < h'.2.2.1 := by
  have ll : l < h.2.2.1 := G.fs.lt L.1 (by simp)
  have kk : K.1 < h.2.2.1 := G.fs.lt G.2.1.2 (by simp)
  rcases L.2.2 with ⟨q1, q2⟩ | ⟨t, q, r, s1, s2⟩
  · subst q1; subst q2
    have cap : (max 10 (N : Int)).toNat = max 10 N := by omega
    let o1 : xk_O := (102, List.replicate (max 10 N) .null)
    let h1 := xk_push h o1
    have e1 : h1.1 l = (6, [.int m, .ref K.1, .int (zI 0)]) := by
      show (if l = h.2.2.1 then _ else _) = _
      rw [if_neg (Nat.ne_of_lt ll)]; exact L.1
    refine ⟨xk_set h1 l (6, [.int m, .ref h.2.2.1, .int (zI 0)]), max 10 N, ?_, ?_, ?_, ?_, by simp; omega, by simp; omega, Nat.lt_succ_self _⟩
    · unfold mf_J2_grow
      rw [gR_ok (x := some K.1) L.1 (by simp) rfl, len_ok G.2.1.2 (by simp), if_neg (show ¬ (0 : Int32) < zI (([] : List Value).length) by decide), gR_ok (x := some K.1) L.1 (by simp) rfl, if_pos G.2.1.1.symm,
        show (10 : Int32) = zI 10 by decide, C_max (by omega) (by omega) (by omega) (by omega), cl_some, nwa_ok (by omega) (by omega) (by omega), cap]
      exact pV_ok e1 (by simp)
    · have x1 : Fx (fun a => a = l) (0 + (o1.2.length + 1)) h h1 := (Fx.rfl G.fs).push' o1
      refine (x1.set' e1 (by simp) fun _ => rfl).le ?_
      show 0 + ((List.replicate (max 10 N) Value.null).length + 1) ≤ c
      rw [List.length_replicate]; omega
    · rw [set_1, if_pos rfl]; rfl
    · rw [set_1, if_neg (Nat.ne_of_gt ll)]
      show (if h.2.2.1 = h.2.2.1 then o1 else _) = _
      rw [if_pos rfl]; rfl
  · have al : (h.1 e).2.length = xs.length + t := by rw [q]; simp
    rw [al] at aN
    have lx := L.len G
    let N' := (xs.length + t) + max (N - (xs.length + t)) ((xs.length + t) / 2)
    have hN : N' = (xs.length + t) + max (N - (xs.length + t)) ((xs.length + t) / 2) := rfl
    have hN2 : ((xs.length + t : Nat) : Int) + max ((N : Int) - ((xs.length + t : Nat) : Int)) (((xs.length + t) / 2 : Nat) : Int) = (N' : Nat) := by rw [hN]; omega
    let o1 : xk_O := (102, (xs.map Value.ref ++ List.replicate t Value.null).take N' ++ List.replicate (N' - (xs.length + t)) .null)
    let h1 := xk_push h o1
    have e1 : h1.1 l = (6, [.int m, .ref e, .int (zI xs.length)]) := by
      show (if l = h.2.2.1 then _ else _) = _
      rw [if_neg (Nat.ne_of_lt ll)]; exact L.1
    have o1e : o1 = (102, xs.map Value.ref ++ List.replicate (N' - xs.length) .null) := by
      show (102, _) = (102, _)
      rw [List.take_of_length_le (by simp; omega), List.append_assoc, List.replicate_append_replicate]
      exact congrArg (fun z => (102, xs.map Value.ref ++ List.replicate z Value.null)) (by omega)
    refine ⟨xk_set h1 l (6, [.int m, .ref h.2.2.1, .int (zI xs.length)]), N' - xs.length, ?_, ?_, ?_, ?_, by omega, by omega, Nat.lt_succ_self _⟩
    · unfold mf_J2_grow mf_J2_grow_J20
      have p0 : (0 : Int32) < zI ((xs.length + t : Nat) : Int) := by
        rw [show (0 : Int32) = zI 0 by decide, zI_lt (by omega) (by omega) (by omega) (by omega)]; omega
      have ln : (xs.map Value.ref ++ List.replicate t Value.null).length = xs.length + t := by simp
      rw [gR_ok (x := some e) L.1 (by simp) rfl, len_ok q (by simp), ln, if_pos p0, zI_sub, sh1 _ (by omega), C_newLength (by omega) (by omega) (by omega) (by omega) (by omega) (by omega) (by omega), cl_some, hN2,
        gR_ok (x := some e) L.1 (by simp) rfl, C_copyOf G.fs q (by simp) (t := t) rfl E (by simp; omega) (by omega) (by omega), cl_some, ln]
      exact pV_ok e1 (by simp)
    · have x1 : Fx (fun a => a = l) (0 + (o1.2.length + 1)) h h1 := (Fx.rfl G.fs).push' o1
      refine (x1.set' e1 (by simp) fun _ => rfl).le ?_
      rw [o1e]
      show 0 + ((xs.map Value.ref ++ List.replicate (N' - xs.length) Value.null).length + 1) ≤ c
      rw [List.length_append, List.length_map, List.length_replicate]; omega
    · rw [set_1, if_pos rfl]
    · rw [set_1, if_neg (Nat.ne_of_gt ll)]
      show (if h.2.2.1 = h.2.2.1 then o1 else _) = _
      rw [if_pos rfl, o1e]
end
