/-! PURE LAW, ArrayList: add, set, remove -/
set_option maxRecDepth 10000
theorem set_tail (xs : List Nat) (t x : Nat) (p : 0 < t) : (xs.map Value.ref ++ List.replicate t Value.null).set xs.length (.ref x) = (xs ++ [x]).map Value.ref ++ List.replicate (t - 1) Value.null := by
  obtain ⟨t, rfl⟩ : ∃ k, t = k + 1 := ⟨t - 1, by omega⟩
  rw [List.set_append_right _ _ (by simp), List.length_map, Nat.sub_self, List.replicate_succ, List.set_cons_zero, Nat.add_sub_cancel, List.map_append, List.append_assoc]
  rfl
theorem set_head (xs : List Nat) (t x k : Nat) (p : k < xs.length) : (xs.map Value.ref ++ List.replicate t Value.null).set k (.ref x) = (xs.set k x).map Value.ref ++ List.replicate t Value.null := by
  rw [List.set_append_left _ _ (by simpa using p), List.map_set]
section
variable {w w' : Nat → Nat × Nat} {K : KD} {h h' : xk_H} {l l' e e' : Nat} {o o' : Nat × Nat} {xs ys : List Nat} {m m' : Int32} {Q : Nat → Prop} {c : Nat}
theorem LA.le (G : Gd K h) (L : LA w K h l o xs m e) : e ≠ l := by
  rintro rfl
  obtain ⟨b, e1, m1, _⟩ := L.arr G
  rw [L.1] at e1; rw [← e1] at m1; simp at m1
theorem LA.mod (G : Gd K h) (L : LA w K h l o xs m e) (m' : Int32) : LA w K (xk_set h l (6, [.int m', .ref e, .int (zI xs.length)])) l o xs m' e ∧ Fx (fun a => a = l) 0 h (xk_set h l (6, [.int m', .ref e, .int (zI xs.length)])) := by
  have x : Fx (fun a => a = l) 0 h (xk_set h l (6, [.int m', .ref e, .int (zI xs.length)])) := Fx.set G.fs (G.fs.lt L.1 (by simp)) rfl (by rw [L.1]; simp)
  refine ⟨⟨by rw [set_1, if_pos rfl], L.2.1, ?_⟩, x⟩
  rcases L.2.2 with q | ⟨t, q, r, s⟩
  · exact Or.inl q
  · exact Or.inr ⟨t, by rw [set_1, if_neg (L.le G)]; exact q, r, s⟩
theorem C_add_J (G : Gd K h) (ol : h.1 l = (6, [.int m, .ref e, .int (zI xs.length)])) {t x : Nat} (oe : h.1 e = (102, xs.map Value.ref ++ List.replicate t .null)) (p : 0 < t) (n : xs.length ≤ 100) (hx : (h.1 x).1 ∈ [3, 211]) :
    ∃ h', mf_J2_add_2_J11 (some l) (some x) (some e) (zI xs.length) h = some ((), h') ∧ Fx (fun a => a = l ∨ a = e) 0 h h' ∧ h'.1 l = (6, [.int m, .ref e, .int (zI (xs ++ [x]).length)]) ∧ h'.1 e = (102, (xs ++ [x]).map Value.ref ++ List.replicate (t - 1) .null) := by
  have le : l ≠ e := by rintro rfl; rw [ol] at oe; simp at oe
  have x1 : Fx (fun a => a = l ∨ a = e) 0 h (xk_set h e (102, (xs ++ [x]).map Value.ref ++ List.replicate (t - 1) .null)) := Fx.set G.fs (G.fs.lt oe (by simp)) (Or.inr rfl) (by rw [oe]; simp)
  have e1 : (xk_set h e (102, (xs ++ [x]).map Value.ref ++ List.replicate (t - 1) .null)).1 l = (6, [.int m, .ref e, .int (zI xs.length)]) := by rw [set_1, if_neg le]; exact ol
  refine ⟨xk_set (xk_set h e (102, (xs ++ [x]).map Value.ref ++ List.replicate (t - 1) .null)) l (6, [.int m, .ref e, .int (zI (xs ++ [x]).length)]), ?_, x1.set' e1 (by simp) (fun _ => Or.inl rfl), by rw [set_1, if_pos rfl], by rw [set_1, if_neg (Ne.symm le), set_1, if_pos rfl]⟩
  unfold mf_J2_add_2_J11
  rw [sR_ok hx (by omega) (by omega) oe (by simp) (by simp; omega), Int.toNat_natCast]
  show xm_pV [6] 2 (some l) _ (xk_set h e (102, (xs.map Value.ref ++ List.replicate t Value.null).set xs.length (.ref x))) _ = _
  rw [set_tail xs t x p, show (1 : Int32) = zI 1 by decide, zI_add, pV_ok e1 (by simp), List.length_append]
  rfl
theorem El.fx' (F : Fs h) (E : El h xs) (x : Fx Q c h h') (q : ∀ a, a < h.2.2.1 → Q a → (h.1 a).1 ≠ 3) : El h' xs := fun y my => by
  have e := E y my
  have : h'.1 y = h.1 y := x.1 y (E.lt F y my) (by
    simp only [List.mem_cons, List.not_mem_nil, or_false] at e
    rcases e with e | e
    · exact Or.inr fun r => q y (E.lt F y my) r e
    · exact Or.inl (by omega))
  rw [this]; exact e
theorem C_add (G : Gd K h) (L : LA w K h l o xs m e) (E : El h xs) {x : Nat} (hx : (h.1 x).1 ∈ [3, 211]) (n : xs.length ≤ 29) (hc : 11 ≤ c ∧ xs.length + (xs.length + 1) / 2 + 2 ≤ c) (cr : c ≤ h.2.2.2) :
    ∃ h' m' e', mf_J2_add (some l) (some x) h = some (true, h') ∧ Fx (fun a => a = l ∨ a = e) c h h' ∧ LA (wN w h o) K h' l o (xs ++ [x]) m' e' ∧ (e' = e ∨ h.2.2.1 ≤ e') := by
  obtain ⟨L1, x1⟩ := L.mod G (m + 1)
  let h1 := xk_set h l (6, [.int (m + 1), .ref e, .int (zI xs.length)])
  have G1 : Gd K h1 := G.fx x1
  have El' : ∀ {ys : List Nat}, El h ys → El h1 ys := fun E => E.fx G.fs x1 fun a q => by subst q; rw [L.1]; simp
  have E1 := El' E
  have hx1 : (h1.1 x).1 ∈ [3, 211] := El' (ys := [x]) (fun y my => by rw [List.mem_singleton.1 my]; exact hx) x (List.mem_singleton_self x)
  have head : mf_J2_add (some l) (some x) h = xm_cl (mf_J2_add_2 (some l) (some x) (some e) (zI xs.length) h1) fun r5 h6 => some (true, h6) := by
    unfold mf_J2_add
    rw [gI_ok L.1 (by simp) rfl, pV_w (vs' := [.int (m + 1), .ref e, .int (zI xs.length)]) L.1 (by simp) rfl, gR_ok (x := some e) L1.1 (by simp) rfl, gI_ok (x := zI xs.length) L1.1 (by simp) rfl, rc_ok L1.1 (by simp)]
  rw [head]
  have lx := L.len G
  have xl : Fx (fun a => a = l ∨ a = e) 0 h h1 := x1.mono (fun a q => Or.inl q) (Nat.le_refl _)
  obtain ⟨ar, ea, ma, na, t, ra⟩ := L1.arr G1
  have la : ar.2.length = xs.length + t := by rw [ra]; simp
  by_cases q : t = 0
  · -- it grows
    subst q
    have eal : (h1.1 e).2.length = xs.length := by rw [ea, la]; omega
    obtain ⟨h2, t2, g1, x2, o1, o2, n1, n2, nx⟩ := C_grow (c := c) G1 L1 E1 (N := xs.length + 1) (by rw [eal]; omega) (by omega) (by omega) (by omega) cr
    have G2 := G1.fx x2
    have hx2 : (h2.1 x).1 ∈ [3, 211] := El.fx G1.fs (xs := [x]) (fun y my => by rw [List.mem_singleton.1 my]; exact hx1) x2 (fun a q => by subst q; rw [L1.1]; simp) x (List.mem_singleton_self x)
    obtain ⟨h3, j1, x3, o3, o4⟩ := C_add_J G2 o1 o2 (by omega) (by omega) hx2
    refine ⟨h3, m + 1, h1.2.2.1, ?_, ?_, ⟨o3, ?_, Or.inr ⟨t2 - 1, o4, wN_n (Nat.le_refl _), by rw [List.length_append, List.length_singleton]; omega, by rw [List.length_append, List.length_singleton]; omega⟩⟩, Or.inr (Nat.le_refl _)⟩
    · unfold mf_J2_add_2 mf_J2_grow_2
      rw [len_ok ea ma, if_pos (by rw [la]; rfl), rc_ok L1.1 (by simp), gI_ok (x := zI xs.length) L1.1 (by simp) rfl, rc_ok L1.1 (by simp), show (1 : Int32) = zI 1 by decide, zI_add,
        show ((xs.length : Int) + 1) = ((xs.length + 1 : Nat) : Int) by omega, g1, cl_some, cl_some, j1, cl_some]
    · have y := (xl.andthen x2 (R := fun a => a = l) fun a _ q => Or.inl q).andthen x3 fun a la q => by
        rcases q with q | q
        · exact Or.inl q
        · subst q; exact absurd la (Nat.lt_irrefl _)
      exact y.le (by omega)
    · exact (wN_x w h o l (G.fs.lt L.1 (by simp))).trans L.2.1
  · have oe : h1.1 e = (102, xs.map Value.ref ++ List.replicate t .null) := by
      rcases L1.2.2 with ⟨q1, q2⟩ | ⟨t', q', _⟩
      · subst q2; subst q1
        have := G1.2.1.2; rw [ea] at this; rw [this] at la; simp at la; omega
      · rw [ea] at q'; rw [ea, q']
        rw [q'] at ra
        have := (List.append_right_inj _).1 ra
        rw [this]
    obtain ⟨h3, j1, x3, o3, o4⟩ := C_add_J G1 L1.1 oe (by omega) (by omega) hx1
    refine ⟨h3, m + 1, e, ?_, ?_, ⟨o3, ?_, Or.inr ⟨t - 1, o4, ?_, by rw [List.length_append, List.length_singleton]; omega, by rw [List.length_append, List.length_singleton]; omega⟩⟩, Or.inl rfl⟩
    · unfold mf_J2_add_2
      rw [len_ok ea ma, if_neg, j1, cl_some]
      rw [la, zI_inj (by omega) (by omega) (by omega) (by omega)]; omega
    · exact (xl.trans x3).le (by omega)
    · exact (wN_x w h o l (G.fs.lt L.1 (by simp))).trans L.2.1
    · have we : w e = o := by
        rcases L1.2.2 with ⟨q1, q2⟩ | ⟨t', q', r', _⟩
        · subst q1; have := G1.2.1.2; rw [oe] at this; simp at this
        · exact r'
      exact (wN_x w h o e (G1.fs.lt oe (by simp))).trans we
end
