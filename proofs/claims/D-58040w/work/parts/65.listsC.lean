/-! PURE LAW, ArrayList: addAll, the iterator, indexOf -/
set_option maxRecDepth 10000
/-- at it lies an Iterator at place i of the list l -/
def IT (h : xk_H) (it i : Nat) (m : Int32) (l : Nat) : Prop := ∃ r : Int32, h.1 it = (9, [.int (zI i), .int r, .int m, .ref l])
section
variable {w w' : Nat → Nat × Nat} {K : KD} {h h' : xk_H} {l l' e e' it i : Nat} {o o' : Nat × Nat} {xs ys : List Nat} {m m' : Int32} {Q : Nat → Prop} {c : Nat}
theorem C_iterator (G : Gd K h) (L : LA w K h l o xs m e) (cr : 5 ≤ h.2.2.2) : ∃ h', mf_J2_iterator (some l) h = some (some h.2.2.1, h') ∧ Ex 5 h h' ∧ IT h' h.2.2.1 0 m l ∧ h.2.2.1 < h'.2.2.1 := by
  let o0 : xk_O := (9, [.int 0, .int 0, .int 0, .null])
  let h1 := xk_push h o0
  have x1 : Ex 5 h h1 := (Fx.push G.fs o0).le (by decide)
  let n := h.2.2.1
  have e1 : h1.1 n = (9, [.int 0, .int 0, .int 0, .null]) := if_pos rfl
  have nn : ∀ {j : Nat} {p : xk_O}, h.1 j = p → p.1 ≠ 999 → j ≠ n := fun q t => Nat.ne_of_lt (G.fs.lt q t)
  let h2 := xk_set h1 n (9, [.int 0, .int 0, .int 0, .ref l])
  have e2 : h2.1 n = (9, [.int 0, .int 0, .int 0, .ref l]) := if_pos rfl
  let h3 := xk_set h2 n (9, [.int 0, .int (-1), .int 0, .ref l])
  have e3 : h3.1 n = (9, [.int 0, .int (-1), .int 0, .ref l]) := if_pos rfl
  let h4 := xk_set h3 n (9, [.int 0, .int (-1), .int m, .ref l])
  have e4 : h4.1 n = (9, [.int 0, .int (-1), .int m, .ref l]) := if_pos rfl
  have nl := nn L.1 (by simp)
  have el3 : h3.1 l = (6, [.int m, .ref e, .int (zI xs.length)]) := by
    show (if l = n then _ else if l = n then _ else if l = n then _ else _) = _
    rw [if_neg nl, if_neg nl, if_neg nl]; exact L.1
  have lt : ∀ a, a < h.2.2.1 → a = n → False := fun a q r => by subst r; exact Nat.lt_irrefl _ q
  refine ⟨h4, ?_, ((x1.set' e1 (by simp) (lt _ · rfl)).set' e2 (by simp) (lt _ · rfl)).set' e3 (by simp) (lt _ · rfl), ⟨-1, e4⟩, Nat.lt_succ_self _⟩
  unfold mf_J2_iterator mf_J9_init
  rw [new_ok (by simp only [List.length_cons, List.length_nil]; omega)]
  show xm_cl (xm_pV [9] 3 (some n) (.ref l) h1 _) _ = _
  rw [pV_w (vs' := [.int 0, .int 0, .int 0, .ref l]) e1 (by simp) rfl]
  show xm_cl (xm_pV [9] 1 (some n) _ h2 _) _ = _
  rw [pV_w (vs' := [.int 0, .int (-1), .int 0, .ref l]) e2 (by simp) rfl]
  show xm_cl (xm_gR [9] 3 (some n) h3 _) _ = _
  rw [gR_ok (x := some l) e3 (by simp) rfl, gI_ok (x := m) el3 (by simp) rfl, pV_w (vs' := [.int 0, .int (-1), .int m, .ref l]) e3 (by simp) rfl, cl_some]
theorem C_hasNext (G : Gd K h) (L : LA w K h l o xs m e) (I : IT h it i m l) (n : i ≤ xs.length) : mf_J9_hasNext (some it) h = some (!decide (i = xs.length), h) := by
  obtain ⟨r, I⟩ := I
  have := L.len G
  unfold mf_J9_hasNext
  rw [gI_ok (x := zI i) I (by simp) rfl, gR_ok (x := some l) I (by simp) rfl, gI_ok (x := zI xs.length) L.1 (by simp) rfl]
  by_cases q : i = xs.length
  · rw [if_pos (by rw [q]), decide_eq_true q]; rfl
  · rw [if_neg (by rw [zI_inj (by omega) (by omega) (by omega) (by omega)]; omega), decide_eq_false q]; rfl
theorem C_next (G : Gd K h) (L : LA w K h l o xs m e) (I : IT h it i m l) {x : Nat} (q : xs[i]? = some x) :
    ∃ h', mf_J9_next (some it) h = some (some x, h') ∧ Fx (fun a => a = it) 0 h h' ∧ IT h' it (i + 1) m l ∧ LA w K h' l o xs m e := by
  obtain ⟨r, I⟩ := I
  have lx := L.len G
  have hi : i < xs.length := (List.getElem?_eq_some_iff.1 q).1
  obtain ⟨nl, ne⟩ := L.ne_tag G I (by decide) (by decide) (by decide)
  obtain ⟨ar, ea, ma, na, t, ra⟩ := L.arr G
  have la : xs.length ≤ ar.2.length := by rw [ra]; simp
  let h1 := xk_set h it (9, [.int (zI (i + 1 : Nat)), .int r, .int m, .ref l])
  have e1 : h1.1 it = (9, [.int (zI (i + 1 : Nat)), .int r, .int m, .ref l]) := if_pos rfl
  let h2 := xk_set h1 it (9, [.int (zI (i + 1 : Nat)), .int (zI i), .int m, .ref l])
  have x1 : Fx (fun a => a = it) 0 h h1 := Fx.set G.fs (G.fs.lt I (by simp)) rfl (by rw [I]; simp)
  have x2 : Fx (fun a => a = it) 0 h h2 := x1.set' e1 (by simp) fun _ => rfl
  have L2 : LA w K h2 l o xs m e := L.fx G.fs x2 (Ne.symm nl) fun _ => Ne.symm ne
  refine ⟨h2, ?_, x2, ⟨zI i, if_pos rfl⟩, L2⟩
  unfold mf_J9_next mf_J9_checkForComodification
  rw [rc_ok I (by simp), gR_ok (x := some l) I (by simp) rfl, gI_ok (x := m) L.1 (by simp) rfl, gI_ok (x := m) I (by simp) rfl, if_pos rfl, cl_some, gI_ok (x := zI i) I (by simp) rfl, gR_ok (x := some l) I (by simp) rfl, gI_ok (x := zI xs.length) L.1 (by simp) rfl,
    if_pos (by rw [zI_lt (by omega) (by omega) (by omega) (by omega)]; omega), gR_ok (x := some l) I (by simp) rfl, gR_ok (x := some e) L.1 (by simp) rfl, len_ok ea ma, if_pos (by rw [zI_lt (by omega) (by omega) (by omega) (by omega)]; omega), show (1 : Int32) = zI 1 by decide, zI_add,
    show (i : Int) + 1 = (i + 1 : Nat) by omega, pV_w (vs' := [.int (zI (i + 1 : Nat)), .int r, .int m, .ref l]) I (by simp) rfl]
  show xm_pV [9] 1 (some it) _ h1 _ = _
  rw [pV_w (vs' := [.int (zI (i + 1 : Nat)), .int (zI i), .int m, .ref l]) e1 (by simp) rfl]
  exact L2.get (G.fx x2) q
theorem C_addAll_J (G : Gd K h) (ol : h.1 l = (6, [.int m, .ref e, .int (zI xs.length)])) {t b : Nat} (oe : h.1 e = (102, xs.map Value.ref ++ List.replicate t .null)) (ob : h.1 b = (102, ys.map Value.ref)) (p : ys.length ≤ t) (n : xs.length + t ≤ 100) (E : El h ys) :
    ∃ h', mf_J2_addAll_J56 (some l) (some b) (zI ys.length) (some e) (zI xs.length) h = some (true, h') ∧ Fx (fun a => a = l ∨ a = e) 0 h h' ∧ h'.1 l = (6, [.int m, .ref e, .int (zI (xs ++ ys).length)]) ∧ h'.1 e = (102, (xs ++ ys).map Value.ref ++ List.replicate (t - ys.length) .null) := by
  have le : l ≠ e := by rintro rfl; rw [ol] at oe; simp at oe
  have hv : xk_cp (ys.map Value.ref) (xs.map Value.ref ++ List.replicate t .null) 0 xs.length ys.length = (xs ++ ys).map Value.ref ++ List.replicate (t - ys.length) .null := by
    unfold xk_cp
    have a1 : (xs.map Value.ref ++ List.replicate t Value.null).take xs.length = xs.map Value.ref := List.take_left' (by simp)
    have a2 : ((ys.map Value.ref).drop 0).take ys.length = ys.map Value.ref := by rw [List.drop_zero]; exact List.take_of_length_le (by simp)
    have a3 : (xs.map Value.ref ++ List.replicate t Value.null).drop (xs.length + ys.length) = List.replicate (t - ys.length) Value.null := by
      rw [List.drop_append, List.drop_eq_nil_of_le (by simp), List.nil_append, List.length_map, List.drop_replicate]
      exact congrArg (fun z => List.replicate z Value.null) (by omega)
    rw [a1, a2, a3, List.map_append, List.append_assoc]
  let h1 := xk_set h e (102, (xs ++ ys).map Value.ref ++ List.replicate (t - ys.length) .null)
  have x1 : Fx (fun a => a = l ∨ a = e) 0 h h1 := Fx.set G.fs (G.fs.lt oe (by simp)) (Or.inr rfl) (by rw [oe]; simp)
  have e1 : h1.1 l = (6, [.int m, .ref e, .int (zI xs.length)]) := by show (if l = e then _ else _) = _; rw [if_neg le]; exact ol
  refine ⟨xk_set h1 l (6, [.int m, .ref e, .int (zI (xs ++ ys).length)]), ?_, x1.set' e1 (by simp) (fun _ => Or.inl rfl), if_pos rfl, by rw [set_1, if_neg (Ne.symm le)]; exact if_pos rfl⟩
  unfold mf_J2_addAll_J56
  rw [show (0 : Int32) = zI 0 from rfl, cpy_ok (by omega) (by omega) (by omega) (by omega) (by omega) (by omega) ob oe (by simp) (by simp) (by simp) (by simp; omega) (by
    rw [List.all_eq_true]
    intro v mv
    exact List.all_eq_true.1 E.all v (List.mem_of_mem_drop (List.mem_of_mem_take mv)))]
  show xm_pV [6] 2 (some l) _ (xk_set h e (102, xk_cp _ _ (Int.toNat 0) ((xs.length : Int)).toNat ((ys.length : Int)).toNat)) _ = _
  rw [Int.toNat_natCast, Int.toNat_natCast, show Int.toNat 0 = 0 from rfl, hv, zI_add, pV_w (vs' := [.int m, .ref e, .int (zI (xs ++ ys).length)]) e1 (by simp) (by rw [List.length_append, Int.natCast_add]; rfl)]
theorem wN_o {a : Nat} (q : w a = o) : wN w h o a = o := by
  unfold wN
  by_cases r : a < h.2.2.1
  · rw [if_pos r]; exact q
  · rw [if_neg r]
theorem LA.wN (L : LA w K h' l o xs m e) : LA (fun a => if a < h.2.2.1 then w a else o) K h' l o xs m e := by
  refine ⟨L.1, wN_o L.2.1, ?_⟩
  rcases L.2.2 with q | ⟨t, q, r, s⟩
  · exact Or.inl q
  · exact Or.inr ⟨t, q, wN_o r, s⟩
theorem C_addAll (G : Gd K h) (L : LA w K h l o xs m e) (L2 : LA w K h l' o' ys m' e') (no : o ≠ o') (E : El h xs) (E2 : El h ys) (n : xs.length + ys.length ≤ 30) (hc : 11 ≤ c ∧ (xs.length + ys.length) + (xs.length + ys.length) / 2 + 1 ≤ c) (cr : ys.length + 1 + c ≤ h.2.2.2) :
    ∃ h' r m2 e2, mf_J2_addAll (some l) (some l') h = some (r, h') ∧ Fx (fun a => a = l ∨ a = e) (ys.length + 1 + c) h h' ∧ LA (wN w h o) K h' l o (xs ++ ys) m2 e2 := by
  obtain ⟨ar', ea', ma', na', t', ra'⟩ := L2.arr G
  have lx := L.len G
  have ly := L2.len G
  have hb : ar'.2.take ys.length ++ List.replicate (ys.length - ar'.2.length) .null = ys.map Value.ref := by
    rw [ra', List.take_left' (by simp)]
    have : ys.length - (ys.map Value.ref ++ List.replicate t' Value.null).length = 0 := by simp
    rw [this, List.replicate_zero, List.append_nil]
  let b := h.2.2.1
  let h1 := xk_push h (102, ys.map Value.ref)
  have x1 : Ex (ys.length + 1) h h1 := (Fx.push G.fs _).le (by show (ys.map Value.ref).length + 1 ≤ ys.length + 1; rw [List.length_map]; omega)
  have G1 := G.fx x1
  have L1 := L.ex G.fs x1
  obtain ⟨L3, x3⟩ := L1.mod G1 (m + 1)
  let h2 := xk_set h1 l (6, [.int (m + 1), .ref e, .int (zI xs.length)])
  have G2 : Gd K h2 := G1.fx x3
  have bl : b ≠ l := Nat.ne_of_gt (G.fs.lt L.1 (by simp))
  have ob : h2.1 b = (102, ys.map Value.ref) := by
    show (if b = l then _ else if b = h.2.2.1 then _ else _) = _
    rw [if_neg bl, if_pos rfl]
  have E3 : El h2 xs := (E.ex G.fs x1).fx G1.fs x3 fun a q => by subst q; rw [L1.1]; simp
  have E4 : El h2 ys := (E2.ex G.fs x1).fx G1.fs x3 fun a q => by subst q; rw [L1.1]; simp
  have xl : Fx (fun a => a = l ∨ a = e) (ys.length + 1) h h2 := (x1.mono (R := fun a => a = l ∨ a = e) (fun _ => False.elim) (Nat.le_refl _)).trans (x3.mono (fun a q => Or.inl q) (Nat.le_refl _))
  have c2 : c ≤ h2.2.2.2 := by have := xl.cr; omega
  have head : mf_J2_addAll (some l) (some l') h = xm_len [102, 302] (some b) h2 fun x5 => if x5 = 0 then (some (false, h2)) else (xm_gR [6] 1 (some l) h2 fun x6 => xm_len [102, 302] x6 h2 fun x7 => xm_gI [6] 2 (some l) h2 fun x8 => if x5 ≤ (x7 - x8) then (mf_J2_addAll_J56 (some l) (some b) x5 x6 x8 h2) else (xm_rc [6] (some l) h2 <| xm_cl (mf_J2_grow (some l) (x8 + x5) h2) fun r11 h12 => mf_J2_addAll_J56 (some l) (some b) x5 r11 x8 h12)) := by
    unfold mf_J2_addAll mf_J2_toArray
    rw [rc_ok L2.1 (by simp), gR_ok (x := some e') L2.1 (by simp) rfl, gI_ok (x := zI ys.length) L2.1 (by simp) rfl, C_copyOf G.fs ea' ma' ra' E2 na' (by omega) (by omega), cl_some, cl_some, hb]
    show xm_gI [6] 0 (some l) h1 _ = _
    rw [gI_ok (x := m) L1.1 (by simp) rfl, pV_w (vs' := [.int (m + 1), .ref e, .int (zI xs.length)]) L1.1 (by simp) rfl]
  rw [head, len_ok ob (by simp), List.length_map]
  obtain ⟨ar, ea, ma, na, t, ra⟩ := L3.arr G2
  have la : ar.2.length = xs.length + t := by rw [ra]; simp
  by_cases z : ys.length = 0
  · have : ys = [] := List.length_eq_zero_iff.1 z
    subst this
    refine ⟨h2, false, m + 1, e, if_pos rfl, xl.le (by omega), ?_⟩
    rw [List.append_nil]
    exact L3.wN
  · have nz : ¬ zI ys.length = 0 := by
      rw [show (0 : Int32) = zI 0 by decide, zI_inj (by omega) (by omega) (by omega) (by omega)]; omega
    rw [if_neg nz, gR_ok (x := some e) L3.1 (by simp) rfl, len_ok ea ma, gI_ok (x := zI xs.length) L3.1 (by simp) rfl, la, zI_sub]
    by_cases g : ys.length ≤ t
    · rw [if_pos (by rw [zI_le (by omega) (by omega) (by omega) (by omega)]; omega)]
      have oe : h2.1 e = (102, xs.map Value.ref ++ List.replicate t .null) ∧ w e = o := by
        rcases L3.2.2 with ⟨q1, q2⟩ | ⟨t', q', r', _⟩
        · subst q2; subst q1
          have := G2.2.1.2; rw [ea] at this; rw [this] at la; simp at la; omega
        · rw [ea] at q'
          refine ⟨?_, r'⟩
          rw [ea, q']; rw [q'] at ra
          rw [(List.append_right_inj _).1 ra]
      obtain ⟨h3, j1, x3', o3, o4⟩ := C_addAll_J G2 L3.1 oe.1 ob g (by omega) E4
      refine ⟨h3, true, m + 1, e, j1, (xl.trans x3').le (by omega), ⟨o3, wN_o L.2.1, Or.inr ⟨t - ys.length, o4, wN_o oe.2, ?_, ?_⟩⟩⟩
      · rw [List.length_append]; omega
      · rw [List.length_append]; omega
    · rw [if_neg (by rw [zI_le (by omega) (by omega) (by omega) (by omega)]; omega), rc_ok L3.1 (by simp), zI_add, show (xs.length : Int) + ys.length = (xs.length + ys.length : Nat) by omega]
      obtain ⟨h3, t2, g1, x4, o1, o2, n1, n2, nx⟩ := C_grow (c := c) G2 L3 E3 (N := xs.length + ys.length) (by rw [ea, la]; omega) (by omega) (by omega) (by omega) (by omega)
      have G3 := G2.fx x4
      have bb : h3.1 b = (102, ys.map Value.ref) := x4.get G2.fs ob (by simp) (Or.inr bl)
      obtain ⟨h4, j1, x5, o3, o4⟩ := C_addAll_J G3 o1 o2 bb (by omega) (by omega) (E4.fx G2.fs x4 fun a q => by subst q; rw [L3.1]; simp)
      refine ⟨h4, true, m + 1, h2.2.2.1, ?_, ?_, ⟨o3, wN_o L.2.1, Or.inr ⟨t2 - ys.length, o4, wN_n (Nat.le_succ _), ?_, ?_⟩⟩⟩
      · rw [g1, cl_some, j1]
      · have y := (xl.andthen x4 (R := fun a => a = l) fun a _ q => Or.inl q).andthen x5 fun a la q => by
          rcases q with q | q
          · exact Or.inl q
          · subst q; exact absurd la (by show ¬ (h.2.2.1 + 1 < h.2.2.1); omega)
        exact y.le (by omega)
      · rw [List.length_append]; omega
      · rw [List.length_append]; omega
end
