/-! PURE LAW, ArrayList: set, remove, addAll, the iterator, indexOf -/
set_option maxRecDepth 10000
theorem set_kill (xs : List Nat) (t k : Nat) (p : k < xs.length) : (xk_cp (xs.map Value.ref ++ List.replicate t Value.null) (xs.map Value.ref ++ List.replicate t Value.null) (k + 1) k (xs.length - 1 - k)).set (xs.length - 1) .null = (xs.eraseIdx k).map Value.ref ++ List.replicate (t + 1) .null := by
  unfold xk_cp
  have a1 : (xs.map Value.ref ++ List.replicate t Value.null).take k = (xs.take k).map Value.ref := by
    rw [List.take_append_of_le_length (by simp; omega), List.map_take]
  have a2 : ((xs.map Value.ref ++ List.replicate t Value.null).drop (k + 1)).take (xs.length - 1 - k) = (xs.drop (k + 1)).map Value.ref := by
    rw [List.drop_append_of_le_length (by simp; omega), List.map_drop]
    exact List.take_left' (by simp; omega)
  have a3 : (xs.map Value.ref ++ List.replicate t Value.null).drop (k + (xs.length - 1 - k)) = (xs.drop (xs.length - 1)).map Value.ref ++ List.replicate t Value.null := by
    rw [List.drop_append_of_le_length (by simp; omega), List.map_drop, show k + (xs.length - 1 - k) = xs.length - 1 by omega]
  rw [a1, a2, a3, ← List.append_assoc, ← List.map_append, List.eraseIdx_eq_take_drop_succ]
  have l1 : ((xs.take k ++ xs.drop (k + 1)).map Value.ref).length = xs.length - 1 := by simp; omega
  rw [List.set_append_right _ _ (by rw [l1]; exact Nat.le_refl _), l1, Nat.sub_self]
  obtain ⟨y, hy⟩ : ∃ y, xs.drop (xs.length - 1) = [y] := by
    have : (xs.drop (xs.length - 1)).length = 1 := by simp; omega
    exact List.length_eq_one_iff.1 this
  rw [hy]
  rfl
theorem set_killL (xs : List Nat) (t : Nat) (p : 0 < xs.length) : (xs.map Value.ref ++ List.replicate t Value.null).set (xs.length - 1) .null = (xs.eraseIdx (xs.length - 1)).map Value.ref ++ List.replicate (t + 1) .null := by
  have := set_kill xs t (xs.length - 1) (by omega)
  rw [← this]
  unfold xk_cp
  rw [Nat.sub_self, List.take_zero, List.nil_append, Nat.add_zero, List.take_append_drop]
section
variable {w w' : Nat → Nat × Nat} {K : KD} {h h' : xk_H} {l l' e e' : Nat} {o o' : Nat × Nat} {xs ys : List Nat} {m m' : Int32} {Q : Nat → Prop} {c : Nat}
theorem LA.arr2 (G : Gd K h) (L : LA w K h l o xs m e) (n : 0 < xs.length) : ∃ t : Nat, h.1 e = (102, xs.map Value.ref ++ List.replicate t .null) ∧ w e = o ∧ 0 < xs.length + t ∧ xs.length + t ≤ 100 := by
  rcases L.2.2 with ⟨_, q2⟩ | q
  · rw [q2] at n; simp at n
  · exact q
theorem C_set (G : Gd K h) (L : LA w K h l o xs m e) {k x y : Nat} (q : xs[k]? = some x) (hy : (h.1 y).1 ∈ [3, 211]) :
    ∃ h', mf_J2_set (some l) (zI k) (some y) h = some (some x, h') ∧ Fx (fun a => a = e) 0 h h' ∧ LA w K h' l o (xs.set k y) m e := by
  have hk : k < xs.length := (List.getElem?_eq_some_iff.1 q).1
  have lx := L.len G
  obtain ⟨t, oe, we, n1, n2⟩ := L.arr2 G (by omega)
  have x1 : Fx (fun a => a = e) 0 h (xk_set h e (102, (xs.set k y).map Value.ref ++ List.replicate t .null)) := Fx.set G.fs (G.fs.lt oe (by simp)) rfl (by rw [oe]; simp)
  refine ⟨_, ?_, x1, ⟨?_, L.2.1, Or.inr ⟨t, by rw [set_1, if_pos rfl], we, by rw [List.length_set]; exact n1, by rw [List.length_set]; exact n2⟩⟩⟩
  · unfold mf_J2_set mf_J2_elementData
    rw [gI_ok (x := zI xs.length) L.1 (by simp) rfl, C_checkIndex (by omega) (by omega) (by omega), cl_some, rc_ok L.1 (by simp), gR_ok (x := some e) L.1 (by simp) rfl, L.get G q, cl_some, gR_ok (x := some e) L.1 (by simp) rfl,
      sR_ok hy (by omega) (by omega) oe (by simp) (by simp; omega), Int.toNat_natCast]
    show some (some x, xk_set h e (102, (xs.map Value.ref ++ List.replicate t Value.null).set k (.ref y))) = _
    rw [set_head xs t y k hk]
  · rw [set_1, if_neg (L.le G).symm, List.length_set]; exact L.1
theorem C_remove (G : Gd K h) (L : LA w K h l o xs m e) (E : El h xs) {k x : Nat} (q : xs[k]? = some x) :
    ∃ h', mf_J2_remove (some l) (zI k) h = some (some x, h') ∧ Fx (fun a => a = l ∨ a = e) 0 h h' ∧ LA w K h' l o (xs.eraseIdx k) (m + 1) e := by
  have hk : k < xs.length := (List.getElem?_eq_some_iff.1 q).1
  have lx := L.len G
  obtain ⟨t, oe, we, n1, n2⟩ := L.arr2 G (by omega)
  have ne := L.le G
  have lE : (xs.eraseIdx k).length = xs.length - 1 := List.length_eraseIdx_of_lt hk
  have nz : ((xs.length : Nat) : Int) - 1 = (xs.length - 1 : Nat) := by omega
  -- the three heaps
  let h1 := xk_set h l (6, [.int (m + 1), .ref e, .int (zI xs.length)])
  have e1l : h1.1 l = (6, [.int (m + 1), .ref e, .int (zI xs.length)]) := by show (if l = l then _ else _) = _; rw [if_pos rfl]
  have e1e : h1.1 e = (102, xs.map Value.ref ++ List.replicate t .null) := by show (if e = l then _ else _) = _; rw [if_neg ne]; exact oe
  have x1 : Fx (fun a => a = l ∨ a = e) 0 h h1 := Fx.set G.fs (G.fs.lt L.1 (by simp)) (Or.inl rfl) (by rw [L.1]; simp)
  have head : mf_J2_remove (some l) (zI k) h = xm_cl (if (zI xs.length - zI 1) ≤ zI k then (xm_pV [6] 2 (some l) (.int (zI xs.length - zI 1)) h1 fun h4 => xm_sR [102] [3, 211] (some e) (zI xs.length - zI 1) none h4 fun h5 => some ((), h5)) else (xm_cpy [102, 302] [102] (xk_el [3, 211] h1) (some e) (zI k + zI 1) (some e) (zI k) ((zI xs.length - zI 1) - zI k) h1 fun h6 => xm_pV [6] 2 (some l) (.int (zI xs.length - zI 1)) h6 fun h7 => xm_sR [102] [3, 211] (some e) (zI xs.length - zI 1) none h7 fun h8 => some ((), h8))) fun r6 h7 => some (some x, h7) := by
    unfold mf_J2_remove mf_J2_fastRemove
    rw [gI_ok (x := zI xs.length) L.1 (by simp) rfl, C_checkIndex (by omega) (by omega) (by omega), cl_some, gR_ok (x := some e) L.1 (by simp) rfl, L.get G q, rc_ok L.1 (by simp), gI_ok L.1 (by simp) rfl,
      pV_w (vs' := [.int (m + 1), .ref e, .int (zI xs.length)]) L.1 (by simp) rfl, gI_ok (x := zI xs.length) e1l (by simp) rfl]
    rfl
  rw [head, zI_sub, nz]
  have fin : ∀ (g : xk_H) (vs : List Value), Fx (fun a => a = l ∨ a = e) 0 h g → g.1 l = (6, [.int (m + 1), .ref e, .int (zI (xs.length - 1 : Nat))]) → g.1 e = (102, vs) → vs.length = xs.length + t → vs.set (xs.length - 1) .null = (xs.eraseIdx k).map Value.ref ++ List.replicate (t + 1) .null →
      ∃ h', xm_sR [102] [3, 211] (some e) (zI (xs.length - 1 : Nat)) none g (fun h8 => some ((), h8)) = some ((), h') ∧ Fx (fun a => a = l ∨ a = e) 0 h h' ∧ LA w K h' l o (xs.eraseIdx k) (m + 1) e := by
    intro g vs xg gl ge gn gv
    refine ⟨xk_set g e (102, (xs.eraseIdx k).map Value.ref ++ List.replicate (t + 1) .null), ?_, xg.set' ge (by simp) (fun _ => Or.inr rfl), ⟨?_, L.2.1, Or.inr ⟨t + 1, by rw [set_1, if_pos rfl], we, by omega, by rw [lE]; omega⟩⟩⟩
    · rw [sN_ok (by omega) (by omega) ge (by simp) (by simp only []; omega), Int.toNat_natCast]
      show some ((), xk_set g e (102, vs.set _ _)) = _
      rw [gv]
    · rw [set_1, if_neg ne.symm, lE]; exact gl
  by_cases z : xs.length - 1 ≤ k
  · have kz : k = xs.length - 1 := by omega
    rw [if_pos (by rw [zI_le (by omega) (by omega) (by omega) (by omega)]; omega), pV_w (vs' := [.int (m + 1), .ref e, .int (zI (xs.length - 1 : Nat))]) e1l (by simp) rfl]
    let h2 := xk_set h1 l (6, [.int (m + 1), .ref e, .int (zI (xs.length - 1 : Nat))])
    obtain ⟨h', g1, g2, g3⟩ := fin h2 (xs.map Value.ref ++ List.replicate t .null) (x1.set' e1l (by simp) fun _ => Or.inl rfl) (by show (if l = l then _ else _) = _; rw [if_pos rfl]) (by show (if e = l then _ else _) = _; rw [if_neg ne]; exact e1e) (by simp) (by subst kz; exact set_killL xs t (by omega))
    exact ⟨h', by rw [show xk_set h1 l _ = h2 from rfl, g1, cl_some], g2, g3⟩
  · rw [if_neg (by rw [zI_le (by omega) (by omega) (by omega) (by omega)]; omega), zI_add, zI_sub, show ((xs.length - 1 : Nat) : Int) - k = (xs.length - 1 - k : Nat) by omega, show (k : Int) + 1 = (k + 1 : Nat) by omega]
    have E1 : El h1 xs := E.fx G.fs x1 fun a z => by rcases z with rfl | rfl; (rw [L.1]; simp); (rw [oe]; simp)
    rw [cpy_ok (by omega) (by omega) (by omega) (by omega) (by omega) (by omega) e1e e1e (by simp) (by simp) (by simp; omega) (by simp; omega)]
    · rw [Int.toNat_natCast, Int.toNat_natCast, Int.toNat_natCast]
      let h2 := xk_set h1 e (102, xk_cp (xs.map Value.ref ++ List.replicate t .null) (xs.map Value.ref ++ List.replicate t .null) (k + 1) k (xs.length - 1 - k))
      have e2l : h2.1 l = (6, [.int (m + 1), .ref e, .int (zI xs.length)]) := by show (if l = e then _ else _) = _; rw [if_neg ne.symm]; exact e1l
      have e2e : h2.1 e = (102, xk_cp (xs.map Value.ref ++ List.replicate t .null) (xs.map Value.ref ++ List.replicate t .null) (k + 1) k (xs.length - 1 - k)) := by show (if e = e then _ else _) = _; rw [if_pos rfl]
      have x2 : Fx (fun a => a = l ∨ a = e) 0 h h2 := x1.set' e1e (by simp) fun _ => Or.inr rfl
      let h3 := xk_set h2 l (6, [.int (m + 1), .ref e, .int (zI (xs.length - 1 : Nat))])
      show ∃ h', xm_cl (xm_pV [6] 2 (some l) _ h2 _) _ = _ ∧ _
      rw [pV_w (vs' := [.int (m + 1), .ref e, .int (zI (xs.length - 1 : Nat))]) e2l (by simp) rfl]
      obtain ⟨h', g1, g2, g3⟩ := fin h3 _ (x2.set' e2l (by simp) fun _ => Or.inl rfl) (by show (if l = l then _ else _) = _; rw [if_pos rfl]) (by show (if e = l then _ else _) = _; rw [if_neg ne]; exact e2e) (by unfold xk_cp; simp; omega) (set_kill xs t k hk)
      exact ⟨h', by rw [show xk_set h2 l _ = h3 from rfl, g1, cl_some], g2, g3⟩
    · rw [Int.toNat_natCast, Int.toNat_natCast, List.all_eq_true]
      intro v mv
      rcases List.mem_append.1 (List.mem_of_mem_drop (List.mem_of_mem_take mv)) with mv | mv
      · exact List.all_eq_true.1 E1.all v mv
      · rw [List.eq_of_mem_replicate mv]; rfl
end
