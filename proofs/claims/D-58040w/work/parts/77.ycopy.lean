/-! PURE LAW, the class's yards: a new crate, a crate's copy, a yard's copy -/
set_option maxRecDepth 10000
section
variable {w w' : Nat → Nat × Nat} {K : KD} {h h' h0 : xk_H} {l l' e e' : Nat} {o o' : Nat × Nat} {xs ys : List Nat} {m m' : Int32} {Q : Nat → Prop} {c : Nat}
theorem LA.q (G : Gd K h) (L : LA w K h l o xs m e) {a : Nat} (q : (a = l ∨ a = e) ∧ (h.1 a).1 < 200) : w a = o := by
  obtain ⟨rfl | rfl, q⟩ := q
  · exact L.2.1
  · rcases L.2.2 with ⟨r1, r2⟩ | ⟨t, r1, r2, _⟩
    · rw [r1, G.2.1.2] at q; simp at q
    · exact r2
/-- Crate's constructor -/
theorem C_crate (G : Gd K h) (w : Nat → Nat × Nat) (o : Nat × Nat) {b : Nat} {v0 v1 v2 v3 v4 v5 : Value} (eb : h.1 b = (3, [v0, v1, v2, v3, v4, v5])) (s r g : Int32) (lb : Nat) (cr : 4 ≤ h.2.2.2) :
    ∃ h', mf_X3_init b s r g (some lb) h = some ((), h') ∧ Fx (fun a => a = b) 4 h h' ∧ h'.1 b = (3, [.int s, .int r, .int g, .ref lb, .int (zI (-1)), .ref h.2.2.1]) ∧ LA (wN w h o) K h' h.2.2.1 o [] 0 K.1 ∧ h'.2.2.1 = h.2.2.1 + 1 := by
  let h1 := xk_set h b (3, [v0, v1, v2, v3, .int (-1), v5])
  have x1 : Fx (fun a => a = b) 0 h h1 := (Fx.rfl G.fs).set' eb (by simp) fun _ => rfl
  have e1 : h1.1 b = (3, [v0, v1, v2, v3, .int (-1), v5]) := if_pos rfl
  have G1 := G.fx x1
  obtain ⟨h2, a2, x2, A2, n2⟩ := C_newList G1 (wN w h o) o (show 4 ≤ h1.2.2.2 from cr)
  have lb2 : b < h.2.2.1 := G.fs.lt eb (by simp)
  have e2 : h2.1 b = (3, [v0, v1, v2, v3, .int (-1), v5]) := x2.get G1.fs e1 (by simp) (Or.inr id)
  have G2 := G1.fx x2
  have X2 : Fx (fun a => a = b) 4 h h2 := x1.andthen x2 fun a _ q => q.elim
  have bn : b ≠ h.2.2.1 := Nat.ne_of_lt lb2
  let p := h.2.2.1
  let h3 := xk_set h2 b (3, [v0, v1, v2, v3, .int (-1), .ref p])
  have e3 : h3.1 b = (3, [v0, v1, v2, v3, .int (-1), .ref p]) := if_pos rfl
  let h4 := xk_set h3 b (3, [.int s, v1, v2, v3, .int (-1), .ref p])
  have e4 : h4.1 b = (3, [.int s, v1, v2, v3, .int (-1), .ref p]) := if_pos rfl
  let h5 := xk_set h4 b (3, [.int s, .int r, v2, v3, .int (-1), .ref p])
  have e5 : h5.1 b = (3, [.int s, .int r, v2, v3, .int (-1), .ref p]) := if_pos rfl
  let h6 := xk_set h5 b (3, [.int s, .int r, .int g, v3, .int (-1), .ref p])
  have e6 : h6.1 b = (3, [.int s, .int r, .int g, v3, .int (-1), .ref p]) := if_pos rfl
  let h7 := xk_set h6 b (3, [.int s, .int r, .int g, .ref lb, .int (-1), .ref p])
  have X7 : Fx (fun a => a = b) 4 h h7 := ((((X2.set' e2 (by simp) fun _ => rfl).set' e3 (by simp) fun _ => rfl).set' e4 (by simp) fun _ => rfl).set' e5 (by simp) fun _ => rfl).set' e6 (by simp) fun _ => rfl
  have Y7 : Fx (fun a => a = b) 0 h2 h7 := (((((Fx.rfl (Q := fun a => a = b) G2.fs).set' e2 (by simp) fun _ => rfl).set' e3 (by simp) fun _ => rfl).set' e4 (by simp) fun _ => rfl).set' e5 (by simp) fun _ => rfl).set' e6 (by simp) fun _ => rfl
  refine ⟨h7, ?_, X7, if_pos rfl, ?_, ?_⟩
  · unfold mf_X3_init
    rw [pV_w (vs' := [v0, v1, v2, v3, .int (-1), v5]) eb (by simp) rfl]
    show xm_new 6 _ h1 _ = _
    rw [new_ok (show [Value.int 0, Value.null, Value.int 0].length + 1 ≤ h1.2.2.2 from cr)]
    show xm_cl (mf_J2_init h1.2.2.1 (xk_push h1 (6, [.int 0, .null, .int 0]))) _ = _
    rw [a2, cl_some]
    show xm_pV [3] 5 (some b) (.ref p) h2 _ = _
    rw [pV_w (vs' := [v0, v1, v2, v3, .int (-1), .ref p]) e2 (by simp) rfl]
    show xm_pV [3] 0 (some b) _ h3 _ = _
    rw [pV_w (vs' := [.int s, v1, v2, v3, .int (-1), .ref p]) e3 (by simp) rfl]
    show xm_pV [3] 1 (some b) _ h4 _ = _
    rw [pV_w (vs' := [.int s, .int r, v2, v3, .int (-1), .ref p]) e4 (by simp) rfl]
    show xm_pV [3] 2 (some b) _ h5 _ = _
    rw [pV_w (vs' := [.int s, .int r, .int g, v3, .int (-1), .ref p]) e5 (by simp) rfl]
    show xm_pV [3] 3 (some b) _ h6 _ = _
    rw [pV_w (vs' := [.int s, .int r, .int g, .ref lb, .int (-1), .ref p]) e6 (by simp) rfl]
  · have A3 : LA (wN w h o) K h2 h.2.2.1 o [] 0 K.1 := ⟨A2.1, wN_n (Nat.le_refl _), Or.inl ⟨rfl, rfl⟩⟩
    exact A3.fx G2.fs Y7 (fun q => bn q.symm) fun z => z.elim (fun f => absurd rfl f) (fun f => absurd rfl f)
  · exact n2
/-- Crate.copy -/
theorem C_ccopy (G : Gd K h) {b p : Nat} {f : Nat → Int} {lb : List Int} {js : List Nat} (C : CA w K h o c b p f lb js) (hj : ∀ x ∈ js, x < 128) (nj : js.length ≤ 12) (no : o' ≠ o) (cr : 50 ≤ h.2.2.2) :
    ∃ h' w', mf_X3_copy (some c) h = some (some h.2.2.1, h') ∧ Ex 43 h h' ∧ Wx h w w' ∧ CA w' K h' o' h.2.2.1 b (h.2.2.1 + 1) f lb js := by
  obtain ⟨c1, c2, ⟨c3, c4⟩, m, e, P⟩ := C
  let n := h.2.2.1
  let h1 := xk_push h (3, [.int 0, .int 0, .int 0, .null, .int 0, .null])
  have x1 : Ex 7 h h1 := (Fx.push G.fs _).le (by decide)
  have G1 := G.fx x1
  have e1 : h1.1 n = (3, [.int 0, .int 0, .int 0, .null, .int 0, .null]) := if_pos rfl
  have c11 := x1.get G.fs c1 (by simp) (Or.inr id)
  have k1 := x1.cr
  have lc : c < h.2.2.1 := G.fs.lt c1 (by simp)
  obtain ⟨h2, a2, x2, o2, A2, n2⟩ := C_crate G1 (wN w h o') o' e1 (zI (f 0)) (zI (f 1)) (zI (f 2)) b (by omega)
  have X2 : Ex 11 h h2 := x1.andthen x2 fun a l q => by subst q; exact absurd l (Nat.lt_irrefl _)
  have G2 := G.fx X2
  have c12 := X2.get G.fs c1 (by simp) (Or.inr id)
  let h3 := xk_set h2 n (3, [.int (zI (f 0)), .int (zI (f 1)), .int (zI (f 2)), .ref b, .int (zI (f 3)), .ref h1.2.2.1])
  have e3 : h3.1 n = (3, [.int (zI (f 0)), .int (zI (f 1)), .int (zI (f 2)), .ref b, .int (zI (f 3)), .ref h1.2.2.1]) := if_pos rfl
  have X3 : Ex 11 h h3 := X2.set' o2 (by simp) fun l => absurd l (Nat.lt_irrefl _)
  have Y3 : Fx (fun a => a = n) 0 h2 h3 := (Fx.rfl (Q := fun a => a = n) G2.fs).set' o2 (by simp) fun _ => rfl
  have G3 := G.fx X3
  have A3 : LA (wN (wN w h o') h1 o') K h3 h1.2.2.1 o' ([] : List Nat) 0 K.1 := A2.fx G2.fs Y3 (fun q => by
    have : h.2.2.1 + 1 = h.2.2.1 := q
    omega) fun z => z.elim (fun f => absurd rfl f) (fun f => absurd rfl f)
  have W3 : Wx h w (wN (wN w h o') h1 o') := fun a l => by
    rw [wN_x (wN w h o') h1 o' a (Nat.lt_succ_of_lt l), wN_x w h o' a l]
  have P3 : LA (wN (wN w h o') h1 o') K h3 p o (js.map (iad K)) m e := (P.wx G.fs W3).ex G.fs X3
  have E3 : El h3 (js.map (iad K)) := fun z mz => by
    obtain ⟨j, mj, rfl⟩ := List.mem_map.1 mz
    rw [G3.ad (hj j mj)]; simp
  have k3 := X3.cr
  have c13 := X3.get G.fs c1 (by simp) (Or.inr id)
  obtain ⟨h4, r4, m4, e4, a4, x4, A4⟩ := C_addAll (c := 19) G3 A3 P3 no (fun z mz => nomatch mz) E3 (by rw [List.length_map]; simp; omega) (by rw [List.length_map]; simp; omega) (by rw [List.length_map]; omega)
  have n13 : h1.2.2.1 = h.2.2.1 + 1 := rfl
  have X4 : Ex (11 + ((js.map (iad K)).length + 1 + 19)) h h4 := X3.andthen x4.low fun a l q => by
    obtain ⟨rfl | rfl, q⟩ := q
    · omega
    · rw [G3.2.1.2] at q; simp at q
  refine ⟨h4, wN (wN (wN w h o') h1 o') h3 o', ?_, X4.le (by rw [List.length_map]; omega), ?_, x4.low.get G3.fs e3 (by simp) (Or.inr fun q => ?_), ?_, ⟨X4.get G.fs c3 (by simp) (Or.inr id), ?_⟩, m4, e4, ?_⟩
  rotate_left
  · exact W3.trans (wN_x _ _ _) X3.2.2.1
  · obtain ⟨q | q, z⟩ := q
    · have : h.2.2.1 = h.2.2.1 + 1 := q
      omega
    · have : h.2.2.1 = K.1 := q
      have := G.fs.lt G.2.1.2 (by simp)
      omega
  · rw [wN_x _ h3 o' h.2.2.1 (X3.fs.lt e3 (by simp)), wN_x _ h1 o' h.2.2.1 (Nat.lt_succ_self _)]
    exact wN_n (Nat.le_refl _)
  · have lb2 := G.fs.lt c3 (by simp)
    rw [wN_x _ h3 o' b (Nat.lt_of_lt_of_le lb2 X3.2.2.1), W3 b lb2]; exact c4
  · exact A4
  · unfold mf_X3_copy
    rw [new_ok (show [Value.int 0, Value.int 0, Value.int 0, Value.null, Value.int 0, Value.null].length + 1 ≤ h.2.2.2 by simp; omega)]
    show xm_gI [3] 0 (some c) h1 _ = _
    rw [gI_ok (x := zI (f 0)) c11 (by simp) rfl, gI_ok (x := zI (f 1)) c11 (by simp) rfl, gI_ok (x := zI (f 2)) c11 (by simp) rfl, gR_ok (x := some b) c11 (by simp) rfl]
    show xm_cl (mf_X3_init n _ _ _ _ h1) _ = _
    rw [a2, cl_some, gI_ok (x := zI (f 3)) c12 (by simp) rfl]
    show xm_pV [3] 4 (some n) _ h2 _ = _
    rw [pV_w (vs' := [.int (zI (f 0)), .int (zI (f 1)), .int (zI (f 2)), .ref b, .int (zI (f 3)), .ref h1.2.2.1]) o2 (by simp) rfl]
    show xm_gR [3] 5 (some n) h3 _ = _
    rw [gR_ok (x := some h1.2.2.1) e3 (by simp) rfl, gR_ok (x := some p) c13 (by simp) rfl, rc_ok A3.1 (by simp), a4, cl_some]
end
