/-! PURE LAW, the class's yards: a yard's copy -/
set_option maxRecDepth 10000
section
variable {w : Nat → Nat × Nat} {K : KD} {h0 : xk_H} {L : LD} {y : YD}
/-- a yard half copied: the first k crates -/
def HC (w : Nat → Nat × Nat) (K : KD) (h0 h : xk_H) (L : LD) (y : YD) (b l k : Nat) (v : Nat → Nat × Nat) (cA pA : Nat → Nat) (m : Int32) (e : Nat) : Prop :=
  Wx h0 w v ∧ h.1 b = (1, [.ref l, .int 0]) ∧ v b = (b + 2, 0) ∧ LA v K h l (b + 2, 0) ((List.range k).map cA) m e ∧ (e = K.1 ∨ h0.2.2.1 ≤ e) ∧
  ∀ j, j < k → CA v K h (b + 2, j + 1) (cA j) (Lb L j) (pA j) (fun i => yf y i j) (yl y j) (yp y j) ∧ h0.2.2.1 ≤ cA j
theorem Y_copy_L16 (G : Gd K h0) (Y : YA w K h0 L y) (O : YOk y) {b l it : Nat} (hb : h0.2.2.1 ≤ b) (hl : h0.2.2.1 ≤ l) (hi : h0.2.2.1 ≤ it) (bl : Ly L < h0.2.2.1) {m0 : Int32} {e0 : Nat} (P : LA w K h0 (Ll L) (Ly L + 2, 0) ((ys y).map (Lc L)) m0 e0) :
    ∀ (n k f cr : Nat) (h : xk_H) (v : Nat → Nat × Nat) (cA pA : Nat → Nat) (m : Int32) (e : Nat), Ex cr h0 h → IT h it k m0 (Ll L) → HC w K h0 h L y b l k v cA pA m e → k + n = yn y → 64 * n ≤ h.2.2.2 → n < f →
    ∃ h' v' cA' pA', mf_X1_copy_L16 (some (Ly L)) (some b) (some it) f h = some (some b, h') ∧ Ex (cr + 64 * n) h0 h' ∧ Wx h0 w v' ∧ YA v' K h' (b, l, cA', Lb L, pA') y ∧ ∀ j, j < yn y → h0.2.2.1 ≤ cA' j
  | n, k, 0, _, _, _, _, _, _, _, _, _, _, _, _, hf => absurd hf (Nat.not_lt_zero _)
  | 0, k, f + 1, cr, h, v, cA, pA, m, e, x, I, H, hk, hc, hf => by
    have hn := O.n
    obtain ⟨H1, H2, H3, H4, H5, H6⟩ := H
    have G1 := G.fx x
    have Y1 := Y.ex G.fs x
    have P1 := P.ex G.fs x
    obtain ⟨r, I'⟩ := I
    have kn : k = yn y := by omega
    have bc : b ≠ l := fun q => by rw [q, H4.1] at H2; simp at H2
    let h1 := xk_set h b (1, [.ref l, .int (zI (yr y))])
    have X1 : Ex cr h0 h1 := x.set' H2 (by simp) fun q => by omega
    have z1 : Fx (fun a => a = b) 0 h h1 := (Fx.rfl (Q := fun a => a = b) G1.fs).set' H2 (by simp) fun _ => rfl
    obtain ⟨bl1, bl2⟩ := H4.ne_tag G1 H2 (by decide) (by decide) (by decide)
    refine ⟨h1, v, cA, pA, ?_, X1.le (by omega), H1, ?_, fun j hj => (H6 j (by omega)).2⟩
    · unfold mf_X1_copy_L16
      rw [rc_ok I' (by simp), C_hasNext G1 P1 ⟨r, I'⟩ (by simp; omega), cl_some, decide_eq_true (by simp; omega), if_pos (by decide), gI_ok (x := zI (yr y)) Y1.1 (by simp) rfl, pV_w (vs' := [.ref l, .int (zI (yr y))]) H2 (by simp) rfl]
    · refine ⟨if_pos rfl, H3, ⟨m, e, ?_⟩, fun j hj => ?_⟩
      · rw [kn] at H4
        exact H4.fx G1.fs z1 (fun q => bl1 q.symm) fun _ q => bl2 q.symm
      · exact (H6 j (by omega)).1.fx G1.fs z1 fun a q => by
          subst q
          constructor
          · intro q; rw [H3] at q; have := congrArg Prod.snd q; simp at this
          · rw [H3]; simp
  | n + 1, k, f + 1, cr, h, v, cA, pA, m, e, x, I, H, hk, hc, hf => by
    have hn := O.n
    obtain ⟨H1, H2, H3, H4, H5, H6⟩ := H
    have G1 := G.fx x
    have Y1 := Y.ex G.fs x
    have P1 := P.ex G.fs x
    have hk' : k < yn y := by omega
    obtain ⟨h1, e1, x1, I1, P2⟩ := C_next G1 P1 I (x := Lc L k) (by rw [List.getElem?_map, List.getElem?_range hk']; rfl)
    obtain ⟨r, I'⟩ := I
    have ib : it ≠ b := by rintro rfl; rw [I'] at H2; simp at H2
    obtain ⟨il1, il2⟩ := H4.ne_tag G1 I' (by decide) (by decide) (by decide)
    have X1 : Ex cr h0 h1 := x.andthen x1 fun a q z => by subst z; omega
    have G2 := G.fx X1
    have Y2 := Y.ex G.fs X1
    have b1 : h1.1 b = (1, [.ref l, .int 0]) := x1.get G1.fs H2 (by simp) (Or.inr ib.symm)
    have A1 : LA v K h1 l (b + 2, 0) ((List.range k).map cA) m e := H4.fx G1.fs x1 il1.symm fun _ => il2.symm
    have wit : ∀ {c b' p : Nat} {o : Nat × Nat} {f : Nat → Int} {lb : List Int} {js : List Nat}, CA v K h o c b' p f lb js → CA v K h1 o c b' p f lb js := fun C => by
      obtain ⟨c1, c2, ⟨c3, c4⟩, m, e, c5⟩ := C
      obtain ⟨q1, q2⟩ := c5.ne_tag G1 I' (by decide) (by decide) (by decide)
      exact ⟨x1.get G1.fs c1 (by simp) (Or.inr (by rintro rfl; rw [I'] at c1; simp at c1)), c2, ⟨x1.get G1.fs c3 (by simp) (Or.inr (by rintro rfl; rw [I'] at c3; simp at c3)), c4⟩, m, e, c5.fx G1.fs x1 q1.symm fun _ => q2.symm⟩
    have k1 := x1.cr
    have Yv := (Y.wx G.fs H1).ex G.fs X1
    have X1n := X1.2.2.1
    obtain ⟨h2, v2, a2, x2, W2, C2⟩ := C_ccopy G2 (o' := (b + 2, k + 1)) (Yv.2.2.2 k hk') (fun z mz => by have := O.plt hk' mz; omega) (ypl_len O hk') (fun q => by have := congrArg Prod.fst q; simp at this; omega) (by omega)
    have X2 : Ex (cr + 43) h0 h2 := X1.trans x2
    have G3 := G.fx X2
    have x2n := x2.2.2.1
    have c2 := x2.cr
    have A2 := (A1.wx G2.fs W2).ex G2.fs x2
    have CC : ∀ j, j < k → CA v2 K h2 (b + 2, j + 1) (cA j) (Lb L j) (pA j) (fun i => yf y i j) (yl y j) (yp y j) := fun j hj => by
      have := ((wit (H6 j hj).1).wx G2.fs W2)
      exact this.fx G2.fs x2 fun a q => q.elim
    have E2 : El h2 ((List.range k).map cA) := fun z mz => by
      obtain ⟨j, mj, rfl⟩ := List.mem_map.1 mz
      rw [(CC j (List.mem_range.1 mj)).1]; simp
    obtain ⟨h3, m3, e3, a3, x3, A3, he3⟩ := C_add (c := 20) G3 A2 E2 (x := h1.2.2.1) (by rw [C2.1]; simp) (by simp; omega) (by simp; omega) (by omega)
    have x3l := x3.low
    have lq := fun {a : Nat} q => A2.q G3 (a := a) q
    have X3 : Ex (cr + 43 + 20) h0 h3 := X2.andthen x3l fun a q z => by
      obtain ⟨rfl | rfl, z⟩ := z
      · omega
      · rcases H5 with rfl | H5
        · rw [G3.2.1.2] at z; simp at z
        · omega
    have b2 : h2.1 b = (1, [.ref l, .int 0]) := x2.get G2.fs b1 (by simp) (Or.inr id)
    have lb1 : b < h1.2.2.1 := G2.fs.lt b1 (by simp)
    have vb2 : v2 b = (b + 2, 0) := (W2 b lb1).trans H3
    obtain ⟨bl1, bl2⟩ := A2.ne_tag G3 b2 (by decide) (by decide) (by decide)
    have W3 : Wx h2 v2 (wN v2 h2 (b + 2, 0)) := wN_x _ _ _
    have W13 : Wx h0 w (wN v2 h2 (b + 2, 0)) := ((H1.trans W2 X1n).trans W3 (Nat.le_trans X1n x2n))
    obtain ⟨r1, I1'⟩ := I1
    have I2' := x2.get G2.fs I1' (by simp) (Or.inr id)
    obtain ⟨il3, il4⟩ := A2.ne_tag G3 I2' (by decide) (by decide) (by decide)
    have I3 : IT h3 it (k + 1) m0 (Ll L) := ⟨r1, x3.get G3.fs I2' (by simp) (Or.inr fun q => q.elim il3 il4)⟩
    have st : ∀ (j : Nat) {c b' p : Nat} {f : Nat → Int} {lb : List Int} {js : List Nat}, CA v2 K h2 (b + 2, j + 1) c b' p f lb js → CA (wN v2 h2 (b + 2, 0)) K h3 (b + 2, j + 1) c b' p f lb js := fun j c b' p f lb js C => by
      have C' := C.wx G3.fs W3
      refine C'.fx G3.fs x3l fun a q => ?_
      have := lq q
      have la : a < h2.2.2.1 := by
        obtain ⟨rfl | rfl, q⟩ := q
        · exact G3.fs.lt A2.1 (by simp)
        · rcases Nat.lt_or_ge a h2.2.2.1 with g | g
          · exact g
          · have := G3.fs a g; rw [this] at q; omega
      rw [W3 a la, this]
      constructor
      · intro q; have := congrArg Prod.snd q; simp at this
      · simp
    have H' : HC w K h0 h3 L y b l (k + 1) (wN v2 h2 (b + 2, 0)) (fun j => if j = k then h1.2.2.1 else cA j) (fun j => if j = k then h1.2.2.1 + 1 else pA j) m3 e3 := by
      refine ⟨W13, x3.get G3.fs b2 (by simp) (Or.inr fun q => q.elim bl1 bl2), (W3 b (Nat.lt_of_lt_of_le lb1 x2n)).trans vb2, ?_, ?_, fun j hj => ?_⟩
      · have : (List.range (k + 1)).map (fun j => if j = k then h1.2.2.1 else cA j) = (List.range k).map cA ++ [h1.2.2.1] := by
          rw [List.range_succ, List.map_append, List.map_cons, List.map_nil, if_pos rfl]
          exact congrArg (· ++ [h1.2.2.1]) (List.map_congr_left fun j mj => if_neg (by have := List.mem_range.1 mj; omega))
        rw [this]; exact A3
      · rcases he3 with rfl | q
        · exact H5
        · exact Or.inr (by omega)
      · show CA _ K h3 (b + 2, j + 1) (if j = k then h1.2.2.1 else cA j) (Lb L j) (if j = k then h1.2.2.1 + 1 else pA j) _ _ _ ∧ h0.2.2.1 ≤ (if j = k then h1.2.2.1 else cA j)
        by_cases q : j = k
        · subst q
          rw [if_pos rfl, if_pos rfl]; exact ⟨st j C2, X1n⟩
        · rw [if_neg q, if_neg q]; exact ⟨st j (CC j (by omega)), (H6 j (by omega)).2⟩
    have c3 := x3.cr
    obtain ⟨h4, v4, cA4, pA4, e4, x4, W4, Y4⟩ := Y_copy_L16 G Y O hb hl hi bl P n (k + 1) f _ h3 _ _ _ _ _ X3 I3 H' (by omega) (by omega) (by omega)
    refine ⟨h4, v4, cA4, pA4, ?_, x4.le (by omega), W4, Y4⟩
    unfold mf_X1_copy_L16
    rw [rc_ok I' (by simp), C_hasNext G1 P1 ⟨r, I'⟩ (by simp; omega), cl_some, decide_eq_false (by simp; omega), if_neg (by decide), rc_ok I' (by simp), e1, cl_some, cast_ok (Y2.2.2.2 k hk').1 (by simp), gR_ok (x := some l) b1 (by simp) rfl, Y_crc Y2 hk', a2, cl_some, rc_ok A2.1 (by simp), a3, cl_some, e4]
/-- Yard.copy -/
theorem Y_copy (G : Gd K h0) (Y : YA w K h0 L y) (O : YOk y) (cr : 800 ≤ h0.2.2.2) : ∃ h' w' L', mf_X1_copy (some (Ly L)) h0 = some (some (Ly L'), h') ∧ Ex 800 h0 h' ∧ Wx h0 w w' ∧ YA w' K h' L' y ∧ h0.2.2.1 ≤ Ly L' ∧ ∀ j, j < yn y → h0.2.2.1 ≤ Lc L' j := by
  have hn := O.n
  let b := h0.2.2.1
  let h1 := xk_push h0 (1, [.null, .int 0])
  have x1 : Ex 3 h0 h1 := (Fx.push G.fs _).le (by decide)
  have G1 := G.fx x1
  have e1 : h1.1 b = (1, [.null, .int 0]) := if_pos rfl
  have k1 := x1.cr
  obtain ⟨h2, a2, x2, A2, n2⟩ := C_newList G1 (wN w h0 (b + 2, 0)) (b + 2, 0) (by omega)
  have X2 : Ex 7 h0 h2 := x1.trans x2
  have e2 : h2.1 b = (1, [.null, .int 0]) := x2.get G1.fs e1 (by simp) (Or.inr id)
  have G2 := G.fx X2
  let l := h1.2.2.1
  have bl : b ≠ l := Nat.ne_of_lt (Nat.lt_succ_self _)
  let h3 := xk_set h2 b (1, [.ref l, .int 0])
  have e3 : h3.1 b = (1, [.ref l, .int 0]) := if_pos rfl
  have X3 : Ex 7 h0 h3 := X2.set' e2 (by simp) fun q => absurd q (Nat.lt_irrefl _)
  have z3 : Fx (fun a => a = b) 0 h2 h3 := (Fx.rfl (Q := fun a => a = b) G2.fs).set' e2 (by simp) fun _ => rfl
  have G3 := G.fx X3
  have A3 : LA (wN (wN w h0 (b + 2, 0)) h1 (b + 2, 0)) K h3 l (b + 2, 0) ([] : List Nat) 0 K.1 := A2.fx G2.fs z3 (fun q => bl q.symm) fun z => z.elim (fun f => absurd rfl f) (fun f => absurd rfl f)
  have W3 : Wx h0 w (wN (wN w h0 (b + 2, 0)) h1 (b + 2, 0)) := fun a q => by
    rw [wN_x _ h1 _ a (Nat.lt_succ_of_lt q), wN_x w h0 _ a q]
  have Y3 := Y.ex G.fs X3
  obtain ⟨m0, e0, P⟩ := Y.2.2.1
  have k3 := X3.cr
  obtain ⟨h4, a4, x4, I4, n4⟩ := C_iterator G3 (P.ex G.fs X3) (by omega)
  have X4 : Ex 12 h0 h4 := X3.trans x4
  have k4 := X4.cr
  have H4 : HC w K h0 h4 L y b l 0 (wN (wN w h0 (b + 2, 0)) h1 (b + 2, 0)) (fun _ => 0) (fun _ => 0) 0 K.1 := by
    refine ⟨W3, x4.get G3.fs e3 (by simp) (Or.inr id), ?_, A3.ex G3.fs x4, Or.inl rfl, fun j hj => absurd hj (Nat.not_lt_zero _)⟩
    rw [wN_x _ h1 _ b (Nat.lt_succ_self _)]; exact wN_n (Nat.le_refl _)
  have lyb : Ly L < h0.2.2.1 := G.fs.lt Y.1 (by simp)
  have n3 : h0.2.2.1 ≤ h3.2.2.1 := X3.2.2.1
  obtain ⟨h5, v5, cA, pA, a5, X5, W5, Y5⟩ := Y_copy_L16 G Y O (b := b) (l := l) (it := h3.2.2.1) (Nat.le_refl _) (Nat.le_succ _) n3 lyb P (yn y) 0 xk_fu 12 h4 _ _ _ _ _ X4 I4 H4 (by omega) (by omega) (fu_lt (by omega))
  refine ⟨h5, v5, (b, l, cA, Lb L, pA), ?_, X5.le (by omega), W5, Y5.1, Nat.le_refl _, Y5.2⟩
  unfold mf_X1_copy mf_X1_init
  rw [new_ok (show [Value.null, Value.int 0].length + 1 ≤ h0.2.2.2 by simp; omega)]
  show xm_cl (xm_new 6 _ h1 _) _ = _
  rw [new_ok (show [Value.int 0, Value.null, Value.int 0].length + 1 ≤ h1.2.2.2 by simp; omega), a2, cl_some]
  show xm_cl (xm_pV [1] 0 (some b) (.ref l) h2 _) _ = _
  rw [pV_w (vs' := [.ref l, .int 0]) e2 (by simp) rfl, cl_some]
  show xm_gR [1] 0 (some (Ly L)) h3 _ = _
  rw [gR_ok (x := some (Ll L)) Y3.1 (by simp) rfl, rc_ok (P.ex G.fs X3).1 (by simp), a4, cl_some]
  exact a5
end
