/-! PURE LAW, the class's yards: breaksUp, the whole -/
set_option maxRecDepth 10000
theorem range_erase {n c : Nat} (hc : c < n) : (List.range n).eraseIdx c = (List.range (n - 1)).map (up c) := by
  apply List.ext_getElem?
  intro i
  rw [List.getElem?_eraseIdx, List.getElem?_map]
  unfold up
  by_cases q : i < c
  · rw [if_pos q, List.getElem?_range (by omega), List.getElem?_range (by omega)]
    show some i = some (if i < c then i else i + 1)
    rw [if_pos q]
  · rw [if_neg q]
    by_cases r : i + 1 < n
    · rw [List.getElem?_range r, List.getElem?_range (by omega)]
      show some (i + 1) = some (if i < c then i else i + 1)
      rw [if_neg q]
    · rw [List.getElem?_eq_none_iff.2 (by rw [List.length_range]; omega), List.getElem?_eq_none_iff.2 (by rw [List.length_range]; omega)]; rfl
theorem map_erase {α β : Type} (f : α → β) (l : List α) (i : Nat) : (l.map f).eraseIdx i = (l.eraseIdx i).map f := by
  rw [List.eraseIdx_eq_take_drop_succ, List.eraseIdx_eq_take_drop_succ, List.map_append, List.map_take, List.map_drop]
/-- the yard z, without c, the first j crates renumbered -/
def yst (z : YD) (c j : Nat) : YD := (yn z - 1, fun k i => if k = 3 then (if i < j then dnH c (yf z 3 (up c i)) else yf z 3 (up c i)) else yf z k (up c i), fun i => yl z (up c i), fun i => if i < j then (yp z (up c i)).map (dn c) else yp z (up c i), yr z)
section
variable {w w' : Nat → Nat × Nat} {K : KD} {h h' h0 : xk_H} {L : LD} {y z : YD} {c : Nat}
theorem LA.own {l e : Nat} {o o' : Nat × Nat} {xs : List Nat} {m : Int32} (A : LA w K h l o xs m e) (q : ∀ a, w a = o → w' a = o') : LA w' K h l o' xs m e := by
  refine ⟨A.1, q _ A.2.1, ?_⟩
  rcases A.2.2 with r | ⟨t, r, s, u⟩
  · exact Or.inl r
  · exact Or.inr ⟨t, r, q _ s, u⟩
theorem Y_breaks_L22 (hc : c < 100) (zn : yn z ≤ 12) (zh : ∀ k, k < yn z → -1 ≤ yf z 3 k ∧ yf z 3 k ≤ 100) (zp : ∀ k, k < yn z → (yp z k).length ≤ 12 ∧ ∀ x ∈ yp z k, x < 100) {it : Nat} {m0 : Int32} {e0 : Nat} (hi : h0.2.2.1 ≤ it) :
    ∀ (n j f : Nat) (h : xk_H), Gd K h → Fx (Own w L) 5 h0 h → IT h it j m0 (Ll L) → YA w K h L (yst z c j) → LA w K h (Ll L) (Ly L + 2, 0) ((List.range (yn z - 1)).map (Lc L)) m0 e0 → j + n = yn z - 1 → n < f →
    ∃ h', mf_X1_breaksUp_L22 (zI c) (some it) f h = some ((), h') ∧ Fx (Own w L) 5 h0 h' ∧ YA w K h' L (yst z c (yn z - 1))
  | n, j, 0, _, _, _, _, _, _, _, hf => absurd hf (Nat.not_lt_zero _)
  | 0, j, f + 1, h, G, x, I, Y, P, hj, hf => by
    obtain ⟨r, I'⟩ := I
    have e : j = yn z - 1 := by omega
    subst e
    refine ⟨h, ?_, x, Y⟩
    unfold mf_X1_breaksUp_L22
    rw [rc_ok I' (by simp), C_hasNext G P ⟨r, I'⟩ (by simp), cl_some, decide_eq_true (by simp), if_pos (by decide)]
  | n + 1, j, f + 1, h, G, x, I, Y, P, hj, hf => by
    have hj' : j < yn z - 1 := by omega
    have hjy : j < yn (yst z c j) := hj'
    have hu : up c j < yn z := up_lt hj'
    have hh := zh _ hu
    obtain ⟨hp1, hp2⟩ := zp _ hu
    obtain ⟨h1, a1, x1, I1, P1⟩ := C_next G P I (x := Lc L j) (by rw [List.getElem?_map, List.getElem?_range hj']; rfl)
    obtain ⟨r, I'⟩ := I
    obtain ⟨r1, I1'⟩ := I1
    have G1 := G.fx x1
    have X1 : Fx (Own w L) 5 h0 h1 := x.andthen x1 fun a l q => by subst q; omega
    have Y1 : YA w K h1 L (yst z c j) := by
      obtain ⟨y1, y2, ⟨m, e, y3⟩, y4⟩ := Y
      obtain ⟨s1, s2⟩ := y3.ne_tag G I' (by decide) (by decide) (by decide)
      refine ⟨x1.get G.fs y1 (by simp) (Or.inr (by rintro q; rw [q, I'] at y1; simp at y1)), y2, ⟨m, e, y3.fx G.fs x1 s1.symm fun _ => s2.symm⟩, fun k hk => ?_⟩
      obtain ⟨c1, c2, ⟨c3, c4⟩, m, e, c5⟩ := y4 k hk
      obtain ⟨q1, q2⟩ := c5.ne_tag G I' (by decide) (by decide) (by decide)
      exact ⟨x1.get G.fs c1 (by simp) (Or.inr (by intro q; rw [q, I'] at c1; simp at c1)), c2, ⟨x1.get G.fs c3 (by simp) (Or.inr (by intro q; rw [q, I'] at c3; simp at c3)), c4⟩, m, e, c5.fx G.fs x1 q1.symm fun _ => q2.symm⟩
    have C1 := Y1.2.2.2 j hjy
    have f3 : yf (yst z c j) 3 j = yf z 3 (up c j) := by
      show (if (3 : Nat) = 3 then (if j < j then dnH c (yf z 3 (up c j)) else yf z 3 (up c j)) else yf z 3 (up c j)) = _
      rw [if_pos rfl, if_neg (by omega)]
    have fj : ∀ k, k ≠ 3 → ∀ i i', yf (yst z c i) k i' = yf z k (up c i') := fun k hk i i' => if_neg hk
    -- the holder
    let y1 : YD := (yn z - 1, fun k i => if k = 3 then (if i < j + 1 then dnH c (yf z 3 (up c i)) else yf z 3 (up c i)) else yf z k (up c i), fun i => yl z (up c i), fun i => if i < j then (yp z (up c i)).map (dn c) else yp z (up c i), yr z)
    obtain ⟨Y2, x2⟩ := Y1.setC (y' := y1) G1 hjy rfl rfl (fun k hk ne i _ => by
      show (if i = 3 then (if k < j + 1 then dnH c (yf z 3 (up c k)) else yf z 3 (up c k)) else yf z i (up c k)) = (if i = 3 then (if k < j then dnH c (yf z 3 (up c k)) else yf z 3 (up c k)) else yf z i (up c k))
      by_cases q : k < j
      · rw [if_pos q, if_pos (show k < j + 1 by omega)]
      · rw [if_neg q, if_neg (show ¬ k < j + 1 by omega)]) (fun k hk => ⟨rfl, rfl⟩)
    have g3 : yf y1 3 j = dnH c (yf z 3 (up c j)) := by
      show (if (3 : Nat) = 3 then (if j < j + 1 then dnH c (yf z 3 (up c j)) else yf z 3 (up c j)) else yf z 3 (up c j)) = _
      rw [if_pos rfl, if_pos (by omega)]
    generalize hh2 : xk_set h1 (Lc L j) (3, [.int (zI (yf y1 0 j)), .int (zI (yf y1 1 j)), .int (zI (yf y1 2 j)), .ref (Lb L j), .int (zI (yf y1 3 j)), .ref (Lp L j)]) = h2 at Y2 x2
    have G2 := G1.fx x2
    have C2 := Y2.2.2.2 j hjy
    have X2 : Fx (Own w L) 5 h0 h2 := X1.trans (x2.mono (fun a q => by subst q; show (w _).1 = _; rw [C1.2.1]) (Nat.le_refl _))
    obtain ⟨s1, s2⟩ := P1.ne_tag G1 C1.1 (by decide) (by decide) (by decide)
    have P2 := P1.fx G1.fs x2 s1.symm fun _ => s2.symm
    have I2' := x2.get G1.fs I1' (by simp) (Or.inr (by intro q; rw [q, C1.1] at I1'; simp at I1'))
    -- the pile
    obtain ⟨m, e, A⟩ := C2.2.2.2
    have pj : yp y1 j = yp z (up c j) := if_neg (by omega)
    rw [pj] at A
    obtain ⟨h3, a3, x3, A3⟩ := Y_breaks_L66 hc hp2 hp1 (fun h39 => mf_X1_breaksUp_L22 (zI c) (some it) f h39) (some it) (yp z (up c j)).length 0 xk_fu h2 G2 C2.1 (by
      have : mix c 0 (yp z (up c j)) = yp z (up c j) := by unfold mix; simp
      rw [this]; exact A) (by omega) (fu_lt (by omega))
    have G3 := G2.fx x3
    have A' : LA w K h2 (Lp L j) (Ly L + 2, j + 1) ((yp y1 j).map (iad K)) m e := by rw [pj]; exact A
    have Y3 : YA w K h3 L (yst z c (j + 1)) := Y2.setP (y' := yst z c (j + 1)) G2 hjy A' x3 Wx.rfl A3 rfl rfl (fun k hk => ⟨fun _ _ => rfl, rfl⟩) (fun k hk ne => by
      show (if k < j + 1 then _ else _) = (if k < j then _ else _)
      by_cases q : k < j
      · rw [if_pos q, if_pos (show k < j + 1 by omega)]
      · rw [if_neg q, if_neg (show ¬ k < j + 1 by omega)]) (if_pos (by omega))
    have X3 : Fx (Own w L) 5 h0 h3 := X2.trans (x3.low.mono (R := Own w L) (fun a q => by show (w a).1 = _; rw [A'.q G2 q]) (Nat.le_refl _))
    have P3 := A'.off G2 P2 (fun q => by have := congrArg Prod.snd q; simp at this) x3
    obtain ⟨t1, t2⟩ := A'.ne_tag G2 I2' (by decide) (by decide) (by decide)
    have I3 : IT h3 it (j + 1) m0 (Ll L) := ⟨r1, x3.get G2.fs I2' (by simp) (Or.inr fun q => q.elim t1 t2)⟩
    obtain ⟨h4, a4, X4, Y4⟩ := Y_breaks_L22 hc zn zh zp hi n (j + 1) f h3 G3 X3 I3 Y3 P3 (by omega) (by omega)
    refine ⟨h4, ?_, X4, Y4⟩
    unfold mf_X1_breaksUp_L22
    rw [rc_ok I' (by simp), C_hasNext G P ⟨r, I'⟩ (by simp; omega), cl_some, decide_eq_false (by simp; omega), if_neg (by decide), rc_ok I' (by simp), a1, cl_some, cast_ok C1.1 (by simp), Y_g4 Y1 hjy, Y_g4 Y1 hjy, f3]
    have w0 : ∀ v : Int, v = dnH c (yf z 3 (up c j)) → xm_pV [3] 4 (some (Lc L j)) (.int (zI v)) h1 (fun h15 => mf_X1_breaksUp_L66 (fun h39 => mf_X1_breaksUp_L22 (zI c) (some it) f h39) (zI c) (some it) (some (Lc L j)) xk_fu (zI ((0 : Nat) : Int)) h15) = some ((), h4) := fun v hv => by
      rw [pV_w (vs' := [.int (zI (yf y1 0 j)), .int (zI (yf y1 1 j)), .int (zI (yf y1 2 j)), .ref (Lb L j), .int (zI (yf y1 3 j)), .ref (Lp L j)]) C1.1 (by simp) (by
        subst hv
        rw [g3]; rfl), hh2, a3]
      exact a4
    by_cases q : yf z 3 (up c j) ≤ c
    · rw [if_pos (by rw [zI_le (by omega) (by omega) (by omega) (by omega)]; exact q), show (0 : Int32) = zI ((0 : Nat) : Int) from rfl, zI_sub]
      exact w0 _ (by unfold dnH; rw [if_neg (by omega)]; omega)
    · rw [if_neg (by rw [zI_le (by omega) (by omega) (by omega) (by omega)]; exact q), show (1 : Int32) = zI 1 by decide, zI_sub, show (0 : Int32) = zI ((0 : Nat) : Int) from rfl]
      exact w0 _ (by unfold dnH; rw [if_pos (by omega)])
/-- w changes only where Own was -/
def Wo (w : Nat → Nat × Nat) (L : LD) (h : xk_H) (w' : Nat → Nat × Nat) : Prop := ∀ a, a < h.2.2.1 → (w a).1 ≠ Ly L + 2 → w' a = w a
theorem Y_breaks (G : Gd K h) (Y : YA w K h L y) (O : YOk y) (hc : c < yn y) (t : yab y c = 0) (pz : (yp y c).length = 0) (cr : 5 ≤ h.2.2.2) : ∃ h' w' L', Ly L' = Ly L ∧ mf_X1_breaksUp (some (Ly L)) (zI c) h = some ((), h') ∧ Fx (Own w L) 5 h h' ∧ Wo w L h w' ∧ YA w' K h' L' (yBreak y c) := by
  have hn := O.n
  obtain ⟨h1, a1, x1, Y1⟩ := Y_lifts G Y O hc t
  have G1 := G.fx x1
  have Z := lift_ok O hc t
  have zn : yn (yLift y c) = yn y := rfl
  obtain ⟨y1, y2, ⟨m, e, P⟩, y4⟩ := Y1
  have k1 := x1.cr
  have E1 : El h1 ((ys (yLift y c)).map (Lc L)) := fun a ma => by
    obtain ⟨j, mj, rfl⟩ := List.mem_map.1 ma
    rw [(y4 j (List.mem_range.1 mj)).1]; simp
  obtain ⟨h2, a2, x2, P2⟩ := C_remove G1 P E1 (k := c) (x := Lc L c) (by rw [List.getElem?_map, List.getElem?_range (by omega)]; rfl)
  have G2 := G1.fx x2
  let w' : Nat → Nat × Nat := fun a => if (w a).1 = Ly L + 2 ∧ 0 < (w a).2 then (Ly L + 2, dn c ((w a).2 - 1) + 1) else w a
  let L' : LD := (Ly L, Ll L, fun j => Lc L (up c j), fun j => Lb L (up c j), fun j => Lp L (up c j))
  have lists : ((ys (yLift y c)).map (Lc L)).eraseIdx c = (List.range (yn (yLift y c) - 1)).map (Lc L') := by
    rw [map_erase, range_erase (by omega), List.map_map]; rfl
  rw [lists] at P2
  have wz : ∀ a, w a = (Ly L + 2, 0) → w' a = (Ly L + 2, 0) := fun a q => by
    show (if (w a).1 = Ly L + 2 ∧ 0 < (w a).2 then _ else _) = _
    rw [if_neg (by rw [q]; simp)]; exact q
  have wk : ∀ (j : Nat) a, w a = (Ly L + 2, up c j + 1) → w' a = (Ly L + 2, j + 1) := fun j a q => by
    show (if (w a).1 = Ly L + 2 ∧ 0 < (w a).2 then _ else _) = _
    rw [q, if_pos (by simp)]
    show (Ly L + 2, dn c (up c j) + 1) = _
    rw [dn_up]
  have P2' : LA w' K h2 (Ll L') (Ly L' + 2, 0) ((List.range (yn (yLift y c) - 1)).map (Lc L')) (m + 1) e := P2.own wz
  obtain ⟨q1, q2⟩ := P.ne_tag G1 y1 (by decide) (by decide) (by decide)
  have Y2 : YA w' K h2 L' (yst (yLift y c) c 0) := by
    refine ⟨x2.get G1.fs y1 (by simp) (Or.inr fun q => q.elim q1 q2), wz _ y2, ⟨m + 1, e, P2'⟩, fun j hj => ?_⟩
    have hj : j < yn (yLift y c) - 1 := hj
    have hu := up_lt (c := c) hj
    have C := (y4 _ hu).fx G1.fs x2.low fun a z => by
      rw [P.q G1 z]
      constructor
      · intro q; have := congrArg Prod.snd q; simp at this
      · simp
    obtain ⟨c1, c2, ⟨c3, c4⟩, m', e', c5⟩ := C.cong (f' := fun i => yf (yst (yLift y c) c 0) i j) (l' := yl (yst (yLift y c) c 0) j) (js' := yp (yst (yLift y c) c 0) j) (fun i _ => by
      show (if i = 3 then (if j < 0 then dnH c (yf (yLift y c) 3 (up c j)) else yf (yLift y c) 3 (up c j)) else yf (yLift y c) i (up c j)) = yf (yLift y c) i (up c j)
      rw [if_neg (show ¬ j < 0 by omega)]
      by_cases q : i = 3
      · rw [if_pos q, q]
      · rw [if_neg q]) rfl (by
      show (if j < 0 then (yp (yLift y c) (up c j)).map (dn c) else yp (yLift y c) (up c j)) = _
      rw [if_neg (Nat.not_lt_zero j)])
    refine ⟨c1, wk j _ c2, ⟨c3, ?_⟩, m', e', c5.own (wk j)⟩
    show ((if (w (Lb L (up c j))).1 = Ly L + 2 ∧ 0 < (w (Lb L (up c j))).2 then (Ly L + 2, dn c ((w (Lb L (up c j))).2 - 1) + 1) else w (Lb L (up c j))) : Nat × Nat).1 = 0
    rw [if_neg (by rw [c4]; omega)]; exact c4
  have k2 := x2.cr
  obtain ⟨h3, a3, x3, I3, n3⟩ := C_iterator G2 P2' (by omega)
  have G3 := G2.fx x3
  obtain ⟨h4, a4, X4, Y4⟩ := Y_breaks_L22 (w := w') (L := L') (K := K) (z := yLift y c) (c := c) (h0 := h2) (it := h2.2.2.1) (m0 := m + 1) (e0 := e) (by omega) (by omega) (fun k hk => by have := Z.ho hk; omega) (fun k hk => ⟨ypl_len Z hk, fun x mx => by have := Z.plt hk mx; omega⟩) (Nat.le_refl _)
    (yn (yLift y c) - 1) 0 xk_fu h3 G3 (x3.mono (fun _ q => q.elim) (Nat.le_refl _)) I3 (Y2.ex G2.fs x3) (P2'.ex G2.fs x3) (by omega) (fu_lt (by omega))
  have own : ∀ a, (w' a).1 = Ly L + 2 → (w a).1 = Ly L + 2 := fun a q => by
    have q : (if (w a).1 = Ly L + 2 ∧ 0 < (w a).2 then ((Ly L + 2, dn c ((w a).2 - 1) + 1) : Nat × Nat) else w a).1 = Ly L + 2 := q
    by_cases z : (w a).1 = Ly L + 2
    · exact z
    · rw [if_neg fun r => z r.1] at q; exact q
  refine ⟨h4, w', L', rfl, ?_, ((x1.trans (x2.low.mono (R := Own w L) (fun a z => by show (w a).1 = _; rw [P.q G1 z]) (Nat.le_refl _))).trans (X4.mono (R := Own w L) (fun a q => own a q) (Nat.le_refl _))).le (by omega), fun a _ ne => if_neg fun z => ne z.1, Y4.cong ⟨rfl, rfl, fun k hk => ⟨fun i _ => ?_, rfl, ?_⟩⟩⟩
  · unfold mf_X1_breaksUp
    rw [Y_rc Y, a1, cl_some, gR_ok (x := some (Ll L)) y1 (by simp) rfl, rc_ok P.1 (by simp), a2, cl_some, gR_ok (x := some (Ll L)) (show h2.1 (Ly L) = (1, [.ref (Ll L), .int (zI (yr y))]) from Y2.1) (by simp) rfl, rc_ok (show h2.1 (Ll L) = _ from P2.1) (by simp)]
    have a3 : mf_J2_iterator (some (Ll L)) h2 = some (some h2.2.2.1, h3) := a3
    rw [a3, cl_some]
    exact a4
  · have hk : k < yn (yLift y c) - 1 := hk
    rw [break_f]
    show _ = (if i = 3 then (if k < yn (yLift y c) - 1 then _ else _) else _)
    rw [if_pos hk]
    by_cases q : i = 3
    · rw [if_pos q, if_pos q]
    · rw [if_neg q, if_neg q, lift_f0 q]
  · have hk : k < yn (yLift y c) - 1 := hk
    exact (if_pos hk).symm
end
