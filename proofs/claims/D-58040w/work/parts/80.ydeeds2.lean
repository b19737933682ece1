/-! PURE LAW, the class's yards: turns, lifts, puts -/
set_option maxRecDepth 10000
section
variable {w : Nat → Nat × Nat} {K : KD} {h h' : xk_H} {L : LD} {y : YD} {c d : Nat}
/-- what a deed on a yard may change -/
abbrev Own (w : Nat → Nat × Nat) (L : LD) : Nat → Prop := fun a => (w a).1 = Ly L + 2
theorem Y_turns (G : Gd K h) (Y : YA w K h L y) (O : YOk y) (hc : c < yn y) : ∃ h', mf_X3_turns (some (Lc L c)) h = some ((), h') ∧ Fx (Own w L) 0 h h' ∧ YA w K h' L (yG y c (ytg (yf y 2 c))) := by
  have hg := O.gp hc
  have C := Y.2.2.2 c hc
  obtain ⟨Y', x⟩ := Y.setC (y' := yG y c (ytg (yf y 2 c))) G hc rfl rfl (fun k hk ne i _ => by show (if i = 2 ∧ k = c then _ else _) = _; rw [if_neg fun z => ne z.2]) (fun k hk => ⟨rfl, rfl⟩)
  refine ⟨_, ?_, x.mono (fun a q => by subst q; show (w _).1 = _; rw [C.2.1]) (Nat.le_refl _), Y'⟩
  unfold mf_X3_turns
  rw [Y_g2 Y hc, Y_g2 Y hc, show (1 : Int32) = zI 1 by decide, show (3 : Int32) = zI 3 by decide, show (31 : Int32) = zI 31 by decide, show (15 : Int32) = zI 15 by decide, turned_eq hg.1 hg.2]
  refine pV_w C.1 (by simp) ?_
  show [Value.int (zI (yf y 0 c)), .int (zI (yf y 1 c)), .int (zI (ytg (yf y 2 c))), .ref (Lb L c), .int (zI (yf y 3 c)), .ref (Lp L c)] = [.int (zI (yf (yG y c (ytg (yf y 2 c))) 0 c)), .int (zI (yf (yG y c (ytg (yf y 2 c))) 1 c)), .int (zI (yf (yG y c (ytg (yf y 2 c))) 2 c)), .ref (Lb L c), .int (zI (yf (yG y c (ytg (yf y 2 c))) 3 c)), .ref (Lp L c)]
  have e0 : yf (yG y c (ytg (yf y 2 c))) 0 c = yf y 0 c := by show (if (0 : Nat) = 2 ∧ c = c then ytg (yf y 2 c) else yf y 0 c) = _; rw [if_neg (by simp)]
  have e1 : yf (yG y c (ytg (yf y 2 c))) 1 c = yf y 1 c := by show (if (1 : Nat) = 2 ∧ c = c then ytg (yf y 2 c) else yf y 1 c) = _; rw [if_neg (by simp)]
  have e2 : yf (yG y c (ytg (yf y 2 c))) 2 c = ytg (yf y 2 c) := if_pos ⟨rfl, rfl⟩
  have e3 : yf (yG y c (ytg (yf y 2 c))) 3 c = yf y 3 c := by show (if (3 : Nat) = 2 ∧ c = c then ytg (yf y 2 c) else yf y 3 c) = _; rw [if_neg (by simp)]
  rw [e0, e1, e2, e3]
theorem Y_lifts (G : Gd K h) (Y : YA w K h L y) (O : YOk y) (hc : c < yn y) (t : yab y c = 0) : ∃ h', mf_X1_lifts (some (Ly L)) (zI c) h = some ((), h') ∧ Fx (Own w L) 0 h h' ∧ YA w K h' L (yLift y c) := by
  have hn := O.n
  have hH := O.ho hc
  unfold mf_X1_lifts
  simp (disch := first | assumption | decide | omega | (simp only [aSz]; omega)) only [Y_rc Y, Y_at G Y, Y_crc Y, Y_g0 Y, Y_g1 Y, Y_g2 Y, Y_g4 Y, Y_gL Y, Y_gP Y, Y_prc Y, Y_psz Y, Y_pem G Y, Y_size Y, zI_lit, zI_add, zI_sub, zI_mul, zI_neg, b2_0z, cl_some, Y_gnd G Y O hc]
  by_cases q : yf y 3 c < 0
  · have e : yf y 3 c = -1 := by omega
    rw [decide_eq_true q, if_neg (by decide)]
    refine ⟨h, rfl, Fx.rfl G.fs, Y.cong ⟨rfl, rfl, fun k hk => ⟨fun i _ => ?_, rfl, ?_⟩⟩⟩
    · rw [lift_f]
      by_cases z : i = 3 ∧ k = c
      · rw [if_pos z, z.1, z.2, e]
      · rw [if_neg z]
    · rw [lift_p, if_neg (by omega)]
  · obtain ⟨d, e⟩ : ∃ d : Nat, yf y 3 c = d := ⟨(yf y 3 c).toNat, by omega⟩
    have hd : d < yn y := by omega
    have hl := top_last O hc hd e t
    have hp := ypl_len O hd
    have len : (yp y d).length = (yp y d).dropLast.length + 1 := by
      conv => lhs; rw [hl]
      rw [List.length_append, List.length_singleton]
    rw [decide_eq_false q, if_pos (by decide), e]
    simp (disch := first | assumption | decide | omega | (simp only [aSz]; omega)) only [Y_rc Y, Y_at G Y, Y_crc Y, Y_g0 Y, Y_g1 Y, Y_g2 Y, Y_g4 Y, Y_gL Y, Y_gP Y, Y_prc Y, Y_psz Y, Y_pem G Y, Y_size Y, zI_lit, zI_add, zI_sub, zI_mul, zI_neg, b2_0z, cl_some]
    obtain ⟨m, e0, P⟩ := (Y.2.2.2 d hd).2.2.2
    have E1 : El h ((yp y d).map (iad K)) := fun z mz => by
      obtain ⟨j, mj, rfl⟩ := List.mem_map.1 mz
      have := O.plt hd mj
      rw [G.ad (by omega)]; simp
    obtain ⟨h1, a1, x1, P1⟩ := C_remove G P E1 (k := (yp y d).length - 1) (x := iad K c) (by
      rw [List.getElem?_map, hl]
      rw [List.length_append, List.length_singleton, Nat.add_sub_cancel, List.getElem?_append_right (Nat.le_refl _), Nat.sub_self]
      rfl)
    have P1' : LA w K h1 (Lp L d) (Ly L + 2, d + 1) ((yp y d).dropLast.map (iad K)) (m + 1) e0 := by
      have : ((yp y d).map (iad K)).eraseIdx ((yp y d).length - 1) = (yp y d).dropLast.map (iad K) := by
        rw [List.eraseIdx_eq_take_drop_succ, List.drop_eq_nil_of_le (by rw [List.length_map]; omega), List.append_nil, ← List.map_take, List.dropLast_eq_take]
      rw [← this]; exact P1
    let y1 : YD := (yn y, yf y, yl y, fun k => if k = d then (yp y d).dropLast else yp y k, yr y)
    have G1 := G.fx x1
    have Y1 : YA w K h1 L y1 := Y.setP (y' := y1) G hd P x1 Wx.rfl P1' rfl rfl (fun k hk => ⟨fun _ _ => rfl, rfl⟩) (fun k hk ne => if_neg ne) (if_pos rfl)
    have hc1 : c < yn y1 := hc
    obtain ⟨Y2, x2⟩ := Y1.setC (y' := yLift y c) G1 hc1 rfl rfl (fun k hk ne i _ => by rw [lift_f, if_neg fun z => ne z.2]; rfl) (fun k hk => ⟨rfl, by
      rw [lift_p, e]
      show _ = if k = d then _ else _
      by_cases z : k = d
      · subst z; rw [if_pos rfl, if_pos rfl]
      · rw [if_neg (by omega), if_neg z]⟩)
    have C1 := Y1.2.2.2 c hc1
    refine ⟨_, ?_, (x1.low.mono (R := Own w L) (fun a z => by show (w a).1 = _; rw [P.q G z]) (Nat.le_refl _)).trans (x2.mono (fun a z => by subst z; show (w _).1 = _; rw [C1.2.1]) (Nat.le_refl _)), Y2⟩
    rw [show (((yp y d).length : Nat) : Int) - 1 = ((yp y d).length - 1 : Nat) by omega, a1]
    simp only [cl_some, Y_rc Y1, Y_at G1 Y1 hc1]
    refine pV_w C1.1 (by simp) ?_
    show [Value.int (zI (yf y 0 c)), .int (zI (yf y 1 c)), .int (zI (yf y 2 c)), .ref (Lb L c), .int (zI (-1)), .ref (Lp L c)] = [.int (zI (yf (yLift y c) 0 c)), .int (zI (yf (yLift y c) 1 c)), .int (zI (yf (yLift y c) 2 c)), .ref (Lb L c), .int (zI (yf (yLift y c) 3 c)), .ref (Lp L c)]
    rw [lift_f0 (by decide), lift_f0 (by decide), lift_f0 (by decide), lift_f, if_pos ⟨rfl, rfl⟩]
theorem Y_puts (G : Gd K h) (Y : YA w K h L y) (O : YOk y) (hc : c < yn y) (hd : d < yn y) (t : yab y c = 0) (cr : 47 ≤ h.2.2.2) : ∃ h' w', mf_X1_puts (some (Ly L)) (zI c) (zI d) h = some ((), h') ∧ Fx (Own w L) 47 h h' ∧ Wx h w w' ∧ YA w' K h' L (yPut y c d) := by
  have hn := O.n
  obtain ⟨h1, a1, x1, Y1⟩ := Y_lifts G Y O hc t
  have G1 := G.fx x1
  have O1 := lift_ok O hc t
  have hd1 : d < yn (yLift y c) := hd
  have hc1 : c < yn (yLift y c) := hc
  have k1 := x1.cr
  obtain ⟨m, e, P⟩ := (Y1.2.2.2 d hd1).2.2.2
  have E1 : El h1 ((yp (yLift y c) d).map (iad K)) := fun z mz => by
    obtain ⟨j, mj, rfl⟩ := List.mem_map.1 mz
    have := O1.plt hd1 mj
    have hn1 : yn (yLift y c) = yn y := rfl
    rw [G1.ad (by omega)]; simp
  have hpl := ypl_len O1 hd1
  obtain ⟨h2, m2, e2, a2, x2, P2, _⟩ := C_add (c := 47) G1 P E1 (x := iad K c) (by rw [G1.ad (by omega)]; simp) (by rw [List.length_map]; omega) (by rw [List.length_map]; omega) (by omega)
  have P2' : LA (wN w h1 (Ly L + 2, d + 1)) K h2 (Lp L d) (Ly L + 2, d + 1) ((yp (yLift y c) d ++ [c]).map (iad K)) m2 e2 := by rw [List.map_append]; exact P2
  let y1 : YD := (yn y, yf (yLift y c), yl y, fun k => if k = d then yp (yLift y c) d ++ [c] else yp (yLift y c) k, yr y)
  have Y2 : YA (wN w h1 (Ly L + 2, d + 1)) K h2 L y1 := Y1.setP (y' := y1) G1 hd1 P x2 (wN_x _ _ _) P2' rfl rfl (fun k hk => ⟨fun _ _ => rfl, rfl⟩) (fun k hk ne => if_neg ne) (if_pos rfl)
  have G2 := G1.fx x2
  obtain ⟨Y3, x3⟩ := Y2.setC (c := c) (y' := yPut y c d) G2 hc rfl rfl (fun k hk ne i _ => by rw [put_f, if_neg fun z => ne z.2]; rfl) (fun k hk => ⟨rfl, by
    rw [put_p]
    show _ = if k = d then _ else _
    by_cases z : k = d
    · subst z; rw [if_pos rfl]
    · rw [if_neg z, if_neg z]⟩)
  have C2 := Y2.2.2.2 c hc
  have wc : w (Lc L c) = (Ly L + 2, c + 1) := (Y1.2.2.2 c hc1).2.1
  refine ⟨_, _, ?_, ((x1.trans (x2.low.mono (R := Own w L) (fun a z => by show (w a).1 = _; rw [P.q G1 z]) (Nat.le_refl _))).trans (x3.mono (fun a z => by subst z; show (w _).1 = _; rw [wc]) (Nat.le_refl _))).le (by omega), fun a l => wN_x w h1 _ a (Nat.lt_of_lt_of_le l x1.2.2.1), Y3⟩
  unfold mf_X1_puts
  rw [Y_rc Y, a1, cl_some, Y_rc Y1, Y_at G1 Y1 hd1, cl_some, Y_gP Y1 hd1, C_valueOf G1 (by omega), cl_some, Y_prc Y1 hd1, a2, cl_some, Y_rc Y2, Y_at G2 Y2 (show c < yn y1 from hc), cl_some]
  refine pV_w C2.1 (by simp) ?_
  show [Value.int (zI (yf (yLift y c) 0 c)), .int (zI (yf (yLift y c) 1 c)), .int (zI (yf (yLift y c) 2 c)), .ref (Lb L c), .int (zI d), .ref (Lp L c)] = [.int (zI (yf (yPut y c d) 0 c)), .int (zI (yf (yPut y c d) 1 c)), .int (zI (yf (yPut y c d) 2 c)), .ref (Lb L c), .int (zI (yf (yPut y c d) 3 c)), .ref (Lp L c)]
  have p0 : yf (yPut y c d) 0 c = yf (yLift y c) 0 c := by rw [put_f, if_neg (by simp)]
  have p1 : yf (yPut y c d) 1 c = yf (yLift y c) 1 c := by rw [put_f, if_neg (by simp)]
  have p2 : yf (yPut y c d) 2 c = yf (yLift y c) 2 c := by rw [put_f, if_neg (by simp)]
  have p3 : yf (yPut y c d) 3 c = d := if_pos ⟨rfl, rfl⟩
  rw [p0, p1, p2, p3]
end
