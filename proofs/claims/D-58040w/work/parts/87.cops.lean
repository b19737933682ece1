/-! PURE LAW, the class's operations: put, ground, turn, breakUp -/
set_option maxRecDepth 10000
section
variable {w w' : Nat → Nat × Nat} {K : KD} {h h' : xk_H} {L : LD} {y : YD} {x : Nat} {S : SD}
theorem C_in {a l u : Int} (H : xk_H) (a1 : -2147483648 ≤ a) (a2 : a ≤ 2147483647) (l1 : -2147483648 ≤ l) (l2 : l ≤ 2147483647) (u1 : -2147483648 ≤ u) (u2 : u ≤ 2147483647) : mf_X0_inRange (zI a) (zI l) (zI u) H = some (decide (l ≤ a ∧ a ≤ u), H) := by
  unfold mf_X0_inRange
  by_cases q : a < l
  · rw [if_pos (by rw [zI_lt a1 a2 l1 l2]; exact q), decide_eq_false (by omega)]
  · rw [if_neg (by rw [zI_lt a1 a2 l1 l2]; exact q)]
    by_cases r : u < a
    · rw [if_pos (by rw [zI_lt u1 u2 a1 a2]; exact r), decide_eq_false (by omega)]
    · rw [if_neg (by rw [zI_lt u1 u2 a1 a2]; exact r), decide_eq_true (by omega)]
theorem C_isCrate (G : Gd K h) (C : CS w K h x S) (O : YOk S.1) {c : Int} (c1 : -2147483648 ≤ c) (c2 : c ≤ 2147483647) : mf_X0_isCrate (some x) (zI c) h = some (decide (0 ≤ c ∧ c < yn S.1), h) := by
  have hn := O.n
  obtain ⟨L, _, r, Y, _⟩ := C.now G.fs
  unfold mf_X0_isCrate
  rw [r, Y_rc Y, Y_size Y, cl_some, show (1 : Int32) = zI 1 by decide, zI_sub, show (0 : Int32) = zI 0 by decide, C_in h c1 c2 (by omega) (by omega) (by omega) (by omega), cl_some]
  exact congrArg (fun b => some (b, h)) (decide_eq_decide.2 (by omega))
theorem C_refuses (G : Gd K h) (C : CS w K h x S) (r : Int32) : ∃ h', mf_X0_refuses (some x) r h = some (r, h') ∧ CR w K h x 0 (yRef S.1, S.2) h' w := by
  obtain ⟨L, _, rd, Y, R⟩ := C.now G.fs
  obtain ⟨Y', X⟩ := Y.setR G (yr S.1 + 1)
  refine ⟨_, ?_, R (L' := L) (X.mono (fun a q => by subst q; show (w _).1 = _; rw [Y.2.1]) (Nat.le_refl _)) (fun _ _ _ => rfl) rfl Y'⟩
  unfold mf_X0_refuses
  rw [rd, gI_ok (x := zI (yr S.1)) Y.1 (by simp) rfl, show (1 : Int32) = zI 1 by decide, zI_add]
  exact pV_w Y.1 (by simp) rfl
theorem C_put (G : Gd K h) (C : CS w K h x S) (O : SOk S) (cr : 18000 ≤ h.2.2.2) {c d : Int} (c1 : -2147483648 ≤ c) (c2 : c ≤ 2147483647) (d1 : -2147483648 ≤ d) (d2 : d ≤ 2147483647) : ∃ h' w', mf_X0_put (some x) (zI c) (zI d) h = some (zI (oPut S c d).1, h') ∧ CR w K h x 18000 (oPut S c d).2 h' w' := by
  have R0 : CR w K h x 18000 S h w := ⟨(Fx.rfl G.fs).le (by omega), fun _ _ _ => rfl, C⟩
  unfold mf_X0_put oPut
  rw [C.rc, C_isCrate G C O.1 c1 c2, cl_some]
  by_cases q1 : 0 ≤ c ∧ c < yn S.1
  case neg => rw [decide_eq_false q1, if_pos (by decide), if_neg q1]; exact ⟨h, w, rfl, R0⟩
  rw [decide_eq_true q1, if_neg (by decide), if_pos q1, C.rc, C_isCrate G C O.1 d1 d2, cl_some]
  by_cases q2 : 0 ≤ d ∧ d < yn S.1
  case neg => rw [decide_eq_false q2, if_pos (by decide), if_neg q2]; exact ⟨h, w, rfl, R0⟩
  rw [decide_eq_true q2, if_neg (by decide), if_pos q2, C.rc]
  obtain ⟨k, rfl⟩ : ∃ k : Nat, c = k := ⟨c.toNat, by omega⟩
  obtain ⟨e, rfl⟩ : ∃ e : Nat, d = e := ⟨d.toNat, by omega⟩
  rw [Int.toNat_natCast, Int.toNat_natCast]
  have hk : k < yn S.1 := by omega
  have he : e < yn S.1 := by omega
  obtain ⟨h1, w1, a1, R1⟩ := C_records G C O (by omega)
  have G1 := G.fx R1.1
  have k1 := R1.1.cr
  obtain ⟨L1, _, rd1, Y1, _⟩ := R1.2.2.now G1.fs
  have Y1 : YA w1 K h1 L1 S.1 := Y1
  obtain ⟨h2, a2, x2⟩ := Y_whyP G1 Y1 O.1 hk he (by omega)
  have R2 := R1.trans (CR.ex G1.fs R1.2.2 x2)
  have G2 := G.fx R2.1
  have k2 := R2.1.cr
  rw [a1, cl_some, rd1, Y_rc Y1, a2, cl_some]
  have wb := ywp_bd (y := S.1) (c := k) (d := e)
  by_cases q3 : 0 < ywp S.1 k e
  · rw [if_neg (by rw [show (0 : Int32) = zI 0 by decide, zI_le (by omega) (by omega) (by omega) (by omega)]; omega), if_pos q3, R2.2.2.rc]
    obtain ⟨h3, a3, R3⟩ := C_refuses G2 R2.2.2 (zI (ywp S.1 k e))
    exact ⟨h3, w1, by rw [a3, cl_some], (R2.trans R3).le (by omega)⟩
  · rw [if_pos (by rw [show (0 : Int32) = zI 0 by decide, zI_le (by omega) (by omega) (by omega) (by omega)]; omega), if_neg q3]
    have z : ywp S.1 k e = 0 := by omega
    obtain ⟨L2, _, rd2, Y2, RR⟩ := R2.2.2.now G2.fs
    have Y2 : YA w1 K h2 L2 S.1 := Y2
    obtain ⟨h3, w3, a3, x3, W3, Y3⟩ := Y_puts G2 Y2 O.1 hk he (put_top z) (by omega)
    have R3 := R2.trans (RR x3 (fun a l _ => W3 a l) rfl Y3)
    have G3 := G.fx R3.1
    obtain ⟨L3, _, rd3, Y4, _⟩ := R3.2.2.now G3.fs
    refine ⟨h3, w3, ?_, R3.le (by omega)⟩
    rw [rd2, Y_rc Y2, a3, cl_some, rd3, Y_rc Y4, Y_depth G3 Y4 (put_ok O.1 hk he z) (show k < yn (yPut S.1 k e) from hk), cl_some, show (10 : Int32) = zI 10 by decide, zI_add]
theorem C_ground (G : Gd K h) (C : CS w K h x S) (O : SOk S) (cr : 18000 ≤ h.2.2.2) {c : Int} (c1 : -2147483648 ≤ c) (c2 : c ≤ 2147483647) : ∃ h' w', mf_X0_ground (some x) (zI c) h = some (zI (oGround S c).1, h') ∧ CR w K h x 18000 (oGround S c).2 h' w' := by
  have R0 : CR w K h x 18000 S h w := ⟨(Fx.rfl G.fs).le (by omega), fun _ _ _ => rfl, C⟩
  unfold mf_X0_ground oGround
  rw [C.rc, C_isCrate G C O.1 c1 c2, cl_some]
  by_cases q1 : 0 ≤ c ∧ c < yn S.1
  case neg => rw [decide_eq_false q1, if_pos (by decide), if_neg q1]; exact ⟨h, w, rfl, R0⟩
  rw [decide_eq_true q1, if_neg (by decide), if_pos q1, C.rc]
  obtain ⟨k, rfl⟩ : ∃ k : Nat, c = k := ⟨c.toNat, by omega⟩
  rw [Int.toNat_natCast]
  have hk : k < yn S.1 := by omega
  obtain ⟨h1, w1, a1, R1⟩ := C_records G C O (by omega)
  have G1 := G.fx R1.1
  obtain ⟨L1, _, rd1, Y1, RR⟩ := R1.2.2.now G1.fs
  have Y1 : YA w1 K h1 L1 S.1 := Y1
  rw [a1, cl_some, rd1, Y_rc Y1, Y_whyG G1 Y1 O.1 hk, cl_some]
  have wb := ywg_bd (y := S.1) (c := k)
  by_cases q3 : 0 < ywg S.1 k
  · rw [if_neg (by rw [show (0 : Int32) = zI 0 by decide, zI_le (by omega) (by omega) (by omega) (by omega)]; omega), if_pos q3, R1.2.2.rc]
    obtain ⟨h3, a3, R3⟩ := C_refuses G1 R1.2.2 (zI (ywg S.1 k))
    exact ⟨h3, w1, by rw [a3, cl_some], (R1.trans R3).le (by omega)⟩
  · rw [if_pos (by rw [show (0 : Int32) = zI 0 by decide, zI_le (by omega) (by omega) (by omega) (by omega)]; omega), if_neg q3]
    have z : yab S.1 k = 0 := by
      unfold ywg at q3
      by_cases t : yab S.1 k ≠ 0
      · rw [if_pos t] at q3; omega
      · omega
    obtain ⟨h3, a3, x3, Y3⟩ := Y_lifts G1 Y1 O.1 hk z
    have R3 := R1.trans (RR x3 (fun _ _ _ => rfl) rfl Y3)
    refine ⟨h3, w1, ?_, R3.le (by omega)⟩
    rw [rd1, Y_rc Y1, a3, cl_some]; rfl
theorem C_turn (G : Gd K h) (C : CS w K h x S) (O : SOk S) (cr : 18000 ≤ h.2.2.2) {c : Int} (c1 : -2147483648 ≤ c) (c2 : c ≤ 2147483647) : ∃ h' w', mf_X0_turn (some x) (zI c) h = some (zI (oTurn S c).1, h') ∧ CR w K h x 18000 (oTurn S c).2 h' w' := by
  have R0 : CR w K h x 18000 S h w := ⟨(Fx.rfl G.fs).le (by omega), fun _ _ _ => rfl, C⟩
  unfold mf_X0_turn oTurn
  rw [C.rc, C_isCrate G C O.1 c1 c2, cl_some]
  by_cases q1 : 0 ≤ c ∧ c < yn S.1
  case neg => rw [decide_eq_false q1, if_pos (by decide), if_neg q1]; exact ⟨h, w, rfl, R0⟩
  rw [decide_eq_true q1, if_neg (by decide), if_pos q1, C.rc]
  obtain ⟨k, rfl⟩ : ∃ k : Nat, c = k := ⟨c.toNat, by omega⟩
  rw [Int.toNat_natCast]
  have hk : k < yn S.1 := by omega
  obtain ⟨h1, w1, a1, R1⟩ := C_records G C O (by omega)
  have G1 := G.fx R1.1
  obtain ⟨L1, _, rd1, Y1, RR⟩ := R1.2.2.now G1.fs
  have Y1 : YA w1 K h1 L1 S.1 := Y1
  obtain ⟨h3, a3, x3, Y3⟩ := Y_turns G1 Y1 O.1 hk
  have R3 := R1.trans (RR x3 (fun _ _ _ => rfl) rfl Y3)
  have G3 := G.fx R3.1
  obtain ⟨L3, _, rd3, Y4, _⟩ := R3.2.2.now G3.fs
  have hk3 : k < yn (yG S.1 k (ytg (yf S.1 2 k))) := hk
  refine ⟨h3, w1, ?_, R3.le (by omega)⟩
  rw [a1, cl_some, rd1, Y_rc Y1, Y_at G1 Y1 hk, cl_some, Y_crc Y1 hk, a3, cl_some, rd3, Y_rc Y4, Y_at G3 Y4 hk3, cl_some, Y_g2 Y4 hk3]
  exact congrArg (fun z => some (zI z, h3)) (if_pos ⟨rfl, rfl⟩)
theorem C_breakUp (G : Gd K h) (C : CS w K h x S) (O : SOk S) (cr : 18000 ≤ h.2.2.2) {c : Int} (c1 : -2147483648 ≤ c) (c2 : c ≤ 2147483647) : ∃ h' w', mf_X0_breakUp (some x) (zI c) h = some (zI (oBreak S c).1, h') ∧ CR w K h x 18000 (oBreak S c).2 h' w' := by
  have R0 : CR w K h x 18000 S h w := ⟨(Fx.rfl G.fs).le (by omega), fun _ _ _ => rfl, C⟩
  unfold mf_X0_breakUp oBreak
  rw [C.rc, C_isCrate G C O.1 c1 c2, cl_some]
  by_cases q1 : 0 ≤ c ∧ c < yn S.1
  case neg => rw [decide_eq_false q1, if_pos (by decide), if_neg q1]; exact ⟨h, w, rfl, R0⟩
  rw [decide_eq_true q1, if_neg (by decide), if_pos q1, C.rc]
  obtain ⟨k, rfl⟩ : ∃ k : Nat, c = k := ⟨c.toNat, by omega⟩
  rw [Int.toNat_natCast]
  have hk : k < yn S.1 := by omega
  obtain ⟨h1, w1, a1, R1⟩ := C_records G C O (by omega)
  have G1 := G.fx R1.1
  have k1 := R1.1.cr
  obtain ⟨L1, _, rd1, Y1, RR⟩ := R1.2.2.now G1.fs
  have Y1 : YA w1 K h1 L1 S.1 := Y1
  rw [a1, cl_some, rd1, Y_rc Y1, Y_whyB G1 Y1 O.1 hk, cl_some]
  have wb := ywb_bd (y := S.1) (c := k)
  by_cases q3 : 0 < ywb S.1 k
  · rw [if_neg (by rw [show (0 : Int32) = zI 0 by decide, zI_le (by omega) (by omega) (by omega) (by omega)]; omega), if_pos q3, R1.2.2.rc]
    obtain ⟨h3, a3, R3⟩ := C_refuses G1 R1.2.2 (zI (ywb S.1 k))
    exact ⟨h3, w1, by rw [a3, cl_some], (R1.trans R3).le (by omega)⟩
  · rw [if_pos (by rw [show (0 : Int32) = zI 0 by decide, zI_le (by omega) (by omega) (by omega) (by omega)]; omega), if_neg q3]
    obtain ⟨z1, z2⟩ := break_top q3
    obtain ⟨h3, w3, L3, e3, a3, x3, W3, Y3⟩ := Y_breaks G1 Y1 O.1 hk z1 z2 (by omega)
    have R3 := R1.trans (RR x3 W3 e3 Y3)
    have G3 := G.fx R3.1
    obtain ⟨L4, _, rd4, Y4, _⟩ := R3.2.2.now G3.fs
    refine ⟨h3, w3, ?_, R3.le (by omega)⟩
    rw [rd1, Y_rc Y1, a3, cl_some, rd4, Y_rc Y4, Y_size Y4, cl_some, show (10 : Int32) = zI 10 by decide, zI_add]; rfl
end
