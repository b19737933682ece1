/-! PURE LAW, the class's yards: what stays; room that is left, reasons, the best crate -/
set_option maxRecDepth 10000
section
variable {w w' : Nat → Nat × Nat} {K : KD} {h h' : xk_H} {L : LD} {y : YD} {c : Nat} {Q : Nat → Prop} {cr : Nat}
theorem CA.fx {o : Nat × Nat} {a b p : Nat} {f : Nat → Int} {l : List Int} {js : List Nat} (F : Fs h) (C : CA w K h o a b p f l js) (x : Fx Q cr h h') (q : ∀ a, Q a → w a ≠ o ∧ (w a).1 ≠ 0) : CA w K h' o a b p f l js := by
  obtain ⟨c1, c2, ⟨c3, c4⟩, m, e, c5⟩ := C
  refine ⟨x.get F c1 (by simp) (Or.inr fun z => (q _ z).1 c2), c2, ⟨x.get F c3 (by simp) (Or.inr fun z => (q _ z).2 c4), c4⟩, m, e, c5.fx F x (fun z => (q _ z).1 c5.2.1) fun z1 z => ?_⟩
  rcases c5.2.2 with ⟨r1, r2⟩ | ⟨t, r1, r2, _⟩
  · exact z1.elim (fun s => s r1) (fun s => s r2)
  · exact (q _ z).1 r2
theorem YA.fx (F : Fs h) (Y : YA w K h L y) (x : Fx Q cr h h') (q : ∀ a, Q a → (w a).1 ≠ Ly L + 2 ∧ (w a).1 ≠ 0) : YA w K h' L y := by
  obtain ⟨y1, y2, ⟨m, e, y3⟩, y4⟩ := Y
  refine ⟨x.get F y1 (by simp) (Or.inr fun z => (q _ z).1 (by rw [y2])), y2, ⟨m, e, y3.fx F x (fun z => (q _ z).1 (by rw [y3.2.1])) fun z1 z => ?_⟩, fun k hk => (y4 k hk).fx F x fun a z => ⟨fun r => (q a z).1 (by rw [r]), (q a z).2⟩⟩
  rcases y3.2.2 with ⟨r1, r2⟩ | ⟨t, r1, r2, _⟩
  · exact z1.elim (fun s => s r1) (fun s => s r2)
  · exact (q _ z).1 (by rw [r2])
theorem YA.ex (F : Fs h) (Y : YA w K h L y) (x : Ex cr h h') : YA w K h' L y := Y.fx F x fun a q => q.elim
theorem CA.wx {o : Nat × Nat} {a b p : Nat} {f : Nat → Int} {l : List Int} {js : List Nat} (F : Fs h) (C : CA w K h o a b p f l js) (x : Wx h w w') : CA w' K h o a b p f l js := by
  obtain ⟨c1, c2, ⟨c3, c4⟩, m, e, c5⟩ := C
  exact ⟨c1, (x _ (F.lt c1 (by simp))).trans c2, ⟨c3, by rw [x _ (F.lt c3 (by simp))]; exact c4⟩, m, e, c5.wx F x⟩
theorem YA.wx (F : Fs h) (Y : YA w K h L y) (x : Wx h w w') : YA w' K h L y := by
  obtain ⟨y1, y2, ⟨m, e, y3⟩, y4⟩ := Y
  exact ⟨y1, (x _ (F.lt y1 (by simp))).trans y2, ⟨m, e, y3.wx F x⟩, fun k hk => (y4 k hk).wx F x⟩
end
section
variable {w : Nat → Nat × Nat} {K : KD} {h h0 : xk_H} {L : LD} {y : YD} {c : Nat}
theorem Y_left_L21 (G : Gd K h0) (Y : YA w K h0 L y) (O : YOk y) {c : Nat} (hc : c < yn y) {it cr : Nat} {m : Int32} {e : Nat} (P : LA w K h0 (Lp L c) (Ly L + 2, c + 1) ((yp y c).map (iad K)) m e) (hi : h0.2.2.1 ≤ it) :
    ∀ (n i f : Nat) (a : Int) (h : xk_H), Ex cr h0 h → IT h it i m (Lp L c) → i + n = (yp y c).length → n < f → ∃ h', mf_X1_left_L21 (some (Ly L)) (some it) f (zI a) h = some (zI (a - yS y ((yp y c).drop i)), h') ∧ Ex cr h0 h'
  | n, i, 0, a, h, _, _, _, hf => absurd hf (Nat.not_lt_zero _)
  | 0, i, f + 1, a, h, x, I, hk, hf => by
    have G1 := G.fx x
    have P1 := P.ex G.fs x
    obtain ⟨r, I'⟩ := I
    refine ⟨h, ?_, x⟩
    unfold mf_X1_left_L21
    rw [rc_ok I' (by simp), C_hasNext G1 P1 ⟨r, I'⟩ (by rw [List.length_map]; omega), cl_some, decide_eq_true (by rw [List.length_map]; omega), if_pos (by decide), List.drop_eq_nil_of_le (by omega)]
    exact congrArg (fun z => some (zI z, h)) (by unfold yS; simp)
  | n + 1, i, f + 1, a, h, x, I, hk, hf => by
    have G1 := G.fx x
    have P1 := P.ex G.fs x
    have hi' : i < (yp y c).length := by omega
    have mj : (yp y c)[i] ∈ yp y c := List.getElem_mem hi'
    have hj := O.plt hc mj
    have hn := O.n
    obtain ⟨h1, e1, x1, I1, P2⟩ := C_next G1 P1 I (x := iad K (yp y c)[i]) (by rw [List.getElem?_map, List.getElem?_eq_getElem hi']; rfl)
    have x2 : Ex cr h0 h1 := x.andthen x1 fun b l q => absurd l (by subst q; omega)
    have G2 := G.fx x2
    have Y2 := Y.ex G.fs x2
    obtain ⟨h2, e2, x3⟩ := Y_left_L21 G Y O hc P hi n (i + 1) f (a - yf y 0 (yp y c)[i]) h1 x2 I1 (by omega) (by omega)
    obtain ⟨r, I'⟩ := I
    obtain ⟨r1, I1'⟩ := I1
    refine ⟨h2, ?_, x3⟩
    unfold mf_X1_left_L21
    have l128 : (yp y c)[i] < 128 := by omega
    rw [rc_ok I' (by simp), C_hasNext G1 P1 ⟨r, I'⟩ (by rw [List.length_map]; omega), cl_some, decide_eq_false (by rw [List.length_map]; omega), if_neg (by decide), rc_ok I' (by simp), e1, cl_some, cast_ok (G2.ad l128) (by simp), rc_ok (G2.ad l128) (by simp), C_intValue G2 l128, cl_some,
      Y_rc Y2, Y_at G2 Y2 hj, cl_some, Y_g0 Y2 hj, zI_sub, e2]
    refine congrArg (fun z => some (zI z, h2)) ?_
    rw [List.drop_eq_getElem_cons hi']; unfold yS; rw [List.map_cons, List.sum_cons]; omega
theorem Y_left (G : Gd K h) (Y : YA w K h L y) (O : YOk y) (hc : c < yn y) (cr : 5 ≤ h.2.2.2) : ∃ h', mf_X1_left (some (Ly L)) (zI c) h = some (zI (ylf y c), h') ∧ Ex 5 h h' := by
  obtain ⟨m, e, P⟩ := (Y.2.2.2 c hc).2.2.2
  obtain ⟨h1, e1, x1, I1, n1⟩ := C_iterator G P cr
  have hl := ypl_len O hc
  obtain ⟨h2, e2, x2⟩ := Y_left_L21 G Y O hc P (Nat.le_refl _) (yp y c).length 0 xk_fu (yf y 1 c) h1 x1 I1 (by omega) (fu_lt (by omega))
  refine ⟨h2, ?_, x2⟩
  unfold mf_X1_left
  simp (disch := first | assumption | decide | omega | (simp only [aSz]; omega)) only [Y_rc Y, Y_at G Y, Y_crc Y, Y_g0 Y, Y_g1 Y, Y_g2 Y, Y_g4 Y, Y_gL Y, Y_gP Y, Y_prc Y, Y_psz Y, Y_pem G Y, Y_size Y, zI_lit, zI_add, zI_sub, zI_mul, zI_neg, b2_0z, cl_some]
  rw [e1, cl_some]
  exact e2
theorem Y_whyP (G : Gd K h) (Y : YA w K h L y) (O : YOk y) (hc : c < yn y) {d : Nat} (hd : d < yn y) (cr : 5 ≤ h.2.2.2) : ∃ h', mf_X1_whyNotPut (some (Ly L)) (zI c) (zI d) h = some (zI (ywp y c d), h') ∧ Ex 5 h h' := by
  have hb := yab_bd O hc
  have hn := O.n
  have hH := O.ho hc
  have hs := O.sz hc
  have x0 : Ex 5 h h := (Fx.rfl G.fs).le (by decide)
  unfold mf_X1_whyNotPut ywp
  simp (disch := first | assumption | decide | omega | (simp only [aSz]; omega)) only [Y_rc Y, Y_at G Y, Y_crc Y, Y_g0 Y, Y_g1 Y, Y_g2 Y, Y_g4 Y, Y_gL Y, Y_gP Y, Y_prc Y, Y_psz Y, Y_pem G Y, Y_size Y, zI_lit, zI_add, zI_sub, zI_mul, zI_neg, b2_0z, cl_some, Y_above G Y O hc, zI_le, zI_inj, Y_isAround G Y O hc hd]
  by_cases q : yab y c = 0
  · rw [if_pos (by show (yab y c : Int) ≤ 0; omega), if_neg (not_not_intro q)]
    by_cases z : c = d
    · rw [if_pos (by omega), if_pos (Or.inl z)]; exact ⟨h, rfl, x0⟩
    · rw [if_neg (by omega)]
      by_cases z2 : yar y c d = true
      · rw [z2, if_neg (by decide), if_pos (Or.inr rfl)]; exact ⟨h, rfl, x0⟩
      · have z3 : yar y c d = false := by simpa using z2
        rw [z3, if_pos rfl, if_neg (fun r => r.elim z (by simp))]
        obtain ⟨h1, e1, x1⟩ := Y_left G Y O hd cr
        have G1 := G.fx x1
        have Y1 := Y.ex G.fs x1
        have hy := yS_bd O hd
        unfold mf_X1_whyNotPut_J55
        refine ⟨h1, ?_, x1⟩
        rw [e1]
        simp only [cl_some, Y_rc Y1, Y_at G1 Y1 hc, Y_g4 Y1 hc, Y_g0 Y1 hc]
        by_cases s : yf y 3 c = (d : Int)
        · rw [if_pos (congrArg zI s), if_pos s, zI_add]
          by_cases t : ylf y d + yf y 0 c < yf y 0 c
          · rw [if_pos t, if_neg (show ¬ zI (yf y 0 c) ≤ zI (ylf y d + yf y 0 c) by rw [zI_le (by omega) (by omega) (by omega) (by omega)]; omega)]; rfl
          · rw [if_neg t, if_pos (show zI (yf y 0 c) ≤ zI (ylf y d + yf y 0 c) by rw [zI_le (by omega) (by omega) (by omega) (by omega)]; omega)]; rfl
        · rw [if_neg (by rw [zI_inj (by omega) (by omega) (by omega) (by omega)]; exact s), if_neg s, show (0 : Int32) = zI 0 from rfl, zI_add]
          by_cases t : ylf y d + 0 < yf y 0 c
          · rw [if_pos t, if_neg (show ¬ zI (yf y 0 c) ≤ zI (ylf y d + 0) by rw [zI_le (by omega) (by omega) (by omega) (by omega)]; omega)]; rfl
          · rw [if_neg t, if_pos (show zI (yf y 0 c) ≤ zI (ylf y d + 0) by rw [zI_le (by omega) (by omega) (by omega) (by omega)]; omega)]
  · rw [if_neg (by show ¬ (yab y c : Int) ≤ 0; omega), if_pos q]; exact ⟨h, rfl, x0⟩
end
