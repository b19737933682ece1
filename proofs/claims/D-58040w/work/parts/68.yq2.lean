/-! PURE LAW, the class's yards: letters, efforts -/
set_option maxRecDepth 10000
section
variable {w : Nat → Nat × Nat} {K : KD} {h : xk_H} {L : LD} {y : YD} {c : Nat}
theorem Y_lseen_L4 (G : Gd K h) (Y : YA w K h L y) (O : YOk y) {c : Nat} (hc : c < yn y) : ∀ (m k f : Nat) (a : Int), k + m = (yl y c).length → m < f → mf_X1_lettersSeen_L4 (some (Ly L)) (zI c) f (zI a) (zI k) h = some (zI (a + zs (fun p => if yopn y c p = true then 1 else 0) k m), h)
  | m, k, 0, a, _, hf => absurd hf (Nat.not_lt_zero _)
  | 0, k, f + 1, a, hk, hf => by
    have hl := O.ll hc
    unfold mf_X1_lettersSeen_L4 zs
    simp (disch := first | assumption | decide | omega | (simp only [aSz]; omega)) only [Y_rc Y, Y_at G Y, Y_crc Y, Y_g0 Y, Y_g1 Y, Y_g2 Y, Y_g4 Y, Y_gL Y, Y_gP Y, Y_prc Y, Y_psz Y, Y_pem G Y, Y_size Y, zI_lit, zI_add, zI_sub, zI_mul, zI_neg, b2_0z, cl_some, Y_blen Y, zI_le]
    rw [if_pos (by omega), Int.add_zero]
  | m + 1, k, f + 1, a, hk, hf => by
    have hl := O.ll hc
    have hk' : k < 4 := by omega
    have ih := fun b => Y_lseen_L4 G Y O hc m (k + 1) f b (by omega) (by omega)
    unfold mf_X1_lettersSeen_L4 zs
    simp (disch := first | assumption | decide | omega | (simp only [aSz]; omega)) only [Y_rc Y, Y_at G Y, Y_crc Y, Y_g0 Y, Y_g1 Y, Y_g2 Y, Y_g4 Y, Y_gL Y, Y_gP Y, Y_prc Y, Y_psz Y, Y_pem G Y, Y_size Y, zI_lit, zI_add, zI_sub, zI_mul, zI_neg, b2_0z, cl_some, Y_blen Y, Y_isOpen G Y O, zI_le]
    rw [if_neg (by omega)]
    by_cases q3 : yopn y c k = true
    · rw [q3, if_neg (by decide), if_pos rfl, ← Int.add_assoc]; exact ih _
    · have q3 : yopn y c k = false := by simpa using q3
      rw [q3, if_pos rfl, if_neg (by decide), ← Int.add_assoc]; exact ih _
theorem Y_lseen (G : Gd K h) (Y : YA w K h L y) (O : YOk y) (hc : c < yn y) : mf_X1_lettersSeen (some (Ly L)) (zI c) h = some (zI (yls y c), h) := by
  have hl := O.ll hc
  have := Y_lseen_L4 G Y O hc (yl y c).length 0 xk_fu 0 (by omega) (fu_lt (by omega))
  rw [zs_count, Int.zero_add, ← List.range_eq_range'] at this
  exact this
theorem Y_allL_L4 (G : Gd K h) (Y : YA w K h L y) (O : YOk y) : ∀ (m k f : Nat) (a : Int), k + m = yn y → m < f → mf_X1_allLettersSeen_L4 (some (Ly L)) f (zI a) (zI k) h = some (zI (a + zs (fun k => (yls y k : Int)) k m), h)
  | m, k, 0, a, _, hf => absurd hf (Nat.not_lt_zero _)
  | 0, k, f + 1, a, hk, hf => by
    have hn := O.n
    unfold mf_X1_allLettersSeen_L4 zs
    simp (disch := first | assumption | decide | omega | (simp only [aSz]; omega)) only [Y_rc Y, Y_at G Y, Y_crc Y, Y_g0 Y, Y_g1 Y, Y_g2 Y, Y_g4 Y, Y_gL Y, Y_gP Y, Y_prc Y, Y_psz Y, Y_pem G Y, Y_size Y, zI_lit, zI_add, zI_sub, zI_mul, zI_neg, b2_0z, cl_some, zI_le]
    rw [if_pos (by omega), Int.add_zero]
  | m + 1, k, f + 1, a, hk, hf => by
    have hn := O.n
    have hk' : k < yn y := by omega
    have ih := fun b => Y_allL_L4 G Y O m (k + 1) f b (by omega) (by omega)
    unfold mf_X1_allLettersSeen_L4 zs
    simp (disch := first | assumption | decide | omega | (simp only [aSz]; omega)) only [Y_rc Y, Y_at G Y, Y_crc Y, Y_g0 Y, Y_g1 Y, Y_g2 Y, Y_g4 Y, Y_gL Y, Y_gP Y, Y_prc Y, Y_psz Y, Y_pem G Y, Y_size Y, zI_lit, zI_add, zI_sub, zI_mul, zI_neg, b2_0z, cl_some, Y_lseen G Y O, zI_le]
    rw [if_neg (by omega), ← Int.add_assoc]; exact ih _
theorem Y_allL (G : Gd K h) (Y : YA w K h L y) (O : YOk y) : mf_X1_allLettersSeen (some (Ly L)) h = some (zI (zs (fun k => (yls y k : Int)) 0 (yn y)), h) := by
  have hn := O.n
  have := Y_allL_L4 G Y O (yn y) 0 xk_fu 0 (by omega) (fu_lt (by omega))
  rw [Int.zero_add] at this
  exact this
theorem Y_effort_L4 (G : Gd K h) (Y : YA w K h L y) (O : YOk y) : ∀ (l : List Nat) (c : Nat) (a : Int) (f : Nat), c < yn y → isCh y (yf y 3 c) l → l.length < f → mf_X1_effort_L4 (some (Ly L)) f (zI a) (zI c) h = some (zI (a + (((c :: l).map fun k => if yf y 3 k < 0 then 0 else 1 + yab y k).sum : Nat)), h)
  | l, c, a, 0, _, _, hf => absurd hf (Nat.not_lt_zero _)
  | [], c, a, f + 1, hc, hl, hf => by
    have e : yf y 3 c = -1 := hl
    unfold mf_X1_effort_L4
    simp (disch := first | assumption | decide | omega | (simp only [aSz]; omega)) only [Y_rc Y, Y_at G Y, Y_crc Y, Y_g0 Y, Y_g1 Y, Y_g2 Y, Y_g4 Y, Y_gL Y, Y_gP Y, Y_prc Y, Y_psz Y, Y_pem G Y, Y_size Y, zI_lit, zI_add, zI_sub, zI_mul, zI_neg, b2_0z, cl_some, Y_gnd G Y O, zI_le, zI_lt, zI_inj]
    rw [decide_eq_true (by omega), if_neg (by decide)]
    refine congrArg (fun z => some (zI z, h)) ?_
    rw [List.map_cons, if_pos (by omega), List.map_nil]
    simp
  | d :: l, c, a, f + 1, hc, hl, hf => by
    have hn := O.n
    have ih := Y_effort_L4 G Y O l d (a + (1 + yab y c)) f hl.2.1 hl.2.2 (by simpa using hf)
    have e := hl.1
    unfold mf_X1_effort_L4
    simp (disch := first | assumption | decide | omega | (simp only [aSz]; omega)) only [Y_rc Y, Y_at G Y, Y_crc Y, Y_g0 Y, Y_g1 Y, Y_g2 Y, Y_g4 Y, Y_gL Y, Y_gP Y, Y_prc Y, Y_psz Y, Y_pem G Y, Y_size Y, zI_lit, zI_add, zI_sub, zI_mul, zI_neg, b2_0z, cl_some, Y_gnd G Y O, Y_above G Y O]
    rw [decide_eq_false (by omega), if_pos (by decide), e]
    refine ih.trans ?_
    refine congrArg (fun z => some (zI z, h)) ?_
    rw [List.map_cons (a := c), if_neg (show ¬ yf y 3 c < 0 by omega), List.sum_cons]; omega
theorem Y_effort (G : Gd K h) (Y : YA w K h L y) (O : YOk y) (hc : c < yn y) : mf_X1_effort (some (Ly L)) (zI c) h = some (zI (yef y c), h) := by
  have := Y_effort_L4 G Y O (ch y c) c 0 xk_fu hc (ch_ok O hc) (fu_lt (by have := ch_len11 O hc; omega))
  rw [Int.zero_add] at this; exact this
theorem Y_allE_L4 (G : Gd K h) (Y : YA w K h L y) (O : YOk y) : ∀ (m k f : Nat) (a : Int), k + m = yn y → m < f → mf_X1_allEfforts_L4 (some (Ly L)) f (zI a) (zI k) h = some (zI (a + zs (fun k => (yef y k : Int)) k m), h)
  | m, k, 0, a, _, hf => absurd hf (Nat.not_lt_zero _)
  | 0, k, f + 1, a, hk, hf => by
    have hn := O.n
    unfold mf_X1_allEfforts_L4 zs
    simp (disch := first | assumption | decide | omega | (simp only [aSz]; omega)) only [Y_rc Y, Y_at G Y, Y_crc Y, Y_g0 Y, Y_g1 Y, Y_g2 Y, Y_g4 Y, Y_gL Y, Y_gP Y, Y_prc Y, Y_psz Y, Y_pem G Y, Y_size Y, zI_lit, zI_add, zI_sub, zI_mul, zI_neg, b2_0z, cl_some, zI_le]
    rw [if_pos (by omega), Int.add_zero]
  | m + 1, k, f + 1, a, hk, hf => by
    have hn := O.n
    have hk' : k < yn y := by omega
    have ih := fun b => Y_allE_L4 G Y O m (k + 1) f b (by omega) (by omega)
    unfold mf_X1_allEfforts_L4 zs
    simp (disch := first | assumption | decide | omega | (simp only [aSz]; omega)) only [Y_rc Y, Y_at G Y, Y_crc Y, Y_g0 Y, Y_g1 Y, Y_g2 Y, Y_g4 Y, Y_gL Y, Y_gP Y, Y_prc Y, Y_psz Y, Y_pem G Y, Y_size Y, zI_lit, zI_add, zI_sub, zI_mul, zI_neg, b2_0z, cl_some, Y_effort G Y O, zI_le]
    rw [if_neg (by omega), ← Int.add_assoc]; exact ih _
theorem Y_allE (G : Gd K h) (Y : YA w K h L y) (O : YOk y) : mf_X1_allEfforts (some (Ly L)) h = some (zI (zs (fun k => (yef y k : Int)) 0 (yn y)), h) := by
  have hn := O.n
  have := Y_allE_L4 G Y O (yn y) 0 xk_fu 0 (by omega) (fu_lt (by omega))
  rw [Int.zero_add] at this
  exact this
theorem Y_effU_L4 (G : Gd K h) (Y : YA w K h L y) (O : YOk y) {z : Int} (z1 : -2147483648 ≤ z) (z2 : z ≤ 2147483647) : ∀ (m k f : Nat) (a : Int), k + m = yn y → m < f → mf_X1_effortsUp_L4 (some (Ly L)) (zI z) f (zI a) (zI k) h = some (zI (a + zs (fun c => if yf y 0 c = z then (yef y c : Int) else 0) k m), h)
  | m, k, 0, a, _, hf => absurd hf (Nat.not_lt_zero _)
  | 0, k, f + 1, a, hk, hf => by
    have hn := O.n
    unfold mf_X1_effortsUp_L4 zs
    simp (disch := first | assumption | decide | omega | (simp only [aSz]; omega)) only [Y_rc Y, Y_at G Y, Y_crc Y, Y_g0 Y, Y_g1 Y, Y_g2 Y, Y_g4 Y, Y_gL Y, Y_gP Y, Y_prc Y, Y_psz Y, Y_pem G Y, Y_size Y, zI_lit, zI_add, zI_sub, zI_mul, zI_neg, b2_0z, cl_some, zI_le]
    rw [if_pos (by omega), Int.add_zero]
  | m + 1, k, f + 1, a, hk, hf => by
    have hn := O.n
    have hk' : k < yn y := by omega
    have hs := O.sz hk'
    have ih := fun b => Y_effU_L4 G Y O z1 z2 m (k + 1) f b (by omega) (by omega)
    unfold mf_X1_effortsUp_L4 zs
    simp (disch := first | assumption | decide | omega | (simp only [aSz]; omega)) only [Y_rc Y, Y_at G Y, Y_crc Y, Y_g0 Y, Y_g1 Y, Y_g2 Y, Y_g4 Y, Y_gL Y, Y_gP Y, Y_prc Y, Y_psz Y, Y_pem G Y, Y_size Y, zI_lit, zI_add, zI_sub, zI_mul, zI_neg, b2_0z, cl_some, Y_effort G Y O, zI_le, zI_inj]
    rw [if_neg (by omega)]
    by_cases q : yf y 0 k = z
    · rw [if_pos q, if_pos q, ← Int.add_assoc]; exact ih _
    · rw [if_neg q, if_neg q, ← Int.add_assoc]; exact ih _
theorem Y_effU (G : Gd K h) (Y : YA w K h L y) (O : YOk y) {z : Int} (z1 : -2147483648 ≤ z) (z2 : z ≤ 2147483647) : mf_X1_effortsUp (some (Ly L)) (zI z) h = some (zI (zs (fun c => if yf y 0 c = z then (yef y c : Int) else 0) 0 (yn y)), h) := by
  have hn := O.n
  have := Y_effU_L4 G Y O z1 z2 (yn y) 0 xk_fu 0 (by omega) (fu_lt (by omega))
  rw [Int.zero_add] at this
  exact this
end
