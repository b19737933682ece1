/-! PURE LAW, the class's yards: questions without new objects -/
set_option maxRecDepth 10000
section
variable {w : Nat → Nat × Nat} {K : KD} {h : xk_H} {L : LD} {y : YD} {c : Nat}
theorem Y_depth_L4 (G : Gd K h) (Y : YA w K h L y) (O : YOk y) : ∀ (l : List Nat) (c : Nat) (a : Int) (f : Nat), c < yn y → isCh y (yf y 3 c) l → l.length < f → mf_X1_depth_L4 (some (Ly L)) f (zI a) (zI c) h = some (zI (a + l.length), h)
  | l, c, a, 0, _, _, hf => absurd hf (Nat.not_lt_zero _)
  | [], c, a, f + 1, hc, hl, hf => by
    have e : yf y 3 c = -1 := hl
    unfold mf_X1_depth_L4
    simp (disch := first | assumption | decide | omega | (simp only [aSz]; omega)) only [Y_rc Y, Y_at G Y, Y_crc Y, Y_g0 Y, Y_g1 Y, Y_g2 Y, Y_g4 Y, Y_gL Y, Y_gP Y, Y_prc Y, Y_psz Y, Y_pem G Y, Y_size Y, zI_lit, zI_add, zI_sub, zI_mul, zI_neg, b2_0z, cl_some, Y_gnd G Y O, zI_le, zI_lt, zI_inj]
    rw [decide_eq_true (by omega), if_neg (by decide)]
    exact congrArg (fun z => some (zI z, h)) (by simp)
  | d :: l, c, a, f + 1, hc, hl, hf => by
    have hn := O.n
    have ih := Y_depth_L4 G Y O l d (a + 1) f hl.2.1 hl.2.2 (by simpa using hf)
    have e := hl.1
    unfold mf_X1_depth_L4
    simp (disch := first | assumption | decide | omega | (simp only [aSz]; omega)) only [Y_rc Y, Y_at G Y, Y_crc Y, Y_g0 Y, Y_g1 Y, Y_g2 Y, Y_g4 Y, Y_gL Y, Y_gP Y, Y_prc Y, Y_psz Y, Y_pem G Y, Y_size Y, zI_lit, zI_add, zI_sub, zI_mul, zI_neg, b2_0z, cl_some, Y_gnd G Y O, zI_le, zI_lt, zI_inj]
    rw [decide_eq_false (by omega), if_pos (by decide), e]
    refine ih.trans ?_
    exact congrArg (fun z => some (zI z, h)) (by rw [List.length_cons]; omega)
theorem Y_depth (G : Gd K h) (Y : YA w K h L y) (O : YOk y) (hc : c < yn y) : mf_X1_depth (some (Ly L)) (zI c) h = some (zI (ch y c).length, h) := by
  have := Y_depth_L4 G Y O (ch y c) c 0 xk_fu hc (ch_ok O hc) (fu_lt (by have := ch_len11 O hc; omega))
  rw [Int.zero_add] at this; exact this
theorem Y_isAround_L9 (G : Gd K h) (Y : YA w K h L y) (O : YOk y) {c : Nat} (hc : c < yn y) : ∀ (l : List Nat) (a : Int) (f : Nat), isCh y a l → l.length < f → mf_X1_isAround_L9 (fun m7 h8 => mf_X1_isAround_J31 (zI c) m7 h8) (some (Ly L)) (zI c) f (zI a) h = some (l.contains c, h)
  | l, a, 0, _, hf => absurd hf (Nat.not_lt_zero _)
  | [], a, f + 1, hl, hf => by
    have hn := O.n
    have e : a = -1 := hl
    subst e
    unfold mf_X1_isAround_L9 mf_X1_isAround_J31
    simp (disch := first | assumption | decide | omega | (simp only [aSz]; omega)) only [Y_rc Y, Y_at G Y, Y_crc Y, Y_g0 Y, Y_g1 Y, Y_g2 Y, Y_g4 Y, Y_gL Y, Y_gP Y, Y_prc Y, Y_psz Y, Y_pem G Y, Y_size Y, zI_lit, zI_add, zI_sub, zI_mul, zI_neg, b2_0z, cl_some, Y_gnd G Y O, zI_le, zI_lt, zI_inj]
    rw [if_pos trivial, if_neg (by omega)]; rfl
  | d :: l, a, f + 1, hl, hf => by
    have hn := O.n
    obtain ⟨rfl, hd, hl⟩ := hl
    have ih := Y_isAround_L9 G Y O hc l _ f hl (by simpa using hf)
    unfold mf_X1_isAround_L9
    simp only [mf_X1_isAround_J31] at ih ⊢
    simp (disch := first | assumption | decide | omega | (simp only [aSz]; omega)) only [Y_rc Y, Y_at G Y, Y_crc Y, Y_g0 Y, Y_g1 Y, Y_g2 Y, Y_g4 Y, Y_gL Y, Y_gP Y, Y_prc Y, Y_psz Y, Y_pem G Y, Y_size Y, zI_lit, zI_add, zI_sub, zI_mul, zI_neg, b2_0z, cl_some, Y_gnd G Y O, zI_le, zI_lt, zI_inj]
    rw [if_neg (by omega), List.contains_cons]
    by_cases q : (d : Int) = c
    · have e : d = c := by omega
      subst e
      rw [if_pos rfl, if_pos rfl]; simp
    · rw [if_neg q, ih]
      have : (c == d) = false := by simp; omega
      rw [this]; rfl
theorem Y_isAround (G : Gd K h) (Y : YA w K h L y) (O : YOk y) (hc : c < yn y) {k : Nat} (hk : k < yn y) : mf_X1_isAround (some (Ly L)) (zI c) (zI k) h = some (yar y c k, h) := by
  unfold mf_X1_isAround
  have := Y_isAround_L9 G Y O hc (ch y k) _ xk_fu (ch_ok O hk) (fu_lt (by have := ch_len11 O hk; omega))
  simp (disch := first | assumption | decide | omega | (simp only [aSz]; omega)) only [Y_rc Y, Y_at G Y, Y_crc Y, Y_g0 Y, Y_g1 Y, Y_g2 Y, Y_g4 Y, Y_gL Y, Y_gP Y, Y_prc Y, Y_psz Y, Y_pem G Y, Y_size Y, zI_lit, zI_add, zI_sub, zI_mul, zI_neg, b2_0z, cl_some] at this ⊢
  exact this
theorem Y_load_L4 (G : Gd K h) (Y : YA w K h L y) (O : YOk y) {c : Nat} (hc : c < yn y) : ∀ (m k f : Nat) (a : Int), k + m = yn y → m < f → mf_X1_load_L4 (some (Ly L)) (zI c) f (zI a) (zI k) h = some (zI (a + zs (fun k => if yar y c k = true then 1 else 0) k m), h)
  | m, k, 0, a, _, hf => absurd hf (Nat.not_lt_zero _)
  | 0, k, f + 1, a, hk, hf => by
    have hn := O.n
    unfold mf_X1_load_L4 zs
    simp (disch := first | assumption | decide | omega | (simp only [aSz]; omega)) only [Y_rc Y, Y_at G Y, Y_crc Y, Y_g0 Y, Y_g1 Y, Y_g2 Y, Y_g4 Y, Y_gL Y, Y_gP Y, Y_prc Y, Y_psz Y, Y_pem G Y, Y_size Y, zI_lit, zI_add, zI_sub, zI_mul, zI_neg, b2_0z, cl_some, Y_gnd G Y O, zI_le, zI_lt, zI_inj]
    rw [if_pos (by omega), Int.add_zero]
  | m + 1, k, f + 1, a, hk, hf => by
    have hn := O.n
    have hk' : k < yn y := by omega
    have ih := fun b => Y_load_L4 G Y O hc m (k + 1) f b (by omega) (by omega)
    unfold mf_X1_load_L4 zs
    simp (disch := first | assumption | decide | omega | (simp only [aSz]; omega)) only [Y_rc Y, Y_at G Y, Y_crc Y, Y_g0 Y, Y_g1 Y, Y_g2 Y, Y_g4 Y, Y_gL Y, Y_gP Y, Y_prc Y, Y_psz Y, Y_pem G Y, Y_size Y, zI_lit, zI_add, zI_sub, zI_mul, zI_neg, b2_0z, cl_some, Y_isAround G Y O hc hk', zI_le]
    rw [if_neg (by omega)]
    by_cases q3 : yar y c k = true
    · rw [q3, if_neg (by decide), if_pos rfl, ← Int.add_assoc]; exact ih _
    · have q3 : yar y c k = false := by simpa using q3
      rw [q3, if_pos rfl, if_neg (by decide), ← Int.add_assoc]; exact ih _
theorem Y_load (G : Gd K h) (Y : YA w K h L y) (O : YOk y) (hc : c < yn y) : mf_X1_load (some (Ly L)) (zI c) h = some (zI (yld y c), h) := by
  have hn := O.n
  have := Y_load_L4 G Y O hc (yn y) 0 xk_fu 0 (by omega) (fu_lt (by omega))
  rw [zs_count, Int.zero_add, ← List.range_eq_range'] at this
  exact this
theorem Y_place (G : Gd K h) (Y : YA w K h L y) (O : YOk y) (hc : c < yn y) : mf_X1_placeInPile (some (Ly L)) (zI c) h = some (zI (ypl y c), h) := by
  have hn := O.n
  have hH := O.ho hc
  unfold mf_X1_placeInPile
  simp (disch := first | assumption | decide | omega | (simp only [aSz]; omega)) only [Y_rc Y, Y_at G Y, Y_crc Y, Y_g0 Y, Y_g1 Y, Y_g2 Y, Y_g4 Y, Y_gL Y, Y_gP Y, Y_prc Y, Y_psz Y, Y_pem G Y, Y_size Y, zI_lit, zI_add, zI_sub, zI_mul, zI_neg, b2_0z, cl_some, Y_gnd G Y O, zI_le, zI_lt, zI_inj]
  by_cases q : yf y 3 c < 0
  · rw [decide_eq_true q, if_neg (by decide), place_ground (by omega)]; rfl
  · obtain ⟨d, e⟩ : ∃ d : Nat, yf y 3 c = d := ⟨(yf y 3 c).toNat, by omega⟩
    have hd : d < yn y := by omega
    rw [decide_eq_false q, if_pos (by decide), e]
    obtain ⟨m, e', l⟩ := (Y.2.2.2 d hd).2.2.2
    simp (disch := first | assumption | decide | omega | (simp only [aSz]; omega)) only [Y_rc Y, Y_at G Y, Y_crc Y, Y_g0 Y, Y_g1 Y, Y_g2 Y, Y_g4 Y, Y_gL Y, Y_gP Y, Y_prc Y, Y_psz Y, Y_pem G Y, Y_size Y, zI_lit, zI_add, zI_sub, zI_mul, zI_neg, b2_0z, cl_some, C_valueOf G (show c < 128 by omega), C_indexOf G l (fun x m => by have := O.plt hd m; omega) ((O.pm hd c).2 ⟨hc, e⟩)]
    rw [place_in e]
theorem Y_above (G : Gd K h) (Y : YA w K h L y) (O : YOk y) (hc : c < yn y) : mf_X1_above (some (Ly L)) (zI c) h = some (zI (yab y c), h) := by
  have hn := O.n
  have hH := O.ho hc
  unfold mf_X1_above
  simp (disch := first | assumption | decide | omega | (simp only [aSz]; omega)) only [Y_rc Y, Y_at G Y, Y_crc Y, Y_g0 Y, Y_g1 Y, Y_g2 Y, Y_g4 Y, Y_gL Y, Y_gP Y, Y_prc Y, Y_psz Y, Y_pem G Y, Y_size Y, zI_lit, zI_add, zI_sub, zI_mul, zI_neg, b2_0z, cl_some, Y_gnd G Y O, zI_le, zI_lt, zI_inj]
  by_cases q : yf y 3 c < 0
  · rw [decide_eq_true q, if_neg (by decide), above_ground (by omega)]; rfl
  · obtain ⟨d, e⟩ : ∃ d : Nat, yf y 3 c = d := ⟨(yf y 3 c).toNat, by omega⟩
    have hd : d < yn y := by omega
    have hp := place_lt O hc hd e
    rw [decide_eq_false q, if_pos (by decide), e]
    simp (disch := first | assumption | decide | omega | (simp only [aSz]; omega)) only [Y_rc Y, Y_at G Y, Y_crc Y, Y_g0 Y, Y_g1 Y, Y_g2 Y, Y_g4 Y, Y_gL Y, Y_gP Y, Y_prc Y, Y_psz Y, Y_pem G Y, Y_size Y, zI_lit, zI_add, zI_sub, zI_mul, zI_neg, b2_0z, cl_some, Y_place G Y O hc]
    rw [above_in e]
    exact congrArg (fun z => some (zI z, h)) (by show ((yp y d).length : Int) - 1 - ypl y c = _; omega)
theorem yab_bd (O : YOk y) (hc : c < yn y) : yab y c ≤ 12 := by
  have hH := O.ho hc
  by_cases q : yf y 3 c < 0
  · rw [above_ground (by omega)]; omega
  · have := ypl_len O (c := (yf y 3 c).toNat) (by omega)
    unfold yab; rw [if_neg q]; omega
theorem Y_whyG (G : Gd K h) (Y : YA w K h L y) (O : YOk y) (hc : c < yn y) : mf_X1_whyNotGround (some (Ly L)) (zI c) h = some (zI (ywg y c), h) := by
  have hb := yab_bd O hc
  unfold mf_X1_whyNotGround ywg
  simp (disch := first | assumption | decide | omega | (simp only [aSz]; omega)) only [Y_rc Y, Y_at G Y, Y_crc Y, Y_g0 Y, Y_g1 Y, Y_g2 Y, Y_g4 Y, Y_gL Y, Y_gP Y, Y_prc Y, Y_psz Y, Y_pem G Y, Y_size Y, zI_lit, zI_add, zI_sub, zI_mul, zI_neg, b2_0z, cl_some, Y_above G Y O hc, Y_gnd G Y O hc, zI_le]
  by_cases q : yab y c = 0
  · rw [if_pos (by show (yab y c : Int) ≤ 0; omega), if_neg (not_not_intro q)]
    by_cases z : yf y 3 c < 0
    · rw [decide_eq_true z, if_neg (by decide), if_pos z]
    · rw [decide_eq_false z, if_pos (by decide), if_neg z]
  · rw [if_neg (by show ¬ (yab y c : Int) ≤ 0; omega), if_pos q]
theorem Y_whyB (G : Gd K h) (Y : YA w K h L y) (O : YOk y) (hc : c < yn y) : mf_X1_whyNotBreak (some (Ly L)) (zI c) h = some (zI (ywb y c), h) := by
  have hb := yab_bd O hc
  unfold mf_X1_whyNotBreak ywb
  simp (disch := first | assumption | decide | omega | (simp only [aSz]; omega)) only [Y_rc Y, Y_at G Y, Y_crc Y, Y_g0 Y, Y_g1 Y, Y_g2 Y, Y_g4 Y, Y_gL Y, Y_gP Y, Y_prc Y, Y_psz Y, Y_pem G Y, Y_size Y, zI_lit, zI_add, zI_sub, zI_mul, zI_neg, b2_0z, cl_some, Y_above G Y O hc, zI_le]
  by_cases q : yab y c = 0
  · rw [if_pos (by show (yab y c : Int) ≤ 0; omega), if_neg (not_not_intro q)]
    by_cases z : (yp y c).length = 0
    · rw [decide_eq_true z, if_neg (by decide), if_neg (not_not_intro z)]
    · rw [decide_eq_false z, if_pos (by decide), if_pos z]
  · rw [if_neg (by show ¬ (yab y c : Int) ≤ 0; omega), if_pos q]
theorem Y_isLoose (G : Gd K h) (Y : YA w K h L y) (O : YOk y) (hc : c < yn y) : mf_X1_isLoose (some (Ly L)) (zI c) h = some (yloose y c, h) := by
  unfold mf_X1_isLoose yloose
  simp (disch := first | assumption | decide | omega | (simp only [aSz]; omega)) only [Y_rc Y, Y_at G Y, Y_crc Y, Y_g0 Y, Y_g1 Y, Y_g2 Y, Y_g4 Y, Y_gL Y, Y_gP Y, Y_prc Y, Y_psz Y, Y_pem G Y, Y_size Y, zI_lit, zI_add, zI_sub, zI_mul, zI_neg, b2_0z, cl_some, Y_gnd G Y O, zI_le, zI_lt, zI_inj]
  by_cases z : yf y 3 c < 0
  · rw [decide_eq_true z, if_neg (by decide)]
    by_cases q : (yp y c).length = 0
    · rw [decide_eq_true q, if_neg (by decide), decide_eq_true ⟨z, q⟩]
    · rw [decide_eq_false q, if_pos (by decide), decide_eq_false fun x => q x.2]
  · rw [decide_eq_false z, if_pos (by decide), decide_eq_false fun x => z x.1]
theorem Y_isOpen_L12 (G : Gd K h) (Y : YA w K h L y) (O : YOk y) {p : Nat} (hp : p < 4) : ∀ (l : List Nat) (a : Int) (b : Bool) (f : Nat), isCh y a l → l.length < f → mf_X1_isOpen_L12 (some (Ly L)) (zI p) f (xk_b2 b) (zI a) h = some (b && l.all fun a => yf y 2 a / 2 ^ p % 2 = 1, h)
  | l, a, b, 0, _, hf => absurd hf (Nat.not_lt_zero _)
  | [], a, b, f + 1, hl, hf => by
    have e : a = -1 := hl
    subst e
    unfold mf_X1_isOpen_L12
    simp (disch := first | assumption | decide | omega | (simp only [aSz]; omega)) only [Y_rc Y, Y_at G Y, Y_crc Y, Y_g0 Y, Y_g1 Y, Y_g2 Y, Y_g4 Y, Y_gL Y, Y_gP Y, Y_prc Y, Y_psz Y, Y_pem G Y, Y_size Y, zI_lit, zI_add, zI_sub, zI_mul, zI_neg, b2_0z, cl_some, Y_gnd G Y O, zI_le, zI_lt, zI_inj]
    rw [if_pos trivial, zb_z, List.all_nil, Bool.and_true]
  | d :: l, a, b, f + 1, hl, hf => by
    obtain ⟨rfl, hd, hl⟩ := hl
    have hn := O.n
    have hg := O.gp hd
    have ih := fun b => Y_isOpen_L12 G Y O hp l _ b f hl (by simpa using hf)
    unfold mf_X1_isOpen_L12 mf_X1_isOpen_J40 mf_X3_hasGap
    simp (disch := first | assumption | decide | omega | (simp only [aSz]; omega)) only [Y_rc Y, Y_at G Y, Y_crc Y, Y_g0 Y, Y_g1 Y, Y_g2 Y, Y_g4 Y, Y_gL Y, Y_gP Y, Y_prc Y, Y_psz Y, Y_pem G Y, Y_size Y, zI_lit, zI_add, zI_sub, zI_mul, zI_neg, b2_0z, cl_some, Y_gnd G Y O, zI_le, zI_lt, zI_inj]
    rw [if_neg (by omega), List.all_cons]
    cases b with
    | false => rw [if_pos rfl]; exact ih false
    | true =>
      rw [if_neg (by decide)]
      simp only [gapbit hg.1 hg.2 hp]
      by_cases q : yf y 2 d / 2 ^ p % 2 = 1
      · rw [if_pos q, decide_eq_true q, Bool.true_and, Bool.true_and, cl_some, if_neg (by decide)]; simp (disch := first | assumption | decide | omega | (simp only [aSz]; omega)) only [Y_rc Y, Y_at G Y, Y_crc Y, Y_g0 Y, Y_g1 Y, Y_g2 Y, Y_g4 Y, Y_gL Y, Y_gP Y, Y_prc Y, Y_psz Y, Y_pem G Y, Y_size Y, zI_lit, zI_add, zI_sub, zI_mul, zI_neg, b2_0z, cl_some]; have := ih true; rw [Bool.true_and] at this; exact this
      · rw [if_neg q, decide_eq_false q, Bool.false_and, Bool.true_and, cl_some, if_pos (by decide)]; simp (disch := first | assumption | decide | omega | (simp only [aSz]; omega)) only [Y_rc Y, Y_at G Y, Y_crc Y, Y_g0 Y, Y_g1 Y, Y_g2 Y, Y_g4 Y, Y_gL Y, Y_gP Y, Y_prc Y, Y_psz Y, Y_pem G Y, Y_size Y, zI_lit, zI_add, zI_sub, zI_mul, zI_neg, b2_0z, cl_some]; have := ih false; rw [Bool.false_and] at this; exact this
theorem Y_isOpen (G : Gd K h) (Y : YA w K h L y) (O : YOk y) {p : Nat} (hc : c < yn y) (hp : p < 4) : mf_X1_isOpen (some (Ly L)) (zI c) (zI p) h = some (yopn y c p, h) := by
  have hl := ch_len11 O hc
  unfold mf_X1_isOpen
  simp (disch := first | assumption | decide | omega | (simp only [aSz]; omega)) only [Y_rc Y, Y_at G Y, Y_crc Y, Y_g0 Y, Y_g1 Y, Y_g2 Y, Y_g4 Y, Y_gL Y, Y_gP Y, Y_prc Y, Y_psz Y, Y_pem G Y, Y_size Y, zI_lit, zI_add, zI_sub, zI_mul, zI_neg, b2_0z, cl_some]
  have := Y_isOpen_L12 G Y O hp (ch y c) _ true xk_fu (ch_ok O hc) (fu_lt (by omega))
  rw [Bool.true_and] at this; exact this
theorem Y_sign (G : Gd K h) (Y : YA w K h L y) (O : YOk y) {p : Nat} (hc : c < yn y) (hp : p < 4) : mf_X1_sign (some (Ly L)) (zI c) (zI p) h = some (zI (ysg y c p), h) := by
  have hl := O.ll hc
  unfold mf_X1_sign ysg
  simp (disch := first | assumption | decide | omega | (simp only [aSz]; omega)) only [Y_rc Y, Y_at G Y, Y_crc Y, Y_g0 Y, Y_g1 Y, Y_g2 Y, Y_g4 Y, Y_gL Y, Y_gP Y, Y_prc Y, Y_psz Y, Y_pem G Y, Y_size Y, zI_lit, zI_add, zI_sub, zI_mul, zI_neg, b2_0z, cl_some, Y_isOpen G Y O, Y_blen Y]
  by_cases q : yopn y c p = true
  · rw [q, if_neg (by decide), if_pos rfl]
    cases e : (yl y c)[p]? with
    | none =>
      have := List.getElem?_eq_none_iff.1 e
      rw [if_pos (by rw [zI_le (by omega) (by omega) (by omega) (by omega)]; omega)]; rfl
    | some x =>
      have := (List.getElem?_eq_some_iff.1 e).1
      rw [if_neg (by rw [zI_le (by omega) (by omega) (by omega) (by omega)]; omega), Y_bget Y hc e (by omega)]; rfl
  · have q2 : yopn y c p = false := by simpa using q
    rw [q2, if_pos rfl, if_neg (by decide)]
end
