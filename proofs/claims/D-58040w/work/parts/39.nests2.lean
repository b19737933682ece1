/-! PURE LAW: the reference's nest; its counts; its quotient -/
set_option maxRecDepth 10000
/-- a place in the longest nest -/
def qnest (y : YD) (p : Int) : Int := if 0 ≤ p then ((ynst y)[p.toNat]?).elim (-4) (fun c => (c : Int)) else -1
theorem ynest_cons {y : YD} {l : Nat} {r : Int} {c : Nat} (e : yfind y (l + 1 : Nat) r = some c) : ynest y (l + 1) r = c :: ynest y l (yf y 1 c) := by
  show (match yfind y (l + 1 : Nat) r with
    | none => []
    | some c => c :: ynest y l (yf y 1 c)) = _
  rw [e]
section
variable {A : Nat → Nat} {h : xk_H} {y : YD}
theorem M_longestNest_L8 (hA : AOk A) (O : YOk y) {μ : MD} (hY : MY (μ.2 0) y) (hN : NR y μ (ynl y)) : ∀ (m k f : Nat) (a : Int), 0 ≤ a → a ≤ 100 → k + m = yn y → m < f → mf_X2_longestNest_L8 (some (A 3)) f (zI a) (zI k) (mk A μ h) = some (zI (zmx (ynl y) k m a), mk A μ h)
  | m, k, 0, a, _, _, _, hf => absurd hf (Nat.not_lt_zero _)
  | 0, k, f + 1, a, _, _, hk, hf => by
    have hn := O.n
    unfold mf_X2_longestNest_L8 zmx
    simp (disch := first | assumption | decide | omega | (simp only [aSz]; omega)) only [m_rc, m_gI, m_gR, zI_lit, zI_add, zI_sub, zI_mul, zI_neg, b2_0z, cl_some, M_n hA hY, M_of0 hA hY, M_of1 hA hY, M_of2 hA hY, M_of7 hA hY, M_of8 hA hY, M_ofL hA hY, M_around hA hY, zI_le, zI_lt, zI_inj]
    rw [if_pos (by omega)]
  | m + 1, k, f + 1, a, ha, hb, hk, hf => by
    have hn := O.n
    have hk' : k < yn y := by omega
    have e := hN k hk'
    have p := (ynl_pos O hk').1
    have q := ynl_le O hk'
    have ih := fun b z z2 => M_longestNest_L8 hA O hY hN m (k + 1) f b z z2 (by omega) (by omega)
    unfold mf_X2_longestNest_L8 zmx
    simp (disch := first | assumption | decide | omega | (simp only [aSz]; omega)) only [m_rc, m_gI, m_gR, zI_lit, zI_add, zI_sub, zI_mul, zI_neg, b2_0z, cl_some, M_n hA hY, M_of0 hA hY, M_of1 hA hY, M_of2 hA hY, M_of7 hA hY, M_of8 hA hY, M_ofL hA hY, zI_le, m_lI hA, Int.toNat_natCast, e]
    rw [if_neg (by omega)]
    by_cases q : a < ynl y k
    · rw [if_neg (by omega), if_pos q]; exact ih _ (by omega) (by omega)
    · rw [if_pos (by omega), if_neg q]; exact ih _ ha hb
theorem M_longestNest (hA : AOk A) (O : YOk y) {μ : MD} (hY : MY (μ.2 0) y) : ∃ ν : MD, mOnly 18 μ ν ∧ NR y ν (ynl y) ∧ mf_X2_longestNest (some (A 3)) (mk A μ h) = some (zI (ylong y), mk A ν h) := by
  have hn := O.n
  obtain ⟨ν, a1, a2, a3⟩ := M_laysNests (h := h) hA O hY
  refine ⟨ν, a1, a2, ?_⟩
  have hY2 : MY (ν.2 0) y := by rw [a1.2 0 (by decide)]; exact hY
  unfold mf_X2_longestNest
  simp (disch := first | assumption | decide | omega | (simp only [aSz]; omega)) only [m_rc, m_gI, m_gR, zI_lit, zI_add, zI_sub, zI_mul, zI_neg, b2_0z, cl_some, a3]
  exact M_longestNest_L8 hA O hY2 a2 (yn y) 0 xk_fu 0 (by decide) (by decide) (by omega) (fu_lt (by omega))
theorem M_nest_L49 (hA : AOk A) (O : YOk y) {μ : MD} (hY : MY (μ.2 0) y) (hN : NR y μ (ynl y)) (kx : Int32 → xk_H → Option (Int32 × xk_H)) (z : Int32) {l r k : Int} (hl : 0 ≤ l ∧ l ≤ 12) (hr : 0 ≤ r ∧ r ≤ 60) (hk : 0 ≤ k ∧ k ≤ 12) : ∀ (m f : Nat) (a : Int), m ≤ yn y → m < f → mf_X2_nest_L49 kx (some (A 3)) z (zI l) (zI r) (zI k) f (zI a) (zI ((m : Int) - 1)) (mk A μ h) = kx (zI (((List.range m).find? fun c => decide (ynl y c = l - k ∧ yf y 0 c ≤ r)).elim a (fun c => (c : Int)))) (mk A μ h)
  | m, 0, a, _, hf => absurd hf (Nat.not_lt_zero _)
  | 0, f + 1, a, hm, hf => by
    unfold mf_X2_nest_L49
    simp (disch := first | assumption | decide | omega | (simp only [aSz]; omega)) only [m_rc, m_gI, m_gR, zI_lit, zI_add, zI_sub, zI_mul, zI_neg, b2_0z, cl_some, M_n hA hY, M_of0 hA hY, M_of1 hA hY, M_of2 hA hY, M_of7 hA hY, M_of8 hA hY, M_ofL hA hY, M_around hA hY, zI_le, zI_lt, zI_inj]
    rw [if_pos (by decide)]; rfl
  | m + 1, f + 1, a, hm, hf => by
    have hn := O.n
    have hk' : m < yn y := by omega
    have e := hN m hk'
    have p := (ynl_pos O hk').1
    have q := ynl_le O hk'
    have sz := O.sz hk'
    have ih := fun b => M_nest_L49 hA O hY hN kx z hl hr hk m f b (by omega) (by omega)
    rw [List.range_succ, List.find?_append]
    have em : ((m + 1 : Nat) : Int) - 1 = m := by omega
    rw [em]
    unfold mf_X2_nest_L49
    simp (disch := first | assumption | decide | omega | (simp only [aSz]; omega)) only [m_rc, m_gI, m_gR, zI_lit, zI_add, zI_sub, zI_mul, zI_neg, b2_0z, cl_some, M_n hA hY, M_of0 hA hY, M_of1 hA hY, M_of2 hA hY, M_of7 hA hY, M_of8 hA hY, M_ofL hA hY, zI_lt, zI_inj, m_lI hA, Int.toNat_natCast, e]
    rw [if_neg (by omega)]
    have em2 : (m : Int) + -1 = m - 1 := by omega
    rw [em2]
    by_cases q1 : ynl y m = l - k
    · rw [if_pos q1]
      by_cases q2 : r < yf y 0 m
      · rw [if_pos q2, ih]
        have e3 : decide (ynl y m = l - k ∧ yf y 0 m ≤ r) = false := decide_eq_false fun z => by omega
        rw [List.find?_cons_of_neg (by rw [e3]; decide), List.find?_nil, Option.or_none]
      · rw [if_neg q2, ih]
        have e3 : decide (ynl y m = l - k ∧ yf y 0 m ≤ r) = true := decide_eq_true ⟨q1, by omega⟩
        rw [List.find?_cons_of_pos (by rw [e3])]
        cases (List.range m).find? fun c => decide (ynl y c = l - k ∧ yf y 0 c ≤ r) <;> rfl
    · rw [if_neg q1, ih]
      have e3 : decide (ynl y m = l - k ∧ yf y 0 m ≤ r) = false := decide_eq_false fun z => q1 z.1
      rw [List.find?_cons_of_neg (by rw [e3]; decide), List.find?_nil, Option.or_none]
theorem M_nest_L29 (hA : AOk A) (O : YOk y) {μ : MD} (hY : MY (μ.2 0) y) (hN : NR y μ (ynl y)) {p l : Nat} (hp : p < l) (hl : l ≤ 12) : ∀ (m k f : Nat) (a r : Int), k + m = p → m + 1 < f → 0 ≤ r → r ≤ 60 → (∃ d, d < yn y ∧ ynl y d = (l - k : Nat) ∧ yf y 0 d ≤ r) → mf_X2_nest_L29 (some (A 3)) (zI p) (zI l) f (zI a) (zI r) (zI k) (mk A μ h) = some (zI (((ynest y (l - k) r)[m]?).elim (-4) (fun c => (c : Int))), mk A μ h)
  | m, k, 0, a, r, _, hf, _, _, _ => absurd hf (Nat.not_lt_zero _)
  | m, k, f + 1, a, r, hk, hf, r1, r2, hd => by
    have hn := O.n
    obtain ⟨d, d1, d2, d3⟩ := hd
    obtain ⟨c, e⟩ := yfind_some (r := r) d1 d2 d3
    obtain ⟨c1, c2, c3, c4⟩ := yfind_ok e
    have e' : ((List.range (yn y)).find? fun c => decide (ynl y c = (l : Int) - k ∧ yf y 0 c ≤ r)) = some c := by
      rw [← e]; unfold yfind
      rw [show ((l - k : Nat) : Int) = (l : Int) - k by omega]
    have elk : l - k = (l - k - 1) + 1 := by omega
    have en : ynest y (l - k) r = c :: ynest y (l - k - 1) (yf y 1 c) := by
      obtain ⟨q, hq⟩ : ∃ q, l - k = q + 1 := ⟨_, elk⟩
      rw [hq] at e
      rw [hq, ynest_cons e, Nat.add_sub_cancel]
    have rm := O.rm c1
    have sz := O.sz c1
    unfold mf_X2_nest_L29
    simp (disch := first | assumption | decide | omega | (simp only [aSz]; omega)) only [m_rc, m_gI, m_gR, zI_lit, zI_add, zI_sub, zI_mul, zI_neg, b2_0z, cl_some, M_n hA hY, M_of0 hA hY, M_of1 hA hY, M_of2 hA hY, M_of7 hA hY, M_of8 hA hY, M_ofL hA hY, zI_lt]
    rw [if_neg (by omega)]
    refine (M_nest_L49 hA O hY hN _ (zI p) ⟨by omega, by omega⟩ ⟨r1, r2⟩ ⟨by omega, by omega⟩ (yn y) xk_fu (-4) (Nat.le_refl _) (fu_lt (by omega))).trans ?_
    rw [e', en]
    simp (disch := first | assumption | decide | omega | (simp only [aSz]; omega)) only [m_rc, m_gI, m_gR, zI_lit, zI_add, zI_sub, zI_mul, zI_neg, b2_0z, cl_some, M_n hA hY, M_of0 hA hY, M_of1 hA hY, M_of2 hA hY, M_of7 hA hY, M_of8 hA hY, M_ofL hA hY, Option.elim_some]
    match m, hk, hf with
    | 0, hk, hf =>
      match f, hf with
      | f + 1, hf =>
        unfold mf_X2_nest_L29
        simp (disch := first | assumption | decide | omega | (simp only [aSz]; omega)) only [m_rc, m_gI, m_gR, zI_lit, zI_add, zI_sub, zI_mul, zI_neg, b2_0z, cl_some, M_n hA hY, M_of0 hA hY, M_of1 hA hY, M_of2 hA hY, M_of7 hA hY, M_of8 hA hY, M_ofL hA hY, zI_lt]
        rw [if_pos (by omega)]; rfl
    | m + 1, hk, hf =>
      have := M_nest_L29 hA O hY hN hp hl m (k + 1) f c (yf y 1 c) (by omega) (by omega) rm.1 (by omega) (by
        obtain ⟨e2, f1, f2, f3⟩ := ynl_next O c1 (by omega)
        unfold yedge at f2
        simp only [Bool.and_eq_true, decide_eq_true_eq] at f2
        exact ⟨e2, f1, by omega, f2.2⟩)
      rw [show l - k - 1 = l - (k + 1) by omega]
      exact this
theorem M_nest (hA : AOk A) (O : YOk y) {μ : MD} (hY : MY (μ.2 0) y) {p : Int} (p1 : -2147483648 ≤ p) (p2 : p ≤ 2147483647) : ∃ ν : MD, mOnly 18 μ ν ∧ mf_X2_nest (some (A 3)) (zI p) (mk A μ h) = some (zI (qnest y p), mk A ν h) := by
  have hn := O.n
  obtain ⟨l1, l2, l3⟩ := ylong_is O
  have ll := ynst_len O
  unfold mf_X2_nest qnest
  simp (disch := first | assumption | decide | omega | (simp only [aSz]; omega)) only [zI_lit, zI_le]
  by_cases q : 0 ≤ p
  · obtain ⟨p, rfl⟩ : ∃ d : Nat, p = d := ⟨p.toNat, by omega⟩
    obtain ⟨ν, a1, a2, a3⟩ := M_longestNest (h := h) hA O hY
    have hY2 : MY (ν.2 0) y := by rw [a1.2 0 (by decide)]; exact hY
    refine ⟨ν, a1, ?_⟩
    rw [if_pos q, if_pos q]
    simp (disch := first | assumption | decide | omega | (simp only [aSz]; omega)) only [m_rc, m_gI, m_gR, zI_lit, zI_add, zI_sub, zI_mul, zI_neg, b2_0z, cl_some, a3, zI_lt, Int.toNat_natCast]
    by_cases q2 : (p : Int) < ylong y
    · rw [if_pos q2]
      obtain ⟨l, el⟩ : ∃ l : Nat, ylong y = l := ⟨(ylong y).toNat, by omega⟩
      have := M_nest_L29 (h := h) hA O hY2 a2 (p := p) (l := l) (by omega) (by omega) p 0 xk_fu (-4) 60 (by omega) (fu_lt (by omega)) (by decide) (by decide) (by
        obtain ⟨d, hd, e⟩ := l3.resolve_left (by omega)
        exact ⟨d, hd, by omega, (O.sz hd).2⟩)
      rw [Nat.sub_zero] at this
      unfold ynst
      rw [el]
      exact this
    · rw [if_neg q2]
      have : (ynst y)[p]? = none := List.getElem?_eq_none (by omega)
      rw [this]; rfl
  · refine ⟨μ, mOnly.rf, ?_⟩
    rw [if_neg q, if_neg q, zI_neg]
/-! ## counts -/
/-- how many are on the ground, or loose -/
def yog (y : YD) (b : Bool) : Int := zs (fun c => if (if b = true then yloose y c else decide (yf y 3 c < 0)) = true then 1 else 0) 0 (yn y)
/-- the counts; s: states kept, t: length of the pad -/
def qcount (y : YD) (s t : Int) (w : Int) : Int :=
  if w = 0 then yn y else if w = 1 then yog y false else if w = 2 then yog y true else if w = 3 then zmx (fun k => ((ch y k).length : Int)) 0 (yn y) 0 else if w = 4 then ysum y 0 else if w = 5 then ysum y 8 else if w = 6 then ysum y 11 else if w = 7 then ysum y 3 else if w = 8 then ysum y 12 else if w = 9 then zs (fun c => if yfirst y c = true then 1 else 0) 0 (yn y) else if w = 10 then ylong y else if w = 11 then ysum y 10 else if w = 12 then yr y else if w = 13 then t else if w = 14 then s else -1
theorem M_count (hA : AOk A) (O : YOk y) {μ : MD} (hY : MY (μ.2 0) y) {w s t : Int} (hs : μ.1 3 = zI s) (ht : μ.1 7 = zI t) (w1 : -2147483648 ≤ w) (w2 : w ≤ 2147483647) : ∃ ν : MD, mOnly 18 μ ν ∧ mf_X2_count (some (A 3)) (zI w) (mk A μ h) = some (zI (qcount y s t w), mk A ν h) := by
  have hn := O.n
  by_cases q : w = 10
  · subst q
    obtain ⟨ν, a1, a2, a3⟩ := M_longestNest (h := h) hA O hY
    refine ⟨ν, a1, ?_⟩
    unfold mf_X2_count
    iterate 10 rw [if_neg (by decide)]
    rw [if_pos (by decide), m_rc, a3, cl_some]; rfl
  · refine ⟨μ, mOnly.rf, ?_⟩
    have gn : ∀ b, mf_X2_onGround (some (A 3)) (xk_b2 b) (mk A μ h) = some (zI (yog y b), mk A μ h) := fun b => M_onGround hA hY O b
    have g0 : mf_X2_onGround (some (A 3)) (zI 0) (mk A μ h) = some (zI (yog y false), mk A μ h) := gn false
    have g1 : mf_X2_onGround (some (A 3)) (zI 1) (mk A μ h) = some (zI (yog y true), mk A μ h) := gn true
    have sm : ∀ w : Int, -2147483648 ≤ w → w ≤ 2147483647 → mf_X2_sum (some (A 3)) (zI w) (mk A μ h) = some (zI (ysum y w), mk A μ h) := fun w a b => M_sum hA hY O a b
    have r1 : μ.2 0 (1 : Int).toNat = zI (yr y) := hY.2.1
    unfold mf_X2_count mf_X2_count_J94
    unfold qcount
    refine ite_q2 (lit_eq w1 w2 (by decide)) (fun e => ?_) fun _ => ite_q2 (lit_eq w1 w2 (by decide)) (fun e => ?_) fun _ => ite_q2 (lit_eq w1 w2 (by decide)) (fun e => ?_) fun _ => ite_q2 (lit_eq w1 w2 (by decide)) (fun e => ?_) fun _ => ite_q2 (lit_eq w1 w2 (by decide)) (fun e => ?_) fun _ => ite_q2 (lit_eq w1 w2 (by decide)) (fun e => ?_) fun _ => ite_q2 (lit_eq w1 w2 (by decide)) (fun e => ?_) fun _ => ite_q2 (lit_eq w1 w2 (by decide)) (fun e => ?_) fun _ => ite_q2 (lit_eq w1 w2 (by decide)) (fun e => ?_) fun _ => ite_q2 (lit_eq w1 w2 (by decide)) (fun e => ?_) fun _ => ite_q2 (lit_eq w1 w2 (by decide)) (fun e => ?_) fun _ => ite_q2 (lit_eq w1 w2 (by decide)) (fun e => ?_) fun _ => ite_q2 (lit_eq w1 w2 (by decide)) (fun e => ?_) fun _ => ite_q2 (lit_eq w1 w2 (by decide)) (fun e => ?_) fun _ => ite_q2 (lit_eq w1 w2 (by decide)) (fun e => ?_) fun _ => rfl
    all_goals subst e
    · simp (disch := first | assumption | decide | omega | (simp only [aSz]; omega)) only [m_rc, m_gI, m_gR, zI_lit, zI_add, zI_sub, zI_mul, zI_neg, b2_0z, cl_some, M_n hA hY, M_of0 hA hY, M_of1 hA hY, M_of2 hA hY, M_of7 hA hY, M_of8 hA hY, M_ofL hA hY]
    · rw [if_neg (by decide)]; simp (disch := first | assumption | decide | omega | (simp only [aSz]; omega)) only [m_rc, m_gI, m_gR, zI_lit, zI_add, zI_sub, zI_mul, zI_neg, b2_0z, cl_some, g0]
    · rw [if_pos (by decide)]; simp (disch := first | assumption | decide | omega | (simp only [aSz]; omega)) only [m_rc, m_gI, m_gR, zI_lit, zI_add, zI_sub, zI_mul, zI_neg, b2_0z, cl_some, g1]
    · simp (disch := first | assumption | decide | omega | (simp only [aSz]; omega)) only [m_rc, m_gI, m_gR, zI_lit, zI_add, zI_sub, zI_mul, zI_neg, b2_0z, cl_some, M_deepest hA hY O]
    · simp (disch := first | assumption | decide | omega | (simp only [aSz]; omega)) only [m_rc, m_gI, m_gR, zI_lit, zI_add, zI_sub, zI_mul, zI_neg, b2_0z, cl_some, sm]
    · simp (disch := first | assumption | decide | omega | (simp only [aSz]; omega)) only [m_rc, m_gI, m_gR, zI_lit, zI_add, zI_sub, zI_mul, zI_neg, b2_0z, cl_some, sm]
    · simp (disch := first | assumption | decide | omega | (simp only [aSz]; omega)) only [m_rc, m_gI, m_gR, zI_lit, zI_add, zI_sub, zI_mul, zI_neg, b2_0z, cl_some, sm]
    · simp (disch := first | assumption | decide | omega | (simp only [aSz]; omega)) only [m_rc, m_gI, m_gR, zI_lit, zI_add, zI_sub, zI_mul, zI_neg, b2_0z, cl_some, sm]
    · simp (disch := first | assumption | decide | omega | (simp only [aSz]; omega)) only [m_rc, m_gI, m_gR, zI_lit, zI_add, zI_sub, zI_mul, zI_neg, b2_0z, cl_some, sm]
    · simp (disch := first | assumption | decide | omega | (simp only [aSz]; omega)) only [m_rc, m_gI, m_gR, zI_lit, zI_add, zI_sub, zI_mul, zI_neg, b2_0z, cl_some, M_rowsSeen hA hY O]
    · exact absurd rfl q
    · simp (disch := first | assumption | decide | omega | (simp only [aSz]; omega)) only [m_rc, m_gI, m_gR, zI_lit, zI_add, zI_sub, zI_mul, zI_neg, b2_0z, cl_some, sm]
    · simp (disch := first | assumption | decide | omega | (simp only [aSz]; omega)) only [m_rc, m_gI, m_gR, zI_lit, zI_add, zI_sub, zI_mul, zI_neg, b2_0z, cl_some, m_lI hA, r1]
    · simp (disch := first | assumption | decide | omega | (simp only [aSz]; omega)) only [m_rc, m_gI, m_gR, zI_lit, zI_add, zI_sub, zI_mul, zI_neg, b2_0z, cl_some, ht]
    · simp (disch := first | assumption | decide | omega | (simp only [aSz]; omega)) only [m_rc, m_gI, m_gR, zI_lit, zI_add, zI_sub, zI_mul, zI_neg, b2_0z, cl_some, hs]
/-! ## the quotient -/
/-- what lies inside others -/
def yin (y : YD) : Int := zs (fun c => if 0 ≤ yf y 3 c then yf y 0 c else 0) 0 (yn y)
theorem zs_add {F G : Nat → Int} : ∀ (m k : Nat), zs (fun i => F i + G i) k m = zs F k m + zs G k m
  | 0, k => rfl
  | m + 1, k => by unfold zs; rw [zs_add m (k + 1)]; omega
theorem zs_zero : ∀ (m k : Nat), zs (fun _ => 0) k m = 0
  | 0, k => rfl
  | m + 1, k => by unfold zs; rw [zs_zero m (k + 1)]; rfl
theorem zs_swap (F : Nat → Nat → Int) (l n : Nat) : ∀ (m k : Nat), zs (fun c => zs (F c) l n) k m = zs (fun d => zs (fun c => F c d) k m) l n
  | 0, k => by
    rw [show (fun d => zs (fun c => F c d) k 0) = fun _ => 0 from rfl, zs_zero]; rfl
  | m + 1, k => by
    rw [show (fun d => zs (fun c => F c d) k (m + 1)) = fun d => F k d + zs (fun c => F c d) (k + 1) m from rfl, zs_add, ← zs_swap F l n m (k + 1)]; rfl
/-- only one of a stretch counts -/
theorem zs_one (a x : Int) : ∀ (m k : Nat), zs (fun c => if a = (c : Int) then x else 0) k m = if (k : Int) ≤ a ∧ a < k + m then x else 0
  | 0, k => by rw [if_neg (by omega)]; rfl
  | m + 1, k => by
    unfold zs
    rw [zs_one a x m (k + 1)]
    by_cases q : a = k
    · rw [if_pos q, if_neg (by omega), if_pos (by omega), Int.add_zero]
    · rw [if_neg q, Int.zero_add]
      by_cases q2 : (k : Int) ≤ a ∧ a < k + (m + 1 : Nat)
      · rw [if_pos (by omega), if_pos q2]
      · rw [if_neg (by omega), if_neg q2]
theorem yin_eq (O : YOk y) : ysum y 1 - ysum y 8 = yin y := by
  have e : zs (fun c => yS y (yp y c)) 0 (yn y) = yin y := by
    rw [zs_congr (G := fun c => zs (fun d => if yf y 3 d = (c : Int) then yf y 0 d else 0) 0 (yn y)) (yn y) 0 fun i _ hi => (pile_sum O (by omega)).symm, zs_swap]
    unfold yin
    refine zs_congr _ _ fun d _ hd => ?_
    have hH := O.ho (c := d) (by omega)
    rw [zs_one]
    by_cases q : 0 ≤ yf y 3 d
    · rw [if_pos q, if_pos (by omega)]
    · rw [if_neg q, if_neg (by omega)]
  have s : ysum y 1 = ysum y 8 + zs (fun c => yS y (yp y c)) 0 (yn y) := by
    unfold ysum
    rw [← zs_add]
    refine zs_congr _ _ fun d _ hd => ?_
    show yf y 1 d = ylf y d + yS y (yp y d)
    unfold ylf; omega
  omega
/-- what full answers: 0 without rooms, else the quotient -/
def qfull (i r : Int) (H : xk_H) : Option (UInt64 × xk_H) := if r = 0 then some (0, H) else xm_dd (FP.i2d (zI i)) (FP.i2d (zI r)) fun x => some (x, H)
theorem yrooms_bd (O : YOk y) : 0 ≤ ysum y 1 ∧ ysum y 1 ≤ 708 := by
  have hn := O.n
  have := zs_bd (F := fun k => qcr y k 1) (B := 59) (yn y) 0 fun i _ hi => by
    have := O.rm (c := i) (by omega)
    have := O.sz (c := i) (by omega)
    show 0 ≤ yf y 1 i ∧ yf y 1 i ≤ 59
    omega
  unfold ysum; omega
theorem M_full (hA : AOk A) (O : YOk y) {μ : MD} (hY : MY (μ.2 0) y) : mf_X2_full (some (A 3)) (mk A μ h) = qfull (yin y) (ysum y 1) (mk A μ h) := by
  have sm : ∀ w : Int, -2147483648 ≤ w → w ≤ 2147483647 → mf_X2_sum (some (A 3)) (zI w) (mk A μ h) = some (zI (ysum y w), mk A μ h) := fun w a b => M_sum hA hY O a b
  have hb := yrooms_bd O
  rw [← yin_eq O]
  unfold mf_X2_full qfull
  rw [m_rc]
  simp (disch := first | assumption | decide | omega | (simp only [aSz]; omega)) only [zI_lit, sm, cl_some, m_rc, zI_inj, zI_sub]
end
