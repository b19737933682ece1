/-! PURE LAW: the reference writes a crate's head -/
set_option maxRecDepth 10000
/-- L written from place n on -/
def wL (μ : MD) (n : Nat) (L : List Int) : MD := (fun k => if k = 15 then zI (n + L.length : Nat) else μ.1 k, fun r j => if r = 14 ∧ n ≤ j ∧ j < n + L.length then zI (L.getD (j - n) 0) else μ.2 r j)
section
variable {A : Nat → Nat} {h : xk_H} {y : YD} {μ : MD}
theorem wL_15 (n : Nat) (L : List Int) : (wL μ n L).1 15 = zI (n + L.length : Nat) := by
  unfold wL; simp only [if_pos]
theorem wL_1 {k : Nat} (n : Nat) (L : List Int) (hk : k ≠ 15) : (wL μ n L).1 k = μ.1 k := if_neg hk
theorem wL_2 {r : Nat} (n : Nat) (L : List Int) (hr : r ≠ 14) : (wL μ n L).2 r = μ.2 r := funext fun j => if_neg fun z => hr z.1
theorem wL_14 (n : Nat) (L : List Int) (j : Nat) : (wL μ n L).2 14 j = if n ≤ j ∧ j < n + L.length then zI (L.getD (j - n) 0) else μ.2 14 j := by
  show (if _ then _ else _) = _
  by_cases q : n ≤ j ∧ j < n + L.length
  · rw [if_pos q, if_pos ⟨rfl, q⟩]
  · rw [if_neg q, if_neg fun z => q z.2]
theorem wL_wL (n : Nat) (L K : List Int) : wL (wL μ n L) (n + L.length) K = wL μ n (L ++ K) := by
  refine Prod.ext (funext fun k => ?_) (funext fun r => funext fun j => ?_)
  · by_cases q : k = 15
    · subst q
      rw [wL_15, wL_15, List.length_append, Nat.add_assoc]
    · rw [wL_1 _ _ q, wL_1 _ _ q, wL_1 _ _ q]
  · by_cases q : r = 14
    · subst q
      rw [wL_14, wL_14, wL_14, List.length_append]
      by_cases q2 : n + L.length ≤ j ∧ j < n + L.length + K.length
      · rw [if_pos q2, if_pos (by omega)]
        congr 1
        rw [List.getD_eq_getElem?_getD, List.getD_eq_getElem?_getD, List.getElem?_append_right (by omega), Nat.sub_add_eq]
      · rw [if_neg q2]
        by_cases q3 : n ≤ j ∧ j < n + L.length
        · rw [if_pos q3, if_pos (by omega), List.getD_eq_getElem?_getD, List.getD_eq_getElem?_getD, List.getElem?_append_left (by omega)]
        · rw [if_neg q3, if_neg (by omega)]
    · rw [wL_2 _ _ q, wL_2 _ _ q, wL_2 _ _ q]
theorem wL_nil {n : Nat} (hn : μ.1 15 = zI n) : wL μ n [] = μ := by
  refine Prod.ext (funext fun k => ?_) (funext fun r => funext fun j => ?_)
  · by_cases q : k = 15
    · subst q; rw [wL_15]; exact hn.symm
    · rw [wL_1 _ _ q]
  · by_cases q : r = 14
    · subst q; rw [wL_14]; exact if_neg (by rw [List.length_nil]; omega)
    · rw [wL_2 _ _ q]
theorem M_writes (hA : AOk A) {n : Nat} (hn : μ.1 15 = zI n) (hl : n < 240) (x : Int) : mf_X2_writes (some (A 3)) (zI x) (mk A μ h) = some ((), mk A (wL μ n [x]) h) := by
  have e : uS (uA μ 14 n (zI x)) 15 (zI (n + 1)) = wL μ n [x] := by
    refine Prod.ext (funext fun k => ?_) (funext fun r => funext fun j => ?_)
    · by_cases q : k = 15
      · subst q; rw [wL_15, uS_at]; rfl
      · rw [wL_1 _ _ q, uS_ne q]; rfl
    · by_cases q : r = 14
      · subst q
        rw [wL_14, uS_2, uA_at]
        by_cases q2 : j = n
        · subst q2
          rw [if_pos (by rw [List.length_singleton]; omega), Nat.sub_self]
          exact if_pos rfl
        · rw [if_neg (by rw [List.length_singleton]; omega)]
          exact if_neg q2
      · rw [wL_2 _ _ q, uS_2, uA_ne _ _ q]
  have e2 : (uA μ 14 n (zI x)).1 15 = zI n := hn
  unfold mf_X2_writes
  simp (disch := first | assumption | decide | omega | (simp only [aSz]; omega)) only [m_rc, m_gI, m_gR, zI_lit, zI_add, zI_sub, zI_mul, zI_neg, b2_0z, cl_some, hn, m_sV hA, Int.toNat_natCast, e2, m_pV hA, e]
theorem M_writes2 (hA : AOk A) {n : Nat} (L : List Int) (hl : n + L.length < 240) (x : Int) : mf_X2_writes (some (A 3)) (zI x) (mk A (wL μ n L) h) = some ((), mk A (wL μ n (L ++ [x])) h) := by
  rw [M_writes hA (wL_15 n L) hl, wL_wL]
theorem zI_rem10 {a : Int} : zI a - zI (a / 10) * zI 10 = zI (a % 10) := by
  rw [zI_mul, zI_sub]
  congr 1; omega
theorem M_writesNumber (hA : AOk A) {n : Nat} (L : List Int) (hl : n + L.length + 3 < 240) (x : Int) {v : Int} (v0 : 0 ≤ v) (v1 : v ≤ 99) : mf_X2_writesNumber (some (A 3)) (zI x) (zI v) (mk A (wL μ n L) h) = some ((), mk A (wL μ n (L ++ (x :: ydg v))) h) := by
  have l1 : (L ++ [x]).length = L.length + 1 := by rw [List.length_append]; rfl
  have l2 : (L ++ [x] ++ [48 + v / 10]).length = L.length + 2 := by rw [List.length_append, l1]; rfl
  have w1 := M_writes2 (h := h) (μ := μ) hA (n := n) L (by omega) x
  unfold mf_X2_writesNumber mf_X2_writesNumber_J22 ydg
  simp (disch := first | assumption | decide | omega | (simp only [aSz]; omega)) only [m_rc, cl_some, zI_lit, w1, zI_le, zI_div, zI_rem10, zI_add]
  by_cases q : v ≤ 9
  · rw [if_pos q, if_neg (by omega), M_writes2 hA _ (by omega), cl_some, List.append_assoc]; rfl
  · rw [if_neg q, if_pos (by omega), M_writes2 hA _ (by omega), cl_some, m_rc, M_writes2 hA _ (by omega), cl_some, List.append_assoc, List.append_assoc]; rfl
theorem M_writesHead_L2 (hA : AOk A) (hY : MY (μ.2 0) y) (O : YOk y) {c : Nat} (hc : c < yn y) {n : Nat} (hl : n + 4 < 240) (kx : xk_H → Option (Bool × xk_H)) : ∀ (m k f : Nat), k + m = (yl y c).length → m < f → mf_X2_writesHead_L2 kx (some (A 3)) (zI c) f (zI k) (mk A (wL μ n (((yl y c).take k).map (65 + ·))) h) = kx (mk A (wL μ n ((yl y c).map (65 + ·))) h)
  | m, k, 0, _, hf => absurd hf (Nat.not_lt_zero _)
  | 0, k, f + 1, hk, hf => by
    have ll := O.ll hc
    have hY2 : MY ((wL μ n (((yl y c).take k).map (65 + ·))).2 0) y := by rw [wL_2 _ _ (by decide)]; exact hY
    unfold mf_X2_writesHead_L2
    simp (disch := first | assumption | decide | omega | (simp only [aSz]; omega)) only [m_rc, m_gI, m_gR, zI_lit, zI_add, zI_sub, zI_mul, zI_neg, b2_0z, cl_some, M_letters hA hY2 O, zI_le]
    rw [if_pos (by omega), List.take_of_length_le (by omega)]
  | m + 1, k, f + 1, hk, hf => by
    have hn := O.n
    have ll := O.ll hc
    have hY2 : MY ((wL μ n (((yl y c).take k).map (65 + ·))).2 0) y := by rw [wL_2 _ _ (by decide)]; exact hY
    have ih := M_writesHead_L2 hA hY O hc hl kx m (k + 1) f (by omega) (by omega)
    obtain ⟨x, ex⟩ : ∃ x, (yl y c)[k]? = some x := ⟨_, List.getElem?_eq_getElem (by omega)⟩
    have lk : ylt y c k = x + 1 := ylt_in ex
    have len : (((yl y c).take k).map (65 + ·)).length = k := by rw [List.length_map, List.length_take]; omega
    have w1 := M_writes2 (h := h) (μ := μ) hA (n := n) (((yl y c).take k).map (65 + ·)) (by omega) (65 + x)
    have tk : (yl y c).take (k + 1) = (yl y c).take k ++ [x] := by rw [List.take_add_one, ex]; rfl
    rw [tk, List.map_append] at ih
    unfold mf_X2_writesHead_L2
    simp (disch := first | assumption | decide | omega | (simp only [aSz]; omega)) only [m_rc, m_gI, m_gR, zI_lit, zI_add, zI_sub, zI_mul, zI_neg, b2_0z, cl_some, M_letters hA hY2 O, zI_le, M_ofL hA hY2, lk]
    rw [if_neg (by omega), show (65 : Int) + (x + 1) - 1 = 65 + x by omega, w1, cl_some]
    exact ih
/-- the head and what begins its pile -/
def yhb (y : YD) (c : Nat) : List Int := yhd y c ++ if (yp y c).length = 0 then [] else [91]
theorem M_writesHead (hA : AOk A) (hY : MY (μ.2 0) y) (O : YOk y) {c : Nat} (hc : c < yn y) {n : Nat} (h15 : μ.1 15 = zI n) (hl : n + (yhb y c).length ≤ 230) : mf_X2_writesHead (some (A 3)) (zI c) (mk A μ h) = some (decide ((yp y c).length ≠ 0), mk A (wL μ n (yhb y c)) h) := by
  have hn := O.n
  have sz := O.sz hc
  have rm := O.rm hc
  have gp := O.gp hc
  have ll := O.ll hc
  have pl := ypl_len O hc
  have hY2 : ∀ L, MY ((wL μ n L).2 0) y := fun L => by rw [wL_2 _ _ (by decide)]; exact hY
  have d : ∀ v : Int, 1 ≤ (ydg v).length ∧ (ydg v).length ≤ 2 := by
    intro v; unfold ydg; split <;> simp
  have d0 := d (yf y 0 c); have d1 := d (yf y 1 c); have d2 := d (yf y 2 c)
  have hb : (yhb y c).length ≥ (yhd y c).length := by unfold yhb; rw [List.length_append]; omega
  have hd : (yhd y c).length = (yl y c).length + ((ydg (yf y 0 c)).length + 1) + ((ydg (yf y 1 c)).length + 1) + ((ydg (yf y 2 c)).length + 1) := by
    unfold yhd; simp only [List.length_append, List.length_map, List.length_cons]
  have e1 : ((yl y c).map (65 + ·)).length = (yl y c).length := List.length_map ..
  have a1 := M_writesNumber (h := h) (μ := μ) hA (n := n) ((yl y c).map (65 + ·)) (by omega) 115 (v := yf y 0 c) (by omega) (by omega)
  have e2 : ((yl y c).map (65 + ·) ++ (115 :: ydg (yf y 0 c))).length = (yl y c).length + ((ydg (yf y 0 c)).length + 1) := by rw [List.length_append, e1, List.length_cons]
  have a2 := M_writesNumber (h := h) (μ := μ) hA (n := n) ((yl y c).map (65 + ·) ++ (115 :: ydg (yf y 0 c))) (by omega) 114 (v := yf y 1 c) (by omega) (by omega)
  have e3 : ((yl y c).map (65 + ·) ++ (115 :: ydg (yf y 0 c)) ++ (114 :: ydg (yf y 1 c))).length = (yl y c).length + ((ydg (yf y 0 c)).length + 1) + ((ydg (yf y 1 c)).length + 1) := by rw [List.length_append, e2, List.length_cons]
  have a3 := M_writesNumber (h := h) (μ := μ) hA (n := n) ((yl y c).map (65 + ·) ++ (115 :: ydg (yf y 0 c)) ++ (114 :: ydg (yf y 1 c))) (by omega) 103 (v := yf y 2 c) (by omega) (by omega)
  have lo := fun kx => M_writesHead_L2 (h := h) hA hY O hc (n := n) (by omega) kx (yl y c).length 0 xk_fu (by omega) (fu_lt (by omega))
  rw [List.take_zero, List.map_nil, wL_nil h15] at lo
  have lo : ∀ kx, mf_X2_writesHead_L2 kx (some (A 3)) (zI c) xk_fu (zI 0) (mk A μ h) = kx (mk A (wL μ n ((yl y c).map (65 + ·))) h) := lo
  unfold mf_X2_writesHead mf_X2_writesHead_J84
  simp only [zI_lit]
  rw [lo]
  simp (disch := first | assumption | decide | omega | (simp only [aSz]; omega)) only [m_rc, cl_some, M_of0 hA (hY2 _), M_of1 hA (hY2 _), M_of2 hA (hY2 _), a1, a2, a3, M_pile hA (hY2 _) O, zI_le]
  unfold yhb
  by_cases q : (yp y c).length = 0
  · rw [if_pos (by omega), if_pos (by omega), if_pos q, List.append_nil, decide_eq_false (not_not_intro q)]; rfl
  · have w := M_writes2 (h := h) (μ := μ) hA (n := n) (yhd y c) (by omega) 91
    rw [if_neg (by omega), if_neg q, show (yl y c).map (65 + ·) ++ (115 :: ydg (yf y 0 c)) ++ (114 :: ydg (yf y 1 c)) ++ (103 :: ydg (yf y 2 c)) = yhd y c from rfl, w]
    simp (disch := first | assumption | decide | omega | (simp only [aSz]; omega)) only [m_rc, cl_some, M_pile hA (hY2 _) O, zI_le]
    rw [if_neg (by omega), show decide ((yp y c).length ≠ 0) = true from decide_eq_true q]
end
