/-! PURE LAW: what the reference's questions answer, of the yard that its row stands for -/
set_option maxRecDepth 10000
/-- a letter as the row keeps it -/
def ylt (y : YD) (c p : Nat) : Int := ((yl y c)[p]?).elim 0 (· + 1)
/-- the row s stands for the yard y -/
def MY (s : Nat → Int32) (y : YD) : Prop := s 0 = zI (yn y) ∧ s 1 = zI (yr y) ∧ ∀ c, c < yn y → s (2 + 9 * c) = zI (yf y 0 c) ∧ s (2 + 9 * c + 1) = zI (yf y 1 c) ∧ s (2 + 9 * c + 2) = zI (yf y 2 c) ∧ (∀ p, p < 4 → s (2 + 9 * c + 3 + p) = zI (ylt y c p)) ∧ s (2 + 9 * c + 7) = zI (yf y 3 c + 1) ∧ s (2 + 9 * c + 8) = zI (ypl y c)
/-- sums over a stretch of numbers -/
def zs (F : Nat → Int) : Nat → Nat → Int
  | _, 0 => 0
  | k, m + 1 => F k + zs F (k + 1) m
theorem zs_eq (F : Nat → Int) : ∀ (m k : Nat), zs F k m = ((List.range' k m).map F).sum
  | 0, k => rfl
  | m + 1, k => by
    rw [List.range'_succ, List.map_cons, List.sum_cons, ← zs_eq F m (k + 1)]; rfl
theorem zs_congr {F G : Nat → Int} : ∀ (m k : Nat), (∀ i, k ≤ i → i < k + m → F i = G i) → zs F k m = zs G k m
  | 0, k, _ => rfl
  | m + 1, k, h => by
    unfold zs
    rw [h k (by omega) (by omega), zs_congr m (k + 1) fun i a b => h i (by omega) (by omega)]
theorem perm_sum {l k : List Int} (h : l.Perm k) : l.sum = k.sum := by
  induction h with
  | nil => rfl
  | cons x _ ih => simp only [List.sum_cons, ih]
  | swap x z l => simp only [List.sum_cons]; omega
  | trans _ _ a b => exact a.trans b
theorem zs_filter (p : Nat → Bool) (F : Nat → Int) (m k : Nat) : zs (fun d => if p d = true then F d else 0) k m = (((List.range' k m).filter p).map F).sum := by
  rw [zs_eq]
  induction (List.range' k m) with
  | nil => rfl
  | cons d l ih =>
    rw [List.map_cons, List.sum_cons, ih]
    by_cases e : p d = true
    · rw [if_pos e, List.filter_cons_of_pos e]; rfl
    · rw [if_neg e, List.filter_cons_of_neg e]; simp
theorem sum_ones {α : Type} (l : List α) : (l.map fun _ => (1 : Int)).sum = l.length := by
  induction l with
  | nil => rfl
  | cons a l ih => rw [List.map_cons, List.sum_cons, ih, List.length_cons]; omega
theorem pile_count {y : YD} (O : YOk y) {c : Nat} (h : c < yn y) : zs (fun d => if yf y 3 d = (c : Int) then 1 else 0) 0 (yn y) = (yp y c).length := by
  have e := zs_filter (fun d => decide (yf y 3 d = (c : Int))) (fun _ => 1) (yn y) 0
  simp only [decide_eq_true_iff] at e
  rw [e, sum_ones, (pile_perm O h).length_eq]
  unfold ys
  rw [List.range_eq_range']
theorem pile_sum {y : YD} (O : YOk y) {c : Nat} (h : c < yn y) : zs (fun d => if yf y 3 d = (c : Int) then yf y 0 d else 0) 0 (yn y) = yS y (yp y c) := by
  have e := zs_filter (fun d => decide (yf y 3 d = (c : Int))) (yf y 0) (yn y) 0
  simp only [decide_eq_true_iff] at e
  rw [e, ← List.range_eq_range']
  exact (perm_sum ((pile_perm O h).map _)).symm
theorem fu_lt {n : Nat} (h : n < 1000) : n < xk_fu := h
section
variable {A : Nat → Nat} {μ : MD} {h : xk_H} {y : YD}
theorem M_of (hA : AOk A) {c w : Nat} (hc : 2 + 9 * c + w < 110) : mf_X2_of (some (A 3)) (zI c) (zI w) (mk A μ h) = some (μ.2 0 (2 + 9 * c + w), mk A μ h) := by
  unfold mf_X2_of
  simp (disch := first | assumption | decide | omega | (simp only [aSz]; omega)) only [m_rc, m_gI, m_gR, zI_lit, zI_add, zI_sub, zI_mul, zI_neg, b2_0z, cl_some, m_lI hA]
  rw [show (2 + 9 * (c : Int) + w).toNat = 2 + 9 * c + w by omega]
theorem M_n (hA : AOk A) (hY : MY (μ.2 0) y) {γ : Type} {κ : Int32 → Option γ} : xm_lI [100] (some (A 0)) (zI 0) (mk A μ h) κ = κ (zI (yn y)) := by
  rw [m_lI hA (by decide) (by decide) (by decide) (by decide)]
  exact congrArg κ hY.1
theorem M_of0 (hA : AOk A) (hY : MY (μ.2 0) y) {c : Nat} (hc : c < yn y) (hn : yn y ≤ 12) : mf_X2_of (some (A 3)) (zI c) (zI 0) (mk A μ h) = some (zI (yf y 0 c), mk A μ h) := by
  have := M_of (μ := μ) (h := h) hA (c := c) (w := 0) (by omega)
  rw [Nat.add_zero, (hY.2.2 c hc).1] at this; exact this
theorem M_of1 (hA : AOk A) (hY : MY (μ.2 0) y) {c : Nat} (hc : c < yn y) (hn : yn y ≤ 12) : mf_X2_of (some (A 3)) (zI c) (zI 1) (mk A μ h) = some (zI (yf y 1 c), mk A μ h) := by
  have := M_of (μ := μ) (h := h) hA (c := c) (w := 1) (by omega)
  rw [(hY.2.2 c hc).2.1] at this; exact this
theorem M_of2 (hA : AOk A) (hY : MY (μ.2 0) y) {c : Nat} (hc : c < yn y) (hn : yn y ≤ 12) : mf_X2_of (some (A 3)) (zI c) (zI 2) (mk A μ h) = some (zI (yf y 2 c), mk A μ h) := by
  have := M_of (μ := μ) (h := h) hA (c := c) (w := 2) (by omega)
  rw [(hY.2.2 c hc).2.2.1] at this; exact this
theorem M_of7 (hA : AOk A) (hY : MY (μ.2 0) y) {c : Nat} (hc : c < yn y) (hn : yn y ≤ 12) : mf_X2_of (some (A 3)) (zI c) (zI 7) (mk A μ h) = some (zI (yf y 3 c + 1), mk A μ h) := by
  have := M_of (μ := μ) (h := h) hA (c := c) (w := 7) (by omega)
  rw [(hY.2.2 c hc).2.2.2.2.1] at this; exact this
theorem M_of8 (hA : AOk A) (hY : MY (μ.2 0) y) {c : Nat} (hc : c < yn y) (hn : yn y ≤ 12) : mf_X2_of (some (A 3)) (zI c) (zI 8) (mk A μ h) = some (zI (ypl y c), mk A μ h) := by
  have := M_of (μ := μ) (h := h) hA (c := c) (w := 8) (by omega)
  rw [(hY.2.2 c hc).2.2.2.2.2] at this; exact this
theorem M_ofL (hA : AOk A) (hY : MY (μ.2 0) y) {c p : Nat} (hc : c < yn y) (hn : yn y ≤ 12) (hp : p < 4) : mf_X2_of (some (A 3)) (zI c) (zI (3 + p)) (mk A μ h) = some (zI (ylt y c p), mk A μ h) := by
  have := M_of (μ := μ) (h := h) hA (c := c) (w := 3 + p) (by omega)
  rw [← Nat.add_assoc, (hY.2.2 c hc).2.2.2.1 p hp] at this; exact this
theorem M_around (hA : AOk A) (hY : MY (μ.2 0) y) {c : Nat} (hc : c < yn y) (hn : yn y ≤ 12) : mf_X2_around (some (A 3)) (zI c) (mk A μ h) = some (zI (yf y 3 c), mk A μ h) := by
  unfold mf_X2_around
  simp (disch := first | assumption | decide | omega | (simp only [aSz]; omega)) only [m_rc, m_gI, m_gR, zI_lit, zI_add, zI_sub, zI_mul, zI_neg, b2_0z, cl_some, M_n hA hY, M_of0 hA hY, M_of1 hA hY, M_of2 hA hY, M_of7 hA hY, M_of8 hA hY, M_ofL hA hY]
  rw [Int.add_sub_cancel]
theorem M_isCrate (hA : AOk A) (hY : MY (μ.2 0) y) (O : YOk y) {c : Int} (b1 : -2147483648 ≤ c) (b2 : c ≤ 2147483647) : mf_X2_isCrate (some (A 3)) (zI c) (mk A μ h) = some (decide (0 ≤ c ∧ c < yn y), mk A μ h) := by
  have hn := O.n
  unfold mf_X2_isCrate mf_X2_in
  simp (disch := first | assumption | decide | omega | (simp only [aSz]; omega)) only [m_rc, m_gI, m_gR, zI_lit, zI_add, zI_sub, zI_mul, zI_neg, b2_0z, cl_some, M_n hA hY, M_of0 hA hY, M_of1 hA hY, M_of2 hA hY, M_of7 hA hY, M_of8 hA hY, M_ofL hA hY, zI_lt]
  by_cases q : c < 0
  · rw [if_pos q, decide_eq_false (by omega)]; rfl
  · rw [if_neg q]
    by_cases q2 : (yn y : Int) - 1 < c
    · rw [if_pos q2, decide_eq_false (by omega)]; rfl
    · rw [if_neg q2, decide_eq_true (by omega)]; rfl
theorem M_pile_L4 (hA : AOk A) (hY : MY (μ.2 0) y) (O : YOk y) {c : Nat} (hc : c < yn y) : ∀ (m k f : Nat) (a : Int), k + m = yn y → m < f → mf_X2_pile_L4 (some (A 3)) (zI c) f (zI a) (zI k) (mk A μ h) = some (zI (a + zs (fun d => if yf y 3 d = (c : Int) then 1 else 0) k m), mk A μ h)
  | m, k, 0, a, _, hf => absurd hf (Nat.not_lt_zero _)
  | 0, k, f + 1, a, hk, hf => by
    have hn := O.n
    unfold mf_X2_pile_L4 zs
    simp (disch := first | assumption | decide | omega | (simp only [aSz]; omega)) only [m_rc, m_gI, m_gR, zI_lit, zI_add, zI_sub, zI_mul, zI_neg, b2_0z, cl_some, M_n hA hY, M_of0 hA hY, M_of1 hA hY, M_of2 hA hY, M_of7 hA hY, M_of8 hA hY, M_ofL hA hY, M_around hA hY, zI_le, zI_lt, zI_inj]
    rw [if_pos (by omega), Int.add_zero]
  | m + 1, k, f + 1, a, hk, hf => by
    have hn := O.n
    have hH := O.ho (c := k) (by omega)
    unfold mf_X2_pile_L4 zs
    simp (disch := first | assumption | decide | omega | (simp only [aSz]; omega)) only [m_rc, m_gI, m_gR, zI_lit, zI_add, zI_sub, zI_mul, zI_neg, b2_0z, cl_some, M_n hA hY, M_of0 hA hY, M_of1 hA hY, M_of2 hA hY, M_of7 hA hY, M_of8 hA hY, M_ofL hA hY, M_around hA hY, zI_le, zI_lt, zI_inj]
    rw [if_neg (by omega)]
    have ih := fun b => M_pile_L4 hA hY O hc m (k + 1) f b (by omega) (by omega)
    by_cases q : yf y 3 k = (c : Int)
    · rw [if_pos q, if_pos q, ← Int.add_assoc]; exact ih _
    · rw [if_neg q, if_neg q, ← Int.add_assoc]; exact ih _
theorem M_pile (hA : AOk A) (hY : MY (μ.2 0) y) (O : YOk y) {c : Nat} (hc : c < yn y) : mf_X2_pile (some (A 3)) (zI c) (mk A μ h) = some (zI (yp y c).length, mk A μ h) := by
  have hn := O.n
  have := M_pile_L4 (h := h) hA hY O hc (yn y) 0 xk_fu 0 (by omega) (fu_lt (by omega))
  rw [pile_count O hc, Int.zero_add] at this; exact this
theorem M_roomLeft_L9 (hA : AOk A) (hY : MY (μ.2 0) y) (O : YOk y) {c : Nat} (hc : c < yn y) : ∀ (m k f : Nat) (a : Int), k + m = yn y → m < f → mf_X2_roomLeft_L9 (some (A 3)) (zI c) f (zI a) (zI k) (mk A μ h) = some (zI (a - zs (fun d => if yf y 3 d = (c : Int) then yf y 0 d else 0) k m), mk A μ h)
  | m, k, 0, a, _, hf => absurd hf (Nat.not_lt_zero _)
  | 0, k, f + 1, a, hk, hf => by
    have hn := O.n
    unfold mf_X2_roomLeft_L9 zs
    simp (disch := first | assumption | decide | omega | (simp only [aSz]; omega)) only [m_rc, m_gI, m_gR, zI_lit, zI_add, zI_sub, zI_mul, zI_neg, b2_0z, cl_some, M_n hA hY, M_of0 hA hY, M_of1 hA hY, M_of2 hA hY, M_of7 hA hY, M_of8 hA hY, M_ofL hA hY, M_around hA hY, zI_le, zI_lt, zI_inj]
    rw [if_pos (by omega), Int.sub_zero]
  | m + 1, k, f + 1, a, hk, hf => by
    have hn := O.n
    have hH := O.ho (c := k) (by omega)
    unfold mf_X2_roomLeft_L9 zs
    simp (disch := first | assumption | decide | omega | (simp only [aSz]; omega)) only [m_rc, m_gI, m_gR, zI_lit, zI_add, zI_sub, zI_mul, zI_neg, b2_0z, cl_some, M_n hA hY, M_of0 hA hY, M_of1 hA hY, M_of2 hA hY, M_of7 hA hY, M_of8 hA hY, M_ofL hA hY, M_around hA hY, zI_le, zI_lt, zI_inj]
    rw [if_neg (by omega)]
    have ih := fun b => M_roomLeft_L9 hA hY O hc m (k + 1) f b (by omega) (by omega)
    by_cases q : yf y 3 k = (c : Int)
    · rw [if_pos q, if_pos q, ← Int.sub_sub]; exact ih _
    · rw [if_neg q, if_neg q, ← Int.sub_sub]; exact ih _
theorem M_roomLeft (hA : AOk A) (hY : MY (μ.2 0) y) (O : YOk y) {c : Nat} (hc : c < yn y) : mf_X2_roomLeft (some (A 3)) (zI c) (mk A μ h) = some (zI (ylf y c), mk A μ h) := by
  have hn := O.n
  unfold mf_X2_roomLeft ylf
  simp (disch := first | assumption | decide | omega | (simp only [aSz]; omega)) only [m_rc, m_gI, m_gR, zI_lit, zI_add, zI_sub, zI_mul, zI_neg, b2_0z, cl_some, M_n hA hY, M_of0 hA hY, M_of1 hA hY, M_of2 hA hY, M_of7 hA hY, M_of8 hA hY, M_ofL hA hY, M_around hA hY, zI_le, zI_lt, zI_inj]
  have := M_roomLeft_L9 (h := h) hA hY O hc (yn y) 0 xk_fu (yf y 1 c) (by omega) (fu_lt (by omega))
  rw [pile_sum O hc] at this
  exact this
theorem M_depthOf_L8 (hA : AOk A) (hY : MY (μ.2 0) y) (O : YOk y) : ∀ (l : List Nat) (a k : Int) (f : Nat), isCh y a l → l.length < f → mf_X2_depthOf_L8 (some (A 3)) f (zI k) (zI a) (mk A μ h) = some (zI (k + l.length), mk A μ h)
  | l, a, k, 0, _, hf => absurd hf (Nat.not_lt_zero _)
  | [], a, k, f + 1, hc, hf => by
    have e : a = -1 := hc
    subst e
    unfold mf_X2_depthOf_L8
    simp (disch := first | assumption | decide | omega | (simp only [aSz]; omega)) only [m_rc, m_gI, m_gR, zI_lit, zI_add, zI_sub, zI_mul, zI_neg, b2_0z, cl_some, M_n hA hY, M_of0 hA hY, M_of1 hA hY, M_of2 hA hY, M_of7 hA hY, M_of8 hA hY, M_ofL hA hY, M_around hA hY, zI_le, zI_lt, zI_inj]
    rw [if_pos (by decide)]; simp
  | d :: l, a, k, f + 1, hc, hf => by
    obtain ⟨rfl, hd, hl⟩ := hc
    have hn := O.n
    unfold mf_X2_depthOf_L8
    simp (disch := first | assumption | decide | omega | (simp only [aSz]; omega)) only [m_rc, m_gI, m_gR, zI_lit, zI_add, zI_sub, zI_mul, zI_neg, b2_0z, cl_some, M_n hA hY, M_of0 hA hY, M_of1 hA hY, M_of2 hA hY, M_of7 hA hY, M_of8 hA hY, M_ofL hA hY, M_around hA hY, zI_le, zI_lt, zI_inj]
    rw [if_neg (by omega), M_depthOf_L8 hA hY O l _ _ f hl (by simpa using hf), List.length_cons]
    congr 3; omega
theorem M_depthOf (hA : AOk A) (hY : MY (μ.2 0) y) (O : YOk y) {c : Nat} (hc : c < yn y) : mf_X2_depthOf (some (A 3)) (zI c) (mk A μ h) = some (zI (ch y c).length, mk A μ h) := by
  have hn := O.n
  have hl := ch_len11 O hc
  unfold mf_X2_depthOf
  simp (disch := first | assumption | decide | omega | (simp only [aSz]; omega)) only [m_rc, m_gI, m_gR, zI_lit, zI_add, zI_sub, zI_mul, zI_neg, b2_0z, cl_some, M_n hA hY, M_of0 hA hY, M_of1 hA hY, M_of2 hA hY, M_of7 hA hY, M_of8 hA hY, M_ofL hA hY, M_around hA hY, zI_le, zI_lt, zI_inj]
  rw [M_depthOf_L8 hA hY O (ch y c) _ _ _ (ch_ok O hc) (fu_lt (by omega)), Int.zero_add]
theorem M_holds_L2 (hA : AOk A) (hY : MY (μ.2 0) y) (O : YOk y) (c : Nat) (hc : c < yn y) : ∀ (l : List Nat) (a : Int) (f : Nat), isCh y a l → l.length < f → mf_X2_holds_L2 (fun m3 h4 => mf_X2_holds_J20 (zI c) m3 h4) (some (A 3)) (zI c) f (zI a) (mk A μ h) = some (l.contains c, mk A μ h)
  | l, a, 0, _, hf => absurd hf (Nat.not_lt_zero _)
  | [], a, f + 1, hl, hf => by
    have e : a = -1 := hl
    subst e
    have hn := O.n
    unfold mf_X2_holds_L2 mf_X2_holds_J20
    simp (disch := first | assumption | decide | omega | (simp only [aSz]; omega)) only [m_rc, m_gI, m_gR, zI_lit, zI_add, zI_sub, zI_mul, zI_neg, b2_0z, cl_some, M_n hA hY, M_of0 hA hY, M_of1 hA hY, M_of2 hA hY, M_of7 hA hY, M_of8 hA hY, M_ofL hA hY, M_around hA hY, zI_le, zI_lt, zI_inj]
    rw [if_pos (by decide), if_neg (by omega)]; rfl
  | d :: l, a, f + 1, hl, hf => by
    obtain ⟨rfl, hd, hl⟩ := hl
    have hn := O.n
    unfold mf_X2_holds_L2 mf_X2_holds_J20
    simp (disch := first | assumption | decide | omega | (simp only [aSz]; omega)) only [m_rc, m_gI, m_gR, zI_lit, zI_add, zI_sub, zI_mul, zI_neg, b2_0z, cl_some, M_n hA hY, M_of0 hA hY, M_of1 hA hY, M_of2 hA hY, M_of7 hA hY, M_of8 hA hY, M_ofL hA hY, M_around hA hY, zI_le, zI_lt, zI_inj]
    rw [if_neg (by omega), List.contains_cons]
    by_cases q : (d : Int) = c
    · have q2 : (c == d) = true := by simp; omega
      rw [if_pos q, if_pos q, q2]; rfl
    · have q2 : (c == d) = false := by simp; omega
      rw [if_neg q, q2, Bool.false_or]
      exact M_holds_L2 hA hY O c hc l _ f hl (by simpa using hf)
theorem M_holds (hA : AOk A) (hY : MY (μ.2 0) y) (O : YOk y) {c d : Nat} (hc : c < yn y) (hd : d < yn y) : mf_X2_holds (some (A 3)) (zI c) (zI d) (mk A μ h) = some ((d :: ch y d).contains c, mk A μ h) := by
  have hl := ch_len11 O hd
  have hf : (d :: ch y d).length < xk_fu := by unfold xk_fu; rw [List.length_cons]; omega
  unfold mf_X2_holds
  exact M_holds_L2 hA hY O c hc (d :: ch y d) _ _ ⟨rfl, hd, ch_ok O hd⟩ hf
end
