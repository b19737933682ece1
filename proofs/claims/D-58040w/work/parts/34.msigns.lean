/-! PURE LAW: the reference's questions, second half: tops, signs, efforts -/
set_option maxRecDepth 10000
theorem gapbit {g : Int} {p : Nat} (h0 : 0 ≤ g) (h1 : g ≤ 15) (h2 : p < 4) : ((zI g >>> (zI p &&& zI 31)) &&& zI 1 = zI 1) = (g / 2 ^ p % 2 = 1) := by
  have key : ∀ g : Fin 16, ∀ p : Fin 4, ((zI ((g.val : Nat) : Int) >>> (zI ((p.val : Nat) : Int) &&& zI 31)) &&& zI 1 = zI 1) ↔ (((g.val : Nat) : Int) / 2 ^ p.val % 2 = 1) := by decide +kernel
  have := key ⟨g.toNat, by omega⟩ ⟨p, h2⟩
  simp only [Int.toNat_of_nonneg h0] at this
  exact propext this
theorem place_lt {y : YD} (O : YOk y) {c d : Nat} (hc : c < yn y) (hd : d < yn y) (e : yf y 3 c = d) : ypl y c < (yp y d).length := by
  unfold ypl
  rw [if_neg (by omega), e]
  exact List.idxOf_lt_length_of_mem ((O.pm hd c).2 ⟨hc, e⟩)
theorem place_in {y : YD} {c d : Nat} (e : yf y 3 c = d) : ypl y c = (yp y d).idxOf c := by
  unfold ypl
  rw [if_neg (by omega), e]; rfl
theorem above_in {y : YD} {c d : Nat} (e : yf y 3 c = d) : yab y c = (yp y d).length - 1 - ypl y c := by
  unfold yab
  rw [if_neg (by omega), e]; rfl
theorem above_ground {y : YD} {c : Nat} (e : yf y 3 c = -1) : yab y c = 0 := by
  unfold yab
  rw [if_pos (by omega)]
theorem place_ground {y : YD} {c : Nat} (e : yf y 3 c = -1) : ypl y c = 0 := by
  unfold ypl
  rw [if_pos (by omega)]
theorem ylt_in {y : YD} {c p : Nat} {x : Int} (e : (yl y c)[p]? = some x) : ylt y c p = x + 1 := by unfold ylt; rw [e]; rfl
theorem ylt_out {y : YD} {c p : Nat} (e : (yl y c)[p]? = none) : ylt y c p = 0 := by unfold ylt; rw [e]; rfl
theorem ylt_bd {y : YD} (O : YOk y) {c : Nat} (hc : c < yn y) (p : Nat) : 0 ≤ ylt y c p ∧ ylt y c p ≤ 26 ∧ (0 < ylt y c p ↔ p < (yl y c).length) := by
  cases e : (yl y c)[p]? with
  | none =>
    rw [ylt_out e]
    have := List.getElem?_eq_none_iff.1 e
    omega
  | some x =>
    rw [ylt_in e]
    have := O.lx hc x (List.mem_of_getElem? e)
    have := (List.getElem?_eq_some_iff.1 e).1
    omega
theorem ysg_bd {y : YD} (O : YOk y) {c : Nat} (hc : c < yn y) (p : Nat) : 0 ≤ ysg y c p ∧ ysg y c p ≤ 27 ∧ (ysg y c p < 26 ↔ p < (yl y c).length ∧ yopn y c p = true) := by
  unfold ysg
  by_cases q : yopn y c p = true
  · rw [if_pos q]
    cases e : (yl y c)[p]? with
    | none =>
      have := List.getElem?_eq_none_iff.1 e
      simp; omega
    | some x =>
      have := O.lx hc x (List.mem_of_getElem? e)
      have := (List.getElem?_eq_some_iff.1 e).1
      simp [q]; omega
  · rw [if_neg q]; simp [q]
/-- as many of the first m numbers as are below w -/
theorem cnt_lt (P : Nat → Prop) [DecidablePred P] (w : Nat) : ∀ (m k : Nat), w ≤ k + m → (∀ i, P i ↔ i < w) → zs (fun p => if P p then 1 else 0) k m = ((w - k : Nat) : Int)
  | 0, k, h, hp => by unfold zs; omega
  | m + 1, k, h, hp => by
    unfold zs
    rw [cnt_lt P w m (k + 1) (by omega) hp]
    by_cases q : k < w
    · rw [if_pos ((hp k).2 q)]; omega
    · rw [if_neg (fun z => q ((hp k).1 z))]; omega
theorem zs_count (p : Nat → Bool) (m k : Nat) : zs (fun d => if p d = true then 1 else 0) k m = (((List.range' k m).filter p).length : Int) := by
  rw [zs_filter p (fun _ => 1), sum_ones]
section
variable {A : Nat → Nat} {μ : MD} {h : xk_H} {y : YD}
theorem M_loadOf_L4 (hA : AOk A) (hY : MY (μ.2 0) y) (O : YOk y) {c : Nat} (hc : c < yn y) : ∀ (m k f : Nat) (a : Int), k + m = yn y → m < f → mf_X2_loadOf_L4 (some (A 3)) (zI c) f (zI a) (zI k) (mk A μ h) = some (zI (a + zs (fun k => if yar y c k = true then 1 else 0) k m), mk A μ h)
  | m, k, 0, a, _, hf => absurd hf (Nat.not_lt_zero _)
  | 0, k, f + 1, a, hk, hf => by
    have hn := O.n
    unfold mf_X2_loadOf_L4 zs
    simp (disch := first | assumption | decide | omega | (simp only [aSz]; omega)) only [m_rc, m_gI, m_gR, zI_lit, zI_add, zI_sub, zI_mul, zI_neg, b2_0z, cl_some, M_n hA hY, M_of0 hA hY, M_of1 hA hY, M_of2 hA hY, M_of7 hA hY, M_of8 hA hY, M_ofL hA hY, M_around hA hY, zI_le, zI_lt, zI_inj]
    rw [if_pos (by omega), Int.add_zero]
  | m + 1, k, f + 1, a, hk, hf => by
    have hn := O.n
    have hk' : k < yn y := by omega
    have ih := fun b => M_loadOf_L4 hA hY O hc m (k + 1) f b (by omega) (by omega)
    unfold mf_X2_loadOf_L4 zs
    simp (disch := first | assumption | decide | omega | (simp only [aSz]; omega)) only [m_rc, m_gI, m_gR, zI_lit, zI_add, zI_sub, zI_mul, zI_neg, b2_0z, cl_some, M_n hA hY, M_of0 hA hY, M_of1 hA hY, M_of2 hA hY, M_of7 hA hY, M_of8 hA hY, M_ofL hA hY, M_around hA hY, zI_le, zI_lt, zI_inj]
    simp (disch := first | assumption | decide | omega | (simp only [aSz]; omega)) only [M_holds hA hY O hc, zI_lit, zI_add, zI_sub, zI_mul, zI_neg, b2_0z, cl_some]
    rw [if_neg (by omega)]
    by_cases q : (k : Int) = c
    · have e : k = c := by omega
      subst e
      have q2 : yar y k k = false := by unfold yar; simpa using ch_not O hk'
      rw [if_pos rfl, q2, if_neg (by decide), ← Int.add_assoc]
      exact ih _
    · have e : (k :: ch y k).contains c = yar y c k := by
        rw [List.contains_cons]
        have : (c == k) = false := by simp; omega
        rw [this]; rfl
      rw [if_neg q, e]
      by_cases q3 : yar y c k = true
      · rw [q3, if_neg (by decide), if_pos rfl, ← Int.add_assoc]; exact ih _
      · have q3 : yar y c k = false := by simpa using q3
        rw [q3, if_pos rfl, if_neg (by decide), ← Int.add_assoc]; exact ih _
theorem M_loadOf (hA : AOk A) (hY : MY (μ.2 0) y) (O : YOk y) {c : Nat} (hc : c < yn y) : mf_X2_loadOf (some (A 3)) (zI c) (mk A μ h) = some (zI (yld y c), mk A μ h) := by
  have hn := O.n
  have := M_loadOf_L4 (h := h) hA hY O hc (yn y) 0 xk_fu 0 (by omega) (fu_lt (by omega))
  rw [zs_count, Int.zero_add, ← List.range_eq_range'] at this
  exact this
theorem M_isTop (hA : AOk A) (hY : MY (μ.2 0) y) (O : YOk y) {c : Nat} (hc : c < yn y) : mf_X2_isTop (some (A 3)) (zI c) (mk A μ h) = some (decide (yab y c = 0), mk A μ h) := by
  have hn := O.n
  have hH := O.ho hc
  unfold mf_X2_isTop
  simp (disch := first | assumption | decide | omega | (simp only [aSz]; omega)) only [m_rc, m_gI, m_gR, zI_lit, zI_add, zI_sub, zI_mul, zI_neg, b2_0z, cl_some, M_n hA hY, M_of0 hA hY, M_of1 hA hY, M_of2 hA hY, M_of7 hA hY, M_of8 hA hY, M_ofL hA hY, M_around hA hY, zI_le, zI_lt, zI_inj]
  by_cases q : yf y 3 c < 0
  · rw [if_pos q, above_ground (by omega)]; rfl
  · rw [if_neg q]
    obtain ⟨d, e⟩ : ∃ d : Nat, yf y 3 c = d := ⟨(yf y 3 c).toNat, by omega⟩
    have hd : d < yn y := by omega
    have hp := place_lt O hc hd e
    have hl : (yp y d).length ≤ 12 := by
      have := (O.nd hd).length_le_of_subset (l₂ := List.range (yn y)) (fun d' m => List.mem_range.2 (O.plt hd m))
      simp at this; omega
    rw [e]
    simp (disch := first | assumption | decide | omega | (simp only [aSz]; omega)) only [M_pile hA hY O, zI_lit, zI_add, zI_sub, zI_mul, zI_neg, b2_0z, cl_some, zI_inj]
    rw [above_in e]
    by_cases z : (ypl y c : Int) = ((yp y d).length : Int) - 1
    · rw [if_pos z, decide_eq_true (by omega)]
    · rw [if_neg z, decide_eq_false (by omega)]
theorem M_letters_L4 (hA : AOk A) (hY : MY (μ.2 0) y) (O : YOk y) {c : Nat} (hc : c < yn y) : ∀ (m k f : Nat) (a : Int), k + m = 4 → m < f → mf_X2_letters_L4 (some (A 3)) (zI c) f (zI a) (zI k) (mk A μ h) = some (zI (a + zs (fun p => if 0 < ylt y c p then 1 else 0) k m), mk A μ h)
  | m, k, 0, a, _, hf => absurd hf (Nat.not_lt_zero _)
  | 0, k, f + 1, a, hk, hf => by
    unfold mf_X2_letters_L4 zs
    simp (disch := first | assumption | decide | omega | (simp only [aSz]; omega)) only [m_rc, m_gI, m_gR, zI_lit, zI_add, zI_sub, zI_mul, zI_neg, b2_0z, cl_some, M_n hA hY, M_of0 hA hY, M_of1 hA hY, M_of2 hA hY, M_of7 hA hY, M_of8 hA hY, M_ofL hA hY, M_around hA hY, zI_le, zI_lt, zI_inj]
    rw [if_pos (by omega), Int.add_zero]
  | m + 1, k, f + 1, a, hk, hf => by
    have hn := O.n
    have hb := ylt_bd O hc k
    have ih := fun b => M_letters_L4 hA hY O hc m (k + 1) f b (by omega) (by omega)
    unfold mf_X2_letters_L4 zs
    simp (disch := first | assumption | decide | omega | (simp only [aSz]; omega)) only [m_rc, m_gI, m_gR, zI_lit, zI_add, zI_sub, zI_mul, zI_neg, b2_0z, cl_some, M_n hA hY, M_of0 hA hY, M_of1 hA hY, M_of2 hA hY, M_of7 hA hY, M_of8 hA hY, M_ofL hA hY, M_around hA hY, zI_le, zI_lt, zI_inj]
    rw [if_neg (by omega)]
    by_cases q : 0 < ylt y c k
    · rw [if_neg (by omega), if_pos q, ← Int.add_assoc]; exact ih _
    · rw [if_pos (by omega), if_neg q, ← Int.add_assoc]; exact ih _
theorem M_letters (hA : AOk A) (hY : MY (μ.2 0) y) (O : YOk y) {c : Nat} (hc : c < yn y) : mf_X2_letters (some (A 3)) (zI c) (mk A μ h) = some (zI (yl y c).length, mk A μ h) := by
  have := M_letters_L4 (h := h) hA hY O hc 4 0 xk_fu 0 (by omega) (fu_lt (by omega))
  rw [cnt_lt _ (yl y c).length 4 0 (by have := (O.ll hc).2; omega) (fun i => (ylt_bd O hc i).2.2), Int.zero_add] at this
  exact this
/-- a truth as the loops keep it -/
theorem zb_if (b : Bool) : (if b = true then zI 1 else zI 0) = xk_b2 b := by cases b <;> rfl
theorem zb_z (b : Bool) {γ : Type} (κ : Bool → Option γ) : xm_z (xk_b2 b) κ = κ b := by cases b <;> rfl
theorem M_isOpen_L9 (hA : AOk A) (hY : MY (μ.2 0) y) (O : YOk y) {p : Nat} (hp : p < 4) : ∀ (l : List Nat) (a : Int) (b : Bool) (f : Nat), isCh y a l → l.length < f → mf_X2_isOpen_L9 (some (A 3)) (zI p) f (xk_b2 b) (zI a) (mk A μ h) = some (b && l.all fun a => yf y 2 a / 2 ^ p % 2 = 1, mk A μ h)
  | l, a, b, 0, _, hf => absurd hf (Nat.not_lt_zero _)
  | [], a, b, f + 1, hl, hf => by
    have e : a = -1 := hl
    subst e
    unfold mf_X2_isOpen_L9
    simp (disch := first | assumption | decide | omega | (simp only [aSz]; omega)) only [m_rc, m_gI, m_gR, zI_lit, zI_add, zI_sub, zI_mul, zI_neg, b2_0z, cl_some, M_n hA hY, M_of0 hA hY, M_of1 hA hY, M_of2 hA hY, M_of7 hA hY, M_of8 hA hY, M_ofL hA hY, M_around hA hY, zI_le, zI_lt, zI_inj]
    rw [if_pos (by decide), zb_z, List.all_nil, Bool.and_true]
  | d :: l, a, b, f + 1, hl, hf => by
    obtain ⟨rfl, hd, hl⟩ := hl
    have hn := O.n
    have hg := O.gp hd
    have ih := fun b => M_isOpen_L9 hA hY O hp l _ b f hl (by simpa using hf)
    unfold mf_X2_isOpen_L9 mf_X2_isOpen_J38
    simp (disch := first | assumption | decide | omega | (simp only [aSz]; omega)) only [m_rc, m_gI, m_gR, zI_lit, zI_add, zI_sub, zI_mul, zI_neg, b2_0z, cl_some, M_n hA hY, M_of0 hA hY, M_of1 hA hY, M_of2 hA hY, M_of7 hA hY, M_of8 hA hY, M_ofL hA hY, M_around hA hY, zI_le, zI_lt, zI_inj]
    rw [if_neg (by omega), List.all_cons]
    cases b with
    | false => rw [if_pos rfl]; exact ih false
    | true =>
      rw [if_neg (by decide)]
      simp only [gapbit hg.1 hg.2 hp]
      by_cases q : yf y 2 d / 2 ^ p % 2 = 1
      · rw [if_pos q, decide_eq_true q, Bool.true_and, Bool.true_and]; have := ih true; rw [Bool.true_and] at this; exact this
      · rw [if_neg q, decide_eq_false q, Bool.false_and, Bool.true_and]; have := ih false; rw [Bool.false_and] at this; exact this
theorem M_isOpen (hA : AOk A) (hY : MY (μ.2 0) y) (O : YOk y) {c p : Nat} (hc : c < yn y) (hp : p < 4) : mf_X2_isOpen (some (A 3)) (zI c) (zI p) (mk A μ h) = some (yopn y c p, mk A μ h) := by
  have hn := O.n
  have hl := ch_len11 O hc
  unfold mf_X2_isOpen
  simp (disch := first | assumption | decide | omega | (simp only [aSz]; omega)) only [m_rc, m_gI, m_gR, zI_lit, zI_add, zI_sub, zI_mul, zI_neg, b2_0z, cl_some, M_n hA hY, M_of0 hA hY, M_of1 hA hY, M_of2 hA hY, M_of7 hA hY, M_of8 hA hY, M_ofL hA hY, M_around hA hY, zI_le, zI_lt, zI_inj]
  have := M_isOpen_L9 (h := h) hA hY O hp (ch y c) _ true xk_fu (ch_ok O hc) (fu_lt (by omega))
  rw [Bool.true_and] at this; exact this
theorem M_signOf (hA : AOk A) (hY : MY (μ.2 0) y) (O : YOk y) {c p : Nat} (hc : c < yn y) (hp : p < 4) : mf_X2_signOf (some (A 3)) (zI c) (zI p) (mk A μ h) = some (zI (ysg y c p), mk A μ h) := by
  have hn := O.n
  have hb := ylt_bd O hc p
  unfold mf_X2_signOf mf_X2_signBy
  simp (disch := first | assumption | decide | omega | (simp only [aSz]; omega)) only [m_rc, m_gI, m_gR, zI_lit, zI_add, zI_sub, zI_mul, zI_neg, b2_0z, cl_some, M_n hA hY, M_of0 hA hY, M_of1 hA hY, M_of2 hA hY, M_of7 hA hY, M_of8 hA hY, M_ofL hA hY, M_isOpen hA hY O, zI_le]
  unfold ysg
  by_cases q : yopn y c p = true
  · rw [q, if_neg (by decide), if_pos rfl]
    cases e : (yl y c)[p]? with
    | none => rw [ylt_out e, if_pos (by omega)]; rfl
    | some x => 
      have e2 := ylt_in e
      have := (List.getElem?_eq_some_iff.1 e).1
      rw [if_neg (by omega), e2, Int.add_sub_cancel]; rfl
  · have q2 : yopn y c p = false := by simpa using q
    rw [q2, if_pos rfl, if_neg (by decide)]; rfl
end
