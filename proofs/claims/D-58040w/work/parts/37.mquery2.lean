/-! PURE LAW: the reference's questions as they are asked, second half -/
set_option maxRecDepth 10000
def yloose (y : YD) (c : Nat) : Bool := decide (yf y 3 c < 0 ∧ (yp y c).length = 0)
section
variable {A : Nat → Nat} {μ : MD} {h : xk_H} {y : YD}
theorem M_letter (hA : AOk A) (hY : MY (μ.2 0) y) (O : YOk y) {c p : Int} (c1 : -2147483648 ≤ c) (c2 : c ≤ 2147483647) (p1 : -2147483648 ≤ p) (p2 : p ≤ 2147483647) : mf_X2_letter (some (A 3)) (zI c) (zI p) (mk A μ h) = some (zI (qletter y c p), mk A μ h) := by
  have hn := O.n
  unfold mf_X2_letter mf_X2_isPlace qletter
  simp (disch := first | assumption | decide | omega | (simp only [aSz]; omega)) only [m_rc, m_gI, m_gR, zI_lit, zI_add, zI_sub, zI_mul, zI_neg, b2_0z, cl_some, M_isCrate hA hY O, M_in, decide_eq_false_iff_not]
  by_cases q : 0 ≤ c ∧ c < yn y
  · obtain ⟨d, rfl⟩ : ∃ d : Nat, c = d := ⟨c.toNat, by omega⟩
    rw [if_neg (fun z => z q), if_pos q]
    by_cases q2 : 0 ≤ p ∧ p ≤ 3
    · obtain ⟨p, rfl⟩ : ∃ d : Nat, p = d := ⟨p.toNat, by omega⟩
      have hb := ylt_bd O (c := d) (by omega) p
      rw [if_neg (fun z => z q2), if_pos q2]
      simp (disch := first | assumption | decide | omega | (simp only [aSz]; omega)) only [m_rc, m_gI, m_gR, zI_lit, zI_add, zI_sub, zI_mul, zI_neg, b2_0z, cl_some, M_ofL hA hY, zI_inj, Int.toNat_natCast]
      cases e : (yl y d)[p]? with
      | none => rw [ylt_out e, if_pos rfl]; rfl
      | some x =>
        have := (List.getElem?_eq_some_iff.1 e).1
        have e2 := ylt_in e
        rw [if_neg (by omega), e2, Int.add_sub_cancel]; rfl
    · rw [if_pos q2, if_neg q2]
  · rw [if_pos q, if_neg q]
theorem M_seen (hA : AOk A) (hY : MY (μ.2 0) y) (O : YOk y) {c p : Int} (c1 : -2147483648 ≤ c) (c2 : c ≤ 2147483647) (p1 : -2147483648 ≤ p) (p2 : p ≤ 2147483647) : mf_X2_seen (some (A 3)) (zI c) (zI p) (mk A μ h) = some (zI (qseen y c p), mk A μ h) := by
  have hn := O.n
  unfold mf_X2_seen mf_X2_isPlace qseen
  simp (disch := first | assumption | decide | omega | (simp only [aSz]; omega)) only [m_rc, m_gI, m_gR, zI_lit, zI_add, zI_sub, zI_mul, zI_neg, b2_0z, cl_some, M_isCrate hA hY O, M_in, decide_eq_false_iff_not]
  by_cases q : 0 ≤ c ∧ c < yn y
  · obtain ⟨d, rfl⟩ : ∃ d : Nat, c = d := ⟨c.toNat, by omega⟩
    rw [if_neg (fun z => z q), if_pos q]
    by_cases q2 : 0 ≤ p ∧ p ≤ 3
    · obtain ⟨p, rfl⟩ : ∃ d : Nat, p = d := ⟨p.toNat, by omega⟩
      rw [if_neg (fun z => z q2), if_pos q2]
      simp (disch := first | assumption | decide | omega | (simp only [aSz]; omega)) only [m_rc, m_gI, m_gR, zI_lit, zI_add, zI_sub, zI_mul, zI_neg, b2_0z, cl_some, M_signOf hA hY O, Int.toNat_natCast]
    · rw [if_pos q2, if_neg q2]
  · rw [if_pos q, if_neg q]
theorem M_whyNot (hA : AOk A) (hY : MY (μ.2 0) y) (O : YOk y) {c p : Int} (c1 : -2147483648 ≤ c) (c2 : c ≤ 2147483647) (p1 : -2147483648 ≤ p) (p2 : p ≤ 2147483647) : mf_X2_whyNot (some (A 3)) (zI c) (zI p) (mk A μ h) = some (zI (qwhy y c p), mk A μ h) := by
  have hn := O.n
  unfold mf_X2_whyNot qwhy
  simp (disch := first | assumption | decide | omega | (simp only [aSz]; omega)) only [m_rc, m_gI, m_gR, zI_lit, zI_add, zI_sub, zI_mul, zI_neg, b2_0z, cl_some, M_isCrate hA hY O, decide_eq_false_iff_not]
  by_cases q : 0 ≤ c ∧ c < yn y
  · obtain ⟨d, rfl⟩ : ∃ d : Nat, c = d := ⟨c.toNat, by omega⟩
    rw [if_neg (fun z => z q), if_pos q]
    by_cases q2 : 0 ≤ p ∧ p < yn y
    · obtain ⟨p, rfl⟩ : ∃ d : Nat, p = d := ⟨p.toNat, by omega⟩
      rw [if_neg (fun z => z q2), if_pos q2]
      simp (disch := first | assumption | decide | omega | (simp only [aSz]; omega)) only [m_rc, m_gI, m_gR, zI_lit, zI_add, zI_sub, zI_mul, zI_neg, b2_0z, cl_some, M_reasonPut hA hY O, Int.toNat_natCast]
    · rw [if_pos q2, if_neg q2]
  · rw [if_pos q, if_neg q]
theorem M_effort_L26 (hA : AOk A) (hY : MY (μ.2 0) y) (O : YOk y) {w : Int} (w1 : -2147483648 ≤ w) (w2 : w ≤ 2147483647) : ∀ (m k f : Nat) (a : Int), k + m = yn y → m < f → mf_X2_effort_L26 (some (A 3)) (zI w) f (zI a) (zI k) (mk A μ h) = some (zI (a + zs (fun c => if yf y 0 c = w then (yef y c : Int) else 0) k m), mk A μ h)
  | m, k, 0, a, _, hf => absurd hf (Nat.not_lt_zero _)
  | 0, k, f + 1, a, hk, hf => by
    have hn := O.n
    unfold mf_X2_effort_L26 zs
    simp (disch := first | assumption | decide | omega | (simp only [aSz]; omega)) only [m_rc, m_gI, m_gR, zI_lit, zI_add, zI_sub, zI_mul, zI_neg, b2_0z, cl_some, M_n hA hY, M_of0 hA hY, M_of1 hA hY, M_of2 hA hY, M_of7 hA hY, M_of8 hA hY, M_ofL hA hY, M_around hA hY, zI_le, zI_lt, zI_inj]
    rw [if_pos (by omega), Int.add_zero]
  | m + 1, k, f + 1, a, hk, hf => by
    have hn := O.n
    have hz := O.sz (c := k) (by omega)
    have ih := fun b => M_effort_L26 hA hY O w1 w2 m (k + 1) f b (by omega) (by omega)
    unfold mf_X2_effort_L26 zs
    simp (disch := first | assumption | decide | omega | (simp only [aSz]; omega)) only [m_rc, m_gI, m_gR, zI_lit, zI_add, zI_sub, zI_mul, zI_neg, b2_0z, cl_some, M_n hA hY, M_of0 hA hY, M_of1 hA hY, M_of2 hA hY, M_of7 hA hY, M_of8 hA hY, M_ofL hA hY, zI_le, zI_inj, M_effortTo hA hY O]
    rw [if_neg (by omega), ← Int.add_assoc]
    by_cases q : yf y 0 k = w
    · rw [if_pos q, if_pos q]; exact ih _
    · rw [if_neg q, if_neg q]; exact ih _
theorem M_effort (hA : AOk A) (hY : MY (μ.2 0) y) (O : YOk y) {z w : Int} (z1 : -2147483648 ≤ z) (z2 : z ≤ 2147483647) (w1 : -2147483648 ≤ w) (w2 : w ≤ 2147483647) : mf_X2_effort (some (A 3)) (zI z) (zI w) (mk A μ h) = some (zI (qeff y z w), mk A μ h) := by
  have hn := O.n
  unfold mf_X2_effort qeff
  simp (disch := first | assumption | decide | omega | (simp only [aSz]; omega)) only [m_rc, m_gI, m_gR, zI_lit, zI_add, zI_sub, zI_mul, zI_neg, b2_0z, cl_some, M_in, decide_eq_false_iff_not]
  by_cases q : 1 ≤ z ∧ z ≤ 60
  · rw [if_neg (fun z => z q), if_pos q]
    by_cases q2 : 0 ≤ w ∧ w ≤ 1
    · rw [if_neg (fun z => z q2), if_pos q2]
      have := M_effort_L26 (h := h) hA hY O z1 z2 (yn y) 0 xk_fu 0 (by omega) (fu_lt (by omega))
      rw [Int.zero_add] at this; exact this
    · rw [if_pos q2, if_neg q2]
  · rw [if_pos q, if_neg q]
theorem M_isAs (hA : AOk A) (hY : MY (μ.2 0) y) (O : YOk y) {c p : Nat} {w : Int} (hc : c < yn y) (hp : p < 4) (w1 : -2147483648 ≤ w) (w2 : w ≤ 2147483647) : mf_X2_isAs (some (A 3)) (zI c) (zI p) (zI w) (mk A μ h) = some (yas y c p w, mk A μ h) := by
  have hb := ysg_bd O hc p
  unfold mf_X2_isAs yas
  simp (disch := first | assumption | decide | omega | (simp only [aSz]; omega)) only [m_rc, m_gI, m_gR, zI_lit, zI_add, zI_sub, zI_mul, zI_neg, b2_0z, cl_some, M_signOf hA hY O, zI_inj]
  by_cases q : w = 28
  · rw [if_pos q, decide_eq_true (Or.inl q)]
  · rw [if_neg q]
    by_cases q2 : ysg y c p = w
    · rw [if_pos q2, decide_eq_true (Or.inr q2)]
    · rw [if_neg q2, decide_eq_false (fun z => by rcases z with z | z; exact q z; exact q2 z)]
theorem M_alike_L49 (hA : AOk A) (hY : MY (μ.2 0) y) (O : YOk y) {w0 w1 w2 w3 : Int} (h0 : 0 ≤ w0 ∧ w0 ≤ 28) (h1 : 0 ≤ w1 ∧ w1 ≤ 28) (h2 : 0 ≤ w2 ∧ w2 ≤ 28) (h3 : 0 ≤ w3 ∧ w3 ≤ 28) : ∀ (m k f : Nat) (a : Int), k + m = yn y → m < f → mf_X2_alike_L49 (some (A 3)) (zI w0) (zI w1) (zI w2) (zI w3) f (zI a) (zI k) (mk A μ h) = some (zI (a + zs (fun c => if (yas y c 0 w0 && (yas y c 1 w1 && (yas y c 2 w2 && yas y c 3 w3))) = true then 1 else 0) k m), mk A μ h)
  | m, k, 0, a, _, hf => absurd hf (Nat.not_lt_zero _)
  | 0, k, f + 1, a, hk, hf => by
    have hn := O.n
    unfold mf_X2_alike_L49 zs
    simp (disch := first | assumption | decide | omega | (simp only [aSz]; omega)) only [m_rc, m_gI, m_gR, zI_lit, zI_add, zI_sub, zI_mul, zI_neg, b2_0z, cl_some, M_n hA hY, M_of0 hA hY, M_of1 hA hY, M_of2 hA hY, M_of7 hA hY, M_of8 hA hY, M_ofL hA hY, M_around hA hY, zI_le, zI_lt, zI_inj]
    rw [if_pos (by omega), Int.add_zero]
  | m + 1, k, f + 1, a, hk, hf => by
    have hn := O.n
    have hk' : k < yn y := by omega
    have ih := fun b => M_alike_L49 hA hY O h0 h1 h2 h3 m (k + 1) f b (by omega) (by omega)
    have s0 : mf_X2_isAs (some (A 3)) (zI k) (zI 0) (zI w0) (mk A μ h) = some (yas y k 0 w0, mk A μ h) := M_isAs (p := 0) hA hY O hk' (by decide) (by omega) (by omega)
    have s1 : mf_X2_isAs (some (A 3)) (zI k) (zI 1) (zI w1) (mk A μ h) = some (yas y k 1 w1, mk A μ h) := M_isAs (p := 1) hA hY O hk' (by decide) (by omega) (by omega)
    have s2 : mf_X2_isAs (some (A 3)) (zI k) (zI 2) (zI w2) (mk A μ h) = some (yas y k 2 w2, mk A μ h) := M_isAs (p := 2) hA hY O hk' (by decide) (by omega) (by omega)
    have s3 : mf_X2_isAs (some (A 3)) (zI k) (zI 3) (zI w3) (mk A μ h) = some (yas y k 3 w3, mk A μ h) := M_isAs (p := 3) hA hY O hk' (by decide) (by omega) (by omega)
    unfold mf_X2_alike_L49 zs
    simp (disch := first | assumption | decide | omega | (simp only [aSz]; omega)) only [m_rc, m_gI, m_gR, zI_lit, zI_add, zI_sub, zI_mul, zI_neg, b2_0z, cl_some, M_n hA hY, M_of0 hA hY, M_of1 hA hY, M_of2 hA hY, M_of7 hA hY, M_of8 hA hY, M_ofL hA hY, zI_le, s0, s1, s2, s3]
    rw [if_neg (by omega), ← Int.add_assoc]
    have i0 := ih (a + 0)
    have i1 := ih (a + 1)
    cases yas y k 0 w0 with
    | false => rw [if_pos rfl, Bool.false_and, if_neg (by decide)]; exact i0
    | true =>
      rw [if_neg (by decide), Bool.true_and]
      cases yas y k 1 w1 with
      | false => rw [if_pos rfl, Bool.false_and, if_neg (by decide)]; exact i0
      | true =>
        rw [if_neg (by decide), Bool.true_and]
        cases yas y k 2 w2 with
        | false => rw [if_pos rfl, Bool.false_and, if_neg (by decide)]; exact i0
        | true =>
          rw [if_neg (by decide), Bool.true_and]
          cases yas y k 3 w3 with
          | false => rw [if_pos rfl, if_neg (by decide)]; exact i0
          | true => rw [if_neg (by decide), if_pos rfl]; exact i1
theorem M_alike (hA : AOk A) (hY : MY (μ.2 0) y) (O : YOk y) {p q r t : Int} (p1 : -2147483648 ≤ p) (p2 : p ≤ 2147483647) (q1 : -2147483648 ≤ q) (q2 : q ≤ 2147483647) (r1 : -2147483648 ≤ r) (r2 : r ≤ 2147483647) (t1 : -2147483648 ≤ t) (t2 : t ≤ 2147483647) : mf_X2_alike (some (A 3)) (zI p) (zI q) (zI r) (zI t) (mk A μ h) = some (zI (qal y p q r t), mk A μ h) := by
  have hn := O.n
  unfold mf_X2_alike qal
  simp (disch := first | assumption | decide | omega | (simp only [aSz]; omega)) only [m_rc, m_gI, m_gR, zI_lit, zI_add, zI_sub, zI_mul, zI_neg, b2_0z, cl_some, M_in, decide_eq_false_iff_not]
  by_cases a0 : 0 ≤ p ∧ p ≤ 28
  · rw [if_neg (fun z => z a0), if_pos a0]
    by_cases a1 : 0 ≤ q ∧ q ≤ 28
    · rw [if_neg (fun z => z a1), if_pos a1]
      by_cases a2 : 0 ≤ r ∧ r ≤ 28
      · rw [if_neg (fun z => z a2), if_pos a2]
        by_cases a3 : 0 ≤ t ∧ t ≤ 28
        · rw [if_neg (fun z => z a3), if_pos a3]
          have := M_alike_L49 (h := h) hA hY O a0 a1 a2 a3 (yn y) 0 xk_fu 0 (by omega) (fu_lt (by omega))
          rw [Int.zero_add] at this; exact this
        · rw [if_pos a3, if_neg a3]
      · rw [if_pos a2, if_neg a2]
    · rw [if_pos a1, if_neg a1]
  · rw [if_pos a0, if_neg a0]
theorem M_onGround_L4 (hA : AOk A) (hY : MY (μ.2 0) y) (O : YOk y) (b : Bool) : ∀ (m k f : Nat) (a : Int), k + m = yn y → m < f → mf_X2_onGround_L4 (some (A 3)) (xk_b2 b) f (zI a) (zI k) (mk A μ h) = some (zI (a + zs (fun c => if (if b = true then yloose y c else decide (yf y 3 c < 0)) = true then 1 else 0) k m), mk A μ h)
  | m, k, 0, a, _, hf => absurd hf (Nat.not_lt_zero _)
  | 0, k, f + 1, a, hk, hf => by
    have hn := O.n
    unfold mf_X2_onGround_L4 zs
    simp (disch := first | assumption | decide | omega | (simp only [aSz]; omega)) only [m_rc, m_gI, m_gR, zI_lit, zI_add, zI_sub, zI_mul, zI_neg, b2_0z, cl_some, M_n hA hY, M_of0 hA hY, M_of1 hA hY, M_of2 hA hY, M_of7 hA hY, M_of8 hA hY, M_ofL hA hY, M_around hA hY, zI_le, zI_lt, zI_inj]
    rw [if_pos (by omega), Int.add_zero]
  | m + 1, k, f + 1, a, hk, hf => by
    have hn := O.n
    have hk' : k < yn y := by omega
    have hH := O.ho hk'
    have ih := fun c => M_onGround_L4 hA hY O b m (k + 1) f c (by omega) (by omega)
    unfold mf_X2_onGround_L4 zs
    simp (disch := first | assumption | decide | omega | (simp only [aSz]; omega)) only [m_rc, m_gI, m_gR, zI_lit, zI_add, zI_sub, zI_mul, zI_neg, b2_0z, cl_some, M_n hA hY, M_of0 hA hY, M_of1 hA hY, M_of2 hA hY, M_of7 hA hY, M_of8 hA hY, M_ofL hA hY, zI_le, M_around hA hY, M_isLoose hA hY O]
    rw [if_neg (by omega), ← Int.add_assoc]
    by_cases q : yf y 3 k < 0
    · rw [if_neg (by omega)]
      cases b with
      | false =>
        have e : (if false = true then yloose y k else decide (yf y 3 k < 0)) = true := by rw [if_neg (by decide)]; exact decide_eq_true q
        rw [if_pos rfl, e, if_pos rfl]; exact ih _
      | true =>
        rw [if_neg (by decide), if_pos rfl, show decide (yf y 3 k < 0 ∧ (yp y k).length = 0) = yloose y k from rfl]
        cases yloose y k with
        | false => rw [if_pos rfl, if_neg (by decide)]; exact ih _
        | true => rw [if_neg (by decide), if_pos rfl]; exact ih _
    · rw [if_pos (by omega)]
      have e : (if b = true then yloose y k else decide (yf y 3 k < 0)) = false := by
        cases b with
        | false => rw [if_neg (by decide)]; exact decide_eq_false q
        | true => rw [if_pos rfl]; exact decide_eq_false fun z => q z.1
      rw [e, if_neg (by decide)]; exact ih _
theorem M_onGround (hA : AOk A) (hY : MY (μ.2 0) y) (O : YOk y) (b : Bool) : mf_X2_onGround (some (A 3)) (xk_b2 b) (mk A μ h) = some (zI (zs (fun c => if (if b = true then yloose y c else decide (yf y 3 c < 0)) = true then 1 else 0) 0 (yn y)), mk A μ h) := by
  have hn := O.n
  have := M_onGround_L4 (h := h) hA hY O b (yn y) 0 xk_fu 0 (by omega) (fu_lt (by omega))
  rw [Int.zero_add] at this; exact this
/-! ## what would be -/
theorem M_lays (hA : AOk A) {c w : Nat} {v : Int32} (hc : 2 + 9 * c + w < 110) : mf_X2_lays (some (A 3)) (zI c) (zI w) v (mk A μ h) = some ((), mk A (uA μ 0 (2 + 9 * c + w) v) h) := by
  unfold mf_X2_lays
  simp (disch := first | assumption | decide | omega | (simp only [aSz]; omega)) only [m_rc, m_gI, m_gR, zI_lit, zI_add, zI_sub, zI_mul, zI_neg, b2_0z, cl_some, m_sV hA]
  rw [show (2 + 9 * (c : Int) + w).toNat = 2 + 9 * c + w by omega]
theorem uA_uA (r i : Nat) (v w : Int32) : uA (uA μ r i v) r i w = uA μ r i w := by
  unfold uA
  refine Prod.ext rfl (funext fun r' => funext fun j => ?_)
  by_cases e : r' = r
  · subst e
    simp only [if_pos]
    by_cases e2 : j = i
    · rw [if_pos e2, if_pos e2]
    · rw [if_neg e2, if_neg e2, if_neg e2]
  · simp only [if_neg e]
theorem uA_id (r i : Nat) : uA μ r i (μ.2 r i) = μ := by
  unfold uA
  refine Prod.ext rfl (funext fun r' => funext fun j => ?_)
  by_cases e : r' = r
  · subst e
    simp only [if_pos]
    by_cases e2 : j = i
    · rw [if_pos e2, e2]
    · rw [if_neg e2]
  · simp only [if_neg e]
theorem uA_at (r i : Nat) (v : Int32) : (uA μ r i v).2 r = fun j => if j = i then v else μ.2 r j := by
  unfold uA; simp only [if_pos]
theorem uA_ne {r r' : Nat} (i : Nat) (v : Int32) (e : r' ≠ r) : (uA μ r i v).2 r' = μ.2 r' := by
  unfold uA; simp only [if_neg e]
end
/-- gaps, turned once -/
def ytg (g : Int) : Int := (2 * g + g / 8) % 16
theorem turned_eq {g : Int} (h0 : 0 ≤ g) (h1 : g ≤ 15) : ((zI g <<< (zI 1 &&& zI 31)) ||| (zI g >>> (zI 3 &&& zI 31))) &&& zI 15 = zI (ytg g) := by
  have key : ∀ g : Fin 16, ((zI ((g.val : Nat) : Int) <<< (zI 1 &&& zI 31)) ||| (zI ((g.val : Nat) : Int) >>> (zI 3 &&& zI 31))) &&& zI 15 = zI (ytg ((g.val : Nat) : Int)) := by decide +kernel
  have := key ⟨g.toNat, by omega⟩
  simp only [Int.toNat_of_nonneg h0] at this
  exact this
theorem ytg_bd {g : Int} : 0 ≤ ytg g ∧ ytg g ≤ 15 := by unfold ytg; omega
/-- the yard with other gaps in c -/
def yG (y : YD) (c : Nat) (g : Int) : YD := (yn y, fun k d => if k = 2 ∧ d = c then g else yf y k d, yl y, yp y, yr y)
theorem yG_ok {y : YD} (O : YOk y) (c : Nat) {g : Int} (h0 : 0 ≤ g ∧ g ≤ 15) : YOk (yG y c g) := by
  refine ⟨O.1, fun d hd => ?_⟩
  obtain ⟨a0, a1, a2, a3, a4, a5, a6, a7, a8⟩ := O.2 d hd
  refine ⟨a0, a1, ?_, a3, a4, a5, a6, a7, a8⟩
  show 0 ≤ (if 2 = 2 ∧ d = c then g else yf y 2 d) ∧ (if 2 = 2 ∧ d = c then g else yf y 2 d) ≤ 15
  by_cases e : 2 = 2 ∧ d = c
  · rw [if_pos e]; exact h0
  · rw [if_neg e]; exact a2
theorem yG_row {s : Nat → Int32} {y : YD} (hY : MY s y) (O : YOk y) {c : Nat} (hc : c < yn y) (g : Int) : MY (fun j => if j = 2 + 9 * c + 2 then zI g else s j) (yG y c g) := by
  refine ⟨hY.1, hY.2.1, fun d hd => ?_⟩
  obtain ⟨a0, a1, a2, a3, a4, a5⟩ := hY.2.2 d hd
  refine ⟨?_, ?_, ?_, fun p hp => ?_, ?_, ?_⟩
  · show (if _ then _ else _) = _; rw [if_neg (by omega)]; exact a0
  · show (if _ then _ else _) = _; rw [if_neg (by omega)]; exact a1
  · show (if _ then _ else _) = zI (if _ then _ else _)
    by_cases e : d = c
    · subst e; rw [if_pos rfl, if_pos ⟨rfl, rfl⟩]
    · rw [if_neg (by omega), if_neg (fun z => e z.2)]; exact a2
  · show (if _ then _ else _) = _; rw [if_neg (by omega)]; exact a3 p hp
  · show (if _ then _ else _) = _; rw [if_neg (by omega)]; exact a4
  · show (if _ then _ else _) = _; rw [if_neg (by omega)]; exact a5
/-! ## counts -/
/-- the sums as the law's count names them: what 0 size 1 room 3 letters 8 room left 10 effort 11 told 12 letters seen -/
def ysum (y : YD) (w : Int) : Int := zs (fun k => qcr y k w) 0 (yn y)
section
variable {A : Nat → Nat} {μ : MD} {h : xk_H} {y : YD}
theorem M_ifT (hA : AOk A) (hY : MY (μ.2 0) y) (O : YOk y) {c : Nat} (hc : c < yn y) {w : Int} (hw : 0 ≤ w ∧ w ≤ 1) : mf_X2_ifTurned (some (A 3)) (zI c) (zI w) (mk A μ h) = some (zI (ysum (yG y c (ytg (yf y 2 c))) (if w = 0 then 12 else 11)), mk A μ h) := by
  have hn := O.n
  have hg := O.gp hc
  have hi : decide (0 ≤ (c : Int) ∧ (c : Int) < yn y) = true := decide_eq_true (by omega)
  have hj : decide (0 ≤ w ∧ w ≤ 1) = true := decide_eq_true hw
  have O2 := yG_ok O c (ytg_bd (g := yf y 2 c))
  have hY2 : MY ((uA μ 0 (2 + 9 * c + 2) (zI (ytg (yf y 2 c)))).2 0) (yG y c (ytg (yf y 2 c))) := by
    rw [uA_at]; exact yG_row hY O hc _
  have hl : ∀ v : Int32, mf_X2_lays (some (A 3)) (zI c) (zI 2) v (mk A μ h) = some ((), mk A (uA μ 0 (2 + 9 * c + 2) v) h) := fun v => M_lays (w := 2) hA (by omega)
  have hl2 : mf_X2_lays (some (A 3)) (zI c) (zI 2) (zI (yf y 2 c)) (mk A (uA μ 0 (2 + 9 * c + 2) (zI (ytg (yf y 2 c)))) h) = some ((), mk A μ h) := by
    refine (M_lays (w := 2) hA (by omega)).trans ?_
    rw [uA_uA, ← (hY.2.2 c hc).2.2.1, uA_id]
  unfold mf_X2_ifTurned mf_X2_ifTurned_J48 mf_X2_turned ysum
  simp (disch := first | assumption | decide | omega | (simp only [aSz]; omega)) only [m_rc, m_gI, m_gR, zI_lit, zI_add, zI_sub, zI_mul, zI_neg, b2_0z, cl_some, M_n hA hY, M_of0 hA hY, M_of1 hA hY, M_of2 hA hY, M_of7 hA hY, M_of8 hA hY, M_ofL hA hY, M_isCrate hA hY O, M_in, hi, hj, turned_eq hg.1 hg.2, hl, zI_inj, M_sum hA hY2 O2, hl2]
  rw [if_neg (by decide), if_neg (by decide)]
  by_cases q : w = 0
  · rw [if_pos q, if_pos q]
  · rw [if_neg q, if_neg q]
def qift (y : YD) (c w : Int) : Int := if 0 ≤ c ∧ c < yn y then (if 0 ≤ w ∧ w ≤ 1 then ysum (yG y c.toNat (ytg (yf y 2 c.toNat))) (if w = 0 then 12 else 11) else -1) else -1
theorem M_ifTurned (hA : AOk A) (hY : MY (μ.2 0) y) (O : YOk y) {c w : Int} (c1 : -2147483648 ≤ c) (c2 : c ≤ 2147483647) (w1 : -2147483648 ≤ w) (w2 : w ≤ 2147483647) : mf_X2_ifTurned (some (A 3)) (zI c) (zI w) (mk A μ h) = some (zI (qift y c w), mk A μ h) := by
  have hn := O.n
  unfold qift
  by_cases q : 0 ≤ c ∧ c < yn y
  · rw [if_pos q]
    obtain ⟨d, rfl⟩ : ∃ d : Nat, c = d := ⟨c.toNat, by omega⟩
    by_cases q2 : 0 ≤ w ∧ w ≤ 1
    · rw [if_pos q2]
      exact M_ifT hA hY O (by omega) q2
    · rw [if_neg q2]
      unfold mf_X2_ifTurned
      simp (disch := first | assumption | decide | omega | (simp only [aSz]; omega)) only [m_rc, m_gI, m_gR, zI_lit, zI_add, zI_sub, zI_mul, zI_neg, b2_0z, cl_some, M_isCrate hA hY O, M_in, decide_eq_false_iff_not]
      rw [if_neg (fun z => z q), if_pos q2]
  · rw [if_neg q]
    unfold mf_X2_ifTurned
    simp (disch := first | assumption | decide | omega | (simp only [aSz]; omega)) only [m_rc, m_gI, m_gR, zI_lit, zI_add, zI_sub, zI_mul, zI_neg, b2_0z, cl_some, M_isCrate hA hY O, M_in, decide_eq_false_iff_not]
    rw [if_pos q]
theorem zs_bd {F : Nat → Int} {B : Int} : ∀ (m k : Nat), (∀ i, k ≤ i → i < k + m → 0 ≤ F i ∧ F i ≤ B) → 0 ≤ zs F k m ∧ zs F k m ≤ m * B
  | 0, k, _ => by unfold zs; simp
  | m + 1, k, hF => by
    have a := hF k (by omega) (by omega)
    have b := zs_bd m (k + 1) fun i h1 h2 => hF i (by omega) (by omega)
    unfold zs
    have e : ((m + 1 : Nat) : Int) * B = m * B + B := by rw [Int.natCast_succ, Int.add_mul, Int.one_mul]
    rw [e]; omega
theorem yls_bd (O : YOk y) {c : Nat} (hc : c < yn y) : yls y c ≤ 4 := by
  unfold yls
  have := List.length_filter_le (fun p => yopn y c p) (List.range (yl y c).length)
  rw [List.length_range] at this
  have := (O.ll hc).2
  omega
theorem ysum12_bd (O : YOk y) : 0 ≤ ysum y 12 ∧ ysum y 12 ≤ 48 := by
  have hn := O.n
  have := zs_bd (F := fun k => qcr y k 12) (B := 4) (yn y) 0 fun i _ hi => by
    have := yls_bd O (c := i) (by omega)
    show 0 ≤ ((yls y i : Nat) : Int) ∧ ((yls y i : Nat) : Int) ≤ 4
    omega
  unfold ysum; omega
/-- the best crate to turn: found so far, the most so far -/
def ybt (y : YD) : Nat → Nat → Int → Int → Int
  | _, 0, a, _ => a
  | k, m + 1, a, b => ybt y (k + 1) m (if b < ysum (yG y k (ytg (yf y 2 k))) 12 then k else a) (if b < ysum (yG y k (ytg (yf y 2 k))) 12 then ysum (yG y k (ytg (yf y 2 k))) 12 else b)
theorem M_bestTurn_L7 (hA : AOk A) (hY : MY (μ.2 0) y) (O : YOk y) : ∀ (m k f : Nat) (a b : Int), -1 ≤ b → b ≤ 48 → k + m = yn y → m < f → mf_X2_bestTurn_L7 (some (A 3)) f (zI a) (zI b) (zI k) (mk A μ h) = some (zI (ybt y k m a b), mk A μ h)
  | m, k, 0, a, b, _, _, _, hf => absurd hf (Nat.not_lt_zero _)
  | 0, k, f + 1, a, b, _, _, hk, hf => by
    have hn := O.n
    unfold mf_X2_bestTurn_L7 ybt
    simp (disch := first | assumption | decide | omega | (simp only [aSz]; omega)) only [m_rc, m_gI, m_gR, zI_lit, zI_add, zI_sub, zI_mul, zI_neg, b2_0z, cl_some, M_n hA hY, M_of0 hA hY, M_of1 hA hY, M_of2 hA hY, M_of7 hA hY, M_of8 hA hY, M_ofL hA hY, M_around hA hY, zI_le, zI_lt, zI_inj]
    rw [if_pos (by omega)]
  | m + 1, k, f + 1, a, b, hb1, hb2, hk, hf => by
    have hn := O.n
    have hk' : k < yn y := by omega
    have hs := ysum12_bd (yG_ok O k (ytg_bd (g := yf y 2 k)))
    have ih := fun a b z z2 => M_bestTurn_L7 hA hY O m (k + 1) f a b z z2 (by omega) (by omega)
    have hi : mf_X2_ifTurned (some (A 3)) (zI k) (zI 0) (mk A μ h) = some (zI (ysum (yG y k (ytg (yf y 2 k))) 12), mk A μ h) := M_ifT (w := 0) hA hY O hk' (by decide)
    unfold mf_X2_bestTurn_L7 ybt mf_X2_bestTurn_J36
    simp (disch := first | assumption | decide | omega | (simp only [aSz]; omega)) only [m_rc, m_gI, m_gR, zI_lit, zI_add, zI_sub, zI_mul, zI_neg, b2_0z, cl_some, M_n hA hY, M_of0 hA hY, M_of1 hA hY, M_of2 hA hY, M_of7 hA hY, M_of8 hA hY, M_ofL hA hY, zI_le, hi]
    rw [if_neg (by omega)]
    by_cases q : b < ysum (yG y k (ytg (yf y 2 k))) 12
    · rw [if_neg (by omega), if_neg (by omega), if_pos q, if_pos q]; exact ih _ _ (by omega) (by omega)
    · rw [if_pos (by omega), if_pos (by omega), if_neg q, if_neg q]; exact ih _ _ hb1 hb2
theorem M_bestTurn (hA : AOk A) (hY : MY (μ.2 0) y) (O : YOk y) : mf_X2_bestTurn (some (A 3)) (mk A μ h) = some (zI (ybt y 0 (yn y) (-4) (-1)), mk A μ h) := by
  have hn := O.n
  unfold mf_X2_bestTurn
  simp only [zI_lit, zI_add, zI_sub, zI_mul, zI_neg, b2_0z, cl_some]
  exact M_bestTurn_L7 (h := h) hA hY O (yn y) 0 xk_fu (-4) (-1) (by decide) (by decide) (by omega) (fu_lt (by omega))
end
