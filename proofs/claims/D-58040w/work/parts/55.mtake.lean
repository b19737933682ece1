/-! PURE LAW: the reference reads: characters, numbers -/
set_option maxRecDepth 10000
/-- the pad -/
def MPd (μ : MD) (p : List Int) : Prop := μ.1 7 = zI p.length ∧ (∀ i x, p[i]? = some x → μ.2 6 i = zI x) ∧ p.length ≤ 80 ∧ ∀ x ∈ p, 33 ≤ x ∧ x ≤ 126
/-- place and flag -/
def MRS (μ : MD) (s : RS) : Prop := μ.1 8 = zI s.1 ∧ μ.1 9 = xk_b2 s.2
/-- only place and flag differ -/
def s89 (μ ν : MD) : Prop := ν.2 = μ.2 ∧ ∀ k, k ≠ 8 → k ≠ 9 → ν.1 k = μ.1 k
section
variable {A : Nat → Nat} {h : xk_H} {μ ν ξ : MD} {p : List Int} {s : RS}
theorem s89.rf : s89 μ μ := ⟨rfl, fun _ _ _ => rfl⟩
theorem s89.tr (a : s89 μ ν) (b : s89 ν ξ) : s89 μ ξ := ⟨b.1.trans a.1, fun k x y => (b.2 k x y).trans (a.2 k x y)⟩
theorem s89.pd (a : s89 μ ν) (P : MPd μ p) : MPd ν p := ⟨(a.2 7 (by decide) (by decide)).trans P.1, by rw [a.1]; exact P.2.1, P.2.2⟩
theorem cR_bd (P : MPd μ p) (i : Nat) : 0 ≤ cR p i ∧ cR p i ≤ 126 := by
  unfold cR
  cases e : p[i]? with
  | none => simp
  | some x =>
    have := P.2.2.2 x (List.mem_of_getElem? e)
    simp; omega
theorem M_here (hA : AOk A) (P : MPd μ p) {i : Nat} (hi : i ≤ 200) (e : μ.1 8 = zI i) : mf_X2_here (some (A 3)) (mk A μ h) = some (zI (cR p i), mk A μ h) := by
  have hl := P.2.2.1
  unfold mf_X2_here
  simp (disch := first | assumption | decide | omega | (simp only [aSz]; omega)) only [m_rc, m_gI, m_gR, zI_lit, zI_add, zI_sub, zI_mul, zI_neg, b2_0z, cl_some, e, P.1, zI_le]
  by_cases q : p.length ≤ i
  · rw [if_pos (by omega), cR_out q]
  · rw [if_neg (by omega), m_lI hA (by decide) (by omega) (by simp only [aSz]; omega) (by omega), Int.toNat_natCast]
    have g : p[i]? = some p[i] := List.getElem?_eq_getElem (by omega)
    rw [P.2.1 i _ g]
    unfold cR; rw [g]; rfl
theorem M_takes (hA : AOk A) (R : MRS μ s) (b : Bool) : ∃ ν, s89 μ ν ∧ MRS ν (if s.2 = true ∧ b = true then (s.1 + 1, true) else (s.1, false)) ∧ mf_X2_takes (some (A 3)) (xk_b2 b) (mk A μ h) = some ((), mk A ν h) := by
  obtain ⟨i, ok⟩ := s
  obtain ⟨r1, r2⟩ := R
  simp only [] at r1 r2
  have no : mf_X2_takes_J17 (some (A 3)) (0 : Int32) (some (A 3)) (mk A μ h) = some ((), mk A (uS (uS μ 9 0) 8 (zI (i + 0))) h) := by
    unfold mf_X2_takes_J17
    rw [m_pN (k := 9) (x := (0 : Int32)) hA (by decide) (Or.inl rfl), m_gI (by decide), m_gI (by decide), uS_at, if_pos rfl, uS_ne (by decide), r1, show (0 : Int32) = zI 0 from rfl, zI_add, m_pV hA (by decide)]
  have yes : mf_X2_takes_J17 (some (A 3)) (1 : Int32) (some (A 3)) (mk A μ h) = some ((), mk A (uS (uS μ 9 1) 8 (zI (i + 1))) h) := by
    unfold mf_X2_takes_J17
    rw [m_pN (k := 9) (x := (1 : Int32)) hA (by decide) (Or.inr (by decide)), m_gI (by decide), m_gI (by decide), uS_at, if_neg (by decide), uS_ne (by decide), r1, show (1 : Int32) = zI 1 by decide, zI_add, m_pV hA (by decide)]
  have s0 : ∀ v w, s89 μ (uS (uS μ 9 v) 8 w) := fun v w => ⟨rfl, fun k h8 h9 => by rw [uS_ne h8, uS_ne h9]⟩
  unfold mf_X2_takes
  rw [m_gI (by decide), r2]
  cases ok with
  | false =>
    refine ⟨_, s0 0 (zI (i + 0)), ?_, (if_pos rfl).trans no⟩
    rw [if_neg (by simp)]
    exact ⟨by rw [uS_at, Int.add_zero], by rw [uS_ne (by decide), uS_at]; rfl⟩
  | true =>
    cases b with
    | false =>
      refine ⟨_, s0 0 (zI (i + 0)), ?_, (if_neg (by decide)).trans ((if_pos rfl).trans no)⟩
      rw [if_neg (by simp)]
      exact ⟨by rw [uS_at, Int.add_zero], by rw [uS_ne (by decide), uS_at]; rfl⟩
    | true =>
      refine ⟨_, s0 1 (zI (i + 1)), ?_, (if_neg (by decide)).trans ((if_neg (by decide)).trans yes)⟩
      rw [if_pos ⟨rfl, rfl⟩]
      exact ⟨by rw [uS_at]; rfl, by rw [uS_ne (by decide), uS_at]; rfl⟩
theorem M_number_ok (hA : AOk A) (P : MPd μ p) {i : Nat} (R : MRS μ (i + 1, true)) (hi : i ≤ 80) {g : Int} (g0 : 9 ≤ g) (g1 : g ≤ 60) (c0 : 48 ≤ cR p i) (c1 : cR p i ≤ 57) : ∃ ν, s89 μ ν ∧ MRS ν (i + (if rdM p g i = true then 2 else 1), true) ∧ mf_X2_takesNumber_L38 (some (A 3)) (zI g) xk_fu (zI (cR p i - 48)) (mk A μ h) = some (zI (vN p g i), mk A ν h) := by
  obtain ⟨f, hf⟩ : ∃ f, xk_fu = f + 2 := ⟨998, rfl⟩
  obtain ⟨r1, r2⟩ := R
  simp only [] at r1 r2
  have b2 := cR_bd P (i + 1)
  have hh := M_here (h := h) hA P (i := i + 1) (by omega) r1
  rw [hf]
  by_cases ym : rdM p g i = true
  case neg =>
    refine ⟨μ, s89.rf, by rw [if_neg ym]; exact ⟨r1, r2⟩, ?_⟩
    unfold vN
    rw [if_neg ym]
    unfold mf_X2_takesNumber_L38
    rw [m_gI (by decide), r2, if_neg (by decide)]
    by_cases q1 : cR p i - 48 ≤ 0
    · rw [if_pos (show zI (cR p i - 48) ≤ 0 by rw [show (0 : Int32) = zI 0 by decide, zI_le (by omega) (by omega) (by omega) (by omega)]; exact q1)]
    rw [if_neg (show ¬ zI (cR p i - 48) ≤ 0 by rw [show (0 : Int32) = zI 0 by decide, zI_le (by omega) (by omega) (by omega) (by omega)]; exact q1), m_rc, hh, cl_some, show (48 : Int32) = zI 48 by decide, show (57 : Int32) = zI 57 by decide, M_in _ (by omega) (by omega) (by omega) (by omega) (by omega) (by omega), cl_some]
    by_cases q2 : 48 ≤ cR p (i + 1) ∧ cR p (i + 1) ≤ 57
    case neg => rw [decide_eq_false q2, if_pos (by decide)]
    rw [decide_eq_true q2, if_neg (by decide), m_rc, hh, cl_some, show (10 : Int32) = zI 10 by decide, zI_mul, zI_add, zI_sub]
    by_cases q3 : g < 10 * (cR p i - 48) + cR p (i + 1) - 48
    · rw [if_pos (show zI g < zI (10 * (cR p i - 48) + cR p (i + 1) - 48) by rw [zI_lt (by omega) (by omega) (by omega) (by omega)]; exact q3)]
    · exact absurd (decide_eq_true ⟨by omega, q2.1, q2.2, by omega⟩) ym
  case pos =>
    obtain ⟨q1, q2, q2', q3⟩ := of_decide_eq_true ym
    let ν := uS μ 8 (zI (((i + 1 : Nat) : Int) + 1))
    have sν : s89 μ ν := ⟨rfl, fun k h8 h9 => uS_ne h8⟩
    have P2 := sν.pd P
    have n8 : ν.1 8 = zI (i + 2 : Nat) := uS_at _ _ _
    have n9 : ν.1 9 = xk_b2 true := (uS_ne (by decide)).trans r2
    have b3 := cR_bd P (i + 2)
    have hh2 := M_here (h := h) hA P2 (i := i + 2) (by omega) n8
    refine ⟨ν, sν, by rw [if_pos ym]; exact ⟨n8, n9⟩, ?_⟩
    unfold vN
    rw [if_pos ym]
    unfold mf_X2_takesNumber_L38
    rw [m_gI (by decide), r2, if_neg (by decide), if_neg (show ¬ zI (cR p i - 48) ≤ 0 by rw [show (0 : Int32) = zI 0 by decide, zI_le (by omega) (by omega) (by omega) (by omega)]; omega), m_rc, hh, cl_some, show (48 : Int32) = zI 48 by decide, show (57 : Int32) = zI 57 by decide, M_in _ (by omega) (by omega) (by omega) (by omega) (by omega) (by omega), cl_some,
      decide_eq_true (show 48 ≤ cR p (i + 1) ∧ cR p (i + 1) ≤ 57 from ⟨q2, q2'⟩), if_neg (by decide), m_rc, hh, cl_some, show (10 : Int32) = zI 10 by decide, zI_mul, zI_add, zI_sub, if_neg (show ¬ zI g < zI (10 * (cR p i - 48) + cR p (i + 1) - 48) by rw [zI_lt (by omega) (by omega) (by omega) (by omega)]; omega), m_rc, hh, cl_some, m_gI (by decide), r1, show (1 : Int32) = zI 1 by decide, zI_add, m_pV hA (by decide), zI_add, zI_sub]
    show mf_X2_takesNumber_L38 (some (A 3)) (zI g) (f + 1) _ (mk A ν h) = _
    unfold mf_X2_takesNumber_L38
    rw [m_gI (by decide), n9, if_neg (by decide), if_neg (show ¬ zI (10 * (cR p i - 48) + cR p (i + 1) - 48) ≤ 0 by rw [show (0 : Int32) = zI 0 by decide, zI_le (by omega) (by omega) (by omega) (by omega)]; omega), m_rc, hh2, cl_some, show (48 : Int32) = zI 48 by decide, show (57 : Int32) = zI 57 by decide, M_in _ (by omega) (by omega) (by omega) (by omega) (by omega) (by omega), cl_some]
    by_cases q4 : 48 ≤ cR p (i + 2) ∧ cR p (i + 2) ≤ 57
    case neg => rw [decide_eq_false q4, if_pos (by decide)]
    rw [decide_eq_true q4, if_neg (by decide), m_rc, hh2, cl_some, show (10 : Int32) = zI 10 by decide, zI_mul, zI_add, zI_sub, if_pos (show zI g < zI (10 * (10 * (cR p i - 48) + cR p (i + 1) - 48) + cR p (i + 2) - 48) by rw [zI_lt (by omega) (by omega) (by omega) (by omega)]; omega)]
theorem M_number (hA : AOk A) (P : MPd μ p) (R : MRS μ s) (hs : s.1 ≤ 80) {c l g : Int} (hc : 1 ≤ c) (hc2 : c ≤ 200) (hl : 0 ≤ l) (hl2 : l ≤ 1) (g0 : 9 ≤ g) (g1 : g ≤ 60) : ∃ ν v, s89 μ ν ∧ MRS ν (stN p l g (stS p c s)) ∧ ((stN p l g (stS p c s)).2 = true → v = vN p g (stS p c s).1) ∧ mf_X2_takesNumber (some (A 3)) (zI c) (zI l) (zI g) (mk A μ h) = some (zI v, mk A ν h) := by
  have b1 := cR_bd P s.1
  have hh := M_here (h := h) hA P (i := s.1) (by omega) R.1
  have e1 : stS p c s = if s.2 = true ∧ decide (cR p s.1 = c) = true then (s.1 + 1, true) else (s.1, false) := by
    unfold stS; simp only [decide_eq_true_eq]
  obtain ⟨ν1, s1, R1, t1⟩ := M_takes (h := h) hA R (decide (cR p s.1 = c))
  rw [← e1] at R1
  have P1 := s1.pd P
  have l1 : (stS p c s).1 ≤ 81 := by unfold stS; split <;> simp only [] <;> omega
  have b2 := cR_bd P (stS p c s).1
  have hh1 := M_here (h := h) hA P1 (i := (stS p c s).1) (by omega) R1.1
  obtain ⟨ν2, s2, R2, t2⟩ := M_takes (h := h) hA R1 (decide (l ≤ cR p (stS p c s).1 - 48 ∧ cR p (stS p c s).1 - 48 ≤ 9))
  have P2 := s2.pd P1
  have head : mf_X2_takesNumber (some (A 3)) (zI c) (zI l) (zI g) (mk A μ h) = mf_X2_takesNumber_L38 (some (A 3)) (zI g) xk_fu (zI (cR p (stS p c s).1 - 48)) (mk A ν2 h) := by
    have j14 : mf_X2_takesNumber_J14 (some (A 3)) (zI l) (zI g) (xk_b2 (decide (cR p s.1 = c))) (some (A 3)) (mk A μ h) = mf_X2_takesNumber_L38 (some (A 3)) (zI g) xk_fu (zI (cR p (stS p c s).1 - 48)) (mk A ν2 h) := by
      unfold mf_X2_takesNumber_J14
      rw [m_rc, t1, cl_some, m_rc, hh1, cl_some, show (48 : Int32) = zI 48 by decide, show (9 : Int32) = zI 9 by decide, zI_sub, M_in _ (by omega) (by omega) (by omega) (by omega) (by omega) (by omega), cl_some, m_rc, t2, cl_some]
    unfold mf_X2_takesNumber
    rw [m_rc, hh, cl_some]
    by_cases z : cR p s.1 = c
    · rw [if_pos (congrArg zI z)]
      rw [decide_eq_true z] at j14; exact j14
    · rw [if_neg (by rw [zI_inj (by omega) (by omega) (by omega) (by omega)]; exact z)]
      rw [decide_eq_false z] at j14; exact j14
  rw [head]
  by_cases q : (stS p c s).2 = true ∧ 48 + l ≤ cR p (stS p c s).1 ∧ cR p (stS p c s).1 ≤ 57
  · have q' : (stS p c s).2 = true ∧ decide (l ≤ cR p (stS p c s).1 - 48 ∧ cR p (stS p c s).1 - 48 ≤ 9) = true := ⟨q.1, decide_eq_true ⟨by omega, by omega⟩⟩
    rw [if_pos q'] at R2
    have li : (stS p c s).1 ≤ 80 := by
      have := cR_in (p := p) (i := (stS p c s).1) rfl (by omega)
      have := P.2.2.1
      omega
    obtain ⟨ν3, s3, R3, t3⟩ := M_number_ok (h := h) hA P2 R2 li g0 g1 (by omega) q.2.2
    refine ⟨ν3, _, (s1.tr s2).tr s3, ?_, fun _ => rfl, t3⟩
    unfold stN; rw [if_pos q]; exact R3
  · have q' : ¬ ((stS p c s).2 = true ∧ decide (l ≤ cR p (stS p c s).1 - 48 ∧ cR p (stS p c s).1 - 48 ≤ 9) = true) := fun z => q ⟨z.1, by have := of_decide_eq_true z.2; omega, by have := of_decide_eq_true z.2; omega⟩
    rw [if_neg q'] at R2
    obtain ⟨f, hf⟩ : ∃ f, xk_fu = f + 1 := ⟨999, rfl⟩
    refine ⟨ν2, cR p (stS p c s).1 - 48, s1.tr s2, (by unfold stN; rw [if_neg q]; exact R2), (fun z => (by unfold stN at z; rw [if_neg q] at z; cases z)), ?_⟩
    rw [hf]
    unfold mf_X2_takesNumber_L38
    rw [m_gI (by decide), R2.2]
    exact if_pos rfl
end
