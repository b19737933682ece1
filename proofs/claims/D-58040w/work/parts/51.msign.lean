/-! PURE LAW: the reference's sign -/
set_option maxRecDepth 10000
theorem mScr.MH {μ ν : MD} {y : YD} {hs : List YD} {kp : Option YD} {pd : List Int} (s : mScr μ ν) (H : MH μ y hs kp pd) : MH ν y hs kp pd := by
  obtain ⟨h0, h1, h2, h3, h4, h5, h6⟩ := H
  unfold Jvm.Pilot.CSlatCratesLaw_law_r5334_25f272.MH
  rw [s.1 0 (by decide) (by decide) (by decide), s.1 2 (by decide) (by decide) (by decide), s.1 4 (by decide) (by decide) (by decide), s.1 6 (by decide) (by decide) (by decide), s.2 3 (by decide), s.2 5 (by decide), s.2 7 (by decide)]
  exact ⟨h0, h1, h2, h3, h4, h5, h6⟩
section
variable {A : Nat → Nat} {h : xk_H} {y : YD}
theorem M_sign (hA : AOk A) {μ : MD} (hY : MY (μ.2 0) y) (O : YOk y) {c p : Int} (c1 : -2147483648 ≤ c) (c2 : c ≤ 2147483647) (p1 : -2147483648 ≤ p) (p2 : p ≤ 2147483647) : ∃ ν : MD, mScr μ ν ∧ mf_X2_sign (some (A 3)) (zI c) (zI p) (mk A μ h) = some (zI (qsign y c p), mk A ν h) := by
  have hn := O.n
  unfold mf_X2_sign qsign
  simp (disch := first | assumption | decide | omega | (simp only [aSz]; omega)) only [m_rc, m_gI, m_gR, zI_lit, zI_add, zI_sub, zI_mul, zI_neg, b2_0z, cl_some, M_isCrate hA hY O, decide_eq_false_iff_not, zI_le]
  by_cases q : 0 ≤ c ∧ c < yn y
  · obtain ⟨d, rfl⟩ : ∃ d : Nat, c = d := ⟨c.toNat, by omega⟩
    rw [if_neg (not_not_intro q), if_pos q]
    by_cases q2 : 0 ≤ p
    · obtain ⟨p, rfl⟩ : ∃ d : Nat, p = d := ⟨p.toNat, by omega⟩
      rw [if_pos q2, if_pos q2]
      obtain ⟨ν, a1, a2, a3, a4⟩ := M_writesNest (h := h) hA hY O (c := d) (by omega)
      have tl := ytx_len O (c := d) (by omega)
      refine ⟨ν, a1, ?_⟩
      simp (disch := first | assumption | decide | omega | (simp only [aSz]; omega)) only [m_rc, m_gI, m_gR, zI_lit, zI_add, zI_sub, zI_mul, zI_neg, b2_0z, cl_some, a4, a2, zI_le, Int.toNat_natCast]
      by_cases q3 : (ytx y d).length ≤ p
      · rw [if_pos (by omega), List.getElem?_eq_none q3]; rfl
      · rw [if_neg (by omega)]
        have e := List.getElem?_eq_getElem (l := ytx y d) (i := p) (by omega)
        have := a3 p _ e
        rw [e]
        simp (disch := first | assumption | decide | omega | (simp only [aSz]; omega)) only [m_rc, m_gI, m_gR, zI_lit, zI_add, zI_sub, zI_mul, zI_neg, b2_0z, cl_some, m_lI hA, Int.toNat_natCast, this]; rfl
    · rw [if_neg q2, if_neg q2]
      exact ⟨μ, mScr.rf, rfl⟩
  · rw [if_pos q, if_neg q]
    exact ⟨μ, mScr.rf, rfl⟩
end
