/-! PURE LAW: the reference's pad, undo, save, restore -/
set_option maxRecDepth 10000
section
variable {A : Nat → Nat} {h : xk_H} {S : SD}
theorem M_append (hA : AOk A) {μ : MD} (H : MS μ S) (K : SOk S) {x : Int} (x1 : -2147483648 ≤ x) (x2 : x ≤ 2147483647) : ∃ ν : MD, MS ν (oAppend S x).2 ∧ mf_X2_append (some (A 3)) (zI x) (mk A μ h) = some (zI (oAppend S x).1, mk A ν h) := by
  obtain ⟨h0, h1, h2, h3, h4, h5, h6⟩ := H
  have hl := K.2.2.2.2.1
  unfold mf_X2_append oAppend
  simp (disch := first | assumption | decide | omega | (simp only [aSz]; omega)) only [m_rc, m_gI, m_gR, zI_lit, zI_add, zI_sub, zI_mul, zI_neg, b2_0z, cl_some, M_in, decide_eq_false_iff_not]
  by_cases q : 33 ≤ x ∧ x ≤ 126
  · rw [if_neg (not_not_intro q), if_pos q]
    simp (disch := first | assumption | decide | omega | (simp only [aSz]; omega)) only [m_rc, m_gI, m_gR, zI_lit, zI_add, zI_sub, zI_mul, zI_neg, b2_0z, cl_some, h5, zI_inj]
    by_cases q2 : S.2.2.2.length = 80
    · rw [if_pos q2, if_pos (by omega)]
      exact ⟨μ, ⟨h0, h1, h2, h3, h4, h5, h6⟩, rfl⟩
    · rw [if_neg q2, if_neg (by omega)]
      have e7 : (uA μ 6 S.2.2.2.length (zI x)).1 7 = zI S.2.2.2.length := h5
      simp (disch := first | assumption | decide | omega | (simp only [aSz]; omega)) only [m_rc, m_gI, m_gR, zI_lit, zI_add, zI_sub, zI_mul, zI_neg, b2_0z, cl_some, m_sV hA, Int.toNat_natCast, e7, m_pV hA, uS_at]
      refine ⟨_, ⟨?_, ?_, ?_, ?_, ?_, ?_, ?_⟩, rfl⟩
      · rw [uS_2, uA_ne _ _ (by decide)]; exact h0
      · rw [uS_ne (by decide)]; exact h1
      · rw [uS_2, uA_ne _ _ (by decide)]; exact h2
      · rw [uS_ne (by decide)]; exact h3
      · rw [uS_2, uA_ne _ _ (by decide)]; exact h4
      · rw [uS_at, List.length_append]; rfl
      · intro i v e
        rw [uS_2, uA_at]
        show (if _ then _ else _) = _
        have il := (List.getElem?_eq_some_iff.1 e).1
        rw [List.length_append, List.length_singleton] at il
        by_cases q3 : i = S.2.2.2.length
        · subst q3
          rw [List.getElem?_append_right (Nat.le_refl _), Nat.sub_self] at e
          cases e
          rw [if_pos rfl]
        · rw [List.getElem?_append_left (by omega)] at e
          rw [if_neg q3]; exact h6 i v e
  · rw [if_pos q, if_neg q]
    exact ⟨μ, ⟨h0, h1, h2, h3, h4, h5, h6⟩, rfl⟩
theorem M_clear (hA : AOk A) {μ : MD} (H : MS μ S) : ∃ ν : MD, MS ν (oClear S).2 ∧ mf_X2_clear (some (A 3)) (mk A μ h) = some (zI (oClear S).1, mk A ν h) := by
  obtain ⟨h0, h1, h2, h3, h4, h5, h6⟩ := H
  unfold mf_X2_clear oClear
  simp (disch := first | assumption | decide | omega | (simp only [aSz]; omega)) only [m_rc, m_gI, m_gR, zI_lit, zI_add, zI_sub, zI_mul, zI_neg, b2_0z, cl_some, h5, m_pV hA]
  refine ⟨_, ⟨?_, ?_, ?_, ?_, ?_, ?_, ?_⟩, rfl⟩
  · exact h0
  · rw [uS_ne (by decide)]; exact h1
  · exact h2
  · rw [uS_ne (by decide)]; exact h3
  · exact h4
  · rw [uS_at]; rfl
  · intro i v e
    cases e
theorem getLast_get {l : List YD} {d : YD} (e : l.getLast? = some d) : l[l.length - 1]? = some d ∧ 0 < l.length := by
  rw [List.getLast?_eq_getElem?] at e
  have := (List.getElem?_eq_some_iff.1 e).1
  exact ⟨e, by omega⟩
theorem M_undo (hA : AOk A) {μ : MD} (H : MS μ S) (K : SOk S) : ∃ ν : MD, MS ν (oUndo S).2 ∧ mf_X2_undo (some (A 3)) (mk A μ h) = some (zI (oUndo S).1, mk A ν h) := by
  obtain ⟨h0, h1, h2, h3, h4, h5, h6⟩ := H
  have hl := K.2.1
  unfold mf_X2_undo oUndo
  simp (disch := first | assumption | decide | omega | (simp only [aSz]; omega)) only [m_rc, m_gI, m_gR, zI_lit, zI_add, zI_sub, zI_mul, zI_neg, b2_0z, cl_some, h1, zI_inj]
  cases e : S.2.1.getLast? with
  | none =>
    have : S.2.1 = [] := List.getLast?_eq_none_iff.1 e
    have l0 : (S.2.1.length : Int) = 0 := by rw [this]; rfl
    rw [if_pos l0]
    exact ⟨μ, ⟨h0, h1, h2, h3, h4, h5, h6⟩, rfl⟩
  | some d =>
    obtain ⟨g1, g2⟩ := getLast_get e
    rw [if_neg (by omega)]
    have e1 : ((S.2.1.length : Nat) : Int) - 1 = ((S.2.1.length - 1 : Nat) : Int) := by omega
    have cp := M_copies (h := h) hA (r := 2) (q := 0) (a := 110 * (S.2.1.length - 1)) (b := 0) (by decide) (by decide) (by decide) (by simp only [aSz]; omega) (by decide) (by omega) (by decide) (uS μ 3 (zI (S.2.1.length - 1 : Nat)))
    have e0 : zI ((110 * (S.2.1.length - 1) : Nat) : Int) = zI (110 * ((S.2.1.length - 1 : Nat) : Int)) := by congr 1
    rw [e0] at cp
    have cp : mf_X2_copies (some (A 2)) (zI (110 * ((S.2.1.length - 1 : Nat) : Int))) (some (A 0)) (zI 0) (mk A (uS μ 3 (zI (S.2.1.length - 1 : Nat))) h) = some ((), mk A (uC (uS μ 3 (zI (S.2.1.length - 1 : Nat))) 0 0 fun j => μ.2 2 (110 * (S.2.1.length - 1) + j)) h) := cp
    have e3 : (uC (uS μ 3 (zI (S.2.1.length - 1 : Nat))) 0 0 fun j => μ.2 2 (110 * (S.2.1.length - 1) + j)).1 3 = zI (S.2.1.length - 1 : Nat) := uS_at μ 3 (zI (S.2.1.length - 1 : Nat))
    simp (disch := first | assumption | decide | omega | (simp only [aSz]; omega)) only [m_rc, m_gI, m_gR, zI_lit, zI_add, zI_sub, zI_mul, zI_neg, b2_0z, cl_some, h1, e1, m_pV hA, uS_at, cp, e3]
    have od := K.2.2.1 d (List.mem_of_getElem? g1)
    refine ⟨_, ⟨?_, ?_, ?_, ?_, ?_, ?_, ?_⟩, rfl⟩
    · refine (h2 _ d g1).congr od.n fun j hj => ?_
      have := uC_in (μ := uS μ 3 (zI (S.2.1.length - 1 : Nat))) (q := 0) (b := 0) (F := fun j => μ.2 2 (110 * (S.2.1.length - 1) + j)) hj
      rw [Nat.zero_add] at this; exact this
    · rw [e3, List.length_dropLast]
    · rw [uC_ne (by decide)]
      intro i z hz
      refine h2 i z ?_
      rw [List.dropLast_eq_take, List.getElem?_take] at hz
      by_cases q : i < S.2.1.length - 1
      · rw [if_pos q] at hz; exact hz
      · rw [if_neg q] at hz; cases hz
    · exact (uS_ne (μ := μ) (x := zI (S.2.1.length - 1 : Nat)) (show (5 : Nat) ≠ 3 by decide)).trans h3
    · rw [uC_ne (by decide)]; exact h4
    · exact (uS_ne (μ := μ) (x := zI (S.2.1.length - 1 : Nat)) (show (7 : Nat) ≠ 3 by decide)).trans h5
    · rw [uC_ne (by decide)]; exact h6
theorem M_save (hA : AOk A) {μ : MD} (H : MS μ S) (K : SOk S) : ∃ ν : MD, MS ν (oSave S).2 ∧ mf_X2_save (some (A 3)) (mk A μ h) = some (zI (oSave S).1, mk A ν h) := by
  obtain ⟨h0, h1, h2, h3, h4, h5, h6⟩ := H
  have cp := M_copies (h := h) hA (r := 0) (q := 4) (a := 0) (b := 0) (by decide) (by decide) (by decide) (by decide) (by decide) (by decide) (by decide) μ
  have cp : mf_X2_copies (some (A 0)) (zI 0) (some (A 4)) (zI 0) (mk A μ h) = some ((), mk A (uC μ 4 0 fun j => μ.2 0 (0 + j)) h) := cp
  have r0 : (uS (uC μ 4 0 fun j => μ.2 0 (0 + j)) 5 (zI 1)).2 0 = μ.2 0 := by rw [uS_2, uC_ne (by decide)]
  have hY : MY ((uS (uC μ 4 0 fun j => μ.2 0 (0 + j)) 5 (zI 1)).2 0) S.1 := by rw [r0]; exact h0
  unfold mf_X2_save oSave
  simp (disch := first | assumption | decide | omega | (simp only [aSz]; omega)) only [m_rc, m_gI, m_gR, zI_lit, zI_add, zI_sub, zI_mul, zI_neg, b2_0z, cl_some, cp, m_pN hA (k := 5) (by decide) (Or.inr rfl), M_n hA hY]
  refine ⟨_, ⟨hY, ?_, ?_, ?_, ?_, ?_, ?_⟩, rfl⟩
  · rw [uS_ne (by decide)]; exact h1
  · rw [uS_2, uC_ne (by decide)]; exact h2
  · rw [uS_at]; rfl
  · intro d e
    cases e
    refine h0.congr K.1.n fun j hj => ?_
    have := uC_in (μ := μ) (q := 4) (b := 0) (F := fun j => μ.2 0 (0 + j)) hj
    rw [Nat.zero_add] at this; exact this
  · rw [uS_ne (by decide)]; exact h5
  · rw [uS_2, uC_ne (by decide)]; exact h6
theorem M_restore (hA : AOk A) {μ : MD} (H : MS μ S) (K : SOk S) : ∃ ν : MD, MS ν (oRestore S).2 ∧ mf_X2_restore (some (A 3)) (mk A μ h) = some (zI (oRestore S).1, mk A ν h) := by
  have H' := H
  obtain ⟨h0, h1, h2, h3, h4, h5, h6⟩ := H'
  unfold mf_X2_restore oRestore
  simp (disch := first | assumption | decide | omega | (simp only [aSz]; omega)) only [m_rc, m_gI, m_gR, zI_lit, zI_add, zI_sub, zI_mul, zI_neg, b2_0z, cl_some, h3]
  cases e : S.2.2.1 with
  | none =>
    rw [if_pos (by decide)]
    exact ⟨μ, H, rfl⟩
  | some d =>
    have ne : ¬ zI (if (some d).isSome = true then 1 else 0) = zI 0 := by
      rw [if_pos (show (some d).isSome = true from rfl)]; decide
    rw [if_neg ne]
    obtain ⟨ν, n1, n2, n3, n4⟩ := MS_rec (h := h) hA H K
    have od := K.2.2.2.1 d e
    have cp := M_copies (h := h) hA (r := 4) (q := 0) (a := 0) (b := 0) (by decide) (by decide) (by decide) (by decide) (by decide) (by decide) (by decide) ν
    have cp : mf_X2_copies (some (A 4)) (zI 0) (some (A 0)) (zI 0) (mk A ν h) = some ((), mk A (uC ν 0 0 fun j => ν.2 4 (0 + j)) h) := cp
    have hY : MY ((uC ν 0 0 fun j => ν.2 4 (0 + j)).2 0) d := by
      refine (n1.2.2.2.2.1 d e).congr od.n fun j hj => ?_
      have := uC_in (μ := ν) (q := 0) (b := 0) (F := fun j => ν.2 4 (0 + j)) hj
      rw [Nat.zero_add] at this; exact this
    simp (disch := first | assumption | decide | omega | (simp only [aSz]; omega)) only [m_rc, m_gI, m_gR, zI_lit, zI_add, zI_sub, zI_mul, zI_neg, b2_0z, cl_some, n4, cp, M_n hA hY]
    refine ⟨_, n1.row (ν := uC ν 0 0 fun j => ν.2 4 (0 + j)) ⟨rfl, fun r hr => uC_ne hr⟩ hY, rfl⟩
end
