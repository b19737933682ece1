/-! PURE LAW: the reference's whole state; copies, records -/
set_option maxRecDepth 10000
/-- μ stands for the yard y, the states hs (the oldest first), the snapshot kp, the pad pd -/
def MH (μ : MD) (y : YD) (hs : List YD) (kp : Option YD) (pd : List Int) : Prop :=
  MY (μ.2 0) y ∧ μ.1 3 = zI hs.length ∧ (∀ i d, hs[i]? = some d → MY (fun j => μ.2 2 (110 * i + j)) d) ∧ μ.1 5 = zI (if kp.isSome = true then 1 else 0) ∧ (∀ d, kp = some d → MY (μ.2 4) d) ∧ μ.1 7 = zI pd.length ∧ ∀ i x, pd[i]? = some x → μ.2 6 i = zI x
theorem MY.congr {s t : Nat → Int32} {y : YD} (hY : MY s y) (hn : yn y ≤ 12) (e : ∀ j, j < 110 → t j = s j) : MY t y := by
  refine ⟨(e 0 (by decide)).trans hY.1, (e 1 (by decide)).trans hY.2.1, fun c hc => ?_⟩
  obtain ⟨a0, a1, a2, a3, a4, a5⟩ := hY.2.2 c hc
  exact ⟨(e _ (by omega)).trans a0, (e _ (by omega)).trans a1, (e _ (by omega)).trans a2, fun p hp => (e _ (by omega)).trans (a3 p hp), (e _ (by omega)).trans a4, (e _ (by omega)).trans a5⟩
/-- 110 cells laid into the array of field q, from b on -/
def uC (μ : MD) (q b : Nat) (F : Nat → Int32) : MD := (μ.1, fun r j => if r = q ∧ b ≤ j ∧ j < b + 110 then F (j - b) else μ.2 r j)
theorem uC_in {μ : MD} {q b j : Nat} {F : Nat → Int32} (h : j < 110) : (uC μ q b F).2 q (b + j) = F j := by
  show (if _ then _ else _) = _
  rw [if_pos ⟨rfl, by omega, by omega⟩, Nat.add_sub_cancel_left]
theorem uC_ne {μ : MD} {q r b : Nat} {F : Nat → Int32} (h : r ≠ q) : (uC μ q b F).2 r = μ.2 r := by
  funext j
  show (if _ then _ else _) = _
  rw [if_neg fun z => h z.1]
theorem uC_out {μ : MD} {q b j : Nat} {F : Nat → Int32} (h : j < b ∨ b + 110 ≤ j) : (uC μ q b F).2 q j = μ.2 q j := by
  show (if _ then _ else _) = _
  rw [if_neg fun z => by omega]
/-- the same while it is done: from b + k on -/
def uP (μ : MD) (r q a b k : Nat) : MD := (μ.1, fun r' j => if r' = q ∧ b + k ≤ j ∧ j < b + 110 then μ.2 r (a + (j - b)) else μ.2 r' j)
/-- the oldest state thrown away, from k on -/
def uT (μ : MD) (k : Nat) : MD := (μ.1, fun r j => if r = 2 ∧ k ≤ j ∧ j < 330 then μ.2 2 (j + 110) else μ.2 r j)
theorem uT_2 (μ : MD) (k r j : Nat) : (uT μ k).2 r j = if r = 2 ∧ k ≤ j ∧ j < 330 then μ.2 2 (j + 110) else μ.2 r j := rfl
theorem uT_ne {μ : MD} {k r : Nat} (h : r ≠ 2) : (uT μ k).2 r = μ.2 r := by
  funext j
  rw [uT_2, if_neg fun z => h z.1]
theorem uS_2 (μ : MD) (k : Nat) (x : Int32) : (uS μ k x).2 = μ.2 := rfl
theorem uS_at (μ : MD) (k : Nat) (x : Int32) : (uS μ k x).1 k = x := by
  show (if k = k then x else μ.1 k) = x
  rw [if_pos rfl]
theorem uS_ne {μ : MD} {k i : Nat} {x : Int32} (h : i ≠ k) : (uS μ k x).1 i = μ.1 i := by
  show (if i = k then x else μ.1 i) = μ.1 i
  rw [if_neg h]
/-- the states once one more is recorded -/
def hrec (hs : List YD) (y : YD) : List YD := (if hs.length = 4 then hs.tail else hs) ++ [y]
section
variable {A : Nat → Nat} {h : xk_H} {y : YD}
theorem M_copies_L3 (hA : AOk A) {r q a b : Nat} (hr : r ∈ aRs) (hq : q ∈ aRs) (ne : r ≠ q) (ha : a + 110 ≤ aSz r) (hb : b + 110 ≤ aSz q) (ha2 : a ≤ 1000) (hb2 : b ≤ 1000) : ∀ (m k f : Nat) (μ : MD), k + m = 110 → m < f → mf_X2_copies_L3 (some (A r)) (zI a) (some (A q)) (zI b) f (zI k) (mk A μ h) = some ((), mk A (uP μ r q a b k) h)
  | m, k, 0, μ, _, hf => absurd hf (Nat.not_lt_zero _)
  | 0, k, f + 1, μ, hk, hf => by
    unfold mf_X2_copies_L3
    simp (disch := first | assumption | decide | omega | (simp only [aSz]; omega)) only [zI_lit, zI_add, zI_sub, zI_mul, zI_neg, b2_0z, cl_some, zI_le]
    rw [if_pos (by omega)]
    rw [show uP μ r q a b k = μ from Prod.ext rfl (funext fun r' => funext fun j => if_neg (by omega))]
  | m + 1, k, f + 1, μ, hk, hf => by
    have ih := M_copies_L3 hA hr hq ne ha hb ha2 hb2 m (k + 1) f (uA μ q (b + k) (μ.2 r (a + k))) (by omega) (by omega)
    unfold mf_X2_copies_L3
    simp (disch := first | assumption | decide | omega | (simp only [aSz]; omega)) only [zI_lit, zI_add, zI_sub, zI_mul, zI_neg, b2_0z, cl_some, zI_le, m_lI hA, m_sV hA]
    rw [if_neg (by omega), show ((a : Int) + k).toNat = a + k by omega, show ((b : Int) + k).toNat = b + k by omega]
    refine ih.trans ?_
    rw [show uP (uA μ q (b + k) (μ.2 r (a + k))) r q a b (k + 1) = uP μ r q a b k from ?_]
    refine Prod.ext rfl (funext fun r' => funext fun j => ?_)
    unfold uP
    rw [uA_ne (b + k) _ ne]
    show (if _ then _ else (if r' = q then (if j = b + k then _ else μ.2 q j) else μ.2 r' j)) = (if _ then _ else _)
    by_cases e : r' = q
    · subst e
      by_cases e2 : j = b + k
      · subst e2
        rw [if_neg (by omega), if_pos rfl, if_pos rfl, if_pos ⟨rfl, by omega, by omega⟩]
        exact congrArg (μ.2 r) (by omega)
      · rw [if_pos rfl, if_neg e2]
        by_cases e3 : b + k ≤ j ∧ j < b + 110
        · rw [if_pos ⟨rfl, by omega, by omega⟩, if_pos ⟨rfl, e3⟩]
        · rw [if_neg (by omega), if_neg (by omega)]
    · rw [if_neg fun z => e z.1, if_neg e, if_neg fun z => e z.1]
theorem M_copies (hA : AOk A) {r q a b : Nat} (hr : r ∈ aRs) (hq : q ∈ aRs) (ne : r ≠ q) (ha : a + 110 ≤ aSz r) (hb : b + 110 ≤ aSz q) (ha2 : a ≤ 1000) (hb2 : b ≤ 1000) (μ : MD) : mf_X2_copies (some (A r)) (zI a) (some (A q)) (zI b) (mk A μ h) = some ((), mk A (uC μ q b fun j => μ.2 r (a + j)) h) :=
  (M_copies_L3 (h := h) hA hr hq ne ha hb ha2 hb2 110 0 xk_fu μ (by omega) (fu_lt (by omega)) : _)
theorem M_records_J48 (hA : AOk A) {μ : MD} {hs : List YD} {kp : Option YD} {pd : List Int} (H : MH μ y hs kp pd) (hn : yn y ≤ 12) (hl : hs.length < 4) (hh : ∀ d ∈ hs, yn d ≤ 12) : ∃ ν : MD, MH ν y (hs ++ [y]) kp pd ∧ (∀ r, r ≠ 2 → ν.2 r = μ.2 r) ∧ (∀ k, k ≠ 3 → ν.1 k = μ.1 k) ∧ mf_X2_records_J48 (some (A 3)) (mk A μ h) = some ((), mk A ν h) := by
  obtain ⟨h0, h1, h2, h3, h4, h5, h6⟩ := H
  refine ⟨uS (uC μ 2 (110 * hs.length) fun j => μ.2 0 (0 + j)) 3 (zI hs.length + zI 1), ⟨?_, ?_, fun i d e => ?_, ?_, ?_, ?_, ?_⟩, fun r hr => (congrFun (uS_2 (uC μ 2 (110 * hs.length) fun j => μ.2 0 (0 + j)) 3 (zI hs.length + zI 1)) r).trans (uC_ne hr), fun k hk => (uS_ne (x := zI hs.length + zI 1) hk).trans rfl, ?_⟩
  · show MY ((uC μ 2 (110 * hs.length) fun j => μ.2 0 (0 + j)).2 0) y
    rw [uC_ne (by decide)]; exact h0
  · rw [uS_at, zI_add, List.length_append]; rfl
  · show MY (fun j => (uC μ 2 (110 * hs.length) fun j => μ.2 0 (0 + j)).2 2 (110 * i + j)) d
    by_cases q : i < hs.length
    · rw [List.getElem?_append_left q] at e
      refine (h2 i d e).congr (hh d (List.mem_of_getElem? e)) fun j hj => ?_
      exact uC_out (Or.inl (by omega))
    · have q2 : i = hs.length := by
        have := (List.getElem?_eq_some_iff.1 e).1
        rw [List.length_append, List.length_singleton] at this; omega
      subst q2
      rw [List.getElem?_append_right (Nat.le_refl _), Nat.sub_self] at e
      cases e
      refine h0.congr hn fun j hj => ?_
      exact (uC_in hj).trans (by rw [Nat.zero_add])
  · exact h3
  · intro d e
    show MY ((uC μ 2 (110 * hs.length) fun j => μ.2 0 (0 + j)).2 4) d
    rw [uC_ne (by decide)]; exact h4 d e
  · exact h5
  · intro i x e
    show (uC μ 2 (110 * hs.length) fun j => μ.2 0 (0 + j)).2 6 i = _
    rw [uC_ne (by decide)]; exact h6 i x e
  · have cp := M_copies (h := h) hA (r := 0) (q := 2) (a := 0) (b := 110 * hs.length) (by decide) (by decide) (by decide) (by decide) (by simp only [aSz]; omega) (by decide) (by omega) μ
    have e0 : (zI ((110 * hs.length : Nat) : Int)) = zI (110 * hs.length) := by congr 1
    rw [e0] at cp
    have cp : mf_X2_copies (some (A 0)) (zI 0) (some (A 2)) (zI (110 * hs.length)) (mk A μ h) = some ((), mk A (uC μ 2 (110 * hs.length) fun j => μ.2 0 (0 + j)) h) := cp
    have e1 : (uC μ 2 (110 * hs.length) fun j => μ.2 0 (0 + j)).1 3 = zI hs.length := h1
    unfold mf_X2_records_J48
    simp (disch := first | assumption | decide | omega | (simp only [aSz]; omega)) only [m_rc, m_gI, m_gR, h1, zI_lit, zI_mul, cp, cl_some, e1, m_pV hA]
theorem M_records_L10 (hA : AOk A) (kx : xk_H → Option (Unit × xk_H)) : ∀ (m k f : Nat) (μ : MD), k + m = 330 → m < f → mf_X2_records_L10 kx (some (A 3)) f (zI k) (mk A μ h) = kx (mk A (uT μ k) h)
  | m, k, 0, μ, _, hf => absurd hf (Nat.not_lt_zero _)
  | 0, k, f + 1, μ, hk, hf => by
    unfold mf_X2_records_L10
    simp (disch := first | assumption | decide | omega | (simp only [aSz]; omega)) only [zI_lit, zI_add, zI_sub, zI_mul, zI_neg, b2_0z, cl_some, zI_le]
    rw [if_pos (by omega)]
    rw [show uT μ k = μ from Prod.ext rfl (funext fun r' => funext fun j => if_neg (by omega))]
  | m + 1, k, f + 1, μ, hk, hf => by
    have ih := M_records_L10 hA kx m (k + 1) f (uA μ 2 k (μ.2 2 (k + 110))) (by omega) (by omega)
    unfold mf_X2_records_L10
    simp (disch := first | assumption | decide | omega | (simp only [aSz]; omega)) only [m_rc, m_gI, m_gR, zI_lit, zI_add, zI_sub, zI_mul, zI_neg, b2_0z, cl_some, zI_le, m_lI hA, m_sV hA, Int.toNat_natCast]
    rw [if_neg (by omega), show ((k : Int) + 110).toNat = k + 110 by omega]
    refine ih.trans ?_
    rw [show uT (uA μ 2 k (μ.2 2 (k + 110))) (k + 1) = uT μ k from ?_]
    refine Prod.ext rfl (funext fun r' => funext fun j => ?_)
    unfold uT
    rw [uA_at]
    show (if _ then (if j + 110 = k then _ else μ.2 2 (j + 110)) else (if r' = 2 then (if j = k then _ else μ.2 2 j) else μ.2 r' j)) = (if _ then _ else _)
    by_cases e : r' = 2
    · subst e
      by_cases e2 : j = k
      · subst e2
        rw [if_neg (by omega), if_pos rfl, if_pos rfl, if_pos ⟨rfl, by omega, by omega⟩]
      · rw [if_pos rfl, if_neg e2]
        by_cases e3 : k ≤ j ∧ j < 330
        · rw [if_pos ⟨rfl, by omega, by omega⟩, if_neg (by omega), if_pos ⟨rfl, e3⟩]
        · rw [if_neg (by omega), if_neg (by omega)]
    · rw [if_neg fun z => e z.1, if_neg e, if_neg fun z => e z.1]
theorem M_records (hA : AOk A) {μ : MD} {hs : List YD} {kp : Option YD} {pd : List Int} (H : MH μ y hs kp pd) (hn : yn y ≤ 12) (hl : hs.length ≤ 4) (hh : ∀ d ∈ hs, yn d ≤ 12) : ∃ ν : MD, MH ν y (hrec hs y) kp pd ∧ (∀ r, r ≠ 2 → ν.2 r = μ.2 r) ∧ (∀ k, k ≠ 3 → ν.1 k = μ.1 k) ∧ mf_X2_records (some (A 3)) (mk A μ h) = some ((), mk A ν h) := by
  have h1 := H.2.1
  unfold mf_X2_records hrec
  simp (disch := first | assumption | decide | omega | (simp only [aSz]; omega)) only [m_gI, zI_lit, h1, zI_inj]
  by_cases q : hs.length = 4
  · rw [if_pos q, if_pos (by omega)]
    obtain ⟨h0, h1, h2, h3, h4, h5, h6⟩ := H
    have sh := fun kx => M_records_L10 (h := h) hA kx 330 0 xk_fu μ (by omega) (fu_lt (by omega))
    have sh : ∀ kx, mf_X2_records_L10 kx (some (A 3)) xk_fu (zI 0) (mk A μ h) = kx (mk A (uT μ 0) h) := sh
    rw [sh]
    have tl : hs.tail.length = 3 := by rw [List.length_tail]; omega
    have H2 : MH (uS (uT μ 0) 3 (zI (hs.length - 1))) y hs.tail kp pd := by
      have r0 : (uT μ 0).2 0 = μ.2 0 := uT_ne (by decide)
      have r4 : (uT μ 0).2 4 = μ.2 4 := uT_ne (by decide)
      have r6 : (uT μ 0).2 6 = μ.2 6 := uT_ne (by decide)
      have s5 : (uS (uT μ 0) 3 (zI (hs.length - 1))).1 5 = μ.1 5 := uS_ne (by decide)
      have s7 : (uS (uT μ 0) 3 (zI (hs.length - 1))).1 7 = μ.1 7 := uS_ne (by decide)
      unfold MH
      rw [uS_2, r0, r4, r6, s5, s7, uS_at]
      refine ⟨h0, ?_, fun i d e => ?_, h3, h4, h5, h6⟩
      · rw [tl]; congr 1; omega
      · have il := (List.getElem?_eq_some_iff.1 e).1
        rw [List.getElem?_tail] at e
        refine (h2 (i + 1) d e).congr (hh d (List.mem_of_getElem? e)) fun j hj => ?_
        show (uT μ 0).2 2 (110 * i + j) = μ.2 2 (110 * (i + 1) + j)
        rw [uT_2, if_pos ⟨rfl, by omega, by omega⟩]
        exact congrArg (μ.2 2) (by omega)
    obtain ⟨ν, n1, n2, n3, n4⟩ := M_records_J48 (h := h) hA H2 hn (by omega) fun d m => hh d (List.mem_of_mem_tail m)
    refine ⟨ν, n1, fun r hr => (n2 r hr).trans ((congrFun (uS_2 _ _ _) r).trans (uT_ne hr)), fun k hk => (n3 k hk).trans (uS_ne hk), ?_⟩
    have e2 : (uT μ 0).1 3 = zI hs.length := h1
    simp (disch := first | assumption | decide | omega | (simp only [aSz]; omega)) only [m_gI, e2, zI_sub, m_pV hA]
    exact n4
  · rw [if_neg q, if_neg (by omega)]
    exact M_records_J48 (h := h) hA H hn (by omega) hh
end
