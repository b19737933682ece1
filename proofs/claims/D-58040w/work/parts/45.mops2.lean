/-! PURE LAW: breaking up, pad, states: what they answer, and the reference's -/
set_option maxRecDepth 10000
def oBreak (S : SD) (c : Int) : Int × SD := if 0 ≤ c ∧ c < yn S.1 then (if 0 < ywb S.1 c.toNat then (ywb S.1 c.toNat, sDo S (yRef S.1)) else (10 + (yn S.1 - 1 : Nat), sDo S (yBreak S.1 c.toNat))) else (-1, S)
def oAppend (S : SD) (x : Int) : Int × SD := if 33 ≤ x ∧ x ≤ 126 then (if S.2.2.2.length = 80 then (-3, S) else (S.2.2.2.length + 1, (S.1, S.2.1, S.2.2.1, S.2.2.2 ++ [x]))) else (-1, S)
def oClear (S : SD) : Int × SD := (S.2.2.2.length, (S.1, S.2.1, S.2.2.1, []))
def oUndo (S : SD) : Int × SD := match S.2.1.getLast? with
  | none => (-2, S)
  | some d => (S.2.1.length - 1, (d, S.2.1.dropLast, S.2.2))
def oSave (S : SD) : Int × SD := (yn S.1, (S.1, S.2.1, some S.1, S.2.2.2))
def oRestore (S : SD) : Int × SD := match S.2.2.1 with
  | none => (-2, S)
  | some d => (yn d, sDo S d)
/-- rows moved down by one crate, from k on -/
def uB (μ : MD) (k : Nat) : MD := (μ.1, fun r j => if r = 0 ∧ k ≤ j ∧ j < 110 then (if j + 9 < 110 then μ.2 0 (j + 9) else zI 0) else μ.2 r j)
theorem uB_2 (μ : MD) (k r j : Nat) : (uB μ k).2 r j = if r = 0 ∧ k ≤ j ∧ j < 110 then (if j + 9 < 110 then μ.2 0 (j + 9) else zI 0) else μ.2 r j := rfl
theorem uB_only {μ : MD} {k : Nat} : mOnly 0 μ (uB μ k) := ⟨rfl, fun r h => funext fun j => by rw [uB_2, if_neg fun z => h z.1]⟩
theorem break_top {y : YD} {c : Nat} (w : ¬ 0 < ywb y c) : yab y c = 0 ∧ (yp y c).length = 0 := by
  unfold ywb at w
  by_cases t : yab y c = 0
  · by_cases p : (yp y c).length = 0
    · exact ⟨t, p⟩
    · rw [if_neg (not_not_intro t), if_pos p] at w; omega
  · rw [if_pos t] at w; omega
section
variable {A : Nat → Nat} {h : xk_H} {S : SD}
theorem M_breakUp_L47 (hA : AOk A) (kx : xk_H → Option (Int32 × xk_H)) (z : Int32) : ∀ (m k f : Nat) (μ : MD), k + m = 110 → m < f → mf_X2_breakUp_L47 kx (some (A 3)) z f (zI k) (mk A μ h) = kx (mk A (uB μ k) h)
  | m, k, 0, μ, _, hf => absurd hf (Nat.not_lt_zero _)
  | 0, k, f + 1, μ, hk, hf => by
    unfold mf_X2_breakUp_L47
    simp (disch := first | assumption | decide | omega | (simp only [aSz]; omega)) only [zI_lit, zI_add, zI_sub, zI_mul, zI_neg, b2_0z, cl_some, zI_le]
    rw [if_pos (by omega)]
    rw [show uB μ k = μ from Prod.ext rfl (funext fun r' => funext fun j => if_neg (by omega))]
  | m + 1, k, f + 1, μ, hk, hf => by
    have st : ∀ v : Int32, v = (if k + 9 < 110 then μ.2 0 (k + 9) else zI 0) → mf_X2_breakUp_L47 kx (some (A 3)) z f (zI (k + 1 : Nat)) (mk A (uA μ 0 k v) h) = kx (mk A (uB μ k) h) := by
      intro v hv
      refine (M_breakUp_L47 hA kx z m (k + 1) f (uA μ 0 k v) (by omega) (by omega)).trans ?_
      rw [show uB (uA μ 0 k v) (k + 1) = uB μ k from ?_]
      refine Prod.ext rfl (funext fun r' => funext fun j => ?_)
      rw [uB_2, uB_2, uA_at]
      show (if _ then (if _ then (if j + 9 = k then _ else μ.2 0 (j + 9)) else _) else (if r' = 0 then (if j = k then _ else μ.2 0 j) else μ.2 r' j)) = (if _ then _ else _)
      by_cases e : r' = 0
      · subst e
        by_cases e2 : j = k
        · subst e2
          rw [if_neg (by omega), if_pos rfl, if_pos rfl, if_pos ⟨rfl, by omega, by omega⟩]; exact hv
        · rw [if_pos rfl, if_neg e2]
          by_cases e3 : k ≤ j ∧ j < 110
          · have n9 : ¬ j + 9 = k := by omega
            rw [if_pos (show 0 = 0 ∧ k + 1 ≤ j ∧ j < 110 from ⟨rfl, by omega, by omega⟩), if_neg n9, if_pos (show 0 = 0 ∧ k ≤ j ∧ j < 110 from ⟨rfl, e3⟩)]
          · rw [if_neg (by omega), if_neg (by omega)]
      · rw [if_neg fun z => e z.1, if_neg e, if_neg fun z => e z.1]
    unfold mf_X2_breakUp_L47
    simp (disch := first | assumption | decide | omega | (simp only [aSz]; omega)) only [m_rc, m_gI, m_gR, zI_lit, zI_add, zI_sub, zI_mul, zI_neg, b2_0z, cl_some, zI_le, m_sV hA, Int.toNat_natCast]
    rw [if_neg (by omega)]
    by_cases q : k + 9 < 110
    · rw [if_neg (by omega)]
      simp (disch := first | assumption | decide | omega | (simp only [aSz]; omega)) only [m_rc, m_gI, m_gR, zI_lit, zI_add, zI_sub, zI_mul, zI_neg, b2_0z, cl_some, m_lI hA, m_sV hA, Int.toNat_natCast]
      rw [show ((k : Int) + 9).toNat = k + 9 by omega]
      exact st _ (by rw [if_pos q])
    · rw [if_pos (by omega)]
      exact st _ (by rw [if_neg q])
theorem M_breakUp_L89 (hA : AOk A) (kx : xk_H → Option (Int32 × xk_H)) {c n : Nat} (hc : c < 12) (hn : n ≤ 12) : ∀ (m k f : Nat) (μ : MD) (H : Nat → Int), μ.2 0 0 = zI n → (∀ d, d < n → μ.2 0 (2 + 9 * d + 7) = zI (H d + 1) ∧ -1 ≤ H d ∧ H d ≤ 100) → k + m = n → m < f → ∃ ν : MD, mOnly 0 μ ν ∧ (∀ d, k ≤ d → d < n → ν.2 0 (2 + 9 * d + 7) = zI (dnH c (H d) + 1)) ∧ (∀ j, (∀ d, k ≤ d → d < n → j ≠ 2 + 9 * d + 7) → ν.2 0 j = μ.2 0 j) ∧ mf_X2_breakUp_L89 kx (some (A 3)) (zI c) f (zI k) (mk A μ h) = kx (mk A ν h)
  | m, k, 0, μ, H, _, _, _, hf => absurd hf (Nat.not_lt_zero _)
  | 0, k, f + 1, μ, H, h0, hH, hk, hf => by
    refine ⟨μ, mOnly.rf, fun d h1 h2 => by omega, fun j _ => rfl, ?_⟩
    unfold mf_X2_breakUp_L89
    simp (disch := first | assumption | decide | omega | (simp only [aSz]; omega)) only [m_rc, m_gI, m_gR, zI_lit, zI_add, zI_sub, zI_mul, zI_neg, b2_0z, cl_some, m_lI hA, zI_le, Int.toNat_zero, h0]
    rw [if_pos (by omega)]
  | m + 1, k, f + 1, μ, H, h0, hH, hk, hf => by
    obtain ⟨b1, b2, b3⟩ := hH k (by omega)
    have of7 : mf_X2_of (some (A 3)) (zI k) (zI 7) (mk A μ h) = some (zI (H k + 1), mk A μ h) := by
      have := M_of (μ := μ) (h := h) hA (c := k) (w := 7) (by omega)
      rw [b1] at this; exact this
    have k7 : zI (7 : Int) = zI ((7 : Nat) : Int) := rfl
    have st : ∀ v : Int, v = dnH c (H k) + 1 → ∃ ν : MD, mOnly 0 μ ν ∧ (∀ d, k ≤ d → d < n → ν.2 0 (2 + 9 * d + 7) = zI (dnH c (H d) + 1)) ∧ (∀ j, (∀ d, k ≤ d → d < n → j ≠ 2 + 9 * d + 7) → ν.2 0 j = μ.2 0 j) ∧ mf_X2_breakUp_L89 kx (some (A 3)) (zI c) f (zI (k + 1 : Nat)) (mk A (uA μ 0 (2 + 9 * k + 7) (zI v)) h) = kx (mk A ν h) := by
      intro v hv
      have hv2 : -1 ≤ v - 1 ∧ v - 1 ≤ 100 := by
        rw [hv]; unfold dnH; split <;> omega
      obtain ⟨ν, n1, n2, n3, n4⟩ := M_breakUp_L89 hA kx hc hn m (k + 1) f (uA μ 0 (2 + 9 * k + 7) (zI v)) (fun d => if d = k then v - 1 else H d) (by rw [uA_at]; exact (if_neg (by omega)).trans h0) (fun d hd => by
        rw [uA_at]
        show (if 2 + 9 * d + 7 = 2 + 9 * k + 7 then zI v else _) = zI ((if d = k then v - 1 else H d) + 1) ∧ -1 ≤ (if d = k then v - 1 else H d) ∧ (if d = k then v - 1 else H d) ≤ 100
        by_cases q : d = k
        · subst q; rw [if_pos rfl, if_pos rfl, Int.sub_add_cancel]; exact ⟨rfl, hv2⟩
        · rw [if_neg (by omega), if_neg q]; exact hH d hd) (by omega) (by omega)
      refine ⟨ν, mOnly.u.tr n1, fun d h1 h2 => ?_, fun j hj => ?_, n4⟩
      · by_cases q : d = k
        · subst q
          rw [n3 _ fun e h3 h4 => by omega, uA_at, ← hv]; exact if_pos rfl
        · have := n2 d (by omega) h2
          rw [if_neg q] at this; exact this
      · rw [n3 j fun d h1 h2 => hj d (by omega) h2, uA_at]
        exact if_neg (hj k (Nat.le_refl _) (by omega))
    unfold mf_X2_breakUp_L89 mf_X2_breakUp_J135
    simp (disch := first | assumption | decide | omega | (simp only [aSz]; omega)) only [m_rc, m_gI, m_gR, zI_lit, zI_add, zI_sub, zI_mul, zI_neg, b2_0z, cl_some, m_lI hA, zI_le, Int.toNat_zero, h0, of7, lays3 hA (show k < 12 by omega) (show 7 < 9 by decide) _ _ k7]
    rw [if_neg (by omega)]
    by_cases q : H k + 1 ≤ (c : Int) + 1
    · rw [if_pos q]
      exact st _ (by unfold dnH; rw [if_neg (by omega)])
    · rw [if_neg q]
      exact st _ (by unfold dnH; rw [if_pos (by omega)]; omega)
theorem M_breakUp (hA : AOk A) {μ : MD} (H : MS μ S) (K : SOk S) {c : Int} (c1 : -2147483648 ≤ c) (c2 : c ≤ 2147483647) : ∃ ν : MD, MS ν (oBreak S c).2 ∧ mf_X2_breakUp (some (A 3)) (zI c) (mk A μ h) = some (zI (oBreak S c).1, mk A ν h) := by
  have hn := K.1.n
  unfold mf_X2_breakUp oBreak
  simp (disch := first | assumption | decide | omega | (simp only [aSz]; omega)) only [m_rc, m_gI, m_gR, zI_lit, zI_add, zI_sub, zI_mul, zI_neg, b2_0z, cl_some, M_isCrate hA H.1 K.1, decide_eq_false_iff_not]
  by_cases q : 0 ≤ c ∧ c < yn S.1
  · obtain ⟨c, rfl⟩ : ∃ e : Nat, c = e := ⟨c.toNat, by omega⟩
    have hc : c < yn S.1 := by omega
    rw [if_neg (not_not_intro q), if_pos q]
    obtain ⟨ν, n1, n2, n3, n4⟩ := MS_rec (h := h) hA H K
    have hb := ywb_bd (y := S.1) (c := c)
    simp (disch := first | assumption | decide | omega | (simp only [aSz]; omega)) only [m_rc, m_gI, m_gR, zI_lit, zI_add, zI_sub, zI_mul, zI_neg, b2_0z, cl_some, n4, M_reasonBreak hA n1.1 K.1, zI_le, Int.toNat_natCast]
    by_cases q3 : 0 < ywb S.1 c
    · rw [if_pos q3, if_neg (by omega)]
      refine ⟨_, MH.refused n1, ?_⟩
      simp only [m_rc, m_gI, m_gR, zI_lit, zI_add, zI_sub, zI_mul, zI_neg, b2_0z, cl_some, M_refuses hA n1.1]
    · rw [if_neg q3, if_pos (by omega)]
      obtain ⟨tp, pl⟩ := break_top q3
      have B := break_ok K.1 hc tp pl
      have hL := lift_ok K.1 hc tp
      obtain ⟨r0, r1, rr⟩ := n1.1
      have em : ((yn S.1 : Nat) : Int) - 1 = ((yn S.1 - 1 : Nat) : Int) := by omega
      have rowsB : ∀ j, 2 ≤ j → j < 110 → (uB (uA ν 0 0 (zI (yn S.1 - 1 : Nat))) (2 + 9 * c)).2 0 j = if 2 + 9 * c ≤ j then (if j + 9 < 110 then ν.2 0 (j + 9) else zI 0) else ν.2 0 j := by
        intro j h1 h2
        rw [uB_2, uA_at]
        show (if _ then (if _ then (if j + 9 = 0 then _ else ν.2 0 (j + 9)) else _) else (if j = 0 then _ else ν.2 0 j)) = _
        by_cases e : 2 + 9 * c ≤ j
        · rw [if_pos ⟨rfl, e, h2⟩, if_pos e, if_neg (show ¬ j + 9 = 0 by omega)]
        · rw [if_neg (fun z => e z.2.1), if_neg e, if_neg (show ¬ j = 0 by omega)]
      have cell : ∀ j w, j < yn S.1 - 1 → w < 9 → (uB (uA ν 0 0 (zI (yn S.1 - 1 : Nat))) (2 + 9 * c)).2 0 (2 + 9 * j + w) = ν.2 0 (2 + 9 * up c j + w) := by
        intro j w h1 h2
        rw [rowsB _ (by omega) (by omega)]
        unfold up
        by_cases e : j < c
        · rw [if_neg (by omega), if_pos e]
        · rw [if_pos (by omega), if_pos (by omega), if_neg e]
          exact congrArg (ν.2 0) (by omega)
      have b0 : (uB (uA ν 0 0 (zI (yn S.1 - 1 : Nat))) (2 + 9 * c)).2 0 0 = zI (yn S.1 - 1 : Nat) := by
        rw [uB_2, if_neg (by omega), uA_at]; exact if_pos rfl
      have b1 : (uB (uA ν 0 0 (zI (yn S.1 - 1 : Nat))) (2 + 9 * c)).2 0 1 = zI (yr S.1) := by
        rw [uB_2, if_neg (by omega), uA_at]; exact (if_neg (by omega)).trans r1
      have e89 := M_breakUp_L89 (h := h) hA (fun h26 => xm_gR [2] 0 (some (A 3)) h26 fun x27 => xm_lI [100] x27 (zI 0) h26 fun x28 => some (zI 10 + x28, h26)) (c := c) (n := yn S.1 - 1) (by omega) (by omega) (yn S.1 - 1) 0 xk_fu (uB (uA ν 0 0 (zI (yn S.1 - 1 : Nat))) (2 + 9 * c)) (fun j => yf S.1 3 (up c j)) b0 (fun d hd => by
        have hu := up_lt (c := c) hd
        have hH := K.1.ho hu
        refine ⟨?_, hH.1, by omega⟩
        rw [cell d 7 hd (by decide)]; exact (rr _ hu).2.2.2.2.1) (by omega) (fu_lt (by omega))
      obtain ⟨ξ, x1, x2, x3, x4⟩ := e89
      have keep : ∀ j w, j < yn S.1 - 1 → w < 9 → w ≠ 7 → ξ.2 0 (2 + 9 * j + w) = ν.2 0 (2 + 9 * up c j + w) := fun j w h1 h2 h3 => (x3 _ fun d _ _ => by omega).trans (cell j w h1 h2)
      have hY3 : MY (ξ.2 0) (yBreak S.1 c) := by
        refine ⟨(x3 0 fun d _ _ => by omega).trans b0, (x3 1 fun d _ _ => by omega).trans b1, fun j hj => ?_⟩
        have hj : j < yn S.1 - 1 := hj
        have hu := up_lt (c := c) hj
        obtain ⟨a0, a1, a2, a3, a4, a5⟩ := rr _ hu
        refine ⟨?_, ?_, ?_, fun p hp => ?_, ?_, ?_⟩
        · rw [break_f0 (by decide)]; exact (keep j 0 hj (by decide) (by decide)).trans a0
        · rw [break_f0 (by decide)]; exact (keep j 1 hj (by decide) (by decide)).trans a1
        · rw [break_f0 (by decide)]; exact (keep j 2 hj (by decide) (by decide)).trans a2
        · have := keep j (3 + p) hj (by omega) (by omega)
          rw [← Nat.add_assoc, ← Nat.add_assoc] at this
          exact this.trans (a3 p hp)
        · rw [x2 j (by omega) hj, break_f, if_pos rfl, lift_f, if_neg fun z => up_ne c j z.2]
        · rw [break_place K.1 hc tp pl hj]; exact (keep j 8 hj (by decide) (by decide)).trans a5
      refine ⟨ξ, n1.row ((mOnly.u.tr uB_only).tr x1) hY3, ?_⟩
      have e0 : ν.2 0 (0 : Int).toNat = zI (yn S.1) := r0
      have e47 : zI (2 + 9 * (c : Int)) = zI ((2 + 9 * c : Nat) : Int) := by congr 1
      simp (disch := first | assumption | decide | omega | (simp only [aSz]; omega)) only [m_rc, m_gI, m_gR, zI_lit, zI_add, zI_sub, zI_mul, zI_neg, b2_0z, cl_some, m_lI hA, m_sV hA, e0, em]
      rw [e47, M_breakUp_L47 hA _ _ (110 - (2 + 9 * c)) (2 + 9 * c) xk_fu _ (by omega) (fu_lt (by omega))]
      refine x4.trans ?_
      have e9 : ξ.2 0 (0 : Int).toNat = zI (yn S.1 - 1 : Nat) := hY3.1
      simp (disch := first | assumption | decide | omega | (simp only [aSz]; omega)) only [m_rc, m_gI, m_gR, zI_lit, zI_add, zI_sub, zI_mul, zI_neg, b2_0z, cl_some, m_lI hA, e9]
  · rw [if_pos q, if_neg q]
    exact ⟨μ, H, rfl⟩
end
