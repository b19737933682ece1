/-! PURE LAW: the reference's deeds -/
set_option maxRecDepth 10000
/-- what one crate's cells are -/
def MRow (s : Nat → Int32) (y : YD) (c : Nat) : Prop := s (2 + 9 * c) = zI (yf y 0 c) ∧ s (2 + 9 * c + 1) = zI (yf y 1 c) ∧ s (2 + 9 * c + 2) = zI (yf y 2 c) ∧ (∀ p, p < 4 → s (2 + 9 * c + 3 + p) = zI (ylt y c p)) ∧ s (2 + 9 * c + 7) = zI (yf y 3 c + 1) ∧ s (2 + 9 * c + 8) = zI (ypl y c)
theorem MY_lift {s t : Nat → Int32} {y : YD} (hY : MY s y) (O : YOk y) {c : Nat} (hc : c < yn y) (tp : yab y c = 0) (h7 : t (2 + 9 * c + 7) = zI 0) (h8 : t (2 + 9 * c + 8) = zI 0) (ht : ∀ j, j ≠ 2 + 9 * c + 7 → j ≠ 2 + 9 * c + 8 → t j = s j) : MY t (yLift y c) := by
  refine ⟨(ht 0 (by omega) (by omega)).trans hY.1, (ht 1 (by omega) (by omega)).trans hY.2.1, fun d hd => ?_⟩
  have hd : d < yn y := hd
  obtain ⟨a0, a1, a2, a3, a4, a5⟩ := hY.2.2 d hd
  refine ⟨?_, ?_, ?_, fun p hp => ?_, ?_, ?_⟩
  · rw [ht _ (by omega) (by omega), lift_f0 (by decide)]; exact a0
  · rw [ht _ (by omega) (by omega), lift_f0 (by decide)]; exact a1
  · rw [ht _ (by omega) (by omega), lift_f0 (by decide)]; exact a2
  · rw [ht _ (by omega) (by omega)]; exact a3 p hp
  · by_cases q : d = c
    · subst q; rw [h7, lift_f, if_pos ⟨rfl, rfl⟩]; rfl
    · rw [ht _ (by omega) (by omega), lift_f, if_neg fun z => q z.2]; exact a4
  · rw [lift_place O hc tp hd]
    by_cases q : d = c
    · subst q; rw [h8, if_pos rfl]; rfl
    · rw [ht _ (by omega) (by omega), if_neg q]; exact a5
theorem MY_put {s t : Nat → Int32} {y : YD} (hY : MY s y) (O : YOk y) {c d : Nat} (hc : c < yn y) (hd : d < yn y) (tp : yab y c = 0) (h7 : t (2 + 9 * c + 7) = zI (d + 1)) (h8 : t (2 + 9 * c + 8) = zI (yp (yLift y c) d).length) (ht : ∀ j, j ≠ 2 + 9 * c + 7 → j ≠ 2 + 9 * c + 8 → t j = s j) : MY t (yPut y c d) := by
  refine ⟨(ht 0 (by omega) (by omega)).trans hY.1, (ht 1 (by omega) (by omega)).trans hY.2.1, fun e he => ?_⟩
  have he : e < yn y := he
  obtain ⟨a0, a1, a2, a3, a4, a5⟩ := hY.2.2 e he
  refine ⟨?_, ?_, ?_, fun p hp => ?_, ?_, ?_⟩
  · rw [ht _ (by omega) (by omega), put_f0 (by decide)]; exact a0
  · rw [ht _ (by omega) (by omega), put_f0 (by decide)]; exact a1
  · rw [ht _ (by omega) (by omega), put_f0 (by decide)]; exact a2
  · rw [ht _ (by omega) (by omega)]; exact a3 p hp
  · by_cases q : e = c
    · subst q; rw [h7, put_f, if_pos ⟨rfl, rfl⟩]
    · rw [ht _ (by omega) (by omega), put_f, if_neg fun z => q z.2, lift_f, if_neg fun z => q z.2]; exact a4
  · rw [put_place O hc hd tp he]
    by_cases q : e = c
    · subst q; rw [h8, if_pos rfl]
    · rw [ht _ (by omega) (by omega), if_neg q]; exact a5
section
variable {A : Nat → Nat} {h : xk_H} {y : YD}
theorem MH.row {μ ν : MD} {y z : YD} {hs : List YD} {kp : Option YD} {pd : List Int} (H : MH μ y hs kp pd) (o : mOnly 0 μ ν) (hY : MY (ν.2 0) z) : MH ν z hs kp pd := by
  obtain ⟨h0, h1, h2, h3, h4, h5, h6⟩ := H
  have r2 := o.2 2 (by decide)
  have r4 := o.2 4 (by decide)
  have r6 := o.2 6 (by decide)
  unfold MH
  rw [r2, r4, r6, o.1]
  exact ⟨hY, h1, h2, h3, h4, h5, h6⟩
theorem M_refuses (hA : AOk A) {μ : MD} (hY : MY (μ.2 0) y) (v : Int32) : mf_X2_refuses (some (A 3)) v (mk A μ h) = some (v, mk A (uA μ 0 1 (μ.2 0 1 + zI 1)) h) := by
  unfold mf_X2_refuses
  simp (disch := first | assumption | decide | omega | (simp only [aSz]; omega)) only [m_rc, m_gI, m_gR, zI_lit, zI_add, zI_sub, zI_mul, zI_neg, b2_0z, cl_some, m_lI hA, m_sV hA]
  rfl
theorem MH.refused {μ : MD} {hs : List YD} {kp : Option YD} {pd : List Int} (H : MH μ y hs kp pd) : MH (uA μ 0 1 (μ.2 0 1 + zI 1)) (yRef y) hs kp pd := by
  refine H.row mOnly.u ?_
  rw [uA_at]
  have e : (fun j => if j = 1 then μ.2 0 1 + zI 1 else μ.2 0 j) = fun j => if j = 1 then μ.2 0 j + zI 1 else μ.2 0 j := by
    funext j
    by_cases q : j = 1
    · subst q; rfl
    · rw [if_neg q, if_neg q]
  rw [e]; exact yRef_row H.1
/-- the pile's count where only holders are known -/
theorem M_pileW_L4 (hA : AOk A) {μ : MD} {n : Nat} {H : Nat → Int} (h0 : μ.2 0 0 = zI n) (hn : n ≤ 12) (hH : ∀ d, d < n → μ.2 0 (2 + 9 * d + 7) = zI (H d + 1) ∧ -1 ≤ H d ∧ H d ≤ 100) {c : Nat} (hc : c < n) : ∀ (m k f : Nat) (a : Int), k + m = n → m < f → mf_X2_pile_L4 (some (A 3)) (zI c) f (zI a) (zI k) (mk A μ h) = some (zI (a + zs (fun d => if H d = (c : Int) then 1 else 0) k m), mk A μ h)
  | m, k, 0, a, _, hf => absurd hf (Nat.not_lt_zero _)
  | 0, k, f + 1, a, hk, hf => by
    unfold mf_X2_pile_L4 zs
    simp (disch := first | assumption | decide | omega | (simp only [aSz]; omega)) only [m_rc, m_gI, m_gR, zI_lit, zI_add, zI_sub, zI_mul, zI_neg, b2_0z, cl_some, m_lI hA, zI_le, Int.toNat_zero, h0]
    rw [if_pos (by omega), Int.add_zero]
  | m + 1, k, f + 1, a, hk, hf => by
    obtain ⟨b1, b2, b3⟩ := hH k (by omega)
    have ar : mf_X2_around (some (A 3)) (zI k) (mk A μ h) = some (zI (H k), mk A μ h) := by
      have := M_of (μ := μ) (h := h) hA (c := k) (w := 7) (by omega)
      rw [b1] at this
      have this : mf_X2_of (some (A 3)) (zI k) (zI 7) (mk A μ h) = some (zI (H k + 1), mk A μ h) := this
      unfold mf_X2_around
      simp (disch := first | assumption | decide | omega | (simp only [aSz]; omega)) only [m_rc, m_gI, m_gR, zI_lit, zI_add, zI_sub, zI_mul, zI_neg, b2_0z, cl_some, this]
      rw [Int.add_sub_cancel]
    unfold mf_X2_pile_L4 zs
    simp (disch := first | assumption | decide | omega | (simp only [aSz]; omega)) only [m_rc, m_gI, m_gR, zI_lit, zI_add, zI_sub, zI_mul, zI_neg, b2_0z, cl_some, m_lI hA, zI_le, zI_inj, Int.toNat_zero, h0, ar]
    rw [if_neg (by omega)]
    have ih := fun b => M_pileW_L4 hA h0 hn hH hc m (k + 1) f b (by omega) (by omega)
    by_cases q : H k = (c : Int)
    · rw [if_pos q, if_pos q, ← Int.add_assoc]; exact ih _
    · rw [if_neg q, if_neg q, ← Int.add_assoc]; exact ih _
theorem M_pileW (hA : AOk A) {μ : MD} {n : Nat} {H : Nat → Int} (h0 : μ.2 0 0 = zI n) (hn : n ≤ 12) (hH : ∀ d, d < n → μ.2 0 (2 + 9 * d + 7) = zI (H d + 1) ∧ -1 ≤ H d ∧ H d ≤ 100) {c : Nat} (hc : c < n) : mf_X2_pile (some (A 3)) (zI c) (mk A μ h) = some (zI (zs (fun d => if H d = (c : Int) then 1 else 0) 0 n), mk A μ h) := by
  have := M_pileW_L4 (h := h) hA h0 hn hH hc n 0 xk_fu 0 (by omega) (fu_lt (by omega))
  rw [Int.zero_add] at this; exact this
theorem lays3 (hA : AOk A) {c : Nat} (hc : c < 12) {w : Nat} (hw : w < 9) (v : Int32) (μ : MD) {wz : Int32} (e : wz = zI w) : mf_X2_lays (some (A 3)) (zI c) wz v (mk A μ h) = some ((), mk A (uA μ 0 (2 + 9 * c + w) v) h) := by
  rw [e]; exact M_lays hA (by omega)
end
