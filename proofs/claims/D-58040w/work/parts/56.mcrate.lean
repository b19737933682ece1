/-! PURE LAW: the reference reads a crate -/
set_option maxRecDepth 10000
/-- what the reading may touch -/
def rSc (μ ν : MD) : Prop := (∀ r, r ≠ 10 → r ≠ 12 → ν.2 r = μ.2 r) ∧ ∀ k, k ≠ 8 → k ≠ 9 → k ≠ 11 → k ≠ 13 → ν.1 k = μ.1 k
/-- what reading the n-th crate's numbers may touch -/
def sC (n : Nat) (μ ν : MD) : Prop := (∀ r, r ≠ 10 → ν.2 r = μ.2 r) ∧ (∀ j, (j < 9 * n ∨ 9 * n + 9 ≤ j) → ν.2 10 j = μ.2 10 j) ∧ ∀ k, k ≠ 8 → k ≠ 9 → ν.1 k = μ.1 k
/-- the row of a crate that is read -/
def RowR (t : Nat → Int32) (r : YD) (c : Nat) : Prop := t (9 * c) = zI (yf r 0 c) ∧ t (9 * c + 1) = zI (yf r 1 c) ∧ t (9 * c + 2) = zI (yf r 2 c) ∧ (∀ q, q < 4 → t (9 * c + 3 + q) = zI (ylt r c q)) ∧ t (9 * c + 7) = zI (yf r 3 c + 1) ∧ t (9 * c + 8) = zI (ypl r c)
/-- what is read, what is open -/
def MQr (μ : MD) (σ : List Nat) (r : YD) : Prop := μ.1 11 = zI (yn r) ∧ μ.1 13 = zI σ.length ∧ (∀ (j a : Nat), σ.reverse[j]? = some a → μ.2 12 j = zI a) ∧ ∀ c, c < yn r → RowR (μ.2 10) r c
section
variable {A : Nat → Nat} {h : xk_H} {μ ν ξ : MD} {p : List Int} {s : RS} {n : Nat}
theorem rSc.rf : rSc μ μ := ⟨fun _ _ _ => rfl, fun _ _ _ _ _ => rfl⟩
theorem rSc.tr (a : rSc μ ν) (b : rSc ν ξ) : rSc μ ξ := ⟨fun r x y => (b.1 r x y).trans (a.1 r x y), fun k x y z w => (b.2 k x y z w).trans (a.2 k x y z w)⟩
theorem rSc.pd (a : rSc μ ν) (P : MPd μ p) : MPd ν p := ⟨(a.2 7 (by decide) (by decide) (by decide) (by decide)).trans P.1, by rw [a.1 6 (by decide) (by decide)]; exact P.2.1, P.2.2⟩
theorem sC.rf : sC n μ μ := ⟨fun _ _ => rfl, fun _ _ => rfl, fun _ _ _ => rfl⟩
theorem sC.tr (a : sC n μ ν) (b : sC n ν ξ) : sC n μ ξ := ⟨fun r x => (b.1 r x).trans (a.1 r x), fun j x => (b.2.1 j x).trans (a.2.1 j x), fun k x y => (b.2.2 k x y).trans (a.2.2 k x y)⟩
theorem sC.of (a : s89 μ ν) : sC n μ ν := ⟨fun r _ => by rw [a.1], fun j _ => by rw [a.1], a.2⟩
theorem sC.pd (a : sC n μ ν) (P : MPd μ p) : MPd ν p := ⟨(a.2.2 7 (by decide) (by decide)).trans P.1, by rw [a.1 6 (by decide)]; exact P.2.1, P.2.2⟩
theorem sC.r (a : sC n μ ν) : rSc μ ν := ⟨fun r x _ => a.1 r x, fun k x y _ _ => a.2.2 k x y⟩
theorem sC.u {i : Nat} {v : Int32} (hi : 9 * n ≤ i ∧ i < 9 * n + 9) : sC n μ (uA μ 10 i v) := ⟨fun r x => uA_ne i v x, fun j x => by rw [uA_at]; exact if_neg (by omega), fun k _ _ => rfl⟩
theorem M_L36 (hA : AOk A) (kx : xk_H → Option (Unit × xk_H)) (z z2 : Int32) (hn : n ≤ 12) : ∀ (m k f : Nat) (μ : MD), k + m = 4 → m < f → ∃ ν, sC n μ ν ∧ ν.1 = μ.1 ∧ (∀ q, k ≤ q → q < 4 → ν.2 10 (9 * n + 3 + q) = zI 0) ∧ (∀ q, q < k → ν.2 10 (9 * n + 3 + q) = μ.2 10 (9 * n + 3 + q)) ∧ mf_X2_takesCrate_L36 kx (some (A 3)) (zI (9 * n : Nat)) z z2 f (zI k) (mk A μ h) = kx (mk A ν h)
  | m, k, 0, _, _, hf => absurd hf (Nat.not_lt_zero _)
  | 0, k, f + 1, μ, hk, hf => by
    refine ⟨μ, sC.rf, rfl, fun q a b => by omega, fun _ _ => rfl, ?_⟩
    unfold mf_X2_takesCrate_L36
    rw [if_pos (by rw [show (4 : Int32) = zI 4 by decide, zI_le (by omega) (by omega) (by omega) (by omega)]; omega)]
  | m + 1, k, f + 1, μ, hk, hf => by
    let μ1 := uA μ 10 (9 * n + 3 + k) (zI 0)
    obtain ⟨ν, s1, n1, c1, c2, e1⟩ := M_L36 hA kx z z2 hn m (k + 1) f μ1 (by omega) (by omega)
    have u1 : sC n μ μ1 := sC.u ⟨by omega, by omega⟩
    refine ⟨ν, u1.tr s1, n1, fun q a b => ?_, fun q hq => ?_, ?_⟩
    · by_cases w : q = k
      · subst w
        rw [c2 q (by omega)]
        show (uA μ 10 _ _).2 10 _ = _
        rw [uA_at]; exact if_pos rfl
      · exact c1 q (by omega) b
    · rw [c2 q (by omega)]
      show (uA μ 10 _ _).2 10 _ = _
      rw [uA_at]; exact if_neg (by omega)
    · unfold mf_X2_takesCrate_L36
      rw [if_neg (by rw [show (4 : Int32) = zI 4 by decide, zI_le (by omega) (by omega) (by omega) (by omega)]; omega), m_gR (by decide), show (3 : Int32) = zI 3 by decide, zI_add, zI_add, show (0 : Int32) = zI 0 by decide, m_sV hA (by decide) (by omega) (by simp only [aSz]; omega) (by omega), show (1 : Int32) = zI 1 by decide, zI_add]
      have : (((9 * n : Nat) : Int) + 3 + k).toNat = 9 * n + 3 + k := by omega
      rw [this]; exact e1
theorem M_L96 (hA : AOk A) (kx : xk_H → Option (Unit × xk_H)) (z : Int32) (hn : n ≤ 12) : ∀ (m k f j : Nat) (μ : MD), MPd μ p → MRS μ (j, true) → j ≤ 100 → k + m = 4 → m < f → ∃ ν, sC n μ ν ∧ MRS ν (j + (rdL p m j).length, true) ∧ (∀ q x, (rdL p m j)[q]? = some x → ν.2 10 (9 * n + 3 + (k + q)) = zI (x + 1)) ∧ (∀ q, (q < k ∨ k + (rdL p m j).length ≤ q) → ν.2 10 (9 * n + 3 + q) = μ.2 10 (9 * n + 3 + q)) ∧
    mf_X2_takesCrate_L96 kx (some (A 3)) (zI (9 * n : Nat)) z f (zI k) (mk A μ h) = kx (mk A ν h)
  | m, k, 0, _, _, _, _, _, _, hf => absurd hf (Nat.not_lt_zero _)
  | 0, k, f + 1, j, μ, P, R, hj, hk, hf => by
    refine ⟨μ, sC.rf, R, fun q x e => (by cases e), fun _ _ => rfl, ?_⟩
    unfold mf_X2_takesCrate_L96
    rw [m_gI (by decide), R.2, if_neg (show ¬ xk_b2 true = 0 by decide), if_pos (by rw [show (4 : Int32) = zI 4 by decide, zI_le (by omega) (by omega) (by omega) (by omega)]; omega)]
  | m + 1, k, f + 1, j, μ, P, R, hj, hk, hf => by
    have hh := M_here (h := h) hA P (i := j) (by omega) R.1
    have b := cR_bd P j
    unfold rdL
    by_cases q : 65 ≤ cR p j ∧ cR p j ≤ 90
    · have lj : j < p.length := cR_in (p := p) (i := j) rfl (by omega)
      have pl := P.2.2.1
      simp only [if_pos q]
      let μ1 := uS (uA μ 10 (9 * n + 3 + k) (zI (cR p j - 65 + 1))) 8 (zI ((j : Int) + 1))
      have u1 : sC n μ μ1 := by
        have a1 : sC n μ (uA μ 10 (9 * n + 3 + k) (zI (cR p j - 65 + 1))) := sC.u ⟨by omega, by omega⟩
        exact a1.tr (sC.of ⟨rfl, fun k h8 h9 => uS_ne h8⟩)
      have R1 : MRS μ1 (j + 1, true) := ⟨uS_at _ _ _, (uS_ne (by decide)).trans R.2⟩
      obtain ⟨ν, s1, R2, c1, c2, e1⟩ := M_L96 hA kx z hn m (k + 1) f (j + 1) μ1 (u1.pd P) R1 (by omega) (by omega) (by omega)
      refine ⟨ν, u1.tr s1, ?_, fun t x e => ?_, fun t ht => ?_, ?_⟩
      · rw [List.length_cons, show j + ((rdL p m (j + 1)).length + 1) = j + 1 + (rdL p m (j + 1)).length by omega]; exact R2
      · cases t with
        | zero =>
          have : x = cR p j - 65 := (Option.some.inj e).symm
          subst this
          rw [c2 (k + 0) (Or.inl (by omega))]
          show (uA μ 10 _ _).2 10 _ = _
          rw [uA_at]; exact if_pos (by omega)
        | succ t =>
          have := c1 t x e
          rw [show k + (t + 1) = k + 1 + t by omega]; exact this
      · rw [List.length_cons] at ht
        rw [c2 t (by omega)]
        show (uA μ 10 _ _).2 10 _ = _
        rw [uA_at]; exact if_neg (by omega)
      · unfold mf_X2_takesCrate_L96
        have x1 : (uA μ 10 (9 * n + 3 + k) (zI (cR p j - 65 + 1))).1 8 = zI j := R.1
        rw [m_gI (by decide), R.2, if_neg (show ¬ xk_b2 true = 0 by decide), if_neg (by rw [show (4 : Int32) = zI 4 by decide, zI_le (by omega) (by omega) (by omega) (by omega)]; omega), m_rc, hh, cl_some, show (65 : Int32) = zI 65 by decide, show (90 : Int32) = zI 90 by decide, M_in _ (by omega) (by omega) (by omega) (by omega) (by omega) (by omega), cl_some, decide_eq_true q, if_neg (by decide), m_gR (by decide), m_rc, hh, cl_some,
          show (3 : Int32) = zI 3 by decide, zI_add, zI_add, zI_sub, show (1 : Int32) = zI 1 by decide, zI_add, m_sV hA (by decide) (by omega) (by simp only [aSz]; omega) (by omega)]
        have : (((9 * n : Nat) : Int) + 3 + k).toNat = 9 * n + 3 + k := by omega
        rw [this, m_gI (by decide), x1, zI_add, m_pV hA (by decide), zI_add]
        exact e1
    · simp only [if_neg q]
      refine ⟨μ, sC.rf, R, fun t x e => (by cases e), fun _ _ => rfl, ?_⟩
      unfold mf_X2_takesCrate_L96
      rw [m_gI (by decide), R.2, if_neg (show ¬ xk_b2 true = 0 by decide), if_neg (by rw [show (4 : Int32) = zI 4 by decide, zI_le (by omega) (by omega) (by omega) (by omega)]; omega), m_rc, hh, cl_some, show (65 : Int32) = zI 65 by decide, show (90 : Int32) = zI 90 by decide, M_in _ (by omega) (by omega) (by omega) (by omega) (by omega) (by omega), cl_some, decide_eq_false q, if_pos (by decide)]
/-- a crate, from its label on; w: the one around it -/
def tcB (a0 : Option Nat) (n1 w : Int32) (h5 : xk_H) : Option (Unit × xk_H) := xm_rc [2] a0 h5 <| xm_cl (mf_X2_here a0 h5) fun r6 h7 => xm_cl (mf_X2_in r6 (65 : Int32) (90 : Int32) h7) fun r8 h9 => xm_rc [2] a0 h9 <| xm_cl (mf_X2_takes a0 (xk_b2 r8) h9) fun r10 h11 => xm_gI [2] 8 a0 h11 fun x12 => xm_gI [2] 9 a0 h11 fun x13 => if x13 = 0 then (xm_pV [2] 8 a0 (.int (x12 - (0 : Int32))) h11 fun h14 => mf_X2_takesCrate_L96 (fun h26 => mf_X2_takesCrate_J157 a0 n1 w h26) a0 n1 w xk_fu (0 : Int32) h14) else (xm_pV [2] 8 a0 (.int (x12 - (1 : Int32))) h11 fun h66 => mf_X2_takesCrate_L96 (fun h67 => mf_X2_takesCrate_J157 a0 n1 w h67) a0 n1 w xk_fu (0 : Int32) h66)
theorem M_tcB (hA : AOk A) (P : MPd μ p) {i : Nat} (R : MRS μ (i, true)) (hi : i ≤ 80) (hn : n ≤ 12) (w : Int32) (cl : ∀ q, q < 4 → μ.2 10 (9 * n + 3 + q) = zI 0) : ∃ ν, sC n μ ν ∧ MRS ν (stL p (i, true)) ∧ ((stL p (i, true)).2 = true → ∀ q, q < 4 → ν.2 10 (9 * n + 3 + q) = zI (((rdL p 4 i)[q]?).elim 0 (· + 1))) ∧ tcB (some (A 3)) (zI (9 * n : Nat)) w (mk A μ h) = mf_X2_takesCrate_J157 (some (A 3)) (zI (9 * n : Nat)) w (mk A ν h) := by
  have hh := M_here (h := h) hA P (i := i) (by omega) R.1
  have b := cR_bd P i
  obtain ⟨ν1, s1, R1, t1⟩ := M_takes (h := h) hA R (decide (65 ≤ cR p i ∧ cR p i ≤ 90))
  have P1 := s1.pd P
  have hd : tcB (some (A 3)) (zI (9 * n : Nat)) w (mk A μ h) = if ν1.1 9 = 0 then (xm_pV [2] 8 (some (A 3)) (.int (ν1.1 8 - (0 : Int32))) (mk A ν1 h) fun h14 => mf_X2_takesCrate_L96 (fun h26 => mf_X2_takesCrate_J157 (some (A 3)) (zI (9 * n : Nat)) w h26) (some (A 3)) (zI (9 * n : Nat)) w xk_fu (0 : Int32) h14) else (xm_pV [2] 8 (some (A 3)) (.int (ν1.1 8 - (1 : Int32))) (mk A ν1 h) fun h66 => mf_X2_takesCrate_L96 (fun h67 => mf_X2_takesCrate_J157 (some (A 3)) (zI (9 * n : Nat)) w h67) (some (A 3)) (zI (9 * n : Nat)) w xk_fu (0 : Int32) h66) := by
    unfold tcB
    rw [m_rc, hh, cl_some, show (65 : Int32) = zI 65 by decide, show (90 : Int32) = zI 90 by decide, M_in _ (by omega) (by omega) (by omega) (by omega) (by omega) (by omega), cl_some, m_rc, t1, cl_some, m_gI (by decide), m_gI (by decide)]
  by_cases q : 65 ≤ cR p i ∧ cR p i ≤ 90
  · rw [if_pos (show (i, true).2 = true ∧ decide (65 ≤ cR p i ∧ cR p i ≤ 90) = true from ⟨rfl, decide_eq_true q⟩)] at R1
    have n0 : rdL p 4 i ≠ [] := by unfold rdL; rw [if_pos q]; simp
    have e1 : stL p (i, true) = (i + (rdL p 4 i).length, true) := by unfold stL; rw [if_pos ⟨rfl, n0⟩]
    let ν2 := uS ν1 8 (zI i)
    have s2 : s89 ν1 ν2 := ⟨rfl, fun k h8 h9 => uS_ne h8⟩
    have R2 : MRS ν2 (i, true) := ⟨uS_at _ _ _, (uS_ne (by decide)).trans R1.2⟩
    obtain ⟨ν3, s3, R3, c1, c2, e3⟩ := M_L96 (h := h) hA (fun h67 => mf_X2_takesCrate_J157 (some (A 3)) (zI (9 * n : Nat)) w h67) w hn 4 0 xk_fu i ν2 (s2.pd P1) R2 (by omega) (by omega) (fu_lt (by omega))
    refine ⟨ν3, ((sC.of s1).tr (sC.of s2)).tr s3, by rw [e1]; exact R3, fun _ q hq => ?_, ?_⟩
    · cases g : (rdL p 4 i)[q]? with
      | none =>
        have := List.getElem?_eq_none_iff.1 g
        rw [c2 q (Or.inr (by omega)), s2.1, s1.1]; exact cl q hq
      | some x => have := c1 q x g; rw [Nat.zero_add] at this; exact this
    · rw [hd]
      refine (if_neg (by rw [R1.2]; exact (show ¬ xk_b2 true = 0 by decide))).trans ?_
      rw [R1.1, show (1 : Int32) = zI 1 by decide, zI_sub, m_pV hA (by decide), show (((i, true).1 + 1 : Nat) : Int) - 1 = i by simp only []; omega]
      exact e3
  · rw [if_neg (show ¬ ((i, true).2 = true ∧ decide (65 ≤ cR p i ∧ cR p i ≤ 90) = true) by simp only [decide_eq_true_eq]; exact fun z => q z.2)] at R1
    have n0 : rdL p 4 i = [] := by unfold rdL; rw [if_neg q]
    have e1 : stL p (i, true) = (i, false) := by unfold stL; rw [if_neg (by simp [n0])]
    let ν2 := uS ν1 8 (zI i)
    have s2 : s89 ν1 ν2 := ⟨rfl, fun k h8 h9 => uS_ne h8⟩
    obtain ⟨f, hf⟩ : ∃ f, xk_fu = f + 1 := ⟨999, rfl⟩
    refine ⟨ν2, (sC.of s1).tr (sC.of s2), by rw [e1]; exact ⟨uS_at _ _ _, (uS_ne (by decide)).trans R1.2⟩, fun z => (by rw [e1] at z; cases z), ?_⟩
    rw [hd]
    refine (if_pos (by rw [R1.2]; rfl)).trans ?_
    rw [R1.1, show (0 : Int32) = zI 0 by decide, zI_sub, m_pV hA (by decide), hf]
    unfold mf_X2_takesCrate_L96
    have r9 : (uS ν1 8 (zI (((i, true).1 : Int) - 0))).1 9 = xk_b2 false := (uS_ne (by decide)).trans R1.2
    rw [m_gI (by decide), r9]
    refine (if_pos rfl).trans ?_
    rw [show ((((i, true) : RS).1 : Nat) : Int) - 0 = i by simp only []; omega]
end
