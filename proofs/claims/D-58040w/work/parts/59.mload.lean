/-! PURE LAW: the reference's load -/
set_option maxRecDepth 10000
/-- loading -/
def oLoad (S : SD) (R : Nat ⊕ YD) : Int × SD := match R with
  | .inl _ => (-2, S)
  | .inr r => if rFit r = true then (if yn S.1 + yn r ≤ 12 then (yn S.1 + yn r, (yApp S.1 r, hrec S.2.1 S.1, S.2.2.1, [])) else (-3, S)) else (-2, S)
/-- whether the crates from k on fit -/
def rFt (r : YD) : Nat → Nat → Bool
  | _, 0 => true
  | k, m + 1 => decide (yf r 1 k < yf r 0 k ∧ yS r (yp r k) ≤ yf r 1 k) && rFt r (k + 1) m
theorem rFt_eq (r : YD) : ∀ (m k : Nat), rFt r k m = (List.range' k m).all fun c => decide (yf r 1 c < yf r 0 c ∧ yS r (yp r c) ≤ yf r 1 c)
  | 0, k => rfl
  | m + 1, k => by rw [List.range'_succ, List.all_cons, ← rFt_eq r m (k + 1)]; rfl
section
variable {A : Nat → Nat} {h : xk_H} {μ ν ξ : MD} {r : YD} {S : SD}
theorem M_doFit_L52 (hA : AOk A) (hn : yn r ≤ 11) (O : ROk r) (m11 : μ.1 11 = zI (yn r)) (rows : ∀ c, c < yn r → RowR (μ.2 10) r c) (kx : Int32 → xk_H → Option (Bool × xk_H)) (z : Int32) {c : Nat} (hc : c < yn r) : ∀ (m k f : Nat) (a : Int), k + m = yn r → m < f → mf_X2_doFit_L52 kx (some (A 3)) z (zI c) f (zI a) (zI k) (mk A μ h) = kx (zI (a - zs (fun d => if yf r 3 d = (c : Int) then yf r 0 d else 0) k m)) (mk A μ h)
  | m, k, 0, a, _, hf => absurd hf (Nat.not_lt_zero _)
  | 0, k, f + 1, a, hk, hf => by
    unfold mf_X2_doFit_L52 zs
    rw [m_gI (by decide), m11, if_pos (by rw [zI_le (by omega) (by omega) (by omega) (by omega)]; omega), Int.sub_zero]
  | m + 1, k, f + 1, a, hk, hf => by
    have hk' : k < yn r := by omega
    have hh := (O k hk').2.2.2.1
    have ih := fun b => M_doFit_L52 hA hn O m11 rows kx z hc m (k + 1) f b (by omega) (by omega)
    obtain ⟨r0, _, _, _, r7, _⟩ := rows k hk'
    have k1 : zI k + 1 = zI (k + 1 : Nat) := by rw [show (1 : Int32) = zI 1 by decide, zI_add]; rfl
    unfold mf_X2_doFit_L52 zs
    rw [m_gI (by decide), m11, if_neg (by rw [zI_le (by omega) (by omega) (by omega) (by omega)]; omega), m_gR (by decide), show (9 : Int32) = zI 9 by decide, show (7 : Int32) = zI 7 by decide, zI_mul, zI_add, m_lI hA (by decide) (by omega) (by simp only [aSz]; omega) (by omega),
      show ((9 : Int) * k + 7).toNat = 9 * k + 7 by omega, r7, k1, show (1 : Int32) = zI 1 by decide, zI_add]
    by_cases q : yf r 3 k = (c : Int)
    · rw [if_pos (by rw [q]), if_pos q, m_gR (by decide), show (0 : Int32) = zI 0 by decide, zI_add, m_lI hA (by decide) (by omega) (by simp only [aSz]; omega) (by omega), show ((9 : Int) * k + 0).toNat = 9 * k by omega, r0, zI_sub, ih, Int.sub_sub]
    · rw [if_neg (by rw [zI_inj (by omega) (by omega) (by omega) (by omega)]; omega), if_neg q, show (0 : Int32) = zI 0 by decide, zI_sub, ih]
      exact congrArg (fun z => kx (zI z) (mk A μ h)) (by omega)
theorem M_doFit_L4 (hA : AOk A) (hn : yn r ≤ 11) (O : ROk r) (m11 : μ.1 11 = zI (yn r)) (rows : ∀ c, c < yn r → RowR (μ.2 10) r c) : ∀ (m k f : Nat) (b : Bool), k + m = yn r → m < f → mf_X2_doFit_L4 (some (A 3)) f (xk_b2 b) (zI k) (mk A μ h) = some (b && rFt r k m, mk A μ h)
  | m, k, 0, b, _, hf => absurd hf (Nat.not_lt_zero _)
  | 0, k, f + 1, b, hk, hf => by
    unfold mf_X2_doFit_L4 rFt
    rw [m_gI (by decide), m11, if_pos (by rw [zI_le (by omega) (by omega) (by omega) (by omega)]; omega), zb_z, Bool.and_true]
  | m + 1, k, f + 1, b, hk, hf => by
    have hk' : k < yn r := by omega
    obtain ⟨o0, o1, _, _, _, _, _, _⟩ := O k hk'
    have ih := fun b => M_doFit_L4 hA hn O m11 rows m (k + 1) f b (by omega) (by omega)
    obtain ⟨r0, r1, _⟩ := rows k hk'
    have k1 : zI k + 1 = zI (k + 1 : Nat) := by rw [show (1 : Int32) = zI 1 by decide, zI_add]; rfl
    have i0 : mf_X2_doFit_L4 (some (A 3)) f (0 : Int32) (zI k + 1) (mk A μ h) = some (false, mk A μ h) := by rw [k1]; exact ih false
    have i1 : mf_X2_doFit_L4 (some (A 3)) f (1 : Int32) (zI k + 1) (mk A μ h) = some (rFt r (k + 1) m, mk A μ h) := by rw [k1]; exact (ih true).trans (by rw [Bool.true_and])
    have sm := O.sum hk'
    have bd : 0 ≤ zs (fun d => if yf r 3 d = (k : Int) then yf r 0 d else 0) 0 (yn r) ∧ zs (fun d => if yf r 3 d = (k : Int) then yf r 0 d else 0) 0 (yn r) ≤ (yn r : Int) * 60 := zs_bd _ _ fun d _ hd => by
      have := (O d (by omega)).1
      split <;> omega
    have l52 := fun kx z => M_doFit_L52 (h := h) hA hn O m11 rows kx z hk' (yn r) 0 xk_fu (yf r 1 k) (by omega) (fu_lt (by omega))
    have z0 : zI ((0 : Nat) : Int) = (0 : Int32) := rfl
    unfold mf_X2_doFit_L4 rFt
    rw [m_gI (by decide), m11, if_neg (by rw [zI_le (by omega) (by omega) (by omega) (by omega)]; omega), m_gR (by decide), show (9 : Int32) = zI 9 by decide, show (1 : Int32) = zI 1 by decide, zI_mul, zI_add, m_lI hA (by decide) (by omega) (by simp only [aSz]; omega) (by omega),
      show ((9 : Int) * k + 1).toNat = 9 * k + 1 by omega, r1]
    cases b with
    | false =>
      rw [if_pos (by decide), Bool.false_and]
      refine (l52 _ _).trans ?_
      refine (if_pos rfl).trans ?_
      rw [← show (1 : Int32) = zI 1 by decide]; exact i0
    | true =>
      rw [if_neg (show ¬ xk_b2 true = 0 by decide), Bool.true_and, m_gR (by decide), show (0 : Int32) = zI 0 by decide, zI_add, m_lI hA (by decide) (by omega) (by simp only [aSz]; omega) (by omega), show ((9 : Int) * k + 0).toNat = 9 * k by omega, r0]
      by_cases q : yf r 0 k ≤ yf r 1 k
      · rw [if_pos (by rw [zI_le (by omega) (by omega) (by omega) (by omega)]; exact q), decide_eq_false (fun z => by omega), Bool.false_and]
        refine (l52 _ _).trans ?_
        refine (if_pos rfl).trans ?_
        rw [← show (1 : Int32) = zI 1 by decide]; exact i0
      · rw [if_neg (by rw [zI_le (by omega) (by omega) (by omega) (by omega)]; exact q)]
        refine (l52 _ _).trans ?_
        rw [sm] at bd ⊢
        refine (if_neg (by decide)).trans ?_
        by_cases w : yf r 1 k - yS r (yp r k) < 0
        · rw [decide_eq_false (fun z => by omega), Bool.false_and]
          refine (if_pos (by rw [zI_lt (by omega) (by omega) (by omega) (by omega)]; exact w)).trans ?_
          rw [← show (1 : Int32) = zI 1 by decide]; exact i0
        · rw [decide_eq_true ⟨by omega, by omega⟩, Bool.true_and]
          refine (if_neg (by rw [zI_lt (by omega) (by omega) (by omega) (by omega)]; exact w)).trans ?_
          rw [← show (1 : Int32) = zI 1 by decide]; exact i1
theorem M_doFit (hA : AOk A) (hn : yn r ≤ 11) (O : ROk r) (Q : MQr μ [] r) : mf_X2_doFit (some (A 3)) (mk A μ h) = some (rFit r, mk A μ h) := by
  have := M_doFit_L4 (h := h) hA hn O Q.1 Q.2.2.2 (yn r) 0 xk_fu true (by omega) (fu_lt (by omega))
  rw [Bool.true_and, rFt_eq, ← List.range_eq_range'] at this
  exact this
theorem M_load_L65 (hA : AOk A) (kx : xk_H → Option (Int32 × xk_H)) {n c : Nat} (hn : n + c ≤ 11) (hc : c ≤ 11) : ∀ (m k f : Nat) (μ : MD), k + m = 4 → m < f → ∃ ν, mOnly 0 μ ν ∧ (∀ q, k ≤ q → q < 4 → ν.2 0 (2 + 9 * (n + c) + 3 + q) = μ.2 10 (9 * c + 3 + q)) ∧ (∀ j, (j < 2 + 9 * (n + c) + 3 + k ∨ 2 + 9 * (n + c) + 7 ≤ j) → ν.2 0 j = μ.2 0 j) ∧
    mf_X2_load_L65 kx (some (A 3)) (zI n) (zI c) (zI (9 * c : Nat)) f (zI k) (mk A μ h) = kx (mk A ν h)
  | m, k, 0, _, _, hf => absurd hf (Nat.not_lt_zero _)
  | 0, k, f + 1, μ, hk, hf => by
    refine ⟨μ, mOnly.rf, fun q a b => by omega, fun _ _ => rfl, ?_⟩
    unfold mf_X2_load_L65
    rw [if_pos (by rw [show (4 : Int32) = zI 4 by decide, zI_le (by omega) (by omega) (by omega) (by omega)]; omega)]
  | m + 1, k, f + 1, μ, hk, hf => by
    let μ1 := uA μ 0 (2 + 9 * (n + c) + (3 + k)) (μ.2 10 (9 * c + 3 + k))
    obtain ⟨ν, o, c1, c2, e⟩ := M_load_L65 hA kx hn hc m (k + 1) f μ1 (by omega) (by omega)
    have m10 : μ1.2 10 = μ.2 10 := uA_ne _ _ (by decide)
    refine ⟨ν, mOnly.u.tr o, fun q a b => ?_, fun j hj => ?_, ?_⟩
    · by_cases w : q = k
      · subst w
        rw [c2 _ (Or.inl (by omega))]
        show (uA μ 0 _ _).2 0 _ = _
        rw [uA_at]; exact if_pos (by omega)
      · rw [c1 q (by omega) b, m10]
    · rw [c2 j (by omega)]
      show (uA μ 0 _ _).2 0 _ = _
      rw [uA_at]; exact if_neg (by omega)
    · unfold mf_X2_load_L65
      rw [if_neg (by rw [show (4 : Int32) = zI 4 by decide, zI_le (by omega) (by omega) (by omega) (by omega)]; omega), m_gR (by decide), show (3 : Int32) = zI 3 by decide, zI_add, zI_add, m_lI hA (by decide) (by omega) (by simp only [aSz]; omega) (by omega), m_rc, zI_add, zI_add,
        show ((n : Int) + c) = (n + c : Nat) by omega, lays3 hA (by omega) (w := 3 + k) (by omega) _ _ (congrArg zI (by omega)), cl_some, show (1 : Int32) = zI 1 by decide, zI_add, show (((9 * c : Nat) : Int) + 3 + k).toNat = 9 * c + 3 + k by omega]
      exact e
/-- the rows that are read, laid behind those that there are -/
theorem M_load_L49 (hA : AOk A) (kx : xk_H → Option (Int32 × xk_H)) {n : Nat} (hn : n + yn r ≤ 12) (hr : yn r ≤ 11) (O : ROk r) : ∀ (m k f : Nat) (μ : MD), μ.1 11 = zI (yn r) → (∀ c, c < yn r → RowR (μ.2 10) r c) → μ.2 0 0 = zI (n + k) → k + m = yn r → m < f →
    ∃ ν, mOnly 0 μ ν ∧ ν.2 0 0 = zI (n + yn r) ∧ (∀ j, 1 ≤ j → j < 2 + 9 * (n + k) → ν.2 0 j = μ.2 0 j) ∧ (∀ c, k ≤ c → c < yn r → ν.2 0 (2 + 9 * (n + c)) = zI (yf r 0 c) ∧ ν.2 0 (2 + 9 * (n + c) + 1) = zI (yf r 1 c) ∧ ν.2 0 (2 + 9 * (n + c) + 2) = zI (yf r 2 c) ∧ (∀ q, q < 4 → ν.2 0 (2 + 9 * (n + c) + 3 + q) = zI (ylt r c q)) ∧ ν.2 0 (2 + 9 * (n + c) + 7) = zI ((if yf r 3 c < 0 then -1 else yf r 3 c + n) + 1) ∧ ν.2 0 (2 + 9 * (n + c) + 8) = zI (ypl r c)) ∧
      mf_X2_load_L49 kx (some (A 3)) (zI n) f (zI k) (mk A μ h) = kx (mk A ν h)
  | m, k, 0, _, _, _, _, _, hf => absurd hf (Nat.not_lt_zero _)
  | 0, k, f + 1, μ, m11, rows, m0, hk, hf => by
    refine ⟨μ, mOnly.rf, by rw [m0]; exact congrArg zI (by omega), fun _ _ _ => rfl, fun c a b => by omega, ?_⟩
    unfold mf_X2_load_L49
    rw [m_gI (by decide), m11, if_pos (by rw [zI_le (by omega) (by omega) (by omega) (by omega)]; omega)]
  | m + 1, k, f + 1, μ, m11, rows, m0, hk, hf => by
    have hk' : k < yn r := by omega
    have hh := (O k hk').2.2.2.1
    obtain ⟨r0, r1, r2, r3, r7, r8⟩ := rows k hk'
    let kk : xk_H → Option (Int32 × xk_H) := fun h17 => xm_gR [2] 10 (some (A 3)) h17 fun x18 => xm_lI [100] x18 (((9 : Int32) * zI k) + (7 : Int32)) h17 fun x19 => if x19 = 0 then (mf_X2_load_J128 (fun m2 g => mf_X2_load_L49 kx (some (A 3)) (zI n) f m2 g) (some (A 3)) (zI n) (zI k) ((9 : Int32) * zI k) (-1 : Int32) h17) else (xm_gR [2] 10 (some (A 3)) h17 fun x20 => xm_lI [100] x20 (((9 : Int32) * zI k) + (7 : Int32)) h17 fun x21 => mf_X2_load_J128 (fun m2 g => mf_X2_load_L49 kx (some (A 3)) (zI n) f m2 g) (some (A 3)) (zI n) (zI k) ((9 : Int32) * zI k) ((zI n + x21) - (1 : Int32)) h17)
    obtain ⟨ν1, o1, c1, c2, e1⟩ := M_load_L65 (h := h) hA kk (n := n) (c := k) (by omega) (by omega) 4 0 xk_fu μ (by omega) (fu_lt (by omega))
    have t10 : ν1.2 10 = μ.2 10 := o1.2 10 (by decide)
    have n0 : ν1.2 0 0 = zI (n + k : Nat) := by rw [c2 0 (Or.inl (by omega)), m0]; exact congrArg zI (by omega)
    obtain ⟨ν2, o2, p0, p1, p2, p3, p7, p8, p9, pe⟩ := M_adds (h := h) hA (μ := ν1) (c := n + k) (a := yf r 0 k) (b := yf r 1 k) (g := yf r 2 k) (w := if yf r 3 k < 0 then -1 else yf r 3 k + n) (p := ypl r k) (by omega) n0
    obtain ⟨ν3, o3, s0, s1, s2, e3⟩ := M_load_L49 hA kx hn hr O m (k + 1) f ν2 (by rw [o2.1, o1.1]; exact m11) (fun c hc => by rw [o2.2 10 (by decide), t10]; exact rows c hc) (p0.trans (congrArg zI (by omega))) (by omega) (by omega)
    refine ⟨ν3, (o1.tr o2).tr o3, s0, fun j j1 j2 => ?_, fun c a b => ?_, ?_⟩
    · rw [s1 j j1 (by omega), p9 j (by omega) (by omega) (by omega) (by omega) (by omega) (by omega), c2 j (Or.inl (by omega))]
    · by_cases q : c = k
      · subst q
        refine ⟨by rw [s1 _ (by omega) (by omega)]; exact p1, by rw [s1 _ (by omega) (by omega)]; exact p2, by rw [s1 _ (by omega) (by omega)]; exact p3, fun q hq => ?_, by rw [s1 _ (by omega) (by omega)]; exact p7, by rw [s1 _ (by omega) (by omega)]; exact p8⟩
        rw [s1 _ (by omega) (by omega), p9 _ (by omega) (by omega) (by omega) (by omega) (by omega) (by omega), c1 q (by omega) hq]; exact r3 q hq
      · exact s2 c (by omega) b
    · have adds : ∀ w : Int, w = (if yf r 3 k < 0 then -1 else yf r 3 k + n) → mf_X2_load_J128 (fun m2 g => mf_X2_load_L49 kx (some (A 3)) (zI n) f m2 g) (some (A 3)) (zI n) (zI k) (zI (9 * k : Nat)) (zI w) (mk A ν1 h) = kx (mk A ν3 h) := by
        intro w hw
        subst hw
        unfold mf_X2_load_J128
        rw [m_gR (by decide), show (0 : Int32) = zI 0 by decide, zI_add, m_lI hA (by decide) (by omega) (by simp only [aSz]; omega) (by omega), m_gR (by decide), show (1 : Int32) = zI 1 by decide, zI_add, m_lI hA (by decide) (by omega) (by simp only [aSz]; omega) (by omega), m_gR (by decide), show (2 : Int32) = zI 2 by decide, zI_add, m_lI hA (by decide) (by omega) (by simp only [aSz]; omega) (by omega), m_gR (by decide), show (8 : Int32) = zI 8 by decide, zI_add, m_lI hA (by decide) (by omega) (by simp only [aSz]; omega) (by omega), m_rc,
          show (((9 * k : Nat) : Int) + 0).toNat = 9 * k by omega, show (((9 * k : Nat) : Int) + 1).toNat = 9 * k + 1 by omega, show (((9 * k : Nat) : Int) + 2).toNat = 9 * k + 2 by omega, show (((9 * k : Nat) : Int) + 8).toNat = 9 * k + 8 by omega, t10, r0, r1, r2, r8, pe, cl_some, zI_add]
        exact e3
      have n9 : (9 : Int32) * zI k = zI (9 * k : Nat) := by rw [show (9 : Int32) = zI 9 by decide, zI_mul]; exact congrArg zI (by omega)
      unfold mf_X2_load_L49
      rw [m_gI (by decide), m11, if_neg (by rw [zI_le (by omega) (by omega) (by omega) (by omega)]; omega)]
      have e1 : mf_X2_load_L65 kk (some (A 3)) (zI n) (zI k) ((9 : Int32) * zI k) xk_fu (0 : Int32) (mk A μ h) = kk (mk A ν1 h) := by rw [n9]; exact e1
      refine Eq.trans e1 ?_
      show xm_gR [2] 10 (some (A 3)) (mk A ν1 h) _ = _
      rw [m_gR (by decide), n9, show (7 : Int32) = zI 7 by decide, zI_add, m_lI hA (by decide) (by omega) (by simp only [aSz]; omega) (by omega), show (((9 * k : Nat) : Int) + 7).toNat = 9 * k + 7 by omega, t10, r7]
      by_cases q : yf r 3 k < 0
      · refine (if_pos (by rw [show yf r 3 k + 1 = 0 by omega]; rfl)).trans ?_
        rw [show (-1 : Int32) = zI (-1) by decide]
        exact adds (-1) (by rw [if_pos q])
      · refine (if_neg (by rw [show (0 : Int32) = zI 0 by decide, zI_inj (by omega) (by omega) (by omega) (by omega)]; omega)).trans ?_
        rw [m_gR (by decide), m_lI hA (by decide) (by omega) (by simp only [aSz]; omega) (by omega), show (((9 * k : Nat) : Int) + 7).toNat = 9 * k + 7 by omega, t10, r7, zI_add, show (1 : Int32) = zI 1 by decide, zI_sub]
        exact adds _ (by rw [if_neg q]; omega)
theorem M_load (hA : AOk A) {μ : MD} (H : MS μ S) (K : SOk S) {R : Nat ⊕ YD} (x : Rd S.2.2.2 false 0 [] (0, fun _ _ => 0, fun _ => [], fun _ => [], 0) R) : ∃ ν : MD, MS ν (oLoad S R).2 ∧ mf_X2_load (some (A 3)) (mk A μ h) = some (zI (oLoad S R).1, mk A ν h) := by
  have hn := K.1.n
  have P : MPd μ S.2.2.2 := ⟨H.2.2.2.2.2.1, H.2.2.2.2.2.2, K.2.2.2.2.1, K.2.2.2.2.2⟩
  obtain ⟨ν, s, F, e⟩ := M_areNests (h := h) hA P x
  have H1 : MS ν S := s.MH H
  unfold mf_X2_load
  rw [m_rc, e, cl_some]
  cases R with
  | inl j => exact ⟨ν, H1, if_pos rfl⟩
  | inr r =>
    obtain ⟨Q, O, r11⟩ := F
    have hd : (if xk_b2 (rdB (Sum.inr r : Nat ⊕ YD)) = 0 then (some ((-2 : Int32), mk A ν h)) else (xm_rc [2] (some (A 3)) (mk A ν h) <| xm_cl (mf_X2_doFit (some (A 3)) (mk A ν h)) fun r3 h4 => if xk_b2 r3 = 0 then (some ((-2 : Int32), h4)) else (xm_gR [2] 0 (some (A 3)) h4 fun x5 => xm_lI [100] x5 (0 : Int32) h4 fun x6 => xm_gI [2] 11 (some (A 3)) h4 fun x7 => if (x6 + x7) ≤ (12 : Int32) then (xm_rc [2] (some (A 3)) h4 <| xm_cl (mf_X2_records (some (A 3)) h4) fun r8 h9 => xm_gR [2] 0 (some (A 3)) h9 fun x10 => xm_lI [100] x10 (0 : Int32) h9 fun x11 => mf_X2_load_L49 (fun h32 => xm_pV [2] 7 (some (A 3)) (.int (0 : Int32)) h32 fun h33 => xm_gR [2] 0 (some (A 3)) h33 fun x34 => xm_lI [100] x34 (0 : Int32) h33 fun x35 => some (x35, h33)) (some (A 3)) x11 xk_fu (0 : Int32) h9) else (some ((-3 : Int32), h4)))))
        = (if xk_b2 (rFit r) = 0 then (some ((-2 : Int32), mk A ν h)) else (if (zI (yn S.1) + zI (yn r)) ≤ (12 : Int32) then (xm_rc [2] (some (A 3)) (mk A ν h) <| xm_cl (mf_X2_records (some (A 3)) (mk A ν h)) fun r8 h9 => xm_gR [2] 0 (some (A 3)) h9 fun x10 => xm_lI [100] x10 (0 : Int32) h9 fun x11 => mf_X2_load_L49 (fun h32 => xm_pV [2] 7 (some (A 3)) (.int (0 : Int32)) h32 fun h33 => xm_gR [2] 0 (some (A 3)) h33 fun x34 => xm_lI [100] x34 (0 : Int32) h33 fun x35 => some (x35, h33)) (some (A 3)) x11 xk_fu (0 : Int32) h9) else (some ((-3 : Int32), mk A ν h)))) := by
      refine (if_neg (show ¬ xk_b2 true = 0 by decide)).trans ?_
      have e0 : ν.2 0 (0 : Int).toNat = zI (yn S.1) := H1.1.1
      rw [m_rc, M_doFit hA r11 O Q, cl_some, m_gR (by decide), show (0 : Int32) = zI 0 by decide, m_lI hA (by decide) (by omega) (by decide) (by omega), e0, m_gI (by decide), Q.1]
    rw [hd]
    show ∃ ν, MS ν (if rFit r = true then (if yn S.1 + yn r ≤ 12 then ((yn S.1 + yn r : Int), (yApp S.1 r, hrec S.2.1 S.1, S.2.2.1, [])) else (-3, S)) else (-2, S)).2 ∧ _ = some (zI (if rFit r = true then (if yn S.1 + yn r ≤ 12 then ((yn S.1 + yn r : Int), (yApp S.1 r, hrec S.2.1 S.1, S.2.2.1, [])) else (-3, S)) else (-2, S)).1, _)
    cases hf : rFit r with
    | false => exact ⟨ν, by rw [if_neg (by decide)]; exact H1, if_pos rfl⟩
    | true =>
      rw [if_neg (show ¬ xk_b2 true = 0 by decide), zI_add]
      simp only [if_true]
      by_cases q : yn S.1 + yn r ≤ 12
      · have Or : YOk r := O.y (by omega) hf
        obtain ⟨ν1, n1, n2, n3, n4⟩ := MS_rec (h := h) hA H1 K
        obtain ⟨g0, g1, gg⟩ := n1.1
        have m11 : ν1.1 11 = zI (yn r) := (n3 11 (by decide)).trans Q.1
        have rows : ∀ c, c < yn r → RowR (ν1.2 10) r c := fun c hc => by rw [n2 10 (by decide)]; exact Q.2.2.2 c hc
        obtain ⟨ν2, o, p0, p1, p2, e2⟩ := M_load_L49 (h := h) hA (fun h32 => xm_pV [2] 7 (some (A 3)) (.int (0 : Int32)) h32 fun h33 => xm_gR [2] 0 (some (A 3)) h33 fun x34 => xm_lI [100] x34 (0 : Int32) h33 fun x35 => some (x35, h33)) (n := yn S.1) q r11 O (yn r) 0 xk_fu ν1 m11 rows (g0.trans (congrArg zI (by omega))) (by omega) (fu_lt (by omega))
        have hY : MY (ν2.2 0) (yApp S.1 r) := by
          refine ⟨p0.trans (congrArg zI (by show (yn S.1 : Int) + yn r = ((yn S.1 + yn r : Nat) : Int); omega)), (p1 1 (by omega) (by omega)).trans g1, fun d hd => ?_⟩
          have hd : d < yn S.1 + yn r := hd
          have pl := app_place K.1 Or hd
          by_cases z : d < yn S.1
          · obtain ⟨b0, b1, b2, b3, b4, b5⟩ := gg d z
            refine ⟨?_, ?_, ?_, fun p hp => ?_, ?_, ?_⟩
            · rw [app_f1 z, p1 _ (by omega) (by omega)]; exact b0
            · rw [app_f1 z, p1 _ (by omega) (by omega)]; exact b1
            · rw [app_f1 z, p1 _ (by omega) (by omega)]; exact b2
            · rw [p1 _ (by omega) (by omega), b3 p hp]; unfold ylt; rw [app_l, if_pos z]
            · rw [app_f1 z, p1 _ (by omega) (by omega)]; exact b4
            · rw [pl, if_pos z, p1 _ (by omega) (by omega)]; exact b5
          · obtain ⟨c, rfl⟩ : ∃ c, d = c + yn S.1 := ⟨d - yn S.1, by omega⟩
            obtain ⟨b0, b1, b2, b3, b4, b5⟩ := p2 c (Nat.zero_le _) (by omega)
            rw [Nat.add_comm (yn S.1) c] at b0 b1 b2 b3 b4 b5
            rw [if_neg z, Nat.add_sub_cancel] at pl
            refine ⟨?_, ?_, ?_, fun p hp => ?_, ?_, ?_⟩
            · rw [app_f2 (by decide)]; exact b0
            · rw [app_f2 (by decide)]; exact b1
            · rw [app_f2 (by decide)]; exact b2
            · rw [b3 p hp]; unfold ylt; rw [app_l, if_neg (by omega), Nat.add_sub_cancel]
            · rw [app_f3]; exact b4
            · rw [pl]; exact b5
        obtain ⟨k0, k1, k2, k3, k4, k5, k6⟩ := n1.row o hY
        have e4 : (uS ν2 7 (zI 0)).2 0 (0 : Int).toNat = zI (yn S.1 + yn r) := p0
        refine ⟨uS ν2 7 (zI 0), ?_, ?_⟩
        · rw [if_pos q]
          exact ⟨k0, (uS_ne (by decide)).trans k1, k2, (uS_ne (by decide)).trans k3, k4, uS_at _ _ _, fun i v e => by cases e⟩
        · have e0 : ν1.2 0 (0 : Int).toNat = zI (yn S.1) := g0
          simp only [if_pos q]
          refine (if_pos (by rw [show (12 : Int32) = zI 12 by decide, zI_le (by omega) (by omega) (by omega) (by omega)]; omega)).trans ?_
          rw [m_rc, n4, cl_some, m_gR (by decide), show (0 : Int32) = zI 0 by decide, m_lI hA (by decide) (by omega) (by decide) (by omega), e0]
          refine Eq.trans e2 ?_
          show xm_pV [2] 7 (some (A 3)) (.int (zI 0)) (mk A ν2 h) _ = _
          rw [m_pV hA (by decide), m_gR (by decide), show (0 : Int32) = zI 0 by decide, m_lI hA (by decide) (by omega) (by decide) (by omega), e4]
      · refine ⟨ν, by rw [if_neg q]; exact H1, ?_⟩
        simp only [if_neg q]
        exact if_neg (by rw [show (12 : Int32) = zI 12 by decide, zI_le (by omega) (by omega) (by omega) (by omega)]; omega)
end
