/-! PURE LAW: labels as numbers; making a crate -/
set_option maxRecDepth 10000
def ylabF : Nat → Int → Option (List Int)
  | 0, l => if l ≤ 0 then some [] else none
  | f + 1, l => if l ≤ 0 then some [] else if l % 27 = 0 then none else (ylabF f (l / 27)).map fun k => (l % 27 - 1) :: k
/-- the letters of a label that is told as a number -/
def ylab (l : Int) : Option (List Int) := if l ≤ 0 then none else ylabF 4 l
def okF : Nat → Int → Bool
  | 0, _ => true
  | m + 1, l => (decide (0 < l % 27) || decide (l = 0)) && okF m (l / 27)
def ydig : Nat → Int → Int
  | 0, l => l % 27
  | p + 1, l => ydig p (l / 27)
theorem okF_0 : ∀ m, okF m 0 = true
  | 0 => rfl
  | m + 1 => by unfold okF; rw [show (0 : Int) / 27 = 0 from rfl, okF_0 m]; rfl
theorem ydig_0 : ∀ p, ydig p 0 = 0
  | 0 => rfl
  | p + 1 => by unfold ydig; rw [show (0 : Int) / 27 = 0 from rfl, ydig_0 p]
theorem ylabF_ok : ∀ (m : Nat) (l : Int), 0 ≤ l → (l < 27 ^ m → (ylabF m l).isSome = okF m l) ∧ (27 ^ m ≤ l → ylabF m l = none)
  | 0, l, h => by
    rw [show (27 : Int) ^ 0 = 1 from rfl]
    unfold ylabF okF
    constructor
    · intro q; rw [if_pos (by omega)]; rfl
    · intro q; rw [if_neg (by omega)]
  | m + 1, l, h => by
    have e : (27 : Int) ^ (m + 1) = 27 * 27 ^ m := by rw [Int.pow_succ]; omega
    have ih := ylabF_ok m (l / 27) (by omega)
    have p0 : (0 : Int) < 27 ^ m := Int.pow_pos (by decide)
    rw [e]
    generalize (27 : Int) ^ m = t at ih p0 ⊢
    unfold ylabF okF
    constructor
    · intro q
      by_cases z : l ≤ 0
      · have : l = 0 := by omega
        subst this
        rw [if_pos z, show (0 : Int) / 27 = 0 from rfl, okF_0]; rfl
      · rw [if_neg z]
        by_cases d : l % 27 = 0
        · rw [if_pos d, decide_eq_false (p := 0 < l % 27) (by omega), decide_eq_false (p := l = 0) (by omega)]; rfl
        · rw [if_neg d, decide_eq_true (p := 0 < l % 27) (by omega), Option.isSome_map, ih.1 (by omega)]; simp
    · intro q
      rw [if_neg (by omega)]
      by_cases d : l % 27 = 0
      · rw [if_pos d]
      · rw [if_neg d, ih.2 (by omega)]; rfl
theorem ylabF_lb : ∀ (m : Nat) (l : Int) (lb : List Int), 0 ≤ l → ylabF m l = some lb → lb.length ≤ m ∧ (0 < l → 1 ≤ lb.length) ∧ (∀ x ∈ lb, 0 ≤ x ∧ x ≤ 25) ∧ ∀ p, p < m → (lb[p]?).elim 0 (· + 1) = ydig p l
  | 0, l, lb, h, e => by
    unfold ylabF at e
    by_cases z : l ≤ 0
    · rw [if_pos z] at e; cases e
      exact ⟨Nat.le_refl _, fun q => by omega, fun x m => (nomatch m), fun p hp => by omega⟩
    · rw [if_neg z] at e; cases e
  | m + 1, l, lb, h, e => by
    unfold ylabF at e
    by_cases z : l ≤ 0
    · rw [if_pos z] at e; cases e
      have : l = 0 := by omega
      subst this
      exact ⟨Nat.zero_le _, fun q => by omega, fun x m => (nomatch m), fun p hp => by rw [ydig_0]; rfl⟩
    · rw [if_neg z] at e
      by_cases d : l % 27 = 0
      · rw [if_pos d] at e; cases e
      · rw [if_neg d] at e
        obtain ⟨k, e1, rfl⟩ := Option.map_eq_some_iff.1 e
        obtain ⟨a, b, c, g⟩ := ylabF_lb m (l / 27) k (by omega) e1
        refine ⟨by rw [List.length_cons]; omega, fun _ => by rw [List.length_cons]; omega, fun x mx => ?_, fun p hp => ?_⟩
        · rcases List.mem_cons.1 mx with rfl | mx
          · omega
          · exact c x mx
        · match p with
          | 0 =>
            unfold ydig
            show l % 27 - 1 + 1 = l % 27
            omega
          | p + 1 => exact g p (by omega)
theorem ylab_some {l : Int} {lb : List Int} (e : ylab l = some lb) : 0 < l ∧ 1 ≤ lb.length ∧ lb.length ≤ 4 ∧ (∀ x ∈ lb, 0 ≤ x ∧ x ≤ 25) ∧ ∀ p, p < 4 → (lb[p]?).elim 0 (· + 1) = ydig p l := by
  unfold ylab at e
  by_cases z : l ≤ 0
  · rw [if_pos z] at e; cases e
  · rw [if_neg z] at e
    obtain ⟨a, b, c, d⟩ := ylabF_lb 4 l lb (by omega) e
    exact ⟨by omega, b (by omega), a, c, d⟩
theorem zI_rem {a : Int} (h1 : 0 ≤ a) (h2 : a ≤ 2147483647) : zI a - zI a / zI 27 * zI 27 = zI (a % 27) := by
  rw [zI_div h1 h2 (by decide) (by decide), zI_mul, zI_sub]
  congr 1; omega
theorem zI_rem2 {a : Int} : zI a - zI (a / 27) * zI 27 = zI (a % 27) := by
  rw [zI_mul, zI_sub]
  congr 1; omega
/-- a yard of one crate -/
def yOne (sz rm gp : Int) (lb : List Int) : YD := (1, fun k _ => if k = 0 then sz else if k = 1 then rm else if k = 2 then gp else -1, fun _ => lb, fun _ => [], 0)
theorem yOne_ok {sz rm gp : Int} {lb : List Int} (h0 : 1 ≤ sz ∧ sz ≤ 60) (h1 : 0 ≤ rm ∧ rm < sz) (h2 : 0 ≤ gp ∧ gp ≤ 15) (h3 : 1 ≤ lb.length ∧ lb.length ≤ 4) (h4 : ∀ x ∈ lb, 0 ≤ x ∧ x ≤ 25) : YOk (yOne sz rm gp lb) := by
  refine ⟨by show 1 ≤ 12; decide, fun c hc => ⟨h0, h1, h2, ?_, h3, h4, List.nodup_nil, fun d => ?_, h1.1⟩⟩
  · show (-1 : Int) ≤ -1 ∧ (-1 : Int) < ((1 : Nat) : Int)
    omega
  · show d ∈ [] ↔ d < 1 ∧ (-1 : Int) = c
    constructor
    · intro m; cases m
    · intro z; omega
def oMake (S : SD) (a b c l : Int) : Int × SD := if 1 ≤ a ∧ a ≤ 60 then (if 0 ≤ b ∧ b ≤ a - 1 then (if 0 ≤ c ∧ c ≤ 15 then (match ylab l with
  | none => (-1, S)
  | some lb => if yn S.1 = 12 then (-3, S) else (yn S.1, sDo S (yApp S.1 (yOne a b c lb)))) else (-1, S)) else (-1, S)) else (-1, S)
section
variable {A : Nat → Nat} {h : xk_H} {S : SD}
theorem M_isLabel_0 : ∀ (m k f : Nat) (x : Int32), k + m = 4 → m < f → mf_X2_isLabel_L12 f (zI 0) x (zI k) h = some (false, h)
  | m, k, 0, x, _, hf => absurd hf (Nat.not_lt_zero _)
  | 0, k, f + 1, x, hk, hf => by
    unfold mf_X2_isLabel_L12
    simp (disch := first | assumption | decide | omega | (simp only [aSz]; omega)) only [zI_lit, zI_add, zI_sub, zI_mul, zI_neg, b2_0z, cl_some, zI_le]
    rw [if_pos (by omega), show zI 0 = xk_b2 false from rfl, zb_z]
  | m + 1, k, f + 1, x, hk, hf => by
    have ih := M_isLabel_0 m (k + 1) f (x / zI 27) (by omega) (by omega)
    unfold mf_X2_isLabel_L12
    simp (disch := first | assumption | decide | omega | (simp only [aSz]; omega)) only [zI_lit, zI_add, zI_le]
    rw [if_neg (by omega), if_pos trivial]
    exact ih
theorem M_isLabel_1 : ∀ (m k f : Nat) (l : Int), 0 ≤ l → l ≤ 2147483647 → k + m = 4 → m < f → mf_X2_isLabel_L12 f (zI 1) (zI l) (zI k) h = some (okF m l, h)
  | m, k, 0, x, _, _, _, hf => absurd hf (Nat.not_lt_zero _)
  | 0, k, f + 1, l, h0, h1, hk, hf => by
    unfold mf_X2_isLabel_L12
    simp (disch := first | assumption | decide | omega | (simp only [aSz]; omega)) only [zI_lit, zI_le]
    rw [if_pos (by omega), show zI 1 = xk_b2 true from rfl, zb_z]; rfl
  | m + 1, k, f + 1, l, h0, h1, hk, hf => by
    have ih := M_isLabel_1 m (k + 1) f (l / 27) (by omega) (by omega) (by omega) (by omega)
    have i0 := M_isLabel_0 (h := h) m (k + 1) f (zI (l / 27)) (by omega) (by omega)
    unfold mf_X2_isLabel_L12 okF
    simp (disch := first | assumption | decide | omega | (simp only [aSz]; omega)) only [zI_lit, zI_add, zI_le, zI_rem2, zI_lt, zI_inj, zI_div]
    rw [if_neg (by omega), if_neg (by decide)]
    by_cases q : 0 < l % 27
    · rw [if_pos q, decide_eq_true q]; exact ih
    · rw [if_neg q, decide_eq_false q]
      by_cases q2 : l = 0
      · rw [if_pos q2, decide_eq_true q2]; exact ih
      · rw [if_neg q2, decide_eq_false q2]; exact i0
theorem M_isLabel {l : Int} (l1 : -2147483648 ≤ l) (l2 : l ≤ 2147483647) : mf_X2_isLabel (zI l) h = some ((ylab l).isSome, h) := by
  unfold mf_X2_isLabel ylab
  simp (disch := first | assumption | decide | omega | (simp only [aSz]; omega)) only [zI_lit, M_in, cl_some]
  by_cases z : l ≤ 0
  · rw [if_pos z, decide_eq_false (by omega)]
    exact M_isLabel_0 4 0 xk_fu (zI l) (by omega) (fu_lt (by omega))
  · rw [if_neg z]
    have t := ylabF_ok 4 l (by omega)
    rw [show (27 : Int) ^ 4 = 531441 from rfl] at t
    by_cases q : l ≤ 531440
    · rw [decide_eq_true (by omega), t.1 (by omega)]
      exact M_isLabel_1 4 0 xk_fu l (by omega) (by omega) (by omega) (fu_lt (by omega))
    · rw [decide_eq_false (by omega), t.2 (by omega)]
      exact M_isLabel_0 4 0 xk_fu (zI l) (by omega) (fu_lt (by omega))
theorem M_adds (hA : AOk A) {μ : MD} {c : Nat} {a b g w p : Int} (hc : c < 12) (h0 : μ.2 0 0 = zI c) : ∃ ν : MD, mOnly 0 μ ν ∧ ν.2 0 0 = zI (c + 1) ∧ ν.2 0 (2 + 9 * c) = zI a ∧ ν.2 0 (2 + 9 * c + 1) = zI b ∧ ν.2 0 (2 + 9 * c + 2) = zI g ∧ ν.2 0 (2 + 9 * c + 7) = zI (w + 1) ∧ ν.2 0 (2 + 9 * c + 8) = zI p ∧ (∀ j, j ≠ 0 → j ≠ 2 + 9 * c → j ≠ 2 + 9 * c + 1 → j ≠ 2 + 9 * c + 2 → j ≠ 2 + 9 * c + 7 → j ≠ 2 + 9 * c + 8 → ν.2 0 j = μ.2 0 j) ∧ mf_X2_adds (some (A 3)) (zI a) (zI b) (zI g) (zI w) (zI p) (mk A μ h) = some ((), mk A ν h) := by
  have k0 : zI (0 : Int) = zI ((0 : Nat) : Int) := rfl
  have k1 : zI (1 : Int) = zI ((1 : Nat) : Int) := rfl
  have k2 : zI (2 : Int) = zI ((2 : Nat) : Int) := rfl
  have k7 : zI (7 : Int) = zI ((7 : Nat) : Int) := rfl
  have k8 : zI (8 : Int) = zI ((8 : Nat) : Int) := rfl
  have e0 : μ.2 0 (0 : Int).toNat = zI c := h0
  refine ⟨uA (uA (uA (uA (uA (uA μ 0 (2 + 9 * c + 0) (zI a)) 0 (2 + 9 * c + 1) (zI b)) 0 (2 + 9 * c + 2) (zI g)) 0 (2 + 9 * c + 7) (zI (w + 1))) 0 (2 + 9 * c + 8) (zI p)) 0 0 (zI (c + 1)), ?_, ?_, ?_, ?_, ?_, ?_, ?_, ?_, ?_⟩
  · exact ((((mOnly.u.tr mOnly.u).tr mOnly.u).tr mOnly.u).tr mOnly.u).tr mOnly.u
  · rw [uA_at]; exact if_pos rfl
  · simp only [uA_at]
    exact (if_neg (by omega)).trans ((if_neg (by omega)).trans ((if_neg (by omega)).trans ((if_neg (by omega)).trans ((if_neg (by omega)).trans (if_pos (by first | omega | trivial))))))
  · simp only [uA_at]
    exact (if_neg (by omega)).trans ((if_neg (by omega)).trans ((if_neg (by omega)).trans ((if_neg (by omega)).trans (if_pos (by first | omega | trivial)))))
  · simp only [uA_at]
    exact (if_neg (by omega)).trans ((if_neg (by omega)).trans ((if_neg (by omega)).trans (if_pos (by first | omega | trivial))))
  · simp only [uA_at]
    exact (if_neg (by omega)).trans ((if_neg (by omega)).trans (if_pos (by first | omega | trivial)))
  · simp only [uA_at]
    exact (if_neg (by omega)).trans (if_pos (by first | omega | trivial))
  · intro j q0 q1 q2 q3 q4 q5
    simp only [uA_at]
    exact (if_neg q0).trans ((if_neg q5).trans ((if_neg q4).trans ((if_neg q3).trans ((if_neg q2).trans (if_neg q1)))))
  · have z : ∀ (μ : MD), μ.2 0 0 = zI c → μ.2 0 (0 : Int).toNat = zI c := fun _ h => h
    have z5 : (uA (uA (uA (uA (uA μ 0 (2 + 9 * c + 0) (zI a)) 0 (2 + 9 * c + 1) (zI b)) 0 (2 + 9 * c + 2) (zI g)) 0 (2 + 9 * c + 7) (zI (w + 1))) 0 (2 + 9 * c + 8) (zI p)).2 0 (0 : Int).toNat = zI c := by
      refine z _ ?_
      simp only [uA_at]
      exact (if_neg (by omega)).trans ((if_neg (by omega)).trans ((if_neg (by omega)).trans ((if_neg (by omega)).trans ((if_neg (by omega)).trans h0))))
    unfold mf_X2_adds
    simp (disch := first | assumption | decide | omega | (simp only [aSz]; omega)) only [m_rc, m_gI, m_gR, zI_lit, zI_add, zI_sub, zI_mul, zI_neg, b2_0z, cl_some, m_lI hA, m_sV hA, e0, lays3 hA hc (show 0 < 9 by decide) _ _ k0, lays3 hA hc (show 1 < 9 by decide) _ _ k1, lays3 hA hc (show 2 < 9 by decide) _ _ k2, lays3 hA hc (show 7 < 9 by decide) _ _ k7, lays3 hA hc (show 8 < 9 by decide) _ _ k8, z5]
    rfl
theorem M_make_L66 (hA : AOk A) (kx : xk_H → Option (Int32 × xk_H)) (z1 z2 z3 : Int32) {c : Nat} (hc : c < 12) : ∀ (m k f : Nat) (l : Int) (μ : MD), 0 ≤ l → l ≤ 2147483647 → μ.2 0 0 = zI c → k + m = 4 → m < f → ∃ ν : MD, mOnly 0 μ ν ∧ (∀ p, p < m → ν.2 0 (2 + 9 * c + 3 + (k + p)) = zI (ydig p l)) ∧ (∀ j, (j < 2 + 9 * c + 3 + k ∨ 2 + 9 * c + 7 ≤ j) → ν.2 0 j = μ.2 0 j) ∧ mf_X2_make_L66 kx (some (A 3)) z1 z2 z3 f (zI l) (zI k) (mk A μ h) = kx (mk A ν h)
  | m, k, 0, l, μ, _, _, _, _, hf => absurd hf (Nat.not_lt_zero _)
  | 0, k, f + 1, l, μ, h0, h1, hs, hk, hf => by
    refine ⟨μ, mOnly.rf, fun p hp => by omega, fun j _ => rfl, ?_⟩
    unfold mf_X2_make_L66
    simp (disch := first | assumption | decide | omega | (simp only [aSz]; omega)) only [zI_lit, zI_le]
    rw [if_pos (by omega)]
  | m + 1, k, f + 1, l, μ, h0, h1, hs, hk, hf => by
    obtain ⟨ν, n1, n2, n3, n4⟩ := M_make_L66 hA kx z1 z2 z3 hc m (k + 1) f (l / 27) (uA μ 0 (2 + 9 * c + (3 + k)) (zI (l % 27))) (by omega) (by omega) (by rw [uA_at]; exact (if_neg (by omega)).trans hs) (by omega) (by omega)
    refine ⟨ν, mOnly.u.tr n1, fun p hp => ?_, fun j hj => ?_, ?_⟩
    · match p with
      | 0 =>
        rw [n3 _ (Or.inl (by omega)), uA_at]
        exact if_pos (by omega)
      | p + 1 =>
        have := n2 p (by omega)
        rw [show k + 1 + p = k + (p + 1) by omega] at this
        exact this
    · rw [n3 j (by omega), uA_at]
      exact if_neg (by omega)
    · have e0 : μ.2 0 (0 : Int).toNat = zI c := hs
      have ly : mf_X2_lays (some (A 3)) (zI c) (zI (3 + (k : Int))) (zI (l % 27)) (mk A μ h) = some ((), mk A (uA μ 0 (2 + 9 * c + (3 + k)) (zI (l % 27))) h) := lays3 hA hc (w := 3 + k) (by omega) _ _ rfl
      unfold mf_X2_make_L66
      simp (disch := first | assumption | decide | omega | (simp only [aSz]; omega)) only [m_rc, m_gR, m_lI hA, e0, zI_lit, zI_add, zI_le, zI_rem2, zI_div, cl_some, ly]
      rw [if_neg (by omega)]
      exact n4
theorem M_make (hA : AOk A) {μ : MD} (H : MS μ S) (K : SOk S) {a b c l : Int} (a1 : -2147483648 ≤ a) (a2 : a ≤ 2147483647) (b1 : -2147483648 ≤ b) (b2 : b ≤ 2147483647) (c1 : -2147483648 ≤ c) (c2 : c ≤ 2147483647) (l1 : -2147483648 ≤ l) (l2 : l ≤ 2147483647) : ∃ ν : MD, MS ν (oMake S a b c l).2 ∧ mf_X2_make (some (A 3)) (zI a) (zI b) (zI c) (zI l) (mk A μ h) = some (zI (oMake S a b c l).1, mk A ν h) := by
  have hn := K.1.n
  unfold mf_X2_make oMake
  simp (disch := first | assumption | decide | omega | (simp only [aSz]; omega)) only [zI_lit, zI_add, zI_sub, zI_mul, zI_neg, b2_0z, cl_some, M_in, decide_eq_false_iff_not]
  by_cases q : 1 ≤ a ∧ a ≤ 60
  · rw [if_neg (not_not_intro q), if_pos q]
    by_cases q2 : 0 ≤ b ∧ b ≤ a - 1
    · rw [if_neg (not_not_intro q2), if_pos q2]
      by_cases q3 : 0 ≤ c ∧ c ≤ 15
      · rw [if_neg (not_not_intro q3), if_pos q3]
        simp (disch := first | assumption | decide | omega | (simp only [aSz]; omega)) only [M_isLabel, cl_some, b2_0z]
        cases e : ylab l with
        | none =>
          rw [if_pos (show (none : Option (List Int)).isSome = false from rfl)]
          exact ⟨μ, H, rfl⟩
        | some lb =>
          obtain ⟨g0, g1, g2, g3, g4⟩ := ylab_some e
          rw [if_neg (show ¬ (some lb).isSome = false by rw [Option.isSome_some]; decide)]
          have e0 : μ.2 0 (0 : Int).toNat = zI (yn S.1) := H.1.1
          simp (disch := first | assumption | decide | omega | (simp only [aSz]; omega)) only [m_rc, m_gI, m_gR, zI_lit, zI_add, zI_sub, zI_mul, zI_neg, b2_0z, cl_some, m_lI hA, e0, zI_inj]
          by_cases q4 : yn S.1 = 12
          · rw [if_pos q4, if_pos (by omega)]
            exact ⟨μ, H, rfl⟩
          · rw [if_neg q4, if_neg (by omega)]
            obtain ⟨ν, n1, n2, n3, n4⟩ := MS_rec (h := h) hA H K
            simp only [n4, cl_some]
            obtain ⟨r0, r1, rr⟩ := n1.1
            obtain ⟨ξ, x1, x2, x3, x4⟩ := M_make_L66 (h := h) hA (fun h17 => xm_rc [2] (some (A 3)) h17 <| xm_cl (mf_X2_adds (some (A 3)) (zI a) (zI b) (zI c) (zI (-1)) (zI 0) h17) fun r18 h19 => xm_gR [2] 0 (some (A 3)) h19 fun x20 => xm_lI [100] x20 (zI 0) h19 fun x21 => some ((x21 - zI 1), h19)) (zI a) (zI b) (zI c) (c := yn S.1) (by omega) 4 0 xk_fu l ν (by omega) l2 r0 (by omega) (fu_lt (by omega))
            obtain ⟨π, p1, p2, p3, p4, p5, p6, p7, p8, p9⟩ := M_adds (h := h) hA (μ := ξ) (c := yn S.1) (a := a) (b := b) (g := c) (w := -1) (p := 0) (by omega) ((x3 0 (Or.inl (by omega))).trans r0)
            have R := yOne_ok (gp := c) (lb := lb) q (rm := b) ⟨q2.1, by omega⟩ q3 ⟨g1, g2⟩ g3
            have n1' : yn (yOne a b c lb) = 1 := rfl
            have old : ∀ d w, d < yn S.1 → w < 9 → π.2 0 (2 + 9 * d + w) = ν.2 0 (2 + 9 * d + w) := fun d w hd hw => (p8 _ (by omega) (by omega) (by omega) (by omega) (by omega) (by omega)).trans (x3 _ (Or.inl (by omega)))
            have hY3 : MY (π.2 0) (yApp S.1 (yOne a b c lb)) := by
              refine ⟨p2, (p8 1 (by omega) (by omega) (by omega) (by omega) (by omega) (by omega)).trans ((x3 1 (Or.inl (by omega))).trans r1), fun d hd => ?_⟩
              have hd : d < yn S.1 + 1 := hd
              have pl := app_place K.1 R (c := d) (by rw [n1']; exact hd)
              by_cases z : d < yn S.1
              · obtain ⟨b0, b1, b2, b3, b4, b5⟩ := rr d z
                refine ⟨?_, ?_, ?_, fun p hp => ?_, ?_, ?_⟩
                · rw [app_f1 z]; exact (old d 0 z (by decide)).trans b0
                · rw [app_f1 z]; exact (old d 1 z (by decide)).trans b1
                · rw [app_f1 z]; exact (old d 2 z (by decide)).trans b2
                · have := (old d (3 + p) z (by omega))
                  rw [← Nat.add_assoc] at this
                  rw [this, b3 p hp]
                  unfold ylt; rw [app_l, if_pos z]
                · rw [app_f1 z]; exact (old d 7 z (by decide)).trans b4
                · rw [pl, if_pos z]; exact (old d 8 z (by decide)).trans b5
              · have ed : d = 0 + yn S.1 := by omega
                rw [if_neg z] at pl
                have pl2 : ypl (yApp S.1 (yOne a b c lb)) d = 0 := pl.trans (place_ground rfl)
                subst ed
                rw [Nat.zero_add] at pl2
                refine ⟨?_, ?_, ?_, fun p hp => ?_, ?_, ?_⟩
                · rw [app_f2 (by decide), Nat.zero_add]; exact p3
                · rw [app_f2 (by decide), Nat.zero_add]; exact p4
                · rw [app_f2 (by decide), Nat.zero_add]; exact p5
                · rw [Nat.zero_add, p8 _ (by omega) (by omega) (by omega) (by omega) (by omega) (by omega)]
                  have := x2 p hp
                  rw [Nat.zero_add] at this
                  rw [this]
                  unfold ylt
                  rw [app_l, if_neg (by omega), Nat.sub_self]
                  exact congrArg zI (g4 p hp).symm
                · rw [app_f3, Nat.zero_add]; exact p6
                · rw [Nat.zero_add, pl2]; exact p7
            refine ⟨π, n1.row (x1.tr p1) hY3, x4.trans ?_⟩
            have e2 : π.2 0 (0 : Int).toNat = zI (yn S.1 + 1) := p2
            simp (disch := first | assumption | decide | omega | (simp only [aSz]; omega)) only [m_rc, m_gI, m_gR, zI_lit, zI_add, zI_sub, zI_mul, zI_neg, b2_0z, cl_some, m_lI hA, p9, e2]
            rw [Int.add_sub_cancel]
      · rw [if_pos q3, if_neg q3]
        exact ⟨μ, H, rfl⟩
    · rw [if_pos q2, if_neg q2]
      exact ⟨μ, H, rfl⟩
  · rw [if_pos q, if_neg q]
    exact ⟨μ, H, rfl⟩
end
