/-! PURE LAW: the reference's fault -/
set_option maxRecDepth 10000
section
variable {A : Nat → Nat} {h : xk_H} {μ ν ξ : MD} {p : List Int} {i : Nat} {σ : List Nat} {r : YD}
/-- the closing brackets -/
theorem M_L304 (hA : AOk A) : ∀ (f g : Nat) (i : Nat) (σ : List Nat) (r : YD) (μ : MD) (R : Nat ⊕ YD), MPd μ p → MRS μ (i, true) → MQr μ σ r → RIn p i σ r → rdX p f true i σ r = some R → σ.length ≤ 20 → σ.length < g →
    ∃ ν i' σ' f', rSc μ ν ∧ MRS ν (i', true) ∧ MQr ν σ' r ∧ RIn p i' σ' r ∧ i ≤ i' ∧ rdX p f' true i' σ' r = some R ∧ f' ≤ f ∧ (∀ a τ, σ' = a :: τ → cR p i' ≠ 93) ∧ mf_X2_takesCrate_L304 (some (A 3)) g (mk A μ h) = some ((), mk A ν h)
  | f, 0, _, _, _, _, _, _, _, _, _, _, _, hg => absurd hg (Nat.not_lt_zero _)
  | 0, g + 1, i, σ, r, μ, R, P, m, Q, I, x, sl, hg => by cases x
  | f + 1, g + 1, i, σ, r, μ, R, P, m, Q, I, x, sl, hg => by
    have pl := P.2.2.1
    have il : i ≤ p.length := I.2.2.1
    have hh := M_here (h := h) hA P (i := i) (by omega) m.1
    have b := cR_bd P i
    cases σ with
    | nil =>
      refine ⟨μ, i, [], f + 1, rSc.rf, m, Q, I, Nat.le_refl _, x, Nat.le_refl _, fun a τ e => (by cases e), ?_⟩
      unfold mf_X2_takesCrate_L304
      rw [m_gI (by decide), m.2, if_neg (show ¬ xk_b2 true = 0 by decide), m_gI (by decide), Q.2.1, if_pos (by decide)]
    | cons a σ =>
      have hl : ¬ zI ((a :: σ).length : Int) ≤ 0 := by rw [show (0 : Int32) = zI 0 by decide, zI_le (by omega) (by omega) (by omega) (by omega), List.length_cons]; omega
      by_cases c : cR p i = 93
      · have x' : rdX p f true (i + 1) σ r = some R := by
          unfold rdX at x; rw [if_pos c] at x; exact x
        have li := cR_in c (by omega)
        let μ1 := uS μ 8 (zI ((i : Int) + 1))
        let μ2 := uS μ1 13 (zI (((a :: σ).length : Int) - 1))
        have s2 : rSc μ μ2 := ⟨fun _ _ _ => rfl, fun k k8 k9 k11 k13 => (uS_ne k13).trans (uS_ne k8)⟩
        have y8 : μ1.1 8 = zI ((i + 1 : Nat) : Int) := uS_at _ _ _
        have y9 : μ1.1 9 = xk_b2 true := (uS_ne (by decide)).trans m.2
        have y11 : μ1.1 11 = zI (yn r) := (uS_ne (by decide)).trans Q.1
        have y13 : μ1.1 13 = zI (a :: σ).length := (uS_ne (by decide)).trans Q.2.1
        have m2 : MRS μ2 (i + 1, true) := ⟨(uS_ne (by decide)).trans y8, (uS_ne (by decide)).trans y9⟩
        have Q2 : MQr μ2 σ r := ⟨(uS_ne (by decide)).trans y11, (uS_at _ _ _).trans (congrArg zI (by rw [List.length_cons]; omega)), fun j b g => Q.2.2.1 j b (by
          have := (List.getElem?_eq_some_iff.1 g).1
          rw [List.reverse_cons, List.getElem?_append_left this]; exact g), Q.2.2.2⟩
        have I2 : RIn p (i + 1) σ r := ⟨I.1, by have := I.2.1; omega, li, by have := I.2.2.2.1; rw [List.length_cons] at this; omega, fun b m => I.2.2.2.2 b (List.mem_cons_of_mem _ m)⟩
        obtain ⟨ν, i', σ', f', s3, m3, Q3, I3, li3, x3, lf, no, e3⟩ := M_L304 hA f g (i + 1) σ r μ2 R (s2.pd P) m2 Q2 I2 x' (by rw [List.length_cons] at sl; omega) (by rw [List.length_cons] at hg; omega)
        refine ⟨ν, i', σ', f', s2.tr s3, m3, Q3, I3, by omega, x3, by omega, no, ?_⟩
        unfold mf_X2_takesCrate_L304
        rw [m_gI (by decide), m.2, if_neg (show ¬ xk_b2 true = 0 by decide), m_gI (by decide), Q.2.1, if_neg hl, m_rc, hh, cl_some, if_pos (show zI (cR p i) = (93 : Int32) by rw [c]; rfl), m_gI (by decide), m.1, show (1 : Int32) = zI 1 by decide, zI_add, m_pV hA (by decide)]
        show xm_gI [2] 13 (some (A 3)) (mk A μ1 h) _ = _
        rw [m_gI (by decide), y13, zI_sub, m_pV hA (by decide)]
        exact e3
      · refine ⟨μ, i, a :: σ, f + 1, rSc.rf, m, Q, I, Nat.le_refl _, x, Nat.le_refl _, fun _ _ _ => c, ?_⟩
        unfold mf_X2_takesCrate_L304
        rw [m_gI (by decide), m.2, if_neg (show ¬ xk_b2 true = 0 by decide), m_gI (by decide), Q.2.1, if_neg hl, m_rc, hh, cl_some, if_neg (by rw [show (93 : Int32) = zI 93 by decide, zI_inj (by omega) (by omega) (by omega) (by omega)]; exact c)]
/-- whether the reading is right -/
def rdB (R : Nat ⊕ YD) : Bool := match R with | .inl _ => false | .inr _ => true
/-- what the reading leaves -/
def rdF (μ : MD) (R : Nat ⊕ YD) : Prop := match R with | .inl j => μ.1 8 = zI j ∧ j ≤ 200 | .inr r => MQr μ [] r ∧ ROk r ∧ yn r ≤ 11
theorem h4_200 (pl : p.length ≤ 80) (il : i ≤ 80) : (h4 p i).1 ≤ 200 := by
  have a1 : (stL p (i, true)).1 ≤ 84 := by
    have := (rdL_ok (p := p) 4 i).1
    unfold stL; split <;> simp only [] <;> omega
  have s1 : ∀ c (s : RS), (stS p c s).1 ≤ s.1 + 1 := fun c s => by unfold stS; split <;> simp only [] <;> omega
  have n1 : ∀ l g (s : RS), (stN p l g s).1 ≤ s.1 + 2 := fun l g s => by
    unfold stN
    split
    · simp only []; split <;> omega
    · simp only []; omega
  have b1 := s1 115 (stL p (i, true))
  have b2 := n1 1 60 (h1 p i)
  have b3 := s1 114 (stN p 1 60 (h1 p i))
  have b4 := n1 0 59 (h2 p i)
  have b5 := s1 103 (stN p 0 59 (h2 p i))
  have b6 := n1 0 15 (h3 p i)
  have e1 : h1 p i = stS p 115 (stL p (i, true)) := rfl
  have e2 : h2 p i = stS p 114 (stN p 1 60 (h1 p i)) := rfl
  have e3 : h3 p i = stS p 103 (stN p 0 59 (h2 p i)) := rfl
  have e4 : h4 p i = stN p 0 15 (h3 p i) := rfl
  rw [← e1] at b1
  rw [← e2] at b3
  rw [← e3] at b5
  rw [← e4] at b6
  omega
theorem M_nests (hA : AOk A) : ∀ (f : Nat) (i : Nat) (σ : List Nat) (r : YD) (μ : MD) (R : Nat ⊕ YD) (g : Nat), MPd μ p → MRS μ (i, true) → MQr μ σ r → RIn p i σ r → rdX p f false i σ r = some R → 100 ≤ g + i → 18 ≤ g →
    ∃ ν, rSc μ ν ∧ rdF ν R ∧ xm_cl (mf_X2_takesCrate (some (A 3)) (mk A μ h)) (fun r12 h13 => mf_X2_areNests_L24 (some (A 3)) g h13) = some (rdB R, mk A ν h)
  | 0, i, σ, r, μ, R, g, P, m, Q, I, x, hg, _ => by cases x
  | f + 1, i, σ, r, μ, R, g, P, m, Q, I, x, hg, hg2 => by
    have pl := P.2.2.1
    have il : i ≤ p.length := I.2.2.1
    obtain ⟨g, rfl⟩ : ∃ g', g = g' + 1 := ⟨g - 1, by omega⟩
    obtain ⟨ν, s1, t1, t2, t3⟩ := M_tc (h := h) hA P m Q I
    cases e : (h4 p i).2 with
    | false =>
      obtain ⟨m1, e1⟩ := t1 e
      have xr : R = .inl (h4 p i).1 := by
        unfold rdX at x; rw [if_pos e] at x; exact (Option.some.inj x).symm
      subst xr
      refine ⟨ν, s1, ⟨m1.1, h4_200 pl (by omega)⟩, ?_⟩
      rw [e1, cl_some]
      unfold mf_X2_areNests_L24
      rw [m_gI (by decide), m1.2]
      refine (if_pos rfl).trans ?_
      rw [m_gI (by decide), m1.2, zb_z]; rfl
    | true =>
      have le := h4_le e
      by_cases c : cR p (h4 p i).1 = 91
      · obtain ⟨m1, Q1, e1⟩ := t2 e c
        have x' : rdX p f false ((h4 p i).1 + 1) (yn r :: σ) (rNx p i σ r) = some R := by
          unfold rdX at x; rw [if_neg (by rw [e]; simp), if_pos c] at x; exact x
        obtain ⟨ξ, s2, F2, e2⟩ := M_nests hA f _ _ _ ν R g (s1.pd P) m1 Q1 (rNx_op I e c) x' (by omega) (by omega)
        have i2 := rNx_op I e c
        refine ⟨ξ, s1.tr s2, F2, ?_⟩
        rw [e1, cl_some]
        unfold mf_X2_areNests_L24 mf_X2_areNests_J49
        have P2 := s1.pd P
        have n13 := Q1.2.1
        rw [m_gI (by decide), m1.2]
        refine (if_neg (show ¬ xk_b2 true = 0 by decide)).trans ?_
        rw [m_gI (by decide), m_gI (by decide), m_rc, m_gI (by decide), n13, if_neg (show ¬ zI ((yn r :: σ).length : Int) ≤ 0 by
          have := I.2.2.2.1
          have := I.2.1
          rw [show (0 : Int32) = zI 0 by decide, zI_le (by rw [List.length_cons]; omega) (by rw [List.length_cons]; omega) (by omega) (by omega), List.length_cons]; omega), ite_self]
        exact e2
      · obtain ⟨m1, Q1, e1⟩ := t3 e c
        have x' : rdX p f true (h4 p i).1 σ (rNx p i σ r) = some R := by
          unfold rdX at x; rw [if_neg (by rw [e]; simp), if_neg c] at x; exact x
        have I1 := rNx_in I e
        have sl : σ.length ≤ 20 := by have := I.2.2.2.1; have := I.2.1; omega
        obtain ⟨ν2, i', σ', f', s2, m2, Q2, I2, li, x2, lf, no, e2⟩ := M_L304 (h := h) hA f xk_fu _ σ _ ν R (s1.pd P) m1 Q1 I1 x' sl (fu_lt (by omega))
        have P2 := s2.pd (s1.pd P)
        have i'l := I2.2.2.1
        have yl11 : yn (rNx p i σ r) ≤ 11 := by have := I2.2.1; omega
        rw [e1, e2, cl_some]
        have hd : mf_X2_areNests_L24 (some (A 3)) (g + 1) (mk A ν2 h) = if zI i' < zI p.length then (mf_X2_areNests_J49 (fun k => mf_X2_areNests_L24 (some (A 3)) g k) (some (A 3)) (mk A ν2 h)) else (if zI σ'.length ≤ 0 then (xm_z (xk_b2 true) fun x16 => some (x16, mk A ν2 h)) else (mf_X2_areNests_J49 (fun k => mf_X2_areNests_L24 (some (A 3)) g k) (some (A 3)) (mk A ν2 h))) := by
          conv => lhs; unfold mf_X2_areNests_L24
          rw [m_gI (by decide), m2.2]
          refine (if_neg (show ¬ xk_b2 true = 0 by decide)).trans ?_
          rw [m_gI (by decide), m2.1, m_gI (by decide), P2.1, m_gI (by decide), Q2.2.1, m_gI (by decide), m2.2]
        rw [hd]
        have more : ∀ f'', f'' ≤ f → rdX p f'' false i' σ' (rNx p i σ r) = some R → ∃ ξ, rSc μ ξ ∧ rdF ξ R ∧ mf_X2_areNests_J49 (fun k => mf_X2_areNests_L24 (some (A 3)) g k) (some (A 3)) (mk A ν2 h) = some (rdB R, mk A ξ h) := by
          intro f'' lf'' x3
          obtain ⟨ξ, s3, F3, e3⟩ := M_nests hA f'' i' σ' _ ν2 R g P2 m2 Q2 I2 x3 (by omega) (by omega)
          refine ⟨ξ, (s1.tr s2).tr s3, F3, ?_⟩
          unfold mf_X2_areNests_J49
          rw [m_rc]; exact e3
        cases f' with
        | zero => cases x2
        | succ f' =>
          cases σ' with
          | nil =>
            by_cases w : i' < p.length
            · have x3 : rdX p f' false i' [] (rNx p i σ r) = some R := by
                unfold rdX at x2; rw [if_pos w] at x2; exact x2
              rw [if_pos (by rw [zI_lt (by omega) (by omega) (by omega) (by omega)]; omega)]
              exact more f' (by omega) x3
            · have xr : R = .inr (rNx p i σ r) := by
                unfold rdX at x2; rw [if_neg w] at x2; exact (Option.some.inj x2).symm
              subst xr
              rw [if_neg (by rw [zI_lt (by omega) (by omega) (by omega) (by omega)]; omega), if_pos (by decide), zb_z]
              exact ⟨ν2, s1.tr s2, ⟨Q2, I2.1, yl11⟩, rfl⟩
          | cons a τ =>
            have x3 : rdX p f' false i' (a :: τ) (rNx p i σ r) = some R := by
              unfold rdX at x2; rw [if_neg (no a τ rfl)] at x2; exact x2
            have := I2.2.2.2.1
            rw [if_neg (show ¬ zI ((a :: τ).length : Int) ≤ 0 by
              rw [show (0 : Int32) = zI 0 by decide, zI_le (by omega) (by omega) (by omega) (by omega), List.length_cons]; omega), ite_self]
            exact more f' (by omega) x3
  termination_by f => f
theorem M_areNests (hA : AOk A) (P : MPd μ p) {R : Nat ⊕ YD} (x : Rd p false 0 [] (0, fun _ _ => 0, fun _ => [], fun _ => [], 0) R) : ∃ ν, rSc μ ν ∧ rdF ν R ∧ mf_X2_areNests (some (A 3)) (mk A μ h) = some (rdB R, mk A ν h) := by
  obtain ⟨f, hf⟩ := x
  let μ1 := uS μ 8 (zI 0)
  let μ2 := uS μ1 9 (zI 1)
  let μ3 := uS μ2 11 (zI 0)
  let μ4 := uS μ3 13 (zI 0)
  have s4 : rSc μ μ4 := ⟨fun _ _ _ => rfl, fun k k8 k9 k11 k13 => (uS_ne k13).trans ((uS_ne k11).trans ((uS_ne k9).trans (uS_ne k8)))⟩
  have a8 : μ1.1 8 = zI 0 := uS_at _ _ _
  have b8 : μ2.1 8 = zI 0 := (uS_ne (by decide)).trans a8
  have c8 : μ3.1 8 = zI 0 := (uS_ne (by decide)).trans b8
  have d8 : μ4.1 8 = zI 0 := (uS_ne (by decide)).trans c8
  have b9 : μ2.1 9 = zI 1 := uS_at _ _ _
  have c9 : μ3.1 9 = zI 1 := (uS_ne (by decide)).trans b9
  have d9 : μ4.1 9 = zI 1 := (uS_ne (by decide)).trans c9
  have c11 : μ3.1 11 = zI 0 := uS_at _ _ _
  have d11 : μ4.1 11 = zI 0 := (uS_ne (by decide)).trans c11
  obtain ⟨ν, s5, F5, e5⟩ := M_nests (h := h) hA f 0 [] (0, fun _ _ => 0, fun _ => [], fun _ => [], 0) μ4 R xk_fu (s4.pd P) ⟨d8, d9.trans (by decide)⟩ ⟨d11, uS_at _ _ _, fun j a g => (by cases g), fun c hc => absurd hc (Nat.not_lt_zero _)⟩ ⟨fun c hc => absurd hc (Nat.not_lt_zero _), Nat.le_refl _, Nat.zero_le _, Nat.le_refl _, fun a m => (nomatch m)⟩ hf (by have := fu_lt (n := 998) (by omega); omega) (by have := fu_lt (n := 998) (by omega); omega)
  refine ⟨ν, s4.tr s5, F5, ?_⟩
  unfold mf_X2_areNests
  rw [show (0 : Int32) = zI 0 by decide, show (1 : Int32) = zI 1 by decide, m_pV hA (by decide), m_pN hA (by decide) (Or.inr rfl), m_pV hA (by decide), m_pV hA (by decide), m_rc]
  exact e5
/-- the place of the fault -/
def rdP (R : Nat ⊕ YD) : Int := match R with | .inl j => j | .inr _ => -4
theorem M_fault (hA : AOk A) (P : MPd μ p) {R : Nat ⊕ YD} (x : Rd p false 0 [] (0, fun _ _ => 0, fun _ => [], fun _ => [], 0) R) : ∃ ν, rSc μ ν ∧ mf_X2_fault (some (A 3)) (mk A μ h) = some (zI (rdP R), mk A ν h) := by
  obtain ⟨ν, s, F, e⟩ := M_areNests (h := h) hA P x
  refine ⟨ν, s, ?_⟩
  unfold mf_X2_fault
  rw [m_rc, e, cl_some]
  cases R with
  | inl j =>
    refine (if_pos rfl).trans ?_
    rw [m_gI (by decide), F.1]; rfl
  | inr r => exact (if_neg (show ¬ xk_b2 true = 0 by decide)).trans rfl
theorem rSc.MH {y : YD} {hs : List YD} {kp : Option YD} {pd : List Int} (s : rSc μ ν) (H : MH μ y hs kp pd) : MH ν y hs kp pd := by
  obtain ⟨h0, h1, h2, h3, h4, h5, h6⟩ := H
  unfold Jvm.Pilot.CSlatCratesLaw_law_r5334_25f272.MH
  rw [s.1 0 (by decide) (by decide), s.1 2 (by decide) (by decide), s.1 4 (by decide) (by decide), s.1 6 (by decide) (by decide), s.2 3 (by decide) (by decide) (by decide) (by decide), s.2 5 (by decide) (by decide) (by decide) (by decide), s.2 7 (by decide) (by decide) (by decide) (by decide)]
  exact ⟨h0, h1, h2, h3, h4, h5, h6⟩
end
