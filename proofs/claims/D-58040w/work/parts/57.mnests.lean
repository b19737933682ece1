/-! PURE LAW: the reference reads nests -/
set_option maxRecDepth 10000
section
variable {A : Nat → Nat} {h : xk_H} {μ ν ξ : MD} {p : List Int} {s : RS} {n i : Nat} {σ : List Nat} {r : YD}
theorem RowR.congr {t t' : Nat → Int32} {c : Nat} (R : RowR t r c) (e : ∀ j, 9 * c ≤ j → j < 9 * c + 9 → t' j = t j) : RowR t' r c := by
  obtain ⟨a0, a1, a2, a3, a4, a5⟩ := R
  exact ⟨(e _ (by omega) (by omega)).trans a0, (e _ (by omega) (by omega)).trans a1, (e _ (by omega) (by omega)).trans a2, fun q hq => (e _ (by omega) (by omega)).trans (a3 q hq), (e _ (by omega) (by omega)).trans a4, (e _ (by omega) (by omega)).trans a5⟩
theorem M_placeIn_L4 (hA : AOk A) (hn : yn r ≤ 13) (O : ROk r) (m11 : μ.1 11 = zI (yn r)) (rows : ∀ c, c < yn r → RowR (μ.2 10) r c) {w : Int} (hw : -1 ≤ w ∧ w ≤ 100) : ∀ (m k f : Nat) (a : Int), k + m = yn r → m < f → mf_X2_placeIn_L4 (some (A 3)) (zI w) f (zI a) (zI k) (mk A μ h) = some (zI (a + zs (fun d => if yf r 3 d = w then 1 else 0) k m), mk A μ h)
  | m, k, 0, a, _, hf => absurd hf (Nat.not_lt_zero _)
  | 0, k, f + 1, a, hk, hf => by
    unfold mf_X2_placeIn_L4 zs
    rw [m_gI (by decide), m11, if_pos (by rw [zI_le (by omega) (by omega) (by omega) (by omega)]; omega), Int.add_zero]
  | m + 1, k, f + 1, a, hk, hf => by
    have hk' : k < yn r := by omega
    have hh := (O k hk').2.2.2.1
    have ih := fun b => M_placeIn_L4 hA hn O m11 rows hw m (k + 1) f b (by omega) (by omega)
    have r7 := (rows k hk').2.2.2.2.1
    have k1 : zI k + 1 = zI (k + 1 : Nat) := by rw [show (1 : Int32) = zI 1 by decide, zI_add]; rfl
    unfold mf_X2_placeIn_L4 zs
    rw [m_gI (by decide), m11, if_neg (by rw [zI_le (by omega) (by omega) (by omega) (by omega)]; omega), m_gR (by decide), show (9 : Int32) = zI 9 by decide, show (7 : Int32) = zI 7 by decide, zI_mul, zI_add, m_lI hA (by decide) (by omega) (by simp only [aSz]; omega) (by omega),
      show ((9 : Int) * k + 7).toNat = 9 * k + 7 by omega, r7, k1, show (1 : Int32) = zI 1 by decide, zI_add, zI_add]
    by_cases q : yf r 3 k = w
    · rw [if_pos (by rw [q]), if_pos q, ih, Int.add_assoc]
    · rw [if_neg (by rw [zI_inj (by omega) (by omega) (by omega) (by omega)]; omega), if_neg q, show (0 : Int32) = zI 0 by decide, zI_add, ih, Int.add_assoc]
/-- from the label on, to the place in the pile -/
theorem M_J157 (hA : AOk A) (P : MPd μ p) (R : MRS μ (stL p (i, true))) (hi : (stL p (i, true)).1 ≤ 80) (hn : yn r ≤ 11) (O : ROk r) (hσ : ∀ a ∈ σ, a < yn r) (m11 : μ.1 11 = zI (yn r)) (rows : ∀ c, c < yn r → RowR (μ.2 10) r c) (lbl : (stL p (i, true)).2 = true → ∀ q, q < 4 → μ.2 10 (9 * yn r + 3 + q) = zI (((rdL p 4 i)[q]?).elim 0 (· + 1))) :
    ∃ ν pl, sC (yn r) μ ν ∧ MRS ν (h4 p i) ∧ mf_X2_takesCrate_J157 (some (A 3)) (zI (9 * yn r : Nat)) (zI (hdI σ)) (mk A μ h) = mf_X2_takesCrate_J229 (some (A 3)) (zI (9 * yn r : Nat)) (zI (hdI σ)) (zI pl) (zI (9 * yn r : Nat) + 8) (some (A 10)) (mk A ν h) ∧
    (pl = if hdI σ < 0 then 0 else ((yp r (hdI σ).toNat).length : Int)) ∧ ((h4 p i).2 = true → ν.2 10 (9 * yn r) = zI (vN p 60 (h1 p i).1) ∧ ν.2 10 (9 * yn r + 1) = zI (vN p 59 (h2 p i).1) ∧ ν.2 10 (9 * yn r + 2) = zI (vN p 15 (h3 p i).1) ∧ ∀ q, q < 4 → ν.2 10 (9 * yn r + 3 + q) = zI (((rdL p 4 i)[q]?).elim 0 (· + 1))) := by
  have pl80 := P.2.2.1
  have hw := hdI_bd hσ
  have bd : ∀ {l g : Int} {c : Int} (hl : 0 ≤ l) (hc : c ≠ 0) {t : RS}, t.1 ≤ 80 → (stN p l g (stS p c t)).1 ≤ 80 := fun {l g c} hl hc {t} ht => by
    unfold stN
    by_cases q : (stS p c t).2 = true ∧ 48 + l ≤ cR p (stS p c t).1 ∧ cR p (stS p c t).1 ≤ 57
    · have := ((stN_le (p := p) (g := g) hl (s := stS p c t)).2 (by unfold stN; rw [if_pos q])).2.2
      unfold stN at this; rw [if_pos q] at this ⊢; omega
    · rw [if_neg q]
      unfold stS
      by_cases z : t.2 = true ∧ cR p t.1 = c
      · have := cR_in z.2 hc
        rw [if_pos z]; simp only []; omega
      · rw [if_neg z]; exact ht
  obtain ⟨ν1, v1, s1, R1, w1, t1⟩ := M_number (h := h) hA P R hi (c := 115) (l := 1) (g := 60) (by omega) (by omega) (by omega) (by omega) (by omega) (by omega)
  let μ1 := uA ν1 10 (9 * yn r) (zI v1)
  have S1 : sC (yn r) μ μ1 := (sC.of s1).tr (sC.u ⟨by omega, by omega⟩)
  have R1' : MRS μ1 (stN p 1 60 (h1 p i)) := R1
  obtain ⟨ν2, v2, s2, R2, w2, t2⟩ := M_number (h := h) hA (S1.pd P) R1' (bd (by omega) (by omega) hi) (c := 114) (l := 0) (g := 59) (by omega) (by omega) (by omega) (by omega) (by omega) (by omega)
  let μ2 := uA ν2 10 (9 * yn r + 1) (zI v2)
  have S2 : sC (yn r) μ μ2 := (S1.tr (sC.of s2)).tr (sC.u ⟨by omega, by omega⟩)
  have R2' : MRS μ2 (stN p 0 59 (h2 p i)) := R2
  obtain ⟨ν3, v3, s3, R3, w3, t3⟩ := M_number (h := h) hA (S2.pd P) R2' (bd (by omega) (by omega) (bd (by omega) (by omega) hi)) (c := 103) (l := 0) (g := 15) (by omega) (by omega) (by omega) (by omega) (by omega) (by omega)
  let μ3 := uA ν3 10 (9 * yn r + 2) (zI v3)
  have S3 : sC (yn r) μ μ3 := (S2.tr (sC.of s3)).tr (sC.u ⟨by omega, by omega⟩)
  have R3' : MRS μ3 (h4 p i) := R3
  have k0 : ∀ x : Int32, xm_sV [100] (some (A 10)) (zI (9 * yn r : Nat) + 0) (.int x) (mk A ν1 h) = xm_sV (γ := Unit × xk_H) [100] (some (A 10)) (zI (9 * yn r : Nat)) (.int x) (mk A ν1 h) := fun x => by
    rw [show (0 : Int32) = zI 0 by decide, zI_add, Int.add_zero]
  have hd : mf_X2_takesCrate_J157 (some (A 3)) (zI (9 * yn r : Nat)) (zI (hdI σ)) (mk A μ h) = if 0 ≤ zI (hdI σ) then (xm_rc [2] (some (A 3)) (mk A μ3 h) <| xm_cl (mf_X2_placeIn (some (A 3)) (zI (hdI σ)) (mk A μ3 h)) fun r40 h41 => mf_X2_takesCrate_J229 (some (A 3)) (zI (9 * yn r : Nat)) (zI (hdI σ)) r40 (zI (9 * yn r : Nat) + 8) (some (A 10)) h41) else (mf_X2_takesCrate_J229 (some (A 3)) (zI (9 * yn r : Nat)) (zI (hdI σ)) (0 : Int32) (zI (9 * yn r : Nat) + 8) (some (A 10)) (mk A μ3 h)) := by
    have t1 : mf_X2_takesNumber (some (A 3)) (115 : Int32) (1 : Int32) (60 : Int32) (mk A μ h) = some (zI v1, mk A ν1 h) := t1
    have t2 : mf_X2_takesNumber (some (A 3)) (114 : Int32) (0 : Int32) (59 : Int32) (mk A μ1 h) = some (zI v2, mk A ν2 h) := t2
    have t3 : mf_X2_takesNumber (some (A 3)) (103 : Int32) (0 : Int32) (15 : Int32) (mk A μ2 h) = some (zI v3, mk A ν3 h) := t3
    unfold mf_X2_takesCrate_J157
    rw [m_gR (by decide), m_rc, t1, cl_some, k0, m_sV hA (by decide) (by omega) (by simp only [aSz]; omega) (by omega), Int.toNat_natCast]
    show xm_gR [2] 10 (some (A 3)) (mk A μ1 h) _ = _
    rw [m_gR (by decide), m_rc, t2, cl_some, show (1 : Int32) = zI 1 by decide, zI_add, m_sV hA (by decide) (by omega) (by simp only [aSz]; omega) (by omega), show (((9 * yn r : Nat) : Int) + 1).toNat = 9 * yn r + 1 by omega]
    show xm_gR [2] 10 (some (A 3)) (mk A μ2 h) _ = _
    rw [m_gR (by decide), m_rc, t3, cl_some, show (2 : Int32) = zI 2 by decide, zI_add, m_sV hA (by decide) (by omega) (by simp only [aSz]; omega) (by omega), show (((9 * yn r : Nat) : Int) + 2).toNat = 9 * yn r + 2 by omega]
    show xm_gR [2] 10 (some (A 3)) (mk A μ3 h) _ = _
    rw [m_gR (by decide)]
  have rows3 : ∀ c, c < yn r → RowR (μ3.2 10) r c := fun c hc => (rows c hc).congr fun j a b => S3.2.1 j (by omega)
  have m113 : μ3.1 11 = zI (yn r) := (S3.2.2 11 (by decide) (by decide)).trans m11
  refine ⟨μ3, if hdI σ < 0 then 0 else ((yp r (hdI σ).toNat).length : Int), S3, R3', ?_, rfl, fun e => ?_⟩
  · rw [hd]
    by_cases q : hdI σ < 0
    · rw [if_neg (show ¬ 0 ≤ zI (hdI σ) by rw [show (0 : Int32) = zI 0 by decide, zI_le (by omega) (by omega) (by omega) (by omega)]; omega), if_pos q]; rfl
    · rw [if_pos (show 0 ≤ zI (hdI σ) by rw [show (0 : Int32) = zI 0 by decide, zI_le (by omega) (by omega) (by omega) (by omega)]; omega), if_neg q]
      have := M_placeIn_L4 (h := h) hA (by omega) O m113 rows3 (w := hdI σ) (by omega) (yn r) 0 xk_fu 0 (by omega) (fu_lt (by omega))
      obtain ⟨d, hd'⟩ : ∃ d : Nat, hdI σ = d := ⟨(hdI σ).toNat, by omega⟩
      have hdl : d < yn r := by omega
      rw [Int.zero_add, hd', O.cnt hdl] at this
      unfold mf_X2_placeIn
      rw [m_rc, hd', show (0 : Int32) = zI ((0 : Nat) : Int) from rfl]
      have t0 : zI ((0 : Nat) : Int) = zI 0 := rfl
      rw [t0] at this ⊢
      rw [this, cl_some, Int.toNat_natCast]
  · -- a right crate: its numbers
    obtain ⟨a1, a2, a3, _⟩ := st_split (p := p) (l := 0) (g := 15) (c := 103) (s := stN p 0 59 (h2 p i)) e
    obtain ⟨b1, b2, b3, _⟩ := st_split (p := p) (l := 0) (g := 59) (c := 114) (s := stN p 1 60 (h1 p i)) a1
    obtain ⟨c1, c2, c3, _⟩ := st_split (p := p) (l := 1) (g := 60) (c := 115) (s := stL p (i, true)) b1
    have e1 := w1 b1
    have e2 := w2 a1
    have e3 := w3 e
    have l3 : ∀ j, j ≠ 9 * yn r + 2 → μ3.2 10 j = ν3.2 10 j := fun j ne => by show (uA ν3 10 _ _).2 10 j = _; rw [uA_at]; exact if_neg ne
    have l2 : ∀ j, j ≠ 9 * yn r + 1 → μ2.2 10 j = ν2.2 10 j := fun j ne => by show (uA ν2 10 _ _).2 10 j = _; rw [uA_at]; exact if_neg ne
    have l1 : ∀ j, j ≠ 9 * yn r → μ1.2 10 j = ν1.2 10 j := fun j ne => by show (uA ν1 10 _ _).2 10 j = _; rw [uA_at]; exact if_neg ne
    refine ⟨?_, ?_, ?_, fun q hq => ?_⟩
    · rw [l3 _ (by omega), s3.1, l2 _ (by omega), s2.1]
      show (uA ν1 10 _ _).2 10 _ = _
      rw [uA_at]; exact (if_pos rfl).trans (congrArg zI e1)
    · rw [l3 _ (by omega), s3.1]
      show (uA ν2 10 _ _).2 10 _ = _
      rw [uA_at]; exact (if_pos rfl).trans (congrArg zI e2)
    · show (uA ν3 10 _ _).2 10 _ = _
      rw [uA_at]; exact (if_pos rfl).trans (congrArg zI e3)
    · rw [l3 _ (by omega), s3.1, l2 _ (by omega), s2.1, l1 _ (by omega), s1.1]; exact lbl c1 q hq
/-- the crate is laid down -/
theorem M_tc (hA : AOk A) (P : MPd μ p) (R : MRS μ (i, true)) (Q : MQr μ σ r) (I : RIn p i σ r) :
    ∃ ν, rSc μ ν ∧ ((h4 p i).2 = false → MRS ν ((h4 p i).1, false) ∧ mf_X2_takesCrate (some (A 3)) (mk A μ h) = some ((), mk A ν h)) ∧
      ((h4 p i).2 = true → cR p (h4 p i).1 = 91 → MRS ν ((h4 p i).1 + 1, true) ∧ MQr ν (yn r :: σ) (rNx p i σ r) ∧ mf_X2_takesCrate (some (A 3)) (mk A μ h) = some ((), mk A ν h)) ∧
      ((h4 p i).2 = true → cR p (h4 p i).1 ≠ 91 → MRS ν ((h4 p i).1, true) ∧ MQr ν σ (rNx p i σ r) ∧ mf_X2_takesCrate (some (A 3)) (mk A μ h) = mf_X2_takesCrate_L304 (some (A 3)) xk_fu (mk A ν h)) := by
  have pl80 := P.2.2.1
  obtain ⟨O, i7, il, sl, hσ⟩ := I
  have hn : yn r ≤ 11 := by omega
  have hw := hdI_bd hσ
  obtain ⟨q11, q13, q12, rows⟩ := Q
  obtain ⟨ν1, s1, n1, c1, _, e1⟩ := M_L36 (h := h) hA (fun h5 => tcB (some (A 3)) (zI (9 * yn r : Nat)) (zI (hdI σ)) h5) (zI (hdI σ)) 0 (n := yn r) (by omega) 4 0 xk_fu μ (by omega) (fu_lt (by omega))
  have hd1 : mf_X2_takesCrate (some (A 3)) (mk A μ h) = tcB (some (A 3)) (zI (9 * yn r : Nat)) (zI (hdI σ)) (mk A ν1 h) := by
    refine Eq.trans ?_ e1
    unfold mf_X2_takesCrate
    rw [m_gI (by decide), m_gI (by decide), q11, q13]
    have n9 : (9 : Int32) * zI (yn r) = zI (9 * yn r : Nat) := by rw [show (9 : Int32) = zI 9 by decide, zI_mul]; exact congrArg zI (by omega)
    rw [n9]
    cases σ with
    | nil => rfl
    | cons a σ =>
      have sl' : σ.length + 1 ≤ 11 := by rw [List.length_cons] at sl; omega
      have g12 : μ.2 12 σ.length = zI a := q12 σ.length a (by
        rw [List.reverse_cons, List.getElem?_append_right (by rw [List.length_reverse]; exact Nat.le_refl _), List.length_reverse, Nat.sub_self]; rfl)
      rw [List.length_cons, if_neg (show ¬ zI ((σ.length + 1 : Nat) : Int) ≤ 0 by rw [show (0 : Int32) = zI 0 by decide, zI_le (by omega) (by omega) (by omega) (by omega)]; omega), m_gR (by decide), m_gI (by decide), q13, List.length_cons, show (1 : Int32) = zI 1 by decide, zI_sub, m_lI hA (by decide) (by omega) (by simp only [aSz]; omega) (by omega),
        show (((σ.length + 1 : Nat) : Int) - 1).toNat = σ.length by omega, g12]
      rfl
  have P1 := s1.pd P
  have R1 : MRS ν1 (i, true) := ⟨by rw [n1]; exact R.1, by rw [n1]; exact R.2⟩
  obtain ⟨ν2, s2, R2, l2, e2⟩ := M_tcB (h := h) hA P1 R1 (by omega) (n := yn r) (by omega) (zI (hdI σ)) fun q hq => c1 q (Nat.zero_le _) hq
  have S2 := s1.tr s2
  have hst : (stL p (i, true)).1 ≤ 80 := by
    by_cases z : (stL p (i, true)).2 = true
    · have := (stL_le (p := p) (s := (i, true))).2 z; omega
    · unfold stL at z ⊢
      by_cases y : (i, true).2 = true ∧ rdL p 4 (i, true).1 ≠ []
      · rw [if_pos y] at z; exact absurd rfl z
      · rw [if_neg y]; simp only []; omega
  have rows2 : ∀ c, c < yn r → RowR (ν2.2 10) r c := fun c hc => (rows c hc).congr fun j a b => S2.2.1 j (by omega)
  obtain ⟨ν3, pl, s3, R3, e3, hpl, v3⟩ := M_J157 (h := h) (σ := σ) hA (S2.pd P) R2 hst hn O hσ ((S2.2.2 11 (by decide) (by decide)).trans q11) rows2 l2
  have S3 := S2.tr s3
  -- the place, the holder, the count
  let μ4 := uA ν3 10 (9 * yn r + 8) (zI pl)
  let μ5 := uA μ4 10 (9 * yn r + 7) (zI (hdI σ + 1))
  let μ6 := uS μ5 11 (zI ((yn r : Int) + 1))
  have S5 : sC (yn r) μ μ5 := (S3.tr (sC.u ⟨by omega, by omega⟩)).tr (sC.u ⟨by omega, by omega⟩)
  have x11 : μ5.1 11 = zI (yn r) := (S5.2.2 11 (by decide) (by decide)).trans q11
  have S6 : rSc μ μ6 := S5.r.tr ⟨fun _ _ _ => rfl, fun k _ _ k11 _ => uS_ne k11⟩
  have R6 : MRS μ6 (h4 p i) := ⟨(uS_ne (by decide)).trans R3.1, (uS_ne (by decide)).trans R3.2⟩
  have P6 := S6.pd P
  have m13 : μ6.1 13 = zI σ.length := (uS_ne (by decide)).trans ((S5.2.2 13 (by decide) (by decide)).trans q13)
  have m12 : μ6.2 12 = μ.2 12 := S5.1 12 (by decide)
  have hd2 : mf_X2_takesCrate (some (A 3)) (mk A μ h) = xm_gI [2] 9 (some (A 3)) (mk A μ6 h) fun x47 => if x47 = 0 then (mf_X2_takesCrate_L304 (some (A 3)) xk_fu (mk A μ6 h)) else (xm_rc [2] (some (A 3)) (mk A μ6 h) <| xm_cl (mf_X2_here (some (A 3)) (mk A μ6 h)) fun r56 h57 => if r56 = (91 : Int32) then (xm_gI [2] 8 (some (A 3)) h57 fun x58 => xm_pV [2] 8 (some (A 3)) (.int (x58 + (1 : Int32))) h57 fun h59 => xm_gR [2] 12 (some (A 3)) h59 fun x60 => xm_gI [2] 13 (some (A 3)) h59 fun x61 => xm_gI [2] 11 (some (A 3)) h59 fun x62 => xm_sV [100] x60 x61 (.int (x62 - (1 : Int32))) h59 fun h63 => xm_gI [2] 13 (some (A 3)) h63 fun x64 => xm_pV [2] 13 (some (A 3)) (.int (x64 + (1 : Int32))) h63 fun h65 => some ((), h65)) else (mf_X2_takesCrate_L304 (some (A 3)) xk_fu h57)) := by
    rw [hd1, e2, e3]
    unfold mf_X2_takesCrate_J229
    rw [show (8 : Int32) = zI 8 by decide, zI_add, m_sV hA (by decide) (by omega) (by simp only [aSz]; omega) (by omega), show (((9 * yn r : Nat) : Int) + 8).toNat = 9 * yn r + 8 by omega]
    show xm_gR [2] 10 (some (A 3)) (mk A μ4 h) _ = _
    rw [m_gR (by decide), show (7 : Int32) = zI 7 by decide, zI_add, show (1 : Int32) = zI 1 by decide, zI_add, m_sV hA (by decide) (by omega) (by simp only [aSz]; omega) (by omega), show (((9 * yn r : Nat) : Int) + 7).toNat = 9 * yn r + 7 by omega]
    show xm_gI [2] 11 (some (A 3)) (mk A μ5 h) _ = _
    rw [m_gI (by decide), x11, zI_add, m_pV hA (by decide)]
  have row6 : (h4 p i).2 = true → ∀ c, c < yn (rNx p i σ r) → RowR (μ6.2 10) (rNx p i σ r) c := fun e c hc => by
    have hc : c < yn r + 1 := hc
    have pc := rAdd_place O hw (lb := rdL p 4 i) (s := vN p 60 (h1 p i).1) (m := vN p 59 (h2 p i).1) (g := vN p 15 (h3 p i).1) hc
    have pc : ypl (rNx p i σ r) c = if c = yn r then (if hdI σ < 0 then 0 else (yp r (hdI σ).toNat).length) else ypl r c := pc
    obtain ⟨y0, y1, y2, y3⟩ := v3 e
    have f6 : ∀ j, j ≠ 9 * yn r + 7 → j ≠ 9 * yn r + 8 → μ6.2 10 j = ν3.2 10 j := fun j n7 n8 => by
      show (uA μ4 10 _ _).2 10 j = _
      rw [uA_at]
      refine (if_neg n7).trans ?_
      show (uA ν3 10 _ _).2 10 j = _
      rw [uA_at]; exact if_neg n8
    by_cases q : c = yn r
    · subst q
      have z : ∀ k, yf (rNx p i σ r) k (yn r) = if k = 0 then vN p 60 (h1 p i).1 else if k = 1 then vN p 59 (h2 p i).1 else if k = 2 then vN p 15 (h3 p i).1 else hdI σ := fun k => if_pos rfl
      have zl : yl (rNx p i σ r) (yn r) = rdL p 4 i := if_pos rfl
      refine ⟨by rw [f6 _ (by omega) (by omega), y0, z]; rfl, by rw [f6 _ (by omega) (by omega), y1, z]; rfl, by rw [f6 _ (by omega) (by omega), y2, z]; rfl, fun t ht => ?_, ?_, ?_⟩
      · rw [f6 _ (by omega) (by omega), y3 t ht]; unfold ylt; rw [zl]
      · rw [z]
        show (uA μ4 10 _ _).2 10 _ = _
        rw [uA_at]; exact if_pos rfl
      · rw [pc, if_pos rfl]
        show (uA μ4 10 _ _).2 10 _ = _
        rw [uA_at]
        refine (if_neg (by omega)).trans ?_
        show (uA ν3 10 _ _).2 10 _ = _
        rw [uA_at, hpl]
        refine (if_pos rfl).trans (congrArg zI ?_)
        split <;> rfl
    · have R := (rows c (by omega)).congr (t' := μ6.2 10) fun j a b => by
        rw [f6 j (by omega) (by omega)]; exact S3.2.1 j (by omega)
      obtain ⟨a0, a1, a2, a3, a4, a5⟩ := R
      have z : ∀ k, yf (rNx p i σ r) k c = yf r k c := fun k => if_neg q
      have zl : yl (rNx p i σ r) c = yl r c := if_neg q
      exact ⟨by rw [z]; exact a0, by rw [z]; exact a1, by rw [z]; exact a2, fun t ht => by unfold ylt; rw [zl]; exact a3 t ht, by rw [z]; exact a4, by rw [pc, if_neg q]; exact a5⟩
  have m11 : μ6.1 11 = zI (yn (rNx p i σ r)) := uS_at _ _ _
  obtain ⟨f, hf⟩ : ∃ f, xk_fu = f + 1 := ⟨999, rfl⟩
  have b4 := cR_bd P6 (h4 p i).1
  cases e : (h4 p i).2 with
  | false =>
    refine ⟨μ6, S6, fun _ => ⟨⟨R6.1, by rw [← e]; exact R6.2⟩, ?_⟩, fun z => absurd z (by simp), fun z => absurd z (by simp)⟩
    rw [hd2, m_gI (by decide), R6.2, e]
    refine (if_pos rfl).trans ?_
    rw [hf]
    unfold mf_X2_takesCrate_L304
    rw [m_gI (by decide), R6.2, e]
    exact if_pos rfl
  | true =>
    have le := h4_le e
    have hh := M_here (h := h) hA P6 (i := (h4 p i).1) (by omega) R6.1
    by_cases c : cR p (h4 p i).1 = 91
    · let μ7 := uS μ6 8 (zI (((h4 p i).1 : Int) + 1))
      let μ8 := uA μ7 12 σ.length (zI (yn r))
      let μ9 := uS μ8 13 (zI ((σ.length : Int) + 1))
      have y13 : μ7.1 13 = zI σ.length := (uS_ne (by decide)).trans m13
      have y11 : μ7.1 11 = zI ((yn r : Int) + 1) := (uS_ne (by decide)).trans m11
      have z13 : μ8.1 13 = zI σ.length := y13
      have y8 : μ7.1 8 = zI (((h4 p i).1 + 1 : Nat) : Int) := uS_at _ _ _
      have y9 : μ7.1 9 = xk_b2 true := (uS_ne (by decide)).trans (by rw [R6.2, e])
      have z8 : μ8.1 8 = zI (((h4 p i).1 + 1 : Nat) : Int) := y8
      have z9 : μ8.1 9 = xk_b2 true := y9
      have z11 : μ8.1 11 = zI ((yn r : Int) + 1) := y11
      have w8 : μ9.1 8 = zI (((h4 p i).1 + 1 : Nat) : Int) := (uS_ne (by decide)).trans z8
      have w9 : μ9.1 9 = xk_b2 true := (uS_ne (by decide)).trans z9
      have w11 : μ9.1 11 = zI (yn (rNx p i σ r)) := (uS_ne (by decide)).trans z11
      have w13 : μ9.1 13 = zI (yn r :: σ).length := (uS_at μ8 13 (zI ((σ.length : Int) + 1))).trans rfl
      refine ⟨μ9, S6.tr ⟨fun q q10 q12 => uA_ne _ _ q12, fun k k8 k9 k11 k13 => (uS_ne k13).trans (uS_ne k8)⟩, fun z => absurd z (by simp), fun _ _ => ⟨⟨w8, w9⟩, ⟨w11, w13, fun j a g => ?_, fun c hc => ?_⟩, ?_⟩, fun _ z => absurd c z⟩
      · show (uA μ7 12 _ _).2 12 j = _
        rw [uA_at]
        by_cases q : j = σ.length
        · subst q
          rw [List.reverse_cons, List.getElem?_append_right (by rw [List.length_reverse]; exact Nat.le_refl _), List.length_reverse, Nat.sub_self] at g
          have g : some (yn r) = some a := g
          cases g
          exact if_pos rfl
        · have jl : j < σ.length := by
            have := (List.getElem?_eq_some_iff.1 g).1
            rw [List.length_reverse, List.length_cons] at this; omega
          rw [List.reverse_cons, List.getElem?_append_left (by rw [List.length_reverse]; exact jl)] at g
          refine (if_neg q).trans ?_
          show μ6.2 12 j = _
          rw [m12]; exact q12 j a g
      · show RowR ((uA μ7 12 σ.length (zI (yn r))).2 10) _ c
        rw [uA_ne _ _ (by decide)]; exact row6 e c hc
      · rw [hd2, m_gI (by decide), R6.2, e]
        refine (if_neg (by decide)).trans ?_
        rw [m_rc, hh, cl_some, if_pos (by rw [c]; rfl), m_gI (by decide), R6.1, show (1 : Int32) = zI 1 by decide, zI_add, m_pV hA (by decide)]
        show xm_gR [2] 12 (some (A 3)) (mk A μ7 h) _ = _
        rw [m_gR (by decide), m_gI (by decide), y13, m_gI (by decide), y11, zI_sub, show ((yn r : Int) + 1 - 1) = yn r by omega, m_sV hA (by decide) (by omega) (by simp only [aSz]; omega) (by omega), Int.toNat_natCast]
        show xm_gI [2] 13 (some (A 3)) (mk A μ8 h) _ = _
        rw [m_gI (by decide), z13, zI_add, m_pV hA (by decide)]
    · refine ⟨μ6, S6, fun z => absurd z (by simp), fun _ z => absurd z c, fun _ _ => ⟨⟨R6.1, by rw [← e]; exact R6.2⟩, ⟨m11, m13, fun j a g => by rw [m12]; exact q12 j a g, row6 e⟩, ?_⟩⟩
      rw [hd2, m_gI (by decide), R6.2, e]
      refine (if_neg (by decide)).trans ?_
      rw [m_rc, hh, cl_some, if_neg (by rw [show (91 : Int32) = zI 91 by decide, zI_inj (by omega) (by omega) (by omega) (by omega)]; exact c)]
end
