/-! PURE LAW: the reference writes a crate with its pile -/
set_option maxRecDepth 10000
theorem pile_at {y : YD} (O : YOk y) {c d i : Nat} (hc : c < yn y) : (yp y c)[i]? = some d ↔ d < yn y ∧ yf y 3 d = (c : Int) ∧ ypl y d = i := by
  constructor
  · intro e
    obtain ⟨il, ig⟩ := List.getElem?_eq_some_iff.1 e
    have m := List.mem_of_getElem? e
    obtain ⟨h1, h2⟩ := (O.pm hc d).1 m
    refine ⟨h1, h2, ?_⟩
    rw [place_in h2, ← ig]
    exact (O.nd hc).idxOf_getElem i il
  · rintro ⟨h1, h2, h3⟩
    have m := (O.pm hc d).2 ⟨h1, h2⟩
    rw [place_in h2] at h3
    subst h3
    have l := List.idxOf_lt_length_of_mem m
    rw [List.getElem?_eq_getElem l, List.getElem_idxOf]
/-- the crate at a place of a pile, if it is k or later -/
def pk (y : YD) (c i k : Nat) (a : Int) : Int := ((yp y c)[i]?).elim a (fun d => if k ≤ d then (d : Int) else a)
section
variable {A : Nat → Nat} {h : xk_H} {y : YD}
theorem M_piled_L6 (hA : AOk A) {μ : MD} (hY : MY (μ.2 0) y) (O : YOk y) {c i : Nat} (hc : c < yn y) (hi : i ≤ 100) : ∀ (m k f : Nat) (a : Int), k + m = yn y → m < f → mf_X2_piled_L6 (some (A 3)) (zI c) (zI i) f (zI a) (zI k) (mk A μ h) = some (zI (pk y c i k a), mk A μ h)
  | m, k, 0, a, _, hf => absurd hf (Nat.not_lt_zero _)
  | 0, k, f + 1, a, hk, hf => by
    have hn := O.n
    have e : pk y c i k a = a := by
      unfold pk
      cases q : (yp y c)[i]? with
      | none => rfl
      | some d =>
        have := ((pile_at O hc).1 q).1
        exact if_neg (by omega)
    rw [e]
    unfold mf_X2_piled_L6
    simp (disch := first | assumption | decide | omega | (simp only [aSz]; omega)) only [m_rc, m_gI, m_gR, zI_lit, zI_add, zI_sub, zI_mul, zI_neg, b2_0z, cl_some, M_n hA hY, M_of0 hA hY, M_of1 hA hY, M_of2 hA hY, M_of7 hA hY, M_of8 hA hY, M_ofL hA hY, M_around hA hY, zI_le, zI_lt, zI_inj]
    rw [if_pos (by omega)]
  | m + 1, k, f + 1, a, hk, hf => by
    have hn := O.n
    have hk' : k < yn y := by omega
    have hH := O.ho hk'
    have pa := pile_at O hc (d := k) (i := i)
    have plb : ypl y k ≤ 100 := by
      by_cases q : yf y 3 k < 0
      · rw [place_ground (by omega)]; omega
      · obtain ⟨b, eb⟩ : ∃ b : Nat, yf y 3 k = b := ⟨(yf y 3 k).toNat, by omega⟩
        have := place_lt O hk' (d := b) (by omega) eb
        have := ypl_len O (c := b) (by omega)
        omega
    have ih := fun b => M_piled_L6 hA hY O hc hi m (k + 1) f b (by omega) (by omega)
    have no : ¬ (yp y c)[i]? = some k → pk y c i (k + 1) a = pk y c i k a := by
      intro ne
      unfold pk
      cases q : (yp y c)[i]? with
      | none => rfl
      | some d =>
        have dk : d ≠ k := fun z => ne (by rw [q, z])
        show (if k + 1 ≤ d then (d : Int) else a) = if k ≤ d then (d : Int) else a
        by_cases q2 : k ≤ d
        · rw [if_pos q2, if_pos (by omega)]
        · rw [if_neg q2, if_neg (by omega)]
    unfold mf_X2_piled_L6
    simp (disch := first | assumption | decide | omega | (simp only [aSz]; omega)) only [m_rc, m_gI, m_gR, zI_lit, zI_add, zI_sub, zI_mul, zI_neg, b2_0z, cl_some, M_n hA hY, M_of0 hA hY, M_of1 hA hY, M_of2 hA hY, M_of7 hA hY, M_of8 hA hY, M_ofL hA hY, M_around hA hY, zI_le, zI_lt, zI_inj]
    rw [if_neg (by omega)]
    by_cases q : yf y 3 k = (c : Int)
    · rw [if_pos q]
      by_cases q2 : (ypl y k : Int) = i
      · have e := pa.2 ⟨hk', q, by omega⟩
        rw [if_pos q2]
        refine (ih k).trans ?_
        have e1 : pk y c i (k + 1) k = k := by unfold pk; rw [e]; exact if_neg (by omega)
        have e2 : pk y c i k a = k := by unfold pk; rw [e]; exact if_pos (Nat.le_refl _)
        rw [e1, e2]
      · rw [if_neg q2, ← no fun z => q2 (by have := (pa.1 z).2.2; omega)]
        exact ih a
    · rw [if_neg q, ← no fun z => q (pa.1 z).2.1]
      exact ih a
theorem M_piled (hA : AOk A) {μ : MD} (hY : MY (μ.2 0) y) (O : YOk y) {c i : Nat} (hc : c < yn y) (hi : i ≤ 100) : mf_X2_piled (some (A 3)) (zI c) (zI i) (mk A μ h) = some (zI (((yp y c)[i]?).elim (-4) (fun d => (d : Int))), mk A μ h) := by
  have hn := O.n
  have := M_piled_L6 (h := h) hA hY O hc hi (yn y) 0 xk_fu (-4) (by omega) (fu_lt (by omega))
  have e : pk y c i 0 (-4) = ((yp y c)[i]?).elim (-4) (fun d => (d : Int)) := by
    unfold pk
    cases (yp y c)[i]? with
    | none => rfl
    | some d =>
      show (if 0 ≤ d then (d : Int) else -4) = (d : Int)
      rw [if_pos (Nat.zero_le d)]
  rw [e] at this
  unfold mf_X2_piled
  simp only [zI_lit, zI_add, zI_sub, zI_mul, zI_neg, b2_0z, cl_some]
  exact this
end
/-- what is still to be written, the innermost pile first: a crate, and how many of its pile are written -/
def rst (y : YD) : List (Nat × Nat) → List Int
  | [] => []
  | q :: fs => ((yp y q.1).drop q.2).flatMap (ytx y) ++ (93 :: rst y fs)
/-- piles that are begun: each lies in the next -/
def stk (y : YD) : List (Nat × Nat) → Prop
  | [] => True
  | q :: fs => q.1 < yn y ∧ q.2 ≤ (yp y q.1).length ∧ (match fs with
    | [] => True
    | p :: _ => yf y 3 q.1 = (p.1 : Int)) ∧ stk y fs
/-- the reference's stack -/
def stA (μ : MD) : List (Nat × Nat) → Prop
  | [] => True
  | q :: fs => μ.2 16 fs.length = zI q.1 ∧ μ.2 17 fs.length = zI q.2 ∧ stA μ fs
theorem stA.congr {μ ν : MD} : ∀ {fs : List (Nat × Nat)}, stA μ fs → (∀ j, j < fs.length → ν.2 16 j = μ.2 16 j ∧ ν.2 17 j = μ.2 17 j) → stA ν fs
  | [], _, _ => trivial
  | q :: fs, h, e => by
    obtain ⟨a, b, c⟩ := h
    have e0 := e fs.length (by rw [List.length_cons]; omega)
    exact ⟨e0.1.trans a, e0.2.trans b, stA.congr c fun j hj => e j (by rw [List.length_cons]; omega)⟩
theorem stk_len {y : YD} (O : YOk y) : ∀ {fs : List (Nat × Nat)} {q : Nat × Nat}, stk y (q :: fs) → fs.length ≤ (ch y q.1).length
  | [], q, h => Nat.zero_le _
  | p :: fs, q, h => by
    obtain ⟨h1, h2, h3, h4⟩ := h
    have hp := h4.1
    have := stk_len O h4
    rw [ch_in O h1 hp h3, List.length_cons, List.length_cons]; omega
/-- only what is written and the stack differ -/
def mScr (μ ν : MD) : Prop := (∀ r, r ≠ 14 → r ≠ 16 → r ≠ 17 → ν.2 r = μ.2 r) ∧ ∀ k, k ≠ 15 → ν.1 k = μ.1 k
theorem mScr.rf {μ : MD} : mScr μ μ := ⟨fun _ _ _ _ => rfl, fun _ _ => rfl⟩
theorem mScr.tr {μ ν ξ : MD} (a : mScr μ ν) (b : mScr ν ξ) : mScr μ ξ := ⟨fun r x y z => (b.1 r x y z).trans (a.1 r x y z), fun k x => (b.2 k x).trans (a.2 k x)⟩
theorem mScr.u {μ : MD} {r i : Nat} {v : Int32} (hr : r = 14 ∨ r = 16 ∨ r = 17) : mScr μ (uA μ r i v) := ⟨fun q a b c => uA_ne i v (by omega), fun _ _ => rfl⟩
theorem mScr.w {μ : MD} {n : Nat} {L : List Int} : mScr μ (wL μ n L) := ⟨fun q a b c => wL_2 _ _ a, fun k hk => wL_1 _ _ hk⟩
section
variable {A : Nat → Nat} {h : xk_H} {y : YD}
theorem M_writesNest_L31 (hA : AOk A) (O : YOk y) : ∀ (f : Nat) (fs : List (Nat × Nat)) (μ : MD) (n : Nat), MY (μ.2 0) y → stk y fs → stA μ fs → μ.1 15 = zI n → n + (rst y fs).length ≤ 230 → (rst y fs).length < f → ∃ ν : MD, mScr μ ν ∧ ν.1 15 = zI (n + (rst y fs).length : Nat) ∧ (∀ j, j < n → ν.2 14 j = μ.2 14 j) ∧ (∀ j x, (rst y fs)[j]? = some x → ν.2 14 (n + j) = zI x) ∧ mf_X2_writesNest_L31 (some (A 3)) f (zI fs.length) (mk A μ h) = some ((), mk A ν h)
  | 0, fs, μ, n, _, _, _, _, _, hf => absurd hf (Nat.not_lt_zero _)
  | f + 1, [], μ, n, hY, hk, hs, h15, hl, hf => by
    refine ⟨μ, mScr.rf, h15, fun _ _ => rfl, fun j x e => (nomatch e), ?_⟩
    unfold mf_X2_writesNest_L31
    simp (disch := first | assumption | decide | omega | (simp only [aSz]; omega)) only [zI_lit, zI_le]
    rw [if_pos (by decide)]
  | f + 1, q :: fs, μ, n, hY, hk, hs, h15, hl, hf => by
    obtain ⟨c, i⟩ := q
    have hn := O.n
    obtain ⟨k1, k2, k3, k4⟩ := hk
    obtain ⟨s1, s2, s3⟩ := hs
    have k1 : c < yn y := k1
    have k2 : i ≤ (yp y c).length := k2
    have s1 : μ.2 16 fs.length = zI c := s1
    have s2 : μ.2 17 fs.length = zI i := s2
    have pl := ypl_len O k1
    have sl : fs.length ≤ (ch y c).length := stk_len O (fs := fs) (q := (c, i)) ⟨k1, k2, k3, k4⟩
    have cl := ch_len11 O k1
    have stne : ∀ {j : Nat}, j < ((c, i + 1) :: fs).length → ¬ j = fs.length + 1 := fun {j} hj => by
      have e9 : ((c, i + 1) :: fs).length = fs.length + 1 := rfl
      omega
    have step : ∀ (L : List Int) (gs : List (Nat × Nat)) (ξ : MD), L ≠ [] → rst y ((c, i) :: fs) = L ++ rst y gs → mScr μ ξ → ξ.1 15 = zI (n + L.length : Nat) → (∀ j, ξ.2 14 j = (wL μ n L).2 14 j) → stk y gs → stA ξ gs → ∃ ν : MD, mScr μ ν ∧ ν.1 15 = zI (n + (rst y ((c, i) :: fs)).length : Nat) ∧ (∀ j, j < n → ν.2 14 j = μ.2 14 j) ∧ (∀ j x, (rst y ((c, i) :: fs))[j]? = some x → ν.2 14 (n + j) = zI x) ∧ mf_X2_writesNest_L31 (some (A 3)) f (zI gs.length) (mk A ξ h) = some ((), mk A ν h) := by
      intro L gs ξ ne e sc x15 x14 hk' hs'
      have L0 : 0 < L.length := List.length_pos_iff.2 ne
      rw [e, List.length_append] at hl hf
      obtain ⟨ν, a1, a2, a3, a4, a5⟩ := M_writesNest_L31 hA O f gs ξ (n + L.length) (by rw [sc.1 0 (by decide) (by decide) (by decide)]; exact hY) hk' hs' x15 (by omega) (by omega)
      refine ⟨ν, sc.tr a1, ?_, fun j hj => ?_, fun j x ex => ?_, a5⟩
      · rw [e, List.length_append, ← Nat.add_assoc]; exact a2
      · rw [a3 j (by omega), x14, wL_14, if_neg (by omega)]
      · rw [e] at ex
        by_cases z : j < L.length
        · rw [List.getElem?_append_left z] at ex
          rw [a3 _ (by omega), x14, wL_14, if_pos (by omega), Nat.add_sub_cancel_left, List.getD_eq_getElem?_getD, ex]; rfl
        · rw [List.getElem?_append_right (by omega)] at ex
          have := a4 _ x ex
          rw [show n + L.length + (j - L.length) = n + j by omega] at this
          exact this
    have em : (((c, i) :: fs).length : Int) - 1 = (fs.length : Nat) := by rw [List.length_cons]; omega
    have e15 : (uA μ 17 fs.length (zI (i + 1))).1 15 = zI n := h15
    have hY1 : MY ((uA μ 17 fs.length (zI (i + 1))).2 0) y := by rw [uA_ne _ _ (by decide)]; exact hY
    have len1 : ((c, i) :: fs).length = fs.length + 1 := rfl
    unfold mf_X2_writesNest_L31
    simp (disch := first | assumption | decide | omega | (simp only [aSz]; omega)) only [m_rc, m_gI, m_gR, zI_lit, zI_add, zI_sub, zI_mul, zI_neg, b2_0z, cl_some, zI_le, m_lI hA, m_sV hA, em, Int.toNat_natCast, s1, s2, M_piled hA hY O]
    rw [if_neg (by omega)]
    have sA1 : stA (uA μ 17 fs.length (zI (i + 1))) ((c, i + 1) :: fs) := by
      refine ⟨?_, ?_, s3.congr fun j hj => ⟨?_, ?_⟩⟩
      · rw [uA_ne _ _ (by decide)]; exact s1
      · rw [uA_at]; exact if_pos rfl
      · rw [uA_ne _ _ (by decide)]
      · rw [uA_at]; exact if_neg (by omega)
    cases e : (yp y c)[i]? with
    | none =>
      have il : (yp y c).length ≤ i := List.getElem?_eq_none_iff.1 e
      have w := M_writes (h := h) (μ := uA μ 17 fs.length (zI (i + 1))) hA e15 (by
        have : 0 < (rst y ((c, i) :: fs)).length := by
          show 0 < (_ ++ (93 :: rst y fs)).length
          rw [List.length_append, List.length_cons]; omega
        omega) 93
      rw [show (none : Option Nat).elim (-4) (fun d => (d : Int)) = -4 from rfl, if_neg (by decide)]
      simp only [m_rc, w, cl_some]
      rw [show (((c, i) :: fs).length : Int) + -1 = (fs.length : Nat) by rw [len1]; omega]
      refine step [93] fs _ (by simp) ?_ ((mScr.u (by omega)).tr mScr.w) (wL_15 _ _) (fun j => ?_) k4 ?_
      · show ((yp y c).drop i).flatMap (ytx y) ++ (93 :: rst y fs) = _
        rw [List.drop_of_length_le il]; rfl
      · rw [wL_14, wL_14, uA_ne _ _ (by decide)]
      · refine s3.congr fun j hj => ⟨?_, ?_⟩
        · rw [wL_2 _ _ (by decide), uA_ne _ _ (by decide)]
        · rw [wL_2 _ _ (by decide), uA_at]; exact if_neg (by omega)
    | some d =>
      obtain ⟨d1, d2, d3⟩ := (pile_at O k1).1 e
      have il := (List.getElem?_eq_some_iff.1 e).1
      have dr : (yp y c).drop i = d :: (yp y c).drop (i + 1) := by
        rw [List.drop_eq_getElem_cons il, (List.getElem?_eq_some_iff.1 e).2]
      have rs : rst y ((c, i) :: fs) = ytx y d ++ rst y ((c, i + 1) :: fs) := by
        show ((yp y c).drop i).flatMap (ytx y) ++ (93 :: rst y fs) = ytx y d ++ (((yp y c).drop (i + 1)).flatMap (ytx y) ++ (93 :: rst y fs))
        rw [dr, List.flatMap_cons, List.append_assoc]
      have tx : ytx y d = yhb y d ++ if (yp y d).length = 0 then [] else (yp y d).flatMap (ytx y) ++ [93] := by
        rw [ytx_eq O d1]
        unfold yhb
        by_cases z : (yp y d).length = 0
        · rw [if_pos z, if_pos z, if_pos z, List.append_nil, List.append_nil]
        · rw [if_neg z, if_neg z, if_neg z, List.append_assoc]; rfl
      have hb : yhb y d ≠ [] := by
        have := (yhd_len O d1).1
        unfold yhb
        intro z
        rw [List.append_eq_nil_iff] at z
        rw [z.1] at this
        simp at this
      have w := M_writesHead (h := h) (μ := uA μ 17 fs.length (zI (i + 1))) hA hY1 O d1 e15 (by
        rw [rs, tx, List.length_append, List.length_append] at hl; omega)
      have k5 : stk y ((c, i + 1) :: fs) := ⟨k1, il, k3, k4⟩
      rw [show (some d).elim (-4) (fun d => (d : Int)) = (d : Int) from rfl, if_pos (show zI 0 ≤ zI (d : Int) by rw [zI_le (by omega) (by omega) (by omega) (by omega)]; omega)]
      simp only [m_rc, w, cl_some, b2_0z, decide_eq_false_iff_not]
      by_cases z : (yp y d).length = 0
      · rw [if_pos (not_not_intro z)]
        refine step (yhb y d) ((c, i + 1) :: fs) _ hb ?_ ((mScr.u (by omega)).tr mScr.w) (wL_15 _ _) (fun j => ?_) k5 ?_
        · rw [rs, tx, if_pos z, List.append_nil]
        · rw [wL_14, wL_14, uA_ne _ _ (by decide)]
        · exact sA1.congr fun j hj => ⟨by rw [wL_2 _ _ (by decide)], by rw [wL_2 _ _ (by decide)]⟩
      · rw [if_neg (not_not_intro z)]
        have k6 : stk y ((d, 0) :: (c, i + 1) :: fs) := ⟨d1, Nat.zero_le _, d2, k5⟩
        have sl2 := stk_len O k6
        have cl2 := ch_len11 O d1
        have sl3 : fs.length + 1 ≤ 11 := by
          have : ((c, i + 1) :: fs).length = fs.length + 1 := rfl
          have : (ch y (d, 0).1).length ≤ 11 := cl2
          omega
        simp (disch := first | assumption | decide | omega | (simp only [aSz]; omega)) only [m_rc, m_gI, m_gR, zI_lit, zI_add, zI_sub, zI_mul, zI_neg, b2_0z, cl_some, m_sV hA, Int.toNat_natCast, len1]
        refine step (yhb y d) ((d, 0) :: (c, i + 1) :: fs) _ hb ?_ (((mScr.u (r := 17) (by omega)).tr mScr.w).tr ((mScr.u (r := 16) (by omega)).tr (mScr.u (r := 17) (by omega)))) (wL_15 (μ := uA μ 17 fs.length (zI (i + 1))) n (yhb y d)) (fun j => ?_) k6 ?_
        · rw [rs, tx, if_neg z, List.append_assoc, List.append_assoc]; rfl
        · rw [uA_ne _ _ (by decide), uA_ne _ _ (by decide), wL_14, wL_14, uA_ne _ _ (by decide)]
        · refine ⟨?_, ?_, sA1.congr fun j hj => ⟨?_, ?_⟩⟩
          · rw [uA_ne _ _ (by decide), uA_at]; exact if_pos rfl
          · rw [uA_at]; exact if_pos rfl
          · rw [uA_ne _ _ (by decide), uA_at]; exact (if_neg (stne hj)).trans (congrFun (wL_2 _ _ (by decide)) j)
          · rw [uA_at]; exact (if_neg (stne hj)).trans ((congrFun (uA_ne _ _ (by decide)) j).trans (congrFun (wL_2 _ _ (by decide)) j))
theorem M_writesNest (hA : AOk A) {μ : MD} (hY : MY (μ.2 0) y) (O : YOk y) {c : Nat} (hc : c < yn y) : ∃ ν : MD, mScr μ ν ∧ ν.1 15 = zI (ytx y c).length ∧ (∀ j x, (ytx y c)[j]? = some x → ν.2 14 j = zI x) ∧ mf_X2_writesNest (some (A 3)) (zI c) (mk A μ h) = some ((), mk A ν h) := by
  have hn := O.n
  have tl := ytx_len O hc
  have tx : ytx y c = yhb y c ++ if (yp y c).length = 0 then [] else (yp y c).flatMap (ytx y) ++ [93] := by
    rw [ytx_eq O hc]
    unfold yhb
    by_cases z : (yp y c).length = 0
    · rw [if_pos z, if_pos z, if_pos z, List.append_nil, List.append_nil]
    · rw [if_neg z, if_neg z, if_neg z, List.append_assoc]; rfl
  have hY1 : MY ((uS μ 15 (zI 0)).2 0) y := hY
  have w := M_writesHead (h := h) (μ := uS μ 15 (zI 0)) hA hY1 O hc (n := 0) (uS_at μ 15 (zI 0)) (by
    rw [tx, List.length_append] at tl; omega)
  have s0 : mScr μ (uS μ 15 (zI 0)) := ⟨fun _ _ _ _ => rfl, fun k hk => uS_ne hk⟩
  unfold mf_X2_writesNest
  simp (disch := first | assumption | decide | omega | (simp only [aSz]; omega)) only [m_rc, m_gI, m_gR, zI_lit, zI_add, zI_sub, zI_mul, zI_neg, b2_0z, cl_some, m_pV hA, w, decide_eq_false_iff_not]
  by_cases z : (yp y c).length = 0
  · rw [if_pos (not_not_intro z)]
    rw [if_pos z, List.append_nil] at tx
    have l31 := M_writesNest_L31 (h := h) hA O xk_fu [] (wL (uS μ 15 (zI 0)) 0 (yhb y c)) (yhb y c).length (by rw [wL_2 _ _ (by decide)]; exact hY1) trivial trivial (by rw [wL_15, Nat.zero_add]) (by rw [← tx]; show _ + 0 ≤ 230; omega) (fu_lt (by show 0 < 1000; omega))
    obtain ⟨ν, a1, a2, a3, a4, a5⟩ := l31
    refine ⟨ν, (s0.tr mScr.w).tr a1, ?_, fun j x e => ?_, a5⟩
    · rw [a2, tx]; rfl
    · rw [tx] at e
      have jl := (List.getElem?_eq_some_iff.1 e).1
      rw [a3 j jl, wL_14, if_pos (by omega), Nat.sub_zero, List.getD_eq_getElem?_getD, e]; rfl
  · rw [if_neg (not_not_intro z)]
    rw [if_neg z] at tx
    have rs : rst y [(c, 0)] = (yp y c).flatMap (ytx y) ++ [93] := rfl
    rw [← rs] at tx
    rw [tx, List.length_append] at tl
    simp (disch := first | assumption | decide | omega | (simp only [aSz]; omega)) only [m_rc, m_gI, m_gR, zI_lit, zI_add, zI_sub, zI_mul, zI_neg, b2_0z, cl_some, m_sV hA]
    have l31 := M_writesNest_L31 (h := h) hA O xk_fu [(c, 0)] (uA (uA (wL (uS μ 15 (zI 0)) 0 (yhb y c)) 16 0 (zI c)) 17 0 (zI 0)) (yhb y c).length (by rw [uA_ne _ _ (by decide), uA_ne _ _ (by decide), wL_2 _ _ (by decide)]; exact hY1) ⟨hc, Nat.zero_le _, trivial, trivial⟩ ⟨by rw [uA_ne _ _ (by decide), uA_at]; exact if_pos rfl, by rw [uA_at]; exact if_pos rfl, trivial⟩ ((wL_15 (μ := uS μ 15 (zI 0)) 0 (yhb y c)).trans (by rw [Nat.zero_add])) (by omega) (fu_lt (by omega))
    obtain ⟨ν, a1, a2, a3, a4, a5⟩ := l31
    refine ⟨ν, (s0.tr mScr.w).tr (((mScr.u (r := 16) (by omega)).tr (mScr.u (r := 17) (by omega))).tr a1), ?_, fun j x e => ?_, a5⟩
    · rw [a2, tx, List.length_append]
    · rw [tx] at e
      by_cases q : j < (yhb y c).length
      · rw [List.getElem?_append_left q] at e
        rw [a3 j q, uA_ne _ _ (by decide), uA_ne _ _ (by decide), wL_14, if_pos (by omega), Nat.sub_zero, List.getD_eq_getElem?_getD, e]; rfl
      · rw [List.getElem?_append_right (by omega)] at e
        have := a4 _ x e
        rw [show (yhb y c).length + (j - (yhb y c).length) = j by omega] at this
        exact this
end
/-- a character of a crate's text -/
def qsign (y : YD) (c p : Int) : Int := if 0 ≤ c ∧ c < yn y then (if 0 ≤ p then ((ytx y c.toNat)[p.toNat]?).getD (-4) else -1) else -1
