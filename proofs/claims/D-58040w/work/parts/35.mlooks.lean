/-! PURE LAW: the reference's questions, third part: what is seen, efforts, reasons, best crates -/
set_option maxRecDepth 10000
/-- the signs of a crate as one number -/
def ysig (y : YD) (c : Nat) : Int := ysg y c 0 + 28 * (ysg y c 1 + 28 * (ysg y c 2 + 28 * ysg y c 3))
/-- the same, as the reference counts it -/
def ysN (y : YD) (c : Nat) : Int := 32 * (32 * (32 * (32 * 0 + ysg y c 0) + ysg y c 1) + ysg y c 2) + ysg y c 3
theorem ysN_iff {y : YD} (O : YOk y) {c d : Nat} (hc : c < yn y) (hd : d < yn y) : ysN y c = ysN y d ↔ ysig y c = ysig y d := by
  have a0 := ysg_bd O hc 0; have a1 := ysg_bd O hc 1; have a2 := ysg_bd O hc 2; have a3 := ysg_bd O hc 3
  have b0 := ysg_bd O hd 0; have b1 := ysg_bd O hd 1; have b2 := ysg_bd O hd 2; have b3 := ysg_bd O hd 3
  unfold ysN ysig
  constructor <;> intro e <;> omega
theorem ysN_bd {y : YD} (O : YOk y) {c : Nat} (hc : c < yn y) : 0 ≤ ysN y c ∧ ysN y c ≤ 2000000 := by
  have a0 := ysg_bd O hc 0; have a1 := ysg_bd O hc 1; have a2 := ysg_bd O hc 2; have a3 := ysg_bd O hc 3
  unfold ysN; omega
theorem ysig_bd {y : YD} (O : YOk y) {c : Nat} (hc : c < yn y) : 0 ≤ ysig y c ∧ ysig y c < 614656 := by
  have a0 := ysg_bd O hc 0; have a1 := ysg_bd O hc 1; have a2 := ysg_bd O hc 2; have a3 := ysg_bd O hc 3
  unfold ysig; omega
/-- d looks like c -/
def ylike (y : YD) (c d : Nat) : Bool := decide (yf y 0 d = yf y 0 c ∧ (ch y d).length = (ch y c).length ∧ ysig y d = ysig y c)
/-- c can be told from all others -/
def ytold (y : YD) (c : Nat) : Bool := (ys y).all fun d => decide (d = c) || !ylike y c d
/-- the first of all with its signs -/
def yfirst (y : YD) (c : Nat) : Bool := (List.range c).all fun d => decide (ysig y d ≠ ysig y c)
/-- the greatest of a stretch and a number -/
def zmx (F : Nat → Int) : Nat → Nat → Int → Int
  | _, 0, a => a
  | k, m + 1, a => zmx F (k + 1) m (if a < F k then F k else a)
/-- the place for a crate: the one with the least room -/
def ycan (y : YD) (c k : Nat) : Bool := decide (k ≠ c) && !yar y c k && decide (yf y 3 c ≠ (k : Int)) && decide (yf y 0 c ≤ ylf y k)
def ybf (y : YD) (c : Nat) : Nat → Nat → Int → Int
  | _, 0, a => a
  | k, m + 1, a => ybf y c (k + 1) m (if ycan y c k = true ∧ (a < 0 ∨ ylf y k < ylf y a.toNat) then k else a)
def ywp (y : YD) (c d : Nat) : Int := if yab y c ≠ 0 then 1 else if c = d ∨ yar y c d = true then 2 else if ylf y d + (if yf y 3 c = (d : Int) then yf y 0 c else 0) < yf y 0 c then 3 else 0
def ywg (y : YD) (c : Nat) : Int := if yab y c ≠ 0 then 1 else if yf y 3 c < 0 then 4 else 0
def ywb (y : YD) (c : Nat) : Int := if yab y c ≠ 0 then 1 else if (yp y c).length ≠ 0 then 5 else 0
theorem yS_bd {y : YD} (O : YOk y) {c : Nat} (hc : c < yn y) : 0 ≤ ylf y c ∧ ylf y c ≤ 59 := by
  have a := O.ps hc
  have b := O.rm hc
  have d := O.sz hc
  have e : 0 ≤ yS y (yp y c) := by
    unfold yS
    have : ∀ l : List Nat, (∀ d ∈ l, d < yn y) → 0 ≤ (l.map (yf y 0)).sum := by
      intro l
      induction l with
      | nil => intro _; exact Int.le_refl _
      | cons d l ih =>
        intro hl
        have := ih fun x m => hl x (List.mem_cons_of_mem _ m)
        have := O.sz (hl d (List.mem_cons_self ..))
        rw [List.map_cons, List.sum_cons]; omega
    exact this _ fun d m => O.plt hc m
  unfold ylf; omega
theorem ypl_len {y : YD} (O : YOk y) {c : Nat} (hc : c < yn y) : (yp y c).length ≤ 12 := by
  have := (O.nd hc).length_le_of_subset (l₂ := List.range (yn y)) (fun d' m => List.mem_range.2 (O.plt hc m))
  have hn := O.n
  rw [List.length_range] at this; omega
section
variable {A : Nat → Nat} {μ : MD} {h : xk_H} {y : YD}
theorem M_signsOf (hA : AOk A) (hY : MY (μ.2 0) y) (O : YOk y) {c : Nat} (hc : c < yn y) : mf_X2_signsOf (some (A 3)) (zI c) (mk A μ h) = some (zI (ysN y c), mk A μ h) := by
  have s0 : mf_X2_signOf (some (A 3)) (zI c) (zI 0) (mk A μ h) = some (zI (ysg y c 0), mk A μ h) := M_signOf (h := h) hA hY O hc (p := 0) (by decide)
  have s1 : mf_X2_signOf (some (A 3)) (zI c) (zI 1) (mk A μ h) = some (zI (ysg y c 1), mk A μ h) := M_signOf (h := h) hA hY O hc (p := 1) (by decide)
  have s2 : mf_X2_signOf (some (A 3)) (zI c) (zI 2) (mk A μ h) = some (zI (ysg y c 2), mk A μ h) := M_signOf (h := h) hA hY O hc (p := 2) (by decide)
  have s3 : mf_X2_signOf (some (A 3)) (zI c) (zI 3) (mk A μ h) = some (zI (ysg y c 3), mk A μ h) := M_signOf (h := h) hA hY O hc (p := 3) (by decide)
  have f : xk_fu = 995 + 5 := rfl
  unfold mf_X2_signsOf
  rw [f]
  generalize 995 = f
  unfold mf_X2_signsOf_L4
  simp (disch := first | assumption | decide | omega | (simp only [aSz]; omega)) only [m_rc, m_gI, m_gR, zI_lit, zI_add, zI_sub, zI_mul, zI_neg, b2_0z, cl_some, M_n hA hY, M_of0 hA hY, M_of1 hA hY, M_of2 hA hY, M_of7 hA hY, M_of8 hA hY, M_ofL hA hY, M_around hA hY, zI_le, zI_lt, zI_inj]
  rw [if_neg (by decide)]
  simp only [s0, cl_some]
  unfold mf_X2_signsOf_L4
  simp (disch := first | assumption | decide | omega | (simp only [aSz]; omega)) only [m_rc, m_gI, m_gR, zI_lit, zI_add, zI_sub, zI_mul, zI_neg, b2_0z, cl_some, M_n hA hY, M_of0 hA hY, M_of1 hA hY, M_of2 hA hY, M_of7 hA hY, M_of8 hA hY, M_ofL hA hY, M_around hA hY, zI_le, zI_lt, zI_inj]
  rw [if_neg (by decide)]
  simp only [Int.zero_add, s1, cl_some]
  unfold mf_X2_signsOf_L4
  simp (disch := first | assumption | decide | omega | (simp only [aSz]; omega)) only [m_rc, m_gI, m_gR, zI_lit, zI_add, zI_sub, zI_mul, zI_neg, b2_0z, cl_some, M_n hA hY, M_of0 hA hY, M_of1 hA hY, M_of2 hA hY, M_of7 hA hY, M_of8 hA hY, M_ofL hA hY, M_around hA hY, zI_le, zI_lt, zI_inj]
  rw [if_neg (by decide)]
  simp only [show (1 : Int) + 1 = 2 from rfl, s2, cl_some]
  unfold mf_X2_signsOf_L4
  simp (disch := first | assumption | decide | omega | (simp only [aSz]; omega)) only [m_rc, m_gI, m_gR, zI_lit, zI_add, zI_sub, zI_mul, zI_neg, b2_0z, cl_some, M_n hA hY, M_of0 hA hY, M_of1 hA hY, M_of2 hA hY, M_of7 hA hY, M_of8 hA hY, M_ofL hA hY, M_around hA hY, zI_le, zI_lt, zI_inj]
  rw [if_neg (by decide)]
  simp only [show (2 : Int) + 1 = 3 from rfl, s3, cl_some]
  unfold mf_X2_signsOf_L4
  simp (disch := first | assumption | decide | omega | (simp only [aSz]; omega)) only [m_rc, m_gI, m_gR, zI_lit, zI_add, zI_sub, zI_mul, zI_neg, b2_0z, cl_some, M_n hA hY, M_of0 hA hY, M_of1 hA hY, M_of2 hA hY, M_of7 hA hY, M_of8 hA hY, M_ofL hA hY, M_around hA hY, zI_le, zI_lt, zI_inj]
  rw [if_pos (by decide)]
  unfold ysN
  simp only [Int.mul_zero, Int.zero_add]
theorem M_lettersSeen_L4 (hA : AOk A) (hY : MY (μ.2 0) y) (O : YOk y) {c : Nat} (hc : c < yn y) : ∀ (m k f : Nat) (a : Int), k + m = 4 → m < f → mf_X2_lettersSeen_L4 (some (A 3)) (zI c) f (zI a) (zI k) (mk A μ h) = some (zI (a + zs (fun p => if ysg y c p < 26 then 1 else 0) k m), mk A μ h)
  | m, k, 0, a, _, hf => absurd hf (Nat.not_lt_zero _)
  | 0, k, f + 1, a, hk, hf => by
    unfold mf_X2_lettersSeen_L4 zs
    simp (disch := first | assumption | decide | omega | (simp only [aSz]; omega)) only [m_rc, m_gI, m_gR, zI_lit, zI_add, zI_sub, zI_mul, zI_neg, b2_0z, cl_some, M_n hA hY, M_of0 hA hY, M_of1 hA hY, M_of2 hA hY, M_of7 hA hY, M_of8 hA hY, M_ofL hA hY, M_around hA hY, zI_le, zI_lt, zI_inj]
    rw [if_pos (by omega), Int.add_zero]
  | m + 1, k, f + 1, a, hk, hf => by
    have hb := ysg_bd O hc k
    have ih := fun b => M_lettersSeen_L4 hA hY O hc m (k + 1) f b (by omega) (by omega)
    unfold mf_X2_lettersSeen_L4 zs
    simp (disch := first | assumption | decide | omega | (simp only [aSz]; omega)) only [m_rc, m_gI, m_gR, zI_lit, zI_add, zI_sub, zI_mul, zI_neg, b2_0z, cl_some, M_n hA hY, M_of0 hA hY, M_of1 hA hY, M_of2 hA hY, M_of7 hA hY, M_of8 hA hY, M_ofL hA hY, M_around hA hY, zI_le, zI_lt, zI_inj]
    rw [if_neg (by omega)]
    simp (disch := first | assumption | decide | omega | (simp only [aSz]; omega)) only [M_signOf hA hY O, zI_lit, zI_add, zI_sub, zI_mul, zI_neg, b2_0z, cl_some, zI_le]
    by_cases q : ysg y c k < 26
    · rw [if_neg (by omega), if_pos q, ← Int.add_assoc]; exact ih _
    · rw [if_pos (by omega), if_neg q, ← Int.add_assoc]; exact ih _
theorem cnt_and (P Q : Nat → Bool) (w : Nat) : ∀ (m k : Nat), k ≤ w → w ≤ k + m → (∀ i, P i = true ↔ i < w ∧ Q i = true) → (List.range' k m).filter P = (List.range' k (w - k)).filter Q
  | 0, k, h0, h, hp => by
    have : w - k = 0 := by omega
    rw [this]; rfl
  | m + 1, k, h0, h, hp => by
    by_cases q : k < w
    · have e : w - k = (w - (k + 1)) + 1 := by omega
      rw [e, List.range'_succ, List.range'_succ, List.filter_cons, List.filter_cons, cnt_and P Q w m (k + 1) (by omega) (by omega) hp]
      have : P k = Q k := by
        have := hp k
        cases hP : P k <;> cases hQ : Q k <;> simp_all
      rw [this]
    · have e : w = k := by omega
      subst e
      rw [Nat.sub_self, List.filter_eq_nil_iff.2]
      · rfl
      · intro a m2
        have := (List.mem_range'_1.1 m2).1
        rw [hp a]; omega
theorem M_lettersSeen (hA : AOk A) (hY : MY (μ.2 0) y) (O : YOk y) {c : Nat} (hc : c < yn y) : mf_X2_lettersSeen (some (A 3)) (zI c) (mk A μ h) = some (zI (yls y c), mk A μ h) := by
  have := M_lettersSeen_L4 (h := h) hA hY O hc 4 0 xk_fu 0 (by omega) (fu_lt (by omega))
  have e := zs_count (fun p => decide (ysg y c p < 26)) 4 0
  simp only [decide_eq_true_iff] at e
  rw [e, Int.zero_add, cnt_and _ (yopn y c) (yl y c).length 4 0 (by omega) (by have := (O.ll hc).2; omega) (fun i => by rw [decide_eq_true_iff]; exact (ysg_bd O hc i).2.2), Nat.sub_zero, ← List.range_eq_range'] at this
  exact this
theorem M_isTold_L4 (hA : AOk A) (hY : MY (μ.2 0) y) (O : YOk y) {c : Nat} (hc : c < yn y) : ∀ (m k f : Nat) (b : Bool), k + m = yn y → m < f → mf_X2_isTold_L4 (some (A 3)) (zI c) f (xk_b2 b) (zI k) (mk A μ h) = some (b && (List.range' k m).all fun d => decide (d = c) || !ylike y c d, mk A μ h)
  | m, k, 0, b, _, hf => absurd hf (Nat.not_lt_zero _)
  | 0, k, f + 1, b, hk, hf => by
    have hn := O.n
    unfold mf_X2_isTold_L4
    simp (disch := first | assumption | decide | omega | (simp only [aSz]; omega)) only [m_rc, m_gI, m_gR, zI_lit, zI_add, zI_sub, zI_mul, zI_neg, b2_0z, cl_some, M_n hA hY, M_of0 hA hY, M_of1 hA hY, M_of2 hA hY, M_of7 hA hY, M_of8 hA hY, M_ofL hA hY, M_around hA hY, zI_le, zI_lt, zI_inj]
    rw [if_pos (by omega), zb_z]; simp
  | m + 1, k, f + 1, b, hk, hf => by
    have hn := O.n
    have hk' : k < yn y := by omega
    have ih := fun b => M_isTold_L4 hA hY O hc m (k + 1) f b (by omega) (by omega)
    have i0 := ih false
    have i1 := ih true
    rw [Bool.false_and] at i0
    rw [Bool.true_and] at i1
    have l1 := ch_len11 O hc
    have l2 := ch_len11 O hk'
    have z1 := O.sz hc
    have z2 := O.sz hk'
    have n1 := ysN_bd O hc
    have n2 := ysN_bd O hk'
    have nn := ysN_iff O hk' hc
    have main : ∀ (s : Int32) (q : Bool), s = xk_b2 q → mf_X2_isTold_J60 (fun m2 m3 g => mf_X2_isTold_L4 (some (A 3)) (zI c) f m2 m3 g) (some (A 3)) (zI c) (xk_b2 b) (zI k) s (mk A μ h) = some (b && ((decide (k = c) || !q) && (List.range' (k + 1) m).all fun d => decide (d = c) || !ylike y c d), mk A μ h) := by
      intro s q hs
      subst hs
      unfold mf_X2_isTold_J60
      simp (disch := first | assumption | decide | omega | (simp only [aSz]; omega)) only [m_rc, m_gI, m_gR, zI_lit, zI_add, zI_sub, zI_mul, zI_neg, b2_0z, cl_some, M_n hA hY, M_of0 hA hY, M_of1 hA hY, M_of2 hA hY, M_of7 hA hY, M_of8 hA hY, M_ofL hA hY, M_around hA hY, zI_le, zI_lt, zI_inj]
      cases b with
      | false => rw [if_pos rfl, Bool.false_and]; exact i0
      | true =>
        rw [if_neg (by decide)]
        by_cases e : (k : Int) = c
        · have e2 : k = c := by omega
          rw [if_pos e, decide_eq_true e2, Bool.true_or, Bool.true_and, Bool.true_and]; exact i1
        · have e2 : ¬ k = c := by omega
          rw [if_neg e, decide_eq_false e2, Bool.false_or]
          cases q with
          | false => rw [if_pos rfl]; exact i1
          | true => rw [if_neg (by decide)]; exact i0
    rw [List.range'_succ, List.all_cons]
    unfold mf_X2_isTold_L4
    simp (disch := first | assumption | decide | omega | (simp only [aSz]; omega)) only [m_rc, m_gI, m_gR, zI_lit, zI_add, zI_sub, zI_mul, zI_neg, b2_0z, cl_some, M_n hA hY, M_of0 hA hY, M_of1 hA hY, M_of2 hA hY, M_of7 hA hY, M_of8 hA hY, M_ofL hA hY, zI_le, zI_inj, M_depthOf hA hY O, M_signsOf hA hY O]
    rw [if_neg (by omega)]
    by_cases q1 : yf y 0 k = yf y 0 c
    · rw [if_pos q1]
      by_cases q2 : ((ch y k).length : Int) = (ch y c).length
      · rw [if_pos q2]
        by_cases q3 : ysN y k = ysN y c
        · rw [if_pos q3, show ylike y c k = true from decide_eq_true ⟨q1, by omega, nn.1 q3⟩]; exact main (zI 1) true rfl
        · rw [if_neg q3, show ylike y c k = false from decide_eq_false (fun z => q3 (nn.2 z.2.2))]; exact main (zI 0) false rfl
      · rw [if_neg q2, show ylike y c k = false from decide_eq_false (fun z => by omega)]; exact main (zI 0) false rfl
    · rw [if_neg q1, show ylike y c k = false from decide_eq_false (fun z => q1 z.1)]; exact main (zI 0) false rfl
theorem M_isTold (hA : AOk A) (hY : MY (μ.2 0) y) (O : YOk y) {c : Nat} (hc : c < yn y) : mf_X2_isTold (some (A 3)) (zI c) (mk A μ h) = some (ytold y c, mk A μ h) := by
  have hn := O.n
  have := M_isTold_L4 (h := h) hA hY O hc (yn y) 0 xk_fu true (by omega) (fu_lt (by omega))
  rw [Bool.true_and, ← List.range_eq_range'] at this
  exact this
theorem M_effortTo_L4 (hA : AOk A) (hY : MY (μ.2 0) y) (O : YOk y) : ∀ (l : List Nat) (c : Nat) (a : Int) (f : Nat), c < yn y → isCh y (yf y 3 c) l → l.length < f → mf_X2_effortTo_L4 (some (A 3)) f (zI a) (zI c) (mk A μ h) = some (zI (a + (((c :: l).map fun k => if yf y 3 k < 0 then 0 else 1 + yab y k).sum : Nat)), mk A μ h)
  | l, c, a, 0, _, _, hf => absurd hf (Nat.not_lt_zero _)
  | [], c, a, f + 1, hc, hl, hf => by
    have hn := O.n
    have e : yf y 3 c = -1 := hl
    unfold mf_X2_effortTo_L4
    simp (disch := first | assumption | decide | omega | (simp only [aSz]; omega)) only [m_rc, m_gI, m_gR, zI_lit, zI_add, zI_sub, zI_mul, zI_neg, b2_0z, cl_some, M_n hA hY, M_of0 hA hY, M_of1 hA hY, M_of2 hA hY, M_of7 hA hY, M_of8 hA hY, M_ofL hA hY, M_around hA hY, zI_le, zI_lt, zI_inj]
    rw [if_pos (by omega), List.map_cons, if_pos (by omega)]; simp
  | d :: l, c, a, f + 1, hc, hl, hf => by
    obtain ⟨e, hd, hl⟩ := hl
    have hn := O.n
    have hp := place_lt O hc hd e
    have ih := fun b => M_effortTo_L4 hA hY O l d b f hd hl (by simpa using hf)
    rw [List.map_cons, List.sum_cons, if_neg (by omega), above_in e]
    unfold mf_X2_effortTo_L4
    simp (disch := first | assumption | decide | omega | (simp only [aSz]; omega)) only [m_rc, m_gI, m_gR, zI_lit, zI_add, zI_sub, zI_mul, zI_neg, b2_0z, cl_some, M_n hA hY, M_of0 hA hY, M_of1 hA hY, M_of2 hA hY, M_of7 hA hY, M_of8 hA hY, M_ofL hA hY, M_around hA hY, zI_lt, M_pile hA hY O, e]
    rw [if_neg (by omega), ih]
    congr 3; omega
theorem M_effortTo (hA : AOk A) (hY : MY (μ.2 0) y) (O : YOk y) {c : Nat} (hc : c < yn y) : mf_X2_effortTo (some (A 3)) (zI c) (mk A μ h) = some (zI (yef y c), mk A μ h) := by
  have hl := ch_len11 O hc
  have := M_effortTo_L4 (h := h) hA hY O (ch y c) c 0 xk_fu hc (ch_ok O hc) (fu_lt (by omega))
  rw [Int.zero_add] at this; exact this
theorem M_reasonGround (hA : AOk A) (hY : MY (μ.2 0) y) (O : YOk y) {c : Nat} (hc : c < yn y) : mf_X2_reasonGround (some (A 3)) (zI c) (mk A μ h) = some (zI (ywg y c), mk A μ h) := by
  have hn := O.n
  have hH := O.ho hc
  unfold mf_X2_reasonGround ywg
  simp (disch := first | assumption | decide | omega | (simp only [aSz]; omega)) only [m_rc, m_gI, m_gR, zI_lit, zI_add, zI_sub, zI_mul, zI_neg, b2_0z, cl_some, M_n hA hY, M_of0 hA hY, M_of1 hA hY, M_of2 hA hY, M_of7 hA hY, M_of8 hA hY, M_ofL hA hY, M_around hA hY, M_isTop hA hY O, zI_le, decide_eq_false_iff_not]
  by_cases q : yab y c = 0
  · have q' : ¬ (yab y c ≠ 0) := fun z => z q
    rw [if_neg q', if_neg q']
    by_cases q2 : yf y 3 c < 0
    · rw [if_neg (by omega), if_pos q2]
    · rw [if_pos (by omega), if_neg q2]
  · rw [if_pos q, if_pos q]
theorem M_reasonBreak (hA : AOk A) (hY : MY (μ.2 0) y) (O : YOk y) {c : Nat} (hc : c < yn y) : mf_X2_reasonBreak (some (A 3)) (zI c) (mk A μ h) = some (zI (ywb y c), mk A μ h) := by
  have hn := O.n
  have hl := ypl_len O hc
  unfold mf_X2_reasonBreak ywb
  simp (disch := first | assumption | decide | omega | (simp only [aSz]; omega)) only [m_rc, m_gI, m_gR, zI_lit, zI_add, zI_sub, zI_mul, zI_neg, b2_0z, cl_some, M_n hA hY, M_of0 hA hY, M_of1 hA hY, M_of2 hA hY, M_of7 hA hY, M_of8 hA hY, M_ofL hA hY, M_pile hA hY O, M_isTop hA hY O, zI_le, decide_eq_false_iff_not]
  by_cases q : yab y c = 0
  · have q' : ¬ (yab y c ≠ 0) := fun z => z q
    rw [if_neg q', if_neg q']
    by_cases q2 : (yp y c).length = 0
    · have q3 : ¬ ((yp y c).length ≠ 0) := fun z => z q2
      rw [if_pos (by omega), if_neg q3]
    · rw [if_neg (by omega), if_pos q2]
  · rw [if_pos q, if_pos q]
theorem M_reasonPut (hA : AOk A) (hY : MY (μ.2 0) y) (O : YOk y) {c d : Nat} (hc : c < yn y) (hd : d < yn y) : mf_X2_reasonPut (some (A 3)) (zI c) (zI d) (mk A μ h) = some (zI (ywp y c d), mk A μ h) := by
  have hn := O.n
  have hH := O.ho hc
  have hz := O.sz hc
  have hl := yS_bd O hd
  have e : ((d :: ch y d).contains c = false) ↔ ¬ (c = d ∨ yar y c d = true) := by
    rw [List.contains_cons]
    unfold yar
    by_cases q : c = d
    · simp [q]
    · simp [q]
  unfold mf_X2_reasonPut mf_X2_reasonPut_J45 ywp
  simp (disch := first | assumption | decide | omega | (simp only [aSz]; omega)) only [m_rc, m_gI, m_gR, zI_lit, zI_add, zI_sub, zI_mul, zI_neg, b2_0z, cl_some, M_n hA hY, M_of0 hA hY, M_of1 hA hY, M_of2 hA hY, M_of7 hA hY, M_of8 hA hY, M_ofL hA hY, M_around hA hY, M_isTop hA hY O, M_holds hA hY O, M_roomLeft hA hY O, zI_le, zI_inj, decide_eq_false_iff_not, e]
  by_cases q : yab y c = 0
  · have q' : ¬ (yab y c ≠ 0) := fun z => z q
    rw [if_neg q', if_neg q']
    by_cases q2 : c = d ∨ yar y c d = true
    · have q3 : ¬ ¬ (c = d ∨ yar y c d = true) := fun z => z q2
      rw [if_neg q3, if_pos q2]
    · rw [if_pos q2, if_neg q2]
      by_cases q3 : yf y 3 c = (d : Int)
      · rw [if_pos q3, if_pos q3]
        by_cases q4 : yf y 0 c ≤ ylf y d + yf y 0 c
        · rw [if_pos q4, if_neg (by omega)]
        · rw [if_neg q4, if_pos (by omega)]
      · rw [if_neg q3, if_neg q3]
        by_cases q4 : yf y 0 c ≤ ylf y d + 0
        · rw [if_pos q4, if_neg (by omega)]
        · rw [if_neg q4, if_pos (by omega)]
  · rw [if_pos q, if_pos q]
theorem M_isLoose (hA : AOk A) (hY : MY (μ.2 0) y) (O : YOk y) {c : Nat} (hc : c < yn y) : mf_X2_isLoose (some (A 3)) (zI c) (mk A μ h) = some (decide (yf y 3 c < 0 ∧ (yp y c).length = 0), mk A μ h) := by
  have hn := O.n
  have hH := O.ho hc
  have hl := ypl_len O hc
  unfold mf_X2_isLoose
  simp (disch := first | assumption | decide | omega | (simp only [aSz]; omega)) only [m_rc, m_gI, m_gR, zI_lit, zI_add, zI_sub, zI_mul, zI_neg, b2_0z, cl_some, M_n hA hY, M_of0 hA hY, M_of1 hA hY, M_of2 hA hY, M_of7 hA hY, M_of8 hA hY, M_ofL hA hY, M_around hA hY, M_pile hA hY O, zI_le, zI_inj]
  by_cases q : yf y 3 c < 0
  · rw [if_neg (by omega)]
    by_cases q2 : (yp y c).length = 0
    · rw [if_pos (by omega), decide_eq_true ⟨q, q2⟩]
    · rw [if_neg (by omega), decide_eq_false fun z => q2 z.2]
  · rw [if_pos (by omega), decide_eq_false fun z => q z.1]
theorem M_deepest_L4 (hA : AOk A) (hY : MY (μ.2 0) y) (O : YOk y) : ∀ (m k f : Nat) (a : Int), -2147483648 ≤ a → a ≤ 2147483647 → k + m = yn y → m < f → mf_X2_deepest_L4 (some (A 3)) f (zI a) (zI k) (mk A μ h) = some (zI (zmx (fun k => ((ch y k).length : Int)) k m a), mk A μ h)
  | m, k, 0, a, _, _, _, hf => absurd hf (Nat.not_lt_zero _)
  | 0, k, f + 1, a, _, _, hk, hf => by
    have hn := O.n
    unfold mf_X2_deepest_L4 zmx
    simp (disch := first | assumption | decide | omega | (simp only [aSz]; omega)) only [m_rc, m_gI, m_gR, zI_lit, zI_add, zI_sub, zI_mul, zI_neg, b2_0z, cl_some, M_n hA hY, M_of0 hA hY, M_of1 hA hY, M_of2 hA hY, M_of7 hA hY, M_of8 hA hY, M_ofL hA hY, M_around hA hY, zI_le, zI_lt, zI_inj]
    rw [if_pos (by omega)]
  | m + 1, k, f + 1, a, ha, hb, hk, hf => by
    have hn := O.n
    have hk' : k < yn y := by omega
    have hl := ch_len11 O hk'
    have ih := fun b z z2 => M_deepest_L4 hA hY O m (k + 1) f b z z2 (by omega) (by omega)
    unfold mf_X2_deepest_L4 zmx
    simp (disch := first | assumption | decide | omega | (simp only [aSz]; omega)) only [m_rc, m_gI, m_gR, zI_lit, zI_add, zI_sub, zI_mul, zI_neg, b2_0z, cl_some, M_n hA hY, M_of0 hA hY, M_of1 hA hY, M_of2 hA hY, M_of7 hA hY, M_of8 hA hY, M_ofL hA hY, M_depthOf hA hY O, zI_le]
    rw [if_neg (by omega)]
    by_cases q : a < ((ch y k).length : Int)
    · rw [if_neg (by omega), if_pos q]; exact ih _ (by omega) (by omega)
    · rw [if_pos (by omega), if_neg q]; exact ih _ ha hb
theorem M_deepest (hA : AOk A) (hY : MY (μ.2 0) y) (O : YOk y) : mf_X2_deepest (some (A 3)) (mk A μ h) = some (zI (zmx (fun k => ((ch y k).length : Int)) 0 (yn y) 0), mk A μ h) := by
  have hn := O.n
  exact M_deepest_L4 (h := h) hA hY O (yn y) 0 xk_fu 0 (by decide) (by decide) (by omega) (fu_lt (by omega))
theorem M_rowsSeen_L19 (hA : AOk A) (hY : MY (μ.2 0) y) (O : YOk y) {c : Nat} (hc : c < yn y) (z : Int32) (kx : Int32 → xk_H → Option (Int32 × xk_H)) : ∀ (m k f : Nat) (b : Bool), k + m = c → m < f → mf_X2_rowsSeen_L19 kx (some (A 3)) z (zI c) f (xk_b2 b) (zI k) (mk A μ h) = kx (xk_b2 (b && (List.range' k m).all fun d => decide (ysig y d ≠ ysig y c))) (mk A μ h)
  | m, k, 0, b, _, hf => absurd hf (Nat.not_lt_zero _)
  | 0, k, f + 1, b, hk, hf => by
    have hn := O.n
    unfold mf_X2_rowsSeen_L19
    simp (disch := first | assumption | decide | omega | (simp only [aSz]; omega)) only [m_rc, m_gI, m_gR, zI_lit, zI_add, zI_sub, zI_mul, zI_neg, b2_0z, cl_some, M_n hA hY, M_of0 hA hY, M_of1 hA hY, M_of2 hA hY, M_of7 hA hY, M_of8 hA hY, M_ofL hA hY, M_around hA hY, zI_le, zI_lt, zI_inj]
    rw [if_pos (by omega)]; simp
  | m + 1, k, f + 1, b, hk, hf => by
    have hn := O.n
    have hk' : k < yn y := by omega
    have n1 := ysN_bd O hc
    have n2 := ysN_bd O hk'
    have nn := ysN_iff O hk' hc
    have ih := fun b => M_rowsSeen_L19 hA hY O hc z kx m (k + 1) f b (by omega) (by omega)
    unfold mf_X2_rowsSeen_L19
    simp (disch := first | assumption | decide | omega | (simp only [aSz]; omega)) only [m_rc, m_gI, m_gR, zI_lit, zI_add, zI_sub, zI_mul, zI_neg, b2_0z, cl_some, M_n hA hY, M_of0 hA hY, M_of1 hA hY, M_of2 hA hY, M_of7 hA hY, M_of8 hA hY, M_ofL hA hY, M_signsOf hA hY O, zI_le, zI_inj]
    rw [if_neg (by omega), List.range'_succ, List.all_cons]
    cases b with
    | false => rw [if_pos rfl]; exact ih false
    | true =>
      rw [if_neg (by decide), Bool.true_and]
      by_cases q : ysN y k = ysN y c
      · rw [if_pos q, decide_eq_false (fun w => w (nn.1 q)), Bool.false_and]; exact ih false
      · rw [if_neg q, show decide (ysig y k ≠ ysig y c) = true from decide_eq_true (fun w => q (nn.2 w)), Bool.true_and]; exact ih true
theorem M_rowsSeen_L4 (hA : AOk A) (hY : MY (μ.2 0) y) (O : YOk y) : ∀ (m k f : Nat) (a : Int), k + m = yn y → m < f → mf_X2_rowsSeen_L4 (some (A 3)) f (zI a) (zI k) (mk A μ h) = some (zI (a + zs (fun c => if yfirst y c = true then 1 else 0) k m), mk A μ h)
  | m, k, 0, a, _, hf => absurd hf (Nat.not_lt_zero _)
  | 0, k, f + 1, a, hk, hf => by
    have hn := O.n
    unfold mf_X2_rowsSeen_L4 zs
    simp (disch := first | assumption | decide | omega | (simp only [aSz]; omega)) only [m_rc, m_gI, m_gR, zI_lit, zI_add, zI_sub, zI_mul, zI_neg, b2_0z, cl_some, M_n hA hY, M_of0 hA hY, M_of1 hA hY, M_of2 hA hY, M_of7 hA hY, M_of8 hA hY, M_ofL hA hY, M_around hA hY, zI_le, zI_lt, zI_inj]
    rw [if_pos (by omega), Int.add_zero]
  | m + 1, k, f + 1, a, hk, hf => by
    have hn := O.n
    have hk' : k < yn y := by omega
    have ih := fun b => M_rowsSeen_L4 hA hY O m (k + 1) f b (by omega) (by omega)
    have in1 := fun z kx => M_rowsSeen_L19 (h := h) hA hY O hk' z kx k 0 xk_fu true (by omega) (fu_lt (by omega))
    unfold mf_X2_rowsSeen_L4 zs
    simp (disch := first | assumption | decide | omega | (simp only [aSz]; omega)) only [m_rc, m_gI, m_gR, zI_lit, zI_add, zI_sub, zI_mul, zI_neg, b2_0z, cl_some, M_n hA hY, M_of0 hA hY, M_of1 hA hY, M_of2 hA hY, M_of7 hA hY, M_of8 hA hY, M_ofL hA hY, M_around hA hY, zI_le, zI_lt, zI_inj]
    rw [if_neg (by omega)]
    refine (in1 _ _).trans ?_
    rw [Bool.true_and, ← List.range_eq_range', show ((List.range k).all fun d => decide (ysig y d ≠ ysig y k)) = yfirst y k from rfl]
    simp only [zI_lit, zI_add, zI_sub, zI_mul, zI_neg, b2_0z, cl_some]
    by_cases q : yfirst y k = true
    · rw [q, if_neg (by decide), if_pos rfl, ← Int.add_assoc]; exact ih _
    · have q : yfirst y k = false := by simpa using q
      rw [q, if_pos rfl, if_neg (by decide), ← Int.add_assoc]; exact ih _
theorem M_rowsSeen (hA : AOk A) (hY : MY (μ.2 0) y) (O : YOk y) : mf_X2_rowsSeen (some (A 3)) (mk A μ h) = some (zI (zs (fun c => if yfirst y c = true then 1 else 0) 0 (yn y)), mk A μ h) := by
  have hn := O.n
  have := M_rowsSeen_L4 (h := h) hA hY O (yn y) 0 xk_fu 0 (by omega) (fu_lt (by omega))
  rw [Int.zero_add] at this; exact this
end
