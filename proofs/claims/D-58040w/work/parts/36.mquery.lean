/-! PURE LAW: the reference's questions as they are asked -/
set_option maxRecDepth 10000
theorem ite_q {P : Prop} [Decidable P] {a b : Option (Int32 × xk_H)} {x z : Int} {H : xk_H} (h1 : P → a = some (zI x, H)) (h2 : ¬ P → b = some (zI z, H)) : (if P then a else b) = some (zI (if P then x else z), H) := by
  by_cases p : P
  · rw [if_pos p, if_pos p]; exact h1 p
  · rw [if_neg p, if_neg p]; exact h2 p
theorem ite_q2 {P Q : Prop} [Decidable P] [Decidable Q] {a b : Option (Int32 × xk_H)} {x z : Int} {H : xk_H} (pq : P ↔ Q) (h1 : Q → a = some (zI x, H)) (h2 : ¬ Q → b = some (zI z, H)) : (if P then a else b) = some (zI (if Q then x else z), H) := by
  by_cases p : Q
  · rw [if_pos p, if_pos (pq.2 p)]; exact h1 p
  · rw [if_neg p, if_neg fun z => p (pq.1 z)]; exact h2 p
theorem lit_eq {w : Int} {n : Nat} (w1 : -2147483648 ≤ w) (w2 : w ≤ 2147483647) (hn : n ≤ 2147483647) : (zI w = (OfNat.ofNat n : Int32)) ↔ w = (OfNat.ofNat n : Int) := by
  have e : (OfNat.ofNat n : Int) = (n : Int) := rfl
  rw [zI_lit, zI_inj w1 w2 (by rw [e]; omega) (by rw [e]; omega)]
def qcr (y : YD) (c : Nat) (w : Int) : Int :=
  if w = 0 then yf y 0 c else if w = 1 then yf y 1 c else if w = 2 then yf y 2 c else if w = 3 then (yl y c).length else if w = 4 then (if 0 ≤ yf y 3 c then yf y 3 c else -4) else if w = 5 then (ch y c).length else if w = 6 then (yp y c).length else if w = 7 then yld y c else if w = 8 then ylf y c else if w = 9 then ypl y c else if w = 10 then yef y c else if w = 11 then (if ytold y c = true then 1 else 0) else if w = 12 then yls y c else if w = 13 then ybf y c 0 (yn y) (-4) else if w = 14 then ywg y c else -1
def qcrate (y : YD) (c w : Int) : Int := if 0 ≤ c ∧ c < yn y then qcr y c.toNat w else -1
def qletter (y : YD) (c p : Int) : Int := if 0 ≤ c ∧ c < yn y then (if 0 ≤ p ∧ p ≤ 3 then ((yl y c.toNat)[p.toNat]?).getD (-4) else -1) else -1
def qseen (y : YD) (c p : Int) : Int := if 0 ≤ c ∧ c < yn y then (if 0 ≤ p ∧ p ≤ 3 then ysg y c.toNat p.toNat else -1) else -1
def qwhy (y : YD) (c d : Int) : Int := if 0 ≤ c ∧ c < yn y then (if 0 ≤ d ∧ d < yn y then ywp y c.toNat d.toNat else -1) else -1
def qeff (y : YD) (z w : Int) : Int := if 1 ≤ z ∧ z ≤ 60 then (if 0 ≤ w ∧ w ≤ 1 then zs (fun c => if yf y 0 c = z then (yef y c : Int) else 0) 0 (yn y) else -1) else -1
def yas (y : YD) (c p : Nat) (z : Int) : Bool := decide (z = 28 ∨ ysg y c p = z)
def qal (y : YD) (p q r t : Int) : Int := if 0 ≤ p ∧ p ≤ 28 then (if 0 ≤ q ∧ q ≤ 28 then (if 0 ≤ r ∧ r ≤ 28 then (if 0 ≤ t ∧ t ≤ 28 then zs (fun c => if (yas y c 0 p && (yas y c 1 q && (yas y c 2 r && yas y c 3 t))) = true then 1 else 0) 0 (yn y) else -1) else -1) else -1) else -1
section
variable {A : Nat → Nat} {μ : MD} {h : xk_H} {y : YD}
theorem M_in {a l u : Int} (H : xk_H) (a1 : -2147483648 ≤ a) (a2 : a ≤ 2147483647) (l1 : -2147483648 ≤ l) (l2 : l ≤ 2147483647) (u1 : -2147483648 ≤ u) (u2 : u ≤ 2147483647) : mf_X2_in (zI a) (zI l) (zI u) H = some (decide (l ≤ a ∧ a ≤ u), H) := by
  unfold mf_X2_in
  simp (disch := first | assumption | decide | omega | (simp only [aSz]; omega)) only [zI_lt]
  by_cases q : a < l
  · rw [if_pos q, decide_eq_false (by omega)]
  · rw [if_neg q]
    by_cases q2 : u < a
    · rw [if_pos q2, decide_eq_false (by omega)]
    · rw [if_neg q2, decide_eq_true (by omega)]
theorem M_bestFor_L8 (hA : AOk A) (hY : MY (μ.2 0) y) (O : YOk y) {c : Nat} (hc : c < yn y) : ∀ (m k f : Nat) (a b : Int), (a = -4 ∨ ∃ d : Nat, d < yn y ∧ a = d ∧ b = ylf y d - yf y 0 c) → -2147483648 ≤ b → b ≤ 2147483647 → k + m = yn y → m < f → mf_X2_bestFor_L8 (some (A 3)) (zI c) f (zI a) (zI b) (zI k) (mk A μ h) = some (zI (ybf y c k m a), mk A μ h)
  | m, k, 0, a, b, _, _, _, _, hf => absurd hf (Nat.not_lt_zero _)
  | 0, k, f + 1, a, b, _, _, _, hk, hf => by
    have hn := O.n
    unfold mf_X2_bestFor_L8 ybf
    simp (disch := first | assumption | decide | omega | (simp only [aSz]; omega)) only [m_rc, m_gI, m_gR, zI_lit, zI_add, zI_sub, zI_mul, zI_neg, b2_0z, cl_some, M_n hA hY, M_of0 hA hY, M_of1 hA hY, M_of2 hA hY, M_of7 hA hY, M_of8 hA hY, M_ofL hA hY, M_around hA hY, zI_le, zI_lt, zI_inj]
    rw [if_pos (by omega)]
  | m + 1, k, f + 1, a, b, hi, hb1, hb2, hk, hf => by
    have hn := O.n
    have hk' : k < yn y := by omega
    have ih := fun a b i z z2 => M_bestFor_L8 hA hY O hc m (k + 1) f a b i z z2 (by omega) (by omega)
    have hH := O.ho hc
    have hz := O.sz hc
    have hl := yS_bd O hk'
    have e : ((k :: ch y k).contains c = false) ↔ ¬ (c = k ∨ yar y c k = true) := by
      rw [List.contains_cons]
      unfold yar
      by_cases q : c = k
      · simp [q]
      · simp [q]
    have ha : -2147483648 ≤ a ∧ a ≤ 2147483647 := by rcases hi with e | ⟨d, h1, h2, h3⟩ <;> omega
    have no : ycan y c k = false → mf_X2_bestFor_J76 (fun m2 m3 m4 g => mf_X2_bestFor_L8 (some (A 3)) (zI c) f m2 m3 m4 g) (some (A 3)) (zI c) (zI a) (zI b) (zI k) (zI (ylf y k - yf y 0 c)) (zI 0) (mk A μ h) = some (zI (ybf y c (k + 1) m (if ycan y c k = true ∧ (a < 0 ∨ ylf y k < ylf y a.toNat) then k else a)), mk A μ h) := by
      intro q
      rw [if_neg (by rw [q]; simp)]
      unfold mf_X2_bestFor_J76 mf_X2_bestFor_J89
      simp (disch := first | assumption | decide | omega | (simp only [aSz]; omega)) only [m_rc, m_gI, m_gR, zI_lit, zI_add, zI_sub, zI_mul, zI_neg, b2_0z, cl_some, M_n hA hY, M_of0 hA hY, M_of1 hA hY, M_of2 hA hY, M_of7 hA hY, M_of8 hA hY, M_ofL hA hY, M_around hA hY, zI_le, zI_lt, zI_inj]
      rw [if_pos (by decide)]
      exact ih a b hi hb1 hb2
    unfold mf_X2_bestFor_L8 ybf
    simp (disch := first | assumption | decide | omega | (simp only [aSz]; omega)) only [m_rc, m_gI, m_gR, zI_lit, zI_add, zI_sub, zI_mul, zI_neg, b2_0z, cl_some, M_n hA hY, M_of0 hA hY, M_of1 hA hY, M_of2 hA hY, M_of7 hA hY, M_of8 hA hY, M_ofL hA hY, M_around hA hY, M_holds hA hY O, M_roomLeft hA hY O, zI_le, zI_lt, zI_inj, e]
    rw [if_neg (by omega)]
    by_cases q1 : c = k ∨ yar y c k = true
    · rw [if_neg (fun z => z q1)]
      refine no ?_
      unfold ycan
      rcases q1 with q | q
      · rw [decide_eq_false (fun z => z q.symm)]; rfl
      · rw [q]; simp
    · rw [if_pos q1]
      have q1a : ¬ k = c := fun z => q1 (Or.inl z.symm)
      have q1b : yar y c k = false := by
        cases z : yar y c k with
        | false => rfl
        | true => exact absurd (Or.inr z) q1
      by_cases q2 : yf y 3 c = (k : Int)
      · rw [if_pos q2]
        refine no ?_
        unfold ycan
        rw [show decide (yf y 3 c ≠ (k : Int)) = false from decide_eq_false (fun z => z q2)]; simp
      · rw [if_neg q2]
        by_cases q3 : ylf y k - yf y 0 c < 0
        · rw [if_pos q3]
          refine no ?_
          unfold ycan
          rw [decide_eq_false (p := yf y 0 c ≤ ylf y k) (by omega)]; simp
        · rw [if_neg q3]
          have can : ycan y c k = true := by
            unfold ycan
            rw [q1b, decide_eq_true q1a, show decide (yf y 3 c ≠ (k : Int)) = true from decide_eq_true q2, decide_eq_true (p := yf y 0 c ≤ ylf y k) (by omega)]; rfl
          have yes : mf_X2_bestFor_J76 (fun m2 m3 m4 g => mf_X2_bestFor_L8 (some (A 3)) (zI c) f m2 m3 m4 g) (some (A 3)) (zI c) (zI a) (zI b) (zI k) (zI (ylf y k - yf y 0 c)) (zI 1) (mk A μ h) = some (zI (ybf y c (k + 1) m k), mk A μ h) := by
            unfold mf_X2_bestFor_J76 mf_X2_bestFor_J89
            simp (disch := first | assumption | decide | omega | (simp only [aSz]; omega)) only [m_rc, m_gI, m_gR, zI_lit, zI_add, zI_sub, zI_mul, zI_neg, b2_0z, cl_some, M_n hA hY, M_of0 hA hY, M_of1 hA hY, M_of2 hA hY, M_of7 hA hY, M_of8 hA hY, M_ofL hA hY, M_around hA hY, zI_le, zI_lt, zI_inj]
            rw [if_neg (by decide)]
            exact ih k _ (Or.inr ⟨k, hk', rfl, rfl⟩) (by omega) (by omega)
          by_cases q4 : a = -4
          · rw [if_pos (by omega), if_pos ⟨can, Or.inl (by omega)⟩]; exact yes
          · rcases hi with hi | ⟨d, hd, hda, hdb⟩
            · exact absurd hi q4
            · have ed : a.toNat = d := by omega
              rw [if_neg (by omega), ed]
              by_cases q5 : b ≤ ylf y k - yf y 0 c
              · rw [if_pos q5]
                rw [if_neg (fun z => by rcases z.2 with z | z <;> omega)]
                unfold mf_X2_bestFor_J76 mf_X2_bestFor_J89
                simp (disch := first | assumption | decide | omega | (simp only [aSz]; omega)) only [m_rc, m_gI, m_gR, zI_lit, zI_add, zI_sub, zI_mul, zI_neg, b2_0z, cl_some, M_n hA hY, M_of0 hA hY, M_of1 hA hY, M_of2 hA hY, M_of7 hA hY, M_of8 hA hY, M_ofL hA hY, M_around hA hY, zI_le, zI_lt, zI_inj]
                rw [if_pos (by decide)]
                exact ih a b (Or.inr ⟨d, hd, hda, hdb⟩) hb1 hb2
              · rw [if_neg q5, if_pos ⟨can, Or.inr (by omega)⟩]; exact yes
theorem M_bestFor (hA : AOk A) (hY : MY (μ.2 0) y) (O : YOk y) {c : Nat} (hc : c < yn y) : mf_X2_bestFor (some (A 3)) (zI c) (mk A μ h) = some (zI (ybf y c 0 (yn y) (-4)), mk A μ h) := by
  have hn := O.n
  unfold mf_X2_bestFor
  simp only [zI_lit, zI_add, zI_sub, zI_mul, zI_neg, b2_0z, cl_some]
  exact M_bestFor_L8 (h := h) hA hY O hc (yn y) 0 xk_fu (-4) 0 (Or.inl rfl) (by decide) (by decide) (by omega) (fu_lt (by omega))
theorem M_cr (hA : AOk A) (hY : MY (μ.2 0) y) (O : YOk y) {c : Nat} {w : Int} (hc : c < yn y) (w1 : -2147483648 ≤ w) (w2 : w ≤ 2147483647) : mf_X2_crate (some (A 3)) (zI c) (zI w) (mk A μ h) = some (zI (qcr y c w), mk A μ h) := by
  have hn := O.n
  have hH := O.ho hc
  have hi : decide (0 ≤ (c : Int) ∧ (c : Int) < yn y) = true := decide_eq_true (by omega)
  unfold mf_X2_crate
  rw [m_rc, M_isCrate hA hY O (by omega) (by omega), hi, cl_some, if_neg (by decide)]
  unfold qcr
  refine ite_q2 (lit_eq w1 w2 (by decide)) (fun e => ?_) fun _ => ite_q2 (lit_eq w1 w2 (by decide)) (fun e => ?_) fun _ => ite_q2 (lit_eq w1 w2 (by decide)) (fun e => ?_) fun _ => ite_q2 (lit_eq w1 w2 (by decide)) (fun e => ?_) fun _ => ite_q2 (lit_eq w1 w2 (by decide)) (fun e => ?_) fun _ => ite_q2 (lit_eq w1 w2 (by decide)) (fun e => ?_) fun _ => ite_q2 (lit_eq w1 w2 (by decide)) (fun e => ?_) fun _ => ite_q2 (lit_eq w1 w2 (by decide)) (fun e => ?_) fun _ => ite_q2 (lit_eq w1 w2 (by decide)) (fun e => ?_) fun _ => ite_q2 (lit_eq w1 w2 (by decide)) (fun e => ?_) fun _ => ite_q2 (lit_eq w1 w2 (by decide)) (fun e => ?_) fun _ => ite_q2 (lit_eq w1 w2 (by decide)) (fun e => ?_) fun _ => ite_q2 (lit_eq w1 w2 (by decide)) (fun e => ?_) fun _ => ite_q2 (lit_eq w1 w2 (by decide)) (fun e => ?_) fun _ => ite_q2 (lit_eq w1 w2 (by decide)) (fun e => ?_) fun _ => rfl
  all_goals subst e
  · simp (disch := first | assumption | decide | omega | (simp only [aSz]; omega)) only [m_rc, m_gI, m_gR, zI_lit, zI_add, zI_sub, zI_mul, zI_neg, b2_0z, cl_some, M_n hA hY, M_of0 hA hY, M_of1 hA hY, M_of2 hA hY, M_of7 hA hY, M_of8 hA hY, M_ofL hA hY]
  · simp (disch := first | assumption | decide | omega | (simp only [aSz]; omega)) only [m_rc, m_gI, m_gR, zI_lit, zI_add, zI_sub, zI_mul, zI_neg, b2_0z, cl_some, M_n hA hY, M_of0 hA hY, M_of1 hA hY, M_of2 hA hY, M_of7 hA hY, M_of8 hA hY, M_ofL hA hY]
  · simp (disch := first | assumption | decide | omega | (simp only [aSz]; omega)) only [m_rc, m_gI, m_gR, zI_lit, zI_add, zI_sub, zI_mul, zI_neg, b2_0z, cl_some, M_n hA hY, M_of0 hA hY, M_of1 hA hY, M_of2 hA hY, M_of7 hA hY, M_of8 hA hY, M_ofL hA hY]
  · simp (disch := first | assumption | decide | omega | (simp only [aSz]; omega)) only [m_rc, m_gI, m_gR, zI_lit, zI_add, zI_sub, zI_mul, zI_neg, b2_0z, cl_some, M_letters hA hY O]
  · simp (disch := first | assumption | decide | omega | (simp only [aSz]; omega)) only [m_rc, m_gI, m_gR, zI_lit, zI_add, zI_sub, zI_mul, zI_neg, b2_0z, cl_some, M_around hA hY, zI_le]
    exact ite_q (fun _ => rfl) fun _ => rfl
  · simp (disch := first | assumption | decide | omega | (simp only [aSz]; omega)) only [m_rc, m_gI, m_gR, zI_lit, zI_add, zI_sub, zI_mul, zI_neg, b2_0z, cl_some, M_depthOf hA hY O]
  · simp (disch := first | assumption | decide | omega | (simp only [aSz]; omega)) only [m_rc, m_gI, m_gR, zI_lit, zI_add, zI_sub, zI_mul, zI_neg, b2_0z, cl_some, M_pile hA hY O]
  · simp (disch := first | assumption | decide | omega | (simp only [aSz]; omega)) only [m_rc, m_gI, m_gR, zI_lit, zI_add, zI_sub, zI_mul, zI_neg, b2_0z, cl_some, M_loadOf hA hY O]
  · simp (disch := first | assumption | decide | omega | (simp only [aSz]; omega)) only [m_rc, m_gI, m_gR, zI_lit, zI_add, zI_sub, zI_mul, zI_neg, b2_0z, cl_some, M_roomLeft hA hY O]
  · simp (disch := first | assumption | decide | omega | (simp only [aSz]; omega)) only [m_rc, m_gI, m_gR, zI_lit, zI_add, zI_sub, zI_mul, zI_neg, b2_0z, cl_some, M_n hA hY, M_of0 hA hY, M_of1 hA hY, M_of2 hA hY, M_of7 hA hY, M_of8 hA hY, M_ofL hA hY]
  · simp (disch := first | assumption | decide | omega | (simp only [aSz]; omega)) only [m_rc, m_gI, m_gR, zI_lit, zI_add, zI_sub, zI_mul, zI_neg, b2_0z, cl_some, M_effortTo hA hY O]
  · simp (disch := first | assumption | decide | omega | (simp only [aSz]; omega)) only [m_rc, m_gI, m_gR, zI_lit, zI_add, zI_sub, zI_mul, zI_neg, b2_0z, cl_some, M_isTold hA hY O]
    cases ytold y c <;> rfl
  · simp (disch := first | assumption | decide | omega | (simp only [aSz]; omega)) only [m_rc, m_gI, m_gR, zI_lit, zI_add, zI_sub, zI_mul, zI_neg, b2_0z, cl_some, M_lettersSeen hA hY O]
  · simp (disch := first | assumption | decide | omega | (simp only [aSz]; omega)) only [m_rc, m_gI, m_gR, zI_lit, zI_add, zI_sub, zI_mul, zI_neg, b2_0z, cl_some, M_bestFor hA hY O]
  · simp (disch := first | assumption | decide | omega | (simp only [aSz]; omega)) only [m_rc, m_gI, m_gR, zI_lit, zI_add, zI_sub, zI_mul, zI_neg, b2_0z, cl_some, M_reasonGround hA hY O]
theorem M_crate (hA : AOk A) (hY : MY (μ.2 0) y) (O : YOk y) {c w : Int} (c1 : -2147483648 ≤ c) (c2 : c ≤ 2147483647) (w1 : -2147483648 ≤ w) (w2 : w ≤ 2147483647) : mf_X2_crate (some (A 3)) (zI c) (zI w) (mk A μ h) = some (zI (qcrate y c w), mk A μ h) := by
  unfold qcrate
  by_cases q : 0 ≤ c ∧ c < yn y
  · rw [if_pos q]
    obtain ⟨d, rfl⟩ : ∃ d : Nat, c = d := ⟨c.toNat, by omega⟩
    exact M_cr hA hY O (by omega) w1 w2
  · have hi := decide_eq_false q
    rw [if_neg q]
    unfold mf_X2_crate
    rw [m_rc, M_isCrate hA hY O c1 c2, hi, cl_some, if_pos (by decide)]; rfl
theorem M_sum_L4 (hA : AOk A) (hY : MY (μ.2 0) y) (O : YOk y) {w : Int} (w1 : -2147483648 ≤ w) (w2 : w ≤ 2147483647) : ∀ (m k f : Nat) (a : Int), k + m = yn y → m < f → mf_X2_sum_L4 (some (A 3)) (zI w) f (zI a) (zI k) (mk A μ h) = some (zI (a + zs (fun k => qcr y k w) k m), mk A μ h)
  | m, k, 0, a, _, hf => absurd hf (Nat.not_lt_zero _)
  | 0, k, f + 1, a, hk, hf => by
    have hn := O.n
    unfold mf_X2_sum_L4 zs
    simp (disch := first | assumption | decide | omega | (simp only [aSz]; omega)) only [m_rc, m_gI, m_gR, zI_lit, zI_add, zI_sub, zI_mul, zI_neg, b2_0z, cl_some, M_n hA hY, M_of0 hA hY, M_of1 hA hY, M_of2 hA hY, M_of7 hA hY, M_of8 hA hY, M_ofL hA hY, M_around hA hY, zI_le, zI_lt, zI_inj]
    rw [if_pos (by omega), Int.add_zero]
  | m + 1, k, f + 1, a, hk, hf => by
    have hn := O.n
    have ih := fun b => M_sum_L4 hA hY O w1 w2 m (k + 1) f b (by omega) (by omega)
    unfold mf_X2_sum_L4 zs
    simp (disch := first | assumption | decide | omega | (simp only [aSz]; omega)) only [m_rc, m_gI, m_gR, zI_lit, zI_add, zI_sub, zI_mul, zI_neg, b2_0z, cl_some, M_n hA hY, M_of0 hA hY, M_of1 hA hY, M_of2 hA hY, M_of7 hA hY, M_of8 hA hY, M_ofL hA hY, zI_le, M_cr hA hY O]
    rw [if_neg (by omega), ← Int.add_assoc]
    exact ih _
theorem M_sum (hA : AOk A) (hY : MY (μ.2 0) y) (O : YOk y) {w : Int} (w1 : -2147483648 ≤ w) (w2 : w ≤ 2147483647) : mf_X2_sum (some (A 3)) (zI w) (mk A μ h) = some (zI (zs (fun k => qcr y k w) 0 (yn y)), mk A μ h) := by
  have hn := O.n
  have := M_sum_L4 (h := h) hA hY O w1 w2 (yn y) 0 xk_fu 0 (by omega) (fu_lt (by omega))
  rw [Int.zero_add] at this; exact this
end
