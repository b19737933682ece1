/-! PURE LAW: nests of loose crates; the reference's way to them -/
set_option maxRecDepth 10000
/-- d may be the next in a nest after c -/
def yedge (y : YD) (c d : Nat) : Bool := yloose y c && yloose y d && decide (yf y 0 d ≤ yf y 1 c)
def ynlF (y : YD) : Nat → Nat → Int
  | 0, _ => 0
  | f + 1, c => if yloose y c = true then 1 + zmx (fun d => if yedge y c d = true then ynlF y f d else 0) 0 (yn y) 0 else 0
/-- how many crates the longest nest has that begins with c -/
def ynl (y : YD) (c : Nat) : Int := ynlF y 60 c
theorem zmx_congr {F G : Nat → Int} : ∀ (m k : Nat) (a : Int), (∀ i, k ≤ i → i < k + m → F i = G i) → zmx F k m a = zmx G k m a
  | 0, k, a, _ => rfl
  | m + 1, k, a, h => by
    unfold zmx
    rw [h k (by omega) (by omega), zmx_congr m (k + 1) _ fun i p q => h i (by omega) (by omega)]
theorem zmx_ge {F : Nat → Int} : ∀ (m k : Nat) (a : Int), a ≤ zmx F k m a ∧ ∀ i, k ≤ i → i < k + m → F i ≤ zmx F k m a
  | 0, k, a => ⟨Int.le_refl _, fun i h1 h2 => by omega⟩
  | m + 1, k, a => by
    unfold zmx
    have ih := zmx_ge (F := F) m (k + 1) (if a < F k then F k else a)
    have h0 : a ≤ (if a < F k then F k else a) ∧ F k ≤ (if a < F k then F k else a) := by
      by_cases q : a < F k
      · rw [if_pos q]; omega
      · rw [if_neg q]; omega
    refine ⟨Int.le_trans h0.1 ih.1, fun i h1 h2 => ?_⟩
    by_cases e : i = k
    · subst e; exact Int.le_trans h0.2 ih.1
    · exact ih.2 i (by omega) (by omega)
theorem zmx_is {F : Nat → Int} : ∀ (m k : Nat) (a : Int), zmx F k m a = a ∨ ∃ i, k ≤ i ∧ i < k + m ∧ zmx F k m a = F i
  | 0, k, a => Or.inl rfl
  | m + 1, k, a => by
    unfold zmx
    by_cases q : a < F k
    · rw [if_pos q]
      rcases zmx_is (F := F) m (k + 1) (F k) with e | ⟨i, h1, h2, e⟩
      · exact Or.inr ⟨k, Nat.le_refl _, by omega, e⟩
      · exact Or.inr ⟨i, by omega, by omega, e⟩
    · rw [if_neg q]
      rcases zmx_is (F := F) m (k + 1) a with e | ⟨i, h1, h2, e⟩
      · exact Or.inl e
      · exact Or.inr ⟨i, by omega, by omega, e⟩
section
variable {y : YD}
theorem yedge_sz (O : YOk y) {c d : Nat} (hc : c < yn y) (e : yedge y c d = true) : yf y 0 d < yf y 0 c := by
  unfold yedge at e
  simp only [Bool.and_eq_true, decide_eq_true_eq] at e
  have := (O.rm hc).2
  omega
theorem ynlF_st (O : YOk y) : ∀ (f g c : Nat), c < yn y → yf y 0 c ≤ f → yf y 0 c ≤ g → ynlF y f c = ynlF y g c
  | 0, g, c, hc, h1, h2 => by have := (O.sz hc).1; omega
  | f + 1, 0, c, hc, h1, h2 => by have := (O.sz hc).1; omega
  | f + 1, g + 1, c, hc, h1, h2 => by
    unfold ynlF
    by_cases q : yloose y c = true
    · rw [if_pos q, if_pos q]
      congr 1
      refine zmx_congr _ _ _ fun i _ hi => ?_
      by_cases e : yedge y c i = true
      · have := yedge_sz O hc e
        rw [if_pos e, if_pos e, ynlF_st O f g i (by omega) (by omega) (by omega)]
      · rw [if_neg e, if_neg e]
    · rw [if_neg q, if_neg q]
theorem ynl_eq (O : YOk y) {c : Nat} (hc : c < yn y) : ynl y c = if yloose y c = true then 1 + zmx (fun d => if yedge y c d = true then ynl y d else 0) 0 (yn y) 0 else 0 := by
  unfold ynl
  rw [ynlF_st O 60 61 c hc (O.sz hc).2 (by have := (O.sz hc).2; omega)]
  rfl
theorem ynl_pos (O : YOk y) {c : Nat} (hc : c < yn y) : 0 ≤ ynl y c ∧ (0 < ynl y c ↔ yloose y c = true) := by
  rw [ynl_eq O hc]
  by_cases q : yloose y c = true
  · have := (zmx_ge (F := fun d => if yedge y c d = true then ynl y d else 0) (yn y) 0 0).1
    rw [if_pos q]; constructor
    · omega
    · constructor <;> intro _
      · exact q
      · omega
  · rw [if_neg q]; simp [q]
theorem ynl_edge (O : YOk y) {c d : Nat} (hc : c < yn y) (hd : d < yn y) (e : yedge y c d = true) : ynl y d + 1 ≤ ynl y c := by
  have q : yloose y c = true := by unfold yedge at e; simp only [Bool.and_eq_true] at e; exact e.1.1
  have := (zmx_ge (F := fun d => if yedge y c d = true then ynl y d else 0) (yn y) 0 0).2 d (by omega) (by omega)
  rw [if_pos e] at this
  rw [ynl_eq O hc, if_pos q]; omega
theorem ynl_next (O : YOk y) {c : Nat} (hc : c < yn y) (h : 1 < ynl y c) : ∃ d, d < yn y ∧ yedge y c d = true ∧ ynl y d = ynl y c - 1 := by
  rw [ynl_eq O hc] at h ⊢
  by_cases q : yloose y c = true
  · rw [if_pos q] at h ⊢
    rcases zmx_is (F := fun d => if yedge y c d = true then ynl y d else 0) (yn y) 0 0 with e | ⟨i, h1, h2, e⟩
    · rw [e] at h; omega
    · by_cases e2 : yedge y c i = true
      · rw [if_pos e2] at e
        exact ⟨i, by omega, e2, by omega⟩
      · rw [if_neg e2] at e; rw [e] at h; omega
  · rw [if_neg q] at h; omega
/-- a nest is made of different crates -/
theorem ynl_list (O : YOk y) : ∀ (n c : Nat), c < yn y → ynl y c = (n : Int) + 1 → ∃ l : List Nat, l.length = n ∧ (c :: l).Pairwise (fun a b => yf y 0 b < yf y 0 a) ∧ ∀ d ∈ c :: l, d < yn y
  | 0, c, hc, _ => ⟨[], rfl, List.pairwise_singleton _ _, fun d m => by rw [List.mem_singleton.1 m]; exact hc⟩
  | n + 1, c, hc, h => by
    obtain ⟨d, hd, e, h2⟩ := ynl_next O hc (by omega)
    obtain ⟨l, h3, h4, h5⟩ := ynl_list O n d hd (by omega)
    have hs := yedge_sz O hc e
    refine ⟨d :: l, by simp [h3], List.pairwise_cons.2 ⟨fun b m => ?_, h4⟩, fun b m => ?_⟩
    · rcases List.mem_cons.1 m with rfl | m
      · exact hs
      · exact Int.lt_trans ((List.pairwise_cons.1 h4).1 b m) hs
    · rcases List.mem_cons.1 m with rfl | m
      · exact hc
      · exact h5 b m
theorem ynl_le (O : YOk y) {c : Nat} (hc : c < yn y) : ynl y c ≤ yn y := by
  by_cases q : ynl y c ≤ 0
  · omega
  · obtain ⟨l, h1, h2, h3⟩ := ynl_list O (ynl y c - 1).toNat c hc (by omega)
    have nd : (c :: l).Nodup := h2.imp fun {a b} q e => by rw [e] at q; omega
    have := nd.length_le_of_subset (l₂ := List.range (yn y)) fun d m => List.mem_range.2 (h3 d m)
    rw [List.length_cons, List.length_range] at this
    omega
end
/-! ## the reference's way -/
/-- only the array of field r differs -/
def mOnly (r : Nat) (μ ν : MD) : Prop := ν.1 = μ.1 ∧ ∀ q, q ≠ r → ν.2 q = μ.2 q
theorem mOnly.rf {r : Nat} {μ : MD} : mOnly r μ μ := ⟨rfl, fun _ _ => rfl⟩
theorem mOnly.tr {r : Nat} {μ ν ξ : MD} (a : mOnly r μ ν) (b : mOnly r ν ξ) : mOnly r μ ξ := ⟨b.1.trans a.1, fun q h => (b.2 q h).trans (a.2 q h)⟩
theorem mOnly.u {r i : Nat} {μ : MD} {v : Int32} : mOnly r μ (uA μ r i v) := ⟨rfl, fun q h => uA_ne i v h⟩
/-- what the reference knows so far of the nests -/
def NI (y : YD) (N : Nat → Int) : Prop := ∀ c, c < yn y → 0 ≤ N c ∧ N c ≤ ynl y c ∧ (0 < N c ↔ yloose y c = true)
def NR (y : YD) (μ : MD) (N : Nat → Int) : Prop := ∀ c, c < yn y → μ.2 18 c = zI (N c)
theorem NR.u {y : YD} {μ : MD} {N : Nat → Int} (h : NR y μ N) (c : Nat) (x : Int) : NR y (uA μ 18 c (zI x)) (fun e => if e = c then x else N e) := by
  intro e he
  rw [uA_at]
  show (if e = c then zI x else μ.2 18 e) = zI (if e = c then x else N e)
  by_cases q : e = c
  · rw [if_pos q, if_pos q]
  · rw [if_neg q, if_neg q]; exact h e he
section
variable {A : Nat → Nat} {h : xk_H} {y : YD}
theorem M_laysNests_L2 (hA : AOk A) (O : YOk y) (kx : xk_H → Option (Unit × xk_H)) : ∀ (m k f : Nat) (μ : MD), MY (μ.2 0) y → k + m = yn y → m < f → ∃ ν, mOnly 18 μ ν ∧ (∀ c, c < k → ν.2 18 c = μ.2 18 c) ∧ (∀ c, k ≤ c → c < yn y → ν.2 18 c = zI (if yloose y c = true then 1 else 0)) ∧ mf_X2_laysNests_L2 kx (some (A 3)) f (zI k) (mk A μ h) = kx (mk A ν h)
  | m, k, 0, μ, _, _, hf => absurd hf (Nat.not_lt_zero _)
  | 0, k, f + 1, μ, hY, hk, hf => by
    have hn := O.n
    refine ⟨μ, mOnly.rf, fun c _ => rfl, fun c _ _ => by omega, ?_⟩
    unfold mf_X2_laysNests_L2
    simp (disch := first | assumption | decide | omega | (simp only [aSz]; omega)) only [m_rc, m_gI, m_gR, zI_lit, zI_add, zI_sub, zI_mul, zI_neg, b2_0z, cl_some, M_n hA hY, M_of0 hA hY, M_of1 hA hY, M_of2 hA hY, M_of7 hA hY, M_of8 hA hY, M_ofL hA hY, M_around hA hY, zI_le, zI_lt, zI_inj]
    rw [if_pos (by omega)]
  | m + 1, k, f + 1, μ, hY, hk, hf => by
    have hn := O.n
    have hk' : k < yn y := by omega
    have st : ∀ v : Int, v = (if yloose y k = true then 1 else 0) → ∃ ν, mOnly 18 μ ν ∧ (∀ c, c < k → ν.2 18 c = μ.2 18 c) ∧ (∀ c, k ≤ c → c < yn y → ν.2 18 c = zI (if yloose y c = true then 1 else 0)) ∧ mf_X2_laysNests_L2 kx (some (A 3)) f (zI (k + 1 : Nat)) (mk A (uA μ 18 k (zI v)) h) = kx (mk A ν h) := by
      intro v hv
      obtain ⟨ν, a, b, c, d⟩ := M_laysNests_L2 hA O kx m (k + 1) f (uA μ 18 k (zI v)) (by rw [uA_ne k (zI v) (by decide)]; exact hY) (by omega) (by omega)
      refine ⟨ν, mOnly.u.tr a, fun c hc => ?_, fun e h1 h2 => ?_, d⟩
      · rw [b c (by omega), uA_at]; exact if_neg (by omega)
      · by_cases q : e = k
        · subst q; rw [b e (by omega), uA_at, hv]; exact if_pos rfl
        · exact c e (by omega) h2
    unfold mf_X2_laysNests_L2
    simp (disch := first | assumption | decide | omega | (simp only [aSz]; omega)) only [m_rc, m_gI, m_gR, zI_lit, zI_add, zI_sub, zI_mul, zI_neg, b2_0z, cl_some, M_n hA hY, M_of0 hA hY, M_of1 hA hY, M_of2 hA hY, M_of7 hA hY, M_of8 hA hY, M_ofL hA hY, zI_le, M_isLoose hA hY O, m_sV hA, Int.toNat_natCast]
    rw [if_neg (by omega), show decide (yf y 3 k < 0 ∧ (yp y k).length = 0) = yloose y k from rfl]
    cases q : yloose y k with
    | false => rw [if_pos rfl]; exact st 0 (by rw [q]; rfl)
    | true => rw [if_neg (by decide)]; exact st 1 (by rw [q]; rfl)
theorem M_J111 (hA : AOk A) (kb : Int32 → xk_H → Option (Unit × xk_H)) (z : Int32) {c k : Nat} {μ : MD} {a b : Int} (hc : c < 12) (hk : k < 12) (hb : -1 ≤ b ∧ b ≤ 100) (ha : -1 ≤ a ∧ a ≤ 100) (nC : μ.2 18 c = zI a) (nK : μ.2 18 k = zI b) (p : Bool) : mf_X2_laysNests_J111 kb (some (A 3)) z (zI c) (zI k) (xk_b2 p) (mk A μ h) = kb (zI (k + 1 : Nat)) (mk A (uA μ 18 c (zI (if p = false then a else if b + 1 ≤ a then a else b + 1))) h) := by
  unfold mf_X2_laysNests_J111
  simp (disch := first | assumption | decide | omega | (simp only [aSz]; omega)) only [m_rc, m_gI, m_gR, zI_lit, zI_add, zI_sub, zI_mul, zI_neg, b2_0z, cl_some, zI_le, m_lI hA, m_sV hA, Int.toNat_natCast, nC, nK]
  by_cases q : p = false
  · rw [if_pos q, if_pos q]; rfl
  · rw [if_neg q, if_neg q]
    by_cases q2 : b + 1 ≤ a
    · rw [if_pos q2, if_pos q2]; rfl
    · rw [if_neg q2, if_neg q2]; rfl
theorem M_laysNests_L63 (hA : AOk A) (O : YOk y) (kx : xk_H → Option (Unit × xk_H)) (z : Int32) {c : Nat} (hc : c < yn y) : ∀ (m k f : Nat) (μ : MD) (N : Nat → Int), MY (μ.2 0) y → NR y μ N → NI y N → k + m = yn y → m < f → ∃ (ν : MD) (M : Nat → Int), mOnly 18 μ ν ∧ NR y ν M ∧ NI y M ∧ (∀ e, e ≠ c → M e = N e) ∧ N c ≤ M c ∧ (∀ d, k ≤ d → d < yn y → yedge y c d = true → N d + 1 ≤ M c) ∧ mf_X2_laysNests_L63 kx (some (A 3)) z (zI c) f (zI k) (mk A μ h) = kx (mk A ν h)
  | m, k, 0, μ, N, _, _, _, _, hf => absurd hf (Nat.not_lt_zero _)
  | 0, k, f + 1, μ, N, hY, hR, hI, hk, hf => by
    have hn := O.n
    refine ⟨μ, N, mOnly.rf, hR, hI, fun _ _ => rfl, Int.le_refl _, fun d _ _ _ => by omega, ?_⟩
    unfold mf_X2_laysNests_L63
    simp (disch := first | assumption | decide | omega | (simp only [aSz]; omega)) only [m_rc, m_gI, m_gR, zI_lit, zI_add, zI_sub, zI_mul, zI_neg, b2_0z, cl_some, M_n hA hY, M_of0 hA hY, M_of1 hA hY, M_of2 hA hY, M_of7 hA hY, M_of8 hA hY, M_ofL hA hY, M_around hA hY, zI_le, zI_lt, zI_inj]
    rw [if_pos (by omega)]
  | m + 1, k, f + 1, μ, N, hY, hR, hI, hk, hf => by
    have hn := O.n
    have hk' : k < yn y := by omega
    have iC := hI c hc
    have iK := hI k hk'
    have lC := ynl_le O hc
    have lK := ynl_le O hk'
    have zC := O.sz hc
    have zK := O.sz hk'
    have rC := O.rm hc
    have nC := hR c hc
    have nK := hR k hk'
    -- what is laid is v
    have st : ∀ v : Int, N c ≤ v → (yedge y c k = true → N k + 1 ≤ v) → v ≤ ynl y c → (0 < v ↔ yloose y c = true) → ∃ (ν : MD) (M : Nat → Int), mOnly 18 μ ν ∧ NR y ν M ∧ NI y M ∧ (∀ e, e ≠ c → M e = N e) ∧ N c ≤ M c ∧ (∀ d, k ≤ d → d < yn y → yedge y c d = true → N d + 1 ≤ M c) ∧ mf_X2_laysNests_L63 kx (some (A 3)) z (zI c) f (zI (k + 1 : Nat)) (mk A (uA μ 18 c (zI v)) h) = kx (mk A ν h) := by
      intro v h1 hv2 h3 h4
      have hI2 : NI y (fun e => if e = c then v else N e) := by
        intro e he
        show 0 ≤ (if e = c then v else N e) ∧ (if e = c then v else N e) ≤ _ ∧ (0 < (if e = c then v else N e) ↔ _)
        by_cases q : e = c
        · subst q; rw [if_pos rfl]; exact ⟨by omega, h3, h4⟩
        · rw [if_neg q]; exact hI e he
      obtain ⟨ν, M, b1, b2, b3, b4, b5, b6, b7⟩ := M_laysNests_L63 hA O kx z hc m (k + 1) f (uA μ 18 c (zI v)) _ (by rw [uA_ne c (zI v) (by decide)]; exact hY) (hR.u c v) hI2 (by omega) (by omega)
      rw [if_pos rfl] at b5
      refine ⟨ν, M, mOnly.u.tr b1, b2, b3, fun e q => by rw [b4 e q, if_neg q], by omega, fun d h1 h2 h3 => ?_, b7⟩
      have dc : d ≠ c := fun q => by
        subst q
        have := yedge_sz O hc h3; omega
      by_cases q : d = k
      · subst q
        have := hv2 h3
        omega
      · have := b6 d (by omega) h2 h3
        rw [if_neg dc] at this; exact this
    have keep : (yedge y c k = true → N k + 1 ≤ N c) → ∃ (ν : MD) (M : Nat → Int), mOnly 18 μ ν ∧ NR y ν M ∧ NI y M ∧ (∀ e, e ≠ c → M e = N e) ∧ N c ≤ M c ∧ (∀ d, k ≤ d → d < yn y → yedge y c d = true → N d + 1 ≤ M c) ∧ mf_X2_laysNests_L63 kx (some (A 3)) z (zI c) f (zI (k + 1 : Nat)) (mk A (uA μ 18 c (zI (N c))) h) = kx (mk A ν h) := fun e => st (N c) (Int.le_refl _) e iC.2.1 iC.2.2
    have j0 := M_J111 (h := h) hA (fun m3 g => mf_X2_laysNests_L63 kx (some (A 3)) z (zI c) f m3 g) z (by omega) (by omega) (by omega) (by omega) nC nK false
    have j1 := M_J111 (h := h) hA (fun m3 g => mf_X2_laysNests_L63 kx (some (A 3)) z (zI c) f m3 g) z (by omega) (by omega) (by omega) (by omega) nC nK true
    rw [if_pos rfl] at j0
    rw [if_neg (by decide)] at j1
    rw [show xk_b2 false = zI 0 from rfl] at j0
    rw [show xk_b2 true = zI 1 from rfl] at j1
    unfold mf_X2_laysNests_L63
    simp (disch := first | assumption | decide | omega | (simp only [aSz]; omega)) only [m_rc, m_gI, m_gR, zI_lit, zI_add, zI_sub, zI_mul, zI_neg, b2_0z, cl_some, M_n hA hY, M_of0 hA hY, M_of1 hA hY, M_of2 hA hY, M_of7 hA hY, M_of8 hA hY, M_ofL hA hY, zI_le, zI_lt, m_lI hA, Int.toNat_natCast, nC, nK]
    rw [if_neg (by omega)]
    by_cases q1 : N c ≤ 0
    · rw [if_pos q1]
      have e1 : yedge y c k = true → N k + 1 ≤ N c := fun e => by
        unfold yedge at e
        simp only [Bool.and_eq_true] at e
        have := iC.2.2.2 e.1.1; omega
      rw [j0]; exact keep e1
    · rw [if_neg q1]
      by_cases q2 : N k ≤ 0
      · rw [if_pos q2]
        have e1 : yedge y c k = true → N k + 1 ≤ N c := fun e => by
          unfold yedge at e
          simp only [Bool.and_eq_true] at e
          have := iK.2.2.2 e.1.2; omega
        rw [j0]; exact keep e1
      · rw [if_neg q2]
        by_cases q3 : yf y 1 c < yf y 0 k
        · rw [if_pos q3]
          have e1 : yedge y c k = true → N k + 1 ≤ N c := fun e => by
            unfold yedge at e
            simp only [Bool.and_eq_true, decide_eq_true_eq] at e
            omega
          rw [j0]; exact keep e1
        · have ed : yedge y c k = true := by
            unfold yedge
            rw [iC.2.2.1 (by omega), iK.2.2.1 (by omega), decide_eq_true (by omega)]; rfl
          rw [if_neg q3, j1]
          by_cases q4 : N k + 1 ≤ N c
          · rw [if_pos q4]
            exact keep fun _ => q4
          · rw [if_neg q4]
            have := ynl_edge O hc hk' ed
            exact st (N k + 1) (by omega) (fun _ => Int.le_refl _) (by omega) ⟨fun _ => iC.2.2.1 (by omega), fun _ => by omega⟩
theorem M_laysNests_L51 (hA : AOk A) (O : YOk y) (kx : xk_H → Option (Unit × xk_H)) (z : Int32) : ∀ (m k f : Nat) (μ : MD) (N : Nat → Int), MY (μ.2 0) y → NR y μ N → NI y N → k + m = yn y → m < f → ∃ (ν : MD) (M : Nat → Int), mOnly 18 μ ν ∧ NR y ν M ∧ NI y M ∧ (∀ e, N e ≤ M e) ∧ (∀ c d, k ≤ c → c < yn y → d < yn y → yedge y c d = true → N d + 1 ≤ M c) ∧ mf_X2_laysNests_L51 kx (some (A 3)) z f (zI k) (mk A μ h) = kx (mk A ν h)
  | m, k, 0, μ, N, _, _, _, _, hf => absurd hf (Nat.not_lt_zero _)
  | 0, k, f + 1, μ, N, hY, hR, hI, hk, hf => by
    have hn := O.n
    refine ⟨μ, N, mOnly.rf, hR, hI, fun _ => Int.le_refl _, fun c d _ _ _ => by omega, ?_⟩
    unfold mf_X2_laysNests_L51
    simp (disch := first | assumption | decide | omega | (simp only [aSz]; omega)) only [m_rc, m_gI, m_gR, zI_lit, zI_add, zI_sub, zI_mul, zI_neg, b2_0z, cl_some, M_n hA hY, M_of0 hA hY, M_of1 hA hY, M_of2 hA hY, M_of7 hA hY, M_of8 hA hY, M_ofL hA hY, M_around hA hY, zI_le, zI_lt, zI_inj]
    rw [if_pos (by omega)]
  | m + 1, k, f + 1, μ, N, hY, hR, hI, hk, hf => by
    have hn := O.n
    have hk' : k < yn y := by omega
    obtain ⟨ν, M, b1, b2, b3, b4, b5, b6, b7⟩ := M_laysNests_L63 (h := h) hA O (fun h37 => mf_X2_laysNests_L51 kx (some (A 3)) z f (zI (k + 1 : Nat)) h37) z hk' (yn y) 0 xk_fu μ N hY hR hI (by omega) (fu_lt (by omega))
    obtain ⟨ξ, P, c1, c2, c3, c4, c5, c6⟩ := M_laysNests_L51 hA O kx z m (k + 1) f ν M (by rw [b1.2 0 (by decide)]; exact hY) b2 b3 (by omega) (by omega)
    have NM : ∀ e, N e ≤ M e := fun e => by
      by_cases q : e = k
      · rw [q]; exact b5
      · rw [b4 e q]; exact Int.le_refl _
    refine ⟨ξ, P, b1.tr c1, c2, c3, fun e => Int.le_trans (NM e) (c4 e), fun c d h1 h2 h3 h4 => ?_, ?_⟩
    · by_cases q : c = k
      · subst q; exact Int.le_trans (b6 d (by omega) h3 h4) (c4 c)
      · have := c5 c d (by omega) h2 h3 h4
        have := NM d; omega
    · unfold mf_X2_laysNests_L51
      simp (disch := first | assumption | decide | omega | (simp only [aSz]; omega)) only [m_rc, m_gI, m_gR, zI_lit, zI_add, zI_sub, zI_mul, zI_neg, b2_0z, cl_some, M_n hA hY, M_of0 hA hY, M_of1 hA hY, M_of2 hA hY, M_of7 hA hY, M_of8 hA hY, M_ofL hA hY, M_around hA hY, zI_le, zI_lt, zI_inj]
      rw [if_neg (by omega)]
      exact b7.trans c6
/-- what is known after r rounds -/
def NP (y : YD) (N : Nat → Int) (r : Nat) : Prop := ∀ c, c < yn y → ynl y c ≤ (r : Int) + 1 → N c = ynl y c
theorem M_laysNests_L39 (hA : AOk A) (O : YOk y) : ∀ (m k f : Nat) (μ : MD) (N : Nat → Int), MY (μ.2 0) y → NR y μ N → NI y N → NP y N k → k + m = yn y → m < f → ∃ ν : MD, mOnly 18 μ ν ∧ NR y ν (ynl y) ∧ mf_X2_laysNests_L39 (some (A 3)) f (zI k) (mk A μ h) = some ((), mk A ν h)
  | m, k, 0, μ, N, _, _, _, _, _, hf => absurd hf (Nat.not_lt_zero _)
  | 0, k, f + 1, μ, N, hY, hR, hI, hP, hk, hf => by
    have hn := O.n
    refine ⟨μ, mOnly.rf, fun c hc => ?_, ?_⟩
    · have := ynl_le O hc
      rw [hR c hc, hP c hc (by omega)]
    · unfold mf_X2_laysNests_L39
      simp (disch := first | assumption | decide | omega | (simp only [aSz]; omega)) only [m_rc, m_gI, m_gR, zI_lit, zI_add, zI_sub, zI_mul, zI_neg, b2_0z, cl_some, M_n hA hY, M_of0 hA hY, M_of1 hA hY, M_of2 hA hY, M_of7 hA hY, M_of8 hA hY, M_ofL hA hY, M_around hA hY, zI_le, zI_lt, zI_inj]
      rw [if_pos (by omega)]
  | m + 1, k, f + 1, μ, N, hY, hR, hI, hP, hk, hf => by
    have hn := O.n
    have hk' : k < yn y := by omega
    obtain ⟨ν, M, b1, b2, b3, b4, b5, b6⟩ := M_laysNests_L51 (h := h) hA O (fun h38 => mf_X2_laysNests_L39 (some (A 3)) f (zI (k + 1 : Nat)) h38) (zI k) (yn y) 0 xk_fu μ N hY hR hI (by omega) (fu_lt (by omega))
    have hP2 : NP y M (k + 1) := fun c hc h2 => by
      have i := b3 c hc
      have p := ynl_pos O hc
      by_cases q : ynl y c ≤ (k : Int) + 1
      · have := hP c hc q
        have := b4 c; omega
      · obtain ⟨d, hd, e, h3⟩ := ynl_next O hc (by omega)
        have := hP d hd (by omega)
        have := b5 c d (by omega) hc hd e
        omega
    obtain ⟨ξ, c1, c2, c3⟩ := M_laysNests_L39 hA O m (k + 1) f ν M (by rw [b1.2 0 (by decide)]; exact hY) b2 b3 hP2 (by omega) (by omega)
    refine ⟨ξ, b1.tr c1, c2, ?_⟩
    unfold mf_X2_laysNests_L39
    simp (disch := first | assumption | decide | omega | (simp only [aSz]; omega)) only [m_rc, m_gI, m_gR, zI_lit, zI_add, zI_sub, zI_mul, zI_neg, b2_0z, cl_some, M_n hA hY, M_of0 hA hY, M_of1 hA hY, M_of2 hA hY, M_of7 hA hY, M_of8 hA hY, M_ofL hA hY, M_around hA hY, zI_le, zI_lt, zI_inj]
    rw [if_neg (by omega)]
    exact b6.trans c3
theorem M_laysNests (hA : AOk A) (O : YOk y) {μ : MD} (hY : MY (μ.2 0) y) : ∃ ν : MD, mOnly 18 μ ν ∧ NR y ν (ynl y) ∧ mf_X2_laysNests (some (A 3)) (mk A μ h) = some ((), mk A ν h) := by
  have hn := O.n
  obtain ⟨ν, a1, a2, a3, a4⟩ := M_laysNests_L2 (h := h) hA O (fun h8 => mf_X2_laysNests_L39 (some (A 3)) xk_fu (zI (0 : Nat)) h8) (yn y) 0 xk_fu μ hY (by omega) (fu_lt (by omega))
  have hI : NI y (fun c => if yloose y c = true then 1 else 0) := fun c hc => by
    have p := ynl_pos O hc
    show 0 ≤ (if yloose y c = true then (1 : Int) else 0) ∧ (if yloose y c = true then (1 : Int) else 0) ≤ _ ∧ (0 < (if yloose y c = true then (1 : Int) else 0) ↔ _)
    by_cases q : yloose y c = true
    · have := p.2.2 q
      rw [if_pos q]; exact ⟨by omega, by omega, fun _ => q, fun _ => by omega⟩
    · rw [if_neg q]; exact ⟨by omega, by omega, fun z => absurd z (by omega), fun z => absurd z q⟩
  have hP : NP y (fun c => if yloose y c = true then 1 else 0) 0 := fun c hc h2 => by
    have p := ynl_pos O hc
    show (if yloose y c = true then (1 : Int) else 0) = _
    by_cases q : yloose y c = true
    · have := p.2.2 q
      rw [if_pos q]; omega
    · rw [if_neg q]
      have p1 := p.1
      have p2 : ¬ 0 < ynl y c := fun z => q (p.2.1 z)
      omega
  obtain ⟨ξ, b1, b2, b3⟩ := M_laysNests_L39 (h := h) hA O (yn y) 0 xk_fu ν _ (by rw [a1.2 0 (by decide)]; exact hY) (fun c hc => a3 c (by omega) hc) hI hP (by omega) (fu_lt (by omega))
  refine ⟨ξ, a1.tr b1, b2, ?_⟩
  unfold mf_X2_laysNests
  exact a4.trans b3
end
/-- the longest nest's length -/
def ylong (y : YD) : Int := zmx (ynl y) 0 (yn y) 0
/-- the first crate that begins a nest of a length, and isn't larger than a room -/
def yfind (y : YD) (l r : Int) : Option Nat := (List.range (yn y)).find? fun c => decide (ynl y c = l ∧ yf y 0 c ≤ r)
def ynest (y : YD) : Nat → Int → List Nat
  | 0, _ => []
  | l + 1, r => match yfind y (l + 1 : Nat) r with
    | none => []
    | some c => c :: ynest y l (yf y 1 c)
/-- the longest nest, from outside -/
def ynst (y : YD) : List Nat := ynest y (ylong y).toNat 60
theorem find_range (p : Nat → Bool) {n c : Nat} (h : (List.range n).find? p = some c) : c < n ∧ p c = true ∧ ∀ d, d < c → p d = false := by
  rw [List.find?_eq_some_iff_append] at h
  obtain ⟨h1, as, bs, h2, h3⟩ := h
  have hl : (List.range n)[as.length]? = some c := by rw [h2]; simp
  have hc := (List.getElem?_eq_some_iff.1 hl)
  obtain ⟨q1, q2⟩ := hc
  rw [List.getElem_range] at q2
  have q1 : as.length < n := by rw [List.length_range] at q1; exact q1
  refine ⟨by omega, h1, fun d hd => ?_⟩
  have m : d ∈ as := by
    have e : as[d]? = some d := by
      have : (List.range n)[d]? = some d := List.getElem?_range (by omega)
      rw [h2, List.getElem?_append_left (by omega)] at this
      exact this
    exact List.mem_of_getElem? e
  have := h3 d m
  simpa using this
section
variable {y : YD}
theorem yfind_ok {l r : Int} {c : Nat} (h : yfind y l r = some c) : c < yn y ∧ ynl y c = l ∧ yf y 0 c ≤ r ∧ ∀ d, d < c → ¬ (ynl y d = l ∧ yf y 0 d ≤ r) := by
  obtain ⟨a, b, c⟩ := find_range _ h
  have b := of_decide_eq_true b
  exact ⟨a, b.1, b.2, fun d hd => of_decide_eq_false (c d hd)⟩
theorem yfind_some {l r : Int} {d : Nat} (hd : d < yn y) (h1 : ynl y d = l) (h2 : yf y 0 d ≤ r) : ∃ c, yfind y l r = some c := by
  cases e : yfind y l r with
  | some c => exact ⟨c, rfl⟩
  | none =>
    unfold yfind at e
    rw [List.find?_eq_none] at e
    exact absurd (decide_eq_true ⟨h1, h2⟩) (e d (List.mem_range.2 hd))
theorem ynest_len (O : YOk y) : ∀ (l : Nat) (r : Int), (l = 0 ∨ ∃ d, d < yn y ∧ ynl y d = l ∧ yf y 0 d ≤ r) → (ynest y l r).length = l
  | 0, r, _ => rfl
  | l + 1, r, h => by
    obtain ⟨d, h1, h2, h3⟩ := h.resolve_left (by omega)
    obtain ⟨c, e⟩ := yfind_some h1 h2 h3
    obtain ⟨c1, c2, c3, c4⟩ := yfind_ok e
    unfold ynest
    rw [e]
    show (c :: ynest y l (yf y 1 c)).length = l + 1
    rw [List.length_cons, ynest_len O l _ ?_]
    by_cases q : l = 0
    · exact Or.inl q
    · refine Or.inr ?_
      obtain ⟨e2, f1, f2, f3⟩ := ynl_next O c1 (by omega)
      unfold yedge at f2
      simp only [Bool.and_eq_true, decide_eq_true_eq] at f2
      exact ⟨e2, f1, by omega, f2.2⟩
theorem ylong_is (O : YOk y) : 0 ≤ ylong y ∧ ylong y ≤ 12 ∧ (ylong y = 0 ∨ ∃ d, d < yn y ∧ ynl y d = ylong y) := by
  have hn := O.n
  unfold ylong
  have h0 := (zmx_ge (F := ynl y) (yn y) 0 0).1
  rcases zmx_is (F := ynl y) (yn y) 0 0 with e | ⟨i, h1, h2, e⟩
  · rw [e]; exact ⟨by omega, by omega, Or.inl rfl⟩
  · have := ynl_le O (c := i) (by omega)
    exact ⟨h0, by omega, Or.inr ⟨i, by omega, e.symm⟩⟩
theorem ynst_len (O : YOk y) : ((ynst y).length : Int) = ylong y := by
  obtain ⟨h1, h2, h3⟩ := ylong_is O
  unfold ynst
  rw [ynest_len O]
  · omega
  · rcases h3 with h3 | ⟨d, hd, e⟩
    · exact Or.inl (by omega)
    · exact Or.inr ⟨d, hd, by omega, (O.sz hd).2⟩
end
