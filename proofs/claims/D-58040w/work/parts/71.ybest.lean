/-! PURE LAW, the class's yards: the best crate, what is seen -/
set_option maxRecDepth 10000
section
variable {w : Nat → Nat × Nat} {K : KD} {h h0 : xk_H} {L : LD} {y : YD} {c : Nat}
theorem Y_bestFor_L5 (O : YOk y) {c : Nat} (hc : c < yn y) : ∀ (m k f : Nat) (a : Int) (h : xk_H), Gd K h → YA w K h L y → 15 * m ≤ h.2.2.2 → (a = -4 ∨ ∃ d : Nat, d < yn y ∧ a = d) → k + m = yn y → m < f →
    ∃ h', mf_X1_bestFor_L5 (some (Ly L)) (zI c) f (zI a) (zI k) h = some (zI (ybf y c k m a), h') ∧ Ex (15 * m) h h'
  | m, k, 0, a, h, _, _, _, _, _, hf => absurd hf (Nat.not_lt_zero _)
  | 0, k, f + 1, a, h, G, Y, _, _, hk, hf => by
    have hn := O.n
    refine ⟨h, ?_, Fx.rfl G.fs⟩
    unfold mf_X1_bestFor_L5 ybf
    simp (disch := first | assumption | decide | omega | (simp only [aSz]; omega)) only [Y_rc Y, Y_at G Y, Y_crc Y, Y_g0 Y, Y_g1 Y, Y_g2 Y, Y_g4 Y, Y_gL Y, Y_gP Y, Y_prc Y, Y_psz Y, Y_pem G Y, Y_size Y, zI_lit, zI_add, zI_sub, zI_mul, zI_neg, b2_0z, cl_some, zI_le]
    rw [if_pos (by omega)]
  | m + 1, k, f + 1, a, h, G, Y, cr, ha, hk, hf => by
    have hn := O.n
    have hk' : k < yn y := by omega
    have hH := O.ho hc
    have hs := O.sz hc
    have ih := fun b h1 G1 Y1 c1 hb => Y_bestFor_L5 O hc m (k + 1) f b h1 G1 Y1 c1 hb (by omega) (by omega)
    have stay : ∀ (h1 : xk_H) (b : Int), Ex 15 h h1 → (b = -4 ∨ ∃ d : Nat, d < yn y ∧ b = d) → ybf y c k (m + 1) a = ybf y c (k + 1) m b → ∃ h', mf_X1_bestFor_L5 (some (Ly L)) (zI c) f (zI b) (zI (k + 1 : Nat)) h1 = some (zI (ybf y c k (m + 1) a), h') ∧ Ex (15 * (m + 1)) h h' := by
      intro h1 b x1 hb eb
      have := x1.cr
      obtain ⟨h2, e2, x2⟩ := ih b h1 (G.fx x1) (Y.ex G.fs x1) (by omega) hb
      exact ⟨h2, by rw [e2, eb], (x1.trans x2).le (by omega)⟩
    have xr : Ex 15 h h := (Fx.rfl G.fs).le (by decide)
    have no : ycan y c k = false → ybf y c k (m + 1) a = ybf y c (k + 1) m a := fun q => by
      show ybf y c (k + 1) m (if _ then _ else _) = _
      rw [if_neg (fun z => by rw [q] at z; simp at z)]
    unfold mf_X1_bestFor_L5
    simp (disch := first | assumption | decide | omega | (simp only [aSz]; omega)) only [Y_rc Y, Y_at G Y, Y_crc Y, Y_g0 Y, Y_g1 Y, Y_g2 Y, Y_g4 Y, Y_gL Y, Y_gP Y, Y_prc Y, Y_psz Y, Y_pem G Y, Y_size Y, zI_lit, zI_add, zI_sub, zI_mul, zI_neg, b2_0z, cl_some, zI_le, zI_inj, Y_isAround G Y O hc hk']
    rw [if_neg (by omega)]
    by_cases q1 : (k : Int) = c
    · rw [if_pos q1]
      unfold mf_X1_bestFor_J60
      rw [if_pos (show zI 0 = 0 from rfl), show (1 : Int32) = zI 1 by decide, zI_add, show (k : Int) + 1 = (k + 1 : Nat) by omega]
      exact stay h a xr ha (no (by unfold ycan; rw [decide_eq_false (not_not_intro (by omega : k = c))]; rfl))
    rw [if_neg q1]
    by_cases q2 : yar y c k = true
    · rw [q2, if_neg (by decide)]
      unfold mf_X1_bestFor_J60
      rw [if_pos (show zI 0 = 0 from rfl), show (1 : Int32) = zI 1 by decide, zI_add, show (k : Int) + 1 = (k + 1 : Nat) by omega]
      exact stay h a xr ha (no (by unfold ycan; rw [q2]; simp))
    have q2 : yar y c k = false := by simpa using q2
    rw [q2, if_pos rfl]
    by_cases q3 : yf y 3 c = (k : Int)
    · rw [if_pos q3]
      unfold mf_X1_bestFor_J60
      rw [if_pos (show zI 0 = 0 from rfl), show (1 : Int32) = zI 1 by decide, zI_add, show (k : Int) + 1 = (k + 1 : Nat) by omega]
      exact stay h a xr ha (no (by unfold ycan; rw [decide_eq_false (not_not_intro q3)]; simp))
    rw [if_neg q3]
    obtain ⟨h1, e1, x1⟩ := Y_left G Y O hk' (by omega)
    have G1 := G.fx x1
    have Y1 := Y.ex G.fs x1
    have hy := yS_bd O hk'
    have c1 := x1.cr
    rw [e1]
    simp only [cl_some, Y_rc Y1, Y_at G1 Y1 hc, Y_g0 Y1 hc]
    by_cases q4 : ylf y k < yf y 0 c
    · rw [if_pos (by rw [zI_lt (by omega) (by omega) (by omega) (by omega)]; exact q4)]
      unfold mf_X1_bestFor_J60
      rw [if_pos (show zI 0 = 0 from rfl), show (1 : Int32) = zI 1 by decide, zI_add, show (k : Int) + 1 = (k + 1 : Nat) by omega]
      exact stay h1 a (x1.le (by omega)) ha (no (by unfold ycan; rw [decide_eq_false (show ¬ yf y 0 c ≤ ylf y k by omega)]; simp))
    rw [if_neg (by rw [zI_lt (by omega) (by omega) (by omega) (by omega)]; exact q4)]
    have yes : ycan y c k = true := by
      unfold ycan
      rw [decide_eq_true (show k ≠ c by omega), q2, decide_eq_true (show yf y 3 c ≠ (k : Int) from q3), decide_eq_true (show yf y 0 c ≤ ylf y k by omega)]; rfl
    unfold mf_X1_bestFor_J60
    rw [if_neg (by decide), show (1 : Int32) = zI 1 by decide, zI_add, show (k : Int) + 1 = (k + 1 : Nat) by omega]
    rcases ha with rfl | ⟨d, hd, rfl⟩
    · rw [if_pos (by decide)]
      refine stay h1 k (x1.le (by omega)) (Or.inr ⟨k, hk', rfl⟩) ?_
      show ybf y c (k + 1) m (if _ then _ else _) = _
      rw [if_pos ⟨yes, Or.inl (by decide)⟩]
    · rw [if_neg (by rw [show (0 : Int32) = zI 0 by decide, zI_lt (by omega) (by omega) (by omega) (by omega)]; omega)]
      obtain ⟨h2, e2, x2⟩ := Y_left G1 Y1 O hk' (by omega)
      have G2 := G1.fx x2
      have Y2 := Y1.ex G1.fs x2
      have c2 := x2.cr
      obtain ⟨h3, e3, x3⟩ := Y_left G2 Y2 O hd (by omega)
      have hz := yS_bd O hd
      rw [e2]
      simp only [cl_some, Y_rc Y1, Y_rc Y2]
      rw [e3, cl_some]
      have x13 : Ex 15 h h3 := (x1.trans x2).trans x3
      by_cases q5 : ylf y d ≤ ylf y k
      · rw [if_pos (by rw [zI_le (by omega) (by omega) (by omega) (by omega)]; exact q5)]
        refine stay h3 d x13 (Or.inr ⟨d, hd, rfl⟩) ?_
        show ybf y c (k + 1) m (if _ then _ else _) = _
        rw [if_neg]
        rintro ⟨_, z | z⟩
        · omega
        · rw [Int.toNat_natCast] at z; omega
      · rw [if_neg (by rw [zI_le (by omega) (by omega) (by omega) (by omega)]; exact q5)]
        refine stay h3 k x13 (Or.inr ⟨k, hk', rfl⟩) ?_
        show ybf y c (k + 1) m (if _ then _ else _) = _
        rw [if_pos ⟨yes, Or.inr (by rw [Int.toNat_natCast]; omega)⟩]
theorem Y_bestFor (G : Gd K h) (Y : YA w K h L y) (O : YOk y) (hc : c < yn y) (cr : 180 ≤ h.2.2.2) : ∃ h', mf_X1_bestFor (some (Ly L)) (zI c) h = some (zI (ybf y c 0 (yn y) (-4)), h') ∧ Ex 180 h h' := by
  have hn := O.n
  obtain ⟨h1, e1, x1⟩ := Y_bestFor_L5 O hc (yn y) 0 xk_fu (-4) h G Y (by omega) (Or.inl rfl) (by omega) (fu_lt (by omega))
  exact ⟨h1, e1, x1.le (by omega)⟩
/-- at a lies what is seen: size, depth, signs -/
def SA (h : xk_H) (a : Nat) (s d g : Int) : Prop := h.1 a = (5, [.int (zI s), .int (zI d), .int (zI g)])
theorem Y_seen_new (G : Gd K h) {s d g : Int} (cr : 4 ≤ h.2.2.2) : ∃ h', mf_X5_init h.2.2.1 (zI s) (zI d) (zI g) (xk_push h (5, [.int 0, .int 0, .int 0])) = some ((), h') ∧ Ex 4 h h' ∧ SA h' h.2.2.1 s d g ∧ h.2.2.1 < h'.2.2.1 := by
  let n := h.2.2.1
  let h1 := xk_push h (5, [.int 0, .int 0, .int 0])
  have x1 : Ex 4 h h1 := (Fx.push G.fs _).le (by decide)
  have e1 : h1.1 n = (5, [.int 0, .int 0, .int 0]) := if_pos rfl
  let h2 := xk_set h1 n (5, [.int (zI s), .int 0, .int 0])
  have e2 : h2.1 n = (5, [.int (zI s), .int 0, .int 0]) := if_pos rfl
  let h3 := xk_set h2 n (5, [.int (zI s), .int (zI d), .int 0])
  have e3 : h3.1 n = (5, [.int (zI s), .int (zI d), .int 0]) := if_pos rfl
  have lt : ∀ a, a < h.2.2.1 → a = n → False := fun a q r => by subst r; exact Nat.lt_irrefl _ q
  refine ⟨xk_set h3 n (5, [.int (zI s), .int (zI d), .int (zI g)]), ?_, ((x1.set' e1 (by simp) (lt _ · rfl)).set' e2 (by simp) (lt _ · rfl)).set' e3 (by simp) (lt _ · rfl), if_pos rfl, Nat.lt_succ_self _⟩
  unfold mf_X5_init
  show xm_pV [5] 0 (some n) _ h1 _ = _
  rw [pV_w (vs' := [.int (zI s), .int 0, .int 0]) e1 (by simp) rfl]
  show xm_pV [5] 1 (some n) _ h2 _ = _
  rw [pV_w (vs' := [.int (zI s), .int (zI d), .int 0]) e2 (by simp) rfl]
  show xm_pV [5] 2 (some n) _ h3 _ = _
  rw [pV_w (vs' := [.int (zI s), .int (zI d), .int (zI g)]) e3 (by simp) rfl]
theorem Y_seen (G : Gd K h) (Y : YA w K h L y) (O : YOk y) (hc : c < yn y) (cr : 4 ≤ h.2.2.2) : ∃ h', mf_X1_seen (some (Ly L)) (zI c) h = some (some h.2.2.1, h') ∧ Ex 4 h h' ∧ SA h' h.2.2.1 (yf y 0 c) (ch y c).length (ysig y c) ∧ h.2.2.1 < h'.2.2.1 := by
  obtain ⟨h', e', x', s', n'⟩ := Y_seen_new G (s := yf y 0 c) (d := (ch y c).length) (g := ysig y c) cr
  refine ⟨h', ?_, x', s', n'⟩
  have x1 : Ex 4 h (xk_push h (5, [.int 0, .int 0, .int 0])) := (Fx.push G.fs _).le (by decide)
  have G1 := G.fx x1
  have Y1 := Y.ex G.fs x1
  have sg := fun {p : Nat} hp => Y_sign G Y O (p := p) hc hp
  have s0 : mf_X1_sign (some (Ly L)) (zI c) (zI 0) h = some (zI (ysg y c 0), h) := sg (p := 0) (by omega)
  have s1 : mf_X1_sign (some (Ly L)) (zI c) (zI 1) h = some (zI (ysg y c 1), h) := sg (p := 1) (by omega)
  have s2 : mf_X1_sign (some (Ly L)) (zI c) (zI 2) h = some (zI (ysg y c 2), h) := sg (p := 2) (by omega)
  have s3 : mf_X1_sign (some (Ly L)) (zI c) (zI 3) h = some (zI (ysg y c 3), h) := sg (p := 3) (by omega)
  obtain ⟨f, hf⟩ : ∃ f, xk_fu = f + 5 := ⟨995, rfl⟩
  unfold mf_X1_seen
  rw [hf]
  unfold mf_X1_seen_L4
  rw [if_neg (by decide), Y_rc Y, show (3 : Int32) = zI 3 by decide, s3, cl_some]
  unfold mf_X1_seen_L4
  rw [show (zI 3 + (-1 : Int32)) = zI 2 by decide, if_neg (by decide), Y_rc Y, s2, cl_some]
  unfold mf_X1_seen_L4
  rw [show (zI 2 + (-1 : Int32)) = zI 1 by decide, if_neg (by decide), Y_rc Y, s1, cl_some]
  unfold mf_X1_seen_L4
  rw [show (zI 1 + (-1 : Int32)) = zI 0 by decide, if_neg (by decide), Y_rc Y, s0, cl_some]
  unfold mf_X1_seen_L4
  rw [show (zI 0 + (-1 : Int32)) = zI (-1) by decide, if_pos (by decide), new_ok (show [Value.int 0, Value.int 0, Value.int 0].length + 1 ≤ h.2.2.2 from cr), Y_rc Y1, Y_at G1 Y1 hc, cl_some, Y_g0 Y1 hc, Y_rc Y1, Y_depth G1 Y1 O hc, cl_some]
  have : (28 : Int32) * ((28 : Int32) * ((28 : Int32) * ((28 : Int32) * 0 + zI (ysg y c 3)) + zI (ysg y c 2)) + zI (ysg y c 1)) + zI (ysg y c 0) = zI (ysig y c) := by
    simp only [zI_lit, zI_add, zI_sub, zI_mul, zI_neg, b2_0z, cl_some]
    refine congrArg zI ?_
    unfold ysig
    show 28 * (28 * (28 * (28 * 0 + _) + _) + _) + _ = _
    omega
  rw [this, e', cl_some]
theorem Seen_sign_L7 {p : Nat} (hp : p < 4) : ∀ (m k f : Nat) (v : Int), 0 ≤ v → v ≤ 2147483647 → k + m = p → m < f → mf_X5_sign_L7 (zI p) f (zI v) (zI k) h = some (zI (v / 28 ^ m % 28), h)
  | m, k, 0, v, _, _, _, hf => absurd hf (Nat.not_lt_zero _)
  | 0, k, f + 1, v, v0, v1, hk, hf => by
    unfold mf_X5_sign_L7
    rw [if_pos (by rw [zI_le (by omega) (by omega) (by omega) (by omega)]; omega), show (28 : Int32) = zI 28 by decide, zI_div v0 v1 (by omega) (by omega), zI_mul, zI_sub]
    refine congrArg (fun z => some (zI z, h)) ?_
    rw [show (28 : Int) ^ 0 = 1 from rfl, Int.ediv_one]; omega
  | m + 1, k, f + 1, v, v0, v1, hk, hf => by
    have ih := Seen_sign_L7 hp m (k + 1) f (v / 28) (by omega) (by omega) (by omega) (by omega)
    unfold mf_X5_sign_L7
    rw [if_neg (by rw [zI_le (by omega) (by omega) (by omega) (by omega)]; omega), show (28 : Int32) = zI 28 by decide, zI_div v0 v1 (by omega) (by omega), show (1 : Int32) = zI 1 by decide, zI_add, show (k : Int) + 1 = (k + 1 : Nat) by omega, ih]
    refine congrArg (fun z => some (zI (z % 28), h)) ?_
    rw [Int.ediv_ediv_of_nonneg (by omega), Int.pow_succ, Int.mul_comm]
theorem Seen_sign (O : YOk y) (hc : c < yn y) {a : Nat} {s d : Int} (S : SA h a s d (ysig y c)) {p : Nat} (hp : p < 4) : mf_X5_sign (some a) (zI p) h = some (zI (ysg y c p), h) := by
  have b0 := ysg_bd O hc 0
  have b1 := ysg_bd O hc 1
  have b2 := ysg_bd O hc 2
  have b3 := ysg_bd O hc 3
  have hb := ysig_bd O hc
  unfold mf_X5_sign
  rw [gI_ok S (by simp) rfl, show (0 : Int32) = zI ((0 : Nat) : Int) from rfl, Seen_sign_L7 hp p 0 xk_fu (ysig y c) hb.1 (by omega) (by omega) (fu_lt (by omega))]
  refine congrArg (fun z => some (zI z, h)) ?_
  unfold ysig
  rcases (by omega : p = 0 ∨ p = 1 ∨ p = 2 ∨ p = 3) with rfl | rfl | rfl | rfl
  · rw [show (28 : Int) ^ 0 = 1 from rfl]; omega
  · rw [show (28 : Int) ^ 1 = 28 from rfl]; omega
  · rw [show (28 : Int) ^ 2 = 784 from rfl]; omega
  · rw [show (28 : Int) ^ 3 = 21952 from rfl]; omega
end
