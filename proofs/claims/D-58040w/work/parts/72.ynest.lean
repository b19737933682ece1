/-! PURE LAW, the class's yards: the nests -/
set_option maxRecDepth 10000
section
variable {w : Nat → Nat × Nat} {K : KD} {h h0 : xk_H} {L : LD} {y : YD} {c : Nat}
/-- a new, empty list -/
theorem C_newList (G : Gd K h) (w : Nat → Nat × Nat) (o : Nat × Nat) (cr : 4 ≤ h.2.2.2) : ∃ h', mf_J2_init h.2.2.1 (xk_push h (6, [.int 0, .null, .int 0])) = some ((), h') ∧ Ex 4 h h' ∧ LA (wN w h o) K h' h.2.2.1 o [] 0 K.1 ∧ h'.2.2.1 = h.2.2.1 + 1 := by
  let n := h.2.2.1
  let h1 := xk_push h (6, [.int 0, .null, .int 0])
  have x1 : Ex 4 h h1 := (Fx.push G.fs _).le (by decide)
  have e1 : h1.1 n = (6, [.int 0, .null, .int 0]) := if_pos rfl
  let h2 := xk_set h1 n (6, [.int 0, .null, .int 0])
  have e2 : h2.1 n = (6, [.int 0, .null, .int 0]) := if_pos rfl
  have lt : ∀ a, a < h.2.2.1 → a = n → False := fun a q r => by subst r; exact Nat.lt_irrefl _ q
  refine ⟨xk_set h2 n (6, [.int 0, .ref K.1, .int 0]), ?_, (x1.set' e1 (by simp) (lt _ · rfl)).set' e2 (by simp) (lt _ · rfl), ⟨if_pos rfl, wN_n (Nat.le_refl _), Or.inl ⟨rfl, rfl⟩⟩, rfl⟩
  unfold mf_J2_init mf_J1_init mf_J0_init
  rw [cl_some]
  show xm_cl (xm_pV [6, 7] 0 (some n) _ h1 _) _ = _
  rw [pV_w (vs' := [.int 0, .null, .int 0]) e1 (by simp) rfl, cl_some]
  show xm_pV [6] 1 (some n) (va_rf (h.2.1 0)) h2 _ = _
  rw [G.2.1.1, pV_w (vs' := [.int 0, .ref K.1, .int 0]) e2 (by simp) rfl]
theorem Y_longest_L5 (G : Gd K h) (Y : YA w K h L y) (O : YOk y) {b : Nat} {N : Nat → Int} (hb : h.1 b = (100, mArr (yn y) fun k => zI (N k))) (hN : ∀ k, k < yn y → 0 ≤ N k ∧ N k ≤ 100) {r : Int} (r0 : 0 ≤ r) (r1 : r ≤ 60) :
    ∀ (m k f : Nat) (a : Int), 0 ≤ a → a ≤ 100 → k + m = yn y → m < f → mf_X1_longest_L5 (some (Ly L)) (some b) (zI r) f (zI a) (zI k) h = some (zI (zmx (fun k => if yf y 0 k ≤ r then N k else 0) k m a), h)
  | m, k, 0, a, _, _, _, hf => absurd hf (Nat.not_lt_zero _)
  | 0, k, f + 1, a, a0, a1, hk, hf => by
    have hn := O.n
    unfold mf_X1_longest_L5 zmx
    simp (disch := first | assumption | decide | omega | (simp only [aSz]; omega)) only [Y_rc Y, Y_at G Y, Y_crc Y, Y_g0 Y, Y_g1 Y, Y_g2 Y, Y_g4 Y, Y_gL Y, Y_gP Y, Y_prc Y, Y_psz Y, Y_pem G Y, Y_size Y, zI_lit, zI_add, zI_sub, zI_mul, zI_neg, b2_0z, cl_some, zI_le]
    rw [if_pos (by omega)]
  | m + 1, k, f + 1, a, a0, a1, hk, hf => by
    have hn := O.n
    have hk' : k < yn y := by omega
    have hs := O.sz hk'
    have hv := hN k hk'
    have ih := fun b c d => Y_longest_L5 G Y O hb hN r0 r1 m (k + 1) f b c d (by omega) (by omega)
    unfold mf_X1_longest_L5 zmx
    simp (disch := first | assumption | decide | omega | (simp only [aSz]; omega)) only [Y_rc Y, Y_at G Y, Y_crc Y, Y_g0 Y, Y_g1 Y, Y_g2 Y, Y_g4 Y, Y_gL Y, Y_gP Y, Y_prc Y, Y_psz Y, Y_pem G Y, Y_size Y, zI_lit, zI_add, zI_sub, zI_mul, zI_neg, b2_0z, cl_some, zI_le, zI_lt]
    rw [if_neg (by omega)]
    by_cases q : yf y 0 k ≤ r
    · rw [if_neg (by omega), if_pos q, lI_ok (x := zI (N k)) (by omega) (by omega) hb (by simp) (by rw [Int.toNat_natCast]; exact mArr_get _ hk'), C_max (by omega) (by omega) (by omega) (by omega), cl_some]
      refine (ih (max a (N k)) (by omega) (by omega)).trans ?_
      exact congrArg (fun z => some (zI (zmx _ (k + 1) m z), h)) (by
        by_cases z : a < N k
        · rw [if_pos z]; omega
        · rw [if_neg z]; omega)
    · rw [if_pos (by omega), if_neg q]
      refine (ih a a0 a1).trans ?_
      rw [if_neg (show ¬ a < 0 by omega)]
theorem Y_longest (G : Gd K h) (Y : YA w K h L y) (O : YOk y) {b : Nat} {N : Nat → Int} (hb : h.1 b = (100, mArr (yn y) fun k => zI (N k))) (hN : ∀ k, k < yn y → 0 ≤ N k ∧ N k ≤ 100) {r : Int} (r0 : 0 ≤ r) (r1 : r ≤ 60) :
    mf_X1_longest (some (Ly L)) (some b) (zI r) h = some (zI (zmx (fun k => if yf y 0 k ≤ r then N k else 0) 0 (yn y) 0), h) :=
  Y_longest_L5 G Y O hb hN r0 r1 (yn y) 0 xk_fu 0 (by omega) (by omega) (by omega) (fu_lt (by have := O.n; omega))
/-- what the lengths hold when the sizes below s are done, and those of size s of crates below k -/
def NL (y : YD) (s : Int) (k c : Nat) : Int := if yf y 0 c < s ∨ (yf y 0 c = s ∧ c < k) then ynl y c else 0
theorem NL_bd (O : YOk y) {s : Int} {k c : Nat} (hc : c < yn y) : 0 ≤ NL y s k c ∧ NL y s k c ≤ 100 := by
  have := ynl_pos O hc
  have := ynl_le O hc
  have := O.n
  unfold NL
  split <;> omega
theorem NL_next (O : YOk y) {s : Int} {k : Nat} (hk : k < yn y) (hs : yf y 0 k = s) (hl : yloose y k = true) : 1 + zmx (fun d => if yf y 0 d ≤ yf y 1 k then NL y s k d else 0) 0 (yn y) 0 = ynl y k := by
  rw [ynl_eq O hk, if_pos hl]
  refine congrArg (1 + ·) (zmx_congr _ _ _ fun d _ hd => ?_)
  have hd : d < yn y := by omega
  have hr := O.rm hk
  by_cases q : yf y 0 d ≤ yf y 1 k
  · rw [if_pos q]
    unfold NL
    rw [if_pos (Or.inl (by omega))]
    by_cases z : yloose y d = true
    · rw [if_pos]; unfold yedge; rw [hl, z, decide_eq_true q]; rfl
    · have z2 : yloose y d = false := by simpa using z
      have p := ynl_pos O hd
      rw [if_neg (by unfold yedge; rw [z2]; simp)]
      have : ¬ 0 < ynl y d := fun t => z (p.2.1 t)
      omega
  · rw [if_neg q, if_neg]
    unfold yedge
    simp [q]
theorem Y_lengths_L17 (G : Gd K h0) (Y : YA w K h0 L y) (O : YOk y) {b cr : Nat} (hb0 : h0.2.2.1 ≤ b) {s : Int} (s0 : 1 ≤ s) (s1 : s ≤ 60) (kx : xk_H → Option (Option Nat × xk_H)) : ∀ (m k f : Nat) (h : xk_H), Ex cr h0 h → h.1 b = (100, mArr (yn y) fun c => zI (NL y s k c)) → k + m = yn y → m < f →
    ∃ h', mf_X1_lengths_L17 kx (some (Ly L)) (some b) (zI s) f (zI k) h = kx h' ∧ Ex cr h0 h' ∧ h'.1 b = (100, mArr (yn y) fun c => zI (NL y (s + 1) 0 c))
  | m, k, 0, h, _, _, _, hf => absurd hf (Nat.not_lt_zero _)
  | 0, k, f + 1, h, x, hb, hk, hf => by
    have hn := O.n
    have G1 := G.fx x
    have Y1 := Y.ex G.fs x
    refine ⟨h, ?_, x, ?_⟩
    · unfold mf_X1_lengths_L17
      rw [Y_rc Y1, Y_size Y1, cl_some, if_pos (by rw [zI_le (by omega) (by omega) (by omega) (by omega)]; omega)]
    · rw [hb]
      refine congrArg (Prod.mk 100) (List.map_congr_left fun c mc => ?_)
      have hc := List.mem_range.1 mc
      refine congrArg (fun z => Value.int (zI z)) ?_
      unfold NL
      by_cases q : yf y 0 c ≤ s
      · rw [if_pos (by omega), if_pos (by omega)]
      · rw [if_neg (by omega), if_neg (by omega)]
  | m + 1, k, f + 1, h, x, hb, hk, hf => by
    have hn := O.n
    have hk' : k < yn y := by omega
    have hs := O.sz hk'
    have hr := O.rm hk'
    have G1 := G.fx x
    have Y1 := Y.ex G.fs x
    have ih := fun h1 (x1 : Ex cr h0 h1) b1 => Y_lengths_L17 G Y O hb0 s0 s1 kx m (k + 1) f h1 x1 b1 (by omega) (by omega)
    have k1 : zI k + 1 = zI (k + 1 : Nat) := by rw [show (1 : Int32) = zI 1 by decide, zI_add]; rfl
    have same : NL y s k k = NL y s (k + 1) k → (100, mArr (yn y) fun c => zI (NL y s k c)) = (100, mArr (yn y) fun c => zI (NL y s (k + 1) c)) := fun q => by
      refine congrArg (Prod.mk 100) (List.map_congr_left fun c mc => ?_)
      refine congrArg (fun z => Value.int (zI z)) ?_
      by_cases e : c = k
      · subst e; exact q
      · unfold NL
        by_cases z : yf y 0 c < s ∨ (yf y 0 c = s ∧ c < k)
        · rw [if_pos z, if_pos (by omega)]
        · rw [if_neg z, if_neg (by omega)]
    unfold mf_X1_lengths_L17
    rw [Y_rc Y1, Y_size Y1, cl_some, if_neg (by rw [zI_le (by omega) (by omega) (by omega) (by omega)]; omega), Y_rc Y1, Y_at G1 Y1 hk', cl_some, Y_g0 Y1 hk', k1]
    by_cases q : yf y 0 k = s
    · rw [if_pos (congrArg zI q), Y_rc Y1, Y_isLoose G1 Y1 O hk', cl_some]
      by_cases z : yloose y k = true
      · rw [z, if_neg (by decide), Y_rc Y1, Y_at G1 Y1 hk', cl_some, Y_g1 Y1 hk', Y_rc Y1, Y_longest G1 Y1 O hb (fun c hc => NL_bd O hc) (by omega) (by omega), cl_some, show (1 : Int32) = zI 1 by decide, zI_add, NL_next O hk' q z,
          sV_ok (by omega) (by omega) hb (by simp) (by rw [Int.toNat_natCast, mArr_len]; exact hk'), Int.toNat_natCast, mArr_set]
        refine ih _ (x.set' hb (by simp) fun l => by omega) ?_
        rw [set_1, if_pos rfl]
        refine congrArg (Prod.mk 100) (List.map_congr_left fun c mc => ?_)
        refine congrArg Value.int ?_
        show (if c = k then zI (ynl y k) else zI (NL y s k c)) = zI (NL y s (k + 1) c)
        by_cases e : c = k
        · subst e; rw [if_pos rfl]; unfold NL; rw [if_pos (by omega)]
        · rw [if_neg e]
          refine congrArg zI ?_
          unfold NL
          by_cases z : yf y 0 c < s ∨ (yf y 0 c = s ∧ c < k)
          · rw [if_pos z, if_pos (by omega)]
          · rw [if_neg z, if_neg (by omega)]
      · have z2 : yloose y k = false := by simpa using z
        rw [z2, if_pos (by decide)]
        refine ih h x (hb.trans (same ?_))
        have p := ynl_pos O hk'
        have : ¬ 0 < ynl y k := fun t => z (p.2.1 t)
        unfold NL
        rw [if_neg (by omega), if_pos (by omega)]; omega
    · rw [if_neg (by rw [zI_inj (by omega) (by omega) (by omega) (by omega)]; exact q)]
      refine ih h x (hb.trans (same ?_))
      unfold NL
      by_cases z : yf y 0 k < s
      · rw [if_pos (by omega), if_pos (by omega)]
      · rw [if_neg (by omega), if_neg (by omega)]
theorem Y_lengths_L9 (G : Gd K h0) (Y : YA w K h0 L y) (O : YOk y) {b cr : Nat} (hb0 : h0.2.2.1 ≤ b) : ∀ (m f : Nat) (s : Int) (h : xk_H), Ex cr h0 h → h.1 b = (100, mArr (yn y) fun c => zI (NL y s 0 c)) → s + m = 61 → 1 ≤ s → m < f →
    ∃ h', mf_X1_lengths_L9 (some (Ly L)) (some b) f (zI s) h = some (some b, h') ∧ Ex cr h0 h' ∧ h'.1 b = (100, mArr (yn y) fun c => zI (ynl y c))
  | m, 0, s, h, _, _, _, _, hf => absurd hf (Nat.not_lt_zero _)
  | 0, f + 1, s, h, x, hb, hs, _, hf => by
    refine ⟨h, ?_, x, ?_⟩
    · unfold mf_X1_lengths_L9
      rw [if_pos (show (60 : Int32) < zI s by rw [show (60 : Int32) = zI 60 by decide, zI_lt (by omega) (by omega) (by omega) (by omega)]; omega)]
    · rw [hb]
      refine congrArg (Prod.mk 100) (List.map_congr_left fun c mc => ?_)
      have hc := List.mem_range.1 mc
      have := (O.sz hc).2
      refine congrArg (fun z => Value.int (zI z)) ?_
      unfold NL
      rw [if_pos (Or.inl (by omega))]
  | m + 1, f + 1, s, h, x, hb, hs, h1, hf => by
    have hn := O.n
    obtain ⟨h2, e2, x2, b2⟩ := Y_lengths_L17 G Y O hb0 (s := s) h1 (by omega) (fun h18 => mf_X1_lengths_L9 (some (Ly L)) (some b) f (zI s + 1) h18) (yn y) 0 xk_fu h x hb (by omega) (fu_lt (by omega))
    obtain ⟨h3, e3, x3, b3⟩ := Y_lengths_L9 G Y O hb0 m f (s + 1) h2 x2 b2 (by omega) (by omega) (by omega)
    refine ⟨h3, ?_, x3, b3⟩
    unfold mf_X1_lengths_L9
    rw [if_neg (show ¬ (60 : Int32) < zI s by rw [show (60 : Int32) = zI 60 by decide, zI_lt (by omega) (by omega) (by omega) (by omega)]; omega)]
    refine Eq.trans e2 ?_
    show mf_X1_lengths_L9 _ _ f (zI s + 1) h2 = _
    rw [show (1 : Int32) = zI 1 by decide, zI_add]; exact e3
theorem Y_lengths (G : Gd K h) (Y : YA w K h L y) (O : YOk y) (cr : 13 ≤ h.2.2.2) : ∃ h', mf_X1_lengths (some (Ly L)) h = some (some h.2.2.1, h') ∧ Ex 13 h h' ∧ h'.1 h.2.2.1 = (100, mArr (yn y) fun c => zI (ynl y c)) ∧ h.2.2.1 < h'.2.2.1 := by
  have hn := O.n
  let h1 := xk_push h (100, List.replicate (yn y) (.int 0))
  have x1 : Ex 13 h h1 := (Fx.push G.fs _).le (by show (List.replicate (yn y) (Value.int 0)).length + 1 ≤ 13; rw [List.length_replicate]; omega)
  have b1 : h1.1 h.2.2.1 = (100, mArr (yn y) fun c => zI (NL y 1 0 c)) := by
    show (if h.2.2.1 = h.2.2.1 then _ else _) = _
    rw [if_pos rfl]
    refine congrArg (Prod.mk 100) (List.eq_replicate_iff.2 ⟨mArr_len _ _, fun v mv => ?_⟩).symm
    unfold mArr at mv
    obtain ⟨i, mi, rfl⟩ := List.mem_map.1 mv
    have := (O.sz (List.mem_range.1 mi)).1
    show Value.int (zI (NL y 1 0 i)) = _
    unfold NL
    rw [if_neg (by omega)]; rfl
  obtain ⟨h2, e2, x2, b2⟩ := Y_lengths_L9 G Y O (Nat.le_refl _) 60 xk_fu 1 h1 x1 b1 (by omega) (by omega) (fu_lt (by omega))
  refine ⟨h2, ?_, x2, b2, ?_⟩
  · unfold mf_X1_lengths
    rw [Y_rc Y, Y_size Y, cl_some, nwa_ok (by omega) (by omega) (by omega), Int.toNat_natCast]
    exact e2
  · exact x2.fs.lt b2 (by simp)
end
