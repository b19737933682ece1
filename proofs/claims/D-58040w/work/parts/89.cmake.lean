/-! PURE LAW, the class's operations: make -/
set_option maxRecDepth 10000
section
variable {w w' : Nat → Nat × Nat} {K : KD} {h h' : xk_H} {L : LD} {y : YD} {x : Nat} {S : SD}
theorem C_labelOf_L4 (kx : Int32 → xk_H → Option (Option Nat × xk_H)) (a0 : Int32) : ∀ (m f : Nat) (l : Int) (k : Nat), l ≤ 2147483647 → -2147483648 ≤ l → k + m = 4 → m < f → mf_X0_labelOf_L4 kx a0 f (zI k) (zI l) h = (match ylabF m l with | none => some (none, h) | some ks => kx (zI (k + ks.length : Nat)) h)
  | m, 0, _, _, _, _, _, hf => absurd hf (Nat.not_lt_zero _)
  | 0, f + 1, l, k, h1, h0, hk, hf => by
    unfold mf_X0_labelOf_L4 ylabF
    by_cases q : l ≤ 0
    · rw [if_pos (by rw [show (0 : Int32) = zI 0 by decide, zI_le (by omega) (by omega) (by omega) (by omega)]; exact q), if_pos q]; rfl
    · rw [if_neg (by rw [show (0 : Int32) = zI 0 by decide, zI_le (by omega) (by omega) (by omega) (by omega)]; exact q), if_neg q, if_pos (show zI k = (4 : Int32) by rw [show k = 4 by omega]; rfl), ite_self]
  | m + 1, f + 1, l, k, h1, h0, hk, hf => by
    have ih := C_labelOf_L4 kx a0 m f (l / 27) (k + 1) (by omega) (by omega) (by omega) (by omega)
    unfold mf_X0_labelOf_L4 ylabF
    by_cases q : l ≤ 0
    · rw [if_pos (by rw [show (0 : Int32) = zI 0 by decide, zI_le (by omega) (by omega) (by omega) (by omega)]; exact q), if_pos q]; rfl
    · rw [if_neg (by rw [show (0 : Int32) = zI 0 by decide, zI_le (by omega) (by omega) (by omega) (by omega)]; exact q), if_neg q, show (27 : Int32) = zI 27 by decide, zI_rem (by omega) h1]
      by_cases r : l % 27 = 0
      · rw [if_pos (by rw [r]; rfl), if_pos r]
      · rw [if_neg (by rw [show (0 : Int32) = zI 0 by decide, zI_inj (by omega) (by omega) (by omega) (by omega)]; exact r), if_neg r, if_neg (show ¬ zI k = (4 : Int32) by rw [show (4 : Int32) = zI 4 by decide, zI_inj (by omega) (by omega) (by omega) (by omega)]; omega),
          zI_div (by omega) h1 (by omega) (by omega), show (1 : Int32) = zI 1 by decide, zI_add, show (k : Int) + 1 = (k + 1 : Nat) by omega, ih]
        cases ylabF m (l / 27) with
        | none => rfl
        | some ks =>
          show kx _ h = kx _ h
          exact congrArg (fun z => kx (zI (z : Nat)) h) (by rw [List.length_cons]; omega)
theorem C_labelOf_L42 {b : Nat} (kx : xk_H → Option (Option Nat × xk_H)) {lb : List Int} (n4 : lb.length ≤ 4) {h0 : xk_H} (hb : h0.2.2.1 ≤ b) : ∀ (m k f g : Nat) (l : Int) (h : xk_H), 0 ≤ l → l ≤ 2147483647 → Ex 6 h0 h → h.1 b = (100, lab (lb.take k ++ List.replicate m 0)) → ylabF g l = some (lb.drop k) → k + m = lb.length → m < f →
    ∃ h', mf_X0_labelOf_L42 kx (zI lb.length) (some b) f (zI l) (zI k) h = kx h' ∧ Ex 6 h0 h' ∧ h'.1 b = (100, lab lb)
  | m, k, 0, _, _, _, _, _, _, _, _, _, hf => absurd hf (Nat.not_lt_zero _)
  | 0, k, f + 1, g, l, h, l0, l1, x, e, yl, hk, hf => by
    refine ⟨h, ?_, x, ?_⟩
    · unfold mf_X0_labelOf_L42
      rw [if_pos (by rw [zI_le (by omega) (by omega) (by omega) (by omega)]; omega)]
    · rw [e, List.replicate_zero, List.append_nil, List.take_of_length_le (by omega)]
  | m + 1, k, f + 1, g, l, h, l0, l1, x, e, yl, hk, hf => by
    have hk' : k < lb.length := by omega
    rw [List.drop_eq_getElem_cons hk'] at yl
    obtain ⟨g, rfl⟩ : ∃ g', g = g' + 1 := by
      cases g with
      | zero => unfold ylabF at yl; split at yl <;> cases yl
      | succ g => exact ⟨g, rfl⟩
    unfold ylabF at yl
    by_cases q : l ≤ 0
    · rw [if_pos q] at yl; cases yl
    rw [if_neg q] at yl
    by_cases r : l % 27 = 0
    · rw [if_pos r] at yl; cases yl
    rw [if_neg r] at yl
    cases hy : ylabF g (l / 27) with
    | none => rw [hy] at yl; cases yl
    | some ks =>
      rw [hy] at yl
      have yl := Option.some.inj yl
      have y1 : l % 27 - 1 = lb[k] := (List.cons.inj yl).1
      have y2 : ks = lb.drop (k + 1) := (List.cons.inj yl).2
      have tk : (lb.take k).length = k := by rw [List.length_take]; omega
      have st : (lab (lb.take k ++ List.replicate (m + 1) 0)).set k (.int (zI lb[k])) = lab (lb.take (k + 1) ++ List.replicate m 0) := by
        rw [List.replicate_succ]
        have := lab_set (lb.take k) 0 lb[k] (List.replicate m 0) (i := (k : Int)) (by rw [tk])
        rw [Int.toNat_natCast] at this
        rw [this, List.take_succ_eq_append_getElem hk', List.append_assoc]; rfl
      have x1 : Ex 6 h0 (xk_set h b (100, lab (lb.take (k + 1) ++ List.replicate m 0))) := x.set' e (by simp) fun z => by omega
      obtain ⟨h2, e2, x2, o2⟩ := C_labelOf_L42 kx n4 hb m (k + 1) f g (l / 27) _ (by omega) (by omega) x1 (if_pos rfl) (by rw [hy, y2]) (by omega) (by omega)
      refine ⟨h2, ?_, x2, o2⟩
      unfold mf_X0_labelOf_L42
      rw [if_neg (by rw [zI_le (by omega) (by omega) (by omega) (by omega)]; omega), show (27 : Int32) = zI 27 by decide, zI_rem (by omega) l1, show (1 : Int32) = zI 1 by decide, zI_sub, y1, sV_ok (by omega) (by omega) e (by simp) (by rw [Int.toNat_natCast, lab_len]; simp; omega), Int.toNat_natCast]
      simp only []
      rw [st, zI_div (by omega) l1 (by omega) (by omega), zI_add]
      exact e2
theorem C_labelOf (G : Gd K h) {l : Int} (l0 : -2147483648 ≤ l) (l1 : l ≤ 2147483647) (cr : 6 ≤ h.2.2.2) : ∃ h', Ex 6 h h' ∧ (match ylab l with
    | none => mf_X0_labelOf (zI l) h = some (none, h')
    | some lb => mf_X0_labelOf (zI l) h = some (some h.2.2.1, h') ∧ h'.1 h.2.2.1 = (100, lab lb) ∧ h.2.2.1 < h'.2.2.1) := by
  have x0 : Ex 6 h h := (Fx.rfl G.fs).le (by omega)
  let kk : Int32 → xk_H → Option (Option Nat × xk_H) := fun m1 h2 => xm_nwa 100 (.int 0) m1 h2 fun b3 h4 => mf_X0_labelOf_L42 (fun h6 => if m1 = 0 then (some (none, h6)) else (some ((some b3), h6))) m1 (some b3) xk_fu (zI l) (0 : Int32) h4
  have hd : mf_X0_labelOf (zI l) h = (match ylabF 4 l with | none => some (none, h) | some ks => kk (zI (0 + ks.length : Nat)) h) := C_labelOf_L4 (h := h) kk (zI l) 4 xk_fu l 0 l1 l0 (by omega) (fu_lt (by omega))
  rw [hd]
  unfold ylab
  by_cases q : l ≤ 0
  · rw [if_pos q]
    have : ylabF 4 l = some [] := by unfold ylabF; rw [if_pos q]
    rw [this]
    let h1 := xk_push h (100, [])
    have x1 : Ex 6 h h1 := (Fx.push G.fs _).le (by decide)
    refine ⟨h1, x1, ?_⟩
    obtain ⟨f, hf⟩ : ∃ f, xk_fu = f + 1 := ⟨999, rfl⟩
    show xm_nwa 100 (.int 0) (zI ((0 : Nat) : Int)) h (fun b3 h4 => mf_X0_labelOf_L42 _ (zI ((0 : Nat) : Int)) (some b3) xk_fu (zI l) (0 : Int32) h4) = _
    rw [nwa_ok (by omega) (by omega) (by simp; omega), hf]
    unfold mf_X0_labelOf_L42
    rw [if_pos (by decide), if_pos (by decide)]
    rfl
  · rw [if_neg q]
    cases hy : ylabF 4 l with
    | none => exact ⟨h, x0, rfl⟩
    | some lb =>
      have hy' : ylab l = some lb := by unfold ylab; rw [if_neg q]; exact hy
      obtain ⟨_, p1, p2, _⟩ := ylab_some hy'
      let h1 := xk_push h (100, List.replicate lb.length (.int 0))
      have x1 : Ex 6 h h1 := (Fx.push G.fs _).le (by show (List.replicate lb.length (Value.int 0)).length + 1 ≤ 6; rw [List.length_replicate]; omega)
      have e1 : h1.1 h.2.2.1 = (100, lab (lb.take 0 ++ List.replicate lb.length 0)) := by
        show (if h.2.2.1 = h.2.2.1 then _ else _) = _
        rw [if_pos rfl, List.take_zero, List.nil_append]
        unfold lab; rw [List.map_replicate]; rfl
      obtain ⟨h2, e2, x2, o2⟩ := C_labelOf_L42 (b := h.2.2.1) (fun h6 => if zI lb.length = 0 then (some (none, h6)) else (some ((some h.2.2.1), h6))) p2 (Nat.le_refl _) lb.length 0 xk_fu 4 l h1 (by omega) l1 x1 e1 (by rw [List.drop_zero]; exact hy) (by omega) (fu_lt (by omega))
      refine ⟨h2, x2, ?_, o2, x2.fs.lt o2 (by simp)⟩
      show xm_nwa 100 (.int 0) (zI ((0 + lb.length : Nat) : Int)) h (fun b3 h4 => mf_X0_labelOf_L42 (fun h6 => if zI ((0 + lb.length : Nat) : Int) = 0 then (some (none, h6)) else (some ((some b3), h6))) (zI ((0 + lb.length : Nat) : Int)) (some b3) xk_fu (zI l) (0 : Int32) h4) = _
      rw [Nat.zero_add, nwa_ok (by omega) (by omega) (by rw [Int.toNat_natCast]; omega), Int.toNat_natCast]
      refine e2.trans ?_
      rw [if_neg (by rw [show (0 : Int32) = zI 0 by decide, zI_inj (by omega) (by omega) (by omega) (by omega)]; omega)]
/-- a crate joins a yard -/
theorem Y_join (G : Gd K h) (Y : YA w K h L y) (O : YOk y) {c b p : Nat} {f : Nat → Int} {l : List Int} (C : CA w K h (Ly L + 2, yn y + 1) c b p f l []) {y' : YD} (hn : yn y' = yn y + 1) (hr : yr y' = yr y) (hf : ∀ k, k < yn y → (∀ i, i < 4 → yf y' i k = yf y i k) ∧ yl y' k = yl y k ∧ yp y' k = yp y k) (h1 : ∀ i, i < 4 → yf y' i (yn y) = f i) (h2 : yl y' (yn y) = l) (h3 : yp y' (yn y) = []) (cr : 47 ≤ h.2.2.2) :
    ∃ h' w' L', xm_gR [1] 0 (some (Ly L)) h some = some (some (Ll L)) ∧ mf_J2_add (some (Ll L)) (some c) h = some (true, h') ∧ Fx (Own w L) 47 h h' ∧ Wx h w w' ∧ Ly L' = Ly L ∧ YA w' K h' L' y' := by
  have hn12 := O.n
  obtain ⟨y1, y2, ⟨m, e, P⟩, y4⟩ := Y
  have E1 : El h ((ys y).map (Lc L)) := fun a ma => by
    obtain ⟨j, mj, rfl⟩ := List.mem_map.1 ma
    rw [(y4 j (List.mem_range.1 mj)).1]; simp
  obtain ⟨h1', m1, e1, a1, x1, A1, _⟩ := C_add (c := 47) G P E1 (x := c) (by rw [C.1]; simp) (by simp; omega) (by simp; omega) cr
  have W := wN_x w h (Ly L + 2, 0)
  have xl := x1.low
  obtain ⟨q1, q2⟩ := P.ne_tag G y1 (by decide) (by decide) (by decide)
  have st : ∀ {j : Nat} {c b p : Nat} {f : Nat → Int} {l : List Int} {js : List Nat}, CA w K h (Ly L + 2, j + 1) c b p f l js → CA (wN w h (Ly L + 2, 0)) K h1' (Ly L + 2, j + 1) c b p f l js := fun {j c b p f l js} C => C.both G.fs xl (fun a z => by
    rw [P.q G z]
    constructor
    · intro q; have := congrArg Prod.snd q; simp at this
    · simp) (fun a l z => (W a l).trans z) fun a l z => by rw [W a l]; exact z
  refine ⟨h1', wN w h (Ly L + 2, 0), (Ly L, Ll L, fun k => if k = yn y then c else Lc L k, fun k => if k = yn y then b else Lb L k, fun k => if k = yn y then p else Lp L k), gR_ok (x := some (Ll L)) y1 (by simp) rfl, a1, xl.mono (R := Own w L) (fun a z => by show (w a).1 = _; rw [P.q G z]) (Nat.le_refl _), W, rfl, ?_, (W _ (G.fs.lt y1 (by simp))).trans y2, ⟨m1, e1, ?_⟩, fun k hk => ?_⟩
  · rw [hr]; exact x1.get G.fs y1 (by simp) (Or.inr fun q => q.elim q1 q2)
  · have : (ys y').map (fun k => if k = yn y then c else Lc L k) = (ys y).map (Lc L) ++ [c] := by
      unfold ys
      rw [hn, List.range_succ, List.map_append, List.map_cons, List.map_nil, if_pos rfl]
      exact congrArg (· ++ [c]) (List.map_congr_left fun j mj => if_neg (by have := List.mem_range.1 mj; omega))
    show LA _ K h1' (Ll L) _ ((ys y').map (fun k => if k = yn y then c else Lc L k)) m1 e1
    rw [this]; exact A1
  · rw [hn] at hk
    show CA _ K h1' (Ly L + 2, k + 1) (if k = yn y then c else Lc L k) (if k = yn y then b else Lb L k) (if k = yn y then p else Lp L k) _ _ _
    by_cases q : k = yn y
    · subst q
      rw [if_pos rfl, if_pos rfl, if_pos rfl]
      exact (st C).cong h1 h2 h3
    · rw [if_neg q, if_neg q, if_neg q]
      exact (st (y4 k (by omega))).cong (hf k (by omega)).1 (hf k (by omega)).2.1 (hf k (by omega)).2.2
theorem C_make (G : Gd K h) (C : CS w K h x S) (O : SOk S) (cr : 18000 ≤ h.2.2.2) {a b c l : Int} (a1 : -2147483648 ≤ a) (a2 : a ≤ 2147483647) (b1 : -2147483648 ≤ b) (b2 : b ≤ 2147483647) (c1 : -2147483648 ≤ c) (c2 : c ≤ 2147483647) (l1 : -2147483648 ≤ l) (l2 : l ≤ 2147483647) :
    ∃ h' w', mf_X0_make (some x) (zI a) (zI b) (zI c) (zI l) h = some (zI (oMake S a b c l).1, h') ∧ CR w K h x 18000 (oMake S a b c l).2 h' w' := by
  have O1 : YOk S.1 := O.1
  have hn := O1.n
  obtain ⟨h1, x1, e1⟩ := C_labelOf G l1 l2 (by omega)
  have G1 := G.fx x1
  have k1 := x1.cr
  have W1 := wN_x w h (0, 0)
  have C1 : CS (wN w h (0, 0)) K h1 x S := C.both G.fs x1 (fun _ q => q.elim) W1
  have R1 : CR w K h x 6 S h1 (wN w h (0, 0)) := ⟨x1.mono (fun _ q => q.elim) (Nat.le_refl _), fun a l q => W1 a l, C1⟩
  have R0 : CR w K h x 18000 S h1 (wN w h (0, 0)) := R1.le (by omega)
  obtain ⟨r, hr, hy⟩ : ∃ r : Option Nat, mf_X0_labelOf (zI l) h = some (r, h1) ∧ (match ylab l with | none => r = none | some lb => r = some h.2.2.1 ∧ h1.1 h.2.2.1 = (100, lab lb) ∧ h.2.2.1 < h1.2.2.1) := by
    cases hq : ylab l with
    | none => rw [hq] at e1; exact ⟨none, e1, rfl⟩
    | some lb => rw [hq] at e1; exact ⟨_, e1.1, rfl, e1.2⟩
  unfold mf_X0_make oMake
  rw [hr, cl_some, show (1 : Int32) = zI 1 by decide, show (60 : Int32) = zI 60 by decide, C_in h1 a1 a2 (by omega) (by omega) (by omega) (by omega), cl_some]
  by_cases q1 : 1 ≤ a ∧ a ≤ 60
  case neg => rw [decide_eq_false q1, if_pos (by decide), if_neg q1]; exact ⟨h1, _, rfl, R0⟩
  rw [decide_eq_true q1, if_neg (by decide), if_pos q1, zI_sub, show (0 : Int32) = zI 0 by decide, C_in h1 b1 b2 (by omega) (by omega) (by omega) (by omega), cl_some]
  by_cases q2 : 0 ≤ b ∧ b ≤ a - 1
  case neg => rw [decide_eq_false q2, if_pos (by decide), if_neg q2]; exact ⟨h1, _, rfl, R0⟩
  rw [decide_eq_true q2, if_neg (by decide), if_pos q2, show (15 : Int32) = zI 15 by decide, C_in h1 c1 c2 (by omega) (by omega) (by omega) (by omega), cl_some]
  by_cases q3 : 0 ≤ c ∧ c ≤ 15
  case neg => rw [decide_eq_false q3, if_pos (by decide), if_neg q3]; exact ⟨h1, _, rfl, R0⟩
  rw [decide_eq_true q3, if_neg (by decide), if_pos q3]
  cases hq : ylab l with
  | none =>
    rw [hq] at hy
    rw [if_pos hy]; exact ⟨h1, _, rfl, R0⟩
  | some lb =>
    rw [hq] at hy
    obtain ⟨hy1, hy2, hy3⟩ := hy
    obtain ⟨_, p1, p2, p3, _⟩ := ylab_some hq
    obtain ⟨L1, _, rd1, Y1, _⟩ := C1.now G1.fs
    rw [if_neg (by rw [hy1]; simp), rd1, Y_rc Y1, Y_size Y1, cl_some]
    by_cases q4 : yn S.1 = 12
    · rw [if_pos (by rw [q4]; rfl)]
      simp only [if_pos q4]
      exact ⟨h1, _, rfl, R0⟩
    · rw [if_neg (show ¬ zI (yn S.1) = (12 : Int32) by rw [show (12 : Int32) = zI 12 by decide, zI_inj (by omega) (by omega) (by omega) (by omega)]; omega)]
      simp only [if_neg q4]
      obtain ⟨h2, w2, a2', R2⟩ := C_records G1 C1 O (by omega)
      have G2 := G1.fx R2.1
      have k2 := R2.1.cr
      obtain ⟨L2, _, rd2, Y2, RR⟩ := R2.2.2.now G2.fs
      have Y2 : YA w2 K h2 L2 S.1 := Y2
      -- the new crate
      let n := h2.2.2.1
      let o := (Ly L2 + 2, yn S.1 + 1)
      let h3 := xk_push h2 (3, [.int 0, .int 0, .int 0, .null, .int 0, .null])
      have x3 : Ex 7 h2 h3 := (Fx.push G2.fs _).le (by decide)
      have G3 := G2.fx x3
      have e3 : h3.1 n = (3, [.int 0, .int 0, .int 0, .null, .int 0, .null]) := if_pos rfl
      have k3 := x3.cr
      obtain ⟨h4, a4, x4, o4, A4, n4⟩ := C_crate G3 (wN w2 h2 o) o e3 (zI a) (zI b) (zI c) h.2.2.1 (by omega)
      have X4 : Ex 11 h2 h4 := x3.andthen x4 fun a l q => by subst q; exact absurd l (Nat.lt_irrefl _)
      have G4 := G2.fx X4
      have k4 := X4.cr
      have W4 : Wx h2 w2 (wN (wN w2 h2 o) h3 o) := fun a l => by
        rw [wN_x _ h3 o a (Nat.lt_succ_of_lt l), wN_x w2 h2 o a l]
      have Y4 : YA (wN (wN w2 h2 o) h3 o) K h4 L2 S.1 := (Y2.wx G2.fs W4).ex G2.fs X4
      -- the label is still there, and nobody's
      obtain ⟨lb2, wl2⟩ : h2.1 h.2.2.1 = (100, lab lb) ∧ (w2 h.2.2.1).1 = 0 := by
        have wl : wN w h (0, 0) h.2.2.1 = (0, 0) := wN_n (Nat.le_refl _)
        exact ⟨R2.1.get G1.fs hy2 (by simp) (Or.inr fun z => z.2 (by rw [wl])), by rw [R2.2.1 _ hy3 (Or.inr (by rw [wl])), wl]⟩
      have lb4 := X4.get G2.fs lb2 (by simp) (Or.inr id)
      have CC : CA (wN (wN w2 h2 o) h3 o) K h4 (Ly L2 + 2, yn S.1 + 1) n h.2.2.1 h3.2.2.1 (fun i => if i = 0 then a else if i = 1 then b else if i = 2 then c else -1) lb [] := by
        refine ⟨o4, ?_, ⟨lb4, ?_⟩, 0, K.1, A4⟩
        · rw [wN_x _ h3 o n (Nat.lt_succ_self _)]; exact wN_n (Nat.le_refl _)
        · rw [W4 _ (G2.fs.lt lb2 (by simp))]; exact wl2
      have fo : ∀ i, i < 4 → yf (yApp S.1 (yOne a b c lb)) i (yn S.1) = if i = 0 then a else if i = 1 then b else if i = 2 then c else -1 := fun i hi => by
        rw [app_f, if_neg (Nat.lt_irrefl _), Nat.sub_self]
        rcases (by omega : i = 0 ∨ i = 1 ∨ i = 2 ∨ i = 3) with rfl | rfl | rfl | rfl <;> rfl
      obtain ⟨h5, w5, L5, g5, a5, x5, W5, e5, Y5⟩ := Y_join G4 Y4 O1 CC (y' := yApp S.1 (yOne a b c lb)) rfl rfl (fun k hk => ⟨fun i _ => app_f1 hk, by rw [app_l, if_pos hk], by rw [app_p, if_pos hk]⟩) fo (by rw [app_l, if_neg (Nat.lt_irrefl _)]; rfl) (by rw [app_p, if_neg (Nat.lt_irrefl _)]; rfl) (by omega)
      have R5 := RR (h' := h5) (w' := w5) (L' := L5) (z := yApp S.1 (yOne a b c lb)) (c := 11 + 47) ((X4.mono (fun _ q => q.elim) (Nat.le_refl _)).andthen x5 fun a l q => by
        show (w2 a).1 = _
        rw [← W4 a l]; exact q) (fun a l _ => (W5 a (Nat.lt_of_lt_of_le l X4.2.2.1)).trans (W4 a l)) e5 Y5
      have R := (R1.trans R2).trans R5
      have G5 := G.fx R.1
      obtain ⟨L6, _, rd6, Y6, _⟩ := R5.2.2.now G5.fs
      refine ⟨h5, w5, ?_, R.le (by omega)⟩
      have Y2r : h2.1 (Ly L2) = (1, [.ref (Ll L2), .int (zI (yr S.1))]) := Y2.1
      rw [C1.rc, a2', cl_some, rd2, gR_ok (x := some (Ll L2)) Y2r (by simp) rfl, show zI 0 = (0 : Int32) from rfl, new_ok (show [Value.int 0, Value.int 0, Value.int 0, Value.null, Value.int 0, Value.null].length + 1 ≤ h2.2.2.2 by simp; omega), hy1]
      show xm_cl (mf_X3_init n (zI a) (zI b) (zI c) (some h.2.2.1) h3) _ = _
      obtain ⟨m5, e5', P5⟩ := Y4.2.2.1
      rw [a4, cl_some, rc_ok P5.1 (by simp), a5, cl_some, rd6, Y_rc Y6, Y_size Y6, cl_some, zI_sub]
      refine congrArg (fun z => some (zI z, h5)) ?_
      show ((yn S.1 + 1 : Nat) : Int) - 1 = _
      omega
end
