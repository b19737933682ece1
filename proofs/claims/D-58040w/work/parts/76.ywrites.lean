/-! PURE LAW, the class's yards: a crate as text -/
set_option maxRecDepth 10000
/-- a text under way: k the credit gone for iterators -/
def TS (h0 : xk_H) (a B : Nat) (h : xk_H) (cs : List Int) (k : Nat) : Prop := ∃ v cap, Ex (B + 2 * cap + k) h0 h ∧ SB h a v cs cap ∧ h0.2.2.1 ≤ v ∧ cap ≤ 402
/-- what stays while a text is written -/
def WW (a : Nat) (h h' : xk_H) : Prop := h.2.2.1 ≤ h'.2.2.1 ∧ ∀ b, b < h.2.2.1 → b ≠ a → (h.1 b).1 ≠ 101 → h'.1 b = h.1 b
section
variable {h h' h0 h1 h2 : xk_H} {a B k j v cap : Nat} {cs : List Int}
theorem WW.rfl : WW a h h := ⟨Nat.le_refl _, fun _ _ _ _ => _root_.rfl⟩
theorem WW.trans (x : WW a h h1) (z : WW a h1 h2) : WW a h h2 :=
  ⟨Nat.le_trans x.1 z.1, fun b l n t => by
    have e := x.2 b l n t
    exact (z.2 b (Nat.lt_of_lt_of_le l x.1) n (by rw [e]; exact t)).trans e⟩
theorem WW.of {c : Nat} (S : SB h a v cs cap) (x : Fx (fun b => b = a ∨ b = v) c h h') : WW a h h' :=
  ⟨x.2.2.1, fun b l n t => x.1 b l (Or.inr fun q => by
    rcases q with q | q
    · exact n q
    · subst q
      obtain ⟨mb, t', s1, s2, _⟩ := S
      rw [s2] at t; exact t _root_.rfl)⟩
theorem TS.le (T : TS h0 a B h cs k) (l : k ≤ j) : TS h0 a B h cs j := by
  obtain ⟨v, cap, x, s, n, c⟩ := T
  exact ⟨v, cap, x.le (by omega), s, n, c⟩
theorem TS.fs (T : TS h0 a B h cs k) : Fs h := by
  obtain ⟨v, cap, x, s, n, c⟩ := T
  exact x.fs
theorem TS.ex (T : TS h0 a B h cs k) : ∃ c, Ex c h0 h := by
  obtain ⟨v, cap, x, s, n, c⟩ := T
  exact ⟨_, x⟩
theorem TS.rc (T : TS h0 a B h cs k) {γ : Type} {κ : Option γ} : xm_rc [8] (some a) h κ = κ := by
  obtain ⟨v, cap, x, s, n, c⟩ := T
  exact s.rc
theorem TS.app (T : TS h0 a B h cs k) (ha : h0.2.2.1 ≤ a) (hc : B + 2000 ≤ h0.2.2.2) (hk : k ≤ 1000) (l : cs.length + 1 ≤ 200) {x : Int} (x0 : 0 ≤ x) (x1 : x ≤ 127) : ∃ h', mf_J6_append_2 (some a) (zI x) h = some (some a, h') ∧ TS h0 a B h' (cs ++ [x]) k ∧ WW a h h' := by
  obtain ⟨v, cap, x, s, n, c⟩ := T
  have := x.cr
  obtain ⟨h', v', cap', e, X, s', n1, n2, n3⟩ := C_append x.fs s (M := 200) l (by omega) (by omega) (by omega) x0 x1
  refine ⟨h', e, ⟨v', cap', (x.andthen X fun b l q => by rcases q with q | q <;> (subst q; omega)).le (by omega), s', ?_, n2⟩, WW.of s X⟩
  have := x.2.2.1
  rcases n3 with q | q <;> omega
theorem TS.appI {K : KD} (G : Gd K h0) (T : TS h0 a B h cs k) (ha : h0.2.2.1 ≤ a) (hc : B + 2000 ≤ h0.2.2.2) (hk : k ≤ 1000) (l : cs.length + 2 ≤ 200) {x : Int} (x0 : 0 ≤ x) (x1 : x ≤ 99) : ∃ h', mf_J6_append_3 (some a) (zI x) h = some (some a, h') ∧ TS h0 a B h' (cs ++ ydg x) k ∧ WW a h h' := by
  obtain ⟨v, cap, x, s, n, c⟩ := T
  have := x.cr
  obtain ⟨h', v', cap', e, X, s', n1, n2, n3⟩ := C_appendI (G.fx x) s (M := 200) l (by omega) (by omega) (by omega) x0 x1
  refine ⟨h', e, ⟨v', cap', (x.andthen X fun b l q => by rcases q with q | q <;> (subst q; omega)).le (by omega), s', ?_, n2⟩, WW.of s X⟩
  have := x.2.2.1
  rcases n3 with q | q <;> omega
end
section
variable {w : Nat → Nat × Nat} {K : KD} {h h0 : xk_H} {L : LD} {y : YD} {c a B : Nat}
theorem Y_writes_L20 (G : Gd K h0) (Y : YA w K h0 L y) (O : YOk y) {c : Nat} (hc : c < yn y) (ha : h0.2.2.1 ≤ a) (hB : B + 2000 ≤ h0.2.2.2) (rc : Option Nat → Int32 → Option Nat → xk_H → Option (Unit × xk_H)) (kx : xk_H → Option (Unit × xk_H)) (a3 : Option Nat) {kk : Nat} (hk : kk ≤ 1000) :
    ∀ (m k f : Nat) (h : xk_H) (cs : List Int), TS h0 a B h cs kk → k + m = (yl y c).length → cs.length + m ≤ 200 → m < f → ∃ h', mf_X1_writes_L20 rc kx (some (Ly L)) (some a) a3 (some (Lb L c)) (zI (yl y c).length) f (zI k) h = kx h' ∧ TS h0 a B h' (cs ++ ((yl y c).drop k).map (65 + ·)) kk ∧ WW a h h'
  | m, k, 0, _, _, _, _, _, hf => absurd hf (Nat.not_lt_zero _)
  | 0, k, f + 1, h, cs, T, hm, hl, hf => by
    have hlb := O.ll hc
    refine ⟨h, ?_, ?_, WW.rfl⟩
    · unfold mf_X1_writes_L20
      rw [if_pos (by rw [zI_le (by omega) (by omega) (by omega) (by omega)]; omega)]
    · rw [List.drop_eq_nil_of_le (by omega), List.map_nil, List.append_nil]; exact T
  | m + 1, k, f + 1, h, cs, T, hm, hl, hf => by
    have hlb := O.ll hc
    have hk' : k < (yl y c).length := by omega
    obtain ⟨cx, x⟩ := T.ex
    have Y1 := Y.ex G.fs x
    have gx : (yl y c)[k]? = some (yl y c)[k] := List.getElem?_eq_getElem hk'
    have hx := O.lx hc _ (List.getElem_mem hk')
    obtain ⟨h1, e1, T1, W1⟩ := T.app ha hB hk (by omega) (x := 65 + (yl y c)[k]) (by omega) (by omega)
    obtain ⟨h2, e2, T2, W2⟩ := Y_writes_L20 G Y O hc ha hB rc kx a3 hk m (k + 1) f h1 _ T1 (by omega) (by rw [List.length_append, List.length_singleton]; omega) (by omega)
    refine ⟨h2, ?_, ?_, W1.trans W2⟩
    · unfold mf_X1_writes_L20
      rw [if_neg (by rw [zI_le (by omega) (by omega) (by omega) (by omega)]; omega), Y_bget Y1 hc gx (by omega), T.rc, show (65 : Int32) = zI 65 by decide, zI_add, (byte_ok (x := 65 + (yl y c)[k]) (by omega) (by omega)).2.2.2.2, e1, cl_some, show (1 : Int32) = zI 1 by decide, zI_add]
      exact e2
    · rw [List.drop_eq_getElem_cons hk', List.map_cons]
      rw [List.append_assoc] at T2; exact T2
/-- the text of a pile's rest -/
abbrev ypt (y : YD) (c i : Nat) : List Int := ((yp y c).drop i).flatMap (ytx y)
theorem Y_writes_L115 (G : Gd K h0) (Y : YA w K h0 L y) (O : YOk y) {c : Nat} (hc : c < yn y) (ha : h0.2.2.1 ≤ a) {rc : Option Nat → Int32 → Option Nat → xk_H → Option (Unit × xk_H)} (kx : xk_H → Option (Unit × xk_H)) {it : Nat} {m : Int32} {e : Nat} (P : LA w K h0 (Lp L c) (Ly L + 2, c + 1) ((yp y c).map (iad K)) m e) (hi : h0.2.2.1 ≤ it)
    (ih : ∀ j ∈ yp y c, ∀ (h : xk_H) (cs : List Int) (kk : Nat), TS h0 a B h cs kk → cs.length + (ytx y j).length ≤ 190 → kk + 5 * (ytx y j).length ≤ 1000 → ∃ h', rc (some (Ly L)) (zI j) (some a) h = some ((), h') ∧ TS h0 a B h' (cs ++ ytx y j) (kk + 5 * (ytx y j).length) ∧ WW a h h') :
    ∀ (n i f : Nat) (h : xk_H) (cs : List Int) (kk : Nat), TS h0 a B h cs kk → IT h it i m (Lp L c) → i + n = (yp y c).length → cs.length + (ypt y c i).length ≤ 190 → kk + 5 * (ypt y c i).length ≤ 1000 → n < f → ∀ g : xk_H, WW a g h → g.2.2.1 ≤ it →
    ∃ h', mf_X1_writes_L115 rc kx (some (Ly L)) (some a) (some it) f h = kx h' ∧ TS h0 a B h' (cs ++ ypt y c i) (kk + 5 * (ypt y c i).length) ∧ WW a g h'
  | n, i, 0, _, _, _, _, _, _, _, _, hf, _, _, _ => absurd hf (Nat.not_lt_zero _)
  | 0, i, f + 1, h, cs, kk, T, I, hn, hl, hk, hf, g, Wg, gi => by
    obtain ⟨cx, x⟩ := T.ex
    have G1 := G.fx x
    have P1 := P.ex G.fs x
    obtain ⟨r, I'⟩ := I
    have e0 : ypt y c i = [] := by unfold ypt; rw [List.drop_eq_nil_of_le (by omega)]; rfl
    refine ⟨h, ?_, ?_, Wg⟩
    · unfold mf_X1_writes_L115
      rw [rc_ok I' (by simp), C_hasNext G1 P1 ⟨r, I'⟩ (by rw [List.length_map]; omega), cl_some, decide_eq_true (by rw [List.length_map]; omega), if_pos (by decide)]
    · rw [e0, List.append_nil]; exact T
  | n + 1, i, f + 1, h, cs, kk, T, I, hn, hl, hk, hf, g, Wg, gi => by
    obtain ⟨cx, x⟩ := T.ex
    have G1 := G.fx x
    have P1 := P.ex G.fs x
    have hi' : i < (yp y c).length := by omega
    have mj : (yp y c)[i] ∈ yp y c := List.getElem_mem hi'
    have hj := O.plt hc mj
    have hn12 := O.n
    have l128 : (yp y c)[i] < 128 := by omega
    have e0 : ypt y c i = ytx y (yp y c)[i] ++ ypt y c (i + 1) := by unfold ypt; rw [List.drop_eq_getElem_cons hi', List.flatMap_cons]
    rw [e0, List.length_append] at hl hk
    obtain ⟨h1, e1, x1, I1, P2⟩ := C_next G1 P1 I (x := iad K (yp y c)[i]) (by rw [List.getElem?_map, List.getElem?_eq_getElem hi']; rfl)
    obtain ⟨r, I'⟩ := I
    have T1 : TS h0 a B h1 cs kk := by
      obtain ⟨v, cap, X, s, q, c'⟩ := T
      refine ⟨v, cap, (X.andthen x1 fun b l z => by subst z; omega).le (by omega), s.fx X.fs x1 ?_ ?_, q, c'⟩
      · obtain ⟨mb, t, s1, s2, _⟩ := s
        rintro rfl; rw [I'] at s1; simp at s1
      · obtain ⟨mb, t, s1, s2, _⟩ := s
        rintro rfl; rw [I'] at s2; simp at s2
    obtain ⟨cx1, X1⟩ := T1.ex
    have G2 := G.fx X1
    have Y2 := Y.ex G.fs X1
    obtain ⟨h2, e2, T2, W2⟩ := ih _ mj h1 cs kk T1 (by omega) (by omega)
    have I2 : IT h2 it (i + 1) m (Lp L c) := by
      obtain ⟨r1, I1'⟩ := I1
      refine ⟨r1, ?_⟩
      rw [W2.2 it (X1.fs.lt I1' (by simp)) (by
        rintro rfl
        obtain ⟨v, cap, X, s, q, c'⟩ := T1
        obtain ⟨mb, t, s1, s2, _⟩ := s
        rw [I1'] at s1; simp at s1) (by rw [I1']; simp)]
      exact I1'
    have Wg1 : WW a g h1 := ⟨Nat.le_trans Wg.1 x1.2.2.1, fun b l n t => (x1.1 b (Nat.lt_of_lt_of_le l Wg.1) (Or.inr fun q => by subst q; omega)).trans (Wg.2 b l n t)⟩
    obtain ⟨h3, e3, T3, W3⟩ := Y_writes_L115 G Y O hc ha kx P hi ih n (i + 1) f h2 _ _ T2 I2 (by omega) (by rw [List.length_append]; omega) (by omega) (by omega) g (Wg1.trans W2) gi
    refine ⟨h3, ?_, ?_, W3⟩
    · unfold mf_X1_writes_L115
      rw [rc_ok I' (by simp), C_hasNext G1 P1 ⟨r, I'⟩ (by rw [List.length_map]; omega), cl_some, decide_eq_false (by rw [List.length_map]; omega), if_neg (by decide), rc_ok I' (by simp), e1, cl_some, cast_ok (G2.ad l128) (by simp), rc_ok (G2.ad l128) (by simp), C_intValue G2 l128, cl_some,
        Y_rc Y2, e2, cl_some, e3]
    · rw [e0, ← List.append_assoc, List.length_append]
      exact T3.le (by omega)
theorem Y_writes (G : Gd K h0) (Y : YA w K h0 L y) (O : YOk y) (ha : h0.2.2.1 ≤ a) (hB : B + 2000 ≤ h0.2.2.2) : ∀ (f c : Nat) (h : xk_H) (cs : List Int) (kk : Nat), c < yn y → 12 ≤ (ch y c).length + f → TS h0 a B h cs kk → cs.length + (ytx y c).length ≤ 190 → kk + 5 * (ytx y c).length ≤ 1000 →
    ∃ h', mf_X1_writes f (some (Ly L)) (zI c) (some a) h = some ((), h') ∧ TS h0 a B h' (cs ++ ytx y c) (kk + 5 * (ytx y c).length) ∧ WW a h h'
  | 0, c, _, _, _, hc, hf, _, _, _ => by have := ch_len11 O hc; omega
  | f + 1, c, h, cs, kk, hc, hf, T, hl, hk => by
    have hlb := O.ll hc
    have hsz := O.sz hc
    have hrm := O.rm hc
    have hgp := O.gp hc
    have hhd := yhd_len O hc
    have hpl := ypl_len O hc
    have tx := ytx_eq O hc
    have hdl : (yhd y c).length ≤ (ytx y c).length := by
      rw [tx]; split
      · exact Nat.le_refl _
      · rw [List.length_append]; omega
    have hdx : (yhd y c).length = (yl y c).length + (1 + (ydg (yf y 0 c)).length) + (1 + (ydg (yf y 1 c)).length) + (1 + (ydg (yf y 2 c)).length) := by
      unfold yhd; simp only [List.length_append, List.length_cons, List.length_map]; omega
    have dl : ∀ v : Int, 1 ≤ (ydg v).length ∧ (ydg v).length ≤ 2 := fun v => by rw [ydg_len]; split <;> omega
    have d0 := dl (yf y 0 c)
    have d1 := dl (yf y 1 c)
    have d2 := dl (yf y 2 c)
    have hk' : kk ≤ 1000 := by omega
    have ex := fun {g : xk_H} {cs : List Int} {k : Nat} (T : TS h0 a B g cs k) => T.ex
    have YT := fun {g : xk_H} {cs : List Int} {k : Nat} (T : TS h0 a B g cs k) => Y.ex G.fs T.ex.choose_spec
    have GT := fun {g : xk_H} {cs : List Int} {k : Nat} (T : TS h0 a B g cs k) => G.fx T.ex.choose_spec
    unfold mf_X1_writes
    rw [Y_rc (YT T), Y_at (GT T) (YT T) hc, cl_some, Y_gL (YT T) hc, Y_blen (YT T) hc]
    -- what comes after the letters
    obtain ⟨h1, e1, T1, W1⟩ := Y_writes_L20 G Y O hc ha hB (mf_X1_writes f) (fun h8 => xm_rc [8] (some a) h8 <| xm_cl (mf_J6_append_2 (some a) (115 : Int32) h8) fun r9 h10 => xm_gI [3] 0 (some (Lc L c)) h10 fun x11 => xm_rc [8] r9 h10 <| xm_cl (mf_J6_append_3 r9 x11 h10) fun r12 h13 => xm_rc [8] r12 h13 <| xm_cl (mf_J6_append_2 r12 (114 : Int32) h13) fun r14 h15 => xm_gI [3] 1 (some (Lc L c)) h15 fun x16 => xm_rc [8] r14 h15 <| xm_cl (mf_J6_append_3 r14 x16 h15) fun r17 h18 => xm_rc [8] r17 h18 <| xm_cl (mf_J6_append_2 r17 (103 : Int32) h18) fun r19 h20 => xm_gI [3] 2 (some (Lc L c)) h20 fun x21 => xm_rc [8] r19 h20 <| xm_cl (mf_J6_append_3 r19 x21 h20) fun r22 h23 => xm_gR [3] 5 (some (Lc L c)) h23 fun x24 => xm_rc [6] x24 h23 <| xm_cl (mf_J2_isEmpty x24 h23) fun r25 h26 => if xk_b2 r25 = 0 then (xm_rc [8] (some a) h26 <| xm_cl (mf_J6_append_2 (some a) (91 : Int32) h26) fun r27 h28 => xm_gR [3] 5 (some (Lc L c)) h28 fun x29 => xm_rc [6] x29 h28 <| xm_cl (mf_J2_iterator x29 h28) fun r30 h31 => mf_X1_writes_L115 (mf_X1_writes f) (fun h40 => xm_rc [8] (some a) h40 <| xm_cl (mf_J6_append_2 (some a) (93 : Int32) h40) fun r41 h42 => some ((), h42)) (some (Ly L)) (some a) r30 xk_fu h31) else (some ((), h26))) (some (Lc L c)) hk' (yl y c).length 0 xk_fu h cs T (by omega) (by omega) (fu_lt (by omega))
    rw [List.drop_zero] at T1
    rw [show zI ((0 : Nat) : Int) = (0 : Int32) from rfl] at e1
    rw [e1]
    have l1 : (cs ++ (yl y c).map (65 + ·)).length = cs.length + (yl y c).length := by simp
    obtain ⟨h2, e2, T2, W2⟩ := T1.app ha hB hk' (by omega) (x := 115) (by omega) (by omega)
    obtain ⟨h3, e3, T3, W3⟩ := T2.appI G ha hB hk' (by simp only [List.length_append, List.length_singleton, List.length_map]; omega) (x := yf y 0 c) (by omega) (by omega)
    obtain ⟨h4, e4, T4, W4⟩ := T3.app ha hB hk' (by simp only [List.length_append, List.length_singleton, List.length_map]; omega) (x := 114) (by omega) (by omega)
    obtain ⟨h5, e5, T5, W5⟩ := T4.appI G ha hB hk' (by simp only [List.length_append, List.length_singleton, List.length_map]; omega) (x := yf y 1 c) (by omega) (by omega)
    obtain ⟨h6, e6, T6, W6⟩ := T5.app ha hB hk' (by simp only [List.length_append, List.length_singleton, List.length_map]; omega) (x := 103) (by omega) (by omega)
    obtain ⟨h7, e7, T7, W7⟩ := T6.appI G ha hB hk' (by simp only [List.length_append, List.length_singleton, List.length_map]; omega) (x := yf y 2 c) (by omega) (by omega)
    have e2 : mf_J6_append_2 (some a) (115 : Int32) h1 = some (some a, h2) := e2
    have e4 : mf_J6_append_2 (some a) (114 : Int32) h3 = some (some a, h4) := e4
    have e6 : mf_J6_append_2 (some a) (103 : Int32) h5 = some (some a, h6) := e6
    have t7 : cs ++ (yl y c).map (65 + ·) ++ [115] ++ ydg (yf y 0 c) ++ [114] ++ ydg (yf y 1 c) ++ [103] ++ ydg (yf y 2 c) = cs ++ yhd y c := by unfold yhd; simp [List.append_assoc]
    rw [t7] at T7
    have W17 : WW a h h7 := ((((((W1.trans W2).trans W3).trans W4).trans W5).trans W6).trans W7)
    rw [T1.rc, e2, cl_some, Y_g0 (YT T2) hc, T2.rc, e3, cl_some, T3.rc, e4, cl_some, Y_g1 (YT T4) hc, T4.rc, e5, cl_some, T5.rc, e6, cl_some, Y_g2 (YT T6) hc, T6.rc, e7, cl_some, Y_gP (YT T7) hc, Y_prc (YT T7) hc, Y_pem (GT T7) (YT T7) hc, cl_some]
    by_cases z : (yp y c).length = 0
    · rw [decide_eq_true z, if_neg (by decide)]
      rw [if_pos z] at tx
      rw [tx]
      exact ⟨h7, rfl, T7.le (by omega), W17⟩
    · rw [if_neg z] at tx
      have txl : (ytx y c).length = (yhd y c).length + (1 + ((ypt y c 0).length + 1)) := by
        rw [tx, List.length_append, List.length_cons, List.length_append, List.length_singleton]; unfold ypt; rw [List.drop_zero]; omega
      obtain ⟨h8, e8, T8, W8⟩ := T7.app ha hB hk' (by rw [List.length_append]; omega) (x := 91) (by omega) (by omega)
      have e8 : mf_J6_append_2 (some a) (91 : Int32) h7 = some (some a, h8) := e8
      obtain ⟨m, e, P⟩ := (Y.2.2.2 c hc).2.2.2
      have X8 := T8.ex.choose_spec
      have c8 : 5 ≤ h8.2.2.2 := by
        obtain ⟨v, cap, X, s, q, c'⟩ := T8
        have := X.cr; omega
      obtain ⟨h9, e9, x9, I9, n9⟩ := C_iterator (G.fx X8) (P.ex G.fs X8) c8
      have T9 : TS h0 a B h9 (cs ++ yhd y c ++ [91]) (kk + 5) := by
        obtain ⟨v, cap, X, s, q, c'⟩ := T8
        exact ⟨v, cap, (X.trans x9).le (by omega), s.fx X.fs x9 id id, q, c'⟩
      have W9 : WW a h8 h9 := ⟨x9.2.2.1, fun b l _ _ => x9.1 b l (Or.inr id)⟩
      have nit : h0.2.2.1 ≤ h8.2.2.1 := X8.2.2.1
      have ih : ∀ j ∈ yp y c, ∀ (h : xk_H) (cs : List Int) (kk : Nat), TS h0 a B h cs kk → cs.length + (ytx y j).length ≤ 190 → kk + 5 * (ytx y j).length ≤ 1000 → ∃ h', mf_X1_writes f (some (Ly L)) (zI j) (some a) h = some ((), h') ∧ TS h0 a B h' (cs ++ ytx y j) (kk + 5 * (ytx y j).length) ∧ WW a h h' := fun j mj h cs kk T l k => by
        have hj := O.plt hc mj
        refine Y_writes G Y O ha hB f j h cs kk hj ?_ T l k
        rw [ch_in O hj hc ((O.pm hc j).1 mj).2, List.length_cons]; omega
      rw [decide_eq_false z, if_pos (by decide), T7.rc, e8, cl_some, Y_gP (YT T8) hc, Y_prc (YT T8) hc, e9, cl_some]
      have W19 := (W17.trans W8).trans W9
      obtain ⟨h10, e10, T10, W10⟩ := Y_writes_L115 G Y O hc ha (fun h40 => xm_rc [8] (some a) h40 <| xm_cl (mf_J6_append_2 (some a) (93 : Int32) h40) fun r41 h42 => some ((), h42)) P nit ih (yp y c).length 0 xk_fu h9 _ _ T9 I9 (by omega) (by simp only [List.length_append, List.length_singleton, List.length_map]; omega) (by omega) (fu_lt (by omega)) h W19 (W17.trans W8).1
      obtain ⟨h11, e11, T11, W11⟩ := T10.app ha hB (by omega) (by simp only [List.length_append, List.length_singleton, List.length_map]; omega) (x := 93) (by omega) (by omega)
      have e11 : mf_J6_append_2 (some a) (93 : Int32) h10 = some (some a, h11) := e11
      rw [e10]
      rw [T10.rc, e11, cl_some]
      refine ⟨h11, rfl, ?_, ?_⟩
      · rw [tx]
        have : cs ++ yhd y c ++ [91] ++ ypt y c 0 ++ [93] = cs ++ (yhd y c ++ 91 :: (List.flatMap (ytx y) (yp y c) ++ [93])) := by
          unfold ypt; rw [List.drop_zero]; simp [List.append_assoc]
        rw [this] at T11
        refine T11.le ?_
        rw [← tx]; omega
      · exact W10.trans W11
end
