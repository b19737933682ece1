/-! PURE LAW, the class's yards: the best nest -/
set_option maxRecDepth 10000
section
variable {w : Nat → Nat × Nat} {K : KD} {h h0 : xk_H} {L : LD} {y : YD} {c : Nat}
theorem Y_nest_L32 (G : Gd K h) (Y : YA w K h L y) (O : YOk y) {b : Nat} (hb : h.1 b = (100, mArr (yn y) fun c => zI (ynl y c))) (kx : Int32 → xk_H → Option (Option Nat × xk_H)) (a2 : Option Nat) {r l : Int} (r0 : 0 ≤ r) (r1 : r ≤ 60) (l0 : 0 ≤ l) (l1 : l ≤ 100) {d : Nat} (hd : yfind y l r = some d) :
    ∀ (m k f : Nat), k + m = d → m < f → mf_X1_nest_L32 kx (some (Ly L)) (some b) a2 (zI r) (zI l) f (zI k) h = kx (zI d) h
  | m, k, 0, _, hf => absurd hf (Nat.not_lt_zero _)
  | m, k, f + 1, hk, hf => by
    have hn := O.n
    obtain ⟨d1, d2, d3, d4⟩ := yfind_ok hd
    have hk' : k < yn y := by omega
    have hs := O.sz hk'
    have hp := ynl_pos O hk'
    have hl := ynl_le O hk'
    unfold mf_X1_nest_L32
    rw [lI_ok (x := zI (ynl y k)) (by omega) (by omega) hb (by simp) (by rw [Int.toNat_natCast]; exact mArr_get _ hk')]
    have k1 : zI k + 1 = zI (k + 1 : Nat) := by rw [show (1 : Int32) = zI 1 by decide, zI_add]; rfl
    cases m with
    | zero =>
      have e : k = d := by omega
      subst e
      rw [if_pos (congrArg zI d2), Y_rc Y, Y_at G Y hk', cl_some, Y_g0 Y hk', if_pos (by rw [zI_le (by omega) (by omega) (by omega) (by omega)]; exact d3)]
    | succ m =>
      have ih := Y_nest_L32 G Y O hb kx a2 r0 r1 l0 l1 hd m (k + 1) f (by omega) (by omega)
      have nn := d4 k (by omega)
      by_cases q : ynl y k = l
      · rw [if_pos (congrArg zI q), Y_rc Y, Y_at G Y hk', cl_some, Y_g0 Y hk', if_neg (by rw [zI_le (by omega) (by omega) (by omega) (by omega)]; exact fun z => nn ⟨q, z⟩), k1]
        exact ih
      · rw [if_neg (by rw [zI_inj (by omega) (by omega) (by omega) (by omega)]; exact q), k1]
        exact ih
theorem Y_nest_L24 (G : Gd K h0) (Y : YA w K h0 L y) (O : YOk y) {b n : Nat} (hb0 : h0.2.2.1 ≤ b) (hn0 : h0.2.2.1 ≤ n) : ∀ (l f cr : Nat) (r : Int) (h : xk_H) (v : Nat → Nat × Nat) (xs : List Nat) (m : Int32) (e : Nat), Ex cr h0 h → h.1 b = (100, mArr (yn y) fun c => zI (ynl y c)) → LA v K h n (0, 5) (xs.map (iad K)) m e → (e = K.1 ∨ h0.2.2.1 ≤ e) → (∀ x ∈ xs, x < yn y) →
    0 ≤ r → r ≤ 60 → (l = 0 ∨ ∃ d, d < yn y ∧ ynl y d = l ∧ yf y 0 d ≤ r) → xs.length + l ≤ 12 → 47 * l ≤ h.2.2.2 → l < f → ∃ h' v' m' e', mf_X1_nest_L24 (some (Ly L)) (some b) (some n) f (zI r) (zI l) h = some (some n, h') ∧ Ex (cr + 47 * l) h0 h' ∧ LA v' K h' n (0, 5) ((xs ++ ynest y l r).map (iad K)) m' e'
  | l, 0, _, _, _, _, _, _, _, _, _, _, _, _, _, _, _, _, _, hf => absurd hf (Nat.not_lt_zero _)
  | 0, f + 1, cr, r, h, v, xs, m, e, x, hb, A, he, hx, r0, r1, _, _, _, hf => by
    refine ⟨h, v, m, e, ?_, x.le (by omega), by rw [show ynest y 0 r = [] from rfl, List.append_nil]; exact A⟩
    unfold mf_X1_nest_L24
    rw [if_pos (show zI ((0 : Nat) : Int) ≤ 0 by decide)]
  | l + 1, f + 1, cr, r, h, v, xs, m, e, x, hb, A, he, hx, r0, r1, hl, hlen, hc, hf => by
    have hn := O.n
    have G1 := G.fx x
    have Y1 := Y.ex G.fs x
    obtain ⟨d0, d01, d02, d03⟩ : ∃ d, d < yn y ∧ ynl y d = (l + 1 : Nat) ∧ yf y 0 d ≤ r := hl.resolve_left (by omega)
    obtain ⟨d, hd⟩ := yfind_some d01 d02 d03
    obtain ⟨d1, d2, d3, d4⟩ := yfind_ok hd
    have E1 : El h (xs.map (iad K)) := fun z mz => by
      obtain ⟨j, mj, rfl⟩ := List.mem_map.1 mz
      have := hx j mj
      rw [G1.ad (by omega)]; simp
    obtain ⟨h1, m1, e1, a1, x1, A1, he1⟩ := C_add (c := 47) G1 A E1 (x := iad K d) (by rw [G1.ad (by omega)]; simp) (by rw [List.length_map]; omega) (by rw [List.length_map]; omega) (by omega)
    have x2 : Ex (cr + 47) h0 h1 := x.andthen x1.low fun a la q => by
      rcases q with ⟨rfl | rfl, q⟩
      · omega
      · rcases he with rfl | he
        · rw [G1.2.1.2] at q; simp at q
        · omega
    have G2 := G.fx x2
    have Y2 := Y.ex G.fs x2
    have bn : b ≠ n := fun q => by rw [q, A.1] at hb; simp at hb
    have be : e ≠ b := fun q => by
      obtain ⟨ar, ea, ma, _⟩ := A.arr G1
      rw [q, hb] at ea; rw [← ea] at ma; simp at ma
    have hb1 : h1.1 b = (100, mArr (yn y) fun c => zI (ynl y c)) := x1.get G1.fs hb (by simp) (Or.inr fun q => q.elim bn (fun z => be z.symm))
    have hrd := O.rm d1
    have hsd := O.sz d1
    have nx : (l : Nat) = 0 ∨ ∃ d', d' < yn y ∧ ynl y d' = (l : Nat) ∧ yf y 0 d' ≤ yf y 1 d := by
      cases l with
      | zero => exact Or.inl rfl
      | succ l =>
        obtain ⟨d', p1, p2, p3⟩ := ynl_next O d1 (by omega)
        refine Or.inr ⟨d', p1, by omega, ?_⟩
        unfold yedge at p2
        simp only [Bool.and_eq_true, decide_eq_true_eq] at p2
        exact p2.2
    have c1 := x1.cr
    have nle : h.2.2.1 ≤ h1.2.2.1 := x1.2.2.1
    have A1' : LA (wN v h (0, 5)) K h1 n (0, 5) ((xs ++ [d]).map (iad K)) m1 e1 := by rw [List.map_append]; exact A1
    obtain ⟨h2, v2, m2, e2, a2, x3, A2⟩ := Y_nest_L24 G Y O hb0 hn0 l f (cr + 47) (yf y 1 d) h1 _ (xs ++ [d]) m1 e1 x2 hb1 A1' (by
        rcases he1 with rfl | q
        · exact he
        · exact Or.inr (Nat.le_trans x.2.2.1 q)) (fun z mz => by
        rcases List.mem_append.1 mz with mz | mz
        · exact hx z mz
        · rw [List.mem_singleton.1 mz]; exact d1) (by omega) (by omega) nx (by rw [List.length_append, List.length_singleton]; omega) (by omega) (by omega)
    refine ⟨h2, v2, m2, e2, ?_, x3.le (by omega), ?_⟩
    · unfold mf_X1_nest_L24
      rw [if_neg (show ¬ zI ((l + 1 : Nat) : Int) ≤ 0 by rw [show (0 : Int32) = zI 0 by decide, zI_le (by omega) (by omega) (by omega) (by omega)]; omega), show (0 : Int32) = zI ((0 : Nat) : Int) from rfl,
        Y_nest_L32 G1 Y1 O hb _ _ r0 r1 (by omega) (by omega) hd d 0 xk_fu (by omega) (fu_lt (by omega)), C_valueOf G1 (by omega), cl_some, rc_ok A.1 (by simp), a1, cl_some, Y_rc Y2, Y_at G2 Y2 d1, cl_some, Y_g1 Y2 d1, show (-1 : Int32) = zI (-1) by decide, zI_add,
        show ((l + 1 : Nat) : Int) + -1 = (l : Nat) by omega]
      exact a2
    · rw [ynest_cons hd]
      rw [List.append_assoc] at A2
      exact A2
theorem Y_nest (G : Gd K h) (Y : YA w K h L y) (O : YOk y) (cr : 600 ≤ h.2.2.2) : ∃ h' n v m e, mf_X1_nest (some (Ly L)) h = some (some n, h') ∧ Ex 600 h h' ∧ LA v K h' n (0, 5) ((ynst y).map (iad K)) m e := by
  have hn := O.n
  obtain ⟨h1, e1, x1, b1, n1⟩ := Y_lengths G Y O (by omega)
  have G1 := G.fx x1
  have Y1 := Y.ex G.fs x1
  have c1 := x1.cr
  obtain ⟨h2, e2, x2, A2, n2⟩ := C_newList G1 w (0, 5) (by omega)
  have G2 := G1.fx x2
  have Y2 := Y1.ex G1.fs x2
  have c2 := x2.cr
  have b2 : h2.1 h.2.2.1 = (100, mArr (yn y) fun c => zI (ynl y c)) := x2.get G1.fs b1 (by simp) (Or.inr id)
  obtain ⟨l0, l1, l2⟩ := ylong_is O
  have lg : zmx (fun k => if yf y 0 k ≤ 60 then ynl y k else 0) 0 (yn y) 0 = ylong y := zmx_congr _ _ _ fun i _ hi => if_pos (O.sz (c := i) (by omega)).2
  obtain ⟨h3, v, m, e, e3, x3, A3⟩ := Y_nest_L24 G Y O (b := h.2.2.1) (n := h1.2.2.1) (Nat.le_refl _) (by omega) (ylong y).toNat xk_fu 17 60 h2 _ [] 0 K.1 (x1.trans x2) b2 A2 (Or.inl rfl) (fun x mx => nomatch mx) (by omega) (by omega) (by
      rcases l2 with q | ⟨d, q1, q2⟩
      · exact Or.inl (by omega)
      · exact Or.inr ⟨d, q1, by omega, (O.sz q1).2⟩) (by simp; omega) (by omega) (fu_lt (by omega))
  refine ⟨h3, h1.2.2.1, v, m, e, ?_, x3.le (by omega), ?_⟩
  · unfold mf_X1_nest
    rw [Y_rc Y, e1, cl_some, new_ok (show [Value.int 0, Value.null, Value.int 0].length + 1 ≤ h1.2.2.2 by simp; omega), e2, cl_some, Y_rc Y2, show (60 : Int32) = zI 60 by decide, Y_longest G2 Y2 O b2 (fun c hc => by have := ynl_pos O hc; have := ynl_le O hc; omega) (by omega) (by omega), cl_some, lg]
    rw [show ((ylong y).toNat : Int) = ylong y by omega] at e3
    exact e3
  · exact A3
end
