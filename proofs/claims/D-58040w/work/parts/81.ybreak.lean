/-! PURE LAW, the class's yards: breaksUp -/
set_option maxRecDepth 10000
/-- a pile, renumbered up to a place -/
def mix (c k : Nat) (q : List Nat) : List Nat := (q.map (dn c)).take k ++ q.drop k
theorem mix_set (c : Nat) {k : Nat} {q : List Nat} (hk : k < q.length) : (mix c k q)[k]? = some q[k] ∧ (mix c k q).set k (dn c q[k]) = mix c (k + 1) q ∧ (mix c k q).length = q.length := by
  have l1 : ((q.map (dn c)).take k).length = k := by rw [List.length_take, List.length_map]; omega
  refine ⟨?_, ?_, ?_⟩
  · unfold mix
    rw [List.getElem?_append_right (by rw [l1]; exact Nat.le_refl _), l1, Nat.sub_self, List.drop_eq_getElem_cons hk]; rfl
  · unfold mix
    rw [List.set_append_right _ _ (by rw [l1]; exact Nat.le_refl _), l1, Nat.sub_self, List.drop_eq_getElem_cons hk, List.set_cons_zero, List.take_succ_eq_append_getElem (by rw [List.length_map]; exact hk), List.append_assoc, List.getElem_map]
    rfl
  · unfold mix
    rw [List.length_append, l1, List.length_drop]; omega
section
variable {w : Nat → Nat × Nat} {K : KD} {h h0 : xk_H} {L : LD} {y : YD} {c : Nat}
theorem Y_breaks_L66 {ca p e : Nat} {o : Nat × Nat} {q : List Nat} {m : Int32} {v0 v1 v2 v3 v4 : Value} (hc : c < 100) (hq : ∀ x ∈ q, x < 100) (ql : q.length ≤ 12) (kx : xk_H → Option (Unit × xk_H)) (a2 : Option Nat) : ∀ (n k f : Nat) (h : xk_H), Gd K h → h.1 ca = (3, [v0, v1, v2, v3, v4, .ref p]) → LA w K h p o ((mix c k q).map (iad K)) m e → k + n = q.length → n < f →
    ∃ h', mf_X1_breaksUp_L66 kx (zI c) a2 (some ca) f (zI k) h = kx h' ∧ Fx (fun a => a = p ∨ a = e) 0 h h' ∧ LA w K h' p o ((q.map (dn c)).map (iad K)) m e
  | n, k, 0, _, _, _, _, _, hf => absurd hf (Nat.not_lt_zero _)
  | 0, k, f + 1, h, G, C, P, hk, hf => by
    have ml : (mix c k q).length = q.length := by unfold mix; rw [List.length_append, List.length_take, List.length_drop, List.length_map]; omega
    have me : mix c k q = q.map (dn c) := by
      unfold mix
      rw [List.drop_eq_nil_of_le (by omega), List.append_nil, List.take_of_length_le (by rw [List.length_map]; omega)]
    refine ⟨h, ?_, Fx.rfl G.fs, by rw [← me]; exact P⟩
    unfold mf_X1_breaksUp_L66
    rw [gR_ok (x := some p) C (by simp) rfl, rc_ok P.1 (by simp), C_size P, cl_some, List.length_map, ml, if_pos (by rw [zI_le (by omega) (by omega) (by omega) (by omega)]; omega)]
  | n + 1, k, f + 1, h, G, C, P, hk, hf => by
    have hk' : k < q.length := by omega
    obtain ⟨m1, m2, m3⟩ := mix_set c hk'
    have hx := hq _ (List.getElem_mem hk')
    have g1 : ((mix c k q).map (iad K))[k]? = some (iad K q[k]) := by rw [List.getElem?_map, m1]; rfl
    have dx : dn c q[k] < 100 := by unfold dn; split <;> omega
    obtain ⟨h1, a1, x1, P1⟩ := C_set G P g1 (y := iad K (dn c q[k])) (by rw [G.ad (by omega)]; simp)
    have G1 := G.fx x1
    have P1' : LA w K h1 p o ((mix c (k + 1) q).map (iad K)) m e := by rw [← m2, List.map_set]; exact P1
    obtain ⟨z1, z2⟩ := P.ne_tag G C (by decide) (by decide) (by decide)
    have C1 := x1.get G.fs C (by simp) (Or.inr z2)
    obtain ⟨h2, a2', x2, P2⟩ := Y_breaks_L66 hc hq ql kx a2 n (k + 1) f h1 G1 C1 P1' (by omega) (by omega)
    refine ⟨h2, ?_, (x1.mono (fun a => Or.inr) (Nat.le_refl _)).trans x2, P2⟩
    unfold mf_X1_breaksUp_L66 mf_X1_breaksUp_J138
    rw [gR_ok (x := some p) C (by simp) rfl, rc_ok P.1 (by simp), C_size P, cl_some, List.length_map, m3, if_neg (by rw [zI_le (by omega) (by omega) (by omega) (by omega)]; omega), gR_ok (x := some p) C (by simp) rfl, gR_ok (x := some p) C (by simp) rfl, rc_ok P.1 (by simp), C_get G P g1, cl_some, cast_ok (G.ad (j := q[k]) (by omega)) (by simp), rc_ok (G.ad (j := q[k]) (by omega)) (by simp), C_intValue G (by omega), cl_some]
    have step : zI k + 1 = zI (k + 1 : Nat) := by rw [show (1 : Int32) = zI 1 by decide, zI_add]; rfl
    by_cases z : q[k] ≤ c
    · have de : dn c q[k] = q[k] := by unfold dn; rw [if_neg (by omega)]
      rw [de] at a1
      rw [if_pos (by rw [zI_le (by omega) (by omega) (by omega) (by omega)]; omega), gR_ok (x := some p) C (by simp) rfl, rc_ok P.1 (by simp), C_get G P g1, cl_some, cast_ok (G.ad (j := q[k]) (by omega)) (by simp), rc_ok (G.ad (j := q[k]) (by omega)) (by simp), C_intValue G (by omega), cl_some, C_valueOf G (by omega), cl_some, rc_ok P.1 (by simp), a1, cl_some, step]
      exact a2'
    · have de : dn c q[k] = q[k] - 1 := by unfold dn; rw [if_pos (by omega)]
      rw [de] at a1
      rw [if_neg (by rw [zI_le (by omega) (by omega) (by omega) (by omega)]; omega), gR_ok (x := some p) C (by simp) rfl, rc_ok P.1 (by simp), C_get G P g1, cl_some, cast_ok (G.ad (j := q[k]) (by omega)) (by simp), rc_ok (G.ad (j := q[k]) (by omega)) (by simp), C_intValue G (by omega), cl_some, show (1 : Int32) = zI 1 by decide, zI_sub, show (q[k] : Int) - 1 = (q[k] - 1 : Nat) by omega, C_valueOf G (by omega), cl_some, rc_ok P.1 (by simp), a1, cl_some, ← show (1 : Int32) = zI 1 by decide, step]
      exact a2'
end
