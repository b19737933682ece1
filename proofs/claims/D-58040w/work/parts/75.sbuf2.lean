/-! PURE LAW, StringBuilder: numbers; the length set to nothing -/
set_option maxRecDepth 10000
section
variable {h h' : xk_H} {a v cap c : Nat} {cs : List Int} {Q : Nat → Prop} {K : KD}
theorem ydg_len (x : Int) : (ydg x).length = if 9 < x then 2 else 1 := by unfold ydg; split <;> rfl
theorem C_stringSize {x : Int} (x0 : 0 ≤ x) (x1 : x ≤ 99) : mf_J22_stringSize (zI x) h = some (zI (ydg x).length, h) := by
  obtain ⟨f, hf⟩ : ∃ f, xk_fu = f + 2 := ⟨998, rfl⟩
  unfold mf_J22_stringSize
  rw [if_neg (show ¬ zI x < 0 by rw [show (0 : Int32) = zI 0 by decide, zI_lt (by omega) (by omega) (by omega) (by omega)]; omega), hf, zI_neg, ydg_len]
  unfold mf_J22_stringSize_L16
  rw [if_neg (by decide)]
  by_cases q : 9 < x
  · rw [if_pos (show zI (-x) ≤ (-10 : Int32) by rw [show (-10 : Int32) = zI (-10) by decide, zI_le (by omega) (by omega) (by omega) (by omega)]; omega), if_pos q]
    unfold mf_J22_stringSize_L16
    rw [if_neg (by decide), if_neg (show ¬ zI (-x) ≤ (10 : Int32) * (-10 : Int32) by rw [show (10 : Int32) * (-10 : Int32) = zI (-100) by decide, zI_le (by omega) (by omega) (by omega) (by omega)]; omega)]
    rfl
  · rw [if_neg (show ¬ zI (-x) ≤ (-10 : Int32) by rw [show (-10 : Int32) = zI (-10) by decide, zI_le (by omega) (by omega) (by omega) (by omega)]; omega), if_neg q]
    rfl
theorem C_digit (G : Gd K h) {γ : Type} {κ : Int32 → Option γ} {x : Int} (x0 : 0 ≤ x) (x1 : x ≤ 99) : xm_lI [301] (h.2.1 3) (zI x) h κ = κ (zI (48 + x % 10)) ∧ xm_lI [301] (h.2.1 2) (zI x) h κ = κ (zI (48 + x / 10)) := by
  obtain ⟨_, _, _, _, ⟨c0, c1⟩, ⟨d0, d1⟩, _⟩ := G
  obtain ⟨n, rfl⟩ : ∃ n : Nat, x = n := ⟨x.toNat, by omega⟩
  constructor
  · rw [d0]
    refine lI_ok (by omega) (by omega) d1 (by simp) ?_
    rw [Int.toNat_natCast]
    show (List.map (fun (k : Nat) => Value.int (zI (48 + ((k % 10 : Nat) : Int)))) (List.range 100))[n]? = _
    rw [List.getElem?_map, List.getElem?_range (by omega)]; rfl
  · rw [c0]
    refine lI_ok (by omega) (by omega) c1 (by simp) ?_
    rw [Int.toNat_natCast]
    show (List.map (fun (k : Nat) => Value.int (zI (48 + ((k / 10 : Nat) : Int)))) (List.range 100))[n]? = _
    rw [List.getElem?_map, List.getElem?_range (by omega)]; rfl
theorem lab_set (cs : List Int) (u x : Int) (t : List Int) {i : Int} (hi : i = cs.length) : (lab (cs ++ u :: t)).set i.toNat (.int (zI x)) = lab (cs ++ x :: t) := by
  subst hi
  rw [Int.toNat_natCast]
  unfold lab
  rw [List.map_append, List.set_append_right _ _ (by simp), List.length_map, Nat.sub_self, List.map_cons, List.set_cons_zero, List.map_append, List.map_cons]
theorem C_getChars (G : Gd K h) {t : List Int} (e : h.1 v = (101, lab (cs ++ t))) {x : Int} (x0 : 0 ≤ x) (x1 : x ≤ 99) (n : (ydg x).length ≤ t.length) (hn : cs.length ≤ 900) :
    ∃ h' r, mf_J22_getChars (zI x) (zI (cs.length + (ydg x).length)) (some v) h = some (r, h') ∧ Fx (fun b => b = v) 0 h h' ∧ h'.1 v = (101, lab (cs ++ (ydg x ++ t.drop (ydg x).length))) := by
  obtain ⟨f, hf⟩ : ∃ f, xk_fu = f + 1 := ⟨999, rfl⟩
  have b1 := byte_ok (x := 48 + x % 10) (by omega) (by omega)
  have b2 := byte_ok (x := 48 + x / 10) (by omega) (by omega)
  have dg := ydg_len x
  have lv : v < h.2.2.1 := G.fs.lt e (by simp)
  unfold mf_J22_getChars mf_J22_getChars_J12
  rw [if_pos (show 0 ≤ zI x by rw [show (0 : Int32) = zI 0 by decide, zI_le (by omega) (by omega) (by omega) (by omega)]; omega), if_pos rfl, hf, zI_neg]
  unfold mf_J22_getChars_L22
  rw [if_pos (show (-100 : Int32) < zI (-x) by rw [show (-100 : Int32) = zI (-100) by decide, zI_lt (by omega) (by omega) (by omega) (by omega)]; omega)]
  simp only [zI_neg, Int.neg_neg]
  rw [(C_digit G x0 x1).1, b1.2.2.2.1, show (-1 : Int32) = zI (-1) by decide, zI_add]
  unfold mf_J22_getChars_J104
  rw [dg] at n
  by_cases q : 9 < x
  · rw [if_pos q] at n dg
    obtain ⟨u1, u2, t', rfl⟩ : ∃ u1 u2 t', t = u1 :: u2 :: t' := by
      match t, n with
      | u1 :: u2 :: t', _ => exact ⟨u1, u2, t', rfl⟩
    let h1 := xk_set h v (101, lab (cs ++ u1 :: (48 + x % 10) :: t'))
    have e1 : h1.1 v = (101, lab (cs ++ u1 :: (48 + x % 10) :: t')) := if_pos rfl
    have X1 : Fx (fun b => b = v) 0 h h1 := Fx.set G.fs lv rfl (by rw [e]; simp)
    let h2 := xk_set h1 v (101, lab (cs ++ (48 + x / 10) :: (48 + x % 10) :: t'))
    have X2 : Fx (fun b => b = v) 0 h h2 := X1.set' e1 (by simp) fun _ => rfl
    rw [dg, sV_ok (by omega) (by omega) e (by simp) (by simp only []; rw [lab_len]; simp; omega)]
    have ls : (lab (cs ++ u1 :: u2 :: t')).set ((cs.length : Int) + ((2 : Nat) : Int) + -1).toNat (.int (zI (48 + x % 10))) = lab (cs ++ u1 :: (48 + x % 10) :: t') := by
      have := lab_set (cs ++ [u1]) u2 (48 + x % 10) t' (i := (cs.length : Int) + ((2 : Nat) : Int) + -1) (by simp; omega)
      simpa using this
    simp only []
    rw [ls]
    show ∃ h' r, (if (-9 : Int32) ≤ zI (-x) then _ else xm_lI [301] (h1.2.1 2) (zI x) h1 _) = _ ∧ _
    rw [if_neg (show ¬ (-9 : Int32) ≤ zI (-x) by rw [show (-9 : Int32) = zI (-9) by decide, zI_le (by omega) (by omega) (by omega) (by omega)]; omega), (C_digit (G.fx X1) x0 x1).2, b2.2.2.2.1, zI_add, sV_ok (by omega) (by omega) e1 (by simp) (by simp only []; rw [lab_len]; simp; omega)]
    simp only []
    rw [lab_set cs u1 (48 + x / 10) _ (by omega), if_pos trivial]
    refine ⟨h2, _, rfl, X2, (if_pos rfl).trans ?_⟩
    unfold ydg; rw [if_pos q]; rfl
  · rw [if_neg q] at n dg
    obtain ⟨u1, t', rfl⟩ : ∃ u1 t', t = u1 :: t' := by
      match t, n with
      | u1 :: t', _ => exact ⟨u1, t', rfl⟩
    let h1 := xk_set h v (101, lab (cs ++ (48 + x % 10) :: t'))
    have X1 : Fx (fun b => b = v) 0 h h1 := Fx.set G.fs lv rfl (by rw [e]; simp)
    rw [dg, sV_ok (by omega) (by omega) e (by simp) (by simp only []; rw [lab_len]; simp; omega)]
    simp only []
    rw [lab_set cs u1 (48 + x % 10) _ (by omega), if_pos (show (-9 : Int32) ≤ zI (-x) by rw [show (-9 : Int32) = zI (-9) by decide, zI_le (by omega) (by omega) (by omega) (by omega)]; omega), if_pos trivial]
    refine ⟨h1, _, rfl, X1, (if_pos rfl).trans ?_⟩
    unfold ydg; rw [if_neg q]; rfl
theorem C_appendI (G : Gd K h) (S : SB h a v cs cap) {M : Nat} (nM : cs.length + 2 ≤ M) (M4 : M ≤ 400) (cM : cap ≤ 2 * M + 2) (cr : 4 * M + 4 ≤ h.2.2.2 + 2 * cap) {x : Int} (x0 : 0 ≤ x) (x1 : x ≤ 99) :
    ∃ h' v' cap', mf_J6_append_3 (some a) (zI x) h = some (some a, h') ∧ Fx (fun b => b = a ∨ b = v) (2 * (cap' - cap)) h h' ∧ SB h' a v' (cs ++ ydg x) cap' ∧ cap ≤ cap' ∧ cap' ≤ 2 * M + 2 ∧ (v' = v ∨ h.2.2.1 ≤ v') := by
  have hl := S.le
  have dg : (ydg x).length ≤ 2 := by rw [ydg_len]; split <;> omega
  obtain ⟨h1, v1, cap1, e1, X1, S1, n1, n2, n3, n4⟩ := C_ensure G.fs S (n := cs.length + (ydg x).length) (by omega) (by omega) M4 cM cr
  have S10 := S1
  have s1 := S.choose_spec.choose_spec.1
  obtain ⟨mb, t, t1, t2, t3, t4, t5⟩ := S1
  have tl : (ydg x).length ≤ t.length := by rw [List.length_append] at t4; omega
  have G1 := G.fx X1
  obtain ⟨h2, r, e2, X2, o2⟩ := C_getChars G1 t2 x0 x1 tl (by omega)
  have av : a ≠ v1 := by rintro rfl; rw [t1] at t2; simp at t2
  have o2a : h2.1 a = (8, [.ref v1, .int 0, .int mb, .int (zI cs.length)]) := X2.get G1.fs t1 (by simp) (Or.inr av)
  have XX : Fx (fun b => b = a ∨ b = v) (2 * (cap1 - cap)) h h2 := ((X1.mono (fun _ => Or.inl) (Nat.le_refl _)).andthen X2 fun b l q => by
    subst q
    rcases n4 with n4 | n4
    · exact Or.inr n4
    · omega).le (by omega)
  let h3 := xk_set h2 a (8, [.ref v1, .int 0, .int mb, .int (zI (cs ++ ydg x).length)])
  have hlen : (cs ++ (ydg x ++ t.drop (ydg x).length)).length = cap1 := by
    rw [← t4, List.length_append, List.length_append, List.length_append, List.length_drop]; omega
  refine ⟨h3, v1, cap1, ?_, XX.set' o2a (by simp) (fun _ => Or.inl rfl), ⟨mb, t.drop (ydg x).length, if_pos rfl, ?_, ?_, ?_, t5⟩, n2, n3, n4⟩
  · unfold mf_J6_append_3 mf_J5_append_3
    rw [S.rc, gI_ok (x := zI cs.length) s1 (by simp) rfl, C_stringSize x0 (by omega), cl_some, S.rc, zI_add, show ((cs.length : Int) + (ydg x).length) = (cs.length + (ydg x).length : Nat) by omega, e1, cl_some, S10.rc, S10.latin, cl_some, if_neg (by decide), gR_ok (x := some v1) t1 (by simp) rfl,
      show ((cs.length + (ydg x).length : Nat) : Int) = cs.length + (ydg x).length by omega, e2, cl_some, pV_w (vs' := [.ref v1, .int 0, .int mb, .int (zI (cs ++ ydg x).length)]) o2a (by simp) (by rw [List.length_append, Int.natCast_add]; rfl), cl_some]
  · show (if v1 = a then _ else _) = _
    rw [if_neg av.symm, o2, List.append_assoc]
  · intro z mz
    rw [List.append_assoc] at mz
    rcases List.mem_append.1 mz with mz | mz
    · exact t3 z (List.mem_append_left _ mz)
    · rcases List.mem_append.1 mz with mz | mz
      · unfold ydg at mz
        by_cases q : 9 < x
        · rw [if_pos q] at mz
          simp only [List.mem_cons, List.not_mem_nil, or_false] at mz
          omega
        · rw [if_neg q] at mz
          simp only [List.mem_cons, List.not_mem_nil, or_false] at mz
          omega
      · exact t3 z (List.mem_append_right _ (List.mem_of_mem_drop mz))
  · rw [List.append_assoc]; exact hlen
theorem C_clear (F : Fs h) (S : SB h a v cs cap) : ∃ h', mf_J6_setLength (some a) (zI 0) h = some ((), h') ∧ Fx (fun b => b = a) 0 h h' ∧ SB h' a v [] cap := by
  have hl := S.le
  have S0 := S
  obtain ⟨mb, t, s1, s2, s3, s4, s5⟩ := S
  have av : a ≠ v := by rintro rfl; rw [s1] at s2; simp at s2
  have hd : mf_J6_setLength (some a) (zI 0) h = xm_cl (if zI cs.length ≤ zI 0 then (xm_pV [8] 3 (some a) (.int (zI 0)) h fun h5 => some ((), h5)) else (xm_pN .boolean [8] 2 (some a) (1 : Int32) h fun h6 => xm_pV [8] 3 (some a) (.int (zI 0)) h6 fun h7 => some ((), h7))) fun r1 h2 => some ((), h2) := by
    unfold mf_J6_setLength mf_J5_setLength mf_J5_ensureCapacityInternal
    rw [S0.rc, if_pos (by decide), S0.rc, gR_ok (x := some v) s1 (by simp) rfl, len_ok s2 (by simp), lab_len, s4, gI_ok (x := 0) s1 (by simp) rfl, sh0, zI_sub,
      if_pos (by rw [show (0 : Int32) = zI 0 by decide, zI_le (by omega) (by omega) (by omega) (by omega)]; omega), cl_some, gI_ok (x := zI cs.length) s1 (by simp) rfl, if_pos (by rw [zI_le (by omega) (by omega) (by omega) (by omega)]; omega), gI_ok (x := zI cs.length) s1 (by simp) rfl]
  rw [hd]
  have fin : ∀ (mb' : Int32) (g : xk_H), Fx (fun b => b = a) 0 h g → g.1 a = (8, [.ref v, .int 0, .int mb', .int (zI cs.length)]) → g.1 v = (101, lab (cs ++ t)) → ∃ h', xm_pV [8] 3 (some a) (.int (zI 0)) g (fun h5 => some ((), h5)) = some ((), h') ∧ Fx (fun b => b = a) 0 h h' ∧ SB h' a v [] cap := by
    intro mb' g xg ga gv
    refine ⟨xk_set g a (8, [.ref v, .int 0, .int mb', .int (zI 0)]), pV_w ga (by simp) rfl, xg.set' ga (by simp) fun _ => rfl, mb', cs ++ t, if_pos rfl, ?_, s3, s4, s5⟩
    show (if v = a then _ else _) = _
    rw [if_neg av.symm]; exact gv
  by_cases q : cs.length = 0
  · rw [if_pos (by rw [zI_le (by omega) (by omega) (by omega) (by omega)]; omega)]
    obtain ⟨h', f1, f2, f3⟩ := fin mb h (Fx.rfl F) s1 s2
    exact ⟨h', by rw [f1, cl_some], f2, f3⟩
  · rw [if_neg (by rw [zI_le (by omega) (by omega) (by omega) (by omega)]; omega), pN_w (vs' := [.ref v, .int 0, .int 1, .int (zI cs.length)]) (Or.inr (by decide)) s1 (by simp) rfl]
    obtain ⟨h', f1, f2, f3⟩ := fin 1 (xk_set h a (8, [.ref v, .int 0, .int 1, .int (zI cs.length)])) ((Fx.rfl F).set' s1 (by simp) fun _ => rfl) (if_pos rfl) ((if_neg av.symm).trans s2)
    exact ⟨h', by rw [f1, cl_some], f2, f3⟩
end
