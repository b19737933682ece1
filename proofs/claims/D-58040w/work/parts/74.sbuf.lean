/-! PURE LAW, StringBuilder -/
set_option maxRecDepth 10000
/-- at a lies a StringBuilder of the characters cs, its bytes at v, so many -/
def SB (h : xk_H) (a v : Nat) (cs : List Int) (cap : Nat) : Prop := ∃ (mb : Int32) (t : List Int), h.1 a = (8, [.ref v, .int 0, .int mb, .int (zI cs.length)]) ∧ h.1 v = (101, lab (cs ++ t)) ∧ (∀ x ∈ cs ++ t, 0 ≤ x ∧ x ≤ 127) ∧ (cs ++ t).length = cap ∧ cap ≤ 1000
theorem lab_len (l : List Int) : (lab l).length = l.length := by unfold lab; simp
theorem byte_ok {x : Int} (h0 : 0 ≤ x) (h1 : x ≤ 127) : fits .byte (.int (zI x)) = true ∧ narrow .char (.int (zI x)) = .int (zI x) ∧ ((((zI x) &&& (255 : Int32)).toUInt32 % 65536).toInt32 = zI x ∧ (zI x).toInt8.toInt32.toInt8.toInt32 = zI x) ∧ (zI x).toInt8.toInt32 = zI x ∧ ((zI x).toUInt32 % 65536).toInt32 = zI x := by
  have key : ∀ x : Fin 128, fits .byte (.int (zI ((x.val : Nat) : Int))) = true ∧ narrow .char (.int (zI ((x.val : Nat) : Int))) = .int (zI ((x.val : Nat) : Int)) ∧ ((((zI ((x.val : Nat) : Int)) &&& (255 : Int32)).toUInt32 % 65536).toInt32 = zI ((x.val : Nat) : Int) ∧ (zI ((x.val : Nat) : Int)).toInt8.toInt32.toInt8.toInt32 = zI ((x.val : Nat) : Int)) ∧ (zI ((x.val : Nat) : Int)).toInt8.toInt32 = zI ((x.val : Nat) : Int) ∧ ((zI ((x.val : Nat) : Int)).toUInt32 % 65536).toInt32 = zI ((x.val : Nat) : Int) := by decide +kernel
  have := key ⟨x.toNat, by omega⟩
  simp only [Int.toNat_of_nonneg h0] at this
  exact this
theorem sh0 (x : Int32) : x >>> ((0 : Int32) &&& 31) = x := by
  have : ((0 : Int32) &&& 31) = 0 := by decide
  rw [this]; exact Int32.shiftRight_zero
theorem sl0 (x : Int32) : x <<< ((0 : Int32) &&& 31) = x := by
  have : ((0 : Int32) &&& 31) = 0 := by decide
  rw [this]; exact Int32.shiftLeft_zero
section
variable {h h' : xk_H} {a v cap c : Nat} {cs : List Int} {Q : Nat → Prop}
theorem SB.fx (F : Fs h) (S : SB h a v cs cap) (x : Fx Q c h h') (qa : ¬ Q a) (qv : ¬ Q v) : SB h' a v cs cap := by
  obtain ⟨mb, t, s1, s2, s3⟩ := S
  exact ⟨mb, t, x.get F s1 (by simp) (Or.inr qa), x.get F s2 (by simp) (Or.inr qv), s3⟩
theorem SB.rc (S : SB h a v cs cap) {γ : Type} {κ : Option γ} : xm_rc [8] (some a) h κ = κ := by
  obtain ⟨mb, t, s1, _⟩ := S
  exact rc_ok s1 (by simp)
theorem SB.le (S : SB h a v cs cap) : cs.length ≤ cap ∧ cap ≤ 1000 := by
  obtain ⟨mb, t, s1, s2, s3, s4, s5⟩ := S
  rw [List.length_append] at s4; omega
theorem C_slen (S : SB h a v cs cap) : mf_J6_length (some a) h = some (zI cs.length, h) := by
  obtain ⟨mb, t, s1, _⟩ := S
  unfold mf_J6_length mf_J5_length
  rw [rc_ok s1 (by simp), gI_ok (x := zI cs.length) s1 (by simp) rfl, cl_some]
theorem C_charAt (S : SB h a v cs cap) {i : Nat} {x : Int} (q : cs[i]? = some x) : mf_J6_charAt (some a) (zI i) h = some (zI x, h) := by
  have hl := S.le
  obtain ⟨mb, t, s1, s2, s3, s4, s5⟩ := S
  have hi : i < cs.length := (List.getElem?_eq_some_iff.1 q).1
  have hx := s3 x (List.mem_append_left _ (List.mem_of_getElem? q))
  obtain ⟨_, b2, ⟨b3, _⟩, _⟩ := byte_ok hx.1 hx.2
  have gx : (lab (cs ++ t))[(i : Int).toNat]? = some (.int (zI x)) := by
    rw [Int.toNat_natCast]; unfold lab; rw [List.getElem?_map, List.getElem?_append_left hi, q]; rfl
  have i0 : ¬ zI i < 0 := by rw [show (0 : Int32) = zI 0 by decide, zI_lt (by omega) (by omega) (by omega) (by omega)]; omega
  unfold mf_J6_charAt mf_J5_charAt mf_J7_checkIndex mf_J11_checkIndex
  rw [rc_ok s1 (by simp), gI_ok (x := 0) s1 (by simp) rfl, gR_ok (x := some v) s1 (by simp) rfl, gI_ok (x := zI cs.length) s1 (by simp) rfl, len_ok s2 (by simp), lab_len, s4, sh0, C_min (by omega) (by omega) (by omega) (by omega), cl_some, show min (cs.length : Int) (cap : Int) = cs.length by omega,
    if_neg i0, if_pos (by rw [zI_lt (by omega) (by omega) (by omega) (by omega)]; omega), cl_some, cl_some, if_pos rfl, lI_ok (by omega) (by omega) s2 (by simp) gx, b3, cl_some]
  unfold xm_c
  rw [if_pos b2]
theorem C_ensure (F : Fs h) (S : SB h a v cs cap) {n M : Nat} (n0 : n ≤ cs.length + 2) (nM : n ≤ M) (M4 : M ≤ 400) (cM : cap ≤ 2 * M + 2) (cr : 4 * M + 4 ≤ h.2.2.2 + 2 * cap) :
    ∃ h' v' cap', mf_J5_ensureCapacityInternal (some a) (zI n) h = some ((), h') ∧ Fx (fun b => b = a) (2 * (cap' - cap)) h h' ∧ SB h' a v' cs cap' ∧ n ≤ cap' ∧ cap ≤ cap' ∧ cap' ≤ 2 * M + 2 ∧ (v' = v ∨ h.2.2.1 ≤ v') := by
  have hl := S.le
  have S0 := S
  obtain ⟨mb, t, s1, s2, s3, s4, s5⟩ := S
  unfold mf_J5_ensureCapacityInternal mf_J5_newCapacity
  rw [gR_ok (x := some v) s1 (by simp) rfl, len_ok s2 (by simp), lab_len, s4, gI_ok (x := 0) s1 (by simp) rfl, sh0, zI_sub]
  by_cases q : n ≤ cap
  · rw [if_pos (by rw [show (0 : Int32) = zI 0 by decide, zI_le (by omega) (by omega) (by omega) (by omega)]; omega)]
    exact ⟨h, v, cap, rfl, (Fx.rfl F).le (by omega), S0, q, Nat.le_refl _, cM, Or.inl rfl⟩
  · let N := 2 * cap + 2
    have hN : (cap : Int) + max ((n : Int) - cap) ((cap : Int) + 2) = (N : Nat) := by show _ = ((2 * cap + 2 : Nat) : Int); omega
    have hv : v ≠ h.2.2.1 := Nat.ne_of_lt (F.lt s2 (by simp))
    have ha : a ≠ h.2.2.1 := Nat.ne_of_lt (F.lt s1 (by simp))
    have av : a ≠ v := by rintro rfl; rw [s1] at s2; simp at s2
    let h1 := xk_push h (101, List.replicate N (.int 0))
    have e1v : h1.1 v = (101, lab (cs ++ t)) := by show (if v = h.2.2.1 then _ else _) = _; rw [if_neg hv]; exact s2
    have e1a : h1.1 a = (8, [.ref v, .int 0, .int mb, .int (zI cs.length)]) := by show (if a = h.2.2.1 then _ else _) = _; rw [if_neg ha]; exact s1
    have e1n : h1.1 h.2.2.1 = (101, List.replicate N (.int 0)) := if_pos rfl
    have x1 : Fx (fun b => b = a) (2 * (N - cap)) h h1 := (Fx.push F _).le (by show (List.replicate N (Value.int 0)).length + 1 ≤ _; rw [List.length_replicate]; show 2 * cap + 2 + 1 ≤ 2 * (2 * cap + 2 - cap); omega)
    let nv := lab (cs ++ (t ++ List.replicate (N - cap) 0))
    have cp : xk_cp (lab (cs ++ t)) (List.replicate N (.int 0)) 0 0 cap = nv := by
      unfold xk_cp
      rw [List.take_zero, List.nil_append, List.drop_zero, List.take_of_length_le (by rw [lab_len, s4]; exact Nat.le_refl _), Nat.zero_add, List.drop_replicate]
      show _ = lab (cs ++ (t ++ List.replicate (N - cap) 0))
      rw [← List.append_assoc]
      unfold lab
      rw [List.map_append (l₁ := cs ++ t), List.map_replicate]
      rfl
    let h2 := xk_set h1 h.2.2.1 (101, nv)
    have e2a : h2.1 a = (8, [.ref v, .int 0, .int mb, .int (zI cs.length)]) := by show (if a = h.2.2.1 then _ else _) = _; rw [if_neg ha]; exact e1a
    have x2 : Fx (fun b => b = a) (2 * (N - cap)) h h2 := x1.set' e1n (by simp) fun z => absurd z (Nat.lt_irrefl _)
    let h3 := xk_set h2 a (8, [.ref h.2.2.1, .int 0, .int mb, .int (zI cs.length)])
    have x3 : Fx (fun b => b = a) (2 * (N - cap)) h h3 := x2.set' e2a (by simp) fun _ => rfl
    refine ⟨h3, h.2.2.1, N, ?_, x3, ⟨mb, t ++ List.replicate (N - cap) 0, if_pos rfl, ?_, ?_, ?_, ?_⟩, ?_, ?_, ?_, Or.inr (Nat.le_refl _)⟩
    · have n0 : ¬ zI N = 2147483647 := by rw [show (2147483647 : Int32) = zI 2147483647 by decide, zI_inj (by omega) (by omega) (by omega) (by omega)]; omega
      rw [if_neg (by rw [show (0 : Int32) = zI 0 by decide, zI_le (by omega) (by omega) (by omega) (by omega)]; omega), gR_ok (x := some v) s1 (by simp) rfl, rc_ok s1 (by simp), gR_ok (x := some v) s1 (by simp) rfl, len_ok s2 (by simp), lab_len, s4, gI_ok (x := 0) s1 (by simp) rfl, gI_ok (x := 0) s1 (by simp) rfl,
        sl0, sl0, zI_sub, show (2 : Int32) = zI 2 by decide, zI_add, C_newLength (by omega) (by omega) (by omega) (by omega) (by omega) (by omega) (by omega), cl_some, hN, if_neg n0, gI_ok (x := 0) s1 (by simp) rfl, sh0, cl_some, gI_ok (x := 0) s1 (by simp) rfl, sl0]
      unfold mf_J18_copyOf
      rw [len_ok s2 (by simp), lab_len, s4, if_neg (show ¬ zI N = zI cap by rw [zI_inj (by omega) (by omega) (by omega) (by omega)]; show ¬ ((2 * cap + 2 : Nat) : Int) = cap; omega), nwa_ok (by omega) (by omega) (by rw [Int.toNat_natCast]; show 2 * cap + 2 + 1 ≤ _; omega), Int.toNat_natCast]
      show xm_cl (xm_len [101] (some v) h1 _) _ = _
      rw [len_ok e1v (by simp), lab_len, s4, C_min (by omega) (by omega) (by omega) (by omega), cl_some, show min (cap : Int) (N : Int) = cap by show min (cap : Int) ((2 * cap + 2 : Nat) : Int) = cap; omega, show (0 : Int32) = zI 0 from rfl]
      show xm_cl (xm_cpy [101] [101] (fits .byte) (some v) (zI 0) (some h.2.2.1) (zI 0) (zI cap) h1 _) _ = _
      rw [cpy_ok (by omega) (by omega) (by omega) (by omega) (by omega) (by omega) e1v e1n (by simp) (by simp) (by rw [Int.toNat_natCast, lab_len, s4]; show 0 + cap ≤ cap; omega) (by rw [Int.toNat_natCast, List.length_replicate]; show 0 + cap ≤ 2 * cap + 2; omega) (by
        rw [List.all_eq_true]
        intro z mz
        have mz := List.mem_of_mem_drop (List.mem_of_mem_take mz)
        obtain ⟨b, mb, rfl⟩ := List.mem_map.1 mz
        exact (byte_ok (s3 b mb).1 (s3 b mb).2).1), cl_some]
      show xm_pV [8] 0 (some a) _ (xk_set h1 h.2.2.1 (101, xk_cp (lab (cs ++ t)) (List.replicate N (.int 0)) 0 0 (cap : Int).toNat)) _ = _
      rw [Int.toNat_natCast, cp, pV_w (vs' := [.ref h.2.2.1, .int 0, .int mb, .int (zI cs.length)]) e2a (by simp) rfl]
    · show (if h.2.2.1 = a then _ else if h.2.2.1 = h.2.2.1 then _ else _) = _
      rw [if_neg ha.symm, if_pos rfl]
    · intro x mx
      rw [← List.append_assoc] at mx
      rcases List.mem_append.1 mx with mx | mx
      · exact s3 x mx
      · rw [List.eq_of_mem_replicate mx]; omega
    · rw [← List.append_assoc, List.length_append, s4, List.length_replicate]; show cap + (2 * cap + 2 - cap) = 2 * cap + 2; omega
    · show 2 * cap + 2 ≤ 1000; omega
    · show n ≤ 2 * cap + 2; omega
    · show cap ≤ 2 * cap + 2; omega
    · show 2 * cap + 2 ≤ 2 * M + 2; omega
theorem SB.latin (S : SB h a v cs cap) : mf_J5_isLatin1 (some a) h = some (true, h) := by
  obtain ⟨mb, t, s1, _⟩ := S
  unfold mf_J5_isLatin1
  rw [if_neg (by decide), gI_ok (x := 0) s1 (by simp) rfl, if_pos rfl]
theorem C_append (F : Fs h) (S : SB h a v cs cap) {M : Nat} (nM : cs.length + 1 ≤ M) (M4 : M ≤ 400) (cM : cap ≤ 2 * M + 2) (cr : 4 * M + 4 ≤ h.2.2.2 + 2 * cap) {x : Int} (x0 : 0 ≤ x) (x1 : x ≤ 127) :
    ∃ h' v' cap', mf_J6_append_2 (some a) (zI x) h = some (some a, h') ∧ Fx (fun b => b = a ∨ b = v) (2 * (cap' - cap)) h h' ∧ SB h' a v' (cs ++ [x]) cap' ∧ cap ≤ cap' ∧ cap' ≤ 2 * M + 2 ∧ (v' = v ∨ h.2.2.1 ≤ v') := by
  have hl := S.le
  obtain ⟨h1, v1, cap1, e1, X1, S1, n1, n2, n3, n4⟩ := C_ensure F S (n := cs.length + 1) (by omega) nM M4 cM cr
  have S10 := S1
  have s1 := S.choose_spec.choose_spec.1
  obtain ⟨mb, t, t1, t2, t3, t4, t5⟩ := S1
  obtain ⟨b1, b2, ⟨b3, b4⟩, b5⟩ := byte_ok x0 x1
  have av : a ≠ v1 := by rintro rfl; rw [t1] at t2; simp at t2
  obtain ⟨u, t', rfl⟩ : ∃ u t', t = u :: t' := by
    cases t with
    | nil => rw [List.append_nil] at t4; omega
    | cons u t' => exact ⟨u, t', rfl⟩
  let h2 := xk_set h1 a (8, [.ref v1, .int 0, .int mb, .int (zI (cs.length + 1 : Nat))])
  have e2v : h2.1 v1 = (101, lab (cs ++ u :: t')) := by show (if v1 = a then _ else _) = _; rw [if_neg av.symm]; exact t2
  have X2 : Fx (fun b => b = a ∨ b = v) (2 * (cap1 - cap)) h h2 := (X1.mono (fun _ => Or.inl) (Nat.le_refl _)).set' t1 (by simp) fun _ => Or.inl rfl
  let h3 := xk_set h2 v1 (101, lab (cs ++ x :: t'))
  have X3 : Fx (fun b => b = a ∨ b = v) (2 * (cap1 - cap)) h h3 := X2.set' e2v (by simp) fun z => by
    rcases n4 with n4 | n4
    · exact Or.inr n4
    · omega
  have hset : (lab (cs ++ u :: t')).set cs.length (.int (zI x)) = lab (cs ++ x :: t') := by
    unfold lab
    rw [List.map_append, List.set_append_right _ _ (by simp), List.length_map, Nat.sub_self, List.map_cons, List.set_cons_zero, List.map_append, List.map_cons]
  have cap3 : (cs ++ x :: t').length = cap1 := by rw [← t4]; simp
  refine ⟨h3, v1, cap1, ?_, X3, ⟨mb, t', ?_, ?_, ?_, ?_, t5⟩, n2, n3, n4⟩
  · unfold mf_J6_append_2 mf_J5_append_2
    rw [S.rc, gI_ok (x := zI cs.length) s1 (by simp) rfl, S.rc, show (1 : Int32) = zI 1 by decide, zI_add, show ((cs.length : Int) + 1) = (cs.length + 1 : Nat) by omega, e1, cl_some, S10.rc, S10.latin, cl_some, if_neg (by decide)]
    unfold mf_J19_canEncode
    rw [if_neg (show ¬ (255 : Int32) < zI x by rw [show (255 : Int32) = zI 255 by decide, zI_lt (by omega) (by omega) (by omega) (by omega)]; omega), cl_some, if_neg (by decide), gR_ok (x := some v1) t1 (by simp) rfl, gI_ok (x := zI cs.length) t1 (by simp) rfl, zI_add, show ((cs.length : Int) + 1) = (cs.length + 1 : Nat) by omega,
      pV_w (vs' := [.ref v1, .int 0, .int mb, .int (zI (cs.length + 1 : Nat))]) t1 (by simp) rfl, b4]
    show xm_cl (xm_sV [101] (some v1) (zI cs.length) _ h2 _) _ = _
    rw [sV_ok (by omega) (by omega) e2v (by simp) (by rw [Int.toNat_natCast, lab_len]; simp), cl_some]
    show some (some a, xk_set h2 v1 (101, (lab (cs ++ u :: t')).set (cs.length : Int).toNat _)) = _
    rw [Int.toNat_natCast, hset]
  · show (if a = v1 then _ else if a = a then _ else _) = _
    rw [if_neg av, if_pos rfl, List.length_append]; rfl
  · show (if v1 = v1 then _ else _) = _
    rw [if_pos rfl, List.append_assoc]; rfl
  · intro z mz
    rw [List.append_assoc] at mz
    rcases List.mem_append.1 mz with mz | mz
    · exact t3 z (List.mem_append_left _ mz)
    · rcases List.mem_cons.1 mz with rfl | mz
      · exact ⟨x0, x1⟩
      · exact t3 z (List.mem_append_right _ (List.mem_cons_of_mem _ mz))
  · rw [List.append_assoc]; exact cap3
end
