/-! PURE LAW, LinkedList: removing -/
set_option maxRecDepth 10000
section
variable {w : Nat → Nat × Nat} {h h' : xk_H} {l n : Nat} {it : Nat → Nat}
/-- the ends of both removals: size and count -/
theorem L_end (F : Fs h) (X : Fx (fun a => w a = (1, 1)) 0 h h') (wl : w l = (1, 1)) {m : Int32} {f g : Option Nat} (e : h'.1 l = (7, [.int m, .int (zI n), va_rf f, va_rf g])) (n1 : 0 < n) (r : Option Nat) :
    ∃ g', (mf_J4_unlinkFirst_J42 (some l) r h' = some (r, g') ∧ mf_J4_unlinkLast_J42 (some l) r h' = some (r, g')) ∧ Fx (fun a => w a = (1, 1)) 0 h g' ∧ g'.1 l = (7, [.int (m + 1), .int (zI (n - 1 : Nat)), va_rf f, va_rf g]) ∧ ∀ a, a ≠ l → g'.1 a = h'.1 a := by
  let g1 := xk_set h' l (7, [.int m, .int (zI (n - 1 : Nat)), va_rf f, va_rf g])
  have k1 : g1.1 l = (7, [.int m, .int (zI (n - 1 : Nat)), va_rf f, va_rf g]) := if_pos rfl
  refine ⟨xk_set g1 l (7, [.int (m + 1), .int (zI (n - 1 : Nat)), va_rf f, va_rf g]), ⟨?_, ?_⟩, (X.set' e (by simp) fun _ => wl).set' k1 (by simp) fun _ => wl, if_pos rfl, fun a ne => by rw [set_1, if_neg ne]; exact if_neg ne⟩
  · unfold mf_J4_unlinkFirst_J42
    rw [gI_ok (x := zI n) e (by simp) rfl, show (1 : Int32) = zI 1 by decide, zI_sub, show (n : Int) - 1 = (n - 1 : Nat) by omega, pV_w (vs' := [.int m, .int (zI (n - 1 : Nat)), va_rf f, va_rf g]) e (by simp) rfl]
    show xm_gI [7] 0 (some l) g1 _ = _
    rw [gI_ok (x := m) k1 (by simp) rfl, pV_w (vs' := [.int (m + 1), .int (zI (n - 1 : Nat)), va_rf f, va_rf g]) k1 (by simp) rfl]
    rfl
  · unfold mf_J4_unlinkLast_J42
    rw [gI_ok (x := zI n) e (by simp) rfl, show (1 : Int32) = zI 1 by decide, zI_sub, show (n : Int) - 1 = (n - 1 : Nat) by omega, pV_w (vs' := [.int m, .int (zI (n - 1 : Nat)), va_rf f, va_rf g]) e (by simp) rfl]
    show xm_gI [7] 0 (some l) g1 _ = _
    rw [gI_ok (x := m) k1 (by simp) rfl, pV_w (vs' := [.int (m + 1), .int (zI (n - 1 : Nat)), va_rf f, va_rf g]) k1 (by simp) rfl]
    rfl
theorem L_removeFirst (F : Fs h) (A : LL w h l n it) (n1 : 0 < n) : ∃ h', mf_J4_removeFirst (some l) h = some (some (it 0), h') ∧ Fx (fun a => w a = (1, 1)) 0 h h' ∧ LL w h' l (n - 1) (fun i => it (i + 1)) := by
  have A0 := A
  obtain ⟨m, nd, a1, a2, a3, a4, a5⟩ := A
  rw [if_neg (by omega), if_neg (by omega)] at a1
  obtain ⟨z0, w0⟩ := a4 0 (by omega)
  let nx : Option Nat := if 0 + 1 < n then some (nd (0 + 1)) else none
  have z0 : h.1 (nd 0) = (10, [.ref (it 0), va_rf nx, .null]) := z0
  have ndl : ∀ i, i < n → nd i ≠ l := fun i hi r => by
    have z := (a4 i hi).1
    rw [r, a1] at z; unfold ndO at z; simp at z
  have x0 : Fx (fun a => w a = (1, 1)) 0 h h := Fx.rfl F
  let h1 := xk_set h (nd 0) (10, [.null, va_rf nx, .null])
  have e1 : h1.1 (nd 0) = (10, [.null, va_rf nx, .null]) := if_pos rfl
  have x1 : Fx (fun a => w a = (1, 1)) 0 h h1 := x0.set' z0 (by simp) fun _ => w0
  let h2 := xk_set h1 (nd 0) (10, [.null, .null, .null])
  have x2 : Fx (fun a => w a = (1, 1)) 0 h h2 := x1.set' e1 (by simp) fun _ => w0
  have o2 : ∀ a, a ≠ nd 0 → h2.1 a = h.1 a := fun a ne => (if_neg ne).trans (if_neg ne)
  have e2 : h2.1 l = (7, [.int m, .int (zI n), .ref (nd 0), .ref (nd (n - 1))]) := (o2 l (ndl 0 (by omega)).symm).trans a1
  let h3 := xk_set h2 l (7, [.int m, .int (zI n), va_rf nx, .ref (nd (n - 1))])
  have e3 : h3.1 l = (7, [.int m, .int (zI n), va_rf nx, .ref (nd (n - 1))]) := if_pos rfl
  have x3 : Fx (fun a => w a = (1, 1)) 0 h h3 := x2.set' e2 (by simp) fun _ => a2
  have o3 : ∀ a, a ≠ nd 0 → a ≠ l → h3.1 a = h.1 a := fun a n0 nl => (if_neg nl).trans (o2 a n0)
  have hd : mf_J4_removeFirst (some l) h = xm_cl (if nx = none then (xm_pV [7] 3 (some l) (va_rf none) h3 fun h11 => mf_J4_unlinkFirst_J42 (some l) (some (it 0)) h11) else (xm_pV [10] 2 nx (va_rf none) h3 fun h6 => mf_J4_unlinkFirst_J42 (some l) (some (it 0)) h6)) fun r2 h3 => some (r2, h3) := by
    unfold mf_J4_removeFirst mf_J4_unlinkFirst
    rw [gR_ok (x := some (nd 0)) a1 (by simp) rfl, if_neg (by simp), A0.rc, gR_ok (x := some (it 0)) z0 (by simp) rfl, gR_ok (x := nx) z0 (by simp) rfl, pV_w (vs' := [.null, va_rf nx, .null]) z0 (by simp) rfl]
    show xm_cl (xm_pV [10] 1 (some (nd 0)) (va_rf none) h1 _) _ = _
    rw [pV_w (vs' := [.null, .null, .null]) e1 (by simp) rfl]
    show xm_cl (xm_pV [7] 2 (some l) (va_rf nx) h2 _) _ = _
    rw [pV_w (vs' := [.int m, .int (zI n), va_rf nx, .ref (nd (n - 1))]) e2 (by simp) rfl]
  rw [hd]
  by_cases q : n = 1
  · subst q
    rw [if_pos (show nx = none from rfl), pV_w (vs' := [.int m, .int (zI (1 : Nat)), va_rf none, va_rf none]) e3 (by simp) rfl]
    obtain ⟨g', ⟨f1, _⟩, f2, f3, f4⟩ := L_end F (l := l) (n := 1) (m := m) (f := none) (g := none) (x3.set' (o := (7, [.int m, .int (zI (1 : Nat)), va_rf none, va_rf none])) e3 (by simp) fun _ => a2) a2 (if_pos rfl) (by omega) (some (it 0))
    rw [f1, cl_some]
    exact ⟨g', rfl, f2, m + 1, nd, f3, a2, by omega, fun i hi => absurd hi (Nat.not_lt_zero _), fun i hi => absurd hi (Nat.not_lt_zero _)⟩
  · have nx1 : nx = some (nd 1) := if_pos (by omega)
    obtain ⟨z1, w1⟩ := a4 1 (by omega)
    have d01 : nd 1 ≠ nd 0 := fun e => by have := a5 1 (by omega) 0 (by omega) e; omega
    have e31 : h3.1 (nd 1) = ndO n nd it 1 := (o3 _ d01 (ndl 1 (by omega))).trans z1
    have x4 := x3.set' (o := (10, [.ref (it 1), va_rf (if 1 + 1 < n then some (nd (1 + 1)) else none), .null])) e31 (by unfold ndO; simp) fun _ => w1
    rw [if_neg (by rw [nx1]; simp), nx1, pV_w (vs' := [.ref (it 1), va_rf (if 1 + 1 < n then some (nd (1 + 1)) else none), .null]) e31 (by simp) rfl]
    obtain ⟨g', ⟨f1, _⟩, f2, f3, f4⟩ := L_end F (l := l) (n := n) (m := m) (f := nx) (g := some (nd (n - 1))) x4 a2 ((if_neg (ndl 1 (by omega)).symm).trans e3) (by omega) (some (it 0))
    rw [f1, cl_some]
    refine ⟨g', rfl, f2, m + 1, fun i => nd (i + 1), ?_, a2, by omega, fun i hi => ⟨?_, (a4 (i + 1) (by omega)).2⟩, fun i hi j hj e => by have := a5 (i + 1) (by omega) (j + 1) (by omega) e; omega⟩
    · rw [f3, nx1, if_neg (by omega), if_neg (by omega)]
      simp only []
      rw [show n - 1 - 1 + 1 = n - 1 by omega]
    · rw [f4 _ (ndl (i + 1) (by omega))]
      by_cases r : i = 0
      · subst r
        refine (if_pos rfl).trans ?_
        unfold ndO
        simp only []
        rw [if_pos trivial]
        by_cases s : 1 + 1 < n
        · rw [if_pos s, if_pos (show 0 + 1 < n - 1 by omega)]; rfl
        · rw [if_neg s, if_neg (show ¬ 0 + 1 < n - 1 by omega)]; rfl
      · refine (if_neg fun e => r (by have := a5 (i + 1) (by omega) 1 (by omega) e; omega)).trans ?_
        rw [o3 _ (fun e => by have := a5 (i + 1) (by omega) 0 (by omega) e; omega) (ndl (i + 1) (by omega)), (a4 (i + 1) (by omega)).1]
        unfold ndO
        simp only []
        rw [if_neg (show ¬ i + 1 = 0 by omega), if_neg r, show i - 1 + 1 = i by omega, Nat.add_sub_cancel]
        by_cases s : i + 1 + 1 < n
        · rw [if_pos s, if_pos (show i + 1 < n - 1 by omega)]
        · rw [if_neg s, if_neg (show ¬ i + 1 < n - 1 by omega)]
theorem L_removeLast (F : Fs h) (A : LL w h l n it) (n1 : 0 < n) : ∃ h', mf_J4_removeLast (some l) h = some (some (it (n - 1)), h') ∧ Fx (fun a => w a = (1, 1)) 0 h h' ∧ LL w h' l (n - 1) it := by
  have A0 := A
  obtain ⟨m, nd, a1, a2, a3, a4, a5⟩ := A
  rw [if_neg (by omega), if_neg (by omega)] at a1
  obtain ⟨z0, w0⟩ := a4 (n - 1) (by omega)
  let nx : Option Nat := if n - 1 = 0 then none else some (nd (n - 1 - 1))
  have z0 : h.1 (nd (n - 1)) = (10, [.ref (it (n - 1)), .null, va_rf nx]) := by
    rw [z0]; unfold ndO; rw [if_neg (show ¬ n - 1 + 1 < n by omega)]; rfl
  have ndl : ∀ i, i < n → nd i ≠ l := fun i hi r => by
    have z := (a4 i hi).1
    rw [r, a1] at z; unfold ndO at z; simp at z
  have x0 : Fx (fun a => w a = (1, 1)) 0 h h := Fx.rfl F
  let h1 := xk_set h (nd (n - 1)) (10, [.null, .null, va_rf nx])
  have e1 : h1.1 (nd (n - 1)) = (10, [.null, .null, va_rf nx]) := if_pos rfl
  have x1 : Fx (fun a => w a = (1, 1)) 0 h h1 := x0.set' z0 (by simp) fun _ => w0
  let h2 := xk_set h1 (nd (n - 1)) (10, [.null, .null, .null])
  have x2 : Fx (fun a => w a = (1, 1)) 0 h h2 := x1.set' e1 (by simp) fun _ => w0
  have o2 : ∀ a, a ≠ nd (n - 1) → h2.1 a = h.1 a := fun a ne => (if_neg ne).trans (if_neg ne)
  have e2 : h2.1 l = (7, [.int m, .int (zI n), .ref (nd 0), .ref (nd (n - 1))]) := (o2 l (ndl (n - 1) (by omega)).symm).trans a1
  let h3 := xk_set h2 l (7, [.int m, .int (zI n), .ref (nd 0), va_rf nx])
  have e3 : h3.1 l = (7, [.int m, .int (zI n), .ref (nd 0), va_rf nx]) := if_pos rfl
  have x3 : Fx (fun a => w a = (1, 1)) 0 h h3 := x2.set' e2 (by simp) fun _ => a2
  have o3 : ∀ a, a ≠ nd (n - 1) → a ≠ l → h3.1 a = h.1 a := fun a n0 nl => (if_neg nl).trans (o2 a n0)
  have hd : mf_J4_removeLast (some l) h = xm_cl (if nx = none then (xm_pV [7] 2 (some l) (va_rf none) h3 fun h11 => mf_J4_unlinkLast_J42 (some l) (some (it (n - 1))) h11) else (xm_pV [10] 1 nx (va_rf none) h3 fun h6 => mf_J4_unlinkLast_J42 (some l) (some (it (n - 1))) h6)) fun r2 h3 => some (r2, h3) := by
    unfold mf_J4_removeLast mf_J4_unlinkLast
    rw [gR_ok (x := some (nd (n - 1))) a1 (by simp) rfl, if_neg (by simp), A0.rc, gR_ok (x := some (it (n - 1))) z0 (by simp) rfl, gR_ok (x := nx) z0 (by simp) rfl, pV_w (vs' := [.null, .null, va_rf nx]) z0 (by simp) rfl]
    show xm_cl (xm_pV [10] 2 (some (nd (n - 1))) (va_rf none) h1 _) _ = _
    rw [pV_w (vs' := [.null, .null, .null]) e1 (by simp) rfl]
    show xm_cl (xm_pV [7] 3 (some l) (va_rf nx) h2 _) _ = _
    rw [pV_w (vs' := [.int m, .int (zI n), .ref (nd 0), va_rf nx]) e2 (by simp) rfl]
  rw [hd]
  by_cases q : n = 1
  · subst q
    rw [if_pos (show nx = none from rfl), pV_w (vs' := [.int m, .int (zI (1 : Nat)), va_rf none, va_rf none]) e3 (by simp) rfl]
    obtain ⟨g', ⟨_, f1⟩, f2, f3, f4⟩ := L_end F (l := l) (n := 1) (m := m) (f := none) (g := none) (x3.set' (o := (7, [.int m, .int (zI (1 : Nat)), va_rf none, va_rf none])) e3 (by simp) fun _ => a2) a2 (if_pos rfl) (by omega) (some (it (1 - 1)))
    rw [f1, cl_some]
    exact ⟨g', rfl, f2, m + 1, nd, f3, a2, by omega, fun i hi => absurd hi (Nat.not_lt_zero _), fun i hi => absurd hi (Nat.not_lt_zero _)⟩
  · have nx1 : nx = some (nd (n - 1 - 1)) := if_neg (by omega)
    obtain ⟨z1, w1⟩ := a4 (n - 1 - 1) (by omega)
    have d01 : nd (n - 1 - 1) ≠ nd (n - 1) := fun e => by have := a5 (n - 1 - 1) (by omega) (n - 1) (by omega) e; omega
    have e31 : h3.1 (nd (n - 1 - 1)) = ndO n nd it (n - 1 - 1) := (o3 _ d01 (ndl (n - 1 - 1) (by omega))).trans z1
    have x4 := x3.set' (o := (10, [.ref (it (n - 1 - 1)), .null, va_rf (if n - 1 - 1 = 0 then none else some (nd (n - 1 - 1 - 1)))])) e31 (by unfold ndO; simp) fun _ => w1
    rw [if_neg (by rw [nx1]; simp), nx1, pV_w (vs' := [.ref (it (n - 1 - 1)), .null, va_rf (if n - 1 - 1 = 0 then none else some (nd (n - 1 - 1 - 1)))]) e31 (by simp) rfl]
    obtain ⟨g', ⟨_, f1⟩, f2, f3, f4⟩ := L_end F (l := l) (n := n) (m := m) (f := some (nd 0)) (g := nx) x4 a2 ((if_neg (ndl (n - 1 - 1) (by omega)).symm).trans e3) (by omega) (some (it (n - 1)))
    rw [f1, cl_some]
    refine ⟨g', rfl, f2, m + 1, nd, ?_, a2, by omega, fun i hi => ⟨?_, (a4 i (by omega)).2⟩, fun i hi j hj e => a5 i (by omega) j (by omega) e⟩
    · rw [f3, nx1, if_neg (by omega), if_neg (by omega)]
    · rw [f4 _ (ndl i (by omega))]
      by_cases r : i = n - 1 - 1
      · subst r
        refine (if_pos rfl).trans ?_
        unfold ndO
        rw [if_neg (show ¬ n - 1 - 1 + 1 < n - 1 by omega)]; rfl
      · refine (if_neg fun e => r (a5 i (by omega) (n - 1 - 1) (by omega) e)).trans ?_
        rw [o3 _ (fun e => by have := a5 i (by omega) (n - 1) (by omega) e; omega) (ndl i (by omega)), (a4 i (by omega)).1]
        unfold ndO
        rw [if_pos (show i + 1 < n by omega), if_pos (show i + 1 < n - 1 by omega)]
end
