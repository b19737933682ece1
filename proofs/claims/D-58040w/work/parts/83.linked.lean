/-! PURE LAW, LinkedList -/
set_option maxRecDepth 10000
/-- a node's object -/
def ndO (n : Nat) (nd it : Nat → Nat) (i : Nat) : xk_O := (10, [.ref (it i), va_rf (if i + 1 < n then some (nd (i + 1)) else none), va_rf (if i = 0 then none else some (nd (i - 1)))])
/-- at l lies a LinkedList of the objects its -/
def LL (w : Nat → Nat × Nat) (h : xk_H) (l n : Nat) (it : Nat → Nat) : Prop := ∃ (m : Int32) (nd : Nat → Nat),
  h.1 l = (7, [.int m, .int (zI n), va_rf (if n = 0 then none else some (nd 0)), va_rf (if n = 0 then none else some (nd (n - 1)))]) ∧ w l = (1, 1) ∧ n ≤ 4 ∧
  (∀ i, i < n → h.1 (nd i) = ndO n nd it i ∧ w (nd i) = (1, 1)) ∧ ∀ i, i < n → ∀ j, j < n → nd i = nd j → i = j
section
variable {w w' : Nat → Nat × Nat} {h h' : xk_H} {l n x cr : Nat} {it it' : Nat → Nat} {Q : Nat → Prop}
theorem LL.n4 (A : LL w h l n it) : n ≤ 4 := by obtain ⟨m, nd, a1, a2, a3, _⟩ := A; exact a3
theorem LL.fx (F : Fs h) (A : LL w h l n it) (x : Fx Q cr h h') (q : ∀ a, Q a → w a ≠ (1, 1)) : LL w h' l n it := by
  obtain ⟨m, nd, a1, a2, a3, a4, a5⟩ := A
  exact ⟨m, nd, x.get F a1 (by simp) (Or.inr fun z => q _ z a2), a2, a3, fun i hi => ⟨x.get F (a4 i hi).1 (by unfold ndO; simp) (Or.inr fun z => q _ z (a4 i hi).2), (a4 i hi).2⟩, a5⟩
theorem LL.wx (F : Fs h) (A : LL w h l n it) (x : ∀ a, a < h.2.2.1 → w a = (1, 1) → w' a = (1, 1)) : LL w' h l n it := by
  obtain ⟨m, nd, a1, a2, a3, a4, a5⟩ := A
  exact ⟨m, nd, a1, x _ (F.lt a1 (by simp)) a2, a3, fun i hi => ⟨(a4 i hi).1, x _ (F.lt (a4 i hi).1 (by unfold ndO; simp)) (a4 i hi).2⟩, a5⟩
theorem LL.both (F : Fs h) (A : LL w h l n it) (x : Fx Q cr h h') (q : ∀ a, Q a → w a ≠ (1, 1)) (v : ∀ a, a < h.2.2.1 → w a = (1, 1) → w' a = (1, 1)) : LL w' h' l n it := by
  obtain ⟨m, nd, a1, a2, a3, a4, a5⟩ := A
  exact ⟨m, nd, x.get F a1 (by simp) (Or.inr fun z => q _ z a2), v _ (F.lt a1 (by simp)) a2, a3, fun i hi => ⟨x.get F (a4 i hi).1 (by unfold ndO; simp) (Or.inr fun z => q _ z (a4 i hi).2), v _ (F.lt (a4 i hi).1 (by unfold ndO; simp)) (a4 i hi).2⟩, a5⟩
theorem LL.rc (A : LL w h l n it) {γ : Type} {κ : Option γ} : xm_rc [7] (some l) h κ = κ := by
  obtain ⟨m, nd, a1, _⟩ := A
  exact rc_ok a1 (by simp)
theorem L_size (A : LL w h l n it) : mf_J4_size (some l) h = some (zI n, h) := by
  obtain ⟨m, nd, a1, _⟩ := A
  exact gI_ok a1 (by simp) rfl
theorem L_isEmpty (A : LL w h l n it) : mf_J0_isEmpty (some l) h = some (decide (n = 0), h) := by
  have h4 := A.n4
  unfold mf_J0_isEmpty
  rw [A.rc, L_size A, cl_some]
  by_cases q : n = 0
  · subst q; rw [if_pos (by decide)]; rfl
  · rw [if_neg (by rw [show (0 : Int32) = zI 0 by decide, zI_inj (by omega) (by omega) (by omega) (by omega)]; omega), decide_eq_false q]
theorem L_addLast (F : Fs h) (A : LL w h l n it) (n3 : n ≤ 3) (c4 : 4 ≤ h.2.2.2) : ∃ h', mf_J4_addLast (some l) (some x) h = some ((), h') ∧ Fx (fun a => w a = (1, 1)) 4 h h' ∧ LL (wN w h (1, 1)) h' l (n + 1) (fun i => if i = n then x else it i) := by
  have A0 := A
  obtain ⟨m, nd, a1, a2, a3, a4, a5⟩ := A
  let b := h.2.2.1
  let la : Option Nat := if n = 0 then none else some (nd (n - 1))
  let fi : Option Nat := if n = 0 then none else some (nd 0)
  let h1 := xk_push h (10, [.null, .null, .null])
  have x1 : Fx (fun a => w a = (1, 1)) 4 h h1 := (Fx.push F _).le (by decide)
  have e1 : h1.1 b = (10, [.null, .null, .null]) := if_pos rfl
  let h2 := xk_set h1 b (10, [.ref x, .null, .null])
  have e2 : h2.1 b = (10, [.ref x, .null, .null]) := if_pos rfl
  let h3 := xk_set h2 b (10, [.ref x, .null, .null])
  have e3 : h3.1 b = (10, [.ref x, .null, .null]) := if_pos rfl
  let h4 := xk_set h3 b (10, [.ref x, .null, va_rf la])
  have e4 : h4.1 b = (10, [.ref x, .null, va_rf la]) := if_pos rfl
  have nw : b < h.2.2.1 → w b = (1, 1) := fun q => absurd q (Nat.lt_irrefl _)
  have x4 : Fx (fun a => w a = (1, 1)) 4 h h4 := ((x1.set' e1 (by simp) nw).set' e2 (by simp) nw).set' e3 (by simp) nw
  have old : ∀ {a : Nat} {o : xk_O}, h.1 a = o → o.1 ≠ 999 → a ≠ b ∧ h4.1 a = o := fun {a o} q t => by
    have ne : a ≠ b := Nat.ne_of_lt (F.lt q t)
    refine ⟨ne, ?_⟩
    show (if a = b then _ else if a = b then _ else if a = b then _ else if a = b then _ else h.1 a) = o
    rw [if_neg ne, if_neg ne, if_neg ne, if_neg ne]; exact q
  obtain ⟨lb, l4⟩ := old a1 (by simp)
  let h5 := xk_set h4 l (7, [.int m, .int (zI n), va_rf fi, .ref b])
  have x5 : Fx (fun a => w a = (1, 1)) 4 h h5 := x4.set' l4 (by simp) fun _ => a2
  have e5 : h5.1 l = (7, [.int m, .int (zI n), va_rf fi, .ref b]) := if_pos rfl
  have hd : mf_J4_addLast (some l) (some x) h = xm_cl (if la = none then (xm_pV [7] 2 (some l) (va_rf (some b)) h5 fun h12 => mf_J4_linkLast_J38 (some l) h12) else (xm_pV [10] 1 la (va_rf (some b)) h5 fun h7 => mf_J4_linkLast_J38 (some l) h7)) fun r1 h2 => some ((), h2) := by
    unfold mf_J4_addLast mf_J4_linkLast mf_J20_init
    rw [A0.rc, gR_ok (x := la) a1 (by simp) rfl, new_ok (show [Value.null, Value.null, Value.null].length + 1 ≤ h.2.2.2 from c4)]
    show xm_cl (xm_cl (xm_pV [10] 0 (some b) (va_rf (some x)) h1 _) _) _ = _
    rw [pV_w (vs' := [.ref x, .null, .null]) e1 (by simp) rfl]
    show xm_cl (xm_cl (xm_pV [10] 1 (some b) (va_rf none) h2 _) _) _ = _
    rw [pV_w (vs' := [.ref x, .null, .null]) e2 (by simp) rfl]
    show xm_cl (xm_cl (xm_pV [10] 2 (some b) (va_rf la) h3 _) _) _ = _
    rw [pV_w (vs' := [.ref x, .null, va_rf la]) e3 (by simp) rfl, cl_some]
    show xm_cl (xm_pV [7] 3 (some l) (va_rf (some b)) h4 _) _ = _
    rw [pV_w (vs' := [.int m, .int (zI n), va_rf fi, .ref b]) l4 (by simp) rfl]
  rw [hd]
  -- the end: size and count
  have fin : ∀ (g : xk_H) (fv : Option Nat), g.1 l = (7, [.int m, .int (zI n), va_rf fv, .ref b]) → Fx (fun a => w a = (1, 1)) 4 h g → ∃ g', mf_J4_linkLast_J38 (some l) g = some ((), g') ∧ Fx (fun a => w a = (1, 1)) 4 h g' ∧ g'.1 l = (7, [.int (m + 1), .int (zI (n + 1 : Nat)), va_rf fv, .ref b]) ∧ ∀ a, a ≠ l → g'.1 a = g.1 a := by
    intro g fv gl xg
    let g1 := xk_set g l (7, [.int m, .int (zI (n + 1 : Nat)), va_rf fv, .ref b])
    have k1 : g1.1 l = (7, [.int m, .int (zI (n + 1 : Nat)), va_rf fv, .ref b]) := if_pos rfl
    refine ⟨xk_set g1 l (7, [.int (m + 1), .int (zI (n + 1 : Nat)), va_rf fv, .ref b]), ?_, (xg.set' gl (by simp) fun _ => a2).set' k1 (by simp) fun _ => a2, if_pos rfl, fun a ne => by rw [set_1, if_neg ne]; exact if_neg ne⟩
    unfold mf_J4_linkLast_J38
    rw [gI_ok (x := zI n) gl (by simp) rfl, show (1 : Int32) = zI 1 by decide, zI_add, show (n : Int) + 1 = (n + 1 : Nat) by omega, pV_w (vs' := [.int m, .int (zI (n + 1 : Nat)), va_rf fv, .ref b]) gl (by simp) rfl]
    show xm_gI [7] 0 (some l) g1 _ = _
    rw [gI_ok (x := m) k1 (by simp) rfl, pV_w (vs' := [.int (m + 1), .int (zI (n + 1 : Nat)), va_rf fv, .ref b]) k1 (by simp) rfl]
    rfl
  have e5b : h5.1 b = (10, [.ref x, .null, va_rf la]) := (if_neg lb.symm).trans e4
  have wl : wN w h (1, 1) l = (1, 1) := (wN_x w h (1, 1) l (F.lt a1 (by simp))).trans a2
  have wb : wN w h (1, 1) b = (1, 1) := wN_n (Nat.le_refl _)
  by_cases q : n = 0
  · subst q
    rw [if_pos (show la = none from if_pos rfl), pV_w (vs' := [.int m, .int (zI 0), .ref b, .ref b]) e5 (by simp) rfl]
    let h6 := xk_set h5 l (7, [.int m, .int (zI 0), .ref b, .ref b])
    obtain ⟨g', f1, f2, f3, f4⟩ := fin h6 (some b) (if_pos rfl) (x5.set' e5 (by simp) fun _ => a2)
    refine ⟨g', by rw [show xk_set h5 l _ = h6 from rfl, f1, cl_some], f2, m + 1, fun _ => b, f3, wl, by omega, fun i hi => ⟨?_, wb⟩, fun i hi j hj _ => by omega⟩
    have : i = 0 := by omega
    subst this
    rw [f4 b lb.symm, show h6.1 b = h5.1 b from if_neg lb.symm, e5b]
    rfl
  · have la' : la = some (nd (n - 1)) := if_neg q
    have fi' : fi = some (nd 0) := if_neg q
    have z := (a4 (n - 1) (by omega)).1
    obtain ⟨nb, n4⟩ := old z (by unfold ndO; simp)
    have nl : nd (n - 1) ≠ l := by intro r; rw [r, a1] at z; unfold ndO at z; simp at z
    have n5 : h5.1 (nd (n - 1)) = (10, [.ref (it (n - 1)), .null, va_rf (if n - 1 = 0 then none else some (nd (n - 1 - 1)))]) := by
      refine (if_neg nl).trans (n4.trans ?_)
      unfold ndO
      rw [if_neg (show ¬ n - 1 + 1 < n by omega)]; rfl
    let h6 := xk_set h5 (nd (n - 1)) (10, [.ref (it (n - 1)), .ref b, va_rf (if n - 1 = 0 then none else some (nd (n - 1 - 1)))])
    have x6 : Fx (fun a => w a = (1, 1)) 4 h h6 := x5.set' n5 (by simp) fun _ => (a4 (n - 1) (by omega)).2
    rw [if_neg (by rw [la']; simp), la', pV_w (vs' := [.ref (it (n - 1)), .ref b, va_rf (if n - 1 = 0 then none else some (nd (n - 1 - 1)))]) n5 (by simp) rfl]
    obtain ⟨g', f1, f2, f3, f4⟩ := fin h6 fi ((if_neg nl.symm).trans e5) x6
    have ndb : ∀ i, i < n → nd i ≠ b := fun i hi => (old (a4 i hi).1 (by unfold ndO; simp)).1
    have ndl : ∀ i, i < n → nd i ≠ l := fun i hi r => by
      have z := (a4 i hi).1
      rw [r, a1] at z; unfold ndO at z; simp at z
    refine ⟨g', by rw [show xk_set h5 (nd (n - 1)) _ = h6 from rfl, f1, cl_some], f2, m + 1, fun i => if i = n then b else nd i, ?_, wl, by omega, fun i hi => ⟨?_, ?_⟩, fun i hi j hj e => ?_⟩
    · rw [f3, fi', if_neg (show ¬ n + 1 = 0 by omega), if_neg (show ¬ n + 1 = 0 by omega)]
      show ((7, [.int (m + 1), .int (zI (n + 1 : Nat)), va_rf (some (nd 0)), .ref b]) : xk_O) = (7, [.int (m + 1), .int (zI (n + 1 : Nat)), va_rf (some (if 0 = n then b else nd 0)), va_rf (some (if n + 1 - 1 = n then b else nd (n + 1 - 1)))])
      rw [if_neg (show ¬ 0 = n by omega), if_pos (show n + 1 - 1 = n by omega)]; rfl
    · show g'.1 (if i = n then b else nd i) = ndO (n + 1) (fun i => if i = n then b else nd i) (fun i => if i = n then x else it i) i
      by_cases r : i = n
      · subst r
        rw [if_pos rfl, f4 b lb.symm, show h6.1 b = h5.1 b from if_neg (ndb (i - 1) (by omega)).symm, e5b]
        unfold ndO
        simp only []
        rw [if_pos trivial, if_neg (show ¬ i + 1 < i + 1 by omega), if_neg q, if_neg (show ¬ i - 1 = i by omega), la']
        rfl
      · rw [if_neg r, f4 (nd i) (ndl i (by omega))]
        by_cases s : i = n - 1
        · subst s
          rw [show h6.1 (nd (n - 1)) = _ from if_pos rfl]
          unfold ndO
          simp only []
          rw [if_neg (show ¬ n - 1 = n by omega), if_pos (show n - 1 + 1 < n + 1 by omega), if_pos (show n - 1 + 1 = n by omega), if_neg (show ¬ n - 1 - 1 = n by omega)]
          rfl
        · rw [show h6.1 (nd i) = h5.1 (nd i) from if_neg fun e => s (a5 i (by omega) (n - 1) (by omega) e), show h5.1 (nd i) = h4.1 (nd i) from if_neg (ndl i (by omega)), (old (a4 i (by omega)).1 (by unfold ndO; simp)).2]
          unfold ndO
          simp only []
          rw [if_neg r, if_pos (show i + 1 < n by omega), if_pos (show i + 1 < n + 1 by omega), if_neg (show ¬ i + 1 = n by omega), if_neg (show ¬ i - 1 = n by omega)]
    · by_cases r : i = n
      · show wN w h (1, 1) (if i = n then b else nd i) = _
        rw [if_pos r]; exact wb
      · show wN w h (1, 1) (if i = n then b else nd i) = _
        rw [if_neg r, wN_x w h (1, 1) _ (F.lt (a4 i (by omega)).1 (by unfold ndO; simp))]; exact (a4 i (by omega)).2
    · simp only [] at e
      by_cases r : i = n
      · by_cases s : j = n
        · omega
        · rw [if_pos r, if_neg s] at e; exact absurd e.symm (ndb j (by omega))
      · by_cases s : j = n
        · rw [if_neg r, if_pos s] at e; exact absurd e (ndb i (by omega))
        · rw [if_neg r, if_neg s] at e; exact a5 i (by omega) j (by omega) e
end
