/-! PURE LAW, the class's yards in the heap -/
set_option maxRecDepth 10000
section
variable {γ : Type}
theorem inst_ok {ty tn : List Nat} {a : Nat} {h : xk_H} {o : xk_O} {κ : Int32 → Option γ} (e : h.1 a = o) (m : o.1 ∈ ty) : xm_inst ty tn (some a) h κ = κ 1 := by
  unfold xm_inst; simp only [e, if_pos m]
end
section
variable {w : Nat → Nat × Nat} {K : KD} {h : xk_H} {l e : Nat} {o : Nat × Nat} {js : List Nat} {m : Int32}
theorem C_equals (G : Gd K h) {j k : Nat} (hj : j < 128) (hk : k < 128) : mf_J22_equals (some (iad K j)) (some (iad K k)) h = some (decide (j = k), h) := by
  unfold mf_J22_equals
  rw [inst_ok (G.ad hk) (by simp), if_neg (by decide), gI_ok (x := zI j) (G.ad hj) (by simp) rfl, cast_ok (G.ad hk) (by simp), rc_ok (G.ad hk) (by simp), C_intValue G hk, cl_some]
  by_cases q : j = k
  · subst q; rw [if_pos rfl, decide_eq_true rfl]
  · rw [if_neg (by rw [zI_inj (by omega) (by omega) (by omega) (by omega)]; omega), decide_eq_false q]
theorem C_indexOf_L42 (G : Gd K h) (L : LA w K h l o (js.map (iad K)) m e) (b : ∀ x ∈ js, x < 128) {j : Nat} (hj : j ∈ js) : ∀ (n i f : Nat), i + n = js.idxOf j → n < f → mf_J2_indexOfRange_L42 (some (iad K j)) (zI js.length) (some e) f (zI i) h = some (zI (js.idxOf j), h)
  | n, i, 0, _, hf => absurd hf (Nat.not_lt_zero _)
  | n, i, f + 1, hi, hf => by
    have lx := L.len G
    rw [List.length_map] at lx
    have il := List.idxOf_lt_length_of_mem hj
    have hi' : i < js.length := by omega
    unfold mf_J2_indexOfRange_L42
    have gx : (js.map (iad K))[i]? = some (iad K js[i]) := by rw [List.getElem?_map, List.getElem?_eq_getElem hi']; rfl
    rw [if_neg (by rw [zI_le (by omega) (by omega) (by omega) (by omega)]; omega), L.get G gx, rc_ok (G.ad (b j hj)) (by simp), C_equals G (b j hj) (b _ (List.getElem_mem hi')), cl_some]
    have ix : js[js.idxOf j] = j := List.getElem_idxOf il
    cases n with
    | zero =>
      have e0 : i = js.idxOf j := by omega
      subst e0
      rw [ix, decide_eq_true rfl, if_neg (by decide)]
    | succ n =>
      have ne : j ≠ js[i] := fun q => by
        have := List.not_of_lt_findIdx (p := (· == j)) (xs := js) (i := i) (show i < js.idxOf j by omega)
        simp [← q] at this
      rw [decide_eq_false ne, if_pos (by decide), show (1 : Int32) = zI 1 by decide, zI_add, show (i : Int) + 1 = (i + 1 : Nat) by omega]
      exact C_indexOf_L42 G L b hj n (i + 1) f (by omega) (by omega)
theorem C_indexOf (G : Gd K h) (L : LA w K h l o (js.map (iad K)) m e) (b : ∀ x ∈ js, x < 128) {j : Nat} (hj : j ∈ js) : mf_J2_indexOf (some l) (some (iad K j)) h = some (zI (js.idxOf j), h) := by
  have lx := L.len G
  rw [List.length_map] at lx
  have il := List.idxOf_lt_length_of_mem hj
  unfold mf_J2_indexOf mf_J2_indexOfRange
  rw [gI_ok (x := zI js.length) L.1 (by simp) (by rw [List.length_map]; rfl), rc_ok L.1 (by simp), gR_ok (x := some e) L.1 (by simp) rfl, if_neg (by simp), show (0 : Int32) = zI ((0 : Nat) : Int) from rfl, C_indexOf_L42 G L b hj (js.idxOf j) 0 xk_fu (by omega) (fu_lt (by omega)), cl_some]
end
/-- where a yard lies: the Yard, its list of crates, the crates, their labels, their piles -/
abbrev LD : Type := Nat × Nat × (Nat → Nat) × (Nat → Nat) × (Nat → Nat)
def Ly (L : LD) : Nat := L.1
def Ll (L : LD) : Nat := L.2.1
def Lc (L : LD) (k : Nat) : Nat := L.2.2.1 k
def Lb (L : LD) (k : Nat) : Nat := L.2.2.2.1 k
def Lp (L : LD) (k : Nat) : Nat := L.2.2.2.2 k
def lab (l : List Int) : List Value := l.map fun x => .int (zI x)
/-- a crate's own object, label and pile -/
def CA (w : Nat → Nat × Nat) (K : KD) (h : xk_H) (o : Nat × Nat) (c b p : Nat) (f : Nat → Int) (l : List Int) (js : List Nat) : Prop :=
  h.1 c = (3, [.int (zI (f 0)), .int (zI (f 1)), .int (zI (f 2)), .ref b, .int (zI (f 3)), .ref p]) ∧ w c = o ∧ (h.1 b = (100, lab l) ∧ (w b).1 = 0) ∧ ∃ m e, LA w K h p o (js.map (iad K)) m e
/-- the yard y lies at L -/
def YA (w : Nat → Nat × Nat) (K : KD) (h : xk_H) (L : LD) (y : YD) : Prop :=
  h.1 (Ly L) = (1, [.ref (Ll L), .int (zI (yr y))]) ∧ w (Ly L) = (Ly L + 2, 0) ∧ (∃ m e, LA w K h (Ll L) (Ly L + 2, 0) ((ys y).map (Lc L)) m e) ∧
  ∀ k, k < yn y → CA w K h (Ly L + 2, k + 1) (Lc L k) (Lb L k) (Lp L k) (fun i => yf y i k) (yl y k) (yp y k)
section
variable {γ : Type} {w : Nat → Nat × Nat} {K : KD} {h : xk_H} {L : LD} {y : YD} {c : Nat}
theorem Y_rc (Y : YA w K h L y) {κ : Option γ} : xm_rc [1] (some (Ly L)) h κ = κ := rc_ok Y.1 (by simp)
theorem Y_size (Y : YA w K h L y) : mf_X1_size (some (Ly L)) h = some (zI (yn y), h) := by
  obtain ⟨m, e, l⟩ := Y.2.2.1
  unfold mf_X1_size
  rw [gR_ok (x := some (Ll L)) Y.1 (by simp) rfl, rc_ok l.1 (by simp), C_size l, cl_some]
  simp
theorem Y_at (G : Gd K h) (Y : YA w K h L y) (hc : c < yn y) : mf_X1_at (some (Ly L)) (zI c) h = some (some (Lc L c), h) := by
  obtain ⟨m, e, l⟩ := Y.2.2.1
  unfold mf_X1_at
  rw [gR_ok (x := some (Ll L)) Y.1 (by simp) rfl, rc_ok l.1 (by simp), C_get G l (x := Lc L c) (by rw [List.getElem?_map, List.getElem?_range hc]; rfl), cl_some, cast_ok (Y.2.2.2 c hc).1 (by simp)]
theorem Y_crc (Y : YA w K h L y) (hc : c < yn y) {κ : Option γ} : xm_rc [3] (some (Lc L c)) h κ = κ := rc_ok (Y.2.2.2 c hc).1 (by simp)
theorem Y_g0 (Y : YA w K h L y) (hc : c < yn y) {κ : Int32 → Option γ} : xm_gI [3] 0 (some (Lc L c)) h κ = κ (zI (yf y 0 c)) := gI_ok (Y.2.2.2 c hc).1 (by simp) rfl
theorem Y_g1 (Y : YA w K h L y) (hc : c < yn y) {κ : Int32 → Option γ} : xm_gI [3] 1 (some (Lc L c)) h κ = κ (zI (yf y 1 c)) := gI_ok (Y.2.2.2 c hc).1 (by simp) rfl
theorem Y_g2 (Y : YA w K h L y) (hc : c < yn y) {κ : Int32 → Option γ} : xm_gI [3] 2 (some (Lc L c)) h κ = κ (zI (yf y 2 c)) := gI_ok (Y.2.2.2 c hc).1 (by simp) rfl
theorem Y_g4 (Y : YA w K h L y) (hc : c < yn y) {κ : Int32 → Option γ} : xm_gI [3] 4 (some (Lc L c)) h κ = κ (zI (yf y 3 c)) := gI_ok (Y.2.2.2 c hc).1 (by simp) rfl
theorem Y_gL (Y : YA w K h L y) (hc : c < yn y) {κ : Option Nat → Option γ} : xm_gR [3] 3 (some (Lc L c)) h κ = κ (some (Lb L c)) := gR_ok (x := some (Lb L c)) (Y.2.2.2 c hc).1 (by simp) rfl
theorem Y_gP (Y : YA w K h L y) (hc : c < yn y) {κ : Option Nat → Option γ} : xm_gR [3] 5 (some (Lc L c)) h κ = κ (some (Lp L c)) := gR_ok (x := some (Lp L c)) (Y.2.2.2 c hc).1 (by simp) rfl
theorem Y_prc (Y : YA w K h L y) (hc : c < yn y) {κ : Option γ} : xm_rc [6] (some (Lp L c)) h κ = κ := by
  obtain ⟨m, e, l⟩ := (Y.2.2.2 c hc).2.2.2
  exact rc_ok l.1 (by simp)
theorem Y_psz (Y : YA w K h L y) (hc : c < yn y) : mf_J2_size (some (Lp L c)) h = some (zI (yp y c).length, h) := by
  obtain ⟨m, e, l⟩ := (Y.2.2.2 c hc).2.2.2
  rw [C_size l, List.length_map]
theorem Y_pem (G : Gd K h) (Y : YA w K h L y) (hc : c < yn y) : mf_J2_isEmpty (some (Lp L c)) h = some (decide ((yp y c).length = 0), h) := by
  obtain ⟨m, e, l⟩ := (Y.2.2.2 c hc).2.2.2
  rw [C_isEmpty G l]
  cases yp y c <;> rfl
theorem Y_pget (G : Gd K h) (Y : YA w K h L y) (hc : c < yn y) {k x : Nat} (q : (yp y c)[k]? = some x) : mf_J2_get (some (Lp L c)) (zI k) h = some (some (iad K x), h) := by
  obtain ⟨m, e, l⟩ := (Y.2.2.2 c hc).2.2.2
  exact C_get G l (by rw [List.getElem?_map, q]; rfl)
theorem Y_blen (Y : YA w K h L y) (hc : c < yn y) {κ : Int32 → Option γ} : xm_len [100] (some (Lb L c)) h κ = κ (zI (yl y c).length) := by
  rw [len_ok (Y.2.2.2 c hc).2.2.1.1 (by simp)]
  unfold lab; simp
theorem Y_bget (Y : YA w K h L y) (hc : c < yn y) {p : Nat} {x : Int} (q : (yl y c)[p]? = some x) (hp : p < 1000) {κ : Int32 → Option γ} : xm_lI [100] (some (Lb L c)) (zI p) h κ = κ (zI x) := by
  refine lI_ok (by omega) (by omega) (Y.2.2.2 c hc).2.2.1.1 (by simp) ?_
  rw [Int.toNat_natCast]; unfold lab; rw [List.getElem?_map, q]; rfl
theorem Y_gnd (G : Gd K h) (Y : YA w K h L y) (O : YOk y) (hc : c < yn y) : mf_X1_isOnGround (some (Ly L)) (zI c) h = some (decide (yf y 3 c < 0), h) := by
  have hH := O.ho hc
  have hn := O.n
  unfold mf_X1_isOnGround
  rw [show (-1 : Int32) = zI (-1) by decide]
  simp (disch := first | assumption | decide | omega | (simp only [aSz]; omega)) only [Y_rc Y, Y_at G Y, Y_crc Y, Y_g0 Y, Y_g1 Y, Y_g2 Y, Y_g4 Y, Y_gL Y, Y_gP Y, Y_prc Y, Y_psz Y, Y_pem G Y, Y_size Y, zI_lit, zI_add, zI_sub, zI_mul, zI_neg, b2_0z, cl_some, zI_inj]
  by_cases q : yf y 3 c = -1
  · rw [if_pos q, decide_eq_true (by omega)]
  · rw [if_neg q, decide_eq_false (by omega)]
end
