/-! PURE LAW, basics: ints out of whole numbers; what the passing-style primitives do -/
set_option maxRecDepth 10000
/-- the int of a whole number -/
def zI (z : Int) : Int32 := Int32.ofInt z
theorem zI_lit (n : Nat) : (OfNat.ofNat n : Int32) = zI (OfNat.ofNat n : Int) := by
  show Int32.ofNat n = Int32.ofInt (Int.ofNat n)
  exact (Int32.ofInt_eq_ofNat).symm
theorem nI_z (n : Nat) : nI n = zI (n : Int) := by
  show Int32.ofNat n = Int32.ofInt (Int.ofNat n)
  exact (Int32.ofInt_eq_ofNat).symm
theorem zI_add (a b : Int) : zI a + zI b = zI (a + b) := (Int32.ofInt_add a b).symm
theorem zI_sub (a b : Int) : zI a - zI b = zI (a - b) := (Int32.ofInt_sub a b).symm
theorem zI_mul (a b : Int) : zI a * zI b = zI (a * b) := (Int32.ofInt_mul a b).symm
theorem zI_neg (a : Int) : -zI a = zI (-a) := (Int32.ofInt_neg a).symm
theorem zI_toInt {a : Int} (h1 : -2147483648 ≤ a) (h2 : a ≤ 2147483647) : (zI a).toInt = a := by
  unfold zI
  rw [Int32.toInt_ofInt, Int.bmod_def]
  simp only [Int32.size]
  omega
theorem zI_inj {a b : Int} (h1 : -2147483648 ≤ a) (h2 : a ≤ 2147483647) (h3 : -2147483648 ≤ b) (h4 : b ≤ 2147483647) : (zI a = zI b) = (a = b) := by
  apply propext
  constructor
  · intro h
    have := congrArg Int32.toInt h
    rwa [zI_toInt h1 h2, zI_toInt h3 h4] at this
  · intro h; rw [h]
theorem zI_lt {a b : Int} (h1 : -2147483648 ≤ a) (h2 : a ≤ 2147483647) (h3 : -2147483648 ≤ b) (h4 : b ≤ 2147483647) : (zI a < zI b) = (a < b) := by
  rw [Int32.lt_iff_toInt_lt, zI_toInt h1 h2, zI_toInt h3 h4]
theorem zI_le {a b : Int} (h1 : -2147483648 ≤ a) (h2 : a ≤ 2147483647) (h3 : -2147483648 ≤ b) (h4 : b ≤ 2147483647) : (zI a ≤ zI b) = (a ≤ b) := by
  rw [Int32.le_iff_toInt_le, zI_toInt h1 h2, zI_toInt h3 h4]
theorem zI_nat {a : Int} (h1 : -2147483648 ≤ a) (h2 : a ≤ 2147483647) : (zI a).toNatClampNeg = a.toNat := by
  show (zI a).toInt.toNat = a.toNat
  rw [zI_toInt h1 h2]
theorem zI_of (x : Int32) : zI x.toInt = x := by unfold zI; exact Int32.ofInt_toInt x
theorem zI_div {a b : Int} (h1 : 0 ≤ a) (h2 : a ≤ 2147483647) (h3 : 0 < b) (h4 : b ≤ 2147483647) : zI a / zI b = zI (a / b) := by
  apply Int32.toInt_inj.1
  have e : (zI a / zI b).toInt = (zI a).toInt.tdiv (zI b).toInt := Int32.toInt_div_of_ne_right _ _ (by
    intro h
    have := congrArg Int32.toInt h
    rw [zI_toInt (by omega) h4] at this
    have e1 : (-1 : Int32).toInt = -1 := by decide
    omega)
  have q : 0 ≤ a / b := Int.ediv_nonneg h1 (by omega)
  have q2 : a / b ≤ a := Int.ediv_le_self b h1
  rw [e, zI_toInt (by omega) h2, zI_toInt (by omega) h4, zI_toInt (by omega) (by omega), Int.tdiv_eq_ediv_of_nonneg h1]
theorem b2_0 (b : Bool) : (xk_b2 b = 0) = (b = false) := by cases b <;> simp [xk_b2]
theorem b2_0z (b : Bool) : (xk_b2 b = zI 0) = (b = false) := by cases b <;> simp [xk_b2] <;> decide
/-! ## heaps -/
theorem set_1 (h : xk_H) (a j : Nat) (o : xk_O) : (xk_set h a o).1 j = if j = a then o else h.1 j := rfl
theorem set_2 (h : xk_H) (a : Nat) (o : xk_O) : (xk_set h a o).2 = h.2 := rfl
theorem push_1 (h : xk_H) (j : Nat) (o : xk_O) : (xk_push h o).1 j = if j = h.2.2.1 then o else h.1 j := rfl
theorem push_s (h : xk_H) (o : xk_O) : (xk_push h o).2.1 = h.2.1 := rfl
theorem push_n (h : xk_H) (o : xk_O) : (xk_push h o).2.2.1 = h.2.2.1 + 1 := rfl
theorem push_c (h : xk_H) (o : xk_O) : (xk_push h o).2.2.2 = h.2.2.2 - (o.2.length + 1) := rfl
section
variable {γ ρ : Type}
theorem cl_some (r : ρ) (h : xk_H) (κ : ρ → xk_H → Option γ) : xm_cl (some (r, h)) κ = κ r h := by unfold xm_cl; simp only
theorem rc_ok {ts : List Nat} {a : Nat} {h : xk_H} {o : xk_O} {κ : Option γ} (e : h.1 a = o) (m : o.1 ∈ ts) : xm_rc ts (some a) h κ = κ := by
  unfold xm_rc; simp only [e, if_pos m]
theorem gI_ok {ts : List Nat} {k a : Nat} {h : xk_H} {o : xk_O} {x : Int32} {κ : Int32 → Option γ} (e : h.1 a = o) (m : o.1 ∈ ts) (g : o.2[k]? = some (.int x)) : xm_gI ts k (some a) h κ = κ x := by
  unfold xm_gI; simp only [e, if_pos m, g]
theorem gR_ok {ts : List Nat} {k a : Nat} {h : xk_H} {o : xk_O} {x : Option Nat} {κ : Option Nat → Option γ} (e : h.1 a = o) (m : o.1 ∈ ts) (g : o.2[k]? = some (va_rf x)) : xm_gR ts k (some a) h κ = κ x := by
  unfold xm_gR; simp only [e, if_pos m, g]; cases x <;> rfl
theorem pV_ok {ts : List Nat} {k a : Nat} {x : Value} {h : xk_H} {o : xk_O} {κ : xk_H → Option γ} (e : h.1 a = o) (m : o.1 ∈ ts) : xm_pV ts k (some a) x h κ = κ (xk_set h a (o.1, o.2.set k x)) := by
  unfold xm_pV; simp only [e, if_pos m]
theorem pNb_ok {ts : List Nat} {k a : Nat} {x : Int32} {h : xk_H} {o : xk_O} {κ : xk_H → Option γ} (hx : x = zI 0 ∨ x = zI 1) (e : h.1 a = o) (m : o.1 ∈ ts) : xm_pN .boolean ts k (some a) x h κ = κ (xk_set h a (o.1, o.2.set k (.int x))) := by
  unfold xm_pN
  rw [if_pos (by rcases hx with rfl | rfl <;> exact ⟨rfl, rfl⟩)]
  exact pV_ok e m
theorem len_ok {ts : List Nat} {a : Nat} {h : xk_H} {o : xk_O} {κ : Int32 → Option γ} (e : h.1 a = o) (m : o.1 ∈ ts) : xm_len ts (some a) h κ = κ (zI o.2.length) := by
  unfold xm_len; simp only [e, if_pos m, nI_z]
theorem lI_ok {ts : List Nat} {a : Nat} {i : Int} {h : xk_H} {o : xk_O} {x : Int32} {κ : Int32 → Option γ} (h0 : 0 ≤ i) (h1 : i ≤ 2147483647) (e : h.1 a = o) (m : o.1 ∈ ts) (g : o.2[i.toNat]? = some (.int x)) : xm_lI ts (some a) (zI i) h κ = κ x := by
  unfold xm_lI
  have n0 : ¬ zI i < 0 := by
    rw [zI_lit 0, zI_lt (by omega) (by omega) (by decide) (by decide)]; exact Int.not_lt.2 h0
  simp only [e]
  rw [if_pos ⟨m, n0⟩, zI_nat (by omega) h1, g]
theorem lR_ok {ts : List Nat} {a : Nat} {i : Int} {h : xk_H} {o : xk_O} {x : Option Nat} {κ : Option Nat → Option γ} (h0 : 0 ≤ i) (h1 : i ≤ 2147483647) (e : h.1 a = o) (m : o.1 ∈ ts) (g : o.2[i.toNat]? = some (va_rf x)) : xm_lR ts (some a) (zI i) h κ = κ x := by
  unfold xm_lR
  have n0 : ¬ zI i < 0 := by
    rw [zI_lit 0, zI_lt (by omega) (by omega) (by decide) (by decide)]; exact Int.not_lt.2 h0
  simp only [e]
  rw [if_pos ⟨m, n0⟩, zI_nat (by omega) h1, g]
  cases x <;> rfl
theorem sV_ok {ts : List Nat} {a : Nat} {i : Int} {x : Value} {h : xk_H} {o : xk_O} {κ : xk_H → Option γ} (h0 : 0 ≤ i) (h1 : i ≤ 2147483647) (e : h.1 a = o) (m : o.1 ∈ ts) (g : i.toNat < o.2.length) : xm_sV ts (some a) (zI i) x h κ = κ (xk_set h a (o.1, o.2.set i.toNat x)) := by
  unfold xm_sV
  have n0 : ¬ zI i < 0 := by
    rw [zI_lit 0, zI_lt (by omega) (by omega) (by decide) (by decide)]; exact Int.not_lt.2 h0
  simp only [e]
  rw [if_pos ⟨m, n0, by rw [zI_nat (by omega) h1]; exact g⟩, zI_nat (by omega) h1]
theorem new_ok {t : Nat} {fs : List Value} {h : xk_H} {κ : Nat → xk_H → Option γ} (c : fs.length + 1 ≤ h.2.2.2) : xm_new t fs h κ = κ h.2.2.1 (xk_push h (t, fs)) := by
  unfold xm_new; rw [if_pos c]
theorem nwa_ok {t : Nat} {x : Value} {n : Int} {h : xk_H} {κ : Nat → xk_H → Option γ} (h0 : 0 ≤ n) (h1 : n ≤ 100000) (c : n.toNat + 1 ≤ h.2.2.2) : xm_nwa t x (zI n) h κ = κ h.2.2.1 (xk_push h (t, List.replicate n.toNat x)) := by
  unfold xm_nwa
  have n0 : ¬ zI n < 0 := by
    rw [zI_lit 0, zI_lt (by omega) (by omega) (by decide) (by decide)]; exact Int.not_lt.2 h0
  rw [zI_nat (by omega) (by omega), if_pos ⟨n0, by omega, c⟩]
end
