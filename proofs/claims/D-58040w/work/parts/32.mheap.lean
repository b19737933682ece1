/-! PURE LAW, the reference's heap: its object and its arrays at fixed addresses, written over a heap -/
set_option maxRecDepth 10000
/-- what the reference holds: its ints by field, its arrays by field -/
abbrev MD : Type := (Nat → Int32) × (Nat → Nat → Int32)
def aSz (r : Nat) : Nat := match r with
  | 0 => 110 | 1 => 110 | 2 => 440 | 4 => 110 | 6 => 80 | 10 => 126 | 12 => 20 | 14 => 240 | 16 => 13 | 17 => 13 | 18 => 12 | _ => 0
def aRs : List Nat := [0, 1, 2, 4, 6, 10, 12, 14, 16, 17, 18]
def mArr (n : Nat) (f : Nat → Int32) : List Value := (List.range n).map fun k => .int (f k)
/-- the reference's object; A 3 is where it lies, A r where its array of field r lies -/
def mObj (A : Nat → Nat) (g : Nat → Int32) : List Value := [.ref (A 0), .ref (A 1), .ref (A 2), .int (g 3), .ref (A 4), .int (g 5), .ref (A 6), .int (g 7), .int (g 8), .int (g 9), .ref (A 10), .int (g 11), .ref (A 12), .int (g 13), .ref (A 14), .int (g 15), .ref (A 16), .ref (A 17), .ref (A 18)]
def mAt (A : Nat → Nat) (μ : MD) (j : Nat) : Option xk_O := if j = A 3 then some (2, mObj A μ.1) else (aRs.find? fun r => A r == j).map fun r => (100, mArr (aSz r) (μ.2 r))
def mk (A : Nat → Nat) (μ : MD) (h : xk_H) : xk_H := (fun j => (mAt A μ j).getD (h.1 j), h.2)
/-- the addresses are different ones -/
def AOk (A : Nat → Nat) : Prop := ∀ i ∈ 3 :: aRs, ∀ j ∈ 3 :: aRs, A i = A j → i = j
def uA (μ : MD) (r i : Nat) (x : Int32) : MD := (μ.1, fun r' j => if r' = r then (if j = i then x else μ.2 r j) else μ.2 r' j)
def uS (μ : MD) (k : Nat) (x : Int32) : MD := (fun k' => if k' = k then x else μ.1 k', μ.2)
theorem mArr_len (n : Nat) (f : Nat → Int32) : (mArr n f).length = n := by simp [mArr]
theorem mArr_get {n i : Nat} (f : Nat → Int32) (h : i < n) : (mArr n f)[i]? = some (.int (f i)) := by
  simp [mArr, h]
theorem mArr_set (n i : Nat) (f : Nat → Int32) (x : Int32) : (mArr n f).set i (.int x) = mArr n (fun j => if j = i then x else f j) := by
  apply List.ext_getElem?
  intro k
  rw [List.getElem?_set]
  unfold mArr
  by_cases e : i = k
  · subst e; by_cases l : i < n <;> simp [l]
  · have e2 : ¬ k = i := fun q => e q.symm
    by_cases l : k < n <;> simp [l, e, e2]
theorem mObj_set {A : Nat → Nat} {g : Nat → Int32} {k : Nat} {x : Int32} (hk : k ∈ [3, 5, 7, 8, 9, 11, 13, 15]) : (mObj A g).set k (.int x) = mObj A (fun k' => if k' = k then x else g k') := by
  simp only [List.mem_cons, List.not_mem_nil, or_false] at hk
  rcases hk with rfl | rfl | rfl | rfl | rfl | rfl | rfl | rfl <;> simp [mObj]
section
variable {A : Nat → Nat} {μ : MD} {h : xk_H}
theorem mk_m : (mk A μ h).1 (A 3) = (2, mObj A μ.1) := by
  show (mAt A μ (A 3)).getD _ = _
  unfold mAt; rw [if_pos rfl]; rfl
theorem mk_find (hA : AOk A) {r : Nat} (hr : r ∈ aRs) : mAt A μ (A r) = some (100, mArr (aSz r) (μ.2 r)) := by
  unfold mAt
  have n3 : ¬ A r = A 3 := fun q => by
    have := hA r (List.mem_cons_of_mem _ hr) 3 (List.mem_cons_self ..) q
    subst this
    revert hr; decide
  rw [if_neg n3]
  cases q : aRs.find? fun r' => A r' == A r with
  | none =>
    rw [List.find?_eq_none] at q
    have := q r hr
    simp at this
  | some r' =>
    have e : A r' = A r := by have := List.find?_some q; simpa using this
    have m := List.mem_of_find?_eq_some q
    have := hA r' (List.mem_cons_of_mem _ m) r (List.mem_cons_of_mem _ hr) e
    subst this; rfl
theorem mk_a (hA : AOk A) {r : Nat} (hr : r ∈ aRs) : (mk A μ h).1 (A r) = (100, mArr (aSz r) (μ.2 r)) := by
  show (mAt A μ (A r)).getD _ = _
  rw [mk_find hA hr]; rfl
theorem mAt_none {j : Nat} (hj : ∀ i ∈ 3 :: aRs, j ≠ A i) : mAt A μ j = none := by
  unfold mAt
  rw [if_neg (hj 3 (List.mem_cons_self ..)), Option.map_eq_none_iff, List.find?_eq_none]
  intro r hr q
  have e : A r = j := by simpa using q
  exact hj r (List.mem_cons_of_mem _ hr) e.symm
theorem mk_o {j : Nat} (hj : ∀ i ∈ 3 :: aRs, j ≠ A i) : (mk A μ h).1 j = h.1 j := by
  show (mAt A μ j).getD _ = _
  rw [mAt_none hj]; rfl
theorem mk_2 : (mk A μ h).2 = h.2 := rfl
theorem mk_setA (hA : AOk A) {r : Nat} (hr : r ∈ aRs) (i : Nat) (x : Int32) : xk_set (mk A μ h) (A r) (100, (mArr (aSz r) (μ.2 r)).set i (.int x)) = mk A (uA μ r i x) h := by
  refine Prod.ext (funext fun j => ?_) rfl
  rw [set_1]
  by_cases e : j = A r
  · subst e
    rw [if_pos rfl, mk_a hA hr, mArr_set]
    simp only [uA, if_pos]
  · rw [if_neg e]
    by_cases q : ∃ i ∈ 3 :: aRs, j = A i
    · obtain ⟨i', m, rfl⟩ := q
      rcases List.mem_cons.1 m with rfl | m
      · rw [mk_m, mk_m]; rfl
      · have n : ¬ i' = r := fun q => e (by rw [q])
        rw [mk_a hA m, mk_a hA m]
        simp only [uA, if_neg n]
    · have q' : ∀ i ∈ 3 :: aRs, j ≠ A i := fun i m e => q ⟨i, m, e⟩
      rw [mk_o q', mk_o q']
theorem mk_setS (hA : AOk A) {k : Nat} (hk : k ∈ [3, 5, 7, 8, 9, 11, 13, 15]) (x : Int32) : xk_set (mk A μ h) (A 3) (2, (mObj A μ.1).set k (.int x)) = mk A (uS μ k x) h := by
  refine Prod.ext (funext fun j => ?_) rfl
  rw [set_1]
  by_cases e : j = A 3
  · subst e
    rw [if_pos rfl, mk_m, mObj_set hk]; rfl
  · rw [if_neg e]
    by_cases q : ∃ i ∈ 3 :: aRs, j = A i
    · obtain ⟨i', m, rfl⟩ := q
      rcases List.mem_cons.1 m with rfl | m
      · exact absurd rfl e
      · rw [mk_a hA m, mk_a hA m]; rfl
    · have q' : ∀ i ∈ 3 :: aRs, j ≠ A i := fun i m e => q ⟨i, m, e⟩
      rw [mk_o q', mk_o q']
theorem mk_mk {ν : MD} : mk A ν (mk A μ h) = mk A ν h := by
  refine Prod.ext (funext fun j => ?_) rfl
  show (mAt A ν j).getD ((mAt A μ j).getD (h.1 j)) = (mAt A ν j).getD (h.1 j)
  unfold mAt
  by_cases e : j = A 3
  · rw [if_pos e]; rfl
  · rw [if_neg e, if_neg e]
    cases q : aRs.find? fun r => A r == j <;> rfl
variable {γ ρ : Type}
theorem m_rc {κ : Option γ} : xm_rc [2] (some (A 3)) (mk A μ h) κ = κ := rc_ok mk_m (List.mem_singleton.2 rfl)
theorem m_gI {k : Nat} {κ : Int32 → Option γ} (hk : k ∈ [3, 5, 7, 8, 9, 11, 13, 15]) : xm_gI [2] k (some (A 3)) (mk A μ h) κ = κ (μ.1 k) :=
  gI_ok mk_m (List.mem_singleton.2 rfl) (by
    simp only [List.mem_cons, List.not_mem_nil, or_false] at hk
    rcases hk with rfl | rfl | rfl | rfl | rfl | rfl | rfl | rfl <;> rfl)
theorem m_gR {k : Nat} {κ : Option Nat → Option γ} (hk : k ∈ aRs) : xm_gR [2] k (some (A 3)) (mk A μ h) κ = κ (some (A k)) :=
  gR_ok mk_m (List.mem_singleton.2 rfl) (by
    simp only [aRs, List.mem_cons, List.not_mem_nil, or_false] at hk
    rcases hk with rfl | rfl | rfl | rfl | rfl | rfl | rfl | rfl | rfl | rfl | rfl <;> rfl)
theorem m_pV (hA : AOk A) {k : Nat} {x : Int32} {κ : xk_H → Option γ} (hk : k ∈ [3, 5, 7, 8, 9, 11, 13, 15]) : xm_pV [2] k (some (A 3)) (.int x) (mk A μ h) κ = κ (mk A (uS μ k x) h) := by
  rw [pV_ok mk_m (List.mem_singleton.2 rfl), mk_setS hA hk]
theorem m_pN (hA : AOk A) {k : Nat} {x : Int32} {κ : xk_H → Option γ} (hk : k ∈ [3, 5, 7, 8, 9, 11, 13, 15]) (hx : x = zI 0 ∨ x = zI 1) : xm_pN .boolean [2] k (some (A 3)) x (mk A μ h) κ = κ (mk A (uS μ k x) h) := by
  rw [pNb_ok hx mk_m (List.mem_singleton.2 rfl), mk_setS hA hk]
theorem m_lI (hA : AOk A) {r : Nat} {i : Int} {κ : Int32 → Option γ} (hr : r ∈ aRs) (h0 : 0 ≤ i) (h1 : i < (aSz r : Int)) (hz : i ≤ 2147483647) : xm_lI [100] (some (A r)) (zI i) (mk A μ h) κ = κ (μ.2 r i.toNat) :=
  lI_ok h0 hz (mk_a hA hr) (List.mem_singleton.2 rfl) (mArr_get _ (by omega))
theorem m_sV (hA : AOk A) {r : Nat} {i : Int} {x : Int32} {κ : xk_H → Option γ} (hr : r ∈ aRs) (h0 : 0 ≤ i) (h1 : i < (aSz r : Int)) (hz : i ≤ 2147483647) : xm_sV [100] (some (A r)) (zI i) (.int x) (mk A μ h) κ = κ (mk A (uA μ r i.toNat x) h) := by
  rw [sV_ok h0 hz (mk_a hA hr) (List.mem_singleton.2 rfl) (by rw [mArr_len]; omega), mk_setA hA hr]
end
