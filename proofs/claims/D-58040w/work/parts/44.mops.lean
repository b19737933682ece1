/-! PURE LAW: what each deed answers, and the reference's -/
set_option maxRecDepth 10000
/-- the whole of it: the yard, the states recorded, the snapshot, the pad -/
abbrev SD : Type := YD × List YD × Option YD × List Int
def SOk (S : SD) : Prop := YOk S.1 ∧ S.2.1.length ≤ 4 ∧ (∀ d ∈ S.2.1, YOk d) ∧ (∀ d, S.2.2.1 = some d → YOk d) ∧ S.2.2.2.length ≤ 80 ∧ ∀ x ∈ S.2.2.2, 33 ≤ x ∧ x ≤ 126
def MS (μ : MD) (S : SD) : Prop := MH μ S.1 S.2.1 S.2.2.1 S.2.2.2
/-- a deed done: the state before it recorded -/
def sDo (S : SD) (z : YD) : SD := (z, hrec S.2.1 S.1, S.2.2)
def oPut (S : SD) (c d : Int) : Int × SD := if 0 ≤ c ∧ c < yn S.1 then (if 0 ≤ d ∧ d < yn S.1 then (if 0 < ywp S.1 c.toNat d.toNat then (ywp S.1 c.toNat d.toNat, sDo S (yRef S.1)) else (10 + (ch (yPut S.1 c.toNat d.toNat) c.toNat).length, sDo S (yPut S.1 c.toNat d.toNat))) else (-1, S)) else (-1, S)
def oGround (S : SD) (c : Int) : Int × SD := if 0 ≤ c ∧ c < yn S.1 then (if 0 < ywg S.1 c.toNat then (ywg S.1 c.toNat, sDo S (yRef S.1)) else (10, sDo S (yLift S.1 c.toNat))) else (-1, S)
def oTurn (S : SD) (c : Int) : Int × SD := if 0 ≤ c ∧ c < yn S.1 then (ytg (yf S.1 2 c.toNat), sDo S (yG S.1 c.toNat (ytg (yf S.1 2 c.toNat)))) else (-1, S)
theorem hrec_ok {hs : List YD} {y : YD} (hl : hs.length ≤ 4) (hh : ∀ d ∈ hs, YOk d) (O : YOk y) : (hrec hs y).length ≤ 4 ∧ ∀ d ∈ hrec hs y, YOk d := by
  unfold hrec
  by_cases q : hs.length = 4
  · rw [if_pos q]
    refine ⟨by rw [List.length_append, List.length_tail, List.length_singleton]; omega, fun d m => ?_⟩
    rcases List.mem_append.1 m with m | m
    · exact hh d (List.mem_of_mem_tail m)
    · rw [List.mem_singleton.1 m]; exact O
  · rw [if_neg q]
    refine ⟨by rw [List.length_append, List.length_singleton]; omega, fun d m => ?_⟩
    rcases List.mem_append.1 m with m | m
    · exact hh d m
    · rw [List.mem_singleton.1 m]; exact O
theorem sDo_ok {S : SD} (h : SOk S) {z : YD} (O : YOk z) : SOk (sDo S z) := by
  obtain ⟨a, b, c, d, e, f⟩ := h
  obtain ⟨g1, g2⟩ := hrec_ok b c a
  exact ⟨O, g1, g2, d, e, f⟩
section
variable {A : Nat → Nat} {h : xk_H} {S : SD}
theorem put_top {y : YD} {c d : Nat} (w : ywp y c d = 0) : yab y c = 0 := by
  unfold ywp at w
  by_cases t : yab y c = 0
  · exact t
  · rw [if_pos t] at w; omega
theorem ywp_bd {y : YD} {c d : Nat} : 0 ≤ ywp y c d ∧ ywp y c d ≤ 3 := by
  unfold ywp; split
  · omega
  · split
    · omega
    · split <;> omega
theorem ywg_bd {y : YD} {c : Nat} : 0 ≤ ywg y c ∧ ywg y c ≤ 4 := by
  unfold ywg; split
  · omega
  · split <;> omega
theorem ywb_bd {y : YD} {c : Nat} : 0 ≤ ywb y c ∧ ywb y c ≤ 5 := by
  unfold ywb; split
  · omega
  · split <;> omega
theorem MS_rec (hA : AOk A) {μ : MD} (H : MS μ S) (K : SOk S) : ∃ ν : MD, MH ν S.1 (hrec S.2.1 S.1) S.2.2.1 S.2.2.2 ∧ (∀ r, r ≠ 2 → ν.2 r = μ.2 r) ∧ (∀ k, k ≠ 3 → ν.1 k = μ.1 k) ∧ mf_X2_records (some (A 3)) (mk A μ h) = some ((), mk A ν h) :=
  M_records hA H K.1.n K.2.1 fun d m => (K.2.2.1 d m).n
theorem M_put (hA : AOk A) {μ : MD} (H : MS μ S) (K : SOk S) {c d : Int} (c1 : -2147483648 ≤ c) (c2 : c ≤ 2147483647) (d1 : -2147483648 ≤ d) (d2 : d ≤ 2147483647) : ∃ ν : MD, MS ν (oPut S c d).2 ∧ mf_X2_put (some (A 3)) (zI c) (zI d) (mk A μ h) = some (zI (oPut S c d).1, mk A ν h) := by
  have hn := K.1.n
  unfold mf_X2_put oPut
  simp (disch := first | assumption | decide | omega | (simp only [aSz]; omega)) only [m_rc, m_gI, m_gR, zI_lit, zI_add, zI_sub, zI_mul, zI_neg, b2_0z, cl_some, M_isCrate hA H.1 K.1, decide_eq_false_iff_not]
  by_cases q : 0 ≤ c ∧ c < yn S.1
  · obtain ⟨c, rfl⟩ : ∃ e : Nat, c = e := ⟨c.toNat, by omega⟩
    have hc : c < yn S.1 := by omega
    rw [if_neg (not_not_intro q), if_pos q]
    by_cases q2 : 0 ≤ d ∧ d < yn S.1
    · obtain ⟨d, rfl⟩ : ∃ e : Nat, d = e := ⟨d.toNat, by omega⟩
      have hd : d < yn S.1 := by omega
      rw [if_neg (not_not_intro q2), if_pos q2]
      obtain ⟨ν, n1, n2, n3, n4⟩ := MS_rec (h := h) hA H K
      have hb := ywp_bd (y := S.1) (c := c) (d := d)
      simp (disch := first | assumption | decide | omega | (simp only [aSz]; omega)) only [m_rc, m_gI, m_gR, zI_lit, zI_add, zI_sub, zI_mul, zI_neg, b2_0z, cl_some, n4, M_reasonPut hA n1.1 K.1, zI_le, Int.toNat_natCast]
      by_cases q3 : 0 < ywp S.1 c d
      · rw [if_pos q3, if_neg (by omega)]
        refine ⟨_, MH.refused n1, ?_⟩
        simp only [m_rc, m_gI, m_gR, zI_lit, zI_add, zI_sub, zI_mul, zI_neg, b2_0z, cl_some, M_refuses hA n1.1]
      · rw [if_neg q3, if_pos (by omega)]
        have w : ywp S.1 c d = 0 := by omega
        have tp := put_top w
        have L := lift_ok K.1 hc tp
        have P := put_ok K.1 hc hd w
        have k7 : zI (7 : Int) = zI ((7 : Nat) : Int) := rfl
        have k8 : zI (8 : Int) = zI ((8 : Nat) : Int) := rfl
        have pw : mf_X2_pile (some (A 3)) (zI d) (mk A (uA ν 0 (2 + 9 * c + 7) (zI 0)) h) = some (zI (yp (yLift S.1 c) d).length, mk A (uA ν 0 (2 + 9 * c + 7) (zI 0)) h) := by
          have := M_pileW (h := h) hA (μ := uA ν 0 (2 + 9 * c + 7) (zI 0)) (n := yn S.1) (H := yf (yLift S.1 c) 3) (c := d) (by rw [uA_at]; exact (if_neg (by omega)).trans n1.1.1) hn (fun e he => ?_) hd
          · rw [this, ← pile_count L (c := d) hd]; rfl
          · rw [uA_at]
            have hH := L.ho (c := e) he
            have : yn (yLift S.1 c) = yn S.1 := rfl
            refine ⟨?_, by omega, by omega⟩
            show (if _ then _ else _) = _
            by_cases q4 : e = c
            · subst q4; rw [if_pos rfl, lift_f, if_pos ⟨rfl, rfl⟩]; rfl
            · rw [if_neg (by omega), lift_f, if_neg fun z => q4 z.2]; exact (n1.1.2.2 e he).2.2.2.2.1
        have hY3 : MY ((uA (uA (uA ν 0 (2 + 9 * c + 7) (zI 0)) 0 (2 + 9 * c + 8) (zI (yp (yLift S.1 c) d).length)) 0 (2 + 9 * c + 7) (zI (d + 1))).2 0) (yPut S.1 c d) := by
          refine MY_put n1.1 K.1 hc hd tp ?_ ?_ fun j j1 j2 => ?_
          · rw [uA_at]; exact if_pos rfl
          · rw [uA_at, uA_at]; exact (if_neg (by omega)).trans (if_pos rfl)
          · rw [uA_at, uA_at, uA_at]; exact (if_neg j1).trans ((if_neg j2).trans (if_neg j1))
        refine ⟨_, n1.row ((mOnly.u.tr mOnly.u).tr mOnly.u) hY3, ?_⟩
        have dp := M_depthOf (h := h) hA hY3 P (c := c) hc
        simp (disch := first | assumption | decide | omega | (simp only [aSz]; omega)) only [m_rc, m_gI, m_gR, zI_lit, zI_add, zI_sub, zI_mul, zI_neg, b2_0z, cl_some, lays3 hA (show c < 12 by omega) (show 7 < 9 by decide) _ _ k7, lays3 hA (show c < 12 by omega) (show 8 < 9 by decide) _ _ k8, pw, dp]
    · rw [if_pos q2, if_neg q2]
      exact ⟨μ, H, rfl⟩
  · rw [if_pos q, if_neg q]
    exact ⟨μ, H, rfl⟩
theorem M_ground (hA : AOk A) {μ : MD} (H : MS μ S) (K : SOk S) {c : Int} (c1 : -2147483648 ≤ c) (c2 : c ≤ 2147483647) : ∃ ν : MD, MS ν (oGround S c).2 ∧ mf_X2_ground (some (A 3)) (zI c) (mk A μ h) = some (zI (oGround S c).1, mk A ν h) := by
  have hn := K.1.n
  unfold mf_X2_ground oGround
  simp (disch := first | assumption | decide | omega | (simp only [aSz]; omega)) only [m_rc, m_gI, m_gR, zI_lit, zI_add, zI_sub, zI_mul, zI_neg, b2_0z, cl_some, M_isCrate hA H.1 K.1, decide_eq_false_iff_not]
  by_cases q : 0 ≤ c ∧ c < yn S.1
  · obtain ⟨c, rfl⟩ : ∃ e : Nat, c = e := ⟨c.toNat, by omega⟩
    have hc : c < yn S.1 := by omega
    rw [if_neg (not_not_intro q), if_pos q]
    obtain ⟨ν, n1, n2, n3, n4⟩ := MS_rec (h := h) hA H K
    have hb := ywg_bd (y := S.1) (c := c)
    simp (disch := first | assumption | decide | omega | (simp only [aSz]; omega)) only [m_rc, m_gI, m_gR, zI_lit, zI_add, zI_sub, zI_mul, zI_neg, b2_0z, cl_some, n4, M_reasonGround hA n1.1 K.1, zI_le, Int.toNat_natCast]
    by_cases q3 : 0 < ywg S.1 c
    · rw [if_pos q3, if_neg (by omega)]
      refine ⟨_, MH.refused n1, ?_⟩
      simp only [m_rc, m_gI, m_gR, zI_lit, zI_add, zI_sub, zI_mul, zI_neg, b2_0z, cl_some, M_refuses hA n1.1]
    · rw [if_neg q3, if_pos (by omega)]
      have tp : yab S.1 c = 0 := by
        unfold ywg at q3
        by_cases t : yab S.1 c = 0
        · exact t
        · rw [if_pos t] at q3; omega
      have k7 : zI (7 : Int) = zI ((7 : Nat) : Int) := rfl
      have k8 : zI (8 : Int) = zI ((8 : Nat) : Int) := rfl
      have hY3 : MY ((uA (uA ν 0 (2 + 9 * c + 7) (zI 0)) 0 (2 + 9 * c + 8) (zI 0)).2 0) (yLift S.1 c) := by
        refine MY_lift n1.1 K.1 hc tp ?_ ?_ fun j j1 j2 => ?_
        · rw [uA_at, uA_at]; exact (if_neg (by omega)).trans (if_pos rfl)
        · rw [uA_at]; exact if_pos rfl
        · rw [uA_at, uA_at]; exact (if_neg j2).trans (if_neg j1)
      refine ⟨_, n1.row (mOnly.u.tr mOnly.u) hY3, ?_⟩
      simp (disch := first | assumption | decide | omega | (simp only [aSz]; omega)) only [m_rc, m_gI, m_gR, zI_lit, zI_add, zI_sub, zI_mul, zI_neg, b2_0z, cl_some, lays3 hA (show c < 12 by omega) (show 7 < 9 by decide) _ _ k7, lays3 hA (show c < 12 by omega) (show 8 < 9 by decide) _ _ k8]
  · rw [if_pos q, if_neg q]
    exact ⟨μ, H, rfl⟩
theorem M_turn (hA : AOk A) {μ : MD} (H : MS μ S) (K : SOk S) {c : Int} (c1 : -2147483648 ≤ c) (c2 : c ≤ 2147483647) : ∃ ν : MD, MS ν (oTurn S c).2 ∧ mf_X2_turn (some (A 3)) (zI c) (mk A μ h) = some (zI (oTurn S c).1, mk A ν h) := by
  have hn := K.1.n
  unfold mf_X2_turn oTurn mf_X2_turned
  simp (disch := first | assumption | decide | omega | (simp only [aSz]; omega)) only [m_rc, m_gI, m_gR, zI_lit, zI_add, zI_sub, zI_mul, zI_neg, b2_0z, cl_some, M_isCrate hA H.1 K.1, decide_eq_false_iff_not]
  by_cases q : 0 ≤ c ∧ c < yn S.1
  · obtain ⟨c, rfl⟩ : ∃ e : Nat, c = e := ⟨c.toNat, by omega⟩
    have hc : c < yn S.1 := by omega
    have hg := K.1.gp hc
    rw [if_neg (not_not_intro q), if_pos q]
    obtain ⟨ν, n1, n2, n3, n4⟩ := MS_rec (h := h) hA H K
    have k2 : zI (2 : Int) = zI ((2 : Nat) : Int) := rfl
    have hY3 : MY ((uA ν 0 (2 + 9 * c + 2) (zI (ytg (yf S.1 2 c)))).2 0) (yG S.1 c (ytg (yf S.1 2 c))) := by
      rw [uA_at]; exact yG_row n1.1 K.1 hc _
    have O3 := yG_ok K.1 c (ytg_bd (g := yf S.1 2 c))
    have r2 : mf_X2_of (some (A 3)) (zI c) (zI 2) (mk A (uA ν 0 (2 + 9 * c + 2) (zI (ytg (yf S.1 2 c)))) h) = some (zI (ytg (yf S.1 2 c)), mk A (uA ν 0 (2 + 9 * c + 2) (zI (ytg (yf S.1 2 c)))) h) := by
      rw [M_of2 hA hY3 (c := c) hc hn]
      show some (zI (if _ then _ else _), _) = _
      rw [if_pos ⟨rfl, rfl⟩]
    refine ⟨_, n1.row mOnly.u hY3, ?_⟩
    simp (disch := first | assumption | decide | omega | (simp only [aSz]; omega)) only [m_rc, m_gI, m_gR, zI_lit, zI_add, zI_sub, zI_mul, zI_neg, b2_0z, cl_some, n4, M_of2 hA n1.1 (c := c) hc hn, turned_eq hg.1 hg.2, lays3 hA (show c < 12 by omega) (show 2 < 9 by decide) _ _ k2, r2, Int.toNat_natCast]
  · rw [if_pos q, if_neg q]
    exact ⟨μ, H, rfl⟩
end
