/-! PURE LAW: efforts downwards -/
set_option maxRecDepth 10000
theorem zs_mul (x : Int) (F : Nat → Int) : ∀ (m k : Nat), zs (fun i => F i * x) k m = zs F k m * x
  | 0, _ => (Int.zero_mul x).symm
  | m + 1, k => by unfold zs; rw [zs_mul x F m (k + 1), Int.add_mul]
/-- a sum over the members of a list -/
theorem zs_mem (F : Nat → Int) {l : List Nat} (nd : l.Nodup) {n : Nat} (lt : ∀ x ∈ l, x < n) : zs (fun c => if l.contains c = true then F c else 0) 0 n = (l.map F).sum := by
  rw [zs_filter (fun c => l.contains c) F n 0, ← List.range_eq_range']
  refine perm_sum (List.Perm.map F ((List.perm_ext_iff_of_nodup (List.Nodup.sublist List.filter_sublist List.nodup_range) nd).2 fun d => ?_))
  rw [List.mem_filter, List.mem_range, List.contains_iff_mem]
  exact ⟨fun q => q.2, fun q => ⟨lt d q, q⟩⟩
section
variable {y : YD}
theorem isCh_hold (F : Int → Int) : ∀ {l : List Nat} {c : Nat}, isCh y (yf y 3 c) l → ((c :: l).map fun j => F (yf y 3 j)).sum = (l.map fun (j : Nat) => F (j : Int)).sum + F (-1)
  | [], c, h => by
    have e : yf y 3 c = -1 := h
    simp [e]
  | d :: l, c, h => by
    have ih := isCh_hold F h.2.2
    rw [List.map_cons, List.sum_cons, ih, h.1, List.map_cons, List.sum_cons]; omega
theorem count1 {l : List Nat} (nd : l.Nodup) (c : Nat) : (l.map fun (j : Nat) => if (j : Int) = c then (1 : Int) else 0).sum = if l.contains c = true then 1 else 0 := by
  induction l with
  | nil => rfl
  | cons d l ih =>
    rw [List.map_cons, List.sum_cons, ih (List.nodup_cons.1 nd).2, List.contains_cons]
    by_cases e : (d : Int) = c
    · have : d = c := by omega
      subst this
      have : l.contains d = false := by
        have := (List.nodup_cons.1 nd).1
        simpa using this
      rw [this]; simp
    · have : (c == d) = false := by simp; omega
      rw [if_neg e, this]; simp
/-- the crate itself and those around it -/
abbrev cch (y : YD) (d : Nat) : List Nat := d :: ch y d
theorem cch_lt (O : YOk y) {d : Nat} (hd : d < yn y) : ∀ x ∈ cch y d, x < yn y := fun x m => by
  rcases List.mem_cons.1 m with rfl | m
  · exact hd
  · exact ch_lt O hd x m
theorem one_root (O : YOk y) {d : Nat} (hd : d < yn y) : zs (fun c => if (cch y d).contains c = true then (if yf y 3 c < 0 then 1 else 0) else 0) 0 (yn y) = 1 := by
  rw [zs_mem (fun c => if yf y 3 c < 0 then 1 else 0) (ch_nd O hd) (cch_lt O hd), isCh_hold (fun x => if x < 0 then 1 else 0) (ch_ok O hd)]
  have : ((ch y d).map fun (j : Nat) => if (j : Int) < 0 then (1 : Int) else 0).sum = 0 := by
    induction ch y d with
    | nil => rfl
    | cons a l ih => rw [List.map_cons, List.sum_cons, ih, if_neg (by omega)]; rfl
  rw [this]; rfl
theorem one_below (O : YOk y) {d : Nat} (hd : d < yn y) (c : Nat) : zs (fun j => if (cch y d).contains j = true then (if yf y 3 j = (c : Int) then 1 else 0) else 0) 0 (yn y) = if (ch y d).contains c = true then 1 else 0 := by
  rw [zs_mem (fun j => if yf y 3 j = (c : Int) then 1 else 0) (ch_nd O hd) (cch_lt O hd), isCh_hold (fun x => if x = (c : Int) then 1 else 0) (ch_ok O hd), count1 (List.nodup_cons.1 (ch_nd O hd)).2, if_neg (show ¬ (-1 : Int) = c by omega), Int.add_zero]
/-- the sum over a crate and all that lies in it -/
def ysub (y : YD) (g : Nat → Int) (c : Nat) : Int := zs (fun d => if (cch y d).contains c = true then g d else 0) 0 (yn y)
theorem zs_at (g : Nat → Int) {c n : Nat} (hc : c < n) : zs (fun d => if d = c then g d else 0) 0 n = g c := by
  have e := zs_mem g (l := [c]) (List.nodup_cons.2 ⟨by simp, List.nodup_nil⟩) (n := n) (fun x m => by rw [List.mem_singleton.1 m]; exact hc)
  rw [List.map_cons, List.map_nil, List.sum_cons, List.sum_nil, Int.add_zero] at e
  rw [← e]
  exact zs_congr _ _ fun i _ _ => by simp
theorem ysub_rec (O : YOk y) (g : Nat → Int) {c : Nat} (hc : c < yn y) : ysub y g c = g c + ((yp y c).map (ysub y g)).sum := by
  have e1 : ysub y g c = zs (fun d => (if d = c then g d else 0) + (if (ch y d).contains c = true then 1 else 0) * g d) 0 (yn y) := by
    refine zs_congr _ _ fun d _ hd => ?_
    have hd : d < yn y := by omega
    rw [List.contains_cons]
    by_cases q : d = c
    · subst q
      have : (ch y d).contains d = false := by have := ch_not O hd; simpa using this
      rw [this]; simp
    · have : (c == d) = false := by simp; omega
      rw [this, if_neg q, Bool.false_or]
      by_cases z : (ch y d).contains c = true
      · rw [if_pos z, if_pos z]; omega
      · rw [if_neg z, if_neg z]; omega
  rw [e1, zs_add, zs_at g hc]
  have e2 : zs (fun d => (if (ch y d).contains c = true then 1 else 0) * g d) 0 (yn y) = zs (fun d => zs (fun j => if yf y 3 j = (c : Int) then (if (cch y d).contains j = true then g d else 0) else 0) 0 (yn y)) 0 (yn y) := by
    refine zs_congr _ _ fun d _ hd => ?_
    rw [← one_below O (by omega) c, ← zs_mul]
    refine zs_congr _ _ fun j _ _ => ?_
    by_cases z : (cch y d).contains j = true
    · rw [if_pos z, if_pos z]
      by_cases q : yf y 3 j = (c : Int)
      · rw [if_pos q, if_pos q]; omega
      · rw [if_neg q, if_neg q]; omega
    · rw [if_neg z, if_neg z]
      by_cases q : yf y 3 j = (c : Int)
      · rw [if_pos q]; omega
      · rw [if_neg q]; omega
  rw [e2, zs_swap (fun d j => if yf y 3 j = (c : Int) then (if (cch y d).contains j = true then g d else 0) else 0)]
  have e3 : zs (fun j => zs (fun d => if yf y 3 j = (c : Int) then (if (cch y d).contains j = true then g d else 0) else 0) 0 (yn y)) 0 (yn y) = zs (fun j => if yf y 3 j = (c : Int) then ysub y g j else 0) 0 (yn y) := by
    refine zs_congr _ _ fun j _ _ => ?_
    by_cases q : yf y 3 j = (c : Int)
    · rw [if_pos q]
      exact zs_congr _ _ fun d _ _ => if_pos q
    · rw [if_neg q]
      exact (zs_congr _ _ fun d _ _ => if_neg q).trans (zs_zero _ _)
  rw [e3]
  have e4 := zs_filter (fun d => decide (yf y 3 d = (c : Int))) (ysub y g) (yn y) 0
  simp only [decide_eq_true_iff] at e4
  rw [e4, ← List.range_eq_range']
  exact congrArg (g c + ·) (perm_sum ((pile_perm O hc).map _)).symm
theorem ysub_all (O : YOk y) (g : Nat → Int) : zs (fun c => if yf y 3 c < 0 then ysub y g c else 0) 0 (yn y) = zs g 0 (yn y) := by
  have e1 : zs (fun c => if yf y 3 c < 0 then ysub y g c else 0) 0 (yn y) = zs (fun c => zs (fun d => (if (cch y d).contains c = true then (if yf y 3 c < 0 then 1 else 0) else 0) * g d) 0 (yn y)) 0 (yn y) := by
    refine zs_congr _ _ fun c _ _ => ?_
    by_cases q : yf y 3 c < 0
    · rw [if_pos q]
      refine zs_congr _ _ fun d _ _ => ?_
      rw [if_pos q]
      by_cases z : (cch y d).contains c = true
      · rw [if_pos z, if_pos z]; omega
      · rw [if_neg z, if_neg z]; omega
    · rw [if_neg q]
      refine ((zs_congr _ _ fun d _ _ => ?_).trans (zs_zero (yn y) 0)).symm
      rw [if_neg q, ite_self]; omega
  rw [e1, zs_swap (fun c d => (if (cch y d).contains c = true then (if yf y 3 c < 0 then 1 else 0) else 0) * g d)]
  refine zs_congr _ _ fun d _ hd => ?_
  rw [zs_mul, one_root O (by omega)]; omega
theorem yef_in (O : YOk y) {c d : Nat} (hc : c < yn y) (hd : d < yn y) (e : yf y 3 c = d) : yef y c = 1 + yab y c + yef y d := by
  unfold yef
  rw [ch_in O hc hd e, List.map_cons (a := c), List.sum_cons, if_neg (by omega)]
theorem yef_gr (O : YOk y) {c : Nat} (hc : c < yn y) (e : yf y 3 c = -1) : yef y c = 0 := by
  unfold yef
  rw [ch_ground O hc e, List.map_cons, if_pos (by omega)]; rfl
end
section
variable {w : Nat → Nat × Nat} {K : KD} {h : xk_H} {L : LD} {y : YD} {c : Nat}
def yge (y : YD) (z : Int) (c : Nat) : Int := if yf y 0 c = z then (yef y c : Int) else 0
theorem Y_effB_L32 (G : Gd K h) (Y : YA w K h L y) (O : YOk y) {z : Int} {c : Nat} (hc : c < yn y) {rc : Option Nat → Int32 → Int32 → Int32 → xk_H → Option (Int32 × xk_H)}
    (ih : ∀ j ∈ yp y c, rc (some (Ly L)) (zI j) (zI z) (zI (yef y j)) h = some (zI (ysub y (yge y z) j), h)) : ∀ (m k f : Nat) (a : Int), k + m = (yp y c).length → m < f →
    mf_X1_effortsBelow_L32 rc (some (Ly L)) (zI z) (zI (yef y c)) (some (Lp L c)) f (zI a) (zI k) h = some (zI (a + (((yp y c).drop k).map (ysub y (yge y z))).sum), h)
  | m, k, 0, a, _, hf => absurd hf (Nat.not_lt_zero _)
  | 0, k, f + 1, a, hk, hf => by
    have hl := ypl_len O hc
    unfold mf_X1_effortsBelow_L32
    simp (disch := first | assumption | decide | omega | (simp only [aSz]; omega)) only [Y_rc Y, Y_at G Y, Y_crc Y, Y_g0 Y, Y_g1 Y, Y_g2 Y, Y_g4 Y, Y_gL Y, Y_gP Y, Y_prc Y, Y_psz Y, Y_pem G Y, Y_size Y, zI_lit, zI_add, zI_sub, zI_mul, zI_neg, b2_0z, cl_some, zI_le]
    rw [if_pos (by omega), List.drop_eq_nil_of_le (by omega)]
    simp
  | m + 1, k, f + 1, a, hk, hf => by
    have hl := ypl_len O hc
    have hn := O.n
    have hk' : k < (yp y c).length := by omega
    have ih2 := fun b => Y_effB_L32 G Y O hc ih m (k + 1) f b (by omega) (by omega)
    have gx : (yp y c)[k]? = some (yp y c)[k] := List.getElem?_eq_getElem hk'
    have mj : (yp y c)[k] ∈ yp y c := List.getElem_mem hk'
    have hj := O.plt hc mj
    have hh := ((O.pm hc _).1 mj).2
    have ia := ih _ mj
    have hab : yab y (yp y c)[k] = (yp y c).length - 1 - k := by
      rw [above_in hh, place_in hh, List.Nodup.idxOf_getElem (O.nd hc) k hk']
    have he : ((yef y c : Int) + 1 + ((yp y c).length : Int) - 1 - (k : Int)) = (yef y (yp y c)[k] : Int) := by
      have := yef_in O hj hc hh
      omega
    unfold mf_X1_effortsBelow_L32
    simp (disch := first | assumption | decide | omega | (simp only [aSz]; omega)) only [Y_rc Y, Y_at G Y, Y_crc Y, Y_g0 Y, Y_g1 Y, Y_g2 Y, Y_g4 Y, Y_gL Y, Y_gP Y, Y_prc Y, Y_psz Y, Y_pem G Y, Y_size Y, zI_lit, zI_add, zI_sub, zI_mul, zI_neg, b2_0z, cl_some, zI_le, Y_pget G Y hc gx, cast_ok (G.ad (show (yp y c)[k] < 128 by omega)), rc_ok (G.ad (show (yp y c)[k] < 128 by omega)), C_intValue G (show (yp y c)[k] < 128 by omega)]
    rw [if_neg (by omega), cast_ok (G.ad (show (yp y c)[k] < 128 by omega)) (by simp), rc_ok (G.ad (show (yp y c)[k] < 128 by omega)) (by simp)]
    simp only [he, ia, cl_some, zI_add]
    refine (ih2 _).trans ?_
    rw [List.drop_eq_getElem_cons hk', List.map_cons, List.sum_cons, Int.add_assoc]
theorem Y_effB (G : Gd K h) (Y : YA w K h L y) (O : YOk y) {z : Int} (z1 : -2147483648 ≤ z) (z2 : z ≤ 2147483647) : ∀ (f c : Nat), c < yn y → 12 ≤ (ch y c).length + f → mf_X1_effortsBelow f (some (Ly L)) (zI c) (zI z) (zI (yef y c)) h = some (zI (ysub y (yge y z) c), h)
  | 0, c, hc, hf => by have := ch_len11 O hc; omega
  | f + 1, c, hc, hf => by
    have hs := O.sz hc
    have hl := ypl_len O hc
    have ih : ∀ j ∈ yp y c, mf_X1_effortsBelow f (some (Ly L)) (zI j) (zI z) (zI (yef y j)) h = some (zI (ysub y (yge y z) j), h) := fun j mj => by
      have hj := O.plt hc mj
      refine Y_effB G Y O z1 z2 f j hj ?_
      rw [ch_in O hj hc ((O.pm hc j).1 mj).2, List.length_cons]; omega
    have lp := fun a => Y_effB_L32 G Y O hc ih (yp y c).length 0 xk_fu a (by omega) (fu_lt (by omega))
    unfold mf_X1_effortsBelow mf_X1_effortsBelow_J17
    rw [ysub_rec O _ hc]
    simp (disch := first | assumption | decide | omega | (simp only [aSz]; omega)) only [Y_rc Y, Y_at G Y, Y_crc Y, Y_g0 Y, Y_g1 Y, Y_g2 Y, Y_g4 Y, Y_gL Y, Y_gP Y, Y_prc Y, Y_psz Y, Y_pem G Y, Y_size Y, zI_lit, zI_add, zI_sub, zI_mul, zI_neg, b2_0z, cl_some, zI_inj]
    simp only [List.drop_zero] at lp
    by_cases q : yf y 0 c = z
    · rw [if_pos q, show yge y z c = yef y c from if_pos q]; exact lp _
    · rw [if_neg q, show yge y z c = 0 from if_neg q]; exact lp _
theorem Y_effD_L4 (G : Gd K h) (Y : YA w K h L y) (O : YOk y) {z : Int} (z1 : -2147483648 ≤ z) (z2 : z ≤ 2147483647) : ∀ (m k f : Nat) (a : Int), k + m = yn y → m < f → mf_X1_effortsDown_L4 (some (Ly L)) (zI z) f (zI a) (zI k) h = some (zI (a + zs (fun c => if yf y 3 c < 0 then ysub y (yge y z) c else 0) k m), h)
  | m, k, 0, a, _, hf => absurd hf (Nat.not_lt_zero _)
  | 0, k, f + 1, a, hk, hf => by
    have hn := O.n
    unfold mf_X1_effortsDown_L4 zs
    simp (disch := first | assumption | decide | omega | (simp only [aSz]; omega)) only [Y_rc Y, Y_at G Y, Y_crc Y, Y_g0 Y, Y_g1 Y, Y_g2 Y, Y_g4 Y, Y_gL Y, Y_gP Y, Y_prc Y, Y_psz Y, Y_pem G Y, Y_size Y, zI_lit, zI_add, zI_sub, zI_mul, zI_neg, b2_0z, cl_some, zI_le]
    rw [if_pos (by omega), Int.add_zero]
  | m + 1, k, f + 1, a, hk, hf => by
    have hn := O.n
    have hk' : k < yn y := by omega
    have hH := O.ho hk'
    have ih := fun b => Y_effD_L4 G Y O z1 z2 m (k + 1) f b (by omega) (by omega)
    unfold mf_X1_effortsDown_L4 zs
    simp (disch := first | assumption | decide | omega | (simp only [aSz]; omega)) only [Y_rc Y, Y_at G Y, Y_crc Y, Y_g0 Y, Y_g1 Y, Y_g2 Y, Y_g4 Y, Y_gL Y, Y_gP Y, Y_prc Y, Y_psz Y, Y_pem G Y, Y_size Y, zI_lit, zI_add, zI_sub, zI_mul, zI_neg, b2_0z, cl_some, Y_gnd G Y O, zI_le, zI_inj]
    rw [if_neg (by omega)]
    by_cases q : yf y 3 k < 0
    · have hb := Y_effB G Y O z1 z2 30 k hk' (by omega)
      rw [yef_gr O hk' (by omega)] at hb
      have hb : mf_X1_effortsBelow 30 (some (Ly L)) (zI k) (zI z) (zI 0) h = some (zI (ysub y (yge y z) k), h) := hb
      rw [decide_eq_true q, if_neg (by decide), if_pos q, ← Int.add_assoc, hb, cl_some, zI_add]; exact ih _
    · rw [decide_eq_false q, if_pos (by decide), if_neg q, ← Int.add_assoc]; exact ih _
theorem Y_effD (G : Gd K h) (Y : YA w K h L y) (O : YOk y) {z : Int} (z1 : -2147483648 ≤ z) (z2 : z ≤ 2147483647) : mf_X1_effortsDown (some (Ly L)) (zI z) h = some (zI (zs (fun c => if yf y 0 c = z then (yef y c : Int) else 0) 0 (yn y)), h) := by
  have hn := O.n
  have := Y_effD_L4 G Y O z1 z2 (yn y) 0 xk_fu 0 (by omega) (fu_lt (by omega))
  rw [Int.zero_add, ysub_all O] at this
  exact this
end
