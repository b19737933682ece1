/-! PURE LAW: what deeds make of a yard -/
set_option maxRecDepth 10000
theorem yS_app (y : YD) (l k : List Nat) : yS y (l ++ k) = yS y l + yS y k := by
  unfold yS; rw [List.map_append, List.sum_append]
theorem yS_one (y : YD) (c : Nat) : yS y [c] = yf y 0 c := by unfold yS; simp
/-- one more deed refused -/
def yRef (y : YD) : YD := (yn y, y.2.1, y.2.2.1, y.2.2.2.1, yr y + 1)
theorem yRef_ok {y : YD} (O : YOk y) : YOk (yRef y) := O
theorem yRef_row {s : Nat → Int32} {y : YD} (hY : MY s y) : MY (fun j => if j = 1 then s j + zI 1 else s j) (yRef y) := by
  refine ⟨hY.1, ?_, fun d hd => ?_⟩
  · show (if 1 = 1 then s 1 + zI 1 else s 1) = zI (yr y + 1)
    rw [if_pos rfl, hY.2.1, zI_add]
  · obtain ⟨a0, a1, a2, a3, a4, a5⟩ := hY.2.2 d hd
    refine ⟨?_, ?_, ?_, fun p hp => ?_, ?_, ?_⟩
    · show (if _ then _ else _) = _; rw [if_neg (by omega)]; exact a0
    · show (if _ then _ else _) = _; rw [if_neg (by omega)]; exact a1
    · show (if _ then _ else _) = _; rw [if_neg (by omega)]; exact a2
    · show (if _ then _ else _) = _; rw [if_neg (by omega)]; exact a3 p hp
    · show (if _ then _ else _) = _; rw [if_neg (by omega)]; exact a4
    · show (if _ then _ else _) = _; rw [if_neg (by omega)]; exact a5
/-- c taken out of its pile -/
def yLift (y : YD) (c : Nat) : YD := (yn y, fun k d => if k = 3 ∧ d = c then -1 else yf y k d, yl y, fun d => if yf y 3 c = (d : Int) then (yp y d).dropLast else yp y d, yr y)
section
variable {y : YD}
theorem lift_f {c k d : Nat} : yf (yLift y c) k d = if k = 3 ∧ d = c then -1 else yf y k d := rfl
theorem lift_f0 {c k d : Nat} (h : k ≠ 3) : yf (yLift y c) k d = yf y k d := by rw [lift_f, if_neg fun z => h z.1]
theorem lift_p {c d : Nat} : yp (yLift y c) d = if yf y 3 c = (d : Int) then (yp y d).dropLast else yp y d := rfl
theorem lift_S {c : Nat} (l : List Nat) : yS (yLift y c) l = yS y l := by
  unfold yS
  rw [show yf (yLift y c) 0 = yf y 0 from funext fun d => lift_f0 (by decide)]
/-- a crate with none above it is the last of its pile -/
theorem top_last (O : YOk y) {c d : Nat} (hc : c < yn y) (hd : d < yn y) (e : yf y 3 c = d) (t : yab y c = 0) : yp y d = (yp y d).dropLast ++ [c] := by
  rw [above_in e] at t
  have hp := place_lt O hc hd e
  rw [place_in e] at t hp
  have m : c ∈ yp y d := (O.pm hd c).2 ⟨hc, e⟩
  have ne : yp y d ≠ [] := List.ne_nil_of_mem m
  have hl : (yp y d).getLast ne = c := by
    rw [List.getLast_eq_getElem]
    have : (yp y d).length - 1 = (yp y d).idxOf c := by omega
    simp only [this, List.getElem_idxOf]
  have := List.dropLast_concat_getLast ne
  rw [hl] at this; exact this.symm
theorem lift_ok (O : YOk y) {c : Nat} (hc : c < yn y) (t : yab y c = 0) : YOk (yLift y c) := by
  refine ⟨O.1, fun d hd => ?_⟩
  have hd : d < yn y := hd
  have hS := @lift_S y c
  refine ⟨?_, ?_, ?_, ?_, O.ll hd, O.lx hd, ?_, fun e => ?_, ?_⟩
  · rw [lift_f0 (by decide)]; exact O.sz hd
  · rw [lift_f0 (by decide), lift_f0 (by decide)]; exact O.rm hd
  · rw [lift_f0 (by decide)]; exact O.gp hd
  · rw [lift_f]
    by_cases q : 3 = 3 ∧ d = c
    · rw [if_pos q]; show _ ∧ (-1 : Int) < yn y; omega
    · rw [if_neg q]; exact O.ho hd
  · rw [lift_p]
    by_cases q : yf y 3 c = (d : Int)
    · rw [if_pos q]; exact (List.dropLast_sublist _).nodup (O.nd hd)
    · rw [if_neg q]; exact O.nd hd
  · rw [lift_p, lift_f]
    show _ ↔ e < yn y ∧ _
    by_cases q : yf y 3 c = (d : Int)
    · rw [if_pos q]
      have tl := top_last O hc hd q t
      have nd := O.nd hd
      have pm := O.pm hd e
      rw [tl, List.nodup_append] at nd
      have hm : e ∈ yp y d ↔ e ∈ (yp y d).dropLast ∨ e = c := by
        conv => lhs; rw [tl]
        rw [List.mem_append, List.mem_singleton]
      by_cases q2 : e = c
      · subst q2
        rw [if_pos ⟨rfl, rfl⟩]
        constructor
        · intro z; exact absurd rfl (nd.2.2 e z e (List.mem_singleton.2 rfl))
        · intro z; omega
      · rw [if_neg fun z => q2 z.2, ← pm, hm]
        constructor
        · exact Or.inl
        · intro z; exact z.resolve_right q2
    · rw [if_neg q, O.pm hd e]
      by_cases q2 : e = c
      · subst q2
        rw [if_pos ⟨rfl, rfl⟩]
        constructor
        · intro z; exact absurd z.2 q
        · intro z; omega
      · rw [if_neg fun z => q2 z.2]
  · rw [hS, lift_p, lift_f0 (by decide)]
    have ps := O.ps hd
    by_cases q : yf y 3 c = (d : Int)
    · rw [if_pos q]
      have tl := top_last O hc hd q t
      have sz := O.sz hc
      rw [tl, yS_app, yS_one] at ps
      omega
    · rw [if_neg q]; exact ps
/-- places of others don't change -/
theorem lift_place (O : YOk y) {c : Nat} (hc : c < yn y) (t : yab y c = 0) {e : Nat} (he : e < yn y) : ypl (yLift y c) e = if e = c then 0 else ypl y e := by
  by_cases q : e = c
  · subst q
    rw [if_pos rfl]
    exact place_ground (by rw [lift_f, if_pos ⟨rfl, rfl⟩])
  · rw [if_neg q]
    have hf : yf (yLift y c) 3 e = yf y 3 e := by rw [lift_f, if_neg fun z => q z.2]
    have hH := O.ho he
    by_cases g : yf y 3 e < 0
    · rw [place_ground (y := y) (by omega), place_ground (by rw [hf]; omega)]
    · obtain ⟨d, ed⟩ : ∃ d : Nat, yf y 3 e = d := ⟨(yf y 3 e).toNat, by omega⟩
      have hd : d < yn y := by omega
      rw [place_in ed, place_in (hf.trans ed), lift_p]
      by_cases q2 : yf y 3 c = (d : Int)
      · rw [if_pos q2]
        have tl := top_last O hc hd q2 t
        have m : e ∈ (yp y d).dropLast := by
          have := (O.pm hd e).2 ⟨he, ed⟩
          rw [tl, List.mem_append, List.mem_singleton] at this
          exact this.resolve_right q
        conv => rhs; rw [tl]
        rw [List.idxOf_append, if_pos m]
      · rw [if_neg q2]
end
/-- c laid on top of what lies in d -/
def yPut (y : YD) (c d : Nat) : YD := (yn y, fun k e => if k = 3 ∧ e = c then (d : Int) else yf (yLift y c) k e, yl y, fun e => if e = d then yp (yLift y c) e ++ [c] else yp (yLift y c) e, yr y)
section
variable {y : YD}
theorem put_f {c d k e : Nat} : yf (yPut y c d) k e = if k = 3 ∧ e = c then (d : Int) else yf (yLift y c) k e := rfl
theorem put_f0 {c d k e : Nat} (h : k ≠ 3) : yf (yPut y c d) k e = yf y k e := by rw [put_f, if_neg fun z => h z.1, lift_f0 h]
theorem put_p {c d e : Nat} : yp (yPut y c d) e = if e = d then yp (yLift y c) e ++ [c] else yp (yLift y c) e := rfl
theorem put_S {c d : Nat} (l : List Nat) : yS (yPut y c d) l = yS y l := by
  unfold yS
  rw [show yf (yPut y c d) 0 = yf y 0 from funext fun e => put_f0 (by decide)]
theorem put_ok (O : YOk y) {c d : Nat} (hc : c < yn y) (hd : d < yn y) (w : ywp y c d = 0) : YOk (yPut y c d) := by
  unfold ywp at w
  by_cases t : yab y c = 0
  · rw [if_neg (fun z => z t)] at w
    by_cases i : c = d ∨ yar y c d = true
    · rw [if_pos i] at w; omega
    · rw [if_neg i] at w
      have room : yf y 0 c ≤ ylf y d + (if yf y 3 c = (d : Int) then yf y 0 c else 0) := by
        by_cases r : ylf y d + (if yf y 3 c = (d : Int) then yf y 0 c else 0) < yf y 0 c
        · rw [if_pos r] at w; omega
        · omega
      have L := lift_ok O hc t
      have cd : c ≠ d := fun z => i (Or.inl z)
      refine ⟨O.1, fun e he => ?_⟩
      have he : e < yn y := he
      have hL : e < yn (yLift y c) := he
      have hc' : c < yn (yLift y c) := hc
      refine ⟨?_, ?_, ?_, ?_, O.ll he, O.lx he, ?_, fun x => ?_, ?_⟩
      · rw [put_f0 (by decide)]; exact O.sz he
      · rw [put_f0 (by decide), put_f0 (by decide)]; exact O.rm he
      · rw [put_f0 (by decide)]; exact O.gp he
      · rw [put_f]
        show _ ∧ _ < ((yn y : Nat) : Int)
        by_cases q : 3 = 3 ∧ e = c
        · rw [if_pos q]; omega
        · rw [if_neg q]; exact L.ho hL
      · rw [put_p]
        by_cases q : e = d
        · rw [if_pos q, List.nodup_append]
          refine ⟨L.nd hL, by simp, fun a ha b hb => ?_⟩
          rw [List.mem_singleton] at hb
          subst hb
          intro z
          subst z
          have := ((L.pm hL a).1 ha).2
          rw [lift_f, if_pos ⟨rfl, rfl⟩] at this
          omega
        · rw [if_neg q]; exact L.nd hL
      · rw [put_p, put_f]
        show _ ↔ x < yn y ∧ _
        have pm := L.pm hL x
        rw [show yn (yLift y c) = yn y from rfl] at pm
        by_cases q : e = d
        · rw [if_pos q, List.mem_append, List.mem_singleton, pm]
          by_cases q2 : x = c
          · subst q2; rw [if_pos ⟨rfl, rfl⟩, q]; exact ⟨fun _ => ⟨hc, rfl⟩, fun _ => Or.inr rfl⟩
          · rw [if_neg fun z => q2 z.2]; exact ⟨fun z => z.resolve_right q2, Or.inl⟩
        · rw [if_neg q, pm]
          by_cases q2 : x = c
          · subst q2
            rw [if_pos ⟨rfl, rfl⟩, lift_f, if_pos ⟨rfl, rfl⟩]
            constructor
            · intro z; omega
            · intro z; omega
          · rw [if_neg fun z => q2 z.2]
      · rw [put_S, put_p, put_f0 (by decide)]
        have ps := L.ps hL
        rw [lift_S, lift_f0 (by decide)] at ps
        by_cases q : e = d
        · subst q
          rw [if_pos rfl, yS_app, yS_one]
          unfold ylf at room
          by_cases q2 : yf y 3 c = (e : Int)
          · have tl := top_last O hc he q2 t
            rw [if_pos q2, tl, yS_app, yS_one] at room
            rw [lift_p, if_pos q2]; omega
          · rw [if_neg q2] at room
            rw [lift_p, if_neg q2]; omega
        · rw [if_neg q]; exact ps
  · rw [if_pos t] at w; omega
theorem put_place (O : YOk y) {c d : Nat} (hc : c < yn y) (hd : d < yn y) (t : yab y c = 0) {e : Nat} (he : e < yn y) : ypl (yPut y c d) e = if e = c then (yp (yLift y c) d).length else ypl y e := by
  have L := lift_ok O hc t
  have hd' : d < yn (yLift y c) := hd
  by_cases q : e = c
  · subst q
    rw [if_pos rfl, place_in (d := d) (by rw [put_f, if_pos ⟨rfl, rfl⟩]), put_p, if_pos rfl, List.idxOf_append, if_neg]
    · simp
    · intro z
      have := ((L.pm hd' e).1 z).2
      rw [lift_f, if_pos ⟨rfl, rfl⟩] at this
      omega
  · have hl := lift_place O hc t he
    rw [if_neg q] at hl ⊢
    rw [← hl]
    have hf : yf (yPut y c d) 3 e = yf (yLift y c) 3 e := by rw [put_f, if_neg fun z => q z.2]
    have hH := L.ho (c := e) he
    by_cases g : yf (yLift y c) 3 e < 0
    · rw [place_ground (by rw [hf]; omega), place_ground (by omega)]
    · obtain ⟨b, eb⟩ : ∃ b : Nat, yf (yLift y c) 3 e = b := ⟨(yf (yLift y c) 3 e).toNat, by omega⟩
      have hb : b < yn (yLift y c) := by omega
      rw [place_in eb, place_in (hf.trans eb), put_p]
      by_cases q2 : b = d
      · rw [if_pos q2, List.idxOf_append, if_pos ((L.pm hb e).2 ⟨he, eb⟩)]
      · rw [if_neg q2]
end
