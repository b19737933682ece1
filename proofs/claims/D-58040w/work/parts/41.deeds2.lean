/-! PURE LAW: what breaking up and loading make of a yard -/
set_option maxRecDepth 10000
def up (c j : Nat) : Nat := if j < c then j else j + 1
def dn (c k : Nat) : Nat := if c < k then k - 1 else k
theorem up_ne (c j : Nat) : up c j ≠ c := by unfold up; split <;> omega
theorem dn_up (c j : Nat) : dn c (up c j) = j := by unfold up dn; split <;> split <;> omega
theorem up_dn {c k : Nat} (h : k ≠ c) : up c (dn c k) = k := by unfold up dn; split <;> split <;> omega
theorem dn_inj {c a b : Nat} (ha : a ≠ c) (hb : b ≠ c) (e : dn c a = dn c b) : a = b := by rw [← up_dn ha, ← up_dn hb, e]
theorem idxOf_map (f : Nat → Nat) : ∀ (l : List Nat) (a : Nat), (∀ b ∈ l, f b = f a → b = a) → (l.map f).idxOf (f a) = l.idxOf a
  | [], a, _ => rfl
  | b :: l, a, h => by
    rw [List.map_cons, List.idxOf_cons, List.idxOf_cons, idxOf_map f l a fun x m => h x (List.mem_cons_of_mem _ m)]
    by_cases e : b = a
    · subst e; simp
    · have e2 : f b ≠ f a := fun z => e (h b (List.mem_cons_self ..) z)
      rw [beq_eq_false_iff_ne.2 e, beq_eq_false_iff_ne.2 e2]
theorem nodup_map (f : Nat → Nat) : ∀ (l : List Nat), l.Nodup → (∀ a ∈ l, ∀ b ∈ l, f a = f b → a = b) → (l.map f).Nodup
  | [], _, _ => List.nodup_nil
  | a :: l, h, hi => by
    rw [List.nodup_cons] at h
    rw [List.map_cons, List.nodup_cons]
    refine ⟨fun m => ?_, nodup_map f l h.2 fun x mx z mz => hi x (List.mem_cons_of_mem _ mx) z (List.mem_cons_of_mem _ mz)⟩
    obtain ⟨b, mb, e⟩ := List.mem_map.1 m
    have := hi b (List.mem_cons_of_mem _ mb) a (List.mem_cons_self ..) e
    subst this; exact h.1 mb
/-- a crate in which one lies, its number anew -/
def dnH (c : Nat) (a : Int) : Int := if (c : Int) < a then a - 1 else a
/-- c broken up: the others get their numbers anew -/
def yBreak (y : YD) (c : Nat) : YD := (yn y - 1, fun k j => if k = 3 then dnH c (yf (yLift y c) 3 (up c j)) else yf y k (up c j), fun j => yl y (up c j), fun j => (yp (yLift y c) (up c j)).map (dn c), yr y)
section
variable {y : YD}
theorem break_f {c k j : Nat} : yf (yBreak y c) k j = if k = 3 then dnH c (yf (yLift y c) 3 (up c j)) else yf y k (up c j) := rfl
theorem break_f0 {c k j : Nat} (h : k ≠ 3) : yf (yBreak y c) k j = yf y k (up c j) := by rw [break_f, if_neg h]
theorem break_p {c j : Nat} : yp (yBreak y c) j = (yp (yLift y c) (up c j)).map (dn c) := rfl
theorem up_lt {c j n : Nat} (h : j < n - 1) : up c j < n := by unfold up; split <;> omega
theorem dn_lt {c k n : Nat} (h : k < n) (hk : k ≠ c) (hc : c < n) : dn c k < n - 1 := by unfold dn; split <;> omega
theorem dnH_up {c : Nat} {a : Int} {j : Nat} (h : a ≠ c) : dnH c a = j ↔ a = (up c j : Nat) := by
  unfold dnH up
  split <;> split <;> omega
/-- c, alone, is in no pile -/
theorem alone (O : YOk y) {c : Nat} (hc : c < yn y) (t : yab y c = 0) (p : (yp y c).length = 0) : (∀ d, d < yn y → ∀ e ∈ yp (yLift y c) d, e ≠ c) ∧ ∀ d, d < yn y → yf (yLift y c) 3 d ≠ c := by
  have L := lift_ok O hc t
  refine ⟨fun d hd e z e2 => ?_, fun d hd z => ?_⟩
  · subst e2
    have := ((L.pm (c := d) hd e).1 z).2
    rw [lift_f, if_pos ⟨rfl, rfl⟩] at this; omega
  · have m := (L.pm (c := c) hc d).2 ⟨hd, z⟩
    rw [lift_p] at m
    have e : yp y c = [] := List.length_eq_zero_iff.1 p
    by_cases q : yf y 3 c = (c : Int)
    · rw [if_pos q, e] at m; cases m
    · rw [if_neg q, e] at m; cases m
theorem break_ok (O : YOk y) {c : Nat} (hc : c < yn y) (t : yab y c = 0) (p : (yp y c).length = 0) : YOk (yBreak y c) := by
  have L := lift_ok O hc t
  obtain ⟨a1, a2⟩ := alone O hc t p
  have hn := O.n
  refine ⟨by show yn y - 1 ≤ 12; omega, fun j hj => ?_⟩
  have hj : j < yn y - 1 := hj
  have hu := up_lt (c := c) hj
  have hL : up c j < yn (yLift y c) := hu
  refine ⟨?_, ?_, ?_, ?_, O.ll hu, O.lx hu, ?_, fun x => ?_, ?_⟩
  · rw [break_f0 (by decide)]; exact O.sz hu
  · rw [break_f0 (by decide), break_f0 (by decide)]; exact O.rm hu
  · rw [break_f0 (by decide)]; exact O.gp hu
  · rw [break_f, if_pos rfl]
    show _ ∧ _ < ((yn y - 1 : Nat) : Int)
    have h1 := L.ho hL
    have h2 := a2 _ hu
    rw [show yn (yLift y c) = yn y from rfl] at h1
    unfold dnH
    by_cases q : (c : Int) < yf (yLift y c) 3 (up c j)
    · rw [if_pos q]; omega
    · rw [if_neg q]; omega
  · rw [break_p]
    exact nodup_map _ _ (L.nd hL) fun a ha b hb e => dn_inj (a1 _ hu a ha) (a1 _ hu b hb) e
  · rw [break_p, break_f, if_pos rfl, List.mem_map]
    show _ ↔ x < yn y - 1 ∧ _
    constructor
    · rintro ⟨e, me, rfl⟩
      have hne : e ≠ c := a1 _ hu e me
      have he := (L.pm hL e).1 me
      have he1 : e < yn y := he.1
      rw [up_dn hne]
      refine ⟨dn_lt he1 hne hc, ?_⟩
      exact (dnH_up (a2 e he1)).2 he.2
    · rintro ⟨h1, h2⟩
      have hx := up_lt (c := c) h1
      have h3 := (dnH_up (a2 _ hx)).1 h2
      exact ⟨up c x, (L.pm hL _).2 ⟨hx, h3⟩, dn_up c x⟩
  · rw [break_p, break_f0 (by decide)]
    have ps := L.ps hL
    rw [lift_S, lift_f0 (by decide)] at ps
    have e : yS (yBreak y c) ((yp (yLift y c) (up c j)).map (dn c)) = yS y (yp (yLift y c) (up c j)) := by
      unfold yS
      rw [List.map_map]
      congr 1
      refine List.map_congr_left fun a ha => ?_
      show yf (yBreak y c) 0 (dn c a) = yf y 0 a
      rw [break_f0 (by decide), up_dn (a1 _ hu a ha)]
    rw [e]; exact ps
theorem break_place (O : YOk y) {c : Nat} (hc : c < yn y) (t : yab y c = 0) (p : (yp y c).length = 0) {j : Nat} (hj : j < yn y - 1) : ypl (yBreak y c) j = ypl y (up c j) := by
  have L := lift_ok O hc t
  obtain ⟨a1, a2⟩ := alone O hc t p
  have hu := up_lt (c := c) hj
  have hl := lift_place O hc t hu
  rw [if_neg (up_ne c j)] at hl
  rw [← hl]
  have hH := L.ho (c := up c j) hu
  have hb := (break_ok O hc t p).ho (c := j) hj
  by_cases g : yf (yLift y c) 3 (up c j) < 0
  · have e : yf (yLift y c) 3 (up c j) = -1 := by omega
    rw [place_ground (y := yLift y c) e, place_ground]
    rw [break_f, if_pos rfl, e]
    unfold dnH; rw [if_neg (by omega)]
  · obtain ⟨b, eb⟩ : ∃ b : Nat, yf (yLift y c) 3 (up c j) = b := ⟨(yf (yLift y c) 3 (up c j)).toNat, by omega⟩
    have hb : b < yn y := by have : yn (yLift y c) = yn y := rfl; omega
    have bc : b ≠ c := fun z => a2 _ hu (by rw [eb, z])
    have eb2 : yf (yBreak y c) 3 j = (dn c b : Nat) := by
      rw [break_f, if_pos rfl, eb]
      unfold dnH dn
      split <;> split <;> omega
    rw [place_in eb, place_in eb2, break_p, up_dn bc]
    conv => lhs; rw [← dn_up c j]
    refine idxOf_map (dn c) _ _ fun x mx e => dn_inj (a1 _ hb x mx) (up_ne c j) e
end
/-- the crates of r behind those of y -/
def yApp (y r : YD) : YD := (yn y + yn r, fun k c => if c < yn y then yf y k c else if k = 3 then (if yf r 3 (c - yn y) < 0 then -1 else yf r 3 (c - yn y) + yn y) else yf r k (c - yn y), fun c => if c < yn y then yl y c else yl r (c - yn y), fun c => if c < yn y then yp y c else (yp r (c - yn y)).map (· + yn y), yr y)
section
variable {y r : YD}
theorem app_f {k c : Nat} : yf (yApp y r) k c = if c < yn y then yf y k c else if k = 3 then (if yf r 3 (c - yn y) < 0 then -1 else yf r 3 (c - yn y) + yn y) else yf r k (c - yn y) := rfl
theorem app_l {c : Nat} : yl (yApp y r) c = if c < yn y then yl y c else yl r (c - yn y) := rfl
theorem app_p {c : Nat} : yp (yApp y r) c = if c < yn y then yp y c else (yp r (c - yn y)).map (· + yn y) := rfl
theorem app_f1 {k c : Nat} (h : c < yn y) : yf (yApp y r) k c = yf y k c := by rw [app_f, if_pos h]
theorem app_f2 {k c : Nat} (hk : k ≠ 3) : yf (yApp y r) k (c + yn y) = yf r k c := by rw [app_f, if_neg (by omega), if_neg hk, Nat.add_sub_cancel]
theorem app_f3 {c : Nat} : yf (yApp y r) 3 (c + yn y) = if yf r 3 c < 0 then -1 else yf r 3 c + yn y := by rw [app_f, if_neg (by omega), if_pos rfl, Nat.add_sub_cancel]
theorem app_ok (O : YOk y) (R : YOk r) (h : yn y + yn r ≤ 12) : YOk (yApp y r) := by
  refine ⟨h, fun c hc => ?_⟩
  have hc : c < yn y + yn r := hc
  by_cases q : c < yn y
  · have e : yS (yApp y r) (yp y c) = yS y (yp y c) := by
      unfold yS
      congr 1
      exact List.map_congr_left fun a ha => app_f1 (O.plt q ha)
    refine ⟨?_, ?_, ?_, ?_, ?_, ?_, ?_, fun x => ?_, ?_⟩
    · rw [app_f1 q]; exact O.sz q
    · rw [app_f1 q, app_f1 q]; exact O.rm q
    · rw [app_f1 q]; exact O.gp q
    · rw [app_f1 q]
      have := O.ho q
      show _ ∧ _ < ((yn y + yn r : Nat) : Int)
      omega
    · rw [app_l, if_pos q]; exact O.ll q
    · rw [app_l, if_pos q]; exact O.lx q
    · rw [app_p, if_pos q]; exact O.nd q
    · rw [app_p, if_pos q, O.pm q x]
      show _ ↔ x < yn y + yn r ∧ _
      by_cases q2 : x < yn y
      · rw [app_f1 q2]
        constructor
        · intro z; exact ⟨by omega, z.2⟩
        · intro z; exact ⟨q2, z.2⟩
      · constructor
        · intro z; exact absurd z.1 q2
        · intro z
          obtain ⟨w, rfl⟩ : ∃ w, x = w + yn y := ⟨x - yn y, by omega⟩
          have z2 := z.2
          rw [app_f3] at z2
          by_cases q3 : yf r 3 w < 0
          · rw [if_pos q3] at z2; omega
          · rw [if_neg q3] at z2; omega
    · rw [app_p, if_pos q, e, app_f1 q]; exact O.ps q
  · obtain ⟨b, rfl⟩ : ∃ b, c = b + yn y := ⟨c - yn y, by omega⟩
    have hb : b < yn r := by omega
    have e : yS (yApp y r) ((yp r b).map (· + yn y)) = yS r (yp r b) := by
      unfold yS
      rw [List.map_map]
      congr 1
      exact List.map_congr_left fun a ha => app_f2 (by decide)
    have ep : yp (yApp y r) (b + yn y) = (yp r b).map (· + yn y) := by rw [app_p, if_neg (by omega), Nat.add_sub_cancel]
    have el : yl (yApp y r) (b + yn y) = yl r b := by rw [app_l, if_neg (by omega), Nat.add_sub_cancel]
    refine ⟨?_, ?_, ?_, ?_, ?_, ?_, ?_, fun x => ?_, ?_⟩
    · rw [app_f2 (by decide)]; exact R.sz hb
    · rw [app_f2 (by decide), app_f2 (by decide)]; exact R.rm hb
    · rw [app_f2 (by decide)]; exact R.gp hb
    · rw [app_f3]
      have := R.ho hb
      show _ ∧ _ < ((yn y + yn r : Nat) : Int)
      by_cases q3 : yf r 3 b < 0
      · rw [if_pos q3]; omega
      · rw [if_neg q3]; omega
    · rw [el]; exact R.ll hb
    · rw [el]; exact R.lx hb
    · rw [ep]; exact nodup_map _ _ (R.nd hb) fun a _ b _ e => by simpa using e
    · rw [ep, List.mem_map]
      show _ ↔ x < yn y + yn r ∧ _
      constructor
      · rintro ⟨w, mw, rfl⟩
        obtain ⟨w1, w2⟩ := (R.pm hb w).1 mw
        refine ⟨by omega, ?_⟩
        show yf (yApp y r) 3 (w + yn y) = _
        rw [app_f3, if_neg (by omega)]; omega
      · rintro ⟨h1, h2⟩
        by_cases q2 : x < yn y
        · rw [app_f1 q2] at h2
          have := O.ho q2; omega
        · obtain ⟨w, rfl⟩ : ∃ w, x = w + yn y := ⟨x - yn y, by omega⟩
          rw [app_f3] at h2
          by_cases q3 : yf r 3 w < 0
          · rw [if_pos q3] at h2; omega
          · rw [if_neg q3] at h2
            exact ⟨w, (R.pm hb w).2 ⟨by omega, by omega⟩, rfl⟩
    · rw [ep, e, app_f2 (by decide)]; exact R.ps hb
theorem app_place (O : YOk y) (R : YOk r) {c : Nat} (hc : c < yn y + yn r) : ypl (yApp y r) c = if c < yn y then ypl y c else ypl r (c - yn y) := by
  by_cases q : c < yn y
  · rw [if_pos q]
    have hH := O.ho q
    by_cases g : yf y 3 c < 0
    · rw [place_ground (y := y) (by omega), place_ground (by rw [app_f1 q]; omega)]
    · obtain ⟨b, eb⟩ : ∃ b : Nat, yf y 3 c = b := ⟨(yf y 3 c).toNat, by omega⟩
      have hb : b < yn y := by omega
      rw [place_in eb, place_in (d := b) (by rw [app_f1 q]; exact eb), app_p, if_pos hb]
  · rw [if_neg q]
    obtain ⟨b, rfl⟩ : ∃ b, c = b + yn y := ⟨c - yn y, by omega⟩
    have hb : b < yn r := by omega
    have hH := R.ho hb
    rw [Nat.add_sub_cancel]
    by_cases g : yf r 3 b < 0
    · rw [place_ground (y := r) (by omega), place_ground (by rw [app_f3, if_pos g])]
    · obtain ⟨d, ed⟩ : ∃ d : Nat, yf r 3 b = d := ⟨(yf r 3 b).toNat, by omega⟩
      rw [place_in ed, place_in (d := d + yn y) (by rw [app_f3, if_neg g]; omega), app_p, if_neg (by omega), Nat.add_sub_cancel]
      exact idxOf_map (· + yn y) _ _ fun x _ e => by simpa using e
end
