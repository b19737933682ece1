/-! PURE LAW, yards: what both sides stand for -/
set_option maxRecDepth 10000
/-- a yard: how many crates; numbers of a crate (0 size, 1 room, 2 gaps, 3 the crate in which it lies, -1 the ground); labels; piles; refused deeds -/
abbrev YD : Type := Nat × (Nat → Nat → Int) × (Nat → List Int) × (Nat → List Nat) × Int
def yn (y : YD) : Nat := y.1
def yf (y : YD) (k c : Nat) : Int := y.2.1 k c
def yl (y : YD) (c : Nat) : List Int := y.2.2.1 c
def yp (y : YD) (c : Nat) : List Nat := y.2.2.2.1 c
def yr (y : YD) : Int := y.2.2.2.2
/-- the sum of the sizes of crates -/
def yS (y : YD) (l : List Nat) : Int := (l.map (yf y 0)).sum
def YOk (y : YD) : Prop := yn y ≤ 12 ∧ ∀ c, c < yn y → (1 ≤ yf y 0 c ∧ yf y 0 c ≤ 60) ∧ (0 ≤ yf y 1 c ∧ yf y 1 c < yf y 0 c) ∧ (0 ≤ yf y 2 c ∧ yf y 2 c ≤ 15) ∧ (-1 ≤ yf y 3 c ∧ yf y 3 c < yn y) ∧
  (1 ≤ (yl y c).length ∧ (yl y c).length ≤ 4) ∧ (∀ x ∈ yl y c, 0 ≤ x ∧ x ≤ 25) ∧ (yp y c).Nodup ∧ (∀ d : Nat, d ∈ yp y c ↔ d < yn y ∧ yf y 3 d = c) ∧ yS y (yp y c) ≤ yf y 1 c
section
variable {y : YD}
theorem YOk.n (O : YOk y) : yn y ≤ 12 := O.1
theorem YOk.sz (O : YOk y) {c : Nat} (h : c < yn y) : 1 ≤ yf y 0 c ∧ yf y 0 c ≤ 60 := (O.2 c h).1
theorem YOk.rm (O : YOk y) {c : Nat} (h : c < yn y) : 0 ≤ yf y 1 c ∧ yf y 1 c < yf y 0 c := (O.2 c h).2.1
theorem YOk.gp (O : YOk y) {c : Nat} (h : c < yn y) : 0 ≤ yf y 2 c ∧ yf y 2 c ≤ 15 := (O.2 c h).2.2.1
theorem YOk.ho (O : YOk y) {c : Nat} (h : c < yn y) : -1 ≤ yf y 3 c ∧ yf y 3 c < yn y := (O.2 c h).2.2.2.1
theorem YOk.ll (O : YOk y) {c : Nat} (h : c < yn y) : 1 ≤ (yl y c).length ∧ (yl y c).length ≤ 4 := (O.2 c h).2.2.2.2.1
theorem YOk.lx (O : YOk y) {c : Nat} (h : c < yn y) : ∀ x ∈ yl y c, 0 ≤ x ∧ x ≤ 25 := (O.2 c h).2.2.2.2.2.1
theorem YOk.nd (O : YOk y) {c : Nat} (h : c < yn y) : (yp y c).Nodup := (O.2 c h).2.2.2.2.2.2.1
theorem YOk.pm (O : YOk y) {c : Nat} (h : c < yn y) (d : Nat) : d ∈ yp y c ↔ d < yn y ∧ yf y 3 d = c := (O.2 c h).2.2.2.2.2.2.2.1 d
theorem YOk.ps (O : YOk y) {c : Nat} (h : c < yn y) : yS y (yp y c) ≤ yf y 1 c := (O.2 c h).2.2.2.2.2.2.2.2
theorem YOk.plt (O : YOk y) {c d : Nat} (h : c < yn y) (m : d ∈ yp y c) : d < yn y := ((O.pm h d).1 m).1
end
theorem sum_ge {α : Type} (f : α → Int) : ∀ (l : List α), (∀ x ∈ l, 0 ≤ f x) → ∀ x ∈ l, f x ≤ (l.map f).sum
  | [], _, x, m => nomatch m
  | b :: l, h, x, m => by
    have h0 : ∀ x ∈ l, 0 ≤ f x := fun x m => h x (List.mem_cons_of_mem _ m)
    have hs : ∀ l : List α, (∀ x ∈ l, 0 ≤ f x) → 0 ≤ (l.map f).sum := by
      intro l
      induction l with
      | nil => intro _; exact Int.le_refl _
      | cons c l ih =>
        intro h
        have a := h c (List.mem_cons_self ..)
        have b := ih fun x m => h x (List.mem_cons_of_mem _ m)
        simp only [List.map_cons, List.sum_cons]; omega
    have a := h b (List.mem_cons_self ..)
    simp only [List.map_cons, List.sum_cons]
    rcases List.mem_cons.1 m with rfl | m
    · have := hs l h0; omega
    · have := sum_ge f l h0 x m; omega
section
variable {y : YD}
/-- a crate is smaller than the one in which it lies -/
theorem YOk.lt (O : YOk y) {c d : Nat} (hc : c < yn y) (hd : d < yn y) (h : yf y 3 d = c) : yf y 0 d < yf y 0 c := by
  have m := (O.pm hc d).2 ⟨hd, h⟩
  have := sum_ge (yf y 0) (yp y c) (fun x m => by have := (O.sz (O.plt hc m)).1; omega) d m
  have q := O.ps hc
  have r := (O.rm hc).2
  unfold yS at q
  omega
end
/-! ## the crates around one -/
def isCh (y : YD) : Int → List Nat → Prop
  | a, [] => a = -1
  | a, d :: l => a = d ∧ d < yn y ∧ isCh y (yf y 3 d) l
def chF (y : YD) : Nat → Int → List Nat
  | 0, _ => []
  | f + 1, a => if a < 0 then [] else a.toNat :: chF y f (yf y 3 a.toNat)
/-- the crates around c, from inside -/
def ch (y : YD) (c : Nat) : List Nat := chF y 60 (yf y 3 c)
section
variable {y : YD}
theorem chF_ok (O : YOk y) : ∀ (f : Nat) (a : Int), -1 ≤ a → a < yn y → (0 ≤ a → 60 - yf y 0 a.toNat < f) → isCh y a (chF y f a)
  | 0, a, h1, h2, h3 => by
    by_cases e : 0 ≤ a
    · have := (O.sz (c := a.toNat) (by omega)).2
      have := h3 e; omega
    · show a = -1; omega
  | f + 1, a, h1, h2, h3 => by
    unfold chF
    by_cases e : a < 0
    · rw [if_pos e]; show a = -1; omega
    · rw [if_neg e]
      have hl : a.toNat < yn y := by omega
      refine ⟨by omega, hl, ?_⟩
      have q := O.ho hl
      refine chF_ok O f _ q.1 q.2 fun z => ?_
      have := O.lt (c := (yf y 3 a.toNat).toNat) (by omega) hl (by omega)
      have := h3 (by omega)
      omega
theorem ch_ok (O : YOk y) {c : Nat} (h : c < yn y) : isCh y (yf y 3 c) (ch y c) := by
  have q := O.ho h
  refine chF_ok O 60 _ q.1 q.2 fun z => ?_
  have := O.lt (c := (yf y 3 c).toNat) (by omega) h (by omega)
  have := (O.sz h).1
  omega
theorem isCh_uniq : ∀ {l k : List Nat} {a : Int}, isCh y a l → isCh y a k → l = k
  | [], [], _, _, _ => rfl
  | [], d :: k, a, h, g => by have : a = -1 := h; have := g.1; omega
  | d :: l, [], a, h, g => by have : a = -1 := g; have := h.1; omega
  | d :: l, b :: k, a, h, g => by
    have e : d = b := by have := h.1; have := g.1; omega
    subst e
    rw [isCh_uniq h.2.2 g.2.2]
theorem isCh_lt : ∀ {l : List Nat} {a : Int}, isCh y a l → ∀ d ∈ l, d < yn y
  | [], _, _, d, m => nomatch m
  | b :: l, a, h, d, m => by
    rcases List.mem_cons.1 m with rfl | m
    · exact h.2.1
    · exact isCh_lt h.2.2 d m
theorem ch_lt (O : YOk y) {c : Nat} (h : c < yn y) : ∀ d ∈ ch y c, d < yn y := isCh_lt (ch_ok O h)
theorem ch_ground (O : YOk y) {c : Nat} (h : c < yn y) (g : yf y 3 c = -1) : ch y c = [] := isCh_uniq (ch_ok O h) g
theorem ch_in (O : YOk y) {c d : Nat} (h : c < yn y) (hd : d < yn y) (g : yf y 3 c = d) : ch y c = d :: ch y d := isCh_uniq (ch_ok O h) ⟨g, hd, ch_ok O hd⟩
/-- all crates around one are larger -/
theorem isCh_gt (O : YOk y) : ∀ {l : List Nat} {c : Nat}, c < yn y → isCh y (yf y 3 c) l → (c :: l).Pairwise (fun a b => yf y 0 a < yf y 0 b)
  | [], c, _, _ => List.pairwise_singleton _ _
  | d :: l, c, hc, h => by
    have ih := isCh_gt O h.2.1 h.2.2
    have hl := O.lt h.2.1 hc h.1
    refine List.pairwise_cons.2 ⟨fun b m => ?_, ih⟩
    rcases List.mem_cons.1 m with rfl | m
    · exact hl
    · exact Int.lt_trans hl ((List.pairwise_cons.1 ih).1 b m)
theorem ch_gt (O : YOk y) {c : Nat} (h : c < yn y) : ∀ d ∈ ch y c, yf y 0 c < yf y 0 d := (List.pairwise_cons.1 (isCh_gt O h (ch_ok O h))).1
theorem ch_nd (O : YOk y) {c : Nat} (h : c < yn y) : (c :: ch y c).Nodup := (isCh_gt O h (ch_ok O h)).imp fun {a b} q e => by rw [e] at q; omega
theorem ch_len (O : YOk y) {c : Nat} (h : c < yn y) : (ch y c).length + 1 ≤ yn y := by
  have := (ch_nd O h).length_le_of_subset (l₂ := List.range (yn y)) (fun d m => by
    rcases List.mem_cons.1 m with rfl | m
    · exact List.mem_range.2 h
    · exact List.mem_range.2 (ch_lt O h d m))
  simpa using this
theorem ch_len11 (O : YOk y) {c : Nat} (h : c < yn y) : (ch y c).length ≤ 11 := by
  have := ch_len O h; have := O.n; omega
theorem ch_not (O : YOk y) {c : Nat} (h : c < yn y) : c ∉ ch y c := (List.nodup_cons.1 (ch_nd O h)).1
end
/-! ## counting over all crates -/
/-- the crates of a number -/
abbrev ys (y : YD) : List Nat := List.range (yn y)
theorem pile_perm {y : YD} (O : YOk y) {c : Nat} (h : c < yn y) : (yp y c).Perm ((ys y).filter fun d => yf y 3 d = (c : Int)) := by
  refine (List.perm_ext_iff_of_nodup (O.nd h) (List.Nodup.sublist List.filter_sublist List.nodup_range)).2 fun d => ?_
  rw [O.pm h d, List.mem_filter, List.mem_range, decide_eq_true_iff]
/-- place in the pile -/
def ypl (y : YD) (c : Nat) : Nat := if yf y 3 c < 0 then 0 else (yp y (yf y 3 c).toNat).idxOf c
/-- how many are above -/
def yab (y : YD) (c : Nat) : Nat := if yf y 3 c < 0 then 0 else (yp y (yf y 3 c).toNat).length - 1 - ypl y c
/-- room that is left -/
def ylf (y : YD) (c : Nat) : Int := yf y 1 c - yS y (yp y c)
/-- the crate k lies in c, at whatever depth -/
def yar (y : YD) (c k : Nat) : Bool := (ch y k).contains c
def yld (y : YD) (c : Nat) : Nat := ((ys y).filter fun k => yar y c k).length
def yopn (y : YD) (c p : Nat) : Bool := (ch y c).all fun a => yf y 2 a / 2 ^ p % 2 = 1
def ysg (y : YD) (c p : Nat) : Int := if yopn y c p then ((yl y c)[p]?).getD 27 else 26
def yls (y : YD) (c : Nat) : Nat := ((List.range (yl y c).length).filter fun p => yopn y c p).length
/-- the effort to come to a crate -/
def yef (y : YD) (c : Nat) : Nat := ((c :: ch y c).map fun k => if yf y 3 k < 0 then 0 else 1 + yab y k).sum
