/-! PURE LAW: a crate as text -/
set_option maxRecDepth 10000
/-- a number's digits: one or two -/
def ydg (v : Int) : List Int := if 9 < v then [48 + v / 10, 48 + v % 10] else [48 + v % 10]
/-- a crate without its pile -/
def yhd (y : YD) (c : Nat) : List Int := (yl y c).map (65 + ·) ++ (115 :: ydg (yf y 0 c)) ++ (114 :: ydg (yf y 1 c)) ++ (103 :: ydg (yf y 2 c))
def ytxF (y : YD) : Nat → Nat → List Int
  | 0, c => yhd y c
  | f + 1, c => if (yp y c).length = 0 then yhd y c else yhd y c ++ (91 :: ((yp y c).flatMap (ytxF y f) ++ [93]))
/-- a crate with its pile -/
def ytx (y : YD) (c : Nat) : List Int := ytxF y 60 c
/-- the crates of a crate's text -/
def ytsF (y : YD) : Nat → Nat → List Nat
  | 0, c => [c]
  | f + 1, c => c :: (yp y c).flatMap (ytsF y f)
section
variable {y : YD}
theorem pile_lt (O : YOk y) {c d : Nat} (hc : c < yn y) (m : d ∈ yp y c) : yf y 0 d < yf y 0 c := O.lt hc (O.plt hc m) ((O.pm hc d).1 m).2
theorem flatMap_congr {α : Type} {f g : Nat → List α} : ∀ {l : List Nat}, (∀ a ∈ l, f a = g a) → l.flatMap f = l.flatMap g
  | [], _ => rfl
  | a :: l, h => by
    rw [List.flatMap_cons, List.flatMap_cons, h a (List.mem_cons_self ..), flatMap_congr fun b m => h b (List.mem_cons_of_mem _ m)]
theorem ytxF_st (O : YOk y) : ∀ (f g c : Nat), c < yn y → yf y 0 c ≤ f → yf y 0 c ≤ g → ytxF y f c = ytxF y g c
  | 0, g, c, hc, h1, h2 => by have := (O.sz hc).1; omega
  | f + 1, 0, c, hc, h1, h2 => by have := (O.sz hc).1; omega
  | f + 1, g + 1, c, hc, h1, h2 => by
    unfold ytxF
    rw [flatMap_congr fun d m => ytxF_st O f g d (O.plt hc m) (by have := pile_lt O hc m; omega) (by have := pile_lt O hc m; omega)]
theorem ytx_eq (O : YOk y) {c : Nat} (hc : c < yn y) : ytx y c = if (yp y c).length = 0 then yhd y c else yhd y c ++ (91 :: ((yp y c).flatMap (ytx y) ++ [93])) := by
  unfold ytx
  rw [ytxF_st O 60 61 c hc (O.sz hc).2 (by have := (O.sz hc).2; omega)]
  rfl
theorem yhd_len (O : YOk y) {c : Nat} (hc : c < yn y) : 7 ≤ (yhd y c).length ∧ (yhd y c).length ≤ 13 := by
  have l := O.ll hc
  have d : ∀ v : Int, 1 ≤ (ydg v).length ∧ (ydg v).length ≤ 2 := by
    intro v; unfold ydg; split <;> simp
  have d0 := d (yf y 0 c); have d1 := d (yf y 1 c); have d2 := d (yf y 2 c)
  unfold yhd
  simp only [List.length_append, List.length_cons, List.length_map]
  omega
theorem ytsF_st (O : YOk y) : ∀ (f g c : Nat), c < yn y → yf y 0 c ≤ f → yf y 0 c ≤ g → ytsF y f c = ytsF y g c
  | 0, g, c, hc, h1, h2 => by have := (O.sz hc).1; omega
  | f + 1, 0, c, hc, h1, h2 => by have := (O.sz hc).1; omega
  | f + 1, g + 1, c, hc, h1, h2 => by
    unfold ytsF
    rw [flatMap_congr fun d m => ytsF_st O f g d (O.plt hc m) (by have := pile_lt O hc m; omega) (by have := pile_lt O hc m; omega)]
/-- what is in a crate's text lies in it -/
theorem ytsF_mem (O : YOk y) : ∀ (f c x : Nat), c < yn y → x ∈ ytsF y f c → x < yn y ∧ c ∈ x :: ch y x
  | 0, c, x, hc, m => by
    have e := List.mem_singleton.1 m
    subst e
    exact ⟨hc, List.mem_cons_self ..⟩
  | f + 1, c, x, hc, m => by
    rcases List.mem_cons.1 m with rfl | m
    · exact ⟨hc, List.mem_cons_self ..⟩
    · obtain ⟨d, md, mx⟩ := List.mem_flatMap.1 m
      have hd := O.plt hc md
      obtain ⟨hx, h1⟩ := ytsF_mem O f d x hd mx
      refine ⟨hx, List.mem_cons_of_mem _ ?_⟩
      have e := ((O.pm hc d).1 md).2
      have cd := ch_in O hd hc e
      -- c follows d in the chain
      have key : ∀ (l : List Nat) (a : Nat), a < yn y → isCh y (yf y 3 a) l → d ∈ a :: l → c ∈ l := by
        intro l
        induction l with
        | nil =>
          intro a ha hl ma
          have e2 : d = a := List.mem_singleton.1 ma
          subst e2
          have hl : yf y 3 d = -1 := hl
          omega
        | cons b l ih =>
          intro a ha hl ma
          obtain ⟨e2, hb, hl⟩ := hl
          rcases List.mem_cons.1 ma with e3 | ma
          · subst e3
            have : b = c := by omega
            subst this; exact List.mem_cons_self ..
          · exact List.mem_cons_of_mem _ (ih b hb hl ma)
      exact key (ch y x) x hx (ch_ok O hx) h1
theorem chain_two (O : YOk y) : ∀ (l : List Nat) (x a b : Nat), x < yn y → isCh y (yf y 3 x) l → a ∈ x :: l → b ∈ x :: l → a = b ∨ b ∈ ch y a ∨ a ∈ ch y b
  | l, x, a, b, hx, hl, ha, hb => by
    have el := isCh_uniq (ch_ok O hx) hl
    rcases List.mem_cons.1 ha with e1 | ma
    · rcases List.mem_cons.1 hb with e2 | mb
      · exact Or.inl (e1.trans e2.symm)
      · exact Or.inr (Or.inl (by rw [e1, el]; exact mb))
    · rcases List.mem_cons.1 hb with e2 | mb
      · exact Or.inr (Or.inr (by rw [e2, el]; exact ma))
      · match l, hl, ma, mb with
        | d :: l, hl, ma, mb => exact chain_two O l d a b hl.2.1 hl.2.2 ma mb
theorem nodup_flatMap {f : Nat → List Nat} : ∀ {l : List Nat}, l.Nodup → (∀ a ∈ l, (f a).Nodup) → (∀ a ∈ l, ∀ b ∈ l, a ≠ b → ∀ x ∈ f a, x ∉ f b) → (l.flatMap f).Nodup
  | [], _, _, _ => List.nodup_nil
  | a :: l, h, h1, h2 => by
    rw [List.nodup_cons] at h
    rw [List.flatMap_cons, List.nodup_append]
    refine ⟨h1 a (List.mem_cons_self ..), nodup_flatMap h.2 (fun b m => h1 b (List.mem_cons_of_mem _ m)) fun b mb c mc => h2 b (List.mem_cons_of_mem _ mb) c (List.mem_cons_of_mem _ mc), fun x mx z mz e => ?_⟩
    subst e
    obtain ⟨b, mb, mx2⟩ := List.mem_flatMap.1 mz
    exact h2 a (List.mem_cons_self ..) b (List.mem_cons_of_mem _ mb) (fun e => h.1 (e ▸ mb)) x mx mx2
theorem ytsF_nd (O : YOk y) : ∀ (f c : Nat), c < yn y → (ytsF y f c).Nodup
  | 0, c, hc => by unfold ytsF; simp
  | f + 1, c, hc => by
    unfold ytsF
    rw [List.nodup_cons]
    constructor
    · intro m
      obtain ⟨d, md, mx⟩ := List.mem_flatMap.1 m
      have hd := O.plt hc md
      have h1 := (ytsF_mem O f d c hd mx).2
      have h2 := pile_lt O hc md
      rcases List.mem_cons.1 h1 with e | h1
      · subst e; omega
      · have := ch_gt O hc d h1; omega
    · refine nodup_flatMap (O.nd hc) (fun d m => ytsF_nd O f d (O.plt hc m)) fun a ma b mb ne x m1 m2 => ?_
      have ha := O.plt hc ma
      have hb := O.plt hc mb
      obtain ⟨hx, h1⟩ := ytsF_mem O f a x ha m1
      have h2 := (ytsF_mem O f b x hb m2).2
      have ea := ch_in O ha hc ((O.pm hc a).1 ma).2
      have eb := ch_in O hb hc ((O.pm hc b).1 mb).2
      have za := pile_lt O hc ma
      have zb := pile_lt O hc mb
      rcases chain_two O (ch y x) x a b hx (ch_ok O hx) h1 h2 with e | e | e
      · exact ne e
      · rw [ea] at e
        rcases List.mem_cons.1 e with e | e
        · subst e; omega
        · have := ch_gt O hc b e; omega
      · rw [eb] at e
        rcases List.mem_cons.1 e with e | e
        · subst e; omega
        · have := ch_gt O hc a e; omega
theorem len_flatMap {f : Nat → List Int} {g : Nat → List Nat} {B : Nat} : ∀ {l : List Nat}, (∀ a ∈ l, (f a).length ≤ B * (g a).length) → (l.flatMap f).length ≤ B * (l.flatMap g).length
  | [], _ => by simp
  | a :: l, h => by
    have h0 := h a (List.mem_cons_self ..)
    have ih := len_flatMap (f := f) (g := g) (B := B) (l := l) fun b m => h b (List.mem_cons_of_mem _ m)
    rw [List.flatMap_cons, List.flatMap_cons, List.length_append, List.length_append, Nat.mul_add]; omega
theorem ytxF_len (O : YOk y) : ∀ (f c : Nat), c < yn y → (ytxF y f c).length ≤ 15 * (ytsF y f c).length
  | 0, c, hc => by
    have := yhd_len O hc
    unfold ytxF ytsF
    rw [List.length_singleton]; omega
  | f + 1, c, hc => by
    have h0 := yhd_len O hc
    have ih := len_flatMap (f := ytxF y f) (g := ytsF y f) (B := 15) (l := yp y c) fun d m => ytxF_len O f d (O.plt hc m)
    unfold ytxF ytsF
    rw [List.length_cons]
    by_cases q : (yp y c).length = 0
    · rw [if_pos q]; omega
    · rw [if_neg q, List.length_append, List.length_cons, List.length_append, List.length_singleton]; omega
theorem ytx_len (O : YOk y) {c : Nat} (hc : c < yn y) : (ytx y c).length ≤ 180 := by
  have h1 := ytxF_len O 60 c hc
  have h2 := (ytsF_nd O 60 c hc).length_le_of_subset (l₂ := List.range (yn y)) fun x m => List.mem_range.2 (ytsF_mem O 60 c x hc m).1
  rw [List.length_range] at h2
  have hn := O.n
  unfold ytx; omega
end
