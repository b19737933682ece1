/-! PURE LAW: what is read holds together -/
set_option maxRecDepth 10000
/-- what is read so far -/
def ROk (r : YD) : Prop := ∀ c, c < yn r → (1 ≤ yf r 0 c ∧ yf r 0 c ≤ 60) ∧ (0 ≤ yf r 1 c ∧ yf r 1 c ≤ 59) ∧ (0 ≤ yf r 2 c ∧ yf r 2 c ≤ 15) ∧ (-1 ≤ yf r 3 c ∧ yf r 3 c < c) ∧
  (1 ≤ (yl r c).length ∧ (yl r c).length ≤ 4) ∧ (∀ x ∈ yl r c, 0 ≤ x ∧ x ≤ 25) ∧ (yp r c).Nodup ∧ ∀ d : Nat, d ∈ yp r c ↔ d < yn r ∧ yf r 3 d = c
/-- rooms are less than sizes, piles fit -/
def rFit (r : YD) : Bool := (List.range (yn r)).all fun c => decide (yf r 1 c < yf r 0 c ∧ yS r (yp r c) ≤ yf r 1 c)
section
variable {p : List Int} {i : Nat} {σ : List Nat} {r : YD}
theorem ROk.y (O : ROk r) (n : yn r ≤ 12) (f : rFit r = true) : YOk r := by
  refine ⟨n, fun c hc => ?_⟩
  obtain ⟨a, b, d, e, l1, l2, nd, pm⟩ := O c hc
  unfold rFit at f
  have := of_decide_eq_true (List.all_eq_true.1 f c (List.mem_range.2 hc))
  exact ⟨a, ⟨b.1, this.1⟩, d, ⟨e.1, by omega⟩, l1, l2, nd, pm, this.2⟩
theorem YOk.fit (O : YOk r) : rFit r = true := by
  unfold rFit
  rw [List.all_eq_true]
  intro c mc
  have hc := List.mem_range.1 mc
  exact decide_eq_true ⟨(O.rm hc).2, O.ps hc⟩
theorem rAdd_f {a : Int} {lb : List Int} {s m g : Int} {k c : Nat} : yf (rAdd r a lb s m g) k c = if c = yn r then (if k = 0 then s else if k = 1 then m else if k = 2 then g else a) else yf r k c := rfl
theorem rAdd_l {a : Int} {lb : List Int} {s m g : Int} {c : Nat} : yl (rAdd r a lb s m g) c = if c = yn r then lb else yl r c := rfl
theorem rAdd_p {a : Int} {lb : List Int} {s m g : Int} {c : Nat} : yp (rAdd r a lb s m g) c = if c = yn r then [] else if a = (c : Int) then yp r c ++ [yn r] else yp r c := rfl
theorem rAdd_n {a : Int} {lb : List Int} {s m g : Int} : yn (rAdd r a lb s m g) = yn r + 1 := rfl
theorem rAdd_ok (O : ROk r) {a : Int} {lb : List Int} {s m g : Int} (hs : 1 ≤ s ∧ s ≤ 60) (hm : 0 ≤ m ∧ m ≤ 59) (hg : 0 ≤ g ∧ g ≤ 15) (ha : -1 ≤ a ∧ a < yn r) (hl : 1 ≤ lb.length ∧ lb.length ≤ 4) (hx : ∀ x ∈ lb, 0 ≤ x ∧ x ≤ 25) : ROk (rAdd r a lb s m g) := by
  intro c hc
  rw [rAdd_n] at hc
  simp only [rAdd_f, rAdd_l, rAdd_p, rAdd_n]
  by_cases q : c = yn r
  · subst q
    simp only [if_pos]
    refine ⟨hs, hm, hg, ha, hl, hx, List.nodup_nil, fun d => ⟨fun m => (nomatch m), fun ⟨h1, h2⟩ => ?_⟩⟩
    by_cases z : d = yn r
    · rw [if_pos z, if_neg (by decide), if_neg (by decide), if_neg (by decide)] at h2; omega
    · rw [if_neg z] at h2
      have := (O d (by omega)).2.2.2.1
      omega
  · simp only [if_neg q]
    have hc' : c < yn r := by omega
    obtain ⟨b1, b2, b3, b4, b5, b6, nd, pm⟩ := O c hc'
    refine ⟨b1, b2, b3, b4, b5, b6, ?_, fun d => ?_⟩
    · by_cases z : a = (c : Int)
      · rw [if_pos z]
        refine List.nodup_append.2 ⟨nd, by simp, fun x mx y my => ?_⟩
        have := ((pm x).1 mx).1
        rw [List.mem_singleton.1 my]; omega
      · rw [if_neg z]; exact nd
    · by_cases z : a = (c : Int)
      · rw [if_pos z, List.mem_append, List.mem_singleton, pm d]
        by_cases w : d = yn r
        · subst w; simp [z]
        · rw [if_neg w]
          constructor
          · rintro (⟨h1, h2⟩ | h)
            · exact ⟨by omega, h2⟩
            · exact absurd h w
          · rintro ⟨h1, h2⟩
            exact Or.inl ⟨by omega, h2⟩
      · rw [if_neg z, pm d]
        by_cases w : d = yn r
        · subst w
          rw [if_pos rfl, if_neg (by decide), if_neg (by decide), if_neg (by decide)]
          constructor
          · rintro ⟨h1, _⟩; omega
          · rintro ⟨_, h2⟩; exact absurd h2 z
        · rw [if_neg w]
          constructor
          · rintro ⟨h1, h2⟩; exact ⟨by omega, h2⟩
          · rintro ⟨h1, h2⟩; exact ⟨by omega, h2⟩
/-- the state of the reading -/
def RIn (p : List Int) (i : Nat) (σ : List Nat) (r : YD) : Prop := ROk r ∧ 7 * yn r ≤ i ∧ i ≤ p.length ∧ σ.length ≤ yn r ∧ ∀ a ∈ σ, a < yn r
theorem hdI_bd (h : ∀ a ∈ σ, a < yn r) : -1 ≤ hdI σ ∧ hdI σ < yn r := by
  cases σ with
  | nil => show -1 ≤ (-1 : Int) ∧ (-1 : Int) < yn r; omega
  | cons a σ => have := h a (List.mem_cons_self ..); show -1 ≤ (a : Int) ∧ (a : Int) < yn r; omega
theorem st_split {l g : Int} {c : Int} {s : RS} (e : (stN p l g (stS p c s)).2 = true) : s.2 = true ∧ cR p s.1 = c ∧ (stS p c s) = (s.1 + 1, true) ∧ 48 + l ≤ cR p (s.1 + 1) ∧ cR p (s.1 + 1) ≤ 57 := by
  unfold stN at e
  by_cases q : (stS p c s).2 = true ∧ 48 + l ≤ cR p (stS p c s).1 ∧ cR p (stS p c s).1 ≤ 57
  · obtain ⟨q1, q2, q3⟩ := q
    unfold stS at q1 q2 q3 ⊢
    by_cases z : s.2 = true ∧ cR p s.1 = c
    · rw [if_pos z] at q2 q3 ⊢
      exact ⟨z.1, z.2, rfl, q2, q3⟩
    · rw [if_neg z] at q1; cases q1
  · rw [if_neg q] at e; cases e
theorem vN_bd {l g : Int} (hl : 0 ≤ l) (hg : 9 ≤ g) {j : Nat} (h1 : 48 + l ≤ cR p j) (h2 : cR p j ≤ 57) : l ≤ vN p g j ∧ vN p g j ≤ g := by
  unfold vN
  by_cases q : rdM p g j = true
  · rw [if_pos q]
    unfold rdM at q
    have q := of_decide_eq_true q
    omega
  · rw [if_neg q]; omega
/-- what a right crate is -/
theorem h4_bd (e : (h4 p i).2 = true) : (1 ≤ vN p 60 (h1 p i).1 ∧ vN p 60 (h1 p i).1 ≤ 60) ∧ (0 ≤ vN p 59 (h2 p i).1 ∧ vN p 59 (h2 p i).1 ≤ 59) ∧ (0 ≤ vN p 15 (h3 p i).1 ∧ vN p 15 (h3 p i).1 ≤ 15) ∧ 1 ≤ (rdL p 4 i).length := by
  obtain ⟨a1, a2, a3, a4, a5⟩ := st_split (p := p) (l := 0) (g := 15) (c := 103) (s := stN p 0 59 (h2 p i)) e
  obtain ⟨b1, b2, b3, b4, b5⟩ := st_split (p := p) (l := 0) (g := 59) (c := 114) (s := stN p 1 60 (h1 p i)) a1
  obtain ⟨c1, c2, c3, c4, c5⟩ := st_split (p := p) (l := 1) (g := 60) (c := 115) (s := stL p (i, true)) b1
  have e3 : h3 p i = ((stN p 0 59 (h2 p i)).1 + 1, true) := a3
  have e2 : h2 p i = ((stN p 1 60 (h1 p i)).1 + 1, true) := b3
  have e1 : h1 p i = ((stL p (i, true)).1 + 1, true) := c3
  refine ⟨?_, ?_, ?_, ?_⟩
  · rw [e1]; exact vN_bd (by omega) (by omega) c4 c5
  · rw [e2]; exact vN_bd (by omega) (by omega) b4 b5
  · rw [e3]; exact vN_bd (by omega) (by omega) a4 a5
  · unfold stL at c1
    by_cases q : (i, true).2 = true ∧ rdL p 4 (i, true).1 ≠ []
    · exact List.length_pos_iff.2 q.2
    · rw [if_neg q] at c1; cases c1
theorem rNx_ok (I : RIn p i σ r) (e : (h4 p i).2 = true) : ROk (rNx p i σ r) := by
  obtain ⟨b1, b2, b3, b4⟩ := h4_bd e
  obtain ⟨l1, l2, _⟩ := rdL_ok (p := p) 4 i
  exact rAdd_ok I.1 b1 b2 b3 (hdI_bd I.2.2.2.2) ⟨b4, l1⟩ l2
theorem rNx_in (I : RIn p i σ r) (e : (h4 p i).2 = true) : RIn p (h4 p i).1 σ (rNx p i σ r) := by
  have := h4_le e
  obtain ⟨i1, i2, i3, i4, i5⟩ := I
  exact ⟨rNx_ok ⟨i1, i2, i3, i4, i5⟩ e, by show 7 * (yn r + 1) ≤ _; omega, this.2, Nat.le_succ_of_le i4, fun a m => Nat.lt_succ_of_lt (i5 a m)⟩
theorem rNx_op (I : RIn p i σ r) (e : (h4 p i).2 = true) (c : cR p (h4 p i).1 = 91) : RIn p ((h4 p i).1 + 1) (yn r :: σ) (rNx p i σ r) := by
  obtain ⟨i1, i2, i3, i4, i5⟩ := rNx_in I e
  have := cR_in c (by omega)
  exact ⟨i1, by omega, this, by rw [List.length_cons]; have := I.2.2.2.1; show σ.length + 1 ≤ yn r + 1; omega, fun a m => by
    rcases List.mem_cons.1 m with rfl | m
    · exact Nat.lt_succ_self _
    · exact i5 a m⟩
theorem ROk.cnt (O : ROk r) {c : Nat} (hc : c < yn r) : zs (fun d => if yf r 3 d = (c : Int) then 1 else 0) 0 (yn r) = (yp r c).length := by
  obtain ⟨_, _, _, _, _, _, nd, pm⟩ := O c hc
  have e := zs_filter (fun d => decide (yf r 3 d = (c : Int))) (fun _ => 1) (yn r) 0
  simp only [decide_eq_true_iff] at e
  rw [e, sum_ones, ← List.range_eq_range']
  have : (yp r c).Perm ((List.range (yn r)).filter fun d => yf r 3 d = (c : Int)) := (List.perm_ext_iff_of_nodup nd (List.Nodup.sublist List.filter_sublist List.nodup_range)).2 fun d => by
    rw [pm d, List.mem_filter, List.mem_range, decide_eq_true_iff]
  rw [this.length_eq]
theorem ROk.sum (O : ROk r) {c : Nat} (hc : c < yn r) : zs (fun d => if yf r 3 d = (c : Int) then yf r 0 d else 0) 0 (yn r) = yS r (yp r c) := by
  obtain ⟨_, _, _, _, _, _, nd, pm⟩ := O c hc
  have e := zs_filter (fun d => decide (yf r 3 d = (c : Int))) (yf r 0) (yn r) 0
  simp only [decide_eq_true_iff] at e
  rw [e, ← List.range_eq_range']
  have : (yp r c).Perm ((List.range (yn r)).filter fun d => yf r 3 d = (c : Int)) := (List.perm_ext_iff_of_nodup nd (List.Nodup.sublist List.filter_sublist List.nodup_range)).2 fun d => by
    rw [pm d, List.mem_filter, List.mem_range, decide_eq_true_iff]
  exact (perm_sum (this.map _)).symm
/-- places stay; the new one's is the last -/
theorem rAdd_place (O : ROk r) {a : Int} (ha : -1 ≤ a ∧ a < yn r) {lb : List Int} {s m g : Int} {c : Nat} (hc : c < yn r + 1) : ypl (rAdd r a lb s m g) c = if c = yn r then (if a < 0 then 0 else (yp r a.toNat).length) else ypl r c := by
  unfold ypl
  simp only [rAdd_f, rAdd_p]
  by_cases q : c = yn r
  · subst q
    simp only [if_pos]
    rw [if_neg (show ¬ (3 : Nat) = 0 by decide), if_neg (show ¬ (3 : Nat) = 1 by decide), if_neg (show ¬ (3 : Nat) = 2 by decide)]
    by_cases z : a < 0
    · rw [if_pos z, if_pos z]
    · rw [if_neg z, if_neg z, if_neg (by omega), if_pos (by omega)]
      have : yn r ∉ yp r a.toNat := fun m => by
        have := ((O a.toNat (by omega)).2.2.2.2.2.2.2 (yn r)).1 m
        omega
      rw [List.idxOf_append, if_neg this]
      simp
  · simp only [if_neg q]
    have hh := (O c (by omega)).2.2.2.1
    by_cases z : yf r 3 c < 0
    · rw [if_pos z, if_pos z]
    · rw [if_neg z, if_neg z, if_neg (by omega)]
      have m : c ∈ yp r (yf r 3 c).toNat := ((O (yf r 3 c).toNat (by omega)).2.2.2.2.2.2.2 c).2 ⟨by omega, by omega⟩
      split
      · rw [List.idxOf_append, if_pos m]
      · rfl
end
