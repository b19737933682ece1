/-! PURE LAW: reading crates, abstractly -/
set_option maxRecDepth 10000
/-- the character at a place; 0 behind the end -/
def cR (p : List Int) (i : Nat) : Int := (p[i]?).getD 0
/-- the letters from a place on, at most so many -/
def rdL (p : List Int) : Nat → Nat → List Int
  | 0, _ => []
  | f + 1, i => if 65 ≤ cR p i ∧ cR p i ≤ 90 then (cR p i - 65) :: rdL p f (i + 1) else []
/-- a place, and whether all was right so far -/
abbrev RS : Type := Nat × Bool
def stL (p : List Int) (s : RS) : RS := if s.2 = true ∧ rdL p 4 s.1 ≠ [] then (s.1 + (rdL p 4 s.1).length, true) else (s.1, false)
def stS (p : List Int) (c : Int) (s : RS) : RS := if s.2 = true ∧ cR p s.1 = c then (s.1 + 1, true) else (s.1, false)
/-- whether a second digit is taken -/
def rdM (p : List Int) (g : Int) (i : Nat) : Bool := decide (0 < cR p i - 48 ∧ 48 ≤ cR p (i + 1) ∧ cR p (i + 1) ≤ 57 ∧ 10 * (cR p i - 48) + cR p (i + 1) - 48 ≤ g)
def stN (p : List Int) (l g : Int) (s : RS) : RS := if s.2 = true ∧ 48 + l ≤ cR p s.1 ∧ cR p s.1 ≤ 57 then (s.1 + (if rdM p g s.1 = true then 2 else 1), true) else (s.1, false)
def vN (p : List Int) (g : Int) (i : Nat) : Int := if rdM p g i = true then 10 * (cR p i - 48) + cR p (i + 1) - 48 else cR p i - 48
def h1 (p : List Int) (i : Nat) : RS := stS p 115 (stL p (i, true))
def h2 (p : List Int) (i : Nat) : RS := stS p 114 (stN p 1 60 (h1 p i))
def h3 (p : List Int) (i : Nat) : RS := stS p 103 (stN p 0 59 (h2 p i))
/-- behind a crate without its pile -/
def h4 (p : List Int) (i : Nat) : RS := stN p 0 15 (h3 p i)
/-- a crate joins a yard, in the pile of the one around it -/
def rAdd (r : YD) (a : Int) (lb : List Int) (s m g : Int) : YD := (yn r + 1, fun k c => if c = yn r then (if k = 0 then s else if k = 1 then m else if k = 2 then g else a) else yf r k c, fun c => if c = yn r then lb else yl r c, fun c => if c = yn r then [] else if a = (c : Int) then yp r c ++ [yn r] else yp r c, 0)
/-- the crate around the next one: the innermost of the open ones -/
def hdI (σ : List Nat) : Int := match σ with | [] => -1 | a :: _ => a
/-- the yard with the crate that is read at a place -/
def rNx (p : List Int) (i : Nat) (σ : List Nat) (r : YD) : YD := rAdd r (hdI σ) (rdL p 4 i) (vN p 60 (h1 p i).1) (vN p 59 (h2 p i).1) (vN p 15 (h3 p i).1)
/-- the reading: with the flag, behind a crate; without it, before one; the answer is the place of the fault, or the yard -/
def rdX (p : List Int) : Nat → Bool → Nat → List Nat → YD → Option (Nat ⊕ YD)
  | 0, _, _, _, _ => none
  | f + 1, false, i, σ, r => if (h4 p i).2 = false then some (.inl (h4 p i).1) else if cR p (h4 p i).1 = 91 then rdX p f false ((h4 p i).1 + 1) (yn r :: σ) (rNx p i σ r) else rdX p f true (h4 p i).1 σ (rNx p i σ r)
  | f + 1, true, i, [], r => if i < p.length then rdX p f false i [] r else some (.inr r)
  | f + 1, true, i, a :: σ, r => if cR p i = 93 then rdX p f true (i + 1) σ r else rdX p f false i (a :: σ) r
def Rd (p : List Int) (b : Bool) (i : Nat) (σ : List Nat) (r : YD) (R : Nat ⊕ YD) : Prop := ∃ f, rdX p f b i σ r = some R
section
variable {p : List Int} {i : Nat} {σ : List Nat} {r : YD} {R : Nat ⊕ YD}
theorem Rd.fault (e : (h4 p i).2 = false) : Rd p false i σ r (.inl (h4 p i).1) := ⟨1, by unfold rdX; rw [if_pos e]⟩
theorem Rd.opn (e : (h4 p i).2 = true) (c : cR p (h4 p i).1 = 91) (x : Rd p false ((h4 p i).1 + 1) (yn r :: σ) (rNx p i σ r) R) : Rd p false i σ r R := by
  obtain ⟨f, hf⟩ := x
  exact ⟨f + 1, by unfold rdX; rw [if_neg (by rw [e]; simp), if_pos c]; exact hf⟩
theorem Rd.go (e : (h4 p i).2 = true) (c : cR p (h4 p i).1 ≠ 91) (x : Rd p true (h4 p i).1 σ (rNx p i σ r) R) : Rd p false i σ r R := by
  obtain ⟨f, hf⟩ := x
  exact ⟨f + 1, by unfold rdX; rw [if_neg (by rw [e]; simp), if_neg c]; exact hf⟩
theorem Rd.done (l : p.length ≤ i) : Rd p true i [] r (.inr r) := ⟨1, by unfold rdX; rw [if_neg (by omega)]⟩
theorem Rd.next (l : i < p.length) (x : Rd p false i [] r R) : Rd p true i [] r R := by
  obtain ⟨f, hf⟩ := x
  exact ⟨f + 1, by unfold rdX; rw [if_pos l]; exact hf⟩
theorem Rd.pop {a : Nat} (c : cR p i = 93) (x : Rd p true (i + 1) σ r R) : Rd p true i (a :: σ) r R := by
  obtain ⟨f, hf⟩ := x
  exact ⟨f + 1, by unfold rdX; rw [if_pos c]; exact hf⟩
theorem Rd.more {a : Nat} (c : cR p i ≠ 93) (x : Rd p false i (a :: σ) r R) : Rd p true i (a :: σ) r R := by
  obtain ⟨f, hf⟩ := x
  exact ⟨f + 1, by unfold rdX; rw [if_neg c]; exact hf⟩
theorem rdL_ok : ∀ (f i : Nat), (rdL p f i).length ≤ f ∧ (∀ x ∈ rdL p f i, 0 ≤ x ∧ x ≤ 25) ∧ (∀ k x, (rdL p f i)[k]? = some x → cR p (i + k) = x + 65) ∧ ((rdL p f i).length < f → ¬ (65 ≤ cR p (i + (rdL p f i).length) ∧ cR p (i + (rdL p f i).length) ≤ 90))
  | 0, i => ⟨Nat.le_refl _, fun x m => (nomatch m), fun k x e => (by cases e), fun h => absurd h (Nat.lt_irrefl _)⟩
  | f + 1, i => by
    unfold rdL
    by_cases q : 65 ≤ cR p i ∧ cR p i ≤ 90
    · rw [if_pos q]
      obtain ⟨a, b, c, d⟩ := rdL_ok f (i + 1)
      refine ⟨by rw [List.length_cons]; omega, fun x m => ?_, fun k x e => ?_, fun h => ?_⟩
      · rcases List.mem_cons.1 m with rfl | m
        · omega
        · exact b x m
      · cases k with
        | zero => have := Option.some.inj e; show cR p i = _; omega
        | succ k =>
          have := c k x e
          rw [show i + (k + 1) = i + 1 + k by omega]; exact this
      · rw [List.length_cons] at h ⊢
        rw [show i + ((rdL p f (i + 1)).length + 1) = i + 1 + (rdL p f (i + 1)).length by omega]
        exact d (by omega)
    · rw [if_neg q]
      exact ⟨Nat.zero_le _, fun x m => (nomatch m), fun k x e => (by cases e), fun _ => by simpa using q⟩
theorem cR_out (l : p.length ≤ i) : cR p i = 0 := by
  unfold cR; rw [List.getElem?_eq_none_iff.2 l]; rfl
theorem cR_in {c : Int} (h : cR p i = c) (hc : c ≠ 0) : i < p.length := by
  rcases Nat.lt_or_ge i p.length with l | l
  · exact l
  · rw [cR_out l] at h; exact absurd h.symm hc
theorem stL_le {s : RS} : s.1 ≤ (stL p s).1 ∧ ((stL p s).2 = true → s.2 = true ∧ s.1 < (stL p s).1 ∧ (stL p s).1 ≤ p.length) := by
  unfold stL
  by_cases q : s.2 = true ∧ rdL p 4 s.1 ≠ []
  · rw [if_pos q]
    have hl : 0 < (rdL p 4 s.1).length := List.length_pos_iff.2 q.2
    refine ⟨Nat.le_add_right _ _, fun _ => ⟨q.1, by simp only []; omega, ?_⟩⟩
    obtain ⟨a, b, c, d⟩ := rdL_ok (p := p) 4 s.1
    have e := c ((rdL p 4 s.1).length - 1) _ (List.getElem?_eq_getElem (by omega))
    have m := b _ (List.getElem_mem (l := rdL p 4 s.1) (n := (rdL p 4 s.1).length - 1) (by omega))
    have := cR_in e (by omega)
    simp only []; omega
  · rw [if_neg q]; exact ⟨Nat.le_refl _, fun z => by cases z⟩
theorem stS_le {c : Int} (hc : c ≠ 0) {s : RS} : s.1 ≤ (stS p c s).1 ∧ ((stS p c s).2 = true → s.2 = true ∧ s.1 < (stS p c s).1 ∧ (stS p c s).1 ≤ p.length) := by
  unfold stS
  by_cases q : s.2 = true ∧ cR p s.1 = c
  · rw [if_pos q]
    have := cR_in q.2 hc
    exact ⟨Nat.le_succ _, fun _ => ⟨q.1, Nat.lt_succ_self _, this⟩⟩
  · rw [if_neg q]; exact ⟨Nat.le_refl _, fun z => by cases z⟩
theorem stN_le {l g : Int} (hl : 0 ≤ l) {s : RS} : s.1 ≤ (stN p l g s).1 ∧ ((stN p l g s).2 = true → s.2 = true ∧ s.1 < (stN p l g s).1 ∧ (stN p l g s).1 ≤ p.length) := by
  unfold stN
  by_cases q : s.2 = true ∧ 48 + l ≤ cR p s.1 ∧ cR p s.1 ≤ 57
  · rw [if_pos q]
    have h := cR_in (p := p) (i := s.1) rfl (by omega)
    refine ⟨Nat.le_add_right _ _, fun _ => ⟨q.1, ?_, ?_⟩⟩
    · simp only []; split <;> omega
    · simp only []
      by_cases z : rdM p g s.1 = true
      · rw [if_pos z]
        unfold rdM at z
        have z := of_decide_eq_true z
        have := cR_in (p := p) (i := s.1 + 1) rfl (by omega)
        omega
      · rw [if_neg z]; omega
  · rw [if_neg q]; exact ⟨Nat.le_refl _, fun z => by cases z⟩
/-- a crate takes at least seven characters -/
theorem h4_le (e : (h4 p i).2 = true) : i + 7 ≤ (h4 p i).1 ∧ (h4 p i).1 ≤ p.length := by
  obtain ⟨a7, b7⟩ := stN_le (p := p) (l := 0) (g := 15) (by omega) (s := h3 p i)
  obtain ⟨c7, d7, f7⟩ := b7 e
  obtain ⟨a6, b6⟩ := stS_le (p := p) (c := 103) (by omega) (s := stN p 0 59 (h2 p i))
  obtain ⟨c6, d6, f6⟩ := b6 c7
  obtain ⟨a5, b5⟩ := stN_le (p := p) (l := 0) (g := 59) (by omega) (s := h2 p i)
  obtain ⟨c5, d5, f5⟩ := b5 c6
  obtain ⟨a4, b4⟩ := stS_le (p := p) (c := 114) (by omega) (s := stN p 1 60 (h1 p i))
  obtain ⟨c4, d4, f4⟩ := b4 c5
  obtain ⟨a3, b3⟩ := stN_le (p := p) (l := 1) (g := 60) (by omega) (s := h1 p i)
  obtain ⟨c3, d3, f3⟩ := b3 c4
  obtain ⟨a2, b2⟩ := stS_le (p := p) (c := 115) (by omega) (s := stL p (i, true))
  obtain ⟨c2, d2, f2⟩ := b2 c3
  obtain ⟨a1, b1⟩ := stL_le (p := p) (s := (i, true))
  obtain ⟨c1, d1, f1⟩ := b1 c2
  have e3 : h3 p i = stS p 103 (stN p 0 59 (h2 p i)) := rfl
  have e2 : h2 p i = stS p 114 (stN p 1 60 (h1 p i)) := rfl
  have e1 : h1 p i = stS p 115 (stL p (i, true)) := rfl
  have e4 : h4 p i = stN p 0 15 (h3 p i) := rfl
  rw [← e3] at d6 f6
  rw [← e2] at d4 f4
  rw [← e1] at d2 f2
  rw [← e4] at d7 f7
  simp only [] at d1
  omega
/-- where no letter stands, no crate begins -/
theorem h4_no (c : ¬ (65 ≤ cR p i ∧ cR p i ≤ 90)) : h4 p i = (i, false) := by
  have l : rdL p 4 i = [] := by unfold rdL; rw [if_neg c]
  have a1 : stL p (i, true) = (i, false) := by unfold stL; rw [if_neg]; simp [l]
  have s0 : ∀ c j, stS p c (j, false) = (j, false) := fun c j => by unfold stS; rw [if_neg (by simp)]
  have n0 : ∀ l g j, stN p l g (j, false) = (j, false) := fun l g j => by unfold stN; rw [if_neg (by simp)]
  unfold h4 h3 h2 h1
  rw [a1, s0, n0, s0, n0, s0, n0]
end
