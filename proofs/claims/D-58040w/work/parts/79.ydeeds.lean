/-! PURE LAW, the class's yards: deeds -/
set_option maxRecDepth 10000
section
variable {w w' : Nat → Nat × Nat} {K : KD} {h h' : xk_H} {L : LD} {y y' : YD} {c d cr : Nat}
theorem CA.cong {o : Nat × Nat} {a b p : Nat} {f f' : Nat → Int} {l l' : List Int} {js js' : List Nat} (C : CA w K h o a b p f l js) (ef : ∀ i, i < 4 → f' i = f i) (el : l' = l) (ej : js' = js) : CA w K h o a b p f' l' js' := by
  subst el; subst ej
  unfold CA at C ⊢
  rw [ef 0 (by omega), ef 1 (by omega), ef 2 (by omega), ef 3 (by omega)]
  exact C
/-- the yards are alike as far as the heap shows -/
def Yeq (y y' : YD) : Prop := yn y' = yn y ∧ yr y' = yr y ∧ ∀ k, k < yn y → (∀ i, i < 4 → yf y' i k = yf y i k) ∧ yl y' k = yl y k ∧ yp y' k = yp y k
theorem YA.cong (Y : YA w K h L y) (e : Yeq y y') : YA w K h L y' := by
  obtain ⟨y1, y2, y3, y4⟩ := Y
  refine ⟨by rw [e.2.1]; exact y1, y2, by unfold ys; rw [e.1]; exact y3, fun k hk => ?_⟩
  rw [e.1] at hk
  exact (y4 k hk).cong (e.2.2 k hk).1 (e.2.2 k hk).2.1 (e.2.2 k hk).2.2
/-- a yard's count of refusals -/
theorem YA.setR (G : Gd K h) (Y : YA w K h L y) (r : Int) : YA w K (xk_set h (Ly L) (1, [.ref (Ll L), .int (zI r)])) L (y.1, y.2.1, y.2.2.1, y.2.2.2.1, r) ∧ Fx (fun a => a = Ly L) 0 h (xk_set h (Ly L) (1, [.ref (Ll L), .int (zI r)])) := by
  have x : Fx (fun a => a = Ly L) 0 h (xk_set h (Ly L) (1, [.ref (Ll L), .int (zI r)])) := (Fx.rfl (Q := fun a => a = Ly L) G.fs).set' Y.1 (by simp) fun _ => rfl
  obtain ⟨y1, y2, ⟨m, e, y3⟩, y4⟩ := Y
  obtain ⟨q1, q2⟩ := y3.ne_tag G y1 (by decide) (by decide) (by decide)
  refine ⟨⟨if_pos rfl, y2, ⟨m, e, y3.fx G.fs x q1.symm fun _ => q2.symm⟩, fun k hk => (y4 k hk).fx G.fs x fun a q => ?_⟩, x⟩
  subst q
  rw [y2]
  constructor
  · intro q; have := congrArg Prod.snd q; simp at this
  · simp
/-- a crate's numbers -/
theorem YA.setC (G : Gd K h) (Y : YA w K h L y) (hc : c < yn y) (hn : yn y' = yn y) (hr : yr y' = yr y) (hf : ∀ k, k < yn y → k ≠ c → ∀ i, i < 4 → yf y' i k = yf y i k) (hl : ∀ k, k < yn y → yl y' k = yl y k ∧ yp y' k = yp y k) :
    YA w K (xk_set h (Lc L c) (3, [.int (zI (yf y' 0 c)), .int (zI (yf y' 1 c)), .int (zI (yf y' 2 c)), .ref (Lb L c), .int (zI (yf y' 3 c)), .ref (Lp L c)])) L y' ∧
    Fx (fun a => a = Lc L c) 0 h (xk_set h (Lc L c) (3, [.int (zI (yf y' 0 c)), .int (zI (yf y' 1 c)), .int (zI (yf y' 2 c)), .ref (Lb L c), .int (zI (yf y' 3 c)), .ref (Lp L c)])) := by
  obtain ⟨y1, y2, ⟨m, e, y3⟩, y4⟩ := Y
  have C := y4 c hc
  have x : Fx (fun a => a = Lc L c) 0 h (xk_set h (Lc L c) (3, [.int (zI (yf y' 0 c)), .int (zI (yf y' 1 c)), .int (zI (yf y' 2 c)), .ref (Lb L c), .int (zI (yf y' 3 c)), .ref (Lp L c)])) := (Fx.rfl (Q := fun a => a = Lc L c) G.fs).set' C.1 (by simp) fun _ => rfl
  obtain ⟨q1, q2⟩ := y3.ne_tag G C.1 (by decide) (by decide) (by decide)
  refine ⟨⟨?_, y2, ⟨m, e, ?_⟩, fun k hk => ?_⟩, x⟩
  · rw [hr]; exact x.get G.fs y1 (by simp) (Or.inr fun q => by rw [q, C.1] at y1; simp at y1)
  · unfold ys; rw [hn]; exact y3.fx G.fs x q1.symm fun _ => q2.symm
  · rw [hn] at hk
    by_cases q : k = c
    · subst q
      obtain ⟨c1, c2, ⟨c3, c4⟩, m', e', c5⟩ := C
      obtain ⟨r1, r2⟩ := c5.ne_tag G c1 (by decide) (by decide) (by decide)
      refine ⟨if_pos rfl, c2, ⟨?_, c4⟩, m', e', ?_⟩
      · rw [(hl k hk).1]; exact x.get G.fs c3 (by simp) (Or.inr fun q => by rw [q, c1] at c3; simp at c3)
      · rw [(hl k hk).2]; exact c5.fx G.fs x r1.symm fun _ => r2.symm
    · refine ((y4 k hk).fx G.fs x fun a z => ?_).cong (hf k hk q) (hl k hk).1 (hl k hk).2
      subst z
      rw [C.2.1]
      constructor
      · intro q; have := congrArg Prod.snd q; simp at this; omega
      · simp
/-- a crate's pile -/
theorem YA.setP (G : Gd K h) (Y : YA w K h L y) (hd : d < yn y) {m e} (P : LA w K h (Lp L d) (Ly L + 2, d + 1) ((yp y d).map (iad K)) m e) (x : Fx (fun a => a = Lp L d ∨ a = e) cr h h') (W : Wx h w w') {m' e'} {js : List Nat} (P' : LA w' K h' (Lp L d) (Ly L + 2, d + 1) (js.map (iad K)) m' e')
    (hn : yn y' = yn y) (hr : yr y' = yr y) (hf : ∀ k, k < yn y → (∀ i, i < 4 → yf y' i k = yf y i k) ∧ yl y' k = yl y k) (hp : ∀ k, k < yn y → k ≠ d → yp y' k = yp y k) (hj : yp y' d = js) : YA w' K h' L y' := by
  obtain ⟨y1, y2, ⟨m0, e0, y3⟩, y4⟩ := Y
  have xl := x.low
  have lq := fun {a : Nat} q => P.q G (a := a) q
  obtain ⟨q1, q2⟩ := P.ne_tag G y1 (by decide) (by decide) (by decide)
  refine ⟨by rw [hr]; exact x.get G.fs y1 (by simp) (Or.inr fun q => q.elim q1 q2), (W _ (G.fs.lt y1 (by simp))).trans y2, ⟨m0, e0, ?_⟩, fun k hk => ?_⟩
  · unfold ys; rw [hn]
    have z := P.off G y3 (fun q => by have := congrArg Prod.snd q; simp at this) x
    exact z.wx' W G.fs y3
  · rw [hn] at hk
    have C := y4 k hk
    by_cases q : k = d
    · subst q
      obtain ⟨c1, c2, ⟨c3, c4⟩, _⟩ := C
      obtain ⟨r1, r2⟩ := P.ne_tag G c1 (by decide) (by decide) (by decide)
      obtain ⟨s1, s2⟩ := P.ne_tag G c3 (by decide) (by decide) (by decide)
      refine ⟨?_, (W _ (G.fs.lt c1 (by simp))).trans c2, ⟨?_, by rw [W _ (G.fs.lt c3 (by simp))]; exact c4⟩, m', e', by rw [hj]; exact P'⟩
      · have := x.get G.fs c1 (by simp) (Or.inr fun q => q.elim r1 r2)
        rw [this]
        show ((3, [.int (zI (yf y 0 k)), .int (zI (yf y 1 k)), .int (zI (yf y 2 k)), .ref (Lb L k), .int (zI (yf y 3 k)), .ref (Lp L k)]) : xk_O) = (3, [.int (zI (yf y' 0 k)), .int (zI (yf y' 1 k)), .int (zI (yf y' 2 k)), .ref (Lb L k), .int (zI (yf y' 3 k)), .ref (Lp L k)])
        rw [(hf k hk).1 0 (by omega), (hf k hk).1 1 (by omega), (hf k hk).1 2 (by omega), (hf k hk).1 3 (by omega)]
      · rw [(hf k hk).2]; exact x.get G.fs c3 (by simp) (Or.inr fun q => q.elim s1 s2)
    · have C' : CA w' K h (Ly L + 2, k + 1) (Lc L k) (Lb L k) (Lp L k) (fun i => yf y i k) (yl y k) (yp y k) := C.wx G.fs W
      refine (C'.fx G.fs xl fun a z => ?_).cong (hf k hk).1 (hf k hk).2 (hp k hk q)
      have la : a < h.2.2.1 := by
        obtain ⟨rfl | rfl, z⟩ := z
        · exact G.fs.lt P.1 (by simp)
        · rcases Nat.lt_or_ge a h.2.2.1 with g | g
          · exact g
          · have := G.fs a g; rw [this] at z; omega
      rw [W a la, lq z]
      constructor
      · intro q; have := congrArg Prod.snd q; simp at this; omega
      · simp
end
