/-! ROWS OF xk_X: making objects, references in arrays, arraycopy, casts, statics, calls -/
set_option maxRecDepth 100000
section XN
variable {γ : Type} {Γ : xk_C} {own nm : String} {cc : ByteArray} {ret : Option FieldType} {d w pc nl : Nat} {L : List (Nat × Value)} {st : List Value} {h : xk_H} {res : γ}
/-- the fields of a fresh object of tag t -/
def xk_Nf (t : Nat) (fs : List Value) : Prop := ∃ (r : vw_C) (ty : Nat → FieldType), xk_cl[t]? = some r ∧ fs.length = r.2.2 ∧ ∀ k, k < r.2.2 → parseFieldDescriptor (r.2.1 k).2.2.1 = some (ty k) ∧ vp_V fs k = defaultValue (ty k)
theorem xr_new {t idx : Nat} {C0 : String} {n : Nat} {fs : List Value} {κ : Nat → xk_H → Option γ} (C : xk_Cx Γ own cc nl ret nm d w) (E : xm_new t fs h κ = some res) (ht : t < 100) (hf : xk_Nf t fs) (hC : ∀ r, xk_cl[t]? = some r → r.1 = C0 ∧ r.2.2 = n) (hw : Cond.classLink own idx C0 ∈ lw_all) (hi : Cond.instantiable C0 n ∈ lw_all) (hini : Cond.initialized C0 ∈ lw_all) (dg : decode cc pc = .ok (.new idx, 3)) (kk : ∀ a h', κ a h' = some res → xk_X Γ (pc + 3) L (va_rf (some a) :: st) h') : xk_X Γ pc L st h := by
  unfold xm_new at E
  split at E
  next hcr =>
    obtain ⟨r, ty, hr, hlen, hfs⟩ := hf
    obtain ⟨q1, q2⟩ := hC r hr
    subst q1; subst q2
    obtain ⟨D, base, p, l, e, R, s, m, args, below, meth, c, nL, Q⟩ := Γ
    obtain ⟨hx, hb, hml, hnl, hown, hts, hK, -⟩ := C
    intro ls H locs cells slots hl hc hR hS h1 h2
    obtain ⟨hin, -⟩ := xk_cl_ok _ _ hr
    have hKn := hK.1.1 _ _ hr
    refine W.newc hx hb hown (hts _ hw) (hts _ hi) (hts _ hini) rfl dg (by omega) (by omega) (fun cC kC f1 f2 f3 f4 => ?_)
    have eD : cC = D.1 t := Option.some.inj (f1.symm.trans hKn.2.1)
    subst eD
    have ht9 : H.size = h.2.2.1 := hR.2.1.symm
    have hob := u_born (o := H.size) (H := H.push (blank (D.1 t) kC)) ty hts hin hKn f2 (Array.getElem?_push_size) (fun k hk => (hfs k hk).1)
    obtain ⟨cell, g1, g2, g3, g4⟩ := hob
    have hR' : xk_R D base (xk_push h (t, fs)) s (H.push (blank (D.1 t) kC)) := by
      refine hR.push ⟨fun _ => ⟨hR.1, cell, g1, g3, r, hr, hlen, g2, fun k hk => ?_⟩, fun q => ?_, fun q => ?_, fun q => ?_⟩
      · rw [g4 k hk, (hfs k hk).2]
      · exact absurd q (by simp only; omega)
      · exact absurd q (by simp only; omega)
      · exact absurd q (by simp only; omega)
    have hS' : va_S (fun q => base ≤ q) s.heap (H.push (blank (D.1 t) kC)) locs := ⟨by simp; have := hS.1; omega, fun q g h => by rw [Array.getElem?_push, if_neg (by have := hS.1; omega)]; exact hS.2.1 q g h, hS.2.2⟩
    have key := kk _ _ E ls (H.push (blank (D.1 t) kC)) locs (cells + 1) (slots + r.2.2) hl hc hR' hS' (by show _ + (h.2.2.2 - (fs.length + 1)) ≤ _; omega) (by show _ + (h.2.2.2 - (fs.length + 1)) ≤ _; omega)
    rw [ht9]
    exact key
  next => cases E
theorem xk_pushA {D : va_G} {base t n : Nat} {x : Value} {h : xk_H} {s : State} {H : Heap} (hR : xk_R D base h s H) (ht : 100 ≤ t ∧ t < 200) : xk_R D base (xk_push h (t, List.replicate n x)) s (H.push { cls := D.1 t, slots := Array.replicate n x, vm := .none }) := by
  refine hR.push ⟨fun q => ?_, fun _ _ => ⟨hR.1, ?_⟩, fun q => ?_, fun q => ?_⟩
  · exact absurd q (by simp only; omega)
  · rw [Array.getElem?_push_size]
    simp [xk_arr]
  · exact absurd q (by simp only; omega)
  · exact absurd q (by simp only; omega)
theorem xr_nwI {n : Int32} {κ : Nat → xk_H → Option γ} (C : xk_Cx Γ own cc nl ret nm d w) (E : xm_nwa 100 (.int 0) n h κ = some res) (hw : Cond.arrayClass .int ∈ lw_all) (dg : decode cc pc = .ok (.newarray .int, 2)) (kk : ∀ a h', κ a h' = some res → xk_X Γ (pc + 2) L (va_rf (some a) :: st) h') : xk_X Γ pc L (.int n :: st) h := by
  unfold xm_nwa at E
  split at E
  next hcr =>
    obtain ⟨D, base, p, l, e, R, s, m, args, below, meth, c, nL, Q⟩ := Γ
    obtain ⟨hx, hb, hml, hnl, hown, hts, hK, -⟩ := C
    intro ls H locs cells slots hl hc hR hS h1 h2
    refine W.newa (atype := .int) hx hb (hts _ hw) rfl dg rfl hcr.1 (by show n.toNatClampNeg * 4 ≤ _; omega) (by omega) (by omega) (fun cA kA comp f1 f2 f3 => ?_)
    have eD : cA = D.1 100 := Option.some.inj (f1.symm.trans (hK.1.2 0 _ rfl).2)
    subst eD
    have hS' : va_S (fun q => base ≤ q) s.heap (H.push { cls := D.1 100, slots := Array.replicate n.toNatClampNeg (.int 0), vm := .none }) locs := ⟨by simp; have := hS.1; omega, fun q g h => by rw [Array.getElem?_push, if_neg (by have := hS.1; omega)]; exact hS.2.1 q g h, hS.2.2⟩
    have key := kk _ _ E ls _ locs (cells + 1) (slots + n.toNatClampNeg) hl hc (xk_pushA hR (by omega)) hS' (by show _ + (h.2.2.2 - ((List.replicate n.toNatClampNeg (Value.int 0)).length + 1)) ≤ _; rw [List.length_replicate]; omega) (by show _ + (h.2.2.2 - ((List.replicate n.toNatClampNeg (Value.int 0)).length + 1)) ≤ _; rw [List.length_replicate]; omega)
    rw [hR.2.1] at key
    exact key
  next => cases E
theorem xr_nwB {n : Int32} {κ : Nat → xk_H → Option γ} (C : xk_Cx Γ own cc nl ret nm d w) (E : xm_nwa 101 (.int 0) n h κ = some res) (hw : Cond.arrayClass .byte ∈ lw_all) (dg : decode cc pc = .ok (.newarray .byte, 2)) (kk : ∀ a h', κ a h' = some res → xk_X Γ (pc + 2) L (va_rf (some a) :: st) h') : xk_X Γ pc L (.int n :: st) h := by
  unfold xm_nwa at E
  split at E
  next hcr =>
    obtain ⟨D, base, p, l, e, R, s, m, args, below, meth, c, nL, Q⟩ := Γ
    obtain ⟨hx, hb, hml, hnl, hown, hts, hK, -⟩ := C
    intro ls H locs cells slots hl hc hR hS h1 h2
    refine W.newa (atype := .byte) hx hb (hts _ hw) rfl dg rfl hcr.1 (by show n.toNatClampNeg * 1 ≤ _; omega) (by omega) (by omega) (fun cA kA comp f1 f2 f3 => ?_)
    have eD : cA = D.1 101 := Option.some.inj (f1.symm.trans (hK.1.2 1 _ rfl).2)
    subst eD
    have hS' : va_S (fun q => base ≤ q) s.heap (H.push { cls := D.1 101, slots := Array.replicate n.toNatClampNeg (.int 0), vm := .none }) locs := ⟨by simp; have := hS.1; omega, fun q g h => by rw [Array.getElem?_push, if_neg (by have := hS.1; omega)]; exact hS.2.1 q g h, hS.2.2⟩
    have key := kk _ _ E ls _ locs (cells + 1) (slots + n.toNatClampNeg) hl hc (xk_pushA hR (by omega)) hS' (by show _ + (h.2.2.2 - ((List.replicate n.toNatClampNeg (Value.int 0)).length + 1)) ≤ _; rw [List.length_replicate]; omega) (by show _ + (h.2.2.2 - ((List.replicate n.toNatClampNeg (Value.int 0)).length + 1)) ≤ _; rw [List.length_replicate]; omega)
    rw [hR.2.1] at key
    exact key
  next => cases E
theorem xk_anew {C0 : String} {i idx : Nat} {n : Int32} {κ : Nat → xk_H → Option γ} (C : xk_Cx Γ own cc nl ret nm d w) (E : xm_nwa (100 + i) .null n h κ = some res) (hi : i < 100) (hty : ∀ D : va_G, (xk_tyR D)[i]? = some (D.1 (100 + i), .object C0)) (hAO : ∀ D s, xk_K D s → va_AO C0 s) (hw : Cond.classLink own idx C0 ∈ lw_all) (dg : decode cc pc = .ok (.anewarray idx, 3)) (kk : ∀ a h', κ a h' = some res → xk_X Γ (pc + 3) L (va_rf (some a) :: st) h') : xk_X Γ pc L (.int n :: st) h := by
  unfold xm_nwa at E
  split at E
  next hcr =>
    obtain ⟨D, base, p, l, e, R, s, m, args, below, meth, c, nL, Q⟩ := Γ
    obtain ⟨hx, hb, hml, hnl, hown, hts, hK, -⟩ := C
    intro ls H locs cells slots hl hc hR hS h1 h2
    refine W.anew hx hb hown (hts _ hw) (va_AO.use (hAO _ _ hK)) rfl dg rfl hcr.1 (by omega) (by omega) (by omega) (fun cA kA comp f1 f2 f3 f4 => ?_)
    obtain ⟨kA', comp', r1, r2, r3, r4⟩ := (hK.1.2 i _ (hty D)).2
    have eD : cA = D.1 (100 + i) := Option.some.inj (f1.symm.trans r4)
    subst eD
    have hS' : va_S (fun q => base ≤ q) s.heap (H.push { cls := D.1 (100 + i), slots := Array.replicate n.toNatClampNeg .null, vm := .none }) locs := ⟨by simp; have := hS.1; omega, fun q g h => by rw [Array.getElem?_push, if_neg (by have := hS.1; omega)]; exact hS.2.1 q g h, hS.2.2⟩
    have key := kk _ _ E ls _ locs (cells + 1) (slots + n.toNatClampNeg) hl hc (xk_pushA hR (by omega)) hS' (by show _ + (h.2.2.2 - ((List.replicate n.toNatClampNeg Value.null).length + 1)) ≤ _; rw [List.length_replicate]; omega) (by show _ + (h.2.2.2 - ((List.replicate n.toNatClampNeg Value.null).length + 1)) ≤ _; rw [List.length_replicate]; omega)
    rw [hR.2.1] at key
    exact key
  next => cases E
theorem xr_nwO {idx : Nat} {n : Int32} {κ : Nat → xk_H → Option γ} (C : xk_Cx Γ own cc nl ret nm d w) (E : xm_nwa 102 .null n h κ = some res) (hw : Cond.classLink own idx "java/lang/Object" ∈ lw_all) (dg : decode cc pc = .ok (.anewarray idx, 3)) (kk : ∀ a h', κ a h' = some res → xk_X Γ (pc + 3) L (va_rf (some a) :: st) h') : xk_X Γ pc L (.int n :: st) h :=
  xk_anew (i := 2) C E (by decide) (fun _ => rfl) (fun _ _ hK => hK.2.2.2.2.2.2.1) hw dg kk
theorem xr_nwN {idx : Nat} {n : Int32} {κ : Nat → xk_H → Option γ} (C : xk_Cx Γ own cc nl ret nm d w) (E : xm_nwa 103 .null n h κ = some res) (hw : Cond.classLink own idx "java/util/HashMap$Node" ∈ lw_all) (dg : decode cc pc = .ok (.anewarray idx, 3)) (kk : ∀ a h', κ a h' = some res → xk_X Γ (pc + 3) L (va_rf (some a) :: st) h') : xk_X Γ pc L (.int n :: st) h :=
  xk_anew (i := 3) C E (by decide) (fun _ => rfl) (fun _ _ hK => hK.2.2.2.2.2.2.2.1) hw dg kk
/-! references into arrays -/
theorem xk_sR {C0 : String} {i : Nat} {es : List Nat} {v x : Option Nat} {j : Int32} {κ : xk_H → Option γ} (C : xk_Cx Γ own cc nl ret nm d w) (E : xm_sR [100 + i] es v j x h κ = some res) (hi : i < 100) (hty : ∀ D : va_G, (xk_tyR D)[i]? = some (D.1 (100 + i), .object C0)) (hA : xk_As es C0) (dg : decode cc pc = .ok (.aastore, 1)) (kk : ∀ h', κ h' = some res → xk_X Γ (pc + 1) L st h') : xk_X Γ pc L (va_rf x :: .int j :: va_rf v :: st) h := by
  unfold xm_sR at E
  split at E
  next hel =>
    unfold xm_sV at E
    cases v with
    | none => cases E
    | some a =>
      dsimp only at E
      split at E
      next ht =>
        obtain ⟨t1, t2, t3⟩ := ht
        rw [List.mem_singleton] at t1
        obtain ⟨D, base, p, l, e, R, s, m, args, below, meth, c, nL, Q⟩ := Γ
        obtain ⟨hx, hb, hml, hnl, hown, htw, hK, -⟩ := C
        intro ls H locs cells slots hl hc hR hS h1 h2
        have t9 : 100 ≤ (h.1 a).1 ∧ (h.1 a).1 < 200 := by rw [t1]; omega
        obtain ⟨cell, e1, hvs, hvu, hcl, hle, hsz, hlk, hnw⟩ := xk_arr_at (a := a) hR (Or.inl t9)
        obtain ⟨hba, hce⟩ := hnw t9.2
        have hcl2 : cell.cls = D.1 (100 + i) := by rw [hcl, t1, show 100 + (100 + i) % 100 = 100 + i by omega]
        have harr : s.isArrayOf cell (.object C0) := xk_isArr hK (xk_tyr (hty D)) hcl2 hvs
        have hin : ¬ (j < 0 ∨ cell.slots.size ≤ j.toNatClampNeg) := by
          intro q
          rcases q with q | q
          · exact t2 q
          · omega
        have fin : ∀ H' : Heap, H'[a]? = some (cell.setSlot j.toNatClampNeg (va_rf x)) → H'.size = H.size → (∀ q : Nat, q ≠ a → H'[q]? = H[q]?) → W p l e R s m args below meth c H' (locs ++ [⟨a, j.toNatClampNeg⟩]) cells slots Q (F0 m (pc + 1) ls st) :=
          fun H' g1 g2 g3 => kk _ E ls H' _ cells slots hl hc (xk_stA hR hba t9 (by rw [g1, hce]) g2 g3) (hS.put g2 g3 hba) h1 h2
        cases x with
        | none => exact va_WaastN hx hb e1 harr hvu hin rfl rfl dg fin
        | some b =>
          obtain ⟨kA, comp, k1, k2, k3, -⟩ := (hK.1.2 i _ (hty D)).2
          obtain ⟨kE, hkE, -⟩ := Vm.findClass_spec k3
          obtain ⟨cb, g1, g2, ⟨kC, g3⟩, g4⟩ := xk_asg (b := b) hK hR hA (of_decide_eq_true hel)
          exact W.aast hx hb e1 (fun q hq => by rw [hq] at hvs; cases hvs) hvu (by rw [hcl2]; exact k1) k2 rfl hkE ⟨t2, by omega⟩ g1 (fun q hq => by rw [hq] at g2; cases g2) g3 (g4 _ k3) rfl rfl dg fin
      next => cases E
  next => cases E
theorem xr_sO {es : List Nat} {v x : Option Nat} {j : Int32} {κ : xk_H → Option γ} (C : xk_Cx Γ own cc nl ret nm d w) (E : xm_sR [102] es v j x h κ = some res) (hA : xk_As es "java/lang/Object") (dg : decode cc pc = .ok (.aastore, 1)) (kk : ∀ h', κ h' = some res → xk_X Γ (pc + 1) L st h') : xk_X Γ pc L (va_rf x :: .int j :: va_rf v :: st) h :=
  xk_sR (i := 2) C E (by decide) (fun _ => rfl) hA dg kk
theorem xr_sN {es : List Nat} {v x : Option Nat} {j : Int32} {κ : xk_H → Option γ} (C : xk_Cx Γ own cc nl ret nm d w) (E : xm_sR [103] es v j x h κ = some res) (hA : xk_As es "java/util/HashMap$Node") (dg : decode cc pc = .ok (.aastore, 1)) (kk : ∀ h', κ h' = some res → xk_X Γ (pc + 1) L st h') : xk_X Γ pc L (va_rf x :: .int j :: va_rf v :: st) h :=
  xk_sR (i := 3) C E (by decide) (fun _ => rfl) hA dg kk
/-! casts -/
theorem xk_cls {D : va_G} {base a : Nat} {h : xk_H} {s : State} {H : Heap} {r : vw_C} (hK : xk_K D s) (hR : xk_R D base h s H) (ht : (h.1 a).1 < 100 ∨ 200 ≤ (h.1 a).1 ∧ (h.1 a).1 < 300) (hr : xk_cl[(h.1 a).1 % 100]? = some r) : ∃ c : Cell, H[a]? = some c ∧ c.vm.isStatics = false ∧ s.vm.findClass r.1 = some c.cls := by
  obtain ⟨c, e, hvs, hvu, ⟨r', hr', hlen, hcls, hsl⟩, -⟩ := xk_obj hR ht
  have q9 := Option.some.inj (hr.symm.trans hr'); subst q9
  exact ⟨c, e, hvs, by rw [hcls]; exact (hK.1.1 _ _ hr).2.1⟩
/-- objects of these tags are of the class T itself -/
def xk_Is (ts : List Nat) (T : String) : Prop := ∀ t ∈ ts, (t < 100 ∨ 200 ≤ t ∧ t < 300) ∧ ∃ r : vw_C, xk_cl[t % 100]? = some r ∧ r.1 = T
theorem xr_cast {ts : List Nat} {T : String} {idx : Nat} {v : Option Nat} {κ : Option γ} (C : xk_Cx Γ own cc nl ret nm d w) (E : xm_cast ts v h κ = some res) (hI : xk_Is ts T) (hw : Cond.classLink own idx T ∈ lw_all) (dg : decode cc pc = .ok (.checkcast idx, 3)) (kk : κ = some res → xk_X Γ (pc + 3) L (va_rf v :: st) h) : xk_X Γ pc L (va_rf v :: st) h := by
  obtain ⟨D, base, p, l, e, R, s, m, args, below, meth, c, nL, Q⟩ := Γ
  obtain ⟨hx, hb, hml, hnl, hown, hts, hK, -⟩ := C
  intro ls H locs cells slots hl hc hR hS h1 h2
  cases v with
  | none => exact lv_castN hx hb dg (kk E ls H locs cells slots hl hc hR hS h1 h2)
  | some a =>
    unfold xm_cast at E
    dsimp only at E
    split at E
    next ht =>
      obtain ⟨g1, r, hr, hT⟩ := hI _ ht
      subst hT
      exact va_castS hx hb hown (hts _ hw) (hK.1.1 _ _ hr).2 (xk_cls hK hR g1 hr) dg (kk E ls H locs cells slots hl hc hR hS h1 h2)
    next => cases E
theorem xr_inst {ty tn : List Nat} {T : String} {idx : Nat} {v : Option Nat} {κ : Int32 → Option γ} (C : xk_Cx Γ own cc nl ret nm d w) (E : xm_inst ty tn v h κ = some res) (hI : xk_Is ty T) (hN : ∀ t ∈ tn, (t < 100 ∨ 200 ≤ t ∧ t < 300) ∧ ∃ r : vw_C, xk_cl[t % 100]? = some r ∧ ∀ D s, xk_K D s → va_Nc r.1 T s) (hw : Cond.classLink own idx T ∈ lw_all) (dg : decode cc pc = .ok (.instanceof idx, 3)) (kk : ∀ x, κ x = some res → xk_X Γ (pc + 3) L (.int x :: st) h) : xk_X Γ pc L (va_rf v :: st) h := by
  obtain ⟨D, base, p, l, e, R, s, m, args, below, meth, c, nL, Q⟩ := Γ
  obtain ⟨hx, hb, hml, hnl, hown, hts, hK, -⟩ := C
  intro ls H locs cells slots hl hc hR hS h1 h2
  cases v with
  | none => exact lv_instN hx hb dg (kk 0 E ls H locs cells slots hl hc hR hS h1 h2)
  | some a =>
    unfold xm_inst at E
    dsimp only at E
    split at E
    next ht =>
      obtain ⟨g1, r, hr, hT⟩ := hI _ ht
      subst hT
      exact va_instS hx hb hown (hts _ hw) (hK.1.1 _ _ hr).2 (xk_cls hK hR g1 hr) dg (kk 1 E ls H locs cells slots hl hc hR hS h1 h2)
    next =>
      split at E
      next ht =>
        obtain ⟨g1, r, hr, hT⟩ := hN _ ht
        obtain ⟨cell, f1, f2, f3⟩ := xk_cls hK hR g1 hr
        obtain ⟨c0, t0, n1, n2, n3⟩ := hT D s hK
        cases f3.symm.trans n1
        obtain ⟨ks, hks, -⟩ := Vm.findClass_spec f3
        intro T hT X
        obtain ⟨vm', X', st'⟩ := va_instofNo X hx hown (hts _ hw) (by rw [hT]; exact f1) f2 hks n2 n3 (g := F0 m pc ls (.ref a :: st)) rfl rfl (by rw [hb]; exact dg)
        obtain ⟨t, a1, b1⟩ := kk 0 E ls H locs cells slots hl hc hR hS h1 h2 (T.setVm vm') hT X'
        exact ⟨t, st' t a1, b1⟩
      next => cases E
/-- a cast to an array of nodes, just made -/
theorem xr_castN {idx : Nat} {v : Option Nat} {κ : Option γ} (C : xk_Cx Γ own cc nl ret nm d w) (E : xm_cast [103] v h κ = some res) (hw : Cond.classLink own idx "[Ljava/util/HashMap$Node;" ∈ lw_all) (dg : decode cc pc = .ok (.checkcast idx, 3)) (kk : κ = some res → xk_X Γ (pc + 3) L (va_rf v :: st) h) : xk_X Γ pc L (va_rf v :: st) h := by
  obtain ⟨D, base, p, l, e, R, s, m, args, below, meth, c, nL, Q⟩ := Γ
  obtain ⟨hx, hb, hml, hnl, hown, hts, hK, -⟩ := C
  intro ls H locs cells slots hl hc hR hS h1 h2
  cases v with
  | none => exact lv_castN hx hb dg (kk E ls H locs cells slots hl hc hR hS h1 h2)
  | some a =>
    unfold xm_cast at E
    dsimp only at E
    split at E
    next ht =>
      rw [List.mem_singleton] at ht
      obtain ⟨cell, e1, hvs, hvu, hcl, -⟩ := xk_arr_at (a := a) hR (by rw [ht]; omega)
      have hcl2 : cell.cls = D.1 103 := by rw [hcl, ht]
      obtain ⟨kA, comp, k1, k2, k3, k4⟩ := (hK.1.2 3 _ rfl).2
      intro T hT X
      obtain ⟨vm', X', st'⟩ := X.checkcastYes hx hown (hts _ hw) (by rw [hT]; exact e1) hvs (show s.vm.findClass "[Ljava/util/HashMap$Node;" = some (D.1 103) from k4) (by rw [hcl2]; exact va_asg _ _) (g := F0 m pc ls (.ref a :: st)) rfl rfl (by rw [hb]; exact dg)
      obtain ⟨t, a1, b1⟩ := kk E ls H locs cells slots hl hc hR hS h1 h2 (T.setVm vm') hT X'
      exact ⟨t, st' t a1, b1⟩
    next => cases E
/-! statics -/
theorem xk_gst {own C0 n0 d0 ref : String} {idx : Nat} {x : Value} (C : xk_Cx Γ own cc nl ret nm d w) (hZ : ∀ s H, xk_G (xk_b Γ) h.2.1 s H → va_Z C0 n0 d0 x (fun a => xk_b Γ ≤ a) s H) (hw : Cond.fieldLink own idx ref n0 d0 ∈ lw_all) (hsame : ref = C0 ∨ Cond.sameField ref C0 n0 d0 ∈ lw_all) (dg : decode cc pc = .ok (.getstatic idx, 3)) (kk : xk_X Γ (pc + 3) L (x :: st) h) : xk_X Γ pc L st h := by
  obtain ⟨D, base, p, l, e, R, s, m, args, below, meth, c, nL, Q⟩ := Γ
  obtain ⟨hx, hb, hml, hnl, hown, hts, hK, -⟩ := C
  intro ls H locs cells slots hl hc hR hS h1 h2
  obtain ⟨cf, kf, fi, f, a, cell, g1, g2, g3, g4, g5, g6, g7, g8⟩ := hZ s H hR.2.2.2
  have hi2 : s.fieldFound? ref n0 d0 = some (cf, kf, fi, f) := by
    rcases hsame with q | q
    · rw [q]; exact g1
    · exact u_same (hts _ q) _ g1
  exact W.gets hx hb hown (hts _ hw) hi2 g2 g3 g4 g5 (fun e => by rw [e] at g6; cases g6) g7 rfl dg (kk ls H locs cells slots hl hc hR hS h1 h2)
theorem xr_gsR {own C0 n0 d0 ref : String} {idx k : Nat} (C : xk_Cx Γ own cc nl ret nm d w) (hm : (C0, n0, d0, k) ∈ xk_st) (hw : Cond.fieldLink own idx ref n0 d0 ∈ lw_all) (hsame : ref = C0 ∨ Cond.sameField ref C0 n0 d0 ∈ lw_all) (dg : decode cc pc = .ok (.getstatic idx, 3)) (kk : xk_X Γ (pc + 3) L (va_rf (h.2.1 k) :: st) h) : xk_X Γ pc L st h :=
  xk_gst C (fun s H g => g.1 _ hm) hw hsame dg kk
theorem xr_gsI {own C0 n0 d0 ref : String} {idx : Nat} {x : Int32} (C : xk_Cx Γ own cc nl ret nm d w) (hm : (C0, n0, d0, x) ∈ xk_si) (hw : Cond.fieldLink own idx ref n0 d0 ∈ lw_all) (hsame : ref = C0 ∨ Cond.sameField ref C0 n0 d0 ∈ lw_all) (dg : decode cc pc = .ok (.getstatic idx, 3)) (kk : xk_X Γ (pc + 3) L (.int x :: st) h) : xk_X Γ pc L st h :=
  xk_gst C (fun s H g => g.2.1 _ hm) hw hsame dg kk
/-! the class object of Object[] -/
theorem xr_ldcM {idx : Nat} (C : xk_Cx Γ own cc nl ret nm d w) (hw : Cond.classLink own idx "[Ljava/lang/Object;" ∈ lw_all) (dg : decode cc pc = .ok (.ldc idx, 2)) (kk : xk_X Γ (pc + 2) L (va_rf (h.2.1 9) :: st) h) : xk_X Γ pc L st h := by
  obtain ⟨D, base, p, l, e, R, s, m, args, below, meth, c, nL, Q⟩ := Γ
  obtain ⟨hx, hb, hml, hnl, hown, hts, hK, -⟩ := C
  intro ls H locs cells slots hl hc hR hS h1 h2
  obtain ⟨mi, e9, hM⟩ := hR.2.2.2.2.2
  rw [e9] at kk
  exact va_ldcM hx hb hown (hts _ hw) hM dg (kk ls H locs cells slots hl hc hR hS h1 h2)
theorem xr_getC {idx : Nat} {v : Option Nat} {κ : Option γ} (C : xk_Cx Γ own cc nl ret nm d w) (E : xm_rc [102, 302] v h κ = some res) (hw : Cond.methodLink own idx ⟨"java/lang/Object", "getClass", "()Ljava/lang/Class;"⟩ ∈ lw_all) (hsel : Cond.selects "[Ljava/lang/Object;" ⟨"java/lang/Object", "getClass", "()Ljava/lang/Class;"⟩ ⟨"java/lang/Object", "getClass", "()Ljava/lang/Class;"⟩ ∈ lw_all) (hin : Cond.instanceMethod ⟨"java/lang/Object", "getClass", "()Ljava/lang/Class;"⟩ ∈ lw_all) (hna : Cond.native ⟨"java/lang/Object", "getClass", "()Ljava/lang/Class;"⟩ ∈ lw_all) (hd : 1 ≤ d) (hst : xk_w1 st) (hwd : st.length + 14 ≤ w) (dg : decode cc pc = .ok (.invokevirtual idx, 3)) (kk : κ = some res → xk_X Γ (pc + 3) L (va_rf (h.2.1 9) :: st) h) : xk_X Γ pc L (va_rf v :: st) h := by
  unfold xm_rc at E
  cases v with
  | none => cases E
  | some a =>
    dsimp only at E
    split at E
    next ht =>
      obtain ⟨D, base, p, l, e, R, s, m, args, below, meth, c, nL, Q⟩ := Γ
      obtain ⟨hx, hb, hml, hnl, hown, hts, hK, -, -, -, -, hd1, hw1⟩ := C
      intro ls H locs cells slots hl hc hR hS h1 h2
      obtain ⟨mi, e9, hM⟩ := hR.2.2.2.2.2
      have kk := kk E
      rw [e9] at kk
      have t9 : (h.1 a).1 = 102 ∨ (h.1 a).1 = 302 := by simpa using ht
      obtain ⟨cell, e1, hvs, hvu, hcl, -⟩ := xk_arr_at (a := a) hR (by omega)
      have hcl2 : cell.cls = D.1 102 := by rw [hcl]; rcases t9 with t9 | t9 <;> rw [t9]
      obtain ⟨kA, comp, k1, k2, k3, k4⟩ := (hK.1.2 2 _ rfl).2
      exact va_getC hx hb (hml.trans hl.1.symm) hown (hts _ hw) (va_Dc.use hK.2.2.2.2.2.2.2.2.2.1) (hts _ hsel) (hts _ hin) (hts _ hna) hM ⟨cell, e1, hvs, by rw [hcl2]; exact k4⟩ (by omega) (by rw [xk_w1_sum hst]; omega) dg (kk ls H locs cells slots hl hc hR hS h1 h2)
    next => cases E
/-! Object() -/
theorem xr_objInit {idx : Nat} {v : Nat} (C : xk_Cx Γ own cc nl ret nm d w) (hw : Cond.methodLink own idx Lib.objectInit ∈ lw_all) (hin : Cond.instanceMethod Lib.objectInit ∈ lw_all) (hco : Cond.code Lib.objectInit ⟨#[0xb1]⟩ 1 none ∈ lw_all) (hd : 1 ≤ d) (hst : xk_w1 st) (hwd : st.length + 12 ≤ w) (dg : decode cc pc = .ok (.invokespecial idx, 3)) (kk : xk_X Γ (pc + 3) L st h) : xk_X Γ pc L (va_rf (some v) :: st) h := by
  obtain ⟨D, base, p, l, e, R, s, m, args, below, meth, c, nL, Q⟩ := Γ
  obtain ⟨hx, hb, hml, hnl, hown, hts, hK, -, -, -, -, hd1, hw1⟩ := C
  intro ls H locs cells slots hl hc hR hS h1 h2
  exact W.objInit hx hb hown (hts _ hw) (hts _ hin) (hts _ hco) rfl (by show ls.size = _; rw [hml]; exact hl.1) rfl dg (by omega) (by show 2 * 0 + _ + 12 ≤ _; rw [xk_w1_sum hst]; omega) (kk ls H locs cells slots hl hc hR hS h1 h2)
/-! arraycopy -/
theorem xk_run {c : ClassId} : ∀ (vs : List Value) (k dp : Nat) (g : List Value), dp + k + vs.length ≤ g.length → (xk_arr c g).storePairs dp (vs.zipIdx k) = xk_arr c (g.take (dp + k) ++ (vs ++ g.drop (dp + k + vs.length)))
  | [], k, dp, g, _ => by
    show xk_arr c g = _
    simp
  | x :: vs, k, dp, g, hl => by
    rw [List.length_cons] at hl
    rw [List.zipIdx_cons]
    show ((xk_arr c g).setSlot (dp + k) x).storePairs dp (vs.zipIdx (k + 1)) = _
    rw [xk_setSlot, xk_run vs (k + 1) dp (g.set (dp + k) x) (by rw [List.length_set]; omega)]
    congr 1
    have hlt : dp + k < g.length := by omega
    rw [List.set_eq_take_append_cons_drop, if_pos hlt]
    have e1 : (List.take (dp + k) g ++ x :: List.drop (dp + k + 1) g).take (dp + (k + 1)) = g.take (dp + k) ++ [x] := by
      rw [List.take_append, List.length_take, Nat.min_eq_left (by omega), List.take_take, Nat.min_eq_right (by omega), show dp + (k + 1) - (dp + k) = 1 by omega]
      rfl
    have e2 : (List.take (dp + k) g ++ x :: List.drop (dp + k + 1) g).drop (dp + (k + 1) + vs.length) = g.drop (dp + k + (x :: vs).length) := by
      rw [List.drop_append, List.length_take, Nat.min_eq_left (by omega), List.drop_eq_nil_of_le (by rw [List.length_take]; omega), show dp + (k + 1) + vs.length - (dp + k) = vs.length + 1 by omega, List.drop_succ_cons, List.drop_drop, List.length_cons]
      simp only [List.nil_append]
      congr 1
      omega
    rw [e1, e2]
    simp
theorem xk_stretch {cell : Cell} {f : List Value} {sp n : Nat} (hel : ∀ j, j < f.length → cell.slots[j]? = f[j]?) (hn : sp + n ≤ f.length) : cell.stretch sp n = (f.drop sp).take n := by
  apply List.ext_getElem?
  intro i
  unfold Cell.stretch
  rw [List.getElem?_map, List.getElem?_take]
  by_cases hi : i < n
  · rw [List.getElem?_range hi, if_pos hi, List.getElem?_drop]
    simp only [Option.map_some]
    rw [Array.getD_eq_getD_getElem?, hel _ (by omega), List.getElem?_eq_getElem (by omega)]
    rfl
  · rw [if_neg hi, List.getElem?_eq_none (by simp; omega)]
    rfl
theorem xk_copy {i idx : Nat} {ty : FieldType} {ts : List Nat} {es : Value → Bool} {v z : Option Nat} {sp dp n : Int32} {κ : xk_H → Option γ} (C : xk_Cx Γ own cc nl ret nm d w) (E : xm_cpy ts [100 + i] es v sp z dp n h κ = some res) (hi : i < 100) (hty : ∀ D : va_G, (xk_tys D)[i]? = some (D.1 (100 + i), ty)) (hts : ∀ t ∈ ts, (100 ≤ t ∧ t < 200 ∨ 300 ≤ t ∧ t < 400) ∧ t % 100 = i)
    (hval : ∀ (D : va_G) (base : Nat) (s T : State) (comp : ClassId) (kA : Class) (x : Value), xk_K D s → xk_R D base h s T.heap → s.vm.classes[D.1 (100 + i)]? = some kA → kA.kind = .array comp ty → es x = true → fits ty x = true ∧ ∀ vm', s.vm.Alike vm' → (T.setVm vm').takes comp x)
    (hw : Cond.methodLink own idx arraycopyName ∈ lw_all) (hna : Cond.native arraycopyName ∈ lw_all) (hsta : Cond.static arraycopyName ∈ lw_all) (hini : Cond.initialized "java/lang/System" ∈ lw_all) (hd : 1 ≤ d) (hst : xk_w1 st) (hwd : st.length + (nativeFrameWords "java/lang/System" "arraycopy" 5 + 11) ≤ w) (dg : decode cc pc = .ok (.invokestatic idx, 3)) (kk : ∀ h', κ h' = some res → xk_X Γ (pc + 3) L st h') : xk_X Γ pc L (.int n :: .int dp :: va_rf z :: .int sp :: va_rf v :: st) h := by
  unfold xm_cpy at E
  split at E
  next a b =>
    split at E
    next ht =>
      obtain ⟨ta, tb, q1, q2, q3, q4, q5, q6⟩ := ht
      rw [List.mem_singleton] at tb
      obtain ⟨D, base, p, l, e, R, s, m, args, below, meth, c, nL, Q⟩ := Γ
      obtain ⟨hx, hb, hml, hnl, hown, htw, hK, -, -, -, -, hd1, hw1⟩ := C
      intro ls H locs cells slots hl hc hR hS h1 h2
      have t9 : 100 ≤ (h.1 b).1 ∧ (h.1 b).1 < 200 := by rw [tb]; omega
      obtain ⟨ga, gi⟩ := hts _ ta
      obtain ⟨ca, ea, va1, va2, vcl, vle, -, vel, -⟩ := xk_arr_at (a := a) hR ga
      rw [gi] at vcl
      obtain ⟨cb, eb, vb1, vb2, wcl, wle, -, wel, hnw⟩ := xk_arr_at (a := b) hR (Or.inl t9)
      obtain ⟨hba, hce⟩ := hnw t9.2
      have wcl2 : cb.cls = D.1 (100 + i) := by rw [wcl, tb, show 100 + (100 + i) % 100 = 100 + i by omega]
      obtain ⟨-, kA, hkA, cm, hkk⟩ := (xk_aot hK (hty D)) 0 (fun _ => .null)
      have nn : ∀ z : Int32, ¬ z < 0 → z.toInt = (z.toNatClampNeg : Int) := by
        intro z hz
        have hz0 : (0 : Int) ≤ z.toInt := by
          have := Int32.not_lt.mp hz
          simpa using Int32.le_iff_toInt_le.mp this
        show z.toInt = ((z.toInt.toNat : Nat) : Int)
        omega
      have hwb : cb.slots.size = (h.1 b).2.length := by rw [hce]; simp [xk_arr]
      have hall := List.all_eq_true.mp q6
      intro T hT X
      have fin : ∀ vm', s.vm.Alike vm' → ∀ k, k < n.toNatClampNeg → fits ty (ca.slots.getD (sp.toNatClampNeg + k) .null) = true ∧ (T.setVm vm').takes cm (ca.slots.getD (sp.toNatClampNeg + k) .null) := by
        intro vm' hal k hk
        have e9 : ca.slots.getD (sp.toNatClampNeg + k) .null = (h.1 a).2[sp.toNatClampNeg + k]'(by omega) := by
          rw [Array.getD_eq_getD_getElem?, vel _ (by omega), List.getElem?_eq_getElem (by omega)]
          rfl
        have hmem : (h.1 a).2[sp.toNatClampNeg + k]'(by omega) ∈ ((h.1 a).2.drop sp.toNatClampNeg).take n.toNatClampNeg := by
          refine List.mem_of_getElem? (i := k) ?_
          rw [List.getElem?_take, if_pos hk, List.getElem?_drop, List.getElem?_eq_getElem (by omega)]
        have h9 := hval D base s T cm kA _ hK (by rw [hT]; exact hR) hkA hkk (hall _ hmem)
        rw [e9]
        exact ⟨h9.1, h9.2 vm' hal⟩
      obtain ⟨vm', X', step⟩ := X.arraycopy hx hown (htw _ hw) (htw _ hna) (htw _ hsta) (htw _ hini) (src := a) (dst := b) (cs := ca) (cd := cb) (srcPos := sp) (destPos := dp) (n := n) (by rw [hT]; exact ea) (by rw [hT]; exact eb)
        (fun _ q => by rw [q] at va1; cases va1) (fun _ q => by rw [q] at vb1; cases vb1) va2 vb2 (by rw [vcl]; exact hkA) (by rw [wcl2]; exact hkA) hkk hkk (by simp) q1 q2 q3
        (by rw [nn sp q1, nn n q3]; omega) (by rw [nn dp q2, nn n q3, hwb]; omega) fin
        (g := F0 m pc ls (.int n :: .int dp :: .ref b :: .int sp :: .ref a :: st)) rfl (by show ls.size = _; rw [hml]; exact hl.1) (rest := st) rfl (by rw [hb]; exact dg) (by omega) (by show 2 * 0 + _ + _ ≤ _; rw [xk_w1_sum hst]; omega)
      have hlen : ((List.drop sp.toNatClampNeg (h.1 a).2).take n.toNatClampNeg).length = n.toNatClampNeg := by rw [List.length_take, List.length_drop]; omega
      have e1 : copied ca cb sp dp n = xk_arr (D.1 (h.1 b).1) (xk_cp (h.1 a).2 (h.1 b).2 sp.toNatClampNeg dp.toNatClampNeg n.toNatClampNeg) := by
        show cb.storeRun _ _ = _
        rw [xk_stretch vel q4, hce, Cell.storeRun, xk_run _ _ _ _ (by rw [hlen]; omega), hlen]
        rfl
      rw [e1] at X' step
      have hlb : b < H.size := (Array.getElem?_eq_some_iff.mp eb).1
      have hheap : ((T.setVm vm').setCell b (xk_arr (D.1 (h.1 b).1) (xk_cp (h.1 a).2 (h.1 b).2 sp.toNatClampNeg dp.toNatClampNeg n.toNatClampNeg))).heap = H.setIfInBounds b (xk_arr (D.1 (h.1 b).1) (xk_cp (h.1 a).2 (h.1 b).2 sp.toNatClampNeg dp.toNatClampNeg n.toNatClampNeg)) := by rw [← hT]; rfl
      have oq : ∀ q : Nat, q ≠ b → (H.setIfInBounds b (xk_arr (D.1 (h.1 b).1) (xk_cp (h.1 a).2 (h.1 b).2 sp.toNatClampNeg dp.toNatClampNeg n.toNatClampNeg)))[q]? = H[q]? := fun q hq => by simp [Array.getElem?_setIfInBounds, Ne.symm hq]
      have hR' := hR.set (H1 := H.setIfInBounds b (xk_arr (D.1 (h.1 b).1) (xk_cp (h.1 a).2 (h.1 b).2 sp.toNatClampNeg dp.toNatClampNeg n.toNatClampNeg))) hba (by simp) oq (o := ((h.1 b).1, xk_cp (h.1 a).2 (h.1 b).2 sp.toNatClampNeg dp.toNatClampNeg n.toNatClampNeg)) ⟨fun q => absurd q (by simp only; omega), fun _ _ => ⟨hba, by simp [Array.getElem?_setIfInBounds, hlb]⟩, fun q => absurd q (by simp only; omega), fun q => absurd q (by simp only; omega)⟩
      obtain ⟨t, a1, b1⟩ := kk _ E ls _ _ cells slots hl hc hR' ⟨by simp; exact hS.1, fun q g1 g2 => by
          rw [oq q (fun e => g2 (by rw [e]; exact hba))]
          exact hS.2.1 q g1 g2, fun q hq => by
          rcases List.mem_append.mp hq with h | h
          · exact hS.2.2 q h
          · obtain ⟨z, -, hz⟩ := List.mem_map.mp h
            rw [← hz]
            exact hba⟩ h1 h2 _ hheap X'
      exact ⟨t, step t a1, b1⟩
    next => cases E
  next => cases E
theorem xr_cpB {idx : Nat} {v z : Option Nat} {sp dp n : Int32} {κ : xk_H → Option γ} (C : xk_Cx Γ own cc nl ret nm d w) (E : xm_cpy [101] [101] (fits .byte) v sp z dp n h κ = some res)
    (hw : Cond.methodLink own idx arraycopyName ∈ lw_all) (hna : Cond.native arraycopyName ∈ lw_all) (hsta : Cond.static arraycopyName ∈ lw_all) (hini : Cond.initialized "java/lang/System" ∈ lw_all) (hd : 1 ≤ d) (hst : xk_w1 st) (hwd : st.length + (nativeFrameWords "java/lang/System" "arraycopy" 5 + 11) ≤ w) (dg : decode cc pc = .ok (.invokestatic idx, 3)) (kk : ∀ h', κ h' = some res → xk_X Γ (pc + 3) L st h') : xk_X Γ pc L (.int n :: .int dp :: va_rf z :: .int sp :: va_rf v :: st) h :=
  xk_copy (i := 1) (ty := .byte) C E (by decide) (fun _ => rfl) (fun t ht => by rw [List.mem_singleton] at ht; subst ht; exact ⟨Or.inl ⟨by decide, by decide⟩, rfl⟩)
    (fun D base s T comp kA x hK hR k1 k2 he => ⟨he, fun vm' hal => by cases x <;> first | trivial | (exact absurd he (by simp [fits]))⟩) hw hna hsta hini hd hst hwd dg kk
theorem xr_cpO {idx : Nat} {es : List Nat} {v z : Option Nat} {sp dp n : Int32} {κ : xk_H → Option γ} (C : xk_Cx Γ own cc nl ret nm d w) (E : xm_cpy [102, 302] [102] (xk_el es h) v sp z dp n h κ = some res) (hA : xk_As es "java/lang/Object")
    (hw : Cond.methodLink own idx arraycopyName ∈ lw_all) (hna : Cond.native arraycopyName ∈ lw_all) (hsta : Cond.static arraycopyName ∈ lw_all) (hini : Cond.initialized "java/lang/System" ∈ lw_all) (hd : 1 ≤ d) (hst : xk_w1 st) (hwd : st.length + (nativeFrameWords "java/lang/System" "arraycopy" 5 + 11) ≤ w) (dg : decode cc pc = .ok (.invokestatic idx, 3)) (kk : ∀ h', κ h' = some res → xk_X Γ (pc + 3) L st h') : xk_X Γ pc L (.int n :: .int dp :: va_rf z :: .int sp :: va_rf v :: st) h := by
  refine xk_copy (i := 2) (ty := .object "java/lang/Object") C E (by decide) (fun _ => rfl) (fun t ht => ?_) (fun D base s T comp kA x hK hR k1 k2 he => ?_) hw hna hsta hini hd hst hwd dg kk
  · have t9 : t = 102 ∨ t = 302 := by simpa using ht
    rcases t9 with rfl | rfl
    · exact ⟨Or.inl ⟨by decide, by decide⟩, rfl⟩
    · exact ⟨Or.inr ⟨by decide, by decide⟩, rfl⟩
  · cases x with
    | null => exact ⟨rfl, fun _ _ => trivial⟩
    | ref b =>
      refine ⟨rfl, fun vm' hal => ?_⟩
      obtain ⟨kA', comp', r1, r2, r3, -⟩ := (hK.1.2 2 _ rfl).2
      cases k1.symm.trans r1
      cases k2.symm.trans r2
      obtain ⟨cb, g1, g2, ⟨kC, g3⟩, g4⟩ := xk_asg (b := b) hK hR hA (of_decide_eq_true he)
      obtain ⟨kE, hkE, -⟩ := Vm.findClass_spec r3
      obtain ⟨kC', hkC', -⟩ := hal.2.2 _ _ g3
      obtain ⟨kE', hkE', -⟩ := hal.2.2 _ _ hkE
      exact ⟨cb, g1, (fun q hq => by rw [hq] at g2; cases g2), ⟨kC', hkC'⟩, ⟨kE', hkE'⟩, by show vm'.assignable _ _ = true; rw [hal.assignable]; exact g4 _ r3⟩
    | _ => exact absurd he (by simp [xk_el])
end XN
