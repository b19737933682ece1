/-! ROWS OF xk_X: the heap. xm_..: what an instruction does to the abstract heap, in passing style -/
set_option maxRecDepth 100000
/-! ## knowledge of the classes -/
def xk_cOk (r : vw_C) : Prop := (∀ w ∈ u_ws r.1 r.2.1 r.2.2, w ∈ lw_all) ∧ (∃ ty : Nat → FieldType, ∀ k, k < r.2.2 → parseFieldDescriptor (r.2.1 k).2.2.1 = some (ty k)) ∧ (∀ a, a < r.2.2 → ∀ b, b < r.2.2 → a ≠ b → (r.2.1 a).2.1 ≠ (r.2.1 b).2.1) ∧ (∃ n, Cond.instantiable r.1 n ∈ lw_all)
theorem xk_nm29 : ∀ a, a < 11 → ∀ b, b < 11 → a ≠ b → (xk_T29 a).2.1 ≠ (xk_T29 b).2.1 := by decide +kernel
theorem xk_ty29_ok : ∀ k, k < 11 → parseFieldDescriptor (xk_T29 k).2.2.1 = some (xk_ty29 k) := by decide +kernel
theorem xk_in29 : ∀ w ∈ u_ws RJ29 xk_T29 11, w ∈ lw_all := lw_in (u_ws RJ29 xk_T29 11) [1757, 1758, 1759, 1760, 1743, 1745, 1747, 1749, 1751, 1753, 1755] (by decide +kernel) (by decide +kernel)
theorem xk_cl_ok : ∀ (t : Nat) (r : vw_C), xk_cl[t]? = some r → xk_cOk r := by
  intro t r h
  match t, h with
  | 0, h => cases h; exact ⟨in_X0, ⟨tyX0, tyX0_ok⟩, nmX0, ⟨_, q129⟩⟩
  | 1, h => cases h; exact ⟨in_X1, ⟨tyX1, tyX1_ok⟩, nmX1, ⟨_, q137⟩⟩
  | 2, h => cases h; exact ⟨in_X2, ⟨tyX2, tyX2_ok⟩, nmX2, ⟨_, q2138⟩⟩
  | 3, h => cases h; exact ⟨in_X3, ⟨tyX3, tyX3_ok⟩, nmX3, ⟨_, q744⟩⟩
  | 4, h => cases h; exact ⟨in_X4, ⟨tyX4, tyX4_ok⟩, nmX4, ⟨_, q1115⟩⟩
  | 5, h => cases h; exact ⟨in_X5, ⟨tyX5, tyX5_ok⟩, nmX5, ⟨_, q1315⟩⟩
  | 6, h => cases h; exact ⟨in_J2, ⟨tyJ2, tyJ2_ok⟩, nmJ2, ⟨_, q143⟩⟩
  | 7, h => cases h; exact ⟨in_J4, ⟨tyJ4, tyJ4_ok⟩, nmJ4, ⟨_, q185⟩⟩
  | 8, h => cases h; exact ⟨in_J6, ⟨tyJ6, tyJ6_ok⟩, nmJ6, ⟨_, q206⟩⟩
  | 9, h => cases h; exact ⟨in_J9, ⟨tyJ9, tyJ9_ok⟩, nmJ9, ⟨_, q296⟩⟩
  | 10, h => cases h; exact ⟨in_J20, ⟨tyJ20, tyJ20_ok⟩, nmJ20, ⟨_, q878⟩⟩
  | 11, h => cases h; exact ⟨in_J22, ⟨tyJ22, tyJ22_ok⟩, nmJ22, ⟨_, q938⟩⟩
  | 12, h => cases h; exact ⟨in_J24, ⟨tyJ24, tyJ24_ok⟩, nmJ24, ⟨_, q1258⟩⟩
  | 13, h => cases h; exact ⟨in_J27, ⟨tyJ27, tyJ27_ok⟩, nmJ27, ⟨_, q1666⟩⟩
  | 14, h => cases h; exact ⟨xk_in29, ⟨xk_ty29, xk_ty29_ok⟩, xk_nm29, ⟨_, q1729⟩⟩
  | 15, h => cases h; exact ⟨in_J30, ⟨tyJ30, tyJ30_ok⟩, nmJ30, ⟨_, q1886⟩⟩
  | 16, h => cases h; exact ⟨in_J33, ⟨tyJ33, tyJ33_ok⟩, nmJ33, ⟨_, q1938⟩⟩
  | 17, h => cases h; exact ⟨in_J39, ⟨tyJ39, tyJ39_ok⟩, nmJ39, ⟨_, q2059⟩⟩
  | k + 18, h => simp [xk_cl] at h
/-! ## the abstract heap's own reading and writing -/
section XM
variable {γ : Type}
def xm_gI (ts : List Nat) (k : Nat) (v : Option Nat) (h : xk_H) (κ : Int32 → Option γ) : Option γ := match v with
  | none => none
  | some a => if (h.1 a).1 ∈ ts then (match (h.1 a).2[k]? with | some (.int x) => κ x | _ => none) else none
def xm_gR (ts : List Nat) (k : Nat) (v : Option Nat) (h : xk_H) (κ : Option Nat → Option γ) : Option γ := match v with
  | none => none
  | some a => if (h.1 a).1 ∈ ts then (match (h.1 a).2[k]? with | some .null => κ none | some (.ref b) => κ (some b) | _ => none) else none
def xm_pV (ts : List Nat) (k : Nat) (v : Option Nat) (x : Value) (h : xk_H) (κ : xk_H → Option γ) : Option γ := match v with
  | none => none
  | some a => if (h.1 a).1 ∈ ts then κ (xk_set h a ((h.1 a).1, (h.1 a).2.set k x)) else none
/-- a store into a boolean or a byte: what is stored fits -/
def xm_pN (ty : FieldType) (ts : List Nat) (k : Nat) (v : Option Nat) (x : Int32) (h : xk_H) (κ : xk_H → Option γ) : Option γ := if narrow ty (.int x) = .int x ∧ fits ty (.int x) = true then xm_pV ts k v (.int x) h κ else none
def xm_len (ts : List Nat) (v : Option Nat) (h : xk_H) (κ : Int32 → Option γ) : Option γ := match v with
  | none => none
  | some a => if (h.1 a).1 ∈ ts then κ (nI (h.1 a).2.length) else none
def xm_lI (ts : List Nat) (v : Option Nat) (i : Int32) (h : xk_H) (κ : Int32 → Option γ) : Option γ := match v with
  | none => none
  | some a => if (h.1 a).1 ∈ ts ∧ ¬ i < 0 then (match (h.1 a).2[i.toNatClampNeg]? with | some (.int x) => κ x | _ => none) else none
def xm_lR (ts : List Nat) (v : Option Nat) (i : Int32) (h : xk_H) (κ : Option Nat → Option γ) : Option γ := match v with
  | none => none
  | some a => if (h.1 a).1 ∈ ts ∧ ¬ i < 0 then (match (h.1 a).2[i.toNatClampNeg]? with | some .null => κ none | some (.ref b) => κ (some b) | _ => none) else none
def xm_sV (ts : List Nat) (v : Option Nat) (i : Int32) (x : Value) (h : xk_H) (κ : xk_H → Option γ) : Option γ := match v with
  | none => none
  | some a => if (h.1 a).1 ∈ ts ∧ ¬ i < 0 ∧ i.toNatClampNeg < (h.1 a).2.length then κ (xk_set h a ((h.1 a).1, (h.1 a).2.set i.toNatClampNeg x)) else none
/-- what may lie in an array of references: null, or an object with one of these tags -/
def xk_el (es : List Nat) (h : xk_H) (x : Value) : Bool := match x with
  | .null => true
  | .ref b => decide ((h.1 b).1 ∈ es)
  | _ => false
def xm_sR (ts es : List Nat) (v : Option Nat) (i : Int32) (x : Option Nat) (h : xk_H) (κ : xk_H → Option γ) : Option γ := if xk_el es h (va_rf x) = true then xm_sV ts v i (va_rf x) h κ else none
def xm_new (t : Nat) (fs : List Value) (h : xk_H) (κ : Nat → xk_H → Option γ) : Option γ := if fs.length + 1 ≤ h.2.2.2 then κ h.2.2.1 (xk_push h (t, fs)) else none
def xm_nwa (t : Nat) (x : Value) (n : Int32) (h : xk_H) (κ : Nat → xk_H → Option γ) : Option γ := if ¬ n < 0 ∧ n.toNatClampNeg ≤ 100000 ∧ n.toNatClampNeg + 1 ≤ h.2.2.2 then κ h.2.2.1 (xk_push h (t, List.replicate n.toNatClampNeg x)) else none
def xk_cp (f g : List Value) (sp dp n : Nat) : List Value := g.take dp ++ ((f.drop sp).take n ++ g.drop (dp + n))
/-- System.arraycopy; es: what may be among the elements -/
def xm_cpy (ts td : List Nat) (es : Value → Bool) (v : Option Nat) (sp : Int32) (z : Option Nat) (dp n : Int32) (h : xk_H) (κ : xk_H → Option γ) : Option γ := match v, z with
  | some a, some b => if (h.1 a).1 ∈ ts ∧ (h.1 b).1 ∈ td ∧ ¬ sp < 0 ∧ ¬ dp < 0 ∧ ¬ n < 0 ∧ sp.toNatClampNeg + n.toNatClampNeg ≤ (h.1 a).2.length ∧ dp.toNatClampNeg + n.toNatClampNeg ≤ (h.1 b).2.length ∧ (((h.1 a).2.drop sp.toNatClampNeg).take n.toNatClampNeg).all es = true
      then κ (xk_set h b ((h.1 b).1, xk_cp (h.1 a).2 (h.1 b).2 sp.toNatClampNeg dp.toNatClampNeg n.toNatClampNeg)) else none
  | _, _ => none
def xm_cast (ts : List Nat) (v : Option Nat) (h : xk_H) (κ : Option γ) : Option γ := match v with
  | none => κ
  | some a => if (h.1 a).1 ∈ ts then κ else none
def xm_inst (ty tn : List Nat) (v : Option Nat) (h : xk_H) (κ : Int32 → Option γ) : Option γ := match v with
  | none => κ 0
  | some a => if (h.1 a).1 ∈ ty then κ 1 else if (h.1 a).1 ∈ tn then κ 0 else none
/-- the receiver of a call: an object with one of these tags -/
def xm_rc (ts : List Nat) (v : Option Nat) (h : xk_H) (κ : Option γ) : Option γ := match v with
  | none => none
  | some a => if (h.1 a).1 ∈ ts then κ else none
def xm_cl {ρ : Type} (r : Option (ρ × xk_H)) (κ : ρ → xk_H → Option γ) : Option γ := match r with
  | none => none
  | some q => κ q.1 q.2
/-- a boolean's int -/
def xk_b2 (b : Bool) : Int32 := if b = true then 1 else 0
def xm_z (x : Int32) (κ : Bool → Option γ) : Option γ := if x = 0 then κ false else if x = 1 then κ true else none
/-- a char that was an answer -/
def xm_c (x : Int32) (κ : Option γ) : Option γ := if narrow .char (.int x) = .int x then κ else none
end XM
/-! ## from the abstract heap to the machine's -/
theorem xk_obj {D : va_G} {base a : Nat} {h : xk_H} {s : State} {H : Heap} (hR : xk_R D base h s H) (ht : (h.1 a).1 < 100 ∨ 200 ≤ (h.1 a).1 ∧ (h.1 a).1 < 300) : ∃ c : Cell, H[a]? = some c ∧ c.vm.isStatics = false ∧ c.vm ≠ .unknown ∧ xk_rd D ((h.1 a).1 % 100) (h.1 a).2 c ∧ ((h.1 a).1 < 100 → base ≤ a ∧ c.vm = .none) := by
  obtain ⟨h1, h2, h3, h4⟩ := hR.2.2.1 a
  rcases ht with g | ⟨g, g'⟩
  · obtain ⟨hb, c, e, hv, hr⟩ := h1 g
    refine ⟨c, e, (by rw [hv]; rfl), (by rw [hv]; intro q; cases q), (by rw [Nat.mod_eq_of_lt g]; exact hr), fun _ => ⟨hb, hv⟩⟩
  · obtain ⟨c, e, hv, hu, hr⟩ := h3 g g'
    refine ⟨c, e, hv, hu, ?_, fun q => by omega⟩
    have e2 : (h.1 a).1 % 100 = (h.1 a).1 - 200 := by omega
    rw [e2]; exact hr
theorem xk_arr_at {D : va_G} {base a : Nat} {h : xk_H} {s : State} {H : Heap} (hR : xk_R D base h s H) (ht : 100 ≤ (h.1 a).1 ∧ (h.1 a).1 < 200 ∨ 300 ≤ (h.1 a).1 ∧ (h.1 a).1 < 400) : ∃ c : Cell, H[a]? = some c ∧ c.vm.isStatics = false ∧ c.vm ≠ .unknown ∧ c.cls = D.1 (100 + (h.1 a).1 % 100) ∧ (h.1 a).2.length ≤ c.slots.size ∧ c.slots.size.toInt32 = Int32.ofNat (h.1 a).2.length ∧ (∀ j, j < (h.1 a).2.length → c.slots[j]? = (h.1 a).2[j]?) ∧ ((h.1 a).1 < 200 → base ≤ a ∧ c = xk_arr (D.1 (h.1 a).1) (h.1 a).2) := by
  obtain ⟨h1, h2, h3, h4⟩ := hR.2.2.1 a
  rcases ht with ⟨g, g'⟩ | ⟨g, g'⟩
  · obtain ⟨hb, e⟩ := h2 g g'
    have e2 : 100 + (h.1 a).1 % 100 = (h.1 a).1 := by omega
    refine ⟨_, e, rfl, (fun q => by cases q), by rw [e2]; rfl, by simp [xk_arr], by simp [xk_arr, Nat.toInt32], fun j hj => by simp [xk_arr], fun _ => ⟨hb, rfl⟩⟩
  · obtain ⟨c, e, hv, hu, hcl, hl, hn, hs⟩ := h4 g g'
    have e2 : 100 + (h.1 a).1 % 100 = (h.1 a).1 - 200 := by omega
    exact ⟨c, e, hv, hu, by rw [e2]; exact hcl, hl, hn, hs, fun q => by omega⟩
theorem xk_aot {D : va_G} {s : State} {k : Nat} {q : ClassId × FieldType} (hK : xk_K D s) (ht : (xk_tys D)[k]? = some q) : ArrOfT s q.1 q.2 := by
  match k, ht with
  | 0, ht => exact (hK.1.2 0 q ht).1
  | 1, ht => exact (hK.1.2 1 q ht).1
  | 2, ht => exact (hK.1.2 2 q ht).1
  | 3, ht => exact (hK.1.2 3 q ht).1
  | 4, ht => obtain rfl := Option.some.inj ht; exact hK.2.2.2.2.2.2.2.2.2.2.2
  | k + 5, ht => cases ht
theorem xk_tyr {D : va_G} {i : Nat} {q : ClassId × FieldType} (h : (xk_tyR D)[i]? = some q) : (xk_tys D)[i]? = some q := by
  match i, h with
  | 0, h => exact h
  | 1, h => exact h
  | 2, h => exact h
  | 3, h => exact h
  | k + 4, h => cases h
/-- an array's type, by its tag -/
theorem xk_isArr {D : va_G} {s : State} {k : Nat} {ty : FieldType} {c : Cell} (hK : xk_K D s) (ht : (xk_tys D)[k]? = some (D.1 (100 + k), ty)) (hc : c.cls = D.1 (100 + k)) (hv : c.vm.isStatics = false) : s.isArrayOf c ty := by
  obtain ⟨-, kA, hk, cm, hkk⟩ := (xk_aot hK ht) 0 (fun _ => .null)
  refine ⟨(fun q e => by rw [e] at hv; cases hv), kA, ?_, cm, hkk⟩
  rw [hc]; exact hk
/-! ## rows: fields -/
/-- a field's access from the class own by its pool index idx: place k of objects of tag t -/
def xk_Fo (own : String) (idx : Nat) (t k : Nat) : Prop := ∃ (r : vw_C) (ref : String), xk_cl[t]? = some r ∧ k < r.2.2 ∧ (Cond.fieldLink own idx ref (r.2.1 k).2.1 (r.2.1 k).2.2.1 ∈ lw_all ∨ ∃ host, (own, idx, ref, (r.2.1 k).2.1, (r.2.1 k).2.2.1, host) ∈ xk_nfs) ∧ (ref = (r.2.1 k).1 ∨ Cond.sameField ref (r.2.1 k).1 (r.2.1 k).2.1 (r.2.1 k).2.2.1 ∈ lw_all)
def xk_Fos (own : String) (idx : Nat) (ts : List Nat) (k : Nat) : Prop := ∀ t ∈ ts, (t < 100 ∨ 200 ≤ t ∧ t < 300) ∧ xk_Fo own idx (t % 100) k
/-- ... and may be stored to: its type; it isn't final, or this is its class's constructor -/
def xk_Fp (own nm : String) (ts : List Nat) (k : Nat) (ty : FieldType) : Prop := ∀ t ∈ ts, t < 100 ∧ ∀ r, xk_cl[t]? = some r → parseFieldDescriptor (r.2.1 k).2.2.1 = some ty ∧ ((r.2.1 k).2.2.2 = false ∨ ((r.2.1 k).2.2.2 = true ∧ nm = "<init>" ∧ (r.2.1 k).1 = own))
section XH
variable {γ : Type} {Γ : xk_C} {own nm : String} {cc : ByteArray} {ret : Option FieldType} {d w pc nl : Nat} {L : List (Nat × Value)} {st : List Value} {h : xk_H} {res : γ}
theorem xk_get {a k idx : Nat} {x : Value} (C : xk_Cx Γ own cc nl ret nm d w) (ht : (h.1 a).1 < 100 ∨ 200 ≤ (h.1 a).1 ∧ (h.1 a).1 < 300) (hf : xk_Fo own idx ((h.1 a).1 % 100) k) (hv : (h.1 a).2[k]? = some x) (dg : decode cc pc = .ok (.getfield idx, 3)) (kk : xk_X Γ (pc + 3) L (x :: st) h) : xk_X Γ pc L (va_rf (some a) :: st) h := by
  obtain ⟨D, base, p, l, e, R, s, m, args, below, meth, c, nL, Q⟩ := Γ
  obtain ⟨hx, hb, hml, hnl, hown, hts, hK, -⟩ := C
  intro ls H locs cells slots hl hc hR hS h1 h2
  obtain ⟨cell, ec, hvs, hvu, ⟨r', hr', hlen, hcls, hsl⟩, -⟩ := xk_obj hR ht
  obtain ⟨r, ref, hr, hk, hlink, hsame⟩ := hf
  have q9 := Option.some.inj (hr.symm.trans hr'); subst q9
  obtain ⟨hin, -⟩ := xk_cl_ok _ _ hr
  obtain ⟨hSl, hfc, kC, hkC, hkind⟩ := hK.1.1 _ _ hr
  obtain ⟨cf, kf, fi, f, hi, hs2⟩ := hSl k hk
  have hi2 : s.fieldFound? ref (r.2.1 k).2.1 (r.2.1 k).2.2.1 = some (cf, kf, fi, f) := by
    rcases hsame with q | q
    · rw [q]; exact hi
    · exact u_same (hts _ q) _ hi
  have hst := (u_facts hfc hkC (u_lays hts hin hk) hi).1
  have hslot : cell.slots[f.slot]? = some x := by
    rw [hs2, hsl k hk]
    simp [vp_V, hv]
  rcases hlink with hw | ⟨host, hm⟩
  · exact W.getf hx hb hown (hts _ hw) hi2 hst ec hvu hslot rfl rfl dg (kk ls H locs cells slots hl hc hR hS h1 h2)
  · exact va_Wgetf hx hb hown (va_Nw.use rfl (hK.2.1 _ hm)) hi2 hst ec hvu hslot rfl rfl dg (kk ls H locs cells slots hl hc hR hS h1 h2)
theorem xr_gI {ts : List Nat} {k idx : Nat} {v : Option Nat} {κ : Int32 → Option γ} (C : xk_Cx Γ own cc nl ret nm d w) (E : xm_gI ts k v h κ = some res) (hf : xk_Fos own idx ts k) (dg : decode cc pc = .ok (.getfield idx, 3)) (kk : ∀ x, κ x = some res → xk_X Γ (pc + 3) L (.int x :: st) h) : xk_X Γ pc L (va_rf v :: st) h := by
  unfold xm_gI at E
  cases v with
  | none => cases E
  | some a =>
    dsimp only at E
    split at E
    next ht =>
      split at E
      next x hv => exact xk_get C (hf _ ht).1 (hf _ ht).2 hv dg (kk x E)
      next => cases E
    next => cases E
theorem xr_gR {ts : List Nat} {k idx : Nat} {v : Option Nat} {κ : Option Nat → Option γ} (C : xk_Cx Γ own cc nl ret nm d w) (E : xm_gR ts k v h κ = some res) (hf : xk_Fos own idx ts k) (dg : decode cc pc = .ok (.getfield idx, 3)) (kk : ∀ x, κ x = some res → xk_X Γ (pc + 3) L (va_rf x :: st) h) : xk_X Γ pc L (va_rf v :: st) h := by
  unfold xm_gR at E
  cases v with
  | none => cases E
  | some a =>
    dsimp only at E
    split at E
    next ht =>
      split at E
      next hv => exact xk_get C (hf _ ht).1 (hf _ ht).2 hv dg (kk none E)
      next b hv => exact xk_get C (hf _ ht).1 (hf _ ht).2 hv dg (kk (some b) E)
      next => cases E
    next => cases E
theorem xk_put {a k idx : Nat} {x : Value} {ty : FieldType} {ts : List Nat} (C : xk_Cx Γ own cc nl ret nm d w) (ht : (h.1 a).1 ∈ ts) (hf : xk_Fos own idx ts k) (hp : xk_Fp own nm ts k ty) (hn : narrow ty x = x) (hfit : fits ty x = true) (dg : decode cc pc = .ok (.putfield idx, 3)) (kk : xk_X Γ (pc + 3) L st (xk_set h a ((h.1 a).1, (h.1 a).2.set k x))) : xk_X Γ pc L (x :: va_rf (some a) :: st) h := by
  obtain ⟨D, base, p, l, e, R, s, m, args, below, meth, c, nL, Q⟩ := Γ
  obtain ⟨hx, hb, hml, hnl, hown, hts, hK, hr0, hlk, hnm, -⟩ := C
  intro ls H locs cells slots hl hc hR hS h1 h2
  obtain ⟨htl, hp⟩ := hp _ ht
  obtain ⟨-, hf⟩ := hf _ ht
  obtain ⟨cell, ec, hvs, hvu, ⟨r', hr', hlen, hcls, hsl⟩, hnew⟩ := xk_obj hR (Or.inl htl)
  obtain ⟨hba, hvm⟩ := hnew htl
  obtain ⟨r, ref, hr, hk, hlink, hsame⟩ := hf
  have q9 := Option.some.inj (hr.symm.trans hr'); subst q9
  rw [Nat.mod_eq_of_lt htl] at hr hcls hsl
  obtain ⟨hd, hfin⟩ := hp r hr
  obtain ⟨hin, ⟨ty0, hty⟩, hnmF, -⟩ := xk_cl_ok _ _ hr
  have hap := va_apart (own := own) hts hin ty0 hty hnmF hK.1 (ci := (h.1 a).1) hr
  obtain ⟨hSl, hfc, kC, hkC, hkind⟩ := hK.1.1 _ _ hr
  obtain ⟨cf, kf, fi, f, hi, hs2⟩ := hSl k hk
  have hi2 : s.fieldFound? ref (r.2.1 k).2.1 (r.2.1 k).2.2.1 = some (cf, kf, fi, f) := by
    rcases hsame with q | q
    · rw [q]; exact hi
    · exact u_same (hts _ q) _ hi
  have hst := (u_facts hfc hkC (u_lays hts hin hk) hi).1
  have hlt : f.slot < cell.slots.size := by rw [hs2]; exact k2_hasslot (hsl k hk)
  have hl0 : k < (h.1 a).2.length := by rw [hlen]; exact hk
  have hlay := hts _ (hin _ (u_in_lay hk))
  have fin : ∀ H' : Heap, H'[a]? = some (cell.setSlot f.slot x) → H'.size = H.size → (∀ q : Nat, q ≠ a → H'[q]? = H[q]?) → W p l e R s m args below meth c H' (locs ++ [⟨a, f.slot⟩]) cells slots Q (F0 m (pc + 3) ls st) := by
    intro H' e1 e2 e3
    refine kk ls H' _ cells slots hl hc (hR.set hba e2 e3 ⟨fun _ => ⟨hba, _, e1, hvm, r, hr, by simp [hlen], hcls, fun j hj => ?_⟩, fun q => ?_, fun q => ?_, fun q => ?_⟩) (hS.put e2 e3 hba) h1 h2
    · rw [hs2, t_set hsl hap hk x j hj, vp_updV_set hl0 x j]
    · exact absurd q (by simp only; omega)
    · exact absurd q (by simp only; omega)
    · exact absurd q (by simp only; omega)
  rcases hfin with hf0 | ⟨hf1, hni, hdecl⟩
  · unfold u_lay at hlay
    rw [if_neg (by rw [hf0]; decide)] at hlay
    have h6 := u_store hfc hkC hkind hlay hi hd hn hfit
    rcases hlink with hw | ⟨host, hm⟩
    · exact W.putK hx hb (f := f) ⟨hown, hts _ hw, ⟨_, _, _, hi2⟩, hst⟩ (by rw [hcls]; exact h6) ec hvm hlt rfl rfl dg fin
    · exact va_WputK hx hb (f := f) hown (va_Nw.use rfl (hK.2.1 _ hm)) hi2 hst (by rw [hcls]; exact h6) ec hvm hlt rfl rfl dg fin
  · unfold u_lay at hlay
    rw [if_pos hf1] at hlay
    have hcf : m.cls = cf := by
      obtain ⟨_, _, c', _, _, _, -, -, hf', -, -, -, hown2, -⟩ := Cond.laysFinal_spec hlay
      have e1 : c' = cf := by have := hi.symm.trans hf'; simp at this; exact this.1.symm
      rw [hdecl] at hown2
      rw [← e1]; exact Option.some.inj (hown.symm.trans hown2)
    have h6 := u_fits hfc hkC hkind (Or.inr hlay) hi hd hn hfit
    rcases hlink with hw | ⟨host, hm⟩
    · exact W.putFinK hx hb hown (hts _ hw) hi2 hst hcf (hnm.trans hni) (by rw [hcls]; exact h6) ec hvm hlt rfl rfl dg fin
    · have ha : a < H.size := (Array.getElem?_eq_some_iff.mp ec).1
      refine va_Wputf hx hb hown (va_Nw.use rfl (hK.2.1 _ hm)) hi2 hst (Or.inr ⟨hcf, hnm.trans hni⟩) ec hvu hlt h6.1 (by rw [hcls, hvm]; exact h6.2) rfl rfl dg (fin _ ?_ ?_ ?_)
      · simp [Array.getElem?_setIfInBounds, ha]
      · simp
      · intro q hq
        simp [Array.getElem?_setIfInBounds, Ne.symm hq]
theorem xr_pV {ts : List Nat} {k idx : Nat} {v : Option Nat} {x : Value} {ty : FieldType} {κ : xk_H → Option γ} (C : xk_Cx Γ own cc nl ret nm d w) (E : xm_pV ts k v x h κ = some res) (hf : xk_Fos own idx ts k) (hp : xk_Fp own nm ts k ty) (hn : narrow ty x = x) (hfit : fits ty x = true) (dg : decode cc pc = .ok (.putfield idx, 3)) (kk : ∀ h', κ h' = some res → xk_X Γ (pc + 3) L st h') : xk_X Γ pc L (x :: va_rf v :: st) h := by
  unfold xm_pV at E
  cases v with
  | none => cases E
  | some a =>
    dsimp only at E
    split at E
    next ht => exact xk_put C ht hf hp hn hfit dg (kk _ E)
    next => cases E
theorem xr_pI {ts : List Nat} {k idx : Nat} {v : Option Nat} {x : Int32} {κ : xk_H → Option γ} (C : xk_Cx Γ own cc nl ret nm d w) (E : xm_pV ts k v (.int x) h κ = some res) (hf : xk_Fos own idx ts k) (hp : xk_Fp own nm ts k .int) (dg : decode cc pc = .ok (.putfield idx, 3)) (kk : ∀ h', κ h' = some res → xk_X Γ (pc + 3) L st h') : xk_X Γ pc L (.int x :: va_rf v :: st) h := xr_pV C E hf hp rfl rfl dg kk
theorem xr_pF {ts : List Nat} {k idx : Nat} {v : Option Nat} {x : UInt32} {κ : xk_H → Option γ} (C : xk_Cx Γ own cc nl ret nm d w) (E : xm_pV ts k v (.float x) h κ = some res) (hf : xk_Fos own idx ts k) (hp : xk_Fp own nm ts k .float) (dg : decode cc pc = .ok (.putfield idx, 3)) (kk : ∀ h', κ h' = some res → xk_X Γ (pc + 3) L st h') : xk_X Γ pc L (.float x :: va_rf v :: st) h := xr_pV C E hf hp rfl rfl dg kk
theorem xr_pN {ty : FieldType} {ts : List Nat} {k idx : Nat} {v : Option Nat} {x : Int32} {κ : xk_H → Option γ} (C : xk_Cx Γ own cc nl ret nm d w) (E : xm_pN ty ts k v x h κ = some res) (hf : xk_Fos own idx ts k) (hp : xk_Fp own nm ts k ty) (dg : decode cc pc = .ok (.putfield idx, 3)) (kk : ∀ h', κ h' = some res → xk_X Γ (pc + 3) L st h') : xk_X Γ pc L (.int x :: va_rf v :: st) h := by
  unfold xm_pN at E
  split at E
  next q => exact xr_pV C E hf hp q.1 q.2 dg kk
  next => cases E
theorem xr_pR {ty : FieldType} {ts : List Nat} {k idx : Nat} {v x : Option Nat} {κ : xk_H → Option γ} (C : xk_Cx Γ own cc nl ret nm d w) (E : xm_pV ts k v (va_rf x) h κ = some res) (hf : xk_Fos own idx ts k) (hp : xk_Fp own nm ts k ty) (hty : (∃ n, ty = .object n) ∨ ∃ t, ty = .array t) (dg : decode cc pc = .ok (.putfield idx, 3)) (kk : ∀ h', κ h' = some res → xk_X Γ (pc + 3) L st h') : xk_X Γ pc L (va_rf x :: va_rf v :: st) h := by
  refine xr_pV C E hf hp ?_ ?_ dg kk
  · rcases hty with ⟨n, rfl⟩ | ⟨t, rfl⟩ <;> cases x <;> rfl
  · rcases hty with ⟨n, rfl⟩ | ⟨t, rfl⟩ <;> cases x <;> rfl
/-! ## rows: arrays -/
theorem xr_len {ts : List Nat} {v : Option Nat} {κ : Int32 → Option γ} (i : Nat) (ty : FieldType) (C : xk_Cx Γ own cc nl ret nm d w) (E : xm_len ts v h κ = some res) (hty : ∀ D : va_G, (xk_tys D)[i]? = some (D.1 (100 + i), ty)) (hts : ∀ t ∈ ts, (100 ≤ t ∧ t < 200 ∨ 300 ≤ t ∧ t < 400) ∧ t % 100 = i) (dg : decode cc pc = .ok (.arraylength, 1)) (kk : ∀ x, κ x = some res → xk_X Γ (pc + 1) L (.int x :: st) h) : xk_X Γ pc L (va_rf v :: st) h := by
  unfold xm_len at E
  cases v with
  | none => cases E
  | some a =>
    dsimp only at E
    split at E
    next ht =>
      obtain ⟨D, base, p, l, e, R, s, m, args, below, meth, c, nL, Q⟩ := Γ
      obtain ⟨hx, hb, hml, hnl, hown, htw, hK, -⟩ := C
      intro ls H locs cells slots hl hc hR hS h1 h2
      obtain ⟨g1, g2⟩ := hts _ ht
      obtain ⟨cell, e1, hvs, hvu, hcl, hle, hsz, hel, -⟩ := xk_arr_at hR g1
      rw [g2] at hcl
      exact W.alen (n := nI (h.1 a).2.length) hx hb e1 (xk_isArr hK (hty D) hcl hvs) hsz rfl rfl dg (kk _ E ls H locs cells slots hl hc hR hS h1 h2)
    next => cases E
/-- an element read: all that the machine's rows ask -/
theorem xk_ld {D : va_G} {base a i : Nat} {h : xk_H} {s : State} {H : Heap} {ts : List Nat} {ty : FieldType} {j : Int32} {x : Value} (hK : xk_K D s) (hR : xk_R D base h s H) (ht : (h.1 a).1 ∈ ts) (hty : ∀ D : va_G, (xk_tys D)[i]? = some (D.1 (100 + i), ty)) (hts : ∀ t ∈ ts, (100 ≤ t ∧ t < 200 ∨ 300 ≤ t ∧ t < 400) ∧ t % 100 = i) (hj : ¬ j < 0) (hx : (h.1 a).2[j.toNatClampNeg]? = some x) :
    ∃ cell : Cell, H[a]? = some cell ∧ s.isArrayOf cell ty ∧ cell.vm ≠ .unknown ∧ (¬ (j < 0 ∨ cell.slots.size ≤ j.toNatClampNeg)) ∧ cell.slots[j.toNatClampNeg]? = some x := by
  obtain ⟨g1, g2⟩ := hts _ ht
  obtain ⟨cell, e1, hvs, hvu, hcl, hle, hsz, hel, -⟩ := xk_arr_at hR g1
  rw [g2] at hcl
  have hlt := (List.getElem?_eq_some_iff.mp hx).1
  refine ⟨cell, e1, xk_isArr hK (hty D) hcl hvs, hvu, fun q => ?_, by rw [hel _ hlt]; exact hx⟩
  rcases q with q | q
  · exact hj q
  · omega
theorem xr_lI {ts : List Nat} {v : Option Nat} {j : Int32} {κ : Int32 → Option γ} (C : xk_Cx Γ own cc nl ret nm d w) (E : xm_lI ts v j h κ = some res) (hts : ∀ t ∈ ts, (100 ≤ t ∧ t < 200 ∨ 300 ≤ t ∧ t < 400) ∧ t % 100 = 0) (dg : decode cc pc = .ok (.iaload, 1)) (kk : ∀ x, κ x = some res → xk_X Γ (pc + 1) L (.int x :: st) h) : xk_X Γ pc L (.int j :: va_rf v :: st) h := by
  unfold xm_lI at E
  cases v with
  | none => cases E
  | some a =>
    dsimp only at E
    split at E
    next ht =>
      split at E
      next x hv =>
        obtain ⟨D, base, p, l, e, R, s, m, args, below, meth, c, nL, Q⟩ := Γ
        obtain ⟨hx, hb, hml, hnl, hown, htw, hK, -⟩ := C
        intro ls H locs cells slots hl hc hR hS h1 h2
        obtain ⟨cell, g1, g2, g3, g4, g5⟩ := xk_ld (i := 0) (ty := .int) hK hR ht.1 (fun _ => rfl) hts ht.2 hv
        exact W.iald hx hb g1 g2 g3 g4 g5 rfl rfl dg (kk x E ls H locs cells slots hl hc hR hS h1 h2)
      next => cases E
    next => cases E
theorem xr_lB {ts : List Nat} {v : Option Nat} {j : Int32} {κ : Int32 → Option γ} (C : xk_Cx Γ own cc nl ret nm d w) (E : xm_lI ts v j h κ = some res) (hts : ∀ t ∈ ts, (100 ≤ t ∧ t < 200 ∨ 300 ≤ t ∧ t < 400) ∧ t % 100 = 1) (dg : decode cc pc = .ok (.baload, 1)) (kk : ∀ x, κ x = some res → xk_X Γ (pc + 1) L (.int x :: st) h) : xk_X Γ pc L (.int j :: va_rf v :: st) h := by
  unfold xm_lI at E
  cases v with
  | none => cases E
  | some a =>
    dsimp only at E
    split at E
    next ht =>
      split at E
      next x hv =>
        obtain ⟨D, base, p, l, e, R, s, m, args, below, meth, c, nL, Q⟩ := Γ
        obtain ⟨hx, hb, hml, hnl, hown, htw, hK, -⟩ := C
        intro ls H locs cells slots hl hc hR hS h1 h2
        obtain ⟨cell, g1, g2, g3, g4, g5⟩ := xk_ld (i := 1) (ty := .byte) hK hR ht.1 (fun _ => rfl) hts ht.2 hv
        exact W.bald hx hb g1 g2 g3 g4 g5 rfl rfl dg (kk x E ls H locs cells slots hl hc hR hS h1 h2)
      next => cases E
    next => cases E
theorem xr_lR {ts : List Nat} {v : Option Nat} {j : Int32} {κ : Option Nat → Option γ} (i : Nat) (ty : FieldType) (C : xk_Cx Γ own cc nl ret nm d w) (E : xm_lR ts v j h κ = some res) (hty : ∀ D : va_G, (xk_tys D)[i]? = some (D.1 (100 + i), ty)) (hrf : ty.isReference = true) (hts : ∀ t ∈ ts, (100 ≤ t ∧ t < 200 ∨ 300 ≤ t ∧ t < 400) ∧ t % 100 = i) (dg : decode cc pc = .ok (.aaload, 1)) (kk : ∀ x, κ x = some res → xk_X Γ (pc + 1) L (va_rf x :: st) h) : xk_X Γ pc L (.int j :: va_rf v :: st) h := by
  unfold xm_lR at E
  cases v with
  | none => cases E
  | some a =>
    dsimp only at E
    split at E
    next ht =>
      split at E
      next hv =>
        obtain ⟨D, base, p, l, e, R, s, m, args, below, meth, c, nL, Q⟩ := Γ
        obtain ⟨hx, hb, hml, hnl, hown, htw, hK, -⟩ := C
        intro ls H locs cells slots hl hc hR hS h1 h2
        obtain ⟨cell, g1, g2, g3, g4, g5⟩ := xk_ld (i := i) (ty := ty) hK hR ht.1 hty hts ht.2 hv
        exact W.aald (v := va_rf none) hx hb g1 g2 hrf g3 g4 g5 rfl rfl dg (kk none E ls H locs cells slots hl hc hR hS h1 h2)
      next b hv =>
        obtain ⟨D, base, p, l, e, R, s, m, args, below, meth, c, nL, Q⟩ := Γ
        obtain ⟨hx, hb, hml, hnl, hown, htw, hK, -⟩ := C
        intro ls H locs cells slots hl hc hR hS h1 h2
        obtain ⟨cell, g1, g2, g3, g4, g5⟩ := xk_ld (i := i) (ty := ty) hK hR ht.1 hty hts ht.2 hv
        exact W.aald (v := va_rf (some b)) hx hb g1 g2 hrf g3 g4 g5 rfl rfl dg (kk (some b) E ls H locs cells slots hl hc hR hS h1 h2)
      next => cases E
    next => cases E
theorem xk_setSlot {c : ClassId} {vs : List Value} (k : Nat) (x : Value) : (xk_arr c vs).setSlot k x = xk_arr c (vs.set k x) := by
  simp [xk_arr, Cell.setSlot]
/-- behind a store into an array -/
theorem xk_stA {D : va_G} {base a k : Nat} {x : Value} {h : xk_H} {s : State} {H H' : Heap} (hR : xk_R D base h s H) (hba : base ≤ a) (ht : 100 ≤ (h.1 a).1 ∧ (h.1 a).1 < 200) (e1 : H'[a]? = some ((xk_arr (D.1 (h.1 a).1) (h.1 a).2).setSlot k x)) (e2 : H'.size = H.size) (e3 : ∀ q : Nat, q ≠ a → H'[q]? = H[q]?) : xk_R D base (xk_set h a ((h.1 a).1, (h.1 a).2.set k x)) s H' := by
  refine hR.set hba e2 e3 ⟨fun q => ?_, fun _ _ => ⟨hba, by rw [e1, xk_setSlot]⟩, fun q => ?_, fun q => ?_⟩
  · exact absurd q (by simp only; omega)
  · exact absurd q (by simp only; omega)
  · exact absurd q (by simp only; omega)
theorem xr_sI {v : Option Nat} {j x : Int32} {κ : xk_H → Option γ} (C : xk_Cx Γ own cc nl ret nm d w) (E : xm_sV [100] v j (.int x) h κ = some res) (dg : decode cc pc = .ok (.iastore, 1)) (kk : ∀ h', κ h' = some res → xk_X Γ (pc + 1) L st h') : xk_X Γ pc L (.int x :: .int j :: va_rf v :: st) h := by
  unfold xm_sV at E
  cases v with
  | none => cases E
  | some a =>
    dsimp only at E
    split at E
    next ht =>
      obtain ⟨t1, t2, t3⟩ := ht
      rw [List.mem_singleton] at t1
      obtain ⟨D, base, p, l, e, R, s, m, args, below, meth, c, nL, Q⟩ := Γ
      obtain ⟨hx, hb, hml, hnl, hown, htw, hK, -⟩ := C
      intro ls H locs cells slots hl hc hR hS h1 h2
      obtain ⟨cell, e1, hvs, hvu, hcl, hle, hsz, hel, hnw⟩ := xk_arr_at (a := a) hR (by rw [t1]; omega)
      obtain ⟨hba, hce⟩ := hnw (by rw [t1]; omega)
      have harr : s.isArrayOf cell .int := xk_isArr (k := 0) hK rfl (by rw [hcl, t1]) hvs
      refine W.iast hx hb e1 harr hvu (fun q => ?_) rfl rfl dg (fun H' g1 g2 g3 => kk _ E ls H' _ cells slots hl hc (xk_stA hR hba (by rw [t1]; omega) (by rw [g1, hce]) g2 g3) (hS.put g2 g3 hba) h1 h2)
      rcases q with q | q
      · exact t2 q
      · omega
    next => cases E
theorem xr_sB {v : Option Nat} {j x : Int32} {κ : xk_H → Option γ} (C : xk_Cx Γ own cc nl ret nm d w) (E : xm_sV [101] v j (.int x.toInt8.toInt32) h κ = some res) (dg : decode cc pc = .ok (.bastore, 1)) (kk : ∀ h', κ h' = some res → xk_X Γ (pc + 1) L st h') : xk_X Γ pc L (.int x :: .int j :: va_rf v :: st) h := by
  unfold xm_sV at E
  cases v with
  | none => cases E
  | some a =>
    dsimp only at E
    split at E
    next ht =>
      obtain ⟨t1, t2, t3⟩ := ht
      rw [List.mem_singleton] at t1
      obtain ⟨D, base, p, l, e, R, s, m, args, below, meth, c, nL, Q⟩ := Γ
      obtain ⟨hx, hb, hml, hnl, hown, htw, hK, -⟩ := C
      intro ls H locs cells slots hl hc hR hS h1 h2
      obtain ⟨cell, e1, hvs, hvu, hcl, hle, hsz, hel, hnw⟩ := xk_arr_at (a := a) hR (by rw [t1]; omega)
      obtain ⟨hba, hce⟩ := hnw (by rw [t1]; omega)
      have harr : s.isArrayOf cell .byte := xk_isArr (k := 1) hK rfl (by rw [hcl, t1]) hvs
      refine W.bast hx hb e1 harr hvu (fun q => ?_) rfl rfl dg (fun H' g1 g2 g3 => kk _ E ls H' _ cells slots hl hc (xk_stA hR hba (by rw [t1]; omega) (by rw [g1, hce]; rfl) g2 g3) (hS.put g2 g3 hba) h1 h2)
      rcases q with q | q
      · exact t2 q
      · omega
    next => cases E
/-- objects of these tags may lie in arrays of E -/
def xk_As (es : List Nat) (E : String) : Prop := ∀ t ∈ es, (t < 100 ∨ 200 ≤ t ∧ t < 300) ∧ ∃ r : vw_C, xk_cl[t % 100]? = some r ∧ (r.1 = E ∨ (r.1, E) ∈ xk_cas)
theorem xk_asg {D : va_G} {base b : Nat} {h : xk_H} {s : State} {H : Heap} {es : List Nat} {E : String} (hK : xk_K D s) (hR : xk_R D base h s H) (hA : xk_As es E) (hb : (h.1 b).1 ∈ es) : ∃ c : Cell, H[b]? = some c ∧ c.vm.isStatics = false ∧ (∃ kC : Class, s.vm.classes[c.cls]? = some kC) ∧ ∀ comp : ClassId, s.vm.findClass E = some comp → s.vm.assignable c.cls comp = true := by
  obtain ⟨g1, r, hr, hE⟩ := hA _ hb
  obtain ⟨c, e, hvs, hvu, ⟨r', hr', hlen, hcls, hsl⟩, -⟩ := xk_obj hR g1
  have q9 := Option.some.inj (hr.symm.trans hr'); subst q9
  obtain ⟨hSl, hfc, kC, hkC, hkind⟩ := hK.1.1 _ _ hr
  refine ⟨c, e, hvs, ⟨kC, by rw [hcls]; exact hkC⟩, fun comp hcomp => ?_⟩
  rw [hcls]
  rcases hE with q | q
  · rw [← q] at hcomp
    cases hfc.symm.trans hcomp
    exact va_assign ⟨hfc, kC, hkC, hkind⟩
  · obtain ⟨c0, t1, f1, f2, f3⟩ := Cond.castable_spec (va_Nw.use (A := #[]) rfl (hK.2.2.2.1 _ q))
    cases hfc.symm.trans f1
    cases hcomp.symm.trans f2
    exact f3
end XH
