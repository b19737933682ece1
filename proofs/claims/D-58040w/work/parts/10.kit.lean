/-! THE WALK KIT: an abstract heap (objects as a tag and a list of values), the relation to the machine's heap, the judgement xk_X, and a row for each instruction that touches the heap -/
set_option maxRecDepth 100000
/-- an object or an array: its tag, its fields or elements -/
abbrev xk_O : Type := Nat × List Value
/-- objects by address; statics that hold references; the next address; credit (cells and slots that may yet be made) -/
abbrev xk_H : Type := (Nat → xk_O) × (Nat → Option Nat) × Nat × Nat
def xk_set (h : xk_H) (a : Nat) (o : xk_O) : xk_H := (fun j => if j = a then o else h.1 j, h.2)
def xk_push (h : xk_H) (o : xk_O) : xk_H := (fun j => if j = h.2.2.1 then o else h.1 j, h.2.1, h.2.2.1 + 1, h.2.2.2 - (o.2.length + 1))
/-- TreeNode's fields, those of Node first -/
def xk_T29 : u_T := fun k => match k with
  | 0 => ("java/util/HashMap$Node", "hash", "I", true)
  | 1 => ("java/util/HashMap$Node", "key", "Ljava/lang/Object;", true)
  | 2 => ("java/util/HashMap$Node", "value", "Ljava/lang/Object;", false)
  | 3 => ("java/util/HashMap$Node", "next", "Ljava/util/HashMap$Node;", false)
  | 4 => ("java/util/HashMap$TreeNode", "parent", "Ljava/util/HashMap$TreeNode;", false)
  | 5 => ("java/util/HashMap$TreeNode", "left", "Ljava/util/HashMap$TreeNode;", false)
  | 6 => ("java/util/HashMap$TreeNode", "right", "Ljava/util/HashMap$TreeNode;", false)
  | 7 => ("java/util/HashMap$TreeNode", "prev", "Ljava/util/HashMap$TreeNode;", false)
  | 8 => ("java/util/HashMap$TreeNode", "red", "Z", false)
  | 9 => ("java/util/LinkedHashMap$Entry", "before", "Ljava/util/LinkedHashMap$Entry;", false)
  | _ => ("java/util/LinkedHashMap$Entry", "after", "Ljava/util/LinkedHashMap$Entry;", false)
def xk_ty29 : Nat → FieldType := fun k => match k with
  | 0 => .int
  | 1 => .object "java/lang/Object"
  | 2 => .object "java/lang/Object"
  | 3 => .object "java/util/HashMap$Node"
  | 4 => .object "java/util/HashMap$TreeNode"
  | 5 => .object "java/util/HashMap$TreeNode"
  | 6 => .object "java/util/HashMap$TreeNode"
  | 7 => .object "java/util/HashMap$TreeNode"
  | 8 => .boolean
  | 9 => .object "java/util/LinkedHashMap$Entry"
  | _ => .object "java/util/LinkedHashMap$Entry"
/-- the classes whose objects are known, by tag -/
def xk_cl : List vw_C := [(RX0, TX0, 4), (RX1, TX1, 2), (RX2, TX2, 19), (RX3, TX3, 6), (RX4, TX4, 5), (RX5, TX5, 3), (RJ2, TJ2, 3), (RJ4, TJ4, 4), (RJ6, TJ6, 4), (RJ9, TJ9, 4), (RJ20, TJ20, 3), (RJ22, TJ22, 1), (RJ24, TJ24, 8), (RJ27, TJ27, 4), (RJ29, xk_T29, 11), (RJ30, TJ30, 1), (RJ33, TJ33, 5), (RJ39, TJ39, 1)]
/-- arrays, by tag less 100 -/
def xk_tyR (D : va_G) : List (ClassId × FieldType) := [(D.1 100, .int), (D.1 101, .byte), (D.1 102, .object "java/lang/Object"), (D.1 103, .object "java/util/HashMap$Node")]
def xk_tys (D : va_G) : List (ClassId × FieldType) := [(D.1 100, .int), (D.1 101, .byte), (D.1 102, .object "java/lang/Object"), (D.1 103, .object "java/util/HashMap$Node"), (D.1 104, .object "java/lang/Integer")]
def xk_arr (c : ClassId) (vs : List Value) : Cell := { cls := c, slots := vs.toArray, vm := .none }
def xk_rd (D : va_G) (t : Nat) (vs : List Value) (c : Cell) : Prop := ∃ r : vw_C, xk_cl[t]? = some r ∧ vs.length = r.2.2 ∧ c.cls = D.1 t ∧ ∀ k, k < r.2.2 → c.slots[D.2 t k]? = some (vp_V vs k)
/-- tags: below 100 an object, 1.. an array, 2.. an object that was there before and stays, 3.. an array that was there before and stays; else nothing is known -/
def xk_at (D : va_G) (base a : Nat) (o : xk_O) (H : Heap) : Prop :=
  (o.1 < 100 → base ≤ a ∧ ∃ c : Cell, H[a]? = some c ∧ c.vm = .none ∧ xk_rd D o.1 o.2 c) ∧
  (100 ≤ o.1 → o.1 < 200 → base ≤ a ∧ H[a]? = some (xk_arr (D.1 o.1) o.2)) ∧
  (200 ≤ o.1 → o.1 < 300 → ∃ c : Cell, H[a]? = some c ∧ c.vm.isStatics = false ∧ c.vm ≠ .unknown ∧ xk_rd D (o.1 - 200) o.2 c) ∧
  (300 ≤ o.1 → o.1 < 400 → ∃ c : Cell, H[a]? = some c ∧ c.vm.isStatics = false ∧ c.vm ≠ .unknown ∧ c.cls = D.1 (o.1 - 200) ∧ o.2.length ≤ c.slots.size ∧ c.slots.size.toInt32 = Int32.ofNat o.2.length ∧ ∀ j, j < o.2.length → c.slots[j]? = o.2[j]?)
theorem xk_at.kept {D : va_G} {base a : Nat} {o : xk_O} {H H1 : Heap} (h : xk_at D base a o H) (hq : H1[a]? = H[a]?) : xk_at D base a o H1 := by
  obtain ⟨h1, h2, h3, h4⟩ := h
  refine ⟨fun g => ?_, fun g g' => ?_, fun g g' => ?_, fun g g' => ?_⟩
  · obtain ⟨b, c, e, r⟩ := h1 g
    exact ⟨b, c, hq.trans e, r⟩
  · obtain ⟨b, e⟩ := h2 g g'
    exact ⟨b, hq.trans e⟩
  · obtain ⟨c, e, r⟩ := h3 g g'
    exact ⟨c, hq.trans e, r⟩
  · obtain ⟨c, e, r⟩ := h4 g g'
    exact ⟨c, hq.trans e, r⟩
/-- statics: class, name, descriptor, place in the abstract heap's statics -/
def xk_st : List (String × String × String × Nat) := [("java/util/ArrayList", "DEFAULTCAPACITY_EMPTY_ELEMENTDATA", "[Ljava/lang/Object;", 0), ("java/lang/Integer$IntegerCache", "cache", "[Ljava/lang/Integer;", 1), ("java/lang/Integer", "DigitTens", "[B", 2), ("java/lang/Integer", "DigitOnes", "[B", 3), ("java/util/HashSet", "PRESENT", "Ljava/lang/Object;", 4), ("jdk/internal/util/Preconditions", "SIOOBE_FORMATTER", "Ljava/util/function/BiFunction;", 5)]
def xk_si : List (String × String × String × Int32) := [("java/lang/String", "COMPACT_STRINGS", "Z", 1), ("java/lang/Integer$IntegerCache", "high", "I", 127), ("java/util/HashMap$TreeNode", "$assertionsDisabled", "Z", 1)]
def xk_G (base : Nat) (env : Nat → Option Nat) (s : State) (H : Heap) : Prop :=
  (∀ q ∈ xk_st, va_Z q.1 q.2.1 q.2.2.1 (va_rf (env q.2.2.2)) (fun a => base ≤ a) s H) ∧
  (∀ q ∈ xk_si, va_Z q.1 q.2.1 q.2.2.1 (.int q.2.2.2) (fun a => base ≤ a) s H) ∧
  ∃ mi : Nat, env 9 = some mi ∧ va_Mi "[Ljava/lang/Object;" mi s
theorem xk_G.kept {base : Nat} {env : Nat → Option Nat} {s : State} {H H1 : Heap} (h : xk_G base env s H) (hq : ∀ q : Nat, q < base → H1[q]? = H[q]?) : xk_G base env s H1 :=
  ⟨fun q m => (h.1 q m).kept fun a _ h2 => hq a (Nat.lt_of_not_le h2), fun q m => (h.2.1 q m).kept fun a _ h2 => hq a (Nat.lt_of_not_le h2), h.2.2⟩
theorem xk_G.moved {base : Nat} {env : Nat → Option Nat} {u U : State} {H : Heap} (hvm : u.vm.Alike U.vm) (h : xk_G base env u H) : xk_G base env U H :=
  ⟨fun q m => (h.1 q m).moved hvm, fun q m => (h.2.1 q m).moved hvm, by obtain ⟨mi, e, g⟩ := h.2.2; exact ⟨mi, e, g.moved hvm⟩⟩
/-- THE RELATION: the abstract heap h is the heap H, in a state whose tables are s's -/
def xk_R (D : va_G) (base : Nat) (h : xk_H) (s : State) (H : Heap) : Prop :=
  base ≤ H.size ∧ h.2.2.1 = H.size ∧ (∀ a : Nat, xk_at D base a (h.1 a) H) ∧ xk_G base h.2.1 s H
theorem xk_R.moved {D : va_G} {base : Nat} {h : xk_H} {u U : State} {H : Heap} (hvm : u.vm.Alike U.vm) (hR : xk_R D base h u H) : xk_R D base h U H := ⟨hR.1, hR.2.1, hR.2.2.1, hR.2.2.2.moved hvm⟩
theorem xk_R.set {D : va_G} {base a : Nat} {h : xk_H} {s : State} {H H1 : Heap} {o : xk_O} (hR : xk_R D base h s H) (ha : base ≤ a) (z : H1.size = H.size) (oq : ∀ q : Nat, q ≠ a → H1[q]? = H[q]?) (ho : xk_at D base a o H1) : xk_R D base (xk_set h a o) s H1 := by
  refine ⟨by rw [z]; exact hR.1, by rw [z]; exact hR.2.1, fun q => ?_, hR.2.2.2.kept fun q hq => oq q (by omega)⟩
  show xk_at D base q (if q = a then o else h.1 q) H1
  by_cases e : q = a
  · rw [if_pos e, e]; exact ho
  · rw [if_neg e]; exact (hR.2.2.1 q).kept (oq q e)
theorem xk_R.push {D : va_G} {base : Nat} {h : xk_H} {s : State} {H : Heap} {o : xk_O} {c : Cell} (hR : xk_R D base h s H) (ho : xk_at D base H.size o (H.push c)) : xk_R D base (xk_push h o) s (H.push c) := by
  obtain ⟨h1, h2, h3, h4⟩ := hR
  have old : ∀ q : Nat, q < H.size → (H.push c)[q]? = H[q]? := fun q hq => by rw [Array.getElem?_push, if_neg (Nat.ne_of_lt hq)]
  refine ⟨by simp; omega, by show h.2.2.1 + 1 = _; simp [h2], fun q => ?_, h4.kept fun q hq => old q (by omega)⟩
  show xk_at D base q (if q = h.2.2.1 then o else h.1 q) (H.push c)
  by_cases e : q = h.2.2.1
  · rw [if_pos e, e, h2]; exact ho
  · rw [if_neg e]
    by_cases l : q < H.size
    · exact (h3 q).kept (old q l)
    · have g := h3 q
      have hn : H[q]? = none := by simp; omega
      refine ⟨fun x => ?_, fun x y => ?_, fun x y => ?_, fun x y => ?_⟩
      · obtain ⟨_, c0, e0, _⟩ := g.1 x; rw [hn] at e0; cases e0
      · obtain ⟨_, e0⟩ := g.2.1 x y; rw [hn] at e0; cases e0
      · obtain ⟨c0, e0, _⟩ := g.2.2.1 x y; rw [hn] at e0; cases e0
      · obtain ⟨c0, e0, _⟩ := g.2.2.2 x y; rw [hn] at e0; cases e0
/-! ## words that don't ride in the lists -/
def xk_nfs : List (String × Nat × String × String × String × String) := [("java/util/ArrayList$Itr", 28, "java/util/ArrayList", "size", "I", "java/util/ArrayList"), ("SlatCrates", 58, "SlatCrates$Yard", "crates", "Ljava/util/ArrayList;", "SlatCrates"), ("SlatCrates", 73, "SlatCrates$Yard", "refused", "I", "SlatCrates"), ("SlatCrates$Yard", 85, "SlatCrates$Crate", "size", "I", "SlatCrates"), ("SlatCrates", 162, "SlatCrates$Crate", "size", "I", "SlatCrates"), ("SlatCrates$Yard", 77, "SlatCrates$Crate", "room", "I", "SlatCrates"), ("SlatCrates", 164, "SlatCrates$Crate", "room", "I", "SlatCrates"), ("SlatCrates", 110, "SlatCrates$Crate", "gaps", "I", "SlatCrates"), ("SlatCrates$Yard", 207, "SlatCrates$Crate", "gaps", "I", "SlatCrates"), ("SlatCrates", 185, "SlatCrates$Crate", "label", "[I", "SlatCrates"), ("SlatCrates$Yard", 119, "SlatCrates$Crate", "label", "[I", "SlatCrates"), ("SlatCrates$Yard", 59, "SlatCrates$Crate", "holder", "I", "SlatCrates"), ("SlatCrates$Reader", 68, "SlatCrates$Crate", "holder", "I", "SlatCrates"), ("SlatCrates", 192, "SlatCrates$Crate", "holder", "I", "SlatCrates"), ("SlatCrates$Yard", 66, "SlatCrates$Crate", "pile", "Ljava/util/ArrayList;", "SlatCrates"), ("SlatCrates$Reader", 78, "SlatCrates$Crate", "pile", "Ljava/util/ArrayList;", "SlatCrates"), ("SlatCrates", 150, "SlatCrates$Crate", "pile", "Ljava/util/ArrayList;", "SlatCrates"), ("SlatCrates", 167, "SlatCrates$Reader", "crates", "Ljava/util/ArrayList;", "SlatCrates")]
abbrev xk_nfw (q : String × Nat × String × String × String × String) : Cond := .fieldLinkNest q.1 q.2.1 q.2.2.1 q.2.2.2.1 q.2.2.2.2.1 q.2.2.2.2.2
def xk_nms : List (String × Nat × MethodName × String) := [("SlatCrates", 9, ⟨"SlatCrates$Yard", "<init>", "()V"⟩, "SlatCrates"), ("SlatCrates", 99, ⟨"SlatCrates$Yard", "lifts", "(I)V"⟩, "SlatCrates"), ("SlatCrates$Reader", 43, ⟨"SlatCrates", "inRange", "(III)Z"⟩, "SlatCrates")]
abbrev xk_nmw (q : String × Nat × MethodName × String) : Cond := .methodLinkNest q.1 q.2.1 q.2.2.1 q.2.2.2
def xk_cas : List (String × String) := [("SlatCrates$Crate", "java/lang/Object"), ("SlatCrates$Yard", "java/lang/Object"), ("SlatCrates$Seen", "java/lang/Object"), ("java/lang/Integer", "java/lang/Object"), ("java/util/HashMap$TreeNode", "java/util/HashMap$Node")]
def xk_dec : List MethodName := [⟨"java/lang/Object", "hashCode", "()I"⟩, ⟨"java/lang/Object", "equals", "(Ljava/lang/Object;)Z"⟩, ⟨"java/util/AbstractCollection", "size", "()I"⟩]
def xk_fws : List (String × MethodName × MethodName) := [("java/util/ArrayList$Itr", ⟨"java/util/Iterator", "hasNext", "()Z"⟩, ⟨"java/util/ArrayList$Itr", "hasNext", "()Z"⟩), ("java/util/ArrayList$Itr", ⟨"java/util/Iterator", "next", "()Ljava/lang/Object;"⟩, ⟨"java/util/ArrayList$Itr", "next", "()Ljava/lang/Object;"⟩), ("java/util/HashMap$ValueIterator", ⟨"java/util/Iterator", "hasNext", "()Z"⟩, ⟨"java/util/HashMap$HashIterator", "hasNext", "()Z"⟩), ("java/util/HashMap$ValueIterator", ⟨"java/util/Iterator", "next", "()Ljava/lang/Object;"⟩, ⟨"java/util/HashMap$ValueIterator", "next", "()Ljava/lang/Object;"⟩), ("java/util/ArrayList", ⟨"java/util/Collection", "toArray", "()[Ljava/lang/Object;"⟩, ⟨"java/util/ArrayList", "toArray", "()[Ljava/lang/Object;"⟩), ("java/util/HashMap$Values", ⟨"java/util/Collection", "iterator", "()Ljava/util/Iterator;"⟩, ⟨"java/util/HashMap$Values", "iterator", "()Ljava/util/Iterator;"⟩)]
/-- private methods of an abstract class, called on objects of a subclass -/
def xk_sel : List (String × MethodName) := [("java/lang/StringBuilder", ⟨"java/lang/AbstractStringBuilder", "ensureCapacityInternal", "(I)V"⟩), ("java/lang/StringBuilder", ⟨"java/lang/AbstractStringBuilder", "newCapacity", "(I)I"⟩)]
def xk_K (D : va_G) (s : State) : Prop := va_K D xk_cl (xk_tyR D) s ∧ (∀ q ∈ xk_nfs, va_Nw (xk_nfw q) s) ∧ (∀ q ∈ xk_nms, va_Nw (xk_nmw q) s) ∧ (∀ q ∈ xk_cas, va_Nw (.castable q.1 q.2) s) ∧ (∀ q ∈ xk_dec, va_Nw (.declares q) s) ∧
  (∀ q ∈ xk_fws, va_Fw q.1 q.2.1 q.2.2 s) ∧ va_AO "java/lang/Object" s ∧ va_AO "java/util/HashMap$Node" s ∧ va_Nc "java/util/HashMap$Node" "java/util/HashMap$TreeNode" s ∧ va_Dc s ∧ (∀ q ∈ xk_sel, va_Nw (.selects q.1 q.2 q.2) s) ∧ ArrOfT s (D.1 104) (.object "java/lang/Integer")
theorem xk_fws_ok : ∀ q ∈ xk_fws, q.2.1.cls ≠ "java/lang/invoke/MethodHandle" ∧ q.2.1.cls ≠ "java/lang/invoke/VarHandle" := by decide +kernel
theorem xk_selw {C : String} {x y : MethodName} {s U : State} (hW : s.WarmedH U.vm) (hZ : va_Nw (.selects C x y) s) : va_Nw (.selects C x y) U := word_at hW (Or.inl (by first | rfl | simp [Cond.onTables, Cond.keeps, Cond.steady])) hZ
theorem xk_K.moved {D : va_G} {s U : State} (hW : s.WarmedH U.vm) (h : xk_K D s) : xk_K D U := by
  obtain ⟨h1, h2, h3, h4, h5, h6, h7, h8, h9, h10, h11, h12⟩ := h
  exact ⟨h1.moved hW.alike, fun q m => (h2 q m).warmF hW, fun q m => (h3 q m).warmM hW, fun q m => (h4 q m).warmC hW, fun q m => (h5 q m).warmD hW, fun q m => (h6 q m).moved (xk_fws_ok q m) hW.alike, h7.moved hW.alike, h8.moved hW.alike, h9.moved hW.alike, h10.moved hW.alike, fun q m => xk_selw hW (h11 q m), arrOfT_moved hW.alike h12⟩
/-! ## a method's contract -/
def xk_Pc (D : va_G) (base : Nat) (av : List Value) (h : xk_H) : Array Value → State → Prop := va_Pc av (fun U => xk_R D base h U U.heap ∧ xk_K D U)
def xk_Qc (D : va_G) (base : Nat) (h : xk_H) (r : Option Value) (h' : xk_H) : Array Value → State → Outcome → State → Prop := fun _ st o t => o = .returned r ∧ xk_R D base h' t t.heap ∧ st.heap.size ≤ t.heap.size ∧ h'.2.2.2 ≤ h.2.2.2 ∧ ∀ q : Nat, q < base → t.heap[q]? = st.heap[q]?
theorem xk_blind {D : va_G} {base : Nat} {av : List Value} {h : xk_H} : FrameBlind (xk_Pc D base av h) := fun a U g mk q => by
  obtain ⟨q0, q1, q2⟩ := q
  exact ⟨q0, q1.moved (u := U) (U := U.calling g mk a) (Vm.Alike.refl U.vm), q2.moved (s := U) (U := U.calling g mk a) (State.WarmedH.refl U)⟩
/-- y, called with av at the heap h, returns r and leaves h' -/
def xk_Ok (l : Launch) (D : va_G) (base : Nat) (y : MethodName) (code : ByteArray) (nL : Nat) (ret : Option FieldType) (d w : Nat) (av : List Value) (h : xk_H) (r : Option Value) (h' : xk_H) : Prop :=
  Met l y (ws_ y code nL ret) ({ frames := d, cells := h.2.2.2, slots := h.2.2.2, locals := w } : Room) (xk_Pc D base av h) (xk_Qc D base h r h') (h.2.2.2 - h'.2.2.2) (h.2.2.2 - h'.2.2.2) (fun q => base ≤ q)
/-! ## the judgement inside a method -/
abbrev xk_C : Type := va_G × Nat × Program × Launch × Env × Room × State × MethodId × Array Value × List Frame × Method × Code × Nat × (State → Prop)
def xk_D (Γ : xk_C) : va_G := Γ.1
def xk_b (Γ : xk_C) : Nat := Γ.2.1
def xk_l (Γ : xk_C) : Launch := Γ.2.2.2.1
/-- the machine, at pc with the locals L, the stack st and the heap h, comes to its end -/
def xk_X (Γ : xk_C) (pc : Nat) (L : List (Nat × Value)) (st : List Value) (h : xk_H) : Prop := match Γ with
  | (D, base, p, l, e, R, s, m, args, below, meth, c, nL, Q) => ∀ (ls : Array Slot) (H : Heap) (locs : List Loc) (cells slots : Nat), lv_has ls nL L → (∀ q ∈ L, q.2.category = 1) → xk_R D base h s H → va_S (fun q => base ≤ q) s.heap H locs → cells + h.2.2.2 ≤ R.cells → slots + h.2.2.2 ≤ R.slots →
    W p l e R s m args below meth c H locs cells slots Q (F0 m pc ls st)
/-- what holds all through a method -/
def xk_Cx (Γ : xk_C) (own : String) (cc : ByteArray) (nl : Nat) (ret : Option FieldType) (nm : String) (d w : Nat) : Prop := match Γ with
  | (D, base, p, l, e, R, s, m, args, below, meth, c, nL, Q) => p.tables.exec = Jvm.exec ∧ c.code = cc ∧ c.maxLocals = nL ∧ nL = nl ∧ s.vm.findClass own = some m.cls ∧ (∀ w ∈ lw_all, w.before args s = true) ∧ xk_K D s ∧ meth.sig.returnType = ret ∧ meth.locks = false ∧ meth.name = nm ∧ base ≤ s.heap.size ∧ d ≤ R.frames ∧ w ≤ R.locals
def xk_Z (Γ : xk_C) (r : Option Value) (h' : xk_H) : Prop := match Γ with
  | (D, base, p, l, e, R, s, m, args, below, meth, c, nL, Q) => R.cells = R.slots ∧ ∃ h : xk_H, R.cells = h.2.2.2 ∧ Q = MQ below (xk_Qc D base h r h') args s (h.2.2.2 - h'.2.2.2) (h.2.2.2 - h'.2.2.2) (fun q => base ≤ q)
theorem xk_crf (v : Option Nat) : (va_rf v).category = 1 := by cases v <;> rfl
/-- a stack of values of one slot -/
def xk_w1 : List Value → Prop
  | [] => True
  | v :: l => v.category = 1 ∧ xk_w1 l
theorem xk_w1_sum : ∀ {l : List Value}, xk_w1 l → (l.map fun v => v.category).sum = l.length
  | [], _ => rfl
  | v :: l, h => by
    rw [List.map_cons, List.sum_cons, xk_w1_sum h.2, h.1, List.length_cons]
    omega
def xk_ar : Nat → List Value → List (Nat × Value)
  | _, [] => []
  | i, v :: l => (i, v) :: xk_ar (i + 1) l
theorem xk_ar_args : ∀ {l : List Value} (i : Nat), xk_w1 l → lv_args i l = xk_ar i l
  | [], _, _ => rfl
  | v :: l, i, h => by
    show (i, v) :: lv_args (if v.category = 2 then i + 2 else i + 1) l = (i, v) :: xk_ar (i + 1) l
    rw [if_neg (by rw [h.1]; decide), xk_ar_args (i + 1) h.2]
theorem xk_ar_c1 : ∀ {l : List Value} (i : Nat), xk_w1 l → ∀ q ∈ xk_ar i l, q.2.category = 1
  | [], _, _, q, hq => by cases hq
  | v :: l, i, h, q, hq => by
    rcases List.mem_cons.mp hq with e | e
    · rw [e]; exact h.1
    · exact xk_ar_c1 (i + 1) h.2 q e
theorem xk_sl_len : ∀ {l : List Value}, xk_w1 l → (lg_sl l).length = l.length
  | [], _ => rfl
  | v :: l, h => by
    have e : lg_sl (v :: l) = (if v.category = 2 then [Slot.val v, .second] else [Slot.val v]) ++ lg_sl l := rfl
    rw [e, if_neg (by rw [h.1]; decide), List.length_append, xk_sl_len h.2, List.length_cons]
    simp; omega
/-- a method out of its walk -/
theorem xk_ofX {l : Launch} {D : va_G} {base : Nat} {y : MethodName} {code : ByteArray} {nL : Nat} {ret : Option FieldType} {d w : Nat} {av : List Value} {h : xk_H} {r : Option Value} {h' : xk_H} (own nm : String) (hy : plainFor y = true) (hown : y.cls = own) (hnm : y.name = nm) (hL : av.length ≤ nL) (hav : xk_w1 av)
    (body : ∀ Γ : xk_C, xk_l Γ = l → xk_D Γ = D → xk_b Γ = base → xk_Cx Γ own code nL ret nm d w → xk_Z Γ r h' → xk_X Γ 0 (xk_ar 0 av) [] h) : xk_Ok l D base y code nL ret d w av h r h' := by
  subst hown; subst hnm
  refine va_MetF (cc := code) (maxL := nL) (ret := ret) hy rfl ?_
  intro p e s m args below meth c s₁ B hml hv
  obtain ⟨rfl, hR, hK⟩ := hv
  have hts := atoms_spec (ws := ws_ y code nL ret) B.pre
  have hts : ∀ w ∈ lw_all, w.before _ s = true := fun w h => hts w (List.mem_cons_of_mem _ h)
  have hl := lv_entry av (n := nL) (by rw [xk_sl_len hav]; exact hL)
  rw [lg_entry_eq]
  generalize (lg_sl av ++ List.replicate (nL - (lg_sl av).length) Slot.unset).toArray = ls at hl ⊢
  rw [xk_ar_args 0 hav] at hl
  exact body (D, base, p, l, e, _, s, m, _, below, meth, c, nL, _) rfl rfl rfl ⟨B.exec, B.bytes, hml, rfl, findClass_of_methodNamed B.named, hts, hK, B.returns, B.notSynchronized, (name_of_methodNamed B.named B.method).1, hR.1, Nat.le_refl _, Nat.le_refl _⟩ ⟨rfl, h, rfl, rfl⟩ ls s.heap [] 0 0 hl (xk_ar_c1 0 hav) hR va_S.rf (by show 0 + h.2.2.2 ≤ h.2.2.2; omega) (by show 0 + h.2.2.2 ≤ h.2.2.2; omega)
