/-! PURE LAW: the start -/
set_option maxRecDepth 10000
def yNone : YD := (0, fun _ _ => 0, fun _ => [], fun _ => [], 0)
def sNone : SD := (yNone, [], none, [])
def mNone : MD := (fun _ => zI 0, fun _ _ => zI 0)
theorem yNone_ok : YOk yNone := ⟨Nat.zero_le _, fun c hc => absurd hc (Nat.not_lt_zero _)⟩
theorem sNone_ok : SOk sNone := ⟨yNone_ok, Nat.zero_le _, fun d m => (nomatch m), fun d e => (nomatch e), Nat.zero_le _, fun x m => (nomatch m)⟩
theorem MS_none : MS mNone sNone := ⟨⟨rfl, rfl, fun c hc => absurd hc (Nat.not_lt_zero _)⟩, rfl, fun i d e => (nomatch e), rfl, fun d e => (nomatch e), rfl, fun i x e => (nomatch e)⟩
