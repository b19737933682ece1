/-! ROWS OF xk_X: ends with a boolean or a char; division of doubles; numbers -/
set_option maxRecDepth 100000
/-- the fuel of a loop -/
def xk_fu : Nat := 1000
theorem xk_acw : nativeFrameWords "java/lang/System" "arraycopy" 5 = nativeFrameWords "java/lang/System" "arraycopy" 5 := rfl
theorem xk_n13 : ∀ t ∈ [13], (t < 100 ∨ 200 ≤ t ∧ t < 300) ∧ ∃ r : vw_C, xk_cl[t % 100]? = some r ∧ ∀ D s, xk_K D s → va_Nc r.1 "java/util/HashMap$TreeNode" s := by
  intro t ht
  rw [List.mem_singleton] at ht
  subst ht
  exact ⟨Or.inl (by decide), (RJ27, TJ27, 4), rfl, fun D s h => h.2.2.2.2.2.2.2.2.1⟩
theorem xk_nb (b : Bool) : narrow .boolean (.int (xk_b2 b)) = .int (xk_b2 b) := by cases b <;> rfl
def xm_dd {γ : Type} (x y : UInt64) (κ : UInt64 → Option γ) : Option γ := if FP.ddiv x y &&& 0x7fffffffffffffff ≤ 0x7ff0000000000000 then κ (FP.ddiv x y) else none
section XE
variable {γ : Type} {Γ : xk_C} {own nm : String} {cc : ByteArray} {d w pc nl : Nat} {L : List (Nat × Value)} {st : List Value} {h : xk_H}
theorem xr_bret {b r : Bool} {h' : xk_H} (C : xk_Cx Γ own cc nl (some .boolean) nm d w) (Z : xk_Z Γ (some (.int (xk_b2 r))) h') (E : some (b, h) = some (r, h')) (dg : decode cc pc = .ok (.ireturn, 1)) : xk_X Γ pc L [.int (xk_b2 b)] h := by
  cases E
  exact xr_zret C Z rfl rfl (xk_nb b) dg
theorem xr_zretz {x : Int32} {r : Bool} {h' : xk_H} (C : xk_Cx Γ own cc nl (some .boolean) nm d w) (Z : xk_Z Γ (some (.int (xk_b2 r))) h') (E : xm_z x (fun b => some (b, h)) = some (r, h')) (dg : decode cc pc = .ok (.ireturn, 1)) : xk_X Γ pc L [.int x] h := by
  unfold xm_z at E
  split at E
  next q =>
    subst q
    cases E
    exact xr_zret C Z rfl rfl rfl dg
  next =>
    split at E
    next q =>
      subst q
      cases E
      exact xr_zret C Z rfl rfl rfl dg
    next => cases E
theorem xr_cret {x r : Int32} {h' : xk_H} (C : xk_Cx Γ own cc nl (some .char) nm d w) (Z : xk_Z Γ (some (.int r)) h') (E : some (x, h) = some (r, h')) (hn : narrow .char (.int x) = .int x) (dg : decode cc pc = .ok (.ireturn, 1)) : xk_X Γ pc L [.int x] h := by
  cases E
  exact xr_zret C Z rfl rfl hn dg
theorem xr_cretc {x r : Int32} {h' : xk_H} (C : xk_Cx Γ own cc nl (some .char) nm d w) (Z : xk_Z Γ (some (.int r)) h') (E : xm_c x (some (x, h)) = some (r, h')) (dg : decode cc pc = .ok (.ireturn, 1)) : xk_X Γ pc L [.int x] h := by
  unfold xm_c at E
  split at E
  next q => exact xr_cret C Z E q dg
  next => cases E
theorem xr_dd {ret : Option FieldType} {x y : UInt64} {κ : UInt64 → Option γ} {res : γ} (C : xk_Cx Γ own cc nl ret nm d w) (E : xm_dd x y κ = some res) (dg : decode cc pc = .ok (.ddiv, 1)) (kk : ∀ z, κ z = some res → xk_X Γ (pc + 1) L (.double z :: st) h) : xk_X Γ pc L (.double y :: .double x :: st) h := by
  unfold xm_dd at E
  split at E
  next q => exact xr_ddiv C q dg (kk _ E)
  next => cases E
end XE
