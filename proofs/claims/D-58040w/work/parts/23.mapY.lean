set_option maxRecDepth 100000
theorem xn_J2 : xk_Nf 6 [.int 0, .null, .int 0] := ⟨(RJ2, TJ2, 3), tyJ2, rfl, rfl, fun k hk => by
    match k, hk with
    | 0, _ => exact ⟨tyJ2_ok 0 (by decide), rfl⟩
    | 1, _ => exact ⟨tyJ2_ok 1 (by decide), rfl⟩
    | 2, _ => exact ⟨tyJ2_ok 2 (by decide), rfl⟩
    | j + 3, hk => exact absurd hk (by show ¬ j + 3 < 3; omega)⟩
theorem xd_J2_init : (parseMethodDescriptor "()V").map (fun d => d.parameters.length) = some 0 := by decide +kernel
theorem xf_X1_12 : xk_Fos "SlatCrates$Yard" 12 [1] 0 := List.forall_mem_cons.mpr ⟨⟨Or.inl (by decide), (RX1, TX1, 2), "SlatCrates$Yard", rfl, by decide, Or.inl q175, Or.inl rfl⟩, fun _ h => absurd h List.not_mem_nil⟩
theorem xp_X1_12_i : xk_Fp "SlatCrates$Yard" "<init>" [1] 0 (.object "java/util/ArrayList") := List.forall_mem_cons.mpr ⟨⟨by decide, fun r h => by cases h; exact ⟨tyX1_ok 0 (by decide), Or.inr ⟨rfl, rfl, rfl⟩⟩⟩, fun _ h => absurd h List.not_mem_nil⟩
theorem xq_X1_init : plainFor yX1_init = true := by decide +kernel
theorem xf_X3_9 : xk_Fos "SlatCrates$Crate" 9 [3] 4 := List.forall_mem_cons.mpr ⟨⟨Or.inl (by decide), (RX3, TX3, 6), "SlatCrates$Crate", rfl, by decide, Or.inl q763, Or.inl rfl⟩, fun _ h => absurd h List.not_mem_nil⟩
theorem xp_X3_9_i : xk_Fp "SlatCrates$Crate" "<init>" [3] 4 .int := List.forall_mem_cons.mpr ⟨⟨by decide, fun r h => by cases h; exact ⟨tyX3_ok 4 (by decide), Or.inl rfl⟩⟩, fun _ h => absurd h List.not_mem_nil⟩
theorem xf_X3_18 : xk_Fos "SlatCrates$Crate" 18 [3] 5 := List.forall_mem_cons.mpr ⟨⟨Or.inl (by decide), (RX3, TX3, 6), "SlatCrates$Crate", rfl, by decide, Or.inl q767, Or.inl rfl⟩, fun _ h => absurd h List.not_mem_nil⟩
theorem xp_X3_18_i : xk_Fp "SlatCrates$Crate" "<init>" [3] 5 (.object "java/util/ArrayList") := List.forall_mem_cons.mpr ⟨⟨by decide, fun r h => by cases h; exact ⟨tyX3_ok 5 (by decide), Or.inl rfl⟩⟩, fun _ h => absurd h List.not_mem_nil⟩
theorem xf_X3_22 : xk_Fos "SlatCrates$Crate" 22 [3] 0 := List.forall_mem_cons.mpr ⟨⟨Or.inl (by decide), (RX3, TX3, 6), "SlatCrates$Crate", rfl, by decide, Or.inl q751, Or.inl rfl⟩, fun _ h => absurd h List.not_mem_nil⟩
theorem xp_X3_22_i : xk_Fp "SlatCrates$Crate" "<init>" [3] 0 .int := List.forall_mem_cons.mpr ⟨⟨by decide, fun r h => by cases h; exact ⟨tyX3_ok 0 (by decide), Or.inr ⟨rfl, rfl, rfl⟩⟩⟩, fun _ h => absurd h List.not_mem_nil⟩
theorem xf_X3_25 : xk_Fos "SlatCrates$Crate" 25 [3] 1 := List.forall_mem_cons.mpr ⟨⟨Or.inl (by decide), (RX3, TX3, 6), "SlatCrates$Crate", rfl, by decide, Or.inl q754, Or.inl rfl⟩, fun _ h => absurd h List.not_mem_nil⟩
theorem xp_X3_25_i : xk_Fp "SlatCrates$Crate" "<init>" [3] 1 .int := List.forall_mem_cons.mpr ⟨⟨by decide, fun r h => by cases h; exact ⟨tyX3_ok 1 (by decide), Or.inr ⟨rfl, rfl, rfl⟩⟩⟩, fun _ h => absurd h List.not_mem_nil⟩
theorem xf_X3_28 : xk_Fos "SlatCrates$Crate" 28 [3] 2 := List.forall_mem_cons.mpr ⟨⟨Or.inl (by decide), (RX3, TX3, 6), "SlatCrates$Crate", rfl, by decide, Or.inl q757, Or.inl rfl⟩, fun _ h => absurd h List.not_mem_nil⟩
theorem xp_X3_28_i : xk_Fp "SlatCrates$Crate" "<init>" [3] 2 .int := List.forall_mem_cons.mpr ⟨⟨by decide, fun r h => by cases h; exact ⟨tyX3_ok 2 (by decide), Or.inl rfl⟩⟩, fun _ h => absurd h List.not_mem_nil⟩
theorem xf_X3_31 : xk_Fos "SlatCrates$Crate" 31 [3] 3 := List.forall_mem_cons.mpr ⟨⟨Or.inl (by decide), (RX3, TX3, 6), "SlatCrates$Crate", rfl, by decide, Or.inl q760, Or.inl rfl⟩, fun _ h => absurd h List.not_mem_nil⟩
theorem xp_X3_31_i : xk_Fp "SlatCrates$Crate" "<init>" [3] 3 (.array .int) := List.forall_mem_cons.mpr ⟨⟨by decide, fun r h => by cases h; exact ⟨tyX3_ok 3 (by decide), Or.inr ⟨rfl, rfl, rfl⟩⟩⟩, fun _ h => absurd h List.not_mem_nil⟩
theorem xq_X3_init : plainFor yX3_init = true := by decide +kernel
theorem xn_X3 : xk_Nf 3 [.int 0, .int 0, .int 0, .null, .int 0, .null] := ⟨(RX3, TX3, 6), tyX3, rfl, rfl, fun k hk => by
    match k, hk with
    | 0, _ => exact ⟨tyX3_ok 0 (by decide), rfl⟩
    | 1, _ => exact ⟨tyX3_ok 1 (by decide), rfl⟩
    | 2, _ => exact ⟨tyX3_ok 2 (by decide), rfl⟩
    | 3, _ => exact ⟨tyX3_ok 3 (by decide), rfl⟩
    | 4, _ => exact ⟨tyX3_ok 4 (by decide), rfl⟩
    | 5, _ => exact ⟨tyX3_ok 5 (by decide), rfl⟩
    | j + 6, hk => exact absurd hk (by show ¬ j + 6 < 6; omega)⟩
theorem xd_X3_init : (parseMethodDescriptor "(III[I)V").map (fun d => d.parameters.length) = some 4 := by decide +kernel
theorem xh_SlatCrates_Crate : xk_noMH "SlatCrates$Crate" := by decide +kernel
theorem xp_X3_9 {nm : String} : xk_Fp "SlatCrates$Crate" nm [3] 4 .int := List.forall_mem_cons.mpr ⟨⟨by decide, fun r h => by cases h; exact ⟨tyX3_ok 4 (by decide), Or.inl rfl⟩⟩, fun _ h => absurd h List.not_mem_nil⟩
theorem xd_J2_addAll : (parseMethodDescriptor "(Ljava/util/Collection;)Z").map (fun d => d.parameters.length) = some 1 := by decide +kernel
theorem xq_X3_copy : plainFor yX3_copy = true := by decide +kernel
theorem xf_X1_43 : xk_Fos "SlatCrates$Yard" 43 [1] 1 := List.forall_mem_cons.mpr ⟨⟨Or.inl (by decide), (RX1, TX1, 2), "SlatCrates$Yard", rfl, by decide, Or.inl q177, Or.inl rfl⟩, fun _ h => absurd h List.not_mem_nil⟩
theorem xn_X1 : xk_Nf 1 [.null, .int 0] := ⟨(RX1, TX1, 2), tyX1, rfl, rfl, fun k hk => by
    match k, hk with
    | 0, _ => exact ⟨tyX1_ok 0 (by decide), rfl⟩
    | 1, _ => exact ⟨tyX1_ok 1 (by decide), rfl⟩
    | j + 2, hk => exact absurd hk (by show ¬ j + 2 < 2; omega)⟩
theorem xd_X1_init : (parseMethodDescriptor "()V").map (fun d => d.parameters.length) = some 0 := by decide +kernel
theorem xh_SlatCrates_Yard : xk_noMH "SlatCrates$Yard" := by decide +kernel
theorem xd_J2_iterator : (parseMethodDescriptor "()Ljava/util/Iterator;").map (fun d => d.parameters.length) = some 0 := by decide +kernel
theorem xd_java_util_Iterator_hasNext__Z : (parseMethodDescriptor "()Z").map (fun d => d.parameters.length) = some 0 := by decide +kernel
theorem xh_java_util_Iterator : xk_noMH "java/util/Iterator" := by decide +kernel
theorem xp_X1_43 {nm : String} : xk_Fp "SlatCrates$Yard" nm [1] 1 .int := List.forall_mem_cons.mpr ⟨⟨by decide, fun r h => by cases h; exact ⟨tyX1_ok 1 (by decide), Or.inl rfl⟩⟩, fun _ h => absurd h List.not_mem_nil⟩
theorem xd_java_util_Iterator_next__Ljava_lang_Object_ : (parseMethodDescriptor "()Ljava/lang/Object;").map (fun d => d.parameters.length) = some 0 := by decide +kernel
theorem xi_3_SlatCratesCrate : xk_Is [3] "SlatCrates$Crate" := List.forall_mem_cons.mpr ⟨⟨Or.inl (by decide), (RX3, TX3, 6), rfl, rfl⟩, fun _ h => absurd h List.not_mem_nil⟩
theorem xd_X3_copy : (parseMethodDescriptor "()LSlatCrates$Crate;").map (fun d => d.parameters.length) = some 0 := by decide +kernel
theorem xd_J2_add : (parseMethodDescriptor "(Ljava/lang/Object;)Z").map (fun d => d.parameters.length) = some 1 := by decide +kernel
theorem xq_X1_copy : plainFor yX1_copy = true := by decide +kernel
theorem xd_J2_size : (parseMethodDescriptor "()I").map (fun d => d.parameters.length) = some 0 := by decide +kernel
theorem xq_X1_size : plainFor yX1_size = true := by decide +kernel
theorem xd_J2_get : (parseMethodDescriptor "(I)Ljava/lang/Object;").map (fun d => d.parameters.length) = some 1 := by decide +kernel
theorem xq_X1_at : plainFor yX1_at = true := by decide +kernel
theorem xf_X1_59 : xk_Fos "SlatCrates$Yard" 59 [3] 4 := List.forall_mem_cons.mpr ⟨⟨Or.inl (by decide), (RX3, TX3, 6), "SlatCrates$Crate", rfl, by decide, Or.inr ⟨_, List.mem_of_getElem? (i := 11) rfl⟩, Or.inl rfl⟩, fun _ h => absurd h List.not_mem_nil⟩
theorem xd_X1_at : (parseMethodDescriptor "(I)LSlatCrates$Crate;").map (fun d => d.parameters.length) = some 1 := by decide +kernel
theorem xi_1_SlatCratesYard : xk_Is [1] "SlatCrates$Yard" := List.forall_mem_cons.mpr ⟨⟨Or.inl (by decide), (RX1, TX1, 2), rfl, rfl⟩, fun _ h => absurd h List.not_mem_nil⟩
theorem xq_X1_isOnGround : plainFor yX1_isOnGround = true := by decide +kernel
theorem xd_X1_isOnGround : (parseMethodDescriptor "(I)Z").map (fun d => d.parameters.length) = some 1 := by decide +kernel
theorem xq_X1_depth : plainFor yX1_depth = true := by decide +kernel
theorem xf_X1_66 : xk_Fos "SlatCrates$Yard" 66 [3] 5 := List.forall_mem_cons.mpr ⟨⟨Or.inl (by decide), (RX3, TX3, 6), "SlatCrates$Crate", rfl, by decide, Or.inr ⟨_, List.mem_of_getElem? (i := 14) rfl⟩, Or.inl rfl⟩, fun _ h => absurd h List.not_mem_nil⟩
theorem xd_J2_remove : (parseMethodDescriptor "(I)Ljava/lang/Object;").map (fun d => d.parameters.length) = some 1 := by decide +kernel
theorem xp_X1_59 {nm : String} : xk_Fp "SlatCrates$Yard" nm [3] 4 .int := List.forall_mem_cons.mpr ⟨⟨by decide, fun r h => by cases h; exact ⟨tyX3_ok 4 (by decide), Or.inl rfl⟩⟩, fun _ h => absurd h List.not_mem_nil⟩
theorem xq_X1_lifts : plainFor yX1_lifts = true := by decide +kernel
theorem xd_X1_lifts : (parseMethodDescriptor "(I)V").map (fun d => d.parameters.length) = some 1 := by decide +kernel
theorem xd_J22_valueOf : (parseMethodDescriptor "(I)Ljava/lang/Integer;").map (fun d => d.parameters.length) = some 1 := by decide +kernel
theorem xq_X1_puts : plainFor yX1_puts = true := by decide +kernel
theorem xd_J2_indexOf : (parseMethodDescriptor "(Ljava/lang/Object;)I").map (fun d => d.parameters.length) = some 1 := by decide +kernel
theorem xq_X1_placeInPile : plainFor yX1_placeInPile = true := by decide +kernel
theorem xd_X1_placeInPile : (parseMethodDescriptor "(I)I").map (fun d => d.parameters.length) = some 1 := by decide +kernel
theorem xq_X1_above : plainFor yX1_above = true := by decide +kernel
theorem xq_X1_isAround : plainFor yX1_isAround = true := by decide +kernel
theorem xf_X1_77 : xk_Fos "SlatCrates$Yard" 77 [3] 1 := List.forall_mem_cons.mpr ⟨⟨Or.inl (by decide), (RX3, TX3, 6), "SlatCrates$Crate", rfl, by decide, Or.inr ⟨_, List.mem_of_getElem? (i := 5) rfl⟩, Or.inl rfl⟩, fun _ h => absurd h List.not_mem_nil⟩
theorem xf_X1_85 : xk_Fos "SlatCrates$Yard" 85 [3] 0 := List.forall_mem_cons.mpr ⟨⟨Or.inl (by decide), (RX3, TX3, 6), "SlatCrates$Crate", rfl, by decide, Or.inr ⟨_, List.mem_of_getElem? (i := 3) rfl⟩, Or.inl rfl⟩, fun _ h => absurd h List.not_mem_nil⟩
theorem xq_X1_left : plainFor yX1_left = true := by decide +kernel
theorem xd_X1_above : (parseMethodDescriptor "(I)I").map (fun d => d.parameters.length) = some 1 := by decide +kernel
theorem xd_X1_isAround : (parseMethodDescriptor "(II)Z").map (fun d => d.parameters.length) = some 2 := by decide +kernel
theorem xd_X1_left : (parseMethodDescriptor "(I)I").map (fun d => d.parameters.length) = some 1 := by decide +kernel
theorem xq_X1_whyNotPut : plainFor yX1_whyNotPut = true := by decide +kernel
theorem xq_X1_whyNotGround : plainFor yX1_whyNotGround = true := by decide +kernel
theorem xp_X3_28 {nm : String} : xk_Fp "SlatCrates$Crate" nm [3] 2 .int := List.forall_mem_cons.mpr ⟨⟨by decide, fun r h => by cases h; exact ⟨tyX3_ok 2 (by decide), Or.inl rfl⟩⟩, fun _ h => absurd h List.not_mem_nil⟩
theorem xq_X3_turns : plainFor yX3_turns = true := by decide +kernel
theorem xd_J2_set : (parseMethodDescriptor "(ILjava/lang/Object;)Ljava/lang/Object;").map (fun d => d.parameters.length) = some 2 := by decide +kernel
theorem xq_X1_breaksUp : plainFor yX1_breaksUp = true := by decide +kernel
theorem xd_J2_isEmpty : (parseMethodDescriptor "()Z").map (fun d => d.parameters.length) = some 0 := by decide +kernel
theorem xq_X1_whyNotBreak : plainFor yX1_whyNotBreak = true := by decide +kernel
theorem xf_X1_119 : xk_Fos "SlatCrates$Yard" 119 [3] 3 := List.forall_mem_cons.mpr ⟨⟨Or.inl (by decide), (RX3, TX3, 6), "SlatCrates$Crate", rfl, by decide, Or.inr ⟨_, List.mem_of_getElem? (i := 10) rfl⟩, Or.inl rfl⟩, fun _ h => absurd h List.not_mem_nil⟩
theorem xf_X1_207 : xk_Fos "SlatCrates$Yard" 207 [3] 2 := List.forall_mem_cons.mpr ⟨⟨Or.inl (by decide), (RX3, TX3, 6), "SlatCrates$Crate", rfl, by decide, Or.inr ⟨_, List.mem_of_getElem? (i := 8) rfl⟩, Or.inl rfl⟩, fun _ h => absurd h List.not_mem_nil⟩
theorem xt_100 : ∀ t ∈ [100], (100 ≤ t ∧ t < 200 ∨ 300 ≤ t ∧ t < 400) ∧ t % 100 = 0 := by decide
theorem xd_J6_append_2 : (parseMethodDescriptor "(C)Ljava/lang/StringBuilder;").map (fun d => d.parameters.length) = some 1 := by decide +kernel
theorem xh_java_lang_StringBuilder : xk_noMH "java/lang/StringBuilder" := by decide +kernel
theorem xd_J6_append_3 : (parseMethodDescriptor "(I)Ljava/lang/StringBuilder;").map (fun d => d.parameters.length) = some 1 := by decide +kernel
theorem xd_X1_writes : (parseMethodDescriptor "(ILjava/lang/StringBuilder;)V").map (fun d => d.parameters.length) = some 2 := by decide +kernel
theorem xq_X1_writes : plainFor yX1_writes = true := by decide +kernel
theorem xd_X1_size : (parseMethodDescriptor "()I").map (fun d => d.parameters.length) = some 0 := by decide +kernel
theorem xq_X1_bestFor : plainFor yX1_bestFor = true := by decide +kernel
theorem xq_X3_hasGap : plainFor yX3_hasGap = true := by decide +kernel
theorem xd_X3_hasGap : (parseMethodDescriptor "(I)Z").map (fun d => d.parameters.length) = some 1 := by decide +kernel
theorem xq_X1_isOpen : plainFor yX1_isOpen = true := by decide +kernel
theorem xd_X1_isOpen : (parseMethodDescriptor "(II)Z").map (fun d => d.parameters.length) = some 2 := by decide +kernel
theorem xq_X1_sign : plainFor yX1_sign = true := by decide +kernel
theorem xd_X1_sign : (parseMethodDescriptor "(II)I").map (fun d => d.parameters.length) = some 2 := by decide +kernel
theorem xd_X1_depth : (parseMethodDescriptor "(I)I").map (fun d => d.parameters.length) = some 1 := by decide +kernel
theorem xq_X1_seen : plainFor yX1_seen = true := by decide +kernel
theorem xd_X1_seen : (parseMethodDescriptor "(I)LSlatCrates$Seen;").map (fun d => d.parameters.length) = some 1 := by decide +kernel
theorem xd_J24_get : (parseMethodDescriptor "(Ljava/lang/Object;)Ljava/lang/Object;").map (fun d => d.parameters.length) = some 1 := by decide +kernel
theorem xq_X1_looks : plainFor yX1_looks = true := by decide +kernel
theorem xd_X1_looks : (parseMethodDescriptor "()Ljava/util/HashMap;").map (fun d => d.parameters.length) = some 0 := by decide +kernel
theorem xq_X1_canBeTold : plainFor yX1_canBeTold = true := by decide +kernel
theorem xq_X1_effort : plainFor yX1_effort = true := by decide +kernel
theorem xq_X1_lettersSeen : plainFor yX1_lettersSeen = true := by decide +kernel
theorem xq_X1_load : plainFor yX1_load = true := by decide +kernel
theorem xd_X1_effortsBelow : (parseMethodDescriptor "(III)I").map (fun d => d.parameters.length) = some 3 := by decide +kernel
theorem xq_X1_effortsBelow : plainFor yX1_effortsBelow = true := by decide +kernel
theorem xq_X1_effortsDown : plainFor yX1_effortsDown = true := by decide +kernel
theorem xd_X1_effort : (parseMethodDescriptor "(I)I").map (fun d => d.parameters.length) = some 1 := by decide +kernel
theorem xq_X1_effortsUp : plainFor yX1_effortsUp = true := by decide +kernel
theorem xq_X1_isLoose : plainFor yX1_isLoose = true := by decide +kernel
theorem xq_X1_longest : plainFor yX1_longest = true := by decide +kernel
theorem xd_X1_isLoose : (parseMethodDescriptor "(I)Z").map (fun d => d.parameters.length) = some 1 := by decide +kernel
theorem xd_X1_longest : (parseMethodDescriptor "([II)I").map (fun d => d.parameters.length) = some 2 := by decide +kernel
theorem xq_X1_lengths : plainFor yX1_lengths = true := by decide +kernel
theorem xd_X1_lengths : (parseMethodDescriptor "()[I").map (fun d => d.parameters.length) = some 0 := by decide +kernel
theorem xq_X1_nest : plainFor yX1_nest = true := by decide +kernel
theorem xq_X1_allEfforts : plainFor yX1_allEfforts = true := by decide +kernel
theorem xd_X1_lettersSeen : (parseMethodDescriptor "(I)I").map (fun d => d.parameters.length) = some 1 := by decide +kernel
theorem xq_X1_allLettersSeen : plainFor yX1_allLettersSeen = true := by decide +kernel
theorem xn_J39 : xk_Nf 17 [.null] := ⟨(RJ39, TJ39, 1), tyJ39, rfl, rfl, fun k hk => by
    match k, hk with
    | 0, _ => exact ⟨tyJ39_ok 0 (by decide), rfl⟩
    | j + 1, hk => exact absurd hk (by show ¬ j + 1 < 1; omega)⟩
theorem xd_J39_init : (parseMethodDescriptor "()V").map (fun d => d.parameters.length) = some 0 := by decide +kernel
theorem xh_java_util_HashSet : xk_noMH "java/util/HashSet" := by decide +kernel
theorem xd_X5_bare : (parseMethodDescriptor "()LSlatCrates$Seen;").map (fun d => d.parameters.length) = some 0 := by decide +kernel
theorem xd_J39_add : (parseMethodDescriptor "(Ljava/lang/Object;)Z").map (fun d => d.parameters.length) = some 1 := by decide +kernel
theorem xi_17_HashSet : xk_Is [17] "java/util/HashSet" := List.forall_mem_cons.mpr ⟨⟨Or.inl (by decide), (RJ39, TJ39, 1), rfl, rfl⟩, fun _ h => absurd h List.not_mem_nil⟩
theorem xd_J39_size : (parseMethodDescriptor "()I").map (fun d => d.parameters.length) = some 0 := by decide +kernel
theorem xq_X1_differentRows : plainFor yX1_differentRows = true := by decide +kernel
theorem xd_J24_values : (parseMethodDescriptor "()Ljava/util/Collection;").map (fun d => d.parameters.length) = some 0 := by decide +kernel
theorem xd_java_util_Collection_iterator__Ljava_util_Iterator_ : (parseMethodDescriptor "()Ljava/util/Iterator;").map (fun d => d.parameters.length) = some 0 := by decide +kernel
theorem xi_15_HashMapValues : xk_Is [15] "java/util/HashMap$Values" := List.forall_mem_cons.mpr ⟨⟨Or.inl (by decide), (RJ30, TJ30, 1), rfl, rfl⟩, fun _ h => absurd h List.not_mem_nil⟩
theorem xq_X1_told : plainFor yX1_told = true := by decide +kernel
def mf_X1_init (a0 : Nat) (h0 : xk_H) : Option (Unit × xk_H) :=
  xm_new 6 [.int 0, .null, .int 0] h0 fun b1 h2 => xm_cl (mf_J2_init b1 h2) fun r3 h4 => xm_pV [1] 0 (some a0) (va_rf (some b1)) h4 fun h5 => some ((), h5)
set_option maxHeartbeats 1000000 in
theorem wk_X1_init {l : Launch} {D : va_G} {base : Nat} {a0 : Nat} {h0 : xk_H} {r : Unit} {h' : xk_H} (E : mf_X1_init a0 h0 = some (r, h')) : xk_Ok l D base yX1_init cX1_init 1 none 4 120 [va_rf (some a0)] h0 none h' := by
  refine xk_ofX RX1 "<init>" xq_X1_init rfl rfl (Nat.le_of_ble_eq_true rfl) ⟨xk_crf _, trivial⟩ (fun Γ el eD eb C Z => ?_)
  rw [mf_X1_init] at E
  show xk_X Γ 0 [(0, va_rf (some a0))] [] h0
  refine xr_aload_n 0 C rfl rfl dX1_init_0 ?_
  refine xr_objInit C q141 q134 q135 (by decide) trivial (Nat.le_of_ble_eq_true rfl) dX1_init_1 ?_
  refine xr_aload_n 0 C rfl rfl dX1_init_4 ?_
  refine xr_new (t := 6) (C0 := "java/util/ArrayList") (n := 3) C E (by decide) xn_J2 (fun r hr => by cases hr; exact ⟨rfl, rfl⟩) q142 q143 q82 dX1_init_5 (fun b1 h2 E => ?_)
  refine xr_dup C (xk_crf _) dX1_init_8 ?_
  refine xr_I (b := b1) [] [va_rf (some b1), va_rf (some a0)] (fun _ => none) (fun _ => [va_rf (some b1), va_rf (some a0)]) C E (fun r h' e => wk_J2_init e) q144 q145 q82 q146 xh_java_util_ArrayList rfl xd_J2_init (by decide) (by decide) ⟨xk_crf _, ⟨xk_crf _, trivial⟩⟩ (Nat.le_of_ble_eq_true rfl) rfl (fun _ => rfl) dX1_init_9 (fun r3 h4 E => ?_)
  refine xr_pR C E xf_X1_12 xp_X1_12_i (Or.inl ⟨_, rfl⟩) dX1_init_12 (fun h5 E => ?_)
  exact xr_vret C Z E dX1_init_15
def mf_X3_init (a0 : Nat) (a1 : Int32) (a2 : Int32) (a3 : Int32) (a4 : Option Nat) (h0 : xk_H) : Option (Unit × xk_H) :=
  xm_pV [3] 4 (some a0) (.int (-1 : Int32)) h0 fun h1 => xm_new 6 [.int 0, .null, .int 0] h1 fun b2 h3 => xm_cl (mf_J2_init b2 h3) fun r4 h5 => xm_pV [3] 5 (some a0) (va_rf (some b2)) h5 fun h6 => xm_pV [3] 0 (some a0) (.int a1) h6 fun h7 => xm_pV [3] 1 (some a0) (.int a2) h7 fun h8 => xm_pV [3] 2 (some a0) (.int a3) h8 fun h9 => xm_pV [3] 3 (some a0) (va_rf a4) h9 fun h10 => some ((), h10)
set_option maxHeartbeats 1000000 in
theorem wk_X3_init {l : Launch} {D : va_G} {base : Nat} {a0 : Nat} {a1 : Int32} {a2 : Int32} {a3 : Int32} {a4 : Option Nat} {h0 : xk_H} {r : Unit} {h' : xk_H} (E : mf_X3_init a0 a1 a2 a3 a4 h0 = some (r, h')) : xk_Ok l D base yX3_init cX3_init 5 none 4 120 [va_rf (some a0), .int a1, .int a2, .int a3, va_rf a4] h0 none h' := by
  refine xk_ofX RX3 "<init>" xq_X3_init rfl rfl (Nat.le_of_ble_eq_true rfl) ⟨xk_crf _, ⟨rfl, ⟨rfl, ⟨rfl, ⟨xk_crf _, trivial⟩⟩⟩⟩⟩ (fun Γ el eD eb C Z => ?_)
  rw [mf_X3_init] at E
  show xk_X Γ 0 [(0, va_rf (some a0)), (1, .int a1), (2, .int a2), (3, .int a3), (4, va_rf a4)] [] h0
  refine xr_aload_n 0 C rfl rfl dX3_init_0 ?_
  refine xr_objInit C q748 q134 q135 (by decide) trivial (Nat.le_of_ble_eq_true rfl) dX3_init_1 ?_
  refine xr_aload_n 0 C rfl rfl dX3_init_4 ?_
  refine xr_iconst (-1) C (by decide) dX3_init_5 ?_
  refine xr_pI C E xf_X3_9 xp_X3_9_i dX3_init_6 (fun h1 E => ?_)
  refine xr_aload_n 0 C rfl rfl dX3_init_9 ?_
  refine xr_new (t := 6) (C0 := "java/util/ArrayList") (n := 3) C E (by decide) xn_J2 (fun r hr => by cases hr; exact ⟨rfl, rfl⟩) q749 q143 q82 dX3_init_10 (fun b2 h3 E => ?_)
  refine xr_dup C (xk_crf _) dX3_init_13 ?_
  refine xr_I (b := b2) [] [va_rf (some b2), va_rf (some a0)] (fun _ => none) (fun _ => [va_rf (some b2), va_rf (some a0)]) C E (fun r h' e => wk_J2_init e) q750 q145 q82 q146 xh_java_util_ArrayList rfl xd_J2_init (by decide) (by decide) ⟨xk_crf _, ⟨xk_crf _, trivial⟩⟩ (Nat.le_of_ble_eq_true rfl) rfl (fun _ => rfl) dX3_init_14 (fun r4 h5 E => ?_)
  refine xr_pR C E xf_X3_18 xp_X3_18_i (Or.inl ⟨_, rfl⟩) dX3_init_17 (fun h6 E => ?_)
  refine xr_aload_n 0 C rfl rfl dX3_init_20 ?_
  refine xr_iload_n 1 C rfl rfl dX3_init_21 ?_
  refine xr_pI C E xf_X3_22 xp_X3_22_i dX3_init_22 (fun h7 E => ?_)
  refine xr_aload_n 0 C rfl rfl dX3_init_25 ?_
  refine xr_iload_n 2 C rfl rfl dX3_init_26 ?_
  refine xr_pI C E xf_X3_25 xp_X3_25_i dX3_init_27 (fun h8 E => ?_)
  refine xr_aload_n 0 C rfl rfl dX3_init_30 ?_
  refine xr_iload_n 3 C rfl rfl dX3_init_31 ?_
  refine xr_pI C E xf_X3_28 xp_X3_28_i dX3_init_32 (fun h9 E => ?_)
  refine xr_aload_n 0 C rfl rfl dX3_init_35 ?_
  refine xr_aload 4 C rfl dX3_init_36 ?_
  refine xr_pR C E xf_X3_31 xp_X3_31_i (Or.inr ⟨_, rfl⟩) dX3_init_38 (fun h10 E => ?_)
  exact xr_vret C Z E dX3_init_41
def mf_X3_copy (a0 : Option Nat) (h0 : xk_H) : Option (Option Nat × xk_H) :=
  xm_new 3 [.int 0, .int 0, .int 0, .null, .int 0, .null] h0 fun b1 h2 => xm_gI [3] 0 a0 h2 fun x3 => xm_gI [3] 1 a0 h2 fun x4 => xm_gI [3] 2 a0 h2 fun x5 => xm_gR [3] 3 a0 h2 fun x6 => xm_cl (mf_X3_init b1 x3 x4 x5 x6 h2) fun r7 h8 => xm_gI [3] 4 a0 h8 fun x9 => xm_pV [3] 4 (some b1) (.int x9) h8 fun h10 => xm_gR [3] 5 (some b1) h10 fun x11 => xm_gR [3] 5 a0 h10 fun x12 => xm_rc [6] x11 h10 <| xm_cl (mf_J2_addAll x11 x12 h10) fun r13 h14 => some ((some b1), h14)
set_option maxHeartbeats 1000000 in
theorem wk_X3_copy {l : Launch} {D : va_G} {base : Nat} {a0 : Option Nat} {h0 : xk_H} {r : Option Nat} {h' : xk_H} (E : mf_X3_copy a0 h0 = some (r, h')) : xk_Ok l D base yX3_copy cX3_copy 2 (Option.some (FieldType.object "SlatCrates$Crate")) 6 173 [va_rf a0] h0 (some (va_rf r)) h' := by
  refine xk_ofX RX3 "copy" xq_X3_copy rfl rfl (Nat.le_of_ble_eq_true rfl) ⟨xk_crf _, trivial⟩ (fun Γ el eD eb C Z => ?_)
  rw [mf_X3_copy] at E
  show xk_X Γ 0 [(0, va_rf a0)] [] h0
  refine xr_new (t := 3) (C0 := "SlatCrates$Crate") (n := 6) C E (by decide) xn_X3 (fun r hr => by cases hr; exact ⟨rfl, rfl⟩) q743 q744 q102 dX3_copy_0 (fun b1 h2 E => ?_)
  refine xr_dup C (xk_crf _) dX3_copy_3 ?_
  refine xr_aload_n 0 C rfl rfl dX3_copy_4 ?_
  refine xr_gI C E xf_X3_22 dX3_copy_5 (fun x3 E => ?_)
  refine xr_aload_n 0 C rfl rfl dX3_copy_8 ?_
  refine xr_gI C E xf_X3_25 dX3_copy_9 (fun x4 E => ?_)
  refine xr_aload_n 0 C rfl rfl dX3_copy_12 ?_
  refine xr_gI C E xf_X3_28 dX3_copy_13 (fun x5 E => ?_)
  refine xr_aload_n 0 C rfl rfl dX3_copy_16 ?_
  refine xr_gR C E xf_X3_31 dX3_copy_17 (fun x6 E => ?_)
  refine xr_I (b := b1) [.int x3, .int x4, .int x5, va_rf x6] [va_rf (some b1)] (fun _ => none) (fun _ => [va_rf (some b1)]) C E (fun r h' e => wk_X3_init e) q745 q746 q102 q747 xh_SlatCrates_Crate rfl xd_X3_init (by decide) (by decide) ⟨xk_crf _, trivial⟩ (Nat.le_of_ble_eq_true rfl) rfl (fun _ => rfl) dX3_copy_20 (fun r7 h8 E => ?_)
  refine xr_astore_n (L2 := [(1, va_rf (some b1)), (0, va_rf a0)]) C rfl rfl dX3_copy_23 (by decide) ?_
  refine xr_aload_n 0 C rfl rfl dX3_copy_24 ?_
  refine xr_aload_n 1 C rfl rfl dX3_copy_25 ?_
  refine xr_gI C E xf_X3_9 dX3_copy_26 (fun x9 E => ?_)
  refine xr_pI C E xf_X3_9 xp_X3_9 dX3_copy_29 (fun h10 E => ?_)
  refine xr_aload_n 0 C rfl rfl dX3_copy_32 ?_
  refine xr_gR C E xf_X3_18 dX3_copy_33 (fun x11 E => ?_)
  refine xr_aload_n 1 C rfl rfl dX3_copy_36 ?_
  refine xr_gR C E xf_X3_18 dX3_copy_37 (fun x12 E => ?_)
  refine xr_V (v := x11) [va_rf x12] [] (fun r => some (.int (xk_b2 r))) (fun r => .int (xk_b2 r) :: []) C E xi_6_ArrayList (fun r h' e => wk_J2_addAll e) q784 q785 q786 q82 q787 xh_java_util_ArrayList xd_J2_addAll (by decide) (by decide) trivial (Nat.le_of_ble_eq_true rfl) rfl (fun _ => rfl) dX3_copy_40 (fun r13 h14 E => ?_)
  refine xr_pop C rfl dX3_copy_43 ?_
  refine xr_aload_n 0 C rfl rfl dX3_copy_44 ?_
  exact xr_aret C Z E (Or.inl ⟨_, rfl⟩) dX3_copy_45
def mf_X1_copy_L16 (a0 : Option Nat) (a1 : Option Nat) (a2 : Option Nat) : Nat → xk_H → Option (Option Nat × xk_H)
  | 0, _ => none
  | n + 1, h0 => xm_rc [9] a2 h0 <| xm_cl (mf_J9_hasNext a2 h0) fun r8 h9 => if xk_b2 r8 = 0 then (xm_gI [1] 1 a0 h9 fun x10 => xm_pV [1] 1 a1 (.int x10) h9 fun h11 => some (a1, h11)) else (xm_rc [9] a2 h9 <| xm_cl (mf_J9_next a2 h9) fun r12 h13 => xm_cast [3] r12 h13 <| xm_gR [1] 0 a1 h13 fun x14 => xm_rc [3] r12 h13 <| xm_cl (mf_X3_copy r12 h13) fun r15 h16 => xm_rc [6] x14 h16 <| xm_cl (mf_J2_add x14 r15 h16) fun r17 h18 => mf_X1_copy_L16 a0 a1 a2 n h18)
set_option maxHeartbeats 1000000 in
theorem wk_X1_copy_L16 {Γ : xk_C} {r : Option Nat} {h' : xk_H} {a0 : Option Nat} {a1 : Option Nat} {a2 : Option Nat} (C : xk_Cx Γ RX1 cX1_copy 4 (Option.some (FieldType.object "SlatCrates$Yard")) "copy" 8 212) (Z : xk_Z Γ (some (va_rf r)) h') : ∀ (n : Nat) (h0 : xk_H), mf_X1_copy_L16 a0 a1 a2 n h0 = some (r, h') → xk_X Γ 16 [(0, va_rf a0), (1, va_rf a1), (2, va_rf a2)] [] h0 := by
  intro n
  induction n with
  | zero =>
    intro  h0 E
    rw [mf_X1_copy_L16] at E
    cases E
  | succ n ih =>
    intro  h0 E
    have hkb16 : ∀ (g : xk_H), mf_X1_copy_L16 a0 a1 a2 n g = some (r, h') → xk_X Γ 16 [(0, va_rf a0), (1, va_rf a1), (2, va_rf a2)] [] g := ih
    rw [mf_X1_copy_L16] at E
    refine xr_aload_n 2 C rfl rfl dX1_copy_16 ?_
    refine xr_F (v := a2) [] [] (fun r => some (.int (xk_b2 r))) (fun r => .int (xk_b2 r) :: []) C E xi_9_ArrayListItr (fun r h' e => wk_J9_hasNext e) q318 (List.mem_of_getElem? (i := 0) rfl) q335 q333 q90 q337 xh_java_util_Iterator xd_java_util_Iterator_hasNext__Z (by decide) (by decide) trivial (Nat.le_of_ble_eq_true rfl) rfl (fun _ => rfl) dX1_copy_17 (fun r8 h9 E => ?_)
    refine xr_if_eq 50 C E dX1_copy_22 (by decide) (fun E => ?_) (fun E => ?_)
    · refine xr_aload_n 1 C rfl rfl dX1_copy_50 ?_
      refine xr_aload_n 0 C rfl rfl dX1_copy_51 ?_
      refine xr_gI C E xf_X1_43 dX1_copy_52 (fun x10 E => ?_)
      refine xr_pI C E xf_X1_43 xp_X1_43 dX1_copy_55 (fun h11 E => ?_)
      refine xr_aload_n 1 C rfl rfl dX1_copy_58 ?_
      exact xr_aret C Z E (Or.inl ⟨_, rfl⟩) dX1_copy_59
    · refine xr_aload_n 2 C rfl rfl dX1_copy_25 ?_
      refine xr_F (v := a2) [] [] (fun r => some (va_rf r)) (fun r => va_rf r :: []) C E xi_9_ArrayListItr (fun r h' e => wk_J9_next e) q357 (List.mem_of_getElem? (i := 1) rfl) q698 q696 q90 q700 xh_java_util_Iterator xd_java_util_Iterator_next__Ljava_lang_Object_ (by decide) (by decide) trivial (Nat.le_of_ble_eq_true rfl) rfl (fun _ => rfl) dX1_copy_26 (fun r12 h13 E => ?_)
      refine xr_cast C E xi_3_SlatCratesCrate q738 dX1_copy_31 (fun E => ?_)
      refine xr_astore_n (L2 := [(3, va_rf r12), (0, va_rf a0), (1, va_rf a1), (2, va_rf a2)]) C rfl rfl dX1_copy_34 (by decide) ?_
      refine xr_aload_n 2 C rfl rfl dX1_copy_35 ?_
      refine xr_gR C E xf_X1_12 dX1_copy_36 (fun x14 E => ?_)
      refine xr_aload_n 0 C rfl rfl dX1_copy_39 ?_
      refine xr_V (v := r12) [] [va_rf x14] (fun r => some (va_rf r)) (fun r => va_rf r :: [va_rf x14]) C E xi_3_SlatCratesCrate (fun r h' e => wk_X3_copy e) q739 q740 q741 q102 q742 xh_SlatCrates_Crate xd_X3_copy (by decide) (by decide) ⟨xk_crf _, trivial⟩ (Nat.le_of_ble_eq_true rfl) rfl (fun _ => rfl) dX1_copy_40 (fun r15 h16 E => ?_)
      refine xr_V (v := x14) [va_rf r15] [] (fun r => some (.int (xk_b2 r))) (fun r => .int (xk_b2 r) :: []) C E xi_6_ArrayList (fun r h' e => wk_J2_add e) q857 q858 q859 q82 q860 xh_java_util_ArrayList xd_J2_add (by decide) (by decide) trivial (Nat.le_of_ble_eq_true rfl) rfl (fun _ => rfl) dX1_copy_43 (fun r17 h18 E => ?_)
      refine xr_pop C rfl dX1_copy_46 ?_
      refine xr_goto 16 C dX1_copy_47 (by decide) ?_
      refine xr_sub [1, 2, 3] rfl ?_
      exact hkb16 h18 E
def mf_X1_copy (a0 : Option Nat) (h0 : xk_H) : Option (Option Nat × xk_H) :=
  xm_new 1 [.null, .int 0] h0 fun b1 h2 => xm_cl (mf_X1_init b1 h2) fun r3 h4 => xm_gR [1] 0 a0 h4 fun x5 => xm_rc [6] x5 h4 <| xm_cl (mf_J2_iterator x5 h4) fun r6 h7 => mf_X1_copy_L16 a0 (some b1) r6 xk_fu h7
set_option maxHeartbeats 1000000 in
theorem wk_X1_copy {l : Launch} {D : va_G} {base : Nat} {a0 : Option Nat} {h0 : xk_H} {r : Option Nat} {h' : xk_H} (E : mf_X1_copy a0 h0 = some (r, h')) : xk_Ok l D base yX1_copy cX1_copy 4 (Option.some (FieldType.object "SlatCrates$Yard")) 8 212 [va_rf a0] h0 (some (va_rf r)) h' := by
  refine xk_ofX RX1 "copy" xq_X1_copy rfl rfl (Nat.le_of_ble_eq_true rfl) ⟨xk_crf _, trivial⟩ (fun Γ el eD eb C Z => ?_)
  rw [mf_X1_copy] at E
  show xk_X Γ 0 [(0, va_rf a0)] [] h0
  refine xr_new (t := 1) (C0 := "SlatCrates$Yard") (n := 2) C E (by decide) xn_X1 (fun r hr => by cases hr; exact ⟨rfl, rfl⟩) q289 q137 q79 dX1_copy_0 (fun b1 h2 E => ?_)
  refine xr_dup C (xk_crf _) dX1_copy_3 ?_
  refine xr_I (b := b1) [] [va_rf (some b1)] (fun _ => none) (fun _ => [va_rf (some b1)]) C E (fun r h' e => wk_X1_init e) q290 q139 q79 q140 xh_SlatCrates_Yard rfl xd_X1_init (by decide) (by decide) ⟨xk_crf _, trivial⟩ (Nat.le_of_ble_eq_true rfl) rfl (fun _ => rfl) dX1_copy_4 (fun r3 h4 E => ?_)
  refine xr_astore_n (L2 := [(1, va_rf (some b1)), (0, va_rf a0)]) C rfl rfl dX1_copy_7 (by decide) ?_
  refine xr_aload_n 1 C rfl rfl dX1_copy_8 ?_
  refine xr_gR C E xf_X1_12 dX1_copy_9 (fun x5 E => ?_)
  refine xr_V (v := x5) [] [] (fun r => some (va_rf r)) (fun r => va_rf r :: []) C E xi_6_ArrayList (fun r h' e => wk_J2_iterator e) q291 q292 q293 q82 q294 xh_java_util_ArrayList xd_J2_iterator (by decide) (by decide) trivial (Nat.le_of_ble_eq_true rfl) rfl (fun _ => rfl) dX1_copy_12 (fun r6 h7 E => ?_)
  refine xr_astore_n (L2 := [(2, va_rf r6), (1, va_rf (some b1)), (0, va_rf a0)]) C rfl rfl dX1_copy_15 (by decide) ?_
  refine xr_sub [2, 1, 0] rfl ?_
  exact wk_X1_copy_L16 (a0 := a0) (a1 := (some b1)) (a2 := r6) C Z xk_fu h7 E
def mf_X1_size (a0 : Option Nat) (h0 : xk_H) : Option (Int32 × xk_H) :=
  xm_gR [1] 0 a0 h0 fun x1 => xm_rc [6] x1 h0 <| xm_cl (mf_J2_size x1 h0) fun r2 h3 => some (r2, h3)
set_option maxHeartbeats 1000000 in
theorem wk_X1_size {l : Launch} {D : va_G} {base : Nat} {a0 : Option Nat} {h0 : xk_H} {r : Int32} {h' : xk_H} (E : mf_X1_size a0 h0 = some (r, h')) : xk_Ok l D base yX1_size cX1_size 1 (Option.some FieldType.int) 2 80 [va_rf a0] h0 (some (.int r)) h' := by
  refine xk_ofX RX1 "size" xq_X1_size rfl rfl (Nat.le_of_ble_eq_true rfl) ⟨xk_crf _, trivial⟩ (fun Γ el eD eb C Z => ?_)
  rw [mf_X1_size] at E
  show xk_X Γ 0 [(0, va_rf a0)] [] h0
  refine xr_aload_n 0 C rfl rfl dX1_size_0 ?_
  refine xr_gR C E xf_X1_12 dX1_size_1 (fun x1 E => ?_)
  refine xr_V (v := x1) [] [] (fun r => some (.int r)) (fun r => .int r :: []) C E xi_6_ArrayList (fun r h' e => wk_J2_size e) q265 q266 q267 q82 q268 xh_java_util_ArrayList xd_J2_size (by decide) (by decide) trivial (Nat.le_of_ble_eq_true rfl) rfl (fun _ => rfl) dX1_size_4 (fun r2 h3 E => ?_)
  exact xr_iret C Z E dX1_size_7
def mf_X1_at (a0 : Option Nat) (a1 : Int32) (h0 : xk_H) : Option (Option Nat × xk_H) :=
  xm_gR [1] 0 a0 h0 fun x1 => xm_rc [6] x1 h0 <| xm_cl (mf_J2_get x1 a1 h0) fun r2 h3 => xm_cast [3] r2 h3 <| some (r2, h3)
set_option maxHeartbeats 1000000 in
theorem wk_X1_at {l : Launch} {D : va_G} {base : Nat} {a0 : Option Nat} {a1 : Int32} {h0 : xk_H} {r : Option Nat} {h' : xk_H} (E : mf_X1_at a0 a1 h0 = some (r, h')) : xk_Ok l D base yX1_at cX1_at 2 (Option.some (FieldType.object "SlatCrates$Crate")) 4 124 [va_rf a0, .int a1] h0 (some (va_rf r)) h' := by
  refine xk_ofX RX1 "at" xq_X1_at rfl rfl (Nat.le_of_ble_eq_true rfl) ⟨xk_crf _, ⟨rfl, trivial⟩⟩ (fun Γ el eD eb C Z => ?_)
  rw [mf_X1_at] at E
  show xk_X Γ 0 [(0, va_rf a0), (1, .int a1)] [] h0
  refine xr_aload_n 0 C rfl rfl dX1_at_0 ?_
  refine xr_gR C E xf_X1_12 dX1_at_1 (fun x1 E => ?_)
  refine xr_iload_n 1 C rfl rfl dX1_at_4 ?_
  refine xr_V (v := x1) [.int a1] [] (fun r => some (va_rf r)) (fun r => va_rf r :: []) C E xi_6_ArrayList (fun r h' e => wk_J2_get e) q925 q374 q2504 q82 q375 xh_java_util_ArrayList xd_J2_get (by decide) (by decide) trivial (Nat.le_of_ble_eq_true rfl) rfl (fun _ => rfl) dX1_at_5 (fun r2 h3 E => ?_)
  refine xr_cast C E xi_3_SlatCratesCrate q738 dX1_at_8 (fun E => ?_)
  exact xr_aret C Z E (Or.inl ⟨_, rfl⟩) dX1_at_11
def mf_X1_isOnGround (a0 : Option Nat) (a1 : Int32) (h0 : xk_H) : Option (Bool × xk_H) :=
  xm_rc [1] a0 h0 <| xm_cl (mf_X1_at a0 a1 h0) fun r1 h2 => xm_gI [3] 4 r1 h2 fun x3 => if x3 = (-1 : Int32) then (some (true, h2)) else (some (false, h2))
set_option maxHeartbeats 1000000 in
theorem wk_X1_isOnGround {l : Launch} {D : va_G} {base : Nat} {a0 : Option Nat} {a1 : Int32} {h0 : xk_H} {r : Bool} {h' : xk_H} (E : mf_X1_isOnGround a0 a1 h0 = some (r, h')) : xk_Ok l D base yX1_isOnGround cX1_isOnGround 2 (Option.some FieldType.boolean) 5 145 [va_rf a0, .int a1] h0 (some (.int (xk_b2 r))) h' := by
  refine xk_ofX RX1 "isOnGround" xq_X1_isOnGround rfl rfl (Nat.le_of_ble_eq_true rfl) ⟨xk_crf _, ⟨rfl, trivial⟩⟩ (fun Γ el eD eb C Z => ?_)
  rw [mf_X1_isOnGround] at E
  show xk_X Γ 0 [(0, va_rf a0), (1, .int a1)] [] h0
  refine xr_aload_n 0 C rfl rfl dX1_isOnGround_0 ?_
  refine xr_iload_n 1 C rfl rfl dX1_isOnGround_1 ?_
  refine xr_V (v := a0) [.int a1] [] (fun r => some (va_rf r)) (fun r => va_rf r :: []) C E xi_1_SlatCratesYard (fun r h' e => wk_X1_at e) q921 q922 q923 q79 q924 xh_SlatCrates_Yard xd_X1_at (by decide) (by decide) trivial (Nat.le_of_ble_eq_true rfl) rfl (fun _ => rfl) dX1_isOnGround_2 (fun r1 h2 E => ?_)
  refine xr_gI C E xf_X1_59 dX1_isOnGround_5 (fun x3 E => ?_)
  refine xr_iconst (-1) C (by decide) dX1_isOnGround_8 ?_
  refine xr_icmp_ne 16 C E dX1_isOnGround_9 (by decide) (fun E => ?_) (fun E => ?_)
  · refine xr_iconst (0) C (by decide) dX1_isOnGround_16 ?_
    exact xr_bret (b := false) C Z E dX1_isOnGround_17
  · refine xr_iconst (1) C (by decide) dX1_isOnGround_12 ?_
    refine xr_goto 17 C dX1_isOnGround_13 (by decide) ?_
    exact xr_bret (b := true) C Z E dX1_isOnGround_17
def mf_X1_depth_L4 (a0 : Option Nat) : Nat → Int32 → Int32 → xk_H → Option (Int32 × xk_H)
  | 0, _, _, _ => none
  | n + 1, a2, a3, h0 => xm_rc [1] a0 h0 <| xm_cl (mf_X1_isOnGround a0 a3 h0) fun r1 h2 => if xk_b2 r1 = 0 then (xm_rc [1] a0 h2 <| xm_cl (mf_X1_at a0 a3 h2) fun r3 h4 => xm_gI [3] 4 r3 h4 fun x5 => mf_X1_depth_L4 a0 n (a2 + 1) x5 h4) else (some (a2, h2))
set_option maxHeartbeats 1000000 in
theorem wk_X1_depth_L4 {Γ : xk_C} {r : Int32} {h' : xk_H} {a0 : Option Nat} (C : xk_Cx Γ RX1 cX1_depth 4 (Option.some FieldType.int) "depth" 6 166) (Z : xk_Z Γ (some (.int r)) h') : ∀ (n : Nat) (a2 : Int32) (a3 : Int32) (h0 : xk_H), mf_X1_depth_L4 a0 n a2 a3 h0 = some (r, h') → xk_X Γ 4 [(0, va_rf a0), (2, .int a2), (3, .int a3)] [] h0 := by
  intro n
  induction n with
  | zero =>
    intro a2 a3 h0 E
    rw [mf_X1_depth_L4] at E
    cases E
  | succ n ih =>
    intro a2 a3 h0 E
    have hkb4 : ∀ (m2 : Int32) (m3 : Int32) (g : xk_H), mf_X1_depth_L4 a0 n m2 m3 g = some (r, h') → xk_X Γ 4 [(0, va_rf a0), (2, .int m2), (3, .int m3)] [] g := ih
    rw [mf_X1_depth_L4] at E
    refine xr_aload_n 0 C rfl rfl dX1_depth_4 ?_
    refine xr_iload_n 2 C rfl rfl dX1_depth_5 ?_
    refine xr_V (v := a0) [.int a3] [] (fun r => some (.int (xk_b2 r))) (fun r => .int (xk_b2 r) :: []) C E xi_1_SlatCratesYard (fun r h' e => wk_X1_isOnGround e) q917 q918 q919 q79 q920 xh_SlatCrates_Yard xd_X1_isOnGround (by decide) (by decide) trivial (Nat.le_of_ble_eq_true rfl) rfl (fun _ => rfl) dX1_depth_6 (fun r1 h2 E => ?_)
    refine xr_if_ne 27 C E dX1_depth_9 (by decide) (fun E => ?_) (fun E => ?_)
    · refine xr_iload_n 1 C rfl rfl dX1_depth_27 ?_
      exact xr_iret C Z E dX1_depth_28
    · refine xr_iinc (v := (a2 + 1)) (L2 := [(2, .int (a2 + 1)), (0, va_rf a0), (3, .int a3)]) 1 C rfl rfl rfl dX1_depth_12 (by decide) ?_
      refine xr_aload_n 1 C rfl rfl dX1_depth_15 ?_
      refine xr_iload_n 2 C rfl rfl dX1_depth_16 ?_
      refine xr_V (v := a0) [.int a3] [] (fun r => some (va_rf r)) (fun r => va_rf r :: []) C E xi_1_SlatCratesYard (fun r h' e => wk_X1_at e) q921 q922 q923 q79 q924 xh_SlatCrates_Yard xd_X1_at (by decide) (by decide) trivial (Nat.le_of_ble_eq_true rfl) rfl (fun _ => rfl) dX1_depth_17 (fun r3 h4 E => ?_)
      refine xr_gI C E xf_X1_59 dX1_depth_20 (fun x5 E => ?_)
      refine xr_istore_n (L2 := [(3, .int x5), (2, .int (a2 + 1)), (0, va_rf a0)]) C rfl rfl dX1_depth_23 (by decide) ?_
      refine xr_goto 4 C dX1_depth_24 (by decide) ?_
      refine xr_sub [2, 1, 0] rfl ?_
      exact hkb4 (a2 + 1) x5 h4 E
def mf_X1_depth (a0 : Option Nat) (a1 : Int32) (h0 : xk_H) : Option (Int32 × xk_H) :=
  mf_X1_depth_L4 a0 xk_fu (0 : Int32) a1 h0
set_option maxHeartbeats 1000000 in
theorem wk_X1_depth {l : Launch} {D : va_G} {base : Nat} {a0 : Option Nat} {a1 : Int32} {h0 : xk_H} {r : Int32} {h' : xk_H} (E : mf_X1_depth a0 a1 h0 = some (r, h')) : xk_Ok l D base yX1_depth cX1_depth 4 (Option.some FieldType.int) 6 166 [va_rf a0, .int a1] h0 (some (.int r)) h' := by
  refine xk_ofX RX1 "depth" xq_X1_depth rfl rfl (Nat.le_of_ble_eq_true rfl) ⟨xk_crf _, ⟨rfl, trivial⟩⟩ (fun Γ el eD eb C Z => ?_)
  rw [mf_X1_depth] at E
  show xk_X Γ 0 [(0, va_rf a0), (1, .int a1)] [] h0
  refine xr_iconst (0) C (by decide) dX1_depth_0 ?_
  refine xr_istore_n (L2 := [(2, .int (0 : Int32)), (0, va_rf a0), (1, .int a1)]) C rfl rfl dX1_depth_1 (by decide) ?_
  refine xr_iload_n 2 C rfl rfl dX1_depth_2 ?_
  refine xr_istore_n (L2 := [(3, .int a1), (2, .int (0 : Int32)), (0, va_rf a0), (1, .int a1)]) C rfl rfl dX1_depth_3 (by decide) ?_
  refine xr_sub [2, 1, 0] rfl ?_
  exact wk_X1_depth_L4 (a0 := a0) C Z xk_fu (0 : Int32) a1 h0 E
def mf_X1_lifts (a0 : Option Nat) (a1 : Int32) (h0 : xk_H) : Option (Unit × xk_H) :=
  xm_rc [1] a0 h0 <| xm_cl (mf_X1_isOnGround a0 a1 h0) fun r1 h2 => if xk_b2 r1 = 0 then (xm_rc [1] a0 h2 <| xm_cl (mf_X1_at a0 a1 h2) fun r3 h4 => xm_gI [3] 4 r3 h4 fun x5 => xm_rc [1] a0 h4 <| xm_cl (mf_X1_at a0 x5 h4) fun r6 h7 => xm_gR [3] 5 r6 h7 fun x8 => xm_rc [6] x8 h7 <| xm_cl (mf_J2_size x8 h7) fun r9 h10 => xm_rc [6] x8 h10 <| xm_cl (mf_J2_remove x8 (r9 - (1 : Int32)) h10) fun r11 h12 => xm_rc [1] a0 h12 <| xm_cl (mf_X1_at a0 a1 h12) fun r13 h14 => xm_pV [3] 4 r13 (.int (-1 : Int32)) h14 fun h15 => some ((), h15)) else (some ((), h2))
set_option maxHeartbeats 1000000 in
theorem wk_X1_lifts {l : Launch} {D : va_G} {base : Nat} {a0 : Option Nat} {a1 : Int32} {h0 : xk_H} {r : Unit} {h' : xk_H} (E : mf_X1_lifts a0 a1 h0 = some (r, h')) : xk_Ok l D base yX1_lifts cX1_lifts 3 none 6 166 [va_rf a0, .int a1] h0 none h' := by
  refine xk_ofX RX1 "lifts" xq_X1_lifts rfl rfl (Nat.le_of_ble_eq_true rfl) ⟨xk_crf _, ⟨rfl, trivial⟩⟩ (fun Γ el eD eb C Z => ?_)
  rw [mf_X1_lifts] at E
  show xk_X Γ 0 [(0, va_rf a0), (1, .int a1)] [] h0
  refine xr_aload_n 0 C rfl rfl dX1_lifts_0 ?_
  refine xr_iload_n 1 C rfl rfl dX1_lifts_1 ?_
  refine xr_V (v := a0) [.int a1] [] (fun r => some (.int (xk_b2 r))) (fun r => .int (xk_b2 r) :: []) C E xi_1_SlatCratesYard (fun r h' e => wk_X1_isOnGround e) q917 q918 q919 q79 q920 xh_SlatCrates_Yard xd_X1_isOnGround (by decide) (by decide) trivial (Nat.le_of_ble_eq_true rfl) rfl (fun _ => rfl) dX1_lifts_2 (fun r1 h2 E => ?_)
  refine xr_if_ne 44 C E dX1_lifts_5 (by decide) (fun E => ?_) (fun E => ?_)
  · exact xr_vret C Z E dX1_lifts_44
  · refine xr_aload_n 0 C rfl rfl dX1_lifts_8 ?_
    refine xr_aload_n 0 C rfl rfl dX1_lifts_9 ?_
    refine xr_iload_n 1 C rfl rfl dX1_lifts_10 ?_
    refine xr_V (v := a0) [.int a1] [va_rf a0] (fun r => some (va_rf r)) (fun r => va_rf r :: [va_rf a0]) C E xi_1_SlatCratesYard (fun r h' e => wk_X1_at e) q921 q922 q923 q79 q924 xh_SlatCrates_Yard xd_X1_at (by decide) (by decide) ⟨xk_crf _, trivial⟩ (Nat.le_of_ble_eq_true rfl) rfl (fun _ => rfl) dX1_lifts_11 (fun r3 h4 E => ?_)
    refine xr_gI C E xf_X1_59 dX1_lifts_14 (fun x5 E => ?_)
    refine xr_V (v := a0) [.int x5] [] (fun r => some (va_rf r)) (fun r => va_rf r :: []) C E xi_1_SlatCratesYard (fun r h' e => wk_X1_at e) q921 q922 q923 q79 q924 xh_SlatCrates_Yard xd_X1_at (by decide) (by decide) trivial (Nat.le_of_ble_eq_true rfl) rfl (fun _ => rfl) dX1_lifts_17 (fun r6 h7 E => ?_)
    refine xr_gR C E xf_X1_66 dX1_lifts_20 (fun x8 E => ?_)
    refine xr_astore_n (L2 := [(2, va_rf x8), (0, va_rf a0), (1, .int a1)]) C rfl rfl dX1_lifts_23 (by decide) ?_
    refine xr_aload_n 0 C rfl rfl dX1_lifts_24 ?_
    refine xr_aload_n 0 C rfl rfl dX1_lifts_25 ?_
    refine xr_V (v := x8) [] [va_rf x8] (fun r => some (.int r)) (fun r => .int r :: [va_rf x8]) C E xi_6_ArrayList (fun r h' e => wk_J2_size e) q265 q266 q267 q82 q268 xh_java_util_ArrayList xd_J2_size (by decide) (by decide) ⟨xk_crf _, trivial⟩ (Nat.le_of_ble_eq_true rfl) rfl (fun _ => rfl) dX1_lifts_26 (fun r9 h10 E => ?_)
    refine xr_iconst (1) C (by decide) dX1_lifts_29 ?_
    refine xr_isub C dX1_lifts_30 ?_
    refine xr_V (v := x8) [.int (r9 - (1 : Int32))] [] (fun r => some (va_rf r)) (fun r => va_rf r :: []) C E xi_6_ArrayList (fun r h' e => wk_J2_remove e) q1011 q1012 q1013 q82 q1014 xh_java_util_ArrayList xd_J2_remove (by decide) (by decide) trivial (Nat.le_of_ble_eq_true rfl) rfl (fun _ => rfl) dX1_lifts_31 (fun r11 h12 E => ?_)
    refine xr_pop C (xk_crf _) dX1_lifts_34 ?_
    refine xr_aload_n 1 C rfl rfl dX1_lifts_35 ?_
    refine xr_iload_n 2 C rfl rfl dX1_lifts_36 ?_
    refine xr_V (v := a0) [.int a1] [] (fun r => some (va_rf r)) (fun r => va_rf r :: []) C E xi_1_SlatCratesYard (fun r h' e => wk_X1_at e) q921 q922 q923 q79 q924 xh_SlatCrates_Yard xd_X1_at (by decide) (by decide) trivial (Nat.le_of_ble_eq_true rfl) rfl (fun _ => rfl) dX1_lifts_37 (fun r13 h14 E => ?_)
    refine xr_iconst (-1) C (by decide) dX1_lifts_40 ?_
    refine xr_pI C E xf_X1_59 xp_X1_59 dX1_lifts_41 (fun h15 E => ?_)
    exact xr_vret C Z E dX1_lifts_44
def mf_X1_puts (a0 : Option Nat) (a1 : Int32) (a2 : Int32) (h0 : xk_H) : Option (Unit × xk_H) :=
  xm_rc [1] a0 h0 <| xm_cl (mf_X1_lifts a0 a1 h0) fun r1 h2 => xm_rc [1] a0 h2 <| xm_cl (mf_X1_at a0 a2 h2) fun r3 h4 => xm_gR [3] 5 r3 h4 fun x5 => xm_cl (mf_J22_valueOf a1 h4) fun r6 h7 => xm_rc [6] x5 h7 <| xm_cl (mf_J2_add x5 r6 h7) fun r8 h9 => xm_rc [1] a0 h9 <| xm_cl (mf_X1_at a0 a1 h9) fun r10 h11 => xm_pV [3] 4 r10 (.int a2) h11 fun h12 => some ((), h12)
set_option maxHeartbeats 1000000 in
theorem wk_X1_puts {l : Launch} {D : va_G} {base : Nat} {a0 : Option Nat} {a1 : Int32} {a2 : Int32} {h0 : xk_H} {r : Unit} {h' : xk_H} (E : mf_X1_puts a0 a1 a2 h0 = some (r, h')) : xk_Ok l D base yX1_puts cX1_puts 3 none 8 212 [va_rf a0, .int a1, .int a2] h0 none h' := by
  refine xk_ofX RX1 "puts" xq_X1_puts rfl rfl (Nat.le_of_ble_eq_true rfl) ⟨xk_crf _, ⟨rfl, ⟨rfl, trivial⟩⟩⟩ (fun Γ el eD eb C Z => ?_)
  rw [mf_X1_puts] at E
  show xk_X Γ 0 [(0, va_rf a0), (1, .int a1), (2, .int a2)] [] h0
  refine xr_aload_n 0 C rfl rfl dX1_puts_0 ?_
  refine xr_iload_n 1 C rfl rfl dX1_puts_1 ?_
  refine xr_V (v := a0) [.int a1] [] (fun _ => none) (fun _ => []) C E xi_1_SlatCratesYard (fun r h' e => wk_X1_lifts e) q1007 q1009 qs10 q79 q1010 xh_SlatCrates_Yard xd_X1_lifts (by decide) (by decide) trivial (Nat.le_of_ble_eq_true rfl) rfl (fun _ => rfl) dX1_puts_2 (fun r1 h2 E => ?_)
  refine xr_aload_n 0 C rfl rfl dX1_puts_5 ?_
  refine xr_iload_n 2 C rfl rfl dX1_puts_6 ?_
  refine xr_V (v := a0) [.int a2] [] (fun r => some (va_rf r)) (fun r => va_rf r :: []) C E xi_1_SlatCratesYard (fun r h' e => wk_X1_at e) q921 q922 q923 q79 q924 xh_SlatCrates_Yard xd_X1_at (by decide) (by decide) trivial (Nat.le_of_ble_eq_true rfl) rfl (fun _ => rfl) dX1_puts_7 (fun r3 h4 E => ?_)
  refine xr_gR C E xf_X1_66 dX1_puts_10 (fun x5 E => ?_)
  refine xr_iload_n 1 C rfl rfl dX1_puts_13 ?_
  refine xr_S [.int a1] [va_rf x5] (fun r => some (va_rf r)) (fun r => va_rf r :: [va_rf x5]) C E (fun r h' e => wk_J22_valueOf e) q930 q931 q105 q932 xh_java_lang_Integer xd_J22_valueOf (by decide) (by decide) ⟨xk_crf _, trivial⟩ (Nat.le_of_ble_eq_true rfl) rfl (fun _ => rfl) dX1_puts_14 (fun r6 h7 E => ?_)
  refine xr_V (v := x5) [va_rf r6] [] (fun r => some (.int (xk_b2 r))) (fun r => .int (xk_b2 r) :: []) C E xi_6_ArrayList (fun r h' e => wk_J2_add e) q857 q858 q859 q82 q860 xh_java_util_ArrayList xd_J2_add (by decide) (by decide) trivial (Nat.le_of_ble_eq_true rfl) rfl (fun _ => rfl) dX1_puts_17 (fun r8 h9 E => ?_)
  refine xr_pop C rfl dX1_puts_20 ?_
  refine xr_aload_n 0 C rfl rfl dX1_puts_21 ?_
  refine xr_iload_n 1 C rfl rfl dX1_puts_22 ?_
  refine xr_V (v := a0) [.int a1] [] (fun r => some (va_rf r)) (fun r => va_rf r :: []) C E xi_1_SlatCratesYard (fun r h' e => wk_X1_at e) q921 q922 q923 q79 q924 xh_SlatCrates_Yard xd_X1_at (by decide) (by decide) trivial (Nat.le_of_ble_eq_true rfl) rfl (fun _ => rfl) dX1_puts_23 (fun r10 h11 E => ?_)
  refine xr_iload_n 2 C rfl rfl dX1_puts_26 ?_
  refine xr_pI C E xf_X1_59 xp_X1_59 dX1_puts_27 (fun h12 E => ?_)
  exact xr_vret C Z E dX1_puts_30
def mf_X1_placeInPile (a0 : Option Nat) (a1 : Int32) (h0 : xk_H) : Option (Int32 × xk_H) :=
  xm_rc [1] a0 h0 <| xm_cl (mf_X1_isOnGround a0 a1 h0) fun r1 h2 => if xk_b2 r1 = 0 then (xm_rc [1] a0 h2 <| xm_cl (mf_X1_at a0 a1 h2) fun r3 h4 => xm_gI [3] 4 r3 h4 fun x5 => xm_rc [1] a0 h4 <| xm_cl (mf_X1_at a0 x5 h4) fun r6 h7 => xm_gR [3] 5 r6 h7 fun x8 => xm_cl (mf_J22_valueOf a1 h7) fun r9 h10 => xm_rc [6] x8 h10 <| xm_cl (mf_J2_indexOf x8 r9 h10) fun r11 h12 => some (r11, h12)) else (some ((0 : Int32), h2))
set_option maxHeartbeats 1000000 in
theorem wk_X1_placeInPile {l : Launch} {D : va_G} {base : Nat} {a0 : Option Nat} {a1 : Int32} {h0 : xk_H} {r : Int32} {h' : xk_H} (E : mf_X1_placeInPile a0 a1 h0 = some (r, h')) : xk_Ok l D base yX1_placeInPile cX1_placeInPile 2 (Option.some FieldType.int) 6 166 [va_rf a0, .int a1] h0 (some (.int r)) h' := by
  refine xk_ofX RX1 "placeInPile" xq_X1_placeInPile rfl rfl (Nat.le_of_ble_eq_true rfl) ⟨xk_crf _, ⟨rfl, trivial⟩⟩ (fun Γ el eD eb C Z => ?_)
  rw [mf_X1_placeInPile] at E
  show xk_X Γ 0 [(0, va_rf a0), (1, .int a1)] [] h0
  refine xr_aload_n 0 C rfl rfl dX1_placeInPile_0 ?_
  refine xr_iload_n 1 C rfl rfl dX1_placeInPile_1 ?_
  refine xr_V (v := a0) [.int a1] [] (fun r => some (.int (xk_b2 r))) (fun r => .int (xk_b2 r) :: []) C E xi_1_SlatCratesYard (fun r h' e => wk_X1_isOnGround e) q917 q918 q919 q79 q920 xh_SlatCrates_Yard xd_X1_isOnGround (by decide) (by decide) trivial (Nat.le_of_ble_eq_true rfl) rfl (fun _ => rfl) dX1_placeInPile_2 (fun r1 h2 E => ?_)
  refine xr_if_eq 12 C E dX1_placeInPile_5 (by decide) (fun E => ?_) (fun E => ?_)
  · refine xr_aload_n 0 C rfl rfl dX1_placeInPile_12 ?_
    refine xr_aload_n 0 C rfl rfl dX1_placeInPile_13 ?_
    refine xr_iload_n 1 C rfl rfl dX1_placeInPile_14 ?_
    refine xr_V (v := a0) [.int a1] [va_rf a0] (fun r => some (va_rf r)) (fun r => va_rf r :: [va_rf a0]) C E xi_1_SlatCratesYard (fun r h' e => wk_X1_at e) q921 q922 q923 q79 q924 xh_SlatCrates_Yard xd_X1_at (by decide) (by decide) ⟨xk_crf _, trivial⟩ (Nat.le_of_ble_eq_true rfl) rfl (fun _ => rfl) dX1_placeInPile_15 (fun r3 h4 E => ?_)
    refine xr_gI C E xf_X1_59 dX1_placeInPile_18 (fun x5 E => ?_)
    refine xr_V (v := a0) [.int x5] [] (fun r => some (va_rf r)) (fun r => va_rf r :: []) C E xi_1_SlatCratesYard (fun r h' e => wk_X1_at e) q921 q922 q923 q79 q924 xh_SlatCrates_Yard xd_X1_at (by decide) (by decide) trivial (Nat.le_of_ble_eq_true rfl) rfl (fun _ => rfl) dX1_placeInPile_21 (fun r6 h7 E => ?_)
    refine xr_gR C E xf_X1_66 dX1_placeInPile_24 (fun x8 E => ?_)
    refine xr_iload_n 1 C rfl rfl dX1_placeInPile_27 ?_
    refine xr_S [.int a1] [va_rf x8] (fun r => some (va_rf r)) (fun r => va_rf r :: [va_rf x8]) C E (fun r h' e => wk_J22_valueOf e) q930 q931 q105 q932 xh_java_lang_Integer xd_J22_valueOf (by decide) (by decide) ⟨xk_crf _, trivial⟩ (Nat.le_of_ble_eq_true rfl) rfl (fun _ => rfl) dX1_placeInPile_28 (fun r9 h10 E => ?_)
    refine xr_V (v := x8) [va_rf r9] [] (fun r => some (.int r)) (fun r => .int r :: []) C E xi_6_ArrayList (fun r h' e => wk_J2_indexOf e) q950 q951 q952 q82 q953 xh_java_util_ArrayList xd_J2_indexOf (by decide) (by decide) trivial (Nat.le_of_ble_eq_true rfl) rfl (fun _ => rfl) dX1_placeInPile_31 (fun r11 h12 E => ?_)
    exact xr_iret C Z E dX1_placeInPile_34
  · refine xr_iconst (0) C (by decide) dX1_placeInPile_8 ?_
    refine xr_goto 34 C dX1_placeInPile_9 (by decide) ?_
    exact xr_iret C Z E dX1_placeInPile_34
def mf_X1_above (a0 : Option Nat) (a1 : Int32) (h0 : xk_H) : Option (Int32 × xk_H) :=
  xm_rc [1] a0 h0 <| xm_cl (mf_X1_isOnGround a0 a1 h0) fun r1 h2 => if xk_b2 r1 = 0 then (xm_rc [1] a0 h2 <| xm_cl (mf_X1_at a0 a1 h2) fun r3 h4 => xm_gI [3] 4 r3 h4 fun x5 => xm_rc [1] a0 h4 <| xm_cl (mf_X1_at a0 x5 h4) fun r6 h7 => xm_gR [3] 5 r6 h7 fun x8 => xm_rc [6] x8 h7 <| xm_cl (mf_J2_size x8 h7) fun r9 h10 => xm_rc [1] a0 h10 <| xm_cl (mf_X1_placeInPile a0 a1 h10) fun r11 h12 => some (((r9 - (1 : Int32)) - r11), h12)) else (some ((0 : Int32), h2))
set_option maxHeartbeats 1000000 in
theorem wk_X1_above {l : Launch} {D : va_G} {base : Nat} {a0 : Option Nat} {a1 : Int32} {h0 : xk_H} {r : Int32} {h' : xk_H} (E : mf_X1_above a0 a1 h0 = some (r, h')) : xk_Ok l D base yX1_above cX1_above 2 (Option.some FieldType.int) 7 187 [va_rf a0, .int a1] h0 (some (.int r)) h' := by
  refine xk_ofX RX1 "above" xq_X1_above rfl rfl (Nat.le_of_ble_eq_true rfl) ⟨xk_crf _, ⟨rfl, trivial⟩⟩ (fun Γ el eD eb C Z => ?_)
  rw [mf_X1_above] at E
  show xk_X Γ 0 [(0, va_rf a0), (1, .int a1)] [] h0
  refine xr_aload_n 0 C rfl rfl dX1_above_0 ?_
  refine xr_iload_n 1 C rfl rfl dX1_above_1 ?_
  refine xr_V (v := a0) [.int a1] [] (fun r => some (.int (xk_b2 r))) (fun r => .int (xk_b2 r) :: []) C E xi_1_SlatCratesYard (fun r h' e => wk_X1_isOnGround e) q917 q918 q919 q79 q920 xh_SlatCrates_Yard xd_X1_isOnGround (by decide) (by decide) trivial (Nat.le_of_ble_eq_true rfl) rfl (fun _ => rfl) dX1_above_2 (fun r1 h2 E => ?_)
  refine xr_if_eq 12 C E dX1_above_5 (by decide) (fun E => ?_) (fun E => ?_)
  · refine xr_aload_n 0 C rfl rfl dX1_above_12 ?_
    refine xr_aload_n 0 C rfl rfl dX1_above_13 ?_
    refine xr_iload_n 1 C rfl rfl dX1_above_14 ?_
    refine xr_V (v := a0) [.int a1] [va_rf a0] (fun r => some (va_rf r)) (fun r => va_rf r :: [va_rf a0]) C E xi_1_SlatCratesYard (fun r h' e => wk_X1_at e) q921 q922 q923 q79 q924 xh_SlatCrates_Yard xd_X1_at (by decide) (by decide) ⟨xk_crf _, trivial⟩ (Nat.le_of_ble_eq_true rfl) rfl (fun _ => rfl) dX1_above_15 (fun r3 h4 E => ?_)
    refine xr_gI C E xf_X1_59 dX1_above_18 (fun x5 E => ?_)
    refine xr_V (v := a0) [.int x5] [] (fun r => some (va_rf r)) (fun r => va_rf r :: []) C E xi_1_SlatCratesYard (fun r h' e => wk_X1_at e) q921 q922 q923 q79 q924 xh_SlatCrates_Yard xd_X1_at (by decide) (by decide) trivial (Nat.le_of_ble_eq_true rfl) rfl (fun _ => rfl) dX1_above_21 (fun r6 h7 E => ?_)
    refine xr_gR C E xf_X1_66 dX1_above_24 (fun x8 E => ?_)
    refine xr_V (v := x8) [] [] (fun r => some (.int r)) (fun r => .int r :: []) C E xi_6_ArrayList (fun r h' e => wk_J2_size e) q265 q266 q267 q82 q268 xh_java_util_ArrayList xd_J2_size (by decide) (by decide) trivial (Nat.le_of_ble_eq_true rfl) rfl (fun _ => rfl) dX1_above_27 (fun r9 h10 E => ?_)
    refine xr_iconst (1) C (by decide) dX1_above_30 ?_
    refine xr_isub C dX1_above_31 ?_
    refine xr_aload_n 0 C rfl rfl dX1_above_32 ?_
    refine xr_iload_n 1 C rfl rfl dX1_above_33 ?_
    refine xr_V (v := a0) [.int a1] [.int (r9 - (1 : Int32))] (fun r => some (.int r)) (fun r => .int r :: [.int (r9 - (1 : Int32))]) C E xi_1_SlatCratesYard (fun r h' e => wk_X1_placeInPile e) q926 q927 q928 q79 q929 xh_SlatCrates_Yard xd_X1_placeInPile (by decide) (by decide) ⟨rfl, trivial⟩ (Nat.le_of_ble_eq_true rfl) rfl (fun _ => rfl) dX1_above_34 (fun r11 h12 E => ?_)
    refine xr_isub C dX1_above_37 ?_
    exact xr_iret C Z E dX1_above_38
  · refine xr_iconst (0) C (by decide) dX1_above_8 ?_
    refine xr_goto 38 C dX1_above_9 (by decide) ?_
    exact xr_iret C Z E dX1_above_38
def mf_X1_isAround_L9 (kx31 : Int32 → xk_H → Option (Bool × xk_H)) (a0 : Option Nat) (a1 : Int32) : Nat → Int32 → xk_H → Option (Bool × xk_H)
  | 0, _, _ => none
  | n + 1, a3, h0 => if a3 = (-1 : Int32) then (kx31 a3 h0) else (if a3 = a1 then (kx31 a3 h0) else (xm_rc [1] a0 h0 <| xm_cl (mf_X1_at a0 a3 h0) fun r4 h5 => xm_gI [3] 4 r4 h5 fun x6 => mf_X1_isAround_L9 kx31 a0 a1 n x6 h5))
set_option maxHeartbeats 1000000 in
theorem wk_X1_isAround_L9 {Γ : xk_C} {r : Bool} {h' : xk_H} {kx31 : Int32 → xk_H → Option (Bool × xk_H)} {a0 : Option Nat} {a1 : Int32} (C : xk_Cx Γ RX1 cX1_isAround 4 (Option.some FieldType.boolean) "isAround" 5 145) (Z : xk_Z Γ (some (.int (xk_b2 r))) h') (hkx31 : ∀ (m3 : Int32) (g : xk_H), kx31 m3 g = some (r, h') → xk_X Γ 31 [(1, .int a1), (3, .int m3)] [] g) : ∀ (n : Nat) (a3 : Int32) (h0 : xk_H), mf_X1_isAround_L9 kx31 a0 a1 n a3 h0 = some (r, h') → xk_X Γ 9 [(0, va_rf a0), (1, .int a1), (3, .int a3)] [] h0 := by
  intro n
  induction n with
  | zero =>
    intro a3 h0 E
    rw [mf_X1_isAround_L9] at E
    cases E
  | succ n ih =>
    intro a3 h0 E
    have hkb9 : ∀ (m3 : Int32) (g : xk_H), mf_X1_isAround_L9 kx31 a0 a1 n m3 g = some (r, h') → xk_X Γ 9 [(0, va_rf a0), (1, .int a1), (3, .int m3)] [] g := ih
    rw [mf_X1_isAround_L9] at E
    refine xr_iload_n 2 C rfl rfl dX1_isAround_9 ?_
    refine xr_iconst (-1) C (by decide) dX1_isAround_10 ?_
    refine xr_icmp_eq 31 C E dX1_isAround_11 (by decide) (fun E => ?_) (fun E => ?_)
    · refine xr_sub [1, 2] rfl ?_
      exact hkx31 a3 h0 E
    · refine xr_iload_n 2 C rfl rfl dX1_isAround_14 ?_
      refine xr_iload_n 1 C rfl rfl dX1_isAround_15 ?_
      refine xr_icmp_eq 31 C E dX1_isAround_16 (by decide) (fun E => ?_) (fun E => ?_)
      · refine xr_sub [1, 2] rfl ?_
        exact hkx31 a3 h0 E
      · refine xr_aload_n 0 C rfl rfl dX1_isAround_19 ?_
        refine xr_iload_n 2 C rfl rfl dX1_isAround_20 ?_
        refine xr_V (v := a0) [.int a3] [] (fun r => some (va_rf r)) (fun r => va_rf r :: []) C E xi_1_SlatCratesYard (fun r h' e => wk_X1_at e) q921 q922 q923 q79 q924 xh_SlatCrates_Yard xd_X1_at (by decide) (by decide) trivial (Nat.le_of_ble_eq_true rfl) rfl (fun _ => rfl) dX1_isAround_21 (fun r4 h5 E => ?_)
        refine xr_gI C E xf_X1_59 dX1_isAround_24 (fun x6 E => ?_)
        refine xr_istore_n (L2 := [(3, .int x6), (0, va_rf a0), (1, .int a1)]) C rfl rfl dX1_isAround_27 (by decide) ?_
        refine xr_goto 9 C dX1_isAround_28 (by decide) ?_
        refine xr_sub [1, 2, 0] rfl ?_
        exact hkb9 x6 h5 E
def mf_X1_isAround_J31 (a1 : Int32) (a3 : Int32) (h0 : xk_H) : Option (Bool × xk_H) :=
  if a3 = a1 then (some (true, h0)) else (some (false, h0))
set_option maxHeartbeats 1000000 in
theorem wk_X1_isAround_J31 {Γ : xk_C} {r : Bool} {h' : xk_H} {a1 : Int32} {a3 : Int32} {h0 : xk_H} (C : xk_Cx Γ RX1 cX1_isAround 4 (Option.some FieldType.boolean) "isAround" 5 145) (Z : xk_Z Γ (some (.int (xk_b2 r))) h') (E : mf_X1_isAround_J31 a1 a3 h0 = some (r, h')) : xk_X Γ 31 [(1, .int a1), (3, .int a3)] [] h0 := by
  rw [mf_X1_isAround_J31] at E
  refine xr_iload_n 1 C rfl rfl dX1_isAround_31 ?_
  refine xr_iload_n 0 C rfl rfl dX1_isAround_32 ?_
  refine xr_icmp_ne 40 C E dX1_isAround_33 (by decide) (fun E => ?_) (fun E => ?_)
  · refine xr_iconst (0) C (by decide) dX1_isAround_40 ?_
    exact xr_bret (b := false) C Z E dX1_isAround_41
  · refine xr_iconst (1) C (by decide) dX1_isAround_36 ?_
    refine xr_goto 41 C dX1_isAround_37 (by decide) ?_
    exact xr_bret (b := true) C Z E dX1_isAround_41
def mf_X1_isAround (a0 : Option Nat) (a1 : Int32) (a2 : Int32) (h0 : xk_H) : Option (Bool × xk_H) :=
  xm_rc [1] a0 h0 <| xm_cl (mf_X1_at a0 a2 h0) fun r1 h2 => xm_gI [3] 4 r1 h2 fun x3 => mf_X1_isAround_L9 (fun m7 h8 => mf_X1_isAround_J31 a1 m7 h8) a0 a1 xk_fu x3 h2
set_option maxHeartbeats 1000000 in
theorem wk_X1_isAround {l : Launch} {D : va_G} {base : Nat} {a0 : Option Nat} {a1 : Int32} {a2 : Int32} {h0 : xk_H} {r : Bool} {h' : xk_H} (E : mf_X1_isAround a0 a1 a2 h0 = some (r, h')) : xk_Ok l D base yX1_isAround cX1_isAround 4 (Option.some FieldType.boolean) 5 145 [va_rf a0, .int a1, .int a2] h0 (some (.int (xk_b2 r))) h' := by
  refine xk_ofX RX1 "isAround" xq_X1_isAround rfl rfl (Nat.le_of_ble_eq_true rfl) ⟨xk_crf _, ⟨rfl, ⟨rfl, trivial⟩⟩⟩ (fun Γ el eD eb C Z => ?_)
  rw [mf_X1_isAround] at E
  show xk_X Γ 0 [(0, va_rf a0), (1, .int a1), (2, .int a2)] [] h0
  refine xr_aload_n 0 C rfl rfl dX1_isAround_0 ?_
  refine xr_iload_n 2 C rfl rfl dX1_isAround_1 ?_
  refine xr_V (v := a0) [.int a2] [] (fun r => some (va_rf r)) (fun r => va_rf r :: []) C E xi_1_SlatCratesYard (fun r h' e => wk_X1_at e) q921 q922 q923 q79 q924 xh_SlatCrates_Yard xd_X1_at (by decide) (by decide) trivial (Nat.le_of_ble_eq_true rfl) rfl (fun _ => rfl) dX1_isAround_2 (fun r1 h2 E => ?_)
  refine xr_gI C E xf_X1_59 dX1_isAround_5 (fun x3 E => ?_)
  refine xr_istore_n (L2 := [(3, .int x3), (0, va_rf a0), (1, .int a1), (2, .int a2)]) C rfl rfl dX1_isAround_8 (by decide) ?_
  refine xr_sub [1, 2, 0] rfl ?_
  refine wk_X1_isAround_L9 (a0 := a0) (a1 := a1) C Z (fun m7 h8 E => ?_) xk_fu x3 h2 E
  · exact wk_X1_isAround_J31 C Z E
def mf_X1_left_L21 (a0 : Option Nat) (a3 : Option Nat) : Nat → Int32 → xk_H → Option (Int32 × xk_H)
  | 0, _, _ => none
  | n + 1, a2, h0 => xm_rc [9] a3 h0 <| xm_cl (mf_J9_hasNext a3 h0) fun r9 h10 => if xk_b2 r9 = 0 then (some (a2, h10)) else (xm_rc [9] a3 h10 <| xm_cl (mf_J9_next a3 h10) fun r11 h12 => xm_cast [211] r11 h12 <| xm_rc [211] r11 h12 <| xm_cl (mf_J22_intValue r11 h12) fun r13 h14 => xm_rc [1] a0 h14 <| xm_cl (mf_X1_at a0 r13 h14) fun r15 h16 => xm_gI [3] 0 r15 h16 fun x17 => mf_X1_left_L21 a0 a3 n (a2 - x17) h16)
set_option maxHeartbeats 1000000 in
theorem wk_X1_left_L21 {Γ : xk_C} {r : Int32} {h' : xk_H} {a0 : Option Nat} {a3 : Option Nat} (C : xk_Cx Γ RX1 cX1_left 5 (Option.some FieldType.int) "left" 5 145) (Z : xk_Z Γ (some (.int r)) h') : ∀ (n : Nat) (a2 : Int32) (h0 : xk_H), mf_X1_left_L21 a0 a3 n a2 h0 = some (r, h') → xk_X Γ 21 [(0, va_rf a0), (2, .int a2), (3, va_rf a3)] [] h0 := by
  intro n
  induction n with
  | zero =>
    intro a2 h0 E
    rw [mf_X1_left_L21] at E
    cases E
  | succ n ih =>
    intro a2 h0 E
    have hkb21 : ∀ (m2 : Int32) (g : xk_H), mf_X1_left_L21 a0 a3 n m2 g = some (r, h') → xk_X Γ 21 [(0, va_rf a0), (2, .int m2), (3, va_rf a3)] [] g := ih
    rw [mf_X1_left_L21] at E
    refine xr_aload_n 2 C rfl rfl dX1_left_21 ?_
    refine xr_F (v := a3) [] [] (fun r => some (.int (xk_b2 r))) (fun r => .int (xk_b2 r) :: []) C E xi_9_ArrayListItr (fun r h' e => wk_J9_hasNext e) q318 (List.mem_of_getElem? (i := 0) rfl) q335 q333 q90 q337 xh_java_util_Iterator xd_java_util_Iterator_hasNext__Z (by decide) (by decide) trivial (Nat.le_of_ble_eq_true rfl) rfl (fun _ => rfl) dX1_left_22 (fun r9 h10 E => ?_)
    refine xr_if_eq 59 C E dX1_left_27 (by decide) (fun E => ?_) (fun E => ?_)
    · refine xr_iload_n 1 C rfl rfl dX1_left_59 ?_
      exact xr_iret C Z E dX1_left_60
    · refine xr_aload_n 2 C rfl rfl dX1_left_30 ?_
      refine xr_F (v := a3) [] [] (fun r => some (va_rf r)) (fun r => va_rf r :: []) C E xi_9_ArrayListItr (fun r h' e => wk_J9_next e) q357 (List.mem_of_getElem? (i := 1) rfl) q698 q696 q90 q700 xh_java_util_Iterator xd_java_util_Iterator_next__Ljava_lang_Object_ (by decide) (by decide) trivial (Nat.le_of_ble_eq_true rfl) rfl (fun _ => rfl) dX1_left_31 (fun r11 h12 E => ?_)
      refine xr_cast C E xi_211_Integer q997 dX1_left_36 (fun E => ?_)
      refine xr_V (v := r11) [] [] (fun r => some (.int r)) (fun r => .int r :: []) C E xi_211_Integer (fun r h' e => wk_J22_intValue e) q998 q975 q976 q105 q977 xh_java_lang_Integer xd_J22_intValue (by decide) (by decide) trivial (Nat.le_of_ble_eq_true rfl) rfl (fun _ => rfl) dX1_left_39 (fun r13 h14 E => ?_)
      refine xr_istore (L2 := [(4, .int r13), (0, va_rf a0), (2, .int a2), (3, va_rf a3)]) C rfl dX1_left_42 (by decide) ?_
      refine xr_iload_n 2 C rfl rfl dX1_left_44 ?_
      refine xr_aload_n 1 C rfl rfl dX1_left_45 ?_
      refine xr_iload 0 C rfl dX1_left_46 ?_
      refine xr_V (v := a0) [.int r13] [.int a2] (fun r => some (va_rf r)) (fun r => va_rf r :: [.int a2]) C E xi_1_SlatCratesYard (fun r h' e => wk_X1_at e) q921 q922 q923 q79 q924 xh_SlatCrates_Yard xd_X1_at (by decide) (by decide) ⟨rfl, trivial⟩ (Nat.le_of_ble_eq_true rfl) rfl (fun _ => rfl) dX1_left_48 (fun r15 h16 E => ?_)
      refine xr_gI C E xf_X1_85 dX1_left_51 (fun x17 E => ?_)
      refine xr_isub C dX1_left_54 ?_
      refine xr_istore_n (L2 := [(2, .int (a2 - x17)), (4, .int r13), (0, va_rf a0), (3, va_rf a3)]) C rfl rfl dX1_left_55 (by decide) ?_
      refine xr_goto 21 C dX1_left_56 (by decide) ?_
      refine xr_sub [2, 0, 3] rfl ?_
      exact hkb21 (a2 - x17) h16 E
def mf_X1_left (a0 : Option Nat) (a1 : Int32) (h0 : xk_H) : Option (Int32 × xk_H) :=
  xm_rc [1] a0 h0 <| xm_cl (mf_X1_at a0 a1 h0) fun r1 h2 => xm_gI [3] 1 r1 h2 fun x3 => xm_rc [1] a0 h2 <| xm_cl (mf_X1_at a0 a1 h2) fun r4 h5 => xm_gR [3] 5 r4 h5 fun x6 => xm_rc [6] x6 h5 <| xm_cl (mf_J2_iterator x6 h5) fun r7 h8 => mf_X1_left_L21 a0 r7 xk_fu x3 h8
set_option maxHeartbeats 1000000 in
theorem wk_X1_left {l : Launch} {D : va_G} {base : Nat} {a0 : Option Nat} {a1 : Int32} {h0 : xk_H} {r : Int32} {h' : xk_H} (E : mf_X1_left a0 a1 h0 = some (r, h')) : xk_Ok l D base yX1_left cX1_left 5 (Option.some FieldType.int) 5 145 [va_rf a0, .int a1] h0 (some (.int r)) h' := by
  refine xk_ofX RX1 "left" xq_X1_left rfl rfl (Nat.le_of_ble_eq_true rfl) ⟨xk_crf _, ⟨rfl, trivial⟩⟩ (fun Γ el eD eb C Z => ?_)
  rw [mf_X1_left] at E
  show xk_X Γ 0 [(0, va_rf a0), (1, .int a1)] [] h0
  refine xr_aload_n 0 C rfl rfl dX1_left_0 ?_
  refine xr_iload_n 1 C rfl rfl dX1_left_1 ?_
  refine xr_V (v := a0) [.int a1] [] (fun r => some (va_rf r)) (fun r => va_rf r :: []) C E xi_1_SlatCratesYard (fun r h' e => wk_X1_at e) q921 q922 q923 q79 q924 xh_SlatCrates_Yard xd_X1_at (by decide) (by decide) trivial (Nat.le_of_ble_eq_true rfl) rfl (fun _ => rfl) dX1_left_2 (fun r1 h2 E => ?_)
  refine xr_gI C E xf_X1_77 dX1_left_5 (fun x3 E => ?_)
  refine xr_istore_n (L2 := [(2, .int x3), (0, va_rf a0), (1, .int a1)]) C rfl rfl dX1_left_8 (by decide) ?_
  refine xr_aload_n 1 C rfl rfl dX1_left_9 ?_
  refine xr_iload_n 2 C rfl rfl dX1_left_10 ?_
  refine xr_V (v := a0) [.int a1] [] (fun r => some (va_rf r)) (fun r => va_rf r :: []) C E xi_1_SlatCratesYard (fun r h' e => wk_X1_at e) q921 q922 q923 q79 q924 xh_SlatCrates_Yard xd_X1_at (by decide) (by decide) trivial (Nat.le_of_ble_eq_true rfl) rfl (fun _ => rfl) dX1_left_11 (fun r4 h5 E => ?_)
  refine xr_gR C E xf_X1_66 dX1_left_14 (fun x6 E => ?_)
  refine xr_V (v := x6) [] [] (fun r => some (va_rf r)) (fun r => va_rf r :: []) C E xi_6_ArrayList (fun r h' e => wk_J2_iterator e) q291 q292 q293 q82 q294 xh_java_util_ArrayList xd_J2_iterator (by decide) (by decide) trivial (Nat.le_of_ble_eq_true rfl) rfl (fun _ => rfl) dX1_left_17 (fun r7 h8 E => ?_)
  refine xr_astore_n (L2 := [(3, va_rf r7), (2, .int x3), (0, va_rf a0), (1, .int a1)]) C rfl rfl dX1_left_20 (by decide) ?_
  refine xr_sub [2, 1, 0] rfl ?_
  exact wk_X1_left_L21 (a0 := a0) (a3 := r7) C Z xk_fu x3 h8 E
def mf_X1_whyNotPut_J55 (a0 : Option Nat) (a1 : Int32) (s0 : Int32) (s1 : Int32) (h0 : xk_H) : Option (Int32 × xk_H) :=
  xm_rc [1] a0 h0 <| xm_cl (mf_X1_at a0 a1 h0) fun r10 h11 => xm_gI [3] 0 r10 h11 fun x12 => if x12 ≤ (s1 + s0) then (some ((0 : Int32), h11)) else (some ((3 : Int32), h11))
set_option maxHeartbeats 1000000 in
theorem wk_X1_whyNotPut_J55 {Γ : xk_C} {r : Int32} {h' : xk_H} {a0 : Option Nat} {a1 : Int32} {s0 : Int32} {s1 : Int32} {h0 : xk_H} (C : xk_Cx Γ RX1 cX1_whyNotPut 4 (Option.some FieldType.int) "whyNotPut" 8 208) (Z : xk_Z Γ (some (.int r)) h') (E : mf_X1_whyNotPut_J55 a0 a1 s0 s1 h0 = some (r, h')) : xk_X Γ 55 [(0, va_rf a0), (1, .int a1)] [.int s0, .int s1] h0 := by
  rw [mf_X1_whyNotPut_J55] at E
  refine xr_iadd C dX1_whyNotPut_55 ?_
  refine xr_istore_n (L2 := [(3, .int (s1 + s0)), (0, va_rf a0), (1, .int a1)]) C rfl rfl dX1_whyNotPut_56 (by decide) ?_
  refine xr_iload_n 0 C rfl rfl dX1_whyNotPut_57 ?_
  refine xr_aload_n 1 C rfl rfl dX1_whyNotPut_58 ?_
  refine xr_iload_n 2 C rfl rfl dX1_whyNotPut_59 ?_
  refine xr_V (v := a0) [.int a1] [.int (s1 + s0)] (fun r => some (va_rf r)) (fun r => va_rf r :: [.int (s1 + s0)]) C E xi_1_SlatCratesYard (fun r h' e => wk_X1_at e) q921 q922 q923 q79 q924 xh_SlatCrates_Yard xd_X1_at (by decide) (by decide) ⟨rfl, trivial⟩ (Nat.le_of_ble_eq_true rfl) rfl (fun _ => rfl) dX1_whyNotPut_60 (fun r10 h11 E => ?_)
  refine xr_gI C E xf_X1_85 dX1_whyNotPut_63 (fun x12 E => ?_)
  refine xr_icmp_ge 73 C E dX1_whyNotPut_66 (by decide) (fun E => ?_) (fun E => ?_)
  · refine xr_iconst (0) C (by decide) dX1_whyNotPut_73 ?_
    exact xr_iret C Z E dX1_whyNotPut_74
  · refine xr_iconst (3) C (by decide) dX1_whyNotPut_69 ?_
    refine xr_goto 74 C dX1_whyNotPut_70 (by decide) ?_
    exact xr_iret C Z E dX1_whyNotPut_74
def mf_X1_whyNotPut (a0 : Option Nat) (a1 : Int32) (a2 : Int32) (h0 : xk_H) : Option (Int32 × xk_H) :=
  xm_rc [1] a0 h0 <| xm_cl (mf_X1_above a0 a1 h0) fun r1 h2 => if r1 ≤ 0 then (if a1 = a2 then (some ((2 : Int32), h2)) else (xm_rc [1] a0 h2 <| xm_cl (mf_X1_isAround a0 a1 a2 h2) fun r3 h4 => if xk_b2 r3 = 0 then (xm_rc [1] a0 h4 <| xm_cl (mf_X1_left a0 a2 h4) fun r5 h6 => xm_rc [1] a0 h6 <| xm_cl (mf_X1_at a0 a1 h6) fun r7 h8 => xm_gI [3] 4 r7 h8 fun x9 => if x9 = a2 then (xm_rc [1] a0 h8 <| xm_cl (mf_X1_at a0 a1 h8) fun r13 h14 => xm_gI [3] 0 r13 h14 fun x15 => mf_X1_whyNotPut_J55 a0 a1 x15 r5 h14) else (mf_X1_whyNotPut_J55 a0 a1 (0 : Int32) r5 h8)) else (some ((2 : Int32), h4)))) else (some ((1 : Int32), h2))
set_option maxHeartbeats 1000000 in
theorem wk_X1_whyNotPut {l : Launch} {D : va_G} {base : Nat} {a0 : Option Nat} {a1 : Int32} {a2 : Int32} {h0 : xk_H} {r : Int32} {h' : xk_H} (E : mf_X1_whyNotPut a0 a1 a2 h0 = some (r, h')) : xk_Ok l D base yX1_whyNotPut cX1_whyNotPut 4 (Option.some FieldType.int) 8 208 [va_rf a0, .int a1, .int a2] h0 (some (.int r)) h' := by
  refine xk_ofX RX1 "whyNotPut" xq_X1_whyNotPut rfl rfl (Nat.le_of_ble_eq_true rfl) ⟨xk_crf _, ⟨rfl, ⟨rfl, trivial⟩⟩⟩ (fun Γ el eD eb C Z => ?_)
  rw [mf_X1_whyNotPut] at E
  show xk_X Γ 0 [(0, va_rf a0), (1, .int a1), (2, .int a2)] [] h0
  refine xr_aload_n 0 C rfl rfl dX1_whyNotPut_0 ?_
  refine xr_iload_n 1 C rfl rfl dX1_whyNotPut_1 ?_
  refine xr_V (v := a0) [.int a1] [] (fun r => some (.int r)) (fun r => .int r :: []) C E xi_1_SlatCratesYard (fun r h' e => wk_X1_above e) q913 q914 q915 q79 q916 xh_SlatCrates_Yard xd_X1_above (by decide) (by decide) trivial (Nat.le_of_ble_eq_true rfl) rfl (fun _ => rfl) dX1_whyNotPut_2 (fun r1 h2 E => ?_)
  refine xr_if_le 10 C E dX1_whyNotPut_5 (by decide) (fun E => ?_) (fun E => ?_)
  · refine xr_iload_n 1 C rfl rfl dX1_whyNotPut_10 ?_
    refine xr_iload_n 2 C rfl rfl dX1_whyNotPut_11 ?_
    refine xr_icmp_eq 24 C E dX1_whyNotPut_12 (by decide) (fun E => ?_) (fun E => ?_)
    · refine xr_iconst (2) C (by decide) dX1_whyNotPut_24 ?_
      exact xr_iret C Z E dX1_whyNotPut_25
    · refine xr_aload_n 0 C rfl rfl dX1_whyNotPut_15 ?_
      refine xr_iload_n 1 C rfl rfl dX1_whyNotPut_16 ?_
      refine xr_iload_n 2 C rfl rfl dX1_whyNotPut_17 ?_
      refine xr_V (v := a0) [.int a1, .int a2] [] (fun r => some (.int (xk_b2 r))) (fun r => .int (xk_b2 r) :: []) C E xi_1_SlatCratesYard (fun r h' e => wk_X1_isAround e) q989 q990 q991 q79 q992 xh_SlatCrates_Yard xd_X1_isAround (by decide) (by decide) trivial (Nat.le_of_ble_eq_true rfl) rfl (fun _ => rfl) dX1_whyNotPut_18 (fun r3 h4 E => ?_)
      refine xr_if_eq 26 C E dX1_whyNotPut_21 (by decide) (fun E => ?_) (fun E => ?_)
      · refine xr_aload_n 0 C rfl rfl dX1_whyNotPut_26 ?_
        refine xr_iload_n 2 C rfl rfl dX1_whyNotPut_27 ?_
        refine xr_V (v := a0) [.int a2] [] (fun r => some (.int r)) (fun r => .int r :: []) C E xi_1_SlatCratesYard (fun r h' e => wk_X1_left e) q993 q994 q995 q79 q996 xh_SlatCrates_Yard xd_X1_left (by decide) (by decide) trivial (Nat.le_of_ble_eq_true rfl) rfl (fun _ => rfl) dX1_whyNotPut_28 (fun r5 h6 E => ?_)
        refine xr_aload_n 0 C rfl rfl dX1_whyNotPut_31 ?_
        refine xr_iload_n 1 C rfl rfl dX1_whyNotPut_32 ?_
        refine xr_V (v := a0) [.int a1] [.int r5] (fun r => some (va_rf r)) (fun r => va_rf r :: [.int r5]) C E xi_1_SlatCratesYard (fun r h' e => wk_X1_at e) q921 q922 q923 q79 q924 xh_SlatCrates_Yard xd_X1_at (by decide) (by decide) ⟨rfl, trivial⟩ (Nat.le_of_ble_eq_true rfl) rfl (fun _ => rfl) dX1_whyNotPut_33 (fun r7 h8 E => ?_)
        refine xr_gI C E xf_X1_59 dX1_whyNotPut_36 (fun x9 E => ?_)
        refine xr_iload_n 2 C rfl rfl dX1_whyNotPut_39 ?_
        refine xr_icmp_ne 54 C E dX1_whyNotPut_40 (by decide) (fun E => ?_) (fun E => ?_)
        · refine xr_iconst (0) C (by decide) dX1_whyNotPut_54 ?_
          refine xr_sub [0, 1] rfl ?_
          exact wk_X1_whyNotPut_J55 C Z E
        · refine xr_aload_n 0 C rfl rfl dX1_whyNotPut_43 ?_
          refine xr_iload_n 1 C rfl rfl dX1_whyNotPut_44 ?_
          refine xr_V (v := a0) [.int a1] [.int r5] (fun r => some (va_rf r)) (fun r => va_rf r :: [.int r5]) C E xi_1_SlatCratesYard (fun r h' e => wk_X1_at e) q921 q922 q923 q79 q924 xh_SlatCrates_Yard xd_X1_at (by decide) (by decide) ⟨rfl, trivial⟩ (Nat.le_of_ble_eq_true rfl) rfl (fun _ => rfl) dX1_whyNotPut_45 (fun r13 h14 E => ?_)
          refine xr_gI C E xf_X1_85 dX1_whyNotPut_48 (fun x15 E => ?_)
          refine xr_goto 55 C dX1_whyNotPut_51 (by decide) ?_
          refine xr_sub [0, 1] rfl ?_
          exact wk_X1_whyNotPut_J55 C Z E
      · refine xr_iconst (2) C (by decide) dX1_whyNotPut_24 ?_
        exact xr_iret C Z E dX1_whyNotPut_25
  · refine xr_iconst (1) C (by decide) dX1_whyNotPut_8 ?_
    exact xr_iret C Z E dX1_whyNotPut_9
def mf_X1_whyNotGround (a0 : Option Nat) (a1 : Int32) (h0 : xk_H) : Option (Int32 × xk_H) :=
  xm_rc [1] a0 h0 <| xm_cl (mf_X1_above a0 a1 h0) fun r1 h2 => if r1 ≤ 0 then (xm_rc [1] a0 h2 <| xm_cl (mf_X1_isOnGround a0 a1 h2) fun r3 h4 => if xk_b2 r3 = 0 then (some ((0 : Int32), h4)) else (some ((4 : Int32), h4))) else (some ((1 : Int32), h2))
set_option maxHeartbeats 1000000 in
theorem wk_X1_whyNotGround {l : Launch} {D : va_G} {base : Nat} {a0 : Option Nat} {a1 : Int32} {h0 : xk_H} {r : Int32} {h' : xk_H} (E : mf_X1_whyNotGround a0 a1 h0 = some (r, h')) : xk_Ok l D base yX1_whyNotGround cX1_whyNotGround 2 (Option.some FieldType.int) 8 208 [va_rf a0, .int a1] h0 (some (.int r)) h' := by
  refine xk_ofX RX1 "whyNotGround" xq_X1_whyNotGround rfl rfl (Nat.le_of_ble_eq_true rfl) ⟨xk_crf _, ⟨rfl, trivial⟩⟩ (fun Γ el eD eb C Z => ?_)
  rw [mf_X1_whyNotGround] at E
  show xk_X Γ 0 [(0, va_rf a0), (1, .int a1)] [] h0
  refine xr_aload_n 0 C rfl rfl dX1_whyNotGround_0 ?_
  refine xr_iload_n 1 C rfl rfl dX1_whyNotGround_1 ?_
  refine xr_V (v := a0) [.int a1] [] (fun r => some (.int r)) (fun r => .int r :: []) C E xi_1_SlatCratesYard (fun r h' e => wk_X1_above e) q913 q914 q915 q79 q916 xh_SlatCrates_Yard xd_X1_above (by decide) (by decide) trivial (Nat.le_of_ble_eq_true rfl) rfl (fun _ => rfl) dX1_whyNotGround_2 (fun r1 h2 E => ?_)
  refine xr_if_le 12 C E dX1_whyNotGround_5 (by decide) (fun E => ?_) (fun E => ?_)
  · refine xr_aload_n 0 C rfl rfl dX1_whyNotGround_12 ?_
    refine xr_iload_n 1 C rfl rfl dX1_whyNotGround_13 ?_
    refine xr_V (v := a0) [.int a1] [] (fun r => some (.int (xk_b2 r))) (fun r => .int (xk_b2 r) :: []) C E xi_1_SlatCratesYard (fun r h' e => wk_X1_isOnGround e) q917 q918 q919 q79 q920 xh_SlatCrates_Yard xd_X1_isOnGround (by decide) (by decide) trivial (Nat.le_of_ble_eq_true rfl) rfl (fun _ => rfl) dX1_whyNotGround_14 (fun r3 h4 E => ?_)
    refine xr_if_eq 24 C E dX1_whyNotGround_17 (by decide) (fun E => ?_) (fun E => ?_)
    · refine xr_iconst (0) C (by decide) dX1_whyNotGround_24 ?_
      exact xr_iret C Z E dX1_whyNotGround_25
    · refine xr_iconst (4) C (by decide) dX1_whyNotGround_20 ?_
      refine xr_goto 25 C dX1_whyNotGround_21 (by decide) ?_
      exact xr_iret C Z E dX1_whyNotGround_25
  · refine xr_iconst (1) C (by decide) dX1_whyNotGround_8 ?_
    refine xr_goto 25 C dX1_whyNotGround_9 (by decide) ?_
    exact xr_iret C Z E dX1_whyNotGround_25
def mf_X3_turns (a0 : Option Nat) (h0 : xk_H) : Option (Unit × xk_H) :=
  xm_gI [3] 2 a0 h0 fun x1 => xm_gI [3] 2 a0 h0 fun x2 => xm_pV [3] 2 a0 (.int (((x1 <<< ((1 : Int32) &&& 31)) ||| (x2 >>> ((3 : Int32) &&& 31))) &&& (15 : Int32))) h0 fun h3 => some ((), h3)
set_option maxHeartbeats 1000000 in
theorem wk_X3_turns {l : Launch} {D : va_G} {base : Nat} {a0 : Option Nat} {h0 : xk_H} {r : Unit} {h' : xk_H} (E : mf_X3_turns a0 h0 = some (r, h')) : xk_Ok l D base yX3_turns cX3_turns 1 none 1 60 [va_rf a0] h0 none h' := by
  refine xk_ofX RX3 "turns" xq_X3_turns rfl rfl (Nat.le_of_ble_eq_true rfl) ⟨xk_crf _, trivial⟩ (fun Γ el eD eb C Z => ?_)
  rw [mf_X3_turns] at E
  show xk_X Γ 0 [(0, va_rf a0)] [] h0
  refine xr_aload_n 0 C rfl rfl dX3_turns_0 ?_
  refine xr_aload_n 0 C rfl rfl dX3_turns_1 ?_
  refine xr_gI C E xf_X3_28 dX3_turns_2 (fun x1 E => ?_)
  refine xr_iconst (1) C (by decide) dX3_turns_5 ?_
  refine xr_ishl C dX3_turns_6 ?_
  refine xr_aload_n 0 C rfl rfl dX3_turns_7 ?_
  refine xr_gI C E xf_X3_28 dX3_turns_8 (fun x2 E => ?_)
  refine xr_iconst (3) C (by decide) dX3_turns_11 ?_
  refine xr_ishr C dX3_turns_12 ?_
  refine xr_ior C dX3_turns_13 ?_
  refine xr_bipush (15) C (by decide) dX3_turns_14 ?_
  refine xr_iand C dX3_turns_16 ?_
  refine xr_pI C E xf_X3_28 xp_X3_28 dX3_turns_17 (fun h3 E => ?_)
  exact xr_vret C Z E dX3_turns_20
def mf_X1_breaksUp_J138 (kb66 : Int32 → xk_H → Option (Unit × xk_H)) (a1 : Int32) (a2 : Option Nat) (a3 : Option Nat) (a4 : Int32) (s0 : Int32) (s1 : Int32) (s2 : Option Nat) (h0 : xk_H) : Option (Unit × xk_H) :=
  xm_cl (mf_J22_valueOf s0 h0) fun r30 h31 => xm_rc [6] s2 h31 <| xm_cl (mf_J2_set s2 s1 r30 h31) fun r32 h33 => kb66 (a4 + 1) h33
set_option maxHeartbeats 1000000 in
theorem wk_X1_breaksUp_J138 {Γ : xk_C} {r : Unit} {h' : xk_H} {kb66 : Int32 → xk_H → Option (Unit × xk_H)} {a1 : Int32} {a2 : Option Nat} {a3 : Option Nat} {a4 : Int32} {s0 : Int32} {s1 : Int32} {s2 : Option Nat} {h0 : xk_H} (C : xk_Cx Γ RX1 cX1_breaksUp 5 none "breaksUp" 7 188) (Z : xk_Z Γ none h') (hkb66 : ∀ (m4 : Int32) (g : xk_H), kb66 m4 g = some (r, h') → xk_X Γ 66 [(1, .int a1), (2, va_rf a2), (3, va_rf a3), (4, .int m4)] [] g) (E : mf_X1_breaksUp_J138 kb66 a1 a2 a3 a4 s0 s1 s2 h0 = some (r, h')) : xk_X Γ 138 [(1, .int a1), (2, va_rf a2), (3, va_rf a3), (4, .int a4)] [.int s0, .int s1, va_rf s2] h0 := by
  rw [mf_X1_breaksUp_J138] at E
  refine xr_S [.int s0] [.int s1, va_rf s2] (fun r => some (va_rf r)) (fun r => va_rf r :: [.int s1, va_rf s2]) C E (fun r h' e => wk_J22_valueOf e) q930 q931 q105 q932 xh_java_lang_Integer xd_J22_valueOf (by decide) (by decide) ⟨rfl, ⟨xk_crf _, trivial⟩⟩ (Nat.le_of_ble_eq_true rfl) rfl (fun _ => rfl) dX1_breaksUp_138 (fun r30 h31 E => ?_)
  refine xr_V (v := s2) [.int s1, va_rf r30] [] (fun r => some (va_rf r)) (fun r => va_rf r :: []) C E xi_6_ArrayList (fun r h' e => wk_J2_set e) q1057 q1058 q1059 q82 q1060 xh_java_util_ArrayList xd_J2_set (by decide) (by decide) trivial (Nat.le_of_ble_eq_true rfl) rfl (fun _ => rfl) dX1_breaksUp_141 (fun r32 h33 E => ?_)
  refine xr_pop C (xk_crf _) dX1_breaksUp_144 ?_
  refine xr_iinc (v := (a4 + 1)) (L2 := [(4, .int (a4 + 1)), (1, .int a1), (2, va_rf a2), (3, va_rf a3)]) 3 C rfl rfl rfl dX1_breaksUp_145 (by decide) ?_
  refine xr_goto 66 C dX1_breaksUp_148 (by decide) ?_
  refine xr_sub [1, 2, 3, 0] rfl ?_
  exact hkb66 (a4 + 1) h33 E
def mf_X1_breaksUp_L66 (kx151 : xk_H → Option (Unit × xk_H)) (a1 : Int32) (a2 : Option Nat) (a3 : Option Nat) : Nat → Int32 → xk_H → Option (Unit × xk_H)
  | 0, _, _ => none
  | n + 1, a4, h0 => xm_gR [3] 5 a3 h0 fun x16 => xm_rc [6] x16 h0 <| xm_cl (mf_J2_size x16 h0) fun r17 h18 => if r17 ≤ a4 then (kx151 h18) else (xm_gR [3] 5 a3 h18 fun x19 => xm_gR [3] 5 a3 h18 fun x20 => xm_rc [6] x20 h18 <| xm_cl (mf_J2_get x20 a4 h18) fun r21 h22 => xm_cast [211] r21 h22 <| xm_rc [211] r21 h22 <| xm_cl (mf_J22_intValue r21 h22) fun r23 h24 => if r23 ≤ a1 then (xm_gR [3] 5 a3 h24 fun x25 => xm_rc [6] x25 h24 <| xm_cl (mf_J2_get x25 a4 h24) fun r26 h27 => xm_cast [211] r26 h27 <| xm_rc [211] r26 h27 <| xm_cl (mf_J22_intValue r26 h27) fun r28 h29 => mf_X1_breaksUp_J138 (fun m4 g => mf_X1_breaksUp_L66 kx151 a1 a2 a3 n m4 g) a1 a2 a3 a4 r28 a4 x19 h29) else (xm_gR [3] 5 a3 h24 fun x34 => xm_rc [6] x34 h24 <| xm_cl (mf_J2_get x34 a4 h24) fun r35 h36 => xm_cast [211] r35 h36 <| xm_rc [211] r35 h36 <| xm_cl (mf_J22_intValue r35 h36) fun r37 h38 => mf_X1_breaksUp_J138 (fun m4 g => mf_X1_breaksUp_L66 kx151 a1 a2 a3 n m4 g) a1 a2 a3 a4 (r37 - (1 : Int32)) a4 x19 h38))
set_option maxHeartbeats 1000000 in
theorem wk_X1_breaksUp_L66 {Γ : xk_C} {r : Unit} {h' : xk_H} {kx151 : xk_H → Option (Unit × xk_H)} {a1 : Int32} {a2 : Option Nat} {a3 : Option Nat} (C : xk_Cx Γ RX1 cX1_breaksUp 5 none "breaksUp" 7 188) (Z : xk_Z Γ none h') (hkx151 : ∀ (g : xk_H), kx151 g = some (r, h') → xk_X Γ 151 [(1, .int a1), (2, va_rf a2)] [] g) : ∀ (n : Nat) (a4 : Int32) (h0 : xk_H), mf_X1_breaksUp_L66 kx151 a1 a2 a3 n a4 h0 = some (r, h') → xk_X Γ 66 [(1, .int a1), (2, va_rf a2), (3, va_rf a3), (4, .int a4)] [] h0 := by
  intro n
  induction n with
  | zero =>
    intro a4 h0 E
    rw [mf_X1_breaksUp_L66] at E
    cases E
  | succ n ih =>
    intro a4 h0 E
    have hkb66 : ∀ (m4 : Int32) (g : xk_H), mf_X1_breaksUp_L66 kx151 a1 a2 a3 n m4 g = some (r, h') → xk_X Γ 66 [(1, .int a1), (2, va_rf a2), (3, va_rf a3), (4, .int m4)] [] g := ih
    rw [mf_X1_breaksUp_L66] at E
    refine xr_iload 3 C rfl dX1_breaksUp_66 ?_
    refine xr_aload_n 2 C rfl rfl dX1_breaksUp_68 ?_
    refine xr_gR C E xf_X1_66 dX1_breaksUp_69 (fun x16 E => ?_)
    refine xr_V (v := x16) [] [.int a4] (fun r => some (.int r)) (fun r => .int r :: [.int a4]) C E xi_6_ArrayList (fun r h' e => wk_J2_size e) q265 q266 q267 q82 q268 xh_java_util_ArrayList xd_J2_size (by decide) (by decide) ⟨rfl, trivial⟩ (Nat.le_of_ble_eq_true rfl) rfl (fun _ => rfl) dX1_breaksUp_72 (fun r17 h18 E => ?_)
    refine xr_icmp_ge 151 C E dX1_breaksUp_75 (by decide) (fun E => ?_) (fun E => ?_)
    · refine xr_sub [0, 1] rfl ?_
      exact hkx151 h18 E
    · refine xr_aload_n 2 C rfl rfl dX1_breaksUp_78 ?_
      refine xr_gR C E xf_X1_66 dX1_breaksUp_79 (fun x19 E => ?_)
      refine xr_iload 3 C rfl dX1_breaksUp_82 ?_
      refine xr_aload_n 2 C rfl rfl dX1_breaksUp_84 ?_
      refine xr_gR C E xf_X1_66 dX1_breaksUp_85 (fun x20 E => ?_)
      refine xr_iload 3 C rfl dX1_breaksUp_88 ?_
      refine xr_V (v := x20) [.int a4] [.int a4, va_rf x19] (fun r => some (va_rf r)) (fun r => va_rf r :: [.int a4, va_rf x19]) C E xi_6_ArrayList (fun r h' e => wk_J2_get e) q925 q374 q2504 q82 q375 xh_java_util_ArrayList xd_J2_get (by decide) (by decide) ⟨rfl, ⟨xk_crf _, trivial⟩⟩ (Nat.le_of_ble_eq_true rfl) rfl (fun _ => rfl) dX1_breaksUp_90 (fun r21 h22 E => ?_)
      refine xr_cast C E xi_211_Integer q997 dX1_breaksUp_93 (fun E => ?_)
      refine xr_V (v := r21) [] [.int a4, va_rf x19] (fun r => some (.int r)) (fun r => .int r :: [.int a4, va_rf x19]) C E xi_211_Integer (fun r h' e => wk_J22_intValue e) q998 q975 q976 q105 q977 xh_java_lang_Integer xd_J22_intValue (by decide) (by decide) ⟨rfl, ⟨xk_crf _, trivial⟩⟩ (Nat.le_of_ble_eq_true rfl) rfl (fun _ => rfl) dX1_breaksUp_96 (fun r23 h24 E => ?_)
      refine xr_iload_n 0 C rfl rfl dX1_breaksUp_99 ?_
      refine xr_icmp_le 123 C E dX1_breaksUp_100 (by decide) (fun E => ?_) (fun E => ?_)
      · refine xr_aload_n 2 C rfl rfl dX1_breaksUp_123 ?_
        refine xr_gR C E xf_X1_66 dX1_breaksUp_124 (fun x25 E => ?_)
        refine xr_iload 3 C rfl dX1_breaksUp_127 ?_
        refine xr_V (v := x25) [.int a4] [.int a4, va_rf x19] (fun r => some (va_rf r)) (fun r => va_rf r :: [.int a4, va_rf x19]) C E xi_6_ArrayList (fun r h' e => wk_J2_get e) q925 q374 q2504 q82 q375 xh_java_util_ArrayList xd_J2_get (by decide) (by decide) ⟨rfl, ⟨xk_crf _, trivial⟩⟩ (Nat.le_of_ble_eq_true rfl) rfl (fun _ => rfl) dX1_breaksUp_129 (fun r26 h27 E => ?_)
        refine xr_cast C E xi_211_Integer q997 dX1_breaksUp_132 (fun E => ?_)
        refine xr_V (v := r26) [] [.int a4, va_rf x19] (fun r => some (.int r)) (fun r => .int r :: [.int a4, va_rf x19]) C E xi_211_Integer (fun r h' e => wk_J22_intValue e) q998 q975 q976 q105 q977 xh_java_lang_Integer xd_J22_intValue (by decide) (by decide) ⟨rfl, ⟨xk_crf _, trivial⟩⟩ (Nat.le_of_ble_eq_true rfl) rfl (fun _ => rfl) dX1_breaksUp_135 (fun r28 h29 E => ?_)
        exact wk_X1_breaksUp_J138 C Z hkb66 E
      · refine xr_aload_n 2 C rfl rfl dX1_breaksUp_103 ?_
        refine xr_gR C E xf_X1_66 dX1_breaksUp_104 (fun x34 E => ?_)
        refine xr_iload 3 C rfl dX1_breaksUp_107 ?_
        refine xr_V (v := x34) [.int a4] [.int a4, va_rf x19] (fun r => some (va_rf r)) (fun r => va_rf r :: [.int a4, va_rf x19]) C E xi_6_ArrayList (fun r h' e => wk_J2_get e) q925 q374 q2504 q82 q375 xh_java_util_ArrayList xd_J2_get (by decide) (by decide) ⟨rfl, ⟨xk_crf _, trivial⟩⟩ (Nat.le_of_ble_eq_true rfl) rfl (fun _ => rfl) dX1_breaksUp_109 (fun r35 h36 E => ?_)
        refine xr_cast C E xi_211_Integer q997 dX1_breaksUp_112 (fun E => ?_)
        refine xr_V (v := r35) [] [.int a4, va_rf x19] (fun r => some (.int r)) (fun r => .int r :: [.int a4, va_rf x19]) C E xi_211_Integer (fun r h' e => wk_J22_intValue e) q998 q975 q976 q105 q977 xh_java_lang_Integer xd_J22_intValue (by decide) (by decide) ⟨rfl, ⟨xk_crf _, trivial⟩⟩ (Nat.le_of_ble_eq_true rfl) rfl (fun _ => rfl) dX1_breaksUp_115 (fun r37 h38 E => ?_)
        refine xr_iconst (1) C (by decide) dX1_breaksUp_118 ?_
        refine xr_isub C dX1_breaksUp_119 ?_
        refine xr_goto 138 C dX1_breaksUp_120 (by decide) ?_
        exact wk_X1_breaksUp_J138 C Z hkb66 E
def mf_X1_breaksUp_L22 (a1 : Int32) (a2 : Option Nat) : Nat → xk_H → Option (Unit × xk_H)
  | 0, _ => none
  | n + 1, h0 => xm_rc [9] a2 h0 <| xm_cl (mf_J9_hasNext a2 h0) fun r9 h10 => if xk_b2 r9 = 0 then (some ((), h10)) else (xm_rc [9] a2 h10 <| xm_cl (mf_J9_next a2 h10) fun r11 h12 => xm_cast [3] r11 h12 <| xm_gI [3] 4 r11 h12 fun x13 => xm_gI [3] 4 r11 h12 fun x14 => if x14 ≤ a1 then (xm_pV [3] 4 r11 (.int (x13 - (0 : Int32))) h12 fun h15 => mf_X1_breaksUp_L66 (fun h39 => mf_X1_breaksUp_L22 a1 a2 n h39) a1 a2 r11 xk_fu (0 : Int32) h15) else (xm_pV [3] 4 r11 (.int (x13 - (1 : Int32))) h12 fun h40 => mf_X1_breaksUp_L66 (fun h41 => mf_X1_breaksUp_L22 a1 a2 n h41) a1 a2 r11 xk_fu (0 : Int32) h40))
set_option maxHeartbeats 1000000 in
theorem wk_X1_breaksUp_L22 {Γ : xk_C} {r : Unit} {h' : xk_H} {a1 : Int32} {a2 : Option Nat} (C : xk_Cx Γ RX1 cX1_breaksUp 5 none "breaksUp" 7 188) (Z : xk_Z Γ none h') : ∀ (n : Nat) (h0 : xk_H), mf_X1_breaksUp_L22 a1 a2 n h0 = some (r, h') → xk_X Γ 22 [(1, .int a1), (2, va_rf a2)] [] h0 := by
  intro n
  induction n with
  | zero =>
    intro  h0 E
    rw [mf_X1_breaksUp_L22] at E
    cases E
  | succ n ih =>
    intro  h0 E
    have hkb22 : ∀ (g : xk_H), mf_X1_breaksUp_L22 a1 a2 n g = some (r, h') → xk_X Γ 22 [(1, .int a1), (2, va_rf a2)] [] g := ih
    rw [mf_X1_breaksUp_L22] at E
    refine xr_aload_n 1 C rfl rfl dX1_breaksUp_22 ?_
    refine xr_F (v := a2) [] [] (fun r => some (.int (xk_b2 r))) (fun r => .int (xk_b2 r) :: []) C E xi_9_ArrayListItr (fun r h' e => wk_J9_hasNext e) q318 (List.mem_of_getElem? (i := 0) rfl) q335 q333 q90 q337 xh_java_util_Iterator xd_java_util_Iterator_hasNext__Z (by decide) (by decide) trivial (Nat.le_of_ble_eq_true rfl) rfl (fun _ => rfl) dX1_breaksUp_23 (fun r9 h10 E => ?_)
    refine xr_if_eq 154 C E dX1_breaksUp_28 (by decide) (fun E => ?_) (fun E => ?_)
    · exact xr_vret C Z E dX1_breaksUp_154
    · refine xr_aload_n 1 C rfl rfl dX1_breaksUp_31 ?_
      refine xr_F (v := a2) [] [] (fun r => some (va_rf r)) (fun r => va_rf r :: []) C E xi_9_ArrayListItr (fun r h' e => wk_J9_next e) q357 (List.mem_of_getElem? (i := 1) rfl) q698 q696 q90 q700 xh_java_util_Iterator xd_java_util_Iterator_next__Ljava_lang_Object_ (by decide) (by decide) trivial (Nat.le_of_ble_eq_true rfl) rfl (fun _ => rfl) dX1_breaksUp_32 (fun r11 h12 E => ?_)
      refine xr_cast C E xi_3_SlatCratesCrate q738 dX1_breaksUp_37 (fun E => ?_)
      refine xr_astore_n (L2 := [(3, va_rf r11), (1, .int a1), (2, va_rf a2)]) C rfl rfl dX1_breaksUp_40 (by decide) ?_
      refine xr_aload_n 0 C rfl rfl dX1_breaksUp_41 ?_
      refine xr_dup C (xk_crf _) dX1_breaksUp_42 ?_
      refine xr_gI C E xf_X1_59 dX1_breaksUp_43 (fun x13 E => ?_)
      refine xr_aload_n 0 C rfl rfl dX1_breaksUp_46 ?_
      refine xr_gI C E xf_X1_59 dX1_breaksUp_47 (fun x14 E => ?_)
      refine xr_iload_n 1 C rfl rfl dX1_breaksUp_50 ?_
      refine xr_icmp_le 58 C E dX1_breaksUp_51 (by decide) (fun E => ?_) (fun E => ?_)
      · refine xr_iconst (0) C (by decide) dX1_breaksUp_58 ?_
        refine xr_isub C dX1_breaksUp_59 ?_
        refine xr_pI C E xf_X1_59 xp_X1_59 dX1_breaksUp_60 (fun h15 E => ?_)
        refine xr_iconst (0) C (by decide) dX1_breaksUp_63 ?_
        refine xr_istore (L2 := [(4, .int (0 : Int32)), (3, va_rf r11), (1, .int a1), (2, va_rf a2)]) C rfl dX1_breaksUp_64 (by decide) ?_
        refine xr_sub [2, 3, 1, 0] rfl ?_
        refine wk_X1_breaksUp_L66 (a1 := a1) (a2 := a2) (a3 := r11) C Z (fun h39 E => ?_) xk_fu (0 : Int32) h15 E
        · refine xr_goto 22 C dX1_breaksUp_151 (by decide) ?_
          exact hkb22 h39 E
      · refine xr_iconst (1) C (by decide) dX1_breaksUp_54 ?_
        refine xr_goto 59 C dX1_breaksUp_55 (by decide) ?_
        refine xr_isub C dX1_breaksUp_59 ?_
        refine xr_pI C E xf_X1_59 xp_X1_59 dX1_breaksUp_60 (fun h40 E => ?_)
        refine xr_iconst (0) C (by decide) dX1_breaksUp_63 ?_
        refine xr_istore (L2 := [(4, .int (0 : Int32)), (3, va_rf r11), (1, .int a1), (2, va_rf a2)]) C rfl dX1_breaksUp_64 (by decide) ?_
        refine xr_sub [2, 3, 1, 0] rfl ?_
        refine wk_X1_breaksUp_L66 (a1 := a1) (a2 := a2) (a3 := r11) C Z (fun h41 E => ?_) xk_fu (0 : Int32) h40 E
        · refine xr_goto 22 C dX1_breaksUp_151 (by decide) ?_
          exact hkb22 h41 E
def mf_X1_breaksUp (a0 : Option Nat) (a1 : Int32) (h0 : xk_H) : Option (Unit × xk_H) :=
  xm_rc [1] a0 h0 <| xm_cl (mf_X1_lifts a0 a1 h0) fun r1 h2 => xm_gR [1] 0 a0 h2 fun x3 => xm_rc [6] x3 h2 <| xm_cl (mf_J2_remove x3 a1 h2) fun r4 h5 => xm_gR [1] 0 a0 h5 fun x6 => xm_rc [6] x6 h5 <| xm_cl (mf_J2_iterator x6 h5) fun r7 h8 => mf_X1_breaksUp_L22 a1 r7 xk_fu h8
set_option maxHeartbeats 1000000 in
theorem wk_X1_breaksUp {l : Launch} {D : va_G} {base : Nat} {a0 : Option Nat} {a1 : Int32} {h0 : xk_H} {r : Unit} {h' : xk_H} (E : mf_X1_breaksUp a0 a1 h0 = some (r, h')) : xk_Ok l D base yX1_breaksUp cX1_breaksUp 5 none 7 188 [va_rf a0, .int a1] h0 none h' := by
  refine xk_ofX RX1 "breaksUp" xq_X1_breaksUp rfl rfl (Nat.le_of_ble_eq_true rfl) ⟨xk_crf _, ⟨rfl, trivial⟩⟩ (fun Γ el eD eb C Z => ?_)
  rw [mf_X1_breaksUp] at E
  show xk_X Γ 0 [(0, va_rf a0), (1, .int a1)] [] h0
  refine xr_aload_n 0 C rfl rfl dX1_breaksUp_0 ?_
  refine xr_iload_n 1 C rfl rfl dX1_breaksUp_1 ?_
  refine xr_V (v := a0) [.int a1] [] (fun _ => none) (fun _ => []) C E xi_1_SlatCratesYard (fun r h' e => wk_X1_lifts e) q1007 q1009 qs10 q79 q1010 xh_SlatCrates_Yard xd_X1_lifts (by decide) (by decide) trivial (Nat.le_of_ble_eq_true rfl) rfl (fun _ => rfl) dX1_breaksUp_2 (fun r1 h2 E => ?_)
  refine xr_aload_n 0 C rfl rfl dX1_breaksUp_5 ?_
  refine xr_gR C E xf_X1_12 dX1_breaksUp_6 (fun x3 E => ?_)
  refine xr_iload_n 1 C rfl rfl dX1_breaksUp_9 ?_
  refine xr_V (v := x3) [.int a1] [] (fun r => some (va_rf r)) (fun r => va_rf r :: []) C E xi_6_ArrayList (fun r h' e => wk_J2_remove e) q1011 q1012 q1013 q82 q1014 xh_java_util_ArrayList xd_J2_remove (by decide) (by decide) trivial (Nat.le_of_ble_eq_true rfl) rfl (fun _ => rfl) dX1_breaksUp_10 (fun r4 h5 E => ?_)
  refine xr_pop C (xk_crf _) dX1_breaksUp_13 ?_
  refine xr_aload_n 0 C rfl rfl dX1_breaksUp_14 ?_
  refine xr_gR C E xf_X1_12 dX1_breaksUp_15 (fun x6 E => ?_)
  refine xr_V (v := x6) [] [] (fun r => some (va_rf r)) (fun r => va_rf r :: []) C E xi_6_ArrayList (fun r h' e => wk_J2_iterator e) q291 q292 q293 q82 q294 xh_java_util_ArrayList xd_J2_iterator (by decide) (by decide) trivial (Nat.le_of_ble_eq_true rfl) rfl (fun _ => rfl) dX1_breaksUp_18 (fun r7 h8 E => ?_)
  refine xr_astore_n (L2 := [(2, va_rf r7), (0, va_rf a0), (1, .int a1)]) C rfl rfl dX1_breaksUp_21 (by decide) ?_
  refine xr_sub [2, 0] rfl ?_
  exact wk_X1_breaksUp_L22 (a1 := a1) (a2 := r7) C Z xk_fu h8 E
def mf_X1_whyNotBreak (a0 : Option Nat) (a1 : Int32) (h0 : xk_H) : Option (Int32 × xk_H) :=
  xm_rc [1] a0 h0 <| xm_cl (mf_X1_above a0 a1 h0) fun r1 h2 => if r1 ≤ 0 then (xm_rc [1] a0 h2 <| xm_cl (mf_X1_at a0 a1 h2) fun r3 h4 => xm_gR [3] 5 r3 h4 fun x5 => xm_rc [6] x5 h4 <| xm_cl (mf_J2_isEmpty x5 h4) fun r6 h7 => if xk_b2 r6 = 0 then (some ((5 : Int32), h7)) else (some ((0 : Int32), h7))) else (some ((1 : Int32), h2))
set_option maxHeartbeats 1000000 in
theorem wk_X1_whyNotBreak {l : Launch} {D : va_G} {base : Nat} {a0 : Option Nat} {a1 : Int32} {h0 : xk_H} {r : Int32} {h' : xk_H} (E : mf_X1_whyNotBreak a0 a1 h0 = some (r, h')) : xk_Ok l D base yX1_whyNotBreak cX1_whyNotBreak 2 (Option.some FieldType.int) 8 208 [va_rf a0, .int a1] h0 (some (.int r)) h' := by
  refine xk_ofX RX1 "whyNotBreak" xq_X1_whyNotBreak rfl rfl (Nat.le_of_ble_eq_true rfl) ⟨xk_crf _, ⟨rfl, trivial⟩⟩ (fun Γ el eD eb C Z => ?_)
  rw [mf_X1_whyNotBreak] at E
  show xk_X Γ 0 [(0, va_rf a0), (1, .int a1)] [] h0
  refine xr_aload_n 0 C rfl rfl dX1_whyNotBreak_0 ?_
  refine xr_iload_n 1 C rfl rfl dX1_whyNotBreak_1 ?_
  refine xr_V (v := a0) [.int a1] [] (fun r => some (.int r)) (fun r => .int r :: []) C E xi_1_SlatCratesYard (fun r h' e => wk_X1_above e) q913 q914 q915 q79 q916 xh_SlatCrates_Yard xd_X1_above (by decide) (by decide) trivial (Nat.le_of_ble_eq_true rfl) rfl (fun _ => rfl) dX1_whyNotBreak_2 (fun r1 h2 E => ?_)
  refine xr_if_le 12 C E dX1_whyNotBreak_5 (by decide) (fun E => ?_) (fun E => ?_)
  · refine xr_aload_n 0 C rfl rfl dX1_whyNotBreak_12 ?_
    refine xr_iload_n 1 C rfl rfl dX1_whyNotBreak_13 ?_
    refine xr_V (v := a0) [.int a1] [] (fun r => some (va_rf r)) (fun r => va_rf r :: []) C E xi_1_SlatCratesYard (fun r h' e => wk_X1_at e) q921 q922 q923 q79 q924 xh_SlatCrates_Yard xd_X1_at (by decide) (by decide) trivial (Nat.le_of_ble_eq_true rfl) rfl (fun _ => rfl) dX1_whyNotBreak_14 (fun r3 h4 E => ?_)
    refine xr_gR C E xf_X1_66 dX1_whyNotBreak_17 (fun x5 E => ?_)
    refine xr_V (v := x5) [] [] (fun r => some (.int (xk_b2 r))) (fun r => .int (xk_b2 r) :: []) C E xi_6_ArrayList (fun r h' e => wk_J2_isEmpty e) q1049 q1050 q1051 q82 q1052 xh_java_util_ArrayList xd_J2_isEmpty (by decide) (by decide) trivial (Nat.le_of_ble_eq_true rfl) rfl (fun _ => rfl) dX1_whyNotBreak_20 (fun r6 h7 E => ?_)
    refine xr_if_eq 30 C E dX1_whyNotBreak_23 (by decide) (fun E => ?_) (fun E => ?_)
    · refine xr_iconst (5) C (by decide) dX1_whyNotBreak_30 ?_
      exact xr_iret C Z E dX1_whyNotBreak_31
    · refine xr_iconst (0) C (by decide) dX1_whyNotBreak_26 ?_
      refine xr_goto 31 C dX1_whyNotBreak_27 (by decide) ?_
      exact xr_iret C Z E dX1_whyNotBreak_31
  · refine xr_iconst (1) C (by decide) dX1_whyNotBreak_8 ?_
    refine xr_goto 31 C dX1_whyNotBreak_9 (by decide) ?_
    exact xr_iret C Z E dX1_whyNotBreak_31
def mf_X1_writes_L20 (rc : Option Nat → Int32 → Option Nat → xk_H → Option (Unit × xk_H)) (kx51 : xk_H → Option (Unit × xk_H)) (a0 : Option Nat) (a2 : Option Nat) (a3 : Option Nat) (a4 : Option Nat) (a5 : Int32) : Nat → Int32 → xk_H → Option (Unit × xk_H)
  | 0, _, _ => none
  | n + 1, a6, h0 => if a5 ≤ a6 then (kx51 h0) else (xm_lI [100] a4 a6 h0 fun x5 => xm_rc [8] a2 h0 <| xm_cl (mf_J6_append_2 a2 ((((65 : Int32) + x5).toUInt32 % 65536).toInt32) h0) fun r6 h7 => mf_X1_writes_L20 rc kx51 a0 a2 a3 a4 a5 n (a6 + 1) h7)
set_option maxHeartbeats 1000000 in
theorem wk_X1_writes_L20 {Γ : xk_C} {r : Unit} {h' : xk_H} {d w dR wR : Nat} {rc : Option Nat → Int32 → Option Nat → xk_H → Option (Unit × xk_H)} {kx51 : xk_H → Option (Unit × xk_H)} {a0 : Option Nat} {a2 : Option Nat} {a3 : Option Nat} {a4 : Option Nat} {a5 : Int32} (C : xk_Cx Γ RX1 cX1_writes 8 none "writes" d w) (Z : xk_Z Γ none h') (hrc : ∀ (z0 : Option Nat) (z1 : Int32) (z2 : Option Nat) (g : xk_H) (r9 : Unit) (g9 : xk_H), rc z0 z1 z2 g = some (r9, g9) → xk_Ok (xk_l Γ) (xk_D Γ) (xk_b Γ) yX1_writes cX1_writes 8 none dR wR [va_rf z0, .int z1, va_rf z2] g none g9) (hD : 7 ≤ d) (hW : 195 ≤ w) (hDr : dR + 1 ≤ d) (hWr : 8 + (8 + 11) + wR ≤ w) (hkx51 : ∀ (g : xk_H), kx51 g = some (r, h') → xk_X Γ 51 [(0, va_rf a0), (2, va_rf a2), (3, va_rf a3)] [] g) : ∀ (n : Nat) (a6 : Int32) (h0 : xk_H), mf_X1_writes_L20 rc kx51 a0 a2 a3 a4 a5 n a6 h0 = some (r, h') → xk_X Γ 20 [(0, va_rf a0), (2, va_rf a2), (3, va_rf a3), (4, va_rf a4), (5, .int a5), (6, .int a6)] [] h0 := by
  intro n
  induction n with
  | zero =>
    intro a6 h0 E
    rw [mf_X1_writes_L20] at E
    cases E
  | succ n ih =>
    intro a6 h0 E
    have hkb20 : ∀ (m6 : Int32) (g : xk_H), mf_X1_writes_L20 rc kx51 a0 a2 a3 a4 a5 n m6 g = some (r, h') → xk_X Γ 20 [(0, va_rf a0), (2, va_rf a2), (3, va_rf a3), (4, va_rf a4), (5, .int a5), (6, .int m6)] [] g := ih
    rw [mf_X1_writes_L20] at E
    refine xr_iload 5 C rfl dX1_writes_20 ?_
    refine xr_iload 4 C rfl dX1_writes_22 ?_
    refine xr_icmp_ge 51 C E dX1_writes_24 (by decide) (fun E => ?_) (fun E => ?_)
    · refine xr_sub [0, 1, 2] rfl ?_
      exact hkx51 h0 E
    · refine xr_aload 3 C rfl dX1_writes_27 ?_
      refine xr_iload 5 C rfl dX1_writes_29 ?_
      refine xr_lI C E xt_100 dX1_writes_31 (fun x5 E => ?_)
      refine xr_istore (L2 := [(7, .int x5), (0, va_rf a0), (2, va_rf a2), (3, va_rf a3), (4, va_rf a4), (5, .int a5), (6, .int a6)]) C rfl dX1_writes_32 (by decide) ?_
      refine xr_aload_n 2 C rfl rfl dX1_writes_34 ?_
      refine xr_bipush (65) C (by decide) dX1_writes_35 ?_
      refine xr_iload 0 C rfl dX1_writes_37 ?_
      refine xr_iadd C dX1_writes_39 ?_
      refine xr_i2c C dX1_writes_40 ?_
      refine xr_V (v := a2) [.int ((((65 : Int32) + x5).toUInt32 % 65536).toInt32)] [] (fun r => some (va_rf r)) (fun r => va_rf r :: []) C E xi_8_StringBuilder (fun r h' e => wk_J6_append_2 e) q1205 q1067 q1068 q86 q1069 xh_java_lang_StringBuilder xd_J6_append_2 (by omega) (by omega) trivial (Nat.le_of_ble_eq_true rfl) rfl (fun _ => rfl) dX1_writes_41 (fun r6 h7 E => ?_)
      refine xr_pop C (xk_crf _) dX1_writes_44 ?_
      refine xr_iinc (v := (a6 + 1)) (L2 := [(6, .int (a6 + 1)), (7, .int x5), (0, va_rf a0), (2, va_rf a2), (3, va_rf a3), (4, va_rf a4), (5, .int a5)]) 6 C rfl rfl rfl dX1_writes_45 (by decide) ?_
      refine xr_goto 20 C dX1_writes_48 (by decide) ?_
      refine xr_sub [2, 3, 4, 5, 6, 0] rfl ?_
      exact hkb20 (a6 + 1) h7 E
def mf_X1_writes_L115 (rc : Option Nat → Int32 → Option Nat → xk_H → Option (Unit × xk_H)) (kx150 : xk_H → Option (Unit × xk_H)) (a0 : Option Nat) (a2 : Option Nat) (a4 : Option Nat) : Nat → xk_H → Option (Unit × xk_H)
  | 0, _ => none
  | n + 1, h0 => xm_rc [9] a4 h0 <| xm_cl (mf_J9_hasNext a4 h0) fun r32 h33 => if xk_b2 r32 = 0 then (kx150 h33) else (xm_rc [9] a4 h33 <| xm_cl (mf_J9_next a4 h33) fun r34 h35 => xm_cast [211] r34 h35 <| xm_rc [211] r34 h35 <| xm_cl (mf_J22_intValue r34 h35) fun r36 h37 => xm_rc [1] a0 h37 <| xm_cl (rc a0 r36 a2 h37) fun r38 h39 => mf_X1_writes_L115 rc kx150 a0 a2 a4 n h39)
set_option maxHeartbeats 1000000 in
theorem wk_X1_writes_L115 {Γ : xk_C} {r : Unit} {h' : xk_H} {d w dR wR : Nat} {rc : Option Nat → Int32 → Option Nat → xk_H → Option (Unit × xk_H)} {kx150 : xk_H → Option (Unit × xk_H)} {a0 : Option Nat} {a2 : Option Nat} {a4 : Option Nat} (C : xk_Cx Γ RX1 cX1_writes 8 none "writes" d w) (Z : xk_Z Γ none h') (hrc : ∀ (z0 : Option Nat) (z1 : Int32) (z2 : Option Nat) (g : xk_H) (r9 : Unit) (g9 : xk_H), rc z0 z1 z2 g = some (r9, g9) → xk_Ok (xk_l Γ) (xk_D Γ) (xk_b Γ) yX1_writes cX1_writes 8 none dR wR [va_rf z0, .int z1, va_rf z2] g none g9) (hD : 7 ≤ d) (hW : 195 ≤ w) (hDr : dR + 1 ≤ d) (hWr : 8 + (8 + 11) + wR ≤ w) (hkx150 : ∀ (g : xk_H), kx150 g = some (r, h') → xk_X Γ 150 [(2, va_rf a2)] [] g) : ∀ (n : Nat) (h0 : xk_H), mf_X1_writes_L115 rc kx150 a0 a2 a4 n h0 = some (r, h') → xk_X Γ 115 [(0, va_rf a0), (2, va_rf a2), (4, va_rf a4)] [] h0 := by
  intro n
  induction n with
  | zero =>
    intro  h0 E
    rw [mf_X1_writes_L115] at E
    cases E
  | succ n ih =>
    intro  h0 E
    have hkb115 : ∀ (g : xk_H), mf_X1_writes_L115 rc kx150 a0 a2 a4 n g = some (r, h') → xk_X Γ 115 [(0, va_rf a0), (2, va_rf a2), (4, va_rf a4)] [] g := ih
    rw [mf_X1_writes_L115] at E
    refine xr_aload 2 C rfl dX1_writes_115 ?_
    refine xr_F (v := a4) [] [] (fun r => some (.int (xk_b2 r))) (fun r => .int (xk_b2 r) :: []) C E xi_9_ArrayListItr (fun r h' e => wk_J9_hasNext e) q318 (List.mem_of_getElem? (i := 0) rfl) q335 q333 q90 q337 xh_java_util_Iterator xd_java_util_Iterator_hasNext__Z (by omega) (by omega) trivial (Nat.le_of_ble_eq_true rfl) rfl (fun _ => rfl) dX1_writes_117 (fun r32 h33 E => ?_)
    refine xr_if_eq 150 C E dX1_writes_122 (by decide) (fun E => ?_) (fun E => ?_)
    · refine xr_sub [1] rfl ?_
      exact hkx150 h33 E
    · refine xr_aload 2 C rfl dX1_writes_125 ?_
      refine xr_F (v := a4) [] [] (fun r => some (va_rf r)) (fun r => va_rf r :: []) C E xi_9_ArrayListItr (fun r h' e => wk_J9_next e) q357 (List.mem_of_getElem? (i := 1) rfl) q698 q696 q90 q700 xh_java_util_Iterator xd_java_util_Iterator_next__Ljava_lang_Object_ (by omega) (by omega) trivial (Nat.le_of_ble_eq_true rfl) rfl (fun _ => rfl) dX1_writes_127 (fun r34 h35 E => ?_)
      refine xr_cast C E xi_211_Integer q997 dX1_writes_132 (fun E => ?_)
      refine xr_V (v := r34) [] [] (fun r => some (.int r)) (fun r => .int r :: []) C E xi_211_Integer (fun r h' e => wk_J22_intValue e) q998 q975 q976 q105 q977 xh_java_lang_Integer xd_J22_intValue (by omega) (by omega) trivial (Nat.le_of_ble_eq_true rfl) rfl (fun _ => rfl) dX1_writes_135 (fun r36 h37 E => ?_)
      refine xr_istore (L2 := [(5, .int r36), (0, va_rf a0), (2, va_rf a2), (4, va_rf a4)]) C rfl dX1_writes_138 (by decide) ?_
      refine xr_aload_n 1 C rfl rfl dX1_writes_140 ?_
      refine xr_iload 0 C rfl dX1_writes_141 ?_
      refine xr_aload_n 2 C rfl rfl dX1_writes_143 ?_
      refine xr_V (v := a0) [.int r36, va_rf a2] [] (fun _ => none) (fun _ => []) C E xi_1_SlatCratesYard (fun r h' e => hrc _ _ _ _ r h' e) q1231 q1202 q1203 q79 q1204 xh_SlatCrates_Yard xd_X1_writes hDr hWr trivial (Nat.le_of_ble_eq_true rfl) rfl (fun _ => rfl) dX1_writes_144 (fun r38 h39 E => ?_)
      refine xr_goto 115 C dX1_writes_147 (by decide) ?_
      refine xr_sub [1, 2, 3] rfl ?_
      exact hkb115 h39 E
def mf_X1_writes : Nat → Option Nat → Int32 → Option Nat → xk_H → Option (Unit × xk_H)
  | 0, _, _, _, _ => none
  | n + 1, a0, a1, a2, h0 => xm_rc [1] a0 h0 <| xm_cl (mf_X1_at a0 a1 h0) fun r1 h2 => xm_gR [3] 3 r1 h2 fun x3 => xm_len [100] x3 h2 fun x4 => mf_X1_writes_L20 (mf_X1_writes n) (fun h8 => xm_rc [8] a2 h8 <| xm_cl (mf_J6_append_2 a2 (115 : Int32) h8) fun r9 h10 => xm_gI [3] 0 r1 h10 fun x11 => xm_rc [8] r9 h10 <| xm_cl (mf_J6_append_3 r9 x11 h10) fun r12 h13 => xm_rc [8] r12 h13 <| xm_cl (mf_J6_append_2 r12 (114 : Int32) h13) fun r14 h15 => xm_gI [3] 1 r1 h15 fun x16 => xm_rc [8] r14 h15 <| xm_cl (mf_J6_append_3 r14 x16 h15) fun r17 h18 => xm_rc [8] r17 h18 <| xm_cl (mf_J6_append_2 r17 (103 : Int32) h18) fun r19 h20 => xm_gI [3] 2 r1 h20 fun x21 => xm_rc [8] r19 h20 <| xm_cl (mf_J6_append_3 r19 x21 h20) fun r22 h23 => xm_gR [3] 5 r1 h23 fun x24 => xm_rc [6] x24 h23 <| xm_cl (mf_J2_isEmpty x24 h23) fun r25 h26 => if xk_b2 r25 = 0 then (xm_rc [8] a2 h26 <| xm_cl (mf_J6_append_2 a2 (91 : Int32) h26) fun r27 h28 => xm_gR [3] 5 r1 h28 fun x29 => xm_rc [6] x29 h28 <| xm_cl (mf_J2_iterator x29 h28) fun r30 h31 => mf_X1_writes_L115 (mf_X1_writes n) (fun h40 => xm_rc [8] a2 h40 <| xm_cl (mf_J6_append_2 a2 (93 : Int32) h40) fun r41 h42 => some ((), h42)) a0 a2 r30 xk_fu h31) else (some ((), h26))) a0 a2 r1 x3 x4 xk_fu (0 : Int32) h2
set_option maxHeartbeats 1000000 in
theorem wk_X1_writes : ∀ (n : Nat) {l : Launch} {D : va_G} {base : Nat} {a0 : Option Nat} {a1 : Int32} {a2 : Option Nat} {h0 : xk_H} {r : Unit} {h' : xk_H}, mf_X1_writes n a0 a1 a2 h0 = some (r, h') → xk_Ok l D base yX1_writes cX1_writes 8 none (7 + n) (195 + n * 27) [va_rf a0, .int a1, va_rf a2] h0 none h' := by
  intro n
  induction n with
  | zero =>
    intro l D base a0 a1 a2 h0 r h' E
    rw [mf_X1_writes] at E
    cases E
  | succ n ih =>
    intro l D base a0 a1 a2 h0 r h' E
    refine xk_ofX RX1 "writes" xq_X1_writes rfl rfl (Nat.le_of_ble_eq_true rfl) ⟨xk_crf _, ⟨rfl, ⟨xk_crf _, trivial⟩⟩⟩ (fun Γ el eD eb C Z => ?_)
    rw [mf_X1_writes] at E
    show xk_X Γ 0 [(0, va_rf a0), (1, .int a1), (2, va_rf a2)] [] h0
    have hrc : ∀ (z0 : Option Nat) (z1 : Int32) (z2 : Option Nat) (g : xk_H) (r9 : Unit) (g9 : xk_H), mf_X1_writes n z0 z1 z2 g = some (r9, g9) → xk_Ok (xk_l Γ) (xk_D Γ) (xk_b Γ) yX1_writes cX1_writes 8 none (7 + n) (195 + n * 27) [va_rf z0, .int z1, va_rf z2] g none g9 := fun z0 z1 z2 g r9 g9 e => ih e
    have hD : 7 ≤ 7 + (n + 1) := by omega
    have hW : 195 ≤ 195 + (n + 1) * 27 := by omega
    have hDr : 7 + n + 1 ≤ 7 + (n + 1) := by omega
    have hWr : 8 + (8 + 11) + (195 + n * 27) ≤ 195 + (n + 1) * 27 := by omega
    refine xr_aload_n 0 C rfl rfl dX1_writes_0 ?_
    refine xr_iload_n 1 C rfl rfl dX1_writes_1 ?_
    refine xr_V (v := a0) [.int a1] [] (fun r => some (va_rf r)) (fun r => va_rf r :: []) C E xi_1_SlatCratesYard (fun r h' e => wk_X1_at e) q921 q922 q923 q79 q924 xh_SlatCrates_Yard xd_X1_at (by omega) (by omega) trivial (Nat.le_of_ble_eq_true rfl) rfl (fun _ => rfl) dX1_writes_2 (fun r1 h2 E => ?_)
    refine xr_astore_n (L2 := [(3, va_rf r1), (0, va_rf a0), (1, .int a1), (2, va_rf a2)]) C rfl rfl dX1_writes_5 (by decide) ?_
    refine xr_aload_n 0 C rfl rfl dX1_writes_6 ?_
    refine xr_gR C E xf_X1_119 dX1_writes_7 (fun x3 E => ?_)
    refine xr_astore (L2 := [(4, va_rf x3), (3, va_rf r1), (0, va_rf a0), (1, .int a1), (2, va_rf a2)]) C rfl dX1_writes_10 (by decide) ?_
    refine xr_aload 0 C rfl dX1_writes_12 ?_
    refine xr_len 0 .int C E (fun _ => rfl) xt_100 dX1_writes_14 (fun x4 E => ?_)
    refine xr_istore (L2 := [(5, .int x4), (4, va_rf x3), (3, va_rf r1), (0, va_rf a0), (1, .int a1), (2, va_rf a2)]) C rfl dX1_writes_15 (by decide) ?_
    refine xr_iconst (0) C (by decide) dX1_writes_17 ?_
    refine xr_istore (L2 := [(6, .int (0 : Int32)), (5, .int x4), (4, va_rf x3), (3, va_rf r1), (0, va_rf a0), (1, .int a1), (2, va_rf a2)]) C rfl dX1_writes_18 (by decide) ?_
    refine xr_sub [4, 6, 3, 2, 1, 0] rfl ?_
    refine wk_X1_writes_L20 (a0 := a0) (a2 := a2) (a3 := r1) (a4 := x3) (a5 := x4) C Z hrc hD hW hDr hWr (fun h8 E => ?_) xk_fu (0 : Int32) h2 E
    · refine xr_aload_n 1 C rfl rfl dX1_writes_51 ?_
      refine xr_bipush (115) C (by decide) dX1_writes_52 ?_
      refine xr_V (v := a2) [.int (115 : Int32)] [] (fun r => some (va_rf r)) (fun r => va_rf r :: []) C E xi_8_StringBuilder (fun r h' e => wk_J6_append_2 e) q1205 q1067 q1068 q86 q1069 xh_java_lang_StringBuilder xd_J6_append_2 (by omega) (by omega) trivial (Nat.le_of_ble_eq_true rfl) rfl (fun _ => rfl) dX1_writes_54 (fun r9 h10 E => ?_)
      refine xr_aload_n 2 C rfl rfl dX1_writes_57 ?_
      refine xr_gI C E xf_X1_85 dX1_writes_58 (fun x11 E => ?_)
      refine xr_V (v := r9) [.int x11] [] (fun r => some (va_rf r)) (fun r => va_rf r :: []) C E xi_8_StringBuilder (fun r h' e => wk_J6_append_3 e) q1206 q1207 q1208 q86 q1209 xh_java_lang_StringBuilder xd_J6_append_3 (by omega) (by omega) trivial (Nat.le_of_ble_eq_true rfl) rfl (fun _ => rfl) dX1_writes_61 (fun r12 h13 E => ?_)
      refine xr_bipush (114) C (by decide) dX1_writes_64 ?_
      refine xr_V (v := r12) [.int (114 : Int32)] [] (fun r => some (va_rf r)) (fun r => va_rf r :: []) C E xi_8_StringBuilder (fun r h' e => wk_J6_append_2 e) q1205 q1067 q1068 q86 q1069 xh_java_lang_StringBuilder xd_J6_append_2 (by omega) (by omega) trivial (Nat.le_of_ble_eq_true rfl) rfl (fun _ => rfl) dX1_writes_66 (fun r14 h15 E => ?_)
      refine xr_aload_n 2 C rfl rfl dX1_writes_69 ?_
      refine xr_gI C E xf_X1_77 dX1_writes_70 (fun x16 E => ?_)
      refine xr_V (v := r14) [.int x16] [] (fun r => some (va_rf r)) (fun r => va_rf r :: []) C E xi_8_StringBuilder (fun r h' e => wk_J6_append_3 e) q1206 q1207 q1208 q86 q1209 xh_java_lang_StringBuilder xd_J6_append_3 (by omega) (by omega) trivial (Nat.le_of_ble_eq_true rfl) rfl (fun _ => rfl) dX1_writes_73 (fun r17 h18 E => ?_)
      refine xr_bipush (103) C (by decide) dX1_writes_76 ?_
      refine xr_V (v := r17) [.int (103 : Int32)] [] (fun r => some (va_rf r)) (fun r => va_rf r :: []) C E xi_8_StringBuilder (fun r h' e => wk_J6_append_2 e) q1205 q1067 q1068 q86 q1069 xh_java_lang_StringBuilder xd_J6_append_2 (by omega) (by omega) trivial (Nat.le_of_ble_eq_true rfl) rfl (fun _ => rfl) dX1_writes_78 (fun r19 h20 E => ?_)
      refine xr_aload_n 2 C rfl rfl dX1_writes_81 ?_
      refine xr_gI C E xf_X1_207 dX1_writes_82 (fun x21 E => ?_)
      refine xr_V (v := r19) [.int x21] [] (fun r => some (va_rf r)) (fun r => va_rf r :: []) C E xi_8_StringBuilder (fun r h' e => wk_J6_append_3 e) q1206 q1207 q1208 q86 q1209 xh_java_lang_StringBuilder xd_J6_append_3 (by omega) (by omega) trivial (Nat.le_of_ble_eq_true rfl) rfl (fun _ => rfl) dX1_writes_85 (fun r22 h23 E => ?_)
      refine xr_pop C (xk_crf _) dX1_writes_88 ?_
      refine xr_aload_n 2 C rfl rfl dX1_writes_89 ?_
      refine xr_gR C E xf_X1_66 dX1_writes_90 (fun x24 E => ?_)
      refine xr_V (v := x24) [] [] (fun r => some (.int (xk_b2 r))) (fun r => .int (xk_b2 r) :: []) C E xi_6_ArrayList (fun r h' e => wk_J2_isEmpty e) q1049 q1050 q1051 q82 q1052 xh_java_util_ArrayList xd_J2_isEmpty (by omega) (by omega) trivial (Nat.le_of_ble_eq_true rfl) rfl (fun _ => rfl) dX1_writes_93 (fun r25 h26 E => ?_)
      refine xr_if_ne 157 C E dX1_writes_96 (by decide) (fun E => ?_) (fun E => ?_)
      · exact xr_vret C Z E dX1_writes_157
      · refine xr_aload_n 1 C rfl rfl dX1_writes_99 ?_
        refine xr_bipush (91) C (by decide) dX1_writes_100 ?_
        refine xr_V (v := a2) [.int (91 : Int32)] [] (fun r => some (va_rf r)) (fun r => va_rf r :: []) C E xi_8_StringBuilder (fun r h' e => wk_J6_append_2 e) q1205 q1067 q1068 q86 q1069 xh_java_lang_StringBuilder xd_J6_append_2 (by omega) (by omega) trivial (Nat.le_of_ble_eq_true rfl) rfl (fun _ => rfl) dX1_writes_102 (fun r27 h28 E => ?_)
        refine xr_pop C (xk_crf _) dX1_writes_105 ?_
        refine xr_aload_n 2 C rfl rfl dX1_writes_106 ?_
        refine xr_gR C E xf_X1_66 dX1_writes_107 (fun x29 E => ?_)
        refine xr_V (v := x29) [] [] (fun r => some (va_rf r)) (fun r => va_rf r :: []) C E xi_6_ArrayList (fun r h' e => wk_J2_iterator e) q291 q292 q293 q82 q294 xh_java_util_ArrayList xd_J2_iterator (by omega) (by omega) trivial (Nat.le_of_ble_eq_true rfl) rfl (fun _ => rfl) dX1_writes_110 (fun r30 h31 E => ?_)
        refine xr_astore (L2 := [(4, va_rf r30), (0, va_rf a0), (2, va_rf a2), (3, va_rf r1)]) C rfl dX1_writes_113 (by decide) ?_
        refine xr_sub [1, 2, 0] rfl ?_
        refine wk_X1_writes_L115 (a0 := a0) (a2 := a2) (a4 := r30) C Z hrc hD hW hDr hWr (fun h40 E => ?_) xk_fu h31 E
        · refine xr_aload_n 0 C rfl rfl dX1_writes_150 ?_
          refine xr_bipush (93) C (by decide) dX1_writes_151 ?_
          refine xr_V (v := a2) [.int (93 : Int32)] [] (fun r => some (va_rf r)) (fun r => va_rf r :: []) C E xi_8_StringBuilder (fun r h' e => wk_J6_append_2 e) q1205 q1067 q1068 q86 q1069 xh_java_lang_StringBuilder xd_J6_append_2 (by omega) (by omega) trivial (Nat.le_of_ble_eq_true rfl) rfl (fun _ => rfl) dX1_writes_153 (fun r41 h42 E => ?_)
          refine xr_pop C (xk_crf _) dX1_writes_156 ?_
          exact xr_vret C Z E dX1_writes_157
def mf_X1_bestFor_J60 (kb5 : Int32 → Int32 → xk_H → Option (Int32 × xk_H)) (a0 : Option Nat) (a1 : Int32) (a2 : Int32) (a3 : Int32) (s0 : Int32) (h0 : xk_H) : Option (Int32 × xk_H) :=
  if s0 = 0 then (kb5 a2 (a3 + 1) h0) else (if a2 < 0 then (kb5 a3 (a3 + 1) h0) else (xm_rc [1] a0 h0 <| xm_cl (mf_X1_left a0 a3 h0) fun r3 h4 => xm_rc [1] a0 h4 <| xm_cl (mf_X1_left a0 a2 h4) fun r5 h6 => if r5 ≤ r3 then (kb5 a2 (a3 + 1) h6) else (kb5 a3 (a3 + 1) h6)))
set_option maxHeartbeats 1000000 in
theorem wk_X1_bestFor_J60 {Γ : xk_C} {r : Int32} {h' : xk_H} {kb5 : Int32 → Int32 → xk_H → Option (Int32 × xk_H)} {a0 : Option Nat} {a1 : Int32} {a2 : Int32} {a3 : Int32} {s0 : Int32} {h0 : xk_H} (C : xk_Cx Γ RX1 cX1_bestFor 5 (Option.some FieldType.int) "bestFor" 6 169) (Z : xk_Z Γ (some (.int r)) h') (hkb5 : ∀ (m2 : Int32) (m3 : Int32) (g : xk_H), kb5 m2 m3 g = some (r, h') → xk_X Γ 5 [(0, va_rf a0), (1, .int a1), (2, .int m2), (3, .int m3)] [] g) (E : mf_X1_bestFor_J60 kb5 a0 a1 a2 a3 s0 h0 = some (r, h')) : xk_X Γ 60 [(0, va_rf a0), (1, .int a1), (2, .int a2), (3, .int a3)] [.int s0] h0 := by
  rw [mf_X1_bestFor_J60] at E
  refine xr_istore (L2 := [(4, .int s0), (0, va_rf a0), (1, .int a1), (2, .int a2), (3, .int a3)]) C rfl dX1_bestFor_60 (by decide) ?_
  refine xr_iload 0 C rfl dX1_bestFor_62 ?_
  refine xr_if_eq 88 C E dX1_bestFor_64 (by decide) (fun E => ?_) (fun E => ?_)
  · refine xr_iload_n 3 C rfl rfl dX1_bestFor_88 ?_
    refine xr_istore_n (L2 := [(2, .int a2), (4, .int s0), (0, va_rf a0), (1, .int a1), (3, .int a3)]) C rfl rfl dX1_bestFor_89 (by decide) ?_
    refine xr_iinc (v := (a3 + 1)) (L2 := [(3, .int (a3 + 1)), (2, .int a2), (4, .int s0), (0, va_rf a0), (1, .int a1)]) 4 C rfl rfl rfl dX1_bestFor_90 (by decide) ?_
    refine xr_goto 5 C dX1_bestFor_93 (by decide) ?_
    refine xr_sub [3, 4, 1, 0] rfl ?_
    exact hkb5 a2 (a3 + 1) h0 E
  · refine xr_iload_n 3 C rfl rfl dX1_bestFor_67 ?_
    refine xr_if_lt 84 C E dX1_bestFor_68 (by decide) (fun E => ?_) (fun E => ?_)
    · refine xr_iload_n 4 C rfl rfl dX1_bestFor_84 ?_
      refine xr_goto 89 C dX1_bestFor_85 (by decide) ?_
      refine xr_istore_n (L2 := [(2, .int a3), (4, .int s0), (0, va_rf a0), (1, .int a1), (3, .int a3)]) C rfl rfl dX1_bestFor_89 (by decide) ?_
      refine xr_iinc (v := (a3 + 1)) (L2 := [(3, .int (a3 + 1)), (2, .int a3), (4, .int s0), (0, va_rf a0), (1, .int a1)]) 4 C rfl rfl rfl dX1_bestFor_90 (by decide) ?_
      refine xr_goto 5 C dX1_bestFor_93 (by decide) ?_
      refine xr_sub [3, 4, 1, 0] rfl ?_
      exact hkb5 a3 (a3 + 1) h0 E
    · refine xr_aload_n 1 C rfl rfl dX1_bestFor_71 ?_
      refine xr_iload_n 4 C rfl rfl dX1_bestFor_72 ?_
      refine xr_V (v := a0) [.int a3] [] (fun r => some (.int r)) (fun r => .int r :: []) C E xi_1_SlatCratesYard (fun r h' e => wk_X1_left e) q993 q994 q995 q79 q996 xh_SlatCrates_Yard xd_X1_left (by decide) (by decide) trivial (Nat.le_of_ble_eq_true rfl) rfl (fun _ => rfl) dX1_bestFor_73 (fun r3 h4 E => ?_)
      refine xr_aload_n 1 C rfl rfl dX1_bestFor_76 ?_
      refine xr_iload_n 3 C rfl rfl dX1_bestFor_77 ?_
      refine xr_V (v := a0) [.int a2] [.int r3] (fun r => some (.int r)) (fun r => .int r :: [.int r3]) C E xi_1_SlatCratesYard (fun r h' e => wk_X1_left e) q993 q994 q995 q79 q996 xh_SlatCrates_Yard xd_X1_left (by decide) (by decide) ⟨rfl, trivial⟩ (Nat.le_of_ble_eq_true rfl) rfl (fun _ => rfl) dX1_bestFor_78 (fun r5 h6 E => ?_)
      refine xr_icmp_ge 88 C E dX1_bestFor_81 (by decide) (fun E => ?_) (fun E => ?_)
      · refine xr_iload_n 3 C rfl rfl dX1_bestFor_88 ?_
        refine xr_istore_n (L2 := [(2, .int a2), (4, .int s0), (0, va_rf a0), (1, .int a1), (3, .int a3)]) C rfl rfl dX1_bestFor_89 (by decide) ?_
        refine xr_iinc (v := (a3 + 1)) (L2 := [(3, .int (a3 + 1)), (2, .int a2), (4, .int s0), (0, va_rf a0), (1, .int a1)]) 4 C rfl rfl rfl dX1_bestFor_90 (by decide) ?_
        refine xr_goto 5 C dX1_bestFor_93 (by decide) ?_
        refine xr_sub [3, 4, 1, 0] rfl ?_
        exact hkb5 a2 (a3 + 1) h6 E
      · refine xr_iload_n 4 C rfl rfl dX1_bestFor_84 ?_
        refine xr_goto 89 C dX1_bestFor_85 (by decide) ?_
        refine xr_istore_n (L2 := [(2, .int a3), (4, .int s0), (0, va_rf a0), (1, .int a1), (3, .int a3)]) C rfl rfl dX1_bestFor_89 (by decide) ?_
        refine xr_iinc (v := (a3 + 1)) (L2 := [(3, .int (a3 + 1)), (2, .int a3), (4, .int s0), (0, va_rf a0), (1, .int a1)]) 4 C rfl rfl rfl dX1_bestFor_90 (by decide) ?_
        refine xr_goto 5 C dX1_bestFor_93 (by decide) ?_
        refine xr_sub [3, 4, 1, 0] rfl ?_
        exact hkb5 a3 (a3 + 1) h6 E
def mf_X1_bestFor_L5 (a0 : Option Nat) (a1 : Int32) : Nat → Int32 → Int32 → xk_H → Option (Int32 × xk_H)
  | 0, _, _, _ => none
  | n + 1, a2, a3, h0 => xm_rc [1] a0 h0 <| xm_cl (mf_X1_size a0 h0) fun r1 h2 => if r1 ≤ a3 then (some (a2, h2)) else (if a3 = a1 then (mf_X1_bestFor_J60 (fun m2 m3 g => mf_X1_bestFor_L5 a0 a1 n m2 m3 g) a0 a1 a2 a3 (0 : Int32) h2) else (xm_rc [1] a0 h2 <| xm_cl (mf_X1_isAround a0 a1 a3 h2) fun r7 h8 => if xk_b2 r7 = 0 then (xm_rc [1] a0 h8 <| xm_cl (mf_X1_at a0 a1 h8) fun r9 h10 => xm_gI [3] 4 r9 h10 fun x11 => if x11 = a3 then (mf_X1_bestFor_J60 (fun m2 m3 g => mf_X1_bestFor_L5 a0 a1 n m2 m3 g) a0 a1 a2 a3 (0 : Int32) h10) else (xm_rc [1] a0 h10 <| xm_cl (mf_X1_left a0 a3 h10) fun r12 h13 => xm_rc [1] a0 h13 <| xm_cl (mf_X1_at a0 a1 h13) fun r14 h15 => xm_gI [3] 0 r14 h15 fun x16 => if r12 < x16 then (mf_X1_bestFor_J60 (fun m2 m3 g => mf_X1_bestFor_L5 a0 a1 n m2 m3 g) a0 a1 a2 a3 (0 : Int32) h15) else (mf_X1_bestFor_J60 (fun m2 m3 g => mf_X1_bestFor_L5 a0 a1 n m2 m3 g) a0 a1 a2 a3 (1 : Int32) h15))) else (mf_X1_bestFor_J60 (fun m2 m3 g => mf_X1_bestFor_L5 a0 a1 n m2 m3 g) a0 a1 a2 a3 (0 : Int32) h8)))
set_option maxHeartbeats 1000000 in
theorem wk_X1_bestFor_L5 {Γ : xk_C} {r : Int32} {h' : xk_H} {a0 : Option Nat} {a1 : Int32} (C : xk_Cx Γ RX1 cX1_bestFor 5 (Option.some FieldType.int) "bestFor" 6 169) (Z : xk_Z Γ (some (.int r)) h') : ∀ (n : Nat) (a2 : Int32) (a3 : Int32) (h0 : xk_H), mf_X1_bestFor_L5 a0 a1 n a2 a3 h0 = some (r, h') → xk_X Γ 5 [(0, va_rf a0), (1, .int a1), (2, .int a2), (3, .int a3)] [] h0 := by
  intro n
  induction n with
  | zero =>
    intro a2 a3 h0 E
    rw [mf_X1_bestFor_L5] at E
    cases E
  | succ n ih =>
    intro a2 a3 h0 E
    have hkb5 : ∀ (m2 : Int32) (m3 : Int32) (g : xk_H), mf_X1_bestFor_L5 a0 a1 n m2 m3 g = some (r, h') → xk_X Γ 5 [(0, va_rf a0), (1, .int a1), (2, .int m2), (3, .int m3)] [] g := ih
    rw [mf_X1_bestFor_L5] at E
    refine xr_iload_n 3 C rfl rfl dX1_bestFor_5 ?_
    refine xr_aload_n 0 C rfl rfl dX1_bestFor_6 ?_
    refine xr_V (v := a0) [] [.int a3] (fun r => some (.int r)) (fun r => .int r :: [.int a3]) C E xi_1_SlatCratesYard (fun r h' e => wk_X1_size e) q1242 q262 q263 q79 q264 xh_SlatCrates_Yard xd_X1_size (by decide) (by decide) ⟨rfl, trivial⟩ (Nat.le_of_ble_eq_true rfl) rfl (fun _ => rfl) dX1_bestFor_7 (fun r1 h2 E => ?_)
    refine xr_icmp_ge 96 C E dX1_bestFor_10 (by decide) (fun E => ?_) (fun E => ?_)
    · refine xr_iload_n 2 C rfl rfl dX1_bestFor_96 ?_
      exact xr_iret C Z E dX1_bestFor_97
    · refine xr_iload_n 3 C rfl rfl dX1_bestFor_13 ?_
      refine xr_iload_n 1 C rfl rfl dX1_bestFor_14 ?_
      refine xr_icmp_eq 59 C E dX1_bestFor_15 (by decide) (fun E => ?_) (fun E => ?_)
      · refine xr_iconst (0) C (by decide) dX1_bestFor_59 ?_
        exact wk_X1_bestFor_J60 C Z hkb5 E
      · refine xr_aload_n 0 C rfl rfl dX1_bestFor_18 ?_
        refine xr_iload_n 1 C rfl rfl dX1_bestFor_19 ?_
        refine xr_iload_n 3 C rfl rfl dX1_bestFor_20 ?_
        refine xr_V (v := a0) [.int a1, .int a3] [] (fun r => some (.int (xk_b2 r))) (fun r => .int (xk_b2 r) :: []) C E xi_1_SlatCratesYard (fun r h' e => wk_X1_isAround e) q989 q990 q991 q79 q992 xh_SlatCrates_Yard xd_X1_isAround (by decide) (by decide) trivial (Nat.le_of_ble_eq_true rfl) rfl (fun _ => rfl) dX1_bestFor_21 (fun r7 h8 E => ?_)
        refine xr_if_ne 59 C E dX1_bestFor_24 (by decide) (fun E => ?_) (fun E => ?_)
        · refine xr_iconst (0) C (by decide) dX1_bestFor_59 ?_
          exact wk_X1_bestFor_J60 C Z hkb5 E
        · refine xr_aload_n 0 C rfl rfl dX1_bestFor_27 ?_
          refine xr_iload_n 1 C rfl rfl dX1_bestFor_28 ?_
          refine xr_V (v := a0) [.int a1] [] (fun r => some (va_rf r)) (fun r => va_rf r :: []) C E xi_1_SlatCratesYard (fun r h' e => wk_X1_at e) q921 q922 q923 q79 q924 xh_SlatCrates_Yard xd_X1_at (by decide) (by decide) trivial (Nat.le_of_ble_eq_true rfl) rfl (fun _ => rfl) dX1_bestFor_29 (fun r9 h10 E => ?_)
          refine xr_gI C E xf_X1_59 dX1_bestFor_32 (fun x11 E => ?_)
          refine xr_iload_n 3 C rfl rfl dX1_bestFor_35 ?_
          refine xr_icmp_eq 59 C E dX1_bestFor_36 (by decide) (fun E => ?_) (fun E => ?_)
          · refine xr_iconst (0) C (by decide) dX1_bestFor_59 ?_
            exact wk_X1_bestFor_J60 C Z hkb5 E
          · refine xr_aload_n 0 C rfl rfl dX1_bestFor_39 ?_
            refine xr_iload_n 3 C rfl rfl dX1_bestFor_40 ?_
            refine xr_V (v := a0) [.int a3] [] (fun r => some (.int r)) (fun r => .int r :: []) C E xi_1_SlatCratesYard (fun r h' e => wk_X1_left e) q993 q994 q995 q79 q996 xh_SlatCrates_Yard xd_X1_left (by decide) (by decide) trivial (Nat.le_of_ble_eq_true rfl) rfl (fun _ => rfl) dX1_bestFor_41 (fun r12 h13 E => ?_)
            refine xr_aload_n 0 C rfl rfl dX1_bestFor_44 ?_
            refine xr_iload_n 1 C rfl rfl dX1_bestFor_45 ?_
            refine xr_V (v := a0) [.int a1] [.int r12] (fun r => some (va_rf r)) (fun r => va_rf r :: [.int r12]) C E xi_1_SlatCratesYard (fun r h' e => wk_X1_at e) q921 q922 q923 q79 q924 xh_SlatCrates_Yard xd_X1_at (by decide) (by decide) ⟨rfl, trivial⟩ (Nat.le_of_ble_eq_true rfl) rfl (fun _ => rfl) dX1_bestFor_46 (fun r14 h15 E => ?_)
            refine xr_gI C E xf_X1_85 dX1_bestFor_49 (fun x16 E => ?_)
            refine xr_icmp_lt 59 C E dX1_bestFor_52 (by decide) (fun E => ?_) (fun E => ?_)
            · refine xr_iconst (0) C (by decide) dX1_bestFor_59 ?_
              exact wk_X1_bestFor_J60 C Z hkb5 E
            · refine xr_iconst (1) C (by decide) dX1_bestFor_55 ?_
              refine xr_goto 60 C dX1_bestFor_56 (by decide) ?_
              exact wk_X1_bestFor_J60 C Z hkb5 E
def mf_X1_bestFor (a0 : Option Nat) (a1 : Int32) (h0 : xk_H) : Option (Int32 × xk_H) :=
  mf_X1_bestFor_L5 a0 a1 xk_fu (-4 : Int32) (0 : Int32) h0
set_option maxHeartbeats 1000000 in
theorem wk_X1_bestFor {l : Launch} {D : va_G} {base : Nat} {a0 : Option Nat} {a1 : Int32} {h0 : xk_H} {r : Int32} {h' : xk_H} (E : mf_X1_bestFor a0 a1 h0 = some (r, h')) : xk_Ok l D base yX1_bestFor cX1_bestFor 5 (Option.some FieldType.int) 6 169 [va_rf a0, .int a1] h0 (some (.int r)) h' := by
  refine xk_ofX RX1 "bestFor" xq_X1_bestFor rfl rfl (Nat.le_of_ble_eq_true rfl) ⟨xk_crf _, ⟨rfl, trivial⟩⟩ (fun Γ el eD eb C Z => ?_)
  rw [mf_X1_bestFor] at E
  show xk_X Γ 0 [(0, va_rf a0), (1, .int a1)] [] h0
  refine xr_bipush (-4) C (by decide) dX1_bestFor_0 ?_
  refine xr_istore_n (L2 := [(2, .int (-4 : Int32)), (0, va_rf a0), (1, .int a1)]) C rfl rfl dX1_bestFor_2 (by decide) ?_
  refine xr_iconst (0) C (by decide) dX1_bestFor_3 ?_
  refine xr_istore_n (L2 := [(3, .int (0 : Int32)), (2, .int (-4 : Int32)), (0, va_rf a0), (1, .int a1)]) C rfl rfl dX1_bestFor_4 (by decide) ?_
  refine xr_sub [2, 3, 1, 0] rfl ?_
  exact wk_X1_bestFor_L5 (a0 := a0) (a1 := a1) C Z xk_fu (-4 : Int32) (0 : Int32) h0 E
def mf_X3_hasGap (a0 : Option Nat) (a1 : Int32) (h0 : xk_H) : Option (Bool × xk_H) :=
  xm_gI [3] 2 a0 h0 fun x1 => if ((x1 >>> (a1 &&& 31)) &&& (1 : Int32)) = (1 : Int32) then (some (true, h0)) else (some (false, h0))
set_option maxHeartbeats 1000000 in
theorem wk_X3_hasGap {l : Launch} {D : va_G} {base : Nat} {a0 : Option Nat} {a1 : Int32} {h0 : xk_H} {r : Bool} {h' : xk_H} (E : mf_X3_hasGap a0 a1 h0 = some (r, h')) : xk_Ok l D base yX3_hasGap cX3_hasGap 2 (Option.some FieldType.boolean) 1 60 [va_rf a0, .int a1] h0 (some (.int (xk_b2 r))) h' := by
  refine xk_ofX RX3 "hasGap" xq_X3_hasGap rfl rfl (Nat.le_of_ble_eq_true rfl) ⟨xk_crf _, ⟨rfl, trivial⟩⟩ (fun Γ el eD eb C Z => ?_)
  rw [mf_X3_hasGap] at E
  show xk_X Γ 0 [(0, va_rf a0), (1, .int a1)] [] h0
  refine xr_aload_n 0 C rfl rfl dX3_hasGap_0 ?_
  refine xr_gI C E xf_X3_28 dX3_hasGap_1 (fun x1 E => ?_)
  refine xr_iload_n 1 C rfl rfl dX3_hasGap_4 ?_
  refine xr_ishr C dX3_hasGap_5 ?_
  refine xr_iconst (1) C (by decide) dX3_hasGap_6 ?_
  refine xr_iand C dX3_hasGap_7 ?_
  refine xr_iconst (1) C (by decide) dX3_hasGap_8 ?_
  refine xr_icmp_ne 16 C E dX3_hasGap_9 (by decide) (fun E => ?_) (fun E => ?_)
  · refine xr_iconst (0) C (by decide) dX3_hasGap_16 ?_
    exact xr_bret (b := false) C Z E dX3_hasGap_17
  · refine xr_iconst (1) C (by decide) dX3_hasGap_12 ?_
    refine xr_goto 17 C dX3_hasGap_13 (by decide) ?_
    exact xr_bret (b := true) C Z E dX3_hasGap_17
def mf_X1_isOpen_J40 (kb12 : Int32 → Int32 → xk_H → Option (Bool × xk_H)) (a0 : Option Nat) (a2 : Int32) (a4 : Int32) (s0 : Int32) (h0 : xk_H) : Option (Bool × xk_H) :=
  xm_rc [1] a0 h0 <| xm_cl (mf_X1_at a0 a4 h0) fun r5 h6 => xm_gI [3] 4 r5 h6 fun x7 => kb12 s0 x7 h6
set_option maxHeartbeats 1000000 in
theorem wk_X1_isOpen_J40 {Γ : xk_C} {r : Bool} {h' : xk_H} {kb12 : Int32 → Int32 → xk_H → Option (Bool × xk_H)} {a0 : Option Nat} {a2 : Int32} {a4 : Int32} {s0 : Int32} {h0 : xk_H} (C : xk_Cx Γ RX1 cX1_isOpen 5 (Option.some FieldType.boolean) "isOpen" 5 145) (Z : xk_Z Γ (some (.int (xk_b2 r))) h') (hkb12 : ∀ (m3 : Int32) (m4 : Int32) (g : xk_H), kb12 m3 m4 g = some (r, h') → xk_X Γ 12 [(0, va_rf a0), (2, .int a2), (3, .int m3), (4, .int m4)] [] g) (E : mf_X1_isOpen_J40 kb12 a0 a2 a4 s0 h0 = some (r, h')) : xk_X Γ 40 [(0, va_rf a0), (2, .int a2), (4, .int a4)] [.int s0] h0 := by
  rw [mf_X1_isOpen_J40] at E
  refine xr_istore_n (L2 := [(3, .int s0), (0, va_rf a0), (2, .int a2), (4, .int a4)]) C rfl rfl dX1_isOpen_40 (by decide) ?_
  refine xr_aload_n 1 C rfl rfl dX1_isOpen_41 ?_
  refine xr_iload 3 C rfl dX1_isOpen_42 ?_
  refine xr_V (v := a0) [.int a4] [] (fun r => some (va_rf r)) (fun r => va_rf r :: []) C E xi_1_SlatCratesYard (fun r h' e => wk_X1_at e) q921 q922 q923 q79 q924 xh_SlatCrates_Yard xd_X1_at (by decide) (by decide) trivial (Nat.le_of_ble_eq_true rfl) rfl (fun _ => rfl) dX1_isOpen_44 (fun r5 h6 E => ?_)
  refine xr_gI C E xf_X1_59 dX1_isOpen_47 (fun x7 E => ?_)
  refine xr_istore (L2 := [(4, .int x7), (3, .int s0), (0, va_rf a0), (2, .int a2)]) C rfl dX1_isOpen_50 (by decide) ?_
  refine xr_goto 12 C dX1_isOpen_52 (by decide) ?_
  refine xr_sub [2, 3, 1, 0] rfl ?_
  exact hkb12 s0 x7 h6 E
def mf_X1_isOpen_L12 (a0 : Option Nat) (a2 : Int32) : Nat → Int32 → Int32 → xk_H → Option (Bool × xk_H)
  | 0, _, _, _ => none
  | n + 1, a3, a4, h0 => if a4 = (-1 : Int32) then (xm_z a3 fun x4 => some (x4, h0)) else (if a3 = 0 then (mf_X1_isOpen_J40 (fun m3 m4 g => mf_X1_isOpen_L12 a0 a2 n m3 m4 g) a0 a2 a4 (0 : Int32) h0) else (xm_rc [1] a0 h0 <| xm_cl (mf_X1_at a0 a4 h0) fun r8 h9 => xm_rc [3] r8 h9 <| xm_cl (mf_X3_hasGap r8 a2 h9) fun r10 h11 => if xk_b2 r10 = 0 then (mf_X1_isOpen_J40 (fun m3 m4 g => mf_X1_isOpen_L12 a0 a2 n m3 m4 g) a0 a2 a4 (0 : Int32) h11) else (mf_X1_isOpen_J40 (fun m3 m4 g => mf_X1_isOpen_L12 a0 a2 n m3 m4 g) a0 a2 a4 (1 : Int32) h11)))
set_option maxHeartbeats 1000000 in
theorem wk_X1_isOpen_L12 {Γ : xk_C} {r : Bool} {h' : xk_H} {a0 : Option Nat} {a2 : Int32} (C : xk_Cx Γ RX1 cX1_isOpen 5 (Option.some FieldType.boolean) "isOpen" 5 145) (Z : xk_Z Γ (some (.int (xk_b2 r))) h') : ∀ (n : Nat) (a3 : Int32) (a4 : Int32) (h0 : xk_H), mf_X1_isOpen_L12 a0 a2 n a3 a4 h0 = some (r, h') → xk_X Γ 12 [(0, va_rf a0), (2, .int a2), (3, .int a3), (4, .int a4)] [] h0 := by
  intro n
  induction n with
  | zero =>
    intro a3 a4 h0 E
    rw [mf_X1_isOpen_L12] at E
    cases E
  | succ n ih =>
    intro a3 a4 h0 E
    have hkb12 : ∀ (m3 : Int32) (m4 : Int32) (g : xk_H), mf_X1_isOpen_L12 a0 a2 n m3 m4 g = some (r, h') → xk_X Γ 12 [(0, va_rf a0), (2, .int a2), (3, .int m3), (4, .int m4)] [] g := ih
    rw [mf_X1_isOpen_L12] at E
    refine xr_iload 3 C rfl dX1_isOpen_12 ?_
    refine xr_iconst (-1) C (by decide) dX1_isOpen_14 ?_
    refine xr_icmp_eq 55 C E dX1_isOpen_15 (by decide) (fun E => ?_) (fun E => ?_)
    · refine xr_iload_n 2 C rfl rfl dX1_isOpen_55 ?_
      exact xr_zretz C Z E dX1_isOpen_56
    · refine xr_iload_n 2 C rfl rfl dX1_isOpen_18 ?_
      refine xr_if_eq 39 C E dX1_isOpen_19 (by decide) (fun E => ?_) (fun E => ?_)
      · refine xr_iconst (0) C (by decide) dX1_isOpen_39 ?_
        refine xr_sub [0, 1, 3] rfl ?_
        exact wk_X1_isOpen_J40 C Z hkb12 E
      · refine xr_aload_n 0 C rfl rfl dX1_isOpen_22 ?_
        refine xr_iload 3 C rfl dX1_isOpen_23 ?_
        refine xr_V (v := a0) [.int a4] [] (fun r => some (va_rf r)) (fun r => va_rf r :: []) C E xi_1_SlatCratesYard (fun r h' e => wk_X1_at e) q921 q922 q923 q79 q924 xh_SlatCrates_Yard xd_X1_at (by decide) (by decide) trivial (Nat.le_of_ble_eq_true rfl) rfl (fun _ => rfl) dX1_isOpen_25 (fun r8 h9 E => ?_)
        refine xr_iload_n 1 C rfl rfl dX1_isOpen_28 ?_
        refine xr_V (v := r8) [.int a2] [] (fun r => some (.int (xk_b2 r))) (fun r => .int (xk_b2 r) :: []) C E xi_3_SlatCratesCrate (fun r h' e => wk_X3_hasGap e) q1310 q1311 q1312 q102 q1313 xh_SlatCrates_Crate xd_X3_hasGap (by decide) (by decide) trivial (Nat.le_of_ble_eq_true rfl) rfl (fun _ => rfl) dX1_isOpen_29 (fun r10 h11 E => ?_)
        refine xr_if_eq 39 C E dX1_isOpen_32 (by decide) (fun E => ?_) (fun E => ?_)
        · refine xr_iconst (0) C (by decide) dX1_isOpen_39 ?_
          refine xr_sub [0, 1, 3] rfl ?_
          exact wk_X1_isOpen_J40 C Z hkb12 E
        · refine xr_iconst (1) C (by decide) dX1_isOpen_35 ?_
          refine xr_goto 40 C dX1_isOpen_36 (by decide) ?_
          refine xr_sub [0, 1, 3] rfl ?_
          exact wk_X1_isOpen_J40 C Z hkb12 E
def mf_X1_isOpen (a0 : Option Nat) (a1 : Int32) (a2 : Int32) (h0 : xk_H) : Option (Bool × xk_H) :=
  xm_rc [1] a0 h0 <| xm_cl (mf_X1_at a0 a1 h0) fun r1 h2 => xm_gI [3] 4 r1 h2 fun x3 => mf_X1_isOpen_L12 a0 a2 xk_fu (1 : Int32) x3 h2
set_option maxHeartbeats 1000000 in
theorem wk_X1_isOpen {l : Launch} {D : va_G} {base : Nat} {a0 : Option Nat} {a1 : Int32} {a2 : Int32} {h0 : xk_H} {r : Bool} {h' : xk_H} (E : mf_X1_isOpen a0 a1 a2 h0 = some (r, h')) : xk_Ok l D base yX1_isOpen cX1_isOpen 5 (Option.some FieldType.boolean) 5 145 [va_rf a0, .int a1, .int a2] h0 (some (.int (xk_b2 r))) h' := by
  refine xk_ofX RX1 "isOpen" xq_X1_isOpen rfl rfl (Nat.le_of_ble_eq_true rfl) ⟨xk_crf _, ⟨rfl, ⟨rfl, trivial⟩⟩⟩ (fun Γ el eD eb C Z => ?_)
  rw [mf_X1_isOpen] at E
  show xk_X Γ 0 [(0, va_rf a0), (1, .int a1), (2, .int a2)] [] h0
  refine xr_iconst (1) C (by decide) dX1_isOpen_0 ?_
  refine xr_istore_n (L2 := [(3, .int (1 : Int32)), (0, va_rf a0), (1, .int a1), (2, .int a2)]) C rfl rfl dX1_isOpen_1 (by decide) ?_
  refine xr_aload_n 1 C rfl rfl dX1_isOpen_2 ?_
  refine xr_iload_n 2 C rfl rfl dX1_isOpen_3 ?_
  refine xr_V (v := a0) [.int a1] [] (fun r => some (va_rf r)) (fun r => va_rf r :: []) C E xi_1_SlatCratesYard (fun r h' e => wk_X1_at e) q921 q922 q923 q79 q924 xh_SlatCrates_Yard xd_X1_at (by decide) (by decide) trivial (Nat.le_of_ble_eq_true rfl) rfl (fun _ => rfl) dX1_isOpen_4 (fun r1 h2 E => ?_)
  refine xr_gI C E xf_X1_59 dX1_isOpen_7 (fun x3 E => ?_)
  refine xr_istore (L2 := [(4, .int x3), (3, .int (1 : Int32)), (0, va_rf a0), (1, .int a1), (2, .int a2)]) C rfl dX1_isOpen_10 (by decide) ?_
  refine xr_sub [2, 4, 1, 0] rfl ?_
  exact wk_X1_isOpen_L12 (a0 := a0) (a2 := a2) C Z xk_fu (1 : Int32) x3 h2 E
def mf_X1_sign (a0 : Option Nat) (a1 : Int32) (a2 : Int32) (h0 : xk_H) : Option (Int32 × xk_H) :=
  xm_rc [1] a0 h0 <| xm_cl (mf_X1_at a0 a1 h0) fun r1 h2 => xm_gR [3] 3 r1 h2 fun x3 => xm_rc [1] a0 h2 <| xm_cl (mf_X1_isOpen a0 a1 a2 h2) fun r4 h5 => if xk_b2 r4 = 0 then (some ((26 : Int32), h5)) else (xm_len [100] x3 h5 fun x6 => if x6 ≤ a2 then (some ((27 : Int32), h5)) else (xm_lI [100] x3 a2 h5 fun x7 => some (x7, h5)))
set_option maxHeartbeats 1000000 in
theorem wk_X1_sign {l : Launch} {D : va_G} {base : Nat} {a0 : Option Nat} {a1 : Int32} {a2 : Int32} {h0 : xk_H} {r : Int32} {h' : xk_H} (E : mf_X1_sign a0 a1 a2 h0 = some (r, h')) : xk_Ok l D base yX1_sign cX1_sign 4 (Option.some FieldType.int) 6 169 [va_rf a0, .int a1, .int a2] h0 (some (.int r)) h' := by
  refine xk_ofX RX1 "sign" xq_X1_sign rfl rfl (Nat.le_of_ble_eq_true rfl) ⟨xk_crf _, ⟨rfl, ⟨rfl, trivial⟩⟩⟩ (fun Γ el eD eb C Z => ?_)
  rw [mf_X1_sign] at E
  show xk_X Γ 0 [(0, va_rf a0), (1, .int a1), (2, .int a2)] [] h0
  refine xr_aload_n 0 C rfl rfl dX1_sign_0 ?_
  refine xr_iload_n 1 C rfl rfl dX1_sign_1 ?_
  refine xr_V (v := a0) [.int a1] [] (fun r => some (va_rf r)) (fun r => va_rf r :: []) C E xi_1_SlatCratesYard (fun r h' e => wk_X1_at e) q921 q922 q923 q79 q924 xh_SlatCrates_Yard xd_X1_at (by decide) (by decide) trivial (Nat.le_of_ble_eq_true rfl) rfl (fun _ => rfl) dX1_sign_2 (fun r1 h2 E => ?_)
  refine xr_gR C E xf_X1_119 dX1_sign_5 (fun x3 E => ?_)
  refine xr_astore_n (L2 := [(3, va_rf x3), (0, va_rf a0), (1, .int a1), (2, .int a2)]) C rfl rfl dX1_sign_8 (by decide) ?_
  refine xr_aload_n 1 C rfl rfl dX1_sign_9 ?_
  refine xr_iload_n 2 C rfl rfl dX1_sign_10 ?_
  refine xr_iload_n 3 C rfl rfl dX1_sign_11 ?_
  refine xr_V (v := a0) [.int a1, .int a2] [] (fun r => some (.int (xk_b2 r))) (fun r => .int (xk_b2 r) :: []) C E xi_1_SlatCratesYard (fun r h' e => wk_X1_isOpen e) q1306 q1308 qs19 q79 q1309 xh_SlatCrates_Yard xd_X1_isOpen (by decide) (by decide) trivial (Nat.le_of_ble_eq_true rfl) rfl (fun _ => rfl) dX1_sign_12 (fun r4 h5 E => ?_)
  refine xr_if_ne 23 C E dX1_sign_15 (by decide) (fun E => ?_) (fun E => ?_)
  · refine xr_iload_n 3 C rfl rfl dX1_sign_23 ?_
    refine xr_aload_n 0 C rfl rfl dX1_sign_24 ?_
    refine xr_len 0 .int C E (fun _ => rfl) xt_100 dX1_sign_25 (fun x6 E => ?_)
    refine xr_icmp_ge 35 C E dX1_sign_26 (by decide) (fun E => ?_) (fun E => ?_)
    · refine xr_bipush (27) C (by decide) dX1_sign_35 ?_
      exact xr_iret C Z E dX1_sign_37
    · refine xr_aload_n 0 C rfl rfl dX1_sign_29 ?_
      refine xr_iload_n 3 C rfl rfl dX1_sign_30 ?_
      refine xr_lI C E xt_100 dX1_sign_31 (fun x7 E => ?_)
      refine xr_goto 37 C dX1_sign_32 (by decide) ?_
      exact xr_iret C Z E dX1_sign_37
  · refine xr_bipush (26) C (by decide) dX1_sign_18 ?_
    refine xr_goto 37 C dX1_sign_20 (by decide) ?_
    exact xr_iret C Z E dX1_sign_37
def mf_X1_seen_L4 (kx26 : Int32 → xk_H → Option (Option Nat × xk_H)) (a0 : Option Nat) (a1 : Int32) : Nat → Int32 → Int32 → xk_H → Option (Option Nat × xk_H)
  | 0, _, _, _ => none
  | n + 1, a2, a3, h0 => if a3 < 0 then (kx26 a2 h0) else (xm_rc [1] a0 h0 <| xm_cl (mf_X1_sign a0 a1 a3 h0) fun r1 h2 => mf_X1_seen_L4 kx26 a0 a1 n (((28 : Int32) * a2) + r1) (a3 + (-1 : Int32)) h2)
set_option maxHeartbeats 1000000 in
theorem wk_X1_seen_L4 {Γ : xk_C} {r : Option Nat} {h' : xk_H} {kx26 : Int32 → xk_H → Option (Option Nat × xk_H)} {a0 : Option Nat} {a1 : Int32} (C : xk_Cx Γ RX1 cX1_seen 4 (Option.some (FieldType.object "SlatCrates$Seen")) "seen" 7 192) (Z : xk_Z Γ (some (va_rf r)) h') (hkx26 : ∀ (m2 : Int32) (g : xk_H), kx26 m2 g = some (r, h') → xk_X Γ 26 [(0, va_rf a0), (1, .int a1), (2, .int m2)] [] g) : ∀ (n : Nat) (a2 : Int32) (a3 : Int32) (h0 : xk_H), mf_X1_seen_L4 kx26 a0 a1 n a2 a3 h0 = some (r, h') → xk_X Γ 4 [(0, va_rf a0), (1, .int a1), (2, .int a2), (3, .int a3)] [] h0 := by
  intro n
  induction n with
  | zero =>
    intro a2 a3 h0 E
    rw [mf_X1_seen_L4] at E
    cases E
  | succ n ih =>
    intro a2 a3 h0 E
    have hkb4 : ∀ (m2 : Int32) (m3 : Int32) (g : xk_H), mf_X1_seen_L4 kx26 a0 a1 n m2 m3 g = some (r, h') → xk_X Γ 4 [(0, va_rf a0), (1, .int a1), (2, .int m2), (3, .int m3)] [] g := ih
    rw [mf_X1_seen_L4] at E
    refine xr_iload_n 3 C rfl rfl dX1_seen_4 ?_
    refine xr_if_lt 26 C E dX1_seen_5 (by decide) (fun E => ?_) (fun E => ?_)
    · refine xr_sub [0, 1, 2] rfl ?_
      exact hkx26 a2 h0 E
    · refine xr_bipush (28) C (by decide) dX1_seen_8 ?_
      refine xr_iload_n 2 C rfl rfl dX1_seen_10 ?_
      refine xr_imul C dX1_seen_11 ?_
      refine xr_aload_n 0 C rfl rfl dX1_seen_12 ?_
      refine xr_iload_n 1 C rfl rfl dX1_seen_13 ?_
      refine xr_iload_n 3 C rfl rfl dX1_seen_14 ?_
      refine xr_V (v := a0) [.int a1, .int a3] [.int ((28 : Int32) * a2)] (fun r => some (.int r)) (fun r => .int r :: [.int ((28 : Int32) * a2)]) C E xi_1_SlatCratesYard (fun r h' e => wk_X1_sign e) q1302 q1304 qs18 q79 q1305 xh_SlatCrates_Yard xd_X1_sign (by decide) (by decide) ⟨rfl, trivial⟩ (Nat.le_of_ble_eq_true rfl) rfl (fun _ => rfl) dX1_seen_15 (fun r1 h2 E => ?_)
      refine xr_iadd C dX1_seen_18 ?_
      refine xr_istore_n (L2 := [(2, .int (((28 : Int32) * a2) + r1)), (0, va_rf a0), (1, .int a1), (3, .int a3)]) C rfl rfl dX1_seen_19 (by decide) ?_
      refine xr_iinc (v := (a3 + (-1 : Int32))) (L2 := [(3, .int (a3 + (-1 : Int32))), (2, .int (((28 : Int32) * a2) + r1)), (0, va_rf a0), (1, .int a1)]) 3 C rfl (congrArg (HAdd.hAdd a3) (show Int32.ofInt (-1) = (-1 : Int32) by decide)) rfl dX1_seen_20 (by decide) ?_
      refine xr_goto 4 C dX1_seen_23 (by decide) ?_
      refine xr_sub [2, 3, 1, 0] rfl ?_
      exact hkb4 (((28 : Int32) * a2) + r1) (a3 + (-1 : Int32)) h2 E
def mf_X1_seen (a0 : Option Nat) (a1 : Int32) (h0 : xk_H) : Option (Option Nat × xk_H) :=
  mf_X1_seen_L4 (fun m3 h4 => xm_new 5 [.int 0, .int 0, .int 0] h4 fun b5 h6 => xm_rc [1] a0 h6 <| xm_cl (mf_X1_at a0 a1 h6) fun r7 h8 => xm_gI [3] 0 r7 h8 fun x9 => xm_rc [1] a0 h8 <| xm_cl (mf_X1_depth a0 a1 h8) fun r10 h11 => xm_cl (mf_X5_init b5 x9 r10 m3 h11) fun r12 h13 => some ((some b5), h13)) a0 a1 xk_fu (0 : Int32) (3 : Int32) h0
set_option maxHeartbeats 1000000 in
theorem wk_X1_seen {l : Launch} {D : va_G} {base : Nat} {a0 : Option Nat} {a1 : Int32} {h0 : xk_H} {r : Option Nat} {h' : xk_H} (E : mf_X1_seen a0 a1 h0 = some (r, h')) : xk_Ok l D base yX1_seen cX1_seen 4 (Option.some (FieldType.object "SlatCrates$Seen")) 7 192 [va_rf a0, .int a1] h0 (some (va_rf r)) h' := by
  refine xk_ofX RX1 "seen" xq_X1_seen rfl rfl (Nat.le_of_ble_eq_true rfl) ⟨xk_crf _, ⟨rfl, trivial⟩⟩ (fun Γ el eD eb C Z => ?_)
  rw [mf_X1_seen] at E
  show xk_X Γ 0 [(0, va_rf a0), (1, .int a1)] [] h0
  refine xr_iconst (0) C (by decide) dX1_seen_0 ?_
  refine xr_istore_n (L2 := [(2, .int (0 : Int32)), (0, va_rf a0), (1, .int a1)]) C rfl rfl dX1_seen_1 (by decide) ?_
  refine xr_iconst (3) C (by decide) dX1_seen_2 ?_
  refine xr_istore_n (L2 := [(3, .int (3 : Int32)), (2, .int (0 : Int32)), (0, va_rf a0), (1, .int a1)]) C rfl rfl dX1_seen_3 (by decide) ?_
  refine xr_sub [2, 3, 1, 0] rfl ?_
  refine wk_X1_seen_L4 (a0 := a0) (a1 := a1) C Z (fun m3 h4 E => ?_) xk_fu (0 : Int32) (3 : Int32) h0 E
  · refine xr_new (t := 5) (C0 := "SlatCrates$Seen") (n := 3) C E (by decide) xn_X5 (fun r hr => by cases hr; exact ⟨rfl, rfl⟩) q1314 q1315 q110 dX1_seen_26 (fun b5 h6 E => ?_)
    refine xr_dup C (xk_crf _) dX1_seen_29 ?_
    refine xr_aload_n 0 C rfl rfl dX1_seen_30 ?_
    refine xr_iload_n 1 C rfl rfl dX1_seen_31 ?_
    refine xr_V (v := a0) [.int a1] [va_rf (some b5), va_rf (some b5)] (fun r => some (va_rf r)) (fun r => va_rf r :: [va_rf (some b5), va_rf (some b5)]) C E xi_1_SlatCratesYard (fun r h' e => wk_X1_at e) q921 q922 q923 q79 q924 xh_SlatCrates_Yard xd_X1_at (by decide) (by decide) ⟨xk_crf _, ⟨xk_crf _, trivial⟩⟩ (Nat.le_of_ble_eq_true rfl) rfl (fun _ => rfl) dX1_seen_32 (fun r7 h8 E => ?_)
    refine xr_gI C E xf_X1_85 dX1_seen_35 (fun x9 E => ?_)
    refine xr_aload_n 0 C rfl rfl dX1_seen_38 ?_
    refine xr_iload_n 1 C rfl rfl dX1_seen_39 ?_
    refine xr_V (v := a0) [.int a1] [.int x9, va_rf (some b5), va_rf (some b5)] (fun r => some (.int r)) (fun r => .int r :: [.int x9, va_rf (some b5), va_rf (some b5)]) C E xi_1_SlatCratesYard (fun r h' e => wk_X1_depth e) q1316 q1020 q1021 q79 q1022 xh_SlatCrates_Yard xd_X1_depth (by decide) (by decide) ⟨rfl, ⟨xk_crf _, ⟨xk_crf _, trivial⟩⟩⟩ (Nat.le_of_ble_eq_true rfl) rfl (fun _ => rfl) dX1_seen_40 (fun r10 h11 E => ?_)
    refine xr_iload_n 2 C rfl rfl dX1_seen_43 ?_
    refine xr_I (b := b5) [.int x9, .int r10, .int m3] [va_rf (some b5)] (fun _ => none) (fun _ => [va_rf (some b5)]) C E (fun r h' e => wk_X5_init e) q1317 q1318 q110 q1319 xh_SlatCrates_Seen rfl xd_X5_init (by decide) (by decide) ⟨xk_crf _, trivial⟩ (Nat.le_of_ble_eq_true rfl) rfl (fun _ => rfl) dX1_seen_44 (fun r12 h13 E => ?_)
    exact xr_aret C Z E (Or.inl ⟨_, rfl⟩) dX1_seen_47
def mf_X1_looks_J52 (kb10 : Int32 → xk_H → Option (Option Nat × xk_H)) (a0 : Option Nat) (a1 : Option Nat) (a2 : Int32) (s0 : Int32) (s1 : Option Nat) (s2 : Option Nat) (h0 : xk_H) : Option (Option Nat × xk_H) :=
  xm_cl (mf_J22_valueOf s0 h0) fun r13 h14 => xm_rc [12] s2 h14 <| xm_cl (mf_J24_put s2 s1 r13 h14) fun r15 h16 => kb10 (a2 + 1) h16
set_option maxHeartbeats 1000000 in
theorem wk_X1_looks_J52 {Γ : xk_C} {r : Option Nat} {h' : xk_H} {kb10 : Int32 → xk_H → Option (Option Nat × xk_H)} {a0 : Option Nat} {a1 : Option Nat} {a2 : Int32} {s0 : Int32} {s1 : Option Nat} {s2 : Option Nat} {h0 : xk_H} (C : xk_Cx Γ RX1 cX1_looks 5 (Option.some (FieldType.object "java/util/HashMap")) "looks" 8 245) (Z : xk_Z Γ (some (va_rf r)) h') (hkb10 : ∀ (m2 : Int32) (g : xk_H), kb10 m2 g = some (r, h') → xk_X Γ 10 [(0, va_rf a0), (1, va_rf a1), (2, .int m2)] [] g) (E : mf_X1_looks_J52 kb10 a0 a1 a2 s0 s1 s2 h0 = some (r, h')) : xk_X Γ 52 [(0, va_rf a0), (1, va_rf a1), (2, .int a2)] [.int s0, va_rf s1, va_rf s2] h0 := by
  rw [mf_X1_looks_J52] at E
  refine xr_S [.int s0] [va_rf s1, va_rf s2] (fun r => some (va_rf r)) (fun r => va_rf r :: [va_rf s1, va_rf s2]) C E (fun r h' e => wk_J22_valueOf e) q930 q931 q105 q932 xh_java_lang_Integer xd_J22_valueOf (by decide) (by decide) ⟨xk_crf _, ⟨xk_crf _, trivial⟩⟩ (Nat.le_of_ble_eq_true rfl) rfl (fun _ => rfl) dX1_looks_52 (fun r13 h14 E => ?_)
  refine xr_V (v := s2) [va_rf s1, va_rf r13] [] (fun r => some (va_rf r)) (fun r => va_rf r :: []) C E xi_12_HashMap (fun r h' e => wk_J24_put e) q1636 q1637 q1638 q109 q1639 xh_java_util_HashMap xd_J24_put (by decide) (by decide) trivial (Nat.le_of_ble_eq_true rfl) rfl (fun _ => rfl) dX1_looks_55 (fun r15 h16 E => ?_)
  refine xr_pop C (xk_crf _) dX1_looks_58 ?_
  refine xr_iinc (v := (a2 + 1)) (L2 := [(2, .int (a2 + 1)), (0, va_rf a0), (1, va_rf a1)]) 2 C rfl rfl rfl dX1_looks_59 (by decide) ?_
  refine xr_goto 10 C dX1_looks_62 (by decide) ?_
  refine xr_sub [1, 2, 0] rfl ?_
  exact hkb10 (a2 + 1) h16 E
def mf_X1_looks_L10 (a0 : Option Nat) (a1 : Option Nat) : Nat → Int32 → xk_H → Option (Option Nat × xk_H)
  | 0, _, _ => none
  | n + 1, a2, h0 => xm_rc [1] a0 h0 <| xm_cl (mf_X1_size a0 h0) fun r5 h6 => if r5 ≤ a2 then (some (a1, h6)) else (xm_rc [1] a0 h6 <| xm_cl (mf_X1_seen a0 a2 h6) fun r7 h8 => xm_rc [12] a1 h8 <| xm_cl (mf_J24_get a1 r7 h8) fun r9 h10 => xm_cast [211] r9 h10 <| if r9 = none then (mf_X1_looks_J52 (fun m2 g => mf_X1_looks_L10 a0 a1 n m2 g) a0 a1 a2 (1 : Int32) r7 a1 h10) else (xm_rc [211] r9 h10 <| xm_cl (mf_J22_intValue r9 h10) fun r11 h12 => mf_X1_looks_J52 (fun m2 g => mf_X1_looks_L10 a0 a1 n m2 g) a0 a1 a2 (r11 + (1 : Int32)) r7 a1 h12))
set_option maxHeartbeats 1000000 in
theorem wk_X1_looks_L10 {Γ : xk_C} {r : Option Nat} {h' : xk_H} {a0 : Option Nat} {a1 : Option Nat} (C : xk_Cx Γ RX1 cX1_looks 5 (Option.some (FieldType.object "java/util/HashMap")) "looks" 8 245) (Z : xk_Z Γ (some (va_rf r)) h') : ∀ (n : Nat) (a2 : Int32) (h0 : xk_H), mf_X1_looks_L10 a0 a1 n a2 h0 = some (r, h') → xk_X Γ 10 [(0, va_rf a0), (1, va_rf a1), (2, .int a2)] [] h0 := by
  intro n
  induction n with
  | zero =>
    intro a2 h0 E
    rw [mf_X1_looks_L10] at E
    cases E
  | succ n ih =>
    intro a2 h0 E
    have hkb10 : ∀ (m2 : Int32) (g : xk_H), mf_X1_looks_L10 a0 a1 n m2 g = some (r, h') → xk_X Γ 10 [(0, va_rf a0), (1, va_rf a1), (2, .int m2)] [] g := ih
    rw [mf_X1_looks_L10] at E
    refine xr_iload_n 2 C rfl rfl dX1_looks_10 ?_
    refine xr_aload_n 0 C rfl rfl dX1_looks_11 ?_
    refine xr_V (v := a0) [] [.int a2] (fun r => some (.int r)) (fun r => .int r :: [.int a2]) C E xi_1_SlatCratesYard (fun r h' e => wk_X1_size e) q1242 q262 q263 q79 q264 xh_SlatCrates_Yard xd_X1_size (by decide) (by decide) ⟨rfl, trivial⟩ (Nat.le_of_ble_eq_true rfl) rfl (fun _ => rfl) dX1_looks_12 (fun r5 h6 E => ?_)
    refine xr_icmp_ge 65 C E dX1_looks_15 (by decide) (fun E => ?_) (fun E => ?_)
    · refine xr_aload_n 1 C rfl rfl dX1_looks_65 ?_
      exact xr_aret C Z E (Or.inl ⟨_, rfl⟩) dX1_looks_66
    · refine xr_aload_n 0 C rfl rfl dX1_looks_18 ?_
      refine xr_iload_n 2 C rfl rfl dX1_looks_19 ?_
      refine xr_V (v := a0) [.int a2] [] (fun r => some (va_rf r)) (fun r => va_rf r :: []) C E xi_1_SlatCratesYard (fun r h' e => wk_X1_seen e) q1298 q1299 q1300 q79 q1301 xh_SlatCrates_Yard xd_X1_seen (by decide) (by decide) trivial (Nat.le_of_ble_eq_true rfl) rfl (fun _ => rfl) dX1_looks_20 (fun r7 h8 E => ?_)
      refine xr_astore_n (L2 := [(3, va_rf r7), (0, va_rf a0), (1, va_rf a1), (2, .int a2)]) C rfl rfl dX1_looks_23 (by decide) ?_
      refine xr_aload_n 2 C rfl rfl dX1_looks_24 ?_
      refine xr_aload_n 0 C rfl rfl dX1_looks_25 ?_
      refine xr_V (v := a1) [va_rf r7] [] (fun r => some (va_rf r)) (fun r => va_rf r :: []) C E xi_12_HashMap (fun r h' e => wk_J24_get e) q1331 q1332 q1333 q109 q1334 xh_java_util_HashMap xd_J24_get (by decide) (by decide) trivial (Nat.le_of_ble_eq_true rfl) rfl (fun _ => rfl) dX1_looks_26 (fun r9 h10 E => ?_)
      refine xr_cast C E xi_211_Integer q997 dX1_looks_29 (fun E => ?_)
      refine xr_astore (L2 := [(4, va_rf r9), (3, va_rf r7), (0, va_rf a0), (1, va_rf a1), (2, .int a2)]) C rfl dX1_looks_32 (by decide) ?_
      refine xr_aload_n 3 C rfl rfl dX1_looks_34 ?_
      refine xr_aload_n 1 C rfl rfl dX1_looks_35 ?_
      refine xr_aload 0 C rfl dX1_looks_36 ?_
      refine xr_ifnonnull 45 C E dX1_looks_38 (by decide) (fun E => ?_) (fun E => ?_)
      · refine xr_aload 0 C rfl dX1_looks_45 ?_
        refine xr_V (v := r9) [] [va_rf r7, va_rf a1] (fun r => some (.int r)) (fun r => .int r :: [va_rf r7, va_rf a1]) C E xi_211_Integer (fun r h' e => wk_J22_intValue e) q998 q975 q976 q105 q977 xh_java_lang_Integer xd_J22_intValue (by decide) (by decide) ⟨xk_crf _, ⟨xk_crf _, trivial⟩⟩ (Nat.le_of_ble_eq_true rfl) rfl (fun _ => rfl) dX1_looks_47 (fun r11 h12 E => ?_)
        refine xr_iconst (1) C (by decide) dX1_looks_50 ?_
        refine xr_iadd C dX1_looks_51 ?_
        refine xr_sub [2, 3, 4] rfl ?_
        exact wk_X1_looks_J52 C Z hkb10 E
      · refine xr_iconst (1) C (by decide) dX1_looks_41 ?_
        refine xr_goto 52 C dX1_looks_42 (by decide) ?_
        refine xr_sub [2, 3, 4] rfl ?_
        exact wk_X1_looks_J52 C Z hkb10 E
def mf_X1_looks (a0 : Option Nat) (h0 : xk_H) : Option (Option Nat × xk_H) :=
  xm_new 12 [.null, .null, .null, .null, .int 0, .int 0, .int 0, .float 0] h0 fun b1 h2 => xm_cl (mf_J24_init b1 h2) fun r3 h4 => mf_X1_looks_L10 a0 (some b1) xk_fu (0 : Int32) h4
set_option maxHeartbeats 1000000 in
theorem wk_X1_looks {l : Launch} {D : va_G} {base : Nat} {a0 : Option Nat} {h0 : xk_H} {r : Option Nat} {h' : xk_H} (E : mf_X1_looks a0 h0 = some (r, h')) : xk_Ok l D base yX1_looks cX1_looks 5 (Option.some (FieldType.object "java/util/HashMap")) 8 245 [va_rf a0] h0 (some (va_rf r)) h' := by
  refine xk_ofX RX1 "looks" xq_X1_looks rfl rfl (Nat.le_of_ble_eq_true rfl) ⟨xk_crf _, trivial⟩ (fun Γ el eD eb C Z => ?_)
  rw [mf_X1_looks] at E
  show xk_X Γ 0 [(0, va_rf a0)] [] h0
  refine xr_new (t := 12) (C0 := "java/util/HashMap") (n := 8) C E (by decide) xn_J24 (fun r hr => by cases hr; exact ⟨rfl, rfl⟩) q1257 q1258 q109 dX1_looks_0 (fun b1 h2 E => ?_)
  refine xr_dup C (xk_crf _) dX1_looks_3 ?_
  refine xr_I (b := b1) [] [va_rf (some b1)] (fun _ => none) (fun _ => [va_rf (some b1)]) C E (fun r h' e => wk_J24_init e) q1259 q1260 q109 q1261 xh_java_util_HashMap rfl xd_J24_init (by decide) (by decide) ⟨xk_crf _, trivial⟩ (Nat.le_of_ble_eq_true rfl) rfl (fun _ => rfl) dX1_looks_4 (fun r3 h4 E => ?_)
  refine xr_astore_n (L2 := [(1, va_rf (some b1)), (0, va_rf a0)]) C rfl rfl dX1_looks_7 (by decide) ?_
  refine xr_iconst (0) C (by decide) dX1_looks_8 ?_
  refine xr_istore_n (L2 := [(2, .int (0 : Int32)), (1, va_rf (some b1)), (0, va_rf a0)]) C rfl rfl dX1_looks_9 (by decide) ?_
  refine xr_sub [2, 1, 0] rfl ?_
  exact wk_X1_looks_L10 (a0 := a0) (a1 := (some b1)) C Z xk_fu (0 : Int32) h4 E
def mf_X1_canBeTold (a0 : Option Nat) (a1 : Int32) (h0 : xk_H) : Option (Bool × xk_H) :=
  xm_rc [1] a0 h0 <| xm_cl (mf_X1_looks a0 h0) fun r1 h2 => xm_rc [1] a0 h2 <| xm_cl (mf_X1_seen a0 a1 h2) fun r3 h4 => xm_rc [12] r1 h4 <| xm_cl (mf_J24_get r1 r3 h4) fun r5 h6 => xm_cast [211] r5 h6 <| xm_rc [211] r5 h6 <| xm_cl (mf_J22_intValue r5 h6) fun r7 h8 => if r7 = (1 : Int32) then (some (true, h8)) else (some (false, h8))
set_option maxHeartbeats 1000000 in
theorem wk_X1_canBeTold {l : Launch} {D : va_G} {base : Nat} {a0 : Option Nat} {a1 : Int32} {h0 : xk_H} {r : Bool} {h' : xk_H} (E : mf_X1_canBeTold a0 a1 h0 = some (r, h')) : xk_Ok l D base yX1_canBeTold cX1_canBeTold 2 (Option.some FieldType.boolean) 9 269 [va_rf a0, .int a1] h0 (some (.int (xk_b2 r))) h' := by
  refine xk_ofX RX1 "canBeTold" xq_X1_canBeTold rfl rfl (Nat.le_of_ble_eq_true rfl) ⟨xk_crf _, ⟨rfl, trivial⟩⟩ (fun Γ el eD eb C Z => ?_)
  rw [mf_X1_canBeTold] at E
  show xk_X Γ 0 [(0, va_rf a0), (1, .int a1)] [] h0
  refine xr_aload_n 0 C rfl rfl dX1_canBeTold_0 ?_
  refine xr_V (v := a0) [] [] (fun r => some (va_rf r)) (fun r => va_rf r :: []) C E xi_1_SlatCratesYard (fun r h' e => wk_X1_looks e) q1253 q1255 qs17 q79 q1256 xh_SlatCrates_Yard xd_X1_looks (by decide) (by decide) trivial (Nat.le_of_ble_eq_true rfl) rfl (fun _ => rfl) dX1_canBeTold_1 (fun r1 h2 E => ?_)
  refine xr_aload_n 0 C rfl rfl dX1_canBeTold_4 ?_
  refine xr_iload_n 1 C rfl rfl dX1_canBeTold_5 ?_
  refine xr_V (v := a0) [.int a1] [va_rf r1] (fun r => some (va_rf r)) (fun r => va_rf r :: [va_rf r1]) C E xi_1_SlatCratesYard (fun r h' e => wk_X1_seen e) q1298 q1299 q1300 q79 q1301 xh_SlatCrates_Yard xd_X1_seen (by decide) (by decide) ⟨xk_crf _, trivial⟩ (Nat.le_of_ble_eq_true rfl) rfl (fun _ => rfl) dX1_canBeTold_6 (fun r3 h4 E => ?_)
  refine xr_V (v := r1) [va_rf r3] [] (fun r => some (va_rf r)) (fun r => va_rf r :: []) C E xi_12_HashMap (fun r h' e => wk_J24_get e) q1331 q1332 q1333 q109 q1334 xh_java_util_HashMap xd_J24_get (by decide) (by decide) trivial (Nat.le_of_ble_eq_true rfl) rfl (fun _ => rfl) dX1_canBeTold_9 (fun r5 h6 E => ?_)
  refine xr_cast C E xi_211_Integer q997 dX1_canBeTold_12 (fun E => ?_)
  refine xr_V (v := r5) [] [] (fun r => some (.int r)) (fun r => .int r :: []) C E xi_211_Integer (fun r h' e => wk_J22_intValue e) q998 q975 q976 q105 q977 xh_java_lang_Integer xd_J22_intValue (by decide) (by decide) trivial (Nat.le_of_ble_eq_true rfl) rfl (fun _ => rfl) dX1_canBeTold_15 (fun r7 h8 E => ?_)
  refine xr_iconst (1) C (by decide) dX1_canBeTold_18 ?_
  refine xr_icmp_ne 26 C E dX1_canBeTold_19 (by decide) (fun E => ?_) (fun E => ?_)
  · refine xr_iconst (0) C (by decide) dX1_canBeTold_26 ?_
    exact xr_bret (b := false) C Z E dX1_canBeTold_27
  · refine xr_iconst (1) C (by decide) dX1_canBeTold_22 ?_
    refine xr_goto 27 C dX1_canBeTold_23 (by decide) ?_
    exact xr_bret (b := true) C Z E dX1_canBeTold_27
def mf_X1_effort_L4 (a0 : Option Nat) : Nat → Int32 → Int32 → xk_H → Option (Int32 × xk_H)
  | 0, _, _, _ => none
  | n + 1, a2, a3, h0 => xm_rc [1] a0 h0 <| xm_cl (mf_X1_isOnGround a0 a3 h0) fun r1 h2 => if xk_b2 r1 = 0 then (xm_rc [1] a0 h2 <| xm_cl (mf_X1_above a0 a3 h2) fun r3 h4 => xm_rc [1] a0 h4 <| xm_cl (mf_X1_at a0 a3 h4) fun r5 h6 => xm_gI [3] 4 r5 h6 fun x7 => mf_X1_effort_L4 a0 n (a2 + ((1 : Int32) + r3)) x7 h6) else (some (a2, h2))
set_option maxHeartbeats 1000000 in
theorem wk_X1_effort_L4 {Γ : xk_C} {r : Int32} {h' : xk_H} {a0 : Option Nat} (C : xk_Cx Γ RX1 cX1_effort 4 (Option.some FieldType.int) "effort" 8 208) (Z : xk_Z Γ (some (.int r)) h') : ∀ (n : Nat) (a2 : Int32) (a3 : Int32) (h0 : xk_H), mf_X1_effort_L4 a0 n a2 a3 h0 = some (r, h') → xk_X Γ 4 [(0, va_rf a0), (2, .int a2), (3, .int a3)] [] h0 := by
  intro n
  induction n with
  | zero =>
    intro a2 a3 h0 E
    rw [mf_X1_effort_L4] at E
    cases E
  | succ n ih =>
    intro a2 a3 h0 E
    have hkb4 : ∀ (m2 : Int32) (m3 : Int32) (g : xk_H), mf_X1_effort_L4 a0 n m2 m3 g = some (r, h') → xk_X Γ 4 [(0, va_rf a0), (2, .int m2), (3, .int m3)] [] g := ih
    rw [mf_X1_effort_L4] at E
    refine xr_aload_n 0 C rfl rfl dX1_effort_4 ?_
    refine xr_iload_n 2 C rfl rfl dX1_effort_5 ?_
    refine xr_V (v := a0) [.int a3] [] (fun r => some (.int (xk_b2 r))) (fun r => .int (xk_b2 r) :: []) C E xi_1_SlatCratesYard (fun r h' e => wk_X1_isOnGround e) q917 q918 q919 q79 q920 xh_SlatCrates_Yard xd_X1_isOnGround (by decide) (by decide) trivial (Nat.le_of_ble_eq_true rfl) rfl (fun _ => rfl) dX1_effort_6 (fun r1 h2 E => ?_)
    refine xr_if_ne 34 C E dX1_effort_9 (by decide) (fun E => ?_) (fun E => ?_)
    · refine xr_iload_n 1 C rfl rfl dX1_effort_34 ?_
      exact xr_iret C Z E dX1_effort_35
    · refine xr_iload_n 1 C rfl rfl dX1_effort_12 ?_
      refine xr_iconst (1) C (by decide) dX1_effort_13 ?_
      refine xr_aload_n 0 C rfl rfl dX1_effort_14 ?_
      refine xr_iload_n 2 C rfl rfl dX1_effort_15 ?_
      refine xr_V (v := a0) [.int a3] [.int (1 : Int32), .int a2] (fun r => some (.int r)) (fun r => .int r :: [.int (1 : Int32), .int a2]) C E xi_1_SlatCratesYard (fun r h' e => wk_X1_above e) q913 q914 q915 q79 q916 xh_SlatCrates_Yard xd_X1_above (by decide) (by decide) ⟨rfl, ⟨rfl, trivial⟩⟩ (Nat.le_of_ble_eq_true rfl) rfl (fun _ => rfl) dX1_effort_16 (fun r3 h4 E => ?_)
      refine xr_iadd C dX1_effort_19 ?_
      refine xr_iadd C dX1_effort_20 ?_
      refine xr_istore_n (L2 := [(2, .int (a2 + ((1 : Int32) + r3))), (0, va_rf a0), (3, .int a3)]) C rfl rfl dX1_effort_21 (by decide) ?_
      refine xr_aload_n 1 C rfl rfl dX1_effort_22 ?_
      refine xr_iload_n 2 C rfl rfl dX1_effort_23 ?_
      refine xr_V (v := a0) [.int a3] [] (fun r => some (va_rf r)) (fun r => va_rf r :: []) C E xi_1_SlatCratesYard (fun r h' e => wk_X1_at e) q921 q922 q923 q79 q924 xh_SlatCrates_Yard xd_X1_at (by decide) (by decide) trivial (Nat.le_of_ble_eq_true rfl) rfl (fun _ => rfl) dX1_effort_24 (fun r5 h6 E => ?_)
      refine xr_gI C E xf_X1_59 dX1_effort_27 (fun x7 E => ?_)
      refine xr_istore_n (L2 := [(3, .int x7), (2, .int (a2 + ((1 : Int32) + r3))), (0, va_rf a0)]) C rfl rfl dX1_effort_30 (by decide) ?_
      refine xr_goto 4 C dX1_effort_31 (by decide) ?_
      refine xr_sub [2, 1, 0] rfl ?_
      exact hkb4 (a2 + ((1 : Int32) + r3)) x7 h6 E
def mf_X1_effort (a0 : Option Nat) (a1 : Int32) (h0 : xk_H) : Option (Int32 × xk_H) :=
  mf_X1_effort_L4 a0 xk_fu (0 : Int32) a1 h0
set_option maxHeartbeats 1000000 in
theorem wk_X1_effort {l : Launch} {D : va_G} {base : Nat} {a0 : Option Nat} {a1 : Int32} {h0 : xk_H} {r : Int32} {h' : xk_H} (E : mf_X1_effort a0 a1 h0 = some (r, h')) : xk_Ok l D base yX1_effort cX1_effort 4 (Option.some FieldType.int) 8 208 [va_rf a0, .int a1] h0 (some (.int r)) h' := by
  refine xk_ofX RX1 "effort" xq_X1_effort rfl rfl (Nat.le_of_ble_eq_true rfl) ⟨xk_crf _, ⟨rfl, trivial⟩⟩ (fun Γ el eD eb C Z => ?_)
  rw [mf_X1_effort] at E
  show xk_X Γ 0 [(0, va_rf a0), (1, .int a1)] [] h0
  refine xr_iconst (0) C (by decide) dX1_effort_0 ?_
  refine xr_istore_n (L2 := [(2, .int (0 : Int32)), (0, va_rf a0), (1, .int a1)]) C rfl rfl dX1_effort_1 (by decide) ?_
  refine xr_iload_n 2 C rfl rfl dX1_effort_2 ?_
  refine xr_istore_n (L2 := [(3, .int a1), (2, .int (0 : Int32)), (0, va_rf a0), (1, .int a1)]) C rfl rfl dX1_effort_3 (by decide) ?_
  refine xr_sub [2, 1, 0] rfl ?_
  exact wk_X1_effort_L4 (a0 := a0) C Z xk_fu (0 : Int32) a1 h0 E
def mf_X1_lettersSeen_L4 (a0 : Option Nat) (a1 : Int32) : Nat → Int32 → Int32 → xk_H → Option (Int32 × xk_H)
  | 0, _, _, _ => none
  | n + 1, a2, a3, h0 => xm_rc [1] a0 h0 <| xm_cl (mf_X1_at a0 a1 h0) fun r1 h2 => xm_gR [3] 3 r1 h2 fun x3 => xm_len [100] x3 h2 fun x4 => if x4 ≤ a3 then (some (a2, h2)) else (xm_rc [1] a0 h2 <| xm_cl (mf_X1_isOpen a0 a1 a3 h2) fun r5 h6 => if xk_b2 r5 = 0 then (mf_X1_lettersSeen_L4 a0 a1 n (a2 + (0 : Int32)) (a3 + 1) h6) else (mf_X1_lettersSeen_L4 a0 a1 n (a2 + (1 : Int32)) (a3 + 1) h6))
set_option maxHeartbeats 1000000 in
theorem wk_X1_lettersSeen_L4 {Γ : xk_C} {r : Int32} {h' : xk_H} {a0 : Option Nat} {a1 : Int32} (C : xk_Cx Γ RX1 cX1_lettersSeen 4 (Option.some FieldType.int) "lettersSeen" 6 169) (Z : xk_Z Γ (some (.int r)) h') : ∀ (n : Nat) (a2 : Int32) (a3 : Int32) (h0 : xk_H), mf_X1_lettersSeen_L4 a0 a1 n a2 a3 h0 = some (r, h') → xk_X Γ 4 [(0, va_rf a0), (1, .int a1), (2, .int a2), (3, .int a3)] [] h0 := by
  intro n
  induction n with
  | zero =>
    intro a2 a3 h0 E
    rw [mf_X1_lettersSeen_L4] at E
    cases E
  | succ n ih =>
    intro a2 a3 h0 E
    have hkb4 : ∀ (m2 : Int32) (m3 : Int32) (g : xk_H), mf_X1_lettersSeen_L4 a0 a1 n m2 m3 g = some (r, h') → xk_X Γ 4 [(0, va_rf a0), (1, .int a1), (2, .int m2), (3, .int m3)] [] g := ih
    rw [mf_X1_lettersSeen_L4] at E
    refine xr_iload_n 3 C rfl rfl dX1_lettersSeen_4 ?_
    refine xr_aload_n 0 C rfl rfl dX1_lettersSeen_5 ?_
    refine xr_iload_n 1 C rfl rfl dX1_lettersSeen_6 ?_
    refine xr_V (v := a0) [.int a1] [.int a3] (fun r => some (va_rf r)) (fun r => va_rf r :: [.int a3]) C E xi_1_SlatCratesYard (fun r h' e => wk_X1_at e) q921 q922 q923 q79 q924 xh_SlatCrates_Yard xd_X1_at (by decide) (by decide) ⟨rfl, trivial⟩ (Nat.le_of_ble_eq_true rfl) rfl (fun _ => rfl) dX1_lettersSeen_7 (fun r1 h2 E => ?_)
    refine xr_gR C E xf_X1_119 dX1_lettersSeen_10 (fun x3 E => ?_)
    refine xr_len 0 .int C E (fun _ => rfl) xt_100 dX1_lettersSeen_13 (fun x4 E => ?_)
    refine xr_icmp_ge 40 C E dX1_lettersSeen_14 (by decide) (fun E => ?_) (fun E => ?_)
    · refine xr_iload_n 2 C rfl rfl dX1_lettersSeen_40 ?_
      exact xr_iret C Z E dX1_lettersSeen_41
    · refine xr_iload_n 2 C rfl rfl dX1_lettersSeen_17 ?_
      refine xr_aload_n 0 C rfl rfl dX1_lettersSeen_18 ?_
      refine xr_iload_n 1 C rfl rfl dX1_lettersSeen_19 ?_
      refine xr_iload_n 3 C rfl rfl dX1_lettersSeen_20 ?_
      refine xr_V (v := a0) [.int a1, .int a3] [.int a2] (fun r => some (.int (xk_b2 r))) (fun r => .int (xk_b2 r) :: [.int a2]) C E xi_1_SlatCratesYard (fun r h' e => wk_X1_isOpen e) q1306 q1308 qs19 q79 q1309 xh_SlatCrates_Yard xd_X1_isOpen (by decide) (by decide) ⟨rfl, trivial⟩ (Nat.le_of_ble_eq_true rfl) rfl (fun _ => rfl) dX1_lettersSeen_21 (fun r5 h6 E => ?_)
      refine xr_if_eq 31 C E dX1_lettersSeen_24 (by decide) (fun E => ?_) (fun E => ?_)
      · refine xr_iconst (0) C (by decide) dX1_lettersSeen_31 ?_
        refine xr_iadd C dX1_lettersSeen_32 ?_
        refine xr_istore_n (L2 := [(2, .int (a2 + (0 : Int32))), (0, va_rf a0), (1, .int a1), (3, .int a3)]) C rfl rfl dX1_lettersSeen_33 (by decide) ?_
        refine xr_iinc (v := (a3 + 1)) (L2 := [(3, .int (a3 + 1)), (2, .int (a2 + (0 : Int32))), (0, va_rf a0), (1, .int a1)]) 3 C rfl rfl rfl dX1_lettersSeen_34 (by decide) ?_
        refine xr_goto 4 C dX1_lettersSeen_37 (by decide) ?_
        refine xr_sub [2, 3, 1, 0] rfl ?_
        exact hkb4 (a2 + (0 : Int32)) (a3 + 1) h6 E
      · refine xr_iconst (1) C (by decide) dX1_lettersSeen_27 ?_
        refine xr_goto 32 C dX1_lettersSeen_28 (by decide) ?_
        refine xr_iadd C dX1_lettersSeen_32 ?_
        refine xr_istore_n (L2 := [(2, .int (a2 + (1 : Int32))), (0, va_rf a0), (1, .int a1), (3, .int a3)]) C rfl rfl dX1_lettersSeen_33 (by decide) ?_
        refine xr_iinc (v := (a3 + 1)) (L2 := [(3, .int (a3 + 1)), (2, .int (a2 + (1 : Int32))), (0, va_rf a0), (1, .int a1)]) 3 C rfl rfl rfl dX1_lettersSeen_34 (by decide) ?_
        refine xr_goto 4 C dX1_lettersSeen_37 (by decide) ?_
        refine xr_sub [2, 3, 1, 0] rfl ?_
        exact hkb4 (a2 + (1 : Int32)) (a3 + 1) h6 E
def mf_X1_lettersSeen (a0 : Option Nat) (a1 : Int32) (h0 : xk_H) : Option (Int32 × xk_H) :=
  mf_X1_lettersSeen_L4 a0 a1 xk_fu (0 : Int32) (0 : Int32) h0
set_option maxHeartbeats 1000000 in
theorem wk_X1_lettersSeen {l : Launch} {D : va_G} {base : Nat} {a0 : Option Nat} {a1 : Int32} {h0 : xk_H} {r : Int32} {h' : xk_H} (E : mf_X1_lettersSeen a0 a1 h0 = some (r, h')) : xk_Ok l D base yX1_lettersSeen cX1_lettersSeen 4 (Option.some FieldType.int) 6 169 [va_rf a0, .int a1] h0 (some (.int r)) h' := by
  refine xk_ofX RX1 "lettersSeen" xq_X1_lettersSeen rfl rfl (Nat.le_of_ble_eq_true rfl) ⟨xk_crf _, ⟨rfl, trivial⟩⟩ (fun Γ el eD eb C Z => ?_)
  rw [mf_X1_lettersSeen] at E
  show xk_X Γ 0 [(0, va_rf a0), (1, .int a1)] [] h0
  refine xr_iconst (0) C (by decide) dX1_lettersSeen_0 ?_
  refine xr_istore_n (L2 := [(2, .int (0 : Int32)), (0, va_rf a0), (1, .int a1)]) C rfl rfl dX1_lettersSeen_1 (by decide) ?_
  refine xr_iconst (0) C (by decide) dX1_lettersSeen_2 ?_
  refine xr_istore_n (L2 := [(3, .int (0 : Int32)), (2, .int (0 : Int32)), (0, va_rf a0), (1, .int a1)]) C rfl rfl dX1_lettersSeen_3 (by decide) ?_
  refine xr_sub [2, 3, 1, 0] rfl ?_
  exact wk_X1_lettersSeen_L4 (a0 := a0) (a1 := a1) C Z xk_fu (0 : Int32) (0 : Int32) h0 E
def mf_X1_load_L4 (a0 : Option Nat) (a1 : Int32) : Nat → Int32 → Int32 → xk_H → Option (Int32 × xk_H)
  | 0, _, _, _ => none
  | n + 1, a2, a3, h0 => xm_rc [1] a0 h0 <| xm_cl (mf_X1_size a0 h0) fun r1 h2 => if r1 ≤ a3 then (some (a2, h2)) else (xm_rc [1] a0 h2 <| xm_cl (mf_X1_isAround a0 a1 a3 h2) fun r3 h4 => if xk_b2 r3 = 0 then (mf_X1_load_L4 a0 a1 n (a2 + (0 : Int32)) (a3 + 1) h4) else (mf_X1_load_L4 a0 a1 n (a2 + (1 : Int32)) (a3 + 1) h4))
set_option maxHeartbeats 1000000 in
theorem wk_X1_load_L4 {Γ : xk_C} {r : Int32} {h' : xk_H} {a0 : Option Nat} {a1 : Int32} (C : xk_Cx Γ RX1 cX1_load 4 (Option.some FieldType.int) "load" 6 168) (Z : xk_Z Γ (some (.int r)) h') : ∀ (n : Nat) (a2 : Int32) (a3 : Int32) (h0 : xk_H), mf_X1_load_L4 a0 a1 n a2 a3 h0 = some (r, h') → xk_X Γ 4 [(0, va_rf a0), (1, .int a1), (2, .int a2), (3, .int a3)] [] h0 := by
  intro n
  induction n with
  | zero =>
    intro a2 a3 h0 E
    rw [mf_X1_load_L4] at E
    cases E
  | succ n ih =>
    intro a2 a3 h0 E
    have hkb4 : ∀ (m2 : Int32) (m3 : Int32) (g : xk_H), mf_X1_load_L4 a0 a1 n m2 m3 g = some (r, h') → xk_X Γ 4 [(0, va_rf a0), (1, .int a1), (2, .int m2), (3, .int m3)] [] g := ih
    rw [mf_X1_load_L4] at E
    refine xr_iload_n 3 C rfl rfl dX1_load_4 ?_
    refine xr_aload_n 0 C rfl rfl dX1_load_5 ?_
    refine xr_V (v := a0) [] [.int a3] (fun r => some (.int r)) (fun r => .int r :: [.int a3]) C E xi_1_SlatCratesYard (fun r h' e => wk_X1_size e) q1242 q262 q263 q79 q264 xh_SlatCrates_Yard xd_X1_size (by decide) (by decide) ⟨rfl, trivial⟩ (Nat.le_of_ble_eq_true rfl) rfl (fun _ => rfl) dX1_load_6 (fun r1 h2 E => ?_)
    refine xr_icmp_ge 35 C E dX1_load_9 (by decide) (fun E => ?_) (fun E => ?_)
    · refine xr_iload_n 2 C rfl rfl dX1_load_35 ?_
      exact xr_iret C Z E dX1_load_36
    · refine xr_iload_n 2 C rfl rfl dX1_load_12 ?_
      refine xr_aload_n 0 C rfl rfl dX1_load_13 ?_
      refine xr_iload_n 1 C rfl rfl dX1_load_14 ?_
      refine xr_iload_n 3 C rfl rfl dX1_load_15 ?_
      refine xr_V (v := a0) [.int a1, .int a3] [.int a2] (fun r => some (.int (xk_b2 r))) (fun r => .int (xk_b2 r) :: [.int a2]) C E xi_1_SlatCratesYard (fun r h' e => wk_X1_isAround e) q989 q990 q991 q79 q992 xh_SlatCrates_Yard xd_X1_isAround (by decide) (by decide) ⟨rfl, trivial⟩ (Nat.le_of_ble_eq_true rfl) rfl (fun _ => rfl) dX1_load_16 (fun r3 h4 E => ?_)
      refine xr_if_eq 26 C E dX1_load_19 (by decide) (fun E => ?_) (fun E => ?_)
      · refine xr_iconst (0) C (by decide) dX1_load_26 ?_
        refine xr_iadd C dX1_load_27 ?_
        refine xr_istore_n (L2 := [(2, .int (a2 + (0 : Int32))), (0, va_rf a0), (1, .int a1), (3, .int a3)]) C rfl rfl dX1_load_28 (by decide) ?_
        refine xr_iinc (v := (a3 + 1)) (L2 := [(3, .int (a3 + 1)), (2, .int (a2 + (0 : Int32))), (0, va_rf a0), (1, .int a1)]) 3 C rfl rfl rfl dX1_load_29 (by decide) ?_
        refine xr_goto 4 C dX1_load_32 (by decide) ?_
        refine xr_sub [2, 3, 1, 0] rfl ?_
        exact hkb4 (a2 + (0 : Int32)) (a3 + 1) h4 E
      · refine xr_iconst (1) C (by decide) dX1_load_22 ?_
        refine xr_goto 27 C dX1_load_23 (by decide) ?_
        refine xr_iadd C dX1_load_27 ?_
        refine xr_istore_n (L2 := [(2, .int (a2 + (1 : Int32))), (0, va_rf a0), (1, .int a1), (3, .int a3)]) C rfl rfl dX1_load_28 (by decide) ?_
        refine xr_iinc (v := (a3 + 1)) (L2 := [(3, .int (a3 + 1)), (2, .int (a2 + (1 : Int32))), (0, va_rf a0), (1, .int a1)]) 3 C rfl rfl rfl dX1_load_29 (by decide) ?_
        refine xr_goto 4 C dX1_load_32 (by decide) ?_
        refine xr_sub [2, 3, 1, 0] rfl ?_
        exact hkb4 (a2 + (1 : Int32)) (a3 + 1) h4 E
def mf_X1_load (a0 : Option Nat) (a1 : Int32) (h0 : xk_H) : Option (Int32 × xk_H) :=
  mf_X1_load_L4 a0 a1 xk_fu (0 : Int32) (0 : Int32) h0
set_option maxHeartbeats 1000000 in
theorem wk_X1_load {l : Launch} {D : va_G} {base : Nat} {a0 : Option Nat} {a1 : Int32} {h0 : xk_H} {r : Int32} {h' : xk_H} (E : mf_X1_load a0 a1 h0 = some (r, h')) : xk_Ok l D base yX1_load cX1_load 4 (Option.some FieldType.int) 6 168 [va_rf a0, .int a1] h0 (some (.int r)) h' := by
  refine xk_ofX RX1 "load" xq_X1_load rfl rfl (Nat.le_of_ble_eq_true rfl) ⟨xk_crf _, ⟨rfl, trivial⟩⟩ (fun Γ el eD eb C Z => ?_)
  rw [mf_X1_load] at E
  show xk_X Γ 0 [(0, va_rf a0), (1, .int a1)] [] h0
  refine xr_iconst (0) C (by decide) dX1_load_0 ?_
  refine xr_istore_n (L2 := [(2, .int (0 : Int32)), (0, va_rf a0), (1, .int a1)]) C rfl rfl dX1_load_1 (by decide) ?_
  refine xr_iconst (0) C (by decide) dX1_load_2 ?_
  refine xr_istore_n (L2 := [(3, .int (0 : Int32)), (2, .int (0 : Int32)), (0, va_rf a0), (1, .int a1)]) C rfl rfl dX1_load_3 (by decide) ?_
  refine xr_sub [2, 3, 1, 0] rfl ?_
  exact wk_X1_load_L4 (a0 := a0) (a1 := a1) C Z xk_fu (0 : Int32) (0 : Int32) h0 E
def mf_X1_effortsBelow_L32 (rc : Option Nat → Int32 → Int32 → Int32 → xk_H → Option (Int32 × xk_H)) (a0 : Option Nat) (a2 : Int32) (a3 : Int32) (a5 : Option Nat) : Nat → Int32 → Int32 → xk_H → Option (Int32 × xk_H)
  | 0, _, _, _ => none
  | n + 1, a4, a6, h0 => xm_rc [6] a5 h0 <| xm_cl (mf_J2_size a5 h0) fun r7 h8 => if r7 ≤ a6 then (some (a4, h8)) else (xm_rc [6] a5 h8 <| xm_cl (mf_J2_get a5 a6 h8) fun r9 h10 => xm_cast [211] r9 h10 <| xm_rc [211] r9 h10 <| xm_cl (mf_J22_intValue r9 h10) fun r11 h12 => xm_rc [6] a5 h12 <| xm_cl (mf_J2_size a5 h12) fun r13 h14 => xm_rc [1] a0 h14 <| xm_cl (rc a0 r11 a2 ((((a3 + (1 : Int32)) + r13) - (1 : Int32)) - a6) h14) fun r15 h16 => mf_X1_effortsBelow_L32 rc a0 a2 a3 a5 n (a4 + r15) (a6 + 1) h16)
set_option maxHeartbeats 1000000 in
theorem wk_X1_effortsBelow_L32 {Γ : xk_C} {r : Int32} {h' : xk_H} {d w dR wR : Nat} {rc : Option Nat → Int32 → Int32 → Int32 → xk_H → Option (Int32 × xk_H)} {a0 : Option Nat} {a2 : Int32} {a3 : Int32} {a5 : Option Nat} (C : xk_Cx Γ RX1 cX1_effortsBelow 7 (Option.some FieldType.int) "effortsBelow" d w) (Z : xk_Z Γ (some (.int r)) h') (hrc : ∀ (z0 : Option Nat) (z1 : Int32) (z2 : Int32) (z3 : Int32) (g : xk_H) (r9 : Int32) (g9 : xk_H), rc z0 z1 z2 z3 g = some (r9, g9) → xk_Ok (xk_l Γ) (xk_D Γ) (xk_b Γ) yX1_effortsBelow cX1_effortsBelow 7 (Option.some FieldType.int) dR wR [va_rf z0, .int z1, .int z2, .int z3] g (some (.int r9)) g9) (hD : 5 ≤ d) (hW : 145 ≤ w) (hDr : dR + 1 ≤ d) (hWr : 8 + (7 + 11) + wR ≤ w) : ∀ (n : Nat) (a4 : Int32) (a6 : Int32) (h0 : xk_H), mf_X1_effortsBelow_L32 rc a0 a2 a3 a5 n a4 a6 h0 = some (r, h') → xk_X Γ 32 [(0, va_rf a0), (2, .int a2), (3, .int a3), (4, .int a4), (5, va_rf a5), (6, .int a6)] [] h0 := by
  intro n
  induction n with
  | zero =>
    intro a4 a6 h0 E
    rw [mf_X1_effortsBelow_L32] at E
    cases E
  | succ n ih =>
    intro a4 a6 h0 E
    have hkb32 : ∀ (m4 : Int32) (m6 : Int32) (g : xk_H), mf_X1_effortsBelow_L32 rc a0 a2 a3 a5 n m4 m6 g = some (r, h') → xk_X Γ 32 [(0, va_rf a0), (2, .int a2), (3, .int a3), (4, .int m4), (5, va_rf a5), (6, .int m6)] [] g := ih
    rw [mf_X1_effortsBelow_L32] at E
    refine xr_iload 5 C rfl dX1_effortsBelow_32 ?_
    refine xr_aload 4 C rfl dX1_effortsBelow_34 ?_
    refine xr_V (v := a5) [] [.int a6] (fun r => some (.int r)) (fun r => .int r :: [.int a6]) C E xi_6_ArrayList (fun r h' e => wk_J2_size e) q265 q266 q267 q82 q268 xh_java_util_ArrayList xd_J2_size (by omega) (by omega) ⟨rfl, trivial⟩ (Nat.le_of_ble_eq_true rfl) rfl (fun _ => rfl) dX1_effortsBelow_36 (fun r7 h8 E => ?_)
    refine xr_icmp_ge 85 C E dX1_effortsBelow_39 (by decide) (fun E => ?_) (fun E => ?_)
    · refine xr_iload 3 C rfl dX1_effortsBelow_85 ?_
      exact xr_iret C Z E dX1_effortsBelow_87
    · refine xr_iload 3 C rfl dX1_effortsBelow_42 ?_
      refine xr_aload_n 0 C rfl rfl dX1_effortsBelow_44 ?_
      refine xr_aload 4 C rfl dX1_effortsBelow_45 ?_
      refine xr_iload 5 C rfl dX1_effortsBelow_47 ?_
      refine xr_V (v := a5) [.int a6] [va_rf a0, .int a4] (fun r => some (va_rf r)) (fun r => va_rf r :: [va_rf a0, .int a4]) C E xi_6_ArrayList (fun r h' e => wk_J2_get e) q925 q374 q2504 q82 q375 xh_java_util_ArrayList xd_J2_get (by omega) (by omega) ⟨xk_crf _, ⟨rfl, trivial⟩⟩ (Nat.le_of_ble_eq_true rfl) rfl (fun _ => rfl) dX1_effortsBelow_49 (fun r9 h10 E => ?_)
      refine xr_cast C E xi_211_Integer q997 dX1_effortsBelow_52 (fun E => ?_)
      refine xr_V (v := r9) [] [va_rf a0, .int a4] (fun r => some (.int r)) (fun r => .int r :: [va_rf a0, .int a4]) C E xi_211_Integer (fun r h' e => wk_J22_intValue e) q998 q975 q976 q105 q977 xh_java_lang_Integer xd_J22_intValue (by omega) (by omega) ⟨xk_crf _, ⟨rfl, trivial⟩⟩ (Nat.le_of_ble_eq_true rfl) rfl (fun _ => rfl) dX1_effortsBelow_55 (fun r11 h12 E => ?_)
      refine xr_iload_n 1 C rfl rfl dX1_effortsBelow_58 ?_
      refine xr_iload_n 2 C rfl rfl dX1_effortsBelow_59 ?_
      refine xr_iconst (1) C (by decide) dX1_effortsBelow_60 ?_
      refine xr_iadd C dX1_effortsBelow_61 ?_
      refine xr_aload 4 C rfl dX1_effortsBelow_62 ?_
      refine xr_V (v := a5) [] [.int (a3 + (1 : Int32)), .int a2, .int r11, va_rf a0, .int a4] (fun r => some (.int r)) (fun r => .int r :: [.int (a3 + (1 : Int32)), .int a2, .int r11, va_rf a0, .int a4]) C E xi_6_ArrayList (fun r h' e => wk_J2_size e) q265 q266 q267 q82 q268 xh_java_util_ArrayList xd_J2_size (by omega) (by omega) ⟨rfl, ⟨rfl, ⟨rfl, ⟨xk_crf _, ⟨rfl, trivial⟩⟩⟩⟩⟩ (Nat.le_of_ble_eq_true rfl) rfl (fun _ => rfl) dX1_effortsBelow_64 (fun r13 h14 E => ?_)
      refine xr_iadd C dX1_effortsBelow_67 ?_
      refine xr_iconst (1) C (by decide) dX1_effortsBelow_68 ?_
      refine xr_isub C dX1_effortsBelow_69 ?_
      refine xr_iload 5 C rfl dX1_effortsBelow_70 ?_
      refine xr_isub C dX1_effortsBelow_72 ?_
      refine xr_V (v := a0) [.int r11, .int a2, .int ((((a3 + (1 : Int32)) + r13) - (1 : Int32)) - a6)] [.int a4] (fun r => some (.int r)) (fun r => .int r :: [.int a4]) C E xi_1_SlatCratesYard (fun r h' e => hrc _ _ _ _ _ r h' e) q1820 q1822 qs20 q79 q1823 xh_SlatCrates_Yard xd_X1_effortsBelow hDr hWr ⟨rfl, trivial⟩ (Nat.le_of_ble_eq_true rfl) rfl (fun _ => rfl) dX1_effortsBelow_73 (fun r15 h16 E => ?_)
      refine xr_iadd C dX1_effortsBelow_76 ?_
      refine xr_istore (L2 := [(4, .int (a4 + r15)), (0, va_rf a0), (2, .int a2), (3, .int a3), (5, va_rf a5), (6, .int a6)]) C rfl dX1_effortsBelow_77 (by decide) ?_
      refine xr_iinc (v := (a6 + 1)) (L2 := [(6, .int (a6 + 1)), (4, .int (a4 + r15)), (0, va_rf a0), (2, .int a2), (3, .int a3), (5, va_rf a5)]) 5 C rfl rfl rfl dX1_effortsBelow_79 (by decide) ?_
      refine xr_goto 32 C dX1_effortsBelow_82 (by decide) ?_
      refine xr_sub [2, 3, 4, 1, 5, 0] rfl ?_
      exact hkb32 (a4 + r15) (a6 + 1) h16 E
def mf_X1_effortsBelow_J17 (rc : Option Nat → Int32 → Int32 → Int32 → xk_H → Option (Int32 × xk_H)) (a0 : Option Nat) (a1 : Int32) (a2 : Int32) (a3 : Int32) (s0 : Int32) (h0 : xk_H) : Option (Int32 × xk_H) :=
  xm_rc [1] a0 h0 <| xm_cl (mf_X1_at a0 a1 h0) fun r4 h5 => xm_gR [3] 5 r4 h5 fun x6 => mf_X1_effortsBelow_L32 rc a0 a2 a3 x6 xk_fu s0 (0 : Int32) h5
set_option maxHeartbeats 1000000 in
theorem wk_X1_effortsBelow_J17 {Γ : xk_C} {r : Int32} {h' : xk_H} {d w dR wR : Nat} {rc : Option Nat → Int32 → Int32 → Int32 → xk_H → Option (Int32 × xk_H)} {a0 : Option Nat} {a1 : Int32} {a2 : Int32} {a3 : Int32} {s0 : Int32} {h0 : xk_H} (C : xk_Cx Γ RX1 cX1_effortsBelow 7 (Option.some FieldType.int) "effortsBelow" d w) (Z : xk_Z Γ (some (.int r)) h') (hrc : ∀ (z0 : Option Nat) (z1 : Int32) (z2 : Int32) (z3 : Int32) (g : xk_H) (r9 : Int32) (g9 : xk_H), rc z0 z1 z2 z3 g = some (r9, g9) → xk_Ok (xk_l Γ) (xk_D Γ) (xk_b Γ) yX1_effortsBelow cX1_effortsBelow 7 (Option.some FieldType.int) dR wR [va_rf z0, .int z1, .int z2, .int z3] g (some (.int r9)) g9) (hD : 5 ≤ d) (hW : 145 ≤ w) (hDr : dR + 1 ≤ d) (hWr : 8 + (7 + 11) + wR ≤ w) (E : mf_X1_effortsBelow_J17 rc a0 a1 a2 a3 s0 h0 = some (r, h')) : xk_X Γ 17 [(0, va_rf a0), (1, .int a1), (2, .int a2), (3, .int a3)] [.int s0] h0 := by
  rw [mf_X1_effortsBelow_J17] at E
  refine xr_istore (L2 := [(4, .int s0), (0, va_rf a0), (1, .int a1), (2, .int a2), (3, .int a3)]) C rfl dX1_effortsBelow_17 (by decide) ?_
  refine xr_aload_n 1 C rfl rfl dX1_effortsBelow_19 ?_
  refine xr_iload_n 2 C rfl rfl dX1_effortsBelow_20 ?_
  refine xr_V (v := a0) [.int a1] [] (fun r => some (va_rf r)) (fun r => va_rf r :: []) C E xi_1_SlatCratesYard (fun r h' e => wk_X1_at e) q921 q922 q923 q79 q924 xh_SlatCrates_Yard xd_X1_at (by omega) (by omega) trivial (Nat.le_of_ble_eq_true rfl) rfl (fun _ => rfl) dX1_effortsBelow_21 (fun r4 h5 E => ?_)
  refine xr_gR C E xf_X1_66 dX1_effortsBelow_24 (fun x6 E => ?_)
  refine xr_astore (L2 := [(5, va_rf x6), (4, .int s0), (0, va_rf a0), (1, .int a1), (2, .int a2), (3, .int a3)]) C rfl dX1_effortsBelow_27 (by decide) ?_
  refine xr_iconst (0) C (by decide) dX1_effortsBelow_29 ?_
  refine xr_istore (L2 := [(6, .int (0 : Int32)), (5, va_rf x6), (4, .int s0), (0, va_rf a0), (1, .int a1), (2, .int a2), (3, .int a3)]) C rfl dX1_effortsBelow_30 (by decide) ?_
  refine xr_sub [3, 5, 6, 2, 1, 0] rfl ?_
  exact wk_X1_effortsBelow_L32 (a0 := a0) (a2 := a2) (a3 := a3) (a5 := x6) C Z hrc hD hW hDr hWr xk_fu s0 (0 : Int32) h5 E
def mf_X1_effortsBelow : Nat → Option Nat → Int32 → Int32 → Int32 → xk_H → Option (Int32 × xk_H)
  | 0, _, _, _, _, _ => none
  | n + 1, a0, a1, a2, a3, h0 => xm_rc [1] a0 h0 <| xm_cl (mf_X1_at a0 a1 h0) fun r1 h2 => xm_gI [3] 0 r1 h2 fun x3 => if x3 = a2 then (mf_X1_effortsBelow_J17 (mf_X1_effortsBelow n) a0 a1 a2 a3 a3 h2) else (mf_X1_effortsBelow_J17 (mf_X1_effortsBelow n) a0 a1 a2 a3 (0 : Int32) h2)
set_option maxHeartbeats 1000000 in
theorem wk_X1_effortsBelow : ∀ (n : Nat) {l : Launch} {D : va_G} {base : Nat} {a0 : Option Nat} {a1 : Int32} {a2 : Int32} {a3 : Int32} {h0 : xk_H} {r : Int32} {h' : xk_H}, mf_X1_effortsBelow n a0 a1 a2 a3 h0 = some (r, h') → xk_Ok l D base yX1_effortsBelow cX1_effortsBelow 7 (Option.some FieldType.int) (5 + n) (145 + n * 26) [va_rf a0, .int a1, .int a2, .int a3] h0 (some (.int r)) h' := by
  intro n
  induction n with
  | zero =>
    intro l D base a0 a1 a2 a3 h0 r h' E
    rw [mf_X1_effortsBelow] at E
    cases E
  | succ n ih =>
    intro l D base a0 a1 a2 a3 h0 r h' E
    refine xk_ofX RX1 "effortsBelow" xq_X1_effortsBelow rfl rfl (Nat.le_of_ble_eq_true rfl) ⟨xk_crf _, ⟨rfl, ⟨rfl, ⟨rfl, trivial⟩⟩⟩⟩ (fun Γ el eD eb C Z => ?_)
    rw [mf_X1_effortsBelow] at E
    show xk_X Γ 0 [(0, va_rf a0), (1, .int a1), (2, .int a2), (3, .int a3)] [] h0
    have hrc : ∀ (z0 : Option Nat) (z1 : Int32) (z2 : Int32) (z3 : Int32) (g : xk_H) (r9 : Int32) (g9 : xk_H), mf_X1_effortsBelow n z0 z1 z2 z3 g = some (r9, g9) → xk_Ok (xk_l Γ) (xk_D Γ) (xk_b Γ) yX1_effortsBelow cX1_effortsBelow 7 (Option.some FieldType.int) (5 + n) (145 + n * 26) [va_rf z0, .int z1, .int z2, .int z3] g (some (.int r9)) g9 := fun z0 z1 z2 z3 g r9 g9 e => ih e
    have hD : 5 ≤ 5 + (n + 1) := by omega
    have hW : 145 ≤ 145 + (n + 1) * 26 := by omega
    have hDr : 5 + n + 1 ≤ 5 + (n + 1) := by omega
    have hWr : 8 + (7 + 11) + (145 + n * 26) ≤ 145 + (n + 1) * 26 := by omega
    refine xr_aload_n 0 C rfl rfl dX1_effortsBelow_0 ?_
    refine xr_iload_n 1 C rfl rfl dX1_effortsBelow_1 ?_
    refine xr_V (v := a0) [.int a1] [] (fun r => some (va_rf r)) (fun r => va_rf r :: []) C E xi_1_SlatCratesYard (fun r h' e => wk_X1_at e) q921 q922 q923 q79 q924 xh_SlatCrates_Yard xd_X1_at (by omega) (by omega) trivial (Nat.le_of_ble_eq_true rfl) rfl (fun _ => rfl) dX1_effortsBelow_2 (fun r1 h2 E => ?_)
    refine xr_gI C E xf_X1_85 dX1_effortsBelow_5 (fun x3 E => ?_)
    refine xr_iload_n 2 C rfl rfl dX1_effortsBelow_8 ?_
    refine xr_icmp_ne 16 C E dX1_effortsBelow_9 (by decide) (fun E => ?_) (fun E => ?_)
    · refine xr_iconst (0) C (by decide) dX1_effortsBelow_16 ?_
      exact wk_X1_effortsBelow_J17 C Z hrc hD hW hDr hWr E
    · refine xr_iload_n 3 C rfl rfl dX1_effortsBelow_12 ?_
      refine xr_goto 17 C dX1_effortsBelow_13 (by decide) ?_
      exact wk_X1_effortsBelow_J17 C Z hrc hD hW hDr hWr E
def mf_X1_effortsDown_L4 (a0 : Option Nat) (a1 : Int32) : Nat → Int32 → Int32 → xk_H → Option (Int32 × xk_H)
  | 0, _, _, _ => none
  | n + 1, a2, a3, h0 => xm_rc [1] a0 h0 <| xm_cl (mf_X1_size a0 h0) fun r1 h2 => if r1 ≤ a3 then (some (a2, h2)) else (xm_rc [1] a0 h2 <| xm_cl (mf_X1_isOnGround a0 a3 h2) fun r3 h4 => if xk_b2 r3 = 0 then (mf_X1_effortsDown_L4 a0 a1 n (a2 + (0 : Int32)) (a3 + 1) h4) else (xm_rc [1] a0 h4 <| xm_cl (mf_X1_effortsBelow 30 a0 a3 a1 (0 : Int32) h4) fun r5 h6 => mf_X1_effortsDown_L4 a0 a1 n (a2 + r5) (a3 + 1) h6))
set_option maxHeartbeats 1000000 in
theorem wk_X1_effortsDown_L4 {Γ : xk_C} {r : Int32} {h' : xk_H} {a0 : Option Nat} {a1 : Int32} (C : xk_Cx Γ RX1 cX1_effortsDown 4 (Option.some FieldType.int) "effortsDown" 36 951) (Z : xk_Z Γ (some (.int r)) h') : ∀ (n : Nat) (a2 : Int32) (a3 : Int32) (h0 : xk_H), mf_X1_effortsDown_L4 a0 a1 n a2 a3 h0 = some (r, h') → xk_X Γ 4 [(0, va_rf a0), (1, .int a1), (2, .int a2), (3, .int a3)] [] h0 := by
  intro n
  induction n with
  | zero =>
    intro a2 a3 h0 E
    rw [mf_X1_effortsDown_L4] at E
    cases E
  | succ n ih =>
    intro a2 a3 h0 E
    have hkb4 : ∀ (m2 : Int32) (m3 : Int32) (g : xk_H), mf_X1_effortsDown_L4 a0 a1 n m2 m3 g = some (r, h') → xk_X Γ 4 [(0, va_rf a0), (1, .int a1), (2, .int m2), (3, .int m3)] [] g := ih
    rw [mf_X1_effortsDown_L4] at E
    refine xr_iload_n 3 C rfl rfl dX1_effortsDown_4 ?_
    refine xr_aload_n 0 C rfl rfl dX1_effortsDown_5 ?_
    refine xr_V (v := a0) [] [.int a3] (fun r => some (.int r)) (fun r => .int r :: [.int a3]) C E xi_1_SlatCratesYard (fun r h' e => wk_X1_size e) q1242 q262 q263 q79 q264 xh_SlatCrates_Yard xd_X1_size (by decide) (by decide) ⟨rfl, trivial⟩ (Nat.le_of_ble_eq_true rfl) rfl (fun _ => rfl) dX1_effortsDown_6 (fun r1 h2 E => ?_)
    refine xr_icmp_ge 40 C E dX1_effortsDown_9 (by decide) (fun E => ?_) (fun E => ?_)
    · refine xr_iload_n 2 C rfl rfl dX1_effortsDown_40 ?_
      exact xr_iret C Z E dX1_effortsDown_41
    · refine xr_iload_n 2 C rfl rfl dX1_effortsDown_12 ?_
      refine xr_aload_n 0 C rfl rfl dX1_effortsDown_13 ?_
      refine xr_iload_n 3 C rfl rfl dX1_effortsDown_14 ?_
      refine xr_V (v := a0) [.int a3] [.int a2] (fun r => some (.int (xk_b2 r))) (fun r => .int (xk_b2 r) :: [.int a2]) C E xi_1_SlatCratesYard (fun r h' e => wk_X1_isOnGround e) q917 q918 q919 q79 q920 xh_SlatCrates_Yard xd_X1_isOnGround (by decide) (by decide) ⟨rfl, trivial⟩ (Nat.le_of_ble_eq_true rfl) rfl (fun _ => rfl) dX1_effortsDown_15 (fun r3 h4 E => ?_)
      refine xr_if_eq 31 C E dX1_effortsDown_18 (by decide) (fun E => ?_) (fun E => ?_)
      · refine xr_iconst (0) C (by decide) dX1_effortsDown_31 ?_
        refine xr_iadd C dX1_effortsDown_32 ?_
        refine xr_istore_n (L2 := [(2, .int (a2 + (0 : Int32))), (0, va_rf a0), (1, .int a1), (3, .int a3)]) C rfl rfl dX1_effortsDown_33 (by decide) ?_
        refine xr_iinc (v := (a3 + 1)) (L2 := [(3, .int (a3 + 1)), (2, .int (a2 + (0 : Int32))), (0, va_rf a0), (1, .int a1)]) 3 C rfl rfl rfl dX1_effortsDown_34 (by decide) ?_
        refine xr_goto 4 C dX1_effortsDown_37 (by decide) ?_
        refine xr_sub [2, 3, 1, 0] rfl ?_
        exact hkb4 (a2 + (0 : Int32)) (a3 + 1) h4 E
      · refine xr_aload_n 0 C rfl rfl dX1_effortsDown_21 ?_
        refine xr_iload_n 3 C rfl rfl dX1_effortsDown_22 ?_
        refine xr_iload_n 1 C rfl rfl dX1_effortsDown_23 ?_
        refine xr_iconst (0) C (by decide) dX1_effortsDown_24 ?_
        refine xr_V (v := a0) [.int a3, .int a1, .int (0 : Int32)] [.int a2] (fun r => some (.int r)) (fun r => .int r :: [.int a2]) C E xi_1_SlatCratesYard (fun r h' e => wk_X1_effortsBelow 30 e) q1820 q1822 qs20 q79 q1823 xh_SlatCrates_Yard xd_X1_effortsBelow (by decide) (by decide) ⟨rfl, trivial⟩ (Nat.le_of_ble_eq_true rfl) rfl (fun _ => rfl) dX1_effortsDown_25 (fun r5 h6 E => ?_)
        refine xr_goto 32 C dX1_effortsDown_28 (by decide) ?_
        refine xr_iadd C dX1_effortsDown_32 ?_
        refine xr_istore_n (L2 := [(2, .int (a2 + r5)), (0, va_rf a0), (1, .int a1), (3, .int a3)]) C rfl rfl dX1_effortsDown_33 (by decide) ?_
        refine xr_iinc (v := (a3 + 1)) (L2 := [(3, .int (a3 + 1)), (2, .int (a2 + r5)), (0, va_rf a0), (1, .int a1)]) 3 C rfl rfl rfl dX1_effortsDown_34 (by decide) ?_
        refine xr_goto 4 C dX1_effortsDown_37 (by decide) ?_
        refine xr_sub [2, 3, 1, 0] rfl ?_
        exact hkb4 (a2 + r5) (a3 + 1) h6 E
def mf_X1_effortsDown (a0 : Option Nat) (a1 : Int32) (h0 : xk_H) : Option (Int32 × xk_H) :=
  mf_X1_effortsDown_L4 a0 a1 xk_fu (0 : Int32) (0 : Int32) h0
set_option maxHeartbeats 1000000 in
theorem wk_X1_effortsDown {l : Launch} {D : va_G} {base : Nat} {a0 : Option Nat} {a1 : Int32} {h0 : xk_H} {r : Int32} {h' : xk_H} (E : mf_X1_effortsDown a0 a1 h0 = some (r, h')) : xk_Ok l D base yX1_effortsDown cX1_effortsDown 4 (Option.some FieldType.int) 36 951 [va_rf a0, .int a1] h0 (some (.int r)) h' := by
  refine xk_ofX RX1 "effortsDown" xq_X1_effortsDown rfl rfl (Nat.le_of_ble_eq_true rfl) ⟨xk_crf _, ⟨rfl, trivial⟩⟩ (fun Γ el eD eb C Z => ?_)
  rw [mf_X1_effortsDown] at E
  show xk_X Γ 0 [(0, va_rf a0), (1, .int a1)] [] h0
  refine xr_iconst (0) C (by decide) dX1_effortsDown_0 ?_
  refine xr_istore_n (L2 := [(2, .int (0 : Int32)), (0, va_rf a0), (1, .int a1)]) C rfl rfl dX1_effortsDown_1 (by decide) ?_
  refine xr_iconst (0) C (by decide) dX1_effortsDown_2 ?_
  refine xr_istore_n (L2 := [(3, .int (0 : Int32)), (2, .int (0 : Int32)), (0, va_rf a0), (1, .int a1)]) C rfl rfl dX1_effortsDown_3 (by decide) ?_
  refine xr_sub [2, 3, 1, 0] rfl ?_
  exact wk_X1_effortsDown_L4 (a0 := a0) (a1 := a1) C Z xk_fu (0 : Int32) (0 : Int32) h0 E
def mf_X1_effortsUp_L4 (a0 : Option Nat) (a1 : Int32) : Nat → Int32 → Int32 → xk_H → Option (Int32 × xk_H)
  | 0, _, _, _ => none
  | n + 1, a2, a3, h0 => xm_rc [1] a0 h0 <| xm_cl (mf_X1_size a0 h0) fun r1 h2 => if r1 ≤ a3 then (some (a2, h2)) else (xm_rc [1] a0 h2 <| xm_cl (mf_X1_at a0 a3 h2) fun r3 h4 => xm_gI [3] 0 r3 h4 fun x5 => if x5 = a1 then (xm_rc [1] a0 h4 <| xm_cl (mf_X1_effort a0 a3 h4) fun r6 h7 => mf_X1_effortsUp_L4 a0 a1 n (a2 + r6) (a3 + 1) h7) else (mf_X1_effortsUp_L4 a0 a1 n (a2 + (0 : Int32)) (a3 + 1) h4))
set_option maxHeartbeats 1000000 in
theorem wk_X1_effortsUp_L4 {Γ : xk_C} {r : Int32} {h' : xk_H} {a0 : Option Nat} {a1 : Int32} (C : xk_Cx Γ RX1 cX1_effortsUp 4 (Option.some FieldType.int) "effortsUp" 9 231) (Z : xk_Z Γ (some (.int r)) h') : ∀ (n : Nat) (a2 : Int32) (a3 : Int32) (h0 : xk_H), mf_X1_effortsUp_L4 a0 a1 n a2 a3 h0 = some (r, h') → xk_X Γ 4 [(0, va_rf a0), (1, .int a1), (2, .int a2), (3, .int a3)] [] h0 := by
  intro n
  induction n with
  | zero =>
    intro a2 a3 h0 E
    rw [mf_X1_effortsUp_L4] at E
    cases E
  | succ n ih =>
    intro a2 a3 h0 E
    have hkb4 : ∀ (m2 : Int32) (m3 : Int32) (g : xk_H), mf_X1_effortsUp_L4 a0 a1 n m2 m3 g = some (r, h') → xk_X Γ 4 [(0, va_rf a0), (1, .int a1), (2, .int m2), (3, .int m3)] [] g := ih
    rw [mf_X1_effortsUp_L4] at E
    refine xr_iload_n 3 C rfl rfl dX1_effortsUp_4 ?_
    refine xr_aload_n 0 C rfl rfl dX1_effortsUp_5 ?_
    refine xr_V (v := a0) [] [.int a3] (fun r => some (.int r)) (fun r => .int r :: [.int a3]) C E xi_1_SlatCratesYard (fun r h' e => wk_X1_size e) q1242 q262 q263 q79 q264 xh_SlatCrates_Yard xd_X1_size (by decide) (by decide) ⟨rfl, trivial⟩ (Nat.le_of_ble_eq_true rfl) rfl (fun _ => rfl) dX1_effortsUp_6 (fun r1 h2 E => ?_)
    refine xr_icmp_ge 42 C E dX1_effortsUp_9 (by decide) (fun E => ?_) (fun E => ?_)
    · refine xr_iload_n 2 C rfl rfl dX1_effortsUp_42 ?_
      exact xr_iret C Z E dX1_effortsUp_43
    · refine xr_iload_n 2 C rfl rfl dX1_effortsUp_12 ?_
      refine xr_aload_n 0 C rfl rfl dX1_effortsUp_13 ?_
      refine xr_iload_n 3 C rfl rfl dX1_effortsUp_14 ?_
      refine xr_V (v := a0) [.int a3] [.int a2] (fun r => some (va_rf r)) (fun r => va_rf r :: [.int a2]) C E xi_1_SlatCratesYard (fun r h' e => wk_X1_at e) q921 q922 q923 q79 q924 xh_SlatCrates_Yard xd_X1_at (by decide) (by decide) ⟨rfl, trivial⟩ (Nat.le_of_ble_eq_true rfl) rfl (fun _ => rfl) dX1_effortsUp_15 (fun r3 h4 E => ?_)
      refine xr_gI C E xf_X1_85 dX1_effortsUp_18 (fun x5 E => ?_)
      refine xr_iload_n 1 C rfl rfl dX1_effortsUp_21 ?_
      refine xr_icmp_ne 33 C E dX1_effortsUp_22 (by decide) (fun E => ?_) (fun E => ?_)
      · refine xr_iconst (0) C (by decide) dX1_effortsUp_33 ?_
        refine xr_iadd C dX1_effortsUp_34 ?_
        refine xr_istore_n (L2 := [(2, .int (a2 + (0 : Int32))), (0, va_rf a0), (1, .int a1), (3, .int a3)]) C rfl rfl dX1_effortsUp_35 (by decide) ?_
        refine xr_iinc (v := (a3 + 1)) (L2 := [(3, .int (a3 + 1)), (2, .int (a2 + (0 : Int32))), (0, va_rf a0), (1, .int a1)]) 3 C rfl rfl rfl dX1_effortsUp_36 (by decide) ?_
        refine xr_goto 4 C dX1_effortsUp_39 (by decide) ?_
        refine xr_sub [2, 3, 1, 0] rfl ?_
        exact hkb4 (a2 + (0 : Int32)) (a3 + 1) h4 E
      · refine xr_aload_n 0 C rfl rfl dX1_effortsUp_25 ?_
        refine xr_iload_n 3 C rfl rfl dX1_effortsUp_26 ?_
        refine xr_V (v := a0) [.int a3] [.int a2] (fun r => some (.int r)) (fun r => .int r :: [.int a2]) C E xi_1_SlatCratesYard (fun r h' e => wk_X1_effort e) q1815 q1246 q1247 q79 q1248 xh_SlatCrates_Yard xd_X1_effort (by decide) (by decide) ⟨rfl, trivial⟩ (Nat.le_of_ble_eq_true rfl) rfl (fun _ => rfl) dX1_effortsUp_27 (fun r6 h7 E => ?_)
        refine xr_goto 34 C dX1_effortsUp_30 (by decide) ?_
        refine xr_iadd C dX1_effortsUp_34 ?_
        refine xr_istore_n (L2 := [(2, .int (a2 + r6)), (0, va_rf a0), (1, .int a1), (3, .int a3)]) C rfl rfl dX1_effortsUp_35 (by decide) ?_
        refine xr_iinc (v := (a3 + 1)) (L2 := [(3, .int (a3 + 1)), (2, .int (a2 + r6)), (0, va_rf a0), (1, .int a1)]) 3 C rfl rfl rfl dX1_effortsUp_36 (by decide) ?_
        refine xr_goto 4 C dX1_effortsUp_39 (by decide) ?_
        refine xr_sub [2, 3, 1, 0] rfl ?_
        exact hkb4 (a2 + r6) (a3 + 1) h7 E
def mf_X1_effortsUp (a0 : Option Nat) (a1 : Int32) (h0 : xk_H) : Option (Int32 × xk_H) :=
  mf_X1_effortsUp_L4 a0 a1 xk_fu (0 : Int32) (0 : Int32) h0
set_option maxHeartbeats 1000000 in
theorem wk_X1_effortsUp {l : Launch} {D : va_G} {base : Nat} {a0 : Option Nat} {a1 : Int32} {h0 : xk_H} {r : Int32} {h' : xk_H} (E : mf_X1_effortsUp a0 a1 h0 = some (r, h')) : xk_Ok l D base yX1_effortsUp cX1_effortsUp 4 (Option.some FieldType.int) 9 231 [va_rf a0, .int a1] h0 (some (.int r)) h' := by
  refine xk_ofX RX1 "effortsUp" xq_X1_effortsUp rfl rfl (Nat.le_of_ble_eq_true rfl) ⟨xk_crf _, ⟨rfl, trivial⟩⟩ (fun Γ el eD eb C Z => ?_)
  rw [mf_X1_effortsUp] at E
  show xk_X Γ 0 [(0, va_rf a0), (1, .int a1)] [] h0
  refine xr_iconst (0) C (by decide) dX1_effortsUp_0 ?_
  refine xr_istore_n (L2 := [(2, .int (0 : Int32)), (0, va_rf a0), (1, .int a1)]) C rfl rfl dX1_effortsUp_1 (by decide) ?_
  refine xr_iconst (0) C (by decide) dX1_effortsUp_2 ?_
  refine xr_istore_n (L2 := [(3, .int (0 : Int32)), (2, .int (0 : Int32)), (0, va_rf a0), (1, .int a1)]) C rfl rfl dX1_effortsUp_3 (by decide) ?_
  refine xr_sub [2, 3, 1, 0] rfl ?_
  exact wk_X1_effortsUp_L4 (a0 := a0) (a1 := a1) C Z xk_fu (0 : Int32) (0 : Int32) h0 E
def mf_X1_isLoose (a0 : Option Nat) (a1 : Int32) (h0 : xk_H) : Option (Bool × xk_H) :=
  xm_rc [1] a0 h0 <| xm_cl (mf_X1_isOnGround a0 a1 h0) fun r1 h2 => if xk_b2 r1 = 0 then (some (false, h2)) else (xm_rc [1] a0 h2 <| xm_cl (mf_X1_at a0 a1 h2) fun r3 h4 => xm_gR [3] 5 r3 h4 fun x5 => xm_rc [6] x5 h4 <| xm_cl (mf_J2_isEmpty x5 h4) fun r6 h7 => if xk_b2 r6 = 0 then (some (false, h7)) else (some (true, h7)))
set_option maxHeartbeats 1000000 in
theorem wk_X1_isLoose {l : Launch} {D : va_G} {base : Nat} {a0 : Option Nat} {a1 : Int32} {h0 : xk_H} {r : Bool} {h' : xk_H} (E : mf_X1_isLoose a0 a1 h0 = some (r, h')) : xk_Ok l D base yX1_isLoose cX1_isLoose 2 (Option.some FieldType.boolean) 6 166 [va_rf a0, .int a1] h0 (some (.int (xk_b2 r))) h' := by
  refine xk_ofX RX1 "isLoose" xq_X1_isLoose rfl rfl (Nat.le_of_ble_eq_true rfl) ⟨xk_crf _, ⟨rfl, trivial⟩⟩ (fun Γ el eD eb C Z => ?_)
  rw [mf_X1_isLoose] at E
  show xk_X Γ 0 [(0, va_rf a0), (1, .int a1)] [] h0
  refine xr_aload_n 0 C rfl rfl dX1_isLoose_0 ?_
  refine xr_iload_n 1 C rfl rfl dX1_isLoose_1 ?_
  refine xr_V (v := a0) [.int a1] [] (fun r => some (.int (xk_b2 r))) (fun r => .int (xk_b2 r) :: []) C E xi_1_SlatCratesYard (fun r h' e => wk_X1_isOnGround e) q917 q918 q919 q79 q920 xh_SlatCrates_Yard xd_X1_isOnGround (by decide) (by decide) trivial (Nat.le_of_ble_eq_true rfl) rfl (fun _ => rfl) dX1_isLoose_2 (fun r1 h2 E => ?_)
  refine xr_if_eq 26 C E dX1_isLoose_5 (by decide) (fun E => ?_) (fun E => ?_)
  · refine xr_iconst (0) C (by decide) dX1_isLoose_26 ?_
    exact xr_bret (b := false) C Z E dX1_isLoose_27
  · refine xr_aload_n 0 C rfl rfl dX1_isLoose_8 ?_
    refine xr_iload_n 1 C rfl rfl dX1_isLoose_9 ?_
    refine xr_V (v := a0) [.int a1] [] (fun r => some (va_rf r)) (fun r => va_rf r :: []) C E xi_1_SlatCratesYard (fun r h' e => wk_X1_at e) q921 q922 q923 q79 q924 xh_SlatCrates_Yard xd_X1_at (by decide) (by decide) trivial (Nat.le_of_ble_eq_true rfl) rfl (fun _ => rfl) dX1_isLoose_10 (fun r3 h4 E => ?_)
    refine xr_gR C E xf_X1_66 dX1_isLoose_13 (fun x5 E => ?_)
    refine xr_V (v := x5) [] [] (fun r => some (.int (xk_b2 r))) (fun r => .int (xk_b2 r) :: []) C E xi_6_ArrayList (fun r h' e => wk_J2_isEmpty e) q1049 q1050 q1051 q82 q1052 xh_java_util_ArrayList xd_J2_isEmpty (by decide) (by decide) trivial (Nat.le_of_ble_eq_true rfl) rfl (fun _ => rfl) dX1_isLoose_16 (fun r6 h7 E => ?_)
    refine xr_if_eq 26 C E dX1_isLoose_19 (by decide) (fun E => ?_) (fun E => ?_)
    · refine xr_iconst (0) C (by decide) dX1_isLoose_26 ?_
      exact xr_bret (b := false) C Z E dX1_isLoose_27
    · refine xr_iconst (1) C (by decide) dX1_isLoose_22 ?_
      refine xr_goto 27 C dX1_isLoose_23 (by decide) ?_
      exact xr_bret (b := true) C Z E dX1_isLoose_27
def mf_X1_longest_L5 (a0 : Option Nat) (a1 : Option Nat) (a2 : Int32) : Nat → Int32 → Int32 → xk_H → Option (Int32 × xk_H)
  | 0, _, _, _ => none
  | n + 1, a3, a4, h0 => xm_rc [1] a0 h0 <| xm_cl (mf_X1_size a0 h0) fun r1 h2 => if r1 ≤ a4 then (some (a3, h2)) else (xm_rc [1] a0 h2 <| xm_cl (mf_X1_at a0 a4 h2) fun r3 h4 => xm_gI [3] 0 r3 h4 fun x5 => if a2 < x5 then (mf_X1_longest_L5 a0 a1 a2 n a3 (a4 + 1) h4) else (xm_lI [100] a1 a4 h4 fun x6 => xm_cl (mf_J17_max a3 x6 h4) fun r7 h8 => mf_X1_longest_L5 a0 a1 a2 n r7 (a4 + 1) h8))
set_option maxHeartbeats 1000000 in
theorem wk_X1_longest_L5 {Γ : xk_C} {r : Int32} {h' : xk_H} {a0 : Option Nat} {a1 : Option Nat} {a2 : Int32} (C : xk_Cx Γ RX1 cX1_longest 5 (Option.some FieldType.int) "longest" 5 145) (Z : xk_Z Γ (some (.int r)) h') : ∀ (n : Nat) (a3 : Int32) (a4 : Int32) (h0 : xk_H), mf_X1_longest_L5 a0 a1 a2 n a3 a4 h0 = some (r, h') → xk_X Γ 5 [(0, va_rf a0), (1, va_rf a1), (2, .int a2), (3, .int a3), (4, .int a4)] [] h0 := by
  intro n
  induction n with
  | zero =>
    intro a3 a4 h0 E
    rw [mf_X1_longest_L5] at E
    cases E
  | succ n ih =>
    intro a3 a4 h0 E
    have hkb5 : ∀ (m3 : Int32) (m4 : Int32) (g : xk_H), mf_X1_longest_L5 a0 a1 a2 n m3 m4 g = some (r, h') → xk_X Γ 5 [(0, va_rf a0), (1, va_rf a1), (2, .int a2), (3, .int m3), (4, .int m4)] [] g := ih
    rw [mf_X1_longest_L5] at E
    refine xr_iload 4 C rfl dX1_longest_5 ?_
    refine xr_aload_n 0 C rfl rfl dX1_longest_7 ?_
    refine xr_V (v := a0) [] [.int a4] (fun r => some (.int r)) (fun r => .int r :: [.int a4]) C E xi_1_SlatCratesYard (fun r h' e => wk_X1_size e) q1242 q262 q263 q79 q264 xh_SlatCrates_Yard xd_X1_size (by decide) (by decide) ⟨rfl, trivial⟩ (Nat.le_of_ble_eq_true rfl) rfl (fun _ => rfl) dX1_longest_8 (fun r1 h2 E => ?_)
    refine xr_icmp_ge 46 C E dX1_longest_11 (by decide) (fun E => ?_) (fun E => ?_)
    · refine xr_iload_n 3 C rfl rfl dX1_longest_46 ?_
      exact xr_iret C Z E dX1_longest_47
    · refine xr_aload_n 0 C rfl rfl dX1_longest_14 ?_
      refine xr_iload 4 C rfl dX1_longest_15 ?_
      refine xr_V (v := a0) [.int a4] [] (fun r => some (va_rf r)) (fun r => va_rf r :: []) C E xi_1_SlatCratesYard (fun r h' e => wk_X1_at e) q921 q922 q923 q79 q924 xh_SlatCrates_Yard xd_X1_at (by decide) (by decide) trivial (Nat.le_of_ble_eq_true rfl) rfl (fun _ => rfl) dX1_longest_17 (fun r3 h4 E => ?_)
      refine xr_gI C E xf_X1_85 dX1_longest_20 (fun x5 E => ?_)
      refine xr_iload_n 2 C rfl rfl dX1_longest_23 ?_
      refine xr_icmp_gt 38 C E dX1_longest_24 (by decide) (fun E => ?_) (fun E => ?_)
      · refine xr_iload_n 3 C rfl rfl dX1_longest_38 ?_
        refine xr_istore_n (L2 := [(3, .int a3), (0, va_rf a0), (1, va_rf a1), (2, .int a2), (4, .int a4)]) C rfl rfl dX1_longest_39 (by decide) ?_
        refine xr_iinc (v := (a4 + 1)) (L2 := [(4, .int (a4 + 1)), (3, .int a3), (0, va_rf a0), (1, va_rf a1), (2, .int a2)]) 4 C rfl rfl rfl dX1_longest_40 (by decide) ?_
        refine xr_goto 5 C dX1_longest_43 (by decide) ?_
        refine xr_sub [2, 3, 4, 1, 0] rfl ?_
        exact hkb5 a3 (a4 + 1) h4 E
      · refine xr_iload_n 3 C rfl rfl dX1_longest_27 ?_
        refine xr_aload_n 1 C rfl rfl dX1_longest_28 ?_
        refine xr_iload 4 C rfl dX1_longest_29 ?_
        refine xr_lI C E xt_100 dX1_longest_31 (fun x6 E => ?_)
        refine xr_S [.int a3, .int x6] [] (fun r => some (.int r)) (fun r => .int r :: []) C E (fun r h' e => wk_J17_max e) q1854 q523 q98 q524 xh_java_lang_Math xd_J17_max (by decide) (by decide) trivial (Nat.le_of_ble_eq_true rfl) rfl (fun _ => rfl) dX1_longest_32 (fun r7 h8 E => ?_)
        refine xr_goto 39 C dX1_longest_35 (by decide) ?_
        refine xr_istore_n (L2 := [(3, .int r7), (0, va_rf a0), (1, va_rf a1), (2, .int a2), (4, .int a4)]) C rfl rfl dX1_longest_39 (by decide) ?_
        refine xr_iinc (v := (a4 + 1)) (L2 := [(4, .int (a4 + 1)), (3, .int r7), (0, va_rf a0), (1, va_rf a1), (2, .int a2)]) 4 C rfl rfl rfl dX1_longest_40 (by decide) ?_
        refine xr_goto 5 C dX1_longest_43 (by decide) ?_
        refine xr_sub [2, 3, 4, 1, 0] rfl ?_
        exact hkb5 r7 (a4 + 1) h8 E
def mf_X1_longest (a0 : Option Nat) (a1 : Option Nat) (a2 : Int32) (h0 : xk_H) : Option (Int32 × xk_H) :=
  mf_X1_longest_L5 a0 a1 a2 xk_fu (0 : Int32) (0 : Int32) h0
set_option maxHeartbeats 1000000 in
theorem wk_X1_longest {l : Launch} {D : va_G} {base : Nat} {a0 : Option Nat} {a1 : Option Nat} {a2 : Int32} {h0 : xk_H} {r : Int32} {h' : xk_H} (E : mf_X1_longest a0 a1 a2 h0 = some (r, h')) : xk_Ok l D base yX1_longest cX1_longest 5 (Option.some FieldType.int) 5 145 [va_rf a0, va_rf a1, .int a2] h0 (some (.int r)) h' := by
  refine xk_ofX RX1 "longest" xq_X1_longest rfl rfl (Nat.le_of_ble_eq_true rfl) ⟨xk_crf _, ⟨xk_crf _, ⟨rfl, trivial⟩⟩⟩ (fun Γ el eD eb C Z => ?_)
  rw [mf_X1_longest] at E
  show xk_X Γ 0 [(0, va_rf a0), (1, va_rf a1), (2, .int a2)] [] h0
  refine xr_iconst (0) C (by decide) dX1_longest_0 ?_
  refine xr_istore_n (L2 := [(3, .int (0 : Int32)), (0, va_rf a0), (1, va_rf a1), (2, .int a2)]) C rfl rfl dX1_longest_1 (by decide) ?_
  refine xr_iconst (0) C (by decide) dX1_longest_2 ?_
  refine xr_istore (L2 := [(4, .int (0 : Int32)), (3, .int (0 : Int32)), (0, va_rf a0), (1, va_rf a1), (2, .int a2)]) C rfl dX1_longest_3 (by decide) ?_
  refine xr_sub [2, 3, 4, 1, 0] rfl ?_
  exact wk_X1_longest_L5 (a0 := a0) (a1 := a1) (a2 := a2) C Z xk_fu (0 : Int32) (0 : Int32) h0 E
def mf_X1_lengths_L17 (kx69 : xk_H → Option (Option Nat × xk_H)) (a0 : Option Nat) (a1 : Option Nat) (a2 : Int32) : Nat → Int32 → xk_H → Option (Option Nat × xk_H)
  | 0, _, _ => none
  | n + 1, a3, h0 => xm_rc [1] a0 h0 <| xm_cl (mf_X1_size a0 h0) fun r5 h6 => if r5 ≤ a3 then (kx69 h6) else (xm_rc [1] a0 h6 <| xm_cl (mf_X1_at a0 a3 h6) fun r7 h8 => xm_gI [3] 0 r7 h8 fun x9 => if x9 = a2 then (xm_rc [1] a0 h8 <| xm_cl (mf_X1_isLoose a0 a3 h8) fun r10 h11 => if xk_b2 r10 = 0 then (mf_X1_lengths_L17 kx69 a0 a1 a2 n (a3 + 1) h11) else (xm_rc [1] a0 h11 <| xm_cl (mf_X1_at a0 a3 h11) fun r12 h13 => xm_gI [3] 1 r12 h13 fun x14 => xm_rc [1] a0 h13 <| xm_cl (mf_X1_longest a0 a1 x14 h13) fun r15 h16 => xm_sV [100] a1 a3 (.int ((1 : Int32) + r15)) h16 fun h17 => mf_X1_lengths_L17 kx69 a0 a1 a2 n (a3 + 1) h17)) else (mf_X1_lengths_L17 kx69 a0 a1 a2 n (a3 + 1) h8))
set_option maxHeartbeats 1000000 in
theorem wk_X1_lengths_L17 {Γ : xk_C} {r : Option Nat} {h' : xk_H} {kx69 : xk_H → Option (Option Nat × xk_H)} {a0 : Option Nat} {a1 : Option Nat} {a2 : Int32} (C : xk_Cx Γ RX1 cX1_lengths 4 (Option.some (FieldType.array FieldType.int)) "lengths" 7 187) (Z : xk_Z Γ (some (va_rf r)) h') (hkx69 : ∀ (g : xk_H), kx69 g = some (r, h') → xk_X Γ 69 [(0, va_rf a0), (1, va_rf a1), (2, .int a2)] [] g) : ∀ (n : Nat) (a3 : Int32) (h0 : xk_H), mf_X1_lengths_L17 kx69 a0 a1 a2 n a3 h0 = some (r, h') → xk_X Γ 17 [(0, va_rf a0), (1, va_rf a1), (2, .int a2), (3, .int a3)] [] h0 := by
  intro n
  induction n with
  | zero =>
    intro a3 h0 E
    rw [mf_X1_lengths_L17] at E
    cases E
  | succ n ih =>
    intro a3 h0 E
    have hkb17 : ∀ (m3 : Int32) (g : xk_H), mf_X1_lengths_L17 kx69 a0 a1 a2 n m3 g = some (r, h') → xk_X Γ 17 [(0, va_rf a0), (1, va_rf a1), (2, .int a2), (3, .int m3)] [] g := ih
    rw [mf_X1_lengths_L17] at E
    refine xr_iload_n 3 C rfl rfl dX1_lengths_17 ?_
    refine xr_aload_n 0 C rfl rfl dX1_lengths_18 ?_
    refine xr_V (v := a0) [] [.int a3] (fun r => some (.int r)) (fun r => .int r :: [.int a3]) C E xi_1_SlatCratesYard (fun r h' e => wk_X1_size e) q1242 q262 q263 q79 q264 xh_SlatCrates_Yard xd_X1_size (by decide) (by decide) ⟨rfl, trivial⟩ (Nat.le_of_ble_eq_true rfl) rfl (fun _ => rfl) dX1_lengths_19 (fun r5 h6 E => ?_)
    refine xr_icmp_ge 69 C E dX1_lengths_22 (by decide) (fun E => ?_) (fun E => ?_)
    · refine xr_sub [0, 1, 2] rfl ?_
      exact hkx69 h6 E
    · refine xr_aload_n 0 C rfl rfl dX1_lengths_25 ?_
      refine xr_iload_n 3 C rfl rfl dX1_lengths_26 ?_
      refine xr_V (v := a0) [.int a3] [] (fun r => some (va_rf r)) (fun r => va_rf r :: []) C E xi_1_SlatCratesYard (fun r h' e => wk_X1_at e) q921 q922 q923 q79 q924 xh_SlatCrates_Yard xd_X1_at (by decide) (by decide) trivial (Nat.le_of_ble_eq_true rfl) rfl (fun _ => rfl) dX1_lengths_27 (fun r7 h8 E => ?_)
      refine xr_gI C E xf_X1_85 dX1_lengths_30 (fun x9 E => ?_)
      refine xr_iload_n 2 C rfl rfl dX1_lengths_33 ?_
      refine xr_icmp_ne 63 C E dX1_lengths_34 (by decide) (fun E => ?_) (fun E => ?_)
      · refine xr_iinc (v := (a3 + 1)) (L2 := [(3, .int (a3 + 1)), (0, va_rf a0), (1, va_rf a1), (2, .int a2)]) 3 C rfl rfl rfl dX1_lengths_63 (by decide) ?_
        refine xr_goto 17 C dX1_lengths_66 (by decide) ?_
        refine xr_sub [1, 2, 3, 0] rfl ?_
        exact hkb17 (a3 + 1) h8 E
      · refine xr_aload_n 0 C rfl rfl dX1_lengths_37 ?_
        refine xr_iload_n 3 C rfl rfl dX1_lengths_38 ?_
        refine xr_V (v := a0) [.int a3] [] (fun r => some (.int (xk_b2 r))) (fun r => .int (xk_b2 r) :: []) C E xi_1_SlatCratesYard (fun r h' e => wk_X1_isLoose e) q1846 q1847 q1848 q79 q1849 xh_SlatCrates_Yard xd_X1_isLoose (by decide) (by decide) trivial (Nat.le_of_ble_eq_true rfl) rfl (fun _ => rfl) dX1_lengths_39 (fun r10 h11 E => ?_)
        refine xr_if_eq 63 C E dX1_lengths_42 (by decide) (fun E => ?_) (fun E => ?_)
        · refine xr_iinc (v := (a3 + 1)) (L2 := [(3, .int (a3 + 1)), (0, va_rf a0), (1, va_rf a1), (2, .int a2)]) 3 C rfl rfl rfl dX1_lengths_63 (by decide) ?_
          refine xr_goto 17 C dX1_lengths_66 (by decide) ?_
          refine xr_sub [1, 2, 3, 0] rfl ?_
          exact hkb17 (a3 + 1) h11 E
        · refine xr_aload_n 1 C rfl rfl dX1_lengths_45 ?_
          refine xr_iload_n 3 C rfl rfl dX1_lengths_46 ?_
          refine xr_iconst (1) C (by decide) dX1_lengths_47 ?_
          refine xr_aload_n 0 C rfl rfl dX1_lengths_48 ?_
          refine xr_aload_n 1 C rfl rfl dX1_lengths_49 ?_
          refine xr_aload_n 0 C rfl rfl dX1_lengths_50 ?_
          refine xr_iload_n 3 C rfl rfl dX1_lengths_51 ?_
          refine xr_V (v := a0) [.int a3] [va_rf a1, va_rf a0, .int (1 : Int32), .int a3, va_rf a1] (fun r => some (va_rf r)) (fun r => va_rf r :: [va_rf a1, va_rf a0, .int (1 : Int32), .int a3, va_rf a1]) C E xi_1_SlatCratesYard (fun r h' e => wk_X1_at e) q921 q922 q923 q79 q924 xh_SlatCrates_Yard xd_X1_at (by decide) (by decide) ⟨xk_crf _, ⟨xk_crf _, ⟨rfl, ⟨rfl, ⟨xk_crf _, trivial⟩⟩⟩⟩⟩ (Nat.le_of_ble_eq_true rfl) rfl (fun _ => rfl) dX1_lengths_52 (fun r12 h13 E => ?_)
          refine xr_gI C E xf_X1_77 dX1_lengths_55 (fun x14 E => ?_)
          refine xr_V (v := a0) [va_rf a1, .int x14] [.int (1 : Int32), .int a3, va_rf a1] (fun r => some (.int r)) (fun r => .int r :: [.int (1 : Int32), .int a3, va_rf a1]) C E xi_1_SlatCratesYard (fun r h' e => wk_X1_longest e) q1850 q1852 qs22 q79 q1853 xh_SlatCrates_Yard xd_X1_longest (by decide) (by decide) ⟨rfl, ⟨rfl, ⟨xk_crf _, trivial⟩⟩⟩ (Nat.le_of_ble_eq_true rfl) rfl (fun _ => rfl) dX1_lengths_58 (fun r15 h16 E => ?_)
          refine xr_iadd C dX1_lengths_61 ?_
          refine xr_sI C E dX1_lengths_62 (fun h17 E => ?_)
          refine xr_iinc (v := (a3 + 1)) (L2 := [(3, .int (a3 + 1)), (0, va_rf a0), (1, va_rf a1), (2, .int a2)]) 3 C rfl rfl rfl dX1_lengths_63 (by decide) ?_
          refine xr_goto 17 C dX1_lengths_66 (by decide) ?_
          refine xr_sub [1, 2, 3, 0] rfl ?_
          exact hkb17 (a3 + 1) h17 E
def mf_X1_lengths_L9 (a0 : Option Nat) (a1 : Option Nat) : Nat → Int32 → xk_H → Option (Option Nat × xk_H)
  | 0, _, _ => none
  | n + 1, a2, h0 => if (60 : Int32) < a2 then (some (a1, h0)) else (mf_X1_lengths_L17 (fun h18 => mf_X1_lengths_L9 a0 a1 n (a2 + 1) h18) a0 a1 a2 xk_fu (0 : Int32) h0)
set_option maxHeartbeats 1000000 in
theorem wk_X1_lengths_L9 {Γ : xk_C} {r : Option Nat} {h' : xk_H} {a0 : Option Nat} {a1 : Option Nat} (C : xk_Cx Γ RX1 cX1_lengths 4 (Option.some (FieldType.array FieldType.int)) "lengths" 7 187) (Z : xk_Z Γ (some (va_rf r)) h') : ∀ (n : Nat) (a2 : Int32) (h0 : xk_H), mf_X1_lengths_L9 a0 a1 n a2 h0 = some (r, h') → xk_X Γ 9 [(0, va_rf a0), (1, va_rf a1), (2, .int a2)] [] h0 := by
  intro n
  induction n with
  | zero =>
    intro a2 h0 E
    rw [mf_X1_lengths_L9] at E
    cases E
  | succ n ih =>
    intro a2 h0 E
    have hkb9 : ∀ (m2 : Int32) (g : xk_H), mf_X1_lengths_L9 a0 a1 n m2 g = some (r, h') → xk_X Γ 9 [(0, va_rf a0), (1, va_rf a1), (2, .int m2)] [] g := ih
    rw [mf_X1_lengths_L9] at E
    refine xr_iload_n 2 C rfl rfl dX1_lengths_9 ?_
    refine xr_bipush (60) C (by decide) dX1_lengths_10 ?_
    refine xr_icmp_gt 75 C E dX1_lengths_12 (by decide) (fun E => ?_) (fun E => ?_)
    · refine xr_aload_n 1 C rfl rfl dX1_lengths_75 ?_
      exact xr_aret C Z E (Or.inr ⟨_, rfl⟩) dX1_lengths_76
    · refine xr_iconst (0) C (by decide) dX1_lengths_15 ?_
      refine xr_istore_n (L2 := [(3, .int (0 : Int32)), (0, va_rf a0), (1, va_rf a1), (2, .int a2)]) C rfl rfl dX1_lengths_16 (by decide) ?_
      refine xr_sub [1, 2, 3, 0] rfl ?_
      refine wk_X1_lengths_L17 (a0 := a0) (a1 := a1) (a2 := a2) C Z (fun h18 E => ?_) xk_fu (0 : Int32) h0 E
      · refine xr_iinc (v := (a2 + 1)) (L2 := [(2, .int (a2 + 1)), (0, va_rf a0), (1, va_rf a1)]) 2 C rfl rfl rfl dX1_lengths_69 (by decide) ?_
        refine xr_goto 9 C dX1_lengths_72 (by decide) ?_
        refine xr_sub [1, 2, 0] rfl ?_
        exact hkb9 (a2 + 1) h18 E
def mf_X1_lengths (a0 : Option Nat) (h0 : xk_H) : Option (Option Nat × xk_H) :=
  xm_rc [1] a0 h0 <| xm_cl (mf_X1_size a0 h0) fun r1 h2 => xm_nwa 100 (.int 0) r1 h2 fun b3 h4 => mf_X1_lengths_L9 a0 (some b3) xk_fu (1 : Int32) h4
set_option maxHeartbeats 1000000 in
theorem wk_X1_lengths {l : Launch} {D : va_G} {base : Nat} {a0 : Option Nat} {h0 : xk_H} {r : Option Nat} {h' : xk_H} (E : mf_X1_lengths a0 h0 = some (r, h')) : xk_Ok l D base yX1_lengths cX1_lengths 4 (Option.some (FieldType.array FieldType.int)) 7 187 [va_rf a0] h0 (some (va_rf r)) h' := by
  refine xk_ofX RX1 "lengths" xq_X1_lengths rfl rfl (Nat.le_of_ble_eq_true rfl) ⟨xk_crf _, trivial⟩ (fun Γ el eD eb C Z => ?_)
  rw [mf_X1_lengths] at E
  show xk_X Γ 0 [(0, va_rf a0)] [] h0
  refine xr_aload_n 0 C rfl rfl dX1_lengths_0 ?_
  refine xr_V (v := a0) [] [] (fun r => some (.int r)) (fun r => .int r :: []) C E xi_1_SlatCratesYard (fun r h' e => wk_X1_size e) q1242 q262 q263 q79 q264 xh_SlatCrates_Yard xd_X1_size (by decide) (by decide) trivial (Nat.le_of_ble_eq_true rfl) rfl (fun _ => rfl) dX1_lengths_1 (fun r1 h2 E => ?_)
  refine xr_nwI C E q316 dX1_lengths_4 (fun b3 h4 E => ?_)
  refine xr_astore_n (L2 := [(1, va_rf (some b3)), (0, va_rf a0)]) C rfl rfl dX1_lengths_6 (by decide) ?_
  refine xr_iconst (1) C (by decide) dX1_lengths_7 ?_
  refine xr_istore_n (L2 := [(2, .int (1 : Int32)), (1, va_rf (some b3)), (0, va_rf a0)]) C rfl rfl dX1_lengths_8 (by decide) ?_
  refine xr_sub [2, 1, 0] rfl ?_
  exact wk_X1_lengths_L9 (a0 := a0) (a1 := (some b3)) C Z xk_fu (1 : Int32) h4 E
def mf_X1_nest_L32 (kx60 : Int32 → xk_H → Option (Option Nat × xk_H)) (a0 : Option Nat) (a1 : Option Nat) (a2 : Option Nat) (a3 : Int32) (a4 : Int32) : Nat → Int32 → xk_H → Option (Option Nat × xk_H)
  | 0, _, _ => none
  | n + 1, a5, h0 => xm_lI [100] a1 a5 h0 fun x9 => if x9 = a4 then (xm_rc [1] a0 h0 <| xm_cl (mf_X1_at a0 a5 h0) fun r10 h11 => xm_gI [3] 0 r10 h11 fun x12 => if x12 ≤ a3 then (kx60 a5 h11) else (mf_X1_nest_L32 kx60 a0 a1 a2 a3 a4 n (a5 + 1) h11)) else (mf_X1_nest_L32 kx60 a0 a1 a2 a3 a4 n (a5 + 1) h0)
set_option maxHeartbeats 1000000 in
theorem wk_X1_nest_L32 {Γ : xk_C} {r : Option Nat} {h' : xk_H} {kx60 : Int32 → xk_H → Option (Option Nat × xk_H)} {a0 : Option Nat} {a1 : Option Nat} {a2 : Option Nat} {a3 : Int32} {a4 : Int32} (C : xk_Cx Γ RX1 cX1_nest 6 (Option.some (FieldType.object "java/util/ArrayList")) "nest" 8 212) (Z : xk_Z Γ (some (va_rf r)) h') (hkx60 : ∀ (m5 : Int32) (g : xk_H), kx60 m5 g = some (r, h') → xk_X Γ 60 [(0, va_rf a0), (1, va_rf a1), (2, va_rf a2), (4, .int a4), (5, .int m5)] [] g) : ∀ (n : Nat) (a5 : Int32) (h0 : xk_H), mf_X1_nest_L32 kx60 a0 a1 a2 a3 a4 n a5 h0 = some (r, h') → xk_X Γ 32 [(0, va_rf a0), (1, va_rf a1), (2, va_rf a2), (3, .int a3), (4, .int a4), (5, .int a5)] [] h0 := by
  intro n
  induction n with
  | zero =>
    intro a5 h0 E
    rw [mf_X1_nest_L32] at E
    cases E
  | succ n ih =>
    intro a5 h0 E
    have hkb32 : ∀ (m5 : Int32) (g : xk_H), mf_X1_nest_L32 kx60 a0 a1 a2 a3 a4 n m5 g = some (r, h') → xk_X Γ 32 [(0, va_rf a0), (1, va_rf a1), (2, va_rf a2), (3, .int a3), (4, .int a4), (5, .int m5)] [] g := ih
    rw [mf_X1_nest_L32] at E
    refine xr_aload_n 1 C rfl rfl dX1_nest_32 ?_
    refine xr_iload 5 C rfl dX1_nest_33 ?_
    refine xr_lI C E xt_100 dX1_nest_35 (fun x9 E => ?_)
    refine xr_iload 4 C rfl dX1_nest_36 ?_
    refine xr_icmp_ne 54 C E dX1_nest_38 (by decide) (fun E => ?_) (fun E => ?_)
    · refine xr_iinc (v := (a5 + 1)) (L2 := [(5, .int (a5 + 1)), (0, va_rf a0), (1, va_rf a1), (2, va_rf a2), (3, .int a3), (4, .int a4)]) 5 C rfl rfl rfl dX1_nest_54 (by decide) ?_
      refine xr_goto 32 C dX1_nest_57 (by decide) ?_
      refine xr_sub [1, 2, 3, 4, 5, 0] rfl ?_
      exact hkb32 (a5 + 1) h0 E
    · refine xr_aload_n 0 C rfl rfl dX1_nest_41 ?_
      refine xr_iload 5 C rfl dX1_nest_42 ?_
      refine xr_V (v := a0) [.int a5] [] (fun r => some (va_rf r)) (fun r => va_rf r :: []) C E xi_1_SlatCratesYard (fun r h' e => wk_X1_at e) q921 q922 q923 q79 q924 xh_SlatCrates_Yard xd_X1_at (by decide) (by decide) trivial (Nat.le_of_ble_eq_true rfl) rfl (fun _ => rfl) dX1_nest_44 (fun r10 h11 E => ?_)
      refine xr_gI C E xf_X1_85 dX1_nest_47 (fun x12 E => ?_)
      refine xr_iload_n 3 C rfl rfl dX1_nest_50 ?_
      refine xr_icmp_le 60 C E dX1_nest_51 (by decide) (fun E => ?_) (fun E => ?_)
      · refine xr_sub [0, 1, 2, 4, 5] rfl ?_
        exact hkx60 a5 h11 E
      · refine xr_iinc (v := (a5 + 1)) (L2 := [(5, .int (a5 + 1)), (0, va_rf a0), (1, va_rf a1), (2, va_rf a2), (3, .int a3), (4, .int a4)]) 5 C rfl rfl rfl dX1_nest_54 (by decide) ?_
        refine xr_goto 32 C dX1_nest_57 (by decide) ?_
        refine xr_sub [1, 2, 3, 4, 5, 0] rfl ?_
        exact hkb32 (a5 + 1) h11 E
def mf_X1_nest_L24 (a0 : Option Nat) (a1 : Option Nat) (a2 : Option Nat) : Nat → Int32 → Int32 → xk_H → Option (Option Nat × xk_H)
  | 0, _, _, _ => none
  | n + 1, a3, a4, h0 => if a4 ≤ 0 then (some (a2, h0)) else (mf_X1_nest_L32 (fun m13 h14 => xm_cl (mf_J22_valueOf m13 h14) fun r15 h16 => xm_rc [6] a2 h16 <| xm_cl (mf_J2_add a2 r15 h16) fun r17 h18 => xm_rc [1] a0 h18 <| xm_cl (mf_X1_at a0 m13 h18) fun r19 h20 => xm_gI [3] 1 r19 h20 fun x21 => mf_X1_nest_L24 a0 a1 a2 n x21 (a4 + (-1 : Int32)) h20) a0 a1 a2 a3 a4 xk_fu (0 : Int32) h0)
set_option maxHeartbeats 1000000 in
theorem wk_X1_nest_L24 {Γ : xk_C} {r : Option Nat} {h' : xk_H} {a0 : Option Nat} {a1 : Option Nat} {a2 : Option Nat} (C : xk_Cx Γ RX1 cX1_nest 6 (Option.some (FieldType.object "java/util/ArrayList")) "nest" 8 212) (Z : xk_Z Γ (some (va_rf r)) h') : ∀ (n : Nat) (a3 : Int32) (a4 : Int32) (h0 : xk_H), mf_X1_nest_L24 a0 a1 a2 n a3 a4 h0 = some (r, h') → xk_X Γ 24 [(0, va_rf a0), (1, va_rf a1), (2, va_rf a2), (3, .int a3), (4, .int a4)] [] h0 := by
  intro n
  induction n with
  | zero =>
    intro a3 a4 h0 E
    rw [mf_X1_nest_L24] at E
    cases E
  | succ n ih =>
    intro a3 a4 h0 E
    have hkb24 : ∀ (m3 : Int32) (m4 : Int32) (g : xk_H), mf_X1_nest_L24 a0 a1 a2 n m3 m4 g = some (r, h') → xk_X Γ 24 [(0, va_rf a0), (1, va_rf a1), (2, va_rf a2), (3, .int m3), (4, .int m4)] [] g := ih
    rw [mf_X1_nest_L24] at E
    refine xr_iload 4 C rfl dX1_nest_24 ?_
    refine xr_if_le 86 C E dX1_nest_26 (by decide) (fun E => ?_) (fun E => ?_)
    · refine xr_aload_n 2 C rfl rfl dX1_nest_86 ?_
      exact xr_aret C Z E (Or.inl ⟨_, rfl⟩) dX1_nest_87
    · refine xr_iconst (0) C (by decide) dX1_nest_29 ?_
      refine xr_istore (L2 := [(5, .int (0 : Int32)), (0, va_rf a0), (1, va_rf a1), (2, va_rf a2), (3, .int a3), (4, .int a4)]) C rfl dX1_nest_30 (by decide) ?_
      refine xr_sub [1, 2, 3, 4, 5, 0] rfl ?_
      refine wk_X1_nest_L32 (a0 := a0) (a1 := a1) (a2 := a2) (a3 := a3) (a4 := a4) C Z (fun m13 h14 E => ?_) xk_fu (0 : Int32) h0 E
      · refine xr_aload_n 2 C rfl rfl dX1_nest_60 ?_
        refine xr_iload 4 C rfl dX1_nest_61 ?_
        refine xr_S [.int m13] [va_rf a2] (fun r => some (va_rf r)) (fun r => va_rf r :: [va_rf a2]) C E (fun r h' e => wk_J22_valueOf e) q930 q931 q105 q932 xh_java_lang_Integer xd_J22_valueOf (by decide) (by decide) ⟨xk_crf _, trivial⟩ (Nat.le_of_ble_eq_true rfl) rfl (fun _ => rfl) dX1_nest_63 (fun r15 h16 E => ?_)
        refine xr_V (v := a2) [va_rf r15] [] (fun r => some (.int (xk_b2 r))) (fun r => .int (xk_b2 r) :: []) C E xi_6_ArrayList (fun r h' e => wk_J2_add e) q857 q858 q859 q82 q860 xh_java_util_ArrayList xd_J2_add (by decide) (by decide) trivial (Nat.le_of_ble_eq_true rfl) rfl (fun _ => rfl) dX1_nest_66 (fun r17 h18 E => ?_)
        refine xr_pop C rfl dX1_nest_69 ?_
        refine xr_aload_n 0 C rfl rfl dX1_nest_70 ?_
        refine xr_iload 4 C rfl dX1_nest_71 ?_
        refine xr_V (v := a0) [.int m13] [] (fun r => some (va_rf r)) (fun r => va_rf r :: []) C E xi_1_SlatCratesYard (fun r h' e => wk_X1_at e) q921 q922 q923 q79 q924 xh_SlatCrates_Yard xd_X1_at (by decide) (by decide) trivial (Nat.le_of_ble_eq_true rfl) rfl (fun _ => rfl) dX1_nest_73 (fun r19 h20 E => ?_)
        refine xr_gI C E xf_X1_77 dX1_nest_76 (fun x21 E => ?_)
        refine xr_istore_n (L2 := [(3, .int x21), (0, va_rf a0), (1, va_rf a1), (2, va_rf a2), (4, .int a4), (5, .int m13)]) C rfl rfl dX1_nest_79 (by decide) ?_
        refine xr_iinc (v := (a4 + (-1 : Int32))) (L2 := [(4, .int (a4 + (-1 : Int32))), (3, .int x21), (0, va_rf a0), (1, va_rf a1), (2, va_rf a2), (5, .int m13)]) 4 C rfl (congrArg (HAdd.hAdd a4) (show Int32.ofInt (-1) = (-1 : Int32) by decide)) rfl dX1_nest_80 (by decide) ?_
        refine xr_goto 24 C dX1_nest_83 (by decide) ?_
        refine xr_sub [2, 3, 4, 1, 0] rfl ?_
        exact hkb24 x21 (a4 + (-1 : Int32)) h20 E
def mf_X1_nest (a0 : Option Nat) (h0 : xk_H) : Option (Option Nat × xk_H) :=
  xm_rc [1] a0 h0 <| xm_cl (mf_X1_lengths a0 h0) fun r1 h2 => xm_new 6 [.int 0, .null, .int 0] h2 fun b3 h4 => xm_cl (mf_J2_init b3 h4) fun r5 h6 => xm_rc [1] a0 h6 <| xm_cl (mf_X1_longest a0 r1 (60 : Int32) h6) fun r7 h8 => mf_X1_nest_L24 a0 r1 (some b3) xk_fu (60 : Int32) r7 h8
set_option maxHeartbeats 1000000 in
theorem wk_X1_nest {l : Launch} {D : va_G} {base : Nat} {a0 : Option Nat} {h0 : xk_H} {r : Option Nat} {h' : xk_H} (E : mf_X1_nest a0 h0 = some (r, h')) : xk_Ok l D base yX1_nest cX1_nest 6 (Option.some (FieldType.object "java/util/ArrayList")) 8 212 [va_rf a0] h0 (some (va_rf r)) h' := by
  refine xk_ofX RX1 "nest" xq_X1_nest rfl rfl (Nat.le_of_ble_eq_true rfl) ⟨xk_crf _, trivial⟩ (fun Γ el eD eb C Z => ?_)
  rw [mf_X1_nest] at E
  show xk_X Γ 0 [(0, va_rf a0)] [] h0
  refine xr_aload_n 0 C rfl rfl dX1_nest_0 ?_
  refine xr_V (v := a0) [] [] (fun r => some (va_rf r)) (fun r => va_rf r :: []) C E xi_1_SlatCratesYard (fun r h' e => wk_X1_lengths e) q1842 q1844 qs21 q79 q1845 xh_SlatCrates_Yard xd_X1_lengths (by decide) (by decide) trivial (Nat.le_of_ble_eq_true rfl) rfl (fun _ => rfl) dX1_nest_1 (fun r1 h2 E => ?_)
  refine xr_astore_n (L2 := [(1, va_rf r1), (0, va_rf a0)]) C rfl rfl dX1_nest_4 (by decide) ?_
  refine xr_new (t := 6) (C0 := "java/util/ArrayList") (n := 3) C E (by decide) xn_J2 (fun r hr => by cases hr; exact ⟨rfl, rfl⟩) q142 q143 q82 dX1_nest_5 (fun b3 h4 E => ?_)
  refine xr_dup C (xk_crf _) dX1_nest_8 ?_
  refine xr_I (b := b3) [] [va_rf (some b3)] (fun _ => none) (fun _ => [va_rf (some b3)]) C E (fun r h' e => wk_J2_init e) q144 q145 q82 q146 xh_java_util_ArrayList rfl xd_J2_init (by decide) (by decide) ⟨xk_crf _, trivial⟩ (Nat.le_of_ble_eq_true rfl) rfl (fun _ => rfl) dX1_nest_9 (fun r5 h6 E => ?_)
  refine xr_astore_n (L2 := [(2, va_rf (some b3)), (1, va_rf r1), (0, va_rf a0)]) C rfl rfl dX1_nest_12 (by decide) ?_
  refine xr_bipush (60) C (by decide) dX1_nest_13 ?_
  refine xr_istore_n (L2 := [(3, .int (60 : Int32)), (2, va_rf (some b3)), (1, va_rf r1), (0, va_rf a0)]) C rfl rfl dX1_nest_15 (by decide) ?_
  refine xr_aload_n 3 C rfl rfl dX1_nest_16 ?_
  refine xr_aload_n 2 C rfl rfl dX1_nest_17 ?_
  refine xr_iload_n 0 C rfl rfl dX1_nest_18 ?_
  refine xr_V (v := a0) [va_rf r1, .int (60 : Int32)] [] (fun r => some (.int r)) (fun r => .int r :: []) C E xi_1_SlatCratesYard (fun r h' e => wk_X1_longest e) q1850 q1852 qs22 q79 q1853 xh_SlatCrates_Yard xd_X1_longest (by decide) (by decide) trivial (Nat.le_of_ble_eq_true rfl) rfl (fun _ => rfl) dX1_nest_19 (fun r7 h8 E => ?_)
  refine xr_istore (L2 := [(4, .int r7), (3, .int (60 : Int32)), (2, va_rf (some b3)), (1, va_rf r1), (0, va_rf a0)]) C rfl dX1_nest_22 (by decide) ?_
  refine xr_sub [4, 3, 2, 1, 0] rfl ?_
  exact wk_X1_nest_L24 (a0 := a0) (a1 := r1) (a2 := (some b3)) C Z xk_fu (60 : Int32) r7 h8 E
def mf_X1_allEfforts_L4 (a0 : Option Nat) : Nat → Int32 → Int32 → xk_H → Option (Int32 × xk_H)
  | 0, _, _, _ => none
  | n + 1, a1, a2, h0 => xm_rc [1] a0 h0 <| xm_cl (mf_X1_size a0 h0) fun r1 h2 => if r1 ≤ a2 then (some (a1, h2)) else (xm_rc [1] a0 h2 <| xm_cl (mf_X1_effort a0 a2 h2) fun r3 h4 => mf_X1_allEfforts_L4 a0 n (a1 + r3) (a2 + 1) h4)
set_option maxHeartbeats 1000000 in
theorem wk_X1_allEfforts_L4 {Γ : xk_C} {r : Int32} {h' : xk_H} {a0 : Option Nat} (C : xk_Cx Γ RX1 cX1_allEfforts 3 (Option.some FieldType.int) "allEfforts" 9 231) (Z : xk_Z Γ (some (.int r)) h') : ∀ (n : Nat) (a1 : Int32) (a2 : Int32) (h0 : xk_H), mf_X1_allEfforts_L4 a0 n a1 a2 h0 = some (r, h') → xk_X Γ 4 [(0, va_rf a0), (1, .int a1), (2, .int a2)] [] h0 := by
  intro n
  induction n with
  | zero =>
    intro a1 a2 h0 E
    rw [mf_X1_allEfforts_L4] at E
    cases E
  | succ n ih =>
    intro a1 a2 h0 E
    have hkb4 : ∀ (m1 : Int32) (m2 : Int32) (g : xk_H), mf_X1_allEfforts_L4 a0 n m1 m2 g = some (r, h') → xk_X Γ 4 [(0, va_rf a0), (1, .int m1), (2, .int m2)] [] g := ih
    rw [mf_X1_allEfforts_L4] at E
    refine xr_iload_n 2 C rfl rfl dX1_allEfforts_4 ?_
    refine xr_aload_n 0 C rfl rfl dX1_allEfforts_5 ?_
    refine xr_V (v := a0) [] [.int a2] (fun r => some (.int r)) (fun r => .int r :: [.int a2]) C E xi_1_SlatCratesYard (fun r h' e => wk_X1_size e) q1242 q262 q263 q79 q264 xh_SlatCrates_Yard xd_X1_size (by decide) (by decide) ⟨rfl, trivial⟩ (Nat.le_of_ble_eq_true rfl) rfl (fun _ => rfl) dX1_allEfforts_6 (fun r1 h2 E => ?_)
    refine xr_icmp_ge 26 C E dX1_allEfforts_9 (by decide) (fun E => ?_) (fun E => ?_)
    · refine xr_iload_n 1 C rfl rfl dX1_allEfforts_26 ?_
      exact xr_iret C Z E dX1_allEfforts_27
    · refine xr_iload_n 1 C rfl rfl dX1_allEfforts_12 ?_
      refine xr_aload_n 0 C rfl rfl dX1_allEfforts_13 ?_
      refine xr_iload_n 2 C rfl rfl dX1_allEfforts_14 ?_
      refine xr_V (v := a0) [.int a2] [.int a1] (fun r => some (.int r)) (fun r => .int r :: [.int a1]) C E xi_1_SlatCratesYard (fun r h' e => wk_X1_effort e) q1815 q1246 q1247 q79 q1248 xh_SlatCrates_Yard xd_X1_effort (by decide) (by decide) ⟨rfl, trivial⟩ (Nat.le_of_ble_eq_true rfl) rfl (fun _ => rfl) dX1_allEfforts_15 (fun r3 h4 E => ?_)
      refine xr_iadd C dX1_allEfforts_18 ?_
      refine xr_istore_n (L2 := [(1, .int (a1 + r3)), (0, va_rf a0), (2, .int a2)]) C rfl rfl dX1_allEfforts_19 (by decide) ?_
      refine xr_iinc (v := (a2 + 1)) (L2 := [(2, .int (a2 + 1)), (1, .int (a1 + r3)), (0, va_rf a0)]) 2 C rfl rfl rfl dX1_allEfforts_20 (by decide) ?_
      refine xr_goto 4 C dX1_allEfforts_23 (by decide) ?_
      refine xr_sub [2, 1, 0] rfl ?_
      exact hkb4 (a1 + r3) (a2 + 1) h4 E
def mf_X1_allEfforts (a0 : Option Nat) (h0 : xk_H) : Option (Int32 × xk_H) :=
  mf_X1_allEfforts_L4 a0 xk_fu (0 : Int32) (0 : Int32) h0
set_option maxHeartbeats 1000000 in
theorem wk_X1_allEfforts {l : Launch} {D : va_G} {base : Nat} {a0 : Option Nat} {h0 : xk_H} {r : Int32} {h' : xk_H} (E : mf_X1_allEfforts a0 h0 = some (r, h')) : xk_Ok l D base yX1_allEfforts cX1_allEfforts 3 (Option.some FieldType.int) 9 231 [va_rf a0] h0 (some (.int r)) h' := by
  refine xk_ofX RX1 "allEfforts" xq_X1_allEfforts rfl rfl (Nat.le_of_ble_eq_true rfl) ⟨xk_crf _, trivial⟩ (fun Γ el eD eb C Z => ?_)
  rw [mf_X1_allEfforts] at E
  show xk_X Γ 0 [(0, va_rf a0)] [] h0
  refine xr_iconst (0) C (by decide) dX1_allEfforts_0 ?_
  refine xr_istore_n (L2 := [(1, .int (0 : Int32)), (0, va_rf a0)]) C rfl rfl dX1_allEfforts_1 (by decide) ?_
  refine xr_iconst (0) C (by decide) dX1_allEfforts_2 ?_
  refine xr_istore_n (L2 := [(2, .int (0 : Int32)), (1, .int (0 : Int32)), (0, va_rf a0)]) C rfl rfl dX1_allEfforts_3 (by decide) ?_
  refine xr_sub [2, 1, 0] rfl ?_
  exact wk_X1_allEfforts_L4 (a0 := a0) C Z xk_fu (0 : Int32) (0 : Int32) h0 E
def mf_X1_allLettersSeen_L4 (a0 : Option Nat) : Nat → Int32 → Int32 → xk_H → Option (Int32 × xk_H)
  | 0, _, _, _ => none
  | n + 1, a1, a2, h0 => xm_rc [1] a0 h0 <| xm_cl (mf_X1_size a0 h0) fun r1 h2 => if r1 ≤ a2 then (some (a1, h2)) else (xm_rc [1] a0 h2 <| xm_cl (mf_X1_lettersSeen a0 a2 h2) fun r3 h4 => mf_X1_allLettersSeen_L4 a0 n (a1 + r3) (a2 + 1) h4)
set_option maxHeartbeats 1000000 in
theorem wk_X1_allLettersSeen_L4 {Γ : xk_C} {r : Int32} {h' : xk_H} {a0 : Option Nat} (C : xk_Cx Γ RX1 cX1_allLettersSeen 3 (Option.some FieldType.int) "allLettersSeen" 7 192) (Z : xk_Z Γ (some (.int r)) h') : ∀ (n : Nat) (a1 : Int32) (a2 : Int32) (h0 : xk_H), mf_X1_allLettersSeen_L4 a0 n a1 a2 h0 = some (r, h') → xk_X Γ 4 [(0, va_rf a0), (1, .int a1), (2, .int a2)] [] h0 := by
  intro n
  induction n with
  | zero =>
    intro a1 a2 h0 E
    rw [mf_X1_allLettersSeen_L4] at E
    cases E
  | succ n ih =>
    intro a1 a2 h0 E
    have hkb4 : ∀ (m1 : Int32) (m2 : Int32) (g : xk_H), mf_X1_allLettersSeen_L4 a0 n m1 m2 g = some (r, h') → xk_X Γ 4 [(0, va_rf a0), (1, .int m1), (2, .int m2)] [] g := ih
    rw [mf_X1_allLettersSeen_L4] at E
    refine xr_iload_n 2 C rfl rfl dX1_allLettersSeen_4 ?_
    refine xr_aload_n 0 C rfl rfl dX1_allLettersSeen_5 ?_
    refine xr_V (v := a0) [] [.int a2] (fun r => some (.int r)) (fun r => .int r :: [.int a2]) C E xi_1_SlatCratesYard (fun r h' e => wk_X1_size e) q1242 q262 q263 q79 q264 xh_SlatCrates_Yard xd_X1_size (by decide) (by decide) ⟨rfl, trivial⟩ (Nat.le_of_ble_eq_true rfl) rfl (fun _ => rfl) dX1_allLettersSeen_6 (fun r1 h2 E => ?_)
    refine xr_icmp_ge 26 C E dX1_allLettersSeen_9 (by decide) (fun E => ?_) (fun E => ?_)
    · refine xr_iload_n 1 C rfl rfl dX1_allLettersSeen_26 ?_
      exact xr_iret C Z E dX1_allLettersSeen_27
    · refine xr_iload_n 1 C rfl rfl dX1_allLettersSeen_12 ?_
      refine xr_aload_n 0 C rfl rfl dX1_allLettersSeen_13 ?_
      refine xr_iload_n 2 C rfl rfl dX1_allLettersSeen_14 ?_
      refine xr_V (v := a0) [.int a2] [.int a1] (fun r => some (.int r)) (fun r => .int r :: [.int a1]) C E xi_1_SlatCratesYard (fun r h' e => wk_X1_lettersSeen e) q2053 q1780 q1781 q79 q1782 xh_SlatCrates_Yard xd_X1_lettersSeen (by decide) (by decide) ⟨rfl, trivial⟩ (Nat.le_of_ble_eq_true rfl) rfl (fun _ => rfl) dX1_allLettersSeen_15 (fun r3 h4 E => ?_)
      refine xr_iadd C dX1_allLettersSeen_18 ?_
      refine xr_istore_n (L2 := [(1, .int (a1 + r3)), (0, va_rf a0), (2, .int a2)]) C rfl rfl dX1_allLettersSeen_19 (by decide) ?_
      refine xr_iinc (v := (a2 + 1)) (L2 := [(2, .int (a2 + 1)), (1, .int (a1 + r3)), (0, va_rf a0)]) 2 C rfl rfl rfl dX1_allLettersSeen_20 (by decide) ?_
      refine xr_goto 4 C dX1_allLettersSeen_23 (by decide) ?_
      refine xr_sub [2, 1, 0] rfl ?_
      exact hkb4 (a1 + r3) (a2 + 1) h4 E
def mf_X1_allLettersSeen (a0 : Option Nat) (h0 : xk_H) : Option (Int32 × xk_H) :=
  mf_X1_allLettersSeen_L4 a0 xk_fu (0 : Int32) (0 : Int32) h0
set_option maxHeartbeats 1000000 in
theorem wk_X1_allLettersSeen {l : Launch} {D : va_G} {base : Nat} {a0 : Option Nat} {h0 : xk_H} {r : Int32} {h' : xk_H} (E : mf_X1_allLettersSeen a0 h0 = some (r, h')) : xk_Ok l D base yX1_allLettersSeen cX1_allLettersSeen 3 (Option.some FieldType.int) 7 192 [va_rf a0] h0 (some (.int r)) h' := by
  refine xk_ofX RX1 "allLettersSeen" xq_X1_allLettersSeen rfl rfl (Nat.le_of_ble_eq_true rfl) ⟨xk_crf _, trivial⟩ (fun Γ el eD eb C Z => ?_)
  rw [mf_X1_allLettersSeen] at E
  show xk_X Γ 0 [(0, va_rf a0)] [] h0
  refine xr_iconst (0) C (by decide) dX1_allLettersSeen_0 ?_
  refine xr_istore_n (L2 := [(1, .int (0 : Int32)), (0, va_rf a0)]) C rfl rfl dX1_allLettersSeen_1 (by decide) ?_
  refine xr_iconst (0) C (by decide) dX1_allLettersSeen_2 ?_
  refine xr_istore_n (L2 := [(2, .int (0 : Int32)), (1, .int (0 : Int32)), (0, va_rf a0)]) C rfl rfl dX1_allLettersSeen_3 (by decide) ?_
  refine xr_sub [2, 1, 0] rfl ?_
  exact wk_X1_allLettersSeen_L4 (a0 := a0) C Z xk_fu (0 : Int32) (0 : Int32) h0 E
def mf_X1_differentRows_L10 (kx37 : xk_H → Option (Int32 × xk_H)) (a0 : Option Nat) (a1 : Option Nat) : Nat → Int32 → xk_H → Option (Int32 × xk_H)
  | 0, _, _ => none
  | n + 1, a2, h0 => xm_rc [1] a0 h0 <| xm_cl (mf_X1_size a0 h0) fun r5 h6 => if r5 ≤ a2 then (kx37 h6) else (xm_rc [1] a0 h6 <| xm_cl (mf_X1_seen a0 a2 h6) fun r7 h8 => xm_rc [5] r7 h8 <| xm_cl (mf_X5_bare r7 h8) fun r9 h10 => xm_rc [17] a1 h10 <| xm_cl (mf_J39_add a1 r9 h10) fun r11 h12 => mf_X1_differentRows_L10 kx37 a0 a1 n (a2 + 1) h12)
set_option maxHeartbeats 1000000 in
theorem wk_X1_differentRows_L10 {Γ : xk_C} {r : Int32} {h' : xk_H} {kx37 : xk_H → Option (Int32 × xk_H)} {a0 : Option Nat} {a1 : Option Nat} (C : xk_Cx Γ RX1 cX1_differentRows 3 (Option.some FieldType.int) "differentRows" 9 266) (Z : xk_Z Γ (some (.int r)) h') (hkx37 : ∀ (g : xk_H), kx37 g = some (r, h') → xk_X Γ 37 [(1, va_rf a1)] [] g) : ∀ (n : Nat) (a2 : Int32) (h0 : xk_H), mf_X1_differentRows_L10 kx37 a0 a1 n a2 h0 = some (r, h') → xk_X Γ 10 [(0, va_rf a0), (1, va_rf a1), (2, .int a2)] [] h0 := by
  intro n
  induction n with
  | zero =>
    intro a2 h0 E
    rw [mf_X1_differentRows_L10] at E
    cases E
  | succ n ih =>
    intro a2 h0 E
    have hkb10 : ∀ (m2 : Int32) (g : xk_H), mf_X1_differentRows_L10 kx37 a0 a1 n m2 g = some (r, h') → xk_X Γ 10 [(0, va_rf a0), (1, va_rf a1), (2, .int m2)] [] g := ih
    rw [mf_X1_differentRows_L10] at E
    refine xr_iload_n 2 C rfl rfl dX1_differentRows_10 ?_
    refine xr_aload_n 0 C rfl rfl dX1_differentRows_11 ?_
    refine xr_V (v := a0) [] [.int a2] (fun r => some (.int r)) (fun r => .int r :: [.int a2]) C E xi_1_SlatCratesYard (fun r h' e => wk_X1_size e) q1242 q262 q263 q79 q264 xh_SlatCrates_Yard xd_X1_size (by decide) (by decide) ⟨rfl, trivial⟩ (Nat.le_of_ble_eq_true rfl) rfl (fun _ => rfl) dX1_differentRows_12 (fun r5 h6 E => ?_)
    refine xr_icmp_ge 37 C E dX1_differentRows_15 (by decide) (fun E => ?_) (fun E => ?_)
    · refine xr_sub [1] rfl ?_
      exact hkx37 h6 E
    · refine xr_aload_n 1 C rfl rfl dX1_differentRows_18 ?_
      refine xr_aload_n 0 C rfl rfl dX1_differentRows_19 ?_
      refine xr_iload_n 2 C rfl rfl dX1_differentRows_20 ?_
      refine xr_V (v := a0) [.int a2] [va_rf a1] (fun r => some (va_rf r)) (fun r => va_rf r :: [va_rf a1]) C E xi_1_SlatCratesYard (fun r h' e => wk_X1_seen e) q1298 q1299 q1300 q79 q1301 xh_SlatCrates_Yard xd_X1_seen (by decide) (by decide) ⟨xk_crf _, trivial⟩ (Nat.le_of_ble_eq_true rfl) rfl (fun _ => rfl) dX1_differentRows_21 (fun r7 h8 E => ?_)
      refine xr_V (v := r7) [] [va_rf a1] (fun r => some (va_rf r)) (fun r => va_rf r :: [va_rf a1]) C E xi_5_SlatCratesSeen (fun r h' e => wk_X5_bare e) q2070 q2071 q2072 q110 q2073 xh_SlatCrates_Seen xd_X5_bare (by decide) (by decide) ⟨xk_crf _, trivial⟩ (Nat.le_of_ble_eq_true rfl) rfl (fun _ => rfl) dX1_differentRows_24 (fun r9 h10 E => ?_)
      refine xr_V (v := a1) [va_rf r9] [] (fun r => some (.int (xk_b2 r))) (fun r => .int (xk_b2 r) :: []) C E xi_17_HashSet (fun r h' e => wk_J39_add e) q2075 q2076 q2077 q127 q2078 xh_java_util_HashSet xd_J39_add (by decide) (by decide) trivial (Nat.le_of_ble_eq_true rfl) rfl (fun _ => rfl) dX1_differentRows_27 (fun r11 h12 E => ?_)
      refine xr_pop C rfl dX1_differentRows_30 ?_
      refine xr_iinc (v := (a2 + 1)) (L2 := [(2, .int (a2 + 1)), (0, va_rf a0), (1, va_rf a1)]) 2 C rfl rfl rfl dX1_differentRows_31 (by decide) ?_
      refine xr_goto 10 C dX1_differentRows_34 (by decide) ?_
      refine xr_sub [1, 2, 0] rfl ?_
      exact hkb10 (a2 + 1) h12 E
def mf_X1_differentRows (a0 : Option Nat) (h0 : xk_H) : Option (Int32 × xk_H) :=
  xm_new 17 [.null] h0 fun b1 h2 => xm_cl (mf_J39_init b1 h2) fun r3 h4 => mf_X1_differentRows_L10 (fun h13 => xm_rc [17] (some b1) h13 <| xm_cl (mf_J39_size (some b1) h13) fun r14 h15 => some (r14, h15)) a0 (some b1) xk_fu (0 : Int32) h4
set_option maxHeartbeats 1000000 in
theorem wk_X1_differentRows {l : Launch} {D : va_G} {base : Nat} {a0 : Option Nat} {h0 : xk_H} {r : Int32} {h' : xk_H} (E : mf_X1_differentRows a0 h0 = some (r, h')) : xk_Ok l D base yX1_differentRows cX1_differentRows 3 (Option.some FieldType.int) 9 266 [va_rf a0] h0 (some (.int r)) h' := by
  refine xk_ofX RX1 "differentRows" xq_X1_differentRows rfl rfl (Nat.le_of_ble_eq_true rfl) ⟨xk_crf _, trivial⟩ (fun Γ el eD eb C Z => ?_)
  rw [mf_X1_differentRows] at E
  show xk_X Γ 0 [(0, va_rf a0)] [] h0
  refine xr_new (t := 17) (C0 := "java/util/HashSet") (n := 1) C E (by decide) xn_J39 (fun r hr => by cases hr; exact ⟨rfl, rfl⟩) q2058 q2059 q127 dX1_differentRows_0 (fun b1 h2 E => ?_)
  refine xr_dup C (xk_crf _) dX1_differentRows_3 ?_
  refine xr_I (b := b1) [] [va_rf (some b1)] (fun _ => none) (fun _ => [va_rf (some b1)]) C E (fun r h' e => wk_J39_init e) q2060 q2061 q127 q2062 xh_java_util_HashSet rfl xd_J39_init (by decide) (by decide) ⟨xk_crf _, trivial⟩ (Nat.le_of_ble_eq_true rfl) rfl (fun _ => rfl) dX1_differentRows_4 (fun r3 h4 E => ?_)
  refine xr_astore_n (L2 := [(1, va_rf (some b1)), (0, va_rf a0)]) C rfl rfl dX1_differentRows_7 (by decide) ?_
  refine xr_iconst (0) C (by decide) dX1_differentRows_8 ?_
  refine xr_istore_n (L2 := [(2, .int (0 : Int32)), (1, va_rf (some b1)), (0, va_rf a0)]) C rfl rfl dX1_differentRows_9 (by decide) ?_
  refine xr_sub [2, 1, 0] rfl ?_
  refine wk_X1_differentRows_L10 (a0 := a0) (a1 := (some b1)) C Z (fun h13 E => ?_) xk_fu (0 : Int32) h4 E
  · refine xr_aload_n 0 C rfl rfl dX1_differentRows_37 ?_
    refine xr_V (v := (some b1)) [] [] (fun r => some (.int r)) (fun r => .int r :: []) C E xi_17_HashSet (fun r h' e => wk_J39_size e) q2082 q2083 q2084 q127 q2085 xh_java_util_HashSet xd_J39_size (by decide) (by decide) trivial (Nat.le_of_ble_eq_true rfl) rfl (fun _ => rfl) dX1_differentRows_38 (fun r14 h15 E => ?_)
    exact xr_iret C Z E dX1_differentRows_41
def mf_X1_told_L15 (a2 : Option Nat) : Nat → Int32 → xk_H → Option (Int32 × xk_H)
  | 0, _, _ => none
  | n + 1, a1, h0 => xm_rc [16] a2 h0 <| xm_cl (mf_J31_hasNext a2 h0) fun r7 h8 => if xk_b2 r7 = 0 then (some (a1, h8)) else (xm_rc [16] a2 h8 <| xm_cl (mf_J33_next a2 h8) fun r9 h10 => xm_cast [211] r9 h10 <| xm_rc [211] r9 h10 <| xm_cl (mf_J22_intValue r9 h10) fun r11 h12 => if r11 = (1 : Int32) then (mf_X1_told_L15 a2 n (a1 + (1 : Int32)) h12) else (mf_X1_told_L15 a2 n (a1 + (0 : Int32)) h12))
set_option maxHeartbeats 1000000 in
theorem wk_X1_told_L15 {Γ : xk_C} {r : Int32} {h' : xk_H} {a2 : Option Nat} (C : xk_Cx Γ RX1 cX1_told 4 (Option.some FieldType.int) "told" 9 269) (Z : xk_Z Γ (some (.int r)) h') : ∀ (n : Nat) (a1 : Int32) (h0 : xk_H), mf_X1_told_L15 a2 n a1 h0 = some (r, h') → xk_X Γ 15 [(1, .int a1), (2, va_rf a2)] [] h0 := by
  intro n
  induction n with
  | zero =>
    intro a1 h0 E
    rw [mf_X1_told_L15] at E
    cases E
  | succ n ih =>
    intro a1 h0 E
    have hkb15 : ∀ (m1 : Int32) (g : xk_H), mf_X1_told_L15 a2 n m1 g = some (r, h') → xk_X Γ 15 [(1, .int m1), (2, va_rf a2)] [] g := ih
    rw [mf_X1_told_L15] at E
    refine xr_aload_n 1 C rfl rfl dX1_told_15 ?_
    refine xr_F (v := a2) [] [] (fun r => some (.int (xk_b2 r))) (fun r => .int (xk_b2 r) :: []) C E xi_16_HashMapValueIterator (fun r h' e => wk_J31_hasNext e) q318 (List.mem_of_getElem? (i := 2) rfl) q344 q348 q118 q346 xh_java_util_Iterator xd_java_util_Iterator_hasNext__Z (by decide) (by decide) trivial (Nat.le_of_ble_eq_true rfl) rfl (fun _ => rfl) dX1_told_16 (fun r7 h8 E => ?_)
    refine xr_if_eq 53 C E dX1_told_21 (by decide) (fun E => ?_) (fun E => ?_)
    · refine xr_iload_n 0 C rfl rfl dX1_told_53 ?_
      exact xr_iret C Z E dX1_told_54
    · refine xr_aload_n 1 C rfl rfl dX1_told_24 ?_
      refine xr_F (v := a2) [] [] (fun r => some (va_rf r)) (fun r => va_rf r :: []) C E xi_16_HashMapValueIterator (fun r h' e => wk_J33_next e) q357 (List.mem_of_getElem? (i := 3) rfl) q722 q720 q120 q724 xh_java_util_Iterator xd_java_util_Iterator_next__Ljava_lang_Object_ (by decide) (by decide) trivial (Nat.le_of_ble_eq_true rfl) rfl (fun _ => rfl) dX1_told_25 (fun r9 h10 E => ?_)
      refine xr_cast C E xi_211_Integer q997 dX1_told_30 (fun E => ?_)
      refine xr_V (v := r9) [] [] (fun r => some (.int r)) (fun r => .int r :: []) C E xi_211_Integer (fun r h' e => wk_J22_intValue e) q998 q975 q976 q105 q977 xh_java_lang_Integer xd_J22_intValue (by decide) (by decide) trivial (Nat.le_of_ble_eq_true rfl) rfl (fun _ => rfl) dX1_told_33 (fun r11 h12 E => ?_)
      refine xr_istore_n (L2 := [(3, .int r11), (1, .int a1), (2, va_rf a2)]) C rfl rfl dX1_told_36 (by decide) ?_
      refine xr_iload_n 1 C rfl rfl dX1_told_37 ?_
      refine xr_iload_n 0 C rfl rfl dX1_told_38 ?_
      refine xr_iconst (1) C (by decide) dX1_told_39 ?_
      refine xr_icmp_ne 47 C E dX1_told_40 (by decide) (fun E => ?_) (fun E => ?_)
      · refine xr_iconst (0) C (by decide) dX1_told_47 ?_
        refine xr_iadd C dX1_told_48 ?_
        refine xr_istore_n (L2 := [(1, .int (a1 + (0 : Int32))), (3, .int r11), (2, va_rf a2)]) C rfl rfl dX1_told_49 (by decide) ?_
        refine xr_goto 15 C dX1_told_50 (by decide) ?_
        refine xr_sub [0, 2] rfl ?_
        exact hkb15 (a1 + (0 : Int32)) h12 E
      · refine xr_iconst (1) C (by decide) dX1_told_43 ?_
        refine xr_goto 48 C dX1_told_44 (by decide) ?_
        refine xr_iadd C dX1_told_48 ?_
        refine xr_istore_n (L2 := [(1, .int (a1 + (1 : Int32))), (3, .int r11), (2, va_rf a2)]) C rfl rfl dX1_told_49 (by decide) ?_
        refine xr_goto 15 C dX1_told_50 (by decide) ?_
        refine xr_sub [0, 2] rfl ?_
        exact hkb15 (a1 + (1 : Int32)) h12 E
def mf_X1_told (a0 : Option Nat) (h0 : xk_H) : Option (Int32 × xk_H) :=
  xm_rc [1] a0 h0 <| xm_cl (mf_X1_looks a0 h0) fun r1 h2 => xm_rc [12] r1 h2 <| xm_cl (mf_J24_values r1 h2) fun r3 h4 => xm_rc [15] r3 h4 <| xm_cl (mf_J30_iterator r3 h4) fun r5 h6 => mf_X1_told_L15 r5 xk_fu (0 : Int32) h6
set_option maxHeartbeats 1000000 in
theorem wk_X1_told {l : Launch} {D : va_G} {base : Nat} {a0 : Option Nat} {h0 : xk_H} {r : Int32} {h' : xk_H} (E : mf_X1_told a0 h0 = some (r, h')) : xk_Ok l D base yX1_told cX1_told 4 (Option.some FieldType.int) 9 269 [va_rf a0] h0 (some (.int r)) h' := by
  refine xk_ofX RX1 "told" xq_X1_told rfl rfl (Nat.le_of_ble_eq_true rfl) ⟨xk_crf _, trivial⟩ (fun Γ el eD eb C Z => ?_)
  rw [mf_X1_told] at E
  show xk_X Γ 0 [(0, va_rf a0)] [] h0
  refine xr_iconst (0) C (by decide) dX1_told_0 ?_
  refine xr_istore_n (L2 := [(1, .int (0 : Int32)), (0, va_rf a0)]) C rfl rfl dX1_told_1 (by decide) ?_
  refine xr_aload_n 1 C rfl rfl dX1_told_2 ?_
  refine xr_V (v := a0) [] [] (fun r => some (va_rf r)) (fun r => va_rf r :: []) C E xi_1_SlatCratesYard (fun r h' e => wk_X1_looks e) q1253 q1255 qs17 q79 q1256 xh_SlatCrates_Yard xd_X1_looks (by decide) (by decide) trivial (Nat.le_of_ble_eq_true rfl) rfl (fun _ => rfl) dX1_told_3 (fun r1 h2 E => ?_)
  refine xr_V (v := r1) [] [] (fun r => some (va_rf r)) (fun r => va_rf r :: []) C E xi_12_HashMap (fun r h' e => wk_J24_values e) q1881 q1882 q1883 q109 q1884 xh_java_util_HashMap xd_J24_values (by decide) (by decide) trivial (Nat.le_of_ble_eq_true rfl) rfl (fun _ => rfl) dX1_told_6 (fun r3 h4 E => ?_)
  refine xr_F (v := r3) [] [] (fun r => some (va_rf r)) (fun r => va_rf r :: []) C E xi_15_HashMapValues (fun r h' e => wk_J30_iterator e) q1896 (List.mem_of_getElem? (i := 5) rfl) q1934 q1932 q117 q1936 xh_java_util_Collection xd_java_util_Collection_iterator__Ljava_util_Iterator_ (by decide) (by decide) trivial (Nat.le_of_ble_eq_true rfl) rfl (fun _ => rfl) dX1_told_9 (fun r5 h6 E => ?_)
  refine xr_astore_n (L2 := [(2, va_rf r5), (1, .int (0 : Int32)), (0, va_rf a0)]) C rfl rfl dX1_told_14 (by decide) ?_
  refine xr_sub [1, 0] rfl ?_
  exact wk_X1_told_L15 (a2 := r5) C Z xk_fu (0 : Int32) h6 E
