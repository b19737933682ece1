set_option maxRecDepth 100000
theorem xf_X0_10 : xk_Fos "SlatCrates" 10 [0] 0 := List.forall_mem_cons.mpr ⟨⟨Or.inl (by decide), (RX0, TX0, 4), "SlatCrates", rfl, by decide, Or.inl q238, Or.inl rfl⟩, fun _ h => absurd h List.not_mem_nil⟩
theorem xp_X0_10_i : xk_Fp "SlatCrates" "<init>" [0] 0 (.object "SlatCrates$Yard") := List.forall_mem_cons.mpr ⟨⟨by decide, fun r h => by cases h; exact ⟨tyX0_ok 0 (by decide), Or.inl rfl⟩⟩, fun _ h => absurd h List.not_mem_nil⟩
theorem xn_J4 : xk_Nf 7 [.int 0, .int 0, .null, .null] := ⟨(RJ4, TJ4, 4), tyJ4, rfl, rfl, fun k hk => by
    match k, hk with
    | 0, _ => exact ⟨tyJ4_ok 0 (by decide), rfl⟩
    | 1, _ => exact ⟨tyJ4_ok 1 (by decide), rfl⟩
    | 2, _ => exact ⟨tyJ4_ok 2 (by decide), rfl⟩
    | 3, _ => exact ⟨tyJ4_ok 3 (by decide), rfl⟩
    | j + 4, hk => exact absurd hk (by show ¬ j + 4 < 4; omega)⟩
theorem xd_J4_init : (parseMethodDescriptor "()V").map (fun d => d.parameters.length) = some 0 := by decide +kernel
theorem xf_X0_19 : xk_Fos "SlatCrates" 19 [0] 1 := List.forall_mem_cons.mpr ⟨⟨Or.inl (by decide), (RX0, TX0, 4), "SlatCrates", rfl, by decide, Or.inl q239, Or.inl rfl⟩, fun _ h => absurd h List.not_mem_nil⟩
theorem xp_X0_19_i : xk_Fp "SlatCrates" "<init>" [0] 1 (.object "java/util/LinkedList") := List.forall_mem_cons.mpr ⟨⟨by decide, fun r h => by cases h; exact ⟨tyX0_ok 1 (by decide), Or.inr ⟨rfl, rfl, rfl⟩⟩⟩, fun _ h => absurd h List.not_mem_nil⟩
theorem xn_J6 : xk_Nf 8 [.null, .int 0, .int 0, .int 0] := ⟨(RJ6, TJ6, 4), tyJ6, rfl, rfl, fun k hk => by
    match k, hk with
    | 0, _ => exact ⟨tyJ6_ok 0 (by decide), rfl⟩
    | 1, _ => exact ⟨tyJ6_ok 1 (by decide), rfl⟩
    | 2, _ => exact ⟨tyJ6_ok 2 (by decide), rfl⟩
    | 3, _ => exact ⟨tyJ6_ok 3 (by decide), rfl⟩
    | j + 4, hk => exact absurd hk (by show ¬ j + 4 < 4; omega)⟩
theorem xd_J6_init : (parseMethodDescriptor "()V").map (fun d => d.parameters.length) = some 0 := by decide +kernel
theorem xf_X0_26 : xk_Fos "SlatCrates" 26 [0] 3 := List.forall_mem_cons.mpr ⟨⟨Or.inl (by decide), (RX0, TX0, 4), "SlatCrates", rfl, by decide, Or.inl q241, Or.inl rfl⟩, fun _ h => absurd h List.not_mem_nil⟩
theorem xp_X0_26_i : xk_Fp "SlatCrates" "<init>" [0] 3 (.object "java/lang/StringBuilder") := List.forall_mem_cons.mpr ⟨⟨by decide, fun r h => by cases h; exact ⟨tyX0_ok 3 (by decide), Or.inr ⟨rfl, rfl, rfl⟩⟩⟩, fun _ h => absurd h List.not_mem_nil⟩
theorem xq_X0_init : plainFor yX0_init = true := by decide +kernel
theorem xq_X0_inRange : plainFor yX0_inRange = true := by decide +kernel
theorem xq_X0_labelOf : plainFor yX0_labelOf = true := by decide +kernel
theorem xd_J4_size : (parseMethodDescriptor "()I").map (fun d => d.parameters.length) = some 0 := by decide +kernel
theorem xd_X1_copy : (parseMethodDescriptor "()LSlatCrates$Yard;").map (fun d => d.parameters.length) = some 0 := by decide +kernel
theorem xd_J4_addLast : (parseMethodDescriptor "(Ljava/lang/Object;)V").map (fun d => d.parameters.length) = some 1 := by decide +kernel
theorem xd_J4_removeFirst : (parseMethodDescriptor "()Ljava/lang/Object;").map (fun d => d.parameters.length) = some 0 := by decide +kernel
theorem xq_X0_records : plainFor yX0_records = true := by decide +kernel
theorem xf_X0_58 : xk_Fos "SlatCrates" 58 [1] 0 := List.forall_mem_cons.mpr ⟨⟨Or.inl (by decide), (RX1, TX1, 2), "SlatCrates$Yard", rfl, by decide, Or.inr ⟨_, List.mem_of_getElem? (i := 1) rfl⟩, Or.inl rfl⟩, fun _ h => absurd h List.not_mem_nil⟩
theorem xd_X0_labelOf : (parseMethodDescriptor "(I)[I").map (fun d => d.parameters.length) = some 1 := by decide +kernel
theorem xh_SlatCrates : xk_noMH "SlatCrates" := by decide +kernel
theorem xd_X0_inRange : (parseMethodDescriptor "(III)Z").map (fun d => d.parameters.length) = some 3 := by decide +kernel
theorem xd_X0_records : (parseMethodDescriptor "()V").map (fun d => d.parameters.length) = some 0 := by decide +kernel
theorem xi_0_SlatCrates : xk_Is [0] "SlatCrates" := List.forall_mem_cons.mpr ⟨⟨Or.inl (by decide), (RX0, TX0, 4), rfl, rfl⟩, fun _ h => absurd h List.not_mem_nil⟩
theorem xq_X0_make : plainFor yX0_make = true := by decide +kernel
theorem xq_X0_isCrate : plainFor yX0_isCrate = true := by decide +kernel
theorem xf_X0_73 : xk_Fos "SlatCrates" 73 [1] 1 := List.forall_mem_cons.mpr ⟨⟨Or.inl (by decide), (RX1, TX1, 2), "SlatCrates$Yard", rfl, by decide, Or.inr ⟨_, List.mem_of_getElem? (i := 2) rfl⟩, Or.inl rfl⟩, fun _ h => absurd h List.not_mem_nil⟩
theorem xp_X0_73 {nm : String} : xk_Fp "SlatCrates" nm [1] 1 .int := List.forall_mem_cons.mpr ⟨⟨by decide, fun r h => by cases h; exact ⟨tyX1_ok 1 (by decide), Or.inl rfl⟩⟩, fun _ h => absurd h List.not_mem_nil⟩
theorem xq_X0_refuses : plainFor yX0_refuses = true := by decide +kernel
theorem xd_X0_isCrate : (parseMethodDescriptor "(I)Z").map (fun d => d.parameters.length) = some 1 := by decide +kernel
theorem xd_X1_whyNotPut : (parseMethodDescriptor "(II)I").map (fun d => d.parameters.length) = some 2 := by decide +kernel
theorem xd_X1_puts : (parseMethodDescriptor "(II)V").map (fun d => d.parameters.length) = some 2 := by decide +kernel
theorem xd_X0_refuses : (parseMethodDescriptor "(I)I").map (fun d => d.parameters.length) = some 1 := by decide +kernel
theorem xq_X0_put : plainFor yX0_put = true := by decide +kernel
theorem xd_X1_whyNotGround : (parseMethodDescriptor "(I)I").map (fun d => d.parameters.length) = some 1 := by decide +kernel
theorem xq_X0_ground : plainFor yX0_ground = true := by decide +kernel
theorem xf_X0_110 : xk_Fos "SlatCrates" 110 [3] 2 := List.forall_mem_cons.mpr ⟨⟨Or.inl (by decide), (RX3, TX3, 6), "SlatCrates$Crate", rfl, by decide, Or.inr ⟨_, List.mem_of_getElem? (i := 7) rfl⟩, Or.inl rfl⟩, fun _ h => absurd h List.not_mem_nil⟩
theorem xd_X3_turns : (parseMethodDescriptor "()V").map (fun d => d.parameters.length) = some 0 := by decide +kernel
theorem xq_X0_turn : plainFor yX0_turn = true := by decide +kernel
theorem xd_X1_whyNotBreak : (parseMethodDescriptor "(I)I").map (fun d => d.parameters.length) = some 1 := by decide +kernel
theorem xd_X1_breaksUp : (parseMethodDescriptor "(I)V").map (fun d => d.parameters.length) = some 1 := by decide +kernel
theorem xq_X0_breakUp : plainFor yX0_breakUp = true := by decide +kernel
theorem xd_J6_length : (parseMethodDescriptor "()I").map (fun d => d.parameters.length) = some 0 := by decide +kernel
theorem xq_X0_append : plainFor yX0_append = true := by decide +kernel
theorem xd_J6_setLength : (parseMethodDescriptor "(I)V").map (fun d => d.parameters.length) = some 1 := by decide +kernel
theorem xq_X0_clear : plainFor yX0_clear = true := by decide +kernel
theorem xf_X4_26 : xk_Fos "SlatCrates$Reader" 26 [4] 2 := List.forall_mem_cons.mpr ⟨⟨Or.inl (by decide), (RX4, TX4, 5), "SlatCrates$Reader", rfl, by decide, Or.inl q1124, Or.inl rfl⟩, fun _ h => absurd h List.not_mem_nil⟩
theorem xf_X4_30 : xk_Fos "SlatCrates$Reader" 30 [4] 1 := List.forall_mem_cons.mpr ⟨⟨Or.inl (by decide), (RX4, TX4, 5), "SlatCrates$Reader", rfl, by decide, Or.inl q1123, Or.inl rfl⟩, fun _ h => absurd h List.not_mem_nil⟩
theorem xf_X4_18 : xk_Fos "SlatCrates$Reader" 18 [4] 0 := List.forall_mem_cons.mpr ⟨⟨Or.inl (by decide), (RX4, TX4, 5), "SlatCrates$Reader", rfl, by decide, Or.inl q1122, Or.inl rfl⟩, fun _ h => absurd h List.not_mem_nil⟩
theorem xd_J6_charAt : (parseMethodDescriptor "(I)C").map (fun d => d.parameters.length) = some 1 := by decide +kernel
theorem xq_X4_isNow : plainFor yX4_isNow = true := by decide +kernel
theorem xd_X4_isNow : (parseMethodDescriptor "(II)Z").map (fun d => d.parameters.length) = some 2 := by decide +kernel
theorem xi_4_SlatCratesReader : xk_Is [4] "SlatCrates$Reader" := List.forall_mem_cons.mpr ⟨⟨Or.inl (by decide), (RX4, TX4, 5), rfl, rfl⟩, fun _ h => absurd h List.not_mem_nil⟩
theorem xh_SlatCrates_Reader : xk_noMH "SlatCrates$Reader" := by decide +kernel
theorem xp_X4_30 {nm : String} : xk_Fp "SlatCrates$Reader" nm [4] 1 .int := List.forall_mem_cons.mpr ⟨⟨by decide, fun r h => by cases h; exact ⟨tyX4_ok 1 (by decide), Or.inl rfl⟩⟩, fun _ h => absurd h List.not_mem_nil⟩
theorem xp_X4_26 {nm : String} : xk_Fp "SlatCrates$Reader" nm [4] 2 .boolean := List.forall_mem_cons.mpr ⟨⟨by decide, fun r h => by cases h; exact ⟨tyX4_ok 2 (by decide), Or.inl rfl⟩⟩, fun _ h => absurd h List.not_mem_nil⟩
theorem xq_X4_label : plainFor yX4_label = true := by decide +kernel
theorem xq_X4_number : plainFor yX4_number = true := by decide +kernel
theorem xq_X4_sign : plainFor yX4_sign = true := by decide +kernel
theorem xf_X4_22 : xk_Fos "SlatCrates$Reader" 22 [4] 4 := List.forall_mem_cons.mpr ⟨⟨Or.inl (by decide), (RX4, TX4, 5), "SlatCrates$Reader", rfl, by decide, Or.inl q1127, Or.inl rfl⟩, fun _ h => absurd h List.not_mem_nil⟩
theorem xf_X4_12 : xk_Fos "SlatCrates$Reader" 12 [4] 3 := List.forall_mem_cons.mpr ⟨⟨Or.inl (by decide), (RX4, TX4, 5), "SlatCrates$Reader", rfl, by decide, Or.inl q1125, Or.inl rfl⟩, fun _ h => absurd h List.not_mem_nil⟩
theorem xf_X4_78 : xk_Fos "SlatCrates$Reader" 78 [3] 5 := List.forall_mem_cons.mpr ⟨⟨Or.inl (by decide), (RX3, TX3, 6), "SlatCrates$Crate", rfl, by decide, Or.inr ⟨_, List.mem_of_getElem? (i := 15) rfl⟩, Or.inl rfl⟩, fun _ h => absurd h List.not_mem_nil⟩
theorem xd_X4_label : (parseMethodDescriptor "()[I").map (fun d => d.parameters.length) = some 0 := by decide +kernel
theorem xd_X4_sign : (parseMethodDescriptor "(C)V").map (fun d => d.parameters.length) = some 1 := by decide +kernel
theorem xd_X4_number : (parseMethodDescriptor "(II)I").map (fun d => d.parameters.length) = some 2 := by decide +kernel
theorem xf_X4_68 : xk_Fos "SlatCrates$Reader" 68 [3] 4 := List.forall_mem_cons.mpr ⟨⟨Or.inl (by decide), (RX3, TX3, 6), "SlatCrates$Crate", rfl, by decide, Or.inr ⟨_, List.mem_of_getElem? (i := 12) rfl⟩, Or.inl rfl⟩, fun _ h => absurd h List.not_mem_nil⟩
theorem xp_X4_68 {nm : String} : xk_Fp "SlatCrates$Reader" nm [3] 4 .int := List.forall_mem_cons.mpr ⟨⟨by decide, fun r h => by cases h; exact ⟨tyX3_ok 4 (by decide), Or.inl rfl⟩⟩, fun _ h => absurd h List.not_mem_nil⟩
theorem xd_X4_nest : (parseMethodDescriptor "(I)I").map (fun d => d.parameters.length) = some 1 := by decide +kernel
theorem xq_X4_nest : plainFor yX4_nest = true := by decide +kernel
theorem xq_X4_fault : plainFor yX4_fault = true := by decide +kernel
theorem xp_X4_12_i : xk_Fp "SlatCrates$Reader" "<init>" [4] 3 (.object "java/util/ArrayList") := List.forall_mem_cons.mpr ⟨⟨by decide, fun r h => by cases h; exact ⟨tyX4_ok 3 (by decide), Or.inr ⟨rfl, rfl, rfl⟩⟩⟩, fun _ h => absurd h List.not_mem_nil⟩
theorem xp_X4_18_i : xk_Fp "SlatCrates$Reader" "<init>" [4] 0 (.object "java/lang/StringBuilder") := List.forall_mem_cons.mpr ⟨⟨by decide, fun r h => by cases h; exact ⟨tyX4_ok 0 (by decide), Or.inr ⟨rfl, rfl, rfl⟩⟩⟩, fun _ h => absurd h List.not_mem_nil⟩
theorem xp_X4_22_i : xk_Fp "SlatCrates$Reader" "<init>" [4] 4 .int := List.forall_mem_cons.mpr ⟨⟨by decide, fun r h => by cases h; exact ⟨tyX4_ok 4 (by decide), Or.inr ⟨rfl, rfl, rfl⟩⟩⟩, fun _ h => absurd h List.not_mem_nil⟩
theorem xq_X4_init : plainFor yX4_init = true := by decide +kernel
theorem xn_X4 : xk_Nf 4 [.null, .int 0, .int 0, .null, .int 0] := ⟨(RX4, TX4, 5), tyX4, rfl, rfl, fun k hk => by
    match k, hk with
    | 0, _ => exact ⟨tyX4_ok 0 (by decide), rfl⟩
    | 1, _ => exact ⟨tyX4_ok 1 (by decide), rfl⟩
    | 2, _ => exact ⟨tyX4_ok 2 (by decide), rfl⟩
    | 3, _ => exact ⟨tyX4_ok 3 (by decide), rfl⟩
    | 4, _ => exact ⟨tyX4_ok 4 (by decide), rfl⟩
    | j + 5, hk => exact absurd hk (by show ¬ j + 5 < 5; omega)⟩
theorem xd_X4_init : (parseMethodDescriptor "(Ljava/lang/StringBuilder;I)V").map (fun d => d.parameters.length) = some 2 := by decide +kernel
theorem xd_X4_fault : (parseMethodDescriptor "()I").map (fun d => d.parameters.length) = some 0 := by decide +kernel
theorem xq_X0_fault : plainFor yX0_fault = true := by decide +kernel
theorem xf_X0_150 : xk_Fos "SlatCrates" 150 [3] 5 := List.forall_mem_cons.mpr ⟨⟨Or.inl (by decide), (RX3, TX3, 6), "SlatCrates$Crate", rfl, by decide, Or.inr ⟨_, List.mem_of_getElem? (i := 16) rfl⟩, Or.inl rfl⟩, fun _ h => absurd h List.not_mem_nil⟩
theorem xf_X0_164 : xk_Fos "SlatCrates" 164 [3] 1 := List.forall_mem_cons.mpr ⟨⟨Or.inl (by decide), (RX3, TX3, 6), "SlatCrates$Crate", rfl, by decide, Or.inr ⟨_, List.mem_of_getElem? (i := 6) rfl⟩, Or.inl rfl⟩, fun _ h => absurd h List.not_mem_nil⟩
theorem xf_X0_162 : xk_Fos "SlatCrates" 162 [3] 0 := List.forall_mem_cons.mpr ⟨⟨Or.inl (by decide), (RX3, TX3, 6), "SlatCrates$Crate", rfl, by decide, Or.inr ⟨_, List.mem_of_getElem? (i := 4) rfl⟩, Or.inl rfl⟩, fun _ h => absurd h List.not_mem_nil⟩
theorem xq_X0_canStand : plainFor yX0_canStand = true := by decide +kernel
theorem xf_X0_167 : xk_Fos "SlatCrates" 167 [4] 3 := List.forall_mem_cons.mpr ⟨⟨Or.inl (by decide), (RX4, TX4, 5), "SlatCrates$Reader", rfl, by decide, Or.inr ⟨_, List.mem_of_getElem? (i := 17) rfl⟩, Or.inl rfl⟩, fun _ h => absurd h List.not_mem_nil⟩
theorem xd_X0_canStand : (parseMethodDescriptor "(Ljava/util/ArrayList;I)Z").map (fun d => d.parameters.length) = some 2 := by decide +kernel
theorem xq_X0_load : plainFor yX0_load = true := by decide +kernel
theorem xq_X0_sign : plainFor yX0_sign = true := by decide +kernel
theorem xf_X0_192 : xk_Fos "SlatCrates" 192 [3] 4 := List.forall_mem_cons.mpr ⟨⟨Or.inl (by decide), (RX3, TX3, 6), "SlatCrates$Crate", rfl, by decide, Or.inr ⟨_, List.mem_of_getElem? (i := 13) rfl⟩, Or.inl rfl⟩, fun _ h => absurd h List.not_mem_nil⟩
theorem xf_X0_185 : xk_Fos "SlatCrates" 185 [3] 3 := List.forall_mem_cons.mpr ⟨⟨Or.inl (by decide), (RX3, TX3, 6), "SlatCrates$Crate", rfl, by decide, Or.inr ⟨_, List.mem_of_getElem? (i := 9) rfl⟩, Or.inl rfl⟩, fun _ h => absurd h List.not_mem_nil⟩
theorem xd_X1_load : (parseMethodDescriptor "(I)I").map (fun d => d.parameters.length) = some 1 := by decide +kernel
theorem xd_X1_canBeTold : (parseMethodDescriptor "(I)Z").map (fun d => d.parameters.length) = some 1 := by decide +kernel
theorem xd_X1_bestFor : (parseMethodDescriptor "(I)I").map (fun d => d.parameters.length) = some 1 := by decide +kernel
theorem xq_X0_crate : plainFor yX0_crate = true := by decide +kernel
theorem xq_X0_isPlace : plainFor yX0_isPlace = true := by decide +kernel
theorem xd_X0_isPlace : (parseMethodDescriptor "(I)Z").map (fun d => d.parameters.length) = some 1 := by decide +kernel
theorem xq_X0_letter : plainFor yX0_letter = true := by decide +kernel
theorem xd_X5_sign : (parseMethodDescriptor "(I)I").map (fun d => d.parameters.length) = some 1 := by decide +kernel
theorem xq_X0_seen : plainFor yX0_seen = true := by decide +kernel
theorem xq_X0_whyNot : plainFor yX0_whyNot = true := by decide +kernel
theorem xd_X1_effortsDown : (parseMethodDescriptor "(I)I").map (fun d => d.parameters.length) = some 1 := by decide +kernel
theorem xd_X1_effortsUp : (parseMethodDescriptor "(I)I").map (fun d => d.parameters.length) = some 1 := by decide +kernel
theorem xq_X0_effort : plainFor yX0_effort = true := by decide +kernel
theorem xq_X0_isAs : plainFor yX0_isAs = true := by decide +kernel
theorem xq_X0_isSign : plainFor yX0_isSign = true := by decide +kernel
theorem xd_X0_isSign : (parseMethodDescriptor "(I)Z").map (fun d => d.parameters.length) = some 1 := by decide +kernel
theorem xd_X0_isAs : (parseMethodDescriptor "(LSlatCrates$Seen;II)Z").map (fun d => d.parameters.length) = some 3 := by decide +kernel
theorem xq_X0_alike : plainFor yX0_alike = true := by decide +kernel
theorem xd_X1_nest : (parseMethodDescriptor "()Ljava/util/ArrayList;").map (fun d => d.parameters.length) = some 0 := by decide +kernel
theorem xq_X0_nest : plainFor yX0_nest = true := by decide +kernel
theorem xq_X0_deepest : plainFor yX0_deepest = true := by decide +kernel
theorem xq_X0_loose : plainFor yX0_loose = true := by decide +kernel
theorem xq_X0_onGround : plainFor yX0_onGround = true := by decide +kernel
theorem xq_X0_sumOf : plainFor yX0_sumOf = true := by decide +kernel
theorem xd_X0_onGround : (parseMethodDescriptor "()I").map (fun d => d.parameters.length) = some 0 := by decide +kernel
theorem xd_X0_loose : (parseMethodDescriptor "()I").map (fun d => d.parameters.length) = some 0 := by decide +kernel
theorem xd_X0_deepest : (parseMethodDescriptor "()I").map (fun d => d.parameters.length) = some 0 := by decide +kernel
theorem xd_X0_sumOf : (parseMethodDescriptor "(I)I").map (fun d => d.parameters.length) = some 1 := by decide +kernel
theorem xd_X1_told : (parseMethodDescriptor "()I").map (fun d => d.parameters.length) = some 0 := by decide +kernel
theorem xd_X1_allLettersSeen : (parseMethodDescriptor "()I").map (fun d => d.parameters.length) = some 0 := by decide +kernel
theorem xd_X1_differentRows : (parseMethodDescriptor "()I").map (fun d => d.parameters.length) = some 0 := by decide +kernel
theorem xd_X1_allEfforts : (parseMethodDescriptor "()I").map (fun d => d.parameters.length) = some 0 := by decide +kernel
theorem xq_X0_count : plainFor yX0_count = true := by decide +kernel
theorem xq_X0_full : plainFor yX0_full = true := by decide +kernel
theorem xq_X0_turnedOnce : plainFor yX0_turnedOnce = true := by decide +kernel
theorem xd_X0_turnedOnce : (parseMethodDescriptor "(I)LSlatCrates$Yard;").map (fun d => d.parameters.length) = some 1 := by decide +kernel
theorem xq_X0_ifTurned : plainFor yX0_ifTurned = true := by decide +kernel
theorem xq_X0_bestTurn : plainFor yX0_bestTurn = true := by decide +kernel
theorem xd_java_util_LinkedList_isEmpty__Z : (parseMethodDescriptor "()Z").map (fun d => d.parameters.length) = some 0 := by decide +kernel
theorem xd_J4_removeLast : (parseMethodDescriptor "()Ljava/lang/Object;").map (fun d => d.parameters.length) = some 0 := by decide +kernel
theorem xp_X0_10 {nm : String} : xk_Fp "SlatCrates" nm [0] 0 (.object "SlatCrates$Yard") := List.forall_mem_cons.mpr ⟨⟨by decide, fun r h => by cases h; exact ⟨tyX0_ok 0 (by decide), Or.inl rfl⟩⟩, fun _ h => absurd h List.not_mem_nil⟩
theorem xq_X0_undo : plainFor yX0_undo = true := by decide +kernel
theorem xf_X0_287 : xk_Fos "SlatCrates" 287 [0] 2 := List.forall_mem_cons.mpr ⟨⟨Or.inl (by decide), (RX0, TX0, 4), "SlatCrates", rfl, by decide, Or.inl q240, Or.inl rfl⟩, fun _ h => absurd h List.not_mem_nil⟩
theorem xp_X0_287 {nm : String} : xk_Fp "SlatCrates" nm [0] 2 (.object "SlatCrates$Yard") := List.forall_mem_cons.mpr ⟨⟨by decide, fun r h => by cases h; exact ⟨tyX0_ok 2 (by decide), Or.inl rfl⟩⟩, fun _ h => absurd h List.not_mem_nil⟩
theorem xq_X0_save : plainFor yX0_save = true := by decide +kernel
theorem xq_X0_restore : plainFor yX0_restore = true := by decide +kernel
def mf_X0_init (a0 : Nat) (h0 : xk_H) : Option (Unit × xk_H) :=
  xm_new 1 [.null, .int 0] h0 fun b1 h2 => xm_cl (mf_X1_init b1 h2) fun r3 h4 => xm_pV [0] 0 (some a0) (va_rf (some b1)) h4 fun h5 => xm_new 7 [.int 0, .int 0, .null, .null] h5 fun b6 h7 => xm_cl (mf_J4_init b6 h7) fun r8 h9 => xm_pV [0] 1 (some a0) (va_rf (some b6)) h9 fun h10 => xm_new 8 [.null, .int 0, .int 0, .int 0] h10 fun b11 h12 => xm_cl (mf_J6_init b11 h12) fun r13 h14 => xm_pV [0] 3 (some a0) (va_rf (some b11)) h14 fun h15 => some ((), h15)
set_option maxHeartbeats 1000000 in
theorem wk_X0_init {l : Launch} {D : va_G} {base : Nat} {a0 : Nat} {h0 : xk_H} {r : Unit} {h' : xk_H} (E : mf_X0_init a0 h0 = some (r, h')) : xk_Ok l D base yX0_init cX0_init 1 none 5 140 [va_rf (some a0)] h0 none h' := by
  refine xk_ofX RX0 "<init>" xq_X0_init rfl rfl (Nat.le_of_ble_eq_true rfl) ⟨xk_crf _, trivial⟩ (fun Γ el eD eb C Z => ?_)
  rw [mf_X0_init] at E
  show xk_X Γ 0 [(0, va_rf (some a0))] [] h0
  refine xr_aload_n 0 C rfl rfl dX0_init_0 ?_
  refine xr_objInit C q133 q134 q135 (by decide) trivial (Nat.le_of_ble_eq_true rfl) dX0_init_1 ?_
  refine xr_aload_n 0 C rfl rfl dX0_init_4 ?_
  refine xr_new (t := 1) (C0 := "SlatCrates$Yard") (n := 2) C E (by decide) xn_X1 (fun r hr => by cases hr; exact ⟨rfl, rfl⟩) q136 q137 q79 dX0_init_5 (fun b1 h2 E => ?_)
  refine xr_dup C (xk_crf _) dX0_init_8 ?_
  refine xr_IN (b := b1) [] [va_rf (some b1), va_rf (some a0)] (fun _ => none) (fun _ => [va_rf (some b1), va_rf (some a0)]) C E (fun r h' e => wk_X1_init e) (List.mem_of_getElem? (i := 0) rfl) q139 q79 q140 xh_SlatCrates_Yard rfl xd_X1_init (by decide) (by decide) ⟨xk_crf _, ⟨xk_crf _, trivial⟩⟩ (Nat.le_of_ble_eq_true rfl) rfl (fun _ => rfl) dX0_init_9 (fun r3 h4 E => ?_)
  refine xr_pR C E xf_X0_10 xp_X0_10_i (Or.inl ⟨_, rfl⟩) dX0_init_12 (fun h5 E => ?_)
  refine xr_aload_n 0 C rfl rfl dX0_init_15 ?_
  refine xr_new (t := 7) (C0 := "java/util/LinkedList") (n := 4) C E (by decide) xn_J4 (fun r hr => by cases hr; exact ⟨rfl, rfl⟩) q184 q185 q84 dX0_init_16 (fun b6 h7 E => ?_)
  refine xr_dup C (xk_crf _) dX0_init_19 ?_
  refine xr_I (b := b6) [] [va_rf (some b6), va_rf (some a0)] (fun _ => none) (fun _ => [va_rf (some b6), va_rf (some a0)]) C E (fun r h' e => wk_J4_init e) q186 q187 q84 q188 xh_java_util_LinkedList rfl xd_J4_init (by decide) (by decide) ⟨xk_crf _, ⟨xk_crf _, trivial⟩⟩ (Nat.le_of_ble_eq_true rfl) rfl (fun _ => rfl) dX0_init_20 (fun r8 h9 E => ?_)
  refine xr_pR C E xf_X0_19 xp_X0_19_i (Or.inl ⟨_, rfl⟩) dX0_init_23 (fun h10 E => ?_)
  refine xr_aload_n 0 C rfl rfl dX0_init_26 ?_
  refine xr_new (t := 8) (C0 := "java/lang/StringBuilder") (n := 4) C E (by decide) xn_J6 (fun r hr => by cases hr; exact ⟨rfl, rfl⟩) q205 q206 q86 dX0_init_27 (fun b11 h12 E => ?_)
  refine xr_dup C (xk_crf _) dX0_init_30 ?_
  refine xr_I (b := b11) [] [va_rf (some b11), va_rf (some a0)] (fun _ => none) (fun _ => [va_rf (some b11), va_rf (some a0)]) C E (fun r h' e => wk_J6_init e) q207 q208 q86 q209 xh_java_lang_StringBuilder rfl xd_J6_init (by decide) (by decide) ⟨xk_crf _, ⟨xk_crf _, trivial⟩⟩ (Nat.le_of_ble_eq_true rfl) rfl (fun _ => rfl) dX0_init_31 (fun r13 h14 E => ?_)
  refine xr_pR C E xf_X0_26 xp_X0_26_i (Or.inl ⟨_, rfl⟩) dX0_init_34 (fun h15 E => ?_)
  exact xr_vret C Z E dX0_init_37
def mf_X0_inRange (a0 : Int32) (a1 : Int32) (a2 : Int32) (h0 : xk_H) : Option (Bool × xk_H) :=
  if a0 < a1 then (some (false, h0)) else (if a2 < a0 then (some (false, h0)) else (some (true, h0)))
set_option maxHeartbeats 1000000 in
theorem wk_X0_inRange {l : Launch} {D : va_G} {base : Nat} {a0 : Int32} {a1 : Int32} {a2 : Int32} {h0 : xk_H} {r : Bool} {h' : xk_H} (E : mf_X0_inRange a0 a1 a2 h0 = some (r, h')) : xk_Ok l D base yX0_inRange cX0_inRange 3 (Option.some FieldType.boolean) 1 60 [.int a0, .int a1, .int a2] h0 (some (.int (xk_b2 r))) h' := by
  refine xk_ofX RX0 "inRange" xq_X0_inRange rfl rfl (Nat.le_of_ble_eq_true rfl) ⟨rfl, ⟨rfl, ⟨rfl, trivial⟩⟩⟩ (fun Γ el eD eb C Z => ?_)
  rw [mf_X0_inRange] at E
  show xk_X Γ 0 [(0, .int a0), (1, .int a1), (2, .int a2)] [] h0
  refine xr_iload_n 0 C rfl rfl dX0_inRange_0 ?_
  refine xr_iload_n 1 C rfl rfl dX0_inRange_1 ?_
  refine xr_icmp_lt 14 C E dX0_inRange_2 (by decide) (fun E => ?_) (fun E => ?_)
  · refine xr_iconst (0) C (by decide) dX0_inRange_14 ?_
    exact xr_bret (b := false) C Z E dX0_inRange_15
  · refine xr_iload_n 0 C rfl rfl dX0_inRange_5 ?_
    refine xr_iload_n 2 C rfl rfl dX0_inRange_6 ?_
    refine xr_icmp_gt 14 C E dX0_inRange_7 (by decide) (fun E => ?_) (fun E => ?_)
    · refine xr_iconst (0) C (by decide) dX0_inRange_14 ?_
      exact xr_bret (b := false) C Z E dX0_inRange_15
    · refine xr_iconst (1) C (by decide) dX0_inRange_10 ?_
      refine xr_goto 15 C dX0_inRange_11 (by decide) ?_
      exact xr_bret (b := true) C Z E dX0_inRange_15
def mf_X0_labelOf_L4 (kx33 : Int32 → xk_H → Option (Option Nat × xk_H)) (a0 : Int32) : Nat → Int32 → Int32 → xk_H → Option (Option Nat × xk_H)
  | 0, _, _, _ => none
  | n + 1, a1, a2, h0 => if a2 ≤ 0 then (kx33 a1 h0) else (if (a2 - a2 / (27 : Int32) * (27 : Int32)) = 0 then (some (none, h0)) else (if a1 = (4 : Int32) then (some (none, h0)) else (mf_X0_labelOf_L4 kx33 a0 n (a1 + 1) (a2 / (27 : Int32)) h0)))
set_option maxHeartbeats 1000000 in
theorem wk_X0_labelOf_L4 {Γ : xk_C} {r : Option Nat} {h' : xk_H} {kx33 : Int32 → xk_H → Option (Option Nat × xk_H)} {a0 : Int32} (C : xk_Cx Γ RX0 cX0_labelOf 5 (Option.some (FieldType.array FieldType.int)) "labelOf" 1 60) (Z : xk_Z Γ (some (va_rf r)) h') (hkx33 : ∀ (m1 : Int32) (g : xk_H), kx33 m1 g = some (r, h') → xk_X Γ 33 [(0, .int a0), (1, .int m1)] [] g) : ∀ (n : Nat) (a1 : Int32) (a2 : Int32) (h0 : xk_H), mf_X0_labelOf_L4 kx33 a0 n a1 a2 h0 = some (r, h') → xk_X Γ 4 [(0, .int a0), (1, .int a1), (2, .int a2)] [] h0 := by
  intro n
  induction n with
  | zero =>
    intro a1 a2 h0 E
    rw [mf_X0_labelOf_L4] at E
    cases E
  | succ n ih =>
    intro a1 a2 h0 E
    have hkb4 : ∀ (m1 : Int32) (m2 : Int32) (g : xk_H), mf_X0_labelOf_L4 kx33 a0 n m1 m2 g = some (r, h') → xk_X Γ 4 [(0, .int a0), (1, .int m1), (2, .int m2)] [] g := ih
    rw [mf_X0_labelOf_L4] at E
    refine xr_iload_n 2 C rfl rfl dX0_labelOf_4 ?_
    refine xr_if_le 33 C E dX0_labelOf_5 (by decide) (fun E => ?_) (fun E => ?_)
    · refine xr_sub [0, 1] rfl ?_
      exact hkx33 a1 h0 E
    · refine xr_iload_n 2 C rfl rfl dX0_labelOf_8 ?_
      refine xr_bipush (27) C (by decide) dX0_labelOf_9 ?_
      refine xr_irem C (by decide) dX0_labelOf_11 ?_
      refine xr_if_eq 20 C E dX0_labelOf_12 (by decide) (fun E => ?_) (fun E => ?_)
      · refine xr_null C dX0_labelOf_20 ?_
        exact xr_aret C Z E (Or.inr ⟨_, rfl⟩) dX0_labelOf_21
      · refine xr_iload_n 1 C rfl rfl dX0_labelOf_15 ?_
        refine xr_iconst (4) C (by decide) dX0_labelOf_16 ?_
        refine xr_icmp_ne 22 C E dX0_labelOf_17 (by decide) (fun E => ?_) (fun E => ?_)
        · refine xr_iinc (v := (a1 + 1)) (L2 := [(1, .int (a1 + 1)), (0, .int a0), (2, .int a2)]) 1 C rfl rfl rfl dX0_labelOf_22 (by decide) ?_
          refine xr_iload_n 2 C rfl rfl dX0_labelOf_25 ?_
          refine xr_bipush (27) C (by decide) dX0_labelOf_26 ?_
          refine xr_idiv C (by decide) dX0_labelOf_28 ?_
          refine xr_istore_n (L2 := [(2, .int (a2 / (27 : Int32))), (1, .int (a1 + 1)), (0, .int a0)]) C rfl rfl dX0_labelOf_29 (by decide) ?_
          refine xr_goto 4 C dX0_labelOf_30 (by decide) ?_
          refine xr_sub [2, 1, 0] rfl ?_
          exact hkb4 (a1 + 1) (a2 / (27 : Int32)) h0 E
        · refine xr_null C dX0_labelOf_20 ?_
          exact xr_aret C Z E (Or.inr ⟨_, rfl⟩) dX0_labelOf_21
def mf_X0_labelOf_L42 (kx69 : xk_H → Option (Option Nat × xk_H)) (a1 : Int32) (a2 : Option Nat) : Nat → Int32 → Int32 → xk_H → Option (Option Nat × xk_H)
  | 0, _, _, _ => none
  | n + 1, a3, a4, h0 => if a1 ≤ a4 then (kx69 h0) else (xm_sV [100] a2 a4 (.int ((a3 - a3 / (27 : Int32) * (27 : Int32)) - (1 : Int32))) h0 fun h5 => mf_X0_labelOf_L42 kx69 a1 a2 n (a3 / (27 : Int32)) (a4 + 1) h5)
set_option maxHeartbeats 1000000 in
theorem wk_X0_labelOf_L42 {Γ : xk_C} {r : Option Nat} {h' : xk_H} {kx69 : xk_H → Option (Option Nat × xk_H)} {a1 : Int32} {a2 : Option Nat} (C : xk_Cx Γ RX0 cX0_labelOf 5 (Option.some (FieldType.array FieldType.int)) "labelOf" 1 60) (Z : xk_Z Γ (some (va_rf r)) h') (hkx69 : ∀ (g : xk_H), kx69 g = some (r, h') → xk_X Γ 69 [(1, .int a1), (2, va_rf a2)] [] g) : ∀ (n : Nat) (a3 : Int32) (a4 : Int32) (h0 : xk_H), mf_X0_labelOf_L42 kx69 a1 a2 n a3 a4 h0 = some (r, h') → xk_X Γ 42 [(1, .int a1), (2, va_rf a2), (3, .int a3), (4, .int a4)] [] h0 := by
  intro n
  induction n with
  | zero =>
    intro a3 a4 h0 E
    rw [mf_X0_labelOf_L42] at E
    cases E
  | succ n ih =>
    intro a3 a4 h0 E
    have hkb42 : ∀ (m3 : Int32) (m4 : Int32) (g : xk_H), mf_X0_labelOf_L42 kx69 a1 a2 n m3 m4 g = some (r, h') → xk_X Γ 42 [(1, .int a1), (2, va_rf a2), (3, .int m3), (4, .int m4)] [] g := ih
    rw [mf_X0_labelOf_L42] at E
    refine xr_iload 3 C rfl dX0_labelOf_42 ?_
    refine xr_iload_n 0 C rfl rfl dX0_labelOf_44 ?_
    refine xr_icmp_ge 69 C E dX0_labelOf_45 (by decide) (fun E => ?_) (fun E => ?_)
    · refine xr_sub [0, 1] rfl ?_
      exact hkx69 h0 E
    · refine xr_aload_n 1 C rfl rfl dX0_labelOf_48 ?_
      refine xr_iload 3 C rfl dX0_labelOf_49 ?_
      refine xr_iload_n 2 C rfl rfl dX0_labelOf_51 ?_
      refine xr_bipush (27) C (by decide) dX0_labelOf_52 ?_
      refine xr_irem C (by decide) dX0_labelOf_54 ?_
      refine xr_iconst (1) C (by decide) dX0_labelOf_55 ?_
      refine xr_isub C dX0_labelOf_56 ?_
      refine xr_sI C E dX0_labelOf_57 (fun h5 E => ?_)
      refine xr_iload_n 2 C rfl rfl dX0_labelOf_58 ?_
      refine xr_bipush (27) C (by decide) dX0_labelOf_59 ?_
      refine xr_idiv C (by decide) dX0_labelOf_61 ?_
      refine xr_istore_n (L2 := [(3, .int (a3 / (27 : Int32))), (1, .int a1), (2, va_rf a2), (4, .int a4)]) C rfl rfl dX0_labelOf_62 (by decide) ?_
      refine xr_iinc (v := (a4 + 1)) (L2 := [(4, .int (a4 + 1)), (3, .int (a3 / (27 : Int32))), (1, .int a1), (2, va_rf a2)]) 3 C rfl rfl rfl dX0_labelOf_63 (by decide) ?_
      refine xr_goto 42 C dX0_labelOf_66 (by decide) ?_
      refine xr_sub [2, 3, 1, 0] rfl ?_
      exact hkb42 (a3 / (27 : Int32)) (a4 + 1) h5 E
def mf_X0_labelOf (a0 : Int32) (h0 : xk_H) : Option (Option Nat × xk_H) :=
  mf_X0_labelOf_L4 (fun m1 h2 => xm_nwa 100 (.int 0) m1 h2 fun b3 h4 => mf_X0_labelOf_L42 (fun h6 => if m1 = 0 then (some (none, h6)) else (some ((some b3), h6))) m1 (some b3) xk_fu a0 (0 : Int32) h4) a0 xk_fu (0 : Int32) a0 h0
set_option maxHeartbeats 1000000 in
theorem wk_X0_labelOf {l : Launch} {D : va_G} {base : Nat} {a0 : Int32} {h0 : xk_H} {r : Option Nat} {h' : xk_H} (E : mf_X0_labelOf a0 h0 = some (r, h')) : xk_Ok l D base yX0_labelOf cX0_labelOf 5 (Option.some (FieldType.array FieldType.int)) 1 60 [.int a0] h0 (some (va_rf r)) h' := by
  refine xk_ofX RX0 "labelOf" xq_X0_labelOf rfl rfl (Nat.le_of_ble_eq_true rfl) ⟨rfl, trivial⟩ (fun Γ el eD eb C Z => ?_)
  rw [mf_X0_labelOf] at E
  show xk_X Γ 0 [(0, .int a0)] [] h0
  refine xr_iconst (0) C (by decide) dX0_labelOf_0 ?_
  refine xr_istore_n (L2 := [(1, .int (0 : Int32)), (0, .int a0)]) C rfl rfl dX0_labelOf_1 (by decide) ?_
  refine xr_iload_n 1 C rfl rfl dX0_labelOf_2 ?_
  refine xr_istore_n (L2 := [(2, .int a0), (1, .int (0 : Int32)), (0, .int a0)]) C rfl rfl dX0_labelOf_3 (by decide) ?_
  refine xr_sub [2, 1, 0] rfl ?_
  refine wk_X0_labelOf_L4 (a0 := a0) C Z (fun m1 h2 E => ?_) xk_fu (0 : Int32) a0 h0 E
  · refine xr_iload_n 1 C rfl rfl dX0_labelOf_33 ?_
    refine xr_nwI C E q316 dX0_labelOf_34 (fun b3 h4 E => ?_)
    refine xr_astore_n (L2 := [(2, va_rf (some b3)), (0, .int a0), (1, .int m1)]) C rfl rfl dX0_labelOf_36 (by decide) ?_
    refine xr_iload_n 1 C rfl rfl dX0_labelOf_37 ?_
    refine xr_istore_n (L2 := [(3, .int a0), (2, va_rf (some b3)), (0, .int a0), (1, .int m1)]) C rfl rfl dX0_labelOf_38 (by decide) ?_
    refine xr_iconst (0) C (by decide) dX0_labelOf_39 ?_
    refine xr_istore (L2 := [(4, .int (0 : Int32)), (3, .int a0), (2, va_rf (some b3)), (0, .int a0), (1, .int m1)]) C rfl dX0_labelOf_40 (by decide) ?_
    refine xr_sub [4, 2, 1, 0] rfl ?_
    refine wk_X0_labelOf_L42 (a1 := m1) (a2 := (some b3)) C Z (fun h6 E => ?_) xk_fu a0 (0 : Int32) h4 E
    · refine xr_iload_n 0 C rfl rfl dX0_labelOf_69 ?_
      refine xr_if_ne 77 C E dX0_labelOf_70 (by decide) (fun E => ?_) (fun E => ?_)
      · refine xr_aload_n 1 C rfl rfl dX0_labelOf_77 ?_
        exact xr_aret C Z E (Or.inr ⟨_, rfl⟩) dX0_labelOf_78
      · refine xr_null C dX0_labelOf_73 ?_
        refine xr_goto 78 C dX0_labelOf_74 (by decide) ?_
        exact xr_aret C Z E (Or.inr ⟨_, rfl⟩) dX0_labelOf_78
def mf_X0_records_J19 (a0 : Option Nat) (h0 : xk_H) : Option (Unit × xk_H) :=
  xm_gR [0] 1 a0 h0 fun x4 => xm_gR [0] 0 a0 h0 fun x5 => xm_rc [1] x5 h0 <| xm_cl (mf_X1_copy x5 h0) fun r6 h7 => xm_rc [7] x4 h7 <| xm_cl (mf_J4_addLast x4 r6 h7) fun r8 h9 => some ((), h9)
set_option maxHeartbeats 1000000 in
theorem wk_X0_records_J19 {Γ : xk_C} {r : Unit} {h' : xk_H} {a0 : Option Nat} {h0 : xk_H} (C : xk_Cx Γ RX0 cX0_records 1 none "records" 9 235) (Z : xk_Z Γ none h') (E : mf_X0_records_J19 a0 h0 = some (r, h')) : xk_X Γ 19 [(0, va_rf a0)] [] h0 := by
  rw [mf_X0_records_J19] at E
  refine xr_aload_n 0 C rfl rfl dX0_records_19 ?_
  refine xr_gR C E xf_X0_19 dX0_records_20 (fun x4 E => ?_)
  refine xr_aload_n 0 C rfl rfl dX0_records_23 ?_
  refine xr_gR C E xf_X0_10 dX0_records_24 (fun x5 E => ?_)
  refine xr_V (v := x5) [] [va_rf x4] (fun r => some (va_rf r)) (fun r => va_rf r :: [va_rf x4]) C E xi_1_SlatCratesYard (fun r h' e => wk_X1_copy e) q285 q286 q287 q79 q288 xh_SlatCrates_Yard xd_X1_copy (by decide) (by decide) ⟨xk_crf _, trivial⟩ (Nat.le_of_ble_eq_true rfl) rfl (fun _ => rfl) dX0_records_27 (fun r6 h7 E => ?_)
  refine xr_V (v := x4) [va_rf r6] [] (fun _ => none) (fun _ => []) C E xi_7_LinkedList (fun r h' e => wk_J4_addLast e) q869 q870 q871 q84 q872 xh_java_util_LinkedList xd_J4_addLast (by decide) (by decide) trivial (Nat.le_of_ble_eq_true rfl) rfl (fun _ => rfl) dX0_records_30 (fun r8 h9 E => ?_)
  exact xr_vret C Z E dX0_records_33
def mf_X0_records (a0 : Option Nat) (h0 : xk_H) : Option (Unit × xk_H) :=
  xm_gR [0] 1 a0 h0 fun x1 => xm_rc [7] x1 h0 <| xm_cl (mf_J4_size x1 h0) fun r2 h3 => if r2 = (4 : Int32) then (xm_gR [0] 1 a0 h3 fun x10 => xm_rc [7] x10 h3 <| xm_cl (mf_J4_removeFirst x10 h3) fun r11 h12 => mf_X0_records_J19 a0 h12) else (mf_X0_records_J19 a0 h3)
set_option maxHeartbeats 1000000 in
theorem wk_X0_records {l : Launch} {D : va_G} {base : Nat} {a0 : Option Nat} {h0 : xk_H} {r : Unit} {h' : xk_H} (E : mf_X0_records a0 h0 = some (r, h')) : xk_Ok l D base yX0_records cX0_records 1 none 9 235 [va_rf a0] h0 none h' := by
  refine xk_ofX RX0 "records" xq_X0_records rfl rfl (Nat.le_of_ble_eq_true rfl) ⟨xk_crf _, trivial⟩ (fun Γ el eD eb C Z => ?_)
  rw [mf_X0_records] at E
  show xk_X Γ 0 [(0, va_rf a0)] [] h0
  refine xr_aload_n 0 C rfl rfl dX0_records_0 ?_
  refine xr_gR C E xf_X0_19 dX0_records_1 (fun x1 E => ?_)
  refine xr_V (v := x1) [] [] (fun r => some (.int r)) (fun r => .int r :: []) C E xi_7_LinkedList (fun r h' e => wk_J4_size e) q273 q274 q275 q84 q276 xh_java_util_LinkedList xd_J4_size (by decide) (by decide) trivial (Nat.le_of_ble_eq_true rfl) rfl (fun _ => rfl) dX0_records_4 (fun r2 h3 E => ?_)
  refine xr_iconst (4) C (by decide) dX0_records_7 ?_
  refine xr_icmp_ne 19 C E dX0_records_8 (by decide) (fun E => ?_) (fun E => ?_)
  · exact wk_X0_records_J19 C Z E
  · refine xr_aload_n 0 C rfl rfl dX0_records_11 ?_
    refine xr_gR C E xf_X0_19 dX0_records_12 (fun x10 E => ?_)
    refine xr_V (v := x10) [] [] (fun r => some (va_rf r)) (fun r => va_rf r :: []) C E xi_7_LinkedList (fun r h' e => wk_J4_removeFirst e) q277 q278 q279 q84 q280 xh_java_util_LinkedList xd_J4_removeFirst (by decide) (by decide) trivial (Nat.le_of_ble_eq_true rfl) rfl (fun _ => rfl) dX0_records_15 (fun r11 h12 E => ?_)
    refine xr_pop C (xk_crf _) dX0_records_18 ?_
    exact wk_X0_records_J19 C Z E
def mf_X0_make (a0 : Option Nat) (a1 : Int32) (a2 : Int32) (a3 : Int32) (a4 : Int32) (h0 : xk_H) : Option (Int32 × xk_H) :=
  xm_cl (mf_X0_labelOf a4 h0) fun r1 h2 => xm_cl (mf_X0_inRange a1 (1 : Int32) (60 : Int32) h2) fun r3 h4 => if xk_b2 r3 = 0 then (some ((-1 : Int32), h4)) else (xm_cl (mf_X0_inRange a2 (0 : Int32) (a1 - (1 : Int32)) h4) fun r5 h6 => if xk_b2 r5 = 0 then (some ((-1 : Int32), h6)) else (xm_cl (mf_X0_inRange a3 (0 : Int32) (15 : Int32) h6) fun r7 h8 => if xk_b2 r7 = 0 then (some ((-1 : Int32), h8)) else (if r1 = none then (some ((-1 : Int32), h8)) else (xm_gR [0] 0 a0 h8 fun x9 => xm_rc [1] x9 h8 <| xm_cl (mf_X1_size x9 h8) fun r10 h11 => if r10 = (12 : Int32) then (some ((-3 : Int32), h11)) else (xm_rc [0] a0 h11 <| xm_cl (mf_X0_records a0 h11) fun r12 h13 => xm_gR [0] 0 a0 h13 fun x14 => xm_gR [1] 0 x14 h13 fun x15 => xm_new 3 [.int 0, .int 0, .int 0, .null, .int 0, .null] h13 fun b16 h17 => xm_cl (mf_X3_init b16 a1 a2 a3 r1 h17) fun r18 h19 => xm_rc [6] x15 h19 <| xm_cl (mf_J2_add x15 (some b16) h19) fun r20 h21 => xm_gR [0] 0 a0 h21 fun x22 => xm_rc [1] x22 h21 <| xm_cl (mf_X1_size x22 h21) fun r23 h24 => some ((r23 - (1 : Int32)), h24))))))
set_option maxHeartbeats 1000000 in
theorem wk_X0_make {l : Launch} {D : va_G} {base : Nat} {a0 : Option Nat} {a1 : Int32} {a2 : Int32} {a3 : Int32} {a4 : Int32} {h0 : xk_H} {r : Int32} {h' : xk_H} (E : mf_X0_make a0 a1 a2 a3 a4 h0 = some (r, h')) : xk_Ok l D base yX0_make cX0_make 6 (Option.some FieldType.int) 10 255 [va_rf a0, .int a1, .int a2, .int a3, .int a4] h0 (some (.int r)) h' := by
  refine xk_ofX RX0 "make" xq_X0_make rfl rfl (Nat.le_of_ble_eq_true rfl) ⟨xk_crf _, ⟨rfl, ⟨rfl, ⟨rfl, ⟨rfl, trivial⟩⟩⟩⟩⟩ (fun Γ el eD eb C Z => ?_)
  rw [mf_X0_make] at E
  show xk_X Γ 0 [(0, va_rf a0), (1, .int a1), (2, .int a2), (3, .int a3), (4, .int a4)] [] h0
  refine xr_iload 4 C rfl dX0_make_0 ?_
  refine xr_S [.int a4] [] (fun r => some (va_rf r)) (fun r => va_rf r :: []) C E (fun r h' e => wk_X0_labelOf e) q255 q256 q78 q257 xh_SlatCrates xd_X0_labelOf (by decide) (by decide) trivial (Nat.le_of_ble_eq_true rfl) rfl (fun _ => rfl) dX0_make_2 (fun r1 h2 E => ?_)
  refine xr_astore (L2 := [(5, va_rf r1), (0, va_rf a0), (1, .int a1), (2, .int a2), (3, .int a3), (4, .int a4)]) C rfl dX0_make_5 (by decide) ?_
  refine xr_iload_n 2 C rfl rfl dX0_make_7 ?_
  refine xr_iconst (1) C (by decide) dX0_make_8 ?_
  refine xr_bipush (60) C (by decide) dX0_make_9 ?_
  refine xr_S [.int a1, .int (1 : Int32), .int (60 : Int32)] [] (fun r => some (.int (xk_b2 r))) (fun r => .int (xk_b2 r) :: []) C E (fun r h' e => wk_X0_inRange e) q258 q259 q78 q260 xh_SlatCrates xd_X0_inRange (by decide) (by decide) trivial (Nat.le_of_ble_eq_true rfl) rfl (fun _ => rfl) dX0_make_11 (fun r3 h4 E => ?_)
  refine xr_if_eq 43 C E dX0_make_14 (by decide) (fun E => ?_) (fun E => ?_)
  · refine xr_iconst (-1) C (by decide) dX0_make_43 ?_
    exact xr_iret C Z E dX0_make_44
  · refine xr_iload_n 3 C rfl rfl dX0_make_17 ?_
    refine xr_iconst (0) C (by decide) dX0_make_18 ?_
    refine xr_iload_n 2 C rfl rfl dX0_make_19 ?_
    refine xr_iconst (1) C (by decide) dX0_make_20 ?_
    refine xr_isub C dX0_make_21 ?_
    refine xr_S [.int a2, .int (0 : Int32), .int (a1 - (1 : Int32))] [] (fun r => some (.int (xk_b2 r))) (fun r => .int (xk_b2 r) :: []) C E (fun r h' e => wk_X0_inRange e) q258 q259 q78 q260 xh_SlatCrates xd_X0_inRange (by decide) (by decide) trivial (Nat.le_of_ble_eq_true rfl) rfl (fun _ => rfl) dX0_make_22 (fun r5 h6 E => ?_)
    refine xr_if_eq 43 C E dX0_make_25 (by decide) (fun E => ?_) (fun E => ?_)
    · refine xr_iconst (-1) C (by decide) dX0_make_43 ?_
      exact xr_iret C Z E dX0_make_44
    · refine xr_iload_n 4 C rfl rfl dX0_make_28 ?_
      refine xr_iconst (0) C (by decide) dX0_make_29 ?_
      refine xr_bipush (15) C (by decide) dX0_make_30 ?_
      refine xr_S [.int a3, .int (0 : Int32), .int (15 : Int32)] [] (fun r => some (.int (xk_b2 r))) (fun r => .int (xk_b2 r) :: []) C E (fun r h' e => wk_X0_inRange e) q258 q259 q78 q260 xh_SlatCrates xd_X0_inRange (by decide) (by decide) trivial (Nat.le_of_ble_eq_true rfl) rfl (fun _ => rfl) dX0_make_32 (fun r7 h8 E => ?_)
      refine xr_if_eq 43 C E dX0_make_35 (by decide) (fun E => ?_) (fun E => ?_)
      · refine xr_iconst (-1) C (by decide) dX0_make_43 ?_
        exact xr_iret C Z E dX0_make_44
      · refine xr_aload 0 C rfl dX0_make_38 ?_
        refine xr_ifnonnull 45 C E dX0_make_40 (by decide) (fun E => ?_) (fun E => ?_)
        · refine xr_aload_n 1 C rfl rfl dX0_make_45 ?_
          refine xr_gR C E xf_X0_10 dX0_make_46 (fun x9 E => ?_)
          refine xr_V (v := x9) [] [] (fun r => some (.int r)) (fun r => .int r :: []) C E xi_1_SlatCratesYard (fun r h' e => wk_X1_size e) q261 q262 q263 q79 q264 xh_SlatCrates_Yard xd_X1_size (by decide) (by decide) trivial (Nat.le_of_ble_eq_true rfl) rfl (fun _ => rfl) dX0_make_49 (fun r10 h11 E => ?_)
          refine xr_bipush (12) C (by decide) dX0_make_52 ?_
          refine xr_icmp_ne 60 C E dX0_make_54 (by decide) (fun E => ?_) (fun E => ?_)
          · refine xr_aload_n 1 C rfl rfl dX0_make_60 ?_
            refine xr_V (v := a0) [] [] (fun _ => none) (fun _ => []) C E xi_0_SlatCrates (fun r h' e => wk_X0_records e) q269 q271 qs0 q78 q272 xh_SlatCrates xd_X0_records (by decide) (by decide) trivial (Nat.le_of_ble_eq_true rfl) rfl (fun _ => rfl) dX0_make_61 (fun r12 h13 E => ?_)
            refine xr_aload_n 1 C rfl rfl dX0_make_64 ?_
            refine xr_gR C E xf_X0_10 dX0_make_65 (fun x14 E => ?_)
            refine xr_gR C E xf_X0_58 dX0_make_68 (fun x15 E => ?_)
            refine xr_new (t := 3) (C0 := "SlatCrates$Crate") (n := 6) C E (by decide) xn_X3 (fun r hr => by cases hr; exact ⟨rfl, rfl⟩) q898 q744 q102 dX0_make_71 (fun b16 h17 E => ?_)
            refine xr_dup C (xk_crf _) dX0_make_74 ?_
            refine xr_iload_n 2 C rfl rfl dX0_make_75 ?_
            refine xr_iload_n 3 C rfl rfl dX0_make_76 ?_
            refine xr_iload_n 4 C rfl rfl dX0_make_77 ?_
            refine xr_aload 0 C rfl dX0_make_78 ?_
            refine xr_I (b := b16) [.int a1, .int a2, .int a3, va_rf r1] [va_rf (some b16), va_rf x15] (fun _ => none) (fun _ => [va_rf (some b16), va_rf x15]) C E (fun r h' e => wk_X3_init e) q899 q746 q102 q747 xh_SlatCrates_Crate rfl xd_X3_init (by decide) (by decide) ⟨xk_crf _, ⟨xk_crf _, trivial⟩⟩ (Nat.le_of_ble_eq_true rfl) rfl (fun _ => rfl) dX0_make_80 (fun r18 h19 E => ?_)
            refine xr_V (v := x15) [va_rf (some b16)] [] (fun r => some (.int (xk_b2 r))) (fun r => .int (xk_b2 r) :: []) C E xi_6_ArrayList (fun r h' e => wk_J2_add e) q900 q858 q859 q82 q860 xh_java_util_ArrayList xd_J2_add (by decide) (by decide) trivial (Nat.le_of_ble_eq_true rfl) rfl (fun _ => rfl) dX0_make_83 (fun r20 h21 E => ?_)
            refine xr_pop C rfl dX0_make_86 ?_
            refine xr_aload_n 1 C rfl rfl dX0_make_87 ?_
            refine xr_gR C E xf_X0_10 dX0_make_88 (fun x22 E => ?_)
            refine xr_V (v := x22) [] [] (fun r => some (.int r)) (fun r => .int r :: []) C E xi_1_SlatCratesYard (fun r h' e => wk_X1_size e) q261 q262 q263 q79 q264 xh_SlatCrates_Yard xd_X1_size (by decide) (by decide) trivial (Nat.le_of_ble_eq_true rfl) rfl (fun _ => rfl) dX0_make_91 (fun r23 h24 E => ?_)
            refine xr_iconst (1) C (by decide) dX0_make_94 ?_
            refine xr_isub C dX0_make_95 ?_
            exact xr_iret C Z E dX0_make_96
          · refine xr_bipush (-3) C (by decide) dX0_make_57 ?_
            exact xr_iret C Z E dX0_make_59
        · refine xr_iconst (-1) C (by decide) dX0_make_43 ?_
          exact xr_iret C Z E dX0_make_44
def mf_X0_isCrate (a0 : Option Nat) (a1 : Int32) (h0 : xk_H) : Option (Bool × xk_H) :=
  xm_gR [0] 0 a0 h0 fun x1 => xm_rc [1] x1 h0 <| xm_cl (mf_X1_size x1 h0) fun r2 h3 => xm_cl (mf_X0_inRange a1 (0 : Int32) (r2 - (1 : Int32)) h3) fun r4 h5 => some (r4, h5)
set_option maxHeartbeats 1000000 in
theorem wk_X0_isCrate {l : Launch} {D : va_G} {base : Nat} {a0 : Option Nat} {a1 : Int32} {h0 : xk_H} {r : Bool} {h' : xk_H} (E : mf_X0_isCrate a0 a1 h0 = some (r, h')) : xk_Ok l D base yX0_isCrate cX0_isCrate 2 (Option.some FieldType.boolean) 3 100 [va_rf a0, .int a1] h0 (some (.int (xk_b2 r))) h' := by
  refine xk_ofX RX0 "isCrate" xq_X0_isCrate rfl rfl (Nat.le_of_ble_eq_true rfl) ⟨xk_crf _, ⟨rfl, trivial⟩⟩ (fun Γ el eD eb C Z => ?_)
  rw [mf_X0_isCrate] at E
  show xk_X Γ 0 [(0, va_rf a0), (1, .int a1)] [] h0
  refine xr_iload_n 1 C rfl rfl dX0_isCrate_0 ?_
  refine xr_iconst (0) C (by decide) dX0_isCrate_1 ?_
  refine xr_aload_n 0 C rfl rfl dX0_isCrate_2 ?_
  refine xr_gR C E xf_X0_10 dX0_isCrate_3 (fun x1 E => ?_)
  refine xr_V (v := x1) [] [.int (0 : Int32), .int a1] (fun r => some (.int r)) (fun r => .int r :: [.int (0 : Int32), .int a1]) C E xi_1_SlatCratesYard (fun r h' e => wk_X1_size e) q261 q262 q263 q79 q264 xh_SlatCrates_Yard xd_X1_size (by decide) (by decide) ⟨rfl, ⟨rfl, trivial⟩⟩ (Nat.le_of_ble_eq_true rfl) rfl (fun _ => rfl) dX0_isCrate_6 (fun r2 h3 E => ?_)
  refine xr_iconst (1) C (by decide) dX0_isCrate_9 ?_
  refine xr_isub C dX0_isCrate_10 ?_
  refine xr_S [.int a1, .int (0 : Int32), .int (r2 - (1 : Int32))] [] (fun r => some (.int (xk_b2 r))) (fun r => .int (xk_b2 r) :: []) C E (fun r h' e => wk_X0_inRange e) q258 q259 q78 q260 xh_SlatCrates xd_X0_inRange (by decide) (by decide) trivial (Nat.le_of_ble_eq_true rfl) rfl (fun _ => rfl) dX0_isCrate_11 (fun r4 h5 E => ?_)
  exact xr_bret (b := r4) C Z E dX0_isCrate_14
def mf_X0_refuses (a0 : Option Nat) (a1 : Int32) (h0 : xk_H) : Option (Int32 × xk_H) :=
  xm_gR [0] 0 a0 h0 fun x1 => xm_gI [1] 1 x1 h0 fun x2 => xm_pV [1] 1 x1 (.int (x2 + (1 : Int32))) h0 fun h3 => some (a1, h3)
set_option maxHeartbeats 1000000 in
theorem wk_X0_refuses {l : Launch} {D : va_G} {base : Nat} {a0 : Option Nat} {a1 : Int32} {h0 : xk_H} {r : Int32} {h' : xk_H} (E : mf_X0_refuses a0 a1 h0 = some (r, h')) : xk_Ok l D base yX0_refuses cX0_refuses 2 (Option.some FieldType.int) 1 60 [va_rf a0, .int a1] h0 (some (.int r)) h' := by
  refine xk_ofX RX0 "refuses" xq_X0_refuses rfl rfl (Nat.le_of_ble_eq_true rfl) ⟨xk_crf _, ⟨rfl, trivial⟩⟩ (fun Γ el eD eb C Z => ?_)
  rw [mf_X0_refuses] at E
  show xk_X Γ 0 [(0, va_rf a0), (1, .int a1)] [] h0
  refine xr_aload_n 0 C rfl rfl dX0_refuses_0 ?_
  refine xr_gR C E xf_X0_10 dX0_refuses_1 (fun x1 E => ?_)
  refine xr_dup C (xk_crf _) dX0_refuses_4 ?_
  refine xr_gI C E xf_X0_73 dX0_refuses_5 (fun x2 E => ?_)
  refine xr_iconst (1) C (by decide) dX0_refuses_8 ?_
  refine xr_iadd C dX0_refuses_9 ?_
  refine xr_pI C E xf_X0_73 xp_X0_73 dX0_refuses_10 (fun h3 E => ?_)
  refine xr_iload_n 1 C rfl rfl dX0_refuses_13 ?_
  exact xr_iret C Z E dX0_refuses_14
def mf_X0_put (a0 : Option Nat) (a1 : Int32) (a2 : Int32) (h0 : xk_H) : Option (Int32 × xk_H) :=
  xm_rc [0] a0 h0 <| xm_cl (mf_X0_isCrate a0 a1 h0) fun r1 h2 => if xk_b2 r1 = 0 then (some ((-1 : Int32), h2)) else (xm_rc [0] a0 h2 <| xm_cl (mf_X0_isCrate a0 a2 h2) fun r3 h4 => if xk_b2 r3 = 0 then (some ((-1 : Int32), h4)) else (xm_rc [0] a0 h4 <| xm_cl (mf_X0_records a0 h4) fun r5 h6 => xm_gR [0] 0 a0 h6 fun x7 => xm_rc [1] x7 h6 <| xm_cl (mf_X1_whyNotPut x7 a1 a2 h6) fun r8 h9 => if r8 ≤ 0 then (xm_gR [0] 0 a0 h9 fun x10 => xm_rc [1] x10 h9 <| xm_cl (mf_X1_puts x10 a1 a2 h9) fun r11 h12 => xm_gR [0] 0 a0 h12 fun x13 => xm_rc [1] x13 h12 <| xm_cl (mf_X1_depth x13 a1 h12) fun r14 h15 => some (((10 : Int32) + r14), h15)) else (xm_rc [0] a0 h9 <| xm_cl (mf_X0_refuses a0 r8 h9) fun r16 h17 => some (r16, h17))))
set_option maxHeartbeats 1000000 in
theorem wk_X0_put {l : Launch} {D : va_G} {base : Nat} {a0 : Option Nat} {a1 : Int32} {a2 : Int32} {h0 : xk_H} {r : Int32} {h' : xk_H} (E : mf_X0_put a0 a1 a2 h0 = some (r, h')) : xk_Ok l D base yX0_put cX0_put 4 (Option.some FieldType.int) 10 255 [va_rf a0, .int a1, .int a2] h0 (some (.int r)) h' := by
  refine xk_ofX RX0 "put" xq_X0_put rfl rfl (Nat.le_of_ble_eq_true rfl) ⟨xk_crf _, ⟨rfl, ⟨rfl, trivial⟩⟩⟩ (fun Γ el eD eb C Z => ?_)
  rw [mf_X0_put] at E
  show xk_X Γ 0 [(0, va_rf a0), (1, .int a1), (2, .int a2)] [] h0
  refine xr_aload_n 0 C rfl rfl dX0_put_0 ?_
  refine xr_iload_n 1 C rfl rfl dX0_put_1 ?_
  refine xr_V (v := a0) [.int a1] [] (fun r => some (.int (xk_b2 r))) (fun r => .int (xk_b2 r) :: []) C E xi_0_SlatCrates (fun r h' e => wk_X0_isCrate e) q905 q907 qs8 q78 q908 xh_SlatCrates xd_X0_isCrate (by decide) (by decide) trivial (Nat.le_of_ble_eq_true rfl) rfl (fun _ => rfl) dX0_put_2 (fun r1 h2 E => ?_)
  refine xr_if_eq 16 C E dX0_put_5 (by decide) (fun E => ?_) (fun E => ?_)
  · refine xr_iconst (-1) C (by decide) dX0_put_16 ?_
    exact xr_iret C Z E dX0_put_17
  · refine xr_aload_n 0 C rfl rfl dX0_put_8 ?_
    refine xr_iload_n 2 C rfl rfl dX0_put_9 ?_
    refine xr_V (v := a0) [.int a2] [] (fun r => some (.int (xk_b2 r))) (fun r => .int (xk_b2 r) :: []) C E xi_0_SlatCrates (fun r h' e => wk_X0_isCrate e) q905 q907 qs8 q78 q908 xh_SlatCrates xd_X0_isCrate (by decide) (by decide) trivial (Nat.le_of_ble_eq_true rfl) rfl (fun _ => rfl) dX0_put_10 (fun r3 h4 E => ?_)
    refine xr_if_ne 18 C E dX0_put_13 (by decide) (fun E => ?_) (fun E => ?_)
    · refine xr_aload_n 0 C rfl rfl dX0_put_18 ?_
      refine xr_V (v := a0) [] [] (fun _ => none) (fun _ => []) C E xi_0_SlatCrates (fun r h' e => wk_X0_records e) q269 q271 qs0 q78 q272 xh_SlatCrates xd_X0_records (by decide) (by decide) trivial (Nat.le_of_ble_eq_true rfl) rfl (fun _ => rfl) dX0_put_19 (fun r5 h6 E => ?_)
      refine xr_aload_n 0 C rfl rfl dX0_put_22 ?_
      refine xr_gR C E xf_X0_10 dX0_put_23 (fun x7 E => ?_)
      refine xr_iload_n 1 C rfl rfl dX0_put_26 ?_
      refine xr_iload_n 2 C rfl rfl dX0_put_27 ?_
      refine xr_V (v := x7) [.int a1, .int a2] [] (fun r => some (.int r)) (fun r => .int r :: []) C E xi_1_SlatCratesYard (fun r h' e => wk_X1_whyNotPut e) q909 q910 q911 q79 q912 xh_SlatCrates_Yard xd_X1_whyNotPut (by decide) (by decide) trivial (Nat.le_of_ble_eq_true rfl) rfl (fun _ => rfl) dX0_put_28 (fun r8 h9 E => ?_)
      refine xr_istore_n (L2 := [(3, .int r8), (0, va_rf a0), (1, .int a1), (2, .int a2)]) C rfl rfl dX0_put_31 (by decide) ?_
      refine xr_iload_n 0 C rfl rfl dX0_put_32 ?_
      refine xr_if_le 42 C E dX0_put_33 (by decide) (fun E => ?_) (fun E => ?_)
      · refine xr_aload_n 1 C rfl rfl dX0_put_42 ?_
        refine xr_gR C E xf_X0_10 dX0_put_43 (fun x10 E => ?_)
        refine xr_iload_n 2 C rfl rfl dX0_put_46 ?_
        refine xr_iload_n 3 C rfl rfl dX0_put_47 ?_
        refine xr_V (v := x10) [.int a1, .int a2] [] (fun _ => none) (fun _ => []) C E xi_1_SlatCratesYard (fun r h' e => wk_X1_puts e) q1003 q1004 q1005 q79 q1006 xh_SlatCrates_Yard xd_X1_puts (by decide) (by decide) trivial (Nat.le_of_ble_eq_true rfl) rfl (fun _ => rfl) dX0_put_48 (fun r11 h12 E => ?_)
        refine xr_bipush (10) C (by decide) dX0_put_51 ?_
        refine xr_aload_n 1 C rfl rfl dX0_put_53 ?_
        refine xr_gR C E xf_X0_10 dX0_put_54 (fun x13 E => ?_)
        refine xr_iload_n 2 C rfl rfl dX0_put_57 ?_
        refine xr_V (v := x13) [.int a1] [.int (10 : Int32)] (fun r => some (.int r)) (fun r => .int r :: [.int (10 : Int32)]) C E xi_1_SlatCratesYard (fun r h' e => wk_X1_depth e) q1019 q1020 q1021 q79 q1022 xh_SlatCrates_Yard xd_X1_depth (by decide) (by decide) ⟨rfl, trivial⟩ (Nat.le_of_ble_eq_true rfl) rfl (fun _ => rfl) dX0_put_58 (fun r14 h15 E => ?_)
        refine xr_iadd C dX0_put_61 ?_
        exact xr_iret C Z E dX0_put_62
      · refine xr_aload_n 1 C rfl rfl dX0_put_36 ?_
        refine xr_iload_n 0 C rfl rfl dX0_put_37 ?_
        refine xr_V (v := a0) [.int r8] [] (fun r => some (.int r)) (fun r => .int r :: []) C E xi_0_SlatCrates (fun r h' e => wk_X0_refuses e) q999 q1001 qs9 q78 q1002 xh_SlatCrates xd_X0_refuses (by decide) (by decide) trivial (Nat.le_of_ble_eq_true rfl) rfl (fun _ => rfl) dX0_put_38 (fun r16 h17 E => ?_)
        exact xr_iret C Z E dX0_put_41
    · refine xr_iconst (-1) C (by decide) dX0_put_16 ?_
      exact xr_iret C Z E dX0_put_17
def mf_X0_ground (a0 : Option Nat) (a1 : Int32) (h0 : xk_H) : Option (Int32 × xk_H) :=
  xm_rc [0] a0 h0 <| xm_cl (mf_X0_isCrate a0 a1 h0) fun r1 h2 => if xk_b2 r1 = 0 then (some ((-1 : Int32), h2)) else (xm_rc [0] a0 h2 <| xm_cl (mf_X0_records a0 h2) fun r3 h4 => xm_gR [0] 0 a0 h4 fun x5 => xm_rc [1] x5 h4 <| xm_cl (mf_X1_whyNotGround x5 a1 h4) fun r6 h7 => if r6 ≤ 0 then (xm_gR [0] 0 a0 h7 fun x8 => xm_rc [1] x8 h7 <| xm_cl (mf_X1_lifts x8 a1 h7) fun r9 h10 => some ((10 : Int32), h10)) else (xm_rc [0] a0 h7 <| xm_cl (mf_X0_refuses a0 r6 h7) fun r11 h12 => some (r11, h12)))
set_option maxHeartbeats 1000000 in
theorem wk_X0_ground {l : Launch} {D : va_G} {base : Nat} {a0 : Option Nat} {a1 : Int32} {h0 : xk_H} {r : Int32} {h' : xk_H} (E : mf_X0_ground a0 a1 h0 = some (r, h')) : xk_Ok l D base yX0_ground cX0_ground 3 (Option.some FieldType.int) 10 255 [va_rf a0, .int a1] h0 (some (.int r)) h' := by
  refine xk_ofX RX0 "ground" xq_X0_ground rfl rfl (Nat.le_of_ble_eq_true rfl) ⟨xk_crf _, ⟨rfl, trivial⟩⟩ (fun Γ el eD eb C Z => ?_)
  rw [mf_X0_ground] at E
  show xk_X Γ 0 [(0, va_rf a0), (1, .int a1)] [] h0
  refine xr_aload_n 0 C rfl rfl dX0_ground_0 ?_
  refine xr_iload_n 1 C rfl rfl dX0_ground_1 ?_
  refine xr_V (v := a0) [.int a1] [] (fun r => some (.int (xk_b2 r))) (fun r => .int (xk_b2 r) :: []) C E xi_0_SlatCrates (fun r h' e => wk_X0_isCrate e) q905 q907 qs8 q78 q908 xh_SlatCrates xd_X0_isCrate (by decide) (by decide) trivial (Nat.le_of_ble_eq_true rfl) rfl (fun _ => rfl) dX0_ground_2 (fun r1 h2 E => ?_)
  refine xr_if_ne 10 C E dX0_ground_5 (by decide) (fun E => ?_) (fun E => ?_)
  · refine xr_aload_n 0 C rfl rfl dX0_ground_10 ?_
    refine xr_V (v := a0) [] [] (fun _ => none) (fun _ => []) C E xi_0_SlatCrates (fun r h' e => wk_X0_records e) q269 q271 qs0 q78 q272 xh_SlatCrates xd_X0_records (by decide) (by decide) trivial (Nat.le_of_ble_eq_true rfl) rfl (fun _ => rfl) dX0_ground_11 (fun r3 h4 E => ?_)
    refine xr_aload_n 0 C rfl rfl dX0_ground_14 ?_
    refine xr_gR C E xf_X0_10 dX0_ground_15 (fun x5 E => ?_)
    refine xr_iload_n 1 C rfl rfl dX0_ground_18 ?_
    refine xr_V (v := x5) [.int a1] [] (fun r => some (.int r)) (fun r => .int r :: []) C E xi_1_SlatCratesYard (fun r h' e => wk_X1_whyNotGround e) q1027 q1028 q1029 q79 q1030 xh_SlatCrates_Yard xd_X1_whyNotGround (by decide) (by decide) trivial (Nat.le_of_ble_eq_true rfl) rfl (fun _ => rfl) dX0_ground_19 (fun r6 h7 E => ?_)
    refine xr_istore_n (L2 := [(2, .int r6), (0, va_rf a0), (1, .int a1)]) C rfl rfl dX0_ground_22 (by decide) ?_
    refine xr_iload_n 0 C rfl rfl dX0_ground_23 ?_
    refine xr_if_le 33 C E dX0_ground_24 (by decide) (fun E => ?_) (fun E => ?_)
    · refine xr_aload_n 1 C rfl rfl dX0_ground_33 ?_
      refine xr_gR C E xf_X0_10 dX0_ground_34 (fun x8 E => ?_)
      refine xr_iload_n 2 C rfl rfl dX0_ground_37 ?_
      refine xr_VN (v := x8) [.int a1] [] (fun _ => none) (fun _ => []) C E xi_1_SlatCratesYard (fun r h' e => wk_X1_lifts e) (List.mem_of_getElem? (i := 1) rfl) q1009 qs10 q79 q1010 xh_SlatCrates_Yard xd_X1_lifts (by decide) (by decide) trivial (Nat.le_of_ble_eq_true rfl) rfl (fun _ => rfl) dX0_ground_38 (fun r9 h10 E => ?_)
      refine xr_bipush (10) C (by decide) dX0_ground_41 ?_
      exact xr_iret C Z E dX0_ground_43
    · refine xr_aload_n 1 C rfl rfl dX0_ground_27 ?_
      refine xr_iload_n 0 C rfl rfl dX0_ground_28 ?_
      refine xr_V (v := a0) [.int r6] [] (fun r => some (.int r)) (fun r => .int r :: []) C E xi_0_SlatCrates (fun r h' e => wk_X0_refuses e) q999 q1001 qs9 q78 q1002 xh_SlatCrates xd_X0_refuses (by decide) (by decide) trivial (Nat.le_of_ble_eq_true rfl) rfl (fun _ => rfl) dX0_ground_29 (fun r11 h12 E => ?_)
      exact xr_iret C Z E dX0_ground_32
  · refine xr_iconst (-1) C (by decide) dX0_ground_8 ?_
    exact xr_iret C Z E dX0_ground_9
def mf_X0_turn (a0 : Option Nat) (a1 : Int32) (h0 : xk_H) : Option (Int32 × xk_H) :=
  xm_rc [0] a0 h0 <| xm_cl (mf_X0_isCrate a0 a1 h0) fun r1 h2 => if xk_b2 r1 = 0 then (some ((-1 : Int32), h2)) else (xm_rc [0] a0 h2 <| xm_cl (mf_X0_records a0 h2) fun r3 h4 => xm_gR [0] 0 a0 h4 fun x5 => xm_rc [1] x5 h4 <| xm_cl (mf_X1_at x5 a1 h4) fun r6 h7 => xm_rc [3] r6 h7 <| xm_cl (mf_X3_turns r6 h7) fun r8 h9 => xm_gR [0] 0 a0 h9 fun x10 => xm_rc [1] x10 h9 <| xm_cl (mf_X1_at x10 a1 h9) fun r11 h12 => xm_gI [3] 2 r11 h12 fun x13 => some (x13, h12))
set_option maxHeartbeats 1000000 in
theorem wk_X0_turn {l : Launch} {D : va_G} {base : Nat} {a0 : Option Nat} {a1 : Int32} {h0 : xk_H} {r : Int32} {h' : xk_H} (E : mf_X0_turn a0 a1 h0 = some (r, h')) : xk_Ok l D base yX0_turn cX0_turn 2 (Option.some FieldType.int) 10 255 [va_rf a0, .int a1] h0 (some (.int r)) h' := by
  refine xk_ofX RX0 "turn" xq_X0_turn rfl rfl (Nat.le_of_ble_eq_true rfl) ⟨xk_crf _, ⟨rfl, trivial⟩⟩ (fun Γ el eD eb C Z => ?_)
  rw [mf_X0_turn] at E
  show xk_X Γ 0 [(0, va_rf a0), (1, .int a1)] [] h0
  refine xr_aload_n 0 C rfl rfl dX0_turn_0 ?_
  refine xr_iload_n 1 C rfl rfl dX0_turn_1 ?_
  refine xr_V (v := a0) [.int a1] [] (fun r => some (.int (xk_b2 r))) (fun r => .int (xk_b2 r) :: []) C E xi_0_SlatCrates (fun r h' e => wk_X0_isCrate e) q905 q907 qs8 q78 q908 xh_SlatCrates xd_X0_isCrate (by decide) (by decide) trivial (Nat.le_of_ble_eq_true rfl) rfl (fun _ => rfl) dX0_turn_2 (fun r1 h2 E => ?_)
  refine xr_if_ne 10 C E dX0_turn_5 (by decide) (fun E => ?_) (fun E => ?_)
  · refine xr_aload_n 0 C rfl rfl dX0_turn_10 ?_
    refine xr_V (v := a0) [] [] (fun _ => none) (fun _ => []) C E xi_0_SlatCrates (fun r h' e => wk_X0_records e) q269 q271 qs0 q78 q272 xh_SlatCrates xd_X0_records (by decide) (by decide) trivial (Nat.le_of_ble_eq_true rfl) rfl (fun _ => rfl) dX0_turn_11 (fun r3 h4 E => ?_)
    refine xr_aload_n 0 C rfl rfl dX0_turn_14 ?_
    refine xr_gR C E xf_X0_10 dX0_turn_15 (fun x5 E => ?_)
    refine xr_iload_n 1 C rfl rfl dX0_turn_18 ?_
    refine xr_V (v := x5) [.int a1] [] (fun r => some (va_rf r)) (fun r => va_rf r :: []) C E xi_1_SlatCratesYard (fun r h' e => wk_X1_at e) q1036 q922 q923 q79 q924 xh_SlatCrates_Yard xd_X1_at (by decide) (by decide) trivial (Nat.le_of_ble_eq_true rfl) rfl (fun _ => rfl) dX0_turn_19 (fun r6 h7 E => ?_)
    refine xr_V (v := r6) [] [] (fun _ => none) (fun _ => []) C E xi_3_SlatCratesCrate (fun r h' e => wk_X3_turns e) q1037 q1038 q1039 q102 q1040 xh_SlatCrates_Crate xd_X3_turns (by decide) (by decide) trivial (Nat.le_of_ble_eq_true rfl) rfl (fun _ => rfl) dX0_turn_22 (fun r8 h9 E => ?_)
    refine xr_aload_n 0 C rfl rfl dX0_turn_25 ?_
    refine xr_gR C E xf_X0_10 dX0_turn_26 (fun x10 E => ?_)
    refine xr_iload_n 1 C rfl rfl dX0_turn_29 ?_
    refine xr_V (v := x10) [.int a1] [] (fun r => some (va_rf r)) (fun r => va_rf r :: []) C E xi_1_SlatCratesYard (fun r h' e => wk_X1_at e) q1036 q922 q923 q79 q924 xh_SlatCrates_Yard xd_X1_at (by decide) (by decide) trivial (Nat.le_of_ble_eq_true rfl) rfl (fun _ => rfl) dX0_turn_30 (fun r11 h12 E => ?_)
    refine xr_gI C E xf_X0_110 dX0_turn_33 (fun x13 E => ?_)
    exact xr_iret C Z E dX0_turn_36
  · refine xr_iconst (-1) C (by decide) dX0_turn_8 ?_
    exact xr_iret C Z E dX0_turn_9
def mf_X0_breakUp (a0 : Option Nat) (a1 : Int32) (h0 : xk_H) : Option (Int32 × xk_H) :=
  xm_rc [0] a0 h0 <| xm_cl (mf_X0_isCrate a0 a1 h0) fun r1 h2 => if xk_b2 r1 = 0 then (some ((-1 : Int32), h2)) else (xm_rc [0] a0 h2 <| xm_cl (mf_X0_records a0 h2) fun r3 h4 => xm_gR [0] 0 a0 h4 fun x5 => xm_rc [1] x5 h4 <| xm_cl (mf_X1_whyNotBreak x5 a1 h4) fun r6 h7 => if r6 ≤ 0 then (xm_gR [0] 0 a0 h7 fun x8 => xm_rc [1] x8 h7 <| xm_cl (mf_X1_breaksUp x8 a1 h7) fun r9 h10 => xm_gR [0] 0 a0 h10 fun x11 => xm_rc [1] x11 h10 <| xm_cl (mf_X1_size x11 h10) fun r12 h13 => some (((10 : Int32) + r12), h13)) else (xm_rc [0] a0 h7 <| xm_cl (mf_X0_refuses a0 r6 h7) fun r14 h15 => some (r14, h15)))
set_option maxHeartbeats 1000000 in
theorem wk_X0_breakUp {l : Launch} {D : va_G} {base : Nat} {a0 : Option Nat} {a1 : Int32} {h0 : xk_H} {r : Int32} {h' : xk_H} (E : mf_X0_breakUp a0 a1 h0 = some (r, h')) : xk_Ok l D base yX0_breakUp cX0_breakUp 3 (Option.some FieldType.int) 10 255 [va_rf a0, .int a1] h0 (some (.int r)) h' := by
  refine xk_ofX RX0 "breakUp" xq_X0_breakUp rfl rfl (Nat.le_of_ble_eq_true rfl) ⟨xk_crf _, ⟨rfl, trivial⟩⟩ (fun Γ el eD eb C Z => ?_)
  rw [mf_X0_breakUp] at E
  show xk_X Γ 0 [(0, va_rf a0), (1, .int a1)] [] h0
  refine xr_aload_n 0 C rfl rfl dX0_breakUp_0 ?_
  refine xr_iload_n 1 C rfl rfl dX0_breakUp_1 ?_
  refine xr_V (v := a0) [.int a1] [] (fun r => some (.int (xk_b2 r))) (fun r => .int (xk_b2 r) :: []) C E xi_0_SlatCrates (fun r h' e => wk_X0_isCrate e) q905 q907 qs8 q78 q908 xh_SlatCrates xd_X0_isCrate (by decide) (by decide) trivial (Nat.le_of_ble_eq_true rfl) rfl (fun _ => rfl) dX0_breakUp_2 (fun r1 h2 E => ?_)
  refine xr_if_ne 10 C E dX0_breakUp_5 (by decide) (fun E => ?_) (fun E => ?_)
  · refine xr_aload_n 0 C rfl rfl dX0_breakUp_10 ?_
    refine xr_V (v := a0) [] [] (fun _ => none) (fun _ => []) C E xi_0_SlatCrates (fun r h' e => wk_X0_records e) q269 q271 qs0 q78 q272 xh_SlatCrates xd_X0_records (by decide) (by decide) trivial (Nat.le_of_ble_eq_true rfl) rfl (fun _ => rfl) dX0_breakUp_11 (fun r3 h4 E => ?_)
    refine xr_aload_n 0 C rfl rfl dX0_breakUp_14 ?_
    refine xr_gR C E xf_X0_10 dX0_breakUp_15 (fun x5 E => ?_)
    refine xr_iload_n 1 C rfl rfl dX0_breakUp_18 ?_
    refine xr_V (v := x5) [.int a1] [] (fun r => some (.int r)) (fun r => .int r :: []) C E xi_1_SlatCratesYard (fun r h' e => wk_X1_whyNotBreak e) q1045 q1046 q1047 q79 q1048 xh_SlatCrates_Yard xd_X1_whyNotBreak (by decide) (by decide) trivial (Nat.le_of_ble_eq_true rfl) rfl (fun _ => rfl) dX0_breakUp_19 (fun r6 h7 E => ?_)
    refine xr_istore_n (L2 := [(2, .int r6), (0, va_rf a0), (1, .int a1)]) C rfl rfl dX0_breakUp_22 (by decide) ?_
    refine xr_iload_n 0 C rfl rfl dX0_breakUp_23 ?_
    refine xr_if_le 33 C E dX0_breakUp_24 (by decide) (fun E => ?_) (fun E => ?_)
    · refine xr_aload_n 1 C rfl rfl dX0_breakUp_33 ?_
      refine xr_gR C E xf_X0_10 dX0_breakUp_34 (fun x8 E => ?_)
      refine xr_iload_n 2 C rfl rfl dX0_breakUp_37 ?_
      refine xr_V (v := x8) [.int a1] [] (fun _ => none) (fun _ => []) C E xi_1_SlatCratesYard (fun r h' e => wk_X1_breaksUp e) q1053 q1054 q1055 q79 q1056 xh_SlatCrates_Yard xd_X1_breaksUp (by decide) (by decide) trivial (Nat.le_of_ble_eq_true rfl) rfl (fun _ => rfl) dX0_breakUp_38 (fun r9 h10 E => ?_)
      refine xr_bipush (10) C (by decide) dX0_breakUp_41 ?_
      refine xr_aload_n 1 C rfl rfl dX0_breakUp_43 ?_
      refine xr_gR C E xf_X0_10 dX0_breakUp_44 (fun x11 E => ?_)
      refine xr_V (v := x11) [] [.int (10 : Int32)] (fun r => some (.int r)) (fun r => .int r :: [.int (10 : Int32)]) C E xi_1_SlatCratesYard (fun r h' e => wk_X1_size e) q261 q262 q263 q79 q264 xh_SlatCrates_Yard xd_X1_size (by decide) (by decide) ⟨rfl, trivial⟩ (Nat.le_of_ble_eq_true rfl) rfl (fun _ => rfl) dX0_breakUp_47 (fun r12 h13 E => ?_)
      refine xr_iadd C dX0_breakUp_50 ?_
      exact xr_iret C Z E dX0_breakUp_51
    · refine xr_aload_n 1 C rfl rfl dX0_breakUp_27 ?_
      refine xr_iload_n 0 C rfl rfl dX0_breakUp_28 ?_
      refine xr_V (v := a0) [.int r6] [] (fun r => some (.int r)) (fun r => .int r :: []) C E xi_0_SlatCrates (fun r h' e => wk_X0_refuses e) q999 q1001 qs9 q78 q1002 xh_SlatCrates xd_X0_refuses (by decide) (by decide) trivial (Nat.le_of_ble_eq_true rfl) rfl (fun _ => rfl) dX0_breakUp_29 (fun r14 h15 E => ?_)
      exact xr_iret C Z E dX0_breakUp_32
  · refine xr_iconst (-1) C (by decide) dX0_breakUp_8 ?_
    exact xr_iret C Z E dX0_breakUp_9
def mf_X0_append (a0 : Option Nat) (a1 : Int32) (h0 : xk_H) : Option (Int32 × xk_H) :=
  xm_cl (mf_X0_inRange a1 (33 : Int32) (126 : Int32) h0) fun r1 h2 => if xk_b2 r1 = 0 then (some ((-1 : Int32), h2)) else (xm_gR [0] 3 a0 h2 fun x3 => xm_rc [8] x3 h2 <| xm_cl (mf_J6_length x3 h2) fun r4 h5 => if r4 = (80 : Int32) then (some ((-3 : Int32), h5)) else (xm_gR [0] 3 a0 h5 fun x6 => xm_rc [8] x6 h5 <| xm_cl (mf_J6_append_2 x6 ((a1.toUInt32 % 65536).toInt32) h5) fun r7 h8 => xm_gR [0] 3 a0 h8 fun x9 => xm_rc [8] x9 h8 <| xm_cl (mf_J6_length x9 h8) fun r10 h11 => some (r10, h11)))
set_option maxHeartbeats 1000000 in
theorem wk_X0_append {l : Launch} {D : va_G} {base : Nat} {a0 : Option Nat} {a1 : Int32} {h0 : xk_H} {r : Int32} {h' : xk_H} (E : mf_X0_append a0 a1 h0 = some (r, h')) : xk_Ok l D base yX0_append cX0_append 2 (Option.some FieldType.int) 7 193 [va_rf a0, .int a1] h0 (some (.int r)) h' := by
  refine xk_ofX RX0 "append" xq_X0_append rfl rfl (Nat.le_of_ble_eq_true rfl) ⟨xk_crf _, ⟨rfl, trivial⟩⟩ (fun Γ el eD eb C Z => ?_)
  rw [mf_X0_append] at E
  show xk_X Γ 0 [(0, va_rf a0), (1, .int a1)] [] h0
  refine xr_iload_n 1 C rfl rfl dX0_append_0 ?_
  refine xr_bipush (33) C (by decide) dX0_append_1 ?_
  refine xr_bipush (126) C (by decide) dX0_append_3 ?_
  refine xr_S [.int a1, .int (33 : Int32), .int (126 : Int32)] [] (fun r => some (.int (xk_b2 r))) (fun r => .int (xk_b2 r) :: []) C E (fun r h' e => wk_X0_inRange e) q258 q259 q78 q260 xh_SlatCrates xd_X0_inRange (by decide) (by decide) trivial (Nat.le_of_ble_eq_true rfl) rfl (fun _ => rfl) dX0_append_5 (fun r1 h2 E => ?_)
  refine xr_if_ne 13 C E dX0_append_8 (by decide) (fun E => ?_) (fun E => ?_)
  · refine xr_aload_n 0 C rfl rfl dX0_append_13 ?_
    refine xr_gR C E xf_X0_26 dX0_append_14 (fun x3 E => ?_)
    refine xr_V (v := x3) [] [] (fun r => some (.int r)) (fun r => .int r :: []) C E xi_8_StringBuilder (fun r h' e => wk_J6_length e) q1065 q643 q2505 q86 q644 xh_java_lang_StringBuilder xd_J6_length (by decide) (by decide) trivial (Nat.le_of_ble_eq_true rfl) rfl (fun _ => rfl) dX0_append_17 (fun r4 h5 E => ?_)
    refine xr_bipush (80) C (by decide) dX0_append_20 ?_
    refine xr_icmp_ne 28 C E dX0_append_22 (by decide) (fun E => ?_) (fun E => ?_)
    · refine xr_aload_n 0 C rfl rfl dX0_append_28 ?_
      refine xr_gR C E xf_X0_26 dX0_append_29 (fun x6 E => ?_)
      refine xr_iload_n 1 C rfl rfl dX0_append_32 ?_
      refine xr_i2c C dX0_append_33 ?_
      refine xr_V (v := x6) [.int ((a1.toUInt32 % 65536).toInt32)] [] (fun r => some (va_rf r)) (fun r => va_rf r :: []) C E xi_8_StringBuilder (fun r h' e => wk_J6_append_2 e) q1066 q1067 q1068 q86 q1069 xh_java_lang_StringBuilder xd_J6_append_2 (by decide) (by decide) trivial (Nat.le_of_ble_eq_true rfl) rfl (fun _ => rfl) dX0_append_34 (fun r7 h8 E => ?_)
      refine xr_pop C (xk_crf _) dX0_append_37 ?_
      refine xr_aload_n 0 C rfl rfl dX0_append_38 ?_
      refine xr_gR C E xf_X0_26 dX0_append_39 (fun x9 E => ?_)
      refine xr_V (v := x9) [] [] (fun r => some (.int r)) (fun r => .int r :: []) C E xi_8_StringBuilder (fun r h' e => wk_J6_length e) q1065 q643 q2505 q86 q644 xh_java_lang_StringBuilder xd_J6_length (by decide) (by decide) trivial (Nat.le_of_ble_eq_true rfl) rfl (fun _ => rfl) dX0_append_42 (fun r10 h11 E => ?_)
      exact xr_iret C Z E dX0_append_45
    · refine xr_bipush (-3) C (by decide) dX0_append_25 ?_
      exact xr_iret C Z E dX0_append_27
  · refine xr_iconst (-1) C (by decide) dX0_append_11 ?_
    exact xr_iret C Z E dX0_append_12
def mf_X0_clear (a0 : Option Nat) (h0 : xk_H) : Option (Int32 × xk_H) :=
  xm_gR [0] 3 a0 h0 fun x1 => xm_rc [8] x1 h0 <| xm_cl (mf_J6_length x1 h0) fun r2 h3 => xm_gR [0] 3 a0 h3 fun x4 => xm_rc [8] x4 h3 <| xm_cl (mf_J6_setLength x4 (0 : Int32) h3) fun r5 h6 => some (r2, h6)
set_option maxHeartbeats 1000000 in
theorem wk_X0_clear {l : Launch} {D : va_G} {base : Nat} {a0 : Option Nat} {h0 : xk_H} {r : Int32} {h' : xk_H} (E : mf_X0_clear a0 h0 = some (r, h')) : xk_Ok l D base yX0_clear cX0_clear 2 (Option.some FieldType.int) 7 193 [va_rf a0] h0 (some (.int r)) h' := by
  refine xk_ofX RX0 "clear" xq_X0_clear rfl rfl (Nat.le_of_ble_eq_true rfl) ⟨xk_crf _, trivial⟩ (fun Γ el eD eb C Z => ?_)
  rw [mf_X0_clear] at E
  show xk_X Γ 0 [(0, va_rf a0)] [] h0
  refine xr_aload_n 0 C rfl rfl dX0_clear_0 ?_
  refine xr_gR C E xf_X0_26 dX0_clear_1 (fun x1 E => ?_)
  refine xr_V (v := x1) [] [] (fun r => some (.int r)) (fun r => .int r :: []) C E xi_8_StringBuilder (fun r h' e => wk_J6_length e) q1065 q643 q2505 q86 q644 xh_java_lang_StringBuilder xd_J6_length (by decide) (by decide) trivial (Nat.le_of_ble_eq_true rfl) rfl (fun _ => rfl) dX0_clear_4 (fun r2 h3 E => ?_)
  refine xr_istore_n (L2 := [(1, .int r2), (0, va_rf a0)]) C rfl rfl dX0_clear_7 (by decide) ?_
  refine xr_aload_n 1 C rfl rfl dX0_clear_8 ?_
  refine xr_gR C E xf_X0_26 dX0_clear_9 (fun x4 E => ?_)
  refine xr_iconst (0) C (by decide) dX0_clear_12 ?_
  refine xr_V (v := x4) [.int (0 : Int32)] [] (fun _ => none) (fun _ => []) C E xi_8_StringBuilder (fun r h' e => wk_J6_setLength e) q1090 q1091 q1092 q86 q1093 xh_java_lang_StringBuilder xd_J6_setLength (by decide) (by decide) trivial (Nat.le_of_ble_eq_true rfl) rfl (fun _ => rfl) dX0_clear_13 (fun r5 h6 E => ?_)
  refine xr_iload_n 0 C rfl rfl dX0_clear_16 ?_
  exact xr_iret C Z E dX0_clear_17
def mf_X4_isNow (a0 : Option Nat) (a1 : Int32) (a2 : Int32) (h0 : xk_H) : Option (Bool × xk_H) :=
  xm_gI [4] 2 a0 h0 fun x1 => if x1 = 0 then (xm_gI [4] 1 a0 h0 fun x2 => xm_gR [4] 0 a0 h0 fun x3 => xm_rc [8] x3 h0 <| xm_cl (mf_J6_length x3 h0) fun r4 h5 => if r4 ≤ x2 then (some (false, h5)) else (xm_gR [4] 0 a0 h5 fun x6 => xm_gI [4] 1 a0 h5 fun x7 => xm_rc [8] x6 h5 <| xm_cl (mf_J6_charAt x6 x7 h5) fun r8 h9 => xm_cl (mf_X0_inRange r8 a1 a2 h9) fun r10 h11 => if xk_b2 r10 = 0 then (some (false, h11)) else (some (true, h11)))) else (some (false, h0))
set_option maxHeartbeats 1000000 in
theorem wk_X4_isNow {l : Launch} {D : va_G} {base : Nat} {a0 : Option Nat} {a1 : Int32} {a2 : Int32} {h0 : xk_H} {r : Bool} {h' : xk_H} (E : mf_X4_isNow a0 a1 a2 h0 = some (r, h')) : xk_Ok l D base yX4_isNow cX4_isNow 3 (Option.some FieldType.boolean) 5 148 [va_rf a0, .int a1, .int a2] h0 (some (.int (xk_b2 r))) h' := by
  refine xk_ofX RX4 "isNow" xq_X4_isNow rfl rfl (Nat.le_of_ble_eq_true rfl) ⟨xk_crf _, ⟨rfl, ⟨rfl, trivial⟩⟩⟩ (fun Γ el eD eb C Z => ?_)
  rw [mf_X4_isNow] at E
  show xk_X Γ 0 [(0, va_rf a0), (1, .int a1), (2, .int a2)] [] h0
  refine xr_aload_n 0 C rfl rfl dX4_isNow_0 ?_
  refine xr_gI C E xf_X4_26 dX4_isNow_1 (fun x1 E => ?_)
  refine xr_if_ne 44 C E dX4_isNow_4 (by decide) (fun E => ?_) (fun E => ?_)
  · refine xr_iconst (0) C (by decide) dX4_isNow_44 ?_
    exact xr_bret (b := false) C Z E dX4_isNow_45
  · refine xr_aload_n 0 C rfl rfl dX4_isNow_7 ?_
    refine xr_gI C E xf_X4_30 dX4_isNow_8 (fun x2 E => ?_)
    refine xr_aload_n 0 C rfl rfl dX4_isNow_11 ?_
    refine xr_gR C E xf_X4_18 dX4_isNow_12 (fun x3 E => ?_)
    refine xr_V (v := x3) [] [.int x2] (fun r => some (.int r)) (fun r => .int r :: [.int x2]) C E xi_8_StringBuilder (fun r h' e => wk_J6_length e) q1155 q643 q2505 q86 q644 xh_java_lang_StringBuilder xd_J6_length (by decide) (by decide) ⟨rfl, trivial⟩ (Nat.le_of_ble_eq_true rfl) rfl (fun _ => rfl) dX4_isNow_15 (fun r4 h5 E => ?_)
    refine xr_icmp_ge 44 C E dX4_isNow_18 (by decide) (fun E => ?_) (fun E => ?_)
    · refine xr_iconst (0) C (by decide) dX4_isNow_44 ?_
      exact xr_bret (b := false) C Z E dX4_isNow_45
    · refine xr_aload_n 0 C rfl rfl dX4_isNow_21 ?_
      refine xr_gR C E xf_X4_18 dX4_isNow_22 (fun x6 E => ?_)
      refine xr_aload_n 0 C rfl rfl dX4_isNow_25 ?_
      refine xr_gI C E xf_X4_30 dX4_isNow_26 (fun x7 E => ?_)
      refine xr_V (v := x6) [.int x7] [] (fun r => some (.int r)) (fun r => .int r :: []) C E xi_8_StringBuilder (fun r h' e => wk_J6_charAt e) q1156 q1157 q1158 q86 q1159 xh_java_lang_StringBuilder xd_J6_charAt (by decide) (by decide) trivial (Nat.le_of_ble_eq_true rfl) rfl (fun _ => rfl) dX4_isNow_29 (fun r8 h9 E => ?_)
      refine xr_iload_n 1 C rfl rfl dX4_isNow_32 ?_
      refine xr_iload_n 2 C rfl rfl dX4_isNow_33 ?_
      refine xr_SN [.int r8, .int a1, .int a2] [] (fun r => some (.int (xk_b2 r))) (fun r => .int (xk_b2 r) :: []) C E (fun r h' e => wk_X0_inRange e) (List.mem_of_getElem? (i := 2) rfl) q259 q78 q260 xh_SlatCrates xd_X0_inRange (by decide) (by decide) trivial (Nat.le_of_ble_eq_true rfl) rfl (fun _ => rfl) dX4_isNow_34 (fun r10 h11 E => ?_)
      refine xr_if_eq 44 C E dX4_isNow_37 (by decide) (fun E => ?_) (fun E => ?_)
      · refine xr_iconst (0) C (by decide) dX4_isNow_44 ?_
        exact xr_bret (b := false) C Z E dX4_isNow_45
      · refine xr_iconst (1) C (by decide) dX4_isNow_40 ?_
        refine xr_goto 45 C dX4_isNow_41 (by decide) ?_
        exact xr_bret (b := true) C Z E dX4_isNow_45
def mf_X4_label_L5 (kx39 : xk_H → Option (Option Nat × xk_H)) (a0 : Option Nat) (a1 : Int32) : Nat → xk_H → Option (Option Nat × xk_H)
  | 0, _ => none
  | n + 1, h0 => xm_gI [4] 1 a0 h0 fun x2 => if (4 : Int32) ≤ (x2 - a1) then (kx39 h0) else (xm_rc [4] a0 h0 <| xm_cl (mf_X4_isNow a0 (65 : Int32) (90 : Int32) h0) fun r3 h4 => if xk_b2 r3 = 0 then (kx39 h4) else (xm_gI [4] 1 a0 h4 fun x5 => xm_pV [4] 1 a0 (.int (x5 + (1 : Int32))) h4 fun h6 => mf_X4_label_L5 kx39 a0 a1 n h6))
set_option maxHeartbeats 1000000 in
theorem wk_X4_label_L5 {Γ : xk_C} {r : Option Nat} {h' : xk_H} {kx39 : xk_H → Option (Option Nat × xk_H)} {a0 : Option Nat} {a1 : Int32} (C : xk_Cx Γ RX4 cX4_label 4 (Option.some (FieldType.array FieldType.int)) "label" 6 170) (Z : xk_Z Γ (some (va_rf r)) h') (hkx39 : ∀ (g : xk_H), kx39 g = some (r, h') → xk_X Γ 39 [(0, va_rf a0), (1, .int a1)] [] g) : ∀ (n : Nat) (h0 : xk_H), mf_X4_label_L5 kx39 a0 a1 n h0 = some (r, h') → xk_X Γ 5 [(0, va_rf a0), (1, .int a1)] [] h0 := by
  intro n
  induction n with
  | zero =>
    intro  h0 E
    rw [mf_X4_label_L5] at E
    cases E
  | succ n ih =>
    intro  h0 E
    have hkb5 : ∀ (g : xk_H), mf_X4_label_L5 kx39 a0 a1 n g = some (r, h') → xk_X Γ 5 [(0, va_rf a0), (1, .int a1)] [] g := ih
    rw [mf_X4_label_L5] at E
    refine xr_aload_n 0 C rfl rfl dX4_label_5 ?_
    refine xr_gI C E xf_X4_30 dX4_label_6 (fun x2 E => ?_)
    refine xr_iload_n 1 C rfl rfl dX4_label_9 ?_
    refine xr_isub C dX4_label_10 ?_
    refine xr_iconst (4) C (by decide) dX4_label_11 ?_
    refine xr_icmp_ge 39 C E dX4_label_12 (by decide) (fun E => ?_) (fun E => ?_)
    · exact hkx39 h0 E
    · refine xr_aload_n 0 C rfl rfl dX4_label_15 ?_
      refine xr_bipush (65) C (by decide) dX4_label_16 ?_
      refine xr_bipush (90) C (by decide) dX4_label_18 ?_
      refine xr_V (v := a0) [.int (65 : Int32), .int (90 : Int32)] [] (fun r => some (.int (xk_b2 r))) (fun r => .int (xk_b2 r) :: []) C E xi_4_SlatCratesReader (fun r h' e => wk_X4_isNow e) q1151 q1153 qs14 q107 q1154 xh_SlatCrates_Reader xd_X4_isNow (by decide) (by decide) trivial (Nat.le_of_ble_eq_true rfl) rfl (fun _ => rfl) dX4_label_20 (fun r3 h4 E => ?_)
      refine xr_if_eq 39 C E dX4_label_23 (by decide) (fun E => ?_) (fun E => ?_)
      · exact hkx39 h4 E
      · refine xr_aload_n 0 C rfl rfl dX4_label_26 ?_
        refine xr_dup C (xk_crf _) dX4_label_27 ?_
        refine xr_gI C E xf_X4_30 dX4_label_28 (fun x5 E => ?_)
        refine xr_iconst (1) C (by decide) dX4_label_31 ?_
        refine xr_iadd C dX4_label_32 ?_
        refine xr_pI C E xf_X4_30 xp_X4_30 dX4_label_33 (fun h6 E => ?_)
        refine xr_goto 5 C dX4_label_36 (by decide) ?_
        exact hkb5 h6 E
def mf_X4_label_L74 (a0 : Option Nat) (a1 : Int32) (a2 : Option Nat) : Nat → Int32 → xk_H → Option (Option Nat × xk_H)
  | 0, _, _ => none
  | n + 1, a3, h0 => xm_len [100] a2 h0 fun x13 => if x13 ≤ a3 then (some (a2, h0)) else (xm_gR [4] 0 a0 h0 fun x14 => xm_rc [8] x14 h0 <| xm_cl (mf_J6_charAt x14 (a1 + a3) h0) fun r15 h16 => xm_sV [100] a2 a3 (.int (r15 - (65 : Int32))) h16 fun h17 => mf_X4_label_L74 a0 a1 a2 n (a3 + 1) h17)
set_option maxHeartbeats 1000000 in
theorem wk_X4_label_L74 {Γ : xk_C} {r : Option Nat} {h' : xk_H} {a0 : Option Nat} {a1 : Int32} {a2 : Option Nat} (C : xk_Cx Γ RX4 cX4_label 4 (Option.some (FieldType.array FieldType.int)) "label" 6 170) (Z : xk_Z Γ (some (va_rf r)) h') : ∀ (n : Nat) (a3 : Int32) (h0 : xk_H), mf_X4_label_L74 a0 a1 a2 n a3 h0 = some (r, h') → xk_X Γ 74 [(0, va_rf a0), (1, .int a1), (2, va_rf a2), (3, .int a3)] [] h0 := by
  intro n
  induction n with
  | zero =>
    intro a3 h0 E
    rw [mf_X4_label_L74] at E
    cases E
  | succ n ih =>
    intro a3 h0 E
    have hkb74 : ∀ (m3 : Int32) (g : xk_H), mf_X4_label_L74 a0 a1 a2 n m3 g = some (r, h') → xk_X Γ 74 [(0, va_rf a0), (1, .int a1), (2, va_rf a2), (3, .int m3)] [] g := ih
    rw [mf_X4_label_L74] at E
    refine xr_iload_n 3 C rfl rfl dX4_label_74 ?_
    refine xr_aload_n 2 C rfl rfl dX4_label_75 ?_
    refine xr_len 0 .int C E (fun _ => rfl) xt_100 dX4_label_76 (fun x13 E => ?_)
    refine xr_icmp_ge 102 C E dX4_label_77 (by decide) (fun E => ?_) (fun E => ?_)
    · refine xr_aload_n 2 C rfl rfl dX4_label_102 ?_
      exact xr_aret C Z E (Or.inr ⟨_, rfl⟩) dX4_label_103
    · refine xr_aload_n 2 C rfl rfl dX4_label_80 ?_
      refine xr_iload_n 3 C rfl rfl dX4_label_81 ?_
      refine xr_aload_n 0 C rfl rfl dX4_label_82 ?_
      refine xr_gR C E xf_X4_18 dX4_label_83 (fun x14 E => ?_)
      refine xr_iload_n 1 C rfl rfl dX4_label_86 ?_
      refine xr_iload_n 3 C rfl rfl dX4_label_87 ?_
      refine xr_iadd C dX4_label_88 ?_
      refine xr_V (v := x14) [.int (a1 + a3)] [.int a3, va_rf a2] (fun r => some (.int r)) (fun r => .int r :: [.int a3, va_rf a2]) C E xi_8_StringBuilder (fun r h' e => wk_J6_charAt e) q1156 q1157 q1158 q86 q1159 xh_java_lang_StringBuilder xd_J6_charAt (by decide) (by decide) ⟨rfl, ⟨xk_crf _, trivial⟩⟩ (Nat.le_of_ble_eq_true rfl) rfl (fun _ => rfl) dX4_label_89 (fun r15 h16 E => ?_)
      refine xr_bipush (65) C (by decide) dX4_label_92 ?_
      refine xr_isub C dX4_label_94 ?_
      refine xr_sI C E dX4_label_95 (fun h17 E => ?_)
      refine xr_iinc (v := (a3 + 1)) (L2 := [(3, .int (a3 + 1)), (0, va_rf a0), (1, .int a1), (2, va_rf a2)]) 3 C rfl rfl rfl dX4_label_96 (by decide) ?_
      refine xr_goto 74 C dX4_label_99 (by decide) ?_
      refine xr_sub [1, 2, 3, 0] rfl ?_
      exact hkb74 (a3 + 1) h17 E
def mf_X4_label_J39 (a0 : Option Nat) (a1 : Int32) (h0 : xk_H) : Option (Option Nat × xk_H) :=
  xm_gI [4] 2 a0 h0 fun x8 => if x8 = 0 then (xm_gI [4] 1 a0 h0 fun x18 => if x18 = a1 then (xm_pN .boolean [4] 2 a0 (1 : Int32) h0 fun h23 => xm_gI [4] 1 a0 h23 fun x24 => xm_nwa 100 (.int 0) (x24 - a1) h23 fun b25 h26 => mf_X4_label_L74 a0 a1 (some b25) xk_fu (0 : Int32) h26) else (xm_pN .boolean [4] 2 a0 (0 : Int32) h0 fun h19 => xm_gI [4] 1 a0 h19 fun x20 => xm_nwa 100 (.int 0) (x20 - a1) h19 fun b21 h22 => mf_X4_label_L74 a0 a1 (some b21) xk_fu (0 : Int32) h22)) else (xm_pN .boolean [4] 2 a0 (1 : Int32) h0 fun h9 => xm_gI [4] 1 a0 h9 fun x10 => xm_nwa 100 (.int 0) (x10 - a1) h9 fun b11 h12 => mf_X4_label_L74 a0 a1 (some b11) xk_fu (0 : Int32) h12)
set_option maxHeartbeats 1000000 in
theorem wk_X4_label_J39 {Γ : xk_C} {r : Option Nat} {h' : xk_H} {a0 : Option Nat} {a1 : Int32} {h0 : xk_H} (C : xk_Cx Γ RX4 cX4_label 4 (Option.some (FieldType.array FieldType.int)) "label" 6 170) (Z : xk_Z Γ (some (va_rf r)) h') (E : mf_X4_label_J39 a0 a1 h0 = some (r, h')) : xk_X Γ 39 [(0, va_rf a0), (1, .int a1)] [] h0 := by
  rw [mf_X4_label_J39] at E
  refine xr_aload_n 0 C rfl rfl dX4_label_39 ?_
  refine xr_aload_n 0 C rfl rfl dX4_label_40 ?_
  refine xr_gI C E xf_X4_26 dX4_label_41 (fun x8 E => ?_)
  refine xr_if_ne 55 C E dX4_label_44 (by decide) (fun E => ?_) (fun E => ?_)
  · refine xr_iconst (1) C (by decide) dX4_label_55 ?_
    refine xr_goto 60 C dX4_label_56 (by decide) ?_
    refine xr_pN C E xf_X4_26 xp_X4_26 dX4_label_60 (fun h9 E => ?_)
    refine xr_aload_n 0 C rfl rfl dX4_label_63 ?_
    refine xr_gI C E xf_X4_30 dX4_label_64 (fun x10 E => ?_)
    refine xr_iload_n 1 C rfl rfl dX4_label_67 ?_
    refine xr_isub C dX4_label_68 ?_
    refine xr_nwI C E q316 dX4_label_69 (fun b11 h12 E => ?_)
    refine xr_astore_n (L2 := [(2, va_rf (some b11)), (0, va_rf a0), (1, .int a1)]) C rfl rfl dX4_label_71 (by decide) ?_
    refine xr_iconst (0) C (by decide) dX4_label_72 ?_
    refine xr_istore_n (L2 := [(3, .int (0 : Int32)), (2, va_rf (some b11)), (0, va_rf a0), (1, .int a1)]) C rfl rfl dX4_label_73 (by decide) ?_
    refine xr_sub [2, 3, 1, 0] rfl ?_
    exact wk_X4_label_L74 (a0 := a0) (a1 := a1) (a2 := (some b11)) C Z xk_fu (0 : Int32) h12 E
  · refine xr_aload_n 0 C rfl rfl dX4_label_47 ?_
    refine xr_gI C E xf_X4_30 dX4_label_48 (fun x18 E => ?_)
    refine xr_iload_n 1 C rfl rfl dX4_label_51 ?_
    refine xr_icmp_ne 59 C E dX4_label_52 (by decide) (fun E => ?_) (fun E => ?_)
    · refine xr_iconst (0) C (by decide) dX4_label_59 ?_
      refine xr_pN C E xf_X4_26 xp_X4_26 dX4_label_60 (fun h19 E => ?_)
      refine xr_aload_n 0 C rfl rfl dX4_label_63 ?_
      refine xr_gI C E xf_X4_30 dX4_label_64 (fun x20 E => ?_)
      refine xr_iload_n 1 C rfl rfl dX4_label_67 ?_
      refine xr_isub C dX4_label_68 ?_
      refine xr_nwI C E q316 dX4_label_69 (fun b21 h22 E => ?_)
      refine xr_astore_n (L2 := [(2, va_rf (some b21)), (0, va_rf a0), (1, .int a1)]) C rfl rfl dX4_label_71 (by decide) ?_
      refine xr_iconst (0) C (by decide) dX4_label_72 ?_
      refine xr_istore_n (L2 := [(3, .int (0 : Int32)), (2, va_rf (some b21)), (0, va_rf a0), (1, .int a1)]) C rfl rfl dX4_label_73 (by decide) ?_
      refine xr_sub [2, 3, 1, 0] rfl ?_
      exact wk_X4_label_L74 (a0 := a0) (a1 := a1) (a2 := (some b21)) C Z xk_fu (0 : Int32) h22 E
    · refine xr_iconst (1) C (by decide) dX4_label_55 ?_
      refine xr_goto 60 C dX4_label_56 (by decide) ?_
      refine xr_pN C E xf_X4_26 xp_X4_26 dX4_label_60 (fun h23 E => ?_)
      refine xr_aload_n 0 C rfl rfl dX4_label_63 ?_
      refine xr_gI C E xf_X4_30 dX4_label_64 (fun x24 E => ?_)
      refine xr_iload_n 1 C rfl rfl dX4_label_67 ?_
      refine xr_isub C dX4_label_68 ?_
      refine xr_nwI C E q316 dX4_label_69 (fun b25 h26 E => ?_)
      refine xr_astore_n (L2 := [(2, va_rf (some b25)), (0, va_rf a0), (1, .int a1)]) C rfl rfl dX4_label_71 (by decide) ?_
      refine xr_iconst (0) C (by decide) dX4_label_72 ?_
      refine xr_istore_n (L2 := [(3, .int (0 : Int32)), (2, va_rf (some b25)), (0, va_rf a0), (1, .int a1)]) C rfl rfl dX4_label_73 (by decide) ?_
      refine xr_sub [2, 3, 1, 0] rfl ?_
      exact wk_X4_label_L74 (a0 := a0) (a1 := a1) (a2 := (some b25)) C Z xk_fu (0 : Int32) h26 E
def mf_X4_label (a0 : Option Nat) (h0 : xk_H) : Option (Option Nat × xk_H) :=
  xm_gI [4] 1 a0 h0 fun x1 => mf_X4_label_L5 (fun h7 => mf_X4_label_J39 a0 x1 h7) a0 x1 xk_fu h0
set_option maxHeartbeats 1000000 in
theorem wk_X4_label {l : Launch} {D : va_G} {base : Nat} {a0 : Option Nat} {h0 : xk_H} {r : Option Nat} {h' : xk_H} (E : mf_X4_label a0 h0 = some (r, h')) : xk_Ok l D base yX4_label cX4_label 4 (Option.some (FieldType.array FieldType.int)) 6 170 [va_rf a0] h0 (some (va_rf r)) h' := by
  refine xk_ofX RX4 "label" xq_X4_label rfl rfl (Nat.le_of_ble_eq_true rfl) ⟨xk_crf _, trivial⟩ (fun Γ el eD eb C Z => ?_)
  rw [mf_X4_label] at E
  show xk_X Γ 0 [(0, va_rf a0)] [] h0
  refine xr_aload_n 0 C rfl rfl dX4_label_0 ?_
  refine xr_gI C E xf_X4_30 dX4_label_1 (fun x1 E => ?_)
  refine xr_istore_n (L2 := [(1, .int x1), (0, va_rf a0)]) C rfl rfl dX4_label_4 (by decide) ?_
  refine xr_sub [1, 0] rfl ?_
  refine wk_X4_label_L5 (a0 := a0) (a1 := x1) C Z (fun h7 E => ?_) xk_fu h0 E
  · exact wk_X4_label_J39 C Z E
def mf_X4_number_L45 (a0 : Option Nat) (a2 : Int32) : Nat → Int32 → Int32 → xk_H → Option (Int32 × xk_H)
  | 0, _, _, _ => none
  | n + 1, a3, a4, h0 => if a4 = 0 then (some (a3, h0)) else (xm_gR [4] 0 a0 h0 fun x4 => xm_gI [4] 1 a0 h0 fun x5 => xm_rc [8] x4 h0 <| xm_cl (mf_J6_charAt x4 x5 h0) fun r6 h7 => xm_gI [4] 1 a0 h7 fun x8 => xm_pV [4] 1 a0 (.int (x8 + (1 : Int32))) h7 fun h9 => if ((((10 : Int32) * a3) + r6) - (48 : Int32)) ≤ 0 then (mf_X4_number_L45 a0 a2 n ((((10 : Int32) * a3) + r6) - (48 : Int32)) (0 : Int32) h9) else (xm_rc [4] a0 h9 <| xm_cl (mf_X4_isNow a0 (48 : Int32) (57 : Int32) h9) fun r10 h11 => if xk_b2 r10 = 0 then (mf_X4_number_L45 a0 a2 n ((((10 : Int32) * a3) + r6) - (48 : Int32)) (0 : Int32) h11) else (xm_gR [4] 0 a0 h11 fun x12 => xm_gI [4] 1 a0 h11 fun x13 => xm_rc [8] x12 h11 <| xm_cl (mf_J6_charAt x12 x13 h11) fun r14 h15 => if a2 < ((((10 : Int32) * ((((10 : Int32) * a3) + r6) - (48 : Int32))) + r14) - (48 : Int32)) then (mf_X4_number_L45 a0 a2 n ((((10 : Int32) * a3) + r6) - (48 : Int32)) (0 : Int32) h15) else (mf_X4_number_L45 a0 a2 n ((((10 : Int32) * a3) + r6) - (48 : Int32)) (1 : Int32) h15))))
set_option maxHeartbeats 1000000 in
theorem wk_X4_number_L45 {Γ : xk_C} {r : Int32} {h' : xk_H} {a0 : Option Nat} {a2 : Int32} (C : xk_Cx Γ RX4 cX4_number 5 (Option.some FieldType.int) "number" 6 170) (Z : xk_Z Γ (some (.int r)) h') : ∀ (n : Nat) (a3 : Int32) (a4 : Int32) (h0 : xk_H), mf_X4_number_L45 a0 a2 n a3 a4 h0 = some (r, h') → xk_X Γ 45 [(0, va_rf a0), (2, .int a2), (3, .int a3), (4, .int a4)] [] h0 := by
  intro n
  induction n with
  | zero =>
    intro a3 a4 h0 E
    rw [mf_X4_number_L45] at E
    cases E
  | succ n ih =>
    intro a3 a4 h0 E
    have hkb45 : ∀ (m3 : Int32) (m4 : Int32) (g : xk_H), mf_X4_number_L45 a0 a2 n m3 m4 g = some (r, h') → xk_X Γ 45 [(0, va_rf a0), (2, .int a2), (3, .int m3), (4, .int m4)] [] g := ih
    rw [mf_X4_number_L45] at E
    refine xr_iload 3 C rfl dX4_number_45 ?_
    refine xr_if_eq 128 C E dX4_number_47 (by decide) (fun E => ?_) (fun E => ?_)
    · refine xr_iload_n 2 C rfl rfl dX4_number_128 ?_
      exact xr_iret C Z E dX4_number_129
    · refine xr_bipush (10) C (by decide) dX4_number_50 ?_
      refine xr_iload_n 2 C rfl rfl dX4_number_52 ?_
      refine xr_imul C dX4_number_53 ?_
      refine xr_aload_n 0 C rfl rfl dX4_number_54 ?_
      refine xr_gR C E xf_X4_18 dX4_number_55 (fun x4 E => ?_)
      refine xr_aload_n 0 C rfl rfl dX4_number_58 ?_
      refine xr_gI C E xf_X4_30 dX4_number_59 (fun x5 E => ?_)
      refine xr_V (v := x4) [.int x5] [.int ((10 : Int32) * a3)] (fun r => some (.int r)) (fun r => .int r :: [.int ((10 : Int32) * a3)]) C E xi_8_StringBuilder (fun r h' e => wk_J6_charAt e) q1156 q1157 q1158 q86 q1159 xh_java_lang_StringBuilder xd_J6_charAt (by decide) (by decide) ⟨rfl, trivial⟩ (Nat.le_of_ble_eq_true rfl) rfl (fun _ => rfl) dX4_number_62 (fun r6 h7 E => ?_)
      refine xr_iadd C dX4_number_65 ?_
      refine xr_bipush (48) C (by decide) dX4_number_66 ?_
      refine xr_isub C dX4_number_68 ?_
      refine xr_istore_n (L2 := [(3, .int ((((10 : Int32) * a3) + r6) - (48 : Int32))), (0, va_rf a0), (2, .int a2), (4, .int a4)]) C rfl rfl dX4_number_69 (by decide) ?_
      refine xr_aload_n 1 C rfl rfl dX4_number_70 ?_
      refine xr_dup C (xk_crf _) dX4_number_71 ?_
      refine xr_gI C E xf_X4_30 dX4_number_72 (fun x8 E => ?_)
      refine xr_iconst (1) C (by decide) dX4_number_75 ?_
      refine xr_iadd C dX4_number_76 ?_
      refine xr_pI C E xf_X4_30 xp_X4_30 dX4_number_77 (fun h9 E => ?_)
      refine xr_iload_n 0 C rfl rfl dX4_number_80 ?_
      refine xr_if_le 122 C E dX4_number_81 (by decide) (fun E => ?_) (fun E => ?_)
      · refine xr_iconst (0) C (by decide) dX4_number_122 ?_
        refine xr_istore (L2 := [(4, .int (0 : Int32)), (3, .int ((((10 : Int32) * a3) + r6) - (48 : Int32))), (0, va_rf a0), (2, .int a2)]) C rfl dX4_number_123 (by decide) ?_
        refine xr_goto 45 C dX4_number_125 (by decide) ?_
        refine xr_sub [2, 3, 1, 0] rfl ?_
        exact hkb45 ((((10 : Int32) * a3) + r6) - (48 : Int32)) (0 : Int32) h9 E
      · refine xr_aload_n 1 C rfl rfl dX4_number_84 ?_
        refine xr_bipush (48) C (by decide) dX4_number_85 ?_
        refine xr_bipush (57) C (by decide) dX4_number_87 ?_
        refine xr_V (v := a0) [.int (48 : Int32), .int (57 : Int32)] [] (fun r => some (.int (xk_b2 r))) (fun r => .int (xk_b2 r) :: []) C E xi_4_SlatCratesReader (fun r h' e => wk_X4_isNow e) q1151 q1153 qs14 q107 q1154 xh_SlatCrates_Reader xd_X4_isNow (by decide) (by decide) trivial (Nat.le_of_ble_eq_true rfl) rfl (fun _ => rfl) dX4_number_89 (fun r10 h11 E => ?_)
        refine xr_if_eq 122 C E dX4_number_92 (by decide) (fun E => ?_) (fun E => ?_)
        · refine xr_iconst (0) C (by decide) dX4_number_122 ?_
          refine xr_istore (L2 := [(4, .int (0 : Int32)), (3, .int ((((10 : Int32) * a3) + r6) - (48 : Int32))), (0, va_rf a0), (2, .int a2)]) C rfl dX4_number_123 (by decide) ?_
          refine xr_goto 45 C dX4_number_125 (by decide) ?_
          refine xr_sub [2, 3, 1, 0] rfl ?_
          exact hkb45 ((((10 : Int32) * a3) + r6) - (48 : Int32)) (0 : Int32) h11 E
        · refine xr_bipush (10) C (by decide) dX4_number_95 ?_
          refine xr_iload_n 0 C rfl rfl dX4_number_97 ?_
          refine xr_imul C dX4_number_98 ?_
          refine xr_aload_n 1 C rfl rfl dX4_number_99 ?_
          refine xr_gR C E xf_X4_18 dX4_number_100 (fun x12 E => ?_)
          refine xr_aload_n 1 C rfl rfl dX4_number_103 ?_
          refine xr_gI C E xf_X4_30 dX4_number_104 (fun x13 E => ?_)
          refine xr_V (v := x12) [.int x13] [.int ((10 : Int32) * ((((10 : Int32) * a3) + r6) - (48 : Int32)))] (fun r => some (.int r)) (fun r => .int r :: [.int ((10 : Int32) * ((((10 : Int32) * a3) + r6) - (48 : Int32)))]) C E xi_8_StringBuilder (fun r h' e => wk_J6_charAt e) q1156 q1157 q1158 q86 q1159 xh_java_lang_StringBuilder xd_J6_charAt (by decide) (by decide) ⟨rfl, trivial⟩ (Nat.le_of_ble_eq_true rfl) rfl (fun _ => rfl) dX4_number_107 (fun r14 h15 E => ?_)
          refine xr_iadd C dX4_number_110 ?_
          refine xr_bipush (48) C (by decide) dX4_number_111 ?_
          refine xr_isub C dX4_number_113 ?_
          refine xr_iload_n 2 C rfl rfl dX4_number_114 ?_
          refine xr_icmp_gt 122 C E dX4_number_115 (by decide) (fun E => ?_) (fun E => ?_)
          · refine xr_iconst (0) C (by decide) dX4_number_122 ?_
            refine xr_istore (L2 := [(4, .int (0 : Int32)), (3, .int ((((10 : Int32) * a3) + r6) - (48 : Int32))), (0, va_rf a0), (2, .int a2)]) C rfl dX4_number_123 (by decide) ?_
            refine xr_goto 45 C dX4_number_125 (by decide) ?_
            refine xr_sub [2, 3, 1, 0] rfl ?_
            exact hkb45 ((((10 : Int32) * a3) + r6) - (48 : Int32)) (0 : Int32) h15 E
          · refine xr_iconst (1) C (by decide) dX4_number_118 ?_
            refine xr_goto 123 C dX4_number_119 (by decide) ?_
            refine xr_istore (L2 := [(4, .int (1 : Int32)), (3, .int ((((10 : Int32) * a3) + r6) - (48 : Int32))), (0, va_rf a0), (2, .int a2)]) C rfl dX4_number_123 (by decide) ?_
            refine xr_goto 45 C dX4_number_125 (by decide) ?_
            refine xr_sub [2, 3, 1, 0] rfl ?_
            exact hkb45 ((((10 : Int32) * a3) + r6) - (48 : Int32)) (1 : Int32) h15 E
def mf_X4_number_J26 (a0 : Option Nat) (a2 : Int32) (s0 : Int32) (s1 : Option Nat) (h0 : xk_H) : Option (Int32 × xk_H) :=
  xm_pN .boolean [4] 2 s1 s0 h0 fun h2 => xm_gI [4] 2 a0 h2 fun x3 => if x3 = 0 then (mf_X4_number_L45 a0 a2 xk_fu (0 : Int32) (1 : Int32) h2) else (mf_X4_number_L45 a0 a2 xk_fu (0 : Int32) (0 : Int32) h2)
set_option maxHeartbeats 1000000 in
theorem wk_X4_number_J26 {Γ : xk_C} {r : Int32} {h' : xk_H} {a0 : Option Nat} {a2 : Int32} {s0 : Int32} {s1 : Option Nat} {h0 : xk_H} (C : xk_Cx Γ RX4 cX4_number 5 (Option.some FieldType.int) "number" 6 170) (Z : xk_Z Γ (some (.int r)) h') (E : mf_X4_number_J26 a0 a2 s0 s1 h0 = some (r, h')) : xk_X Γ 26 [(0, va_rf a0), (2, .int a2)] [.int s0, va_rf s1] h0 := by
  rw [mf_X4_number_J26] at E
  refine xr_pN C E xf_X4_26 xp_X4_26 dX4_number_26 (fun h2 E => ?_)
  refine xr_iconst (0) C (by decide) dX4_number_29 ?_
  refine xr_istore_n (L2 := [(3, .int (0 : Int32)), (0, va_rf a0), (2, .int a2)]) C rfl rfl dX4_number_30 (by decide) ?_
  refine xr_aload_n 1 C rfl rfl dX4_number_31 ?_
  refine xr_gI C E xf_X4_26 dX4_number_32 (fun x3 E => ?_)
  refine xr_if_ne 42 C E dX4_number_35 (by decide) (fun E => ?_) (fun E => ?_)
  · refine xr_iconst (0) C (by decide) dX4_number_42 ?_
    refine xr_istore (L2 := [(4, .int (0 : Int32)), (3, .int (0 : Int32)), (0, va_rf a0), (2, .int a2)]) C rfl dX4_number_43 (by decide) ?_
    refine xr_sub [2, 3, 1, 0] rfl ?_
    exact wk_X4_number_L45 (a0 := a0) (a2 := a2) C Z xk_fu (0 : Int32) (0 : Int32) h2 E
  · refine xr_iconst (1) C (by decide) dX4_number_38 ?_
    refine xr_goto 43 C dX4_number_39 (by decide) ?_
    refine xr_istore (L2 := [(4, .int (1 : Int32)), (3, .int (0 : Int32)), (0, va_rf a0), (2, .int a2)]) C rfl dX4_number_43 (by decide) ?_
    refine xr_sub [2, 3, 1, 0] rfl ?_
    exact wk_X4_number_L45 (a0 := a0) (a2 := a2) C Z xk_fu (0 : Int32) (1 : Int32) h2 E
def mf_X4_number (a0 : Option Nat) (a1 : Int32) (a2 : Int32) (h0 : xk_H) : Option (Int32 × xk_H) :=
  xm_gI [4] 2 a0 h0 fun x1 => if x1 = 0 then (xm_rc [4] a0 h0 <| xm_cl (mf_X4_isNow a0 ((48 : Int32) + a1) (57 : Int32) h0) fun r16 h17 => if xk_b2 r16 = 0 then (mf_X4_number_J26 a0 a2 (1 : Int32) a0 h17) else (mf_X4_number_J26 a0 a2 (0 : Int32) a0 h17)) else (mf_X4_number_J26 a0 a2 (1 : Int32) a0 h0)
set_option maxHeartbeats 1000000 in
theorem wk_X4_number {l : Launch} {D : va_G} {base : Nat} {a0 : Option Nat} {a1 : Int32} {a2 : Int32} {h0 : xk_H} {r : Int32} {h' : xk_H} (E : mf_X4_number a0 a1 a2 h0 = some (r, h')) : xk_Ok l D base yX4_number cX4_number 5 (Option.some FieldType.int) 6 170 [va_rf a0, .int a1, .int a2] h0 (some (.int r)) h' := by
  refine xk_ofX RX4 "number" xq_X4_number rfl rfl (Nat.le_of_ble_eq_true rfl) ⟨xk_crf _, ⟨rfl, ⟨rfl, trivial⟩⟩⟩ (fun Γ el eD eb C Z => ?_)
  rw [mf_X4_number] at E
  show xk_X Γ 0 [(0, va_rf a0), (1, .int a1), (2, .int a2)] [] h0
  refine xr_aload_n 0 C rfl rfl dX4_number_0 ?_
  refine xr_aload_n 0 C rfl rfl dX4_number_1 ?_
  refine xr_gI C E xf_X4_26 dX4_number_2 (fun x1 E => ?_)
  refine xr_if_ne 21 C E dX4_number_5 (by decide) (fun E => ?_) (fun E => ?_)
  · refine xr_iconst (1) C (by decide) dX4_number_21 ?_
    refine xr_goto 26 C dX4_number_22 (by decide) ?_
    refine xr_sub [0, 2] rfl ?_
    exact wk_X4_number_J26 C Z E
  · refine xr_aload_n 0 C rfl rfl dX4_number_8 ?_
    refine xr_bipush (48) C (by decide) dX4_number_9 ?_
    refine xr_iload_n 1 C rfl rfl dX4_number_11 ?_
    refine xr_iadd C dX4_number_12 ?_
    refine xr_bipush (57) C (by decide) dX4_number_13 ?_
    refine xr_V (v := a0) [.int ((48 : Int32) + a1), .int (57 : Int32)] [va_rf a0] (fun r => some (.int (xk_b2 r))) (fun r => .int (xk_b2 r) :: [va_rf a0]) C E xi_4_SlatCratesReader (fun r h' e => wk_X4_isNow e) q1151 q1153 qs14 q107 q1154 xh_SlatCrates_Reader xd_X4_isNow (by decide) (by decide) ⟨xk_crf _, trivial⟩ (Nat.le_of_ble_eq_true rfl) rfl (fun _ => rfl) dX4_number_15 (fun r16 h17 E => ?_)
    refine xr_if_ne 25 C E dX4_number_18 (by decide) (fun E => ?_) (fun E => ?_)
    · refine xr_iconst (0) C (by decide) dX4_number_25 ?_
      refine xr_sub [0, 2] rfl ?_
      exact wk_X4_number_J26 C Z E
    · refine xr_iconst (1) C (by decide) dX4_number_21 ?_
      refine xr_goto 26 C dX4_number_22 (by decide) ?_
      refine xr_sub [0, 2] rfl ?_
      exact wk_X4_number_J26 C Z E
def mf_X4_sign_J22 (a0 : Option Nat) (s0 : Int32) (s1 : Option Nat) (h0 : xk_H) : Option (Unit × xk_H) :=
  xm_pN .boolean [4] 2 s1 s0 h0 fun h2 => xm_gI [4] 1 a0 h2 fun x3 => xm_gI [4] 2 a0 h2 fun x4 => if x4 = 0 then (xm_pV [4] 1 a0 (.int (x3 + (1 : Int32))) h2 fun h5 => some ((), h5)) else (xm_pV [4] 1 a0 (.int (x3 + (0 : Int32))) h2 fun h6 => some ((), h6))
set_option maxHeartbeats 1000000 in
theorem wk_X4_sign_J22 {Γ : xk_C} {r : Unit} {h' : xk_H} {a0 : Option Nat} {s0 : Int32} {s1 : Option Nat} {h0 : xk_H} (C : xk_Cx Γ RX4 cX4_sign 2 none "sign" 6 170) (Z : xk_Z Γ none h') (E : mf_X4_sign_J22 a0 s0 s1 h0 = some (r, h')) : xk_X Γ 22 [(0, va_rf a0)] [.int s0, va_rf s1] h0 := by
  rw [mf_X4_sign_J22] at E
  refine xr_pN C E xf_X4_26 xp_X4_26 dX4_sign_22 (fun h2 E => ?_)
  refine xr_aload_n 0 C rfl rfl dX4_sign_25 ?_
  refine xr_dup C (xk_crf _) dX4_sign_26 ?_
  refine xr_gI C E xf_X4_30 dX4_sign_27 (fun x3 E => ?_)
  refine xr_aload_n 0 C rfl rfl dX4_sign_30 ?_
  refine xr_gI C E xf_X4_26 dX4_sign_31 (fun x4 E => ?_)
  refine xr_if_eq 41 C E dX4_sign_34 (by decide) (fun E => ?_) (fun E => ?_)
  · refine xr_iconst (1) C (by decide) dX4_sign_41 ?_
    refine xr_iadd C dX4_sign_42 ?_
    refine xr_pI C E xf_X4_30 xp_X4_30 dX4_sign_43 (fun h5 E => ?_)
    exact xr_vret C Z E dX4_sign_46
  · refine xr_iconst (0) C (by decide) dX4_sign_37 ?_
    refine xr_goto 42 C dX4_sign_38 (by decide) ?_
    refine xr_iadd C dX4_sign_42 ?_
    refine xr_pI C E xf_X4_30 xp_X4_30 dX4_sign_43 (fun h6 E => ?_)
    exact xr_vret C Z E dX4_sign_46
def mf_X4_sign (a0 : Option Nat) (a1 : Int32) (h0 : xk_H) : Option (Unit × xk_H) :=
  xm_gI [4] 2 a0 h0 fun x1 => if x1 = 0 then (xm_rc [4] a0 h0 <| xm_cl (mf_X4_isNow a0 a1 a1 h0) fun r7 h8 => if xk_b2 r7 = 0 then (mf_X4_sign_J22 a0 (1 : Int32) a0 h8) else (mf_X4_sign_J22 a0 (0 : Int32) a0 h8)) else (mf_X4_sign_J22 a0 (1 : Int32) a0 h0)
set_option maxHeartbeats 1000000 in
theorem wk_X4_sign {l : Launch} {D : va_G} {base : Nat} {a0 : Option Nat} {a1 : Int32} {h0 : xk_H} {r : Unit} {h' : xk_H} (E : mf_X4_sign a0 a1 h0 = some (r, h')) : xk_Ok l D base yX4_sign cX4_sign 2 none 6 170 [va_rf a0, .int a1] h0 none h' := by
  refine xk_ofX RX4 "sign" xq_X4_sign rfl rfl (Nat.le_of_ble_eq_true rfl) ⟨xk_crf _, ⟨rfl, trivial⟩⟩ (fun Γ el eD eb C Z => ?_)
  rw [mf_X4_sign] at E
  show xk_X Γ 0 [(0, va_rf a0), (1, .int a1)] [] h0
  refine xr_aload_n 0 C rfl rfl dX4_sign_0 ?_
  refine xr_aload_n 0 C rfl rfl dX4_sign_1 ?_
  refine xr_gI C E xf_X4_26 dX4_sign_2 (fun x1 E => ?_)
  refine xr_if_ne 17 C E dX4_sign_5 (by decide) (fun E => ?_) (fun E => ?_)
  · refine xr_iconst (1) C (by decide) dX4_sign_17 ?_
    refine xr_goto 22 C dX4_sign_18 (by decide) ?_
    refine xr_sub [0] rfl ?_
    exact wk_X4_sign_J22 C Z E
  · refine xr_aload_n 0 C rfl rfl dX4_sign_8 ?_
    refine xr_iload_n 1 C rfl rfl dX4_sign_9 ?_
    refine xr_iload_n 1 C rfl rfl dX4_sign_10 ?_
    refine xr_V (v := a0) [.int a1, .int a1] [va_rf a0] (fun r => some (.int (xk_b2 r))) (fun r => .int (xk_b2 r) :: [va_rf a0]) C E xi_4_SlatCratesReader (fun r h' e => wk_X4_isNow e) q1151 q1153 qs14 q107 q1154 xh_SlatCrates_Reader xd_X4_isNow (by decide) (by decide) ⟨xk_crf _, trivial⟩ (Nat.le_of_ble_eq_true rfl) rfl (fun _ => rfl) dX4_sign_11 (fun r7 h8 E => ?_)
    refine xr_if_ne 21 C E dX4_sign_14 (by decide) (fun E => ?_) (fun E => ?_)
    · refine xr_iconst (0) C (by decide) dX4_sign_21 ?_
      refine xr_sub [0] rfl ?_
      exact wk_X4_sign_J22 C Z E
    · refine xr_iconst (1) C (by decide) dX4_sign_17 ?_
      refine xr_goto 22 C dX4_sign_18 (by decide) ?_
      refine xr_sub [0] rfl ?_
      exact wk_X4_sign_J22 C Z E
def mf_X4_nest_L111 (rc : Option Nat → Int32 → xk_H → Option (Int32 × xk_H)) (kx140 : xk_H → Option (Int32 × xk_H)) (a0 : Option Nat) (a5 : Option Nat) (a6 : Int32) : Nat → xk_H → Option (Int32 × xk_H)
  | 0, _ => none
  | n + 1, h0 => xm_gR [3] 5 a5 h0 fun x31 => xm_rc [4] a0 h0 <| xm_cl (rc a0 a6 h0) fun r32 h33 => xm_cl (mf_J22_valueOf r32 h33) fun r34 h35 => xm_rc [6] x31 h35 <| xm_cl (mf_J2_add x31 r34 h35) fun r36 h37 => xm_rc [4] a0 h37 <| xm_cl (mf_X4_isNow a0 (65 : Int32) (90 : Int32) h37) fun r38 h39 => if xk_b2 r38 = 0 then (kx140 h39) else (mf_X4_nest_L111 rc kx140 a0 a5 a6 n h39)
set_option maxHeartbeats 1000000 in
theorem wk_X4_nest_L111 {Γ : xk_C} {r : Int32} {h' : xk_H} {d w dR wR : Nat} {rc : Option Nat → Int32 → xk_H → Option (Int32 × xk_H)} {kx140 : xk_H → Option (Int32 × xk_H)} {a0 : Option Nat} {a5 : Option Nat} {a6 : Int32} (C : xk_Cx Γ RX4 cX4_nest 7 (Option.some FieldType.int) "nest" d w) (Z : xk_Z Γ (some (.int r)) h') (hrc : ∀ (z0 : Option Nat) (z1 : Int32) (g : xk_H) (r9 : Int32) (g9 : xk_H), rc z0 z1 g = some (r9, g9) → xk_Ok (xk_l Γ) (xk_D Γ) (xk_b Γ) yX4_nest cX4_nest 7 (Option.some FieldType.int) dR wR [va_rf z0, .int z1] g (some (.int r9)) g9) (hD : 8 ≤ d) (hW : 212 ≤ w) (hDr : dR + 1 ≤ d) (hWr : 8 + (7 + 11) + wR ≤ w) (hkx140 : ∀ (g : xk_H), kx140 g = some (r, h') → xk_X Γ 140 [(0, va_rf a0), (6, .int a6)] [] g) : ∀ (n : Nat) (h0 : xk_H), mf_X4_nest_L111 rc kx140 a0 a5 a6 n h0 = some (r, h') → xk_X Γ 111 [(0, va_rf a0), (5, va_rf a5), (6, .int a6)] [] h0 := by
  intro n
  induction n with
  | zero =>
    intro  h0 E
    rw [mf_X4_nest_L111] at E
    cases E
  | succ n ih =>
    intro  h0 E
    have hkb111 : ∀ (g : xk_H), mf_X4_nest_L111 rc kx140 a0 a5 a6 n g = some (r, h') → xk_X Γ 111 [(0, va_rf a0), (5, va_rf a5), (6, .int a6)] [] g := ih
    rw [mf_X4_nest_L111] at E
    refine xr_aload 1 C rfl dX4_nest_111 ?_
    refine xr_gR C E xf_X4_78 dX4_nest_113 (fun x31 E => ?_)
    refine xr_aload_n 0 C rfl rfl dX4_nest_116 ?_
    refine xr_iload 2 C rfl dX4_nest_117 ?_
    refine xr_V (v := a0) [.int a6] [va_rf x31] (fun r => some (.int r)) (fun r => .int r :: [va_rf x31]) C E xi_4_SlatCratesReader (fun r h' e => hrc _ _ _ r h' e) q1143 q1145 qs12 q107 q1146 xh_SlatCrates_Reader xd_X4_nest hDr hWr ⟨xk_crf _, trivial⟩ (Nat.le_of_ble_eq_true rfl) rfl (fun _ => rfl) dX4_nest_119 (fun r32 h33 E => ?_)
    refine xr_S [.int r32] [va_rf x31] (fun r => some (va_rf r)) (fun r => va_rf r :: [va_rf x31]) C E (fun r h' e => wk_J22_valueOf e) q1179 q931 q105 q932 xh_java_lang_Integer xd_J22_valueOf (by omega) (by omega) ⟨xk_crf _, trivial⟩ (Nat.le_of_ble_eq_true rfl) rfl (fun _ => rfl) dX4_nest_122 (fun r34 h35 E => ?_)
    refine xr_V (v := x31) [va_rf r34] [] (fun r => some (.int (xk_b2 r))) (fun r => .int (xk_b2 r) :: []) C E xi_6_ArrayList (fun r h' e => wk_J2_add e) q1178 q858 q859 q82 q860 xh_java_util_ArrayList xd_J2_add (by omega) (by omega) trivial (Nat.le_of_ble_eq_true rfl) rfl (fun _ => rfl) dX4_nest_125 (fun r36 h37 E => ?_)
    refine xr_pop C rfl dX4_nest_128 ?_
    refine xr_aload_n 0 C rfl rfl dX4_nest_129 ?_
    refine xr_bipush (65) C (by decide) dX4_nest_130 ?_
    refine xr_bipush (90) C (by decide) dX4_nest_132 ?_
    refine xr_V (v := a0) [.int (65 : Int32), .int (90 : Int32)] [] (fun r => some (.int (xk_b2 r))) (fun r => .int (xk_b2 r) :: []) C E xi_4_SlatCratesReader (fun r h' e => wk_X4_isNow e) q1151 q1153 qs14 q107 q1154 xh_SlatCrates_Reader xd_X4_isNow (by omega) (by omega) trivial (Nat.le_of_ble_eq_true rfl) rfl (fun _ => rfl) dX4_nest_134 (fun r38 h39 E => ?_)
    refine xr_if_ne 111 C E dX4_nest_137 (by decide) (fun E => ?_) (fun E => ?_)
    · exact hkb111 h39 E
    · refine xr_sub [0, 2] rfl ?_
      exact hkx140 h39 E
def mf_X4_nest : Nat → Option Nat → Int32 → xk_H → Option (Int32 × xk_H)
  | 0, _, _, _ => none
  | n + 1, a0, a1, h0 => xm_rc [4] a0 h0 <| xm_cl (mf_X4_label a0 h0) fun r1 h2 => xm_rc [4] a0 h2 <| xm_cl (mf_X4_sign a0 (115 : Int32) h2) fun r3 h4 => xm_rc [4] a0 h4 <| xm_cl (mf_X4_number a0 (1 : Int32) (60 : Int32) h4) fun r5 h6 => xm_rc [4] a0 h6 <| xm_cl (mf_X4_sign a0 (114 : Int32) h6) fun r7 h8 => xm_rc [4] a0 h8 <| xm_cl (mf_X4_number a0 (0 : Int32) (59 : Int32) h8) fun r9 h10 => xm_rc [4] a0 h10 <| xm_cl (mf_X4_sign a0 (103 : Int32) h10) fun r11 h12 => xm_new 3 [.int 0, .int 0, .int 0, .null, .int 0, .null] h12 fun b13 h14 => xm_rc [4] a0 h14 <| xm_cl (mf_X4_number a0 (0 : Int32) (15 : Int32) h14) fun r15 h16 => xm_cl (mf_X3_init b13 r5 r9 r15 r1 h16) fun r17 h18 => xm_pV [3] 4 (some b13) (.int a1) h18 fun h19 => xm_gI [4] 4 a0 h19 fun x20 => xm_gR [4] 3 a0 h19 fun x21 => xm_rc [6] x21 h19 <| xm_cl (mf_J2_size x21 h19) fun r22 h23 => xm_gR [4] 3 a0 h23 fun x24 => xm_rc [6] x24 h23 <| xm_cl (mf_J2_add x24 (some b13) h23) fun r25 h26 => xm_rc [4] a0 h26 <| xm_cl (mf_X4_isNow a0 (91 : Int32) (91 : Int32) h26) fun r27 h28 => if xk_b2 r27 = 0 then (some ((x20 + r22), h28)) else (xm_gI [4] 1 a0 h28 fun x29 => xm_pV [4] 1 a0 (.int (x29 + (1 : Int32))) h28 fun h30 => mf_X4_nest_L111 (mf_X4_nest n) (fun h40 => xm_rc [4] a0 h40 <| xm_cl (mf_X4_sign a0 (93 : Int32) h40) fun r41 h42 => some ((x20 + r22), h42)) a0 (some b13) (x20 + r22) xk_fu h30)
set_option maxHeartbeats 1000000 in
theorem wk_X4_nest : ∀ (n : Nat) {l : Launch} {D : va_G} {base : Nat} {a0 : Option Nat} {a1 : Int32} {h0 : xk_H} {r : Int32} {h' : xk_H}, mf_X4_nest n a0 a1 h0 = some (r, h') → xk_Ok l D base yX4_nest cX4_nest 7 (Option.some FieldType.int) (8 + n) (212 + n * 26) [va_rf a0, .int a1] h0 (some (.int r)) h' := by
  intro n
  induction n with
  | zero =>
    intro l D base a0 a1 h0 r h' E
    rw [mf_X4_nest] at E
    cases E
  | succ n ih =>
    intro l D base a0 a1 h0 r h' E
    refine xk_ofX RX4 "nest" xq_X4_nest rfl rfl (Nat.le_of_ble_eq_true rfl) ⟨xk_crf _, ⟨rfl, trivial⟩⟩ (fun Γ el eD eb C Z => ?_)
    rw [mf_X4_nest] at E
    show xk_X Γ 0 [(0, va_rf a0), (1, .int a1)] [] h0
    have hrc : ∀ (z0 : Option Nat) (z1 : Int32) (g : xk_H) (r9 : Int32) (g9 : xk_H), mf_X4_nest n z0 z1 g = some (r9, g9) → xk_Ok (xk_l Γ) (xk_D Γ) (xk_b Γ) yX4_nest cX4_nest 7 (Option.some FieldType.int) (8 + n) (212 + n * 26) [va_rf z0, .int z1] g (some (.int r9)) g9 := fun z0 z1 g r9 g9 e => ih e
    have hD : 8 ≤ 8 + (n + 1) := by omega
    have hW : 212 ≤ 212 + (n + 1) * 26 := by omega
    have hDr : 8 + n + 1 ≤ 8 + (n + 1) := by omega
    have hWr : 8 + (7 + 11) + (212 + n * 26) ≤ 212 + (n + 1) * 26 := by omega
    refine xr_aload_n 0 C rfl rfl dX4_nest_0 ?_
    refine xr_V (v := a0) [] [] (fun r => some (va_rf r)) (fun r => va_rf r :: []) C E xi_4_SlatCratesReader (fun r h' e => wk_X4_label e) q1147 q1149 qs13 q107 q1150 xh_SlatCrates_Reader xd_X4_label (by omega) (by omega) trivial (Nat.le_of_ble_eq_true rfl) rfl (fun _ => rfl) dX4_nest_1 (fun r1 h2 E => ?_)
    refine xr_astore_n (L2 := [(2, va_rf r1), (0, va_rf a0), (1, .int a1)]) C rfl rfl dX4_nest_4 (by decide) ?_
    refine xr_aload_n 1 C rfl rfl dX4_nest_5 ?_
    refine xr_bipush (115) C (by decide) dX4_nest_6 ?_
    refine xr_V (v := a0) [.int (115 : Int32)] [] (fun _ => none) (fun _ => []) C E xi_4_SlatCratesReader (fun r h' e => wk_X4_sign e) q1167 q1169 qs15 q107 q1170 xh_SlatCrates_Reader xd_X4_sign (by omega) (by omega) trivial (Nat.le_of_ble_eq_true rfl) rfl (fun _ => rfl) dX4_nest_8 (fun r3 h4 E => ?_)
    refine xr_aload_n 1 C rfl rfl dX4_nest_11 ?_
    refine xr_iconst (1) C (by decide) dX4_nest_12 ?_
    refine xr_bipush (60) C (by decide) dX4_nest_13 ?_
    refine xr_V (v := a0) [.int (1 : Int32), .int (60 : Int32)] [] (fun r => some (.int r)) (fun r => .int r :: []) C E xi_4_SlatCratesReader (fun r h' e => wk_X4_number e) q1171 q1173 qs16 q107 q1174 xh_SlatCrates_Reader xd_X4_number (by omega) (by omega) trivial (Nat.le_of_ble_eq_true rfl) rfl (fun _ => rfl) dX4_nest_15 (fun r5 h6 E => ?_)
    refine xr_istore_n (L2 := [(3, .int r5), (2, va_rf r1), (0, va_rf a0), (1, .int a1)]) C rfl rfl dX4_nest_18 (by decide) ?_
    refine xr_aload_n 2 C rfl rfl dX4_nest_19 ?_
    refine xr_bipush (114) C (by decide) dX4_nest_20 ?_
    refine xr_V (v := a0) [.int (114 : Int32)] [] (fun _ => none) (fun _ => []) C E xi_4_SlatCratesReader (fun r h' e => wk_X4_sign e) q1167 q1169 qs15 q107 q1170 xh_SlatCrates_Reader xd_X4_sign (by omega) (by omega) trivial (Nat.le_of_ble_eq_true rfl) rfl (fun _ => rfl) dX4_nest_22 (fun r7 h8 E => ?_)
    refine xr_aload_n 2 C rfl rfl dX4_nest_25 ?_
    refine xr_iconst (0) C (by decide) dX4_nest_26 ?_
    refine xr_bipush (59) C (by decide) dX4_nest_27 ?_
    refine xr_V (v := a0) [.int (0 : Int32), .int (59 : Int32)] [] (fun r => some (.int r)) (fun r => .int r :: []) C E xi_4_SlatCratesReader (fun r h' e => wk_X4_number e) q1171 q1173 qs16 q107 q1174 xh_SlatCrates_Reader xd_X4_number (by omega) (by omega) trivial (Nat.le_of_ble_eq_true rfl) rfl (fun _ => rfl) dX4_nest_29 (fun r9 h10 E => ?_)
    refine xr_istore (L2 := [(4, .int r9), (3, .int r5), (2, va_rf r1), (0, va_rf a0), (1, .int a1)]) C rfl dX4_nest_32 (by decide) ?_
    refine xr_aload_n 3 C rfl rfl dX4_nest_34 ?_
    refine xr_bipush (103) C (by decide) dX4_nest_35 ?_
    refine xr_V (v := a0) [.int (103 : Int32)] [] (fun _ => none) (fun _ => []) C E xi_4_SlatCratesReader (fun r h' e => wk_X4_sign e) q1167 q1169 qs15 q107 q1170 xh_SlatCrates_Reader xd_X4_sign (by omega) (by omega) trivial (Nat.le_of_ble_eq_true rfl) rfl (fun _ => rfl) dX4_nest_37 (fun r11 h12 E => ?_)
    refine xr_new (t := 3) (C0 := "SlatCrates$Crate") (n := 6) C E (by decide) xn_X3 (fun r hr => by cases hr; exact ⟨rfl, rfl⟩) q1175 q744 q102 dX4_nest_40 (fun b13 h14 E => ?_)
    refine xr_dup C (xk_crf _) dX4_nest_43 ?_
    refine xr_iload_n 1 C rfl rfl dX4_nest_44 ?_
    refine xr_iload 0 C rfl dX4_nest_45 ?_
    refine xr_aload_n 3 C rfl rfl dX4_nest_47 ?_
    refine xr_iconst (0) C (by decide) dX4_nest_48 ?_
    refine xr_bipush (15) C (by decide) dX4_nest_49 ?_
    refine xr_V (v := a0) [.int (0 : Int32), .int (15 : Int32)] [.int r9, .int r5, va_rf (some b13), va_rf (some b13)] (fun r => some (.int r)) (fun r => .int r :: [.int r9, .int r5, va_rf (some b13), va_rf (some b13)]) C E xi_4_SlatCratesReader (fun r h' e => wk_X4_number e) q1171 q1173 qs16 q107 q1174 xh_SlatCrates_Reader xd_X4_number (by omega) (by omega) ⟨rfl, ⟨rfl, ⟨xk_crf _, ⟨xk_crf _, trivial⟩⟩⟩⟩ (Nat.le_of_ble_eq_true rfl) rfl (fun _ => rfl) dX4_nest_51 (fun r15 h16 E => ?_)
    refine xr_aload_n 2 C rfl rfl dX4_nest_54 ?_
    refine xr_I (b := b13) [.int r5, .int r9, .int r15, va_rf r1] [va_rf (some b13)] (fun _ => none) (fun _ => [va_rf (some b13)]) C E (fun r h' e => wk_X3_init e) q1176 q746 q102 q747 xh_SlatCrates_Crate rfl xd_X3_init (by omega) (by omega) ⟨xk_crf _, trivial⟩ (Nat.le_of_ble_eq_true rfl) rfl (fun _ => rfl) dX4_nest_55 (fun r17 h18 E => ?_)
    refine xr_astore (L2 := [(5, va_rf (some b13)), (4, .int r9), (3, .int r5), (2, va_rf r1), (0, va_rf a0), (1, .int a1)]) C rfl dX4_nest_58 (by decide) ?_
    refine xr_aload 0 C rfl dX4_nest_60 ?_
    refine xr_iload_n 5 C rfl rfl dX4_nest_62 ?_
    refine xr_pI C E xf_X4_68 xp_X4_68 dX4_nest_63 (fun h19 E => ?_)
    refine xr_aload_n 4 C rfl rfl dX4_nest_66 ?_
    refine xr_gI C E xf_X4_22 dX4_nest_67 (fun x20 E => ?_)
    refine xr_aload_n 4 C rfl rfl dX4_nest_70 ?_
    refine xr_gR C E xf_X4_12 dX4_nest_71 (fun x21 E => ?_)
    refine xr_V (v := x21) [] [.int x20] (fun r => some (.int r)) (fun r => .int r :: [.int x20]) C E xi_6_ArrayList (fun r h' e => wk_J2_size e) q1177 q266 q267 q82 q268 xh_java_util_ArrayList xd_J2_size (by omega) (by omega) ⟨rfl, trivial⟩ (Nat.le_of_ble_eq_true rfl) rfl (fun _ => rfl) dX4_nest_74 (fun r22 h23 E => ?_)
    refine xr_iadd C dX4_nest_77 ?_
    refine xr_istore (L2 := [(6, .int (x20 + r22)), (5, va_rf (some b13)), (4, .int r9), (3, .int r5), (2, va_rf r1), (0, va_rf a0), (1, .int a1)]) C rfl dX4_nest_78 (by decide) ?_
    refine xr_aload_n 5 C rfl rfl dX4_nest_80 ?_
    refine xr_gR C E xf_X4_12 dX4_nest_81 (fun x24 E => ?_)
    refine xr_aload 1 C rfl dX4_nest_84 ?_
    refine xr_V (v := x24) [va_rf (some b13)] [] (fun r => some (.int (xk_b2 r))) (fun r => .int (xk_b2 r) :: []) C E xi_6_ArrayList (fun r h' e => wk_J2_add e) q1178 q858 q859 q82 q860 xh_java_util_ArrayList xd_J2_add (by omega) (by omega) trivial (Nat.le_of_ble_eq_true rfl) rfl (fun _ => rfl) dX4_nest_86 (fun r25 h26 E => ?_)
    refine xr_pop C rfl dX4_nest_89 ?_
    refine xr_aload_n 5 C rfl rfl dX4_nest_90 ?_
    refine xr_bipush (91) C (by decide) dX4_nest_91 ?_
    refine xr_bipush (91) C (by decide) dX4_nest_93 ?_
    refine xr_V (v := a0) [.int (91 : Int32), .int (91 : Int32)] [] (fun r => some (.int (xk_b2 r))) (fun r => .int (xk_b2 r) :: []) C E xi_4_SlatCratesReader (fun r h' e => wk_X4_isNow e) q1151 q1153 qs14 q107 q1154 xh_SlatCrates_Reader xd_X4_isNow (by omega) (by omega) trivial (Nat.le_of_ble_eq_true rfl) rfl (fun _ => rfl) dX4_nest_95 (fun r27 h28 E => ?_)
    refine xr_if_eq 146 C E dX4_nest_98 (by decide) (fun E => ?_) (fun E => ?_)
    · refine xr_iload 0 C rfl dX4_nest_146 ?_
      exact xr_iret C Z E dX4_nest_148
    · refine xr_aload_n 5 C rfl rfl dX4_nest_101 ?_
      refine xr_dup C (xk_crf _) dX4_nest_102 ?_
      refine xr_gI C E xf_X4_30 dX4_nest_103 (fun x29 E => ?_)
      refine xr_iconst (1) C (by decide) dX4_nest_106 ?_
      refine xr_iadd C dX4_nest_107 ?_
      refine xr_pI C E xf_X4_30 xp_X4_30 dX4_nest_108 (fun h30 E => ?_)
      refine xr_sub [5, 1, 0] rfl ?_
      refine wk_X4_nest_L111 (a0 := a0) (a5 := (some b13)) (a6 := (x20 + r22)) C Z hrc hD hW hDr hWr (fun h40 E => ?_) xk_fu h30 E
      · refine xr_aload_n 0 C rfl rfl dX4_nest_140 ?_
        refine xr_bipush (93) C (by decide) dX4_nest_141 ?_
        refine xr_V (v := a0) [.int (93 : Int32)] [] (fun _ => none) (fun _ => []) C E xi_4_SlatCratesReader (fun r h' e => wk_X4_sign e) q1167 q1169 qs15 q107 q1170 xh_SlatCrates_Reader xd_X4_sign (by omega) (by omega) trivial (Nat.le_of_ble_eq_true rfl) rfl (fun _ => rfl) dX4_nest_143 (fun r41 h42 E => ?_)
        refine xr_iload 1 C rfl dX4_nest_146 ?_
        exact xr_iret C Z E dX4_nest_148
def mf_X4_fault_L0 (kx17 : xk_H → Option (Int32 × xk_H)) (a0 : Option Nat) : Nat → xk_H → Option (Int32 × xk_H)
  | 0, _ => none
  | n + 1, h0 => xm_rc [4] a0 h0 <| xm_cl (mf_X4_nest 30 a0 (-1 : Int32) h0) fun r1 h2 => xm_rc [4] a0 h2 <| xm_cl (mf_X4_isNow a0 (65 : Int32) (90 : Int32) h2) fun r3 h4 => if xk_b2 r3 = 0 then (kx17 h4) else (mf_X4_fault_L0 kx17 a0 n h4)
set_option maxHeartbeats 1000000 in
theorem wk_X4_fault_L0 {Γ : xk_C} {r : Int32} {h' : xk_H} {kx17 : xk_H → Option (Int32 × xk_H)} {a0 : Option Nat} (C : xk_Cx Γ RX4 cX4_fault 1 (Option.some FieldType.int) "fault" 39 1018) (Z : xk_Z Γ (some (.int r)) h') (hkx17 : ∀ (g : xk_H), kx17 g = some (r, h') → xk_X Γ 17 [(0, va_rf a0)] [] g) : ∀ (n : Nat) (h0 : xk_H), mf_X4_fault_L0 kx17 a0 n h0 = some (r, h') → xk_X Γ 0 [(0, va_rf a0)] [] h0 := by
  intro n
  induction n with
  | zero =>
    intro  h0 E
    rw [mf_X4_fault_L0] at E
    cases E
  | succ n ih =>
    intro  h0 E
    have hkb0 : ∀ (g : xk_H), mf_X4_fault_L0 kx17 a0 n g = some (r, h') → xk_X Γ 0 [(0, va_rf a0)] [] g := ih
    rw [mf_X4_fault_L0] at E
    refine xr_aload_n 0 C rfl rfl dX4_fault_0 ?_
    refine xr_iconst (-1) C (by decide) dX4_fault_1 ?_
    refine xr_V (v := a0) [.int (-1 : Int32)] [] (fun r => some (.int r)) (fun r => .int r :: []) C E xi_4_SlatCratesReader (fun r h' e => wk_X4_nest 30 e) q1143 q1145 qs12 q107 q1146 xh_SlatCrates_Reader xd_X4_nest (by decide) (by decide) trivial (Nat.le_of_ble_eq_true rfl) rfl (fun _ => rfl) dX4_fault_2 (fun r1 h2 E => ?_)
    refine xr_pop C rfl dX4_fault_5 ?_
    refine xr_aload_n 0 C rfl rfl dX4_fault_6 ?_
    refine xr_bipush (65) C (by decide) dX4_fault_7 ?_
    refine xr_bipush (90) C (by decide) dX4_fault_9 ?_
    refine xr_V (v := a0) [.int (65 : Int32), .int (90 : Int32)] [] (fun r => some (.int (xk_b2 r))) (fun r => .int (xk_b2 r) :: []) C E xi_4_SlatCratesReader (fun r h' e => wk_X4_isNow e) q1151 q1153 qs14 q107 q1154 xh_SlatCrates_Reader xd_X4_isNow (by decide) (by decide) trivial (Nat.le_of_ble_eq_true rfl) rfl (fun _ => rfl) dX4_fault_11 (fun r3 h4 E => ?_)
    refine xr_if_ne 0 C E dX4_fault_14 (by decide) (fun E => ?_) (fun E => ?_)
    · exact hkb0 h4 E
    · exact hkx17 h4 E
def mf_X4_fault (a0 : Option Nat) (h0 : xk_H) : Option (Int32 × xk_H) :=
  mf_X4_fault_L0 (fun h5 => xm_gI [4] 2 a0 h5 fun x6 => if x6 = 0 then (xm_gI [4] 1 a0 h5 fun x8 => xm_gR [4] 0 a0 h5 fun x9 => xm_rc [8] x9 h5 <| xm_cl (mf_J6_length x9 h5) fun r10 h11 => if r10 ≤ x8 then (some ((-4 : Int32), h11)) else (xm_gI [4] 1 a0 h11 fun x12 => some (x12, h11))) else (xm_gI [4] 1 a0 h5 fun x7 => some (x7, h5))) a0 xk_fu h0
set_option maxHeartbeats 1000000 in
theorem wk_X4_fault {l : Launch} {D : va_G} {base : Nat} {a0 : Option Nat} {h0 : xk_H} {r : Int32} {h' : xk_H} (E : mf_X4_fault a0 h0 = some (r, h')) : xk_Ok l D base yX4_fault cX4_fault 1 (Option.some FieldType.int) 39 1018 [va_rf a0] h0 (some (.int r)) h' := by
  refine xk_ofX RX4 "fault" xq_X4_fault rfl rfl (Nat.le_of_ble_eq_true rfl) ⟨xk_crf _, trivial⟩ (fun Γ el eD eb C Z => ?_)
  rw [mf_X4_fault] at E
  show xk_X Γ 0 [(0, va_rf a0)] [] h0
  refine wk_X4_fault_L0 (a0 := a0) C Z (fun h5 E => ?_) xk_fu h0 E
  · refine xr_aload_n 0 C rfl rfl dX4_fault_17 ?_
    refine xr_gI C E xf_X4_26 dX4_fault_18 (fun x6 E => ?_)
    refine xr_if_ne 38 C E dX4_fault_21 (by decide) (fun E => ?_) (fun E => ?_)
    · refine xr_aload_n 0 C rfl rfl dX4_fault_38 ?_
      refine xr_gI C E xf_X4_30 dX4_fault_39 (fun x7 E => ?_)
      refine xr_goto 47 C dX4_fault_42 (by decide) ?_
      exact xr_iret C Z E dX4_fault_47
    · refine xr_aload_n 0 C rfl rfl dX4_fault_24 ?_
      refine xr_gI C E xf_X4_30 dX4_fault_25 (fun x8 E => ?_)
      refine xr_aload_n 0 C rfl rfl dX4_fault_28 ?_
      refine xr_gR C E xf_X4_18 dX4_fault_29 (fun x9 E => ?_)
      refine xr_V (v := x9) [] [.int x8] (fun r => some (.int r)) (fun r => .int r :: [.int x8]) C E xi_8_StringBuilder (fun r h' e => wk_J6_length e) q1155 q643 q2505 q86 q644 xh_java_lang_StringBuilder xd_J6_length (by decide) (by decide) ⟨rfl, trivial⟩ (Nat.le_of_ble_eq_true rfl) rfl (fun _ => rfl) dX4_fault_32 (fun r10 h11 E => ?_)
      refine xr_icmp_ge 45 C E dX4_fault_35 (by decide) (fun E => ?_) (fun E => ?_)
      · refine xr_bipush (-4) C (by decide) dX4_fault_45 ?_
        exact xr_iret C Z E dX4_fault_47
      · refine xr_aload_n 0 C rfl rfl dX4_fault_38 ?_
        refine xr_gI C E xf_X4_30 dX4_fault_39 (fun x12 E => ?_)
        refine xr_goto 47 C dX4_fault_42 (by decide) ?_
        exact xr_iret C Z E dX4_fault_47
def mf_X4_init (a0 : Nat) (a1 : Option Nat) (a2 : Int32) (h0 : xk_H) : Option (Unit × xk_H) :=
  xm_new 6 [.int 0, .null, .int 0] h0 fun b1 h2 => xm_cl (mf_J2_init b1 h2) fun r3 h4 => xm_pV [4] 3 (some a0) (va_rf (some b1)) h4 fun h5 => xm_pV [4] 0 (some a0) (va_rf a1) h5 fun h6 => xm_pV [4] 4 (some a0) (.int a2) h6 fun h7 => some ((), h7)
set_option maxHeartbeats 1000000 in
theorem wk_X4_init {l : Launch} {D : va_G} {base : Nat} {a0 : Nat} {a1 : Option Nat} {a2 : Int32} {h0 : xk_H} {r : Unit} {h' : xk_H} (E : mf_X4_init a0 a1 a2 h0 = some (r, h')) : xk_Ok l D base yX4_init cX4_init 3 none 4 120 [va_rf (some a0), va_rf a1, .int a2] h0 none h' := by
  refine xk_ofX RX4 "<init>" xq_X4_init rfl rfl (Nat.le_of_ble_eq_true rfl) ⟨xk_crf _, ⟨xk_crf _, ⟨rfl, trivial⟩⟩⟩ (fun Γ el eD eb C Z => ?_)
  rw [mf_X4_init] at E
  show xk_X Γ 0 [(0, va_rf (some a0)), (1, va_rf a1), (2, .int a2)] [] h0
  refine xr_aload_n 0 C rfl rfl dX4_init_0 ?_
  refine xr_objInit C q1119 q134 q135 (by decide) trivial (Nat.le_of_ble_eq_true rfl) dX4_init_1 ?_
  refine xr_aload_n 0 C rfl rfl dX4_init_4 ?_
  refine xr_new (t := 6) (C0 := "java/util/ArrayList") (n := 3) C E (by decide) xn_J2 (fun r hr => by cases hr; exact ⟨rfl, rfl⟩) q1120 q143 q82 dX4_init_5 (fun b1 h2 E => ?_)
  refine xr_dup C (xk_crf _) dX4_init_8 ?_
  refine xr_I (b := b1) [] [va_rf (some b1), va_rf (some a0)] (fun _ => none) (fun _ => [va_rf (some b1), va_rf (some a0)]) C E (fun r h' e => wk_J2_init e) q1121 q145 q82 q146 xh_java_util_ArrayList rfl xd_J2_init (by decide) (by decide) ⟨xk_crf _, ⟨xk_crf _, trivial⟩⟩ (Nat.le_of_ble_eq_true rfl) rfl (fun _ => rfl) dX4_init_9 (fun r3 h4 E => ?_)
  refine xr_pR C E xf_X4_12 xp_X4_12_i (Or.inl ⟨_, rfl⟩) dX4_init_12 (fun h5 E => ?_)
  refine xr_aload_n 0 C rfl rfl dX4_init_15 ?_
  refine xr_aload_n 1 C rfl rfl dX4_init_16 ?_
  refine xr_pR C E xf_X4_18 xp_X4_18_i (Or.inl ⟨_, rfl⟩) dX4_init_17 (fun h6 E => ?_)
  refine xr_aload_n 0 C rfl rfl dX4_init_20 ?_
  refine xr_iload_n 2 C rfl rfl dX4_init_21 ?_
  refine xr_pI C E xf_X4_22 xp_X4_22_i dX4_init_22 (fun h7 E => ?_)
  exact xr_vret C Z E dX4_init_25
def mf_X0_fault (a0 : Option Nat) (h0 : xk_H) : Option (Int32 × xk_H) :=
  xm_new 4 [.null, .int 0, .int 0, .null, .int 0] h0 fun b1 h2 => xm_gR [0] 3 a0 h2 fun x3 => xm_cl (mf_X4_init b1 x3 (0 : Int32) h2) fun r4 h5 => xm_rc [4] (some b1) h5 <| xm_cl (mf_X4_fault (some b1) h5) fun r6 h7 => some (r6, h7)
set_option maxHeartbeats 1000000 in
theorem wk_X0_fault {l : Launch} {D : va_G} {base : Nat} {a0 : Option Nat} {h0 : xk_H} {r : Int32} {h' : xk_H} (E : mf_X0_fault a0 h0 = some (r, h')) : xk_Ok l D base yX0_fault cX0_fault 1 (Option.some FieldType.int) 40 1038 [va_rf a0] h0 (some (.int r)) h' := by
  refine xk_ofX RX0 "fault" xq_X0_fault rfl rfl (Nat.le_of_ble_eq_true rfl) ⟨xk_crf _, trivial⟩ (fun Γ el eD eb C Z => ?_)
  rw [mf_X0_fault] at E
  show xk_X Γ 0 [(0, va_rf a0)] [] h0
  refine xr_new (t := 4) (C0 := "SlatCrates$Reader") (n := 5) C E (by decide) xn_X4 (fun r hr => by cases hr; exact ⟨rfl, rfl⟩) q1114 q1115 q107 dX0_fault_0 (fun b1 h2 E => ?_)
  refine xr_dup C (xk_crf _) dX0_fault_3 ?_
  refine xr_aload_n 0 C rfl rfl dX0_fault_4 ?_
  refine xr_gR C E xf_X0_26 dX0_fault_5 (fun x3 E => ?_)
  refine xr_iconst (0) C (by decide) dX0_fault_8 ?_
  refine xr_I (b := b1) [va_rf x3, .int (0 : Int32)] [va_rf (some b1)] (fun _ => none) (fun _ => [va_rf (some b1)]) C E (fun r h' e => wk_X4_init e) q1116 q1117 q107 q1118 xh_SlatCrates_Reader rfl xd_X4_init (by decide) (by decide) ⟨xk_crf _, trivial⟩ (Nat.le_of_ble_eq_true rfl) rfl (fun _ => rfl) dX0_fault_9 (fun r4 h5 E => ?_)
  refine xr_V (v := (some b1)) [] [] (fun r => some (.int r)) (fun r => .int r :: []) C E xi_4_SlatCratesReader (fun r h' e => wk_X4_fault e) q1139 q1140 q1141 q107 q1142 xh_SlatCrates_Reader xd_X4_fault (by decide) (by decide) trivial (Nat.le_of_ble_eq_true rfl) rfl (fun _ => rfl) dX0_fault_12 (fun r6 h7 E => ?_)
  exact xr_iret C Z E dX0_fault_15
def mf_X0_canStand_L36 (kx83 : Int32 → xk_H → Option (Bool × xk_H)) (a0 : Option Nat) (a1 : Int32) (a2 : Option Nat) (a3 : Option Nat) (a5 : Option Nat) : Nat → Int32 → xk_H → Option (Bool × xk_H)
  | 0, _, _ => none
  | n + 1, a4, h0 => xm_rc [9] a5 h0 <| xm_cl (mf_J9_hasNext a5 h0) fun r10 h11 => if xk_b2 r10 = 0 then (kx83 a4 h11) else (xm_rc [9] a5 h11 <| xm_cl (mf_J9_next a5 h11) fun r12 h13 => xm_cast [211] r12 h13 <| xm_rc [211] r12 h13 <| xm_cl (mf_J22_intValue r12 h13) fun r14 h15 => xm_rc [6] a0 h15 <| xm_cl (mf_J2_get a0 (r14 - a1) h15) fun r16 h17 => xm_cast [3] r16 h17 <| xm_gI [3] 0 r16 h17 fun x18 => mf_X0_canStand_L36 kx83 a0 a1 a2 a3 a5 n (a4 + x18) h17)
set_option maxHeartbeats 1000000 in
theorem wk_X0_canStand_L36 {Γ : xk_C} {r : Bool} {h' : xk_H} {kx83 : Int32 → xk_H → Option (Bool × xk_H)} {a0 : Option Nat} {a1 : Int32} {a2 : Option Nat} {a3 : Option Nat} {a5 : Option Nat} (C : xk_Cx Γ RX0 cX0_canStand 7 (Option.some FieldType.boolean) "canStand" 4 124) (Z : xk_Z Γ (some (.int (xk_b2 r))) h') (hkx83 : ∀ (m4 : Int32) (g : xk_H), kx83 m4 g = some (r, h') → xk_X Γ 83 [(0, va_rf a0), (1, .int a1), (2, va_rf a2), (3, va_rf a3), (4, .int m4)] [] g) : ∀ (n : Nat) (a4 : Int32) (h0 : xk_H), mf_X0_canStand_L36 kx83 a0 a1 a2 a3 a5 n a4 h0 = some (r, h') → xk_X Γ 36 [(0, va_rf a0), (1, .int a1), (2, va_rf a2), (3, va_rf a3), (4, .int a4), (5, va_rf a5)] [] h0 := by
  intro n
  induction n with
  | zero =>
    intro a4 h0 E
    rw [mf_X0_canStand_L36] at E
    cases E
  | succ n ih =>
    intro a4 h0 E
    have hkb36 : ∀ (m4 : Int32) (g : xk_H), mf_X0_canStand_L36 kx83 a0 a1 a2 a3 a5 n m4 g = some (r, h') → xk_X Γ 36 [(0, va_rf a0), (1, .int a1), (2, va_rf a2), (3, va_rf a3), (4, .int m4), (5, va_rf a5)] [] g := ih
    rw [mf_X0_canStand_L36] at E
    refine xr_aload 5 C rfl dX0_canStand_36 ?_
    refine xr_F (v := a5) [] [] (fun r => some (.int (xk_b2 r))) (fun r => .int (xk_b2 r) :: []) C E xi_9_ArrayListItr (fun r h' e => wk_J9_hasNext e) q1189 (List.mem_of_getElem? (i := 0) rfl) q335 q333 q90 q337 xh_java_util_Iterator xd_java_util_Iterator_hasNext__Z (by decide) (by decide) trivial (Nat.le_of_ble_eq_true rfl) rfl (fun _ => rfl) dX0_canStand_38 (fun r10 h11 E => ?_)
    refine xr_if_eq 83 C E dX0_canStand_43 (by decide) (fun E => ?_) (fun E => ?_)
    · refine xr_sub [0, 1, 2, 3, 4] rfl ?_
      exact hkx83 a4 h11 E
    · refine xr_aload 5 C rfl dX0_canStand_46 ?_
      refine xr_F (v := a5) [] [] (fun r => some (va_rf r)) (fun r => va_rf r :: []) C E xi_9_ArrayListItr (fun r h' e => wk_J9_next e) q1191 (List.mem_of_getElem? (i := 1) rfl) q698 q696 q90 q700 xh_java_util_Iterator xd_java_util_Iterator_next__Ljava_lang_Object_ (by decide) (by decide) trivial (Nat.le_of_ble_eq_true rfl) rfl (fun _ => rfl) dX0_canStand_48 (fun r12 h13 E => ?_)
      refine xr_cast C E xi_211_Integer q1192 dX0_canStand_53 (fun E => ?_)
      refine xr_V (v := r12) [] [] (fun r => some (.int r)) (fun r => .int r :: []) C E xi_211_Integer (fun r h' e => wk_J22_intValue e) q1193 q975 q976 q105 q977 xh_java_lang_Integer xd_J22_intValue (by decide) (by decide) trivial (Nat.le_of_ble_eq_true rfl) rfl (fun _ => rfl) dX0_canStand_56 (fun r14 h15 E => ?_)
      refine xr_istore (L2 := [(6, .int r14), (0, va_rf a0), (1, .int a1), (2, va_rf a2), (3, va_rf a3), (4, .int a4), (5, va_rf a5)]) C rfl dX0_canStand_59 (by decide) ?_
      refine xr_iload 5 C rfl dX0_canStand_61 ?_
      refine xr_aload_n 1 C rfl rfl dX0_canStand_63 ?_
      refine xr_iload 0 C rfl dX0_canStand_64 ?_
      refine xr_iload_n 2 C rfl rfl dX0_canStand_66 ?_
      refine xr_isub C dX0_canStand_67 ?_
      refine xr_V (v := a0) [.int (r14 - a1)] [.int a4] (fun r => some (va_rf r)) (fun r => va_rf r :: [.int a4]) C E xi_6_ArrayList (fun r h' e => wk_J2_get e) q1194 q374 q2504 q82 q375 xh_java_util_ArrayList xd_J2_get (by decide) (by decide) ⟨rfl, trivial⟩ (Nat.le_of_ble_eq_true rfl) rfl (fun _ => rfl) dX0_canStand_68 (fun r16 h17 E => ?_)
      refine xr_cast C E xi_3_SlatCratesCrate q898 dX0_canStand_71 (fun E => ?_)
      refine xr_gI C E xf_X0_162 dX0_canStand_74 (fun x18 E => ?_)
      refine xr_iadd C dX0_canStand_77 ?_
      refine xr_istore (L2 := [(4, .int (a4 + x18)), (6, .int r14), (0, va_rf a0), (1, .int a1), (2, va_rf a2), (3, va_rf a3), (5, va_rf a5)]) C rfl dX0_canStand_78 (by decide) ?_
      refine xr_goto 36 C dX0_canStand_80 (by decide) ?_
      refine xr_sub [2, 3, 4, 5, 0, 6] rfl ?_
      exact hkb36 (a4 + x18) h17 E
def mf_X0_canStand_L5 (a0 : Option Nat) (a1 : Int32) (a2 : Option Nat) : Nat → xk_H → Option (Bool × xk_H)
  | 0, _ => none
  | n + 1, h0 => xm_rc [9] a2 h0 <| xm_cl (mf_J9_hasNext a2 h0) fun r3 h4 => if xk_b2 r3 = 0 then (some (true, h4)) else (xm_rc [9] a2 h4 <| xm_cl (mf_J9_next a2 h4) fun r5 h6 => xm_cast [3] r5 h6 <| xm_gR [3] 5 r5 h6 fun x7 => xm_rc [6] x7 h6 <| xm_cl (mf_J2_iterator x7 h6) fun r8 h9 => mf_X0_canStand_L36 (fun m19 h20 => xm_gI [3] 1 r5 h20 fun x21 => xm_gI [3] 0 r5 h20 fun x22 => if x22 ≤ x21 then (some (false, h20)) else (xm_gI [3] 1 r5 h20 fun x23 => if m19 ≤ x23 then (mf_X0_canStand_L5 a0 a1 a2 n h20) else (some (false, h20)))) a0 a1 a2 r5 r8 xk_fu (0 : Int32) h9)
set_option maxHeartbeats 1000000 in
theorem wk_X0_canStand_L5 {Γ : xk_C} {r : Bool} {h' : xk_H} {a0 : Option Nat} {a1 : Int32} {a2 : Option Nat} (C : xk_Cx Γ RX0 cX0_canStand 7 (Option.some FieldType.boolean) "canStand" 4 124) (Z : xk_Z Γ (some (.int (xk_b2 r))) h') : ∀ (n : Nat) (h0 : xk_H), mf_X0_canStand_L5 a0 a1 a2 n h0 = some (r, h') → xk_X Γ 5 [(0, va_rf a0), (1, .int a1), (2, va_rf a2)] [] h0 := by
  intro n
  induction n with
  | zero =>
    intro  h0 E
    rw [mf_X0_canStand_L5] at E
    cases E
  | succ n ih =>
    intro  h0 E
    have hkb5 : ∀ (g : xk_H), mf_X0_canStand_L5 a0 a1 a2 n g = some (r, h') → xk_X Γ 5 [(0, va_rf a0), (1, .int a1), (2, va_rf a2)] [] g := ih
    rw [mf_X0_canStand_L5] at E
    refine xr_aload_n 2 C rfl rfl dX0_canStand_5 ?_
    refine xr_F (v := a2) [] [] (fun r => some (.int (xk_b2 r))) (fun r => .int (xk_b2 r) :: []) C E xi_9_ArrayListItr (fun r h' e => wk_J9_hasNext e) q1189 (List.mem_of_getElem? (i := 0) rfl) q335 q333 q90 q337 xh_java_util_Iterator xd_java_util_Iterator_hasNext__Z (by decide) (by decide) trivial (Nat.le_of_ble_eq_true rfl) rfl (fun _ => rfl) dX0_canStand_6 (fun r3 h4 E => ?_)
    refine xr_if_eq 108 C E dX0_canStand_11 (by decide) (fun E => ?_) (fun E => ?_)
    · refine xr_iconst (1) C (by decide) dX0_canStand_108 ?_
      exact xr_bret (b := true) C Z E dX0_canStand_109
    · refine xr_aload_n 2 C rfl rfl dX0_canStand_14 ?_
      refine xr_F (v := a2) [] [] (fun r => some (va_rf r)) (fun r => va_rf r :: []) C E xi_9_ArrayListItr (fun r h' e => wk_J9_next e) q1191 (List.mem_of_getElem? (i := 1) rfl) q698 q696 q90 q700 xh_java_util_Iterator xd_java_util_Iterator_next__Ljava_lang_Object_ (by decide) (by decide) trivial (Nat.le_of_ble_eq_true rfl) rfl (fun _ => rfl) dX0_canStand_15 (fun r5 h6 E => ?_)
      refine xr_cast C E xi_3_SlatCratesCrate q898 dX0_canStand_20 (fun E => ?_)
      refine xr_astore_n (L2 := [(3, va_rf r5), (0, va_rf a0), (1, .int a1), (2, va_rf a2)]) C rfl rfl dX0_canStand_23 (by decide) ?_
      refine xr_iconst (0) C (by decide) dX0_canStand_24 ?_
      refine xr_istore (L2 := [(4, .int (0 : Int32)), (3, va_rf r5), (0, va_rf a0), (1, .int a1), (2, va_rf a2)]) C rfl dX0_canStand_25 (by decide) ?_
      refine xr_aload_n 1 C rfl rfl dX0_canStand_27 ?_
      refine xr_gR C E xf_X0_150 dX0_canStand_28 (fun x7 E => ?_)
      refine xr_V (v := x7) [] [] (fun r => some (va_rf r)) (fun r => va_rf r :: []) C E xi_6_ArrayList (fun r h' e => wk_J2_iterator e) q1187 q292 q293 q82 q294 xh_java_util_ArrayList xd_J2_iterator (by decide) (by decide) trivial (Nat.le_of_ble_eq_true rfl) rfl (fun _ => rfl) dX0_canStand_31 (fun r8 h9 E => ?_)
      refine xr_astore (L2 := [(5, va_rf r8), (4, .int (0 : Int32)), (3, va_rf r5), (0, va_rf a0), (1, .int a1), (2, va_rf a2)]) C rfl dX0_canStand_34 (by decide) ?_
      refine xr_sub [3, 4, 5, 2, 1, 0] rfl ?_
      refine wk_X0_canStand_L36 (a0 := a0) (a1 := a1) (a2 := a2) (a3 := r5) (a5 := r8) C Z (fun m19 h20 E => ?_) xk_fu (0 : Int32) h9 E
      · refine xr_aload_n 3 C rfl rfl dX0_canStand_83 ?_
        refine xr_gI C E xf_X0_164 dX0_canStand_84 (fun x21 E => ?_)
        refine xr_aload_n 3 C rfl rfl dX0_canStand_87 ?_
        refine xr_gI C E xf_X0_162 dX0_canStand_88 (fun x22 E => ?_)
        refine xr_icmp_ge 103 C E dX0_canStand_91 (by decide) (fun E => ?_) (fun E => ?_)
        · refine xr_iconst (0) C (by decide) dX0_canStand_103 ?_
          exact xr_bret (b := false) C Z E dX0_canStand_104
        · refine xr_iload 4 C rfl dX0_canStand_94 ?_
          refine xr_aload_n 3 C rfl rfl dX0_canStand_96 ?_
          refine xr_gI C E xf_X0_164 dX0_canStand_97 (fun x23 E => ?_)
          refine xr_icmp_le 105 C E dX0_canStand_100 (by decide) (fun E => ?_) (fun E => ?_)
          · refine xr_goto 5 C dX0_canStand_105 (by decide) ?_
            refine xr_sub [0, 1, 2] rfl ?_
            exact hkb5 h20 E
          · refine xr_iconst (0) C (by decide) dX0_canStand_103 ?_
            exact xr_bret (b := false) C Z E dX0_canStand_104
def mf_X0_canStand (a0 : Option Nat) (a1 : Int32) (h0 : xk_H) : Option (Bool × xk_H) :=
  xm_rc [6] a0 h0 <| xm_cl (mf_J2_iterator a0 h0) fun r1 h2 => mf_X0_canStand_L5 a0 a1 r1 xk_fu h2
set_option maxHeartbeats 1000000 in
theorem wk_X0_canStand {l : Launch} {D : va_G} {base : Nat} {a0 : Option Nat} {a1 : Int32} {h0 : xk_H} {r : Bool} {h' : xk_H} (E : mf_X0_canStand a0 a1 h0 = some (r, h')) : xk_Ok l D base yX0_canStand cX0_canStand 7 (Option.some FieldType.boolean) 4 124 [va_rf a0, .int a1] h0 (some (.int (xk_b2 r))) h' := by
  refine xk_ofX RX0 "canStand" xq_X0_canStand rfl rfl (Nat.le_of_ble_eq_true rfl) ⟨xk_crf _, ⟨rfl, trivial⟩⟩ (fun Γ el eD eb C Z => ?_)
  rw [mf_X0_canStand] at E
  show xk_X Γ 0 [(0, va_rf a0), (1, .int a1)] [] h0
  refine xr_aload_n 0 C rfl rfl dX0_canStand_0 ?_
  refine xr_V (v := a0) [] [] (fun r => some (va_rf r)) (fun r => va_rf r :: []) C E xi_6_ArrayList (fun r h' e => wk_J2_iterator e) q1187 q292 q293 q82 q294 xh_java_util_ArrayList xd_J2_iterator (by decide) (by decide) trivial (Nat.le_of_ble_eq_true rfl) rfl (fun _ => rfl) dX0_canStand_1 (fun r1 h2 E => ?_)
  refine xr_astore_n (L2 := [(2, va_rf r1), (0, va_rf a0), (1, .int a1)]) C rfl rfl dX0_canStand_4 (by decide) ?_
  refine xr_sub [1, 2, 0] rfl ?_
  exact wk_X0_canStand_L5 (a0 := a0) (a1 := a1) (a2 := r1) C Z xk_fu h2 E
def mf_X0_load (a0 : Option Nat) (h0 : xk_H) : Option (Int32 × xk_H) :=
  xm_new 4 [.null, .int 0, .int 0, .null, .int 0] h0 fun b1 h2 => xm_gR [0] 3 a0 h2 fun x3 => xm_gR [0] 0 a0 h2 fun x4 => xm_rc [1] x4 h2 <| xm_cl (mf_X1_size x4 h2) fun r5 h6 => xm_cl (mf_X4_init b1 x3 r5 h6) fun r7 h8 => xm_rc [4] (some b1) h8 <| xm_cl (mf_X4_fault (some b1) h8) fun r9 h10 => if 0 ≤ r9 then (some ((-2 : Int32), h10)) else (xm_gR [4] 3 (some b1) h10 fun x11 => xm_gR [0] 0 a0 h10 fun x12 => xm_rc [1] x12 h10 <| xm_cl (mf_X1_size x12 h10) fun r13 h14 => xm_cl (mf_X0_canStand x11 r13 h14) fun r15 h16 => if xk_b2 r15 = 0 then (some ((-2 : Int32), h16)) else (xm_gR [0] 0 a0 h16 fun x17 => xm_rc [1] x17 h16 <| xm_cl (mf_X1_size x17 h16) fun r18 h19 => xm_gR [4] 3 (some b1) h19 fun x20 => xm_rc [6] x20 h19 <| xm_cl (mf_J2_size x20 h19) fun r21 h22 => if (r18 + r21) ≤ (12 : Int32) then (xm_rc [0] a0 h22 <| xm_cl (mf_X0_records a0 h22) fun r23 h24 => xm_gR [0] 0 a0 h24 fun x25 => xm_gR [1] 0 x25 h24 fun x26 => xm_gR [4] 3 (some b1) h24 fun x27 => xm_rc [6] x26 h24 <| xm_cl (mf_J2_addAll x26 x27 h24) fun r28 h29 => xm_gR [0] 3 a0 h29 fun x30 => xm_rc [8] x30 h29 <| xm_cl (mf_J6_setLength x30 (0 : Int32) h29) fun r31 h32 => xm_gR [0] 0 a0 h32 fun x33 => xm_rc [1] x33 h32 <| xm_cl (mf_X1_size x33 h32) fun r34 h35 => some (r34, h35)) else (some ((-3 : Int32), h22))))
set_option maxHeartbeats 1000000 in
theorem wk_X0_load {l : Launch} {D : va_G} {base : Nat} {a0 : Option Nat} {h0 : xk_H} {r : Int32} {h' : xk_H} (E : mf_X0_load a0 h0 = some (r, h')) : xk_Ok l D base yX0_load cX0_load 2 (Option.some FieldType.int) 40 1038 [va_rf a0] h0 (some (.int r)) h' := by
  refine xk_ofX RX0 "load" xq_X0_load rfl rfl (Nat.le_of_ble_eq_true rfl) ⟨xk_crf _, trivial⟩ (fun Γ el eD eb C Z => ?_)
  rw [mf_X0_load] at E
  show xk_X Γ 0 [(0, va_rf a0)] [] h0
  refine xr_new (t := 4) (C0 := "SlatCrates$Reader") (n := 5) C E (by decide) xn_X4 (fun r hr => by cases hr; exact ⟨rfl, rfl⟩) q1114 q1115 q107 dX0_load_0 (fun b1 h2 E => ?_)
  refine xr_dup C (xk_crf _) dX0_load_3 ?_
  refine xr_aload_n 0 C rfl rfl dX0_load_4 ?_
  refine xr_gR C E xf_X0_26 dX0_load_5 (fun x3 E => ?_)
  refine xr_aload_n 0 C rfl rfl dX0_load_8 ?_
  refine xr_gR C E xf_X0_10 dX0_load_9 (fun x4 E => ?_)
  refine xr_V (v := x4) [] [va_rf x3, va_rf (some b1), va_rf (some b1)] (fun r => some (.int r)) (fun r => .int r :: [va_rf x3, va_rf (some b1), va_rf (some b1)]) C E xi_1_SlatCratesYard (fun r h' e => wk_X1_size e) q261 q262 q263 q79 q264 xh_SlatCrates_Yard xd_X1_size (by decide) (by decide) ⟨xk_crf _, ⟨xk_crf _, ⟨xk_crf _, trivial⟩⟩⟩ (Nat.le_of_ble_eq_true rfl) rfl (fun _ => rfl) dX0_load_12 (fun r5 h6 E => ?_)
  refine xr_I (b := b1) [va_rf x3, .int r5] [va_rf (some b1)] (fun _ => none) (fun _ => [va_rf (some b1)]) C E (fun r h' e => wk_X4_init e) q1116 q1117 q107 q1118 xh_SlatCrates_Reader rfl xd_X4_init (by decide) (by decide) ⟨xk_crf _, trivial⟩ (Nat.le_of_ble_eq_true rfl) rfl (fun _ => rfl) dX0_load_15 (fun r7 h8 E => ?_)
  refine xr_astore_n (L2 := [(1, va_rf (some b1)), (0, va_rf a0)]) C rfl rfl dX0_load_18 (by decide) ?_
  refine xr_aload_n 0 C rfl rfl dX0_load_19 ?_
  refine xr_V (v := (some b1)) [] [] (fun r => some (.int r)) (fun r => .int r :: []) C E xi_4_SlatCratesReader (fun r h' e => wk_X4_fault e) q1139 q1140 q1141 q107 q1142 xh_SlatCrates_Reader xd_X4_fault (by decide) (by decide) trivial (Nat.le_of_ble_eq_true rfl) rfl (fun _ => rfl) dX0_load_20 (fun r9 h10 E => ?_)
  refine xr_if_ge 43 C E dX0_load_23 (by decide) (fun E => ?_) (fun E => ?_)
  · refine xr_bipush (-2) C (by decide) dX0_load_43 ?_
    exact xr_iret C Z E dX0_load_45
  · refine xr_aload_n 0 C rfl rfl dX0_load_26 ?_
    refine xr_gR C E xf_X0_167 dX0_load_27 (fun x11 E => ?_)
    refine xr_aload_n 1 C rfl rfl dX0_load_30 ?_
    refine xr_gR C E xf_X0_10 dX0_load_31 (fun x12 E => ?_)
    refine xr_V (v := x12) [] [va_rf x11] (fun r => some (.int r)) (fun r => .int r :: [va_rf x11]) C E xi_1_SlatCratesYard (fun r h' e => wk_X1_size e) q261 q262 q263 q79 q264 xh_SlatCrates_Yard xd_X1_size (by decide) (by decide) ⟨xk_crf _, trivial⟩ (Nat.le_of_ble_eq_true rfl) rfl (fun _ => rfl) dX0_load_34 (fun r13 h14 E => ?_)
    refine xr_S [va_rf x11, .int r13] [] (fun r => some (.int (xk_b2 r))) (fun r => .int (xk_b2 r) :: []) C E (fun r h' e => wk_X0_canStand e) q1184 q1185 q78 q1186 xh_SlatCrates xd_X0_canStand (by decide) (by decide) trivial (Nat.le_of_ble_eq_true rfl) rfl (fun _ => rfl) dX0_load_37 (fun r15 h16 E => ?_)
    refine xr_if_ne 46 C E dX0_load_40 (by decide) (fun E => ?_) (fun E => ?_)
    · refine xr_aload_n 1 C rfl rfl dX0_load_46 ?_
      refine xr_gR C E xf_X0_10 dX0_load_47 (fun x17 E => ?_)
      refine xr_V (v := x17) [] [] (fun r => some (.int r)) (fun r => .int r :: []) C E xi_1_SlatCratesYard (fun r h' e => wk_X1_size e) q261 q262 q263 q79 q264 xh_SlatCrates_Yard xd_X1_size (by decide) (by decide) trivial (Nat.le_of_ble_eq_true rfl) rfl (fun _ => rfl) dX0_load_50 (fun r18 h19 E => ?_)
      refine xr_aload_n 0 C rfl rfl dX0_load_53 ?_
      refine xr_gR C E xf_X0_167 dX0_load_54 (fun x20 E => ?_)
      refine xr_V (v := x20) [] [.int r18] (fun r => some (.int r)) (fun r => .int r :: [.int r18]) C E xi_6_ArrayList (fun r h' e => wk_J2_size e) q1195 q266 q267 q82 q268 xh_java_util_ArrayList xd_J2_size (by decide) (by decide) ⟨rfl, trivial⟩ (Nat.le_of_ble_eq_true rfl) rfl (fun _ => rfl) dX0_load_57 (fun r21 h22 E => ?_)
      refine xr_iadd C dX0_load_60 ?_
      refine xr_bipush (12) C (by decide) dX0_load_61 ?_
      refine xr_icmp_le 69 C E dX0_load_63 (by decide) (fun E => ?_) (fun E => ?_)
      · refine xr_aload_n 1 C rfl rfl dX0_load_69 ?_
        refine xr_V (v := a0) [] [] (fun _ => none) (fun _ => []) C E xi_0_SlatCrates (fun r h' e => wk_X0_records e) q269 q271 qs0 q78 q272 xh_SlatCrates xd_X0_records (by decide) (by decide) trivial (Nat.le_of_ble_eq_true rfl) rfl (fun _ => rfl) dX0_load_70 (fun r23 h24 E => ?_)
        refine xr_aload_n 1 C rfl rfl dX0_load_73 ?_
        refine xr_gR C E xf_X0_10 dX0_load_74 (fun x25 E => ?_)
        refine xr_gR C E xf_X0_58 dX0_load_77 (fun x26 E => ?_)
        refine xr_aload_n 0 C rfl rfl dX0_load_80 ?_
        refine xr_gR C E xf_X0_167 dX0_load_81 (fun x27 E => ?_)
        refine xr_V (v := x26) [va_rf x27] [] (fun r => some (.int (xk_b2 r))) (fun r => .int (xk_b2 r) :: []) C E xi_6_ArrayList (fun r h' e => wk_J2_addAll e) q1196 q785 q786 q82 q787 xh_java_util_ArrayList xd_J2_addAll (by decide) (by decide) trivial (Nat.le_of_ble_eq_true rfl) rfl (fun _ => rfl) dX0_load_84 (fun r28 h29 E => ?_)
        refine xr_pop C rfl dX0_load_87 ?_
        refine xr_aload_n 1 C rfl rfl dX0_load_88 ?_
        refine xr_gR C E xf_X0_26 dX0_load_89 (fun x30 E => ?_)
        refine xr_iconst (0) C (by decide) dX0_load_92 ?_
        refine xr_V (v := x30) [.int (0 : Int32)] [] (fun _ => none) (fun _ => []) C E xi_8_StringBuilder (fun r h' e => wk_J6_setLength e) q1090 q1091 q1092 q86 q1093 xh_java_lang_StringBuilder xd_J6_setLength (by decide) (by decide) trivial (Nat.le_of_ble_eq_true rfl) rfl (fun _ => rfl) dX0_load_93 (fun r31 h32 E => ?_)
        refine xr_aload_n 1 C rfl rfl dX0_load_96 ?_
        refine xr_gR C E xf_X0_10 dX0_load_97 (fun x33 E => ?_)
        refine xr_V (v := x33) [] [] (fun r => some (.int r)) (fun r => .int r :: []) C E xi_1_SlatCratesYard (fun r h' e => wk_X1_size e) q261 q262 q263 q79 q264 xh_SlatCrates_Yard xd_X1_size (by decide) (by decide) trivial (Nat.le_of_ble_eq_true rfl) rfl (fun _ => rfl) dX0_load_100 (fun r34 h35 E => ?_)
        exact xr_iret C Z E dX0_load_103
      · refine xr_bipush (-3) C (by decide) dX0_load_66 ?_
        exact xr_iret C Z E dX0_load_68
    · refine xr_bipush (-2) C (by decide) dX0_load_43 ?_
      exact xr_iret C Z E dX0_load_45
def mf_X0_sign (a0 : Option Nat) (a1 : Int32) (a2 : Int32) (h0 : xk_H) : Option (Int32 × xk_H) :=
  xm_rc [0] a0 h0 <| xm_cl (mf_X0_isCrate a0 a1 h0) fun r1 h2 => if xk_b2 r1 = 0 then (some ((-1 : Int32), h2)) else (if 0 ≤ a2 then (xm_new 8 [.null, .int 0, .int 0, .int 0] h2 fun b3 h4 => xm_cl (mf_J6_init b3 h4) fun r5 h6 => xm_gR [0] 0 a0 h6 fun x7 => xm_rc [1] x7 h6 <| xm_cl (mf_X1_writes 30 x7 a1 (some b3) h6) fun r8 h9 => xm_rc [8] (some b3) h9 <| xm_cl (mf_J6_length (some b3) h9) fun r10 h11 => if r10 ≤ a2 then (some ((-4 : Int32), h11)) else (xm_rc [8] (some b3) h11 <| xm_cl (mf_J6_charAt (some b3) a2 h11) fun r12 h13 => some (r12, h13))) else (some ((-1 : Int32), h2)))
set_option maxHeartbeats 1000000 in
theorem wk_X0_sign {l : Launch} {D : va_G} {base : Nat} {a0 : Option Nat} {a1 : Int32} {a2 : Int32} {h0 : xk_H} {r : Int32} {h' : xk_H} (E : mf_X0_sign a0 a1 a2 h0 = some (r, h')) : xk_Ok l D base yX0_sign cX0_sign 4 (Option.some FieldType.int) 38 1032 [va_rf a0, .int a1, .int a2] h0 (some (.int r)) h' := by
  refine xk_ofX RX0 "sign" xq_X0_sign rfl rfl (Nat.le_of_ble_eq_true rfl) ⟨xk_crf _, ⟨rfl, ⟨rfl, trivial⟩⟩⟩ (fun Γ el eD eb C Z => ?_)
  rw [mf_X0_sign] at E
  show xk_X Γ 0 [(0, va_rf a0), (1, .int a1), (2, .int a2)] [] h0
  refine xr_aload_n 0 C rfl rfl dX0_sign_0 ?_
  refine xr_iload_n 1 C rfl rfl dX0_sign_1 ?_
  refine xr_V (v := a0) [.int a1] [] (fun r => some (.int (xk_b2 r))) (fun r => .int (xk_b2 r) :: []) C E xi_0_SlatCrates (fun r h' e => wk_X0_isCrate e) q905 q907 qs8 q78 q908 xh_SlatCrates xd_X0_isCrate (by decide) (by decide) trivial (Nat.le_of_ble_eq_true rfl) rfl (fun _ => rfl) dX0_sign_2 (fun r1 h2 E => ?_)
  refine xr_if_eq 12 C E dX0_sign_5 (by decide) (fun E => ?_) (fun E => ?_)
  · refine xr_iconst (-1) C (by decide) dX0_sign_12 ?_
    exact xr_iret C Z E dX0_sign_13
  · refine xr_iload_n 2 C rfl rfl dX0_sign_8 ?_
    refine xr_if_ge 14 C E dX0_sign_9 (by decide) (fun E => ?_) (fun E => ?_)
    · refine xr_new (t := 8) (C0 := "java/lang/StringBuilder") (n := 4) C E (by decide) xn_J6 (fun r hr => by cases hr; exact ⟨rfl, rfl⟩) q205 q206 q86 dX0_sign_14 (fun b3 h4 E => ?_)
      refine xr_dup C (xk_crf _) dX0_sign_17 ?_
      refine xr_I (b := b3) [] [va_rf (some b3)] (fun _ => none) (fun _ => [va_rf (some b3)]) C E (fun r h' e => wk_J6_init e) q207 q208 q86 q209 xh_java_lang_StringBuilder rfl xd_J6_init (by decide) (by decide) ⟨xk_crf _, trivial⟩ (Nat.le_of_ble_eq_true rfl) rfl (fun _ => rfl) dX0_sign_18 (fun r5 h6 E => ?_)
      refine xr_astore_n (L2 := [(3, va_rf (some b3)), (0, va_rf a0), (1, .int a1), (2, .int a2)]) C rfl rfl dX0_sign_21 (by decide) ?_
      refine xr_aload_n 1 C rfl rfl dX0_sign_22 ?_
      refine xr_gR C E xf_X0_10 dX0_sign_23 (fun x7 E => ?_)
      refine xr_iload_n 2 C rfl rfl dX0_sign_26 ?_
      refine xr_aload_n 0 C rfl rfl dX0_sign_27 ?_
      refine xr_V (v := x7) [.int a1, va_rf (some b3)] [] (fun _ => none) (fun _ => []) C E xi_1_SlatCratesYard (fun r h' e => wk_X1_writes 30 e) q1201 q1202 q1203 q79 q1204 xh_SlatCrates_Yard xd_X1_writes (by decide) (by decide) trivial (Nat.le_of_ble_eq_true rfl) rfl (fun _ => rfl) dX0_sign_28 (fun r8 h9 E => ?_)
      refine xr_iload_n 3 C rfl rfl dX0_sign_31 ?_
      refine xr_aload_n 0 C rfl rfl dX0_sign_32 ?_
      refine xr_V (v := (some b3)) [] [.int a2] (fun r => some (.int r)) (fun r => .int r :: [.int a2]) C E xi_8_StringBuilder (fun r h' e => wk_J6_length e) q1065 q643 q2505 q86 q644 xh_java_lang_StringBuilder xd_J6_length (by decide) (by decide) ⟨rfl, trivial⟩ (Nat.le_of_ble_eq_true rfl) rfl (fun _ => rfl) dX0_sign_33 (fun r10 h11 E => ?_)
      refine xr_icmp_ge 47 C E dX0_sign_36 (by decide) (fun E => ?_) (fun E => ?_)
      · refine xr_bipush (-4) C (by decide) dX0_sign_47 ?_
        exact xr_iret C Z E dX0_sign_49
      · refine xr_aload_n 0 C rfl rfl dX0_sign_39 ?_
        refine xr_iload_n 3 C rfl rfl dX0_sign_40 ?_
        refine xr_V (v := (some b3)) [.int a2] [] (fun r => some (.int r)) (fun r => .int r :: []) C E xi_8_StringBuilder (fun r h' e => wk_J6_charAt e) q1232 q1157 q1158 q86 q1159 xh_java_lang_StringBuilder xd_J6_charAt (by decide) (by decide) trivial (Nat.le_of_ble_eq_true rfl) rfl (fun _ => rfl) dX0_sign_41 (fun r12 h13 E => ?_)
        refine xr_goto 49 C dX0_sign_44 (by decide) ?_
        exact xr_iret C Z E dX0_sign_49
    · refine xr_iconst (-1) C (by decide) dX0_sign_12 ?_
      exact xr_iret C Z E dX0_sign_13
def mf_X0_crate (a0 : Option Nat) (a1 : Int32) (a2 : Int32) (h0 : xk_H) : Option (Int32 × xk_H) :=
  xm_rc [0] a0 h0 <| xm_cl (mf_X0_isCrate a0 a1 h0) fun r1 h2 => if xk_b2 r1 = 0 then (some ((-1 : Int32), h2)) else (xm_gR [0] 0 a0 h2 fun x3 => xm_rc [1] x3 h2 <| xm_cl (mf_X1_at x3 a1 h2) fun r4 h5 => if a2 = (0 : Int32) then (xm_gI [3] 0 r4 h5 fun x6 => some (x6, h5)) else if a2 = (1 : Int32) then (xm_gI [3] 1 r4 h5 fun x7 => some (x7, h5)) else if a2 = (2 : Int32) then (xm_gI [3] 2 r4 h5 fun x8 => some (x8, h5)) else if a2 = (3 : Int32) then (xm_gR [3] 3 r4 h5 fun x9 => xm_len [100] x9 h5 fun x10 => some (x10, h5)) else if a2 = (4 : Int32) then (xm_gR [0] 0 a0 h5 fun x11 => xm_rc [1] x11 h5 <| xm_cl (mf_X1_isOnGround x11 a1 h5) fun r12 h13 => if xk_b2 r12 = 0 then (xm_gI [3] 4 r4 h13 fun x14 => some (x14, h13)) else (some ((-4 : Int32), h13))) else if a2 = (5 : Int32) then (xm_gR [0] 0 a0 h5 fun x15 => xm_rc [1] x15 h5 <| xm_cl (mf_X1_depth x15 a1 h5) fun r16 h17 => some (r16, h17)) else if a2 = (6 : Int32) then (xm_gR [3] 5 r4 h5 fun x18 => xm_rc [6] x18 h5 <| xm_cl (mf_J2_size x18 h5) fun r19 h20 => some (r19, h20)) else if a2 = (7 : Int32) then (xm_gR [0] 0 a0 h5 fun x21 => xm_rc [1] x21 h5 <| xm_cl (mf_X1_load x21 a1 h5) fun r22 h23 => some (r22, h23)) else if a2 = (8 : Int32) then (xm_gR [0] 0 a0 h5 fun x24 => xm_rc [1] x24 h5 <| xm_cl (mf_X1_left x24 a1 h5) fun r25 h26 => some (r25, h26)) else if a2 = (9 : Int32) then (xm_gR [0] 0 a0 h5 fun x27 => xm_rc [1] x27 h5 <| xm_cl (mf_X1_placeInPile x27 a1 h5) fun r28 h29 => some (r28, h29)) else if a2 = (10 : Int32) then (xm_gR [0] 0 a0 h5 fun x30 => xm_rc [1] x30 h5 <| xm_cl (mf_X1_effort x30 a1 h5) fun r31 h32 => some (r31, h32)) else if a2 = (11 : Int32) then (xm_gR [0] 0 a0 h5 fun x33 => xm_rc [1] x33 h5 <| xm_cl (mf_X1_canBeTold x33 a1 h5) fun r34 h35 => if xk_b2 r34 = 0 then (some ((0 : Int32), h35)) else (some ((1 : Int32), h35))) else if a2 = (12 : Int32) then (xm_gR [0] 0 a0 h5 fun x36 => xm_rc [1] x36 h5 <| xm_cl (mf_X1_lettersSeen x36 a1 h5) fun r37 h38 => some (r37, h38)) else if a2 = (13 : Int32) then (xm_gR [0] 0 a0 h5 fun x39 => xm_rc [1] x39 h5 <| xm_cl (mf_X1_bestFor x39 a1 h5) fun r40 h41 => some (r40, h41)) else if a2 = (14 : Int32) then (xm_gR [0] 0 a0 h5 fun x42 => xm_rc [1] x42 h5 <| xm_cl (mf_X1_whyNotGround x42 a1 h5) fun r43 h44 => some (r43, h44)) else (some ((-1 : Int32), h5)))
set_option maxHeartbeats 1000000 in
theorem wk_X0_crate {l : Launch} {D : va_G} {base : Nat} {a0 : Option Nat} {a1 : Int32} {a2 : Int32} {h0 : xk_H} {r : Int32} {h' : xk_H} (E : mf_X0_crate a0 a1 a2 h0 = some (r, h')) : xk_Ok l D base yX0_crate cX0_crate 4 (Option.some FieldType.int) 10 290 [va_rf a0, .int a1, .int a2] h0 (some (.int r)) h' := by
  refine xk_ofX RX0 "crate" xq_X0_crate rfl rfl (Nat.le_of_ble_eq_true rfl) ⟨xk_crf _, ⟨rfl, ⟨rfl, trivial⟩⟩⟩ (fun Γ el eD eb C Z => ?_)
  rw [mf_X0_crate] at E
  show xk_X Γ 0 [(0, va_rf a0), (1, .int a1), (2, .int a2)] [] h0
  refine xr_aload_n 0 C rfl rfl dX0_crate_0 ?_
  refine xr_iload_n 1 C rfl rfl dX0_crate_1 ?_
  refine xr_V (v := a0) [.int a1] [] (fun r => some (.int (xk_b2 r))) (fun r => .int (xk_b2 r) :: []) C E xi_0_SlatCrates (fun r h' e => wk_X0_isCrate e) q905 q907 qs8 q78 q908 xh_SlatCrates xd_X0_isCrate (by decide) (by decide) trivial (Nat.le_of_ble_eq_true rfl) rfl (fun _ => rfl) dX0_crate_2 (fun r1 h2 E => ?_)
  refine xr_if_ne 10 C E dX0_crate_5 (by decide) (fun E => ?_) (fun E => ?_)
  · refine xr_aload_n 0 C rfl rfl dX0_crate_10 ?_
    refine xr_gR C E xf_X0_10 dX0_crate_11 (fun x3 E => ?_)
    refine xr_iload_n 1 C rfl rfl dX0_crate_14 ?_
    refine xr_V (v := x3) [.int a1] [] (fun r => some (va_rf r)) (fun r => va_rf r :: []) C E xi_1_SlatCratesYard (fun r h' e => wk_X1_at e) q1036 q922 q923 q79 q924 xh_SlatCrates_Yard xd_X1_at (by decide) (by decide) trivial (Nat.le_of_ble_eq_true rfl) rfl (fun _ => rfl) dX0_crate_15 (fun r4 h5 E => ?_)
    refine xr_astore_n (L2 := [(3, va_rf r4), (0, va_rf a0), (1, .int a1), (2, .int a2)]) C rfl rfl dX0_crate_18 (by decide) ?_
    refine xr_iload_n 3 C rfl rfl dX0_crate_19 ?_
    by_cases s0 : a2 = (0 : Int32)
    · rw [if_pos s0] at E
      refine xr_tsw 96 (0) C dX0_crate_20 s0 (by decide) (by decide) (off := 76) rfl (by decide) ?_
      refine xr_aload_n 0 C rfl rfl dX0_crate_96 ?_
      refine xr_gI C E xf_X0_162 dX0_crate_97 (fun x6 E => ?_)
      exact xr_iret C Z E dX0_crate_100
    rw [if_neg s0] at E
    by_cases s1 : a2 = (1 : Int32)
    · rw [if_pos s1] at E
      refine xr_tsw 101 (1) C dX0_crate_20 s1 (by decide) (by decide) (off := 81) rfl (by decide) ?_
      refine xr_aload_n 0 C rfl rfl dX0_crate_101 ?_
      refine xr_gI C E xf_X0_164 dX0_crate_102 (fun x7 E => ?_)
      exact xr_iret C Z E dX0_crate_105
    rw [if_neg s1] at E
    by_cases s2 : a2 = (2 : Int32)
    · rw [if_pos s2] at E
      refine xr_tsw 106 (2) C dX0_crate_20 s2 (by decide) (by decide) (off := 86) rfl (by decide) ?_
      refine xr_aload_n 0 C rfl rfl dX0_crate_106 ?_
      refine xr_gI C E xf_X0_110 dX0_crate_107 (fun x8 E => ?_)
      exact xr_iret C Z E dX0_crate_110
    rw [if_neg s2] at E
    by_cases s3 : a2 = (3 : Int32)
    · rw [if_pos s3] at E
      refine xr_tsw 111 (3) C dX0_crate_20 s3 (by decide) (by decide) (off := 91) rfl (by decide) ?_
      refine xr_aload_n 0 C rfl rfl dX0_crate_111 ?_
      refine xr_gR C E xf_X0_185 dX0_crate_112 (fun x9 E => ?_)
      refine xr_len 0 .int C E (fun _ => rfl) xt_100 dX0_crate_115 (fun x10 E => ?_)
      exact xr_iret C Z E dX0_crate_116
    rw [if_neg s3] at E
    by_cases s4 : a2 = (4 : Int32)
    · rw [if_pos s4] at E
      refine xr_tsw 117 (4) C dX0_crate_20 s4 (by decide) (by decide) (off := 97) rfl (by decide) ?_
      refine xr_aload_n 1 C rfl rfl dX0_crate_117 ?_
      refine xr_gR C E xf_X0_10 dX0_crate_118 (fun x11 E => ?_)
      refine xr_iload_n 2 C rfl rfl dX0_crate_121 ?_
      refine xr_V (v := x11) [.int a1] [] (fun r => some (.int (xk_b2 r))) (fun r => .int (xk_b2 r) :: []) C E xi_1_SlatCratesYard (fun r h' e => wk_X1_isOnGround e) q1237 q918 q919 q79 q920 xh_SlatCrates_Yard xd_X1_isOnGround (by decide) (by decide) trivial (Nat.le_of_ble_eq_true rfl) rfl (fun _ => rfl) dX0_crate_122 (fun r12 h13 E => ?_)
      refine xr_if_eq 133 C E dX0_crate_125 (by decide) (fun E => ?_) (fun E => ?_)
      · refine xr_aload_n 0 C rfl rfl dX0_crate_133 ?_
        refine xr_gI C E xf_X0_192 dX0_crate_134 (fun x14 E => ?_)
        exact xr_iret C Z E dX0_crate_137
      · refine xr_bipush (-4) C (by decide) dX0_crate_128 ?_
        refine xr_goto 137 C dX0_crate_130 (by decide) ?_
        exact xr_iret C Z E dX0_crate_137
    rw [if_neg s4] at E
    by_cases s5 : a2 = (5 : Int32)
    · rw [if_pos s5] at E
      refine xr_tsw 138 (5) C dX0_crate_20 s5 (by decide) (by decide) (off := 118) rfl (by decide) ?_
      refine xr_aload_n 1 C rfl rfl dX0_crate_138 ?_
      refine xr_gR C E xf_X0_10 dX0_crate_139 (fun x15 E => ?_)
      refine xr_iload_n 2 C rfl rfl dX0_crate_142 ?_
      refine xr_V (v := x15) [.int a1] [] (fun r => some (.int r)) (fun r => .int r :: []) C E xi_1_SlatCratesYard (fun r h' e => wk_X1_depth e) q1019 q1020 q1021 q79 q1022 xh_SlatCrates_Yard xd_X1_depth (by decide) (by decide) trivial (Nat.le_of_ble_eq_true rfl) rfl (fun _ => rfl) dX0_crate_143 (fun r16 h17 E => ?_)
      exact xr_iret C Z E dX0_crate_146
    rw [if_neg s5] at E
    by_cases s6 : a2 = (6 : Int32)
    · rw [if_pos s6] at E
      refine xr_tsw 147 (6) C dX0_crate_20 s6 (by decide) (by decide) (off := 127) rfl (by decide) ?_
      refine xr_aload_n 0 C rfl rfl dX0_crate_147 ?_
      refine xr_gR C E xf_X0_150 dX0_crate_148 (fun x18 E => ?_)
      refine xr_V (v := x18) [] [] (fun r => some (.int r)) (fun r => .int r :: []) C E xi_6_ArrayList (fun r h' e => wk_J2_size e) q1195 q266 q267 q82 q268 xh_java_util_ArrayList xd_J2_size (by decide) (by decide) trivial (Nat.le_of_ble_eq_true rfl) rfl (fun _ => rfl) dX0_crate_151 (fun r19 h20 E => ?_)
      exact xr_iret C Z E dX0_crate_154
    rw [if_neg s6] at E
    by_cases s7 : a2 = (7 : Int32)
    · rw [if_pos s7] at E
      refine xr_tsw 155 (7) C dX0_crate_20 s7 (by decide) (by decide) (off := 135) rfl (by decide) ?_
      refine xr_aload_n 1 C rfl rfl dX0_crate_155 ?_
      refine xr_gR C E xf_X0_10 dX0_crate_156 (fun x21 E => ?_)
      refine xr_iload_n 2 C rfl rfl dX0_crate_159 ?_
      refine xr_V (v := x21) [.int a1] [] (fun r => some (.int r)) (fun r => .int r :: []) C E xi_1_SlatCratesYard (fun r h' e => wk_X1_load e) q1238 q1239 q1240 q79 q1241 xh_SlatCrates_Yard xd_X1_load (by decide) (by decide) trivial (Nat.le_of_ble_eq_true rfl) rfl (fun _ => rfl) dX0_crate_160 (fun r22 h23 E => ?_)
      exact xr_iret C Z E dX0_crate_163
    rw [if_neg s7] at E
    by_cases s8 : a2 = (8 : Int32)
    · rw [if_pos s8] at E
      refine xr_tsw 164 (8) C dX0_crate_20 s8 (by decide) (by decide) (off := 144) rfl (by decide) ?_
      refine xr_aload_n 1 C rfl rfl dX0_crate_164 ?_
      refine xr_gR C E xf_X0_10 dX0_crate_165 (fun x24 E => ?_)
      refine xr_iload_n 2 C rfl rfl dX0_crate_168 ?_
      refine xr_V (v := x24) [.int a1] [] (fun r => some (.int r)) (fun r => .int r :: []) C E xi_1_SlatCratesYard (fun r h' e => wk_X1_left e) q1243 q994 q995 q79 q996 xh_SlatCrates_Yard xd_X1_left (by decide) (by decide) trivial (Nat.le_of_ble_eq_true rfl) rfl (fun _ => rfl) dX0_crate_169 (fun r25 h26 E => ?_)
      exact xr_iret C Z E dX0_crate_172
    rw [if_neg s8] at E
    by_cases s9 : a2 = (9 : Int32)
    · rw [if_pos s9] at E
      refine xr_tsw 173 (9) C dX0_crate_20 s9 (by decide) (by decide) (off := 153) rfl (by decide) ?_
      refine xr_aload_n 1 C rfl rfl dX0_crate_173 ?_
      refine xr_gR C E xf_X0_10 dX0_crate_174 (fun x27 E => ?_)
      refine xr_iload_n 2 C rfl rfl dX0_crate_177 ?_
      refine xr_V (v := x27) [.int a1] [] (fun r => some (.int r)) (fun r => .int r :: []) C E xi_1_SlatCratesYard (fun r h' e => wk_X1_placeInPile e) q1244 q927 q928 q79 q929 xh_SlatCrates_Yard xd_X1_placeInPile (by decide) (by decide) trivial (Nat.le_of_ble_eq_true rfl) rfl (fun _ => rfl) dX0_crate_178 (fun r28 h29 E => ?_)
      exact xr_iret C Z E dX0_crate_181
    rw [if_neg s9] at E
    by_cases s10 : a2 = (10 : Int32)
    · rw [if_pos s10] at E
      refine xr_tsw 182 (10) C dX0_crate_20 s10 (by decide) (by decide) (off := 162) rfl (by decide) ?_
      refine xr_aload_n 1 C rfl rfl dX0_crate_182 ?_
      refine xr_gR C E xf_X0_10 dX0_crate_183 (fun x30 E => ?_)
      refine xr_iload_n 2 C rfl rfl dX0_crate_186 ?_
      refine xr_V (v := x30) [.int a1] [] (fun r => some (.int r)) (fun r => .int r :: []) C E xi_1_SlatCratesYard (fun r h' e => wk_X1_effort e) q1245 q1246 q1247 q79 q1248 xh_SlatCrates_Yard xd_X1_effort (by decide) (by decide) trivial (Nat.le_of_ble_eq_true rfl) rfl (fun _ => rfl) dX0_crate_187 (fun r31 h32 E => ?_)
      exact xr_iret C Z E dX0_crate_190
    rw [if_neg s10] at E
    by_cases s11 : a2 = (11 : Int32)
    · rw [if_pos s11] at E
      refine xr_tsw 191 (11) C dX0_crate_20 s11 (by decide) (by decide) (off := 171) rfl (by decide) ?_
      refine xr_aload_n 1 C rfl rfl dX0_crate_191 ?_
      refine xr_gR C E xf_X0_10 dX0_crate_192 (fun x33 E => ?_)
      refine xr_iload_n 2 C rfl rfl dX0_crate_195 ?_
      refine xr_V (v := x33) [.int a1] [] (fun r => some (.int (xk_b2 r))) (fun r => .int (xk_b2 r) :: []) C E xi_1_SlatCratesYard (fun r h' e => wk_X1_canBeTold e) q1249 q1250 q1251 q79 q1252 xh_SlatCrates_Yard xd_X1_canBeTold (by decide) (by decide) trivial (Nat.le_of_ble_eq_true rfl) rfl (fun _ => rfl) dX0_crate_196 (fun r34 h35 E => ?_)
      refine xr_if_eq 206 C E dX0_crate_199 (by decide) (fun E => ?_) (fun E => ?_)
      · refine xr_iconst (0) C (by decide) dX0_crate_206 ?_
        exact xr_iret C Z E dX0_crate_207
      · refine xr_iconst (1) C (by decide) dX0_crate_202 ?_
        refine xr_goto 207 C dX0_crate_203 (by decide) ?_
        exact xr_iret C Z E dX0_crate_207
    rw [if_neg s11] at E
    by_cases s12 : a2 = (12 : Int32)
    · rw [if_pos s12] at E
      refine xr_tsw 208 (12) C dX0_crate_20 s12 (by decide) (by decide) (off := 188) rfl (by decide) ?_
      refine xr_aload_n 1 C rfl rfl dX0_crate_208 ?_
      refine xr_gR C E xf_X0_10 dX0_crate_209 (fun x36 E => ?_)
      refine xr_iload_n 2 C rfl rfl dX0_crate_212 ?_
      refine xr_V (v := x36) [.int a1] [] (fun r => some (.int r)) (fun r => .int r :: []) C E xi_1_SlatCratesYard (fun r h' e => wk_X1_lettersSeen e) q1779 q1780 q1781 q79 q1782 xh_SlatCrates_Yard xd_X1_lettersSeen (by decide) (by decide) trivial (Nat.le_of_ble_eq_true rfl) rfl (fun _ => rfl) dX0_crate_213 (fun r37 h38 E => ?_)
      exact xr_iret C Z E dX0_crate_216
    rw [if_neg s12] at E
    by_cases s13 : a2 = (13 : Int32)
    · rw [if_pos s13] at E
      refine xr_tsw 217 (13) C dX0_crate_20 s13 (by decide) (by decide) (off := 197) rfl (by decide) ?_
      refine xr_aload_n 1 C rfl rfl dX0_crate_217 ?_
      refine xr_gR C E xf_X0_10 dX0_crate_218 (fun x39 E => ?_)
      refine xr_iload_n 2 C rfl rfl dX0_crate_221 ?_
      refine xr_V (v := x39) [.int a1] [] (fun r => some (.int r)) (fun r => .int r :: []) C E xi_1_SlatCratesYard (fun r h' e => wk_X1_bestFor e) q1783 q1784 q1785 q79 q1786 xh_SlatCrates_Yard xd_X1_bestFor (by decide) (by decide) trivial (Nat.le_of_ble_eq_true rfl) rfl (fun _ => rfl) dX0_crate_222 (fun r40 h41 E => ?_)
      exact xr_iret C Z E dX0_crate_225
    rw [if_neg s13] at E
    by_cases s14 : a2 = (14 : Int32)
    · rw [if_pos s14] at E
      refine xr_tsw 226 (14) C dX0_crate_20 s14 (by decide) (by decide) (off := 206) rfl (by decide) ?_
      refine xr_aload_n 1 C rfl rfl dX0_crate_226 ?_
      refine xr_gR C E xf_X0_10 dX0_crate_227 (fun x42 E => ?_)
      refine xr_iload_n 2 C rfl rfl dX0_crate_230 ?_
      refine xr_V (v := x42) [.int a1] [] (fun r => some (.int r)) (fun r => .int r :: []) C E xi_1_SlatCratesYard (fun r h' e => wk_X1_whyNotGround e) q1027 q1028 q1029 q79 q1030 xh_SlatCrates_Yard xd_X1_whyNotGround (by decide) (by decide) trivial (Nat.le_of_ble_eq_true rfl) rfl (fun _ => rfl) dX0_crate_231 (fun r43 h44 E => ?_)
      exact xr_iret C Z E dX0_crate_234
    rw [if_neg s14] at E
    refine xr_tswd 235 C dX0_crate_20 (by have t0 := lv_neT s0 (a := 0) rfl; have t1 := lv_neT s1 (a := 1) rfl; have t2 := lv_neT s2 (a := 2) rfl; have t3 := lv_neT s3 (a := 3) rfl; have t4 := lv_neT s4 (a := 4) rfl; have t5 := lv_neT s5 (a := 5) rfl; have t6 := lv_neT s6 (a := 6) rfl; have t7 := lv_neT s7 (a := 7) rfl; have t8 := lv_neT s8 (a := 8) rfl; have t9 := lv_neT s9 (a := 9) rfl; have t10 := lv_neT s10 (a := 10) rfl; have t11 := lv_neT s11 (a := 11) rfl; have t12 := lv_neT s12 (a := 12) rfl; have t13 := lv_neT s13 (a := 13) rfl; have t14 := lv_neT s14 (a := 14) rfl; omega) (by decide) ?_
    refine xr_iconst (-1) C (by decide) dX0_crate_235 ?_
    exact xr_iret C Z E dX0_crate_236
  · refine xr_iconst (-1) C (by decide) dX0_crate_8 ?_
    exact xr_iret C Z E dX0_crate_9
def mf_X0_isPlace (a0 : Int32) (h0 : xk_H) : Option (Bool × xk_H) :=
  xm_cl (mf_X0_inRange a0 (0 : Int32) (3 : Int32) h0) fun r1 h2 => some (r1, h2)
set_option maxHeartbeats 1000000 in
theorem wk_X0_isPlace {l : Launch} {D : va_G} {base : Nat} {a0 : Int32} {h0 : xk_H} {r : Bool} {h' : xk_H} (E : mf_X0_isPlace a0 h0 = some (r, h')) : xk_Ok l D base yX0_isPlace cX0_isPlace 1 (Option.some FieldType.boolean) 2 82 [.int a0] h0 (some (.int (xk_b2 r))) h' := by
  refine xk_ofX RX0 "isPlace" xq_X0_isPlace rfl rfl (Nat.le_of_ble_eq_true rfl) ⟨rfl, trivial⟩ (fun Γ el eD eb C Z => ?_)
  rw [mf_X0_isPlace] at E
  show xk_X Γ 0 [(0, .int a0)] [] h0
  refine xr_iload_n 0 C rfl rfl dX0_isPlace_0 ?_
  refine xr_iconst (0) C (by decide) dX0_isPlace_1 ?_
  refine xr_iconst (3) C (by decide) dX0_isPlace_2 ?_
  refine xr_S [.int a0, .int (0 : Int32), .int (3 : Int32)] [] (fun r => some (.int (xk_b2 r))) (fun r => .int (xk_b2 r) :: []) C E (fun r h' e => wk_X0_inRange e) q258 q259 q78 q260 xh_SlatCrates xd_X0_inRange (by decide) (by decide) trivial (Nat.le_of_ble_eq_true rfl) rfl (fun _ => rfl) dX0_isPlace_3 (fun r1 h2 E => ?_)
  exact xr_bret (b := r1) C Z E dX0_isPlace_6
def mf_X0_letter (a0 : Option Nat) (a1 : Int32) (a2 : Int32) (h0 : xk_H) : Option (Int32 × xk_H) :=
  xm_rc [0] a0 h0 <| xm_cl (mf_X0_isCrate a0 a1 h0) fun r1 h2 => if xk_b2 r1 = 0 then (some ((-1 : Int32), h2)) else (xm_cl (mf_X0_isPlace a2 h2) fun r3 h4 => if xk_b2 r3 = 0 then (some ((-1 : Int32), h4)) else (xm_gR [0] 0 a0 h4 fun x5 => xm_rc [1] x5 h4 <| xm_cl (mf_X1_at x5 a1 h4) fun r6 h7 => xm_gR [3] 3 r6 h7 fun x8 => xm_len [100] x8 h7 fun x9 => if x9 ≤ a2 then (some ((-4 : Int32), h7)) else (xm_lI [100] x8 a2 h7 fun x10 => some (x10, h7))))
set_option maxHeartbeats 1000000 in
theorem wk_X0_letter {l : Launch} {D : va_G} {base : Nat} {a0 : Option Nat} {a1 : Int32} {a2 : Int32} {h0 : xk_H} {r : Int32} {h' : xk_H} (E : mf_X0_letter a0 a1 a2 h0 = some (r, h')) : xk_Ok l D base yX0_letter cX0_letter 4 (Option.some FieldType.int) 5 145 [va_rf a0, .int a1, .int a2] h0 (some (.int r)) h' := by
  refine xk_ofX RX0 "letter" xq_X0_letter rfl rfl (Nat.le_of_ble_eq_true rfl) ⟨xk_crf _, ⟨rfl, ⟨rfl, trivial⟩⟩⟩ (fun Γ el eD eb C Z => ?_)
  rw [mf_X0_letter] at E
  show xk_X Γ 0 [(0, va_rf a0), (1, .int a1), (2, .int a2)] [] h0
  refine xr_aload_n 0 C rfl rfl dX0_letter_0 ?_
  refine xr_iload_n 1 C rfl rfl dX0_letter_1 ?_
  refine xr_V (v := a0) [.int a1] [] (fun r => some (.int (xk_b2 r))) (fun r => .int (xk_b2 r) :: []) C E xi_0_SlatCrates (fun r h' e => wk_X0_isCrate e) q905 q907 qs8 q78 q908 xh_SlatCrates xd_X0_isCrate (by decide) (by decide) trivial (Nat.le_of_ble_eq_true rfl) rfl (fun _ => rfl) dX0_letter_2 (fun r1 h2 E => ?_)
  refine xr_if_eq 15 C E dX0_letter_5 (by decide) (fun E => ?_) (fun E => ?_)
  · refine xr_iconst (-1) C (by decide) dX0_letter_15 ?_
    exact xr_iret C Z E dX0_letter_16
  · refine xr_iload_n 2 C rfl rfl dX0_letter_8 ?_
    refine xr_S [.int a2] [] (fun r => some (.int (xk_b2 r))) (fun r => .int (xk_b2 r) :: []) C E (fun r h' e => wk_X0_isPlace e) q1791 q1792 q78 q1793 xh_SlatCrates xd_X0_isPlace (by decide) (by decide) trivial (Nat.le_of_ble_eq_true rfl) rfl (fun _ => rfl) dX0_letter_9 (fun r3 h4 E => ?_)
    refine xr_if_ne 17 C E dX0_letter_12 (by decide) (fun E => ?_) (fun E => ?_)
    · refine xr_aload_n 0 C rfl rfl dX0_letter_17 ?_
      refine xr_gR C E xf_X0_10 dX0_letter_18 (fun x5 E => ?_)
      refine xr_iload_n 1 C rfl rfl dX0_letter_21 ?_
      refine xr_V (v := x5) [.int a1] [] (fun r => some (va_rf r)) (fun r => va_rf r :: []) C E xi_1_SlatCratesYard (fun r h' e => wk_X1_at e) q1036 q922 q923 q79 q924 xh_SlatCrates_Yard xd_X1_at (by decide) (by decide) trivial (Nat.le_of_ble_eq_true rfl) rfl (fun _ => rfl) dX0_letter_22 (fun r6 h7 E => ?_)
      refine xr_gR C E xf_X0_185 dX0_letter_25 (fun x8 E => ?_)
      refine xr_astore_n (L2 := [(3, va_rf x8), (0, va_rf a0), (1, .int a1), (2, .int a2)]) C rfl rfl dX0_letter_28 (by decide) ?_
      refine xr_iload_n 3 C rfl rfl dX0_letter_29 ?_
      refine xr_aload_n 0 C rfl rfl dX0_letter_30 ?_
      refine xr_len 0 .int C E (fun _ => rfl) xt_100 dX0_letter_31 (fun x9 E => ?_)
      refine xr_icmp_ge 41 C E dX0_letter_32 (by decide) (fun E => ?_) (fun E => ?_)
      · refine xr_bipush (-4) C (by decide) dX0_letter_41 ?_
        exact xr_iret C Z E dX0_letter_43
      · refine xr_aload_n 0 C rfl rfl dX0_letter_35 ?_
        refine xr_iload_n 3 C rfl rfl dX0_letter_36 ?_
        refine xr_lI C E xt_100 dX0_letter_37 (fun x10 E => ?_)
        refine xr_goto 43 C dX0_letter_38 (by decide) ?_
        exact xr_iret C Z E dX0_letter_43
    · refine xr_iconst (-1) C (by decide) dX0_letter_15 ?_
      exact xr_iret C Z E dX0_letter_16
def mf_X0_seen (a0 : Option Nat) (a1 : Int32) (a2 : Int32) (h0 : xk_H) : Option (Int32 × xk_H) :=
  xm_rc [0] a0 h0 <| xm_cl (mf_X0_isCrate a0 a1 h0) fun r1 h2 => if xk_b2 r1 = 0 then (some ((-1 : Int32), h2)) else (xm_cl (mf_X0_isPlace a2 h2) fun r3 h4 => if xk_b2 r3 = 0 then (some ((-1 : Int32), h4)) else (xm_gR [0] 0 a0 h4 fun x5 => xm_rc [1] x5 h4 <| xm_cl (mf_X1_seen x5 a1 h4) fun r6 h7 => xm_rc [5] r6 h7 <| xm_cl (mf_X5_sign r6 a2 h7) fun r8 h9 => some (r8, h9)))
set_option maxHeartbeats 1000000 in
theorem wk_X0_seen {l : Launch} {D : va_G} {base : Nat} {a0 : Option Nat} {a1 : Int32} {a2 : Int32} {h0 : xk_H} {r : Int32} {h' : xk_H} (E : mf_X0_seen a0 a1 a2 h0 = some (r, h')) : xk_Ok l D base yX0_seen cX0_seen 3 (Option.some FieldType.int) 8 215 [va_rf a0, .int a1, .int a2] h0 (some (.int r)) h' := by
  refine xk_ofX RX0 "seen" xq_X0_seen rfl rfl (Nat.le_of_ble_eq_true rfl) ⟨xk_crf _, ⟨rfl, ⟨rfl, trivial⟩⟩⟩ (fun Γ el eD eb C Z => ?_)
  rw [mf_X0_seen] at E
  show xk_X Γ 0 [(0, va_rf a0), (1, .int a1), (2, .int a2)] [] h0
  refine xr_aload_n 0 C rfl rfl dX0_seen_0 ?_
  refine xr_iload_n 1 C rfl rfl dX0_seen_1 ?_
  refine xr_V (v := a0) [.int a1] [] (fun r => some (.int (xk_b2 r))) (fun r => .int (xk_b2 r) :: []) C E xi_0_SlatCrates (fun r h' e => wk_X0_isCrate e) q905 q907 qs8 q78 q908 xh_SlatCrates xd_X0_isCrate (by decide) (by decide) trivial (Nat.le_of_ble_eq_true rfl) rfl (fun _ => rfl) dX0_seen_2 (fun r1 h2 E => ?_)
  refine xr_if_eq 30 C E dX0_seen_5 (by decide) (fun E => ?_) (fun E => ?_)
  · refine xr_iconst (-1) C (by decide) dX0_seen_30 ?_
    exact xr_iret C Z E dX0_seen_31
  · refine xr_iload_n 2 C rfl rfl dX0_seen_8 ?_
    refine xr_S [.int a2] [] (fun r => some (.int (xk_b2 r))) (fun r => .int (xk_b2 r) :: []) C E (fun r h' e => wk_X0_isPlace e) q1791 q1792 q78 q1793 xh_SlatCrates xd_X0_isPlace (by decide) (by decide) trivial (Nat.le_of_ble_eq_true rfl) rfl (fun _ => rfl) dX0_seen_9 (fun r3 h4 E => ?_)
    refine xr_if_eq 30 C E dX0_seen_12 (by decide) (fun E => ?_) (fun E => ?_)
    · refine xr_iconst (-1) C (by decide) dX0_seen_30 ?_
      exact xr_iret C Z E dX0_seen_31
    · refine xr_aload_n 0 C rfl rfl dX0_seen_15 ?_
      refine xr_gR C E xf_X0_10 dX0_seen_16 (fun x5 E => ?_)
      refine xr_iload_n 1 C rfl rfl dX0_seen_19 ?_
      refine xr_V (v := x5) [.int a1] [] (fun r => some (va_rf r)) (fun r => va_rf r :: []) C E xi_1_SlatCratesYard (fun r h' e => wk_X1_seen e) q1798 q1299 q1300 q79 q1301 xh_SlatCrates_Yard xd_X1_seen (by decide) (by decide) trivial (Nat.le_of_ble_eq_true rfl) rfl (fun _ => rfl) dX0_seen_20 (fun r6 h7 E => ?_)
      refine xr_iload_n 2 C rfl rfl dX0_seen_23 ?_
      refine xr_V (v := r6) [.int a2] [] (fun r => some (.int r)) (fun r => .int r :: []) C E xi_5_SlatCratesSeen (fun r h' e => wk_X5_sign e) q1799 q1800 q1801 q110 q1802 xh_SlatCrates_Seen xd_X5_sign (by decide) (by decide) trivial (Nat.le_of_ble_eq_true rfl) rfl (fun _ => rfl) dX0_seen_24 (fun r8 h9 E => ?_)
      refine xr_goto 31 C dX0_seen_27 (by decide) ?_
      exact xr_iret C Z E dX0_seen_31
def mf_X0_whyNot (a0 : Option Nat) (a1 : Int32) (a2 : Int32) (h0 : xk_H) : Option (Int32 × xk_H) :=
  xm_rc [0] a0 h0 <| xm_cl (mf_X0_isCrate a0 a1 h0) fun r1 h2 => if xk_b2 r1 = 0 then (some ((-1 : Int32), h2)) else (xm_rc [0] a0 h2 <| xm_cl (mf_X0_isCrate a0 a2 h2) fun r3 h4 => if xk_b2 r3 = 0 then (some ((-1 : Int32), h4)) else (xm_gR [0] 0 a0 h4 fun x5 => xm_rc [1] x5 h4 <| xm_cl (mf_X1_whyNotPut x5 a1 a2 h4) fun r6 h7 => some (r6, h7)))
set_option maxHeartbeats 1000000 in
theorem wk_X0_whyNot {l : Launch} {D : va_G} {base : Nat} {a0 : Option Nat} {a1 : Int32} {a2 : Int32} {h0 : xk_H} {r : Int32} {h' : xk_H} (E : mf_X0_whyNot a0 a1 a2 h0 = some (r, h')) : xk_Ok l D base yX0_whyNot cX0_whyNot 3 (Option.some FieldType.int) 9 231 [va_rf a0, .int a1, .int a2] h0 (some (.int r)) h' := by
  refine xk_ofX RX0 "whyNot" xq_X0_whyNot rfl rfl (Nat.le_of_ble_eq_true rfl) ⟨xk_crf _, ⟨rfl, ⟨rfl, trivial⟩⟩⟩ (fun Γ el eD eb C Z => ?_)
  rw [mf_X0_whyNot] at E
  show xk_X Γ 0 [(0, va_rf a0), (1, .int a1), (2, .int a2)] [] h0
  refine xr_aload_n 0 C rfl rfl dX0_whyNot_0 ?_
  refine xr_iload_n 1 C rfl rfl dX0_whyNot_1 ?_
  refine xr_V (v := a0) [.int a1] [] (fun r => some (.int (xk_b2 r))) (fun r => .int (xk_b2 r) :: []) C E xi_0_SlatCrates (fun r h' e => wk_X0_isCrate e) q905 q907 qs8 q78 q908 xh_SlatCrates xd_X0_isCrate (by decide) (by decide) trivial (Nat.le_of_ble_eq_true rfl) rfl (fun _ => rfl) dX0_whyNot_2 (fun r1 h2 E => ?_)
  refine xr_if_eq 28 C E dX0_whyNot_5 (by decide) (fun E => ?_) (fun E => ?_)
  · refine xr_iconst (-1) C (by decide) dX0_whyNot_28 ?_
    exact xr_iret C Z E dX0_whyNot_29
  · refine xr_aload_n 0 C rfl rfl dX0_whyNot_8 ?_
    refine xr_iload_n 2 C rfl rfl dX0_whyNot_9 ?_
    refine xr_V (v := a0) [.int a2] [] (fun r => some (.int (xk_b2 r))) (fun r => .int (xk_b2 r) :: []) C E xi_0_SlatCrates (fun r h' e => wk_X0_isCrate e) q905 q907 qs8 q78 q908 xh_SlatCrates xd_X0_isCrate (by decide) (by decide) trivial (Nat.le_of_ble_eq_true rfl) rfl (fun _ => rfl) dX0_whyNot_10 (fun r3 h4 E => ?_)
    refine xr_if_eq 28 C E dX0_whyNot_13 (by decide) (fun E => ?_) (fun E => ?_)
    · refine xr_iconst (-1) C (by decide) dX0_whyNot_28 ?_
      exact xr_iret C Z E dX0_whyNot_29
    · refine xr_aload_n 0 C rfl rfl dX0_whyNot_16 ?_
      refine xr_gR C E xf_X0_10 dX0_whyNot_17 (fun x5 E => ?_)
      refine xr_iload_n 1 C rfl rfl dX0_whyNot_20 ?_
      refine xr_iload_n 2 C rfl rfl dX0_whyNot_21 ?_
      refine xr_V (v := x5) [.int a1, .int a2] [] (fun r => some (.int r)) (fun r => .int r :: []) C E xi_1_SlatCratesYard (fun r h' e => wk_X1_whyNotPut e) q909 q910 q911 q79 q912 xh_SlatCrates_Yard xd_X1_whyNotPut (by decide) (by decide) trivial (Nat.le_of_ble_eq_true rfl) rfl (fun _ => rfl) dX0_whyNot_22 (fun r6 h7 E => ?_)
      refine xr_goto 29 C dX0_whyNot_25 (by decide) ?_
      exact xr_iret C Z E dX0_whyNot_29
def mf_X0_effort (a0 : Option Nat) (a1 : Int32) (a2 : Int32) (h0 : xk_H) : Option (Int32 × xk_H) :=
  xm_cl (mf_X0_inRange a1 (1 : Int32) (60 : Int32) h0) fun r1 h2 => if xk_b2 r1 = 0 then (some ((-1 : Int32), h2)) else (xm_cl (mf_X0_inRange a2 (0 : Int32) (1 : Int32) h2) fun r3 h4 => if xk_b2 r3 = 0 then (some ((-1 : Int32), h4)) else (if a2 = 0 then (xm_gR [0] 0 a0 h4 fun x8 => xm_rc [1] x8 h4 <| xm_cl (mf_X1_effortsUp x8 a1 h4) fun r9 h10 => some (r9, h10)) else (xm_gR [0] 0 a0 h4 fun x5 => xm_rc [1] x5 h4 <| xm_cl (mf_X1_effortsDown x5 a1 h4) fun r6 h7 => some (r6, h7))))
set_option maxHeartbeats 1000000 in
theorem wk_X0_effort {l : Launch} {D : va_G} {base : Nat} {a0 : Option Nat} {a1 : Int32} {a2 : Int32} {h0 : xk_H} {r : Int32} {h' : xk_H} (E : mf_X0_effort a0 a1 a2 h0 = some (r, h')) : xk_Ok l D base yX0_effort cX0_effort 3 (Option.some FieldType.int) 37 974 [va_rf a0, .int a1, .int a2] h0 (some (.int r)) h' := by
  refine xk_ofX RX0 "effort" xq_X0_effort rfl rfl (Nat.le_of_ble_eq_true rfl) ⟨xk_crf _, ⟨rfl, ⟨rfl, trivial⟩⟩⟩ (fun Γ el eD eb C Z => ?_)
  rw [mf_X0_effort] at E
  show xk_X Γ 0 [(0, va_rf a0), (1, .int a1), (2, .int a2)] [] h0
  refine xr_iload_n 1 C rfl rfl dX0_effort_0 ?_
  refine xr_iconst (1) C (by decide) dX0_effort_1 ?_
  refine xr_bipush (60) C (by decide) dX0_effort_2 ?_
  refine xr_S [.int a1, .int (1 : Int32), .int (60 : Int32)] [] (fun r => some (.int (xk_b2 r))) (fun r => .int (xk_b2 r) :: []) C E (fun r h' e => wk_X0_inRange e) q258 q259 q78 q260 xh_SlatCrates xd_X0_inRange (by decide) (by decide) trivial (Nat.le_of_ble_eq_true rfl) rfl (fun _ => rfl) dX0_effort_4 (fun r1 h2 E => ?_)
  refine xr_if_eq 19 C E dX0_effort_7 (by decide) (fun E => ?_) (fun E => ?_)
  · refine xr_iconst (-1) C (by decide) dX0_effort_19 ?_
    exact xr_iret C Z E dX0_effort_20
  · refine xr_iload_n 2 C rfl rfl dX0_effort_10 ?_
    refine xr_iconst (0) C (by decide) dX0_effort_11 ?_
    refine xr_iconst (1) C (by decide) dX0_effort_12 ?_
    refine xr_S [.int a2, .int (0 : Int32), .int (1 : Int32)] [] (fun r => some (.int (xk_b2 r))) (fun r => .int (xk_b2 r) :: []) C E (fun r h' e => wk_X0_inRange e) q258 q259 q78 q260 xh_SlatCrates xd_X0_inRange (by decide) (by decide) trivial (Nat.le_of_ble_eq_true rfl) rfl (fun _ => rfl) dX0_effort_13 (fun r3 h4 E => ?_)
    refine xr_if_ne 21 C E dX0_effort_16 (by decide) (fun E => ?_) (fun E => ?_)
    · refine xr_iload_n 2 C rfl rfl dX0_effort_21 ?_
      refine xr_if_ne 36 C E dX0_effort_22 (by decide) (fun E => ?_) (fun E => ?_)
      · refine xr_aload_n 0 C rfl rfl dX0_effort_36 ?_
        refine xr_gR C E xf_X0_10 dX0_effort_37 (fun x5 E => ?_)
        refine xr_iload_n 1 C rfl rfl dX0_effort_40 ?_
        refine xr_V (v := x5) [.int a1] [] (fun r => some (.int r)) (fun r => .int r :: []) C E xi_1_SlatCratesYard (fun r h' e => wk_X1_effortsDown e) q1816 q1817 q1818 q79 q1819 xh_SlatCrates_Yard xd_X1_effortsDown (by decide) (by decide) trivial (Nat.le_of_ble_eq_true rfl) rfl (fun _ => rfl) dX0_effort_41 (fun r6 h7 E => ?_)
        exact xr_iret C Z E dX0_effort_44
      · refine xr_aload_n 0 C rfl rfl dX0_effort_25 ?_
        refine xr_gR C E xf_X0_10 dX0_effort_26 (fun x8 E => ?_)
        refine xr_iload_n 1 C rfl rfl dX0_effort_29 ?_
        refine xr_V (v := x8) [.int a1] [] (fun r => some (.int r)) (fun r => .int r :: []) C E xi_1_SlatCratesYard (fun r h' e => wk_X1_effortsUp e) q1811 q1812 q1813 q79 q1814 xh_SlatCrates_Yard xd_X1_effortsUp (by decide) (by decide) trivial (Nat.le_of_ble_eq_true rfl) rfl (fun _ => rfl) dX0_effort_30 (fun r9 h10 E => ?_)
        refine xr_goto 44 C dX0_effort_33 (by decide) ?_
        exact xr_iret C Z E dX0_effort_44
    · refine xr_iconst (-1) C (by decide) dX0_effort_19 ?_
      exact xr_iret C Z E dX0_effort_20
def mf_X0_isAs (a0 : Option Nat) (a1 : Int32) (a2 : Int32) (h0 : xk_H) : Option (Bool × xk_H) :=
  if a2 = (28 : Int32) then (some (true, h0)) else (xm_rc [5] a0 h0 <| xm_cl (mf_X5_sign a0 a1 h0) fun r1 h2 => if r1 = a2 then (some (true, h2)) else (some (false, h2)))
set_option maxHeartbeats 1000000 in
theorem wk_X0_isAs {l : Launch} {D : va_G} {base : Nat} {a0 : Option Nat} {a1 : Int32} {a2 : Int32} {h0 : xk_H} {r : Bool} {h' : xk_H} (E : mf_X0_isAs a0 a1 a2 h0 = some (r, h')) : xk_Ok l D base yX0_isAs cX0_isAs 3 (Option.some FieldType.boolean) 2 83 [va_rf a0, .int a1, .int a2] h0 (some (.int (xk_b2 r))) h' := by
  refine xk_ofX RX0 "isAs" xq_X0_isAs rfl rfl (Nat.le_of_ble_eq_true rfl) ⟨xk_crf _, ⟨rfl, ⟨rfl, trivial⟩⟩⟩ (fun Γ el eD eb C Z => ?_)
  rw [mf_X0_isAs] at E
  show xk_X Γ 0 [(0, va_rf a0), (1, .int a1), (2, .int a2)] [] h0
  refine xr_iload_n 2 C rfl rfl dX0_isAs_0 ?_
  refine xr_bipush (28) C (by decide) dX0_isAs_1 ?_
  refine xr_icmp_eq 15 C E dX0_isAs_3 (by decide) (fun E => ?_) (fun E => ?_)
  · refine xr_iconst (1) C (by decide) dX0_isAs_15 ?_
    refine xr_goto 20 C dX0_isAs_16 (by decide) ?_
    exact xr_bret (b := true) C Z E dX0_isAs_20
  · refine xr_aload_n 0 C rfl rfl dX0_isAs_6 ?_
    refine xr_iload_n 1 C rfl rfl dX0_isAs_7 ?_
    refine xr_V (v := a0) [.int a1] [] (fun r => some (.int r)) (fun r => .int r :: []) C E xi_5_SlatCratesSeen (fun r h' e => wk_X5_sign e) q1799 q1800 q1801 q110 q1802 xh_SlatCrates_Seen xd_X5_sign (by decide) (by decide) trivial (Nat.le_of_ble_eq_true rfl) rfl (fun _ => rfl) dX0_isAs_8 (fun r1 h2 E => ?_)
    refine xr_iload_n 2 C rfl rfl dX0_isAs_11 ?_
    refine xr_icmp_ne 19 C E dX0_isAs_12 (by decide) (fun E => ?_) (fun E => ?_)
    · refine xr_iconst (0) C (by decide) dX0_isAs_19 ?_
      exact xr_bret (b := false) C Z E dX0_isAs_20
    · refine xr_iconst (1) C (by decide) dX0_isAs_15 ?_
      refine xr_goto 20 C dX0_isAs_16 (by decide) ?_
      exact xr_bret (b := true) C Z E dX0_isAs_20
def mf_X0_isSign (a0 : Int32) (h0 : xk_H) : Option (Bool × xk_H) :=
  xm_cl (mf_X0_inRange a0 (0 : Int32) (28 : Int32) h0) fun r1 h2 => some (r1, h2)
set_option maxHeartbeats 1000000 in
theorem wk_X0_isSign {l : Launch} {D : va_G} {base : Nat} {a0 : Int32} {h0 : xk_H} {r : Bool} {h' : xk_H} (E : mf_X0_isSign a0 h0 = some (r, h')) : xk_Ok l D base yX0_isSign cX0_isSign 1 (Option.some FieldType.boolean) 2 82 [.int a0] h0 (some (.int (xk_b2 r))) h' := by
  refine xk_ofX RX0 "isSign" xq_X0_isSign rfl rfl (Nat.le_of_ble_eq_true rfl) ⟨rfl, trivial⟩ (fun Γ el eD eb C Z => ?_)
  rw [mf_X0_isSign] at E
  show xk_X Γ 0 [(0, .int a0)] [] h0
  refine xr_iload_n 0 C rfl rfl dX0_isSign_0 ?_
  refine xr_iconst (0) C (by decide) dX0_isSign_1 ?_
  refine xr_bipush (28) C (by decide) dX0_isSign_2 ?_
  refine xr_S [.int a0, .int (0 : Int32), .int (28 : Int32)] [] (fun r => some (.int (xk_b2 r))) (fun r => .int (xk_b2 r) :: []) C E (fun r h' e => wk_X0_inRange e) q258 q259 q78 q260 xh_SlatCrates xd_X0_inRange (by decide) (by decide) trivial (Nat.le_of_ble_eq_true rfl) rfl (fun _ => rfl) dX0_isSign_4 (fun r1 h2 E => ?_)
  exact xr_bret (b := r1) C Z E dX0_isSign_7
def mf_X0_alike_L37 (a0 : Option Nat) (a1 : Int32) (a2 : Int32) (a3 : Int32) (a4 : Int32) : Nat → Int32 → Int32 → xk_H → Option (Int32 × xk_H)
  | 0, _, _, _ => none
  | n + 1, a5, a6, h0 => xm_gR [0] 0 a0 h0 fun x9 => xm_rc [1] x9 h0 <| xm_cl (mf_X1_size x9 h0) fun r10 h11 => if r10 ≤ a6 then (some (a5, h11)) else (xm_gR [0] 0 a0 h11 fun x12 => xm_rc [1] x12 h11 <| xm_cl (mf_X1_seen x12 a6 h11) fun r13 h14 => xm_cl (mf_X0_isAs r13 (0 : Int32) a1 h14) fun r15 h16 => if xk_b2 r15 = 0 then (mf_X0_alike_L37 a0 a1 a2 a3 a4 n (a5 + (0 : Int32)) (a6 + 1) h16) else (xm_cl (mf_X0_isAs r13 (1 : Int32) a2 h16) fun r17 h18 => if xk_b2 r17 = 0 then (mf_X0_alike_L37 a0 a1 a2 a3 a4 n (a5 + (0 : Int32)) (a6 + 1) h18) else (xm_cl (mf_X0_isAs r13 (2 : Int32) a3 h18) fun r19 h20 => if xk_b2 r19 = 0 then (mf_X0_alike_L37 a0 a1 a2 a3 a4 n (a5 + (0 : Int32)) (a6 + 1) h20) else (xm_cl (mf_X0_isAs r13 (3 : Int32) a4 h20) fun r21 h22 => if xk_b2 r21 = 0 then (mf_X0_alike_L37 a0 a1 a2 a3 a4 n (a5 + (0 : Int32)) (a6 + 1) h22) else (mf_X0_alike_L37 a0 a1 a2 a3 a4 n (a5 + (1 : Int32)) (a6 + 1) h22)))))
set_option maxHeartbeats 1000000 in
theorem wk_X0_alike_L37 {Γ : xk_C} {r : Int32} {h' : xk_H} {a0 : Option Nat} {a1 : Int32} {a2 : Int32} {a3 : Int32} {a4 : Int32} (C : xk_Cx Γ RX0 cX0_alike 8 (Option.some FieldType.int) "alike" 8 215) (Z : xk_Z Γ (some (.int r)) h') : ∀ (n : Nat) (a5 : Int32) (a6 : Int32) (h0 : xk_H), mf_X0_alike_L37 a0 a1 a2 a3 a4 n a5 a6 h0 = some (r, h') → xk_X Γ 37 [(0, va_rf a0), (1, .int a1), (2, .int a2), (3, .int a3), (4, .int a4), (5, .int a5), (6, .int a6)] [] h0 := by
  intro n
  induction n with
  | zero =>
    intro a5 a6 h0 E
    rw [mf_X0_alike_L37] at E
    cases E
  | succ n ih =>
    intro a5 a6 h0 E
    have hkb37 : ∀ (m5 : Int32) (m6 : Int32) (g : xk_H), mf_X0_alike_L37 a0 a1 a2 a3 a4 n m5 m6 g = some (r, h') → xk_X Γ 37 [(0, va_rf a0), (1, .int a1), (2, .int a2), (3, .int a3), (4, .int a4), (5, .int m5), (6, .int m6)] [] g := ih
    rw [mf_X0_alike_L37] at E
    refine xr_iload 6 C rfl dX0_alike_37 ?_
    refine xr_aload_n 0 C rfl rfl dX0_alike_39 ?_
    refine xr_gR C E xf_X0_10 dX0_alike_40 (fun x9 E => ?_)
    refine xr_V (v := x9) [] [.int a6] (fun r => some (.int r)) (fun r => .int r :: [.int a6]) C E xi_1_SlatCratesYard (fun r h' e => wk_X1_size e) q261 q262 q263 q79 q264 xh_SlatCrates_Yard xd_X1_size (by decide) (by decide) ⟨rfl, trivial⟩ (Nat.le_of_ble_eq_true rfl) rfl (fun _ => rfl) dX0_alike_43 (fun r10 h11 E => ?_)
    refine xr_icmp_ge 117 C E dX0_alike_46 (by decide) (fun E => ?_) (fun E => ?_)
    · refine xr_iload 5 C rfl dX0_alike_117 ?_
      exact xr_iret C Z E dX0_alike_119
    · refine xr_aload_n 0 C rfl rfl dX0_alike_49 ?_
      refine xr_gR C E xf_X0_10 dX0_alike_50 (fun x12 E => ?_)
      refine xr_iload 6 C rfl dX0_alike_53 ?_
      refine xr_V (v := x12) [.int a6] [] (fun r => some (va_rf r)) (fun r => va_rf r :: []) C E xi_1_SlatCratesYard (fun r h' e => wk_X1_seen e) q1798 q1299 q1300 q79 q1301 xh_SlatCrates_Yard xd_X1_seen (by decide) (by decide) trivial (Nat.le_of_ble_eq_true rfl) rfl (fun _ => rfl) dX0_alike_55 (fun r13 h14 E => ?_)
      refine xr_astore (L2 := [(7, va_rf r13), (0, va_rf a0), (1, .int a1), (2, .int a2), (3, .int a3), (4, .int a4), (5, .int a5), (6, .int a6)]) C rfl dX0_alike_58 (by decide) ?_
      refine xr_iload 6 C rfl dX0_alike_60 ?_
      refine xr_aload 0 C rfl dX0_alike_62 ?_
      refine xr_iconst (0) C (by decide) dX0_alike_64 ?_
      refine xr_iload_n 2 C rfl rfl dX0_alike_65 ?_
      refine xr_S [va_rf r13, .int (0 : Int32), .int a1] [.int a5] (fun r => some (.int (xk_b2 r))) (fun r => .int (xk_b2 r) :: [.int a5]) C E (fun r h' e => wk_X0_isAs e) q1831 q1832 q78 q1833 xh_SlatCrates xd_X0_isAs (by decide) (by decide) ⟨rfl, trivial⟩ (Nat.le_of_ble_eq_true rfl) rfl (fun _ => rfl) dX0_alike_66 (fun r15 h16 E => ?_)
      refine xr_if_eq 107 C E dX0_alike_69 (by decide) (fun E => ?_) (fun E => ?_)
      · refine xr_iconst (0) C (by decide) dX0_alike_107 ?_
        refine xr_iadd C dX0_alike_108 ?_
        refine xr_istore (L2 := [(5, .int (a5 + (0 : Int32))), (7, va_rf r13), (0, va_rf a0), (1, .int a1), (2, .int a2), (3, .int a3), (4, .int a4), (6, .int a6)]) C rfl dX0_alike_109 (by decide) ?_
        refine xr_iinc (v := (a6 + 1)) (L2 := [(6, .int (a6 + 1)), (5, .int (a5 + (0 : Int32))), (7, va_rf r13), (0, va_rf a0), (1, .int a1), (2, .int a2), (3, .int a3), (4, .int a4)]) 7 C rfl rfl rfl dX0_alike_111 (by decide) ?_
        refine xr_goto 37 C dX0_alike_114 (by decide) ?_
        refine xr_sub [3, 4, 5, 6, 7, 1, 0] rfl ?_
        exact hkb37 (a5 + (0 : Int32)) (a6 + 1) h16 E
      · refine xr_aload 0 C rfl dX0_alike_72 ?_
        refine xr_iconst (1) C (by decide) dX0_alike_74 ?_
        refine xr_iload_n 3 C rfl rfl dX0_alike_75 ?_
        refine xr_S [va_rf r13, .int (1 : Int32), .int a2] [.int a5] (fun r => some (.int (xk_b2 r))) (fun r => .int (xk_b2 r) :: [.int a5]) C E (fun r h' e => wk_X0_isAs e) q1831 q1832 q78 q1833 xh_SlatCrates xd_X0_isAs (by decide) (by decide) ⟨rfl, trivial⟩ (Nat.le_of_ble_eq_true rfl) rfl (fun _ => rfl) dX0_alike_76 (fun r17 h18 E => ?_)
        refine xr_if_eq 107 C E dX0_alike_79 (by decide) (fun E => ?_) (fun E => ?_)
        · refine xr_iconst (0) C (by decide) dX0_alike_107 ?_
          refine xr_iadd C dX0_alike_108 ?_
          refine xr_istore (L2 := [(5, .int (a5 + (0 : Int32))), (7, va_rf r13), (0, va_rf a0), (1, .int a1), (2, .int a2), (3, .int a3), (4, .int a4), (6, .int a6)]) C rfl dX0_alike_109 (by decide) ?_
          refine xr_iinc (v := (a6 + 1)) (L2 := [(6, .int (a6 + 1)), (5, .int (a5 + (0 : Int32))), (7, va_rf r13), (0, va_rf a0), (1, .int a1), (2, .int a2), (3, .int a3), (4, .int a4)]) 7 C rfl rfl rfl dX0_alike_111 (by decide) ?_
          refine xr_goto 37 C dX0_alike_114 (by decide) ?_
          refine xr_sub [3, 4, 5, 6, 7, 1, 0] rfl ?_
          exact hkb37 (a5 + (0 : Int32)) (a6 + 1) h18 E
        · refine xr_aload 0 C rfl dX0_alike_82 ?_
          refine xr_iconst (2) C (by decide) dX0_alike_84 ?_
          refine xr_iload_n 4 C rfl rfl dX0_alike_85 ?_
          refine xr_S [va_rf r13, .int (2 : Int32), .int a3] [.int a5] (fun r => some (.int (xk_b2 r))) (fun r => .int (xk_b2 r) :: [.int a5]) C E (fun r h' e => wk_X0_isAs e) q1831 q1832 q78 q1833 xh_SlatCrates xd_X0_isAs (by decide) (by decide) ⟨rfl, trivial⟩ (Nat.le_of_ble_eq_true rfl) rfl (fun _ => rfl) dX0_alike_86 (fun r19 h20 E => ?_)
          refine xr_if_eq 107 C E dX0_alike_89 (by decide) (fun E => ?_) (fun E => ?_)
          · refine xr_iconst (0) C (by decide) dX0_alike_107 ?_
            refine xr_iadd C dX0_alike_108 ?_
            refine xr_istore (L2 := [(5, .int (a5 + (0 : Int32))), (7, va_rf r13), (0, va_rf a0), (1, .int a1), (2, .int a2), (3, .int a3), (4, .int a4), (6, .int a6)]) C rfl dX0_alike_109 (by decide) ?_
            refine xr_iinc (v := (a6 + 1)) (L2 := [(6, .int (a6 + 1)), (5, .int (a5 + (0 : Int32))), (7, va_rf r13), (0, va_rf a0), (1, .int a1), (2, .int a2), (3, .int a3), (4, .int a4)]) 7 C rfl rfl rfl dX0_alike_111 (by decide) ?_
            refine xr_goto 37 C dX0_alike_114 (by decide) ?_
            refine xr_sub [3, 4, 5, 6, 7, 1, 0] rfl ?_
            exact hkb37 (a5 + (0 : Int32)) (a6 + 1) h20 E
          · refine xr_aload 0 C rfl dX0_alike_92 ?_
            refine xr_iconst (3) C (by decide) dX0_alike_94 ?_
            refine xr_iload 5 C rfl dX0_alike_95 ?_
            refine xr_S [va_rf r13, .int (3 : Int32), .int a4] [.int a5] (fun r => some (.int (xk_b2 r))) (fun r => .int (xk_b2 r) :: [.int a5]) C E (fun r h' e => wk_X0_isAs e) q1831 q1832 q78 q1833 xh_SlatCrates xd_X0_isAs (by decide) (by decide) ⟨rfl, trivial⟩ (Nat.le_of_ble_eq_true rfl) rfl (fun _ => rfl) dX0_alike_97 (fun r21 h22 E => ?_)
            refine xr_if_eq 107 C E dX0_alike_100 (by decide) (fun E => ?_) (fun E => ?_)
            · refine xr_iconst (0) C (by decide) dX0_alike_107 ?_
              refine xr_iadd C dX0_alike_108 ?_
              refine xr_istore (L2 := [(5, .int (a5 + (0 : Int32))), (7, va_rf r13), (0, va_rf a0), (1, .int a1), (2, .int a2), (3, .int a3), (4, .int a4), (6, .int a6)]) C rfl dX0_alike_109 (by decide) ?_
              refine xr_iinc (v := (a6 + 1)) (L2 := [(6, .int (a6 + 1)), (5, .int (a5 + (0 : Int32))), (7, va_rf r13), (0, va_rf a0), (1, .int a1), (2, .int a2), (3, .int a3), (4, .int a4)]) 7 C rfl rfl rfl dX0_alike_111 (by decide) ?_
              refine xr_goto 37 C dX0_alike_114 (by decide) ?_
              refine xr_sub [3, 4, 5, 6, 7, 1, 0] rfl ?_
              exact hkb37 (a5 + (0 : Int32)) (a6 + 1) h22 E
            · refine xr_iconst (1) C (by decide) dX0_alike_103 ?_
              refine xr_goto 108 C dX0_alike_104 (by decide) ?_
              refine xr_iadd C dX0_alike_108 ?_
              refine xr_istore (L2 := [(5, .int (a5 + (1 : Int32))), (7, va_rf r13), (0, va_rf a0), (1, .int a1), (2, .int a2), (3, .int a3), (4, .int a4), (6, .int a6)]) C rfl dX0_alike_109 (by decide) ?_
              refine xr_iinc (v := (a6 + 1)) (L2 := [(6, .int (a6 + 1)), (5, .int (a5 + (1 : Int32))), (7, va_rf r13), (0, va_rf a0), (1, .int a1), (2, .int a2), (3, .int a3), (4, .int a4)]) 7 C rfl rfl rfl dX0_alike_111 (by decide) ?_
              refine xr_goto 37 C dX0_alike_114 (by decide) ?_
              refine xr_sub [3, 4, 5, 6, 7, 1, 0] rfl ?_
              exact hkb37 (a5 + (1 : Int32)) (a6 + 1) h22 E
def mf_X0_alike (a0 : Option Nat) (a1 : Int32) (a2 : Int32) (a3 : Int32) (a4 : Int32) (h0 : xk_H) : Option (Int32 × xk_H) :=
  xm_cl (mf_X0_isSign a1 h0) fun r1 h2 => if xk_b2 r1 = 0 then (some ((-1 : Int32), h2)) else (xm_cl (mf_X0_isSign a2 h2) fun r3 h4 => if xk_b2 r3 = 0 then (some ((-1 : Int32), h4)) else (xm_cl (mf_X0_isSign a3 h4) fun r5 h6 => if xk_b2 r5 = 0 then (some ((-1 : Int32), h6)) else (xm_cl (mf_X0_isSign a4 h6) fun r7 h8 => if xk_b2 r7 = 0 then (some ((-1 : Int32), h8)) else (mf_X0_alike_L37 a0 a1 a2 a3 a4 xk_fu (0 : Int32) (0 : Int32) h8))))
set_option maxHeartbeats 1000000 in
theorem wk_X0_alike {l : Launch} {D : va_G} {base : Nat} {a0 : Option Nat} {a1 : Int32} {a2 : Int32} {a3 : Int32} {a4 : Int32} {h0 : xk_H} {r : Int32} {h' : xk_H} (E : mf_X0_alike a0 a1 a2 a3 a4 h0 = some (r, h')) : xk_Ok l D base yX0_alike cX0_alike 8 (Option.some FieldType.int) 8 215 [va_rf a0, .int a1, .int a2, .int a3, .int a4] h0 (some (.int r)) h' := by
  refine xk_ofX RX0 "alike" xq_X0_alike rfl rfl (Nat.le_of_ble_eq_true rfl) ⟨xk_crf _, ⟨rfl, ⟨rfl, ⟨rfl, ⟨rfl, trivial⟩⟩⟩⟩⟩ (fun Γ el eD eb C Z => ?_)
  rw [mf_X0_alike] at E
  show xk_X Γ 0 [(0, va_rf a0), (1, .int a1), (2, .int a2), (3, .int a3), (4, .int a4)] [] h0
  refine xr_iload_n 1 C rfl rfl dX0_alike_0 ?_
  refine xr_S [.int a1] [] (fun r => some (.int (xk_b2 r))) (fun r => .int (xk_b2 r) :: []) C E (fun r h' e => wk_X0_isSign e) q1828 q1829 q78 q1830 xh_SlatCrates xd_X0_isSign (by decide) (by decide) trivial (Nat.le_of_ble_eq_true rfl) rfl (fun _ => rfl) dX0_alike_1 (fun r1 h2 E => ?_)
  refine xr_if_eq 29 C E dX0_alike_4 (by decide) (fun E => ?_) (fun E => ?_)
  · refine xr_iconst (-1) C (by decide) dX0_alike_29 ?_
    exact xr_iret C Z E dX0_alike_30
  · refine xr_iload_n 2 C rfl rfl dX0_alike_7 ?_
    refine xr_S [.int a2] [] (fun r => some (.int (xk_b2 r))) (fun r => .int (xk_b2 r) :: []) C E (fun r h' e => wk_X0_isSign e) q1828 q1829 q78 q1830 xh_SlatCrates xd_X0_isSign (by decide) (by decide) trivial (Nat.le_of_ble_eq_true rfl) rfl (fun _ => rfl) dX0_alike_8 (fun r3 h4 E => ?_)
    refine xr_if_eq 29 C E dX0_alike_11 (by decide) (fun E => ?_) (fun E => ?_)
    · refine xr_iconst (-1) C (by decide) dX0_alike_29 ?_
      exact xr_iret C Z E dX0_alike_30
    · refine xr_iload_n 3 C rfl rfl dX0_alike_14 ?_
      refine xr_S [.int a3] [] (fun r => some (.int (xk_b2 r))) (fun r => .int (xk_b2 r) :: []) C E (fun r h' e => wk_X0_isSign e) q1828 q1829 q78 q1830 xh_SlatCrates xd_X0_isSign (by decide) (by decide) trivial (Nat.le_of_ble_eq_true rfl) rfl (fun _ => rfl) dX0_alike_15 (fun r5 h6 E => ?_)
      refine xr_if_eq 29 C E dX0_alike_18 (by decide) (fun E => ?_) (fun E => ?_)
      · refine xr_iconst (-1) C (by decide) dX0_alike_29 ?_
        exact xr_iret C Z E dX0_alike_30
      · refine xr_iload 4 C rfl dX0_alike_21 ?_
        refine xr_S [.int a4] [] (fun r => some (.int (xk_b2 r))) (fun r => .int (xk_b2 r) :: []) C E (fun r h' e => wk_X0_isSign e) q1828 q1829 q78 q1830 xh_SlatCrates xd_X0_isSign (by decide) (by decide) trivial (Nat.le_of_ble_eq_true rfl) rfl (fun _ => rfl) dX0_alike_23 (fun r7 h8 E => ?_)
        refine xr_if_ne 31 C E dX0_alike_26 (by decide) (fun E => ?_) (fun E => ?_)
        · refine xr_iconst (0) C (by decide) dX0_alike_31 ?_
          refine xr_istore (L2 := [(5, .int (0 : Int32)), (0, va_rf a0), (1, .int a1), (2, .int a2), (3, .int a3), (4, .int a4)]) C rfl dX0_alike_32 (by decide) ?_
          refine xr_iconst (0) C (by decide) dX0_alike_34 ?_
          refine xr_istore (L2 := [(6, .int (0 : Int32)), (5, .int (0 : Int32)), (0, va_rf a0), (1, .int a1), (2, .int a2), (3, .int a3), (4, .int a4)]) C rfl dX0_alike_35 (by decide) ?_
          refine xr_sub [2, 3, 4, 5, 6, 1, 0] rfl ?_
          exact wk_X0_alike_L37 (a0 := a0) (a1 := a1) (a2 := a2) (a3 := a3) (a4 := a4) C Z xk_fu (0 : Int32) (0 : Int32) h8 E
        · refine xr_iconst (-1) C (by decide) dX0_alike_29 ?_
          exact xr_iret C Z E dX0_alike_30
def mf_X0_nest (a0 : Option Nat) (a1 : Int32) (h0 : xk_H) : Option (Int32 × xk_H) :=
  if 0 ≤ a1 then (xm_gR [0] 0 a0 h0 fun x1 => xm_rc [1] x1 h0 <| xm_cl (mf_X1_nest x1 h0) fun r2 h3 => xm_rc [6] r2 h3 <| xm_cl (mf_J2_size r2 h3) fun r4 h5 => if r4 ≤ a1 then (some ((-4 : Int32), h5)) else (xm_rc [6] r2 h5 <| xm_cl (mf_J2_get r2 a1 h5) fun r6 h7 => xm_cast [211] r6 h7 <| xm_rc [211] r6 h7 <| xm_cl (mf_J22_intValue r6 h7) fun r8 h9 => some (r8, h9))) else (some ((-1 : Int32), h0))
set_option maxHeartbeats 1000000 in
theorem wk_X0_nest {l : Launch} {D : va_G} {base : Nat} {a0 : Option Nat} {a1 : Int32} {h0 : xk_H} {r : Int32} {h' : xk_H} (E : mf_X0_nest a0 a1 h0 = some (r, h')) : xk_Ok l D base yX0_nest cX0_nest 3 (Option.some FieldType.int) 9 237 [va_rf a0, .int a1] h0 (some (.int r)) h' := by
  refine xk_ofX RX0 "nest" xq_X0_nest rfl rfl (Nat.le_of_ble_eq_true rfl) ⟨xk_crf _, ⟨rfl, trivial⟩⟩ (fun Γ el eD eb C Z => ?_)
  rw [mf_X0_nest] at E
  show xk_X Γ 0 [(0, va_rf a0), (1, .int a1)] [] h0
  refine xr_iload_n 1 C rfl rfl dX0_nest_0 ?_
  refine xr_if_ge 6 C E dX0_nest_1 (by decide) (fun E => ?_) (fun E => ?_)
  · refine xr_aload_n 0 C rfl rfl dX0_nest_6 ?_
    refine xr_gR C E xf_X0_10 dX0_nest_7 (fun x1 E => ?_)
    refine xr_V (v := x1) [] [] (fun r => some (va_rf r)) (fun r => va_rf r :: []) C E xi_1_SlatCratesYard (fun r h' e => wk_X1_nest e) q1838 q1839 q1840 q79 q1841 xh_SlatCrates_Yard xd_X1_nest (by decide) (by decide) trivial (Nat.le_of_ble_eq_true rfl) rfl (fun _ => rfl) dX0_nest_10 (fun r2 h3 E => ?_)
    refine xr_astore_n (L2 := [(2, va_rf r2), (0, va_rf a0), (1, .int a1)]) C rfl rfl dX0_nest_13 (by decide) ?_
    refine xr_iload_n 2 C rfl rfl dX0_nest_14 ?_
    refine xr_aload_n 0 C rfl rfl dX0_nest_15 ?_
    refine xr_V (v := r2) [] [.int a1] (fun r => some (.int r)) (fun r => .int r :: [.int a1]) C E xi_6_ArrayList (fun r h' e => wk_J2_size e) q1195 q266 q267 q82 q268 xh_java_util_ArrayList xd_J2_size (by decide) (by decide) ⟨rfl, trivial⟩ (Nat.le_of_ble_eq_true rfl) rfl (fun _ => rfl) dX0_nest_16 (fun r4 h5 E => ?_)
    refine xr_icmp_ge 36 C E dX0_nest_19 (by decide) (fun E => ?_) (fun E => ?_)
    · refine xr_bipush (-4) C (by decide) dX0_nest_36 ?_
      exact xr_iret C Z E dX0_nest_38
    · refine xr_aload_n 0 C rfl rfl dX0_nest_22 ?_
      refine xr_iload_n 2 C rfl rfl dX0_nest_23 ?_
      refine xr_V (v := r2) [.int a1] [] (fun r => some (va_rf r)) (fun r => va_rf r :: []) C E xi_6_ArrayList (fun r h' e => wk_J2_get e) q1194 q374 q2504 q82 q375 xh_java_util_ArrayList xd_J2_get (by decide) (by decide) trivial (Nat.le_of_ble_eq_true rfl) rfl (fun _ => rfl) dX0_nest_24 (fun r6 h7 E => ?_)
      refine xr_cast C E xi_211_Integer q1192 dX0_nest_27 (fun E => ?_)
      refine xr_V (v := r6) [] [] (fun r => some (.int r)) (fun r => .int r :: []) C E xi_211_Integer (fun r h' e => wk_J22_intValue e) q1193 q975 q976 q105 q977 xh_java_lang_Integer xd_J22_intValue (by decide) (by decide) trivial (Nat.le_of_ble_eq_true rfl) rfl (fun _ => rfl) dX0_nest_30 (fun r8 h9 E => ?_)
      refine xr_goto 38 C dX0_nest_33 (by decide) ?_
      exact xr_iret C Z E dX0_nest_38
  · refine xr_iconst (-1) C (by decide) dX0_nest_4 ?_
    exact xr_iret C Z E dX0_nest_5
def mf_X0_deepest_L4 (a0 : Option Nat) : Nat → Int32 → Int32 → xk_H → Option (Int32 × xk_H)
  | 0, _, _, _ => none
  | n + 1, a1, a2, h0 => xm_gR [0] 0 a0 h0 fun x1 => xm_rc [1] x1 h0 <| xm_cl (mf_X1_size x1 h0) fun r2 h3 => if r2 ≤ a2 then (some (a1, h3)) else (xm_gR [0] 0 a0 h3 fun x4 => xm_rc [1] x4 h3 <| xm_cl (mf_X1_depth x4 a2 h3) fun r5 h6 => xm_cl (mf_J17_max a1 r5 h6) fun r7 h8 => mf_X0_deepest_L4 a0 n r7 (a2 + 1) h8)
set_option maxHeartbeats 1000000 in
theorem wk_X0_deepest_L4 {Γ : xk_C} {r : Int32} {h' : xk_H} {a0 : Option Nat} (C : xk_Cx Γ RX0 cX0_deepest 3 (Option.some FieldType.int) "deepest" 7 189) (Z : xk_Z Γ (some (.int r)) h') : ∀ (n : Nat) (a1 : Int32) (a2 : Int32) (h0 : xk_H), mf_X0_deepest_L4 a0 n a1 a2 h0 = some (r, h') → xk_X Γ 4 [(0, va_rf a0), (1, .int a1), (2, .int a2)] [] h0 := by
  intro n
  induction n with
  | zero =>
    intro a1 a2 h0 E
    rw [mf_X0_deepest_L4] at E
    cases E
  | succ n ih =>
    intro a1 a2 h0 E
    have hkb4 : ∀ (m1 : Int32) (m2 : Int32) (g : xk_H), mf_X0_deepest_L4 a0 n m1 m2 g = some (r, h') → xk_X Γ 4 [(0, va_rf a0), (1, .int m1), (2, .int m2)] [] g := ih
    rw [mf_X0_deepest_L4] at E
    refine xr_iload_n 2 C rfl rfl dX0_deepest_4 ?_
    refine xr_aload_n 0 C rfl rfl dX0_deepest_5 ?_
    refine xr_gR C E xf_X0_10 dX0_deepest_6 (fun x1 E => ?_)
    refine xr_V (v := x1) [] [.int a2] (fun r => some (.int r)) (fun r => .int r :: [.int a2]) C E xi_1_SlatCratesYard (fun r h' e => wk_X1_size e) q261 q262 q263 q79 q264 xh_SlatCrates_Yard xd_X1_size (by decide) (by decide) ⟨rfl, trivial⟩ (Nat.le_of_ble_eq_true rfl) rfl (fun _ => rfl) dX0_deepest_9 (fun r2 h3 E => ?_)
    refine xr_icmp_ge 34 C E dX0_deepest_12 (by decide) (fun E => ?_) (fun E => ?_)
    · refine xr_iload_n 1 C rfl rfl dX0_deepest_34 ?_
      exact xr_iret C Z E dX0_deepest_35
    · refine xr_iload_n 1 C rfl rfl dX0_deepest_15 ?_
      refine xr_aload_n 0 C rfl rfl dX0_deepest_16 ?_
      refine xr_gR C E xf_X0_10 dX0_deepest_17 (fun x4 E => ?_)
      refine xr_iload_n 2 C rfl rfl dX0_deepest_20 ?_
      refine xr_V (v := x4) [.int a2] [.int a1] (fun r => some (.int r)) (fun r => .int r :: [.int a1]) C E xi_1_SlatCratesYard (fun r h' e => wk_X1_depth e) q1019 q1020 q1021 q79 q1022 xh_SlatCrates_Yard xd_X1_depth (by decide) (by decide) ⟨rfl, trivial⟩ (Nat.le_of_ble_eq_true rfl) rfl (fun _ => rfl) dX0_deepest_21 (fun r5 h6 E => ?_)
      refine xr_S [.int a1, .int r5] [] (fun r => some (.int r)) (fun r => .int r :: []) C E (fun r h' e => wk_J17_max e) q1872 q523 q98 q524 xh_java_lang_Math xd_J17_max (by decide) (by decide) trivial (Nat.le_of_ble_eq_true rfl) rfl (fun _ => rfl) dX0_deepest_24 (fun r7 h8 E => ?_)
      refine xr_istore_n (L2 := [(1, .int r7), (0, va_rf a0), (2, .int a2)]) C rfl rfl dX0_deepest_27 (by decide) ?_
      refine xr_iinc (v := (a2 + 1)) (L2 := [(2, .int (a2 + 1)), (1, .int r7), (0, va_rf a0)]) 2 C rfl rfl rfl dX0_deepest_28 (by decide) ?_
      refine xr_goto 4 C dX0_deepest_31 (by decide) ?_
      refine xr_sub [2, 1, 0] rfl ?_
      exact hkb4 r7 (a2 + 1) h8 E
def mf_X0_deepest (a0 : Option Nat) (h0 : xk_H) : Option (Int32 × xk_H) :=
  mf_X0_deepest_L4 a0 xk_fu (0 : Int32) (0 : Int32) h0
set_option maxHeartbeats 1000000 in
theorem wk_X0_deepest {l : Launch} {D : va_G} {base : Nat} {a0 : Option Nat} {h0 : xk_H} {r : Int32} {h' : xk_H} (E : mf_X0_deepest a0 h0 = some (r, h')) : xk_Ok l D base yX0_deepest cX0_deepest 3 (Option.some FieldType.int) 7 189 [va_rf a0] h0 (some (.int r)) h' := by
  refine xk_ofX RX0 "deepest" xq_X0_deepest rfl rfl (Nat.le_of_ble_eq_true rfl) ⟨xk_crf _, trivial⟩ (fun Γ el eD eb C Z => ?_)
  rw [mf_X0_deepest] at E
  show xk_X Γ 0 [(0, va_rf a0)] [] h0
  refine xr_iconst (0) C (by decide) dX0_deepest_0 ?_
  refine xr_istore_n (L2 := [(1, .int (0 : Int32)), (0, va_rf a0)]) C rfl rfl dX0_deepest_1 (by decide) ?_
  refine xr_iconst (0) C (by decide) dX0_deepest_2 ?_
  refine xr_istore_n (L2 := [(2, .int (0 : Int32)), (1, .int (0 : Int32)), (0, va_rf a0)]) C rfl rfl dX0_deepest_3 (by decide) ?_
  refine xr_sub [2, 1, 0] rfl ?_
  exact wk_X0_deepest_L4 (a0 := a0) C Z xk_fu (0 : Int32) (0 : Int32) h0 E
def mf_X0_loose_L4 (a0 : Option Nat) : Nat → Int32 → Int32 → xk_H → Option (Int32 × xk_H)
  | 0, _, _, _ => none
  | n + 1, a1, a2, h0 => xm_gR [0] 0 a0 h0 fun x1 => xm_rc [1] x1 h0 <| xm_cl (mf_X1_size x1 h0) fun r2 h3 => if r2 ≤ a2 then (some (a1, h3)) else (xm_gR [0] 0 a0 h3 fun x4 => xm_rc [1] x4 h3 <| xm_cl (mf_X1_isLoose x4 a2 h3) fun r5 h6 => if xk_b2 r5 = 0 then (mf_X0_loose_L4 a0 n (a1 + (0 : Int32)) (a2 + 1) h6) else (mf_X0_loose_L4 a0 n (a1 + (1 : Int32)) (a2 + 1) h6))
set_option maxHeartbeats 1000000 in
theorem wk_X0_loose_L4 {Γ : xk_C} {r : Int32} {h' : xk_H} {a0 : Option Nat} (C : xk_Cx Γ RX0 cX0_loose 3 (Option.some FieldType.int) "loose" 7 187) (Z : xk_Z Γ (some (.int r)) h') : ∀ (n : Nat) (a1 : Int32) (a2 : Int32) (h0 : xk_H), mf_X0_loose_L4 a0 n a1 a2 h0 = some (r, h') → xk_X Γ 4 [(0, va_rf a0), (1, .int a1), (2, .int a2)] [] h0 := by
  intro n
  induction n with
  | zero =>
    intro a1 a2 h0 E
    rw [mf_X0_loose_L4] at E
    cases E
  | succ n ih =>
    intro a1 a2 h0 E
    have hkb4 : ∀ (m1 : Int32) (m2 : Int32) (g : xk_H), mf_X0_loose_L4 a0 n m1 m2 g = some (r, h') → xk_X Γ 4 [(0, va_rf a0), (1, .int m1), (2, .int m2)] [] g := ih
    rw [mf_X0_loose_L4] at E
    refine xr_iload_n 2 C rfl rfl dX0_loose_4 ?_
    refine xr_aload_n 0 C rfl rfl dX0_loose_5 ?_
    refine xr_gR C E xf_X0_10 dX0_loose_6 (fun x1 E => ?_)
    refine xr_V (v := x1) [] [.int a2] (fun r => some (.int r)) (fun r => .int r :: [.int a2]) C E xi_1_SlatCratesYard (fun r h' e => wk_X1_size e) q261 q262 q263 q79 q264 xh_SlatCrates_Yard xd_X1_size (by decide) (by decide) ⟨rfl, trivial⟩ (Nat.le_of_ble_eq_true rfl) rfl (fun _ => rfl) dX0_loose_9 (fun r2 h3 E => ?_)
    refine xr_icmp_ge 40 C E dX0_loose_12 (by decide) (fun E => ?_) (fun E => ?_)
    · refine xr_iload_n 1 C rfl rfl dX0_loose_40 ?_
      exact xr_iret C Z E dX0_loose_41
    · refine xr_iload_n 1 C rfl rfl dX0_loose_15 ?_
      refine xr_aload_n 0 C rfl rfl dX0_loose_16 ?_
      refine xr_gR C E xf_X0_10 dX0_loose_17 (fun x4 E => ?_)
      refine xr_iload_n 2 C rfl rfl dX0_loose_20 ?_
      refine xr_V (v := x4) [.int a2] [.int a1] (fun r => some (.int (xk_b2 r))) (fun r => .int (xk_b2 r) :: [.int a1]) C E xi_1_SlatCratesYard (fun r h' e => wk_X1_isLoose e) q1867 q1847 q1848 q79 q1849 xh_SlatCrates_Yard xd_X1_isLoose (by decide) (by decide) ⟨rfl, trivial⟩ (Nat.le_of_ble_eq_true rfl) rfl (fun _ => rfl) dX0_loose_21 (fun r5 h6 E => ?_)
      refine xr_if_eq 31 C E dX0_loose_24 (by decide) (fun E => ?_) (fun E => ?_)
      · refine xr_iconst (0) C (by decide) dX0_loose_31 ?_
        refine xr_iadd C dX0_loose_32 ?_
        refine xr_istore_n (L2 := [(1, .int (a1 + (0 : Int32))), (0, va_rf a0), (2, .int a2)]) C rfl rfl dX0_loose_33 (by decide) ?_
        refine xr_iinc (v := (a2 + 1)) (L2 := [(2, .int (a2 + 1)), (1, .int (a1 + (0 : Int32))), (0, va_rf a0)]) 2 C rfl rfl rfl dX0_loose_34 (by decide) ?_
        refine xr_goto 4 C dX0_loose_37 (by decide) ?_
        refine xr_sub [2, 1, 0] rfl ?_
        exact hkb4 (a1 + (0 : Int32)) (a2 + 1) h6 E
      · refine xr_iconst (1) C (by decide) dX0_loose_27 ?_
        refine xr_goto 32 C dX0_loose_28 (by decide) ?_
        refine xr_iadd C dX0_loose_32 ?_
        refine xr_istore_n (L2 := [(1, .int (a1 + (1 : Int32))), (0, va_rf a0), (2, .int a2)]) C rfl rfl dX0_loose_33 (by decide) ?_
        refine xr_iinc (v := (a2 + 1)) (L2 := [(2, .int (a2 + 1)), (1, .int (a1 + (1 : Int32))), (0, va_rf a0)]) 2 C rfl rfl rfl dX0_loose_34 (by decide) ?_
        refine xr_goto 4 C dX0_loose_37 (by decide) ?_
        refine xr_sub [2, 1, 0] rfl ?_
        exact hkb4 (a1 + (1 : Int32)) (a2 + 1) h6 E
def mf_X0_loose (a0 : Option Nat) (h0 : xk_H) : Option (Int32 × xk_H) :=
  mf_X0_loose_L4 a0 xk_fu (0 : Int32) (0 : Int32) h0
set_option maxHeartbeats 1000000 in
theorem wk_X0_loose {l : Launch} {D : va_G} {base : Nat} {a0 : Option Nat} {h0 : xk_H} {r : Int32} {h' : xk_H} (E : mf_X0_loose a0 h0 = some (r, h')) : xk_Ok l D base yX0_loose cX0_loose 3 (Option.some FieldType.int) 7 187 [va_rf a0] h0 (some (.int r)) h' := by
  refine xk_ofX RX0 "loose" xq_X0_loose rfl rfl (Nat.le_of_ble_eq_true rfl) ⟨xk_crf _, trivial⟩ (fun Γ el eD eb C Z => ?_)
  rw [mf_X0_loose] at E
  show xk_X Γ 0 [(0, va_rf a0)] [] h0
  refine xr_iconst (0) C (by decide) dX0_loose_0 ?_
  refine xr_istore_n (L2 := [(1, .int (0 : Int32)), (0, va_rf a0)]) C rfl rfl dX0_loose_1 (by decide) ?_
  refine xr_iconst (0) C (by decide) dX0_loose_2 ?_
  refine xr_istore_n (L2 := [(2, .int (0 : Int32)), (1, .int (0 : Int32)), (0, va_rf a0)]) C rfl rfl dX0_loose_3 (by decide) ?_
  refine xr_sub [2, 1, 0] rfl ?_
  exact wk_X0_loose_L4 (a0 := a0) C Z xk_fu (0 : Int32) (0 : Int32) h0 E
def mf_X0_onGround_L4 (a0 : Option Nat) : Nat → Int32 → Int32 → xk_H → Option (Int32 × xk_H)
  | 0, _, _, _ => none
  | n + 1, a1, a2, h0 => xm_gR [0] 0 a0 h0 fun x1 => xm_rc [1] x1 h0 <| xm_cl (mf_X1_size x1 h0) fun r2 h3 => if r2 ≤ a2 then (some (a1, h3)) else (xm_gR [0] 0 a0 h3 fun x4 => xm_rc [1] x4 h3 <| xm_cl (mf_X1_isOnGround x4 a2 h3) fun r5 h6 => if xk_b2 r5 = 0 then (mf_X0_onGround_L4 a0 n (a1 + (0 : Int32)) (a2 + 1) h6) else (mf_X0_onGround_L4 a0 n (a1 + (1 : Int32)) (a2 + 1) h6))
set_option maxHeartbeats 1000000 in
theorem wk_X0_onGround_L4 {Γ : xk_C} {r : Int32} {h' : xk_H} {a0 : Option Nat} (C : xk_Cx Γ RX0 cX0_onGround 3 (Option.some FieldType.int) "onGround" 6 166) (Z : xk_Z Γ (some (.int r)) h') : ∀ (n : Nat) (a1 : Int32) (a2 : Int32) (h0 : xk_H), mf_X0_onGround_L4 a0 n a1 a2 h0 = some (r, h') → xk_X Γ 4 [(0, va_rf a0), (1, .int a1), (2, .int a2)] [] h0 := by
  intro n
  induction n with
  | zero =>
    intro a1 a2 h0 E
    rw [mf_X0_onGround_L4] at E
    cases E
  | succ n ih =>
    intro a1 a2 h0 E
    have hkb4 : ∀ (m1 : Int32) (m2 : Int32) (g : xk_H), mf_X0_onGround_L4 a0 n m1 m2 g = some (r, h') → xk_X Γ 4 [(0, va_rf a0), (1, .int m1), (2, .int m2)] [] g := ih
    rw [mf_X0_onGround_L4] at E
    refine xr_iload_n 2 C rfl rfl dX0_onGround_4 ?_
    refine xr_aload_n 0 C rfl rfl dX0_onGround_5 ?_
    refine xr_gR C E xf_X0_10 dX0_onGround_6 (fun x1 E => ?_)
    refine xr_V (v := x1) [] [.int a2] (fun r => some (.int r)) (fun r => .int r :: [.int a2]) C E xi_1_SlatCratesYard (fun r h' e => wk_X1_size e) q261 q262 q263 q79 q264 xh_SlatCrates_Yard xd_X1_size (by decide) (by decide) ⟨rfl, trivial⟩ (Nat.le_of_ble_eq_true rfl) rfl (fun _ => rfl) dX0_onGround_9 (fun r2 h3 E => ?_)
    refine xr_icmp_ge 40 C E dX0_onGround_12 (by decide) (fun E => ?_) (fun E => ?_)
    · refine xr_iload_n 1 C rfl rfl dX0_onGround_40 ?_
      exact xr_iret C Z E dX0_onGround_41
    · refine xr_iload_n 1 C rfl rfl dX0_onGround_15 ?_
      refine xr_aload_n 0 C rfl rfl dX0_onGround_16 ?_
      refine xr_gR C E xf_X0_10 dX0_onGround_17 (fun x4 E => ?_)
      refine xr_iload_n 2 C rfl rfl dX0_onGround_20 ?_
      refine xr_V (v := x4) [.int a2] [.int a1] (fun r => some (.int (xk_b2 r))) (fun r => .int (xk_b2 r) :: [.int a1]) C E xi_1_SlatCratesYard (fun r h' e => wk_X1_isOnGround e) q1237 q918 q919 q79 q920 xh_SlatCrates_Yard xd_X1_isOnGround (by decide) (by decide) ⟨rfl, trivial⟩ (Nat.le_of_ble_eq_true rfl) rfl (fun _ => rfl) dX0_onGround_21 (fun r5 h6 E => ?_)
      refine xr_if_eq 31 C E dX0_onGround_24 (by decide) (fun E => ?_) (fun E => ?_)
      · refine xr_iconst (0) C (by decide) dX0_onGround_31 ?_
        refine xr_iadd C dX0_onGround_32 ?_
        refine xr_istore_n (L2 := [(1, .int (a1 + (0 : Int32))), (0, va_rf a0), (2, .int a2)]) C rfl rfl dX0_onGround_33 (by decide) ?_
        refine xr_iinc (v := (a2 + 1)) (L2 := [(2, .int (a2 + 1)), (1, .int (a1 + (0 : Int32))), (0, va_rf a0)]) 2 C rfl rfl rfl dX0_onGround_34 (by decide) ?_
        refine xr_goto 4 C dX0_onGround_37 (by decide) ?_
        refine xr_sub [2, 1, 0] rfl ?_
        exact hkb4 (a1 + (0 : Int32)) (a2 + 1) h6 E
      · refine xr_iconst (1) C (by decide) dX0_onGround_27 ?_
        refine xr_goto 32 C dX0_onGround_28 (by decide) ?_
        refine xr_iadd C dX0_onGround_32 ?_
        refine xr_istore_n (L2 := [(1, .int (a1 + (1 : Int32))), (0, va_rf a0), (2, .int a2)]) C rfl rfl dX0_onGround_33 (by decide) ?_
        refine xr_iinc (v := (a2 + 1)) (L2 := [(2, .int (a2 + 1)), (1, .int (a1 + (1 : Int32))), (0, va_rf a0)]) 2 C rfl rfl rfl dX0_onGround_34 (by decide) ?_
        refine xr_goto 4 C dX0_onGround_37 (by decide) ?_
        refine xr_sub [2, 1, 0] rfl ?_
        exact hkb4 (a1 + (1 : Int32)) (a2 + 1) h6 E
def mf_X0_onGround (a0 : Option Nat) (h0 : xk_H) : Option (Int32 × xk_H) :=
  mf_X0_onGround_L4 a0 xk_fu (0 : Int32) (0 : Int32) h0
set_option maxHeartbeats 1000000 in
theorem wk_X0_onGround {l : Launch} {D : va_G} {base : Nat} {a0 : Option Nat} {h0 : xk_H} {r : Int32} {h' : xk_H} (E : mf_X0_onGround a0 h0 = some (r, h')) : xk_Ok l D base yX0_onGround cX0_onGround 3 (Option.some FieldType.int) 6 166 [va_rf a0] h0 (some (.int r)) h' := by
  refine xk_ofX RX0 "onGround" xq_X0_onGround rfl rfl (Nat.le_of_ble_eq_true rfl) ⟨xk_crf _, trivial⟩ (fun Γ el eD eb C Z => ?_)
  rw [mf_X0_onGround] at E
  show xk_X Γ 0 [(0, va_rf a0)] [] h0
  refine xr_iconst (0) C (by decide) dX0_onGround_0 ?_
  refine xr_istore_n (L2 := [(1, .int (0 : Int32)), (0, va_rf a0)]) C rfl rfl dX0_onGround_1 (by decide) ?_
  refine xr_iconst (0) C (by decide) dX0_onGround_2 ?_
  refine xr_istore_n (L2 := [(2, .int (0 : Int32)), (1, .int (0 : Int32)), (0, va_rf a0)]) C rfl rfl dX0_onGround_3 (by decide) ?_
  refine xr_sub [2, 1, 0] rfl ?_
  exact wk_X0_onGround_L4 (a0 := a0) C Z xk_fu (0 : Int32) (0 : Int32) h0 E
def mf_X0_sumOf_L4 (a0 : Option Nat) (a1 : Int32) : Nat → Int32 → Int32 → xk_H → Option (Int32 × xk_H)
  | 0, _, _, _ => none
  | n + 1, a2, a3, h0 => xm_gR [0] 0 a0 h0 fun x1 => xm_rc [1] x1 h0 <| xm_cl (mf_X1_size x1 h0) fun r2 h3 => if r2 ≤ a3 then (some (a2, h3)) else (if a1 = (4 : Int32) then (xm_gR [0] 0 a0 h3 fun x12 => xm_rc [1] x12 h3 <| xm_cl (mf_X1_at x12 a3 h3) fun r13 h14 => xm_gI [3] 0 r13 h14 fun x15 => mf_X0_sumOf_L4 a0 a1 n (a2 + x15) (a3 + 1) h14) else (if a1 = (5 : Int32) then (xm_gR [0] 0 a0 h3 fun x9 => xm_rc [1] x9 h3 <| xm_cl (mf_X1_left x9 a3 h3) fun r10 h11 => mf_X0_sumOf_L4 a0 a1 n (a2 + r10) (a3 + 1) h11) else (xm_gR [0] 0 a0 h3 fun x4 => xm_rc [1] x4 h3 <| xm_cl (mf_X1_at x4 a3 h3) fun r5 h6 => xm_gR [3] 3 r5 h6 fun x7 => xm_len [100] x7 h6 fun x8 => mf_X0_sumOf_L4 a0 a1 n (a2 + x8) (a3 + 1) h6)))
set_option maxHeartbeats 1000000 in
theorem wk_X0_sumOf_L4 {Γ : xk_C} {r : Int32} {h' : xk_H} {a0 : Option Nat} {a1 : Int32} (C : xk_Cx Γ RX0 cX0_sumOf 4 (Option.some FieldType.int) "sumOf" 6 169) (Z : xk_Z Γ (some (.int r)) h') : ∀ (n : Nat) (a2 : Int32) (a3 : Int32) (h0 : xk_H), mf_X0_sumOf_L4 a0 a1 n a2 a3 h0 = some (r, h') → xk_X Γ 4 [(0, va_rf a0), (1, .int a1), (2, .int a2), (3, .int a3)] [] h0 := by
  intro n
  induction n with
  | zero =>
    intro a2 a3 h0 E
    rw [mf_X0_sumOf_L4] at E
    cases E
  | succ n ih =>
    intro a2 a3 h0 E
    have hkb4 : ∀ (m2 : Int32) (m3 : Int32) (g : xk_H), mf_X0_sumOf_L4 a0 a1 n m2 m3 g = some (r, h') → xk_X Γ 4 [(0, va_rf a0), (1, .int a1), (2, .int m2), (3, .int m3)] [] g := ih
    rw [mf_X0_sumOf_L4] at E
    refine xr_iload_n 3 C rfl rfl dX0_sumOf_4 ?_
    refine xr_aload_n 0 C rfl rfl dX0_sumOf_5 ?_
    refine xr_gR C E xf_X0_10 dX0_sumOf_6 (fun x1 E => ?_)
    refine xr_V (v := x1) [] [.int a3] (fun r => some (.int r)) (fun r => .int r :: [.int a3]) C E xi_1_SlatCratesYard (fun r h' e => wk_X1_size e) q261 q262 q263 q79 q264 xh_SlatCrates_Yard xd_X1_size (by decide) (by decide) ⟨rfl, trivial⟩ (Nat.le_of_ble_eq_true rfl) rfl (fun _ => rfl) dX0_sumOf_9 (fun r2 h3 E => ?_)
    refine xr_icmp_ge 71 C E dX0_sumOf_12 (by decide) (fun E => ?_) (fun E => ?_)
    · refine xr_iload_n 2 C rfl rfl dX0_sumOf_71 ?_
      exact xr_iret C Z E dX0_sumOf_72
    · refine xr_iload_n 2 C rfl rfl dX0_sumOf_15 ?_
      refine xr_iload_n 1 C rfl rfl dX0_sumOf_16 ?_
      refine xr_iconst (4) C (by decide) dX0_sumOf_17 ?_
      refine xr_icmp_ne 35 C E dX0_sumOf_18 (by decide) (fun E => ?_) (fun E => ?_)
      · refine xr_iload_n 1 C rfl rfl dX0_sumOf_35 ?_
        refine xr_iconst (5) C (by decide) dX0_sumOf_36 ?_
        refine xr_icmp_ne 51 C E dX0_sumOf_37 (by decide) (fun E => ?_) (fun E => ?_)
        · refine xr_aload_n 0 C rfl rfl dX0_sumOf_51 ?_
          refine xr_gR C E xf_X0_10 dX0_sumOf_52 (fun x4 E => ?_)
          refine xr_iload_n 3 C rfl rfl dX0_sumOf_55 ?_
          refine xr_V (v := x4) [.int a3] [.int a2] (fun r => some (va_rf r)) (fun r => va_rf r :: [.int a2]) C E xi_1_SlatCratesYard (fun r h' e => wk_X1_at e) q1036 q922 q923 q79 q924 xh_SlatCrates_Yard xd_X1_at (by decide) (by decide) ⟨rfl, trivial⟩ (Nat.le_of_ble_eq_true rfl) rfl (fun _ => rfl) dX0_sumOf_56 (fun r5 h6 E => ?_)
          refine xr_gR C E xf_X0_185 dX0_sumOf_59 (fun x7 E => ?_)
          refine xr_len 0 .int C E (fun _ => rfl) xt_100 dX0_sumOf_62 (fun x8 E => ?_)
          refine xr_iadd C dX0_sumOf_63 ?_
          refine xr_istore_n (L2 := [(2, .int (a2 + x8)), (0, va_rf a0), (1, .int a1), (3, .int a3)]) C rfl rfl dX0_sumOf_64 (by decide) ?_
          refine xr_iinc (v := (a3 + 1)) (L2 := [(3, .int (a3 + 1)), (2, .int (a2 + x8)), (0, va_rf a0), (1, .int a1)]) 3 C rfl rfl rfl dX0_sumOf_65 (by decide) ?_
          refine xr_goto 4 C dX0_sumOf_68 (by decide) ?_
          refine xr_sub [2, 3, 1, 0] rfl ?_
          exact hkb4 (a2 + x8) (a3 + 1) h6 E
        · refine xr_aload_n 0 C rfl rfl dX0_sumOf_40 ?_
          refine xr_gR C E xf_X0_10 dX0_sumOf_41 (fun x9 E => ?_)
          refine xr_iload_n 3 C rfl rfl dX0_sumOf_44 ?_
          refine xr_V (v := x9) [.int a3] [.int a2] (fun r => some (.int r)) (fun r => .int r :: [.int a2]) C E xi_1_SlatCratesYard (fun r h' e => wk_X1_left e) q1243 q994 q995 q79 q996 xh_SlatCrates_Yard xd_X1_left (by decide) (by decide) ⟨rfl, trivial⟩ (Nat.le_of_ble_eq_true rfl) rfl (fun _ => rfl) dX0_sumOf_45 (fun r10 h11 E => ?_)
          refine xr_goto 63 C dX0_sumOf_48 (by decide) ?_
          refine xr_iadd C dX0_sumOf_63 ?_
          refine xr_istore_n (L2 := [(2, .int (a2 + r10)), (0, va_rf a0), (1, .int a1), (3, .int a3)]) C rfl rfl dX0_sumOf_64 (by decide) ?_
          refine xr_iinc (v := (a3 + 1)) (L2 := [(3, .int (a3 + 1)), (2, .int (a2 + r10)), (0, va_rf a0), (1, .int a1)]) 3 C rfl rfl rfl dX0_sumOf_65 (by decide) ?_
          refine xr_goto 4 C dX0_sumOf_68 (by decide) ?_
          refine xr_sub [2, 3, 1, 0] rfl ?_
          exact hkb4 (a2 + r10) (a3 + 1) h11 E
      · refine xr_aload_n 0 C rfl rfl dX0_sumOf_21 ?_
        refine xr_gR C E xf_X0_10 dX0_sumOf_22 (fun x12 E => ?_)
        refine xr_iload_n 3 C rfl rfl dX0_sumOf_25 ?_
        refine xr_V (v := x12) [.int a3] [.int a2] (fun r => some (va_rf r)) (fun r => va_rf r :: [.int a2]) C E xi_1_SlatCratesYard (fun r h' e => wk_X1_at e) q1036 q922 q923 q79 q924 xh_SlatCrates_Yard xd_X1_at (by decide) (by decide) ⟨rfl, trivial⟩ (Nat.le_of_ble_eq_true rfl) rfl (fun _ => rfl) dX0_sumOf_26 (fun r13 h14 E => ?_)
        refine xr_gI C E xf_X0_162 dX0_sumOf_29 (fun x15 E => ?_)
        refine xr_goto 63 C dX0_sumOf_32 (by decide) ?_
        refine xr_iadd C dX0_sumOf_63 ?_
        refine xr_istore_n (L2 := [(2, .int (a2 + x15)), (0, va_rf a0), (1, .int a1), (3, .int a3)]) C rfl rfl dX0_sumOf_64 (by decide) ?_
        refine xr_iinc (v := (a3 + 1)) (L2 := [(3, .int (a3 + 1)), (2, .int (a2 + x15)), (0, va_rf a0), (1, .int a1)]) 3 C rfl rfl rfl dX0_sumOf_65 (by decide) ?_
        refine xr_goto 4 C dX0_sumOf_68 (by decide) ?_
        refine xr_sub [2, 3, 1, 0] rfl ?_
        exact hkb4 (a2 + x15) (a3 + 1) h14 E
def mf_X0_sumOf (a0 : Option Nat) (a1 : Int32) (h0 : xk_H) : Option (Int32 × xk_H) :=
  mf_X0_sumOf_L4 a0 a1 xk_fu (0 : Int32) (0 : Int32) h0
set_option maxHeartbeats 1000000 in
theorem wk_X0_sumOf {l : Launch} {D : va_G} {base : Nat} {a0 : Option Nat} {a1 : Int32} {h0 : xk_H} {r : Int32} {h' : xk_H} (E : mf_X0_sumOf a0 a1 h0 = some (r, h')) : xk_Ok l D base yX0_sumOf cX0_sumOf 4 (Option.some FieldType.int) 6 169 [va_rf a0, .int a1] h0 (some (.int r)) h' := by
  refine xk_ofX RX0 "sumOf" xq_X0_sumOf rfl rfl (Nat.le_of_ble_eq_true rfl) ⟨xk_crf _, ⟨rfl, trivial⟩⟩ (fun Γ el eD eb C Z => ?_)
  rw [mf_X0_sumOf] at E
  show xk_X Γ 0 [(0, va_rf a0), (1, .int a1)] [] h0
  refine xr_iconst (0) C (by decide) dX0_sumOf_0 ?_
  refine xr_istore_n (L2 := [(2, .int (0 : Int32)), (0, va_rf a0), (1, .int a1)]) C rfl rfl dX0_sumOf_1 (by decide) ?_
  refine xr_iconst (0) C (by decide) dX0_sumOf_2 ?_
  refine xr_istore_n (L2 := [(3, .int (0 : Int32)), (2, .int (0 : Int32)), (0, va_rf a0), (1, .int a1)]) C rfl rfl dX0_sumOf_3 (by decide) ?_
  refine xr_sub [2, 3, 1, 0] rfl ?_
  exact wk_X0_sumOf_L4 (a0 := a0) (a1 := a1) C Z xk_fu (0 : Int32) (0 : Int32) h0 E
def mf_X0_count (a0 : Option Nat) (a1 : Int32) (h0 : xk_H) : Option (Int32 × xk_H) :=
  if a1 = (0 : Int32) then (xm_gR [0] 0 a0 h0 fun x1 => xm_rc [1] x1 h0 <| xm_cl (mf_X1_size x1 h0) fun r2 h3 => some (r2, h3)) else if a1 = (1 : Int32) then (xm_rc [0] a0 h0 <| xm_cl (mf_X0_onGround a0 h0) fun r4 h5 => some (r4, h5)) else if a1 = (2 : Int32) then (xm_rc [0] a0 h0 <| xm_cl (mf_X0_loose a0 h0) fun r6 h7 => some (r6, h7)) else if a1 = (3 : Int32) then (xm_rc [0] a0 h0 <| xm_cl (mf_X0_deepest a0 h0) fun r8 h9 => some (r8, h9)) else if a1 = (4 : Int32) then (xm_rc [0] a0 h0 <| xm_cl (mf_X0_sumOf a0 a1 h0) fun r10 h11 => some (r10, h11)) else if a1 = (5 : Int32) then (xm_rc [0] a0 h0 <| xm_cl (mf_X0_sumOf a0 a1 h0) fun r12 h13 => some (r12, h13)) else if a1 = (6 : Int32) then (xm_gR [0] 0 a0 h0 fun x14 => xm_rc [1] x14 h0 <| xm_cl (mf_X1_told x14 h0) fun r15 h16 => some (r15, h16)) else if a1 = (7 : Int32) then (xm_rc [0] a0 h0 <| xm_cl (mf_X0_sumOf a0 a1 h0) fun r17 h18 => some (r17, h18)) else if a1 = (8 : Int32) then (xm_gR [0] 0 a0 h0 fun x19 => xm_rc [1] x19 h0 <| xm_cl (mf_X1_allLettersSeen x19 h0) fun r20 h21 => some (r20, h21)) else if a1 = (9 : Int32) then (xm_gR [0] 0 a0 h0 fun x22 => xm_rc [1] x22 h0 <| xm_cl (mf_X1_differentRows x22 h0) fun r23 h24 => some (r23, h24)) else if a1 = (10 : Int32) then (xm_gR [0] 0 a0 h0 fun x25 => xm_rc [1] x25 h0 <| xm_cl (mf_X1_nest x25 h0) fun r26 h27 => xm_rc [6] r26 h27 <| xm_cl (mf_J2_size r26 h27) fun r28 h29 => some (r28, h29)) else if a1 = (11 : Int32) then (xm_gR [0] 0 a0 h0 fun x30 => xm_rc [1] x30 h0 <| xm_cl (mf_X1_allEfforts x30 h0) fun r31 h32 => some (r31, h32)) else if a1 = (12 : Int32) then (xm_gR [0] 0 a0 h0 fun x33 => xm_gI [1] 1 x33 h0 fun x34 => some (x34, h0)) else if a1 = (13 : Int32) then (xm_gR [0] 3 a0 h0 fun x35 => xm_rc [8] x35 h0 <| xm_cl (mf_J6_length x35 h0) fun r36 h37 => some (r36, h37)) else if a1 = (14 : Int32) then (xm_gR [0] 1 a0 h0 fun x38 => xm_rc [7] x38 h0 <| xm_cl (mf_J4_size x38 h0) fun r39 h40 => some (r39, h40)) else (some ((-1 : Int32), h0))
set_option maxHeartbeats 1000000 in
theorem wk_X0_count {l : Launch} {D : va_G} {base : Nat} {a0 : Option Nat} {a1 : Int32} {h0 : xk_H} {r : Int32} {h' : xk_H} (E : mf_X0_count a0 a1 h0 = some (r, h')) : xk_Ok l D base yX0_count cX0_count 2 (Option.some FieldType.int) 10 292 [va_rf a0, .int a1] h0 (some (.int r)) h' := by
  refine xk_ofX RX0 "count" xq_X0_count rfl rfl (Nat.le_of_ble_eq_true rfl) ⟨xk_crf _, ⟨rfl, trivial⟩⟩ (fun Γ el eD eb C Z => ?_)
  rw [mf_X0_count] at E
  show xk_X Γ 0 [(0, va_rf a0), (1, .int a1)] [] h0
  refine xr_iload_n 1 C rfl rfl dX0_count_0 ?_
  by_cases s0 : a1 = (0 : Int32)
  · rw [if_pos s0] at E
    refine xr_tsw 76 (0) C dX0_count_1 s0 (by decide) (by decide) (off := 75) rfl (by decide) ?_
    refine xr_aload_n 0 C rfl rfl dX0_count_76 ?_
    refine xr_gR C E xf_X0_10 dX0_count_77 (fun x1 E => ?_)
    refine xr_V (v := x1) [] [] (fun r => some (.int r)) (fun r => .int r :: []) C E xi_1_SlatCratesYard (fun r h' e => wk_X1_size e) q261 q262 q263 q79 q264 xh_SlatCrates_Yard xd_X1_size (by decide) (by decide) trivial (Nat.le_of_ble_eq_true rfl) rfl (fun _ => rfl) dX0_count_80 (fun r2 h3 E => ?_)
    exact xr_iret C Z E dX0_count_83
  rw [if_neg s0] at E
  by_cases s1 : a1 = (1 : Int32)
  · rw [if_pos s1] at E
    refine xr_tsw 84 (1) C dX0_count_1 s1 (by decide) (by decide) (off := 83) rfl (by decide) ?_
    refine xr_aload_n 0 C rfl rfl dX0_count_84 ?_
    refine xr_V (v := a0) [] [] (fun r => some (.int r)) (fun r => .int r :: []) C E xi_0_SlatCrates (fun r h' e => wk_X0_onGround e) q1859 q1861 qs23 q78 q1862 xh_SlatCrates xd_X0_onGround (by decide) (by decide) trivial (Nat.le_of_ble_eq_true rfl) rfl (fun _ => rfl) dX0_count_85 (fun r4 h5 E => ?_)
    exact xr_iret C Z E dX0_count_88
  rw [if_neg s1] at E
  by_cases s2 : a1 = (2 : Int32)
  · rw [if_pos s2] at E
    refine xr_tsw 89 (2) C dX0_count_1 s2 (by decide) (by decide) (off := 88) rfl (by decide) ?_
    refine xr_aload_n 0 C rfl rfl dX0_count_89 ?_
    refine xr_V (v := a0) [] [] (fun r => some (.int r)) (fun r => .int r :: []) C E xi_0_SlatCrates (fun r h' e => wk_X0_loose e) q1863 q1865 qs24 q78 q1866 xh_SlatCrates xd_X0_loose (by decide) (by decide) trivial (Nat.le_of_ble_eq_true rfl) rfl (fun _ => rfl) dX0_count_90 (fun r6 h7 E => ?_)
    exact xr_iret C Z E dX0_count_93
  rw [if_neg s2] at E
  by_cases s3 : a1 = (3 : Int32)
  · rw [if_pos s3] at E
    refine xr_tsw 94 (3) C dX0_count_1 s3 (by decide) (by decide) (off := 93) rfl (by decide) ?_
    refine xr_aload_n 0 C rfl rfl dX0_count_94 ?_
    refine xr_V (v := a0) [] [] (fun r => some (.int r)) (fun r => .int r :: []) C E xi_0_SlatCrates (fun r h' e => wk_X0_deepest e) q1868 q1870 qs25 q78 q1871 xh_SlatCrates xd_X0_deepest (by decide) (by decide) trivial (Nat.le_of_ble_eq_true rfl) rfl (fun _ => rfl) dX0_count_95 (fun r8 h9 E => ?_)
    exact xr_iret C Z E dX0_count_98
  rw [if_neg s3] at E
  by_cases s4 : a1 = (4 : Int32)
  · rw [if_pos s4] at E
    refine xr_tsw 99 (4) C dX0_count_1 s4 (by decide) (by decide) (off := 98) rfl (by decide) ?_
    refine xr_aload_n 0 C rfl rfl dX0_count_99 ?_
    refine xr_iload_n 1 C rfl rfl dX0_count_100 ?_
    refine xr_V (v := a0) [.int a1] [] (fun r => some (.int r)) (fun r => .int r :: []) C E xi_0_SlatCrates (fun r h' e => wk_X0_sumOf e) q1873 q1875 qs26 q78 q1876 xh_SlatCrates xd_X0_sumOf (by decide) (by decide) trivial (Nat.le_of_ble_eq_true rfl) rfl (fun _ => rfl) dX0_count_101 (fun r10 h11 E => ?_)
    exact xr_iret C Z E dX0_count_104
  rw [if_neg s4] at E
  by_cases s5 : a1 = (5 : Int32)
  · rw [if_pos s5] at E
    refine xr_tsw 99 (5) C dX0_count_1 s5 (by decide) (by decide) (off := 98) rfl (by decide) ?_
    refine xr_aload_n 0 C rfl rfl dX0_count_99 ?_
    refine xr_iload_n 1 C rfl rfl dX0_count_100 ?_
    refine xr_V (v := a0) [.int a1] [] (fun r => some (.int r)) (fun r => .int r :: []) C E xi_0_SlatCrates (fun r h' e => wk_X0_sumOf e) q1873 q1875 qs26 q78 q1876 xh_SlatCrates xd_X0_sumOf (by decide) (by decide) trivial (Nat.le_of_ble_eq_true rfl) rfl (fun _ => rfl) dX0_count_101 (fun r12 h13 E => ?_)
    exact xr_iret C Z E dX0_count_104
  rw [if_neg s5] at E
  by_cases s6 : a1 = (6 : Int32)
  · rw [if_pos s6] at E
    refine xr_tsw 105 (6) C dX0_count_1 s6 (by decide) (by decide) (off := 104) rfl (by decide) ?_
    refine xr_aload_n 0 C rfl rfl dX0_count_105 ?_
    refine xr_gR C E xf_X0_10 dX0_count_106 (fun x14 E => ?_)
    refine xr_V (v := x14) [] [] (fun r => some (.int r)) (fun r => .int r :: []) C E xi_1_SlatCratesYard (fun r h' e => wk_X1_told e) q1877 q1878 q1879 q79 q1880 xh_SlatCrates_Yard xd_X1_told (by decide) (by decide) trivial (Nat.le_of_ble_eq_true rfl) rfl (fun _ => rfl) dX0_count_109 (fun r15 h16 E => ?_)
    exact xr_iret C Z E dX0_count_112
  rw [if_neg s6] at E
  by_cases s7 : a1 = (7 : Int32)
  · rw [if_pos s7] at E
    refine xr_tsw 99 (7) C dX0_count_1 s7 (by decide) (by decide) (off := 98) rfl (by decide) ?_
    refine xr_aload_n 0 C rfl rfl dX0_count_99 ?_
    refine xr_iload_n 1 C rfl rfl dX0_count_100 ?_
    refine xr_V (v := a0) [.int a1] [] (fun r => some (.int r)) (fun r => .int r :: []) C E xi_0_SlatCrates (fun r h' e => wk_X0_sumOf e) q1873 q1875 qs26 q78 q1876 xh_SlatCrates xd_X0_sumOf (by decide) (by decide) trivial (Nat.le_of_ble_eq_true rfl) rfl (fun _ => rfl) dX0_count_101 (fun r17 h18 E => ?_)
    exact xr_iret C Z E dX0_count_104
  rw [if_neg s7] at E
  by_cases s8 : a1 = (8 : Int32)
  · rw [if_pos s8] at E
    refine xr_tsw 113 (8) C dX0_count_1 s8 (by decide) (by decide) (off := 112) rfl (by decide) ?_
    refine xr_aload_n 0 C rfl rfl dX0_count_113 ?_
    refine xr_gR C E xf_X0_10 dX0_count_114 (fun x19 E => ?_)
    refine xr_V (v := x19) [] [] (fun r => some (.int r)) (fun r => .int r :: []) C E xi_1_SlatCratesYard (fun r h' e => wk_X1_allLettersSeen e) q2049 q2050 q2051 q79 q2052 xh_SlatCrates_Yard xd_X1_allLettersSeen (by decide) (by decide) trivial (Nat.le_of_ble_eq_true rfl) rfl (fun _ => rfl) dX0_count_117 (fun r20 h21 E => ?_)
    exact xr_iret C Z E dX0_count_120
  rw [if_neg s8] at E
  by_cases s9 : a1 = (9 : Int32)
  · rw [if_pos s9] at E
    refine xr_tsw 121 (9) C dX0_count_1 s9 (by decide) (by decide) (off := 120) rfl (by decide) ?_
    refine xr_aload_n 0 C rfl rfl dX0_count_121 ?_
    refine xr_gR C E xf_X0_10 dX0_count_122 (fun x22 E => ?_)
    refine xr_V (v := x22) [] [] (fun r => some (.int r)) (fun r => .int r :: []) C E xi_1_SlatCratesYard (fun r h' e => wk_X1_differentRows e) q2054 q2055 q2056 q79 q2057 xh_SlatCrates_Yard xd_X1_differentRows (by decide) (by decide) trivial (Nat.le_of_ble_eq_true rfl) rfl (fun _ => rfl) dX0_count_125 (fun r23 h24 E => ?_)
    exact xr_iret C Z E dX0_count_128
  rw [if_neg s9] at E
  by_cases s10 : a1 = (10 : Int32)
  · rw [if_pos s10] at E
    refine xr_tsw 129 (10) C dX0_count_1 s10 (by decide) (by decide) (off := 128) rfl (by decide) ?_
    refine xr_aload_n 0 C rfl rfl dX0_count_129 ?_
    refine xr_gR C E xf_X0_10 dX0_count_130 (fun x25 E => ?_)
    refine xr_V (v := x25) [] [] (fun r => some (va_rf r)) (fun r => va_rf r :: []) C E xi_1_SlatCratesYard (fun r h' e => wk_X1_nest e) q1838 q1839 q1840 q79 q1841 xh_SlatCrates_Yard xd_X1_nest (by decide) (by decide) trivial (Nat.le_of_ble_eq_true rfl) rfl (fun _ => rfl) dX0_count_133 (fun r26 h27 E => ?_)
    refine xr_V (v := r26) [] [] (fun r => some (.int r)) (fun r => .int r :: []) C E xi_6_ArrayList (fun r h' e => wk_J2_size e) q1195 q266 q267 q82 q268 xh_java_util_ArrayList xd_J2_size (by decide) (by decide) trivial (Nat.le_of_ble_eq_true rfl) rfl (fun _ => rfl) dX0_count_136 (fun r28 h29 E => ?_)
    exact xr_iret C Z E dX0_count_139
  rw [if_neg s10] at E
  by_cases s11 : a1 = (11 : Int32)
  · rw [if_pos s11] at E
    refine xr_tsw 140 (11) C dX0_count_1 s11 (by decide) (by decide) (off := 139) rfl (by decide) ?_
    refine xr_aload_n 0 C rfl rfl dX0_count_140 ?_
    refine xr_gR C E xf_X0_10 dX0_count_141 (fun x30 E => ?_)
    refine xr_V (v := x30) [] [] (fun r => some (.int r)) (fun r => .int r :: []) C E xi_1_SlatCratesYard (fun r h' e => wk_X1_allEfforts e) q2086 q2087 q2088 q79 q2089 xh_SlatCrates_Yard xd_X1_allEfforts (by decide) (by decide) trivial (Nat.le_of_ble_eq_true rfl) rfl (fun _ => rfl) dX0_count_144 (fun r31 h32 E => ?_)
    exact xr_iret C Z E dX0_count_147
  rw [if_neg s11] at E
  by_cases s12 : a1 = (12 : Int32)
  · rw [if_pos s12] at E
    refine xr_tsw 148 (12) C dX0_count_1 s12 (by decide) (by decide) (off := 147) rfl (by decide) ?_
    refine xr_aload_n 0 C rfl rfl dX0_count_148 ?_
    refine xr_gR C E xf_X0_10 dX0_count_149 (fun x33 E => ?_)
    refine xr_gI C E xf_X0_73 dX0_count_152 (fun x34 E => ?_)
    exact xr_iret C Z E dX0_count_155
  rw [if_neg s12] at E
  by_cases s13 : a1 = (13 : Int32)
  · rw [if_pos s13] at E
    refine xr_tsw 156 (13) C dX0_count_1 s13 (by decide) (by decide) (off := 155) rfl (by decide) ?_
    refine xr_aload_n 0 C rfl rfl dX0_count_156 ?_
    refine xr_gR C E xf_X0_26 dX0_count_157 (fun x35 E => ?_)
    refine xr_V (v := x35) [] [] (fun r => some (.int r)) (fun r => .int r :: []) C E xi_8_StringBuilder (fun r h' e => wk_J6_length e) q1065 q643 q2505 q86 q644 xh_java_lang_StringBuilder xd_J6_length (by decide) (by decide) trivial (Nat.le_of_ble_eq_true rfl) rfl (fun _ => rfl) dX0_count_160 (fun r36 h37 E => ?_)
    exact xr_iret C Z E dX0_count_163
  rw [if_neg s13] at E
  by_cases s14 : a1 = (14 : Int32)
  · rw [if_pos s14] at E
    refine xr_tsw 164 (14) C dX0_count_1 s14 (by decide) (by decide) (off := 163) rfl (by decide) ?_
    refine xr_aload_n 0 C rfl rfl dX0_count_164 ?_
    refine xr_gR C E xf_X0_19 dX0_count_165 (fun x38 E => ?_)
    refine xr_V (v := x38) [] [] (fun r => some (.int r)) (fun r => .int r :: []) C E xi_7_LinkedList (fun r h' e => wk_J4_size e) q273 q274 q275 q84 q276 xh_java_util_LinkedList xd_J4_size (by decide) (by decide) trivial (Nat.le_of_ble_eq_true rfl) rfl (fun _ => rfl) dX0_count_168 (fun r39 h40 E => ?_)
    exact xr_iret C Z E dX0_count_171
  rw [if_neg s14] at E
  refine xr_tswd 172 C dX0_count_1 (by have t0 := lv_neT s0 (a := 0) rfl; have t1 := lv_neT s1 (a := 1) rfl; have t2 := lv_neT s2 (a := 2) rfl; have t3 := lv_neT s3 (a := 3) rfl; have t4 := lv_neT s4 (a := 4) rfl; have t5 := lv_neT s5 (a := 5) rfl; have t6 := lv_neT s6 (a := 6) rfl; have t7 := lv_neT s7 (a := 7) rfl; have t8 := lv_neT s8 (a := 8) rfl; have t9 := lv_neT s9 (a := 9) rfl; have t10 := lv_neT s10 (a := 10) rfl; have t11 := lv_neT s11 (a := 11) rfl; have t12 := lv_neT s12 (a := 12) rfl; have t13 := lv_neT s13 (a := 13) rfl; have t14 := lv_neT s14 (a := 14) rfl; omega) (by decide) ?_
  refine xr_iconst (-1) C (by decide) dX0_count_172 ?_
  exact xr_iret C Z E dX0_count_173
def mf_X0_full_J44 (kb6 : Int32 → Int32 → Int32 → xk_H → Option (UInt64 × xk_H)) (a0 : Option Nat) (a2 : Int32) (a3 : Int32) (s0 : Int32) (s1 : Int32) (h0 : xk_H) : Option (UInt64 × xk_H) :=
  xm_gR [0] 0 a0 h0 fun x11 => xm_rc [1] x11 h0 <| xm_cl (mf_X1_at x11 a3 h0) fun r12 h13 => xm_gI [3] 1 r12 h13 fun x14 => kb6 (s1 + s0) (a2 + x14) (a3 + 1) h13
set_option maxHeartbeats 1000000 in
theorem wk_X0_full_J44 {Γ : xk_C} {r : UInt64} {h' : xk_H} {kb6 : Int32 → Int32 → Int32 → xk_H → Option (UInt64 × xk_H)} {a0 : Option Nat} {a2 : Int32} {a3 : Int32} {s0 : Int32} {s1 : Int32} {h0 : xk_H} (C : xk_Cx Γ RX0 cX0_full 4 (Option.some FieldType.double) "full" 6 166) (Z : xk_Z Γ (some (.double r)) h') (hkb6 : ∀ (m1 : Int32) (m2 : Int32) (m3 : Int32) (g : xk_H), kb6 m1 m2 m3 g = some (r, h') → xk_X Γ 6 [(0, va_rf a0), (1, .int m1), (2, .int m2), (3, .int m3)] [] g) (E : mf_X0_full_J44 kb6 a0 a2 a3 s0 s1 h0 = some (r, h')) : xk_X Γ 44 [(0, va_rf a0), (2, .int a2), (3, .int a3)] [.int s0, .int s1] h0 := by
  rw [mf_X0_full_J44] at E
  refine xr_iadd C dX0_full_44 ?_
  refine xr_istore_n (L2 := [(1, .int (s1 + s0)), (0, va_rf a0), (2, .int a2), (3, .int a3)]) C rfl rfl dX0_full_45 (by decide) ?_
  refine xr_iload_n 2 C rfl rfl dX0_full_46 ?_
  refine xr_aload_n 1 C rfl rfl dX0_full_47 ?_
  refine xr_gR C E xf_X0_10 dX0_full_48 (fun x11 E => ?_)
  refine xr_iload_n 3 C rfl rfl dX0_full_51 ?_
  refine xr_V (v := x11) [.int a3] [.int a2] (fun r => some (va_rf r)) (fun r => va_rf r :: [.int a2]) C E xi_1_SlatCratesYard (fun r h' e => wk_X1_at e) q1036 q922 q923 q79 q924 xh_SlatCrates_Yard xd_X1_at (by decide) (by decide) ⟨rfl, trivial⟩ (Nat.le_of_ble_eq_true rfl) rfl (fun _ => rfl) dX0_full_52 (fun r12 h13 E => ?_)
  refine xr_gI C E xf_X0_164 dX0_full_55 (fun x14 E => ?_)
  refine xr_iadd C dX0_full_58 ?_
  refine xr_istore_n (L2 := [(2, .int (a2 + x14)), (1, .int (s1 + s0)), (0, va_rf a0), (3, .int a3)]) C rfl rfl dX0_full_59 (by decide) ?_
  refine xr_iinc (v := (a3 + 1)) (L2 := [(3, .int (a3 + 1)), (2, .int (a2 + x14)), (1, .int (s1 + s0)), (0, va_rf a0)]) 3 C rfl rfl rfl dX0_full_60 (by decide) ?_
  refine xr_goto 6 C dX0_full_63 (by decide) ?_
  refine xr_sub [3, 2, 1, 0] rfl ?_
  exact hkb6 (s1 + s0) (a2 + x14) (a3 + 1) h13 E
def mf_X0_full_L6 (kx66 : Int32 → Int32 → xk_H → Option (UInt64 × xk_H)) (a0 : Option Nat) : Nat → Int32 → Int32 → Int32 → xk_H → Option (UInt64 × xk_H)
  | 0, _, _, _, _ => none
  | n + 1, a1, a2, a3, h0 => xm_gR [0] 0 a0 h0 fun x1 => xm_rc [1] x1 h0 <| xm_cl (mf_X1_size x1 h0) fun r2 h3 => if r2 ≤ a3 then (kx66 a1 a2 h3) else (xm_gR [0] 0 a0 h3 fun x4 => xm_rc [1] x4 h3 <| xm_cl (mf_X1_isOnGround x4 a3 h3) fun r5 h6 => if xk_b2 r5 = 0 then (xm_gR [0] 0 a0 h6 fun x7 => xm_rc [1] x7 h6 <| xm_cl (mf_X1_at x7 a3 h6) fun r8 h9 => xm_gI [3] 0 r8 h9 fun x10 => mf_X0_full_J44 (fun m1 m2 m3 g => mf_X0_full_L6 kx66 a0 n m1 m2 m3 g) a0 a2 a3 x10 a1 h9) else (mf_X0_full_J44 (fun m1 m2 m3 g => mf_X0_full_L6 kx66 a0 n m1 m2 m3 g) a0 a2 a3 (0 : Int32) a1 h6))
set_option maxHeartbeats 1000000 in
theorem wk_X0_full_L6 {Γ : xk_C} {r : UInt64} {h' : xk_H} {kx66 : Int32 → Int32 → xk_H → Option (UInt64 × xk_H)} {a0 : Option Nat} (C : xk_Cx Γ RX0 cX0_full 4 (Option.some FieldType.double) "full" 6 166) (Z : xk_Z Γ (some (.double r)) h') (hkx66 : ∀ (m1 : Int32) (m2 : Int32) (g : xk_H), kx66 m1 m2 g = some (r, h') → xk_X Γ 66 [(1, .int m1), (2, .int m2)] [] g) : ∀ (n : Nat) (a1 : Int32) (a2 : Int32) (a3 : Int32) (h0 : xk_H), mf_X0_full_L6 kx66 a0 n a1 a2 a3 h0 = some (r, h') → xk_X Γ 6 [(0, va_rf a0), (1, .int a1), (2, .int a2), (3, .int a3)] [] h0 := by
  intro n
  induction n with
  | zero =>
    intro a1 a2 a3 h0 E
    rw [mf_X0_full_L6] at E
    cases E
  | succ n ih =>
    intro a1 a2 a3 h0 E
    have hkb6 : ∀ (m1 : Int32) (m2 : Int32) (m3 : Int32) (g : xk_H), mf_X0_full_L6 kx66 a0 n m1 m2 m3 g = some (r, h') → xk_X Γ 6 [(0, va_rf a0), (1, .int m1), (2, .int m2), (3, .int m3)] [] g := ih
    rw [mf_X0_full_L6] at E
    refine xr_iload_n 3 C rfl rfl dX0_full_6 ?_
    refine xr_aload_n 0 C rfl rfl dX0_full_7 ?_
    refine xr_gR C E xf_X0_10 dX0_full_8 (fun x1 E => ?_)
    refine xr_V (v := x1) [] [.int a3] (fun r => some (.int r)) (fun r => .int r :: [.int a3]) C E xi_1_SlatCratesYard (fun r h' e => wk_X1_size e) q261 q262 q263 q79 q264 xh_SlatCrates_Yard xd_X1_size (by decide) (by decide) ⟨rfl, trivial⟩ (Nat.le_of_ble_eq_true rfl) rfl (fun _ => rfl) dX0_full_11 (fun r2 h3 E => ?_)
    refine xr_icmp_ge 66 C E dX0_full_14 (by decide) (fun E => ?_) (fun E => ?_)
    · refine xr_sub [1, 2] rfl ?_
      exact hkx66 a1 a2 h3 E
    · refine xr_iload_n 1 C rfl rfl dX0_full_17 ?_
      refine xr_aload_n 0 C rfl rfl dX0_full_18 ?_
      refine xr_gR C E xf_X0_10 dX0_full_19 (fun x4 E => ?_)
      refine xr_iload_n 3 C rfl rfl dX0_full_22 ?_
      refine xr_V (v := x4) [.int a3] [.int a1] (fun r => some (.int (xk_b2 r))) (fun r => .int (xk_b2 r) :: [.int a1]) C E xi_1_SlatCratesYard (fun r h' e => wk_X1_isOnGround e) q1237 q918 q919 q79 q920 xh_SlatCrates_Yard xd_X1_isOnGround (by decide) (by decide) ⟨rfl, trivial⟩ (Nat.le_of_ble_eq_true rfl) rfl (fun _ => rfl) dX0_full_23 (fun r5 h6 E => ?_)
      refine xr_if_eq 33 C E dX0_full_26 (by decide) (fun E => ?_) (fun E => ?_)
      · refine xr_aload_n 0 C rfl rfl dX0_full_33 ?_
        refine xr_gR C E xf_X0_10 dX0_full_34 (fun x7 E => ?_)
        refine xr_iload_n 3 C rfl rfl dX0_full_37 ?_
        refine xr_V (v := x7) [.int a3] [.int a1] (fun r => some (va_rf r)) (fun r => va_rf r :: [.int a1]) C E xi_1_SlatCratesYard (fun r h' e => wk_X1_at e) q1036 q922 q923 q79 q924 xh_SlatCrates_Yard xd_X1_at (by decide) (by decide) ⟨rfl, trivial⟩ (Nat.le_of_ble_eq_true rfl) rfl (fun _ => rfl) dX0_full_38 (fun r8 h9 E => ?_)
        refine xr_gI C E xf_X0_162 dX0_full_41 (fun x10 E => ?_)
        refine xr_sub [0, 2, 3] rfl ?_
        exact wk_X0_full_J44 C Z hkb6 E
      · refine xr_iconst (0) C (by decide) dX0_full_29 ?_
        refine xr_goto 44 C dX0_full_30 (by decide) ?_
        refine xr_sub [0, 2, 3] rfl ?_
        exact wk_X0_full_J44 C Z hkb6 E
def mf_X0_full (a0 : Option Nat) (h0 : xk_H) : Option (UInt64 × xk_H) :=
  mf_X0_full_L6 (fun m15 m16 h17 => if m16 = 0 then (some ((0 : UInt64), h17)) else (xm_dd (FP.i2d m15) (FP.i2d m16) fun x18 => some (x18, h17))) a0 xk_fu (0 : Int32) (0 : Int32) (0 : Int32) h0
set_option maxHeartbeats 1000000 in
theorem wk_X0_full {l : Launch} {D : va_G} {base : Nat} {a0 : Option Nat} {h0 : xk_H} {r : UInt64} {h' : xk_H} (E : mf_X0_full a0 h0 = some (r, h')) : xk_Ok l D base yX0_full cX0_full 4 (Option.some FieldType.double) 6 166 [va_rf a0] h0 (some (.double r)) h' := by
  refine xk_ofX RX0 "full" xq_X0_full rfl rfl (Nat.le_of_ble_eq_true rfl) ⟨xk_crf _, trivial⟩ (fun Γ el eD eb C Z => ?_)
  rw [mf_X0_full] at E
  show xk_X Γ 0 [(0, va_rf a0)] [] h0
  refine xr_iconst (0) C (by decide) dX0_full_0 ?_
  refine xr_istore_n (L2 := [(1, .int (0 : Int32)), (0, va_rf a0)]) C rfl rfl dX0_full_1 (by decide) ?_
  refine xr_iconst (0) C (by decide) dX0_full_2 ?_
  refine xr_istore_n (L2 := [(2, .int (0 : Int32)), (1, .int (0 : Int32)), (0, va_rf a0)]) C rfl rfl dX0_full_3 (by decide) ?_
  refine xr_iconst (0) C (by decide) dX0_full_4 ?_
  refine xr_istore_n (L2 := [(3, .int (0 : Int32)), (2, .int (0 : Int32)), (1, .int (0 : Int32)), (0, va_rf a0)]) C rfl rfl dX0_full_5 (by decide) ?_
  refine xr_sub [3, 2, 1, 0] rfl ?_
  refine wk_X0_full_L6 (a0 := a0) C Z (fun m15 m16 h17 E => ?_) xk_fu (0 : Int32) (0 : Int32) (0 : Int32) h0 E
  · refine xr_iload_n 1 C rfl rfl dX0_full_66 ?_
    refine xr_if_ne 74 C E dX0_full_67 (by decide) (fun E => ?_) (fun E => ?_)
    · refine xr_iload_n 0 C rfl rfl dX0_full_74 ?_
      refine xr_i2d C dX0_full_75 ?_
      refine xr_iload_n 1 C rfl rfl dX0_full_76 ?_
      refine xr_i2d C dX0_full_77 ?_
      refine xr_dd C E dX0_full_78 (fun x18 E => ?_)
      exact xr_dret C Z E dX0_full_79
    · refine xr_dconst0 C dX0_full_70 ?_
      refine xr_goto 79 C dX0_full_71 (by decide) ?_
      exact xr_dret C Z E dX0_full_79
def mf_X0_turnedOnce (a0 : Option Nat) (a1 : Int32) (h0 : xk_H) : Option (Option Nat × xk_H) :=
  xm_gR [0] 0 a0 h0 fun x1 => xm_rc [1] x1 h0 <| xm_cl (mf_X1_copy x1 h0) fun r2 h3 => xm_rc [1] r2 h3 <| xm_cl (mf_X1_at r2 a1 h3) fun r4 h5 => xm_rc [3] r4 h5 <| xm_cl (mf_X3_turns r4 h5) fun r6 h7 => some (r2, h7)
set_option maxHeartbeats 1000000 in
theorem wk_X0_turnedOnce {l : Launch} {D : va_G} {base : Nat} {a0 : Option Nat} {a1 : Int32} {h0 : xk_H} {r : Option Nat} {h' : xk_H} (E : mf_X0_turnedOnce a0 a1 h0 = some (r, h')) : xk_Ok l D base yX0_turnedOnce cX0_turnedOnce 3 (Option.some (FieldType.object "SlatCrates$Yard")) 9 235 [va_rf a0, .int a1] h0 (some (va_rf r)) h' := by
  refine xk_ofX RX0 "turnedOnce" xq_X0_turnedOnce rfl rfl (Nat.le_of_ble_eq_true rfl) ⟨xk_crf _, ⟨rfl, trivial⟩⟩ (fun Γ el eD eb C Z => ?_)
  rw [mf_X0_turnedOnce] at E
  show xk_X Γ 0 [(0, va_rf a0), (1, .int a1)] [] h0
  refine xr_aload_n 0 C rfl rfl dX0_turnedOnce_0 ?_
  refine xr_gR C E xf_X0_10 dX0_turnedOnce_1 (fun x1 E => ?_)
  refine xr_V (v := x1) [] [] (fun r => some (va_rf r)) (fun r => va_rf r :: []) C E xi_1_SlatCratesYard (fun r h' e => wk_X1_copy e) q285 q286 q287 q79 q288 xh_SlatCrates_Yard xd_X1_copy (by decide) (by decide) trivial (Nat.le_of_ble_eq_true rfl) rfl (fun _ => rfl) dX0_turnedOnce_4 (fun r2 h3 E => ?_)
  refine xr_astore_n (L2 := [(2, va_rf r2), (0, va_rf a0), (1, .int a1)]) C rfl rfl dX0_turnedOnce_7 (by decide) ?_
  refine xr_aload_n 0 C rfl rfl dX0_turnedOnce_8 ?_
  refine xr_iload_n 2 C rfl rfl dX0_turnedOnce_9 ?_
  refine xr_V (v := r2) [.int a1] [] (fun r => some (va_rf r)) (fun r => va_rf r :: []) C E xi_1_SlatCratesYard (fun r h' e => wk_X1_at e) q1036 q922 q923 q79 q924 xh_SlatCrates_Yard xd_X1_at (by decide) (by decide) trivial (Nat.le_of_ble_eq_true rfl) rfl (fun _ => rfl) dX0_turnedOnce_10 (fun r4 h5 E => ?_)
  refine xr_V (v := r4) [] [] (fun _ => none) (fun _ => []) C E xi_3_SlatCratesCrate (fun r h' e => wk_X3_turns e) q1037 q1038 q1039 q102 q1040 xh_SlatCrates_Crate xd_X3_turns (by decide) (by decide) trivial (Nat.le_of_ble_eq_true rfl) rfl (fun _ => rfl) dX0_turnedOnce_13 (fun r6 h7 E => ?_)
  refine xr_aload_n 0 C rfl rfl dX0_turnedOnce_16 ?_
  exact xr_aret C Z E (Or.inl ⟨_, rfl⟩) dX0_turnedOnce_17
def mf_X0_ifTurned (a0 : Option Nat) (a1 : Int32) (a2 : Int32) (h0 : xk_H) : Option (Int32 × xk_H) :=
  xm_rc [0] a0 h0 <| xm_cl (mf_X0_isCrate a0 a1 h0) fun r1 h2 => if xk_b2 r1 = 0 then (some ((-1 : Int32), h2)) else (xm_cl (mf_X0_inRange a2 (0 : Int32) (1 : Int32) h2) fun r3 h4 => if xk_b2 r3 = 0 then (some ((-1 : Int32), h4)) else (xm_rc [0] a0 h4 <| xm_cl (mf_X0_turnedOnce a0 a1 h4) fun r5 h6 => if a2 = 0 then (xm_rc [1] r5 h6 <| xm_cl (mf_X1_allLettersSeen r5 h6) fun r9 h10 => some (r9, h10)) else (xm_rc [1] r5 h6 <| xm_cl (mf_X1_told r5 h6) fun r7 h8 => some (r7, h8))))
set_option maxHeartbeats 1000000 in
theorem wk_X0_ifTurned {l : Launch} {D : va_G} {base : Nat} {a0 : Option Nat} {a1 : Int32} {a2 : Int32} {h0 : xk_H} {r : Int32} {h' : xk_H} (E : mf_X0_ifTurned a0 a1 a2 h0 = some (r, h')) : xk_Ok l D base yX0_ifTurned cX0_ifTurned 4 (Option.some FieldType.int) 10 292 [va_rf a0, .int a1, .int a2] h0 (some (.int r)) h' := by
  refine xk_ofX RX0 "ifTurned" xq_X0_ifTurned rfl rfl (Nat.le_of_ble_eq_true rfl) ⟨xk_crf _, ⟨rfl, ⟨rfl, trivial⟩⟩⟩ (fun Γ el eD eb C Z => ?_)
  rw [mf_X0_ifTurned] at E
  show xk_X Γ 0 [(0, va_rf a0), (1, .int a1), (2, .int a2)] [] h0
  refine xr_aload_n 0 C rfl rfl dX0_ifTurned_0 ?_
  refine xr_iload_n 1 C rfl rfl dX0_ifTurned_1 ?_
  refine xr_V (v := a0) [.int a1] [] (fun r => some (.int (xk_b2 r))) (fun r => .int (xk_b2 r) :: []) C E xi_0_SlatCrates (fun r h' e => wk_X0_isCrate e) q905 q907 qs8 q78 q908 xh_SlatCrates xd_X0_isCrate (by decide) (by decide) trivial (Nat.le_of_ble_eq_true rfl) rfl (fun _ => rfl) dX0_ifTurned_2 (fun r1 h2 E => ?_)
  refine xr_if_eq 17 C E dX0_ifTurned_5 (by decide) (fun E => ?_) (fun E => ?_)
  · refine xr_iconst (-1) C (by decide) dX0_ifTurned_17 ?_
    exact xr_iret C Z E dX0_ifTurned_18
  · refine xr_iload_n 2 C rfl rfl dX0_ifTurned_8 ?_
    refine xr_iconst (0) C (by decide) dX0_ifTurned_9 ?_
    refine xr_iconst (1) C (by decide) dX0_ifTurned_10 ?_
    refine xr_S [.int a2, .int (0 : Int32), .int (1 : Int32)] [] (fun r => some (.int (xk_b2 r))) (fun r => .int (xk_b2 r) :: []) C E (fun r h' e => wk_X0_inRange e) q258 q259 q78 q260 xh_SlatCrates xd_X0_inRange (by decide) (by decide) trivial (Nat.le_of_ble_eq_true rfl) rfl (fun _ => rfl) dX0_ifTurned_11 (fun r3 h4 E => ?_)
    refine xr_if_ne 19 C E dX0_ifTurned_14 (by decide) (fun E => ?_) (fun E => ?_)
    · refine xr_aload_n 0 C rfl rfl dX0_ifTurned_19 ?_
      refine xr_iload_n 1 C rfl rfl dX0_ifTurned_20 ?_
      refine xr_V (v := a0) [.int a1] [] (fun r => some (va_rf r)) (fun r => va_rf r :: []) C E xi_0_SlatCrates (fun r h' e => wk_X0_turnedOnce e) q2098 q2100 qs30 q78 q2101 xh_SlatCrates xd_X0_turnedOnce (by decide) (by decide) trivial (Nat.le_of_ble_eq_true rfl) rfl (fun _ => rfl) dX0_ifTurned_21 (fun r5 h6 E => ?_)
      refine xr_astore_n (L2 := [(3, va_rf r5), (0, va_rf a0), (1, .int a1), (2, .int a2)]) C rfl rfl dX0_ifTurned_24 (by decide) ?_
      refine xr_iload_n 3 C rfl rfl dX0_ifTurned_25 ?_
      refine xr_if_ne 36 C E dX0_ifTurned_26 (by decide) (fun E => ?_) (fun E => ?_)
      · refine xr_aload_n 0 C rfl rfl dX0_ifTurned_36 ?_
        refine xr_V (v := r5) [] [] (fun r => some (.int r)) (fun r => .int r :: []) C E xi_1_SlatCratesYard (fun r h' e => wk_X1_told e) q1877 q1878 q1879 q79 q1880 xh_SlatCrates_Yard xd_X1_told (by decide) (by decide) trivial (Nat.le_of_ble_eq_true rfl) rfl (fun _ => rfl) dX0_ifTurned_37 (fun r7 h8 E => ?_)
        exact xr_iret C Z E dX0_ifTurned_40
      · refine xr_aload_n 0 C rfl rfl dX0_ifTurned_29 ?_
        refine xr_V (v := r5) [] [] (fun r => some (.int r)) (fun r => .int r :: []) C E xi_1_SlatCratesYard (fun r h' e => wk_X1_allLettersSeen e) q2049 q2050 q2051 q79 q2052 xh_SlatCrates_Yard xd_X1_allLettersSeen (by decide) (by decide) trivial (Nat.le_of_ble_eq_true rfl) rfl (fun _ => rfl) dX0_ifTurned_30 (fun r9 h10 E => ?_)
        refine xr_goto 40 C dX0_ifTurned_33 (by decide) ?_
        exact xr_iret C Z E dX0_ifTurned_40
    · refine xr_iconst (-1) C (by decide) dX0_ifTurned_17 ?_
      exact xr_iret C Z E dX0_ifTurned_18
def mf_X0_bestTurn_J39 (kb7 : Int32 → Int32 → Int32 → xk_H → Option (Int32 × xk_H)) (a0 : Option Nat) (a2 : Int32) (a3 : Int32) (a4 : Int32) (s0 : Int32) (h0 : xk_H) : Option (Int32 × xk_H) :=
  xm_cl (mf_J17_max a2 a4 h0) fun r8 h9 => kb7 s0 r8 (a3 + 1) h9
set_option maxHeartbeats 1000000 in
theorem wk_X0_bestTurn_J39 {Γ : xk_C} {r : Int32} {h' : xk_H} {kb7 : Int32 → Int32 → Int32 → xk_H → Option (Int32 × xk_H)} {a0 : Option Nat} {a2 : Int32} {a3 : Int32} {a4 : Int32} {s0 : Int32} {h0 : xk_H} (C : xk_Cx Γ RX0 cX0_bestTurn 5 (Option.some FieldType.int) "bestTurn" 10 257) (Z : xk_Z Γ (some (.int r)) h') (hkb7 : ∀ (m1 : Int32) (m2 : Int32) (m3 : Int32) (g : xk_H), kb7 m1 m2 m3 g = some (r, h') → xk_X Γ 7 [(0, va_rf a0), (1, .int m1), (2, .int m2), (3, .int m3)] [] g) (E : mf_X0_bestTurn_J39 kb7 a0 a2 a3 a4 s0 h0 = some (r, h')) : xk_X Γ 39 [(0, va_rf a0), (2, .int a2), (3, .int a3), (4, .int a4)] [.int s0] h0 := by
  rw [mf_X0_bestTurn_J39] at E
  refine xr_istore_n (L2 := [(1, .int s0), (0, va_rf a0), (2, .int a2), (3, .int a3), (4, .int a4)]) C rfl rfl dX0_bestTurn_39 (by decide) ?_
  refine xr_iload_n 2 C rfl rfl dX0_bestTurn_40 ?_
  refine xr_iload 4 C rfl dX0_bestTurn_41 ?_
  refine xr_S [.int a2, .int a4] [] (fun r => some (.int r)) (fun r => .int r :: []) C E (fun r h' e => wk_J17_max e) q1872 q523 q98 q524 xh_java_lang_Math xd_J17_max (by decide) (by decide) trivial (Nat.le_of_ble_eq_true rfl) rfl (fun _ => rfl) dX0_bestTurn_43 (fun r8 h9 E => ?_)
  refine xr_istore_n (L2 := [(2, .int r8), (1, .int s0), (0, va_rf a0), (3, .int a3), (4, .int a4)]) C rfl rfl dX0_bestTurn_46 (by decide) ?_
  refine xr_iinc (v := (a3 + 1)) (L2 := [(3, .int (a3 + 1)), (2, .int r8), (1, .int s0), (0, va_rf a0), (4, .int a4)]) 3 C rfl rfl rfl dX0_bestTurn_47 (by decide) ?_
  refine xr_goto 7 C dX0_bestTurn_50 (by decide) ?_
  refine xr_sub [3, 2, 1, 0] rfl ?_
  exact hkb7 s0 r8 (a3 + 1) h9 E
def mf_X0_bestTurn_L7 (a0 : Option Nat) : Nat → Int32 → Int32 → Int32 → xk_H → Option (Int32 × xk_H)
  | 0, _, _, _, _ => none
  | n + 1, a1, a2, a3, h0 => xm_gR [0] 0 a0 h0 fun x1 => xm_rc [1] x1 h0 <| xm_cl (mf_X1_size x1 h0) fun r2 h3 => if r2 ≤ a3 then (some (a1, h3)) else (xm_rc [0] a0 h3 <| xm_cl (mf_X0_turnedOnce a0 a3 h3) fun r4 h5 => xm_rc [1] r4 h5 <| xm_cl (mf_X1_allLettersSeen r4 h5) fun r6 h7 => if r6 ≤ a2 then (mf_X0_bestTurn_J39 (fun m1 m2 m3 g => mf_X0_bestTurn_L7 a0 n m1 m2 m3 g) a0 a2 a3 r6 a1 h7) else (mf_X0_bestTurn_J39 (fun m1 m2 m3 g => mf_X0_bestTurn_L7 a0 n m1 m2 m3 g) a0 a2 a3 r6 a3 h7))
set_option maxHeartbeats 1000000 in
theorem wk_X0_bestTurn_L7 {Γ : xk_C} {r : Int32} {h' : xk_H} {a0 : Option Nat} (C : xk_Cx Γ RX0 cX0_bestTurn 5 (Option.some FieldType.int) "bestTurn" 10 257) (Z : xk_Z Γ (some (.int r)) h') : ∀ (n : Nat) (a1 : Int32) (a2 : Int32) (a3 : Int32) (h0 : xk_H), mf_X0_bestTurn_L7 a0 n a1 a2 a3 h0 = some (r, h') → xk_X Γ 7 [(0, va_rf a0), (1, .int a1), (2, .int a2), (3, .int a3)] [] h0 := by
  intro n
  induction n with
  | zero =>
    intro a1 a2 a3 h0 E
    rw [mf_X0_bestTurn_L7] at E
    cases E
  | succ n ih =>
    intro a1 a2 a3 h0 E
    have hkb7 : ∀ (m1 : Int32) (m2 : Int32) (m3 : Int32) (g : xk_H), mf_X0_bestTurn_L7 a0 n m1 m2 m3 g = some (r, h') → xk_X Γ 7 [(0, va_rf a0), (1, .int m1), (2, .int m2), (3, .int m3)] [] g := ih
    rw [mf_X0_bestTurn_L7] at E
    refine xr_iload_n 3 C rfl rfl dX0_bestTurn_7 ?_
    refine xr_aload_n 0 C rfl rfl dX0_bestTurn_8 ?_
    refine xr_gR C E xf_X0_10 dX0_bestTurn_9 (fun x1 E => ?_)
    refine xr_V (v := x1) [] [.int a3] (fun r => some (.int r)) (fun r => .int r :: [.int a3]) C E xi_1_SlatCratesYard (fun r h' e => wk_X1_size e) q261 q262 q263 q79 q264 xh_SlatCrates_Yard xd_X1_size (by decide) (by decide) ⟨rfl, trivial⟩ (Nat.le_of_ble_eq_true rfl) rfl (fun _ => rfl) dX0_bestTurn_12 (fun r2 h3 E => ?_)
    refine xr_icmp_ge 53 C E dX0_bestTurn_15 (by decide) (fun E => ?_) (fun E => ?_)
    · refine xr_iload_n 1 C rfl rfl dX0_bestTurn_53 ?_
      exact xr_iret C Z E dX0_bestTurn_54
    · refine xr_aload_n 0 C rfl rfl dX0_bestTurn_18 ?_
      refine xr_iload_n 3 C rfl rfl dX0_bestTurn_19 ?_
      refine xr_V (v := a0) [.int a3] [] (fun r => some (va_rf r)) (fun r => va_rf r :: []) C E xi_0_SlatCrates (fun r h' e => wk_X0_turnedOnce e) q2098 q2100 qs30 q78 q2101 xh_SlatCrates xd_X0_turnedOnce (by decide) (by decide) trivial (Nat.le_of_ble_eq_true rfl) rfl (fun _ => rfl) dX0_bestTurn_20 (fun r4 h5 E => ?_)
      refine xr_V (v := r4) [] [] (fun r => some (.int r)) (fun r => .int r :: []) C E xi_1_SlatCratesYard (fun r h' e => wk_X1_allLettersSeen e) q2049 q2050 q2051 q79 q2052 xh_SlatCrates_Yard xd_X1_allLettersSeen (by decide) (by decide) trivial (Nat.le_of_ble_eq_true rfl) rfl (fun _ => rfl) dX0_bestTurn_23 (fun r6 h7 E => ?_)
      refine xr_istore (L2 := [(4, .int r6), (0, va_rf a0), (1, .int a1), (2, .int a2), (3, .int a3)]) C rfl dX0_bestTurn_26 (by decide) ?_
      refine xr_iload 0 C rfl dX0_bestTurn_28 ?_
      refine xr_iload_n 3 C rfl rfl dX0_bestTurn_30 ?_
      refine xr_icmp_le 38 C E dX0_bestTurn_31 (by decide) (fun E => ?_) (fun E => ?_)
      · refine xr_iload_n 2 C rfl rfl dX0_bestTurn_38 ?_
        refine xr_sub [1, 3, 4, 0] rfl ?_
        exact wk_X0_bestTurn_J39 C Z hkb7 E
      · refine xr_iload_n 4 C rfl rfl dX0_bestTurn_34 ?_
        refine xr_goto 39 C dX0_bestTurn_35 (by decide) ?_
        refine xr_sub [1, 3, 4, 0] rfl ?_
        exact wk_X0_bestTurn_J39 C Z hkb7 E
def mf_X0_bestTurn (a0 : Option Nat) (h0 : xk_H) : Option (Int32 × xk_H) :=
  mf_X0_bestTurn_L7 a0 xk_fu (-4 : Int32) (-1 : Int32) (0 : Int32) h0
set_option maxHeartbeats 1000000 in
theorem wk_X0_bestTurn {l : Launch} {D : va_G} {base : Nat} {a0 : Option Nat} {h0 : xk_H} {r : Int32} {h' : xk_H} (E : mf_X0_bestTurn a0 h0 = some (r, h')) : xk_Ok l D base yX0_bestTurn cX0_bestTurn 5 (Option.some FieldType.int) 10 257 [va_rf a0] h0 (some (.int r)) h' := by
  refine xk_ofX RX0 "bestTurn" xq_X0_bestTurn rfl rfl (Nat.le_of_ble_eq_true rfl) ⟨xk_crf _, trivial⟩ (fun Γ el eD eb C Z => ?_)
  rw [mf_X0_bestTurn] at E
  show xk_X Γ 0 [(0, va_rf a0)] [] h0
  refine xr_bipush (-4) C (by decide) dX0_bestTurn_0 ?_
  refine xr_istore_n (L2 := [(1, .int (-4 : Int32)), (0, va_rf a0)]) C rfl rfl dX0_bestTurn_2 (by decide) ?_
  refine xr_iconst (-1) C (by decide) dX0_bestTurn_3 ?_
  refine xr_istore_n (L2 := [(2, .int (-1 : Int32)), (1, .int (-4 : Int32)), (0, va_rf a0)]) C rfl rfl dX0_bestTurn_4 (by decide) ?_
  refine xr_iconst (0) C (by decide) dX0_bestTurn_5 ?_
  refine xr_istore_n (L2 := [(3, .int (0 : Int32)), (2, .int (-1 : Int32)), (1, .int (-4 : Int32)), (0, va_rf a0)]) C rfl rfl dX0_bestTurn_6 (by decide) ?_
  refine xr_sub [3, 2, 1, 0] rfl ?_
  exact wk_X0_bestTurn_L7 (a0 := a0) C Z xk_fu (-4 : Int32) (-1 : Int32) (0 : Int32) h0 E
def mf_X0_undo (a0 : Option Nat) (h0 : xk_H) : Option (Int32 × xk_H) :=
  xm_gR [0] 1 a0 h0 fun x1 => xm_rc [7] x1 h0 <| xm_cl (mf_J0_isEmpty x1 h0) fun r2 h3 => if xk_b2 r2 = 0 then (xm_gR [0] 1 a0 h3 fun x4 => xm_rc [7] x4 h3 <| xm_cl (mf_J4_removeLast x4 h3) fun r5 h6 => xm_cast [1] r5 h6 <| xm_pV [0] 0 a0 (va_rf r5) h6 fun h7 => xm_gR [0] 1 a0 h7 fun x8 => xm_rc [7] x8 h7 <| xm_cl (mf_J4_size x8 h7) fun r9 h10 => some (r9, h10)) else (some ((-2 : Int32), h3))
set_option maxHeartbeats 1000000 in
theorem wk_X0_undo {l : Launch} {D : va_G} {base : Nat} {a0 : Option Nat} {h0 : xk_H} {r : Int32} {h' : xk_H} (E : mf_X0_undo a0 h0 = some (r, h')) : xk_Ok l D base yX0_undo cX0_undo 1 (Option.some FieldType.int) 3 104 [va_rf a0] h0 (some (.int r)) h' := by
  refine xk_ofX RX0 "undo" xq_X0_undo rfl rfl (Nat.le_of_ble_eq_true rfl) ⟨xk_crf _, trivial⟩ (fun Γ el eD eb C Z => ?_)
  rw [mf_X0_undo] at E
  show xk_X Γ 0 [(0, va_rf a0)] [] h0
  refine xr_aload_n 0 C rfl rfl dX0_undo_0 ?_
  refine xr_gR C E xf_X0_19 dX0_undo_1 (fun x1 E => ?_)
  refine xr_U (v := x1) [] [] (fun r => some (.int (xk_b2 r))) (fun r => .int (xk_b2 r) :: []) C E xi_7_LinkedList (fun r h' e => wk_J0_isEmpty e) q2110 q2111 (xk_dec1 q2114 q2115) q2114 q2113 q80 q2115 xh_java_util_AbstractCollection xd_java_util_LinkedList_isEmpty__Z (by decide) (by decide) trivial (Nat.le_of_ble_eq_true rfl) rfl (fun _ => rfl) dX0_undo_4 (fun r2 h3 E => ?_)
  refine xr_if_eq 13 C E dX0_undo_7 (by decide) (fun E => ?_) (fun E => ?_)
  · refine xr_aload_n 0 C rfl rfl dX0_undo_13 ?_
    refine xr_aload_n 0 C rfl rfl dX0_undo_14 ?_
    refine xr_gR C E xf_X0_19 dX0_undo_15 (fun x4 E => ?_)
    refine xr_V (v := x4) [] [va_rf a0] (fun r => some (va_rf r)) (fun r => va_rf r :: [va_rf a0]) C E xi_7_LinkedList (fun r h' e => wk_J4_removeLast e) q2121 q2122 q2123 q84 q2124 xh_java_util_LinkedList xd_J4_removeLast (by decide) (by decide) ⟨xk_crf _, trivial⟩ (Nat.le_of_ble_eq_true rfl) rfl (fun _ => rfl) dX0_undo_18 (fun r5 h6 E => ?_)
    refine xr_cast C E xi_1_SlatCratesYard q136 dX0_undo_21 (fun E => ?_)
    refine xr_pR C E xf_X0_10 xp_X0_10 (Or.inl ⟨_, rfl⟩) dX0_undo_24 (fun h7 E => ?_)
    refine xr_aload_n 0 C rfl rfl dX0_undo_27 ?_
    refine xr_gR C E xf_X0_19 dX0_undo_28 (fun x8 E => ?_)
    refine xr_V (v := x8) [] [] (fun r => some (.int r)) (fun r => .int r :: []) C E xi_7_LinkedList (fun r h' e => wk_J4_size e) q273 q274 q275 q84 q276 xh_java_util_LinkedList xd_J4_size (by decide) (by decide) trivial (Nat.le_of_ble_eq_true rfl) rfl (fun _ => rfl) dX0_undo_31 (fun r9 h10 E => ?_)
    exact xr_iret C Z E dX0_undo_34
  · refine xr_bipush (-2) C (by decide) dX0_undo_10 ?_
    exact xr_iret C Z E dX0_undo_12
def mf_X0_save (a0 : Option Nat) (h0 : xk_H) : Option (Int32 × xk_H) :=
  xm_gR [0] 0 a0 h0 fun x1 => xm_rc [1] x1 h0 <| xm_cl (mf_X1_copy x1 h0) fun r2 h3 => xm_pV [0] 2 a0 (va_rf r2) h3 fun h4 => xm_gR [0] 0 a0 h4 fun x5 => xm_rc [1] x5 h4 <| xm_cl (mf_X1_size x5 h4) fun r6 h7 => some (r6, h7)
set_option maxHeartbeats 1000000 in
theorem wk_X0_save {l : Launch} {D : va_G} {base : Nat} {a0 : Option Nat} {h0 : xk_H} {r : Int32} {h' : xk_H} (E : mf_X0_save a0 h0 = some (r, h')) : xk_Ok l D base yX0_save cX0_save 1 (Option.some FieldType.int) 9 235 [va_rf a0] h0 (some (.int r)) h' := by
  refine xk_ofX RX0 "save" xq_X0_save rfl rfl (Nat.le_of_ble_eq_true rfl) ⟨xk_crf _, trivial⟩ (fun Γ el eD eb C Z => ?_)
  rw [mf_X0_save] at E
  show xk_X Γ 0 [(0, va_rf a0)] [] h0
  refine xr_aload_n 0 C rfl rfl dX0_save_0 ?_
  refine xr_aload_n 0 C rfl rfl dX0_save_1 ?_
  refine xr_gR C E xf_X0_10 dX0_save_2 (fun x1 E => ?_)
  refine xr_V (v := x1) [] [va_rf a0] (fun r => some (va_rf r)) (fun r => va_rf r :: [va_rf a0]) C E xi_1_SlatCratesYard (fun r h' e => wk_X1_copy e) q285 q286 q287 q79 q288 xh_SlatCrates_Yard xd_X1_copy (by decide) (by decide) ⟨xk_crf _, trivial⟩ (Nat.le_of_ble_eq_true rfl) rfl (fun _ => rfl) dX0_save_5 (fun r2 h3 E => ?_)
  refine xr_pR C E xf_X0_287 xp_X0_287 (Or.inl ⟨_, rfl⟩) dX0_save_8 (fun h4 E => ?_)
  refine xr_aload_n 0 C rfl rfl dX0_save_11 ?_
  refine xr_gR C E xf_X0_10 dX0_save_12 (fun x5 E => ?_)
  refine xr_V (v := x5) [] [] (fun r => some (.int r)) (fun r => .int r :: []) C E xi_1_SlatCratesYard (fun r h' e => wk_X1_size e) q261 q262 q263 q79 q264 xh_SlatCrates_Yard xd_X1_size (by decide) (by decide) trivial (Nat.le_of_ble_eq_true rfl) rfl (fun _ => rfl) dX0_save_15 (fun r6 h7 E => ?_)
  exact xr_iret C Z E dX0_save_18
def mf_X0_restore (a0 : Option Nat) (h0 : xk_H) : Option (Int32 × xk_H) :=
  xm_gR [0] 2 a0 h0 fun x1 => if x1 = none then (some ((-2 : Int32), h0)) else (xm_rc [0] a0 h0 <| xm_cl (mf_X0_records a0 h0) fun r2 h3 => xm_gR [0] 2 a0 h3 fun x4 => xm_rc [1] x4 h3 <| xm_cl (mf_X1_copy x4 h3) fun r5 h6 => xm_pV [0] 0 a0 (va_rf r5) h6 fun h7 => xm_gR [0] 0 a0 h7 fun x8 => xm_rc [1] x8 h7 <| xm_cl (mf_X1_size x8 h7) fun r9 h10 => some (r9, h10))
set_option maxHeartbeats 1000000 in
theorem wk_X0_restore {l : Launch} {D : va_G} {base : Nat} {a0 : Option Nat} {h0 : xk_H} {r : Int32} {h' : xk_H} (E : mf_X0_restore a0 h0 = some (r, h')) : xk_Ok l D base yX0_restore cX0_restore 1 (Option.some FieldType.int) 10 255 [va_rf a0] h0 (some (.int r)) h' := by
  refine xk_ofX RX0 "restore" xq_X0_restore rfl rfl (Nat.le_of_ble_eq_true rfl) ⟨xk_crf _, trivial⟩ (fun Γ el eD eb C Z => ?_)
  rw [mf_X0_restore] at E
  show xk_X Γ 0 [(0, va_rf a0)] [] h0
  refine xr_aload_n 0 C rfl rfl dX0_restore_0 ?_
  refine xr_gR C E xf_X0_287 dX0_restore_1 (fun x1 E => ?_)
  refine xr_ifnonnull 10 C E dX0_restore_4 (by decide) (fun E => ?_) (fun E => ?_)
  · refine xr_aload_n 0 C rfl rfl dX0_restore_10 ?_
    refine xr_V (v := a0) [] [] (fun _ => none) (fun _ => []) C E xi_0_SlatCrates (fun r h' e => wk_X0_records e) q269 q271 qs0 q78 q272 xh_SlatCrates xd_X0_records (by decide) (by decide) trivial (Nat.le_of_ble_eq_true rfl) rfl (fun _ => rfl) dX0_restore_11 (fun r2 h3 E => ?_)
    refine xr_aload_n 0 C rfl rfl dX0_restore_14 ?_
    refine xr_aload_n 0 C rfl rfl dX0_restore_15 ?_
    refine xr_gR C E xf_X0_287 dX0_restore_16 (fun x4 E => ?_)
    refine xr_V (v := x4) [] [va_rf a0] (fun r => some (va_rf r)) (fun r => va_rf r :: [va_rf a0]) C E xi_1_SlatCratesYard (fun r h' e => wk_X1_copy e) q285 q286 q287 q79 q288 xh_SlatCrates_Yard xd_X1_copy (by decide) (by decide) ⟨xk_crf _, trivial⟩ (Nat.le_of_ble_eq_true rfl) rfl (fun _ => rfl) dX0_restore_19 (fun r5 h6 E => ?_)
    refine xr_pR C E xf_X0_10 xp_X0_10 (Or.inl ⟨_, rfl⟩) dX0_restore_22 (fun h7 E => ?_)
    refine xr_aload_n 0 C rfl rfl dX0_restore_25 ?_
    refine xr_gR C E xf_X0_10 dX0_restore_26 (fun x8 E => ?_)
    refine xr_V (v := x8) [] [] (fun r => some (.int r)) (fun r => .int r :: []) C E xi_1_SlatCratesYard (fun r h' e => wk_X1_size e) q261 q262 q263 q79 q264 xh_SlatCrates_Yard xd_X1_size (by decide) (by decide) trivial (Nat.le_of_ble_eq_true rfl) rfl (fun _ => rfl) dX0_restore_29 (fun r9 h10 E => ?_)
    exact xr_iret C Z E dX0_restore_32
  · refine xr_bipush (-2) C (by decide) dX0_restore_7 ?_
    exact xr_iret C Z E dX0_restore_9
