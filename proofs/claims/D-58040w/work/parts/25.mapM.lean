set_option maxRecDepth 100000
theorem xf_X2_7 : xk_Fos "SlatCratesModel" 7 [2] 0 := List.forall_mem_cons.mpr ⟨⟨Or.inl (by decide), (RX2, TX2, 19), "SlatCratesModel", rfl, by decide, Or.inl q2143, Or.inl rfl⟩, fun _ h => absurd h List.not_mem_nil⟩
theorem xp_X2_7_i : xk_Fp "SlatCratesModel" "<init>" [2] 0 (.array .int) := List.forall_mem_cons.mpr ⟨⟨by decide, fun r h => by cases h; exact ⟨tyX2_ok 0 (by decide), Or.inr ⟨rfl, rfl, rfl⟩⟩⟩, fun _ h => absurd h List.not_mem_nil⟩
theorem xf_X2_13 : xk_Fos "SlatCratesModel" 13 [2] 1 := List.forall_mem_cons.mpr ⟨⟨Or.inl (by decide), (RX2, TX2, 19), "SlatCratesModel", rfl, by decide, Or.inl q2144, Or.inl rfl⟩, fun _ h => absurd h List.not_mem_nil⟩
theorem xp_X2_13_i : xk_Fp "SlatCratesModel" "<init>" [2] 1 (.array .int) := List.forall_mem_cons.mpr ⟨⟨by decide, fun r h => by cases h; exact ⟨tyX2_ok 1 (by decide), Or.inr ⟨rfl, rfl, rfl⟩⟩⟩, fun _ h => absurd h List.not_mem_nil⟩
theorem xf_X2_16 : xk_Fos "SlatCratesModel" 16 [2] 2 := List.forall_mem_cons.mpr ⟨⟨Or.inl (by decide), (RX2, TX2, 19), "SlatCratesModel", rfl, by decide, Or.inl q2145, Or.inl rfl⟩, fun _ h => absurd h List.not_mem_nil⟩
theorem xp_X2_16_i : xk_Fp "SlatCratesModel" "<init>" [2] 2 (.array .int) := List.forall_mem_cons.mpr ⟨⟨by decide, fun r h => by cases h; exact ⟨tyX2_ok 2 (by decide), Or.inr ⟨rfl, rfl, rfl⟩⟩⟩, fun _ h => absurd h List.not_mem_nil⟩
theorem xf_X2_19 : xk_Fos "SlatCratesModel" 19 [2] 4 := List.forall_mem_cons.mpr ⟨⟨Or.inl (by decide), (RX2, TX2, 19), "SlatCratesModel", rfl, by decide, Or.inl q2147, Or.inl rfl⟩, fun _ h => absurd h List.not_mem_nil⟩
theorem xp_X2_19_i : xk_Fp "SlatCratesModel" "<init>" [2] 4 (.array .int) := List.forall_mem_cons.mpr ⟨⟨by decide, fun r h => by cases h; exact ⟨tyX2_ok 4 (by decide), Or.inr ⟨rfl, rfl, rfl⟩⟩⟩, fun _ h => absurd h List.not_mem_nil⟩
theorem xf_X2_22 : xk_Fos "SlatCratesModel" 22 [2] 6 := List.forall_mem_cons.mpr ⟨⟨Or.inl (by decide), (RX2, TX2, 19), "SlatCratesModel", rfl, by decide, Or.inl q2149, Or.inl rfl⟩, fun _ h => absurd h List.not_mem_nil⟩
theorem xp_X2_22_i : xk_Fp "SlatCratesModel" "<init>" [2] 6 (.array .int) := List.forall_mem_cons.mpr ⟨⟨by decide, fun r h => by cases h; exact ⟨tyX2_ok 6 (by decide), Or.inr ⟨rfl, rfl, rfl⟩⟩⟩, fun _ h => absurd h List.not_mem_nil⟩
theorem xf_X2_25 : xk_Fos "SlatCratesModel" 25 [2] 10 := List.forall_mem_cons.mpr ⟨⟨Or.inl (by decide), (RX2, TX2, 19), "SlatCratesModel", rfl, by decide, Or.inl q2153, Or.inl rfl⟩, fun _ h => absurd h List.not_mem_nil⟩
theorem xp_X2_25_i : xk_Fp "SlatCratesModel" "<init>" [2] 10 (.array .int) := List.forall_mem_cons.mpr ⟨⟨by decide, fun r h => by cases h; exact ⟨tyX2_ok 10 (by decide), Or.inr ⟨rfl, rfl, rfl⟩⟩⟩, fun _ h => absurd h List.not_mem_nil⟩
theorem xf_X2_28 : xk_Fos "SlatCratesModel" 28 [2] 12 := List.forall_mem_cons.mpr ⟨⟨Or.inl (by decide), (RX2, TX2, 19), "SlatCratesModel", rfl, by decide, Or.inl q2155, Or.inl rfl⟩, fun _ h => absurd h List.not_mem_nil⟩
theorem xp_X2_28_i : xk_Fp "SlatCratesModel" "<init>" [2] 12 (.array .int) := List.forall_mem_cons.mpr ⟨⟨by decide, fun r h => by cases h; exact ⟨tyX2_ok 12 (by decide), Or.inr ⟨rfl, rfl, rfl⟩⟩⟩, fun _ h => absurd h List.not_mem_nil⟩
theorem xf_X2_31 : xk_Fos "SlatCratesModel" 31 [2] 14 := List.forall_mem_cons.mpr ⟨⟨Or.inl (by decide), (RX2, TX2, 19), "SlatCratesModel", rfl, by decide, Or.inl q2157, Or.inl rfl⟩, fun _ h => absurd h List.not_mem_nil⟩
theorem xp_X2_31_i : xk_Fp "SlatCratesModel" "<init>" [2] 14 (.array .int) := List.forall_mem_cons.mpr ⟨⟨by decide, fun r h => by cases h; exact ⟨tyX2_ok 14 (by decide), Or.inr ⟨rfl, rfl, rfl⟩⟩⟩, fun _ h => absurd h List.not_mem_nil⟩
theorem xf_X2_34 : xk_Fos "SlatCratesModel" 34 [2] 16 := List.forall_mem_cons.mpr ⟨⟨Or.inl (by decide), (RX2, TX2, 19), "SlatCratesModel", rfl, by decide, Or.inl q2159, Or.inl rfl⟩, fun _ h => absurd h List.not_mem_nil⟩
theorem xp_X2_34_i : xk_Fp "SlatCratesModel" "<init>" [2] 16 (.array .int) := List.forall_mem_cons.mpr ⟨⟨by decide, fun r h => by cases h; exact ⟨tyX2_ok 16 (by decide), Or.inr ⟨rfl, rfl, rfl⟩⟩⟩, fun _ h => absurd h List.not_mem_nil⟩
theorem xf_X2_37 : xk_Fos "SlatCratesModel" 37 [2] 17 := List.forall_mem_cons.mpr ⟨⟨Or.inl (by decide), (RX2, TX2, 19), "SlatCratesModel", rfl, by decide, Or.inl q2160, Or.inl rfl⟩, fun _ h => absurd h List.not_mem_nil⟩
theorem xp_X2_37_i : xk_Fp "SlatCratesModel" "<init>" [2] 17 (.array .int) := List.forall_mem_cons.mpr ⟨⟨by decide, fun r h => by cases h; exact ⟨tyX2_ok 17 (by decide), Or.inr ⟨rfl, rfl, rfl⟩⟩⟩, fun _ h => absurd h List.not_mem_nil⟩
theorem xf_X2_40 : xk_Fos "SlatCratesModel" 40 [2] 18 := List.forall_mem_cons.mpr ⟨⟨Or.inl (by decide), (RX2, TX2, 19), "SlatCratesModel", rfl, by decide, Or.inl q2161, Or.inl rfl⟩, fun _ h => absurd h List.not_mem_nil⟩
theorem xp_X2_40_i : xk_Fp "SlatCratesModel" "<init>" [2] 18 (.array .int) := List.forall_mem_cons.mpr ⟨⟨by decide, fun r h => by cases h; exact ⟨tyX2_ok 18 (by decide), Or.inr ⟨rfl, rfl, rfl⟩⟩⟩, fun _ h => absurd h List.not_mem_nil⟩
theorem xq_X2_init : plainFor yX2_init = true := by decide +kernel
theorem xq_X2_lays : plainFor yX2_lays = true := by decide +kernel
theorem xd_X2_lays : (parseMethodDescriptor "(III)V").map (fun d => d.parameters.length) = some 3 := by decide +kernel
theorem xi_2_SlatCratesModel : xk_Is [2] "SlatCratesModel" := List.forall_mem_cons.mpr ⟨⟨Or.inl (by decide), (RX2, TX2, 19), rfl, rfl⟩, fun _ h => absurd h List.not_mem_nil⟩
theorem xh_SlatCratesModel : xk_noMH "SlatCratesModel" := by decide +kernel
theorem xq_X2_adds : plainFor yX2_adds = true := by decide +kernel
theorem xq_X2_in : plainFor yX2_in = true := by decide +kernel
theorem xd_X2_in : (parseMethodDescriptor "(III)Z").map (fun d => d.parameters.length) = some 3 := by decide +kernel
theorem xq_X2_isLabel : plainFor yX2_isLabel = true := by decide +kernel
theorem xq_X2_copies : plainFor yX2_copies = true := by decide +kernel
theorem xf_X2_43 : xk_Fos "SlatCratesModel" 43 [2] 3 := List.forall_mem_cons.mpr ⟨⟨Or.inl (by decide), (RX2, TX2, 19), "SlatCratesModel", rfl, by decide, Or.inl q2146, Or.inl rfl⟩, fun _ h => absurd h List.not_mem_nil⟩
theorem xd_X2_copies : (parseMethodDescriptor "([II[II)V").map (fun d => d.parameters.length) = some 4 := by decide +kernel
theorem xp_X2_43 {nm : String} : xk_Fp "SlatCratesModel" nm [2] 3 .int := List.forall_mem_cons.mpr ⟨⟨by decide, fun r h => by cases h; exact ⟨tyX2_ok 3 (by decide), Or.inl rfl⟩⟩, fun _ h => absurd h List.not_mem_nil⟩
theorem xq_X2_records : plainFor yX2_records = true := by decide +kernel
theorem xd_X2_isLabel : (parseMethodDescriptor "(I)Z").map (fun d => d.parameters.length) = some 1 := by decide +kernel
theorem xd_X2_records : (parseMethodDescriptor "()V").map (fun d => d.parameters.length) = some 0 := by decide +kernel
theorem xd_X2_adds : (parseMethodDescriptor "(IIIII)V").map (fun d => d.parameters.length) = some 5 := by decide +kernel
theorem xq_X2_make : plainFor yX2_make = true := by decide +kernel
theorem xq_X2_of : plainFor yX2_of = true := by decide +kernel
theorem xd_X2_of : (parseMethodDescriptor "(II)I").map (fun d => d.parameters.length) = some 2 := by decide +kernel
theorem xq_X2_around : plainFor yX2_around = true := by decide +kernel
theorem xd_X2_around : (parseMethodDescriptor "(I)I").map (fun d => d.parameters.length) = some 1 := by decide +kernel
theorem xq_X2_depthOf : plainFor yX2_depthOf = true := by decide +kernel
theorem xq_X2_isCrate : plainFor yX2_isCrate = true := by decide +kernel
theorem xq_X2_pile : plainFor yX2_pile = true := by decide +kernel
theorem xq_X2_holds : plainFor yX2_holds = true := by decide +kernel
theorem xd_X2_pile : (parseMethodDescriptor "(I)I").map (fun d => d.parameters.length) = some 1 := by decide +kernel
theorem xq_X2_isTop : plainFor yX2_isTop = true := by decide +kernel
theorem xq_X2_roomLeft : plainFor yX2_roomLeft = true := by decide +kernel
theorem xd_X2_isTop : (parseMethodDescriptor "(I)Z").map (fun d => d.parameters.length) = some 1 := by decide +kernel
theorem xd_X2_holds : (parseMethodDescriptor "(II)Z").map (fun d => d.parameters.length) = some 2 := by decide +kernel
theorem xd_X2_roomLeft : (parseMethodDescriptor "(I)I").map (fun d => d.parameters.length) = some 1 := by decide +kernel
theorem xq_X2_reasonPut : plainFor yX2_reasonPut = true := by decide +kernel
theorem xq_X2_refuses : plainFor yX2_refuses = true := by decide +kernel
theorem xd_X2_isCrate : (parseMethodDescriptor "(I)Z").map (fun d => d.parameters.length) = some 1 := by decide +kernel
theorem xd_X2_reasonPut : (parseMethodDescriptor "(II)I").map (fun d => d.parameters.length) = some 2 := by decide +kernel
theorem xd_X2_depthOf : (parseMethodDescriptor "(I)I").map (fun d => d.parameters.length) = some 1 := by decide +kernel
theorem xd_X2_refuses : (parseMethodDescriptor "(I)I").map (fun d => d.parameters.length) = some 1 := by decide +kernel
theorem xq_X2_put : plainFor yX2_put = true := by decide +kernel
theorem xq_X2_reasonGround : plainFor yX2_reasonGround = true := by decide +kernel
theorem xd_X2_reasonGround : (parseMethodDescriptor "(I)I").map (fun d => d.parameters.length) = some 1 := by decide +kernel
theorem xq_X2_ground : plainFor yX2_ground = true := by decide +kernel
theorem xq_X2_turned : plainFor yX2_turned = true := by decide +kernel
theorem xd_X2_turned : (parseMethodDescriptor "(I)I").map (fun d => d.parameters.length) = some 1 := by decide +kernel
theorem xq_X2_turn : plainFor yX2_turn = true := by decide +kernel
theorem xq_X2_reasonBreak : plainFor yX2_reasonBreak = true := by decide +kernel
theorem xd_X2_reasonBreak : (parseMethodDescriptor "(I)I").map (fun d => d.parameters.length) = some 1 := by decide +kernel
theorem xq_X2_breakUp : plainFor yX2_breakUp = true := by decide +kernel
theorem xf_X2_126 : xk_Fos "SlatCratesModel" 126 [2] 7 := List.forall_mem_cons.mpr ⟨⟨Or.inl (by decide), (RX2, TX2, 19), "SlatCratesModel", rfl, by decide, Or.inl q2150, Or.inl rfl⟩, fun _ h => absurd h List.not_mem_nil⟩
theorem xp_X2_126 {nm : String} : xk_Fp "SlatCratesModel" nm [2] 7 .int := List.forall_mem_cons.mpr ⟨⟨by decide, fun r h => by cases h; exact ⟨tyX2_ok 7 (by decide), Or.inl rfl⟩⟩, fun _ h => absurd h List.not_mem_nil⟩
theorem xq_X2_append : plainFor yX2_append = true := by decide +kernel
theorem xq_X2_clear : plainFor yX2_clear = true := by decide +kernel
theorem xf_X2_129 : xk_Fos "SlatCratesModel" 129 [2] 8 := List.forall_mem_cons.mpr ⟨⟨Or.inl (by decide), (RX2, TX2, 19), "SlatCratesModel", rfl, by decide, Or.inl q2151, Or.inl rfl⟩, fun _ h => absurd h List.not_mem_nil⟩
theorem xq_X2_here : plainFor yX2_here = true := by decide +kernel
theorem xf_X2_144 : xk_Fos "SlatCratesModel" 144 [2] 11 := List.forall_mem_cons.mpr ⟨⟨Or.inl (by decide), (RX2, TX2, 19), "SlatCratesModel", rfl, by decide, Or.inl q2154, Or.inl rfl⟩, fun _ h => absurd h List.not_mem_nil⟩
theorem xq_X2_placeIn : plainFor yX2_placeIn = true := by decide +kernel
theorem xf_X2_132 : xk_Fos "SlatCratesModel" 132 [2] 9 := List.forall_mem_cons.mpr ⟨⟨Or.inl (by decide), (RX2, TX2, 19), "SlatCratesModel", rfl, by decide, Or.inl q2152, Or.inl rfl⟩, fun _ h => absurd h List.not_mem_nil⟩
theorem xp_X2_132 {nm : String} : xk_Fp "SlatCratesModel" nm [2] 9 .boolean := List.forall_mem_cons.mpr ⟨⟨by decide, fun r h => by cases h; exact ⟨tyX2_ok 9 (by decide), Or.inl rfl⟩⟩, fun _ h => absurd h List.not_mem_nil⟩
theorem xp_X2_129 {nm : String} : xk_Fp "SlatCratesModel" nm [2] 8 .int := List.forall_mem_cons.mpr ⟨⟨by decide, fun r h => by cases h; exact ⟨tyX2_ok 8 (by decide), Or.inl rfl⟩⟩, fun _ h => absurd h List.not_mem_nil⟩
theorem xq_X2_takes : plainFor yX2_takes = true := by decide +kernel
theorem xd_X2_here : (parseMethodDescriptor "()I").map (fun d => d.parameters.length) = some 0 := by decide +kernel
theorem xd_X2_takes : (parseMethodDescriptor "(Z)V").map (fun d => d.parameters.length) = some 1 := by decide +kernel
theorem xq_X2_takesNumber : plainFor yX2_takesNumber = true := by decide +kernel
theorem xf_X2_147 : xk_Fos "SlatCratesModel" 147 [2] 13 := List.forall_mem_cons.mpr ⟨⟨Or.inl (by decide), (RX2, TX2, 19), "SlatCratesModel", rfl, by decide, Or.inl q2156, Or.inl rfl⟩, fun _ h => absurd h List.not_mem_nil⟩
theorem xd_X2_takesNumber : (parseMethodDescriptor "(III)I").map (fun d => d.parameters.length) = some 3 := by decide +kernel
theorem xd_X2_placeIn : (parseMethodDescriptor "(I)I").map (fun d => d.parameters.length) = some 1 := by decide +kernel
theorem xp_X2_144 {nm : String} : xk_Fp "SlatCratesModel" nm [2] 11 .int := List.forall_mem_cons.mpr ⟨⟨by decide, fun r h => by cases h; exact ⟨tyX2_ok 11 (by decide), Or.inl rfl⟩⟩, fun _ h => absurd h List.not_mem_nil⟩
theorem xp_X2_147 {nm : String} : xk_Fp "SlatCratesModel" nm [2] 13 .int := List.forall_mem_cons.mpr ⟨⟨by decide, fun r h => by cases h; exact ⟨tyX2_ok 13 (by decide), Or.inl rfl⟩⟩, fun _ h => absurd h List.not_mem_nil⟩
theorem xq_X2_takesCrate : plainFor yX2_takesCrate = true := by decide +kernel
theorem xd_X2_takesCrate : (parseMethodDescriptor "()V").map (fun d => d.parameters.length) = some 0 := by decide +kernel
theorem xq_X2_areNests : plainFor yX2_areNests = true := by decide +kernel
theorem xd_X2_areNests : (parseMethodDescriptor "()Z").map (fun d => d.parameters.length) = some 0 := by decide +kernel
theorem xq_X2_fault : plainFor yX2_fault = true := by decide +kernel
theorem xq_X2_doFit : plainFor yX2_doFit = true := by decide +kernel
theorem xd_X2_doFit : (parseMethodDescriptor "()Z").map (fun d => d.parameters.length) = some 0 := by decide +kernel
theorem xq_X2_load : plainFor yX2_load = true := by decide +kernel
theorem xq_X2_piled : plainFor yX2_piled = true := by decide +kernel
theorem xf_X2_167 : xk_Fos "SlatCratesModel" 167 [2] 15 := List.forall_mem_cons.mpr ⟨⟨Or.inl (by decide), (RX2, TX2, 19), "SlatCratesModel", rfl, by decide, Or.inl q2158, Or.inl rfl⟩, fun _ h => absurd h List.not_mem_nil⟩
theorem xp_X2_167 {nm : String} : xk_Fp "SlatCratesModel" nm [2] 15 .int := List.forall_mem_cons.mpr ⟨⟨by decide, fun r h => by cases h; exact ⟨tyX2_ok 15 (by decide), Or.inl rfl⟩⟩, fun _ h => absurd h List.not_mem_nil⟩
theorem xq_X2_writes : plainFor yX2_writes = true := by decide +kernel
theorem xq_X2_letters : plainFor yX2_letters = true := by decide +kernel
theorem xd_X2_writes : (parseMethodDescriptor "(I)V").map (fun d => d.parameters.length) = some 1 := by decide +kernel
theorem xq_X2_writesNumber : plainFor yX2_writesNumber = true := by decide +kernel
theorem xd_X2_letters : (parseMethodDescriptor "(I)I").map (fun d => d.parameters.length) = some 1 := by decide +kernel
theorem xd_X2_writesNumber : (parseMethodDescriptor "(II)V").map (fun d => d.parameters.length) = some 2 := by decide +kernel
theorem xq_X2_writesHead : plainFor yX2_writesHead = true := by decide +kernel
theorem xd_X2_writesHead : (parseMethodDescriptor "(I)Z").map (fun d => d.parameters.length) = some 1 := by decide +kernel
theorem xd_X2_piled : (parseMethodDescriptor "(II)I").map (fun d => d.parameters.length) = some 2 := by decide +kernel
theorem xq_X2_writesNest : plainFor yX2_writesNest = true := by decide +kernel
theorem xd_X2_writesNest : (parseMethodDescriptor "(I)V").map (fun d => d.parameters.length) = some 1 := by decide +kernel
theorem xq_X2_sign : plainFor yX2_sign = true := by decide +kernel
theorem xq_X2_bestFor : plainFor yX2_bestFor = true := by decide +kernel
theorem xq_X2_effortTo : plainFor yX2_effortTo = true := by decide +kernel
theorem xq_X2_isOpen : plainFor yX2_isOpen = true := by decide +kernel
theorem xq_X2_signBy : plainFor yX2_signBy = true := by decide +kernel
theorem xd_X2_isOpen : (parseMethodDescriptor "(II)Z").map (fun d => d.parameters.length) = some 2 := by decide +kernel
theorem xd_X2_signBy : (parseMethodDescriptor "(IIZ)I").map (fun d => d.parameters.length) = some 3 := by decide +kernel
theorem xq_X2_signOf : plainFor yX2_signOf = true := by decide +kernel
theorem xd_X2_signOf : (parseMethodDescriptor "(II)I").map (fun d => d.parameters.length) = some 2 := by decide +kernel
theorem xq_X2_signsOf : plainFor yX2_signsOf = true := by decide +kernel
theorem xd_X2_signsOf : (parseMethodDescriptor "(I)I").map (fun d => d.parameters.length) = some 1 := by decide +kernel
theorem xq_X2_isTold : plainFor yX2_isTold = true := by decide +kernel
theorem xq_X2_lettersSeen : plainFor yX2_lettersSeen = true := by decide +kernel
theorem xq_X2_loadOf : plainFor yX2_loadOf = true := by decide +kernel
theorem xd_X2_loadOf : (parseMethodDescriptor "(I)I").map (fun d => d.parameters.length) = some 1 := by decide +kernel
theorem xd_X2_effortTo : (parseMethodDescriptor "(I)I").map (fun d => d.parameters.length) = some 1 := by decide +kernel
theorem xd_X2_isTold : (parseMethodDescriptor "(I)Z").map (fun d => d.parameters.length) = some 1 := by decide +kernel
theorem xd_X2_lettersSeen : (parseMethodDescriptor "(I)I").map (fun d => d.parameters.length) = some 1 := by decide +kernel
theorem xd_X2_bestFor : (parseMethodDescriptor "(I)I").map (fun d => d.parameters.length) = some 1 := by decide +kernel
theorem xq_X2_crate : plainFor yX2_crate = true := by decide +kernel
theorem xq_X2_isPlace : plainFor yX2_isPlace = true := by decide +kernel
theorem xd_X2_isPlace : (parseMethodDescriptor "(I)Z").map (fun d => d.parameters.length) = some 1 := by decide +kernel
theorem xq_X2_letter : plainFor yX2_letter = true := by decide +kernel
theorem xq_X2_seen : plainFor yX2_seen = true := by decide +kernel
theorem xq_X2_whyNot : plainFor yX2_whyNot = true := by decide +kernel
theorem xq_X2_effort : plainFor yX2_effort = true := by decide +kernel
theorem xq_X2_isAs : plainFor yX2_isAs = true := by decide +kernel
theorem xd_X2_isAs : (parseMethodDescriptor "(III)Z").map (fun d => d.parameters.length) = some 3 := by decide +kernel
theorem xq_X2_alike : plainFor yX2_alike = true := by decide +kernel
theorem xq_X2_isLoose : plainFor yX2_isLoose = true := by decide +kernel
theorem xd_X2_isLoose : (parseMethodDescriptor "(I)Z").map (fun d => d.parameters.length) = some 1 := by decide +kernel
theorem xq_X2_laysNests : plainFor yX2_laysNests = true := by decide +kernel
theorem xd_X2_laysNests : (parseMethodDescriptor "()V").map (fun d => d.parameters.length) = some 0 := by decide +kernel
theorem xq_X2_longestNest : plainFor yX2_longestNest = true := by decide +kernel
theorem xd_X2_longestNest : (parseMethodDescriptor "()I").map (fun d => d.parameters.length) = some 0 := by decide +kernel
theorem xq_X2_nest : plainFor yX2_nest = true := by decide +kernel
theorem xq_X2_deepest : plainFor yX2_deepest = true := by decide +kernel
theorem xq_X2_onGround : plainFor yX2_onGround = true := by decide +kernel
theorem xq_X2_rowsSeen : plainFor yX2_rowsSeen = true := by decide +kernel
theorem xd_X2_crate : (parseMethodDescriptor "(II)I").map (fun d => d.parameters.length) = some 2 := by decide +kernel
theorem xq_X2_sum : plainFor yX2_sum = true := by decide +kernel
theorem xd_X2_onGround : (parseMethodDescriptor "(Z)I").map (fun d => d.parameters.length) = some 1 := by decide +kernel
theorem xd_X2_deepest : (parseMethodDescriptor "()I").map (fun d => d.parameters.length) = some 0 := by decide +kernel
theorem xd_X2_sum : (parseMethodDescriptor "(I)I").map (fun d => d.parameters.length) = some 1 := by decide +kernel
theorem xd_X2_rowsSeen : (parseMethodDescriptor "()I").map (fun d => d.parameters.length) = some 0 := by decide +kernel
theorem xq_X2_count : plainFor yX2_count = true := by decide +kernel
theorem xq_X2_full : plainFor yX2_full = true := by decide +kernel
theorem xq_X2_ifTurned : plainFor yX2_ifTurned = true := by decide +kernel
theorem xd_X2_ifTurned : (parseMethodDescriptor "(II)I").map (fun d => d.parameters.length) = some 2 := by decide +kernel
theorem xq_X2_bestTurn : plainFor yX2_bestTurn = true := by decide +kernel
theorem xq_X2_undo : plainFor yX2_undo = true := by decide +kernel
theorem xf_X2_239 : xk_Fos "SlatCratesModel" 239 [2] 5 := List.forall_mem_cons.mpr ⟨⟨Or.inl (by decide), (RX2, TX2, 19), "SlatCratesModel", rfl, by decide, Or.inl q2148, Or.inl rfl⟩, fun _ h => absurd h List.not_mem_nil⟩
theorem xp_X2_239 {nm : String} : xk_Fp "SlatCratesModel" nm [2] 5 .boolean := List.forall_mem_cons.mpr ⟨⟨by decide, fun r h => by cases h; exact ⟨tyX2_ok 5 (by decide), Or.inl rfl⟩⟩, fun _ h => absurd h List.not_mem_nil⟩
theorem xq_X2_save : plainFor yX2_save = true := by decide +kernel
theorem xq_X2_restore : plainFor yX2_restore = true := by decide +kernel
def mf_X2_init (a0 : Nat) (h0 : xk_H) : Option (Unit × xk_H) :=
  xm_nwa 100 (.int 0) (110 : Int32) h0 fun b1 h2 => xm_pV [2] 0 (some a0) (va_rf (some b1)) h2 fun h3 => xm_nwa 100 (.int 0) (110 : Int32) h3 fun b4 h5 => xm_pV [2] 1 (some a0) (va_rf (some b4)) h5 fun h6 => xm_nwa 100 (.int 0) (440 : Int32) h6 fun b7 h8 => xm_pV [2] 2 (some a0) (va_rf (some b7)) h8 fun h9 => xm_nwa 100 (.int 0) (110 : Int32) h9 fun b10 h11 => xm_pV [2] 4 (some a0) (va_rf (some b10)) h11 fun h12 => xm_nwa 100 (.int 0) (80 : Int32) h12 fun b13 h14 => xm_pV [2] 6 (some a0) (va_rf (some b13)) h14 fun h15 => xm_nwa 100 (.int 0) (126 : Int32) h15 fun b16 h17 => xm_pV [2] 10 (some a0) (va_rf (some b16)) h17 fun h18 => xm_nwa 100 (.int 0) (20 : Int32) h18 fun b19 h20 => xm_pV [2] 12 (some a0) (va_rf (some b19)) h20 fun h21 => xm_nwa 100 (.int 0) (240 : Int32) h21 fun b22 h23 => xm_pV [2] 14 (some a0) (va_rf (some b22)) h23 fun h24 => xm_nwa 100 (.int 0) (13 : Int32) h24 fun b25 h26 => xm_pV [2] 16 (some a0) (va_rf (some b25)) h26 fun h27 => xm_nwa 100 (.int 0) (13 : Int32) h27 fun b28 h29 => xm_pV [2] 17 (some a0) (va_rf (some b28)) h29 fun h30 => xm_nwa 100 (.int 0) (12 : Int32) h30 fun b31 h32 => xm_pV [2] 18 (some a0) (va_rf (some b31)) h32 fun h33 => some ((), h33)
set_option maxHeartbeats 1000000 in
theorem wk_X2_init {l : Launch} {D : va_G} {base : Nat} {a0 : Nat} {h0 : xk_H} {r : Unit} {h' : xk_H} (E : mf_X2_init a0 h0 = some (r, h')) : xk_Ok l D base yX2_init cX2_init 1 none 1 60 [va_rf (some a0)] h0 none h' := by
  refine xk_ofX RX2 "<init>" xq_X2_init rfl rfl (Nat.le_of_ble_eq_true rfl) ⟨xk_crf _, trivial⟩ (fun Γ el eD eb C Z => ?_)
  rw [mf_X2_init] at E
  show xk_X Γ 0 [(0, va_rf (some a0))] [] h0
  refine xr_aload_n 0 C rfl rfl dX2_init_0 ?_
  refine xr_objInit C q2142 q134 q135 (by decide) trivial (Nat.le_of_ble_eq_true rfl) dX2_init_1 ?_
  refine xr_aload_n 0 C rfl rfl dX2_init_4 ?_
  refine xr_bipush (110) C (by decide) dX2_init_5 ?_
  refine xr_nwI C E q316 dX2_init_7 (fun b1 h2 E => ?_)
  refine xr_pR C E xf_X2_7 xp_X2_7_i (Or.inr ⟨_, rfl⟩) dX2_init_9 (fun h3 E => ?_)
  refine xr_aload_n 0 C rfl rfl dX2_init_12 ?_
  refine xr_bipush (110) C (by decide) dX2_init_13 ?_
  refine xr_nwI C E q316 dX2_init_15 (fun b4 h5 E => ?_)
  refine xr_pR C E xf_X2_13 xp_X2_13_i (Or.inr ⟨_, rfl⟩) dX2_init_17 (fun h6 E => ?_)
  refine xr_aload_n 0 C rfl rfl dX2_init_20 ?_
  refine xr_sipush (440) C (by decide) dX2_init_21 ?_
  refine xr_nwI C E q316 dX2_init_24 (fun b7 h8 E => ?_)
  refine xr_pR C E xf_X2_16 xp_X2_16_i (Or.inr ⟨_, rfl⟩) dX2_init_26 (fun h9 E => ?_)
  refine xr_aload_n 0 C rfl rfl dX2_init_29 ?_
  refine xr_bipush (110) C (by decide) dX2_init_30 ?_
  refine xr_nwI C E q316 dX2_init_32 (fun b10 h11 E => ?_)
  refine xr_pR C E xf_X2_19 xp_X2_19_i (Or.inr ⟨_, rfl⟩) dX2_init_34 (fun h12 E => ?_)
  refine xr_aload_n 0 C rfl rfl dX2_init_37 ?_
  refine xr_bipush (80) C (by decide) dX2_init_38 ?_
  refine xr_nwI C E q316 dX2_init_40 (fun b13 h14 E => ?_)
  refine xr_pR C E xf_X2_22 xp_X2_22_i (Or.inr ⟨_, rfl⟩) dX2_init_42 (fun h15 E => ?_)
  refine xr_aload_n 0 C rfl rfl dX2_init_45 ?_
  refine xr_bipush (126) C (by decide) dX2_init_46 ?_
  refine xr_nwI C E q316 dX2_init_48 (fun b16 h17 E => ?_)
  refine xr_pR C E xf_X2_25 xp_X2_25_i (Or.inr ⟨_, rfl⟩) dX2_init_50 (fun h18 E => ?_)
  refine xr_aload_n 0 C rfl rfl dX2_init_53 ?_
  refine xr_bipush (20) C (by decide) dX2_init_54 ?_
  refine xr_nwI C E q316 dX2_init_56 (fun b19 h20 E => ?_)
  refine xr_pR C E xf_X2_28 xp_X2_28_i (Or.inr ⟨_, rfl⟩) dX2_init_58 (fun h21 E => ?_)
  refine xr_aload_n 0 C rfl rfl dX2_init_61 ?_
  refine xr_sipush (240) C (by decide) dX2_init_62 ?_
  refine xr_nwI C E q316 dX2_init_65 (fun b22 h23 E => ?_)
  refine xr_pR C E xf_X2_31 xp_X2_31_i (Or.inr ⟨_, rfl⟩) dX2_init_67 (fun h24 E => ?_)
  refine xr_aload_n 0 C rfl rfl dX2_init_70 ?_
  refine xr_bipush (13) C (by decide) dX2_init_71 ?_
  refine xr_nwI C E q316 dX2_init_73 (fun b25 h26 E => ?_)
  refine xr_pR C E xf_X2_34 xp_X2_34_i (Or.inr ⟨_, rfl⟩) dX2_init_75 (fun h27 E => ?_)
  refine xr_aload_n 0 C rfl rfl dX2_init_78 ?_
  refine xr_bipush (13) C (by decide) dX2_init_79 ?_
  refine xr_nwI C E q316 dX2_init_81 (fun b28 h29 E => ?_)
  refine xr_pR C E xf_X2_37 xp_X2_37_i (Or.inr ⟨_, rfl⟩) dX2_init_83 (fun h30 E => ?_)
  refine xr_aload_n 0 C rfl rfl dX2_init_86 ?_
  refine xr_bipush (12) C (by decide) dX2_init_87 ?_
  refine xr_nwI C E q316 dX2_init_89 (fun b31 h32 E => ?_)
  refine xr_pR C E xf_X2_40 xp_X2_40_i (Or.inr ⟨_, rfl⟩) dX2_init_91 (fun h33 E => ?_)
  exact xr_vret C Z E dX2_init_94
def mf_X2_lays (a0 : Option Nat) (a1 : Int32) (a2 : Int32) (a3 : Int32) (h0 : xk_H) : Option (Unit × xk_H) :=
  xm_gR [2] 0 a0 h0 fun x1 => xm_sV [100] x1 (((2 : Int32) + ((9 : Int32) * a1)) + a2) (.int a3) h0 fun h2 => some ((), h2)
set_option maxHeartbeats 1000000 in
theorem wk_X2_lays {l : Launch} {D : va_G} {base : Nat} {a0 : Option Nat} {a1 : Int32} {a2 : Int32} {a3 : Int32} {h0 : xk_H} {r : Unit} {h' : xk_H} (E : mf_X2_lays a0 a1 a2 a3 h0 = some (r, h')) : xk_Ok l D base yX2_lays cX2_lays 4 none 1 60 [va_rf a0, .int a1, .int a2, .int a3] h0 none h' := by
  refine xk_ofX RX2 "lays" xq_X2_lays rfl rfl (Nat.le_of_ble_eq_true rfl) ⟨xk_crf _, ⟨rfl, ⟨rfl, ⟨rfl, trivial⟩⟩⟩⟩ (fun Γ el eD eb C Z => ?_)
  rw [mf_X2_lays] at E
  show xk_X Γ 0 [(0, va_rf a0), (1, .int a1), (2, .int a2), (3, .int a3)] [] h0
  refine xr_aload_n 0 C rfl rfl dX2_lays_0 ?_
  refine xr_gR C E xf_X2_7 dX2_lays_1 (fun x1 E => ?_)
  refine xr_iconst (2) C (by decide) dX2_lays_4 ?_
  refine xr_bipush (9) C (by decide) dX2_lays_5 ?_
  refine xr_iload_n 1 C rfl rfl dX2_lays_7 ?_
  refine xr_imul C dX2_lays_8 ?_
  refine xr_iadd C dX2_lays_9 ?_
  refine xr_iload_n 2 C rfl rfl dX2_lays_10 ?_
  refine xr_iadd C dX2_lays_11 ?_
  refine xr_iload_n 3 C rfl rfl dX2_lays_12 ?_
  refine xr_sI C E dX2_lays_13 (fun h2 E => ?_)
  exact xr_vret C Z E dX2_lays_14
def mf_X2_adds (a0 : Option Nat) (a1 : Int32) (a2 : Int32) (a3 : Int32) (a4 : Int32) (a5 : Int32) (h0 : xk_H) : Option (Unit × xk_H) :=
  xm_gR [2] 0 a0 h0 fun x1 => xm_lI [100] x1 (0 : Int32) h0 fun x2 => xm_rc [2] a0 h0 <| xm_cl (mf_X2_lays a0 x2 (0 : Int32) a1 h0) fun r3 h4 => xm_rc [2] a0 h4 <| xm_cl (mf_X2_lays a0 x2 (1 : Int32) a2 h4) fun r5 h6 => xm_rc [2] a0 h6 <| xm_cl (mf_X2_lays a0 x2 (2 : Int32) a3 h6) fun r7 h8 => xm_rc [2] a0 h8 <| xm_cl (mf_X2_lays a0 x2 (7 : Int32) (a4 + (1 : Int32)) h8) fun r9 h10 => xm_rc [2] a0 h10 <| xm_cl (mf_X2_lays a0 x2 (8 : Int32) a5 h10) fun r11 h12 => xm_gR [2] 0 a0 h12 fun x13 => xm_lI [100] x13 (0 : Int32) h12 fun x14 => xm_sV [100] x13 (0 : Int32) (.int (x14 + (1 : Int32))) h12 fun h15 => some ((), h15)
set_option maxHeartbeats 1000000 in
theorem wk_X2_adds {l : Launch} {D : va_G} {base : Nat} {a0 : Option Nat} {a1 : Int32} {a2 : Int32} {a3 : Int32} {a4 : Int32} {a5 : Int32} {h0 : xk_H} {r : Unit} {h' : xk_H} (E : mf_X2_adds a0 a1 a2 a3 a4 a5 h0 = some (r, h')) : xk_Ok l D base yX2_adds cX2_adds 7 none 2 83 [va_rf a0, .int a1, .int a2, .int a3, .int a4, .int a5] h0 none h' := by
  refine xk_ofX RX2 "adds" xq_X2_adds rfl rfl (Nat.le_of_ble_eq_true rfl) ⟨xk_crf _, ⟨rfl, ⟨rfl, ⟨rfl, ⟨rfl, ⟨rfl, trivial⟩⟩⟩⟩⟩⟩ (fun Γ el eD eb C Z => ?_)
  rw [mf_X2_adds] at E
  show xk_X Γ 0 [(0, va_rf a0), (1, .int a1), (2, .int a2), (3, .int a3), (4, .int a4), (5, .int a5)] [] h0
  refine xr_aload_n 0 C rfl rfl dX2_adds_0 ?_
  refine xr_gR C E xf_X2_7 dX2_adds_1 (fun x1 E => ?_)
  refine xr_iconst (0) C (by decide) dX2_adds_4 ?_
  refine xr_lI C E xt_100 dX2_adds_5 (fun x2 E => ?_)
  refine xr_istore (L2 := [(6, .int x2), (0, va_rf a0), (1, .int a1), (2, .int a2), (3, .int a3), (4, .int a4), (5, .int a5)]) C rfl dX2_adds_6 (by decide) ?_
  refine xr_aload_n 1 C rfl rfl dX2_adds_8 ?_
  refine xr_iload 0 C rfl dX2_adds_9 ?_
  refine xr_iconst (0) C (by decide) dX2_adds_11 ?_
  refine xr_iload_n 2 C rfl rfl dX2_adds_12 ?_
  refine xr_V (v := a0) [.int x2, .int (0 : Int32), .int a1] [] (fun _ => none) (fun _ => []) C E xi_2_SlatCratesModel (fun r h' e => wk_X2_lays e) q2219 q2221 qs33 q89 q2222 xh_SlatCratesModel xd_X2_lays (by decide) (by decide) trivial (Nat.le_of_ble_eq_true rfl) rfl (fun _ => rfl) dX2_adds_13 (fun r3 h4 E => ?_)
  refine xr_aload_n 1 C rfl rfl dX2_adds_16 ?_
  refine xr_iload 0 C rfl dX2_adds_17 ?_
  refine xr_iconst (1) C (by decide) dX2_adds_19 ?_
  refine xr_iload_n 3 C rfl rfl dX2_adds_20 ?_
  refine xr_V (v := a0) [.int x2, .int (1 : Int32), .int a2] [] (fun _ => none) (fun _ => []) C E xi_2_SlatCratesModel (fun r h' e => wk_X2_lays e) q2219 q2221 qs33 q89 q2222 xh_SlatCratesModel xd_X2_lays (by decide) (by decide) trivial (Nat.le_of_ble_eq_true rfl) rfl (fun _ => rfl) dX2_adds_21 (fun r5 h6 E => ?_)
  refine xr_aload_n 1 C rfl rfl dX2_adds_24 ?_
  refine xr_iload 0 C rfl dX2_adds_25 ?_
  refine xr_iconst (2) C (by decide) dX2_adds_27 ?_
  refine xr_iload_n 4 C rfl rfl dX2_adds_28 ?_
  refine xr_V (v := a0) [.int x2, .int (2 : Int32), .int a3] [] (fun _ => none) (fun _ => []) C E xi_2_SlatCratesModel (fun r h' e => wk_X2_lays e) q2219 q2221 qs33 q89 q2222 xh_SlatCratesModel xd_X2_lays (by decide) (by decide) trivial (Nat.le_of_ble_eq_true rfl) rfl (fun _ => rfl) dX2_adds_29 (fun r7 h8 E => ?_)
  refine xr_aload_n 1 C rfl rfl dX2_adds_32 ?_
  refine xr_iload 0 C rfl dX2_adds_33 ?_
  refine xr_bipush (7) C (by decide) dX2_adds_35 ?_
  refine xr_iload 5 C rfl dX2_adds_37 ?_
  refine xr_iconst (1) C (by decide) dX2_adds_39 ?_
  refine xr_iadd C dX2_adds_40 ?_
  refine xr_V (v := a0) [.int x2, .int (7 : Int32), .int (a4 + (1 : Int32))] [] (fun _ => none) (fun _ => []) C E xi_2_SlatCratesModel (fun r h' e => wk_X2_lays e) q2219 q2221 qs33 q89 q2222 xh_SlatCratesModel xd_X2_lays (by decide) (by decide) trivial (Nat.le_of_ble_eq_true rfl) rfl (fun _ => rfl) dX2_adds_41 (fun r9 h10 E => ?_)
  refine xr_aload_n 1 C rfl rfl dX2_adds_44 ?_
  refine xr_iload 0 C rfl dX2_adds_45 ?_
  refine xr_bipush (8) C (by decide) dX2_adds_47 ?_
  refine xr_iload 6 C rfl dX2_adds_49 ?_
  refine xr_V (v := a0) [.int x2, .int (8 : Int32), .int a5] [] (fun _ => none) (fun _ => []) C E xi_2_SlatCratesModel (fun r h' e => wk_X2_lays e) q2219 q2221 qs33 q89 q2222 xh_SlatCratesModel xd_X2_lays (by decide) (by decide) trivial (Nat.le_of_ble_eq_true rfl) rfl (fun _ => rfl) dX2_adds_51 (fun r11 h12 E => ?_)
  refine xr_aload_n 1 C rfl rfl dX2_adds_54 ?_
  refine xr_gR C E xf_X2_7 dX2_adds_55 (fun x13 E => ?_)
  refine xr_iconst (0) C (by decide) dX2_adds_58 ?_
  refine xr_dup2 C rfl (xk_crf _) dX2_adds_59 ?_
  refine xr_lI C E xt_100 dX2_adds_60 (fun x14 E => ?_)
  refine xr_iconst (1) C (by decide) dX2_adds_61 ?_
  refine xr_iadd C dX2_adds_62 ?_
  refine xr_sI C E dX2_adds_63 (fun h15 E => ?_)
  exact xr_vret C Z E dX2_adds_64
def mf_X2_in (a0 : Int32) (a1 : Int32) (a2 : Int32) (h0 : xk_H) : Option (Bool × xk_H) :=
  if a0 < a1 then (some (false, h0)) else (if a2 < a0 then (some (false, h0)) else (some (true, h0)))
set_option maxHeartbeats 1000000 in
theorem wk_X2_in {l : Launch} {D : va_G} {base : Nat} {a0 : Int32} {a1 : Int32} {a2 : Int32} {h0 : xk_H} {r : Bool} {h' : xk_H} (E : mf_X2_in a0 a1 a2 h0 = some (r, h')) : xk_Ok l D base yX2_in cX2_in 3 (Option.some FieldType.boolean) 1 60 [.int a0, .int a1, .int a2] h0 (some (.int (xk_b2 r))) h' := by
  refine xk_ofX RX2 "in" xq_X2_in rfl rfl (Nat.le_of_ble_eq_true rfl) ⟨rfl, ⟨rfl, ⟨rfl, trivial⟩⟩⟩ (fun Γ el eD eb C Z => ?_)
  rw [mf_X2_in] at E
  show xk_X Γ 0 [(0, .int a0), (1, .int a1), (2, .int a2)] [] h0
  refine xr_iload_n 0 C rfl rfl dX2_in_0 ?_
  refine xr_iload_n 1 C rfl rfl dX2_in_1 ?_
  refine xr_icmp_lt 14 C E dX2_in_2 (by decide) (fun E => ?_) (fun E => ?_)
  · refine xr_iconst (0) C (by decide) dX2_in_14 ?_
    exact xr_bret (b := false) C Z E dX2_in_15
  · refine xr_iload_n 0 C rfl rfl dX2_in_5 ?_
    refine xr_iload_n 2 C rfl rfl dX2_in_6 ?_
    refine xr_icmp_gt 14 C E dX2_in_7 (by decide) (fun E => ?_) (fun E => ?_)
    · refine xr_iconst (0) C (by decide) dX2_in_14 ?_
      exact xr_bret (b := false) C Z E dX2_in_15
    · refine xr_iconst (1) C (by decide) dX2_in_10 ?_
      refine xr_goto 15 C dX2_in_11 (by decide) ?_
      exact xr_bret (b := true) C Z E dX2_in_15
def mf_X2_isLabel_L12 : Nat → Int32 → Int32 → Int32 → xk_H → Option (Bool × xk_H)
  | 0, _, _, _, _ => none
  | n + 1, a1, a2, a3, h0 => if (4 : Int32) ≤ a3 then (xm_z a1 fun x3 => some (x3, h0)) else (if a1 = 0 then (mf_X2_isLabel_L12 n (0 : Int32) (a2 / (27 : Int32)) (a3 + 1) h0) else (if 0 < (a2 - a2 / (27 : Int32) * (27 : Int32)) then (mf_X2_isLabel_L12 n (1 : Int32) (a2 / (27 : Int32)) (a3 + 1) h0) else (if a2 = 0 then (mf_X2_isLabel_L12 n (1 : Int32) (a2 / (27 : Int32)) (a3 + 1) h0) else (mf_X2_isLabel_L12 n (0 : Int32) (a2 / (27 : Int32)) (a3 + 1) h0))))
set_option maxHeartbeats 1000000 in
theorem wk_X2_isLabel_L12 {Γ : xk_C} {r : Bool} {h' : xk_H} (C : xk_Cx Γ RX2 cX2_isLabel 4 (Option.some FieldType.boolean) "isLabel" 2 82) (Z : xk_Z Γ (some (.int (xk_b2 r))) h') : ∀ (n : Nat) (a1 : Int32) (a2 : Int32) (a3 : Int32) (h0 : xk_H), mf_X2_isLabel_L12 n a1 a2 a3 h0 = some (r, h') → xk_X Γ 12 [(1, .int a1), (2, .int a2), (3, .int a3)] [] h0 := by
  intro n
  induction n with
  | zero =>
    intro a1 a2 a3 h0 E
    rw [mf_X2_isLabel_L12] at E
    cases E
  | succ n ih =>
    intro a1 a2 a3 h0 E
    have hkb12 : ∀ (m1 : Int32) (m2 : Int32) (m3 : Int32) (g : xk_H), mf_X2_isLabel_L12  n m1 m2 m3 g = some (r, h') → xk_X Γ 12 [(1, .int m1), (2, .int m2), (3, .int m3)] [] g := ih
    rw [mf_X2_isLabel_L12] at E
    refine xr_iload_n 2 C rfl rfl dX2_isLabel_12 ?_
    refine xr_iconst (4) C (by decide) dX2_isLabel_13 ?_
    refine xr_icmp_ge 49 C E dX2_isLabel_14 (by decide) (fun E => ?_) (fun E => ?_)
    · refine xr_iload_n 0 C rfl rfl dX2_isLabel_49 ?_
      exact xr_zretz C Z E dX2_isLabel_50
    · refine xr_iload_n 0 C rfl rfl dX2_isLabel_17 ?_
      refine xr_if_eq 36 C E dX2_isLabel_18 (by decide) (fun E => ?_) (fun E => ?_)
      · refine xr_iconst (0) C (by decide) dX2_isLabel_36 ?_
        refine xr_istore_n (L2 := [(1, .int (0 : Int32)), (2, .int a2), (3, .int a3)]) C rfl rfl dX2_isLabel_37 (by decide) ?_
        refine xr_iload_n 1 C rfl rfl dX2_isLabel_38 ?_
        refine xr_bipush (27) C (by decide) dX2_isLabel_39 ?_
        refine xr_idiv C (by decide) dX2_isLabel_41 ?_
        refine xr_istore_n (L2 := [(2, .int (a2 / (27 : Int32))), (1, .int (0 : Int32)), (3, .int a3)]) C rfl rfl dX2_isLabel_42 (by decide) ?_
        refine xr_iinc (v := (a3 + 1)) (L2 := [(3, .int (a3 + 1)), (2, .int (a2 / (27 : Int32))), (1, .int (0 : Int32))]) 2 C rfl rfl rfl dX2_isLabel_43 (by decide) ?_
        refine xr_goto 12 C dX2_isLabel_46 (by decide) ?_
        refine xr_sub [2, 1, 0] rfl ?_
        exact hkb12 (0 : Int32) (a2 / (27 : Int32)) (a3 + 1) h0 E
      · refine xr_iload_n 1 C rfl rfl dX2_isLabel_21 ?_
        refine xr_bipush (27) C (by decide) dX2_isLabel_22 ?_
        refine xr_irem C (by decide) dX2_isLabel_24 ?_
        refine xr_if_gt 32 C E dX2_isLabel_25 (by decide) (fun E => ?_) (fun E => ?_)
        · refine xr_iconst (1) C (by decide) dX2_isLabel_32 ?_
          refine xr_goto 37 C dX2_isLabel_33 (by decide) ?_
          refine xr_istore_n (L2 := [(1, .int (1 : Int32)), (2, .int a2), (3, .int a3)]) C rfl rfl dX2_isLabel_37 (by decide) ?_
          refine xr_iload_n 1 C rfl rfl dX2_isLabel_38 ?_
          refine xr_bipush (27) C (by decide) dX2_isLabel_39 ?_
          refine xr_idiv C (by decide) dX2_isLabel_41 ?_
          refine xr_istore_n (L2 := [(2, .int (a2 / (27 : Int32))), (1, .int (1 : Int32)), (3, .int a3)]) C rfl rfl dX2_isLabel_42 (by decide) ?_
          refine xr_iinc (v := (a3 + 1)) (L2 := [(3, .int (a3 + 1)), (2, .int (a2 / (27 : Int32))), (1, .int (1 : Int32))]) 2 C rfl rfl rfl dX2_isLabel_43 (by decide) ?_
          refine xr_goto 12 C dX2_isLabel_46 (by decide) ?_
          refine xr_sub [2, 1, 0] rfl ?_
          exact hkb12 (1 : Int32) (a2 / (27 : Int32)) (a3 + 1) h0 E
        · refine xr_iload_n 1 C rfl rfl dX2_isLabel_28 ?_
          refine xr_if_ne 36 C E dX2_isLabel_29 (by decide) (fun E => ?_) (fun E => ?_)
          · refine xr_iconst (0) C (by decide) dX2_isLabel_36 ?_
            refine xr_istore_n (L2 := [(1, .int (0 : Int32)), (2, .int a2), (3, .int a3)]) C rfl rfl dX2_isLabel_37 (by decide) ?_
            refine xr_iload_n 1 C rfl rfl dX2_isLabel_38 ?_
            refine xr_bipush (27) C (by decide) dX2_isLabel_39 ?_
            refine xr_idiv C (by decide) dX2_isLabel_41 ?_
            refine xr_istore_n (L2 := [(2, .int (a2 / (27 : Int32))), (1, .int (0 : Int32)), (3, .int a3)]) C rfl rfl dX2_isLabel_42 (by decide) ?_
            refine xr_iinc (v := (a3 + 1)) (L2 := [(3, .int (a3 + 1)), (2, .int (a2 / (27 : Int32))), (1, .int (0 : Int32))]) 2 C rfl rfl rfl dX2_isLabel_43 (by decide) ?_
            refine xr_goto 12 C dX2_isLabel_46 (by decide) ?_
            refine xr_sub [2, 1, 0] rfl ?_
            exact hkb12 (0 : Int32) (a2 / (27 : Int32)) (a3 + 1) h0 E
          · refine xr_iconst (1) C (by decide) dX2_isLabel_32 ?_
            refine xr_goto 37 C dX2_isLabel_33 (by decide) ?_
            refine xr_istore_n (L2 := [(1, .int (1 : Int32)), (2, .int a2), (3, .int a3)]) C rfl rfl dX2_isLabel_37 (by decide) ?_
            refine xr_iload_n 1 C rfl rfl dX2_isLabel_38 ?_
            refine xr_bipush (27) C (by decide) dX2_isLabel_39 ?_
            refine xr_idiv C (by decide) dX2_isLabel_41 ?_
            refine xr_istore_n (L2 := [(2, .int (a2 / (27 : Int32))), (1, .int (1 : Int32)), (3, .int a3)]) C rfl rfl dX2_isLabel_42 (by decide) ?_
            refine xr_iinc (v := (a3 + 1)) (L2 := [(3, .int (a3 + 1)), (2, .int (a2 / (27 : Int32))), (1, .int (1 : Int32))]) 2 C rfl rfl rfl dX2_isLabel_43 (by decide) ?_
            refine xr_goto 12 C dX2_isLabel_46 (by decide) ?_
            refine xr_sub [2, 1, 0] rfl ?_
            exact hkb12 (1 : Int32) (a2 / (27 : Int32)) (a3 + 1) h0 E
def mf_X2_isLabel (a0 : Int32) (h0 : xk_H) : Option (Bool × xk_H) :=
  xm_cl (mf_X2_in a0 (1 : Int32) (531440 : Int32) h0) fun r1 h2 => mf_X2_isLabel_L12 xk_fu (xk_b2 r1) a0 (0 : Int32) h2
set_option maxHeartbeats 1000000 in
theorem wk_X2_isLabel {l : Launch} {D : va_G} {base : Nat} {a0 : Int32} {h0 : xk_H} {r : Bool} {h' : xk_H} (E : mf_X2_isLabel a0 h0 = some (r, h')) : xk_Ok l D base yX2_isLabel cX2_isLabel 4 (Option.some FieldType.boolean) 2 82 [.int a0] h0 (some (.int (xk_b2 r))) h' := by
  refine xk_ofX RX2 "isLabel" xq_X2_isLabel rfl rfl (Nat.le_of_ble_eq_true rfl) ⟨rfl, trivial⟩ (fun Γ el eD eb C Z => ?_)
  rw [mf_X2_isLabel] at E
  show xk_X Γ 0 [(0, .int a0)] [] h0
  refine xr_iload_n 0 C rfl rfl dX2_isLabel_0 ?_
  refine xr_iconst (1) C (by decide) dX2_isLabel_1 ?_
  refine xr_ldc C q2211 dX2_isLabel_2 ?_
  refine xr_S [.int a0, .int (1 : Int32), .int (531440 : Int32)] [] (fun r => some (.int (xk_b2 r))) (fun r => .int (xk_b2 r) :: []) C E (fun r h' e => wk_X2_in e) q2205 q2206 q89 q2207 xh_SlatCratesModel xd_X2_in (by decide) (by decide) trivial (Nat.le_of_ble_eq_true rfl) rfl (fun _ => rfl) dX2_isLabel_4 (fun r1 h2 E => ?_)
  refine xr_istore_n (L2 := [(1, .int (xk_b2 r1)), (0, .int a0)]) C rfl rfl dX2_isLabel_7 (by decide) ?_
  refine xr_iload_n 1 C rfl rfl dX2_isLabel_8 ?_
  refine xr_istore_n (L2 := [(2, .int a0), (1, .int (xk_b2 r1)), (0, .int a0)]) C rfl rfl dX2_isLabel_9 (by decide) ?_
  refine xr_iconst (0) C (by decide) dX2_isLabel_10 ?_
  refine xr_istore_n (L2 := [(3, .int (0 : Int32)), (2, .int a0), (1, .int (xk_b2 r1)), (0, .int a0)]) C rfl rfl dX2_isLabel_11 (by decide) ?_
  refine xr_sub [2, 1, 0] rfl ?_
  exact wk_X2_isLabel_L12 C Z xk_fu (xk_b2 r1) a0 (0 : Int32) h2 E
def mf_X2_copies_L3 (a0 : Option Nat) (a1 : Int32) (a2 : Option Nat) (a3 : Int32) : Nat → Int32 → xk_H → Option (Unit × xk_H)
  | 0, _, _ => none
  | n + 1, a4, h0 => if (110 : Int32) ≤ a4 then (some ((), h0)) else (xm_lI [100] a0 (a1 + a4) h0 fun x1 => xm_sV [100] a2 (a3 + a4) (.int x1) h0 fun h2 => mf_X2_copies_L3 a0 a1 a2 a3 n (a4 + 1) h2)
set_option maxHeartbeats 1000000 in
theorem wk_X2_copies_L3 {Γ : xk_C} {r : Unit} {h' : xk_H} {a0 : Option Nat} {a1 : Int32} {a2 : Option Nat} {a3 : Int32} (C : xk_Cx Γ RX2 cX2_copies 5 none "copies" 1 60) (Z : xk_Z Γ none h') : ∀ (n : Nat) (a4 : Int32) (h0 : xk_H), mf_X2_copies_L3 a0 a1 a2 a3 n a4 h0 = some (r, h') → xk_X Γ 3 [(0, va_rf a0), (1, .int a1), (2, va_rf a2), (3, .int a3), (4, .int a4)] [] h0 := by
  intro n
  induction n with
  | zero =>
    intro a4 h0 E
    rw [mf_X2_copies_L3] at E
    cases E
  | succ n ih =>
    intro a4 h0 E
    have hkb3 : ∀ (m4 : Int32) (g : xk_H), mf_X2_copies_L3 a0 a1 a2 a3 n m4 g = some (r, h') → xk_X Γ 3 [(0, va_rf a0), (1, .int a1), (2, va_rf a2), (3, .int a3), (4, .int m4)] [] g := ih
    rw [mf_X2_copies_L3] at E
    refine xr_iload 4 C rfl dX2_copies_3 ?_
    refine xr_bipush (110) C (by decide) dX2_copies_5 ?_
    refine xr_icmp_ge 28 C E dX2_copies_7 (by decide) (fun E => ?_) (fun E => ?_)
    · exact xr_vret C Z E dX2_copies_28
    · refine xr_aload_n 2 C rfl rfl dX2_copies_10 ?_
      refine xr_iload_n 3 C rfl rfl dX2_copies_11 ?_
      refine xr_iload 4 C rfl dX2_copies_12 ?_
      refine xr_iadd C dX2_copies_14 ?_
      refine xr_aload_n 0 C rfl rfl dX2_copies_15 ?_
      refine xr_iload_n 1 C rfl rfl dX2_copies_16 ?_
      refine xr_iload 4 C rfl dX2_copies_17 ?_
      refine xr_iadd C dX2_copies_19 ?_
      refine xr_lI C E xt_100 dX2_copies_20 (fun x1 E => ?_)
      refine xr_sI C E dX2_copies_21 (fun h2 E => ?_)
      refine xr_iinc (v := (a4 + 1)) (L2 := [(4, .int (a4 + 1)), (0, va_rf a0), (1, .int a1), (2, va_rf a2), (3, .int a3)]) 4 C rfl rfl rfl dX2_copies_22 (by decide) ?_
      refine xr_goto 3 C dX2_copies_25 (by decide) ?_
      refine xr_sub [1, 2, 3, 4, 0] rfl ?_
      exact hkb3 (a4 + 1) h2 E
def mf_X2_copies (a0 : Option Nat) (a1 : Int32) (a2 : Option Nat) (a3 : Int32) (h0 : xk_H) : Option (Unit × xk_H) :=
  mf_X2_copies_L3 a0 a1 a2 a3 xk_fu (0 : Int32) h0
set_option maxHeartbeats 1000000 in
theorem wk_X2_copies {l : Launch} {D : va_G} {base : Nat} {a0 : Option Nat} {a1 : Int32} {a2 : Option Nat} {a3 : Int32} {h0 : xk_H} {r : Unit} {h' : xk_H} (E : mf_X2_copies a0 a1 a2 a3 h0 = some (r, h')) : xk_Ok l D base yX2_copies cX2_copies 5 none 1 60 [va_rf a0, .int a1, va_rf a2, .int a3] h0 none h' := by
  refine xk_ofX RX2 "copies" xq_X2_copies rfl rfl (Nat.le_of_ble_eq_true rfl) ⟨xk_crf _, ⟨rfl, ⟨xk_crf _, ⟨rfl, trivial⟩⟩⟩⟩ (fun Γ el eD eb C Z => ?_)
  rw [mf_X2_copies] at E
  show xk_X Γ 0 [(0, va_rf a0), (1, .int a1), (2, va_rf a2), (3, .int a3)] [] h0
  refine xr_iconst (0) C (by decide) dX2_copies_0 ?_
  refine xr_istore (L2 := [(4, .int (0 : Int32)), (0, va_rf a0), (1, .int a1), (2, va_rf a2), (3, .int a3)]) C rfl dX2_copies_1 (by decide) ?_
  refine xr_sub [1, 2, 3, 4, 0] rfl ?_
  exact wk_X2_copies_L3 (a0 := a0) (a1 := a1) (a2 := a2) (a3 := a3) C Z xk_fu (0 : Int32) h0 E
def mf_X2_records_J48 (a0 : Option Nat) (h0 : xk_H) : Option (Unit × xk_H) :=
  xm_gR [2] 0 a0 h0 fun x2 => xm_gR [2] 2 a0 h0 fun x3 => xm_gI [2] 3 a0 h0 fun x4 => xm_cl (mf_X2_copies x2 (0 : Int32) x3 ((110 : Int32) * x4) h0) fun r5 h6 => xm_gI [2] 3 a0 h6 fun x7 => xm_pV [2] 3 a0 (.int (x7 + (1 : Int32))) h6 fun h8 => some ((), h8)
set_option maxHeartbeats 1000000 in
theorem wk_X2_records_J48 {Γ : xk_C} {r : Unit} {h' : xk_H} {a0 : Option Nat} {h0 : xk_H} (C : xk_Cx Γ RX2 cX2_records 2 none "records" 2 84) (Z : xk_Z Γ none h') (E : mf_X2_records_J48 a0 h0 = some (r, h')) : xk_X Γ 48 [(0, va_rf a0)] [] h0 := by
  rw [mf_X2_records_J48] at E
  refine xr_aload_n 0 C rfl rfl dX2_records_48 ?_
  refine xr_gR C E xf_X2_7 dX2_records_49 (fun x2 E => ?_)
  refine xr_iconst (0) C (by decide) dX2_records_52 ?_
  refine xr_aload_n 0 C rfl rfl dX2_records_53 ?_
  refine xr_gR C E xf_X2_16 dX2_records_54 (fun x3 E => ?_)
  refine xr_bipush (110) C (by decide) dX2_records_57 ?_
  refine xr_aload_n 0 C rfl rfl dX2_records_59 ?_
  refine xr_gI C E xf_X2_43 dX2_records_60 (fun x4 E => ?_)
  refine xr_imul C dX2_records_63 ?_
  refine xr_S [va_rf x2, .int (0 : Int32), va_rf x3, .int ((110 : Int32) * x4)] [] (fun _ => none) (fun _ => []) C E (fun r h' e => wk_X2_copies e) q2216 q2217 q89 q2218 xh_SlatCratesModel xd_X2_copies (by decide) (by decide) trivial (Nat.le_of_ble_eq_true rfl) rfl (fun _ => rfl) dX2_records_64 (fun r5 h6 E => ?_)
  refine xr_aload_n 0 C rfl rfl dX2_records_67 ?_
  refine xr_dup C (xk_crf _) dX2_records_68 ?_
  refine xr_gI C E xf_X2_43 dX2_records_69 (fun x7 E => ?_)
  refine xr_iconst (1) C (by decide) dX2_records_72 ?_
  refine xr_iadd C dX2_records_73 ?_
  refine xr_pI C E xf_X2_43 xp_X2_43 dX2_records_74 (fun h8 E => ?_)
  exact xr_vret C Z E dX2_records_77
def mf_X2_records_L10 (kx38 : xk_H → Option (Unit × xk_H)) (a0 : Option Nat) : Nat → Int32 → xk_H → Option (Unit × xk_H)
  | 0, _, _ => none
  | n + 1, a1, h0 => if (330 : Int32) ≤ a1 then (kx38 h0) else (xm_gR [2] 2 a0 h0 fun x9 => xm_gR [2] 2 a0 h0 fun x10 => xm_lI [100] x10 (a1 + (110 : Int32)) h0 fun x11 => xm_sV [100] x9 a1 (.int x11) h0 fun h12 => mf_X2_records_L10 kx38 a0 n (a1 + 1) h12)
set_option maxHeartbeats 1000000 in
theorem wk_X2_records_L10 {Γ : xk_C} {r : Unit} {h' : xk_H} {kx38 : xk_H → Option (Unit × xk_H)} {a0 : Option Nat} (C : xk_Cx Γ RX2 cX2_records 2 none "records" 2 84) (Z : xk_Z Γ none h') (hkx38 : ∀ (g : xk_H), kx38 g = some (r, h') → xk_X Γ 38 [(0, va_rf a0)] [] g) : ∀ (n : Nat) (a1 : Int32) (h0 : xk_H), mf_X2_records_L10 kx38 a0 n a1 h0 = some (r, h') → xk_X Γ 10 [(0, va_rf a0), (1, .int a1)] [] h0 := by
  intro n
  induction n with
  | zero =>
    intro a1 h0 E
    rw [mf_X2_records_L10] at E
    cases E
  | succ n ih =>
    intro a1 h0 E
    have hkb10 : ∀ (m1 : Int32) (g : xk_H), mf_X2_records_L10 kx38 a0 n m1 g = some (r, h') → xk_X Γ 10 [(0, va_rf a0), (1, .int m1)] [] g := ih
    rw [mf_X2_records_L10] at E
    refine xr_iload_n 1 C rfl rfl dX2_records_10 ?_
    refine xr_sipush (330) C (by decide) dX2_records_11 ?_
    refine xr_icmp_ge 38 C E dX2_records_14 (by decide) (fun E => ?_) (fun E => ?_)
    · refine xr_sub [0] rfl ?_
      exact hkx38 h0 E
    · refine xr_aload_n 0 C rfl rfl dX2_records_17 ?_
      refine xr_gR C E xf_X2_16 dX2_records_18 (fun x9 E => ?_)
      refine xr_iload_n 1 C rfl rfl dX2_records_21 ?_
      refine xr_aload_n 0 C rfl rfl dX2_records_22 ?_
      refine xr_gR C E xf_X2_16 dX2_records_23 (fun x10 E => ?_)
      refine xr_iload_n 1 C rfl rfl dX2_records_26 ?_
      refine xr_bipush (110) C (by decide) dX2_records_27 ?_
      refine xr_iadd C dX2_records_29 ?_
      refine xr_lI C E xt_100 dX2_records_30 (fun x11 E => ?_)
      refine xr_sI C E dX2_records_31 (fun h12 E => ?_)
      refine xr_iinc (v := (a1 + 1)) (L2 := [(1, .int (a1 + 1)), (0, va_rf a0)]) 1 C rfl rfl rfl dX2_records_32 (by decide) ?_
      refine xr_goto 10 C dX2_records_35 (by decide) ?_
      refine xr_sub [1, 0] rfl ?_
      exact hkb10 (a1 + 1) h12 E
def mf_X2_records (a0 : Option Nat) (h0 : xk_H) : Option (Unit × xk_H) :=
  xm_gI [2] 3 a0 h0 fun x1 => if x1 = (4 : Int32) then (mf_X2_records_L10 (fun h13 => xm_gI [2] 3 a0 h13 fun x14 => xm_pV [2] 3 a0 (.int (x14 - (1 : Int32))) h13 fun h15 => mf_X2_records_J48 a0 h15) a0 xk_fu (0 : Int32) h0) else (mf_X2_records_J48 a0 h0)
set_option maxHeartbeats 1000000 in
theorem wk_X2_records {l : Launch} {D : va_G} {base : Nat} {a0 : Option Nat} {h0 : xk_H} {r : Unit} {h' : xk_H} (E : mf_X2_records a0 h0 = some (r, h')) : xk_Ok l D base yX2_records cX2_records 2 none 2 84 [va_rf a0] h0 none h' := by
  refine xk_ofX RX2 "records" xq_X2_records rfl rfl (Nat.le_of_ble_eq_true rfl) ⟨xk_crf _, trivial⟩ (fun Γ el eD eb C Z => ?_)
  rw [mf_X2_records] at E
  show xk_X Γ 0 [(0, va_rf a0)] [] h0
  refine xr_aload_n 0 C rfl rfl dX2_records_0 ?_
  refine xr_gI C E xf_X2_43 dX2_records_1 (fun x1 E => ?_)
  refine xr_iconst (4) C (by decide) dX2_records_4 ?_
  refine xr_icmp_ne 48 C E dX2_records_5 (by decide) (fun E => ?_) (fun E => ?_)
  · exact wk_X2_records_J48 C Z E
  · refine xr_iconst (0) C (by decide) dX2_records_8 ?_
    refine xr_istore_n (L2 := [(1, .int (0 : Int32)), (0, va_rf a0)]) C rfl rfl dX2_records_9 (by decide) ?_
    refine xr_sub [1, 0] rfl ?_
    refine wk_X2_records_L10 (a0 := a0) C Z (fun h13 E => ?_) xk_fu (0 : Int32) h0 E
    · refine xr_aload_n 0 C rfl rfl dX2_records_38 ?_
      refine xr_dup C (xk_crf _) dX2_records_39 ?_
      refine xr_gI C E xf_X2_43 dX2_records_40 (fun x14 E => ?_)
      refine xr_iconst (1) C (by decide) dX2_records_43 ?_
      refine xr_isub C dX2_records_44 ?_
      refine xr_pI C E xf_X2_43 xp_X2_43 dX2_records_45 (fun h15 E => ?_)
      exact wk_X2_records_J48 C Z E
def mf_X2_make_L66 (kx104 : xk_H → Option (Int32 × xk_H)) (a0 : Option Nat) (a1 : Int32) (a2 : Int32) (a3 : Int32) : Nat → Int32 → Int32 → xk_H → Option (Int32 × xk_H)
  | 0, _, _, _ => none
  | n + 1, a5, a6, h0 => if (4 : Int32) ≤ a6 then (kx104 h0) else (xm_gR [2] 0 a0 h0 fun x13 => xm_lI [100] x13 (0 : Int32) h0 fun x14 => xm_rc [2] a0 h0 <| xm_cl (mf_X2_lays a0 x14 ((3 : Int32) + a6) (a5 - a5 / (27 : Int32) * (27 : Int32)) h0) fun r15 h16 => mf_X2_make_L66 kx104 a0 a1 a2 a3 n (a5 / (27 : Int32)) (a6 + 1) h16)
set_option maxHeartbeats 1000000 in
theorem wk_X2_make_L66 {Γ : xk_C} {r : Int32} {h' : xk_H} {kx104 : xk_H → Option (Int32 × xk_H)} {a0 : Option Nat} {a1 : Int32} {a2 : Int32} {a3 : Int32} (C : xk_Cx Γ RX2 cX2_make 7 (Option.some FieldType.int) "make" 3 109) (Z : xk_Z Γ (some (.int r)) h') (hkx104 : ∀ (g : xk_H), kx104 g = some (r, h') → xk_X Γ 104 [(0, va_rf a0), (1, .int a1), (2, .int a2), (3, .int a3)] [] g) : ∀ (n : Nat) (a5 : Int32) (a6 : Int32) (h0 : xk_H), mf_X2_make_L66 kx104 a0 a1 a2 a3 n a5 a6 h0 = some (r, h') → xk_X Γ 66 [(0, va_rf a0), (1, .int a1), (2, .int a2), (3, .int a3), (5, .int a5), (6, .int a6)] [] h0 := by
  intro n
  induction n with
  | zero =>
    intro a5 a6 h0 E
    rw [mf_X2_make_L66] at E
    cases E
  | succ n ih =>
    intro a5 a6 h0 E
    have hkb66 : ∀ (m5 : Int32) (m6 : Int32) (g : xk_H), mf_X2_make_L66 kx104 a0 a1 a2 a3 n m5 m6 g = some (r, h') → xk_X Γ 66 [(0, va_rf a0), (1, .int a1), (2, .int a2), (3, .int a3), (5, .int m5), (6, .int m6)] [] g := ih
    rw [mf_X2_make_L66] at E
    refine xr_iload 5 C rfl dX2_make_66 ?_
    refine xr_iconst (4) C (by decide) dX2_make_68 ?_
    refine xr_icmp_ge 104 C E dX2_make_69 (by decide) (fun E => ?_) (fun E => ?_)
    · refine xr_sub [0, 1, 2, 3] rfl ?_
      exact hkx104 h0 E
    · refine xr_aload_n 0 C rfl rfl dX2_make_72 ?_
      refine xr_aload_n 0 C rfl rfl dX2_make_73 ?_
      refine xr_gR C E xf_X2_7 dX2_make_74 (fun x13 E => ?_)
      refine xr_iconst (0) C (by decide) dX2_make_77 ?_
      refine xr_lI C E xt_100 dX2_make_78 (fun x14 E => ?_)
      refine xr_iconst (3) C (by decide) dX2_make_79 ?_
      refine xr_iload 5 C rfl dX2_make_80 ?_
      refine xr_iadd C dX2_make_82 ?_
      refine xr_iload 4 C rfl dX2_make_83 ?_
      refine xr_bipush (27) C (by decide) dX2_make_85 ?_
      refine xr_irem C (by decide) dX2_make_87 ?_
      refine xr_V (v := a0) [.int x14, .int ((3 : Int32) + a6), .int (a5 - a5 / (27 : Int32) * (27 : Int32))] [] (fun _ => none) (fun _ => []) C E xi_2_SlatCratesModel (fun r h' e => wk_X2_lays e) q2219 q2221 qs33 q89 q2222 xh_SlatCratesModel xd_X2_lays (by decide) (by decide) trivial (Nat.le_of_ble_eq_true rfl) rfl (fun _ => rfl) dX2_make_88 (fun r15 h16 E => ?_)
      refine xr_iload 4 C rfl dX2_make_91 ?_
      refine xr_bipush (27) C (by decide) dX2_make_93 ?_
      refine xr_idiv C (by decide) dX2_make_95 ?_
      refine xr_istore (L2 := [(5, .int (a5 / (27 : Int32))), (0, va_rf a0), (1, .int a1), (2, .int a2), (3, .int a3), (6, .int a6)]) C rfl dX2_make_96 (by decide) ?_
      refine xr_iinc (v := (a6 + 1)) (L2 := [(6, .int (a6 + 1)), (5, .int (a5 / (27 : Int32))), (0, va_rf a0), (1, .int a1), (2, .int a2), (3, .int a3)]) 5 C rfl rfl rfl dX2_make_98 (by decide) ?_
      refine xr_goto 66 C dX2_make_101 (by decide) ?_
      refine xr_sub [2, 3, 4, 5, 1, 0] rfl ?_
      exact hkb66 (a5 / (27 : Int32)) (a6 + 1) h16 E
def mf_X2_make (a0 : Option Nat) (a1 : Int32) (a2 : Int32) (a3 : Int32) (a4 : Int32) (h0 : xk_H) : Option (Int32 × xk_H) :=
  xm_cl (mf_X2_in a1 (1 : Int32) (60 : Int32) h0) fun r1 h2 => if xk_b2 r1 = 0 then (some ((-1 : Int32), h2)) else (xm_cl (mf_X2_in a2 (0 : Int32) (a1 - (1 : Int32)) h2) fun r3 h4 => if xk_b2 r3 = 0 then (some ((-1 : Int32), h4)) else (xm_cl (mf_X2_in a3 (0 : Int32) (15 : Int32) h4) fun r5 h6 => if xk_b2 r5 = 0 then (some ((-1 : Int32), h6)) else (xm_cl (mf_X2_isLabel a4 h6) fun r7 h8 => if xk_b2 r7 = 0 then (some ((-1 : Int32), h8)) else (xm_gR [2] 0 a0 h8 fun x9 => xm_lI [100] x9 (0 : Int32) h8 fun x10 => if x10 = (12 : Int32) then (some ((-3 : Int32), h8)) else (xm_rc [2] a0 h8 <| xm_cl (mf_X2_records a0 h8) fun r11 h12 => mf_X2_make_L66 (fun h17 => xm_rc [2] a0 h17 <| xm_cl (mf_X2_adds a0 a1 a2 a3 (-1 : Int32) (0 : Int32) h17) fun r18 h19 => xm_gR [2] 0 a0 h19 fun x20 => xm_lI [100] x20 (0 : Int32) h19 fun x21 => some ((x21 - (1 : Int32)), h19)) a0 a1 a2 a3 xk_fu a4 (0 : Int32) h12)))))
set_option maxHeartbeats 1000000 in
theorem wk_X2_make {l : Launch} {D : va_G} {base : Nat} {a0 : Option Nat} {a1 : Int32} {a2 : Int32} {a3 : Int32} {a4 : Int32} {h0 : xk_H} {r : Int32} {h' : xk_H} (E : mf_X2_make a0 a1 a2 a3 a4 h0 = some (r, h')) : xk_Ok l D base yX2_make cX2_make 7 (Option.some FieldType.int) 3 109 [va_rf a0, .int a1, .int a2, .int a3, .int a4] h0 (some (.int r)) h' := by
  refine xk_ofX RX2 "make" xq_X2_make rfl rfl (Nat.le_of_ble_eq_true rfl) ⟨xk_crf _, ⟨rfl, ⟨rfl, ⟨rfl, ⟨rfl, trivial⟩⟩⟩⟩⟩ (fun Γ el eD eb C Z => ?_)
  rw [mf_X2_make] at E
  show xk_X Γ 0 [(0, va_rf a0), (1, .int a1), (2, .int a2), (3, .int a3), (4, .int a4)] [] h0
  refine xr_iload_n 1 C rfl rfl dX2_make_0 ?_
  refine xr_iconst (1) C (by decide) dX2_make_1 ?_
  refine xr_bipush (60) C (by decide) dX2_make_2 ?_
  refine xr_S [.int a1, .int (1 : Int32), .int (60 : Int32)] [] (fun r => some (.int (xk_b2 r))) (fun r => .int (xk_b2 r) :: []) C E (fun r h' e => wk_X2_in e) q2205 q2206 q89 q2207 xh_SlatCratesModel xd_X2_in (by decide) (by decide) trivial (Nat.le_of_ble_eq_true rfl) rfl (fun _ => rfl) dX2_make_4 (fun r1 h2 E => ?_)
  refine xr_if_eq 39 C E dX2_make_7 (by decide) (fun E => ?_) (fun E => ?_)
  · refine xr_iconst (-1) C (by decide) dX2_make_39 ?_
    exact xr_iret C Z E dX2_make_40
  · refine xr_iload_n 2 C rfl rfl dX2_make_10 ?_
    refine xr_iconst (0) C (by decide) dX2_make_11 ?_
    refine xr_iload_n 1 C rfl rfl dX2_make_12 ?_
    refine xr_iconst (1) C (by decide) dX2_make_13 ?_
    refine xr_isub C dX2_make_14 ?_
    refine xr_S [.int a2, .int (0 : Int32), .int (a1 - (1 : Int32))] [] (fun r => some (.int (xk_b2 r))) (fun r => .int (xk_b2 r) :: []) C E (fun r h' e => wk_X2_in e) q2205 q2206 q89 q2207 xh_SlatCratesModel xd_X2_in (by decide) (by decide) trivial (Nat.le_of_ble_eq_true rfl) rfl (fun _ => rfl) dX2_make_15 (fun r3 h4 E => ?_)
    refine xr_if_eq 39 C E dX2_make_18 (by decide) (fun E => ?_) (fun E => ?_)
    · refine xr_iconst (-1) C (by decide) dX2_make_39 ?_
      exact xr_iret C Z E dX2_make_40
    · refine xr_iload_n 3 C rfl rfl dX2_make_21 ?_
      refine xr_iconst (0) C (by decide) dX2_make_22 ?_
      refine xr_bipush (15) C (by decide) dX2_make_23 ?_
      refine xr_S [.int a3, .int (0 : Int32), .int (15 : Int32)] [] (fun r => some (.int (xk_b2 r))) (fun r => .int (xk_b2 r) :: []) C E (fun r h' e => wk_X2_in e) q2205 q2206 q89 q2207 xh_SlatCratesModel xd_X2_in (by decide) (by decide) trivial (Nat.le_of_ble_eq_true rfl) rfl (fun _ => rfl) dX2_make_25 (fun r5 h6 E => ?_)
      refine xr_if_eq 39 C E dX2_make_28 (by decide) (fun E => ?_) (fun E => ?_)
      · refine xr_iconst (-1) C (by decide) dX2_make_39 ?_
        exact xr_iret C Z E dX2_make_40
      · refine xr_iload 4 C rfl dX2_make_31 ?_
        refine xr_S [.int a4] [] (fun r => some (.int (xk_b2 r))) (fun r => .int (xk_b2 r) :: []) C E (fun r h' e => wk_X2_isLabel e) q2208 q2209 q89 q2210 xh_SlatCratesModel xd_X2_isLabel (by decide) (by decide) trivial (Nat.le_of_ble_eq_true rfl) rfl (fun _ => rfl) dX2_make_33 (fun r7 h8 E => ?_)
        refine xr_if_ne 41 C E dX2_make_36 (by decide) (fun E => ?_) (fun E => ?_)
        · refine xr_aload_n 0 C rfl rfl dX2_make_41 ?_
          refine xr_gR C E xf_X2_7 dX2_make_42 (fun x9 E => ?_)
          refine xr_iconst (0) C (by decide) dX2_make_45 ?_
          refine xr_lI C E xt_100 dX2_make_46 (fun x10 E => ?_)
          refine xr_bipush (12) C (by decide) dX2_make_47 ?_
          refine xr_icmp_ne 55 C E dX2_make_49 (by decide) (fun E => ?_) (fun E => ?_)
          · refine xr_aload_n 0 C rfl rfl dX2_make_55 ?_
            refine xr_V (v := a0) [] [] (fun _ => none) (fun _ => []) C E xi_2_SlatCratesModel (fun r h' e => wk_X2_records e) q2212 q2214 qs32 q89 q2215 xh_SlatCratesModel xd_X2_records (by decide) (by decide) trivial (Nat.le_of_ble_eq_true rfl) rfl (fun _ => rfl) dX2_make_56 (fun r11 h12 E => ?_)
            refine xr_iload 4 C rfl dX2_make_59 ?_
            refine xr_istore (L2 := [(5, .int a4), (0, va_rf a0), (1, .int a1), (2, .int a2), (3, .int a3), (4, .int a4)]) C rfl dX2_make_61 (by decide) ?_
            refine xr_iconst (0) C (by decide) dX2_make_63 ?_
            refine xr_istore (L2 := [(6, .int (0 : Int32)), (5, .int a4), (0, va_rf a0), (1, .int a1), (2, .int a2), (3, .int a3), (4, .int a4)]) C rfl dX2_make_64 (by decide) ?_
            refine xr_sub [2, 3, 4, 5, 1, 0] rfl ?_
            refine wk_X2_make_L66 (a0 := a0) (a1 := a1) (a2 := a2) (a3 := a3) C Z (fun h17 E => ?_) xk_fu a4 (0 : Int32) h12 E
            · refine xr_aload_n 0 C rfl rfl dX2_make_104 ?_
              refine xr_iload_n 1 C rfl rfl dX2_make_105 ?_
              refine xr_iload_n 2 C rfl rfl dX2_make_106 ?_
              refine xr_iload_n 3 C rfl rfl dX2_make_107 ?_
              refine xr_iconst (-1) C (by decide) dX2_make_108 ?_
              refine xr_iconst (0) C (by decide) dX2_make_109 ?_
              refine xr_V (v := a0) [.int a1, .int a2, .int a3, .int (-1 : Int32), .int (0 : Int32)] [] (fun _ => none) (fun _ => []) C E xi_2_SlatCratesModel (fun r h' e => wk_X2_adds e) q2223 q2225 qs34 q89 q2226 xh_SlatCratesModel xd_X2_adds (by decide) (by decide) trivial (Nat.le_of_ble_eq_true rfl) rfl (fun _ => rfl) dX2_make_110 (fun r18 h19 E => ?_)
              refine xr_aload_n 0 C rfl rfl dX2_make_113 ?_
              refine xr_gR C E xf_X2_7 dX2_make_114 (fun x20 E => ?_)
              refine xr_iconst (0) C (by decide) dX2_make_117 ?_
              refine xr_lI C E xt_100 dX2_make_118 (fun x21 E => ?_)
              refine xr_iconst (1) C (by decide) dX2_make_119 ?_
              refine xr_isub C dX2_make_120 ?_
              exact xr_iret C Z E dX2_make_121
          · refine xr_bipush (-3) C (by decide) dX2_make_52 ?_
            exact xr_iret C Z E dX2_make_54
        · refine xr_iconst (-1) C (by decide) dX2_make_39 ?_
          exact xr_iret C Z E dX2_make_40
def mf_X2_of (a0 : Option Nat) (a1 : Int32) (a2 : Int32) (h0 : xk_H) : Option (Int32 × xk_H) :=
  xm_gR [2] 0 a0 h0 fun x1 => xm_lI [100] x1 (((2 : Int32) + ((9 : Int32) * a1)) + a2) h0 fun x2 => some (x2, h0)
set_option maxHeartbeats 1000000 in
theorem wk_X2_of {l : Launch} {D : va_G} {base : Nat} {a0 : Option Nat} {a1 : Int32} {a2 : Int32} {h0 : xk_H} {r : Int32} {h' : xk_H} (E : mf_X2_of a0 a1 a2 h0 = some (r, h')) : xk_Ok l D base yX2_of cX2_of 3 (Option.some FieldType.int) 1 60 [va_rf a0, .int a1, .int a2] h0 (some (.int r)) h' := by
  refine xk_ofX RX2 "of" xq_X2_of rfl rfl (Nat.le_of_ble_eq_true rfl) ⟨xk_crf _, ⟨rfl, ⟨rfl, trivial⟩⟩⟩ (fun Γ el eD eb C Z => ?_)
  rw [mf_X2_of] at E
  show xk_X Γ 0 [(0, va_rf a0), (1, .int a1), (2, .int a2)] [] h0
  refine xr_aload_n 0 C rfl rfl dX2_of_0 ?_
  refine xr_gR C E xf_X2_7 dX2_of_1 (fun x1 E => ?_)
  refine xr_iconst (2) C (by decide) dX2_of_4 ?_
  refine xr_bipush (9) C (by decide) dX2_of_5 ?_
  refine xr_iload_n 1 C rfl rfl dX2_of_7 ?_
  refine xr_imul C dX2_of_8 ?_
  refine xr_iadd C dX2_of_9 ?_
  refine xr_iload_n 2 C rfl rfl dX2_of_10 ?_
  refine xr_iadd C dX2_of_11 ?_
  refine xr_lI C E xt_100 dX2_of_12 (fun x2 E => ?_)
  exact xr_iret C Z E dX2_of_13
def mf_X2_around (a0 : Option Nat) (a1 : Int32) (h0 : xk_H) : Option (Int32 × xk_H) :=
  xm_rc [2] a0 h0 <| xm_cl (mf_X2_of a0 a1 (7 : Int32) h0) fun r1 h2 => some ((r1 - (1 : Int32)), h2)
set_option maxHeartbeats 1000000 in
theorem wk_X2_around {l : Launch} {D : va_G} {base : Nat} {a0 : Option Nat} {a1 : Int32} {h0 : xk_H} {r : Int32} {h' : xk_H} (E : mf_X2_around a0 a1 h0 = some (r, h')) : xk_Ok l D base yX2_around cX2_around 2 (Option.some FieldType.int) 2 82 [va_rf a0, .int a1] h0 (some (.int r)) h' := by
  refine xk_ofX RX2 "around" xq_X2_around rfl rfl (Nat.le_of_ble_eq_true rfl) ⟨xk_crf _, ⟨rfl, trivial⟩⟩ (fun Γ el eD eb C Z => ?_)
  rw [mf_X2_around] at E
  show xk_X Γ 0 [(0, va_rf a0), (1, .int a1)] [] h0
  refine xr_aload_n 0 C rfl rfl dX2_around_0 ?_
  refine xr_iload_n 1 C rfl rfl dX2_around_1 ?_
  refine xr_bipush (7) C (by decide) dX2_around_2 ?_
  refine xr_V (v := a0) [.int a1, .int (7 : Int32)] [] (fun r => some (.int r)) (fun r => .int r :: []) C E xi_2_SlatCratesModel (fun r h' e => wk_X2_of e) q2247 q2249 qs39 q89 q2250 xh_SlatCratesModel xd_X2_of (by decide) (by decide) trivial (Nat.le_of_ble_eq_true rfl) rfl (fun _ => rfl) dX2_around_4 (fun r1 h2 E => ?_)
  refine xr_iconst (1) C (by decide) dX2_around_7 ?_
  refine xr_isub C dX2_around_8 ?_
  exact xr_iret C Z E dX2_around_9
def mf_X2_depthOf_L8 (a0 : Option Nat) : Nat → Int32 → Int32 → xk_H → Option (Int32 × xk_H)
  | 0, _, _, _ => none
  | n + 1, a2, a3, h0 => if a3 < 0 then (some (a2, h0)) else (xm_rc [2] a0 h0 <| xm_cl (mf_X2_around a0 a3 h0) fun r3 h4 => mf_X2_depthOf_L8 a0 n (a2 + 1) r3 h4)
set_option maxHeartbeats 1000000 in
theorem wk_X2_depthOf_L8 {Γ : xk_C} {r : Int32} {h' : xk_H} {a0 : Option Nat} (C : xk_Cx Γ RX2 cX2_depthOf 4 (Option.some FieldType.int) "depthOf" 3 103) (Z : xk_Z Γ (some (.int r)) h') : ∀ (n : Nat) (a2 : Int32) (a3 : Int32) (h0 : xk_H), mf_X2_depthOf_L8 a0 n a2 a3 h0 = some (r, h') → xk_X Γ 8 [(0, va_rf a0), (2, .int a2), (3, .int a3)] [] h0 := by
  intro n
  induction n with
  | zero =>
    intro a2 a3 h0 E
    rw [mf_X2_depthOf_L8] at E
    cases E
  | succ n ih =>
    intro a2 a3 h0 E
    have hkb8 : ∀ (m2 : Int32) (m3 : Int32) (g : xk_H), mf_X2_depthOf_L8 a0 n m2 m3 g = some (r, h') → xk_X Γ 8 [(0, va_rf a0), (2, .int m2), (3, .int m3)] [] g := ih
    rw [mf_X2_depthOf_L8] at E
    refine xr_iload_n 2 C rfl rfl dX2_depthOf_8 ?_
    refine xr_if_lt 24 C E dX2_depthOf_9 (by decide) (fun E => ?_) (fun E => ?_)
    · refine xr_iload_n 1 C rfl rfl dX2_depthOf_24 ?_
      exact xr_iret C Z E dX2_depthOf_25
    · refine xr_iinc (v := (a2 + 1)) (L2 := [(2, .int (a2 + 1)), (0, va_rf a0), (3, .int a3)]) 1 C rfl rfl rfl dX2_depthOf_12 (by decide) ?_
      refine xr_aload_n 1 C rfl rfl dX2_depthOf_15 ?_
      refine xr_iload_n 2 C rfl rfl dX2_depthOf_16 ?_
      refine xr_V (v := a0) [.int a3] [] (fun r => some (.int r)) (fun r => .int r :: []) C E xi_2_SlatCratesModel (fun r h' e => wk_X2_around e) q2243 q2245 qs38 q89 q2246 xh_SlatCratesModel xd_X2_around (by decide) (by decide) trivial (Nat.le_of_ble_eq_true rfl) rfl (fun _ => rfl) dX2_depthOf_17 (fun r3 h4 E => ?_)
      refine xr_istore_n (L2 := [(3, .int r3), (2, .int (a2 + 1)), (0, va_rf a0)]) C rfl rfl dX2_depthOf_20 (by decide) ?_
      refine xr_goto 8 C dX2_depthOf_21 (by decide) ?_
      refine xr_sub [2, 1, 0] rfl ?_
      exact hkb8 (a2 + 1) r3 h4 E
def mf_X2_depthOf (a0 : Option Nat) (a1 : Int32) (h0 : xk_H) : Option (Int32 × xk_H) :=
  xm_rc [2] a0 h0 <| xm_cl (mf_X2_around a0 a1 h0) fun r1 h2 => mf_X2_depthOf_L8 a0 xk_fu (0 : Int32) r1 h2
set_option maxHeartbeats 1000000 in
theorem wk_X2_depthOf {l : Launch} {D : va_G} {base : Nat} {a0 : Option Nat} {a1 : Int32} {h0 : xk_H} {r : Int32} {h' : xk_H} (E : mf_X2_depthOf a0 a1 h0 = some (r, h')) : xk_Ok l D base yX2_depthOf cX2_depthOf 4 (Option.some FieldType.int) 3 103 [va_rf a0, .int a1] h0 (some (.int r)) h' := by
  refine xk_ofX RX2 "depthOf" xq_X2_depthOf rfl rfl (Nat.le_of_ble_eq_true rfl) ⟨xk_crf _, ⟨rfl, trivial⟩⟩ (fun Γ el eD eb C Z => ?_)
  rw [mf_X2_depthOf] at E
  show xk_X Γ 0 [(0, va_rf a0), (1, .int a1)] [] h0
  refine xr_iconst (0) C (by decide) dX2_depthOf_0 ?_
  refine xr_istore_n (L2 := [(2, .int (0 : Int32)), (0, va_rf a0), (1, .int a1)]) C rfl rfl dX2_depthOf_1 (by decide) ?_
  refine xr_aload_n 1 C rfl rfl dX2_depthOf_2 ?_
  refine xr_iload_n 2 C rfl rfl dX2_depthOf_3 ?_
  refine xr_V (v := a0) [.int a1] [] (fun r => some (.int r)) (fun r => .int r :: []) C E xi_2_SlatCratesModel (fun r h' e => wk_X2_around e) q2243 q2245 qs38 q89 q2246 xh_SlatCratesModel xd_X2_around (by decide) (by decide) trivial (Nat.le_of_ble_eq_true rfl) rfl (fun _ => rfl) dX2_depthOf_4 (fun r1 h2 E => ?_)
  refine xr_istore_n (L2 := [(3, .int r1), (2, .int (0 : Int32)), (0, va_rf a0), (1, .int a1)]) C rfl rfl dX2_depthOf_7 (by decide) ?_
  refine xr_sub [2, 1, 0] rfl ?_
  exact wk_X2_depthOf_L8 (a0 := a0) C Z xk_fu (0 : Int32) r1 h2 E
def mf_X2_isCrate (a0 : Option Nat) (a1 : Int32) (h0 : xk_H) : Option (Bool × xk_H) :=
  xm_gR [2] 0 a0 h0 fun x1 => xm_lI [100] x1 (0 : Int32) h0 fun x2 => xm_cl (mf_X2_in a1 (0 : Int32) (x2 - (1 : Int32)) h0) fun r3 h4 => some (r3, h4)
set_option maxHeartbeats 1000000 in
theorem wk_X2_isCrate {l : Launch} {D : va_G} {base : Nat} {a0 : Option Nat} {a1 : Int32} {h0 : xk_H} {r : Bool} {h' : xk_H} (E : mf_X2_isCrate a0 a1 h0 = some (r, h')) : xk_Ok l D base yX2_isCrate cX2_isCrate 2 (Option.some FieldType.boolean) 2 82 [va_rf a0, .int a1] h0 (some (.int (xk_b2 r))) h' := by
  refine xk_ofX RX2 "isCrate" xq_X2_isCrate rfl rfl (Nat.le_of_ble_eq_true rfl) ⟨xk_crf _, ⟨rfl, trivial⟩⟩ (fun Γ el eD eb C Z => ?_)
  rw [mf_X2_isCrate] at E
  show xk_X Γ 0 [(0, va_rf a0), (1, .int a1)] [] h0
  refine xr_iload_n 1 C rfl rfl dX2_isCrate_0 ?_
  refine xr_iconst (0) C (by decide) dX2_isCrate_1 ?_
  refine xr_aload_n 0 C rfl rfl dX2_isCrate_2 ?_
  refine xr_gR C E xf_X2_7 dX2_isCrate_3 (fun x1 E => ?_)
  refine xr_iconst (0) C (by decide) dX2_isCrate_6 ?_
  refine xr_lI C E xt_100 dX2_isCrate_7 (fun x2 E => ?_)
  refine xr_iconst (1) C (by decide) dX2_isCrate_8 ?_
  refine xr_isub C dX2_isCrate_9 ?_
  refine xr_S [.int a1, .int (0 : Int32), .int (x2 - (1 : Int32))] [] (fun r => some (.int (xk_b2 r))) (fun r => .int (xk_b2 r) :: []) C E (fun r h' e => wk_X2_in e) q2205 q2206 q89 q2207 xh_SlatCratesModel xd_X2_in (by decide) (by decide) trivial (Nat.le_of_ble_eq_true rfl) rfl (fun _ => rfl) dX2_isCrate_10 (fun r3 h4 E => ?_)
  exact xr_bret (b := r3) C Z E dX2_isCrate_13
def mf_X2_pile_L4 (a0 : Option Nat) (a1 : Int32) : Nat → Int32 → Int32 → xk_H → Option (Int32 × xk_H)
  | 0, _, _, _ => none
  | n + 1, a2, a3, h0 => xm_gR [2] 0 a0 h0 fun x1 => xm_lI [100] x1 (0 : Int32) h0 fun x2 => if x2 ≤ a3 then (some (a2, h0)) else (xm_rc [2] a0 h0 <| xm_cl (mf_X2_around a0 a3 h0) fun r3 h4 => if r3 = a1 then (mf_X2_pile_L4 a0 a1 n (a2 + (1 : Int32)) (a3 + 1) h4) else (mf_X2_pile_L4 a0 a1 n (a2 + (0 : Int32)) (a3 + 1) h4))
set_option maxHeartbeats 1000000 in
theorem wk_X2_pile_L4 {Γ : xk_C} {r : Int32} {h' : xk_H} {a0 : Option Nat} {a1 : Int32} (C : xk_Cx Γ RX2 cX2_pile 4 (Option.some FieldType.int) "pile" 3 103) (Z : xk_Z Γ (some (.int r)) h') : ∀ (n : Nat) (a2 : Int32) (a3 : Int32) (h0 : xk_H), mf_X2_pile_L4 a0 a1 n a2 a3 h0 = some (r, h') → xk_X Γ 4 [(0, va_rf a0), (1, .int a1), (2, .int a2), (3, .int a3)] [] h0 := by
  intro n
  induction n with
  | zero =>
    intro a2 a3 h0 E
    rw [mf_X2_pile_L4] at E
    cases E
  | succ n ih =>
    intro a2 a3 h0 E
    have hkb4 : ∀ (m2 : Int32) (m3 : Int32) (g : xk_H), mf_X2_pile_L4 a0 a1 n m2 m3 g = some (r, h') → xk_X Γ 4 [(0, va_rf a0), (1, .int a1), (2, .int m2), (3, .int m3)] [] g := ih
    rw [mf_X2_pile_L4] at E
    refine xr_iload_n 3 C rfl rfl dX2_pile_4 ?_
    refine xr_aload_n 0 C rfl rfl dX2_pile_5 ?_
    refine xr_gR C E xf_X2_7 dX2_pile_6 (fun x1 E => ?_)
    refine xr_iconst (0) C (by decide) dX2_pile_9 ?_
    refine xr_lI C E xt_100 dX2_pile_10 (fun x2 E => ?_)
    refine xr_icmp_ge 37 C E dX2_pile_11 (by decide) (fun E => ?_) (fun E => ?_)
    · refine xr_iload_n 2 C rfl rfl dX2_pile_37 ?_
      exact xr_iret C Z E dX2_pile_38
    · refine xr_iload_n 2 C rfl rfl dX2_pile_14 ?_
      refine xr_aload_n 0 C rfl rfl dX2_pile_15 ?_
      refine xr_iload_n 3 C rfl rfl dX2_pile_16 ?_
      refine xr_V (v := a0) [.int a3] [.int a2] (fun r => some (.int r)) (fun r => .int r :: [.int a2]) C E xi_2_SlatCratesModel (fun r h' e => wk_X2_around e) q2243 q2245 qs38 q89 q2246 xh_SlatCratesModel xd_X2_around (by decide) (by decide) ⟨rfl, trivial⟩ (Nat.le_of_ble_eq_true rfl) rfl (fun _ => rfl) dX2_pile_17 (fun r3 h4 E => ?_)
      refine xr_iload_n 1 C rfl rfl dX2_pile_20 ?_
      refine xr_icmp_ne 28 C E dX2_pile_21 (by decide) (fun E => ?_) (fun E => ?_)
      · refine xr_iconst (0) C (by decide) dX2_pile_28 ?_
        refine xr_iadd C dX2_pile_29 ?_
        refine xr_istore_n (L2 := [(2, .int (a2 + (0 : Int32))), (0, va_rf a0), (1, .int a1), (3, .int a3)]) C rfl rfl dX2_pile_30 (by decide) ?_
        refine xr_iinc (v := (a3 + 1)) (L2 := [(3, .int (a3 + 1)), (2, .int (a2 + (0 : Int32))), (0, va_rf a0), (1, .int a1)]) 3 C rfl rfl rfl dX2_pile_31 (by decide) ?_
        refine xr_goto 4 C dX2_pile_34 (by decide) ?_
        refine xr_sub [2, 3, 1, 0] rfl ?_
        exact hkb4 (a2 + (0 : Int32)) (a3 + 1) h4 E
      · refine xr_iconst (1) C (by decide) dX2_pile_24 ?_
        refine xr_goto 29 C dX2_pile_25 (by decide) ?_
        refine xr_iadd C dX2_pile_29 ?_
        refine xr_istore_n (L2 := [(2, .int (a2 + (1 : Int32))), (0, va_rf a0), (1, .int a1), (3, .int a3)]) C rfl rfl dX2_pile_30 (by decide) ?_
        refine xr_iinc (v := (a3 + 1)) (L2 := [(3, .int (a3 + 1)), (2, .int (a2 + (1 : Int32))), (0, va_rf a0), (1, .int a1)]) 3 C rfl rfl rfl dX2_pile_31 (by decide) ?_
        refine xr_goto 4 C dX2_pile_34 (by decide) ?_
        refine xr_sub [2, 3, 1, 0] rfl ?_
        exact hkb4 (a2 + (1 : Int32)) (a3 + 1) h4 E
def mf_X2_pile (a0 : Option Nat) (a1 : Int32) (h0 : xk_H) : Option (Int32 × xk_H) :=
  mf_X2_pile_L4 a0 a1 xk_fu (0 : Int32) (0 : Int32) h0
set_option maxHeartbeats 1000000 in
theorem wk_X2_pile {l : Launch} {D : va_G} {base : Nat} {a0 : Option Nat} {a1 : Int32} {h0 : xk_H} {r : Int32} {h' : xk_H} (E : mf_X2_pile a0 a1 h0 = some (r, h')) : xk_Ok l D base yX2_pile cX2_pile 4 (Option.some FieldType.int) 3 103 [va_rf a0, .int a1] h0 (some (.int r)) h' := by
  refine xk_ofX RX2 "pile" xq_X2_pile rfl rfl (Nat.le_of_ble_eq_true rfl) ⟨xk_crf _, ⟨rfl, trivial⟩⟩ (fun Γ el eD eb C Z => ?_)
  rw [mf_X2_pile] at E
  show xk_X Γ 0 [(0, va_rf a0), (1, .int a1)] [] h0
  refine xr_iconst (0) C (by decide) dX2_pile_0 ?_
  refine xr_istore_n (L2 := [(2, .int (0 : Int32)), (0, va_rf a0), (1, .int a1)]) C rfl rfl dX2_pile_1 (by decide) ?_
  refine xr_iconst (0) C (by decide) dX2_pile_2 ?_
  refine xr_istore_n (L2 := [(3, .int (0 : Int32)), (2, .int (0 : Int32)), (0, va_rf a0), (1, .int a1)]) C rfl rfl dX2_pile_3 (by decide) ?_
  refine xr_sub [2, 3, 1, 0] rfl ?_
  exact wk_X2_pile_L4 (a0 := a0) (a1 := a1) C Z xk_fu (0 : Int32) (0 : Int32) h0 E
def mf_X2_holds_L2 (kx20 : Int32 → xk_H → Option (Bool × xk_H)) (a0 : Option Nat) (a1 : Int32) : Nat → Int32 → xk_H → Option (Bool × xk_H)
  | 0, _, _ => none
  | n + 1, a3, h0 => if a3 < 0 then (kx20 a3 h0) else (if a3 = a1 then (kx20 a3 h0) else (xm_rc [2] a0 h0 <| xm_cl (mf_X2_around a0 a3 h0) fun r1 h2 => mf_X2_holds_L2 kx20 a0 a1 n r1 h2))
set_option maxHeartbeats 1000000 in
theorem wk_X2_holds_L2 {Γ : xk_C} {r : Bool} {h' : xk_H} {kx20 : Int32 → xk_H → Option (Bool × xk_H)} {a0 : Option Nat} {a1 : Int32} (C : xk_Cx Γ RX2 cX2_holds 4 (Option.some FieldType.boolean) "holds" 3 103) (Z : xk_Z Γ (some (.int (xk_b2 r))) h') (hkx20 : ∀ (m3 : Int32) (g : xk_H), kx20 m3 g = some (r, h') → xk_X Γ 20 [(1, .int a1), (3, .int m3)] [] g) : ∀ (n : Nat) (a3 : Int32) (h0 : xk_H), mf_X2_holds_L2 kx20 a0 a1 n a3 h0 = some (r, h') → xk_X Γ 2 [(0, va_rf a0), (1, .int a1), (3, .int a3)] [] h0 := by
  intro n
  induction n with
  | zero =>
    intro a3 h0 E
    rw [mf_X2_holds_L2] at E
    cases E
  | succ n ih =>
    intro a3 h0 E
    have hkb2 : ∀ (m3 : Int32) (g : xk_H), mf_X2_holds_L2 kx20 a0 a1 n m3 g = some (r, h') → xk_X Γ 2 [(0, va_rf a0), (1, .int a1), (3, .int m3)] [] g := ih
    rw [mf_X2_holds_L2] at E
    refine xr_iload_n 2 C rfl rfl dX2_holds_2 ?_
    refine xr_if_lt 20 C E dX2_holds_3 (by decide) (fun E => ?_) (fun E => ?_)
    · refine xr_sub [1, 2] rfl ?_
      exact hkx20 a3 h0 E
    · refine xr_iload_n 2 C rfl rfl dX2_holds_6 ?_
      refine xr_iload_n 1 C rfl rfl dX2_holds_7 ?_
      refine xr_icmp_eq 20 C E dX2_holds_8 (by decide) (fun E => ?_) (fun E => ?_)
      · refine xr_sub [1, 2] rfl ?_
        exact hkx20 a3 h0 E
      · refine xr_aload_n 0 C rfl rfl dX2_holds_11 ?_
        refine xr_iload_n 2 C rfl rfl dX2_holds_12 ?_
        refine xr_V (v := a0) [.int a3] [] (fun r => some (.int r)) (fun r => .int r :: []) C E xi_2_SlatCratesModel (fun r h' e => wk_X2_around e) q2243 q2245 qs38 q89 q2246 xh_SlatCratesModel xd_X2_around (by decide) (by decide) trivial (Nat.le_of_ble_eq_true rfl) rfl (fun _ => rfl) dX2_holds_13 (fun r1 h2 E => ?_)
        refine xr_istore_n (L2 := [(3, .int r1), (0, va_rf a0), (1, .int a1)]) C rfl rfl dX2_holds_16 (by decide) ?_
        refine xr_goto 2 C dX2_holds_17 (by decide) ?_
        refine xr_sub [1, 2, 0] rfl ?_
        exact hkb2 r1 h2 E
def mf_X2_holds_J20 (a1 : Int32) (a3 : Int32) (h0 : xk_H) : Option (Bool × xk_H) :=
  if a3 = a1 then (some (true, h0)) else (some (false, h0))
set_option maxHeartbeats 1000000 in
theorem wk_X2_holds_J20 {Γ : xk_C} {r : Bool} {h' : xk_H} {a1 : Int32} {a3 : Int32} {h0 : xk_H} (C : xk_Cx Γ RX2 cX2_holds 4 (Option.some FieldType.boolean) "holds" 3 103) (Z : xk_Z Γ (some (.int (xk_b2 r))) h') (E : mf_X2_holds_J20 a1 a3 h0 = some (r, h')) : xk_X Γ 20 [(1, .int a1), (3, .int a3)] [] h0 := by
  rw [mf_X2_holds_J20] at E
  refine xr_iload_n 1 C rfl rfl dX2_holds_20 ?_
  refine xr_iload_n 0 C rfl rfl dX2_holds_21 ?_
  refine xr_icmp_ne 29 C E dX2_holds_22 (by decide) (fun E => ?_) (fun E => ?_)
  · refine xr_iconst (0) C (by decide) dX2_holds_29 ?_
    exact xr_bret (b := false) C Z E dX2_holds_30
  · refine xr_iconst (1) C (by decide) dX2_holds_25 ?_
    refine xr_goto 30 C dX2_holds_26 (by decide) ?_
    exact xr_bret (b := true) C Z E dX2_holds_30
def mf_X2_holds (a0 : Option Nat) (a1 : Int32) (a2 : Int32) (h0 : xk_H) : Option (Bool × xk_H) :=
  mf_X2_holds_L2 (fun m3 h4 => mf_X2_holds_J20 a1 m3 h4) a0 a1 xk_fu a2 h0
set_option maxHeartbeats 1000000 in
theorem wk_X2_holds {l : Launch} {D : va_G} {base : Nat} {a0 : Option Nat} {a1 : Int32} {a2 : Int32} {h0 : xk_H} {r : Bool} {h' : xk_H} (E : mf_X2_holds a0 a1 a2 h0 = some (r, h')) : xk_Ok l D base yX2_holds cX2_holds 4 (Option.some FieldType.boolean) 3 103 [va_rf a0, .int a1, .int a2] h0 (some (.int (xk_b2 r))) h' := by
  refine xk_ofX RX2 "holds" xq_X2_holds rfl rfl (Nat.le_of_ble_eq_true rfl) ⟨xk_crf _, ⟨rfl, ⟨rfl, trivial⟩⟩⟩ (fun Γ el eD eb C Z => ?_)
  rw [mf_X2_holds] at E
  show xk_X Γ 0 [(0, va_rf a0), (1, .int a1), (2, .int a2)] [] h0
  refine xr_iload_n 2 C rfl rfl dX2_holds_0 ?_
  refine xr_istore_n (L2 := [(3, .int a2), (0, va_rf a0), (1, .int a1), (2, .int a2)]) C rfl rfl dX2_holds_1 (by decide) ?_
  refine xr_sub [1, 2, 0] rfl ?_
  refine wk_X2_holds_L2 (a0 := a0) (a1 := a1) C Z (fun m3 h4 E => ?_) xk_fu a2 h0 E
  · exact wk_X2_holds_J20 C Z E
def mf_X2_isTop (a0 : Option Nat) (a1 : Int32) (h0 : xk_H) : Option (Bool × xk_H) :=
  xm_rc [2] a0 h0 <| xm_cl (mf_X2_around a0 a1 h0) fun r1 h2 => if r1 < 0 then (some (true, h2)) else (xm_rc [2] a0 h2 <| xm_cl (mf_X2_of a0 a1 (8 : Int32) h2) fun r3 h4 => xm_rc [2] a0 h4 <| xm_cl (mf_X2_around a0 a1 h4) fun r5 h6 => xm_rc [2] a0 h6 <| xm_cl (mf_X2_pile a0 r5 h6) fun r7 h8 => if r3 = (r7 - (1 : Int32)) then (some (true, h8)) else (some (false, h8)))
set_option maxHeartbeats 1000000 in
theorem wk_X2_isTop {l : Launch} {D : va_G} {base : Nat} {a0 : Option Nat} {a1 : Int32} {h0 : xk_H} {r : Bool} {h' : xk_H} (E : mf_X2_isTop a0 a1 h0 = some (r, h')) : xk_Ok l D base yX2_isTop cX2_isTop 2 (Option.some FieldType.boolean) 4 126 [va_rf a0, .int a1] h0 (some (.int (xk_b2 r))) h' := by
  refine xk_ofX RX2 "isTop" xq_X2_isTop rfl rfl (Nat.le_of_ble_eq_true rfl) ⟨xk_crf _, ⟨rfl, trivial⟩⟩ (fun Γ el eD eb C Z => ?_)
  rw [mf_X2_isTop] at E
  show xk_X Γ 0 [(0, va_rf a0), (1, .int a1)] [] h0
  refine xr_aload_n 0 C rfl rfl dX2_isTop_0 ?_
  refine xr_iload_n 1 C rfl rfl dX2_isTop_1 ?_
  refine xr_V (v := a0) [.int a1] [] (fun r => some (.int r)) (fun r => .int r :: []) C E xi_2_SlatCratesModel (fun r h' e => wk_X2_around e) q2243 q2245 qs38 q89 q2246 xh_SlatCratesModel xd_X2_around (by decide) (by decide) trivial (Nat.le_of_ble_eq_true rfl) rfl (fun _ => rfl) dX2_isTop_2 (fun r1 h2 E => ?_)
  refine xr_if_lt 29 C E dX2_isTop_5 (by decide) (fun E => ?_) (fun E => ?_)
  · refine xr_iconst (1) C (by decide) dX2_isTop_29 ?_
    refine xr_goto 34 C dX2_isTop_30 (by decide) ?_
    exact xr_bret (b := true) C Z E dX2_isTop_34
  · refine xr_aload_n 0 C rfl rfl dX2_isTop_8 ?_
    refine xr_iload_n 1 C rfl rfl dX2_isTop_9 ?_
    refine xr_bipush (8) C (by decide) dX2_isTop_10 ?_
    refine xr_V (v := a0) [.int a1, .int (8 : Int32)] [] (fun r => some (.int r)) (fun r => .int r :: []) C E xi_2_SlatCratesModel (fun r h' e => wk_X2_of e) q2247 q2249 qs39 q89 q2250 xh_SlatCratesModel xd_X2_of (by decide) (by decide) trivial (Nat.le_of_ble_eq_true rfl) rfl (fun _ => rfl) dX2_isTop_12 (fun r3 h4 E => ?_)
    refine xr_aload_n 0 C rfl rfl dX2_isTop_15 ?_
    refine xr_aload_n 0 C rfl rfl dX2_isTop_16 ?_
    refine xr_iload_n 1 C rfl rfl dX2_isTop_17 ?_
    refine xr_V (v := a0) [.int a1] [va_rf a0, .int r3] (fun r => some (.int r)) (fun r => .int r :: [va_rf a0, .int r3]) C E xi_2_SlatCratesModel (fun r h' e => wk_X2_around e) q2243 q2245 qs38 q89 q2246 xh_SlatCratesModel xd_X2_around (by decide) (by decide) ⟨xk_crf _, ⟨rfl, trivial⟩⟩ (Nat.le_of_ble_eq_true rfl) rfl (fun _ => rfl) dX2_isTop_18 (fun r5 h6 E => ?_)
    refine xr_V (v := a0) [.int r5] [.int r3] (fun r => some (.int r)) (fun r => .int r :: [.int r3]) C E xi_2_SlatCratesModel (fun r h' e => wk_X2_pile e) q2251 q2253 qs40 q89 q2254 xh_SlatCratesModel xd_X2_pile (by decide) (by decide) ⟨rfl, trivial⟩ (Nat.le_of_ble_eq_true rfl) rfl (fun _ => rfl) dX2_isTop_21 (fun r7 h8 E => ?_)
    refine xr_iconst (1) C (by decide) dX2_isTop_24 ?_
    refine xr_isub C dX2_isTop_25 ?_
    refine xr_icmp_ne 33 C E dX2_isTop_26 (by decide) (fun E => ?_) (fun E => ?_)
    · refine xr_iconst (0) C (by decide) dX2_isTop_33 ?_
      exact xr_bret (b := false) C Z E dX2_isTop_34
    · refine xr_iconst (1) C (by decide) dX2_isTop_29 ?_
      refine xr_goto 34 C dX2_isTop_30 (by decide) ?_
      exact xr_bret (b := true) C Z E dX2_isTop_34
def mf_X2_roomLeft_L9 (a0 : Option Nat) (a1 : Int32) : Nat → Int32 → Int32 → xk_H → Option (Int32 × xk_H)
  | 0, _, _, _ => none
  | n + 1, a2, a3, h0 => xm_gR [2] 0 a0 h0 fun x3 => xm_lI [100] x3 (0 : Int32) h0 fun x4 => if x4 ≤ a3 then (some (a2, h0)) else (xm_rc [2] a0 h0 <| xm_cl (mf_X2_around a0 a3 h0) fun r5 h6 => if r5 = a1 then (xm_rc [2] a0 h6 <| xm_cl (mf_X2_of a0 a3 (0 : Int32) h6) fun r7 h8 => mf_X2_roomLeft_L9 a0 a1 n (a2 - r7) (a3 + 1) h8) else (mf_X2_roomLeft_L9 a0 a1 n (a2 - (0 : Int32)) (a3 + 1) h6))
set_option maxHeartbeats 1000000 in
theorem wk_X2_roomLeft_L9 {Γ : xk_C} {r : Int32} {h' : xk_H} {a0 : Option Nat} {a1 : Int32} (C : xk_Cx Γ RX2 cX2_roomLeft 4 (Option.some FieldType.int) "roomLeft" 3 103) (Z : xk_Z Γ (some (.int r)) h') : ∀ (n : Nat) (a2 : Int32) (a3 : Int32) (h0 : xk_H), mf_X2_roomLeft_L9 a0 a1 n a2 a3 h0 = some (r, h') → xk_X Γ 9 [(0, va_rf a0), (1, .int a1), (2, .int a2), (3, .int a3)] [] h0 := by
  intro n
  induction n with
  | zero =>
    intro a2 a3 h0 E
    rw [mf_X2_roomLeft_L9] at E
    cases E
  | succ n ih =>
    intro a2 a3 h0 E
    have hkb9 : ∀ (m2 : Int32) (m3 : Int32) (g : xk_H), mf_X2_roomLeft_L9 a0 a1 n m2 m3 g = some (r, h') → xk_X Γ 9 [(0, va_rf a0), (1, .int a1), (2, .int m2), (3, .int m3)] [] g := ih
    rw [mf_X2_roomLeft_L9] at E
    refine xr_iload_n 3 C rfl rfl dX2_roomLeft_9 ?_
    refine xr_aload_n 0 C rfl rfl dX2_roomLeft_10 ?_
    refine xr_gR C E xf_X2_7 dX2_roomLeft_11 (fun x3 E => ?_)
    refine xr_iconst (0) C (by decide) dX2_roomLeft_14 ?_
    refine xr_lI C E xt_100 dX2_roomLeft_15 (fun x4 E => ?_)
    refine xr_icmp_ge 47 C E dX2_roomLeft_16 (by decide) (fun E => ?_) (fun E => ?_)
    · refine xr_iload_n 2 C rfl rfl dX2_roomLeft_47 ?_
      exact xr_iret C Z E dX2_roomLeft_48
    · refine xr_iload_n 2 C rfl rfl dX2_roomLeft_19 ?_
      refine xr_aload_n 0 C rfl rfl dX2_roomLeft_20 ?_
      refine xr_iload_n 3 C rfl rfl dX2_roomLeft_21 ?_
      refine xr_V (v := a0) [.int a3] [.int a2] (fun r => some (.int r)) (fun r => .int r :: [.int a2]) C E xi_2_SlatCratesModel (fun r h' e => wk_X2_around e) q2243 q2245 qs38 q89 q2246 xh_SlatCratesModel xd_X2_around (by decide) (by decide) ⟨rfl, trivial⟩ (Nat.le_of_ble_eq_true rfl) rfl (fun _ => rfl) dX2_roomLeft_22 (fun r5 h6 E => ?_)
      refine xr_iload_n 1 C rfl rfl dX2_roomLeft_25 ?_
      refine xr_icmp_ne 38 C E dX2_roomLeft_26 (by decide) (fun E => ?_) (fun E => ?_)
      · refine xr_iconst (0) C (by decide) dX2_roomLeft_38 ?_
        refine xr_isub C dX2_roomLeft_39 ?_
        refine xr_istore_n (L2 := [(2, .int (a2 - (0 : Int32))), (0, va_rf a0), (1, .int a1), (3, .int a3)]) C rfl rfl dX2_roomLeft_40 (by decide) ?_
        refine xr_iinc (v := (a3 + 1)) (L2 := [(3, .int (a3 + 1)), (2, .int (a2 - (0 : Int32))), (0, va_rf a0), (1, .int a1)]) 3 C rfl rfl rfl dX2_roomLeft_41 (by decide) ?_
        refine xr_goto 9 C dX2_roomLeft_44 (by decide) ?_
        refine xr_sub [2, 3, 1, 0] rfl ?_
        exact hkb9 (a2 - (0 : Int32)) (a3 + 1) h6 E
      · refine xr_aload_n 0 C rfl rfl dX2_roomLeft_29 ?_
        refine xr_iload_n 3 C rfl rfl dX2_roomLeft_30 ?_
        refine xr_iconst (0) C (by decide) dX2_roomLeft_31 ?_
        refine xr_V (v := a0) [.int a3, .int (0 : Int32)] [.int a2] (fun r => some (.int r)) (fun r => .int r :: [.int a2]) C E xi_2_SlatCratesModel (fun r h' e => wk_X2_of e) q2247 q2249 qs39 q89 q2250 xh_SlatCratesModel xd_X2_of (by decide) (by decide) ⟨rfl, trivial⟩ (Nat.le_of_ble_eq_true rfl) rfl (fun _ => rfl) dX2_roomLeft_32 (fun r7 h8 E => ?_)
        refine xr_goto 39 C dX2_roomLeft_35 (by decide) ?_
        refine xr_isub C dX2_roomLeft_39 ?_
        refine xr_istore_n (L2 := [(2, .int (a2 - r7)), (0, va_rf a0), (1, .int a1), (3, .int a3)]) C rfl rfl dX2_roomLeft_40 (by decide) ?_
        refine xr_iinc (v := (a3 + 1)) (L2 := [(3, .int (a3 + 1)), (2, .int (a2 - r7)), (0, va_rf a0), (1, .int a1)]) 3 C rfl rfl rfl dX2_roomLeft_41 (by decide) ?_
        refine xr_goto 9 C dX2_roomLeft_44 (by decide) ?_
        refine xr_sub [2, 3, 1, 0] rfl ?_
        exact hkb9 (a2 - r7) (a3 + 1) h8 E
def mf_X2_roomLeft (a0 : Option Nat) (a1 : Int32) (h0 : xk_H) : Option (Int32 × xk_H) :=
  xm_rc [2] a0 h0 <| xm_cl (mf_X2_of a0 a1 (1 : Int32) h0) fun r1 h2 => mf_X2_roomLeft_L9 a0 a1 xk_fu r1 (0 : Int32) h2
set_option maxHeartbeats 1000000 in
theorem wk_X2_roomLeft {l : Launch} {D : va_G} {base : Nat} {a0 : Option Nat} {a1 : Int32} {h0 : xk_H} {r : Int32} {h' : xk_H} (E : mf_X2_roomLeft a0 a1 h0 = some (r, h')) : xk_Ok l D base yX2_roomLeft cX2_roomLeft 4 (Option.some FieldType.int) 3 103 [va_rf a0, .int a1] h0 (some (.int r)) h' := by
  refine xk_ofX RX2 "roomLeft" xq_X2_roomLeft rfl rfl (Nat.le_of_ble_eq_true rfl) ⟨xk_crf _, ⟨rfl, trivial⟩⟩ (fun Γ el eD eb C Z => ?_)
  rw [mf_X2_roomLeft] at E
  show xk_X Γ 0 [(0, va_rf a0), (1, .int a1)] [] h0
  refine xr_aload_n 0 C rfl rfl dX2_roomLeft_0 ?_
  refine xr_iload_n 1 C rfl rfl dX2_roomLeft_1 ?_
  refine xr_iconst (1) C (by decide) dX2_roomLeft_2 ?_
  refine xr_V (v := a0) [.int a1, .int (1 : Int32)] [] (fun r => some (.int r)) (fun r => .int r :: []) C E xi_2_SlatCratesModel (fun r h' e => wk_X2_of e) q2247 q2249 qs39 q89 q2250 xh_SlatCratesModel xd_X2_of (by decide) (by decide) trivial (Nat.le_of_ble_eq_true rfl) rfl (fun _ => rfl) dX2_roomLeft_3 (fun r1 h2 E => ?_)
  refine xr_istore_n (L2 := [(2, .int r1), (0, va_rf a0), (1, .int a1)]) C rfl rfl dX2_roomLeft_6 (by decide) ?_
  refine xr_iconst (0) C (by decide) dX2_roomLeft_7 ?_
  refine xr_istore_n (L2 := [(3, .int (0 : Int32)), (2, .int r1), (0, va_rf a0), (1, .int a1)]) C rfl rfl dX2_roomLeft_8 (by decide) ?_
  refine xr_sub [2, 3, 1, 0] rfl ?_
  exact wk_X2_roomLeft_L9 (a0 := a0) (a1 := a1) C Z xk_fu r1 (0 : Int32) h2 E
def mf_X2_reasonPut_J45 (a0 : Option Nat) (a1 : Int32) (s0 : Int32) (s1 : Int32) (h0 : xk_H) : Option (Int32 × xk_H) :=
  xm_rc [2] a0 h0 <| xm_cl (mf_X2_of a0 a1 (0 : Int32) h0) fun r9 h10 => if r9 ≤ (s1 + s0) then (some ((0 : Int32), h10)) else (some ((3 : Int32), h10))
set_option maxHeartbeats 1000000 in
theorem wk_X2_reasonPut_J45 {Γ : xk_C} {r : Int32} {h' : xk_H} {a0 : Option Nat} {a1 : Int32} {s0 : Int32} {s1 : Int32} {h0 : xk_H} (C : xk_Cx Γ RX2 cX2_reasonPut 4 (Option.some FieldType.int) "reasonPut" 5 147) (Z : xk_Z Γ (some (.int r)) h') (E : mf_X2_reasonPut_J45 a0 a1 s0 s1 h0 = some (r, h')) : xk_X Γ 45 [(0, va_rf a0), (1, .int a1)] [.int s0, .int s1] h0 := by
  rw [mf_X2_reasonPut_J45] at E
  refine xr_iadd C dX2_reasonPut_45 ?_
  refine xr_istore_n (L2 := [(3, .int (s1 + s0)), (0, va_rf a0), (1, .int a1)]) C rfl rfl dX2_reasonPut_46 (by decide) ?_
  refine xr_iload_n 0 C rfl rfl dX2_reasonPut_47 ?_
  refine xr_aload_n 1 C rfl rfl dX2_reasonPut_48 ?_
  refine xr_iload_n 2 C rfl rfl dX2_reasonPut_49 ?_
  refine xr_iconst (0) C (by decide) dX2_reasonPut_50 ?_
  refine xr_V (v := a0) [.int a1, .int (0 : Int32)] [.int (s1 + s0)] (fun r => some (.int r)) (fun r => .int r :: [.int (s1 + s0)]) C E xi_2_SlatCratesModel (fun r h' e => wk_X2_of e) q2247 q2249 qs39 q89 q2250 xh_SlatCratesModel xd_X2_of (by decide) (by decide) ⟨rfl, trivial⟩ (Nat.le_of_ble_eq_true rfl) rfl (fun _ => rfl) dX2_reasonPut_51 (fun r9 h10 E => ?_)
  refine xr_icmp_ge 61 C E dX2_reasonPut_54 (by decide) (fun E => ?_) (fun E => ?_)
  · refine xr_iconst (0) C (by decide) dX2_reasonPut_61 ?_
    exact xr_iret C Z E dX2_reasonPut_62
  · refine xr_iconst (3) C (by decide) dX2_reasonPut_57 ?_
    refine xr_goto 62 C dX2_reasonPut_58 (by decide) ?_
    exact xr_iret C Z E dX2_reasonPut_62
def mf_X2_reasonPut (a0 : Option Nat) (a1 : Int32) (a2 : Int32) (h0 : xk_H) : Option (Int32 × xk_H) :=
  xm_rc [2] a0 h0 <| xm_cl (mf_X2_isTop a0 a1 h0) fun r1 h2 => if xk_b2 r1 = 0 then (some ((1 : Int32), h2)) else (xm_rc [2] a0 h2 <| xm_cl (mf_X2_holds a0 a1 a2 h2) fun r3 h4 => if xk_b2 r3 = 0 then (xm_rc [2] a0 h4 <| xm_cl (mf_X2_roomLeft a0 a2 h4) fun r5 h6 => xm_rc [2] a0 h6 <| xm_cl (mf_X2_around a0 a1 h6) fun r7 h8 => if r7 = a2 then (xm_rc [2] a0 h8 <| xm_cl (mf_X2_of a0 a1 (0 : Int32) h8) fun r11 h12 => mf_X2_reasonPut_J45 a0 a1 r11 r5 h12) else (mf_X2_reasonPut_J45 a0 a1 (0 : Int32) r5 h8)) else (some ((2 : Int32), h4)))
set_option maxHeartbeats 1000000 in
theorem wk_X2_reasonPut {l : Launch} {D : va_G} {base : Nat} {a0 : Option Nat} {a1 : Int32} {a2 : Int32} {h0 : xk_H} {r : Int32} {h' : xk_H} (E : mf_X2_reasonPut a0 a1 a2 h0 = some (r, h')) : xk_Ok l D base yX2_reasonPut cX2_reasonPut 4 (Option.some FieldType.int) 5 147 [va_rf a0, .int a1, .int a2] h0 (some (.int r)) h' := by
  refine xk_ofX RX2 "reasonPut" xq_X2_reasonPut rfl rfl (Nat.le_of_ble_eq_true rfl) ⟨xk_crf _, ⟨rfl, ⟨rfl, trivial⟩⟩⟩ (fun Γ el eD eb C Z => ?_)
  rw [mf_X2_reasonPut] at E
  show xk_X Γ 0 [(0, va_rf a0), (1, .int a1), (2, .int a2)] [] h0
  refine xr_aload_n 0 C rfl rfl dX2_reasonPut_0 ?_
  refine xr_iload_n 1 C rfl rfl dX2_reasonPut_1 ?_
  refine xr_V (v := a0) [.int a1] [] (fun r => some (.int (xk_b2 r))) (fun r => .int (xk_b2 r) :: []) C E xi_2_SlatCratesModel (fun r h' e => wk_X2_isTop e) q2239 q2241 qs37 q89 q2242 xh_SlatCratesModel xd_X2_isTop (by decide) (by decide) trivial (Nat.le_of_ble_eq_true rfl) rfl (fun _ => rfl) dX2_reasonPut_2 (fun r1 h2 E => ?_)
  refine xr_if_ne 10 C E dX2_reasonPut_5 (by decide) (fun E => ?_) (fun E => ?_)
  · refine xr_aload_n 0 C rfl rfl dX2_reasonPut_10 ?_
    refine xr_iload_n 1 C rfl rfl dX2_reasonPut_11 ?_
    refine xr_iload_n 2 C rfl rfl dX2_reasonPut_12 ?_
    refine xr_V (v := a0) [.int a1, .int a2] [] (fun r => some (.int (xk_b2 r))) (fun r => .int (xk_b2 r) :: []) C E xi_2_SlatCratesModel (fun r h' e => wk_X2_holds e) q2255 q2257 qs41 q89 q2258 xh_SlatCratesModel xd_X2_holds (by decide) (by decide) trivial (Nat.le_of_ble_eq_true rfl) rfl (fun _ => rfl) dX2_reasonPut_13 (fun r3 h4 E => ?_)
    refine xr_if_eq 21 C E dX2_reasonPut_16 (by decide) (fun E => ?_) (fun E => ?_)
    · refine xr_aload_n 0 C rfl rfl dX2_reasonPut_21 ?_
      refine xr_iload_n 2 C rfl rfl dX2_reasonPut_22 ?_
      refine xr_V (v := a0) [.int a2] [] (fun r => some (.int r)) (fun r => .int r :: []) C E xi_2_SlatCratesModel (fun r h' e => wk_X2_roomLeft e) q2259 q2261 qs42 q89 q2262 xh_SlatCratesModel xd_X2_roomLeft (by decide) (by decide) trivial (Nat.le_of_ble_eq_true rfl) rfl (fun _ => rfl) dX2_reasonPut_23 (fun r5 h6 E => ?_)
      refine xr_aload_n 0 C rfl rfl dX2_reasonPut_26 ?_
      refine xr_iload_n 1 C rfl rfl dX2_reasonPut_27 ?_
      refine xr_V (v := a0) [.int a1] [.int r5] (fun r => some (.int r)) (fun r => .int r :: [.int r5]) C E xi_2_SlatCratesModel (fun r h' e => wk_X2_around e) q2243 q2245 qs38 q89 q2246 xh_SlatCratesModel xd_X2_around (by decide) (by decide) ⟨rfl, trivial⟩ (Nat.le_of_ble_eq_true rfl) rfl (fun _ => rfl) dX2_reasonPut_28 (fun r7 h8 E => ?_)
      refine xr_iload_n 2 C rfl rfl dX2_reasonPut_31 ?_
      refine xr_icmp_ne 44 C E dX2_reasonPut_32 (by decide) (fun E => ?_) (fun E => ?_)
      · refine xr_iconst (0) C (by decide) dX2_reasonPut_44 ?_
        refine xr_sub [0, 1] rfl ?_
        exact wk_X2_reasonPut_J45 C Z E
      · refine xr_aload_n 0 C rfl rfl dX2_reasonPut_35 ?_
        refine xr_iload_n 1 C rfl rfl dX2_reasonPut_36 ?_
        refine xr_iconst (0) C (by decide) dX2_reasonPut_37 ?_
        refine xr_V (v := a0) [.int a1, .int (0 : Int32)] [.int r5] (fun r => some (.int r)) (fun r => .int r :: [.int r5]) C E xi_2_SlatCratesModel (fun r h' e => wk_X2_of e) q2247 q2249 qs39 q89 q2250 xh_SlatCratesModel xd_X2_of (by decide) (by decide) ⟨rfl, trivial⟩ (Nat.le_of_ble_eq_true rfl) rfl (fun _ => rfl) dX2_reasonPut_38 (fun r11 h12 E => ?_)
        refine xr_goto 45 C dX2_reasonPut_41 (by decide) ?_
        refine xr_sub [0, 1] rfl ?_
        exact wk_X2_reasonPut_J45 C Z E
    · refine xr_iconst (2) C (by decide) dX2_reasonPut_19 ?_
      exact xr_iret C Z E dX2_reasonPut_20
  · refine xr_iconst (1) C (by decide) dX2_reasonPut_8 ?_
    exact xr_iret C Z E dX2_reasonPut_9
def mf_X2_refuses (a0 : Option Nat) (a1 : Int32) (h0 : xk_H) : Option (Int32 × xk_H) :=
  xm_gR [2] 0 a0 h0 fun x1 => xm_lI [100] x1 (1 : Int32) h0 fun x2 => xm_sV [100] x1 (1 : Int32) (.int (x2 + (1 : Int32))) h0 fun h3 => some (a1, h3)
set_option maxHeartbeats 1000000 in
theorem wk_X2_refuses {l : Launch} {D : va_G} {base : Nat} {a0 : Option Nat} {a1 : Int32} {h0 : xk_H} {r : Int32} {h' : xk_H} (E : mf_X2_refuses a0 a1 h0 = some (r, h')) : xk_Ok l D base yX2_refuses cX2_refuses 2 (Option.some FieldType.int) 1 60 [va_rf a0, .int a1] h0 (some (.int r)) h' := by
  refine xk_ofX RX2 "refuses" xq_X2_refuses rfl rfl (Nat.le_of_ble_eq_true rfl) ⟨xk_crf _, ⟨rfl, trivial⟩⟩ (fun Γ el eD eb C Z => ?_)
  rw [mf_X2_refuses] at E
  show xk_X Γ 0 [(0, va_rf a0), (1, .int a1)] [] h0
  refine xr_aload_n 0 C rfl rfl dX2_refuses_0 ?_
  refine xr_gR C E xf_X2_7 dX2_refuses_1 (fun x1 E => ?_)
  refine xr_iconst (1) C (by decide) dX2_refuses_4 ?_
  refine xr_dup2 C rfl (xk_crf _) dX2_refuses_5 ?_
  refine xr_lI C E xt_100 dX2_refuses_6 (fun x2 E => ?_)
  refine xr_iconst (1) C (by decide) dX2_refuses_7 ?_
  refine xr_iadd C dX2_refuses_8 ?_
  refine xr_sI C E dX2_refuses_9 (fun h3 E => ?_)
  refine xr_iload_n 1 C rfl rfl dX2_refuses_10 ?_
  exact xr_iret C Z E dX2_refuses_11
def mf_X2_put (a0 : Option Nat) (a1 : Int32) (a2 : Int32) (h0 : xk_H) : Option (Int32 × xk_H) :=
  xm_rc [2] a0 h0 <| xm_cl (mf_X2_isCrate a0 a1 h0) fun r1 h2 => if xk_b2 r1 = 0 then (some ((-1 : Int32), h2)) else (xm_rc [2] a0 h2 <| xm_cl (mf_X2_isCrate a0 a2 h2) fun r3 h4 => if xk_b2 r3 = 0 then (some ((-1 : Int32), h4)) else (xm_rc [2] a0 h4 <| xm_cl (mf_X2_records a0 h4) fun r5 h6 => xm_rc [2] a0 h6 <| xm_cl (mf_X2_reasonPut a0 a1 a2 h6) fun r7 h8 => if r7 ≤ 0 then (xm_rc [2] a0 h8 <| xm_cl (mf_X2_lays a0 a1 (7 : Int32) (0 : Int32) h8) fun r9 h10 => xm_rc [2] a0 h10 <| xm_cl (mf_X2_pile a0 a2 h10) fun r11 h12 => xm_rc [2] a0 h12 <| xm_cl (mf_X2_lays a0 a1 (8 : Int32) r11 h12) fun r13 h14 => xm_rc [2] a0 h14 <| xm_cl (mf_X2_lays a0 a1 (7 : Int32) (a2 + (1 : Int32)) h14) fun r15 h16 => xm_rc [2] a0 h16 <| xm_cl (mf_X2_depthOf a0 a1 h16) fun r17 h18 => some (((10 : Int32) + r17), h18)) else (xm_rc [2] a0 h8 <| xm_cl (mf_X2_refuses a0 r7 h8) fun r19 h20 => some (r19, h20))))
set_option maxHeartbeats 1000000 in
theorem wk_X2_put {l : Launch} {D : va_G} {base : Nat} {a0 : Option Nat} {a1 : Int32} {a2 : Int32} {h0 : xk_H} {r : Int32} {h' : xk_H} (E : mf_X2_put a0 a1 a2 h0 = some (r, h')) : xk_Ok l D base yX2_put cX2_put 4 (Option.some FieldType.int) 6 170 [va_rf a0, .int a1, .int a2] h0 (some (.int r)) h' := by
  refine xk_ofX RX2 "put" xq_X2_put rfl rfl (Nat.le_of_ble_eq_true rfl) ⟨xk_crf _, ⟨rfl, ⟨rfl, trivial⟩⟩⟩ (fun Γ el eD eb C Z => ?_)
  rw [mf_X2_put] at E
  show xk_X Γ 0 [(0, va_rf a0), (1, .int a1), (2, .int a2)] [] h0
  refine xr_aload_n 0 C rfl rfl dX2_put_0 ?_
  refine xr_iload_n 1 C rfl rfl dX2_put_1 ?_
  refine xr_V (v := a0) [.int a1] [] (fun r => some (.int (xk_b2 r))) (fun r => .int (xk_b2 r) :: []) C E xi_2_SlatCratesModel (fun r h' e => wk_X2_isCrate e) q2231 q2233 qs35 q89 q2234 xh_SlatCratesModel xd_X2_isCrate (by decide) (by decide) trivial (Nat.le_of_ble_eq_true rfl) rfl (fun _ => rfl) dX2_put_2 (fun r1 h2 E => ?_)
  refine xr_if_eq 16 C E dX2_put_5 (by decide) (fun E => ?_) (fun E => ?_)
  · refine xr_iconst (-1) C (by decide) dX2_put_16 ?_
    exact xr_iret C Z E dX2_put_17
  · refine xr_aload_n 0 C rfl rfl dX2_put_8 ?_
    refine xr_iload_n 2 C rfl rfl dX2_put_9 ?_
    refine xr_V (v := a0) [.int a2] [] (fun r => some (.int (xk_b2 r))) (fun r => .int (xk_b2 r) :: []) C E xi_2_SlatCratesModel (fun r h' e => wk_X2_isCrate e) q2231 q2233 qs35 q89 q2234 xh_SlatCratesModel xd_X2_isCrate (by decide) (by decide) trivial (Nat.le_of_ble_eq_true rfl) rfl (fun _ => rfl) dX2_put_10 (fun r3 h4 E => ?_)
    refine xr_if_ne 18 C E dX2_put_13 (by decide) (fun E => ?_) (fun E => ?_)
    · refine xr_aload_n 0 C rfl rfl dX2_put_18 ?_
      refine xr_V (v := a0) [] [] (fun _ => none) (fun _ => []) C E xi_2_SlatCratesModel (fun r h' e => wk_X2_records e) q2212 q2214 qs32 q89 q2215 xh_SlatCratesModel xd_X2_records (by decide) (by decide) trivial (Nat.le_of_ble_eq_true rfl) rfl (fun _ => rfl) dX2_put_19 (fun r5 h6 E => ?_)
      refine xr_aload_n 0 C rfl rfl dX2_put_22 ?_
      refine xr_iload_n 1 C rfl rfl dX2_put_23 ?_
      refine xr_iload_n 2 C rfl rfl dX2_put_24 ?_
      refine xr_V (v := a0) [.int a1, .int a2] [] (fun r => some (.int r)) (fun r => .int r :: []) C E xi_2_SlatCratesModel (fun r h' e => wk_X2_reasonPut e) q2235 q2237 qs36 q89 q2238 xh_SlatCratesModel xd_X2_reasonPut (by decide) (by decide) trivial (Nat.le_of_ble_eq_true rfl) rfl (fun _ => rfl) dX2_put_25 (fun r7 h8 E => ?_)
      refine xr_istore_n (L2 := [(3, .int r7), (0, va_rf a0), (1, .int a1), (2, .int a2)]) C rfl rfl dX2_put_28 (by decide) ?_
      refine xr_iload_n 0 C rfl rfl dX2_put_29 ?_
      refine xr_if_le 39 C E dX2_put_30 (by decide) (fun E => ?_) (fun E => ?_)
      · refine xr_aload_n 1 C rfl rfl dX2_put_39 ?_
        refine xr_iload_n 2 C rfl rfl dX2_put_40 ?_
        refine xr_bipush (7) C (by decide) dX2_put_41 ?_
        refine xr_iconst (0) C (by decide) dX2_put_43 ?_
        refine xr_V (v := a0) [.int a1, .int (7 : Int32), .int (0 : Int32)] [] (fun _ => none) (fun _ => []) C E xi_2_SlatCratesModel (fun r h' e => wk_X2_lays e) q2219 q2221 qs33 q89 q2222 xh_SlatCratesModel xd_X2_lays (by decide) (by decide) trivial (Nat.le_of_ble_eq_true rfl) rfl (fun _ => rfl) dX2_put_44 (fun r9 h10 E => ?_)
        refine xr_aload_n 1 C rfl rfl dX2_put_47 ?_
        refine xr_iload_n 2 C rfl rfl dX2_put_48 ?_
        refine xr_bipush (8) C (by decide) dX2_put_49 ?_
        refine xr_aload_n 1 C rfl rfl dX2_put_51 ?_
        refine xr_iload_n 3 C rfl rfl dX2_put_52 ?_
        refine xr_V (v := a0) [.int a2] [.int (8 : Int32), .int a1, va_rf a0] (fun r => some (.int r)) (fun r => .int r :: [.int (8 : Int32), .int a1, va_rf a0]) C E xi_2_SlatCratesModel (fun r h' e => wk_X2_pile e) q2251 q2253 qs40 q89 q2254 xh_SlatCratesModel xd_X2_pile (by decide) (by decide) ⟨rfl, ⟨rfl, ⟨xk_crf _, trivial⟩⟩⟩ (Nat.le_of_ble_eq_true rfl) rfl (fun _ => rfl) dX2_put_53 (fun r11 h12 E => ?_)
        refine xr_V (v := a0) [.int a1, .int (8 : Int32), .int r11] [] (fun _ => none) (fun _ => []) C E xi_2_SlatCratesModel (fun r h' e => wk_X2_lays e) q2219 q2221 qs33 q89 q2222 xh_SlatCratesModel xd_X2_lays (by decide) (by decide) trivial (Nat.le_of_ble_eq_true rfl) rfl (fun _ => rfl) dX2_put_56 (fun r13 h14 E => ?_)
        refine xr_aload_n 1 C rfl rfl dX2_put_59 ?_
        refine xr_iload_n 2 C rfl rfl dX2_put_60 ?_
        refine xr_bipush (7) C (by decide) dX2_put_61 ?_
        refine xr_iload_n 3 C rfl rfl dX2_put_63 ?_
        refine xr_iconst (1) C (by decide) dX2_put_64 ?_
        refine xr_iadd C dX2_put_65 ?_
        refine xr_V (v := a0) [.int a1, .int (7 : Int32), .int (a2 + (1 : Int32))] [] (fun _ => none) (fun _ => []) C E xi_2_SlatCratesModel (fun r h' e => wk_X2_lays e) q2219 q2221 qs33 q89 q2222 xh_SlatCratesModel xd_X2_lays (by decide) (by decide) trivial (Nat.le_of_ble_eq_true rfl) rfl (fun _ => rfl) dX2_put_66 (fun r15 h16 E => ?_)
        refine xr_bipush (10) C (by decide) dX2_put_69 ?_
        refine xr_aload_n 1 C rfl rfl dX2_put_71 ?_
        refine xr_iload_n 2 C rfl rfl dX2_put_72 ?_
        refine xr_V (v := a0) [.int a1] [.int (10 : Int32)] (fun r => some (.int r)) (fun r => .int r :: [.int (10 : Int32)]) C E xi_2_SlatCratesModel (fun r h' e => wk_X2_depthOf e) q2267 q2269 qs44 q89 q2270 xh_SlatCratesModel xd_X2_depthOf (by decide) (by decide) ⟨rfl, trivial⟩ (Nat.le_of_ble_eq_true rfl) rfl (fun _ => rfl) dX2_put_73 (fun r17 h18 E => ?_)
        refine xr_iadd C dX2_put_76 ?_
        exact xr_iret C Z E dX2_put_77
      · refine xr_aload_n 1 C rfl rfl dX2_put_33 ?_
        refine xr_iload_n 0 C rfl rfl dX2_put_34 ?_
        refine xr_V (v := a0) [.int r7] [] (fun r => some (.int r)) (fun r => .int r :: []) C E xi_2_SlatCratesModel (fun r h' e => wk_X2_refuses e) q2263 q2265 qs43 q89 q2266 xh_SlatCratesModel xd_X2_refuses (by decide) (by decide) trivial (Nat.le_of_ble_eq_true rfl) rfl (fun _ => rfl) dX2_put_35 (fun r19 h20 E => ?_)
        exact xr_iret C Z E dX2_put_38
    · refine xr_iconst (-1) C (by decide) dX2_put_16 ?_
      exact xr_iret C Z E dX2_put_17
def mf_X2_reasonGround (a0 : Option Nat) (a1 : Int32) (h0 : xk_H) : Option (Int32 × xk_H) :=
  xm_rc [2] a0 h0 <| xm_cl (mf_X2_isTop a0 a1 h0) fun r1 h2 => if xk_b2 r1 = 0 then (some ((1 : Int32), h2)) else (xm_rc [2] a0 h2 <| xm_cl (mf_X2_around a0 a1 h2) fun r3 h4 => if 0 ≤ r3 then (some ((0 : Int32), h4)) else (some ((4 : Int32), h4)))
set_option maxHeartbeats 1000000 in
theorem wk_X2_reasonGround {l : Launch} {D : va_G} {base : Nat} {a0 : Option Nat} {a1 : Int32} {h0 : xk_H} {r : Int32} {h' : xk_H} (E : mf_X2_reasonGround a0 a1 h0 = some (r, h')) : xk_Ok l D base yX2_reasonGround cX2_reasonGround 2 (Option.some FieldType.int) 5 147 [va_rf a0, .int a1] h0 (some (.int r)) h' := by
  refine xk_ofX RX2 "reasonGround" xq_X2_reasonGround rfl rfl (Nat.le_of_ble_eq_true rfl) ⟨xk_crf _, ⟨rfl, trivial⟩⟩ (fun Γ el eD eb C Z => ?_)
  rw [mf_X2_reasonGround] at E
  show xk_X Γ 0 [(0, va_rf a0), (1, .int a1)] [] h0
  refine xr_aload_n 0 C rfl rfl dX2_reasonGround_0 ?_
  refine xr_iload_n 1 C rfl rfl dX2_reasonGround_1 ?_
  refine xr_V (v := a0) [.int a1] [] (fun r => some (.int (xk_b2 r))) (fun r => .int (xk_b2 r) :: []) C E xi_2_SlatCratesModel (fun r h' e => wk_X2_isTop e) q2239 q2241 qs37 q89 q2242 xh_SlatCratesModel xd_X2_isTop (by decide) (by decide) trivial (Nat.le_of_ble_eq_true rfl) rfl (fun _ => rfl) dX2_reasonGround_2 (fun r1 h2 E => ?_)
  refine xr_if_ne 12 C E dX2_reasonGround_5 (by decide) (fun E => ?_) (fun E => ?_)
  · refine xr_aload_n 0 C rfl rfl dX2_reasonGround_12 ?_
    refine xr_iload_n 1 C rfl rfl dX2_reasonGround_13 ?_
    refine xr_V (v := a0) [.int a1] [] (fun r => some (.int r)) (fun r => .int r :: []) C E xi_2_SlatCratesModel (fun r h' e => wk_X2_around e) q2243 q2245 qs38 q89 q2246 xh_SlatCratesModel xd_X2_around (by decide) (by decide) trivial (Nat.le_of_ble_eq_true rfl) rfl (fun _ => rfl) dX2_reasonGround_14 (fun r3 h4 E => ?_)
    refine xr_if_ge 24 C E dX2_reasonGround_17 (by decide) (fun E => ?_) (fun E => ?_)
    · refine xr_iconst (0) C (by decide) dX2_reasonGround_24 ?_
      exact xr_iret C Z E dX2_reasonGround_25
    · refine xr_iconst (4) C (by decide) dX2_reasonGround_20 ?_
      refine xr_goto 25 C dX2_reasonGround_21 (by decide) ?_
      exact xr_iret C Z E dX2_reasonGround_25
  · refine xr_iconst (1) C (by decide) dX2_reasonGround_8 ?_
    refine xr_goto 25 C dX2_reasonGround_9 (by decide) ?_
    exact xr_iret C Z E dX2_reasonGround_25
def mf_X2_ground (a0 : Option Nat) (a1 : Int32) (h0 : xk_H) : Option (Int32 × xk_H) :=
  xm_rc [2] a0 h0 <| xm_cl (mf_X2_isCrate a0 a1 h0) fun r1 h2 => if xk_b2 r1 = 0 then (some ((-1 : Int32), h2)) else (xm_rc [2] a0 h2 <| xm_cl (mf_X2_records a0 h2) fun r3 h4 => xm_rc [2] a0 h4 <| xm_cl (mf_X2_reasonGround a0 a1 h4) fun r5 h6 => if r5 ≤ 0 then (xm_rc [2] a0 h6 <| xm_cl (mf_X2_lays a0 a1 (7 : Int32) (0 : Int32) h6) fun r7 h8 => xm_rc [2] a0 h8 <| xm_cl (mf_X2_lays a0 a1 (8 : Int32) (0 : Int32) h8) fun r9 h10 => some ((10 : Int32), h10)) else (xm_rc [2] a0 h6 <| xm_cl (mf_X2_refuses a0 r5 h6) fun r11 h12 => some (r11, h12)))
set_option maxHeartbeats 1000000 in
theorem wk_X2_ground {l : Launch} {D : va_G} {base : Nat} {a0 : Option Nat} {a1 : Int32} {h0 : xk_H} {r : Int32} {h' : xk_H} (E : mf_X2_ground a0 a1 h0 = some (r, h')) : xk_Ok l D base yX2_ground cX2_ground 3 (Option.some FieldType.int) 6 168 [va_rf a0, .int a1] h0 (some (.int r)) h' := by
  refine xk_ofX RX2 "ground" xq_X2_ground rfl rfl (Nat.le_of_ble_eq_true rfl) ⟨xk_crf _, ⟨rfl, trivial⟩⟩ (fun Γ el eD eb C Z => ?_)
  rw [mf_X2_ground] at E
  show xk_X Γ 0 [(0, va_rf a0), (1, .int a1)] [] h0
  refine xr_aload_n 0 C rfl rfl dX2_ground_0 ?_
  refine xr_iload_n 1 C rfl rfl dX2_ground_1 ?_
  refine xr_V (v := a0) [.int a1] [] (fun r => some (.int (xk_b2 r))) (fun r => .int (xk_b2 r) :: []) C E xi_2_SlatCratesModel (fun r h' e => wk_X2_isCrate e) q2231 q2233 qs35 q89 q2234 xh_SlatCratesModel xd_X2_isCrate (by decide) (by decide) trivial (Nat.le_of_ble_eq_true rfl) rfl (fun _ => rfl) dX2_ground_2 (fun r1 h2 E => ?_)
  refine xr_if_ne 10 C E dX2_ground_5 (by decide) (fun E => ?_) (fun E => ?_)
  · refine xr_aload_n 0 C rfl rfl dX2_ground_10 ?_
    refine xr_V (v := a0) [] [] (fun _ => none) (fun _ => []) C E xi_2_SlatCratesModel (fun r h' e => wk_X2_records e) q2212 q2214 qs32 q89 q2215 xh_SlatCratesModel xd_X2_records (by decide) (by decide) trivial (Nat.le_of_ble_eq_true rfl) rfl (fun _ => rfl) dX2_ground_11 (fun r3 h4 E => ?_)
    refine xr_aload_n 0 C rfl rfl dX2_ground_14 ?_
    refine xr_iload_n 1 C rfl rfl dX2_ground_15 ?_
    refine xr_V (v := a0) [.int a1] [] (fun r => some (.int r)) (fun r => .int r :: []) C E xi_2_SlatCratesModel (fun r h' e => wk_X2_reasonGround e) q2275 q2277 qs45 q89 q2278 xh_SlatCratesModel xd_X2_reasonGround (by decide) (by decide) trivial (Nat.le_of_ble_eq_true rfl) rfl (fun _ => rfl) dX2_ground_16 (fun r5 h6 E => ?_)
    refine xr_istore_n (L2 := [(2, .int r5), (0, va_rf a0), (1, .int a1)]) C rfl rfl dX2_ground_19 (by decide) ?_
    refine xr_iload_n 0 C rfl rfl dX2_ground_20 ?_
    refine xr_if_le 30 C E dX2_ground_21 (by decide) (fun E => ?_) (fun E => ?_)
    · refine xr_aload_n 1 C rfl rfl dX2_ground_30 ?_
      refine xr_iload_n 2 C rfl rfl dX2_ground_31 ?_
      refine xr_bipush (7) C (by decide) dX2_ground_32 ?_
      refine xr_iconst (0) C (by decide) dX2_ground_34 ?_
      refine xr_V (v := a0) [.int a1, .int (7 : Int32), .int (0 : Int32)] [] (fun _ => none) (fun _ => []) C E xi_2_SlatCratesModel (fun r h' e => wk_X2_lays e) q2219 q2221 qs33 q89 q2222 xh_SlatCratesModel xd_X2_lays (by decide) (by decide) trivial (Nat.le_of_ble_eq_true rfl) rfl (fun _ => rfl) dX2_ground_35 (fun r7 h8 E => ?_)
      refine xr_aload_n 1 C rfl rfl dX2_ground_38 ?_
      refine xr_iload_n 2 C rfl rfl dX2_ground_39 ?_
      refine xr_bipush (8) C (by decide) dX2_ground_40 ?_
      refine xr_iconst (0) C (by decide) dX2_ground_42 ?_
      refine xr_V (v := a0) [.int a1, .int (8 : Int32), .int (0 : Int32)] [] (fun _ => none) (fun _ => []) C E xi_2_SlatCratesModel (fun r h' e => wk_X2_lays e) q2219 q2221 qs33 q89 q2222 xh_SlatCratesModel xd_X2_lays (by decide) (by decide) trivial (Nat.le_of_ble_eq_true rfl) rfl (fun _ => rfl) dX2_ground_43 (fun r9 h10 E => ?_)
      refine xr_bipush (10) C (by decide) dX2_ground_46 ?_
      exact xr_iret C Z E dX2_ground_48
    · refine xr_aload_n 1 C rfl rfl dX2_ground_24 ?_
      refine xr_iload_n 0 C rfl rfl dX2_ground_25 ?_
      refine xr_V (v := a0) [.int r5] [] (fun r => some (.int r)) (fun r => .int r :: []) C E xi_2_SlatCratesModel (fun r h' e => wk_X2_refuses e) q2263 q2265 qs43 q89 q2266 xh_SlatCratesModel xd_X2_refuses (by decide) (by decide) trivial (Nat.le_of_ble_eq_true rfl) rfl (fun _ => rfl) dX2_ground_26 (fun r11 h12 E => ?_)
      exact xr_iret C Z E dX2_ground_29
  · refine xr_iconst (-1) C (by decide) dX2_ground_8 ?_
    exact xr_iret C Z E dX2_ground_9
def mf_X2_turned (a0 : Int32) (h0 : xk_H) : Option (Int32 × xk_H) :=
  some ((((a0 <<< ((1 : Int32) &&& 31)) ||| (a0 >>> ((3 : Int32) &&& 31))) &&& (15 : Int32)), h0)
set_option maxHeartbeats 1000000 in
theorem wk_X2_turned {l : Launch} {D : va_G} {base : Nat} {a0 : Int32} {h0 : xk_H} {r : Int32} {h' : xk_H} (E : mf_X2_turned a0 h0 = some (r, h')) : xk_Ok l D base yX2_turned cX2_turned 1 (Option.some FieldType.int) 1 60 [.int a0] h0 (some (.int r)) h' := by
  refine xk_ofX RX2 "turned" xq_X2_turned rfl rfl (Nat.le_of_ble_eq_true rfl) ⟨rfl, trivial⟩ (fun Γ el eD eb C Z => ?_)
  rw [mf_X2_turned] at E
  show xk_X Γ 0 [(0, .int a0)] [] h0
  refine xr_iload_n 0 C rfl rfl dX2_turned_0 ?_
  refine xr_iconst (1) C (by decide) dX2_turned_1 ?_
  refine xr_ishl C dX2_turned_2 ?_
  refine xr_iload_n 0 C rfl rfl dX2_turned_3 ?_
  refine xr_iconst (3) C (by decide) dX2_turned_4 ?_
  refine xr_ishr C dX2_turned_5 ?_
  refine xr_ior C dX2_turned_6 ?_
  refine xr_bipush (15) C (by decide) dX2_turned_7 ?_
  refine xr_iand C dX2_turned_9 ?_
  exact xr_iret C Z E dX2_turned_10
def mf_X2_turn (a0 : Option Nat) (a1 : Int32) (h0 : xk_H) : Option (Int32 × xk_H) :=
  xm_rc [2] a0 h0 <| xm_cl (mf_X2_isCrate a0 a1 h0) fun r1 h2 => if xk_b2 r1 = 0 then (some ((-1 : Int32), h2)) else (xm_rc [2] a0 h2 <| xm_cl (mf_X2_records a0 h2) fun r3 h4 => xm_rc [2] a0 h4 <| xm_cl (mf_X2_of a0 a1 (2 : Int32) h4) fun r5 h6 => xm_cl (mf_X2_turned r5 h6) fun r7 h8 => xm_rc [2] a0 h8 <| xm_cl (mf_X2_lays a0 a1 (2 : Int32) r7 h8) fun r9 h10 => xm_rc [2] a0 h10 <| xm_cl (mf_X2_of a0 a1 (2 : Int32) h10) fun r11 h12 => some (r11, h12))
set_option maxHeartbeats 1000000 in
theorem wk_X2_turn {l : Launch} {D : va_G} {base : Nat} {a0 : Option Nat} {a1 : Int32} {h0 : xk_H} {r : Int32} {h' : xk_H} (E : mf_X2_turn a0 a1 h0 = some (r, h')) : xk_Ok l D base yX2_turn cX2_turn 2 (Option.some FieldType.int) 3 105 [va_rf a0, .int a1] h0 (some (.int r)) h' := by
  refine xk_ofX RX2 "turn" xq_X2_turn rfl rfl (Nat.le_of_ble_eq_true rfl) ⟨xk_crf _, ⟨rfl, trivial⟩⟩ (fun Γ el eD eb C Z => ?_)
  rw [mf_X2_turn] at E
  show xk_X Γ 0 [(0, va_rf a0), (1, .int a1)] [] h0
  refine xr_aload_n 0 C rfl rfl dX2_turn_0 ?_
  refine xr_iload_n 1 C rfl rfl dX2_turn_1 ?_
  refine xr_V (v := a0) [.int a1] [] (fun r => some (.int (xk_b2 r))) (fun r => .int (xk_b2 r) :: []) C E xi_2_SlatCratesModel (fun r h' e => wk_X2_isCrate e) q2231 q2233 qs35 q89 q2234 xh_SlatCratesModel xd_X2_isCrate (by decide) (by decide) trivial (Nat.le_of_ble_eq_true rfl) rfl (fun _ => rfl) dX2_turn_2 (fun r1 h2 E => ?_)
  refine xr_if_ne 10 C E dX2_turn_5 (by decide) (fun E => ?_) (fun E => ?_)
  · refine xr_aload_n 0 C rfl rfl dX2_turn_10 ?_
    refine xr_V (v := a0) [] [] (fun _ => none) (fun _ => []) C E xi_2_SlatCratesModel (fun r h' e => wk_X2_records e) q2212 q2214 qs32 q89 q2215 xh_SlatCratesModel xd_X2_records (by decide) (by decide) trivial (Nat.le_of_ble_eq_true rfl) rfl (fun _ => rfl) dX2_turn_11 (fun r3 h4 E => ?_)
    refine xr_aload_n 0 C rfl rfl dX2_turn_14 ?_
    refine xr_iload_n 1 C rfl rfl dX2_turn_15 ?_
    refine xr_iconst (2) C (by decide) dX2_turn_16 ?_
    refine xr_aload_n 0 C rfl rfl dX2_turn_17 ?_
    refine xr_iload_n 1 C rfl rfl dX2_turn_18 ?_
    refine xr_iconst (2) C (by decide) dX2_turn_19 ?_
    refine xr_V (v := a0) [.int a1, .int (2 : Int32)] [.int (2 : Int32), .int a1, va_rf a0] (fun r => some (.int r)) (fun r => .int r :: [.int (2 : Int32), .int a1, va_rf a0]) C E xi_2_SlatCratesModel (fun r h' e => wk_X2_of e) q2247 q2249 qs39 q89 q2250 xh_SlatCratesModel xd_X2_of (by decide) (by decide) ⟨rfl, ⟨rfl, ⟨xk_crf _, trivial⟩⟩⟩ (Nat.le_of_ble_eq_true rfl) rfl (fun _ => rfl) dX2_turn_20 (fun r5 h6 E => ?_)
    refine xr_S [.int r5] [.int (2 : Int32), .int a1, va_rf a0] (fun r => some (.int r)) (fun r => .int r :: [.int (2 : Int32), .int a1, va_rf a0]) C E (fun r h' e => wk_X2_turned e) q2283 q2284 q89 q2285 xh_SlatCratesModel xd_X2_turned (by decide) (by decide) ⟨rfl, ⟨rfl, ⟨xk_crf _, trivial⟩⟩⟩ (Nat.le_of_ble_eq_true rfl) rfl (fun _ => rfl) dX2_turn_23 (fun r7 h8 E => ?_)
    refine xr_V (v := a0) [.int a1, .int (2 : Int32), .int r7] [] (fun _ => none) (fun _ => []) C E xi_2_SlatCratesModel (fun r h' e => wk_X2_lays e) q2219 q2221 qs33 q89 q2222 xh_SlatCratesModel xd_X2_lays (by decide) (by decide) trivial (Nat.le_of_ble_eq_true rfl) rfl (fun _ => rfl) dX2_turn_26 (fun r9 h10 E => ?_)
    refine xr_aload_n 0 C rfl rfl dX2_turn_29 ?_
    refine xr_iload_n 1 C rfl rfl dX2_turn_30 ?_
    refine xr_iconst (2) C (by decide) dX2_turn_31 ?_
    refine xr_V (v := a0) [.int a1, .int (2 : Int32)] [] (fun r => some (.int r)) (fun r => .int r :: []) C E xi_2_SlatCratesModel (fun r h' e => wk_X2_of e) q2247 q2249 qs39 q89 q2250 xh_SlatCratesModel xd_X2_of (by decide) (by decide) trivial (Nat.le_of_ble_eq_true rfl) rfl (fun _ => rfl) dX2_turn_32 (fun r11 h12 E => ?_)
    exact xr_iret C Z E dX2_turn_35
  · refine xr_iconst (-1) C (by decide) dX2_turn_8 ?_
    exact xr_iret C Z E dX2_turn_9
def mf_X2_reasonBreak (a0 : Option Nat) (a1 : Int32) (h0 : xk_H) : Option (Int32 × xk_H) :=
  xm_rc [2] a0 h0 <| xm_cl (mf_X2_isTop a0 a1 h0) fun r1 h2 => if xk_b2 r1 = 0 then (some ((1 : Int32), h2)) else (xm_rc [2] a0 h2 <| xm_cl (mf_X2_pile a0 a1 h2) fun r3 h4 => if r3 ≤ 0 then (some ((0 : Int32), h4)) else (some ((5 : Int32), h4)))
set_option maxHeartbeats 1000000 in
theorem wk_X2_reasonBreak {l : Launch} {D : va_G} {base : Nat} {a0 : Option Nat} {a1 : Int32} {h0 : xk_H} {r : Int32} {h' : xk_H} (E : mf_X2_reasonBreak a0 a1 h0 = some (r, h')) : xk_Ok l D base yX2_reasonBreak cX2_reasonBreak 2 (Option.some FieldType.int) 5 147 [va_rf a0, .int a1] h0 (some (.int r)) h' := by
  refine xk_ofX RX2 "reasonBreak" xq_X2_reasonBreak rfl rfl (Nat.le_of_ble_eq_true rfl) ⟨xk_crf _, ⟨rfl, trivial⟩⟩ (fun Γ el eD eb C Z => ?_)
  rw [mf_X2_reasonBreak] at E
  show xk_X Γ 0 [(0, va_rf a0), (1, .int a1)] [] h0
  refine xr_aload_n 0 C rfl rfl dX2_reasonBreak_0 ?_
  refine xr_iload_n 1 C rfl rfl dX2_reasonBreak_1 ?_
  refine xr_V (v := a0) [.int a1] [] (fun r => some (.int (xk_b2 r))) (fun r => .int (xk_b2 r) :: []) C E xi_2_SlatCratesModel (fun r h' e => wk_X2_isTop e) q2239 q2241 qs37 q89 q2242 xh_SlatCratesModel xd_X2_isTop (by decide) (by decide) trivial (Nat.le_of_ble_eq_true rfl) rfl (fun _ => rfl) dX2_reasonBreak_2 (fun r1 h2 E => ?_)
  refine xr_if_ne 12 C E dX2_reasonBreak_5 (by decide) (fun E => ?_) (fun E => ?_)
  · refine xr_aload_n 0 C rfl rfl dX2_reasonBreak_12 ?_
    refine xr_iload_n 1 C rfl rfl dX2_reasonBreak_13 ?_
    refine xr_V (v := a0) [.int a1] [] (fun r => some (.int r)) (fun r => .int r :: []) C E xi_2_SlatCratesModel (fun r h' e => wk_X2_pile e) q2251 q2253 qs40 q89 q2254 xh_SlatCratesModel xd_X2_pile (by decide) (by decide) trivial (Nat.le_of_ble_eq_true rfl) rfl (fun _ => rfl) dX2_reasonBreak_14 (fun r3 h4 E => ?_)
    refine xr_if_le 24 C E dX2_reasonBreak_17 (by decide) (fun E => ?_) (fun E => ?_)
    · refine xr_iconst (0) C (by decide) dX2_reasonBreak_24 ?_
      exact xr_iret C Z E dX2_reasonBreak_25
    · refine xr_iconst (5) C (by decide) dX2_reasonBreak_20 ?_
      refine xr_goto 25 C dX2_reasonBreak_21 (by decide) ?_
      exact xr_iret C Z E dX2_reasonBreak_25
  · refine xr_iconst (1) C (by decide) dX2_reasonBreak_8 ?_
    refine xr_goto 25 C dX2_reasonBreak_9 (by decide) ?_
    exact xr_iret C Z E dX2_reasonBreak_25
def mf_X2_breakUp_L47 (kx87 : xk_H → Option (Int32 × xk_H)) (a0 : Option Nat) (a1 : Int32) : Nat → Int32 → xk_H → Option (Int32 × xk_H)
  | 0, _, _ => none
  | n + 1, a3, h0 => if (110 : Int32) ≤ a3 then (kx87 h0) else (xm_gR [2] 0 a0 h0 fun x10 => if (110 : Int32) ≤ (a3 + (9 : Int32)) then (xm_sV [100] x10 a3 (.int (0 : Int32)) h0 fun h11 => mf_X2_breakUp_L47 kx87 a0 a1 n (a3 + 1) h11) else (xm_gR [2] 0 a0 h0 fun x12 => xm_lI [100] x12 (a3 + (9 : Int32)) h0 fun x13 => xm_sV [100] x10 a3 (.int x13) h0 fun h14 => mf_X2_breakUp_L47 kx87 a0 a1 n (a3 + 1) h14))
set_option maxHeartbeats 1000000 in
theorem wk_X2_breakUp_L47 {Γ : xk_C} {r : Int32} {h' : xk_H} {kx87 : xk_H → Option (Int32 × xk_H)} {a0 : Option Nat} {a1 : Int32} (C : xk_Cx Γ RX2 cX2_breakUp 4 (Option.some FieldType.int) "breakUp" 6 168) (Z : xk_Z Γ (some (.int r)) h') (hkx87 : ∀ (g : xk_H), kx87 g = some (r, h') → xk_X Γ 87 [(0, va_rf a0), (1, .int a1)] [] g) : ∀ (n : Nat) (a3 : Int32) (h0 : xk_H), mf_X2_breakUp_L47 kx87 a0 a1 n a3 h0 = some (r, h') → xk_X Γ 47 [(0, va_rf a0), (1, .int a1), (3, .int a3)] [] h0 := by
  intro n
  induction n with
  | zero =>
    intro a3 h0 E
    rw [mf_X2_breakUp_L47] at E
    cases E
  | succ n ih =>
    intro a3 h0 E
    have hkb47 : ∀ (m3 : Int32) (g : xk_H), mf_X2_breakUp_L47 kx87 a0 a1 n m3 g = some (r, h') → xk_X Γ 47 [(0, va_rf a0), (1, .int a1), (3, .int m3)] [] g := ih
    rw [mf_X2_breakUp_L47] at E
    refine xr_iload_n 2 C rfl rfl dX2_breakUp_47 ?_
    refine xr_bipush (110) C (by decide) dX2_breakUp_48 ?_
    refine xr_icmp_ge 87 C E dX2_breakUp_50 (by decide) (fun E => ?_) (fun E => ?_)
    · refine xr_sub [0, 1] rfl ?_
      exact hkx87 h0 E
    · refine xr_aload_n 0 C rfl rfl dX2_breakUp_53 ?_
      refine xr_gR C E xf_X2_7 dX2_breakUp_54 (fun x10 E => ?_)
      refine xr_iload_n 2 C rfl rfl dX2_breakUp_57 ?_
      refine xr_iload_n 2 C rfl rfl dX2_breakUp_58 ?_
      refine xr_bipush (9) C (by decide) dX2_breakUp_59 ?_
      refine xr_iadd C dX2_breakUp_61 ?_
      refine xr_bipush (110) C (by decide) dX2_breakUp_62 ?_
      refine xr_icmp_ge 79 C E dX2_breakUp_64 (by decide) (fun E => ?_) (fun E => ?_)
      · refine xr_iconst (0) C (by decide) dX2_breakUp_79 ?_
        refine xr_sI C E dX2_breakUp_80 (fun h11 E => ?_)
        refine xr_iinc (v := (a3 + 1)) (L2 := [(3, .int (a3 + 1)), (0, va_rf a0), (1, .int a1)]) 2 C rfl rfl rfl dX2_breakUp_81 (by decide) ?_
        refine xr_goto 47 C dX2_breakUp_84 (by decide) ?_
        refine xr_sub [1, 2, 0] rfl ?_
        exact hkb47 (a3 + 1) h11 E
      · refine xr_aload_n 0 C rfl rfl dX2_breakUp_67 ?_
        refine xr_gR C E xf_X2_7 dX2_breakUp_68 (fun x12 E => ?_)
        refine xr_iload_n 2 C rfl rfl dX2_breakUp_71 ?_
        refine xr_bipush (9) C (by decide) dX2_breakUp_72 ?_
        refine xr_iadd C dX2_breakUp_74 ?_
        refine xr_lI C E xt_100 dX2_breakUp_75 (fun x13 E => ?_)
        refine xr_goto 80 C dX2_breakUp_76 (by decide) ?_
        refine xr_sI C E dX2_breakUp_80 (fun h14 E => ?_)
        refine xr_iinc (v := (a3 + 1)) (L2 := [(3, .int (a3 + 1)), (0, va_rf a0), (1, .int a1)]) 2 C rfl rfl rfl dX2_breakUp_81 (by decide) ?_
        refine xr_goto 47 C dX2_breakUp_84 (by decide) ?_
        refine xr_sub [1, 2, 0] rfl ?_
        exact hkb47 (a3 + 1) h14 E
def mf_X2_breakUp_J135 (kb89 : Int32 → xk_H → Option (Int32 × xk_H)) (a0 : Option Nat) (a1 : Int32) (a3 : Int32) (s0 : Int32) (s1 : Int32) (s2 : Int32) (s3 : Option Nat) (h0 : xk_H) : Option (Int32 × xk_H) :=
  xm_rc [2] s3 h0 <| xm_cl (mf_X2_lays s3 s2 s1 s0 h0) fun r22 h23 => kb89 (a3 + 1) h23
set_option maxHeartbeats 1000000 in
theorem wk_X2_breakUp_J135 {Γ : xk_C} {r : Int32} {h' : xk_H} {kb89 : Int32 → xk_H → Option (Int32 × xk_H)} {a0 : Option Nat} {a1 : Int32} {a3 : Int32} {s0 : Int32} {s1 : Int32} {s2 : Int32} {s3 : Option Nat} {h0 : xk_H} (C : xk_Cx Γ RX2 cX2_breakUp 4 (Option.some FieldType.int) "breakUp" 6 168) (Z : xk_Z Γ (some (.int r)) h') (hkb89 : ∀ (m3 : Int32) (g : xk_H), kb89 m3 g = some (r, h') → xk_X Γ 89 [(0, va_rf a0), (1, .int a1), (3, .int m3)] [] g) (E : mf_X2_breakUp_J135 kb89 a0 a1 a3 s0 s1 s2 s3 h0 = some (r, h')) : xk_X Γ 135 [(0, va_rf a0), (1, .int a1), (3, .int a3)] [.int s0, .int s1, .int s2, va_rf s3] h0 := by
  rw [mf_X2_breakUp_J135] at E
  refine xr_V (v := s3) [.int s2, .int s1, .int s0] [] (fun _ => none) (fun _ => []) C E xi_2_SlatCratesModel (fun r h' e => wk_X2_lays e) q2219 q2221 qs33 q89 q2222 xh_SlatCratesModel xd_X2_lays (by decide) (by decide) trivial (Nat.le_of_ble_eq_true rfl) rfl (fun _ => rfl) dX2_breakUp_135 (fun r22 h23 E => ?_)
  refine xr_iinc (v := (a3 + 1)) (L2 := [(3, .int (a3 + 1)), (0, va_rf a0), (1, .int a1)]) 2 C rfl rfl rfl dX2_breakUp_138 (by decide) ?_
  refine xr_goto 89 C dX2_breakUp_141 (by decide) ?_
  refine xr_sub [1, 2, 0] rfl ?_
  exact hkb89 (a3 + 1) h23 E
def mf_X2_breakUp_L89 (kx144 : xk_H → Option (Int32 × xk_H)) (a0 : Option Nat) (a1 : Int32) : Nat → Int32 → xk_H → Option (Int32 × xk_H)
  | 0, _, _ => none
  | n + 1, a3, h0 => xm_gR [2] 0 a0 h0 fun x16 => xm_lI [100] x16 (0 : Int32) h0 fun x17 => if x17 ≤ a3 then (kx144 h0) else (xm_rc [2] a0 h0 <| xm_cl (mf_X2_of a0 a3 (7 : Int32) h0) fun r18 h19 => if r18 ≤ (a1 + (1 : Int32)) then (xm_rc [2] a0 h19 <| xm_cl (mf_X2_of a0 a3 (7 : Int32) h19) fun r20 h21 => mf_X2_breakUp_J135 (fun m3 g => mf_X2_breakUp_L89 kx144 a0 a1 n m3 g) a0 a1 a3 r20 (7 : Int32) a3 a0 h21) else (xm_rc [2] a0 h19 <| xm_cl (mf_X2_of a0 a3 (7 : Int32) h19) fun r24 h25 => mf_X2_breakUp_J135 (fun m3 g => mf_X2_breakUp_L89 kx144 a0 a1 n m3 g) a0 a1 a3 (r24 - (1 : Int32)) (7 : Int32) a3 a0 h25))
set_option maxHeartbeats 1000000 in
theorem wk_X2_breakUp_L89 {Γ : xk_C} {r : Int32} {h' : xk_H} {kx144 : xk_H → Option (Int32 × xk_H)} {a0 : Option Nat} {a1 : Int32} (C : xk_Cx Γ RX2 cX2_breakUp 4 (Option.some FieldType.int) "breakUp" 6 168) (Z : xk_Z Γ (some (.int r)) h') (hkx144 : ∀ (g : xk_H), kx144 g = some (r, h') → xk_X Γ 144 [(0, va_rf a0)] [] g) : ∀ (n : Nat) (a3 : Int32) (h0 : xk_H), mf_X2_breakUp_L89 kx144 a0 a1 n a3 h0 = some (r, h') → xk_X Γ 89 [(0, va_rf a0), (1, .int a1), (3, .int a3)] [] h0 := by
  intro n
  induction n with
  | zero =>
    intro a3 h0 E
    rw [mf_X2_breakUp_L89] at E
    cases E
  | succ n ih =>
    intro a3 h0 E
    have hkb89 : ∀ (m3 : Int32) (g : xk_H), mf_X2_breakUp_L89 kx144 a0 a1 n m3 g = some (r, h') → xk_X Γ 89 [(0, va_rf a0), (1, .int a1), (3, .int m3)] [] g := ih
    rw [mf_X2_breakUp_L89] at E
    refine xr_iload_n 2 C rfl rfl dX2_breakUp_89 ?_
    refine xr_aload_n 0 C rfl rfl dX2_breakUp_90 ?_
    refine xr_gR C E xf_X2_7 dX2_breakUp_91 (fun x16 E => ?_)
    refine xr_iconst (0) C (by decide) dX2_breakUp_94 ?_
    refine xr_lI C E xt_100 dX2_breakUp_95 (fun x17 E => ?_)
    refine xr_icmp_ge 144 C E dX2_breakUp_96 (by decide) (fun E => ?_) (fun E => ?_)
    · refine xr_sub [0] rfl ?_
      exact hkx144 h0 E
    · refine xr_aload_n 0 C rfl rfl dX2_breakUp_99 ?_
      refine xr_iload_n 2 C rfl rfl dX2_breakUp_100 ?_
      refine xr_bipush (7) C (by decide) dX2_breakUp_101 ?_
      refine xr_aload_n 0 C rfl rfl dX2_breakUp_103 ?_
      refine xr_iload_n 2 C rfl rfl dX2_breakUp_104 ?_
      refine xr_bipush (7) C (by decide) dX2_breakUp_105 ?_
      refine xr_V (v := a0) [.int a3, .int (7 : Int32)] [.int (7 : Int32), .int a3, va_rf a0] (fun r => some (.int r)) (fun r => .int r :: [.int (7 : Int32), .int a3, va_rf a0]) C E xi_2_SlatCratesModel (fun r h' e => wk_X2_of e) q2247 q2249 qs39 q89 q2250 xh_SlatCratesModel xd_X2_of (by decide) (by decide) ⟨rfl, ⟨rfl, ⟨xk_crf _, trivial⟩⟩⟩ (Nat.le_of_ble_eq_true rfl) rfl (fun _ => rfl) dX2_breakUp_107 (fun r18 h19 E => ?_)
      refine xr_iload_n 1 C rfl rfl dX2_breakUp_110 ?_
      refine xr_iconst (1) C (by decide) dX2_breakUp_111 ?_
      refine xr_iadd C dX2_breakUp_112 ?_
      refine xr_icmp_le 128 C E dX2_breakUp_113 (by decide) (fun E => ?_) (fun E => ?_)
      · refine xr_aload_n 0 C rfl rfl dX2_breakUp_128 ?_
        refine xr_iload_n 2 C rfl rfl dX2_breakUp_129 ?_
        refine xr_bipush (7) C (by decide) dX2_breakUp_130 ?_
        refine xr_V (v := a0) [.int a3, .int (7 : Int32)] [.int (7 : Int32), .int a3, va_rf a0] (fun r => some (.int r)) (fun r => .int r :: [.int (7 : Int32), .int a3, va_rf a0]) C E xi_2_SlatCratesModel (fun r h' e => wk_X2_of e) q2247 q2249 qs39 q89 q2250 xh_SlatCratesModel xd_X2_of (by decide) (by decide) ⟨rfl, ⟨rfl, ⟨xk_crf _, trivial⟩⟩⟩ (Nat.le_of_ble_eq_true rfl) rfl (fun _ => rfl) dX2_breakUp_132 (fun r20 h21 E => ?_)
        exact wk_X2_breakUp_J135 C Z hkb89 E
      · refine xr_aload_n 0 C rfl rfl dX2_breakUp_116 ?_
        refine xr_iload_n 2 C rfl rfl dX2_breakUp_117 ?_
        refine xr_bipush (7) C (by decide) dX2_breakUp_118 ?_
        refine xr_V (v := a0) [.int a3, .int (7 : Int32)] [.int (7 : Int32), .int a3, va_rf a0] (fun r => some (.int r)) (fun r => .int r :: [.int (7 : Int32), .int a3, va_rf a0]) C E xi_2_SlatCratesModel (fun r h' e => wk_X2_of e) q2247 q2249 qs39 q89 q2250 xh_SlatCratesModel xd_X2_of (by decide) (by decide) ⟨rfl, ⟨rfl, ⟨xk_crf _, trivial⟩⟩⟩ (Nat.le_of_ble_eq_true rfl) rfl (fun _ => rfl) dX2_breakUp_120 (fun r24 h25 E => ?_)
        refine xr_iconst (1) C (by decide) dX2_breakUp_123 ?_
        refine xr_isub C dX2_breakUp_124 ?_
        refine xr_goto 135 C dX2_breakUp_125 (by decide) ?_
        exact wk_X2_breakUp_J135 C Z hkb89 E
def mf_X2_breakUp (a0 : Option Nat) (a1 : Int32) (h0 : xk_H) : Option (Int32 × xk_H) :=
  xm_rc [2] a0 h0 <| xm_cl (mf_X2_isCrate a0 a1 h0) fun r1 h2 => if xk_b2 r1 = 0 then (some ((-1 : Int32), h2)) else (xm_rc [2] a0 h2 <| xm_cl (mf_X2_records a0 h2) fun r3 h4 => xm_rc [2] a0 h4 <| xm_cl (mf_X2_reasonBreak a0 a1 h4) fun r5 h6 => if r5 ≤ 0 then (xm_gR [2] 0 a0 h6 fun x7 => xm_lI [100] x7 (0 : Int32) h6 fun x8 => xm_sV [100] x7 (0 : Int32) (.int (x8 - (1 : Int32))) h6 fun h9 => mf_X2_breakUp_L47 (fun h15 => mf_X2_breakUp_L89 (fun h26 => xm_gR [2] 0 a0 h26 fun x27 => xm_lI [100] x27 (0 : Int32) h26 fun x28 => some (((10 : Int32) + x28), h26)) a0 a1 xk_fu (0 : Int32) h15) a0 a1 xk_fu ((2 : Int32) + ((9 : Int32) * a1)) h9) else (xm_rc [2] a0 h6 <| xm_cl (mf_X2_refuses a0 r5 h6) fun r29 h30 => some (r29, h30)))
set_option maxHeartbeats 1000000 in
theorem wk_X2_breakUp {l : Launch} {D : va_G} {base : Nat} {a0 : Option Nat} {a1 : Int32} {h0 : xk_H} {r : Int32} {h' : xk_H} (E : mf_X2_breakUp a0 a1 h0 = some (r, h')) : xk_Ok l D base yX2_breakUp cX2_breakUp 4 (Option.some FieldType.int) 6 168 [va_rf a0, .int a1] h0 (some (.int r)) h' := by
  refine xk_ofX RX2 "breakUp" xq_X2_breakUp rfl rfl (Nat.le_of_ble_eq_true rfl) ⟨xk_crf _, ⟨rfl, trivial⟩⟩ (fun Γ el eD eb C Z => ?_)
  rw [mf_X2_breakUp] at E
  show xk_X Γ 0 [(0, va_rf a0), (1, .int a1)] [] h0
  refine xr_aload_n 0 C rfl rfl dX2_breakUp_0 ?_
  refine xr_iload_n 1 C rfl rfl dX2_breakUp_1 ?_
  refine xr_V (v := a0) [.int a1] [] (fun r => some (.int (xk_b2 r))) (fun r => .int (xk_b2 r) :: []) C E xi_2_SlatCratesModel (fun r h' e => wk_X2_isCrate e) q2231 q2233 qs35 q89 q2234 xh_SlatCratesModel xd_X2_isCrate (by decide) (by decide) trivial (Nat.le_of_ble_eq_true rfl) rfl (fun _ => rfl) dX2_breakUp_2 (fun r1 h2 E => ?_)
  refine xr_if_ne 10 C E dX2_breakUp_5 (by decide) (fun E => ?_) (fun E => ?_)
  · refine xr_aload_n 0 C rfl rfl dX2_breakUp_10 ?_
    refine xr_V (v := a0) [] [] (fun _ => none) (fun _ => []) C E xi_2_SlatCratesModel (fun r h' e => wk_X2_records e) q2212 q2214 qs32 q89 q2215 xh_SlatCratesModel xd_X2_records (by decide) (by decide) trivial (Nat.le_of_ble_eq_true rfl) rfl (fun _ => rfl) dX2_breakUp_11 (fun r3 h4 E => ?_)
    refine xr_aload_n 0 C rfl rfl dX2_breakUp_14 ?_
    refine xr_iload_n 1 C rfl rfl dX2_breakUp_15 ?_
    refine xr_V (v := a0) [.int a1] [] (fun r => some (.int r)) (fun r => .int r :: []) C E xi_2_SlatCratesModel (fun r h' e => wk_X2_reasonBreak e) q2290 q2292 qs46 q89 q2293 xh_SlatCratesModel xd_X2_reasonBreak (by decide) (by decide) trivial (Nat.le_of_ble_eq_true rfl) rfl (fun _ => rfl) dX2_breakUp_16 (fun r5 h6 E => ?_)
    refine xr_istore_n (L2 := [(2, .int r5), (0, va_rf a0), (1, .int a1)]) C rfl rfl dX2_breakUp_19 (by decide) ?_
    refine xr_iload_n 0 C rfl rfl dX2_breakUp_20 ?_
    refine xr_if_le 30 C E dX2_breakUp_21 (by decide) (fun E => ?_) (fun E => ?_)
    · refine xr_aload_n 1 C rfl rfl dX2_breakUp_30 ?_
      refine xr_gR C E xf_X2_7 dX2_breakUp_31 (fun x7 E => ?_)
      refine xr_iconst (0) C (by decide) dX2_breakUp_34 ?_
      refine xr_dup2 C rfl (xk_crf _) dX2_breakUp_35 ?_
      refine xr_lI C E xt_100 dX2_breakUp_36 (fun x8 E => ?_)
      refine xr_iconst (1) C (by decide) dX2_breakUp_37 ?_
      refine xr_isub C dX2_breakUp_38 ?_
      refine xr_sI C E dX2_breakUp_39 (fun h9 E => ?_)
      refine xr_iconst (2) C (by decide) dX2_breakUp_40 ?_
      refine xr_bipush (9) C (by decide) dX2_breakUp_41 ?_
      refine xr_iload_n 2 C rfl rfl dX2_breakUp_43 ?_
      refine xr_imul C dX2_breakUp_44 ?_
      refine xr_iadd C dX2_breakUp_45 ?_
      refine xr_istore_n (L2 := [(3, .int ((2 : Int32) + ((9 : Int32) * a1))), (2, .int r5), (0, va_rf a0), (1, .int a1)]) C rfl rfl dX2_breakUp_46 (by decide) ?_
      refine xr_sub [2, 3, 0] rfl ?_
      refine wk_X2_breakUp_L47 (a0 := a0) (a1 := a1) C Z (fun h15 E => ?_) xk_fu ((2 : Int32) + ((9 : Int32) * a1)) h9 E
      · refine xr_iconst (0) C (by decide) dX2_breakUp_87 ?_
        refine xr_istore_n (L2 := [(3, .int (0 : Int32)), (0, va_rf a0), (1, .int a1)]) C rfl rfl dX2_breakUp_88 (by decide) ?_
        refine xr_sub [1, 2, 0] rfl ?_
        refine wk_X2_breakUp_L89 (a0 := a0) (a1 := a1) C Z (fun h26 E => ?_) xk_fu (0 : Int32) h15 E
        · refine xr_bipush (10) C (by decide) dX2_breakUp_144 ?_
          refine xr_aload_n 0 C rfl rfl dX2_breakUp_146 ?_
          refine xr_gR C E xf_X2_7 dX2_breakUp_147 (fun x27 E => ?_)
          refine xr_iconst (0) C (by decide) dX2_breakUp_150 ?_
          refine xr_lI C E xt_100 dX2_breakUp_151 (fun x28 E => ?_)
          refine xr_iadd C dX2_breakUp_152 ?_
          exact xr_iret C Z E dX2_breakUp_153
    · refine xr_aload_n 1 C rfl rfl dX2_breakUp_24 ?_
      refine xr_iload_n 0 C rfl rfl dX2_breakUp_25 ?_
      refine xr_V (v := a0) [.int r5] [] (fun r => some (.int r)) (fun r => .int r :: []) C E xi_2_SlatCratesModel (fun r h' e => wk_X2_refuses e) q2263 q2265 qs43 q89 q2266 xh_SlatCratesModel xd_X2_refuses (by decide) (by decide) trivial (Nat.le_of_ble_eq_true rfl) rfl (fun _ => rfl) dX2_breakUp_26 (fun r29 h30 E => ?_)
      exact xr_iret C Z E dX2_breakUp_29
  · refine xr_iconst (-1) C (by decide) dX2_breakUp_8 ?_
    exact xr_iret C Z E dX2_breakUp_9
def mf_X2_append (a0 : Option Nat) (a1 : Int32) (h0 : xk_H) : Option (Int32 × xk_H) :=
  xm_cl (mf_X2_in a1 (33 : Int32) (126 : Int32) h0) fun r1 h2 => if xk_b2 r1 = 0 then (some ((-1 : Int32), h2)) else (xm_gI [2] 7 a0 h2 fun x3 => if x3 = (80 : Int32) then (some ((-3 : Int32), h2)) else (xm_gR [2] 6 a0 h2 fun x4 => xm_gI [2] 7 a0 h2 fun x5 => xm_sV [100] x4 x5 (.int a1) h2 fun h6 => xm_gI [2] 7 a0 h6 fun x7 => xm_pV [2] 7 a0 (.int (x7 + (1 : Int32))) h6 fun h8 => xm_gI [2] 7 a0 h8 fun x9 => some (x9, h8)))
set_option maxHeartbeats 1000000 in
theorem wk_X2_append {l : Launch} {D : va_G} {base : Nat} {a0 : Option Nat} {a1 : Int32} {h0 : xk_H} {r : Int32} {h' : xk_H} (E : mf_X2_append a0 a1 h0 = some (r, h')) : xk_Ok l D base yX2_append cX2_append 2 (Option.some FieldType.int) 2 82 [va_rf a0, .int a1] h0 (some (.int r)) h' := by
  refine xk_ofX RX2 "append" xq_X2_append rfl rfl (Nat.le_of_ble_eq_true rfl) ⟨xk_crf _, ⟨rfl, trivial⟩⟩ (fun Γ el eD eb C Z => ?_)
  rw [mf_X2_append] at E
  show xk_X Γ 0 [(0, va_rf a0), (1, .int a1)] [] h0
  refine xr_iload_n 1 C rfl rfl dX2_append_0 ?_
  refine xr_bipush (33) C (by decide) dX2_append_1 ?_
  refine xr_bipush (126) C (by decide) dX2_append_3 ?_
  refine xr_S [.int a1, .int (33 : Int32), .int (126 : Int32)] [] (fun r => some (.int (xk_b2 r))) (fun r => .int (xk_b2 r) :: []) C E (fun r h' e => wk_X2_in e) q2205 q2206 q89 q2207 xh_SlatCratesModel xd_X2_in (by decide) (by decide) trivial (Nat.le_of_ble_eq_true rfl) rfl (fun _ => rfl) dX2_append_5 (fun r1 h2 E => ?_)
  refine xr_if_ne 13 C E dX2_append_8 (by decide) (fun E => ?_) (fun E => ?_)
  · refine xr_aload_n 0 C rfl rfl dX2_append_13 ?_
    refine xr_gI C E xf_X2_126 dX2_append_14 (fun x3 E => ?_)
    refine xr_bipush (80) C (by decide) dX2_append_17 ?_
    refine xr_icmp_ne 25 C E dX2_append_19 (by decide) (fun E => ?_) (fun E => ?_)
    · refine xr_aload_n 0 C rfl rfl dX2_append_25 ?_
      refine xr_gR C E xf_X2_22 dX2_append_26 (fun x4 E => ?_)
      refine xr_aload_n 0 C rfl rfl dX2_append_29 ?_
      refine xr_gI C E xf_X2_126 dX2_append_30 (fun x5 E => ?_)
      refine xr_iload_n 1 C rfl rfl dX2_append_33 ?_
      refine xr_sI C E dX2_append_34 (fun h6 E => ?_)
      refine xr_aload_n 0 C rfl rfl dX2_append_35 ?_
      refine xr_dup C (xk_crf _) dX2_append_36 ?_
      refine xr_gI C E xf_X2_126 dX2_append_37 (fun x7 E => ?_)
      refine xr_iconst (1) C (by decide) dX2_append_40 ?_
      refine xr_iadd C dX2_append_41 ?_
      refine xr_pI C E xf_X2_126 xp_X2_126 dX2_append_42 (fun h8 E => ?_)
      refine xr_aload_n 0 C rfl rfl dX2_append_45 ?_
      refine xr_gI C E xf_X2_126 dX2_append_46 (fun x9 E => ?_)
      exact xr_iret C Z E dX2_append_49
    · refine xr_bipush (-3) C (by decide) dX2_append_22 ?_
      exact xr_iret C Z E dX2_append_24
  · refine xr_iconst (-1) C (by decide) dX2_append_11 ?_
    exact xr_iret C Z E dX2_append_12
def mf_X2_clear (a0 : Option Nat) (h0 : xk_H) : Option (Int32 × xk_H) :=
  xm_gI [2] 7 a0 h0 fun x1 => xm_pV [2] 7 a0 (.int (0 : Int32)) h0 fun h2 => some (x1, h2)
set_option maxHeartbeats 1000000 in
theorem wk_X2_clear {l : Launch} {D : va_G} {base : Nat} {a0 : Option Nat} {h0 : xk_H} {r : Int32} {h' : xk_H} (E : mf_X2_clear a0 h0 = some (r, h')) : xk_Ok l D base yX2_clear cX2_clear 2 (Option.some FieldType.int) 1 60 [va_rf a0] h0 (some (.int r)) h' := by
  refine xk_ofX RX2 "clear" xq_X2_clear rfl rfl (Nat.le_of_ble_eq_true rfl) ⟨xk_crf _, trivial⟩ (fun Γ el eD eb C Z => ?_)
  rw [mf_X2_clear] at E
  show xk_X Γ 0 [(0, va_rf a0)] [] h0
  refine xr_aload_n 0 C rfl rfl dX2_clear_0 ?_
  refine xr_gI C E xf_X2_126 dX2_clear_1 (fun x1 E => ?_)
  refine xr_istore_n (L2 := [(1, .int x1), (0, va_rf a0)]) C rfl rfl dX2_clear_4 (by decide) ?_
  refine xr_aload_n 1 C rfl rfl dX2_clear_5 ?_
  refine xr_iconst (0) C (by decide) dX2_clear_6 ?_
  refine xr_pI C E xf_X2_126 xp_X2_126 dX2_clear_7 (fun h2 E => ?_)
  refine xr_iload_n 0 C rfl rfl dX2_clear_10 ?_
  exact xr_iret C Z E dX2_clear_11
def mf_X2_here (a0 : Option Nat) (h0 : xk_H) : Option (Int32 × xk_H) :=
  xm_gI [2] 8 a0 h0 fun x1 => xm_gI [2] 7 a0 h0 fun x2 => if x2 ≤ x1 then (some ((0 : Int32), h0)) else (xm_gR [2] 6 a0 h0 fun x3 => xm_gI [2] 8 a0 h0 fun x4 => xm_lI [100] x3 x4 h0 fun x5 => some (x5, h0))
set_option maxHeartbeats 1000000 in
theorem wk_X2_here {l : Launch} {D : va_G} {base : Nat} {a0 : Option Nat} {h0 : xk_H} {r : Int32} {h' : xk_H} (E : mf_X2_here a0 h0 = some (r, h')) : xk_Ok l D base yX2_here cX2_here 1 (Option.some FieldType.int) 1 60 [va_rf a0] h0 (some (.int r)) h' := by
  refine xk_ofX RX2 "here" xq_X2_here rfl rfl (Nat.le_of_ble_eq_true rfl) ⟨xk_crf _, trivial⟩ (fun Γ el eD eb C Z => ?_)
  rw [mf_X2_here] at E
  show xk_X Γ 0 [(0, va_rf a0)] [] h0
  refine xr_aload_n 0 C rfl rfl dX2_here_0 ?_
  refine xr_gI C E xf_X2_129 dX2_here_1 (fun x1 E => ?_)
  refine xr_aload_n 0 C rfl rfl dX2_here_4 ?_
  refine xr_gI C E xf_X2_126 dX2_here_5 (fun x2 E => ?_)
  refine xr_icmp_ge 23 C E dX2_here_8 (by decide) (fun E => ?_) (fun E => ?_)
  · refine xr_iconst (0) C (by decide) dX2_here_23 ?_
    exact xr_iret C Z E dX2_here_24
  · refine xr_aload_n 0 C rfl rfl dX2_here_11 ?_
    refine xr_gR C E xf_X2_22 dX2_here_12 (fun x3 E => ?_)
    refine xr_aload_n 0 C rfl rfl dX2_here_15 ?_
    refine xr_gI C E xf_X2_129 dX2_here_16 (fun x4 E => ?_)
    refine xr_lI C E xt_100 dX2_here_19 (fun x5 E => ?_)
    refine xr_goto 24 C dX2_here_20 (by decide) ?_
    exact xr_iret C Z E dX2_here_24
def mf_X2_placeIn_L4 (a0 : Option Nat) (a1 : Int32) : Nat → Int32 → Int32 → xk_H → Option (Int32 × xk_H)
  | 0, _, _, _ => none
  | n + 1, a2, a3, h0 => xm_gI [2] 11 a0 h0 fun x1 => if x1 ≤ a3 then (some (a2, h0)) else (xm_gR [2] 10 a0 h0 fun x2 => xm_lI [100] x2 (((9 : Int32) * a3) + (7 : Int32)) h0 fun x3 => if x3 = (a1 + (1 : Int32)) then (mf_X2_placeIn_L4 a0 a1 n (a2 + (1 : Int32)) (a3 + 1) h0) else (mf_X2_placeIn_L4 a0 a1 n (a2 + (0 : Int32)) (a3 + 1) h0))
set_option maxHeartbeats 1000000 in
theorem wk_X2_placeIn_L4 {Γ : xk_C} {r : Int32} {h' : xk_H} {a0 : Option Nat} {a1 : Int32} (C : xk_Cx Γ RX2 cX2_placeIn 4 (Option.some FieldType.int) "placeIn" 1 60) (Z : xk_Z Γ (some (.int r)) h') : ∀ (n : Nat) (a2 : Int32) (a3 : Int32) (h0 : xk_H), mf_X2_placeIn_L4 a0 a1 n a2 a3 h0 = some (r, h') → xk_X Γ 4 [(0, va_rf a0), (1, .int a1), (2, .int a2), (3, .int a3)] [] h0 := by
  intro n
  induction n with
  | zero =>
    intro a2 a3 h0 E
    rw [mf_X2_placeIn_L4] at E
    cases E
  | succ n ih =>
    intro a2 a3 h0 E
    have hkb4 : ∀ (m2 : Int32) (m3 : Int32) (g : xk_H), mf_X2_placeIn_L4 a0 a1 n m2 m3 g = some (r, h') → xk_X Γ 4 [(0, va_rf a0), (1, .int a1), (2, .int m2), (3, .int m3)] [] g := ih
    rw [mf_X2_placeIn_L4] at E
    refine xr_iload_n 3 C rfl rfl dX2_placeIn_4 ?_
    refine xr_aload_n 0 C rfl rfl dX2_placeIn_5 ?_
    refine xr_gI C E xf_X2_144 dX2_placeIn_6 (fun x1 E => ?_)
    refine xr_icmp_ge 44 C E dX2_placeIn_9 (by decide) (fun E => ?_) (fun E => ?_)
    · refine xr_iload_n 2 C rfl rfl dX2_placeIn_44 ?_
      exact xr_iret C Z E dX2_placeIn_45
    · refine xr_iload_n 2 C rfl rfl dX2_placeIn_12 ?_
      refine xr_aload_n 0 C rfl rfl dX2_placeIn_13 ?_
      refine xr_gR C E xf_X2_25 dX2_placeIn_14 (fun x2 E => ?_)
      refine xr_bipush (9) C (by decide) dX2_placeIn_17 ?_
      refine xr_iload_n 3 C rfl rfl dX2_placeIn_19 ?_
      refine xr_imul C dX2_placeIn_20 ?_
      refine xr_bipush (7) C (by decide) dX2_placeIn_21 ?_
      refine xr_iadd C dX2_placeIn_23 ?_
      refine xr_lI C E xt_100 dX2_placeIn_24 (fun x3 E => ?_)
      refine xr_iload_n 1 C rfl rfl dX2_placeIn_25 ?_
      refine xr_iconst (1) C (by decide) dX2_placeIn_26 ?_
      refine xr_iadd C dX2_placeIn_27 ?_
      refine xr_icmp_ne 35 C E dX2_placeIn_28 (by decide) (fun E => ?_) (fun E => ?_)
      · refine xr_iconst (0) C (by decide) dX2_placeIn_35 ?_
        refine xr_iadd C dX2_placeIn_36 ?_
        refine xr_istore_n (L2 := [(2, .int (a2 + (0 : Int32))), (0, va_rf a0), (1, .int a1), (3, .int a3)]) C rfl rfl dX2_placeIn_37 (by decide) ?_
        refine xr_iinc (v := (a3 + 1)) (L2 := [(3, .int (a3 + 1)), (2, .int (a2 + (0 : Int32))), (0, va_rf a0), (1, .int a1)]) 3 C rfl rfl rfl dX2_placeIn_38 (by decide) ?_
        refine xr_goto 4 C dX2_placeIn_41 (by decide) ?_
        refine xr_sub [2, 3, 1, 0] rfl ?_
        exact hkb4 (a2 + (0 : Int32)) (a3 + 1) h0 E
      · refine xr_iconst (1) C (by decide) dX2_placeIn_31 ?_
        refine xr_goto 36 C dX2_placeIn_32 (by decide) ?_
        refine xr_iadd C dX2_placeIn_36 ?_
        refine xr_istore_n (L2 := [(2, .int (a2 + (1 : Int32))), (0, va_rf a0), (1, .int a1), (3, .int a3)]) C rfl rfl dX2_placeIn_37 (by decide) ?_
        refine xr_iinc (v := (a3 + 1)) (L2 := [(3, .int (a3 + 1)), (2, .int (a2 + (1 : Int32))), (0, va_rf a0), (1, .int a1)]) 3 C rfl rfl rfl dX2_placeIn_38 (by decide) ?_
        refine xr_goto 4 C dX2_placeIn_41 (by decide) ?_
        refine xr_sub [2, 3, 1, 0] rfl ?_
        exact hkb4 (a2 + (1 : Int32)) (a3 + 1) h0 E
def mf_X2_placeIn (a0 : Option Nat) (a1 : Int32) (h0 : xk_H) : Option (Int32 × xk_H) :=
  mf_X2_placeIn_L4 a0 a1 xk_fu (0 : Int32) (0 : Int32) h0
set_option maxHeartbeats 1000000 in
theorem wk_X2_placeIn {l : Launch} {D : va_G} {base : Nat} {a0 : Option Nat} {a1 : Int32} {h0 : xk_H} {r : Int32} {h' : xk_H} (E : mf_X2_placeIn a0 a1 h0 = some (r, h')) : xk_Ok l D base yX2_placeIn cX2_placeIn 4 (Option.some FieldType.int) 1 60 [va_rf a0, .int a1] h0 (some (.int r)) h' := by
  refine xk_ofX RX2 "placeIn" xq_X2_placeIn rfl rfl (Nat.le_of_ble_eq_true rfl) ⟨xk_crf _, ⟨rfl, trivial⟩⟩ (fun Γ el eD eb C Z => ?_)
  rw [mf_X2_placeIn] at E
  show xk_X Γ 0 [(0, va_rf a0), (1, .int a1)] [] h0
  refine xr_iconst (0) C (by decide) dX2_placeIn_0 ?_
  refine xr_istore_n (L2 := [(2, .int (0 : Int32)), (0, va_rf a0), (1, .int a1)]) C rfl rfl dX2_placeIn_1 (by decide) ?_
  refine xr_iconst (0) C (by decide) dX2_placeIn_2 ?_
  refine xr_istore_n (L2 := [(3, .int (0 : Int32)), (2, .int (0 : Int32)), (0, va_rf a0), (1, .int a1)]) C rfl rfl dX2_placeIn_3 (by decide) ?_
  refine xr_sub [2, 3, 1, 0] rfl ?_
  exact wk_X2_placeIn_L4 (a0 := a0) (a1 := a1) C Z xk_fu (0 : Int32) (0 : Int32) h0 E
def mf_X2_takes_J17 (a0 : Option Nat) (s0 : Int32) (s1 : Option Nat) (h0 : xk_H) : Option (Unit × xk_H) :=
  xm_pN .boolean [2] 9 s1 s0 h0 fun h2 => xm_gI [2] 8 a0 h2 fun x3 => xm_gI [2] 9 a0 h2 fun x4 => if x4 = 0 then (xm_pV [2] 8 a0 (.int (x3 + (0 : Int32))) h2 fun h5 => some ((), h5)) else (xm_pV [2] 8 a0 (.int (x3 + (1 : Int32))) h2 fun h6 => some ((), h6))
set_option maxHeartbeats 1000000 in
theorem wk_X2_takes_J17 {Γ : xk_C} {r : Unit} {h' : xk_H} {a0 : Option Nat} {s0 : Int32} {s1 : Option Nat} {h0 : xk_H} (C : xk_Cx Γ RX2 cX2_takes 2 none "takes" 1 60) (Z : xk_Z Γ none h') (E : mf_X2_takes_J17 a0 s0 s1 h0 = some (r, h')) : xk_X Γ 17 [(0, va_rf a0)] [.int s0, va_rf s1] h0 := by
  rw [mf_X2_takes_J17] at E
  refine xr_pN C E xf_X2_132 xp_X2_132 dX2_takes_17 (fun h2 E => ?_)
  refine xr_aload_n 0 C rfl rfl dX2_takes_20 ?_
  refine xr_dup C (xk_crf _) dX2_takes_21 ?_
  refine xr_gI C E xf_X2_129 dX2_takes_22 (fun x3 E => ?_)
  refine xr_aload_n 0 C rfl rfl dX2_takes_25 ?_
  refine xr_gI C E xf_X2_132 dX2_takes_26 (fun x4 E => ?_)
  refine xr_if_eq 36 C E dX2_takes_29 (by decide) (fun E => ?_) (fun E => ?_)
  · refine xr_iconst (0) C (by decide) dX2_takes_36 ?_
    refine xr_iadd C dX2_takes_37 ?_
    refine xr_pI C E xf_X2_129 xp_X2_129 dX2_takes_38 (fun h5 E => ?_)
    exact xr_vret C Z E dX2_takes_41
  · refine xr_iconst (1) C (by decide) dX2_takes_32 ?_
    refine xr_goto 37 C dX2_takes_33 (by decide) ?_
    refine xr_iadd C dX2_takes_37 ?_
    refine xr_pI C E xf_X2_129 xp_X2_129 dX2_takes_38 (fun h6 E => ?_)
    exact xr_vret C Z E dX2_takes_41
def mf_X2_takes (a0 : Option Nat) (a1 : Int32) (h0 : xk_H) : Option (Unit × xk_H) :=
  xm_gI [2] 9 a0 h0 fun x1 => if x1 = 0 then (mf_X2_takes_J17 a0 (0 : Int32) a0 h0) else (if a1 = 0 then (mf_X2_takes_J17 a0 (0 : Int32) a0 h0) else (mf_X2_takes_J17 a0 (1 : Int32) a0 h0))
set_option maxHeartbeats 1000000 in
theorem wk_X2_takes {l : Launch} {D : va_G} {base : Nat} {a0 : Option Nat} {a1 : Int32} {h0 : xk_H} {r : Unit} {h' : xk_H} (E : mf_X2_takes a0 a1 h0 = some (r, h')) : xk_Ok l D base yX2_takes cX2_takes 2 none 1 60 [va_rf a0, .int a1] h0 none h' := by
  refine xk_ofX RX2 "takes" xq_X2_takes rfl rfl (Nat.le_of_ble_eq_true rfl) ⟨xk_crf _, ⟨rfl, trivial⟩⟩ (fun Γ el eD eb C Z => ?_)
  rw [mf_X2_takes] at E
  show xk_X Γ 0 [(0, va_rf a0), (1, .int a1)] [] h0
  refine xr_aload_n 0 C rfl rfl dX2_takes_0 ?_
  refine xr_aload_n 0 C rfl rfl dX2_takes_1 ?_
  refine xr_gI C E xf_X2_132 dX2_takes_2 (fun x1 E => ?_)
  refine xr_if_eq 16 C E dX2_takes_5 (by decide) (fun E => ?_) (fun E => ?_)
  · refine xr_iconst (0) C (by decide) dX2_takes_16 ?_
    refine xr_sub [0] rfl ?_
    exact wk_X2_takes_J17 C Z E
  · refine xr_iload_n 1 C rfl rfl dX2_takes_8 ?_
    refine xr_if_eq 16 C E dX2_takes_9 (by decide) (fun E => ?_) (fun E => ?_)
    · refine xr_iconst (0) C (by decide) dX2_takes_16 ?_
      refine xr_sub [0] rfl ?_
      exact wk_X2_takes_J17 C Z E
    · refine xr_iconst (1) C (by decide) dX2_takes_12 ?_
      refine xr_goto 17 C dX2_takes_13 (by decide) ?_
      refine xr_sub [0] rfl ?_
      exact wk_X2_takes_J17 C Z E
def mf_X2_takesNumber_L38 (a0 : Option Nat) (a3 : Int32) : Nat → Int32 → xk_H → Option (Int32 × xk_H)
  | 0, _, _ => none
  | n + 1, a4, h0 => xm_gI [2] 9 a0 h0 fun x11 => if x11 = 0 then (some (a4, h0)) else (if a4 ≤ 0 then (some (a4, h0)) else (xm_rc [2] a0 h0 <| xm_cl (mf_X2_here a0 h0) fun r12 h13 => xm_cl (mf_X2_in r12 (48 : Int32) (57 : Int32) h13) fun r14 h15 => if xk_b2 r14 = 0 then (some (a4, h15)) else (xm_rc [2] a0 h15 <| xm_cl (mf_X2_here a0 h15) fun r16 h17 => if a3 < ((((10 : Int32) * a4) + r16) - (48 : Int32)) then (some (a4, h17)) else (xm_rc [2] a0 h17 <| xm_cl (mf_X2_here a0 h17) fun r18 h19 => xm_gI [2] 8 a0 h19 fun x20 => xm_pV [2] 8 a0 (.int (x20 + (1 : Int32))) h19 fun h21 => mf_X2_takesNumber_L38 a0 a3 n ((((10 : Int32) * a4) + r18) - (48 : Int32)) h21))))
set_option maxHeartbeats 1000000 in
theorem wk_X2_takesNumber_L38 {Γ : xk_C} {r : Int32} {h' : xk_H} {a0 : Option Nat} {a3 : Int32} (C : xk_Cx Γ RX2 cX2_takesNumber 5 (Option.some FieldType.int) "takesNumber" 2 82) (Z : xk_Z Γ (some (.int r)) h') : ∀ (n : Nat) (a4 : Int32) (h0 : xk_H), mf_X2_takesNumber_L38 a0 a3 n a4 h0 = some (r, h') → xk_X Γ 38 [(0, va_rf a0), (3, .int a3), (4, .int a4)] [] h0 := by
  intro n
  induction n with
  | zero =>
    intro a4 h0 E
    rw [mf_X2_takesNumber_L38] at E
    cases E
  | succ n ih =>
    intro a4 h0 E
    have hkb38 : ∀ (m4 : Int32) (g : xk_H), mf_X2_takesNumber_L38 a0 a3 n m4 g = some (r, h') → xk_X Γ 38 [(0, va_rf a0), (3, .int a3), (4, .int m4)] [] g := ih
    rw [mf_X2_takesNumber_L38] at E
    refine xr_aload_n 0 C rfl rfl dX2_takesNumber_38 ?_
    refine xr_gI C E xf_X2_132 dX2_takesNumber_39 (fun x11 E => ?_)
    refine xr_if_eq 109 C E dX2_takesNumber_42 (by decide) (fun E => ?_) (fun E => ?_)
    · refine xr_iload 2 C rfl dX2_takesNumber_109 ?_
      exact xr_iret C Z E dX2_takesNumber_111
    · refine xr_iload 2 C rfl dX2_takesNumber_45 ?_
      refine xr_if_le 109 C E dX2_takesNumber_47 (by decide) (fun E => ?_) (fun E => ?_)
      · refine xr_iload 2 C rfl dX2_takesNumber_109 ?_
        exact xr_iret C Z E dX2_takesNumber_111
      · refine xr_aload_n 0 C rfl rfl dX2_takesNumber_50 ?_
        refine xr_V (v := a0) [] [] (fun r => some (.int r)) (fun r => .int r :: []) C E xi_2_SlatCratesModel (fun r h' e => wk_X2_here e) q2314 q2316 qs49 q89 q2317 xh_SlatCratesModel xd_X2_here (by decide) (by decide) trivial (Nat.le_of_ble_eq_true rfl) rfl (fun _ => rfl) dX2_takesNumber_51 (fun r12 h13 E => ?_)
        refine xr_bipush (48) C (by decide) dX2_takesNumber_54 ?_
        refine xr_bipush (57) C (by decide) dX2_takesNumber_56 ?_
        refine xr_S [.int r12, .int (48 : Int32), .int (57 : Int32)] [] (fun r => some (.int (xk_b2 r))) (fun r => .int (xk_b2 r) :: []) C E (fun r h' e => wk_X2_in e) q2205 q2206 q89 q2207 xh_SlatCratesModel xd_X2_in (by decide) (by decide) trivial (Nat.le_of_ble_eq_true rfl) rfl (fun _ => rfl) dX2_takesNumber_58 (fun r14 h15 E => ?_)
        refine xr_if_eq 109 C E dX2_takesNumber_61 (by decide) (fun E => ?_) (fun E => ?_)
        · refine xr_iload 2 C rfl dX2_takesNumber_109 ?_
          exact xr_iret C Z E dX2_takesNumber_111
        · refine xr_bipush (10) C (by decide) dX2_takesNumber_64 ?_
          refine xr_iload 2 C rfl dX2_takesNumber_66 ?_
          refine xr_imul C dX2_takesNumber_68 ?_
          refine xr_aload_n 0 C rfl rfl dX2_takesNumber_69 ?_
          refine xr_V (v := a0) [] [.int ((10 : Int32) * a4)] (fun r => some (.int r)) (fun r => .int r :: [.int ((10 : Int32) * a4)]) C E xi_2_SlatCratesModel (fun r h' e => wk_X2_here e) q2314 q2316 qs49 q89 q2317 xh_SlatCratesModel xd_X2_here (by decide) (by decide) ⟨rfl, trivial⟩ (Nat.le_of_ble_eq_true rfl) rfl (fun _ => rfl) dX2_takesNumber_70 (fun r16 h17 E => ?_)
          refine xr_iadd C dX2_takesNumber_73 ?_
          refine xr_bipush (48) C (by decide) dX2_takesNumber_74 ?_
          refine xr_isub C dX2_takesNumber_76 ?_
          refine xr_iload_n 1 C rfl rfl dX2_takesNumber_77 ?_
          refine xr_icmp_gt 109 C E dX2_takesNumber_78 (by decide) (fun E => ?_) (fun E => ?_)
          · refine xr_iload 2 C rfl dX2_takesNumber_109 ?_
            exact xr_iret C Z E dX2_takesNumber_111
          · refine xr_bipush (10) C (by decide) dX2_takesNumber_81 ?_
            refine xr_iload 2 C rfl dX2_takesNumber_83 ?_
            refine xr_imul C dX2_takesNumber_85 ?_
            refine xr_aload_n 0 C rfl rfl dX2_takesNumber_86 ?_
            refine xr_V (v := a0) [] [.int ((10 : Int32) * a4)] (fun r => some (.int r)) (fun r => .int r :: [.int ((10 : Int32) * a4)]) C E xi_2_SlatCratesModel (fun r h' e => wk_X2_here e) q2314 q2316 qs49 q89 q2317 xh_SlatCratesModel xd_X2_here (by decide) (by decide) ⟨rfl, trivial⟩ (Nat.le_of_ble_eq_true rfl) rfl (fun _ => rfl) dX2_takesNumber_87 (fun r18 h19 E => ?_)
            refine xr_iadd C dX2_takesNumber_90 ?_
            refine xr_bipush (48) C (by decide) dX2_takesNumber_91 ?_
            refine xr_isub C dX2_takesNumber_93 ?_
            refine xr_istore (L2 := [(4, .int ((((10 : Int32) * a4) + r18) - (48 : Int32))), (0, va_rf a0), (3, .int a3)]) C rfl dX2_takesNumber_94 (by decide) ?_
            refine xr_aload_n 1 C rfl rfl dX2_takesNumber_96 ?_
            refine xr_dup C (xk_crf _) dX2_takesNumber_97 ?_
            refine xr_gI C E xf_X2_129 dX2_takesNumber_98 (fun x20 E => ?_)
            refine xr_iconst (1) C (by decide) dX2_takesNumber_101 ?_
            refine xr_iadd C dX2_takesNumber_102 ?_
            refine xr_pI C E xf_X2_129 xp_X2_129 dX2_takesNumber_103 (fun h21 E => ?_)
            refine xr_goto 38 C dX2_takesNumber_106 (by decide) ?_
            refine xr_sub [1, 2, 0] rfl ?_
            exact hkb38 ((((10 : Int32) * a4) + r18) - (48 : Int32)) h21 E
def mf_X2_takesNumber_J14 (a0 : Option Nat) (a2 : Int32) (a3 : Int32) (s0 : Int32) (s1 : Option Nat) (h0 : xk_H) : Option (Int32 × xk_H) :=
  xm_rc [2] s1 h0 <| xm_cl (mf_X2_takes s1 s0 h0) fun r3 h4 => xm_rc [2] a0 h4 <| xm_cl (mf_X2_here a0 h4) fun r5 h6 => xm_cl (mf_X2_in (r5 - (48 : Int32)) a2 (9 : Int32) h6) fun r7 h8 => xm_rc [2] a0 h8 <| xm_cl (mf_X2_takes a0 (xk_b2 r7) h8) fun r9 h10 => mf_X2_takesNumber_L38 a0 a3 xk_fu (r5 - (48 : Int32)) h10
set_option maxHeartbeats 1000000 in
theorem wk_X2_takesNumber_J14 {Γ : xk_C} {r : Int32} {h' : xk_H} {a0 : Option Nat} {a2 : Int32} {a3 : Int32} {s0 : Int32} {s1 : Option Nat} {h0 : xk_H} (C : xk_Cx Γ RX2 cX2_takesNumber 5 (Option.some FieldType.int) "takesNumber" 2 82) (Z : xk_Z Γ (some (.int r)) h') (E : mf_X2_takesNumber_J14 a0 a2 a3 s0 s1 h0 = some (r, h')) : xk_X Γ 14 [(0, va_rf a0), (2, .int a2), (3, .int a3)] [.int s0, va_rf s1] h0 := by
  rw [mf_X2_takesNumber_J14] at E
  refine xr_V (v := s1) [.int s0] [] (fun _ => none) (fun _ => []) C E xi_2_SlatCratesModel (fun r h' e => wk_X2_takes e) q2318 q2320 qs50 q89 q2321 xh_SlatCratesModel xd_X2_takes (by decide) (by decide) trivial (Nat.le_of_ble_eq_true rfl) rfl (fun _ => rfl) dX2_takesNumber_14 (fun r3 h4 E => ?_)
  refine xr_aload_n 0 C rfl rfl dX2_takesNumber_17 ?_
  refine xr_V (v := a0) [] [] (fun r => some (.int r)) (fun r => .int r :: []) C E xi_2_SlatCratesModel (fun r h' e => wk_X2_here e) q2314 q2316 qs49 q89 q2317 xh_SlatCratesModel xd_X2_here (by decide) (by decide) trivial (Nat.le_of_ble_eq_true rfl) rfl (fun _ => rfl) dX2_takesNumber_18 (fun r5 h6 E => ?_)
  refine xr_bipush (48) C (by decide) dX2_takesNumber_21 ?_
  refine xr_isub C dX2_takesNumber_23 ?_
  refine xr_istore (L2 := [(4, .int (r5 - (48 : Int32))), (0, va_rf a0), (2, .int a2), (3, .int a3)]) C rfl dX2_takesNumber_24 (by decide) ?_
  refine xr_aload_n 1 C rfl rfl dX2_takesNumber_26 ?_
  refine xr_iload 0 C rfl dX2_takesNumber_27 ?_
  refine xr_iload_n 2 C rfl rfl dX2_takesNumber_29 ?_
  refine xr_bipush (9) C (by decide) dX2_takesNumber_30 ?_
  refine xr_S [.int (r5 - (48 : Int32)), .int a2, .int (9 : Int32)] [va_rf a0] (fun r => some (.int (xk_b2 r))) (fun r => .int (xk_b2 r) :: [va_rf a0]) C E (fun r h' e => wk_X2_in e) q2205 q2206 q89 q2207 xh_SlatCratesModel xd_X2_in (by decide) (by decide) ⟨xk_crf _, trivial⟩ (Nat.le_of_ble_eq_true rfl) rfl (fun _ => rfl) dX2_takesNumber_32 (fun r7 h8 E => ?_)
  refine xr_V (v := a0) [.int (xk_b2 r7)] [] (fun _ => none) (fun _ => []) C E xi_2_SlatCratesModel (fun r h' e => wk_X2_takes e) q2318 q2320 qs50 q89 q2321 xh_SlatCratesModel xd_X2_takes (by decide) (by decide) trivial (Nat.le_of_ble_eq_true rfl) rfl (fun _ => rfl) dX2_takesNumber_35 (fun r9 h10 E => ?_)
  refine xr_sub [1, 3, 0] rfl ?_
  exact wk_X2_takesNumber_L38 (a0 := a0) (a3 := a3) C Z xk_fu (r5 - (48 : Int32)) h10 E
def mf_X2_takesNumber (a0 : Option Nat) (a1 : Int32) (a2 : Int32) (a3 : Int32) (h0 : xk_H) : Option (Int32 × xk_H) :=
  xm_rc [2] a0 h0 <| xm_cl (mf_X2_here a0 h0) fun r1 h2 => if r1 = a1 then (mf_X2_takesNumber_J14 a0 a2 a3 (1 : Int32) a0 h2) else (mf_X2_takesNumber_J14 a0 a2 a3 (0 : Int32) a0 h2)
set_option maxHeartbeats 1000000 in
theorem wk_X2_takesNumber {l : Launch} {D : va_G} {base : Nat} {a0 : Option Nat} {a1 : Int32} {a2 : Int32} {a3 : Int32} {h0 : xk_H} {r : Int32} {h' : xk_H} (E : mf_X2_takesNumber a0 a1 a2 a3 h0 = some (r, h')) : xk_Ok l D base yX2_takesNumber cX2_takesNumber 5 (Option.some FieldType.int) 2 82 [va_rf a0, .int a1, .int a2, .int a3] h0 (some (.int r)) h' := by
  refine xk_ofX RX2 "takesNumber" xq_X2_takesNumber rfl rfl (Nat.le_of_ble_eq_true rfl) ⟨xk_crf _, ⟨rfl, ⟨rfl, ⟨rfl, trivial⟩⟩⟩⟩ (fun Γ el eD eb C Z => ?_)
  rw [mf_X2_takesNumber] at E
  show xk_X Γ 0 [(0, va_rf a0), (1, .int a1), (2, .int a2), (3, .int a3)] [] h0
  refine xr_aload_n 0 C rfl rfl dX2_takesNumber_0 ?_
  refine xr_aload_n 0 C rfl rfl dX2_takesNumber_1 ?_
  refine xr_V (v := a0) [] [va_rf a0] (fun r => some (.int r)) (fun r => .int r :: [va_rf a0]) C E xi_2_SlatCratesModel (fun r h' e => wk_X2_here e) q2314 q2316 qs49 q89 q2317 xh_SlatCratesModel xd_X2_here (by decide) (by decide) ⟨xk_crf _, trivial⟩ (Nat.le_of_ble_eq_true rfl) rfl (fun _ => rfl) dX2_takesNumber_2 (fun r1 h2 E => ?_)
  refine xr_iload_n 1 C rfl rfl dX2_takesNumber_5 ?_
  refine xr_icmp_ne 13 C E dX2_takesNumber_6 (by decide) (fun E => ?_) (fun E => ?_)
  · refine xr_iconst (0) C (by decide) dX2_takesNumber_13 ?_
    refine xr_sub [0, 2, 3] rfl ?_
    exact wk_X2_takesNumber_J14 C Z E
  · refine xr_iconst (1) C (by decide) dX2_takesNumber_9 ?_
    refine xr_goto 14 C dX2_takesNumber_10 (by decide) ?_
    refine xr_sub [0, 2, 3] rfl ?_
    exact wk_X2_takesNumber_J14 C Z E
def mf_X2_takesCrate_L36 (kx60 : xk_H → Option (Unit × xk_H)) (a0 : Option Nat) (a1 : Int32) (a2 : Int32) (a3 : Int32) : Nat → Int32 → xk_H → Option (Unit × xk_H)
  | 0, _, _ => none
  | n + 1, a4, h0 => if (4 : Int32) ≤ a4 then (kx60 h0) else (xm_gR [2] 10 a0 h0 fun x3 => xm_sV [100] x3 ((a1 + (3 : Int32)) + a4) (.int (0 : Int32)) h0 fun h4 => mf_X2_takesCrate_L36 kx60 a0 a1 a2 a3 n (a4 + 1) h4)
set_option maxHeartbeats 1000000 in
theorem wk_X2_takesCrate_L36 {Γ : xk_C} {r : Unit} {h' : xk_H} {kx60 : xk_H → Option (Unit × xk_H)} {a0 : Option Nat} {a1 : Int32} {a2 : Int32} {a3 : Int32} (C : xk_Cx Γ RX2 cX2_takesCrate 5 none "takesCrate" 3 106) (Z : xk_Z Γ none h') (hkx60 : ∀ (g : xk_H), kx60 g = some (r, h') → xk_X Γ 60 [(0, va_rf a0), (1, .int a1), (2, .int a2), (3, .int a3)] [] g) : ∀ (n : Nat) (a4 : Int32) (h0 : xk_H), mf_X2_takesCrate_L36 kx60 a0 a1 a2 a3 n a4 h0 = some (r, h') → xk_X Γ 36 [(0, va_rf a0), (1, .int a1), (2, .int a2), (3, .int a3), (4, .int a4)] [] h0 := by
  intro n
  induction n with
  | zero =>
    intro a4 h0 E
    rw [mf_X2_takesCrate_L36] at E
    cases E
  | succ n ih =>
    intro a4 h0 E
    have hkb36 : ∀ (m4 : Int32) (g : xk_H), mf_X2_takesCrate_L36 kx60 a0 a1 a2 a3 n m4 g = some (r, h') → xk_X Γ 36 [(0, va_rf a0), (1, .int a1), (2, .int a2), (3, .int a3), (4, .int m4)] [] g := ih
    rw [mf_X2_takesCrate_L36] at E
    refine xr_iload 4 C rfl dX2_takesCrate_36 ?_
    refine xr_iconst (4) C (by decide) dX2_takesCrate_38 ?_
    refine xr_icmp_ge 60 C E dX2_takesCrate_39 (by decide) (fun E => ?_) (fun E => ?_)
    · refine xr_sub [0, 1, 2, 3] rfl ?_
      exact hkx60 h0 E
    · refine xr_aload_n 0 C rfl rfl dX2_takesCrate_42 ?_
      refine xr_gR C E xf_X2_25 dX2_takesCrate_43 (fun x3 E => ?_)
      refine xr_iload_n 1 C rfl rfl dX2_takesCrate_46 ?_
      refine xr_iconst (3) C (by decide) dX2_takesCrate_47 ?_
      refine xr_iadd C dX2_takesCrate_48 ?_
      refine xr_iload 4 C rfl dX2_takesCrate_49 ?_
      refine xr_iadd C dX2_takesCrate_51 ?_
      refine xr_iconst (0) C (by decide) dX2_takesCrate_52 ?_
      refine xr_sI C E dX2_takesCrate_53 (fun h4 E => ?_)
      refine xr_iinc (v := (a4 + 1)) (L2 := [(4, .int (a4 + 1)), (0, va_rf a0), (1, .int a1), (2, .int a2), (3, .int a3)]) 4 C rfl rfl rfl dX2_takesCrate_54 (by decide) ?_
      refine xr_goto 36 C dX2_takesCrate_57 (by decide) ?_
      refine xr_sub [1, 2, 3, 4, 0] rfl ?_
      exact hkb36 (a4 + 1) h4 E
def mf_X2_takesCrate_L96 (kx157 : xk_H → Option (Unit × xk_H)) (a0 : Option Nat) (a1 : Int32) (a2 : Int32) : Nat → Int32 → xk_H → Option (Unit × xk_H)
  | 0, _, _ => none
  | n + 1, a3, h0 => xm_gI [2] 9 a0 h0 fun x15 => if x15 = 0 then (kx157 h0) else (if (4 : Int32) ≤ a3 then (kx157 h0) else (xm_rc [2] a0 h0 <| xm_cl (mf_X2_here a0 h0) fun r16 h17 => xm_cl (mf_X2_in r16 (65 : Int32) (90 : Int32) h17) fun r18 h19 => if xk_b2 r18 = 0 then (kx157 h19) else (xm_gR [2] 10 a0 h19 fun x20 => xm_rc [2] a0 h19 <| xm_cl (mf_X2_here a0 h19) fun r21 h22 => xm_sV [100] x20 ((a1 + (3 : Int32)) + a3) (.int ((r21 - (65 : Int32)) + (1 : Int32))) h22 fun h23 => xm_gI [2] 8 a0 h23 fun x24 => xm_pV [2] 8 a0 (.int (x24 + (1 : Int32))) h23 fun h25 => mf_X2_takesCrate_L96 kx157 a0 a1 a2 n (a3 + 1) h25)))
set_option maxHeartbeats 1000000 in
theorem wk_X2_takesCrate_L96 {Γ : xk_C} {r : Unit} {h' : xk_H} {kx157 : xk_H → Option (Unit × xk_H)} {a0 : Option Nat} {a1 : Int32} {a2 : Int32} (C : xk_Cx Γ RX2 cX2_takesCrate 5 none "takesCrate" 3 106) (Z : xk_Z Γ none h') (hkx157 : ∀ (g : xk_H), kx157 g = some (r, h') → xk_X Γ 157 [(0, va_rf a0), (1, .int a1), (2, .int a2)] [] g) : ∀ (n : Nat) (a3 : Int32) (h0 : xk_H), mf_X2_takesCrate_L96 kx157 a0 a1 a2 n a3 h0 = some (r, h') → xk_X Γ 96 [(0, va_rf a0), (1, .int a1), (2, .int a2), (3, .int a3)] [] h0 := by
  intro n
  induction n with
  | zero =>
    intro a3 h0 E
    rw [mf_X2_takesCrate_L96] at E
    cases E
  | succ n ih =>
    intro a3 h0 E
    have hkb96 : ∀ (m3 : Int32) (g : xk_H), mf_X2_takesCrate_L96 kx157 a0 a1 a2 n m3 g = some (r, h') → xk_X Γ 96 [(0, va_rf a0), (1, .int a1), (2, .int a2), (3, .int m3)] [] g := ih
    rw [mf_X2_takesCrate_L96] at E
    refine xr_aload_n 0 C rfl rfl dX2_takesCrate_96 ?_
    refine xr_gI C E xf_X2_132 dX2_takesCrate_97 (fun x15 E => ?_)
    refine xr_if_eq 157 C E dX2_takesCrate_100 (by decide) (fun E => ?_) (fun E => ?_)
    · refine xr_sub [0, 1, 2] rfl ?_
      exact hkx157 h0 E
    · refine xr_iload_n 3 C rfl rfl dX2_takesCrate_103 ?_
      refine xr_iconst (4) C (by decide) dX2_takesCrate_104 ?_
      refine xr_icmp_ge 157 C E dX2_takesCrate_105 (by decide) (fun E => ?_) (fun E => ?_)
      · refine xr_sub [0, 1, 2] rfl ?_
        exact hkx157 h0 E
      · refine xr_aload_n 0 C rfl rfl dX2_takesCrate_108 ?_
        refine xr_V (v := a0) [] [] (fun r => some (.int r)) (fun r => .int r :: []) C E xi_2_SlatCratesModel (fun r h' e => wk_X2_here e) q2314 q2316 qs49 q89 q2317 xh_SlatCratesModel xd_X2_here (by decide) (by decide) trivial (Nat.le_of_ble_eq_true rfl) rfl (fun _ => rfl) dX2_takesCrate_109 (fun r16 h17 E => ?_)
        refine xr_bipush (65) C (by decide) dX2_takesCrate_112 ?_
        refine xr_bipush (90) C (by decide) dX2_takesCrate_114 ?_
        refine xr_S [.int r16, .int (65 : Int32), .int (90 : Int32)] [] (fun r => some (.int (xk_b2 r))) (fun r => .int (xk_b2 r) :: []) C E (fun r h' e => wk_X2_in e) q2205 q2206 q89 q2207 xh_SlatCratesModel xd_X2_in (by decide) (by decide) trivial (Nat.le_of_ble_eq_true rfl) rfl (fun _ => rfl) dX2_takesCrate_116 (fun r18 h19 E => ?_)
        refine xr_if_eq 157 C E dX2_takesCrate_119 (by decide) (fun E => ?_) (fun E => ?_)
        · refine xr_sub [0, 1, 2] rfl ?_
          exact hkx157 h19 E
        · refine xr_aload_n 0 C rfl rfl dX2_takesCrate_122 ?_
          refine xr_gR C E xf_X2_25 dX2_takesCrate_123 (fun x20 E => ?_)
          refine xr_iload_n 1 C rfl rfl dX2_takesCrate_126 ?_
          refine xr_iconst (3) C (by decide) dX2_takesCrate_127 ?_
          refine xr_iadd C dX2_takesCrate_128 ?_
          refine xr_iload_n 3 C rfl rfl dX2_takesCrate_129 ?_
          refine xr_iadd C dX2_takesCrate_130 ?_
          refine xr_aload_n 0 C rfl rfl dX2_takesCrate_131 ?_
          refine xr_V (v := a0) [] [.int ((a1 + (3 : Int32)) + a3), va_rf x20] (fun r => some (.int r)) (fun r => .int r :: [.int ((a1 + (3 : Int32)) + a3), va_rf x20]) C E xi_2_SlatCratesModel (fun r h' e => wk_X2_here e) q2314 q2316 qs49 q89 q2317 xh_SlatCratesModel xd_X2_here (by decide) (by decide) ⟨rfl, ⟨xk_crf _, trivial⟩⟩ (Nat.le_of_ble_eq_true rfl) rfl (fun _ => rfl) dX2_takesCrate_132 (fun r21 h22 E => ?_)
          refine xr_bipush (65) C (by decide) dX2_takesCrate_135 ?_
          refine xr_isub C dX2_takesCrate_137 ?_
          refine xr_iconst (1) C (by decide) dX2_takesCrate_138 ?_
          refine xr_iadd C dX2_takesCrate_139 ?_
          refine xr_sI C E dX2_takesCrate_140 (fun h23 E => ?_)
          refine xr_iinc (v := (a3 + 1)) (L2 := [(3, .int (a3 + 1)), (0, va_rf a0), (1, .int a1), (2, .int a2)]) 3 C rfl rfl rfl dX2_takesCrate_141 (by decide) ?_
          refine xr_aload_n 1 C rfl rfl dX2_takesCrate_144 ?_
          refine xr_dup C (xk_crf _) dX2_takesCrate_145 ?_
          refine xr_gI C E xf_X2_129 dX2_takesCrate_146 (fun x24 E => ?_)
          refine xr_iconst (1) C (by decide) dX2_takesCrate_149 ?_
          refine xr_iadd C dX2_takesCrate_150 ?_
          refine xr_pI C E xf_X2_129 xp_X2_129 dX2_takesCrate_151 (fun h25 E => ?_)
          refine xr_goto 96 C dX2_takesCrate_154 (by decide) ?_
          refine xr_sub [1, 2, 3, 0] rfl ?_
          exact hkb96 (a3 + 1) h25 E
def mf_X2_takesCrate_L304 (a0 : Option Nat) : Nat → xk_H → Option (Unit × xk_H)
  | 0, _ => none
  | n + 1, h0 => xm_gI [2] 9 a0 h0 fun x48 => if x48 = 0 then (some ((), h0)) else (xm_gI [2] 13 a0 h0 fun x49 => if x49 ≤ 0 then (some ((), h0)) else (xm_rc [2] a0 h0 <| xm_cl (mf_X2_here a0 h0) fun r50 h51 => if r50 = (93 : Int32) then (xm_gI [2] 8 a0 h51 fun x52 => xm_pV [2] 8 a0 (.int (x52 + (1 : Int32))) h51 fun h53 => xm_gI [2] 13 a0 h53 fun x54 => xm_pV [2] 13 a0 (.int (x54 - (1 : Int32))) h53 fun h55 => mf_X2_takesCrate_L304 a0 n h55) else (some ((), h51))))
set_option maxHeartbeats 1000000 in
theorem wk_X2_takesCrate_L304 {Γ : xk_C} {r : Unit} {h' : xk_H} {a0 : Option Nat} (C : xk_Cx Γ RX2 cX2_takesCrate 5 none "takesCrate" 3 106) (Z : xk_Z Γ none h') : ∀ (n : Nat) (h0 : xk_H), mf_X2_takesCrate_L304 a0 n h0 = some (r, h') → xk_X Γ 304 [(0, va_rf a0)] [] h0 := by
  intro n
  induction n with
  | zero =>
    intro  h0 E
    rw [mf_X2_takesCrate_L304] at E
    cases E
  | succ n ih =>
    intro  h0 E
    have hkb304 : ∀ (g : xk_H), mf_X2_takesCrate_L304 a0 n g = some (r, h') → xk_X Γ 304 [(0, va_rf a0)] [] g := ih
    rw [mf_X2_takesCrate_L304] at E
    refine xr_aload_n 0 C rfl rfl dX2_takesCrate_304 ?_
    refine xr_gI C E xf_X2_132 dX2_takesCrate_305 (fun x48 E => ?_)
    refine xr_if_eq 350 C E dX2_takesCrate_308 (by decide) (fun E => ?_) (fun E => ?_)
    · exact xr_vret C Z E dX2_takesCrate_350
    · refine xr_aload_n 0 C rfl rfl dX2_takesCrate_311 ?_
      refine xr_gI C E xf_X2_147 dX2_takesCrate_312 (fun x49 E => ?_)
      refine xr_if_le 350 C E dX2_takesCrate_315 (by decide) (fun E => ?_) (fun E => ?_)
      · exact xr_vret C Z E dX2_takesCrate_350
      · refine xr_aload_n 0 C rfl rfl dX2_takesCrate_318 ?_
        refine xr_V (v := a0) [] [] (fun r => some (.int r)) (fun r => .int r :: []) C E xi_2_SlatCratesModel (fun r h' e => wk_X2_here e) q2314 q2316 qs49 q89 q2317 xh_SlatCratesModel xd_X2_here (by decide) (by decide) trivial (Nat.le_of_ble_eq_true rfl) rfl (fun _ => rfl) dX2_takesCrate_319 (fun r50 h51 E => ?_)
        refine xr_bipush (93) C (by decide) dX2_takesCrate_322 ?_
        refine xr_icmp_ne 350 C E dX2_takesCrate_324 (by decide) (fun E => ?_) (fun E => ?_)
        · exact xr_vret C Z E dX2_takesCrate_350
        · refine xr_aload_n 0 C rfl rfl dX2_takesCrate_327 ?_
          refine xr_dup C (xk_crf _) dX2_takesCrate_328 ?_
          refine xr_gI C E xf_X2_129 dX2_takesCrate_329 (fun x52 E => ?_)
          refine xr_iconst (1) C (by decide) dX2_takesCrate_332 ?_
          refine xr_iadd C dX2_takesCrate_333 ?_
          refine xr_pI C E xf_X2_129 xp_X2_129 dX2_takesCrate_334 (fun h53 E => ?_)
          refine xr_aload_n 0 C rfl rfl dX2_takesCrate_337 ?_
          refine xr_dup C (xk_crf _) dX2_takesCrate_338 ?_
          refine xr_gI C E xf_X2_147 dX2_takesCrate_339 (fun x54 E => ?_)
          refine xr_iconst (1) C (by decide) dX2_takesCrate_342 ?_
          refine xr_isub C dX2_takesCrate_343 ?_
          refine xr_pI C E xf_X2_147 xp_X2_147 dX2_takesCrate_344 (fun h55 E => ?_)
          refine xr_goto 304 C dX2_takesCrate_347 (by decide) ?_
          exact hkb304 h55 E
def mf_X2_takesCrate_J229 (a0 : Option Nat) (a1 : Int32) (a2 : Int32) (s0 : Int32) (s1 : Int32) (s2 : Option Nat) (h0 : xk_H) : Option (Unit × xk_H) :=
  xm_sV [100] s2 s1 (.int s0) h0 fun h42 => xm_gR [2] 10 a0 h42 fun x43 => xm_sV [100] x43 (a1 + (7 : Int32)) (.int (a2 + (1 : Int32))) h42 fun h44 => xm_gI [2] 11 a0 h44 fun x45 => xm_pV [2] 11 a0 (.int (x45 + (1 : Int32))) h44 fun h46 => xm_gI [2] 9 a0 h46 fun x47 => if x47 = 0 then (mf_X2_takesCrate_L304 a0 xk_fu h46) else (xm_rc [2] a0 h46 <| xm_cl (mf_X2_here a0 h46) fun r56 h57 => if r56 = (91 : Int32) then (xm_gI [2] 8 a0 h57 fun x58 => xm_pV [2] 8 a0 (.int (x58 + (1 : Int32))) h57 fun h59 => xm_gR [2] 12 a0 h59 fun x60 => xm_gI [2] 13 a0 h59 fun x61 => xm_gI [2] 11 a0 h59 fun x62 => xm_sV [100] x60 x61 (.int (x62 - (1 : Int32))) h59 fun h63 => xm_gI [2] 13 a0 h63 fun x64 => xm_pV [2] 13 a0 (.int (x64 + (1 : Int32))) h63 fun h65 => some ((), h65)) else (mf_X2_takesCrate_L304 a0 xk_fu h57))
set_option maxHeartbeats 1000000 in
theorem wk_X2_takesCrate_J229 {Γ : xk_C} {r : Unit} {h' : xk_H} {a0 : Option Nat} {a1 : Int32} {a2 : Int32} {s0 : Int32} {s1 : Int32} {s2 : Option Nat} {h0 : xk_H} (C : xk_Cx Γ RX2 cX2_takesCrate 5 none "takesCrate" 3 106) (Z : xk_Z Γ none h') (E : mf_X2_takesCrate_J229 a0 a1 a2 s0 s1 s2 h0 = some (r, h')) : xk_X Γ 229 [(0, va_rf a0), (1, .int a1), (2, .int a2)] [.int s0, .int s1, va_rf s2] h0 := by
  rw [mf_X2_takesCrate_J229] at E
  refine xr_sI C E dX2_takesCrate_229 (fun h42 E => ?_)
  refine xr_aload_n 0 C rfl rfl dX2_takesCrate_230 ?_
  refine xr_gR C E xf_X2_25 dX2_takesCrate_231 (fun x43 E => ?_)
  refine xr_iload_n 1 C rfl rfl dX2_takesCrate_234 ?_
  refine xr_bipush (7) C (by decide) dX2_takesCrate_235 ?_
  refine xr_iadd C dX2_takesCrate_237 ?_
  refine xr_iload_n 2 C rfl rfl dX2_takesCrate_238 ?_
  refine xr_iconst (1) C (by decide) dX2_takesCrate_239 ?_
  refine xr_iadd C dX2_takesCrate_240 ?_
  refine xr_sI C E dX2_takesCrate_241 (fun h44 E => ?_)
  refine xr_aload_n 0 C rfl rfl dX2_takesCrate_242 ?_
  refine xr_dup C (xk_crf _) dX2_takesCrate_243 ?_
  refine xr_gI C E xf_X2_144 dX2_takesCrate_244 (fun x45 E => ?_)
  refine xr_iconst (1) C (by decide) dX2_takesCrate_247 ?_
  refine xr_iadd C dX2_takesCrate_248 ?_
  refine xr_pI C E xf_X2_144 xp_X2_144 dX2_takesCrate_249 (fun h46 E => ?_)
  refine xr_aload_n 0 C rfl rfl dX2_takesCrate_252 ?_
  refine xr_gI C E xf_X2_132 dX2_takesCrate_253 (fun x47 E => ?_)
  refine xr_if_eq 304 C E dX2_takesCrate_256 (by decide) (fun E => ?_) (fun E => ?_)
  · refine xr_sub [0] rfl ?_
    exact wk_X2_takesCrate_L304 (a0 := a0) C Z xk_fu h46 E
  · refine xr_aload_n 0 C rfl rfl dX2_takesCrate_259 ?_
    refine xr_V (v := a0) [] [] (fun r => some (.int r)) (fun r => .int r :: []) C E xi_2_SlatCratesModel (fun r h' e => wk_X2_here e) q2314 q2316 qs49 q89 q2317 xh_SlatCratesModel xd_X2_here (by decide) (by decide) trivial (Nat.le_of_ble_eq_true rfl) rfl (fun _ => rfl) dX2_takesCrate_260 (fun r56 h57 E => ?_)
    refine xr_bipush (91) C (by decide) dX2_takesCrate_263 ?_
    refine xr_icmp_ne 304 C E dX2_takesCrate_265 (by decide) (fun E => ?_) (fun E => ?_)
    · refine xr_sub [0] rfl ?_
      exact wk_X2_takesCrate_L304 (a0 := a0) C Z xk_fu h57 E
    · refine xr_aload_n 0 C rfl rfl dX2_takesCrate_268 ?_
      refine xr_dup C (xk_crf _) dX2_takesCrate_269 ?_
      refine xr_gI C E xf_X2_129 dX2_takesCrate_270 (fun x58 E => ?_)
      refine xr_iconst (1) C (by decide) dX2_takesCrate_273 ?_
      refine xr_iadd C dX2_takesCrate_274 ?_
      refine xr_pI C E xf_X2_129 xp_X2_129 dX2_takesCrate_275 (fun h59 E => ?_)
      refine xr_aload_n 0 C rfl rfl dX2_takesCrate_278 ?_
      refine xr_gR C E xf_X2_28 dX2_takesCrate_279 (fun x60 E => ?_)
      refine xr_aload_n 0 C rfl rfl dX2_takesCrate_282 ?_
      refine xr_gI C E xf_X2_147 dX2_takesCrate_283 (fun x61 E => ?_)
      refine xr_aload_n 0 C rfl rfl dX2_takesCrate_286 ?_
      refine xr_gI C E xf_X2_144 dX2_takesCrate_287 (fun x62 E => ?_)
      refine xr_iconst (1) C (by decide) dX2_takesCrate_290 ?_
      refine xr_isub C dX2_takesCrate_291 ?_
      refine xr_sI C E dX2_takesCrate_292 (fun h63 E => ?_)
      refine xr_aload_n 0 C rfl rfl dX2_takesCrate_293 ?_
      refine xr_dup C (xk_crf _) dX2_takesCrate_294 ?_
      refine xr_gI C E xf_X2_147 dX2_takesCrate_295 (fun x64 E => ?_)
      refine xr_iconst (1) C (by decide) dX2_takesCrate_298 ?_
      refine xr_iadd C dX2_takesCrate_299 ?_
      refine xr_pI C E xf_X2_147 xp_X2_147 dX2_takesCrate_300 (fun h65 E => ?_)
      exact xr_vret C Z E dX2_takesCrate_303
def mf_X2_takesCrate_J157 (a0 : Option Nat) (a1 : Int32) (a2 : Int32) (h0 : xk_H) : Option (Unit × xk_H) :=
  xm_gR [2] 10 a0 h0 fun x27 => xm_rc [2] a0 h0 <| xm_cl (mf_X2_takesNumber a0 (115 : Int32) (1 : Int32) (60 : Int32) h0) fun r28 h29 => xm_sV [100] x27 (a1 + (0 : Int32)) (.int r28) h29 fun h30 => xm_gR [2] 10 a0 h30 fun x31 => xm_rc [2] a0 h30 <| xm_cl (mf_X2_takesNumber a0 (114 : Int32) (0 : Int32) (59 : Int32) h30) fun r32 h33 => xm_sV [100] x31 (a1 + (1 : Int32)) (.int r32) h33 fun h34 => xm_gR [2] 10 a0 h34 fun x35 => xm_rc [2] a0 h34 <| xm_cl (mf_X2_takesNumber a0 (103 : Int32) (0 : Int32) (15 : Int32) h34) fun r36 h37 => xm_sV [100] x35 (a1 + (2 : Int32)) (.int r36) h37 fun h38 => xm_gR [2] 10 a0 h38 fun x39 => if 0 ≤ a2 then (xm_rc [2] a0 h38 <| xm_cl (mf_X2_placeIn a0 a2 h38) fun r40 h41 => mf_X2_takesCrate_J229 a0 a1 a2 r40 (a1 + (8 : Int32)) x39 h41) else (mf_X2_takesCrate_J229 a0 a1 a2 (0 : Int32) (a1 + (8 : Int32)) x39 h38)
set_option maxHeartbeats 1000000 in
theorem wk_X2_takesCrate_J157 {Γ : xk_C} {r : Unit} {h' : xk_H} {a0 : Option Nat} {a1 : Int32} {a2 : Int32} {h0 : xk_H} (C : xk_Cx Γ RX2 cX2_takesCrate 5 none "takesCrate" 3 106) (Z : xk_Z Γ none h') (E : mf_X2_takesCrate_J157 a0 a1 a2 h0 = some (r, h')) : xk_X Γ 157 [(0, va_rf a0), (1, .int a1), (2, .int a2)] [] h0 := by
  rw [mf_X2_takesCrate_J157] at E
  refine xr_aload_n 0 C rfl rfl dX2_takesCrate_157 ?_
  refine xr_gR C E xf_X2_25 dX2_takesCrate_158 (fun x27 E => ?_)
  refine xr_iload_n 1 C rfl rfl dX2_takesCrate_161 ?_
  refine xr_iconst (0) C (by decide) dX2_takesCrate_162 ?_
  refine xr_iadd C dX2_takesCrate_163 ?_
  refine xr_aload_n 0 C rfl rfl dX2_takesCrate_164 ?_
  refine xr_bipush (115) C (by decide) dX2_takesCrate_165 ?_
  refine xr_iconst (1) C (by decide) dX2_takesCrate_167 ?_
  refine xr_bipush (60) C (by decide) dX2_takesCrate_168 ?_
  refine xr_V (v := a0) [.int (115 : Int32), .int (1 : Int32), .int (60 : Int32)] [.int (a1 + (0 : Int32)), va_rf x27] (fun r => some (.int r)) (fun r => .int r :: [.int (a1 + (0 : Int32)), va_rf x27]) C E xi_2_SlatCratesModel (fun r h' e => wk_X2_takesNumber e) q2322 q2324 qs51 q89 q2325 xh_SlatCratesModel xd_X2_takesNumber (by decide) (by decide) ⟨rfl, ⟨xk_crf _, trivial⟩⟩ (Nat.le_of_ble_eq_true rfl) rfl (fun _ => rfl) dX2_takesCrate_170 (fun r28 h29 E => ?_)
  refine xr_sI C E dX2_takesCrate_173 (fun h30 E => ?_)
  refine xr_aload_n 0 C rfl rfl dX2_takesCrate_174 ?_
  refine xr_gR C E xf_X2_25 dX2_takesCrate_175 (fun x31 E => ?_)
  refine xr_iload_n 1 C rfl rfl dX2_takesCrate_178 ?_
  refine xr_iconst (1) C (by decide) dX2_takesCrate_179 ?_
  refine xr_iadd C dX2_takesCrate_180 ?_
  refine xr_aload_n 0 C rfl rfl dX2_takesCrate_181 ?_
  refine xr_bipush (114) C (by decide) dX2_takesCrate_182 ?_
  refine xr_iconst (0) C (by decide) dX2_takesCrate_184 ?_
  refine xr_bipush (59) C (by decide) dX2_takesCrate_185 ?_
  refine xr_V (v := a0) [.int (114 : Int32), .int (0 : Int32), .int (59 : Int32)] [.int (a1 + (1 : Int32)), va_rf x31] (fun r => some (.int r)) (fun r => .int r :: [.int (a1 + (1 : Int32)), va_rf x31]) C E xi_2_SlatCratesModel (fun r h' e => wk_X2_takesNumber e) q2322 q2324 qs51 q89 q2325 xh_SlatCratesModel xd_X2_takesNumber (by decide) (by decide) ⟨rfl, ⟨xk_crf _, trivial⟩⟩ (Nat.le_of_ble_eq_true rfl) rfl (fun _ => rfl) dX2_takesCrate_187 (fun r32 h33 E => ?_)
  refine xr_sI C E dX2_takesCrate_190 (fun h34 E => ?_)
  refine xr_aload_n 0 C rfl rfl dX2_takesCrate_191 ?_
  refine xr_gR C E xf_X2_25 dX2_takesCrate_192 (fun x35 E => ?_)
  refine xr_iload_n 1 C rfl rfl dX2_takesCrate_195 ?_
  refine xr_iconst (2) C (by decide) dX2_takesCrate_196 ?_
  refine xr_iadd C dX2_takesCrate_197 ?_
  refine xr_aload_n 0 C rfl rfl dX2_takesCrate_198 ?_
  refine xr_bipush (103) C (by decide) dX2_takesCrate_199 ?_
  refine xr_iconst (0) C (by decide) dX2_takesCrate_201 ?_
  refine xr_bipush (15) C (by decide) dX2_takesCrate_202 ?_
  refine xr_V (v := a0) [.int (103 : Int32), .int (0 : Int32), .int (15 : Int32)] [.int (a1 + (2 : Int32)), va_rf x35] (fun r => some (.int r)) (fun r => .int r :: [.int (a1 + (2 : Int32)), va_rf x35]) C E xi_2_SlatCratesModel (fun r h' e => wk_X2_takesNumber e) q2322 q2324 qs51 q89 q2325 xh_SlatCratesModel xd_X2_takesNumber (by decide) (by decide) ⟨rfl, ⟨xk_crf _, trivial⟩⟩ (Nat.le_of_ble_eq_true rfl) rfl (fun _ => rfl) dX2_takesCrate_204 (fun r36 h37 E => ?_)
  refine xr_sI C E dX2_takesCrate_207 (fun h38 E => ?_)
  refine xr_aload_n 0 C rfl rfl dX2_takesCrate_208 ?_
  refine xr_gR C E xf_X2_25 dX2_takesCrate_209 (fun x39 E => ?_)
  refine xr_iload_n 1 C rfl rfl dX2_takesCrate_212 ?_
  refine xr_bipush (8) C (by decide) dX2_takesCrate_213 ?_
  refine xr_iadd C dX2_takesCrate_215 ?_
  refine xr_iload_n 2 C rfl rfl dX2_takesCrate_216 ?_
  refine xr_if_ge 224 C E dX2_takesCrate_217 (by decide) (fun E => ?_) (fun E => ?_)
  · refine xr_aload_n 0 C rfl rfl dX2_takesCrate_224 ?_
    refine xr_iload_n 2 C rfl rfl dX2_takesCrate_225 ?_
    refine xr_V (v := a0) [.int a2] [.int (a1 + (8 : Int32)), va_rf x39] (fun r => some (.int r)) (fun r => .int r :: [.int (a1 + (8 : Int32)), va_rf x39]) C E xi_2_SlatCratesModel (fun r h' e => wk_X2_placeIn e) q2326 q2328 qs52 q89 q2329 xh_SlatCratesModel xd_X2_placeIn (by decide) (by decide) ⟨rfl, ⟨xk_crf _, trivial⟩⟩ (Nat.le_of_ble_eq_true rfl) rfl (fun _ => rfl) dX2_takesCrate_226 (fun r40 h41 E => ?_)
    exact wk_X2_takesCrate_J229 C Z E
  · refine xr_iconst (0) C (by decide) dX2_takesCrate_220 ?_
    refine xr_goto 229 C dX2_takesCrate_221 (by decide) ?_
    exact wk_X2_takesCrate_J229 C Z E
def mf_X2_takesCrate (a0 : Option Nat) (h0 : xk_H) : Option (Unit × xk_H) :=
  xm_gI [2] 11 a0 h0 fun x1 => xm_gI [2] 13 a0 h0 fun x2 => if x2 ≤ 0 then (mf_X2_takesCrate_L36 (fun h5 => xm_rc [2] a0 h5 <| xm_cl (mf_X2_here a0 h5) fun r6 h7 => xm_cl (mf_X2_in r6 (65 : Int32) (90 : Int32) h7) fun r8 h9 => xm_rc [2] a0 h9 <| xm_cl (mf_X2_takes a0 (xk_b2 r8) h9) fun r10 h11 => xm_gI [2] 8 a0 h11 fun x12 => xm_gI [2] 9 a0 h11 fun x13 => if x13 = 0 then (xm_pV [2] 8 a0 (.int (x12 - (0 : Int32))) h11 fun h14 => mf_X2_takesCrate_L96 (fun h26 => mf_X2_takesCrate_J157 a0 ((9 : Int32) * x1) (-1 : Int32) h26) a0 ((9 : Int32) * x1) (-1 : Int32) xk_fu (0 : Int32) h14) else (xm_pV [2] 8 a0 (.int (x12 - (1 : Int32))) h11 fun h66 => mf_X2_takesCrate_L96 (fun h67 => mf_X2_takesCrate_J157 a0 ((9 : Int32) * x1) (-1 : Int32) h67) a0 ((9 : Int32) * x1) (-1 : Int32) xk_fu (0 : Int32) h66)) a0 ((9 : Int32) * x1) (-1 : Int32) (0 : Int32) xk_fu (0 : Int32) h0) else (xm_gR [2] 12 a0 h0 fun x68 => xm_gI [2] 13 a0 h0 fun x69 => xm_lI [100] x68 (x69 - (1 : Int32)) h0 fun x70 => mf_X2_takesCrate_L36 (fun h71 => xm_rc [2] a0 h71 <| xm_cl (mf_X2_here a0 h71) fun r72 h73 => xm_cl (mf_X2_in r72 (65 : Int32) (90 : Int32) h73) fun r74 h75 => xm_rc [2] a0 h75 <| xm_cl (mf_X2_takes a0 (xk_b2 r74) h75) fun r76 h77 => xm_gI [2] 8 a0 h77 fun x78 => xm_gI [2] 9 a0 h77 fun x79 => if x79 = 0 then (xm_pV [2] 8 a0 (.int (x78 - (0 : Int32))) h77 fun h80 => mf_X2_takesCrate_L96 (fun h81 => mf_X2_takesCrate_J157 a0 ((9 : Int32) * x1) x70 h81) a0 ((9 : Int32) * x1) x70 xk_fu (0 : Int32) h80) else (xm_pV [2] 8 a0 (.int (x78 - (1 : Int32))) h77 fun h82 => mf_X2_takesCrate_L96 (fun h83 => mf_X2_takesCrate_J157 a0 ((9 : Int32) * x1) x70 h83) a0 ((9 : Int32) * x1) x70 xk_fu (0 : Int32) h82)) a0 ((9 : Int32) * x1) x70 (0 : Int32) xk_fu (0 : Int32) h0)
set_option maxHeartbeats 1000000 in
theorem wk_X2_takesCrate {l : Launch} {D : va_G} {base : Nat} {a0 : Option Nat} {h0 : xk_H} {r : Unit} {h' : xk_H} (E : mf_X2_takesCrate a0 h0 = some (r, h')) : xk_Ok l D base yX2_takesCrate cX2_takesCrate 5 none 3 106 [va_rf a0] h0 none h' := by
  refine xk_ofX RX2 "takesCrate" xq_X2_takesCrate rfl rfl (Nat.le_of_ble_eq_true rfl) ⟨xk_crf _, trivial⟩ (fun Γ el eD eb C Z => ?_)
  rw [mf_X2_takesCrate] at E
  show xk_X Γ 0 [(0, va_rf a0)] [] h0
  refine xr_bipush (9) C (by decide) dX2_takesCrate_0 ?_
  refine xr_aload_n 0 C rfl rfl dX2_takesCrate_2 ?_
  refine xr_gI C E xf_X2_144 dX2_takesCrate_3 (fun x1 E => ?_)
  refine xr_imul C dX2_takesCrate_6 ?_
  refine xr_istore_n (L2 := [(1, .int ((9 : Int32) * x1)), (0, va_rf a0)]) C rfl rfl dX2_takesCrate_7 (by decide) ?_
  refine xr_aload_n 1 C rfl rfl dX2_takesCrate_8 ?_
  refine xr_gI C E xf_X2_147 dX2_takesCrate_9 (fun x2 E => ?_)
  refine xr_if_le 29 C E dX2_takesCrate_12 (by decide) (fun E => ?_) (fun E => ?_)
  · refine xr_iconst (-1) C (by decide) dX2_takesCrate_29 ?_
    refine xr_istore_n (L2 := [(2, .int (-1 : Int32)), (1, .int ((9 : Int32) * x1)), (0, va_rf a0)]) C rfl rfl dX2_takesCrate_30 (by decide) ?_
    refine xr_iconst (0) C (by decide) dX2_takesCrate_31 ?_
    refine xr_istore_n (L2 := [(3, .int (0 : Int32)), (2, .int (-1 : Int32)), (1, .int ((9 : Int32) * x1)), (0, va_rf a0)]) C rfl rfl dX2_takesCrate_32 (by decide) ?_
    refine xr_iconst (0) C (by decide) dX2_takesCrate_33 ?_
    refine xr_istore (L2 := [(4, .int (0 : Int32)), (3, .int (0 : Int32)), (2, .int (-1 : Int32)), (1, .int ((9 : Int32) * x1)), (0, va_rf a0)]) C rfl dX2_takesCrate_34 (by decide) ?_
    refine xr_sub [4, 3, 2, 1, 0] rfl ?_
    refine wk_X2_takesCrate_L36 (a0 := a0) (a1 := ((9 : Int32) * x1)) (a2 := (-1 : Int32)) (a3 := (0 : Int32)) C Z (fun h5 E => ?_) xk_fu (0 : Int32) h0 E
    · refine xr_aload_n 0 C rfl rfl dX2_takesCrate_60 ?_
      refine xr_aload_n 0 C rfl rfl dX2_takesCrate_61 ?_
      refine xr_V (v := a0) [] [va_rf a0] (fun r => some (.int r)) (fun r => .int r :: [va_rf a0]) C E xi_2_SlatCratesModel (fun r h' e => wk_X2_here e) q2314 q2316 qs49 q89 q2317 xh_SlatCratesModel xd_X2_here (by decide) (by decide) ⟨xk_crf _, trivial⟩ (Nat.le_of_ble_eq_true rfl) rfl (fun _ => rfl) dX2_takesCrate_62 (fun r6 h7 E => ?_)
      refine xr_bipush (65) C (by decide) dX2_takesCrate_65 ?_
      refine xr_bipush (90) C (by decide) dX2_takesCrate_67 ?_
      refine xr_S [.int r6, .int (65 : Int32), .int (90 : Int32)] [va_rf a0] (fun r => some (.int (xk_b2 r))) (fun r => .int (xk_b2 r) :: [va_rf a0]) C E (fun r h' e => wk_X2_in e) q2205 q2206 q89 q2207 xh_SlatCratesModel xd_X2_in (by decide) (by decide) ⟨xk_crf _, trivial⟩ (Nat.le_of_ble_eq_true rfl) rfl (fun _ => rfl) dX2_takesCrate_69 (fun r8 h9 E => ?_)
      refine xr_V (v := a0) [.int (xk_b2 r8)] [] (fun _ => none) (fun _ => []) C E xi_2_SlatCratesModel (fun r h' e => wk_X2_takes e) q2318 q2320 qs50 q89 q2321 xh_SlatCratesModel xd_X2_takes (by decide) (by decide) trivial (Nat.le_of_ble_eq_true rfl) rfl (fun _ => rfl) dX2_takesCrate_72 (fun r10 h11 E => ?_)
      refine xr_aload_n 0 C rfl rfl dX2_takesCrate_75 ?_
      refine xr_dup C (xk_crf _) dX2_takesCrate_76 ?_
      refine xr_gI C E xf_X2_129 dX2_takesCrate_77 (fun x12 E => ?_)
      refine xr_aload_n 0 C rfl rfl dX2_takesCrate_80 ?_
      refine xr_gI C E xf_X2_132 dX2_takesCrate_81 (fun x13 E => ?_)
      refine xr_if_eq 91 C E dX2_takesCrate_84 (by decide) (fun E => ?_) (fun E => ?_)
      · refine xr_iconst (0) C (by decide) dX2_takesCrate_91 ?_
        refine xr_isub C dX2_takesCrate_92 ?_
        refine xr_pI C E xf_X2_129 xp_X2_129 dX2_takesCrate_93 (fun h14 E => ?_)
        refine wk_X2_takesCrate_L96 (a0 := a0) (a1 := ((9 : Int32) * x1)) (a2 := (-1 : Int32)) C Z (fun h26 E => ?_) xk_fu (0 : Int32) h14 E
        · exact wk_X2_takesCrate_J157 C Z E
      · refine xr_iconst (1) C (by decide) dX2_takesCrate_87 ?_
        refine xr_goto 92 C dX2_takesCrate_88 (by decide) ?_
        refine xr_isub C dX2_takesCrate_92 ?_
        refine xr_pI C E xf_X2_129 xp_X2_129 dX2_takesCrate_93 (fun h66 E => ?_)
        refine wk_X2_takesCrate_L96 (a0 := a0) (a1 := ((9 : Int32) * x1)) (a2 := (-1 : Int32)) C Z (fun h67 E => ?_) xk_fu (0 : Int32) h66 E
        · exact wk_X2_takesCrate_J157 C Z E
  · refine xr_aload_n 1 C rfl rfl dX2_takesCrate_15 ?_
    refine xr_gR C E xf_X2_28 dX2_takesCrate_16 (fun x68 E => ?_)
    refine xr_aload_n 1 C rfl rfl dX2_takesCrate_19 ?_
    refine xr_gI C E xf_X2_147 dX2_takesCrate_20 (fun x69 E => ?_)
    refine xr_iconst (1) C (by decide) dX2_takesCrate_23 ?_
    refine xr_isub C dX2_takesCrate_24 ?_
    refine xr_lI C E xt_100 dX2_takesCrate_25 (fun x70 E => ?_)
    refine xr_goto 30 C dX2_takesCrate_26 (by decide) ?_
    refine xr_istore_n (L2 := [(2, .int x70), (1, .int ((9 : Int32) * x1)), (0, va_rf a0)]) C rfl rfl dX2_takesCrate_30 (by decide) ?_
    refine xr_iconst (0) C (by decide) dX2_takesCrate_31 ?_
    refine xr_istore_n (L2 := [(3, .int (0 : Int32)), (2, .int x70), (1, .int ((9 : Int32) * x1)), (0, va_rf a0)]) C rfl rfl dX2_takesCrate_32 (by decide) ?_
    refine xr_iconst (0) C (by decide) dX2_takesCrate_33 ?_
    refine xr_istore (L2 := [(4, .int (0 : Int32)), (3, .int (0 : Int32)), (2, .int x70), (1, .int ((9 : Int32) * x1)), (0, va_rf a0)]) C rfl dX2_takesCrate_34 (by decide) ?_
    refine xr_sub [4, 3, 2, 1, 0] rfl ?_
    refine wk_X2_takesCrate_L36 (a0 := a0) (a1 := ((9 : Int32) * x1)) (a2 := x70) (a3 := (0 : Int32)) C Z (fun h71 E => ?_) xk_fu (0 : Int32) h0 E
    · refine xr_aload_n 0 C rfl rfl dX2_takesCrate_60 ?_
      refine xr_aload_n 0 C rfl rfl dX2_takesCrate_61 ?_
      refine xr_V (v := a0) [] [va_rf a0] (fun r => some (.int r)) (fun r => .int r :: [va_rf a0]) C E xi_2_SlatCratesModel (fun r h' e => wk_X2_here e) q2314 q2316 qs49 q89 q2317 xh_SlatCratesModel xd_X2_here (by decide) (by decide) ⟨xk_crf _, trivial⟩ (Nat.le_of_ble_eq_true rfl) rfl (fun _ => rfl) dX2_takesCrate_62 (fun r72 h73 E => ?_)
      refine xr_bipush (65) C (by decide) dX2_takesCrate_65 ?_
      refine xr_bipush (90) C (by decide) dX2_takesCrate_67 ?_
      refine xr_S [.int r72, .int (65 : Int32), .int (90 : Int32)] [va_rf a0] (fun r => some (.int (xk_b2 r))) (fun r => .int (xk_b2 r) :: [va_rf a0]) C E (fun r h' e => wk_X2_in e) q2205 q2206 q89 q2207 xh_SlatCratesModel xd_X2_in (by decide) (by decide) ⟨xk_crf _, trivial⟩ (Nat.le_of_ble_eq_true rfl) rfl (fun _ => rfl) dX2_takesCrate_69 (fun r74 h75 E => ?_)
      refine xr_V (v := a0) [.int (xk_b2 r74)] [] (fun _ => none) (fun _ => []) C E xi_2_SlatCratesModel (fun r h' e => wk_X2_takes e) q2318 q2320 qs50 q89 q2321 xh_SlatCratesModel xd_X2_takes (by decide) (by decide) trivial (Nat.le_of_ble_eq_true rfl) rfl (fun _ => rfl) dX2_takesCrate_72 (fun r76 h77 E => ?_)
      refine xr_aload_n 0 C rfl rfl dX2_takesCrate_75 ?_
      refine xr_dup C (xk_crf _) dX2_takesCrate_76 ?_
      refine xr_gI C E xf_X2_129 dX2_takesCrate_77 (fun x78 E => ?_)
      refine xr_aload_n 0 C rfl rfl dX2_takesCrate_80 ?_
      refine xr_gI C E xf_X2_132 dX2_takesCrate_81 (fun x79 E => ?_)
      refine xr_if_eq 91 C E dX2_takesCrate_84 (by decide) (fun E => ?_) (fun E => ?_)
      · refine xr_iconst (0) C (by decide) dX2_takesCrate_91 ?_
        refine xr_isub C dX2_takesCrate_92 ?_
        refine xr_pI C E xf_X2_129 xp_X2_129 dX2_takesCrate_93 (fun h80 E => ?_)
        refine wk_X2_takesCrate_L96 (a0 := a0) (a1 := ((9 : Int32) * x1)) (a2 := x70) C Z (fun h81 E => ?_) xk_fu (0 : Int32) h80 E
        · exact wk_X2_takesCrate_J157 C Z E
      · refine xr_iconst (1) C (by decide) dX2_takesCrate_87 ?_
        refine xr_goto 92 C dX2_takesCrate_88 (by decide) ?_
        refine xr_isub C dX2_takesCrate_92 ?_
        refine xr_pI C E xf_X2_129 xp_X2_129 dX2_takesCrate_93 (fun h82 E => ?_)
        refine wk_X2_takesCrate_L96 (a0 := a0) (a1 := ((9 : Int32) * x1)) (a2 := x70) C Z (fun h83 E => ?_) xk_fu (0 : Int32) h82 E
        · exact wk_X2_takesCrate_J157 C Z E
def mf_X2_areNests_J49 (kb24 : xk_H → Option (Bool × xk_H)) (a0 : Option Nat) (h0 : xk_H) : Option (Bool × xk_H) :=
  xm_rc [2] a0 h0 <| xm_cl (mf_X2_takesCrate a0 h0) fun r12 h13 => kb24 h13
set_option maxHeartbeats 1000000 in
theorem wk_X2_areNests_J49 {Γ : xk_C} {r : Bool} {h' : xk_H} {kb24 : xk_H → Option (Bool × xk_H)} {a0 : Option Nat} {h0 : xk_H} (C : xk_Cx Γ RX2 cX2_areNests 1 (Option.some FieldType.boolean) "areNests" 4 130) (Z : xk_Z Γ (some (.int (xk_b2 r))) h') (hkb24 : ∀ (g : xk_H), kb24 g = some (r, h') → xk_X Γ 24 [(0, va_rf a0)] [] g) (E : mf_X2_areNests_J49 kb24 a0 h0 = some (r, h')) : xk_X Γ 49 [(0, va_rf a0)] [] h0 := by
  rw [mf_X2_areNests_J49] at E
  refine xr_aload_n 0 C rfl rfl dX2_areNests_49 ?_
  refine xr_V (v := a0) [] [] (fun _ => none) (fun _ => []) C E xi_2_SlatCratesModel (fun r h' e => wk_X2_takesCrate e) q2310 q2312 qs48 q89 q2313 xh_SlatCratesModel xd_X2_takesCrate (by decide) (by decide) trivial (Nat.le_of_ble_eq_true rfl) rfl (fun _ => rfl) dX2_areNests_50 (fun r12 h13 E => ?_)
  refine xr_goto 24 C dX2_areNests_53 (by decide) ?_
  exact hkb24 h13 E
def mf_X2_areNests_L24 (a0 : Option Nat) : Nat → xk_H → Option (Bool × xk_H)
  | 0, _ => none
  | n + 1, h0 => xm_gI [2] 9 a0 h0 fun x7 => if x7 = 0 then (xm_gI [2] 9 a0 h0 fun x8 => xm_z x8 fun x9 => some (x9, h0)) else (xm_gI [2] 8 a0 h0 fun x10 => xm_gI [2] 7 a0 h0 fun x11 => if x10 < x11 then (mf_X2_areNests_J49 (fun g => mf_X2_areNests_L24 a0 n g) a0 h0) else (xm_gI [2] 13 a0 h0 fun x14 => if x14 ≤ 0 then (xm_gI [2] 9 a0 h0 fun x15 => xm_z x15 fun x16 => some (x16, h0)) else (mf_X2_areNests_J49 (fun g => mf_X2_areNests_L24 a0 n g) a0 h0)))
set_option maxHeartbeats 1000000 in
theorem wk_X2_areNests_L24 {Γ : xk_C} {r : Bool} {h' : xk_H} {a0 : Option Nat} (C : xk_Cx Γ RX2 cX2_areNests 1 (Option.some FieldType.boolean) "areNests" 4 130) (Z : xk_Z Γ (some (.int (xk_b2 r))) h') : ∀ (n : Nat) (h0 : xk_H), mf_X2_areNests_L24 a0 n h0 = some (r, h') → xk_X Γ 24 [(0, va_rf a0)] [] h0 := by
  intro n
  induction n with
  | zero =>
    intro  h0 E
    rw [mf_X2_areNests_L24] at E
    cases E
  | succ n ih =>
    intro  h0 E
    have hkb24 : ∀ (g : xk_H), mf_X2_areNests_L24 a0 n g = some (r, h') → xk_X Γ 24 [(0, va_rf a0)] [] g := ih
    rw [mf_X2_areNests_L24] at E
    refine xr_aload_n 0 C rfl rfl dX2_areNests_24 ?_
    refine xr_gI C E xf_X2_132 dX2_areNests_25 (fun x7 E => ?_)
    refine xr_if_eq 56 C E dX2_areNests_28 (by decide) (fun E => ?_) (fun E => ?_)
    · refine xr_aload_n 0 C rfl rfl dX2_areNests_56 ?_
      refine xr_gI C E xf_X2_132 dX2_areNests_57 (fun x8 E => ?_)
      exact xr_zretz C Z E dX2_areNests_60
    · refine xr_aload_n 0 C rfl rfl dX2_areNests_31 ?_
      refine xr_gI C E xf_X2_129 dX2_areNests_32 (fun x10 E => ?_)
      refine xr_aload_n 0 C rfl rfl dX2_areNests_35 ?_
      refine xr_gI C E xf_X2_126 dX2_areNests_36 (fun x11 E => ?_)
      refine xr_icmp_lt 49 C E dX2_areNests_39 (by decide) (fun E => ?_) (fun E => ?_)
      · exact wk_X2_areNests_J49 C Z hkb24 E
      · refine xr_aload_n 0 C rfl rfl dX2_areNests_42 ?_
        refine xr_gI C E xf_X2_147 dX2_areNests_43 (fun x14 E => ?_)
        refine xr_if_le 56 C E dX2_areNests_46 (by decide) (fun E => ?_) (fun E => ?_)
        · refine xr_aload_n 0 C rfl rfl dX2_areNests_56 ?_
          refine xr_gI C E xf_X2_132 dX2_areNests_57 (fun x15 E => ?_)
          exact xr_zretz C Z E dX2_areNests_60
        · exact wk_X2_areNests_J49 C Z hkb24 E
def mf_X2_areNests (a0 : Option Nat) (h0 : xk_H) : Option (Bool × xk_H) :=
  xm_pV [2] 8 a0 (.int (0 : Int32)) h0 fun h1 => xm_pN .boolean [2] 9 a0 (1 : Int32) h1 fun h2 => xm_pV [2] 11 a0 (.int (0 : Int32)) h2 fun h3 => xm_pV [2] 13 a0 (.int (0 : Int32)) h3 fun h4 => xm_rc [2] a0 h4 <| xm_cl (mf_X2_takesCrate a0 h4) fun r5 h6 => mf_X2_areNests_L24 a0 xk_fu h6
set_option maxHeartbeats 1000000 in
theorem wk_X2_areNests {l : Launch} {D : va_G} {base : Nat} {a0 : Option Nat} {h0 : xk_H} {r : Bool} {h' : xk_H} (E : mf_X2_areNests a0 h0 = some (r, h')) : xk_Ok l D base yX2_areNests cX2_areNests 1 (Option.some FieldType.boolean) 4 130 [va_rf a0] h0 (some (.int (xk_b2 r))) h' := by
  refine xk_ofX RX2 "areNests" xq_X2_areNests rfl rfl (Nat.le_of_ble_eq_true rfl) ⟨xk_crf _, trivial⟩ (fun Γ el eD eb C Z => ?_)
  rw [mf_X2_areNests] at E
  show xk_X Γ 0 [(0, va_rf a0)] [] h0
  refine xr_aload_n 0 C rfl rfl dX2_areNests_0 ?_
  refine xr_iconst (0) C (by decide) dX2_areNests_1 ?_
  refine xr_pI C E xf_X2_129 xp_X2_129 dX2_areNests_2 (fun h1 E => ?_)
  refine xr_aload_n 0 C rfl rfl dX2_areNests_5 ?_
  refine xr_iconst (1) C (by decide) dX2_areNests_6 ?_
  refine xr_pN C E xf_X2_132 xp_X2_132 dX2_areNests_7 (fun h2 E => ?_)
  refine xr_aload_n 0 C rfl rfl dX2_areNests_10 ?_
  refine xr_iconst (0) C (by decide) dX2_areNests_11 ?_
  refine xr_pI C E xf_X2_144 xp_X2_144 dX2_areNests_12 (fun h3 E => ?_)
  refine xr_aload_n 0 C rfl rfl dX2_areNests_15 ?_
  refine xr_iconst (0) C (by decide) dX2_areNests_16 ?_
  refine xr_pI C E xf_X2_147 xp_X2_147 dX2_areNests_17 (fun h4 E => ?_)
  refine xr_aload_n 0 C rfl rfl dX2_areNests_20 ?_
  refine xr_V (v := a0) [] [] (fun _ => none) (fun _ => []) C E xi_2_SlatCratesModel (fun r h' e => wk_X2_takesCrate e) q2310 q2312 qs48 q89 q2313 xh_SlatCratesModel xd_X2_takesCrate (by decide) (by decide) trivial (Nat.le_of_ble_eq_true rfl) rfl (fun _ => rfl) dX2_areNests_21 (fun r5 h6 E => ?_)
  exact wk_X2_areNests_L24 (a0 := a0) C Z xk_fu h6 E
def mf_X2_fault (a0 : Option Nat) (h0 : xk_H) : Option (Int32 × xk_H) :=
  xm_rc [2] a0 h0 <| xm_cl (mf_X2_areNests a0 h0) fun r1 h2 => if xk_b2 r1 = 0 then (xm_gI [2] 8 a0 h2 fun x3 => some (x3, h2)) else (some ((-4 : Int32), h2))
set_option maxHeartbeats 1000000 in
theorem wk_X2_fault {l : Launch} {D : va_G} {base : Nat} {a0 : Option Nat} {h0 : xk_H} {r : Int32} {h' : xk_H} (E : mf_X2_fault a0 h0 = some (r, h')) : xk_Ok l D base yX2_fault cX2_fault 1 (Option.some FieldType.int) 5 150 [va_rf a0] h0 (some (.int r)) h' := by
  refine xk_ofX RX2 "fault" xq_X2_fault rfl rfl (Nat.le_of_ble_eq_true rfl) ⟨xk_crf _, trivial⟩ (fun Γ el eD eb C Z => ?_)
  rw [mf_X2_fault] at E
  show xk_X Γ 0 [(0, va_rf a0)] [] h0
  refine xr_aload_n 0 C rfl rfl dX2_fault_0 ?_
  refine xr_V (v := a0) [] [] (fun r => some (.int (xk_b2 r))) (fun r => .int (xk_b2 r) :: []) C E xi_2_SlatCratesModel (fun r h' e => wk_X2_areNests e) q2306 q2308 qs47 q89 q2309 xh_SlatCratesModel xd_X2_areNests (by decide) (by decide) trivial (Nat.le_of_ble_eq_true rfl) rfl (fun _ => rfl) dX2_fault_1 (fun r1 h2 E => ?_)
  refine xr_if_eq 12 C E dX2_fault_4 (by decide) (fun E => ?_) (fun E => ?_)
  · refine xr_aload_n 0 C rfl rfl dX2_fault_12 ?_
    refine xr_gI C E xf_X2_129 dX2_fault_13 (fun x3 E => ?_)
    exact xr_iret C Z E dX2_fault_16
  · refine xr_bipush (-4) C (by decide) dX2_fault_7 ?_
    refine xr_goto 16 C dX2_fault_9 (by decide) ?_
    exact xr_iret C Z E dX2_fault_16
def mf_X2_doFit_L52 (kx105 : Int32 → xk_H → Option (Bool × xk_H)) (a0 : Option Nat) (a1 : Int32) (a2 : Int32) : Nat → Int32 → Int32 → xk_H → Option (Bool × xk_H)
  | 0, _, _, _ => none
  | n + 1, a3, a4, h0 => xm_gI [2] 11 a0 h0 fun x5 => if x5 ≤ a4 then (kx105 a3 h0) else (xm_gR [2] 10 a0 h0 fun x6 => xm_lI [100] x6 (((9 : Int32) * a4) + (7 : Int32)) h0 fun x7 => if x7 = (a2 + (1 : Int32)) then (xm_gR [2] 10 a0 h0 fun x8 => xm_lI [100] x8 (((9 : Int32) * a4) + (0 : Int32)) h0 fun x9 => mf_X2_doFit_L52 kx105 a0 a1 a2 n (a3 - x9) (a4 + 1) h0) else (mf_X2_doFit_L52 kx105 a0 a1 a2 n (a3 - (0 : Int32)) (a4 + 1) h0))
set_option maxHeartbeats 1000000 in
theorem wk_X2_doFit_L52 {Γ : xk_C} {r : Bool} {h' : xk_H} {kx105 : Int32 → xk_H → Option (Bool × xk_H)} {a0 : Option Nat} {a1 : Int32} {a2 : Int32} (C : xk_Cx Γ RX2 cX2_doFit 5 (Option.some FieldType.boolean) "doFit" 1 60) (Z : xk_Z Γ (some (.int (xk_b2 r))) h') (hkx105 : ∀ (m3 : Int32) (g : xk_H), kx105 m3 g = some (r, h') → xk_X Γ 105 [(0, va_rf a0), (1, .int a1), (2, .int a2), (3, .int m3)] [] g) : ∀ (n : Nat) (a3 : Int32) (a4 : Int32) (h0 : xk_H), mf_X2_doFit_L52 kx105 a0 a1 a2 n a3 a4 h0 = some (r, h') → xk_X Γ 52 [(0, va_rf a0), (1, .int a1), (2, .int a2), (3, .int a3), (4, .int a4)] [] h0 := by
  intro n
  induction n with
  | zero =>
    intro a3 a4 h0 E
    rw [mf_X2_doFit_L52] at E
    cases E
  | succ n ih =>
    intro a3 a4 h0 E
    have hkb52 : ∀ (m3 : Int32) (m4 : Int32) (g : xk_H), mf_X2_doFit_L52 kx105 a0 a1 a2 n m3 m4 g = some (r, h') → xk_X Γ 52 [(0, va_rf a0), (1, .int a1), (2, .int a2), (3, .int m3), (4, .int m4)] [] g := ih
    rw [mf_X2_doFit_L52] at E
    refine xr_iload 4 C rfl dX2_doFit_52 ?_
    refine xr_aload_n 0 C rfl rfl dX2_doFit_54 ?_
    refine xr_gI C E xf_X2_144 dX2_doFit_55 (fun x5 E => ?_)
    refine xr_icmp_ge 105 C E dX2_doFit_58 (by decide) (fun E => ?_) (fun E => ?_)
    · refine xr_sub [0, 1, 2, 3] rfl ?_
      exact hkx105 a3 h0 E
    · refine xr_iload_n 3 C rfl rfl dX2_doFit_61 ?_
      refine xr_aload_n 0 C rfl rfl dX2_doFit_62 ?_
      refine xr_gR C E xf_X2_25 dX2_doFit_63 (fun x6 E => ?_)
      refine xr_bipush (9) C (by decide) dX2_doFit_66 ?_
      refine xr_iload 4 C rfl dX2_doFit_68 ?_
      refine xr_imul C dX2_doFit_70 ?_
      refine xr_bipush (7) C (by decide) dX2_doFit_71 ?_
      refine xr_iadd C dX2_doFit_73 ?_
      refine xr_lI C E xt_100 dX2_doFit_74 (fun x7 E => ?_)
      refine xr_iload_n 2 C rfl rfl dX2_doFit_75 ?_
      refine xr_iconst (1) C (by decide) dX2_doFit_76 ?_
      refine xr_iadd C dX2_doFit_77 ?_
      refine xr_icmp_ne 96 C E dX2_doFit_78 (by decide) (fun E => ?_) (fun E => ?_)
      · refine xr_iconst (0) C (by decide) dX2_doFit_96 ?_
        refine xr_isub C dX2_doFit_97 ?_
        refine xr_istore_n (L2 := [(3, .int (a3 - (0 : Int32))), (0, va_rf a0), (1, .int a1), (2, .int a2), (4, .int a4)]) C rfl rfl dX2_doFit_98 (by decide) ?_
        refine xr_iinc (v := (a4 + 1)) (L2 := [(4, .int (a4 + 1)), (3, .int (a3 - (0 : Int32))), (0, va_rf a0), (1, .int a1), (2, .int a2)]) 4 C rfl rfl rfl dX2_doFit_99 (by decide) ?_
        refine xr_goto 52 C dX2_doFit_102 (by decide) ?_
        refine xr_sub [2, 3, 4, 1, 0] rfl ?_
        exact hkb52 (a3 - (0 : Int32)) (a4 + 1) h0 E
      · refine xr_aload_n 0 C rfl rfl dX2_doFit_81 ?_
        refine xr_gR C E xf_X2_25 dX2_doFit_82 (fun x8 E => ?_)
        refine xr_bipush (9) C (by decide) dX2_doFit_85 ?_
        refine xr_iload 4 C rfl dX2_doFit_87 ?_
        refine xr_imul C dX2_doFit_89 ?_
        refine xr_iconst (0) C (by decide) dX2_doFit_90 ?_
        refine xr_iadd C dX2_doFit_91 ?_
        refine xr_lI C E xt_100 dX2_doFit_92 (fun x9 E => ?_)
        refine xr_goto 97 C dX2_doFit_93 (by decide) ?_
        refine xr_isub C dX2_doFit_97 ?_
        refine xr_istore_n (L2 := [(3, .int (a3 - x9)), (0, va_rf a0), (1, .int a1), (2, .int a2), (4, .int a4)]) C rfl rfl dX2_doFit_98 (by decide) ?_
        refine xr_iinc (v := (a4 + 1)) (L2 := [(4, .int (a4 + 1)), (3, .int (a3 - x9)), (0, va_rf a0), (1, .int a1), (2, .int a2)]) 4 C rfl rfl rfl dX2_doFit_99 (by decide) ?_
        refine xr_goto 52 C dX2_doFit_102 (by decide) ?_
        refine xr_sub [2, 3, 4, 1, 0] rfl ?_
        exact hkb52 (a3 - x9) (a4 + 1) h0 E
def mf_X2_doFit_L4 (a0 : Option Nat) : Nat → Int32 → Int32 → xk_H → Option (Bool × xk_H)
  | 0, _, _, _ => none
  | n + 1, a1, a2, h0 => xm_gI [2] 11 a0 h0 fun x1 => if x1 ≤ a2 then (xm_z a1 fun x2 => some (x2, h0)) else (xm_gR [2] 10 a0 h0 fun x3 => xm_lI [100] x3 (((9 : Int32) * a2) + (1 : Int32)) h0 fun x4 => if a1 = 0 then (mf_X2_doFit_L52 (fun m10 h11 => if (0 : Int32) = 0 then (mf_X2_doFit_L4 a0 n (0 : Int32) (a2 + 1) h11) else (if m10 < 0 then (mf_X2_doFit_L4 a0 n (0 : Int32) (a2 + 1) h11) else (mf_X2_doFit_L4 a0 n (1 : Int32) (a2 + 1) h11))) a0 (0 : Int32) a2 xk_fu x4 (0 : Int32) h0) else (xm_gR [2] 10 a0 h0 fun x12 => xm_lI [100] x12 (((9 : Int32) * a2) + (0 : Int32)) h0 fun x13 => if x13 ≤ x4 then (mf_X2_doFit_L52 (fun m14 h15 => if (0 : Int32) = 0 then (mf_X2_doFit_L4 a0 n (0 : Int32) (a2 + 1) h15) else (if m14 < 0 then (mf_X2_doFit_L4 a0 n (0 : Int32) (a2 + 1) h15) else (mf_X2_doFit_L4 a0 n (1 : Int32) (a2 + 1) h15))) a0 (0 : Int32) a2 xk_fu x4 (0 : Int32) h0) else (mf_X2_doFit_L52 (fun m16 h17 => if (1 : Int32) = 0 then (mf_X2_doFit_L4 a0 n (0 : Int32) (a2 + 1) h17) else (if m16 < 0 then (mf_X2_doFit_L4 a0 n (0 : Int32) (a2 + 1) h17) else (mf_X2_doFit_L4 a0 n (1 : Int32) (a2 + 1) h17))) a0 (1 : Int32) a2 xk_fu x4 (0 : Int32) h0)))
set_option maxHeartbeats 1000000 in
theorem wk_X2_doFit_L4 {Γ : xk_C} {r : Bool} {h' : xk_H} {a0 : Option Nat} (C : xk_Cx Γ RX2 cX2_doFit 5 (Option.some FieldType.boolean) "doFit" 1 60) (Z : xk_Z Γ (some (.int (xk_b2 r))) h') : ∀ (n : Nat) (a1 : Int32) (a2 : Int32) (h0 : xk_H), mf_X2_doFit_L4 a0 n a1 a2 h0 = some (r, h') → xk_X Γ 4 [(0, va_rf a0), (1, .int a1), (2, .int a2)] [] h0 := by
  intro n
  induction n with
  | zero =>
    intro a1 a2 h0 E
    rw [mf_X2_doFit_L4] at E
    cases E
  | succ n ih =>
    intro a1 a2 h0 E
    have hkb4 : ∀ (m1 : Int32) (m2 : Int32) (g : xk_H), mf_X2_doFit_L4 a0 n m1 m2 g = some (r, h') → xk_X Γ 4 [(0, va_rf a0), (1, .int m1), (2, .int m2)] [] g := ih
    rw [mf_X2_doFit_L4] at E
    refine xr_iload_n 2 C rfl rfl dX2_doFit_4 ?_
    refine xr_aload_n 0 C rfl rfl dX2_doFit_5 ?_
    refine xr_gI C E xf_X2_144 dX2_doFit_6 (fun x1 E => ?_)
    refine xr_icmp_ge 125 C E dX2_doFit_9 (by decide) (fun E => ?_) (fun E => ?_)
    · refine xr_iload_n 1 C rfl rfl dX2_doFit_125 ?_
      exact xr_zretz C Z E dX2_doFit_126
    · refine xr_aload_n 0 C rfl rfl dX2_doFit_12 ?_
      refine xr_gR C E xf_X2_25 dX2_doFit_13 (fun x3 E => ?_)
      refine xr_bipush (9) C (by decide) dX2_doFit_16 ?_
      refine xr_iload_n 2 C rfl rfl dX2_doFit_18 ?_
      refine xr_imul C dX2_doFit_19 ?_
      refine xr_iconst (1) C (by decide) dX2_doFit_20 ?_
      refine xr_iadd C dX2_doFit_21 ?_
      refine xr_lI C E xt_100 dX2_doFit_22 (fun x4 E => ?_)
      refine xr_istore_n (L2 := [(3, .int x4), (0, va_rf a0), (1, .int a1), (2, .int a2)]) C rfl rfl dX2_doFit_23 (by decide) ?_
      refine xr_iload_n 2 C rfl rfl dX2_doFit_24 ?_
      refine xr_if_eq 47 C E dX2_doFit_25 (by decide) (fun E => ?_) (fun E => ?_)
      · refine xr_iconst (0) C (by decide) dX2_doFit_47 ?_
        refine xr_istore_n (L2 := [(1, .int (0 : Int32)), (3, .int x4), (0, va_rf a0), (2, .int a2)]) C rfl rfl dX2_doFit_48 (by decide) ?_
        refine xr_iconst (0) C (by decide) dX2_doFit_49 ?_
        refine xr_istore (L2 := [(4, .int (0 : Int32)), (1, .int (0 : Int32)), (3, .int x4), (0, va_rf a0), (2, .int a2)]) C rfl dX2_doFit_50 (by decide) ?_
        refine xr_sub [3, 1, 4, 2, 0] rfl ?_
        refine wk_X2_doFit_L52 (a0 := a0) (a1 := (0 : Int32)) (a2 := a2) C Z (fun m10 h11 E => ?_) xk_fu x4 (0 : Int32) h0 E
        · refine xr_iload_n 1 C rfl rfl dX2_doFit_105 ?_
          refine xr_if_eq 117 C E dX2_doFit_106 (by decide) (fun E => ?_) (fun E => ?_)
          · refine xr_iconst (0) C (by decide) dX2_doFit_117 ?_
            refine xr_istore_n (L2 := [(1, .int (0 : Int32)), (0, va_rf a0), (2, .int a2), (3, .int m10)]) C rfl rfl dX2_doFit_118 (by decide) ?_
            refine xr_iinc (v := (a2 + 1)) (L2 := [(2, .int (a2 + 1)), (1, .int (0 : Int32)), (0, va_rf a0), (3, .int m10)]) 2 C rfl rfl rfl dX2_doFit_119 (by decide) ?_
            refine xr_goto 4 C dX2_doFit_122 (by decide) ?_
            refine xr_sub [2, 1, 0] rfl ?_
            exact hkb4 (0 : Int32) (a2 + 1) h11 E
          · refine xr_iload_n 3 C rfl rfl dX2_doFit_109 ?_
            refine xr_if_lt 117 C E dX2_doFit_110 (by decide) (fun E => ?_) (fun E => ?_)
            · refine xr_iconst (0) C (by decide) dX2_doFit_117 ?_
              refine xr_istore_n (L2 := [(1, .int (0 : Int32)), (0, va_rf a0), (2, .int a2), (3, .int m10)]) C rfl rfl dX2_doFit_118 (by decide) ?_
              refine xr_iinc (v := (a2 + 1)) (L2 := [(2, .int (a2 + 1)), (1, .int (0 : Int32)), (0, va_rf a0), (3, .int m10)]) 2 C rfl rfl rfl dX2_doFit_119 (by decide) ?_
              refine xr_goto 4 C dX2_doFit_122 (by decide) ?_
              refine xr_sub [2, 1, 0] rfl ?_
              exact hkb4 (0 : Int32) (a2 + 1) h11 E
            · refine xr_iconst (1) C (by decide) dX2_doFit_113 ?_
              refine xr_goto 118 C dX2_doFit_114 (by decide) ?_
              refine xr_istore_n (L2 := [(1, .int (1 : Int32)), (0, va_rf a0), (2, .int a2), (3, .int m10)]) C rfl rfl dX2_doFit_118 (by decide) ?_
              refine xr_iinc (v := (a2 + 1)) (L2 := [(2, .int (a2 + 1)), (1, .int (1 : Int32)), (0, va_rf a0), (3, .int m10)]) 2 C rfl rfl rfl dX2_doFit_119 (by decide) ?_
              refine xr_goto 4 C dX2_doFit_122 (by decide) ?_
              refine xr_sub [2, 1, 0] rfl ?_
              exact hkb4 (1 : Int32) (a2 + 1) h11 E
      · refine xr_iload_n 0 C rfl rfl dX2_doFit_28 ?_
        refine xr_aload_n 1 C rfl rfl dX2_doFit_29 ?_
        refine xr_gR C E xf_X2_25 dX2_doFit_30 (fun x12 E => ?_)
        refine xr_bipush (9) C (by decide) dX2_doFit_33 ?_
        refine xr_iload_n 3 C rfl rfl dX2_doFit_35 ?_
        refine xr_imul C dX2_doFit_36 ?_
        refine xr_iconst (0) C (by decide) dX2_doFit_37 ?_
        refine xr_iadd C dX2_doFit_38 ?_
        refine xr_lI C E xt_100 dX2_doFit_39 (fun x13 E => ?_)
        refine xr_icmp_ge 47 C E dX2_doFit_40 (by decide) (fun E => ?_) (fun E => ?_)
        · refine xr_iconst (0) C (by decide) dX2_doFit_47 ?_
          refine xr_istore_n (L2 := [(1, .int (0 : Int32)), (3, .int x4), (0, va_rf a0), (2, .int a2)]) C rfl rfl dX2_doFit_48 (by decide) ?_
          refine xr_iconst (0) C (by decide) dX2_doFit_49 ?_
          refine xr_istore (L2 := [(4, .int (0 : Int32)), (1, .int (0 : Int32)), (3, .int x4), (0, va_rf a0), (2, .int a2)]) C rfl dX2_doFit_50 (by decide) ?_
          refine xr_sub [3, 1, 4, 2, 0] rfl ?_
          refine wk_X2_doFit_L52 (a0 := a0) (a1 := (0 : Int32)) (a2 := a2) C Z (fun m14 h15 E => ?_) xk_fu x4 (0 : Int32) h0 E
          · refine xr_iload_n 1 C rfl rfl dX2_doFit_105 ?_
            refine xr_if_eq 117 C E dX2_doFit_106 (by decide) (fun E => ?_) (fun E => ?_)
            · refine xr_iconst (0) C (by decide) dX2_doFit_117 ?_
              refine xr_istore_n (L2 := [(1, .int (0 : Int32)), (0, va_rf a0), (2, .int a2), (3, .int m14)]) C rfl rfl dX2_doFit_118 (by decide) ?_
              refine xr_iinc (v := (a2 + 1)) (L2 := [(2, .int (a2 + 1)), (1, .int (0 : Int32)), (0, va_rf a0), (3, .int m14)]) 2 C rfl rfl rfl dX2_doFit_119 (by decide) ?_
              refine xr_goto 4 C dX2_doFit_122 (by decide) ?_
              refine xr_sub [2, 1, 0] rfl ?_
              exact hkb4 (0 : Int32) (a2 + 1) h15 E
            · refine xr_iload_n 3 C rfl rfl dX2_doFit_109 ?_
              refine xr_if_lt 117 C E dX2_doFit_110 (by decide) (fun E => ?_) (fun E => ?_)
              · refine xr_iconst (0) C (by decide) dX2_doFit_117 ?_
                refine xr_istore_n (L2 := [(1, .int (0 : Int32)), (0, va_rf a0), (2, .int a2), (3, .int m14)]) C rfl rfl dX2_doFit_118 (by decide) ?_
                refine xr_iinc (v := (a2 + 1)) (L2 := [(2, .int (a2 + 1)), (1, .int (0 : Int32)), (0, va_rf a0), (3, .int m14)]) 2 C rfl rfl rfl dX2_doFit_119 (by decide) ?_
                refine xr_goto 4 C dX2_doFit_122 (by decide) ?_
                refine xr_sub [2, 1, 0] rfl ?_
                exact hkb4 (0 : Int32) (a2 + 1) h15 E
              · refine xr_iconst (1) C (by decide) dX2_doFit_113 ?_
                refine xr_goto 118 C dX2_doFit_114 (by decide) ?_
                refine xr_istore_n (L2 := [(1, .int (1 : Int32)), (0, va_rf a0), (2, .int a2), (3, .int m14)]) C rfl rfl dX2_doFit_118 (by decide) ?_
                refine xr_iinc (v := (a2 + 1)) (L2 := [(2, .int (a2 + 1)), (1, .int (1 : Int32)), (0, va_rf a0), (3, .int m14)]) 2 C rfl rfl rfl dX2_doFit_119 (by decide) ?_
                refine xr_goto 4 C dX2_doFit_122 (by decide) ?_
                refine xr_sub [2, 1, 0] rfl ?_
                exact hkb4 (1 : Int32) (a2 + 1) h15 E
        · refine xr_iconst (1) C (by decide) dX2_doFit_43 ?_
          refine xr_goto 48 C dX2_doFit_44 (by decide) ?_
          refine xr_istore_n (L2 := [(1, .int (1 : Int32)), (3, .int x4), (0, va_rf a0), (2, .int a2)]) C rfl rfl dX2_doFit_48 (by decide) ?_
          refine xr_iconst (0) C (by decide) dX2_doFit_49 ?_
          refine xr_istore (L2 := [(4, .int (0 : Int32)), (1, .int (1 : Int32)), (3, .int x4), (0, va_rf a0), (2, .int a2)]) C rfl dX2_doFit_50 (by decide) ?_
          refine xr_sub [3, 1, 4, 2, 0] rfl ?_
          refine wk_X2_doFit_L52 (a0 := a0) (a1 := (1 : Int32)) (a2 := a2) C Z (fun m16 h17 E => ?_) xk_fu x4 (0 : Int32) h0 E
          · refine xr_iload_n 1 C rfl rfl dX2_doFit_105 ?_
            refine xr_if_eq 117 C E dX2_doFit_106 (by decide) (fun E => ?_) (fun E => ?_)
            · refine xr_iconst (0) C (by decide) dX2_doFit_117 ?_
              refine xr_istore_n (L2 := [(1, .int (0 : Int32)), (0, va_rf a0), (2, .int a2), (3, .int m16)]) C rfl rfl dX2_doFit_118 (by decide) ?_
              refine xr_iinc (v := (a2 + 1)) (L2 := [(2, .int (a2 + 1)), (1, .int (0 : Int32)), (0, va_rf a0), (3, .int m16)]) 2 C rfl rfl rfl dX2_doFit_119 (by decide) ?_
              refine xr_goto 4 C dX2_doFit_122 (by decide) ?_
              refine xr_sub [2, 1, 0] rfl ?_
              exact hkb4 (0 : Int32) (a2 + 1) h17 E
            · refine xr_iload_n 3 C rfl rfl dX2_doFit_109 ?_
              refine xr_if_lt 117 C E dX2_doFit_110 (by decide) (fun E => ?_) (fun E => ?_)
              · refine xr_iconst (0) C (by decide) dX2_doFit_117 ?_
                refine xr_istore_n (L2 := [(1, .int (0 : Int32)), (0, va_rf a0), (2, .int a2), (3, .int m16)]) C rfl rfl dX2_doFit_118 (by decide) ?_
                refine xr_iinc (v := (a2 + 1)) (L2 := [(2, .int (a2 + 1)), (1, .int (0 : Int32)), (0, va_rf a0), (3, .int m16)]) 2 C rfl rfl rfl dX2_doFit_119 (by decide) ?_
                refine xr_goto 4 C dX2_doFit_122 (by decide) ?_
                refine xr_sub [2, 1, 0] rfl ?_
                exact hkb4 (0 : Int32) (a2 + 1) h17 E
              · refine xr_iconst (1) C (by decide) dX2_doFit_113 ?_
                refine xr_goto 118 C dX2_doFit_114 (by decide) ?_
                refine xr_istore_n (L2 := [(1, .int (1 : Int32)), (0, va_rf a0), (2, .int a2), (3, .int m16)]) C rfl rfl dX2_doFit_118 (by decide) ?_
                refine xr_iinc (v := (a2 + 1)) (L2 := [(2, .int (a2 + 1)), (1, .int (1 : Int32)), (0, va_rf a0), (3, .int m16)]) 2 C rfl rfl rfl dX2_doFit_119 (by decide) ?_
                refine xr_goto 4 C dX2_doFit_122 (by decide) ?_
                refine xr_sub [2, 1, 0] rfl ?_
                exact hkb4 (1 : Int32) (a2 + 1) h17 E
def mf_X2_doFit (a0 : Option Nat) (h0 : xk_H) : Option (Bool × xk_H) :=
  mf_X2_doFit_L4 a0 xk_fu (1 : Int32) (0 : Int32) h0
set_option maxHeartbeats 1000000 in
theorem wk_X2_doFit {l : Launch} {D : va_G} {base : Nat} {a0 : Option Nat} {h0 : xk_H} {r : Bool} {h' : xk_H} (E : mf_X2_doFit a0 h0 = some (r, h')) : xk_Ok l D base yX2_doFit cX2_doFit 5 (Option.some FieldType.boolean) 1 60 [va_rf a0] h0 (some (.int (xk_b2 r))) h' := by
  refine xk_ofX RX2 "doFit" xq_X2_doFit rfl rfl (Nat.le_of_ble_eq_true rfl) ⟨xk_crf _, trivial⟩ (fun Γ el eD eb C Z => ?_)
  rw [mf_X2_doFit] at E
  show xk_X Γ 0 [(0, va_rf a0)] [] h0
  refine xr_iconst (1) C (by decide) dX2_doFit_0 ?_
  refine xr_istore_n (L2 := [(1, .int (1 : Int32)), (0, va_rf a0)]) C rfl rfl dX2_doFit_1 (by decide) ?_
  refine xr_iconst (0) C (by decide) dX2_doFit_2 ?_
  refine xr_istore_n (L2 := [(2, .int (0 : Int32)), (1, .int (1 : Int32)), (0, va_rf a0)]) C rfl rfl dX2_doFit_3 (by decide) ?_
  refine xr_sub [2, 1, 0] rfl ?_
  exact wk_X2_doFit_L4 (a0 := a0) C Z xk_fu (1 : Int32) (0 : Int32) h0 E
def mf_X2_load_L65 (kx99 : xk_H → Option (Int32 × xk_H)) (a0 : Option Nat) (a1 : Int32) (a2 : Int32) (a3 : Int32) : Nat → Int32 → xk_H → Option (Int32 × xk_H)
  | 0, _, _ => none
  | n + 1, a4, h0 => if (4 : Int32) ≤ a4 then (kx99 h0) else (xm_gR [2] 10 a0 h0 fun x13 => xm_lI [100] x13 ((a3 + (3 : Int32)) + a4) h0 fun x14 => xm_rc [2] a0 h0 <| xm_cl (mf_X2_lays a0 (a1 + a2) ((3 : Int32) + a4) x14 h0) fun r15 h16 => mf_X2_load_L65 kx99 a0 a1 a2 a3 n (a4 + 1) h16)
set_option maxHeartbeats 1000000 in
theorem wk_X2_load_L65 {Γ : xk_C} {r : Int32} {h' : xk_H} {kx99 : xk_H → Option (Int32 × xk_H)} {a0 : Option Nat} {a1 : Int32} {a2 : Int32} {a3 : Int32} (C : xk_Cx Γ RX2 cX2_load 5 (Option.some FieldType.int) "load" 5 150) (Z : xk_Z Γ (some (.int r)) h') (hkx99 : ∀ (g : xk_H), kx99 g = some (r, h') → xk_X Γ 99 [(0, va_rf a0), (1, .int a1), (2, .int a2), (3, .int a3)] [] g) : ∀ (n : Nat) (a4 : Int32) (h0 : xk_H), mf_X2_load_L65 kx99 a0 a1 a2 a3 n a4 h0 = some (r, h') → xk_X Γ 65 [(0, va_rf a0), (1, .int a1), (2, .int a2), (3, .int a3), (4, .int a4)] [] h0 := by
  intro n
  induction n with
  | zero =>
    intro a4 h0 E
    rw [mf_X2_load_L65] at E
    cases E
  | succ n ih =>
    intro a4 h0 E
    have hkb65 : ∀ (m4 : Int32) (g : xk_H), mf_X2_load_L65 kx99 a0 a1 a2 a3 n m4 g = some (r, h') → xk_X Γ 65 [(0, va_rf a0), (1, .int a1), (2, .int a2), (3, .int a3), (4, .int m4)] [] g := ih
    rw [mf_X2_load_L65] at E
    refine xr_iload 4 C rfl dX2_load_65 ?_
    refine xr_iconst (4) C (by decide) dX2_load_67 ?_
    refine xr_icmp_ge 99 C E dX2_load_68 (by decide) (fun E => ?_) (fun E => ?_)
    · refine xr_sub [0, 1, 2, 3] rfl ?_
      exact hkx99 h0 E
    · refine xr_aload_n 0 C rfl rfl dX2_load_71 ?_
      refine xr_iload_n 1 C rfl rfl dX2_load_72 ?_
      refine xr_iload_n 2 C rfl rfl dX2_load_73 ?_
      refine xr_iadd C dX2_load_74 ?_
      refine xr_iconst (3) C (by decide) dX2_load_75 ?_
      refine xr_iload 4 C rfl dX2_load_76 ?_
      refine xr_iadd C dX2_load_78 ?_
      refine xr_aload_n 0 C rfl rfl dX2_load_79 ?_
      refine xr_gR C E xf_X2_25 dX2_load_80 (fun x13 E => ?_)
      refine xr_iload_n 3 C rfl rfl dX2_load_83 ?_
      refine xr_iconst (3) C (by decide) dX2_load_84 ?_
      refine xr_iadd C dX2_load_85 ?_
      refine xr_iload 4 C rfl dX2_load_86 ?_
      refine xr_iadd C dX2_load_88 ?_
      refine xr_lI C E xt_100 dX2_load_89 (fun x14 E => ?_)
      refine xr_V (v := a0) [.int (a1 + a2), .int ((3 : Int32) + a4), .int x14] [] (fun _ => none) (fun _ => []) C E xi_2_SlatCratesModel (fun r h' e => wk_X2_lays e) q2219 q2221 qs33 q89 q2222 xh_SlatCratesModel xd_X2_lays (by decide) (by decide) trivial (Nat.le_of_ble_eq_true rfl) rfl (fun _ => rfl) dX2_load_90 (fun r15 h16 E => ?_)
      refine xr_iinc (v := (a4 + 1)) (L2 := [(4, .int (a4 + 1)), (0, va_rf a0), (1, .int a1), (2, .int a2), (3, .int a3)]) 4 C rfl rfl rfl dX2_load_93 (by decide) ?_
      refine xr_goto 65 C dX2_load_96 (by decide) ?_
      refine xr_sub [1, 2, 3, 4, 0] rfl ?_
      exact hkb65 (a4 + 1) h16 E
def mf_X2_load_J128 (kb49 : Int32 → xk_H → Option (Int32 × xk_H)) (a0 : Option Nat) (a1 : Int32) (a2 : Int32) (a3 : Int32) (s0 : Int32) (h0 : xk_H) : Option (Int32 × xk_H) :=
  xm_gR [2] 10 a0 h0 fun x22 => xm_lI [100] x22 (a3 + (0 : Int32)) h0 fun x23 => xm_gR [2] 10 a0 h0 fun x24 => xm_lI [100] x24 (a3 + (1 : Int32)) h0 fun x25 => xm_gR [2] 10 a0 h0 fun x26 => xm_lI [100] x26 (a3 + (2 : Int32)) h0 fun x27 => xm_gR [2] 10 a0 h0 fun x28 => xm_lI [100] x28 (a3 + (8 : Int32)) h0 fun x29 => xm_rc [2] a0 h0 <| xm_cl (mf_X2_adds a0 x23 x25 x27 s0 x29 h0) fun r30 h31 => kb49 (a2 + 1) h31
set_option maxHeartbeats 1000000 in
theorem wk_X2_load_J128 {Γ : xk_C} {r : Int32} {h' : xk_H} {kb49 : Int32 → xk_H → Option (Int32 × xk_H)} {a0 : Option Nat} {a1 : Int32} {a2 : Int32} {a3 : Int32} {s0 : Int32} {h0 : xk_H} (C : xk_Cx Γ RX2 cX2_load 5 (Option.some FieldType.int) "load" 5 150) (Z : xk_Z Γ (some (.int r)) h') (hkb49 : ∀ (m2 : Int32) (g : xk_H), kb49 m2 g = some (r, h') → xk_X Γ 49 [(0, va_rf a0), (1, .int a1), (2, .int m2)] [] g) (E : mf_X2_load_J128 kb49 a0 a1 a2 a3 s0 h0 = some (r, h')) : xk_X Γ 128 [(0, va_rf a0), (1, .int a1), (2, .int a2), (3, .int a3)] [.int s0] h0 := by
  rw [mf_X2_load_J128] at E
  refine xr_istore (L2 := [(4, .int s0), (0, va_rf a0), (1, .int a1), (2, .int a2), (3, .int a3)]) C rfl dX2_load_128 (by decide) ?_
  refine xr_aload_n 1 C rfl rfl dX2_load_130 ?_
  refine xr_aload_n 1 C rfl rfl dX2_load_131 ?_
  refine xr_gR C E xf_X2_25 dX2_load_132 (fun x22 E => ?_)
  refine xr_iload_n 4 C rfl rfl dX2_load_135 ?_
  refine xr_iconst (0) C (by decide) dX2_load_136 ?_
  refine xr_iadd C dX2_load_137 ?_
  refine xr_lI C E xt_100 dX2_load_138 (fun x23 E => ?_)
  refine xr_aload_n 1 C rfl rfl dX2_load_139 ?_
  refine xr_gR C E xf_X2_25 dX2_load_140 (fun x24 E => ?_)
  refine xr_iload_n 4 C rfl rfl dX2_load_143 ?_
  refine xr_iconst (1) C (by decide) dX2_load_144 ?_
  refine xr_iadd C dX2_load_145 ?_
  refine xr_lI C E xt_100 dX2_load_146 (fun x25 E => ?_)
  refine xr_aload_n 1 C rfl rfl dX2_load_147 ?_
  refine xr_gR C E xf_X2_25 dX2_load_148 (fun x26 E => ?_)
  refine xr_iload_n 4 C rfl rfl dX2_load_151 ?_
  refine xr_iconst (2) C (by decide) dX2_load_152 ?_
  refine xr_iadd C dX2_load_153 ?_
  refine xr_lI C E xt_100 dX2_load_154 (fun x27 E => ?_)
  refine xr_iload 0 C rfl dX2_load_155 ?_
  refine xr_aload_n 1 C rfl rfl dX2_load_157 ?_
  refine xr_gR C E xf_X2_25 dX2_load_158 (fun x28 E => ?_)
  refine xr_iload_n 4 C rfl rfl dX2_load_161 ?_
  refine xr_bipush (8) C (by decide) dX2_load_162 ?_
  refine xr_iadd C dX2_load_164 ?_
  refine xr_lI C E xt_100 dX2_load_165 (fun x29 E => ?_)
  refine xr_V (v := a0) [.int x23, .int x25, .int x27, .int s0, .int x29] [] (fun _ => none) (fun _ => []) C E xi_2_SlatCratesModel (fun r h' e => wk_X2_adds e) q2223 q2225 qs34 q89 q2226 xh_SlatCratesModel xd_X2_adds (by decide) (by decide) trivial (Nat.le_of_ble_eq_true rfl) rfl (fun _ => rfl) dX2_load_166 (fun r30 h31 E => ?_)
  refine xr_iinc (v := (a2 + 1)) (L2 := [(2, .int (a2 + 1)), (4, .int s0), (0, va_rf a0), (1, .int a1), (3, .int a3)]) 3 C rfl rfl rfl dX2_load_169 (by decide) ?_
  refine xr_goto 49 C dX2_load_172 (by decide) ?_
  refine xr_sub [2, 3, 0] rfl ?_
  exact hkb49 (a2 + 1) h31 E
def mf_X2_load_L49 (kx175 : xk_H → Option (Int32 × xk_H)) (a0 : Option Nat) (a1 : Int32) : Nat → Int32 → xk_H → Option (Int32 × xk_H)
  | 0, _, _ => none
  | n + 1, a2, h0 => xm_gI [2] 11 a0 h0 fun x12 => if x12 ≤ a2 then (kx175 h0) else (mf_X2_load_L65 (fun h17 => xm_gR [2] 10 a0 h17 fun x18 => xm_lI [100] x18 (((9 : Int32) * a2) + (7 : Int32)) h17 fun x19 => if x19 = 0 then (mf_X2_load_J128 (fun m2 g => mf_X2_load_L49 kx175 a0 a1 n m2 g) a0 a1 a2 ((9 : Int32) * a2) (-1 : Int32) h17) else (xm_gR [2] 10 a0 h17 fun x20 => xm_lI [100] x20 (((9 : Int32) * a2) + (7 : Int32)) h17 fun x21 => mf_X2_load_J128 (fun m2 g => mf_X2_load_L49 kx175 a0 a1 n m2 g) a0 a1 a2 ((9 : Int32) * a2) ((a1 + x21) - (1 : Int32)) h17)) a0 a1 a2 ((9 : Int32) * a2) xk_fu (0 : Int32) h0)
set_option maxHeartbeats 1000000 in
theorem wk_X2_load_L49 {Γ : xk_C} {r : Int32} {h' : xk_H} {kx175 : xk_H → Option (Int32 × xk_H)} {a0 : Option Nat} {a1 : Int32} (C : xk_Cx Γ RX2 cX2_load 5 (Option.some FieldType.int) "load" 5 150) (Z : xk_Z Γ (some (.int r)) h') (hkx175 : ∀ (g : xk_H), kx175 g = some (r, h') → xk_X Γ 175 [(0, va_rf a0)] [] g) : ∀ (n : Nat) (a2 : Int32) (h0 : xk_H), mf_X2_load_L49 kx175 a0 a1 n a2 h0 = some (r, h') → xk_X Γ 49 [(0, va_rf a0), (1, .int a1), (2, .int a2)] [] h0 := by
  intro n
  induction n with
  | zero =>
    intro a2 h0 E
    rw [mf_X2_load_L49] at E
    cases E
  | succ n ih =>
    intro a2 h0 E
    have hkb49 : ∀ (m2 : Int32) (g : xk_H), mf_X2_load_L49 kx175 a0 a1 n m2 g = some (r, h') → xk_X Γ 49 [(0, va_rf a0), (1, .int a1), (2, .int m2)] [] g := ih
    rw [mf_X2_load_L49] at E
    refine xr_iload_n 2 C rfl rfl dX2_load_49 ?_
    refine xr_aload_n 0 C rfl rfl dX2_load_50 ?_
    refine xr_gI C E xf_X2_144 dX2_load_51 (fun x12 E => ?_)
    refine xr_icmp_ge 175 C E dX2_load_54 (by decide) (fun E => ?_) (fun E => ?_)
    · refine xr_sub [0] rfl ?_
      exact hkx175 h0 E
    · refine xr_bipush (9) C (by decide) dX2_load_57 ?_
      refine xr_iload_n 2 C rfl rfl dX2_load_59 ?_
      refine xr_imul C dX2_load_60 ?_
      refine xr_istore_n (L2 := [(3, .int ((9 : Int32) * a2)), (0, va_rf a0), (1, .int a1), (2, .int a2)]) C rfl rfl dX2_load_61 (by decide) ?_
      refine xr_iconst (0) C (by decide) dX2_load_62 ?_
      refine xr_istore (L2 := [(4, .int (0 : Int32)), (3, .int ((9 : Int32) * a2)), (0, va_rf a0), (1, .int a1), (2, .int a2)]) C rfl dX2_load_63 (by decide) ?_
      refine xr_sub [2, 3, 4, 1, 0] rfl ?_
      refine wk_X2_load_L65 (a0 := a0) (a1 := a1) (a2 := a2) (a3 := ((9 : Int32) * a2)) C Z (fun h17 E => ?_) xk_fu (0 : Int32) h0 E
      · refine xr_aload_n 0 C rfl rfl dX2_load_99 ?_
        refine xr_gR C E xf_X2_25 dX2_load_100 (fun x18 E => ?_)
        refine xr_iload_n 3 C rfl rfl dX2_load_103 ?_
        refine xr_bipush (7) C (by decide) dX2_load_104 ?_
        refine xr_iadd C dX2_load_106 ?_
        refine xr_lI C E xt_100 dX2_load_107 (fun x19 E => ?_)
        refine xr_if_ne 115 C E dX2_load_108 (by decide) (fun E => ?_) (fun E => ?_)
        · refine xr_iload_n 1 C rfl rfl dX2_load_115 ?_
          refine xr_aload_n 0 C rfl rfl dX2_load_116 ?_
          refine xr_gR C E xf_X2_25 dX2_load_117 (fun x20 E => ?_)
          refine xr_iload_n 3 C rfl rfl dX2_load_120 ?_
          refine xr_bipush (7) C (by decide) dX2_load_121 ?_
          refine xr_iadd C dX2_load_123 ?_
          refine xr_lI C E xt_100 dX2_load_124 (fun x21 E => ?_)
          refine xr_iadd C dX2_load_125 ?_
          refine xr_iconst (1) C (by decide) dX2_load_126 ?_
          refine xr_isub C dX2_load_127 ?_
          exact wk_X2_load_J128 C Z hkb49 E
        · refine xr_iconst (-1) C (by decide) dX2_load_111 ?_
          refine xr_goto 128 C dX2_load_112 (by decide) ?_
          exact wk_X2_load_J128 C Z hkb49 E
def mf_X2_load (a0 : Option Nat) (h0 : xk_H) : Option (Int32 × xk_H) :=
  xm_rc [2] a0 h0 <| xm_cl (mf_X2_areNests a0 h0) fun r1 h2 => if xk_b2 r1 = 0 then (some ((-2 : Int32), h2)) else (xm_rc [2] a0 h2 <| xm_cl (mf_X2_doFit a0 h2) fun r3 h4 => if xk_b2 r3 = 0 then (some ((-2 : Int32), h4)) else (xm_gR [2] 0 a0 h4 fun x5 => xm_lI [100] x5 (0 : Int32) h4 fun x6 => xm_gI [2] 11 a0 h4 fun x7 => if (x6 + x7) ≤ (12 : Int32) then (xm_rc [2] a0 h4 <| xm_cl (mf_X2_records a0 h4) fun r8 h9 => xm_gR [2] 0 a0 h9 fun x10 => xm_lI [100] x10 (0 : Int32) h9 fun x11 => mf_X2_load_L49 (fun h32 => xm_pV [2] 7 a0 (.int (0 : Int32)) h32 fun h33 => xm_gR [2] 0 a0 h33 fun x34 => xm_lI [100] x34 (0 : Int32) h33 fun x35 => some (x35, h33)) a0 x11 xk_fu (0 : Int32) h9) else (some ((-3 : Int32), h4))))
set_option maxHeartbeats 1000000 in
theorem wk_X2_load {l : Launch} {D : va_G} {base : Nat} {a0 : Option Nat} {h0 : xk_H} {r : Int32} {h' : xk_H} (E : mf_X2_load a0 h0 = some (r, h')) : xk_Ok l D base yX2_load cX2_load 5 (Option.some FieldType.int) 5 150 [va_rf a0] h0 (some (.int r)) h' := by
  refine xk_ofX RX2 "load" xq_X2_load rfl rfl (Nat.le_of_ble_eq_true rfl) ⟨xk_crf _, trivial⟩ (fun Γ el eD eb C Z => ?_)
  rw [mf_X2_load] at E
  show xk_X Γ 0 [(0, va_rf a0)] [] h0
  refine xr_aload_n 0 C rfl rfl dX2_load_0 ?_
  refine xr_V (v := a0) [] [] (fun r => some (.int (xk_b2 r))) (fun r => .int (xk_b2 r) :: []) C E xi_2_SlatCratesModel (fun r h' e => wk_X2_areNests e) q2306 q2308 qs47 q89 q2309 xh_SlatCratesModel xd_X2_areNests (by decide) (by decide) trivial (Nat.le_of_ble_eq_true rfl) rfl (fun _ => rfl) dX2_load_1 (fun r1 h2 E => ?_)
  refine xr_if_eq 14 C E dX2_load_4 (by decide) (fun E => ?_) (fun E => ?_)
  · refine xr_bipush (-2) C (by decide) dX2_load_14 ?_
    exact xr_iret C Z E dX2_load_16
  · refine xr_aload_n 0 C rfl rfl dX2_load_7 ?_
    refine xr_V (v := a0) [] [] (fun r => some (.int (xk_b2 r))) (fun r => .int (xk_b2 r) :: []) C E xi_2_SlatCratesModel (fun r h' e => wk_X2_doFit e) q2334 q2336 qs53 q89 q2337 xh_SlatCratesModel xd_X2_doFit (by decide) (by decide) trivial (Nat.le_of_ble_eq_true rfl) rfl (fun _ => rfl) dX2_load_8 (fun r3 h4 E => ?_)
    refine xr_if_ne 17 C E dX2_load_11 (by decide) (fun E => ?_) (fun E => ?_)
    · refine xr_aload_n 0 C rfl rfl dX2_load_17 ?_
      refine xr_gR C E xf_X2_7 dX2_load_18 (fun x5 E => ?_)
      refine xr_iconst (0) C (by decide) dX2_load_21 ?_
      refine xr_lI C E xt_100 dX2_load_22 (fun x6 E => ?_)
      refine xr_aload_n 0 C rfl rfl dX2_load_23 ?_
      refine xr_gI C E xf_X2_144 dX2_load_24 (fun x7 E => ?_)
      refine xr_iadd C dX2_load_27 ?_
      refine xr_bipush (12) C (by decide) dX2_load_28 ?_
      refine xr_icmp_le 36 C E dX2_load_30 (by decide) (fun E => ?_) (fun E => ?_)
      · refine xr_aload_n 0 C rfl rfl dX2_load_36 ?_
        refine xr_V (v := a0) [] [] (fun _ => none) (fun _ => []) C E xi_2_SlatCratesModel (fun r h' e => wk_X2_records e) q2212 q2214 qs32 q89 q2215 xh_SlatCratesModel xd_X2_records (by decide) (by decide) trivial (Nat.le_of_ble_eq_true rfl) rfl (fun _ => rfl) dX2_load_37 (fun r8 h9 E => ?_)
        refine xr_aload_n 0 C rfl rfl dX2_load_40 ?_
        refine xr_gR C E xf_X2_7 dX2_load_41 (fun x10 E => ?_)
        refine xr_iconst (0) C (by decide) dX2_load_44 ?_
        refine xr_lI C E xt_100 dX2_load_45 (fun x11 E => ?_)
        refine xr_istore_n (L2 := [(1, .int x11), (0, va_rf a0)]) C rfl rfl dX2_load_46 (by decide) ?_
        refine xr_iconst (0) C (by decide) dX2_load_47 ?_
        refine xr_istore_n (L2 := [(2, .int (0 : Int32)), (1, .int x11), (0, va_rf a0)]) C rfl rfl dX2_load_48 (by decide) ?_
        refine xr_sub [2, 1, 0] rfl ?_
        refine wk_X2_load_L49 (a0 := a0) (a1 := x11) C Z (fun h32 E => ?_) xk_fu (0 : Int32) h9 E
        · refine xr_aload_n 0 C rfl rfl dX2_load_175 ?_
          refine xr_iconst (0) C (by decide) dX2_load_176 ?_
          refine xr_pI C E xf_X2_126 xp_X2_126 dX2_load_177 (fun h33 E => ?_)
          refine xr_aload_n 0 C rfl rfl dX2_load_180 ?_
          refine xr_gR C E xf_X2_7 dX2_load_181 (fun x34 E => ?_)
          refine xr_iconst (0) C (by decide) dX2_load_184 ?_
          refine xr_lI C E xt_100 dX2_load_185 (fun x35 E => ?_)
          exact xr_iret C Z E dX2_load_186
      · refine xr_bipush (-3) C (by decide) dX2_load_33 ?_
        exact xr_iret C Z E dX2_load_35
    · refine xr_bipush (-2) C (by decide) dX2_load_14 ?_
      exact xr_iret C Z E dX2_load_16
def mf_X2_piled_L6 (a0 : Option Nat) (a1 : Int32) (a2 : Int32) : Nat → Int32 → Int32 → xk_H → Option (Int32 × xk_H)
  | 0, _, _, _ => none
  | n + 1, a3, a4, h0 => xm_gR [2] 0 a0 h0 fun x1 => xm_lI [100] x1 (0 : Int32) h0 fun x2 => if x2 ≤ a4 then (some (a3, h0)) else (xm_rc [2] a0 h0 <| xm_cl (mf_X2_around a0 a4 h0) fun r3 h4 => if r3 = a1 then (xm_rc [2] a0 h4 <| xm_cl (mf_X2_of a0 a4 (8 : Int32) h4) fun r5 h6 => if r5 = a2 then (mf_X2_piled_L6 a0 a1 a2 n a4 (a4 + 1) h6) else (mf_X2_piled_L6 a0 a1 a2 n a3 (a4 + 1) h6)) else (mf_X2_piled_L6 a0 a1 a2 n a3 (a4 + 1) h4))
set_option maxHeartbeats 1000000 in
theorem wk_X2_piled_L6 {Γ : xk_C} {r : Int32} {h' : xk_H} {a0 : Option Nat} {a1 : Int32} {a2 : Int32} (C : xk_Cx Γ RX2 cX2_piled 5 (Option.some FieldType.int) "piled" 3 103) (Z : xk_Z Γ (some (.int r)) h') : ∀ (n : Nat) (a3 : Int32) (a4 : Int32) (h0 : xk_H), mf_X2_piled_L6 a0 a1 a2 n a3 a4 h0 = some (r, h') → xk_X Γ 6 [(0, va_rf a0), (1, .int a1), (2, .int a2), (3, .int a3), (4, .int a4)] [] h0 := by
  intro n
  induction n with
  | zero =>
    intro a3 a4 h0 E
    rw [mf_X2_piled_L6] at E
    cases E
  | succ n ih =>
    intro a3 a4 h0 E
    have hkb6 : ∀ (m3 : Int32) (m4 : Int32) (g : xk_H), mf_X2_piled_L6 a0 a1 a2 n m3 m4 g = some (r, h') → xk_X Γ 6 [(0, va_rf a0), (1, .int a1), (2, .int a2), (3, .int m3), (4, .int m4)] [] g := ih
    rw [mf_X2_piled_L6] at E
    refine xr_iload 4 C rfl dX2_piled_6 ?_
    refine xr_aload_n 0 C rfl rfl dX2_piled_8 ?_
    refine xr_gR C E xf_X2_7 dX2_piled_9 (fun x1 E => ?_)
    refine xr_iconst (0) C (by decide) dX2_piled_12 ?_
    refine xr_lI C E xt_100 dX2_piled_13 (fun x2 E => ?_)
    refine xr_icmp_ge 52 C E dX2_piled_14 (by decide) (fun E => ?_) (fun E => ?_)
    · refine xr_iload_n 3 C rfl rfl dX2_piled_52 ?_
      exact xr_iret C Z E dX2_piled_53
    · refine xr_aload_n 0 C rfl rfl dX2_piled_17 ?_
      refine xr_iload 4 C rfl dX2_piled_18 ?_
      refine xr_V (v := a0) [.int a4] [] (fun r => some (.int r)) (fun r => .int r :: []) C E xi_2_SlatCratesModel (fun r h' e => wk_X2_around e) q2243 q2245 qs38 q89 q2246 xh_SlatCratesModel xd_X2_around (by decide) (by decide) trivial (Nat.le_of_ble_eq_true rfl) rfl (fun _ => rfl) dX2_piled_20 (fun r3 h4 E => ?_)
      refine xr_iload_n 1 C rfl rfl dX2_piled_23 ?_
      refine xr_icmp_ne 44 C E dX2_piled_24 (by decide) (fun E => ?_) (fun E => ?_)
      · refine xr_iload_n 3 C rfl rfl dX2_piled_44 ?_
        refine xr_istore_n (L2 := [(3, .int a3), (0, va_rf a0), (1, .int a1), (2, .int a2), (4, .int a4)]) C rfl rfl dX2_piled_45 (by decide) ?_
        refine xr_iinc (v := (a4 + 1)) (L2 := [(4, .int (a4 + 1)), (3, .int a3), (0, va_rf a0), (1, .int a1), (2, .int a2)]) 4 C rfl rfl rfl dX2_piled_46 (by decide) ?_
        refine xr_goto 6 C dX2_piled_49 (by decide) ?_
        refine xr_sub [2, 3, 4, 1, 0] rfl ?_
        exact hkb6 a3 (a4 + 1) h4 E
      · refine xr_aload_n 0 C rfl rfl dX2_piled_27 ?_
        refine xr_iload 4 C rfl dX2_piled_28 ?_
        refine xr_bipush (8) C (by decide) dX2_piled_30 ?_
        refine xr_V (v := a0) [.int a4, .int (8 : Int32)] [] (fun r => some (.int r)) (fun r => .int r :: []) C E xi_2_SlatCratesModel (fun r h' e => wk_X2_of e) q2247 q2249 qs39 q89 q2250 xh_SlatCratesModel xd_X2_of (by decide) (by decide) trivial (Nat.le_of_ble_eq_true rfl) rfl (fun _ => rfl) dX2_piled_32 (fun r5 h6 E => ?_)
        refine xr_iload_n 2 C rfl rfl dX2_piled_35 ?_
        refine xr_icmp_ne 44 C E dX2_piled_36 (by decide) (fun E => ?_) (fun E => ?_)
        · refine xr_iload_n 3 C rfl rfl dX2_piled_44 ?_
          refine xr_istore_n (L2 := [(3, .int a3), (0, va_rf a0), (1, .int a1), (2, .int a2), (4, .int a4)]) C rfl rfl dX2_piled_45 (by decide) ?_
          refine xr_iinc (v := (a4 + 1)) (L2 := [(4, .int (a4 + 1)), (3, .int a3), (0, va_rf a0), (1, .int a1), (2, .int a2)]) 4 C rfl rfl rfl dX2_piled_46 (by decide) ?_
          refine xr_goto 6 C dX2_piled_49 (by decide) ?_
          refine xr_sub [2, 3, 4, 1, 0] rfl ?_
          exact hkb6 a3 (a4 + 1) h6 E
        · refine xr_iload 4 C rfl dX2_piled_39 ?_
          refine xr_goto 45 C dX2_piled_41 (by decide) ?_
          refine xr_istore_n (L2 := [(3, .int a4), (0, va_rf a0), (1, .int a1), (2, .int a2), (4, .int a4)]) C rfl rfl dX2_piled_45 (by decide) ?_
          refine xr_iinc (v := (a4 + 1)) (L2 := [(4, .int (a4 + 1)), (3, .int a4), (0, va_rf a0), (1, .int a1), (2, .int a2)]) 4 C rfl rfl rfl dX2_piled_46 (by decide) ?_
          refine xr_goto 6 C dX2_piled_49 (by decide) ?_
          refine xr_sub [2, 3, 4, 1, 0] rfl ?_
          exact hkb6 a4 (a4 + 1) h6 E
def mf_X2_piled (a0 : Option Nat) (a1 : Int32) (a2 : Int32) (h0 : xk_H) : Option (Int32 × xk_H) :=
  mf_X2_piled_L6 a0 a1 a2 xk_fu (-4 : Int32) (0 : Int32) h0
set_option maxHeartbeats 1000000 in
theorem wk_X2_piled {l : Launch} {D : va_G} {base : Nat} {a0 : Option Nat} {a1 : Int32} {a2 : Int32} {h0 : xk_H} {r : Int32} {h' : xk_H} (E : mf_X2_piled a0 a1 a2 h0 = some (r, h')) : xk_Ok l D base yX2_piled cX2_piled 5 (Option.some FieldType.int) 3 103 [va_rf a0, .int a1, .int a2] h0 (some (.int r)) h' := by
  refine xk_ofX RX2 "piled" xq_X2_piled rfl rfl (Nat.le_of_ble_eq_true rfl) ⟨xk_crf _, ⟨rfl, ⟨rfl, trivial⟩⟩⟩ (fun Γ el eD eb C Z => ?_)
  rw [mf_X2_piled] at E
  show xk_X Γ 0 [(0, va_rf a0), (1, .int a1), (2, .int a2)] [] h0
  refine xr_bipush (-4) C (by decide) dX2_piled_0 ?_
  refine xr_istore_n (L2 := [(3, .int (-4 : Int32)), (0, va_rf a0), (1, .int a1), (2, .int a2)]) C rfl rfl dX2_piled_2 (by decide) ?_
  refine xr_iconst (0) C (by decide) dX2_piled_3 ?_
  refine xr_istore (L2 := [(4, .int (0 : Int32)), (3, .int (-4 : Int32)), (0, va_rf a0), (1, .int a1), (2, .int a2)]) C rfl dX2_piled_4 (by decide) ?_
  refine xr_sub [2, 3, 4, 1, 0] rfl ?_
  exact wk_X2_piled_L6 (a0 := a0) (a1 := a1) (a2 := a2) C Z xk_fu (-4 : Int32) (0 : Int32) h0 E
def mf_X2_writes (a0 : Option Nat) (a1 : Int32) (h0 : xk_H) : Option (Unit × xk_H) :=
  xm_gR [2] 14 a0 h0 fun x1 => xm_gI [2] 15 a0 h0 fun x2 => xm_sV [100] x1 x2 (.int a1) h0 fun h3 => xm_gI [2] 15 a0 h3 fun x4 => xm_pV [2] 15 a0 (.int (x4 + (1 : Int32))) h3 fun h5 => some ((), h5)
set_option maxHeartbeats 1000000 in
theorem wk_X2_writes {l : Launch} {D : va_G} {base : Nat} {a0 : Option Nat} {a1 : Int32} {h0 : xk_H} {r : Unit} {h' : xk_H} (E : mf_X2_writes a0 a1 h0 = some (r, h')) : xk_Ok l D base yX2_writes cX2_writes 2 none 1 60 [va_rf a0, .int a1] h0 none h' := by
  refine xk_ofX RX2 "writes" xq_X2_writes rfl rfl (Nat.le_of_ble_eq_true rfl) ⟨xk_crf _, ⟨rfl, trivial⟩⟩ (fun Γ el eD eb C Z => ?_)
  rw [mf_X2_writes] at E
  show xk_X Γ 0 [(0, va_rf a0), (1, .int a1)] [] h0
  refine xr_aload_n 0 C rfl rfl dX2_writes_0 ?_
  refine xr_gR C E xf_X2_31 dX2_writes_1 (fun x1 E => ?_)
  refine xr_aload_n 0 C rfl rfl dX2_writes_4 ?_
  refine xr_gI C E xf_X2_167 dX2_writes_5 (fun x2 E => ?_)
  refine xr_iload_n 1 C rfl rfl dX2_writes_8 ?_
  refine xr_sI C E dX2_writes_9 (fun h3 E => ?_)
  refine xr_aload_n 0 C rfl rfl dX2_writes_10 ?_
  refine xr_dup C (xk_crf _) dX2_writes_11 ?_
  refine xr_gI C E xf_X2_167 dX2_writes_12 (fun x4 E => ?_)
  refine xr_iconst (1) C (by decide) dX2_writes_15 ?_
  refine xr_iadd C dX2_writes_16 ?_
  refine xr_pI C E xf_X2_167 xp_X2_167 dX2_writes_17 (fun h5 E => ?_)
  exact xr_vret C Z E dX2_writes_20
def mf_X2_letters_L4 (a0 : Option Nat) (a1 : Int32) : Nat → Int32 → Int32 → xk_H → Option (Int32 × xk_H)
  | 0, _, _, _ => none
  | n + 1, a2, a3, h0 => if (4 : Int32) ≤ a3 then (some (a2, h0)) else (xm_rc [2] a0 h0 <| xm_cl (mf_X2_of a0 a1 ((3 : Int32) + a3) h0) fun r1 h2 => if r1 ≤ 0 then (mf_X2_letters_L4 a0 a1 n (a2 + (0 : Int32)) (a3 + 1) h2) else (mf_X2_letters_L4 a0 a1 n (a2 + (1 : Int32)) (a3 + 1) h2))
set_option maxHeartbeats 1000000 in
theorem wk_X2_letters_L4 {Γ : xk_C} {r : Int32} {h' : xk_H} {a0 : Option Nat} {a1 : Int32} (C : xk_Cx Γ RX2 cX2_letters 4 (Option.some FieldType.int) "letters" 2 82) (Z : xk_Z Γ (some (.int r)) h') : ∀ (n : Nat) (a2 : Int32) (a3 : Int32) (h0 : xk_H), mf_X2_letters_L4 a0 a1 n a2 a3 h0 = some (r, h') → xk_X Γ 4 [(0, va_rf a0), (1, .int a1), (2, .int a2), (3, .int a3)] [] h0 := by
  intro n
  induction n with
  | zero =>
    intro a2 a3 h0 E
    rw [mf_X2_letters_L4] at E
    cases E
  | succ n ih =>
    intro a2 a3 h0 E
    have hkb4 : ∀ (m2 : Int32) (m3 : Int32) (g : xk_H), mf_X2_letters_L4 a0 a1 n m2 m3 g = some (r, h') → xk_X Γ 4 [(0, va_rf a0), (1, .int a1), (2, .int m2), (3, .int m3)] [] g := ih
    rw [mf_X2_letters_L4] at E
    refine xr_iload_n 3 C rfl rfl dX2_letters_4 ?_
    refine xr_iconst (4) C (by decide) dX2_letters_5 ?_
    refine xr_icmp_ge 34 C E dX2_letters_6 (by decide) (fun E => ?_) (fun E => ?_)
    · refine xr_iload_n 2 C rfl rfl dX2_letters_34 ?_
      exact xr_iret C Z E dX2_letters_35
    · refine xr_iload_n 2 C rfl rfl dX2_letters_9 ?_
      refine xr_aload_n 0 C rfl rfl dX2_letters_10 ?_
      refine xr_iload_n 1 C rfl rfl dX2_letters_11 ?_
      refine xr_iconst (3) C (by decide) dX2_letters_12 ?_
      refine xr_iload_n 3 C rfl rfl dX2_letters_13 ?_
      refine xr_iadd C dX2_letters_14 ?_
      refine xr_V (v := a0) [.int a1, .int ((3 : Int32) + a3)] [.int a2] (fun r => some (.int r)) (fun r => .int r :: [.int a2]) C E xi_2_SlatCratesModel (fun r h' e => wk_X2_of e) q2247 q2249 qs39 q89 q2250 xh_SlatCratesModel xd_X2_of (by decide) (by decide) ⟨rfl, trivial⟩ (Nat.le_of_ble_eq_true rfl) rfl (fun _ => rfl) dX2_letters_15 (fun r1 h2 E => ?_)
      refine xr_if_le 25 C E dX2_letters_18 (by decide) (fun E => ?_) (fun E => ?_)
      · refine xr_iconst (0) C (by decide) dX2_letters_25 ?_
        refine xr_iadd C dX2_letters_26 ?_
        refine xr_istore_n (L2 := [(2, .int (a2 + (0 : Int32))), (0, va_rf a0), (1, .int a1), (3, .int a3)]) C rfl rfl dX2_letters_27 (by decide) ?_
        refine xr_iinc (v := (a3 + 1)) (L2 := [(3, .int (a3 + 1)), (2, .int (a2 + (0 : Int32))), (0, va_rf a0), (1, .int a1)]) 3 C rfl rfl rfl dX2_letters_28 (by decide) ?_
        refine xr_goto 4 C dX2_letters_31 (by decide) ?_
        refine xr_sub [2, 3, 1, 0] rfl ?_
        exact hkb4 (a2 + (0 : Int32)) (a3 + 1) h2 E
      · refine xr_iconst (1) C (by decide) dX2_letters_21 ?_
        refine xr_goto 26 C dX2_letters_22 (by decide) ?_
        refine xr_iadd C dX2_letters_26 ?_
        refine xr_istore_n (L2 := [(2, .int (a2 + (1 : Int32))), (0, va_rf a0), (1, .int a1), (3, .int a3)]) C rfl rfl dX2_letters_27 (by decide) ?_
        refine xr_iinc (v := (a3 + 1)) (L2 := [(3, .int (a3 + 1)), (2, .int (a2 + (1 : Int32))), (0, va_rf a0), (1, .int a1)]) 3 C rfl rfl rfl dX2_letters_28 (by decide) ?_
        refine xr_goto 4 C dX2_letters_31 (by decide) ?_
        refine xr_sub [2, 3, 1, 0] rfl ?_
        exact hkb4 (a2 + (1 : Int32)) (a3 + 1) h2 E
def mf_X2_letters (a0 : Option Nat) (a1 : Int32) (h0 : xk_H) : Option (Int32 × xk_H) :=
  mf_X2_letters_L4 a0 a1 xk_fu (0 : Int32) (0 : Int32) h0
set_option maxHeartbeats 1000000 in
theorem wk_X2_letters {l : Launch} {D : va_G} {base : Nat} {a0 : Option Nat} {a1 : Int32} {h0 : xk_H} {r : Int32} {h' : xk_H} (E : mf_X2_letters a0 a1 h0 = some (r, h')) : xk_Ok l D base yX2_letters cX2_letters 4 (Option.some FieldType.int) 2 82 [va_rf a0, .int a1] h0 (some (.int r)) h' := by
  refine xk_ofX RX2 "letters" xq_X2_letters rfl rfl (Nat.le_of_ble_eq_true rfl) ⟨xk_crf _, ⟨rfl, trivial⟩⟩ (fun Γ el eD eb C Z => ?_)
  rw [mf_X2_letters] at E
  show xk_X Γ 0 [(0, va_rf a0), (1, .int a1)] [] h0
  refine xr_iconst (0) C (by decide) dX2_letters_0 ?_
  refine xr_istore_n (L2 := [(2, .int (0 : Int32)), (0, va_rf a0), (1, .int a1)]) C rfl rfl dX2_letters_1 (by decide) ?_
  refine xr_iconst (0) C (by decide) dX2_letters_2 ?_
  refine xr_istore_n (L2 := [(3, .int (0 : Int32)), (2, .int (0 : Int32)), (0, va_rf a0), (1, .int a1)]) C rfl rfl dX2_letters_3 (by decide) ?_
  refine xr_sub [2, 3, 1, 0] rfl ?_
  exact wk_X2_letters_L4 (a0 := a0) (a1 := a1) C Z xk_fu (0 : Int32) (0 : Int32) h0 E
def mf_X2_writesNumber_J22 (a0 : Option Nat) (a2 : Int32) (h0 : xk_H) : Option (Unit × xk_H) :=
  xm_rc [2] a0 h0 <| xm_cl (mf_X2_writes a0 ((48 : Int32) + (a2 - a2 / (10 : Int32) * (10 : Int32))) h0) fun r3 h4 => some ((), h4)
set_option maxHeartbeats 1000000 in
theorem wk_X2_writesNumber_J22 {Γ : xk_C} {r : Unit} {h' : xk_H} {a0 : Option Nat} {a2 : Int32} {h0 : xk_H} (C : xk_Cx Γ RX2 cX2_writesNumber 3 none "writesNumber" 2 81) (Z : xk_Z Γ none h') (E : mf_X2_writesNumber_J22 a0 a2 h0 = some (r, h')) : xk_X Γ 22 [(0, va_rf a0), (2, .int a2)] [] h0 := by
  rw [mf_X2_writesNumber_J22] at E
  refine xr_aload_n 0 C rfl rfl dX2_writesNumber_22 ?_
  refine xr_bipush (48) C (by decide) dX2_writesNumber_23 ?_
  refine xr_iload_n 1 C rfl rfl dX2_writesNumber_25 ?_
  refine xr_bipush (10) C (by decide) dX2_writesNumber_26 ?_
  refine xr_irem C (by decide) dX2_writesNumber_28 ?_
  refine xr_iadd C dX2_writesNumber_29 ?_
  refine xr_V (v := a0) [.int ((48 : Int32) + (a2 - a2 / (10 : Int32) * (10 : Int32)))] [] (fun _ => none) (fun _ => []) C E xi_2_SlatCratesModel (fun r h' e => wk_X2_writes e) q2354 q2356 qs57 q89 q2357 xh_SlatCratesModel xd_X2_writes (by decide) (by decide) trivial (Nat.le_of_ble_eq_true rfl) rfl (fun _ => rfl) dX2_writesNumber_30 (fun r3 h4 E => ?_)
  exact xr_vret C Z E dX2_writesNumber_33
def mf_X2_writesNumber (a0 : Option Nat) (a1 : Int32) (a2 : Int32) (h0 : xk_H) : Option (Unit × xk_H) :=
  xm_rc [2] a0 h0 <| xm_cl (mf_X2_writes a0 a1 h0) fun r1 h2 => if a2 ≤ (9 : Int32) then (mf_X2_writesNumber_J22 a0 a2 h2) else (xm_rc [2] a0 h2 <| xm_cl (mf_X2_writes a0 ((48 : Int32) + (a2 / (10 : Int32))) h2) fun r5 h6 => mf_X2_writesNumber_J22 a0 a2 h6)
set_option maxHeartbeats 1000000 in
theorem wk_X2_writesNumber {l : Launch} {D : va_G} {base : Nat} {a0 : Option Nat} {a1 : Int32} {a2 : Int32} {h0 : xk_H} {r : Unit} {h' : xk_H} (E : mf_X2_writesNumber a0 a1 a2 h0 = some (r, h')) : xk_Ok l D base yX2_writesNumber cX2_writesNumber 3 none 2 81 [va_rf a0, .int a1, .int a2] h0 none h' := by
  refine xk_ofX RX2 "writesNumber" xq_X2_writesNumber rfl rfl (Nat.le_of_ble_eq_true rfl) ⟨xk_crf _, ⟨rfl, ⟨rfl, trivial⟩⟩⟩ (fun Γ el eD eb C Z => ?_)
  rw [mf_X2_writesNumber] at E
  show xk_X Γ 0 [(0, va_rf a0), (1, .int a1), (2, .int a2)] [] h0
  refine xr_aload_n 0 C rfl rfl dX2_writesNumber_0 ?_
  refine xr_iload_n 1 C rfl rfl dX2_writesNumber_1 ?_
  refine xr_V (v := a0) [.int a1] [] (fun _ => none) (fun _ => []) C E xi_2_SlatCratesModel (fun r h' e => wk_X2_writes e) q2354 q2356 qs57 q89 q2357 xh_SlatCratesModel xd_X2_writes (by decide) (by decide) trivial (Nat.le_of_ble_eq_true rfl) rfl (fun _ => rfl) dX2_writesNumber_2 (fun r1 h2 E => ?_)
  refine xr_iload_n 2 C rfl rfl dX2_writesNumber_5 ?_
  refine xr_bipush (9) C (by decide) dX2_writesNumber_6 ?_
  refine xr_icmp_le 22 C E dX2_writesNumber_8 (by decide) (fun E => ?_) (fun E => ?_)
  · refine xr_sub [0, 2] rfl ?_
    exact wk_X2_writesNumber_J22 C Z E
  · refine xr_aload_n 0 C rfl rfl dX2_writesNumber_11 ?_
    refine xr_bipush (48) C (by decide) dX2_writesNumber_12 ?_
    refine xr_iload_n 2 C rfl rfl dX2_writesNumber_14 ?_
    refine xr_bipush (10) C (by decide) dX2_writesNumber_15 ?_
    refine xr_idiv C (by decide) dX2_writesNumber_17 ?_
    refine xr_iadd C dX2_writesNumber_18 ?_
    refine xr_V (v := a0) [.int ((48 : Int32) + (a2 / (10 : Int32)))] [] (fun _ => none) (fun _ => []) C E xi_2_SlatCratesModel (fun r h' e => wk_X2_writes e) q2354 q2356 qs57 q89 q2357 xh_SlatCratesModel xd_X2_writes (by decide) (by decide) trivial (Nat.le_of_ble_eq_true rfl) rfl (fun _ => rfl) dX2_writesNumber_19 (fun r5 h6 E => ?_)
    refine xr_sub [0, 2] rfl ?_
    exact wk_X2_writesNumber_J22 C Z E
def mf_X2_writesHead_L2 (kx34 : xk_H → Option (Bool × xk_H)) (a0 : Option Nat) (a1 : Int32) : Nat → Int32 → xk_H → Option (Bool × xk_H)
  | 0, _, _ => none
  | n + 1, a2, h0 => xm_rc [2] a0 h0 <| xm_cl (mf_X2_letters a0 a1 h0) fun r1 h2 => if r1 ≤ a2 then (kx34 h2) else (xm_rc [2] a0 h2 <| xm_cl (mf_X2_of a0 a1 ((3 : Int32) + a2) h2) fun r3 h4 => xm_rc [2] a0 h4 <| xm_cl (mf_X2_writes a0 (((65 : Int32) + r3) - (1 : Int32)) h4) fun r5 h6 => mf_X2_writesHead_L2 kx34 a0 a1 n (a2 + 1) h6)
set_option maxHeartbeats 1000000 in
theorem wk_X2_writesHead_L2 {Γ : xk_C} {r : Bool} {h' : xk_H} {kx34 : xk_H → Option (Bool × xk_H)} {a0 : Option Nat} {a1 : Int32} (C : xk_Cx Γ RX2 cX2_writesHead 3 (Option.some FieldType.boolean) "writesHead" 4 126) (Z : xk_Z Γ (some (.int (xk_b2 r))) h') (hkx34 : ∀ (g : xk_H), kx34 g = some (r, h') → xk_X Γ 34 [(0, va_rf a0), (1, .int a1)] [] g) : ∀ (n : Nat) (a2 : Int32) (h0 : xk_H), mf_X2_writesHead_L2 kx34 a0 a1 n a2 h0 = some (r, h') → xk_X Γ 2 [(0, va_rf a0), (1, .int a1), (2, .int a2)] [] h0 := by
  intro n
  induction n with
  | zero =>
    intro a2 h0 E
    rw [mf_X2_writesHead_L2] at E
    cases E
  | succ n ih =>
    intro a2 h0 E
    have hkb2 : ∀ (m2 : Int32) (g : xk_H), mf_X2_writesHead_L2 kx34 a0 a1 n m2 g = some (r, h') → xk_X Γ 2 [(0, va_rf a0), (1, .int a1), (2, .int m2)] [] g := ih
    rw [mf_X2_writesHead_L2] at E
    refine xr_iload_n 2 C rfl rfl dX2_writesHead_2 ?_
    refine xr_aload_n 0 C rfl rfl dX2_writesHead_3 ?_
    refine xr_iload_n 1 C rfl rfl dX2_writesHead_4 ?_
    refine xr_V (v := a0) [.int a1] [.int a2] (fun r => some (.int r)) (fun r => .int r :: [.int a2]) C E xi_2_SlatCratesModel (fun r h' e => wk_X2_letters e) q2350 q2352 qs56 q89 q2353 xh_SlatCratesModel xd_X2_letters (by decide) (by decide) ⟨rfl, trivial⟩ (Nat.le_of_ble_eq_true rfl) rfl (fun _ => rfl) dX2_writesHead_5 (fun r1 h2 E => ?_)
    refine xr_icmp_ge 34 C E dX2_writesHead_8 (by decide) (fun E => ?_) (fun E => ?_)
    · refine xr_sub [0, 1] rfl ?_
      exact hkx34 h2 E
    · refine xr_aload_n 0 C rfl rfl dX2_writesHead_11 ?_
      refine xr_bipush (65) C (by decide) dX2_writesHead_12 ?_
      refine xr_aload_n 0 C rfl rfl dX2_writesHead_14 ?_
      refine xr_iload_n 1 C rfl rfl dX2_writesHead_15 ?_
      refine xr_iconst (3) C (by decide) dX2_writesHead_16 ?_
      refine xr_iload_n 2 C rfl rfl dX2_writesHead_17 ?_
      refine xr_iadd C dX2_writesHead_18 ?_
      refine xr_V (v := a0) [.int a1, .int ((3 : Int32) + a2)] [.int (65 : Int32), va_rf a0] (fun r => some (.int r)) (fun r => .int r :: [.int (65 : Int32), va_rf a0]) C E xi_2_SlatCratesModel (fun r h' e => wk_X2_of e) q2247 q2249 qs39 q89 q2250 xh_SlatCratesModel xd_X2_of (by decide) (by decide) ⟨rfl, ⟨xk_crf _, trivial⟩⟩ (Nat.le_of_ble_eq_true rfl) rfl (fun _ => rfl) dX2_writesHead_19 (fun r3 h4 E => ?_)
      refine xr_iadd C dX2_writesHead_22 ?_
      refine xr_iconst (1) C (by decide) dX2_writesHead_23 ?_
      refine xr_isub C dX2_writesHead_24 ?_
      refine xr_V (v := a0) [.int (((65 : Int32) + r3) - (1 : Int32))] [] (fun _ => none) (fun _ => []) C E xi_2_SlatCratesModel (fun r h' e => wk_X2_writes e) q2354 q2356 qs57 q89 q2357 xh_SlatCratesModel xd_X2_writes (by decide) (by decide) trivial (Nat.le_of_ble_eq_true rfl) rfl (fun _ => rfl) dX2_writesHead_25 (fun r5 h6 E => ?_)
      refine xr_iinc (v := (a2 + 1)) (L2 := [(2, .int (a2 + 1)), (0, va_rf a0), (1, .int a1)]) 2 C rfl rfl rfl dX2_writesHead_28 (by decide) ?_
      refine xr_goto 2 C dX2_writesHead_31 (by decide) ?_
      refine xr_sub [1, 2, 0] rfl ?_
      exact hkb2 (a2 + 1) h6 E
def mf_X2_writesHead_J84 (a0 : Option Nat) (a1 : Int32) (h0 : xk_H) : Option (Bool × xk_H) :=
  xm_rc [2] a0 h0 <| xm_cl (mf_X2_pile a0 a1 h0) fun r22 h23 => if r22 ≤ 0 then (some (false, h23)) else (some (true, h23))
set_option maxHeartbeats 1000000 in
theorem wk_X2_writesHead_J84 {Γ : xk_C} {r : Bool} {h' : xk_H} {a0 : Option Nat} {a1 : Int32} {h0 : xk_H} (C : xk_Cx Γ RX2 cX2_writesHead 3 (Option.some FieldType.boolean) "writesHead" 4 126) (Z : xk_Z Γ (some (.int (xk_b2 r))) h') (E : mf_X2_writesHead_J84 a0 a1 h0 = some (r, h')) : xk_X Γ 84 [(0, va_rf a0), (1, .int a1)] [] h0 := by
  rw [mf_X2_writesHead_J84] at E
  refine xr_aload_n 0 C rfl rfl dX2_writesHead_84 ?_
  refine xr_iload_n 1 C rfl rfl dX2_writesHead_85 ?_
  refine xr_V (v := a0) [.int a1] [] (fun r => some (.int r)) (fun r => .int r :: []) C E xi_2_SlatCratesModel (fun r h' e => wk_X2_pile e) q2251 q2253 qs40 q89 q2254 xh_SlatCratesModel xd_X2_pile (by decide) (by decide) trivial (Nat.le_of_ble_eq_true rfl) rfl (fun _ => rfl) dX2_writesHead_86 (fun r22 h23 E => ?_)
  refine xr_if_le 96 C E dX2_writesHead_89 (by decide) (fun E => ?_) (fun E => ?_)
  · refine xr_iconst (0) C (by decide) dX2_writesHead_96 ?_
    exact xr_bret (b := false) C Z E dX2_writesHead_97
  · refine xr_iconst (1) C (by decide) dX2_writesHead_92 ?_
    refine xr_goto 97 C dX2_writesHead_93 (by decide) ?_
    exact xr_bret (b := true) C Z E dX2_writesHead_97
def mf_X2_writesHead (a0 : Option Nat) (a1 : Int32) (h0 : xk_H) : Option (Bool × xk_H) :=
  mf_X2_writesHead_L2 (fun h7 => xm_rc [2] a0 h7 <| xm_cl (mf_X2_of a0 a1 (0 : Int32) h7) fun r8 h9 => xm_rc [2] a0 h9 <| xm_cl (mf_X2_writesNumber a0 (115 : Int32) r8 h9) fun r10 h11 => xm_rc [2] a0 h11 <| xm_cl (mf_X2_of a0 a1 (1 : Int32) h11) fun r12 h13 => xm_rc [2] a0 h13 <| xm_cl (mf_X2_writesNumber a0 (114 : Int32) r12 h13) fun r14 h15 => xm_rc [2] a0 h15 <| xm_cl (mf_X2_of a0 a1 (2 : Int32) h15) fun r16 h17 => xm_rc [2] a0 h17 <| xm_cl (mf_X2_writesNumber a0 (103 : Int32) r16 h17) fun r18 h19 => xm_rc [2] a0 h19 <| xm_cl (mf_X2_pile a0 a1 h19) fun r20 h21 => if r20 ≤ 0 then (mf_X2_writesHead_J84 a0 a1 h21) else (xm_rc [2] a0 h21 <| xm_cl (mf_X2_writes a0 (91 : Int32) h21) fun r24 h25 => mf_X2_writesHead_J84 a0 a1 h25)) a0 a1 xk_fu (0 : Int32) h0
set_option maxHeartbeats 1000000 in
theorem wk_X2_writesHead {l : Launch} {D : va_G} {base : Nat} {a0 : Option Nat} {a1 : Int32} {h0 : xk_H} {r : Bool} {h' : xk_H} (E : mf_X2_writesHead a0 a1 h0 = some (r, h')) : xk_Ok l D base yX2_writesHead cX2_writesHead 3 (Option.some FieldType.boolean) 4 126 [va_rf a0, .int a1] h0 (some (.int (xk_b2 r))) h' := by
  refine xk_ofX RX2 "writesHead" xq_X2_writesHead rfl rfl (Nat.le_of_ble_eq_true rfl) ⟨xk_crf _, ⟨rfl, trivial⟩⟩ (fun Γ el eD eb C Z => ?_)
  rw [mf_X2_writesHead] at E
  show xk_X Γ 0 [(0, va_rf a0), (1, .int a1)] [] h0
  refine xr_iconst (0) C (by decide) dX2_writesHead_0 ?_
  refine xr_istore_n (L2 := [(2, .int (0 : Int32)), (0, va_rf a0), (1, .int a1)]) C rfl rfl dX2_writesHead_1 (by decide) ?_
  refine xr_sub [1, 2, 0] rfl ?_
  refine wk_X2_writesHead_L2 (a0 := a0) (a1 := a1) C Z (fun h7 E => ?_) xk_fu (0 : Int32) h0 E
  · refine xr_aload_n 0 C rfl rfl dX2_writesHead_34 ?_
    refine xr_bipush (115) C (by decide) dX2_writesHead_35 ?_
    refine xr_aload_n 0 C rfl rfl dX2_writesHead_37 ?_
    refine xr_iload_n 1 C rfl rfl dX2_writesHead_38 ?_
    refine xr_iconst (0) C (by decide) dX2_writesHead_39 ?_
    refine xr_V (v := a0) [.int a1, .int (0 : Int32)] [.int (115 : Int32), va_rf a0] (fun r => some (.int r)) (fun r => .int r :: [.int (115 : Int32), va_rf a0]) C E xi_2_SlatCratesModel (fun r h' e => wk_X2_of e) q2247 q2249 qs39 q89 q2250 xh_SlatCratesModel xd_X2_of (by decide) (by decide) ⟨rfl, ⟨xk_crf _, trivial⟩⟩ (Nat.le_of_ble_eq_true rfl) rfl (fun _ => rfl) dX2_writesHead_40 (fun r8 h9 E => ?_)
    refine xr_V (v := a0) [.int (115 : Int32), .int r8] [] (fun _ => none) (fun _ => []) C E xi_2_SlatCratesModel (fun r h' e => wk_X2_writesNumber e) q2358 q2360 qs58 q89 q2361 xh_SlatCratesModel xd_X2_writesNumber (by decide) (by decide) trivial (Nat.le_of_ble_eq_true rfl) rfl (fun _ => rfl) dX2_writesHead_43 (fun r10 h11 E => ?_)
    refine xr_aload_n 0 C rfl rfl dX2_writesHead_46 ?_
    refine xr_bipush (114) C (by decide) dX2_writesHead_47 ?_
    refine xr_aload_n 0 C rfl rfl dX2_writesHead_49 ?_
    refine xr_iload_n 1 C rfl rfl dX2_writesHead_50 ?_
    refine xr_iconst (1) C (by decide) dX2_writesHead_51 ?_
    refine xr_V (v := a0) [.int a1, .int (1 : Int32)] [.int (114 : Int32), va_rf a0] (fun r => some (.int r)) (fun r => .int r :: [.int (114 : Int32), va_rf a0]) C E xi_2_SlatCratesModel (fun r h' e => wk_X2_of e) q2247 q2249 qs39 q89 q2250 xh_SlatCratesModel xd_X2_of (by decide) (by decide) ⟨rfl, ⟨xk_crf _, trivial⟩⟩ (Nat.le_of_ble_eq_true rfl) rfl (fun _ => rfl) dX2_writesHead_52 (fun r12 h13 E => ?_)
    refine xr_V (v := a0) [.int (114 : Int32), .int r12] [] (fun _ => none) (fun _ => []) C E xi_2_SlatCratesModel (fun r h' e => wk_X2_writesNumber e) q2358 q2360 qs58 q89 q2361 xh_SlatCratesModel xd_X2_writesNumber (by decide) (by decide) trivial (Nat.le_of_ble_eq_true rfl) rfl (fun _ => rfl) dX2_writesHead_55 (fun r14 h15 E => ?_)
    refine xr_aload_n 0 C rfl rfl dX2_writesHead_58 ?_
    refine xr_bipush (103) C (by decide) dX2_writesHead_59 ?_
    refine xr_aload_n 0 C rfl rfl dX2_writesHead_61 ?_
    refine xr_iload_n 1 C rfl rfl dX2_writesHead_62 ?_
    refine xr_iconst (2) C (by decide) dX2_writesHead_63 ?_
    refine xr_V (v := a0) [.int a1, .int (2 : Int32)] [.int (103 : Int32), va_rf a0] (fun r => some (.int r)) (fun r => .int r :: [.int (103 : Int32), va_rf a0]) C E xi_2_SlatCratesModel (fun r h' e => wk_X2_of e) q2247 q2249 qs39 q89 q2250 xh_SlatCratesModel xd_X2_of (by decide) (by decide) ⟨rfl, ⟨xk_crf _, trivial⟩⟩ (Nat.le_of_ble_eq_true rfl) rfl (fun _ => rfl) dX2_writesHead_64 (fun r16 h17 E => ?_)
    refine xr_V (v := a0) [.int (103 : Int32), .int r16] [] (fun _ => none) (fun _ => []) C E xi_2_SlatCratesModel (fun r h' e => wk_X2_writesNumber e) q2358 q2360 qs58 q89 q2361 xh_SlatCratesModel xd_X2_writesNumber (by decide) (by decide) trivial (Nat.le_of_ble_eq_true rfl) rfl (fun _ => rfl) dX2_writesHead_67 (fun r18 h19 E => ?_)
    refine xr_aload_n 0 C rfl rfl dX2_writesHead_70 ?_
    refine xr_iload_n 1 C rfl rfl dX2_writesHead_71 ?_
    refine xr_V (v := a0) [.int a1] [] (fun r => some (.int r)) (fun r => .int r :: []) C E xi_2_SlatCratesModel (fun r h' e => wk_X2_pile e) q2251 q2253 qs40 q89 q2254 xh_SlatCratesModel xd_X2_pile (by decide) (by decide) trivial (Nat.le_of_ble_eq_true rfl) rfl (fun _ => rfl) dX2_writesHead_72 (fun r20 h21 E => ?_)
    refine xr_if_le 84 C E dX2_writesHead_75 (by decide) (fun E => ?_) (fun E => ?_)
    · exact wk_X2_writesHead_J84 C Z E
    · refine xr_aload_n 0 C rfl rfl dX2_writesHead_78 ?_
      refine xr_bipush (91) C (by decide) dX2_writesHead_79 ?_
      refine xr_V (v := a0) [.int (91 : Int32)] [] (fun _ => none) (fun _ => []) C E xi_2_SlatCratesModel (fun r h' e => wk_X2_writes e) q2354 q2356 qs57 q89 q2357 xh_SlatCratesModel xd_X2_writes (by decide) (by decide) trivial (Nat.le_of_ble_eq_true rfl) rfl (fun _ => rfl) dX2_writesHead_81 (fun r24 h25 E => ?_)
      exact wk_X2_writesHead_J84 C Z E
def mf_X2_writesNest_L31 (a0 : Option Nat) : Nat → Int32 → xk_H → Option (Unit × xk_H)
  | 0, _, _ => none
  | n + 1, a2, h0 => if a2 ≤ 0 then (some ((), h0)) else (xm_gR [2] 16 a0 h0 fun x4 => xm_lI [100] x4 (a2 - (1 : Int32)) h0 fun x5 => xm_gR [2] 17 a0 h0 fun x6 => xm_lI [100] x6 (a2 - (1 : Int32)) h0 fun x7 => xm_rc [2] a0 h0 <| xm_cl (mf_X2_piled a0 x5 x7 h0) fun r8 h9 => xm_gR [2] 17 a0 h9 fun x10 => xm_lI [100] x10 (a2 - (1 : Int32)) h9 fun x11 => xm_sV [100] x10 (a2 - (1 : Int32)) (.int (x11 + (1 : Int32))) h9 fun h12 => if 0 ≤ r8 then (xm_rc [2] a0 h12 <| xm_cl (mf_X2_writesHead a0 r8 h12) fun r13 h14 => if xk_b2 r13 = 0 then (mf_X2_writesNest_L31 a0 n a2 h14) else (xm_gR [2] 16 a0 h14 fun x15 => xm_sV [100] x15 a2 (.int r8) h14 fun h16 => xm_gR [2] 17 a0 h16 fun x17 => xm_sV [100] x17 a2 (.int (0 : Int32)) h16 fun h18 => mf_X2_writesNest_L31 a0 n (a2 + 1) h18)) else (xm_rc [2] a0 h12 <| xm_cl (mf_X2_writes a0 (93 : Int32) h12) fun r19 h20 => mf_X2_writesNest_L31 a0 n (a2 + (-1 : Int32)) h20))
set_option maxHeartbeats 1000000 in
theorem wk_X2_writesNest_L31 {Γ : xk_C} {r : Unit} {h' : xk_H} {a0 : Option Nat} (C : xk_Cx Γ RX2 cX2_writesNest 5 none "writesNest" 5 148) (Z : xk_Z Γ none h') : ∀ (n : Nat) (a2 : Int32) (h0 : xk_H), mf_X2_writesNest_L31 a0 n a2 h0 = some (r, h') → xk_X Γ 31 [(0, va_rf a0), (2, .int a2)] [] h0 := by
  intro n
  induction n with
  | zero =>
    intro a2 h0 E
    rw [mf_X2_writesNest_L31] at E
    cases E
  | succ n ih =>
    intro a2 h0 E
    have hkb31 : ∀ (m2 : Int32) (g : xk_H), mf_X2_writesNest_L31 a0 n m2 g = some (r, h') → xk_X Γ 31 [(0, va_rf a0), (2, .int m2)] [] g := ih
    rw [mf_X2_writesNest_L31] at E
    refine xr_iload_n 1 C rfl rfl dX2_writesNest_31 ?_
    refine xr_if_le 118 C E dX2_writesNest_32 (by decide) (fun E => ?_) (fun E => ?_)
    · exact xr_vret C Z E dX2_writesNest_118
    · refine xr_aload_n 0 C rfl rfl dX2_writesNest_35 ?_
      refine xr_gR C E xf_X2_34 dX2_writesNest_36 (fun x4 E => ?_)
      refine xr_iload_n 1 C rfl rfl dX2_writesNest_39 ?_
      refine xr_iconst (1) C (by decide) dX2_writesNest_40 ?_
      refine xr_isub C dX2_writesNest_41 ?_
      refine xr_lI C E xt_100 dX2_writesNest_42 (fun x5 E => ?_)
      refine xr_istore_n (L2 := [(3, .int x5), (0, va_rf a0), (2, .int a2)]) C rfl rfl dX2_writesNest_43 (by decide) ?_
      refine xr_aload_n 1 C rfl rfl dX2_writesNest_44 ?_
      refine xr_iload_n 0 C rfl rfl dX2_writesNest_45 ?_
      refine xr_aload_n 1 C rfl rfl dX2_writesNest_46 ?_
      refine xr_gR C E xf_X2_37 dX2_writesNest_47 (fun x6 E => ?_)
      refine xr_iload_n 2 C rfl rfl dX2_writesNest_50 ?_
      refine xr_iconst (1) C (by decide) dX2_writesNest_51 ?_
      refine xr_isub C dX2_writesNest_52 ?_
      refine xr_lI C E xt_100 dX2_writesNest_53 (fun x7 E => ?_)
      refine xr_V (v := a0) [.int x5, .int x7] [] (fun r => some (.int r)) (fun r => .int r :: []) C E xi_2_SlatCratesModel (fun r h' e => wk_X2_piled e) q2362 q2364 qs59 q89 q2365 xh_SlatCratesModel xd_X2_piled (by decide) (by decide) trivial (Nat.le_of_ble_eq_true rfl) rfl (fun _ => rfl) dX2_writesNest_54 (fun r8 h9 E => ?_)
      refine xr_istore (L2 := [(4, .int r8), (3, .int x5), (0, va_rf a0), (2, .int a2)]) C rfl dX2_writesNest_57 (by decide) ?_
      refine xr_aload_n 2 C rfl rfl dX2_writesNest_59 ?_
      refine xr_gR C E xf_X2_37 dX2_writesNest_60 (fun x10 E => ?_)
      refine xr_iload_n 3 C rfl rfl dX2_writesNest_63 ?_
      refine xr_iconst (1) C (by decide) dX2_writesNest_64 ?_
      refine xr_isub C dX2_writesNest_65 ?_
      refine xr_dup2 C rfl (xk_crf _) dX2_writesNest_66 ?_
      refine xr_lI C E xt_100 dX2_writesNest_67 (fun x11 E => ?_)
      refine xr_iconst (1) C (by decide) dX2_writesNest_68 ?_
      refine xr_iadd C dX2_writesNest_69 ?_
      refine xr_sI C E dX2_writesNest_70 (fun h12 E => ?_)
      refine xr_iload 0 C rfl dX2_writesNest_71 ?_
      refine xr_if_ge 88 C E dX2_writesNest_73 (by decide) (fun E => ?_) (fun E => ?_)
      · refine xr_aload_n 2 C rfl rfl dX2_writesNest_88 ?_
        refine xr_iload 0 C rfl dX2_writesNest_89 ?_
        refine xr_V (v := a0) [.int r8] [] (fun r => some (.int (xk_b2 r))) (fun r => .int (xk_b2 r) :: []) C E xi_2_SlatCratesModel (fun r h' e => wk_X2_writesHead e) q2346 q2348 qs55 q89 q2349 xh_SlatCratesModel xd_X2_writesHead (by decide) (by decide) trivial (Nat.le_of_ble_eq_true rfl) rfl (fun _ => rfl) dX2_writesNest_91 (fun r13 h14 E => ?_)
        refine xr_if_eq 115 C E dX2_writesNest_94 (by decide) (fun E => ?_) (fun E => ?_)
        · refine xr_goto 31 C dX2_writesNest_115 (by decide) ?_
          refine xr_sub [2, 3] rfl ?_
          exact hkb31 a2 h14 E
        · refine xr_aload_n 2 C rfl rfl dX2_writesNest_97 ?_
          refine xr_gR C E xf_X2_34 dX2_writesNest_98 (fun x15 E => ?_)
          refine xr_iload_n 3 C rfl rfl dX2_writesNest_101 ?_
          refine xr_iload 0 C rfl dX2_writesNest_102 ?_
          refine xr_sI C E dX2_writesNest_104 (fun h16 E => ?_)
          refine xr_aload_n 2 C rfl rfl dX2_writesNest_105 ?_
          refine xr_gR C E xf_X2_37 dX2_writesNest_106 (fun x17 E => ?_)
          refine xr_iload_n 3 C rfl rfl dX2_writesNest_109 ?_
          refine xr_iconst (0) C (by decide) dX2_writesNest_110 ?_
          refine xr_sI C E dX2_writesNest_111 (fun h18 E => ?_)
          refine xr_iinc (v := (a2 + 1)) (L2 := [(2, .int (a2 + 1)), (4, .int r8), (3, .int x5), (0, va_rf a0)]) 3 C rfl rfl rfl dX2_writesNest_112 (by decide) ?_
          refine xr_goto 31 C dX2_writesNest_115 (by decide) ?_
          refine xr_sub [3, 0] rfl ?_
          exact hkb31 (a2 + 1) h18 E
      · refine xr_aload_n 2 C rfl rfl dX2_writesNest_76 ?_
        refine xr_bipush (93) C (by decide) dX2_writesNest_77 ?_
        refine xr_V (v := a0) [.int (93 : Int32)] [] (fun _ => none) (fun _ => []) C E xi_2_SlatCratesModel (fun r h' e => wk_X2_writes e) q2354 q2356 qs57 q89 q2357 xh_SlatCratesModel xd_X2_writes (by decide) (by decide) trivial (Nat.le_of_ble_eq_true rfl) rfl (fun _ => rfl) dX2_writesNest_79 (fun r19 h20 E => ?_)
        refine xr_iinc (v := (a2 + (-1 : Int32))) (L2 := [(2, .int (a2 + (-1 : Int32))), (4, .int r8), (3, .int x5), (0, va_rf a0)]) 3 C rfl (congrArg (HAdd.hAdd a2) (show Int32.ofInt (-1) = (-1 : Int32) by decide)) rfl dX2_writesNest_82 (by decide) ?_
        refine xr_goto 115 C dX2_writesNest_85 (by decide) ?_
        refine xr_goto 31 C dX2_writesNest_115 (by decide) ?_
        refine xr_sub [3, 0] rfl ?_
        exact hkb31 (a2 + (-1 : Int32)) h20 E
def mf_X2_writesNest (a0 : Option Nat) (a1 : Int32) (h0 : xk_H) : Option (Unit × xk_H) :=
  xm_pV [2] 15 a0 (.int (0 : Int32)) h0 fun h1 => xm_rc [2] a0 h1 <| xm_cl (mf_X2_writesHead a0 a1 h1) fun r2 h3 => if xk_b2 r2 = 0 then (mf_X2_writesNest_L31 a0 xk_fu (0 : Int32) h3) else (xm_gR [2] 16 a0 h3 fun x21 => xm_sV [100] x21 (0 : Int32) (.int a1) h3 fun h22 => xm_gR [2] 17 a0 h22 fun x23 => xm_sV [100] x23 (0 : Int32) (.int (0 : Int32)) h22 fun h24 => mf_X2_writesNest_L31 a0 xk_fu (1 : Int32) h24)
set_option maxHeartbeats 1000000 in
theorem wk_X2_writesNest {l : Launch} {D : va_G} {base : Nat} {a0 : Option Nat} {a1 : Int32} {h0 : xk_H} {r : Unit} {h' : xk_H} (E : mf_X2_writesNest a0 a1 h0 = some (r, h')) : xk_Ok l D base yX2_writesNest cX2_writesNest 5 none 5 148 [va_rf a0, .int a1] h0 none h' := by
  refine xk_ofX RX2 "writesNest" xq_X2_writesNest rfl rfl (Nat.le_of_ble_eq_true rfl) ⟨xk_crf _, ⟨rfl, trivial⟩⟩ (fun Γ el eD eb C Z => ?_)
  rw [mf_X2_writesNest] at E
  show xk_X Γ 0 [(0, va_rf a0), (1, .int a1)] [] h0
  refine xr_aload_n 0 C rfl rfl dX2_writesNest_0 ?_
  refine xr_iconst (0) C (by decide) dX2_writesNest_1 ?_
  refine xr_pI C E xf_X2_167 xp_X2_167 dX2_writesNest_2 (fun h1 E => ?_)
  refine xr_iconst (0) C (by decide) dX2_writesNest_5 ?_
  refine xr_istore_n (L2 := [(2, .int (0 : Int32)), (0, va_rf a0), (1, .int a1)]) C rfl rfl dX2_writesNest_6 (by decide) ?_
  refine xr_aload_n 1 C rfl rfl dX2_writesNest_7 ?_
  refine xr_iload_n 2 C rfl rfl dX2_writesNest_8 ?_
  refine xr_V (v := a0) [.int a1] [] (fun r => some (.int (xk_b2 r))) (fun r => .int (xk_b2 r) :: []) C E xi_2_SlatCratesModel (fun r h' e => wk_X2_writesHead e) q2346 q2348 qs55 q89 q2349 xh_SlatCratesModel xd_X2_writesHead (by decide) (by decide) trivial (Nat.le_of_ble_eq_true rfl) rfl (fun _ => rfl) dX2_writesNest_9 (fun r2 h3 E => ?_)
  refine xr_if_eq 31 C E dX2_writesNest_12 (by decide) (fun E => ?_) (fun E => ?_)
  · refine xr_sub [1, 0] rfl ?_
    exact wk_X2_writesNest_L31 (a0 := a0) C Z xk_fu (0 : Int32) h3 E
  · refine xr_aload_n 1 C rfl rfl dX2_writesNest_15 ?_
    refine xr_gR C E xf_X2_34 dX2_writesNest_16 (fun x21 E => ?_)
    refine xr_iconst (0) C (by decide) dX2_writesNest_19 ?_
    refine xr_iload_n 2 C rfl rfl dX2_writesNest_20 ?_
    refine xr_sI C E dX2_writesNest_21 (fun h22 E => ?_)
    refine xr_aload_n 1 C rfl rfl dX2_writesNest_22 ?_
    refine xr_gR C E xf_X2_37 dX2_writesNest_23 (fun x23 E => ?_)
    refine xr_iconst (0) C (by decide) dX2_writesNest_26 ?_
    refine xr_iconst (0) C (by decide) dX2_writesNest_27 ?_
    refine xr_sI C E dX2_writesNest_28 (fun h24 E => ?_)
    refine xr_iconst (1) C (by decide) dX2_writesNest_29 ?_
    refine xr_istore_n (L2 := [(2, .int (1 : Int32)), (0, va_rf a0), (1, .int a1)]) C rfl rfl dX2_writesNest_30 (by decide) ?_
    refine xr_sub [1, 0] rfl ?_
    exact wk_X2_writesNest_L31 (a0 := a0) C Z xk_fu (1 : Int32) h24 E
def mf_X2_sign (a0 : Option Nat) (a1 : Int32) (a2 : Int32) (h0 : xk_H) : Option (Int32 × xk_H) :=
  xm_rc [2] a0 h0 <| xm_cl (mf_X2_isCrate a0 a1 h0) fun r1 h2 => if xk_b2 r1 = 0 then (some ((-1 : Int32), h2)) else (if 0 ≤ a2 then (xm_rc [2] a0 h2 <| xm_cl (mf_X2_writesNest a0 a1 h2) fun r3 h4 => xm_gI [2] 15 a0 h4 fun x5 => if x5 ≤ a2 then (some ((-4 : Int32), h4)) else (xm_gR [2] 14 a0 h4 fun x6 => xm_lI [100] x6 a2 h4 fun x7 => some (x7, h4))) else (some ((-1 : Int32), h2)))
set_option maxHeartbeats 1000000 in
theorem wk_X2_sign {l : Launch} {D : va_G} {base : Nat} {a0 : Option Nat} {a1 : Int32} {a2 : Int32} {h0 : xk_H} {r : Int32} {h' : xk_H} (E : mf_X2_sign a0 a1 a2 h0 = some (r, h')) : xk_Ok l D base yX2_sign cX2_sign 3 (Option.some FieldType.int) 6 172 [va_rf a0, .int a1, .int a2] h0 (some (.int r)) h' := by
  refine xk_ofX RX2 "sign" xq_X2_sign rfl rfl (Nat.le_of_ble_eq_true rfl) ⟨xk_crf _, ⟨rfl, ⟨rfl, trivial⟩⟩⟩ (fun Γ el eD eb C Z => ?_)
  rw [mf_X2_sign] at E
  show xk_X Γ 0 [(0, va_rf a0), (1, .int a1), (2, .int a2)] [] h0
  refine xr_aload_n 0 C rfl rfl dX2_sign_0 ?_
  refine xr_iload_n 1 C rfl rfl dX2_sign_1 ?_
  refine xr_V (v := a0) [.int a1] [] (fun r => some (.int (xk_b2 r))) (fun r => .int (xk_b2 r) :: []) C E xi_2_SlatCratesModel (fun r h' e => wk_X2_isCrate e) q2231 q2233 qs35 q89 q2234 xh_SlatCratesModel xd_X2_isCrate (by decide) (by decide) trivial (Nat.le_of_ble_eq_true rfl) rfl (fun _ => rfl) dX2_sign_2 (fun r1 h2 E => ?_)
  refine xr_if_eq 12 C E dX2_sign_5 (by decide) (fun E => ?_) (fun E => ?_)
  · refine xr_iconst (-1) C (by decide) dX2_sign_12 ?_
    exact xr_iret C Z E dX2_sign_13
  · refine xr_iload_n 2 C rfl rfl dX2_sign_8 ?_
    refine xr_if_ge 14 C E dX2_sign_9 (by decide) (fun E => ?_) (fun E => ?_)
    · refine xr_aload_n 0 C rfl rfl dX2_sign_14 ?_
      refine xr_iload_n 1 C rfl rfl dX2_sign_15 ?_
      refine xr_V (v := a0) [.int a1] [] (fun _ => none) (fun _ => []) C E xi_2_SlatCratesModel (fun r h' e => wk_X2_writesNest e) q2342 q2344 qs54 q89 q2345 xh_SlatCratesModel xd_X2_writesNest (by decide) (by decide) trivial (Nat.le_of_ble_eq_true rfl) rfl (fun _ => rfl) dX2_sign_16 (fun r3 h4 E => ?_)
      refine xr_iload_n 2 C rfl rfl dX2_sign_19 ?_
      refine xr_aload_n 0 C rfl rfl dX2_sign_20 ?_
      refine xr_gI C E xf_X2_167 dX2_sign_21 (fun x5 E => ?_)
      refine xr_icmp_ge 36 C E dX2_sign_24 (by decide) (fun E => ?_) (fun E => ?_)
      · refine xr_bipush (-4) C (by decide) dX2_sign_36 ?_
        exact xr_iret C Z E dX2_sign_38
      · refine xr_aload_n 0 C rfl rfl dX2_sign_27 ?_
        refine xr_gR C E xf_X2_31 dX2_sign_28 (fun x6 E => ?_)
        refine xr_iload_n 2 C rfl rfl dX2_sign_31 ?_
        refine xr_lI C E xt_100 dX2_sign_32 (fun x7 E => ?_)
        refine xr_goto 38 C dX2_sign_33 (by decide) ?_
        exact xr_iret C Z E dX2_sign_38
    · refine xr_iconst (-1) C (by decide) dX2_sign_12 ?_
      exact xr_iret C Z E dX2_sign_13
def mf_X2_bestFor_J89 (kb8 : Int32 → Int32 → Int32 → xk_H → Option (Int32 × xk_H)) (a0 : Option Nat) (a1 : Int32) (a3 : Int32) (a4 : Int32) (a5 : Int32) (a6 : Int32) (s0 : Int32) (h0 : xk_H) : Option (Int32 × xk_H) :=
  if a6 = 0 then (kb8 s0 a3 (a4 + 1) h0) else (kb8 s0 a5 (a4 + 1) h0)
set_option maxHeartbeats 1000000 in
theorem wk_X2_bestFor_J89 {Γ : xk_C} {r : Int32} {h' : xk_H} {kb8 : Int32 → Int32 → Int32 → xk_H → Option (Int32 × xk_H)} {a0 : Option Nat} {a1 : Int32} {a3 : Int32} {a4 : Int32} {a5 : Int32} {a6 : Int32} {s0 : Int32} {h0 : xk_H} (C : xk_Cx Γ RX2 cX2_bestFor 7 (Option.some FieldType.int) "bestFor" 4 126) (Z : xk_Z Γ (some (.int r)) h') (hkb8 : ∀ (m2 : Int32) (m3 : Int32) (m4 : Int32) (g : xk_H), kb8 m2 m3 m4 g = some (r, h') → xk_X Γ 8 [(0, va_rf a0), (1, .int a1), (2, .int m2), (3, .int m3), (4, .int m4)] [] g) (E : mf_X2_bestFor_J89 kb8 a0 a1 a3 a4 a5 a6 s0 h0 = some (r, h')) : xk_X Γ 89 [(0, va_rf a0), (1, .int a1), (3, .int a3), (4, .int a4), (5, .int a5), (6, .int a6)] [.int s0] h0 := by
  rw [mf_X2_bestFor_J89] at E
  refine xr_istore_n (L2 := [(2, .int s0), (0, va_rf a0), (1, .int a1), (3, .int a3), (4, .int a4), (5, .int a5), (6, .int a6)]) C rfl rfl dX2_bestFor_89 (by decide) ?_
  refine xr_iload 6 C rfl dX2_bestFor_90 ?_
  refine xr_if_eq 100 C E dX2_bestFor_92 (by decide) (fun E => ?_) (fun E => ?_)
  · refine xr_iload_n 3 C rfl rfl dX2_bestFor_100 ?_
    refine xr_istore_n (L2 := [(3, .int a3), (2, .int s0), (0, va_rf a0), (1, .int a1), (4, .int a4), (5, .int a5), (6, .int a6)]) C rfl rfl dX2_bestFor_101 (by decide) ?_
    refine xr_iinc (v := (a4 + 1)) (L2 := [(4, .int (a4 + 1)), (3, .int a3), (2, .int s0), (0, va_rf a0), (1, .int a1), (5, .int a5), (6, .int a6)]) 4 C rfl rfl rfl dX2_bestFor_102 (by decide) ?_
    refine xr_goto 8 C dX2_bestFor_105 (by decide) ?_
    refine xr_sub [3, 4, 2, 1, 0] rfl ?_
    exact hkb8 s0 a3 (a4 + 1) h0 E
  · refine xr_iload 5 C rfl dX2_bestFor_95 ?_
    refine xr_goto 101 C dX2_bestFor_97 (by decide) ?_
    refine xr_istore_n (L2 := [(3, .int a5), (2, .int s0), (0, va_rf a0), (1, .int a1), (4, .int a4), (5, .int a5), (6, .int a6)]) C rfl rfl dX2_bestFor_101 (by decide) ?_
    refine xr_iinc (v := (a4 + 1)) (L2 := [(4, .int (a4 + 1)), (3, .int a5), (2, .int s0), (0, va_rf a0), (1, .int a1), (5, .int a5), (6, .int a6)]) 4 C rfl rfl rfl dX2_bestFor_102 (by decide) ?_
    refine xr_goto 8 C dX2_bestFor_105 (by decide) ?_
    refine xr_sub [3, 4, 2, 1, 0] rfl ?_
    exact hkb8 s0 a5 (a4 + 1) h0 E
def mf_X2_bestFor_J76 (kb8 : Int32 → Int32 → Int32 → xk_H → Option (Int32 × xk_H)) (a0 : Option Nat) (a1 : Int32) (a2 : Int32) (a3 : Int32) (a4 : Int32) (a5 : Int32) (s0 : Int32) (h0 : xk_H) : Option (Int32 × xk_H) :=
  if s0 = 0 then (mf_X2_bestFor_J89 kb8 a0 a1 a3 a4 a5 s0 a2 h0) else (mf_X2_bestFor_J89 kb8 a0 a1 a3 a4 a5 s0 a4 h0)
set_option maxHeartbeats 1000000 in
theorem wk_X2_bestFor_J76 {Γ : xk_C} {r : Int32} {h' : xk_H} {kb8 : Int32 → Int32 → Int32 → xk_H → Option (Int32 × xk_H)} {a0 : Option Nat} {a1 : Int32} {a2 : Int32} {a3 : Int32} {a4 : Int32} {a5 : Int32} {s0 : Int32} {h0 : xk_H} (C : xk_Cx Γ RX2 cX2_bestFor 7 (Option.some FieldType.int) "bestFor" 4 126) (Z : xk_Z Γ (some (.int r)) h') (hkb8 : ∀ (m2 : Int32) (m3 : Int32) (m4 : Int32) (g : xk_H), kb8 m2 m3 m4 g = some (r, h') → xk_X Γ 8 [(0, va_rf a0), (1, .int a1), (2, .int m2), (3, .int m3), (4, .int m4)] [] g) (E : mf_X2_bestFor_J76 kb8 a0 a1 a2 a3 a4 a5 s0 h0 = some (r, h')) : xk_X Γ 76 [(0, va_rf a0), (1, .int a1), (2, .int a2), (3, .int a3), (4, .int a4), (5, .int a5)] [.int s0] h0 := by
  rw [mf_X2_bestFor_J76] at E
  refine xr_istore (L2 := [(6, .int s0), (0, va_rf a0), (1, .int a1), (2, .int a2), (3, .int a3), (4, .int a4), (5, .int a5)]) C rfl dX2_bestFor_76 (by decide) ?_
  refine xr_iload 0 C rfl dX2_bestFor_78 ?_
  refine xr_if_eq 88 C E dX2_bestFor_80 (by decide) (fun E => ?_) (fun E => ?_)
  · refine xr_iload_n 3 C rfl rfl dX2_bestFor_88 ?_
    refine xr_sub [1, 2, 4, 5, 6, 0] rfl ?_
    exact wk_X2_bestFor_J89 C Z hkb8 E
  · refine xr_iload 5 C rfl dX2_bestFor_83 ?_
    refine xr_goto 89 C dX2_bestFor_85 (by decide) ?_
    refine xr_sub [1, 2, 4, 5, 6, 0] rfl ?_
    exact wk_X2_bestFor_J89 C Z hkb8 E
def mf_X2_bestFor_L8 (a0 : Option Nat) (a1 : Int32) : Nat → Int32 → Int32 → Int32 → xk_H → Option (Int32 × xk_H)
  | 0, _, _, _, _ => none
  | n + 1, a2, a3, a4, h0 => xm_gR [2] 0 a0 h0 fun x1 => xm_lI [100] x1 (0 : Int32) h0 fun x2 => if x2 ≤ a4 then (some (a2, h0)) else (xm_rc [2] a0 h0 <| xm_cl (mf_X2_roomLeft a0 a4 h0) fun r3 h4 => xm_rc [2] a0 h4 <| xm_cl (mf_X2_of a0 a1 (0 : Int32) h4) fun r5 h6 => xm_rc [2] a0 h6 <| xm_cl (mf_X2_holds a0 a1 a4 h6) fun r7 h8 => if xk_b2 r7 = 0 then (xm_rc [2] a0 h8 <| xm_cl (mf_X2_around a0 a1 h8) fun r9 h10 => if r9 = a4 then (mf_X2_bestFor_J76 (fun m2 m3 m4 g => mf_X2_bestFor_L8 a0 a1 n m2 m3 m4 g) a0 a1 a2 a3 a4 (r3 - r5) (0 : Int32) h10) else (if (r3 - r5) < 0 then (mf_X2_bestFor_J76 (fun m2 m3 m4 g => mf_X2_bestFor_L8 a0 a1 n m2 m3 m4 g) a0 a1 a2 a3 a4 (r3 - r5) (0 : Int32) h10) else (if a2 = (-4 : Int32) then (mf_X2_bestFor_J76 (fun m2 m3 m4 g => mf_X2_bestFor_L8 a0 a1 n m2 m3 m4 g) a0 a1 a2 a3 a4 (r3 - r5) (1 : Int32) h10) else (if a3 ≤ (r3 - r5) then (mf_X2_bestFor_J76 (fun m2 m3 m4 g => mf_X2_bestFor_L8 a0 a1 n m2 m3 m4 g) a0 a1 a2 a3 a4 (r3 - r5) (0 : Int32) h10) else (mf_X2_bestFor_J76 (fun m2 m3 m4 g => mf_X2_bestFor_L8 a0 a1 n m2 m3 m4 g) a0 a1 a2 a3 a4 (r3 - r5) (1 : Int32) h10))))) else (mf_X2_bestFor_J76 (fun m2 m3 m4 g => mf_X2_bestFor_L8 a0 a1 n m2 m3 m4 g) a0 a1 a2 a3 a4 (r3 - r5) (0 : Int32) h8))
set_option maxHeartbeats 1000000 in
theorem wk_X2_bestFor_L8 {Γ : xk_C} {r : Int32} {h' : xk_H} {a0 : Option Nat} {a1 : Int32} (C : xk_Cx Γ RX2 cX2_bestFor 7 (Option.some FieldType.int) "bestFor" 4 126) (Z : xk_Z Γ (some (.int r)) h') : ∀ (n : Nat) (a2 : Int32) (a3 : Int32) (a4 : Int32) (h0 : xk_H), mf_X2_bestFor_L8 a0 a1 n a2 a3 a4 h0 = some (r, h') → xk_X Γ 8 [(0, va_rf a0), (1, .int a1), (2, .int a2), (3, .int a3), (4, .int a4)] [] h0 := by
  intro n
  induction n with
  | zero =>
    intro a2 a3 a4 h0 E
    rw [mf_X2_bestFor_L8] at E
    cases E
  | succ n ih =>
    intro a2 a3 a4 h0 E
    have hkb8 : ∀ (m2 : Int32) (m3 : Int32) (m4 : Int32) (g : xk_H), mf_X2_bestFor_L8 a0 a1 n m2 m3 m4 g = some (r, h') → xk_X Γ 8 [(0, va_rf a0), (1, .int a1), (2, .int m2), (3, .int m3), (4, .int m4)] [] g := ih
    rw [mf_X2_bestFor_L8] at E
    refine xr_iload 4 C rfl dX2_bestFor_8 ?_
    refine xr_aload_n 0 C rfl rfl dX2_bestFor_10 ?_
    refine xr_gR C E xf_X2_7 dX2_bestFor_11 (fun x1 E => ?_)
    refine xr_iconst (0) C (by decide) dX2_bestFor_14 ?_
    refine xr_lI C E xt_100 dX2_bestFor_15 (fun x2 E => ?_)
    refine xr_icmp_ge 108 C E dX2_bestFor_16 (by decide) (fun E => ?_) (fun E => ?_)
    · refine xr_iload_n 2 C rfl rfl dX2_bestFor_108 ?_
      exact xr_iret C Z E dX2_bestFor_109
    · refine xr_aload_n 0 C rfl rfl dX2_bestFor_19 ?_
      refine xr_iload 4 C rfl dX2_bestFor_20 ?_
      refine xr_V (v := a0) [.int a4] [] (fun r => some (.int r)) (fun r => .int r :: []) C E xi_2_SlatCratesModel (fun r h' e => wk_X2_roomLeft e) q2259 q2261 qs42 q89 q2262 xh_SlatCratesModel xd_X2_roomLeft (by decide) (by decide) trivial (Nat.le_of_ble_eq_true rfl) rfl (fun _ => rfl) dX2_bestFor_22 (fun r3 h4 E => ?_)
      refine xr_aload_n 0 C rfl rfl dX2_bestFor_25 ?_
      refine xr_iload_n 1 C rfl rfl dX2_bestFor_26 ?_
      refine xr_iconst (0) C (by decide) dX2_bestFor_27 ?_
      refine xr_V (v := a0) [.int a1, .int (0 : Int32)] [.int r3] (fun r => some (.int r)) (fun r => .int r :: [.int r3]) C E xi_2_SlatCratesModel (fun r h' e => wk_X2_of e) q2247 q2249 qs39 q89 q2250 xh_SlatCratesModel xd_X2_of (by decide) (by decide) ⟨rfl, trivial⟩ (Nat.le_of_ble_eq_true rfl) rfl (fun _ => rfl) dX2_bestFor_28 (fun r5 h6 E => ?_)
      refine xr_isub C dX2_bestFor_31 ?_
      refine xr_istore (L2 := [(5, .int (r3 - r5)), (0, va_rf a0), (1, .int a1), (2, .int a2), (3, .int a3), (4, .int a4)]) C rfl dX2_bestFor_32 (by decide) ?_
      refine xr_aload_n 1 C rfl rfl dX2_bestFor_34 ?_
      refine xr_iload_n 2 C rfl rfl dX2_bestFor_35 ?_
      refine xr_iload 5 C rfl dX2_bestFor_36 ?_
      refine xr_V (v := a0) [.int a1, .int a4] [] (fun r => some (.int (xk_b2 r))) (fun r => .int (xk_b2 r) :: []) C E xi_2_SlatCratesModel (fun r h' e => wk_X2_holds e) q2255 q2257 qs41 q89 q2258 xh_SlatCratesModel xd_X2_holds (by decide) (by decide) trivial (Nat.le_of_ble_eq_true rfl) rfl (fun _ => rfl) dX2_bestFor_38 (fun r7 h8 E => ?_)
      refine xr_if_ne 75 C E dX2_bestFor_41 (by decide) (fun E => ?_) (fun E => ?_)
      · refine xr_iconst (0) C (by decide) dX2_bestFor_75 ?_
        refine xr_sub [1, 2, 3, 4, 5, 0] rfl ?_
        exact wk_X2_bestFor_J76 C Z hkb8 E
      · refine xr_aload_n 1 C rfl rfl dX2_bestFor_44 ?_
        refine xr_iload_n 2 C rfl rfl dX2_bestFor_45 ?_
        refine xr_V (v := a0) [.int a1] [] (fun r => some (.int r)) (fun r => .int r :: []) C E xi_2_SlatCratesModel (fun r h' e => wk_X2_around e) q2243 q2245 qs38 q89 q2246 xh_SlatCratesModel xd_X2_around (by decide) (by decide) trivial (Nat.le_of_ble_eq_true rfl) rfl (fun _ => rfl) dX2_bestFor_46 (fun r9 h10 E => ?_)
        refine xr_iload 5 C rfl dX2_bestFor_49 ?_
        refine xr_icmp_eq 75 C E dX2_bestFor_51 (by decide) (fun E => ?_) (fun E => ?_)
        · refine xr_iconst (0) C (by decide) dX2_bestFor_75 ?_
          refine xr_sub [1, 2, 3, 4, 5, 0] rfl ?_
          exact wk_X2_bestFor_J76 C Z hkb8 E
        · refine xr_iload 0 C rfl dX2_bestFor_54 ?_
          refine xr_if_lt 75 C E dX2_bestFor_56 (by decide) (fun E => ?_) (fun E => ?_)
          · refine xr_iconst (0) C (by decide) dX2_bestFor_75 ?_
            refine xr_sub [1, 2, 3, 4, 5, 0] rfl ?_
            exact wk_X2_bestFor_J76 C Z hkb8 E
          · refine xr_iload_n 3 C rfl rfl dX2_bestFor_59 ?_
            refine xr_bipush (-4) C (by decide) dX2_bestFor_60 ?_
            refine xr_icmp_eq 71 C E dX2_bestFor_62 (by decide) (fun E => ?_) (fun E => ?_)
            · refine xr_iconst (1) C (by decide) dX2_bestFor_71 ?_
              refine xr_goto 76 C dX2_bestFor_72 (by decide) ?_
              refine xr_sub [1, 2, 3, 4, 5, 0] rfl ?_
              exact wk_X2_bestFor_J76 C Z hkb8 E
            · refine xr_iload 0 C rfl dX2_bestFor_65 ?_
              refine xr_iload_n 4 C rfl rfl dX2_bestFor_67 ?_
              refine xr_icmp_ge 75 C E dX2_bestFor_68 (by decide) (fun E => ?_) (fun E => ?_)
              · refine xr_iconst (0) C (by decide) dX2_bestFor_75 ?_
                refine xr_sub [1, 2, 3, 4, 5, 0] rfl ?_
                exact wk_X2_bestFor_J76 C Z hkb8 E
              · refine xr_iconst (1) C (by decide) dX2_bestFor_71 ?_
                refine xr_goto 76 C dX2_bestFor_72 (by decide) ?_
                refine xr_sub [1, 2, 3, 4, 5, 0] rfl ?_
                exact wk_X2_bestFor_J76 C Z hkb8 E
def mf_X2_bestFor (a0 : Option Nat) (a1 : Int32) (h0 : xk_H) : Option (Int32 × xk_H) :=
  mf_X2_bestFor_L8 a0 a1 xk_fu (-4 : Int32) (0 : Int32) (0 : Int32) h0
set_option maxHeartbeats 1000000 in
theorem wk_X2_bestFor {l : Launch} {D : va_G} {base : Nat} {a0 : Option Nat} {a1 : Int32} {h0 : xk_H} {r : Int32} {h' : xk_H} (E : mf_X2_bestFor a0 a1 h0 = some (r, h')) : xk_Ok l D base yX2_bestFor cX2_bestFor 7 (Option.some FieldType.int) 4 126 [va_rf a0, .int a1] h0 (some (.int r)) h' := by
  refine xk_ofX RX2 "bestFor" xq_X2_bestFor rfl rfl (Nat.le_of_ble_eq_true rfl) ⟨xk_crf _, ⟨rfl, trivial⟩⟩ (fun Γ el eD eb C Z => ?_)
  rw [mf_X2_bestFor] at E
  show xk_X Γ 0 [(0, va_rf a0), (1, .int a1)] [] h0
  refine xr_bipush (-4) C (by decide) dX2_bestFor_0 ?_
  refine xr_istore_n (L2 := [(2, .int (-4 : Int32)), (0, va_rf a0), (1, .int a1)]) C rfl rfl dX2_bestFor_2 (by decide) ?_
  refine xr_iconst (0) C (by decide) dX2_bestFor_3 ?_
  refine xr_istore_n (L2 := [(3, .int (0 : Int32)), (2, .int (-4 : Int32)), (0, va_rf a0), (1, .int a1)]) C rfl rfl dX2_bestFor_4 (by decide) ?_
  refine xr_iconst (0) C (by decide) dX2_bestFor_5 ?_
  refine xr_istore (L2 := [(4, .int (0 : Int32)), (3, .int (0 : Int32)), (2, .int (-4 : Int32)), (0, va_rf a0), (1, .int a1)]) C rfl dX2_bestFor_6 (by decide) ?_
  refine xr_sub [3, 4, 2, 1, 0] rfl ?_
  exact wk_X2_bestFor_L8 (a0 := a0) (a1 := a1) C Z xk_fu (-4 : Int32) (0 : Int32) (0 : Int32) h0 E
def mf_X2_effortTo_L4 (a0 : Option Nat) : Nat → Int32 → Int32 → xk_H → Option (Int32 × xk_H)
  | 0, _, _, _ => none
  | n + 1, a2, a3, h0 => xm_rc [2] a0 h0 <| xm_cl (mf_X2_around a0 a3 h0) fun r1 h2 => if r1 < 0 then (some (a2, h2)) else (xm_rc [2] a0 h2 <| xm_cl (mf_X2_around a0 a3 h2) fun r3 h4 => xm_rc [2] a0 h4 <| xm_cl (mf_X2_pile a0 r3 h4) fun r5 h6 => xm_rc [2] a0 h6 <| xm_cl (mf_X2_of a0 a3 (8 : Int32) h6) fun r7 h8 => xm_rc [2] a0 h8 <| xm_cl (mf_X2_around a0 a3 h8) fun r9 h10 => mf_X2_effortTo_L4 a0 n (a2 + (r5 - r7)) r9 h10)
set_option maxHeartbeats 1000000 in
theorem wk_X2_effortTo_L4 {Γ : xk_C} {r : Int32} {h' : xk_H} {a0 : Option Nat} (C : xk_Cx Γ RX2 cX2_effortTo 4 (Option.some FieldType.int) "effortTo" 4 126) (Z : xk_Z Γ (some (.int r)) h') : ∀ (n : Nat) (a2 : Int32) (a3 : Int32) (h0 : xk_H), mf_X2_effortTo_L4 a0 n a2 a3 h0 = some (r, h') → xk_X Γ 4 [(0, va_rf a0), (2, .int a2), (3, .int a3)] [] h0 := by
  intro n
  induction n with
  | zero =>
    intro a2 a3 h0 E
    rw [mf_X2_effortTo_L4] at E
    cases E
  | succ n ih =>
    intro a2 a3 h0 E
    have hkb4 : ∀ (m2 : Int32) (m3 : Int32) (g : xk_H), mf_X2_effortTo_L4 a0 n m2 m3 g = some (r, h') → xk_X Γ 4 [(0, va_rf a0), (2, .int m2), (3, .int m3)] [] g := ih
    rw [mf_X2_effortTo_L4] at E
    refine xr_aload_n 0 C rfl rfl dX2_effortTo_4 ?_
    refine xr_iload_n 2 C rfl rfl dX2_effortTo_5 ?_
    refine xr_V (v := a0) [.int a3] [] (fun r => some (.int r)) (fun r => .int r :: []) C E xi_2_SlatCratesModel (fun r h' e => wk_X2_around e) q2243 q2245 qs38 q89 q2246 xh_SlatCratesModel xd_X2_around (by decide) (by decide) trivial (Nat.le_of_ble_eq_true rfl) rfl (fun _ => rfl) dX2_effortTo_6 (fun r1 h2 E => ?_)
    refine xr_if_lt 41 C E dX2_effortTo_9 (by decide) (fun E => ?_) (fun E => ?_)
    · refine xr_iload_n 1 C rfl rfl dX2_effortTo_41 ?_
      exact xr_iret C Z E dX2_effortTo_42
    · refine xr_iload_n 1 C rfl rfl dX2_effortTo_12 ?_
      refine xr_aload_n 0 C rfl rfl dX2_effortTo_13 ?_
      refine xr_aload_n 0 C rfl rfl dX2_effortTo_14 ?_
      refine xr_iload_n 2 C rfl rfl dX2_effortTo_15 ?_
      refine xr_V (v := a0) [.int a3] [va_rf a0, .int a2] (fun r => some (.int r)) (fun r => .int r :: [va_rf a0, .int a2]) C E xi_2_SlatCratesModel (fun r h' e => wk_X2_around e) q2243 q2245 qs38 q89 q2246 xh_SlatCratesModel xd_X2_around (by decide) (by decide) ⟨xk_crf _, ⟨rfl, trivial⟩⟩ (Nat.le_of_ble_eq_true rfl) rfl (fun _ => rfl) dX2_effortTo_16 (fun r3 h4 E => ?_)
      refine xr_V (v := a0) [.int r3] [.int a2] (fun r => some (.int r)) (fun r => .int r :: [.int a2]) C E xi_2_SlatCratesModel (fun r h' e => wk_X2_pile e) q2251 q2253 qs40 q89 q2254 xh_SlatCratesModel xd_X2_pile (by decide) (by decide) ⟨rfl, trivial⟩ (Nat.le_of_ble_eq_true rfl) rfl (fun _ => rfl) dX2_effortTo_19 (fun r5 h6 E => ?_)
      refine xr_aload_n 0 C rfl rfl dX2_effortTo_22 ?_
      refine xr_iload_n 2 C rfl rfl dX2_effortTo_23 ?_
      refine xr_bipush (8) C (by decide) dX2_effortTo_24 ?_
      refine xr_V (v := a0) [.int a3, .int (8 : Int32)] [.int r5, .int a2] (fun r => some (.int r)) (fun r => .int r :: [.int r5, .int a2]) C E xi_2_SlatCratesModel (fun r h' e => wk_X2_of e) q2247 q2249 qs39 q89 q2250 xh_SlatCratesModel xd_X2_of (by decide) (by decide) ⟨rfl, ⟨rfl, trivial⟩⟩ (Nat.le_of_ble_eq_true rfl) rfl (fun _ => rfl) dX2_effortTo_26 (fun r7 h8 E => ?_)
      refine xr_isub C dX2_effortTo_29 ?_
      refine xr_iadd C dX2_effortTo_30 ?_
      refine xr_istore_n (L2 := [(2, .int (a2 + (r5 - r7))), (0, va_rf a0), (3, .int a3)]) C rfl rfl dX2_effortTo_31 (by decide) ?_
      refine xr_aload_n 1 C rfl rfl dX2_effortTo_32 ?_
      refine xr_iload_n 2 C rfl rfl dX2_effortTo_33 ?_
      refine xr_V (v := a0) [.int a3] [] (fun r => some (.int r)) (fun r => .int r :: []) C E xi_2_SlatCratesModel (fun r h' e => wk_X2_around e) q2243 q2245 qs38 q89 q2246 xh_SlatCratesModel xd_X2_around (by decide) (by decide) trivial (Nat.le_of_ble_eq_true rfl) rfl (fun _ => rfl) dX2_effortTo_34 (fun r9 h10 E => ?_)
      refine xr_istore_n (L2 := [(3, .int r9), (2, .int (a2 + (r5 - r7))), (0, va_rf a0)]) C rfl rfl dX2_effortTo_37 (by decide) ?_
      refine xr_goto 4 C dX2_effortTo_38 (by decide) ?_
      refine xr_sub [2, 1, 0] rfl ?_
      exact hkb4 (a2 + (r5 - r7)) r9 h10 E
def mf_X2_effortTo (a0 : Option Nat) (a1 : Int32) (h0 : xk_H) : Option (Int32 × xk_H) :=
  mf_X2_effortTo_L4 a0 xk_fu (0 : Int32) a1 h0
set_option maxHeartbeats 1000000 in
theorem wk_X2_effortTo {l : Launch} {D : va_G} {base : Nat} {a0 : Option Nat} {a1 : Int32} {h0 : xk_H} {r : Int32} {h' : xk_H} (E : mf_X2_effortTo a0 a1 h0 = some (r, h')) : xk_Ok l D base yX2_effortTo cX2_effortTo 4 (Option.some FieldType.int) 4 126 [va_rf a0, .int a1] h0 (some (.int r)) h' := by
  refine xk_ofX RX2 "effortTo" xq_X2_effortTo rfl rfl (Nat.le_of_ble_eq_true rfl) ⟨xk_crf _, ⟨rfl, trivial⟩⟩ (fun Γ el eD eb C Z => ?_)
  rw [mf_X2_effortTo] at E
  show xk_X Γ 0 [(0, va_rf a0), (1, .int a1)] [] h0
  refine xr_iconst (0) C (by decide) dX2_effortTo_0 ?_
  refine xr_istore_n (L2 := [(2, .int (0 : Int32)), (0, va_rf a0), (1, .int a1)]) C rfl rfl dX2_effortTo_1 (by decide) ?_
  refine xr_iload_n 2 C rfl rfl dX2_effortTo_2 ?_
  refine xr_istore_n (L2 := [(3, .int a1), (2, .int (0 : Int32)), (0, va_rf a0), (1, .int a1)]) C rfl rfl dX2_effortTo_3 (by decide) ?_
  refine xr_sub [2, 1, 0] rfl ?_
  exact wk_X2_effortTo_L4 (a0 := a0) C Z xk_fu (0 : Int32) a1 h0 E
def mf_X2_isOpen_J38 (kb9 : Int32 → Int32 → xk_H → Option (Bool × xk_H)) (a0 : Option Nat) (a2 : Int32) (a4 : Int32) (s0 : Int32) (h0 : xk_H) : Option (Bool × xk_H) :=
  xm_rc [2] a0 h0 <| xm_cl (mf_X2_around a0 a4 h0) fun r4 h5 => kb9 s0 r4 h5
set_option maxHeartbeats 1000000 in
theorem wk_X2_isOpen_J38 {Γ : xk_C} {r : Bool} {h' : xk_H} {kb9 : Int32 → Int32 → xk_H → Option (Bool × xk_H)} {a0 : Option Nat} {a2 : Int32} {a4 : Int32} {s0 : Int32} {h0 : xk_H} (C : xk_Cx Γ RX2 cX2_isOpen 5 (Option.some FieldType.boolean) "isOpen" 3 103) (Z : xk_Z Γ (some (.int (xk_b2 r))) h') (hkb9 : ∀ (m3 : Int32) (m4 : Int32) (g : xk_H), kb9 m3 m4 g = some (r, h') → xk_X Γ 9 [(0, va_rf a0), (2, .int a2), (3, .int m3), (4, .int m4)] [] g) (E : mf_X2_isOpen_J38 kb9 a0 a2 a4 s0 h0 = some (r, h')) : xk_X Γ 38 [(0, va_rf a0), (2, .int a2), (4, .int a4)] [.int s0] h0 := by
  rw [mf_X2_isOpen_J38] at E
  refine xr_istore_n (L2 := [(3, .int s0), (0, va_rf a0), (2, .int a2), (4, .int a4)]) C rfl rfl dX2_isOpen_38 (by decide) ?_
  refine xr_aload_n 1 C rfl rfl dX2_isOpen_39 ?_
  refine xr_iload 3 C rfl dX2_isOpen_40 ?_
  refine xr_V (v := a0) [.int a4] [] (fun r => some (.int r)) (fun r => .int r :: []) C E xi_2_SlatCratesModel (fun r h' e => wk_X2_around e) q2243 q2245 qs38 q89 q2246 xh_SlatCratesModel xd_X2_around (by decide) (by decide) trivial (Nat.le_of_ble_eq_true rfl) rfl (fun _ => rfl) dX2_isOpen_42 (fun r4 h5 E => ?_)
  refine xr_istore (L2 := [(4, .int r4), (3, .int s0), (0, va_rf a0), (2, .int a2)]) C rfl dX2_isOpen_45 (by decide) ?_
  refine xr_goto 9 C dX2_isOpen_47 (by decide) ?_
  refine xr_sub [2, 3, 1, 0] rfl ?_
  exact hkb9 s0 r4 h5 E
def mf_X2_isOpen_L9 (a0 : Option Nat) (a2 : Int32) : Nat → Int32 → Int32 → xk_H → Option (Bool × xk_H)
  | 0, _, _, _ => none
  | n + 1, a3, a4, h0 => if a4 < 0 then (xm_z a3 fun x3 => some (x3, h0)) else (if a3 = 0 then (mf_X2_isOpen_J38 (fun m3 m4 g => mf_X2_isOpen_L9 a0 a2 n m3 m4 g) a0 a2 a4 (0 : Int32) h0) else (xm_rc [2] a0 h0 <| xm_cl (mf_X2_of a0 a4 (2 : Int32) h0) fun r6 h7 => if ((r6 >>> (a2 &&& 31)) &&& (1 : Int32)) = (1 : Int32) then (mf_X2_isOpen_J38 (fun m3 m4 g => mf_X2_isOpen_L9 a0 a2 n m3 m4 g) a0 a2 a4 (1 : Int32) h7) else (mf_X2_isOpen_J38 (fun m3 m4 g => mf_X2_isOpen_L9 a0 a2 n m3 m4 g) a0 a2 a4 (0 : Int32) h7)))
set_option maxHeartbeats 1000000 in
theorem wk_X2_isOpen_L9 {Γ : xk_C} {r : Bool} {h' : xk_H} {a0 : Option Nat} {a2 : Int32} (C : xk_Cx Γ RX2 cX2_isOpen 5 (Option.some FieldType.boolean) "isOpen" 3 103) (Z : xk_Z Γ (some (.int (xk_b2 r))) h') : ∀ (n : Nat) (a3 : Int32) (a4 : Int32) (h0 : xk_H), mf_X2_isOpen_L9 a0 a2 n a3 a4 h0 = some (r, h') → xk_X Γ 9 [(0, va_rf a0), (2, .int a2), (3, .int a3), (4, .int a4)] [] h0 := by
  intro n
  induction n with
  | zero =>
    intro a3 a4 h0 E
    rw [mf_X2_isOpen_L9] at E
    cases E
  | succ n ih =>
    intro a3 a4 h0 E
    have hkb9 : ∀ (m3 : Int32) (m4 : Int32) (g : xk_H), mf_X2_isOpen_L9 a0 a2 n m3 m4 g = some (r, h') → xk_X Γ 9 [(0, va_rf a0), (2, .int a2), (3, .int m3), (4, .int m4)] [] g := ih
    rw [mf_X2_isOpen_L9] at E
    refine xr_iload 3 C rfl dX2_isOpen_9 ?_
    refine xr_if_lt 50 C E dX2_isOpen_11 (by decide) (fun E => ?_) (fun E => ?_)
    · refine xr_iload_n 2 C rfl rfl dX2_isOpen_50 ?_
      exact xr_zretz C Z E dX2_isOpen_51
    · refine xr_iload_n 2 C rfl rfl dX2_isOpen_14 ?_
      refine xr_if_eq 37 C E dX2_isOpen_15 (by decide) (fun E => ?_) (fun E => ?_)
      · refine xr_iconst (0) C (by decide) dX2_isOpen_37 ?_
        refine xr_sub [0, 1, 3] rfl ?_
        exact wk_X2_isOpen_J38 C Z hkb9 E
      · refine xr_aload_n 0 C rfl rfl dX2_isOpen_18 ?_
        refine xr_iload 3 C rfl dX2_isOpen_19 ?_
        refine xr_iconst (2) C (by decide) dX2_isOpen_21 ?_
        refine xr_V (v := a0) [.int a4, .int (2 : Int32)] [] (fun r => some (.int r)) (fun r => .int r :: []) C E xi_2_SlatCratesModel (fun r h' e => wk_X2_of e) q2247 q2249 qs39 q89 q2250 xh_SlatCratesModel xd_X2_of (by decide) (by decide) trivial (Nat.le_of_ble_eq_true rfl) rfl (fun _ => rfl) dX2_isOpen_22 (fun r6 h7 E => ?_)
        refine xr_iload_n 1 C rfl rfl dX2_isOpen_25 ?_
        refine xr_ishr C dX2_isOpen_26 ?_
        refine xr_iconst (1) C (by decide) dX2_isOpen_27 ?_
        refine xr_iand C dX2_isOpen_28 ?_
        refine xr_iconst (1) C (by decide) dX2_isOpen_29 ?_
        refine xr_icmp_ne 37 C E dX2_isOpen_30 (by decide) (fun E => ?_) (fun E => ?_)
        · refine xr_iconst (0) C (by decide) dX2_isOpen_37 ?_
          refine xr_sub [0, 1, 3] rfl ?_
          exact wk_X2_isOpen_J38 C Z hkb9 E
        · refine xr_iconst (1) C (by decide) dX2_isOpen_33 ?_
          refine xr_goto 38 C dX2_isOpen_34 (by decide) ?_
          refine xr_sub [0, 1, 3] rfl ?_
          exact wk_X2_isOpen_J38 C Z hkb9 E
def mf_X2_isOpen (a0 : Option Nat) (a1 : Int32) (a2 : Int32) (h0 : xk_H) : Option (Bool × xk_H) :=
  xm_rc [2] a0 h0 <| xm_cl (mf_X2_around a0 a1 h0) fun r1 h2 => mf_X2_isOpen_L9 a0 a2 xk_fu (1 : Int32) r1 h2
set_option maxHeartbeats 1000000 in
theorem wk_X2_isOpen {l : Launch} {D : va_G} {base : Nat} {a0 : Option Nat} {a1 : Int32} {a2 : Int32} {h0 : xk_H} {r : Bool} {h' : xk_H} (E : mf_X2_isOpen a0 a1 a2 h0 = some (r, h')) : xk_Ok l D base yX2_isOpen cX2_isOpen 5 (Option.some FieldType.boolean) 3 103 [va_rf a0, .int a1, .int a2] h0 (some (.int (xk_b2 r))) h' := by
  refine xk_ofX RX2 "isOpen" xq_X2_isOpen rfl rfl (Nat.le_of_ble_eq_true rfl) ⟨xk_crf _, ⟨rfl, ⟨rfl, trivial⟩⟩⟩ (fun Γ el eD eb C Z => ?_)
  rw [mf_X2_isOpen] at E
  show xk_X Γ 0 [(0, va_rf a0), (1, .int a1), (2, .int a2)] [] h0
  refine xr_iconst (1) C (by decide) dX2_isOpen_0 ?_
  refine xr_istore_n (L2 := [(3, .int (1 : Int32)), (0, va_rf a0), (1, .int a1), (2, .int a2)]) C rfl rfl dX2_isOpen_1 (by decide) ?_
  refine xr_aload_n 1 C rfl rfl dX2_isOpen_2 ?_
  refine xr_iload_n 2 C rfl rfl dX2_isOpen_3 ?_
  refine xr_V (v := a0) [.int a1] [] (fun r => some (.int r)) (fun r => .int r :: []) C E xi_2_SlatCratesModel (fun r h' e => wk_X2_around e) q2243 q2245 qs38 q89 q2246 xh_SlatCratesModel xd_X2_around (by decide) (by decide) trivial (Nat.le_of_ble_eq_true rfl) rfl (fun _ => rfl) dX2_isOpen_4 (fun r1 h2 E => ?_)
  refine xr_istore (L2 := [(4, .int r1), (3, .int (1 : Int32)), (0, va_rf a0), (1, .int a1), (2, .int a2)]) C rfl dX2_isOpen_7 (by decide) ?_
  refine xr_sub [2, 4, 1, 0] rfl ?_
  exact wk_X2_isOpen_L9 (a0 := a0) (a2 := a2) C Z xk_fu (1 : Int32) r1 h2 E
def mf_X2_signBy (a0 : Option Nat) (a1 : Int32) (a2 : Int32) (a3 : Int32) (h0 : xk_H) : Option (Int32 × xk_H) :=
  xm_rc [2] a0 h0 <| xm_cl (mf_X2_of a0 a1 ((3 : Int32) + a2) h0) fun r1 h2 => if a3 = 0 then (some ((26 : Int32), h2)) else (if r1 ≤ 0 then (some ((27 : Int32), h2)) else (some ((r1 - (1 : Int32)), h2)))
set_option maxHeartbeats 1000000 in
theorem wk_X2_signBy {l : Launch} {D : va_G} {base : Nat} {a0 : Option Nat} {a1 : Int32} {a2 : Int32} {a3 : Int32} {h0 : xk_H} {r : Int32} {h' : xk_H} (E : mf_X2_signBy a0 a1 a2 a3 h0 = some (r, h')) : xk_Ok l D base yX2_signBy cX2_signBy 5 (Option.some FieldType.int) 2 82 [va_rf a0, .int a1, .int a2, .int a3] h0 (some (.int r)) h' := by
  refine xk_ofX RX2 "signBy" xq_X2_signBy rfl rfl (Nat.le_of_ble_eq_true rfl) ⟨xk_crf _, ⟨rfl, ⟨rfl, ⟨rfl, trivial⟩⟩⟩⟩ (fun Γ el eD eb C Z => ?_)
  rw [mf_X2_signBy] at E
  show xk_X Γ 0 [(0, va_rf a0), (1, .int a1), (2, .int a2), (3, .int a3)] [] h0
  refine xr_aload_n 0 C rfl rfl dX2_signBy_0 ?_
  refine xr_iload_n 1 C rfl rfl dX2_signBy_1 ?_
  refine xr_iconst (3) C (by decide) dX2_signBy_2 ?_
  refine xr_iload_n 2 C rfl rfl dX2_signBy_3 ?_
  refine xr_iadd C dX2_signBy_4 ?_
  refine xr_V (v := a0) [.int a1, .int ((3 : Int32) + a2)] [] (fun r => some (.int r)) (fun r => .int r :: []) C E xi_2_SlatCratesModel (fun r h' e => wk_X2_of e) q2247 q2249 qs39 q89 q2250 xh_SlatCratesModel xd_X2_of (by decide) (by decide) trivial (Nat.le_of_ble_eq_true rfl) rfl (fun _ => rfl) dX2_signBy_5 (fun r1 h2 E => ?_)
  refine xr_istore (L2 := [(4, .int r1), (0, va_rf a0), (1, .int a1), (2, .int a2), (3, .int a3)]) C rfl dX2_signBy_8 (by decide) ?_
  refine xr_iload_n 4 C rfl rfl dX2_signBy_10 ?_
  refine xr_if_ne 19 C E dX2_signBy_11 (by decide) (fun E => ?_) (fun E => ?_)
  · refine xr_iload 0 C rfl dX2_signBy_19 ?_
    refine xr_if_le 31 C E dX2_signBy_21 (by decide) (fun E => ?_) (fun E => ?_)
    · refine xr_bipush (27) C (by decide) dX2_signBy_31 ?_
      exact xr_iret C Z E dX2_signBy_33
    · refine xr_iload 0 C rfl dX2_signBy_24 ?_
      refine xr_iconst (1) C (by decide) dX2_signBy_26 ?_
      refine xr_isub C dX2_signBy_27 ?_
      refine xr_goto 33 C dX2_signBy_28 (by decide) ?_
      exact xr_iret C Z E dX2_signBy_33
  · refine xr_bipush (26) C (by decide) dX2_signBy_14 ?_
    refine xr_goto 33 C dX2_signBy_16 (by decide) ?_
    exact xr_iret C Z E dX2_signBy_33
def mf_X2_signOf (a0 : Option Nat) (a1 : Int32) (a2 : Int32) (h0 : xk_H) : Option (Int32 × xk_H) :=
  xm_rc [2] a0 h0 <| xm_cl (mf_X2_isOpen a0 a1 a2 h0) fun r1 h2 => xm_rc [2] a0 h2 <| xm_cl (mf_X2_signBy a0 a1 a2 (xk_b2 r1) h2) fun r3 h4 => some (r3, h4)
set_option maxHeartbeats 1000000 in
theorem wk_X2_signOf {l : Launch} {D : va_G} {base : Nat} {a0 : Option Nat} {a1 : Int32} {a2 : Int32} {h0 : xk_H} {r : Int32} {h' : xk_H} (E : mf_X2_signOf a0 a1 a2 h0 = some (r, h')) : xk_Ok l D base yX2_signOf cX2_signOf 3 (Option.some FieldType.int) 4 127 [va_rf a0, .int a1, .int a2] h0 (some (.int r)) h' := by
  refine xk_ofX RX2 "signOf" xq_X2_signOf rfl rfl (Nat.le_of_ble_eq_true rfl) ⟨xk_crf _, ⟨rfl, ⟨rfl, trivial⟩⟩⟩ (fun Γ el eD eb C Z => ?_)
  rw [mf_X2_signOf] at E
  show xk_X Γ 0 [(0, va_rf a0), (1, .int a1), (2, .int a2)] [] h0
  refine xr_aload_n 0 C rfl rfl dX2_signOf_0 ?_
  refine xr_iload_n 1 C rfl rfl dX2_signOf_1 ?_
  refine xr_iload_n 2 C rfl rfl dX2_signOf_2 ?_
  refine xr_aload_n 0 C rfl rfl dX2_signOf_3 ?_
  refine xr_iload_n 1 C rfl rfl dX2_signOf_4 ?_
  refine xr_iload_n 2 C rfl rfl dX2_signOf_5 ?_
  refine xr_V (v := a0) [.int a1, .int a2] [.int a2, .int a1, va_rf a0] (fun r => some (.int (xk_b2 r))) (fun r => .int (xk_b2 r) :: [.int a2, .int a1, va_rf a0]) C E xi_2_SlatCratesModel (fun r h' e => wk_X2_isOpen e) q2390 q2392 qs65 q89 q2393 xh_SlatCratesModel xd_X2_isOpen (by decide) (by decide) ⟨rfl, ⟨rfl, ⟨xk_crf _, trivial⟩⟩⟩ (Nat.le_of_ble_eq_true rfl) rfl (fun _ => rfl) dX2_signOf_6 (fun r1 h2 E => ?_)
  refine xr_V (v := a0) [.int a1, .int a2, .int (xk_b2 r1)] [] (fun r => some (.int r)) (fun r => .int r :: []) C E xi_2_SlatCratesModel (fun r h' e => wk_X2_signBy e) q2394 q2396 qs66 q89 q2397 xh_SlatCratesModel xd_X2_signBy (by decide) (by decide) trivial (Nat.le_of_ble_eq_true rfl) rfl (fun _ => rfl) dX2_signOf_9 (fun r3 h4 E => ?_)
  exact xr_iret C Z E dX2_signOf_12
def mf_X2_signsOf_L4 (a0 : Option Nat) (a1 : Int32) : Nat → Int32 → Int32 → xk_H → Option (Int32 × xk_H)
  | 0, _, _, _ => none
  | n + 1, a2, a3, h0 => if (4 : Int32) ≤ a3 then (some (a2, h0)) else (xm_rc [2] a0 h0 <| xm_cl (mf_X2_signOf a0 a1 a3 h0) fun r1 h2 => mf_X2_signsOf_L4 a0 a1 n (((32 : Int32) * a2) + r1) (a3 + 1) h2)
set_option maxHeartbeats 1000000 in
theorem wk_X2_signsOf_L4 {Γ : xk_C} {r : Int32} {h' : xk_H} {a0 : Option Nat} {a1 : Int32} (C : xk_Cx Γ RX2 cX2_signsOf 4 (Option.some FieldType.int) "signsOf" 5 149) (Z : xk_Z Γ (some (.int r)) h') : ∀ (n : Nat) (a2 : Int32) (a3 : Int32) (h0 : xk_H), mf_X2_signsOf_L4 a0 a1 n a2 a3 h0 = some (r, h') → xk_X Γ 4 [(0, va_rf a0), (1, .int a1), (2, .int a2), (3, .int a3)] [] h0 := by
  intro n
  induction n with
  | zero =>
    intro a2 a3 h0 E
    rw [mf_X2_signsOf_L4] at E
    cases E
  | succ n ih =>
    intro a2 a3 h0 E
    have hkb4 : ∀ (m2 : Int32) (m3 : Int32) (g : xk_H), mf_X2_signsOf_L4 a0 a1 n m2 m3 g = some (r, h') → xk_X Γ 4 [(0, va_rf a0), (1, .int a1), (2, .int m2), (3, .int m3)] [] g := ih
    rw [mf_X2_signsOf_L4] at E
    refine xr_iload_n 3 C rfl rfl dX2_signsOf_4 ?_
    refine xr_iconst (4) C (by decide) dX2_signsOf_5 ?_
    refine xr_icmp_ge 27 C E dX2_signsOf_6 (by decide) (fun E => ?_) (fun E => ?_)
    · refine xr_iload_n 2 C rfl rfl dX2_signsOf_27 ?_
      exact xr_iret C Z E dX2_signsOf_28
    · refine xr_bipush (32) C (by decide) dX2_signsOf_9 ?_
      refine xr_iload_n 2 C rfl rfl dX2_signsOf_11 ?_
      refine xr_imul C dX2_signsOf_12 ?_
      refine xr_aload_n 0 C rfl rfl dX2_signsOf_13 ?_
      refine xr_iload_n 1 C rfl rfl dX2_signsOf_14 ?_
      refine xr_iload_n 3 C rfl rfl dX2_signsOf_15 ?_
      refine xr_V (v := a0) [.int a1, .int a3] [.int ((32 : Int32) * a2)] (fun r => some (.int r)) (fun r => .int r :: [.int ((32 : Int32) * a2)]) C E xi_2_SlatCratesModel (fun r h' e => wk_X2_signOf e) q2386 q2388 qs64 q89 q2389 xh_SlatCratesModel xd_X2_signOf (by decide) (by decide) ⟨rfl, trivial⟩ (Nat.le_of_ble_eq_true rfl) rfl (fun _ => rfl) dX2_signsOf_16 (fun r1 h2 E => ?_)
      refine xr_iadd C dX2_signsOf_19 ?_
      refine xr_istore_n (L2 := [(2, .int (((32 : Int32) * a2) + r1)), (0, va_rf a0), (1, .int a1), (3, .int a3)]) C rfl rfl dX2_signsOf_20 (by decide) ?_
      refine xr_iinc (v := (a3 + 1)) (L2 := [(3, .int (a3 + 1)), (2, .int (((32 : Int32) * a2) + r1)), (0, va_rf a0), (1, .int a1)]) 3 C rfl rfl rfl dX2_signsOf_21 (by decide) ?_
      refine xr_goto 4 C dX2_signsOf_24 (by decide) ?_
      refine xr_sub [2, 3, 1, 0] rfl ?_
      exact hkb4 (((32 : Int32) * a2) + r1) (a3 + 1) h2 E
def mf_X2_signsOf (a0 : Option Nat) (a1 : Int32) (h0 : xk_H) : Option (Int32 × xk_H) :=
  mf_X2_signsOf_L4 a0 a1 xk_fu (0 : Int32) (0 : Int32) h0
set_option maxHeartbeats 1000000 in
theorem wk_X2_signsOf {l : Launch} {D : va_G} {base : Nat} {a0 : Option Nat} {a1 : Int32} {h0 : xk_H} {r : Int32} {h' : xk_H} (E : mf_X2_signsOf a0 a1 h0 = some (r, h')) : xk_Ok l D base yX2_signsOf cX2_signsOf 4 (Option.some FieldType.int) 5 149 [va_rf a0, .int a1] h0 (some (.int r)) h' := by
  refine xk_ofX RX2 "signsOf" xq_X2_signsOf rfl rfl (Nat.le_of_ble_eq_true rfl) ⟨xk_crf _, ⟨rfl, trivial⟩⟩ (fun Γ el eD eb C Z => ?_)
  rw [mf_X2_signsOf] at E
  show xk_X Γ 0 [(0, va_rf a0), (1, .int a1)] [] h0
  refine xr_iconst (0) C (by decide) dX2_signsOf_0 ?_
  refine xr_istore_n (L2 := [(2, .int (0 : Int32)), (0, va_rf a0), (1, .int a1)]) C rfl rfl dX2_signsOf_1 (by decide) ?_
  refine xr_iconst (0) C (by decide) dX2_signsOf_2 ?_
  refine xr_istore_n (L2 := [(3, .int (0 : Int32)), (2, .int (0 : Int32)), (0, va_rf a0), (1, .int a1)]) C rfl rfl dX2_signsOf_3 (by decide) ?_
  refine xr_sub [2, 3, 1, 0] rfl ?_
  exact wk_X2_signsOf_L4 (a0 := a0) (a1 := a1) C Z xk_fu (0 : Int32) (0 : Int32) h0 E
def mf_X2_isTold_J60 (kb4 : Int32 → Int32 → xk_H → Option (Bool × xk_H)) (a0 : Option Nat) (a1 : Int32) (a2 : Int32) (a3 : Int32) (s0 : Int32) (h0 : xk_H) : Option (Bool × xk_H) :=
  if a2 = 0 then (kb4 (0 : Int32) (a3 + 1) h0) else (if a3 = a1 then (kb4 (1 : Int32) (a3 + 1) h0) else (if s0 = 0 then (kb4 (1 : Int32) (a3 + 1) h0) else (kb4 (0 : Int32) (a3 + 1) h0)))
set_option maxHeartbeats 1000000 in
theorem wk_X2_isTold_J60 {Γ : xk_C} {r : Bool} {h' : xk_H} {kb4 : Int32 → Int32 → xk_H → Option (Bool × xk_H)} {a0 : Option Nat} {a1 : Int32} {a2 : Int32} {a3 : Int32} {s0 : Int32} {h0 : xk_H} (C : xk_Cx Γ RX2 cX2_isTold 5 (Option.some FieldType.boolean) "isTold" 6 172) (Z : xk_Z Γ (some (.int (xk_b2 r))) h') (hkb4 : ∀ (m2 : Int32) (m3 : Int32) (g : xk_H), kb4 m2 m3 g = some (r, h') → xk_X Γ 4 [(0, va_rf a0), (1, .int a1), (2, .int m2), (3, .int m3)] [] g) (E : mf_X2_isTold_J60 kb4 a0 a1 a2 a3 s0 h0 = some (r, h')) : xk_X Γ 60 [(0, va_rf a0), (1, .int a1), (2, .int a2), (3, .int a3)] [.int s0] h0 := by
  rw [mf_X2_isTold_J60] at E
  refine xr_istore (L2 := [(4, .int s0), (0, va_rf a0), (1, .int a1), (2, .int a2), (3, .int a3)]) C rfl dX2_isTold_60 (by decide) ?_
  refine xr_iload_n 3 C rfl rfl dX2_isTold_62 ?_
  refine xr_if_eq 80 C E dX2_isTold_63 (by decide) (fun E => ?_) (fun E => ?_)
  · refine xr_iconst (0) C (by decide) dX2_isTold_80 ?_
    refine xr_istore_n (L2 := [(2, .int (0 : Int32)), (4, .int s0), (0, va_rf a0), (1, .int a1), (3, .int a3)]) C rfl rfl dX2_isTold_81 (by decide) ?_
    refine xr_iinc (v := (a3 + 1)) (L2 := [(3, .int (a3 + 1)), (2, .int (0 : Int32)), (4, .int s0), (0, va_rf a0), (1, .int a1)]) 4 C rfl rfl rfl dX2_isTold_82 (by decide) ?_
    refine xr_goto 4 C dX2_isTold_85 (by decide) ?_
    refine xr_sub [3, 4, 1, 0] rfl ?_
    exact hkb4 (0 : Int32) (a3 + 1) h0 E
  · refine xr_iload_n 4 C rfl rfl dX2_isTold_66 ?_
    refine xr_iload_n 2 C rfl rfl dX2_isTold_67 ?_
    refine xr_icmp_eq 76 C E dX2_isTold_68 (by decide) (fun E => ?_) (fun E => ?_)
    · refine xr_iconst (1) C (by decide) dX2_isTold_76 ?_
      refine xr_goto 81 C dX2_isTold_77 (by decide) ?_
      refine xr_istore_n (L2 := [(2, .int (1 : Int32)), (4, .int s0), (0, va_rf a0), (1, .int a1), (3, .int a3)]) C rfl rfl dX2_isTold_81 (by decide) ?_
      refine xr_iinc (v := (a3 + 1)) (L2 := [(3, .int (a3 + 1)), (2, .int (1 : Int32)), (4, .int s0), (0, va_rf a0), (1, .int a1)]) 4 C rfl rfl rfl dX2_isTold_82 (by decide) ?_
      refine xr_goto 4 C dX2_isTold_85 (by decide) ?_
      refine xr_sub [3, 4, 1, 0] rfl ?_
      exact hkb4 (1 : Int32) (a3 + 1) h0 E
    · refine xr_iload 0 C rfl dX2_isTold_71 ?_
      refine xr_if_ne 80 C E dX2_isTold_73 (by decide) (fun E => ?_) (fun E => ?_)
      · refine xr_iconst (0) C (by decide) dX2_isTold_80 ?_
        refine xr_istore_n (L2 := [(2, .int (0 : Int32)), (4, .int s0), (0, va_rf a0), (1, .int a1), (3, .int a3)]) C rfl rfl dX2_isTold_81 (by decide) ?_
        refine xr_iinc (v := (a3 + 1)) (L2 := [(3, .int (a3 + 1)), (2, .int (0 : Int32)), (4, .int s0), (0, va_rf a0), (1, .int a1)]) 4 C rfl rfl rfl dX2_isTold_82 (by decide) ?_
        refine xr_goto 4 C dX2_isTold_85 (by decide) ?_
        refine xr_sub [3, 4, 1, 0] rfl ?_
        exact hkb4 (0 : Int32) (a3 + 1) h0 E
      · refine xr_iconst (1) C (by decide) dX2_isTold_76 ?_
        refine xr_goto 81 C dX2_isTold_77 (by decide) ?_
        refine xr_istore_n (L2 := [(2, .int (1 : Int32)), (4, .int s0), (0, va_rf a0), (1, .int a1), (3, .int a3)]) C rfl rfl dX2_isTold_81 (by decide) ?_
        refine xr_iinc (v := (a3 + 1)) (L2 := [(3, .int (a3 + 1)), (2, .int (1 : Int32)), (4, .int s0), (0, va_rf a0), (1, .int a1)]) 4 C rfl rfl rfl dX2_isTold_82 (by decide) ?_
        refine xr_goto 4 C dX2_isTold_85 (by decide) ?_
        refine xr_sub [3, 4, 1, 0] rfl ?_
        exact hkb4 (1 : Int32) (a3 + 1) h0 E
def mf_X2_isTold_L4 (a0 : Option Nat) (a1 : Int32) : Nat → Int32 → Int32 → xk_H → Option (Bool × xk_H)
  | 0, _, _, _ => none
  | n + 1, a2, a3, h0 => xm_gR [2] 0 a0 h0 fun x1 => xm_lI [100] x1 (0 : Int32) h0 fun x2 => if x2 ≤ a3 then (xm_z a2 fun x3 => some (x3, h0)) else (xm_rc [2] a0 h0 <| xm_cl (mf_X2_of a0 a3 (0 : Int32) h0) fun r4 h5 => xm_rc [2] a0 h5 <| xm_cl (mf_X2_of a0 a1 (0 : Int32) h5) fun r6 h7 => if r4 = r6 then (xm_rc [2] a0 h7 <| xm_cl (mf_X2_depthOf a0 a3 h7) fun r8 h9 => xm_rc [2] a0 h9 <| xm_cl (mf_X2_depthOf a0 a1 h9) fun r10 h11 => if r8 = r10 then (xm_rc [2] a0 h11 <| xm_cl (mf_X2_signsOf a0 a3 h11) fun r12 h13 => xm_rc [2] a0 h13 <| xm_cl (mf_X2_signsOf a0 a1 h13) fun r14 h15 => if r12 = r14 then (mf_X2_isTold_J60 (fun m2 m3 g => mf_X2_isTold_L4 a0 a1 n m2 m3 g) a0 a1 a2 a3 (1 : Int32) h15) else (mf_X2_isTold_J60 (fun m2 m3 g => mf_X2_isTold_L4 a0 a1 n m2 m3 g) a0 a1 a2 a3 (0 : Int32) h15)) else (mf_X2_isTold_J60 (fun m2 m3 g => mf_X2_isTold_L4 a0 a1 n m2 m3 g) a0 a1 a2 a3 (0 : Int32) h11)) else (mf_X2_isTold_J60 (fun m2 m3 g => mf_X2_isTold_L4 a0 a1 n m2 m3 g) a0 a1 a2 a3 (0 : Int32) h7))
set_option maxHeartbeats 1000000 in
theorem wk_X2_isTold_L4 {Γ : xk_C} {r : Bool} {h' : xk_H} {a0 : Option Nat} {a1 : Int32} (C : xk_Cx Γ RX2 cX2_isTold 5 (Option.some FieldType.boolean) "isTold" 6 172) (Z : xk_Z Γ (some (.int (xk_b2 r))) h') : ∀ (n : Nat) (a2 : Int32) (a3 : Int32) (h0 : xk_H), mf_X2_isTold_L4 a0 a1 n a2 a3 h0 = some (r, h') → xk_X Γ 4 [(0, va_rf a0), (1, .int a1), (2, .int a2), (3, .int a3)] [] h0 := by
  intro n
  induction n with
  | zero =>
    intro a2 a3 h0 E
    rw [mf_X2_isTold_L4] at E
    cases E
  | succ n ih =>
    intro a2 a3 h0 E
    have hkb4 : ∀ (m2 : Int32) (m3 : Int32) (g : xk_H), mf_X2_isTold_L4 a0 a1 n m2 m3 g = some (r, h') → xk_X Γ 4 [(0, va_rf a0), (1, .int a1), (2, .int m2), (3, .int m3)] [] g := ih
    rw [mf_X2_isTold_L4] at E
    refine xr_iload_n 3 C rfl rfl dX2_isTold_4 ?_
    refine xr_aload_n 0 C rfl rfl dX2_isTold_5 ?_
    refine xr_gR C E xf_X2_7 dX2_isTold_6 (fun x1 E => ?_)
    refine xr_iconst (0) C (by decide) dX2_isTold_9 ?_
    refine xr_lI C E xt_100 dX2_isTold_10 (fun x2 E => ?_)
    refine xr_icmp_ge 88 C E dX2_isTold_11 (by decide) (fun E => ?_) (fun E => ?_)
    · refine xr_iload_n 2 C rfl rfl dX2_isTold_88 ?_
      exact xr_zretz C Z E dX2_isTold_89
    · refine xr_aload_n 0 C rfl rfl dX2_isTold_14 ?_
      refine xr_iload_n 3 C rfl rfl dX2_isTold_15 ?_
      refine xr_iconst (0) C (by decide) dX2_isTold_16 ?_
      refine xr_V (v := a0) [.int a3, .int (0 : Int32)] [] (fun r => some (.int r)) (fun r => .int r :: []) C E xi_2_SlatCratesModel (fun r h' e => wk_X2_of e) q2247 q2249 qs39 q89 q2250 xh_SlatCratesModel xd_X2_of (by decide) (by decide) trivial (Nat.le_of_ble_eq_true rfl) rfl (fun _ => rfl) dX2_isTold_17 (fun r4 h5 E => ?_)
      refine xr_aload_n 0 C rfl rfl dX2_isTold_20 ?_
      refine xr_iload_n 1 C rfl rfl dX2_isTold_21 ?_
      refine xr_iconst (0) C (by decide) dX2_isTold_22 ?_
      refine xr_V (v := a0) [.int a1, .int (0 : Int32)] [.int r4] (fun r => some (.int r)) (fun r => .int r :: [.int r4]) C E xi_2_SlatCratesModel (fun r h' e => wk_X2_of e) q2247 q2249 qs39 q89 q2250 xh_SlatCratesModel xd_X2_of (by decide) (by decide) ⟨rfl, trivial⟩ (Nat.le_of_ble_eq_true rfl) rfl (fun _ => rfl) dX2_isTold_23 (fun r6 h7 E => ?_)
      refine xr_icmp_ne 59 C E dX2_isTold_26 (by decide) (fun E => ?_) (fun E => ?_)
      · refine xr_iconst (0) C (by decide) dX2_isTold_59 ?_
        exact wk_X2_isTold_J60 C Z hkb4 E
      · refine xr_aload_n 0 C rfl rfl dX2_isTold_29 ?_
        refine xr_iload_n 3 C rfl rfl dX2_isTold_30 ?_
        refine xr_V (v := a0) [.int a3] [] (fun r => some (.int r)) (fun r => .int r :: []) C E xi_2_SlatCratesModel (fun r h' e => wk_X2_depthOf e) q2267 q2269 qs44 q89 q2270 xh_SlatCratesModel xd_X2_depthOf (by decide) (by decide) trivial (Nat.le_of_ble_eq_true rfl) rfl (fun _ => rfl) dX2_isTold_31 (fun r8 h9 E => ?_)
        refine xr_aload_n 0 C rfl rfl dX2_isTold_34 ?_
        refine xr_iload_n 1 C rfl rfl dX2_isTold_35 ?_
        refine xr_V (v := a0) [.int a1] [.int r8] (fun r => some (.int r)) (fun r => .int r :: [.int r8]) C E xi_2_SlatCratesModel (fun r h' e => wk_X2_depthOf e) q2267 q2269 qs44 q89 q2270 xh_SlatCratesModel xd_X2_depthOf (by decide) (by decide) ⟨rfl, trivial⟩ (Nat.le_of_ble_eq_true rfl) rfl (fun _ => rfl) dX2_isTold_36 (fun r10 h11 E => ?_)
        refine xr_icmp_ne 59 C E dX2_isTold_39 (by decide) (fun E => ?_) (fun E => ?_)
        · refine xr_iconst (0) C (by decide) dX2_isTold_59 ?_
          exact wk_X2_isTold_J60 C Z hkb4 E
        · refine xr_aload_n 0 C rfl rfl dX2_isTold_42 ?_
          refine xr_iload_n 3 C rfl rfl dX2_isTold_43 ?_
          refine xr_V (v := a0) [.int a3] [] (fun r => some (.int r)) (fun r => .int r :: []) C E xi_2_SlatCratesModel (fun r h' e => wk_X2_signsOf e) q2382 q2384 qs63 q89 q2385 xh_SlatCratesModel xd_X2_signsOf (by decide) (by decide) trivial (Nat.le_of_ble_eq_true rfl) rfl (fun _ => rfl) dX2_isTold_44 (fun r12 h13 E => ?_)
          refine xr_aload_n 0 C rfl rfl dX2_isTold_47 ?_
          refine xr_iload_n 1 C rfl rfl dX2_isTold_48 ?_
          refine xr_V (v := a0) [.int a1] [.int r12] (fun r => some (.int r)) (fun r => .int r :: [.int r12]) C E xi_2_SlatCratesModel (fun r h' e => wk_X2_signsOf e) q2382 q2384 qs63 q89 q2385 xh_SlatCratesModel xd_X2_signsOf (by decide) (by decide) ⟨rfl, trivial⟩ (Nat.le_of_ble_eq_true rfl) rfl (fun _ => rfl) dX2_isTold_49 (fun r14 h15 E => ?_)
          refine xr_icmp_ne 59 C E dX2_isTold_52 (by decide) (fun E => ?_) (fun E => ?_)
          · refine xr_iconst (0) C (by decide) dX2_isTold_59 ?_
            exact wk_X2_isTold_J60 C Z hkb4 E
          · refine xr_iconst (1) C (by decide) dX2_isTold_55 ?_
            refine xr_goto 60 C dX2_isTold_56 (by decide) ?_
            exact wk_X2_isTold_J60 C Z hkb4 E
def mf_X2_isTold (a0 : Option Nat) (a1 : Int32) (h0 : xk_H) : Option (Bool × xk_H) :=
  mf_X2_isTold_L4 a0 a1 xk_fu (1 : Int32) (0 : Int32) h0
set_option maxHeartbeats 1000000 in
theorem wk_X2_isTold {l : Launch} {D : va_G} {base : Nat} {a0 : Option Nat} {a1 : Int32} {h0 : xk_H} {r : Bool} {h' : xk_H} (E : mf_X2_isTold a0 a1 h0 = some (r, h')) : xk_Ok l D base yX2_isTold cX2_isTold 5 (Option.some FieldType.boolean) 6 172 [va_rf a0, .int a1] h0 (some (.int (xk_b2 r))) h' := by
  refine xk_ofX RX2 "isTold" xq_X2_isTold rfl rfl (Nat.le_of_ble_eq_true rfl) ⟨xk_crf _, ⟨rfl, trivial⟩⟩ (fun Γ el eD eb C Z => ?_)
  rw [mf_X2_isTold] at E
  show xk_X Γ 0 [(0, va_rf a0), (1, .int a1)] [] h0
  refine xr_iconst (1) C (by decide) dX2_isTold_0 ?_
  refine xr_istore_n (L2 := [(2, .int (1 : Int32)), (0, va_rf a0), (1, .int a1)]) C rfl rfl dX2_isTold_1 (by decide) ?_
  refine xr_iconst (0) C (by decide) dX2_isTold_2 ?_
  refine xr_istore_n (L2 := [(3, .int (0 : Int32)), (2, .int (1 : Int32)), (0, va_rf a0), (1, .int a1)]) C rfl rfl dX2_isTold_3 (by decide) ?_
  refine xr_sub [2, 3, 1, 0] rfl ?_
  exact wk_X2_isTold_L4 (a0 := a0) (a1 := a1) C Z xk_fu (1 : Int32) (0 : Int32) h0 E
def mf_X2_lettersSeen_L4 (a0 : Option Nat) (a1 : Int32) : Nat → Int32 → Int32 → xk_H → Option (Int32 × xk_H)
  | 0, _, _, _ => none
  | n + 1, a2, a3, h0 => if (4 : Int32) ≤ a3 then (some (a2, h0)) else (xm_rc [2] a0 h0 <| xm_cl (mf_X2_signOf a0 a1 a3 h0) fun r1 h2 => if (26 : Int32) ≤ r1 then (mf_X2_lettersSeen_L4 a0 a1 n (a2 + (0 : Int32)) (a3 + 1) h2) else (mf_X2_lettersSeen_L4 a0 a1 n (a2 + (1 : Int32)) (a3 + 1) h2))
set_option maxHeartbeats 1000000 in
theorem wk_X2_lettersSeen_L4 {Γ : xk_C} {r : Int32} {h' : xk_H} {a0 : Option Nat} {a1 : Int32} (C : xk_Cx Γ RX2 cX2_lettersSeen 4 (Option.some FieldType.int) "lettersSeen" 5 149) (Z : xk_Z Γ (some (.int r)) h') : ∀ (n : Nat) (a2 : Int32) (a3 : Int32) (h0 : xk_H), mf_X2_lettersSeen_L4 a0 a1 n a2 a3 h0 = some (r, h') → xk_X Γ 4 [(0, va_rf a0), (1, .int a1), (2, .int a2), (3, .int a3)] [] h0 := by
  intro n
  induction n with
  | zero =>
    intro a2 a3 h0 E
    rw [mf_X2_lettersSeen_L4] at E
    cases E
  | succ n ih =>
    intro a2 a3 h0 E
    have hkb4 : ∀ (m2 : Int32) (m3 : Int32) (g : xk_H), mf_X2_lettersSeen_L4 a0 a1 n m2 m3 g = some (r, h') → xk_X Γ 4 [(0, va_rf a0), (1, .int a1), (2, .int m2), (3, .int m3)] [] g := ih
    rw [mf_X2_lettersSeen_L4] at E
    refine xr_iload_n 3 C rfl rfl dX2_lettersSeen_4 ?_
    refine xr_iconst (4) C (by decide) dX2_lettersSeen_5 ?_
    refine xr_icmp_ge 34 C E dX2_lettersSeen_6 (by decide) (fun E => ?_) (fun E => ?_)
    · refine xr_iload_n 2 C rfl rfl dX2_lettersSeen_34 ?_
      exact xr_iret C Z E dX2_lettersSeen_35
    · refine xr_iload_n 2 C rfl rfl dX2_lettersSeen_9 ?_
      refine xr_aload_n 0 C rfl rfl dX2_lettersSeen_10 ?_
      refine xr_iload_n 1 C rfl rfl dX2_lettersSeen_11 ?_
      refine xr_iload_n 3 C rfl rfl dX2_lettersSeen_12 ?_
      refine xr_V (v := a0) [.int a1, .int a3] [.int a2] (fun r => some (.int r)) (fun r => .int r :: [.int a2]) C E xi_2_SlatCratesModel (fun r h' e => wk_X2_signOf e) q2386 q2388 qs64 q89 q2389 xh_SlatCratesModel xd_X2_signOf (by decide) (by decide) ⟨rfl, trivial⟩ (Nat.le_of_ble_eq_true rfl) rfl (fun _ => rfl) dX2_lettersSeen_13 (fun r1 h2 E => ?_)
      refine xr_bipush (26) C (by decide) dX2_lettersSeen_16 ?_
      refine xr_icmp_ge 25 C E dX2_lettersSeen_18 (by decide) (fun E => ?_) (fun E => ?_)
      · refine xr_iconst (0) C (by decide) dX2_lettersSeen_25 ?_
        refine xr_iadd C dX2_lettersSeen_26 ?_
        refine xr_istore_n (L2 := [(2, .int (a2 + (0 : Int32))), (0, va_rf a0), (1, .int a1), (3, .int a3)]) C rfl rfl dX2_lettersSeen_27 (by decide) ?_
        refine xr_iinc (v := (a3 + 1)) (L2 := [(3, .int (a3 + 1)), (2, .int (a2 + (0 : Int32))), (0, va_rf a0), (1, .int a1)]) 3 C rfl rfl rfl dX2_lettersSeen_28 (by decide) ?_
        refine xr_goto 4 C dX2_lettersSeen_31 (by decide) ?_
        refine xr_sub [2, 3, 1, 0] rfl ?_
        exact hkb4 (a2 + (0 : Int32)) (a3 + 1) h2 E
      · refine xr_iconst (1) C (by decide) dX2_lettersSeen_21 ?_
        refine xr_goto 26 C dX2_lettersSeen_22 (by decide) ?_
        refine xr_iadd C dX2_lettersSeen_26 ?_
        refine xr_istore_n (L2 := [(2, .int (a2 + (1 : Int32))), (0, va_rf a0), (1, .int a1), (3, .int a3)]) C rfl rfl dX2_lettersSeen_27 (by decide) ?_
        refine xr_iinc (v := (a3 + 1)) (L2 := [(3, .int (a3 + 1)), (2, .int (a2 + (1 : Int32))), (0, va_rf a0), (1, .int a1)]) 3 C rfl rfl rfl dX2_lettersSeen_28 (by decide) ?_
        refine xr_goto 4 C dX2_lettersSeen_31 (by decide) ?_
        refine xr_sub [2, 3, 1, 0] rfl ?_
        exact hkb4 (a2 + (1 : Int32)) (a3 + 1) h2 E
def mf_X2_lettersSeen (a0 : Option Nat) (a1 : Int32) (h0 : xk_H) : Option (Int32 × xk_H) :=
  mf_X2_lettersSeen_L4 a0 a1 xk_fu (0 : Int32) (0 : Int32) h0
set_option maxHeartbeats 1000000 in
theorem wk_X2_lettersSeen {l : Launch} {D : va_G} {base : Nat} {a0 : Option Nat} {a1 : Int32} {h0 : xk_H} {r : Int32} {h' : xk_H} (E : mf_X2_lettersSeen a0 a1 h0 = some (r, h')) : xk_Ok l D base yX2_lettersSeen cX2_lettersSeen 4 (Option.some FieldType.int) 5 149 [va_rf a0, .int a1] h0 (some (.int r)) h' := by
  refine xk_ofX RX2 "lettersSeen" xq_X2_lettersSeen rfl rfl (Nat.le_of_ble_eq_true rfl) ⟨xk_crf _, ⟨rfl, trivial⟩⟩ (fun Γ el eD eb C Z => ?_)
  rw [mf_X2_lettersSeen] at E
  show xk_X Γ 0 [(0, va_rf a0), (1, .int a1)] [] h0
  refine xr_iconst (0) C (by decide) dX2_lettersSeen_0 ?_
  refine xr_istore_n (L2 := [(2, .int (0 : Int32)), (0, va_rf a0), (1, .int a1)]) C rfl rfl dX2_lettersSeen_1 (by decide) ?_
  refine xr_iconst (0) C (by decide) dX2_lettersSeen_2 ?_
  refine xr_istore_n (L2 := [(3, .int (0 : Int32)), (2, .int (0 : Int32)), (0, va_rf a0), (1, .int a1)]) C rfl rfl dX2_lettersSeen_3 (by decide) ?_
  refine xr_sub [2, 3, 1, 0] rfl ?_
  exact wk_X2_lettersSeen_L4 (a0 := a0) (a1 := a1) C Z xk_fu (0 : Int32) (0 : Int32) h0 E
def mf_X2_loadOf_L4 (a0 : Option Nat) (a1 : Int32) : Nat → Int32 → Int32 → xk_H → Option (Int32 × xk_H)
  | 0, _, _, _ => none
  | n + 1, a2, a3, h0 => xm_gR [2] 0 a0 h0 fun x1 => xm_lI [100] x1 (0 : Int32) h0 fun x2 => if x2 ≤ a3 then (some (a2, h0)) else (if a3 = a1 then (mf_X2_loadOf_L4 a0 a1 n (a2 + (0 : Int32)) (a3 + 1) h0) else (xm_rc [2] a0 h0 <| xm_cl (mf_X2_holds a0 a1 a3 h0) fun r3 h4 => if xk_b2 r3 = 0 then (mf_X2_loadOf_L4 a0 a1 n (a2 + (0 : Int32)) (a3 + 1) h4) else (mf_X2_loadOf_L4 a0 a1 n (a2 + (1 : Int32)) (a3 + 1) h4)))
set_option maxHeartbeats 1000000 in
theorem wk_X2_loadOf_L4 {Γ : xk_C} {r : Int32} {h' : xk_H} {a0 : Option Nat} {a1 : Int32} (C : xk_Cx Γ RX2 cX2_loadOf 4 (Option.some FieldType.int) "loadOf" 4 126) (Z : xk_Z Γ (some (.int r)) h') : ∀ (n : Nat) (a2 : Int32) (a3 : Int32) (h0 : xk_H), mf_X2_loadOf_L4 a0 a1 n a2 a3 h0 = some (r, h') → xk_X Γ 4 [(0, va_rf a0), (1, .int a1), (2, .int a2), (3, .int a3)] [] h0 := by
  intro n
  induction n with
  | zero =>
    intro a2 a3 h0 E
    rw [mf_X2_loadOf_L4] at E
    cases E
  | succ n ih =>
    intro a2 a3 h0 E
    have hkb4 : ∀ (m2 : Int32) (m3 : Int32) (g : xk_H), mf_X2_loadOf_L4 a0 a1 n m2 m3 g = some (r, h') → xk_X Γ 4 [(0, va_rf a0), (1, .int a1), (2, .int m2), (3, .int m3)] [] g := ih
    rw [mf_X2_loadOf_L4] at E
    refine xr_iload_n 3 C rfl rfl dX2_loadOf_4 ?_
    refine xr_aload_n 0 C rfl rfl dX2_loadOf_5 ?_
    refine xr_gR C E xf_X2_7 dX2_loadOf_6 (fun x1 E => ?_)
    refine xr_iconst (0) C (by decide) dX2_loadOf_9 ?_
    refine xr_lI C E xt_100 dX2_loadOf_10 (fun x2 E => ?_)
    refine xr_icmp_ge 42 C E dX2_loadOf_11 (by decide) (fun E => ?_) (fun E => ?_)
    · refine xr_iload_n 2 C rfl rfl dX2_loadOf_42 ?_
      exact xr_iret C Z E dX2_loadOf_43
    · refine xr_iload_n 2 C rfl rfl dX2_loadOf_14 ?_
      refine xr_iload_n 3 C rfl rfl dX2_loadOf_15 ?_
      refine xr_iload_n 1 C rfl rfl dX2_loadOf_16 ?_
      refine xr_icmp_eq 33 C E dX2_loadOf_17 (by decide) (fun E => ?_) (fun E => ?_)
      · refine xr_iconst (0) C (by decide) dX2_loadOf_33 ?_
        refine xr_iadd C dX2_loadOf_34 ?_
        refine xr_istore_n (L2 := [(2, .int (a2 + (0 : Int32))), (0, va_rf a0), (1, .int a1), (3, .int a3)]) C rfl rfl dX2_loadOf_35 (by decide) ?_
        refine xr_iinc (v := (a3 + 1)) (L2 := [(3, .int (a3 + 1)), (2, .int (a2 + (0 : Int32))), (0, va_rf a0), (1, .int a1)]) 3 C rfl rfl rfl dX2_loadOf_36 (by decide) ?_
        refine xr_goto 4 C dX2_loadOf_39 (by decide) ?_
        refine xr_sub [2, 3, 1, 0] rfl ?_
        exact hkb4 (a2 + (0 : Int32)) (a3 + 1) h0 E
      · refine xr_aload_n 0 C rfl rfl dX2_loadOf_20 ?_
        refine xr_iload_n 1 C rfl rfl dX2_loadOf_21 ?_
        refine xr_iload_n 3 C rfl rfl dX2_loadOf_22 ?_
        refine xr_V (v := a0) [.int a1, .int a3] [.int a2] (fun r => some (.int (xk_b2 r))) (fun r => .int (xk_b2 r) :: [.int a2]) C E xi_2_SlatCratesModel (fun r h' e => wk_X2_holds e) q2255 q2257 qs41 q89 q2258 xh_SlatCratesModel xd_X2_holds (by decide) (by decide) ⟨rfl, trivial⟩ (Nat.le_of_ble_eq_true rfl) rfl (fun _ => rfl) dX2_loadOf_23 (fun r3 h4 E => ?_)
        refine xr_if_eq 33 C E dX2_loadOf_26 (by decide) (fun E => ?_) (fun E => ?_)
        · refine xr_iconst (0) C (by decide) dX2_loadOf_33 ?_
          refine xr_iadd C dX2_loadOf_34 ?_
          refine xr_istore_n (L2 := [(2, .int (a2 + (0 : Int32))), (0, va_rf a0), (1, .int a1), (3, .int a3)]) C rfl rfl dX2_loadOf_35 (by decide) ?_
          refine xr_iinc (v := (a3 + 1)) (L2 := [(3, .int (a3 + 1)), (2, .int (a2 + (0 : Int32))), (0, va_rf a0), (1, .int a1)]) 3 C rfl rfl rfl dX2_loadOf_36 (by decide) ?_
          refine xr_goto 4 C dX2_loadOf_39 (by decide) ?_
          refine xr_sub [2, 3, 1, 0] rfl ?_
          exact hkb4 (a2 + (0 : Int32)) (a3 + 1) h4 E
        · refine xr_iconst (1) C (by decide) dX2_loadOf_29 ?_
          refine xr_goto 34 C dX2_loadOf_30 (by decide) ?_
          refine xr_iadd C dX2_loadOf_34 ?_
          refine xr_istore_n (L2 := [(2, .int (a2 + (1 : Int32))), (0, va_rf a0), (1, .int a1), (3, .int a3)]) C rfl rfl dX2_loadOf_35 (by decide) ?_
          refine xr_iinc (v := (a3 + 1)) (L2 := [(3, .int (a3 + 1)), (2, .int (a2 + (1 : Int32))), (0, va_rf a0), (1, .int a1)]) 3 C rfl rfl rfl dX2_loadOf_36 (by decide) ?_
          refine xr_goto 4 C dX2_loadOf_39 (by decide) ?_
          refine xr_sub [2, 3, 1, 0] rfl ?_
          exact hkb4 (a2 + (1 : Int32)) (a3 + 1) h4 E
def mf_X2_loadOf (a0 : Option Nat) (a1 : Int32) (h0 : xk_H) : Option (Int32 × xk_H) :=
  mf_X2_loadOf_L4 a0 a1 xk_fu (0 : Int32) (0 : Int32) h0
set_option maxHeartbeats 1000000 in
theorem wk_X2_loadOf {l : Launch} {D : va_G} {base : Nat} {a0 : Option Nat} {a1 : Int32} {h0 : xk_H} {r : Int32} {h' : xk_H} (E : mf_X2_loadOf a0 a1 h0 = some (r, h')) : xk_Ok l D base yX2_loadOf cX2_loadOf 4 (Option.some FieldType.int) 4 126 [va_rf a0, .int a1] h0 (some (.int r)) h' := by
  refine xk_ofX RX2 "loadOf" xq_X2_loadOf rfl rfl (Nat.le_of_ble_eq_true rfl) ⟨xk_crf _, ⟨rfl, trivial⟩⟩ (fun Γ el eD eb C Z => ?_)
  rw [mf_X2_loadOf] at E
  show xk_X Γ 0 [(0, va_rf a0), (1, .int a1)] [] h0
  refine xr_iconst (0) C (by decide) dX2_loadOf_0 ?_
  refine xr_istore_n (L2 := [(2, .int (0 : Int32)), (0, va_rf a0), (1, .int a1)]) C rfl rfl dX2_loadOf_1 (by decide) ?_
  refine xr_iconst (0) C (by decide) dX2_loadOf_2 ?_
  refine xr_istore_n (L2 := [(3, .int (0 : Int32)), (2, .int (0 : Int32)), (0, va_rf a0), (1, .int a1)]) C rfl rfl dX2_loadOf_3 (by decide) ?_
  refine xr_sub [2, 3, 1, 0] rfl ?_
  exact wk_X2_loadOf_L4 (a0 := a0) (a1 := a1) C Z xk_fu (0 : Int32) (0 : Int32) h0 E
def mf_X2_crate (a0 : Option Nat) (a1 : Int32) (a2 : Int32) (h0 : xk_H) : Option (Int32 × xk_H) :=
  xm_rc [2] a0 h0 <| xm_cl (mf_X2_isCrate a0 a1 h0) fun r1 h2 => if xk_b2 r1 = 0 then (some ((-1 : Int32), h2)) else (if a2 = (0 : Int32) then (xm_rc [2] a0 h2 <| xm_cl (mf_X2_of a0 a1 a2 h2) fun r3 h4 => some (r3, h4)) else if a2 = (1 : Int32) then (xm_rc [2] a0 h2 <| xm_cl (mf_X2_of a0 a1 a2 h2) fun r5 h6 => some (r5, h6)) else if a2 = (2 : Int32) then (xm_rc [2] a0 h2 <| xm_cl (mf_X2_of a0 a1 a2 h2) fun r7 h8 => some (r7, h8)) else if a2 = (3 : Int32) then (xm_rc [2] a0 h2 <| xm_cl (mf_X2_letters a0 a1 h2) fun r9 h10 => some (r9, h10)) else if a2 = (4 : Int32) then (xm_rc [2] a0 h2 <| xm_cl (mf_X2_around a0 a1 h2) fun r11 h12 => if 0 ≤ r11 then (xm_rc [2] a0 h12 <| xm_cl (mf_X2_around a0 a1 h12) fun r13 h14 => some (r13, h14)) else (some ((-4 : Int32), h12))) else if a2 = (5 : Int32) then (xm_rc [2] a0 h2 <| xm_cl (mf_X2_depthOf a0 a1 h2) fun r15 h16 => some (r15, h16)) else if a2 = (6 : Int32) then (xm_rc [2] a0 h2 <| xm_cl (mf_X2_pile a0 a1 h2) fun r17 h18 => some (r17, h18)) else if a2 = (7 : Int32) then (xm_rc [2] a0 h2 <| xm_cl (mf_X2_loadOf a0 a1 h2) fun r19 h20 => some (r19, h20)) else if a2 = (8 : Int32) then (xm_rc [2] a0 h2 <| xm_cl (mf_X2_roomLeft a0 a1 h2) fun r21 h22 => some (r21, h22)) else if a2 = (9 : Int32) then (xm_rc [2] a0 h2 <| xm_cl (mf_X2_of a0 a1 (8 : Int32) h2) fun r23 h24 => some (r23, h24)) else if a2 = (10 : Int32) then (xm_rc [2] a0 h2 <| xm_cl (mf_X2_effortTo a0 a1 h2) fun r25 h26 => some (r25, h26)) else if a2 = (11 : Int32) then (xm_rc [2] a0 h2 <| xm_cl (mf_X2_isTold a0 a1 h2) fun r27 h28 => if xk_b2 r27 = 0 then (some ((0 : Int32), h28)) else (some ((1 : Int32), h28))) else if a2 = (12 : Int32) then (xm_rc [2] a0 h2 <| xm_cl (mf_X2_lettersSeen a0 a1 h2) fun r29 h30 => some (r29, h30)) else if a2 = (13 : Int32) then (xm_rc [2] a0 h2 <| xm_cl (mf_X2_bestFor a0 a1 h2) fun r31 h32 => some (r31, h32)) else if a2 = (14 : Int32) then (xm_rc [2] a0 h2 <| xm_cl (mf_X2_reasonGround a0 a1 h2) fun r33 h34 => some (r33, h34)) else (some ((-1 : Int32), h2)))
set_option maxHeartbeats 1000000 in
theorem wk_X2_crate {l : Launch} {D : va_G} {base : Nat} {a0 : Option Nat} {a1 : Int32} {a2 : Int32} {h0 : xk_H} {r : Int32} {h' : xk_H} (E : mf_X2_crate a0 a1 a2 h0 = some (r, h')) : xk_Ok l D base yX2_crate cX2_crate 3 (Option.some FieldType.int) 7 196 [va_rf a0, .int a1, .int a2] h0 (some (.int r)) h' := by
  refine xk_ofX RX2 "crate" xq_X2_crate rfl rfl (Nat.le_of_ble_eq_true rfl) ⟨xk_crf _, ⟨rfl, ⟨rfl, trivial⟩⟩⟩ (fun Γ el eD eb C Z => ?_)
  rw [mf_X2_crate] at E
  show xk_X Γ 0 [(0, va_rf a0), (1, .int a1), (2, .int a2)] [] h0
  refine xr_aload_n 0 C rfl rfl dX2_crate_0 ?_
  refine xr_iload_n 1 C rfl rfl dX2_crate_1 ?_
  refine xr_V (v := a0) [.int a1] [] (fun r => some (.int (xk_b2 r))) (fun r => .int (xk_b2 r) :: []) C E xi_2_SlatCratesModel (fun r h' e => wk_X2_isCrate e) q2231 q2233 qs35 q89 q2234 xh_SlatCratesModel xd_X2_isCrate (by decide) (by decide) trivial (Nat.le_of_ble_eq_true rfl) rfl (fun _ => rfl) dX2_crate_2 (fun r1 h2 E => ?_)
  refine xr_if_ne 10 C E dX2_crate_5 (by decide) (fun E => ?_) (fun E => ?_)
  · refine xr_iload_n 2 C rfl rfl dX2_crate_10 ?_
    by_cases s0 : a2 = (0 : Int32)
    · rw [if_pos s0] at E
      refine xr_tsw 84 (0) C dX2_crate_11 s0 (by decide) (by decide) (off := 73) rfl (by decide) ?_
      refine xr_aload_n 0 C rfl rfl dX2_crate_84 ?_
      refine xr_iload_n 1 C rfl rfl dX2_crate_85 ?_
      refine xr_iload_n 2 C rfl rfl dX2_crate_86 ?_
      refine xr_V (v := a0) [.int a1, .int a2] [] (fun r => some (.int r)) (fun r => .int r :: []) C E xi_2_SlatCratesModel (fun r h' e => wk_X2_of e) q2247 q2249 qs39 q89 q2250 xh_SlatCratesModel xd_X2_of (by decide) (by decide) trivial (Nat.le_of_ble_eq_true rfl) rfl (fun _ => rfl) dX2_crate_87 (fun r3 h4 E => ?_)
      exact xr_iret C Z E dX2_crate_90
    rw [if_neg s0] at E
    by_cases s1 : a2 = (1 : Int32)
    · rw [if_pos s1] at E
      refine xr_tsw 84 (1) C dX2_crate_11 s1 (by decide) (by decide) (off := 73) rfl (by decide) ?_
      refine xr_aload_n 0 C rfl rfl dX2_crate_84 ?_
      refine xr_iload_n 1 C rfl rfl dX2_crate_85 ?_
      refine xr_iload_n 2 C rfl rfl dX2_crate_86 ?_
      refine xr_V (v := a0) [.int a1, .int a2] [] (fun r => some (.int r)) (fun r => .int r :: []) C E xi_2_SlatCratesModel (fun r h' e => wk_X2_of e) q2247 q2249 qs39 q89 q2250 xh_SlatCratesModel xd_X2_of (by decide) (by decide) trivial (Nat.le_of_ble_eq_true rfl) rfl (fun _ => rfl) dX2_crate_87 (fun r5 h6 E => ?_)
      exact xr_iret C Z E dX2_crate_90
    rw [if_neg s1] at E
    by_cases s2 : a2 = (2 : Int32)
    · rw [if_pos s2] at E
      refine xr_tsw 84 (2) C dX2_crate_11 s2 (by decide) (by decide) (off := 73) rfl (by decide) ?_
      refine xr_aload_n 0 C rfl rfl dX2_crate_84 ?_
      refine xr_iload_n 1 C rfl rfl dX2_crate_85 ?_
      refine xr_iload_n 2 C rfl rfl dX2_crate_86 ?_
      refine xr_V (v := a0) [.int a1, .int a2] [] (fun r => some (.int r)) (fun r => .int r :: []) C E xi_2_SlatCratesModel (fun r h' e => wk_X2_of e) q2247 q2249 qs39 q89 q2250 xh_SlatCratesModel xd_X2_of (by decide) (by decide) trivial (Nat.le_of_ble_eq_true rfl) rfl (fun _ => rfl) dX2_crate_87 (fun r7 h8 E => ?_)
      exact xr_iret C Z E dX2_crate_90
    rw [if_neg s2] at E
    by_cases s3 : a2 = (3 : Int32)
    · rw [if_pos s3] at E
      refine xr_tsw 91 (3) C dX2_crate_11 s3 (by decide) (by decide) (off := 80) rfl (by decide) ?_
      refine xr_aload_n 0 C rfl rfl dX2_crate_91 ?_
      refine xr_iload_n 1 C rfl rfl dX2_crate_92 ?_
      refine xr_V (v := a0) [.int a1] [] (fun r => some (.int r)) (fun r => .int r :: []) C E xi_2_SlatCratesModel (fun r h' e => wk_X2_letters e) q2350 q2352 qs56 q89 q2353 xh_SlatCratesModel xd_X2_letters (by decide) (by decide) trivial (Nat.le_of_ble_eq_true rfl) rfl (fun _ => rfl) dX2_crate_93 (fun r9 h10 E => ?_)
      exact xr_iret C Z E dX2_crate_96
    rw [if_neg s3] at E
    by_cases s4 : a2 = (4 : Int32)
    · rw [if_pos s4] at E
      refine xr_tsw 97 (4) C dX2_crate_11 s4 (by decide) (by decide) (off := 86) rfl (by decide) ?_
      refine xr_aload_n 0 C rfl rfl dX2_crate_97 ?_
      refine xr_iload_n 1 C rfl rfl dX2_crate_98 ?_
      refine xr_V (v := a0) [.int a1] [] (fun r => some (.int r)) (fun r => .int r :: []) C E xi_2_SlatCratesModel (fun r h' e => wk_X2_around e) q2243 q2245 qs38 q89 q2246 xh_SlatCratesModel xd_X2_around (by decide) (by decide) trivial (Nat.le_of_ble_eq_true rfl) rfl (fun _ => rfl) dX2_crate_99 (fun r11 h12 E => ?_)
      refine xr_if_ge 110 C E dX2_crate_102 (by decide) (fun E => ?_) (fun E => ?_)
      · refine xr_aload_n 0 C rfl rfl dX2_crate_110 ?_
        refine xr_iload_n 1 C rfl rfl dX2_crate_111 ?_
        refine xr_V (v := a0) [.int a1] [] (fun r => some (.int r)) (fun r => .int r :: []) C E xi_2_SlatCratesModel (fun r h' e => wk_X2_around e) q2243 q2245 qs38 q89 q2246 xh_SlatCratesModel xd_X2_around (by decide) (by decide) trivial (Nat.le_of_ble_eq_true rfl) rfl (fun _ => rfl) dX2_crate_112 (fun r13 h14 E => ?_)
        exact xr_iret C Z E dX2_crate_115
      · refine xr_bipush (-4) C (by decide) dX2_crate_105 ?_
        refine xr_goto 115 C dX2_crate_107 (by decide) ?_
        exact xr_iret C Z E dX2_crate_115
    rw [if_neg s4] at E
    by_cases s5 : a2 = (5 : Int32)
    · rw [if_pos s5] at E
      refine xr_tsw 116 (5) C dX2_crate_11 s5 (by decide) (by decide) (off := 105) rfl (by decide) ?_
      refine xr_aload_n 0 C rfl rfl dX2_crate_116 ?_
      refine xr_iload_n 1 C rfl rfl dX2_crate_117 ?_
      refine xr_V (v := a0) [.int a1] [] (fun r => some (.int r)) (fun r => .int r :: []) C E xi_2_SlatCratesModel (fun r h' e => wk_X2_depthOf e) q2267 q2269 qs44 q89 q2270 xh_SlatCratesModel xd_X2_depthOf (by decide) (by decide) trivial (Nat.le_of_ble_eq_true rfl) rfl (fun _ => rfl) dX2_crate_118 (fun r15 h16 E => ?_)
      exact xr_iret C Z E dX2_crate_121
    rw [if_neg s5] at E
    by_cases s6 : a2 = (6 : Int32)
    · rw [if_pos s6] at E
      refine xr_tsw 122 (6) C dX2_crate_11 s6 (by decide) (by decide) (off := 111) rfl (by decide) ?_
      refine xr_aload_n 0 C rfl rfl dX2_crate_122 ?_
      refine xr_iload_n 1 C rfl rfl dX2_crate_123 ?_
      refine xr_V (v := a0) [.int a1] [] (fun r => some (.int r)) (fun r => .int r :: []) C E xi_2_SlatCratesModel (fun r h' e => wk_X2_pile e) q2251 q2253 qs40 q89 q2254 xh_SlatCratesModel xd_X2_pile (by decide) (by decide) trivial (Nat.le_of_ble_eq_true rfl) rfl (fun _ => rfl) dX2_crate_124 (fun r17 h18 E => ?_)
      exact xr_iret C Z E dX2_crate_127
    rw [if_neg s6] at E
    by_cases s7 : a2 = (7 : Int32)
    · rw [if_pos s7] at E
      refine xr_tsw 128 (7) C dX2_crate_11 s7 (by decide) (by decide) (off := 117) rfl (by decide) ?_
      refine xr_aload_n 0 C rfl rfl dX2_crate_128 ?_
      refine xr_iload_n 1 C rfl rfl dX2_crate_129 ?_
      refine xr_V (v := a0) [.int a1] [] (fun r => some (.int r)) (fun r => .int r :: []) C E xi_2_SlatCratesModel (fun r h' e => wk_X2_loadOf e) q2370 q2372 qs60 q89 q2373 xh_SlatCratesModel xd_X2_loadOf (by decide) (by decide) trivial (Nat.le_of_ble_eq_true rfl) rfl (fun _ => rfl) dX2_crate_130 (fun r19 h20 E => ?_)
      exact xr_iret C Z E dX2_crate_133
    rw [if_neg s7] at E
    by_cases s8 : a2 = (8 : Int32)
    · rw [if_pos s8] at E
      refine xr_tsw 134 (8) C dX2_crate_11 s8 (by decide) (by decide) (off := 123) rfl (by decide) ?_
      refine xr_aload_n 0 C rfl rfl dX2_crate_134 ?_
      refine xr_iload_n 1 C rfl rfl dX2_crate_135 ?_
      refine xr_V (v := a0) [.int a1] [] (fun r => some (.int r)) (fun r => .int r :: []) C E xi_2_SlatCratesModel (fun r h' e => wk_X2_roomLeft e) q2259 q2261 qs42 q89 q2262 xh_SlatCratesModel xd_X2_roomLeft (by decide) (by decide) trivial (Nat.le_of_ble_eq_true rfl) rfl (fun _ => rfl) dX2_crate_136 (fun r21 h22 E => ?_)
      exact xr_iret C Z E dX2_crate_139
    rw [if_neg s8] at E
    by_cases s9 : a2 = (9 : Int32)
    · rw [if_pos s9] at E
      refine xr_tsw 140 (9) C dX2_crate_11 s9 (by decide) (by decide) (off := 129) rfl (by decide) ?_
      refine xr_aload_n 0 C rfl rfl dX2_crate_140 ?_
      refine xr_iload_n 1 C rfl rfl dX2_crate_141 ?_
      refine xr_bipush (8) C (by decide) dX2_crate_142 ?_
      refine xr_V (v := a0) [.int a1, .int (8 : Int32)] [] (fun r => some (.int r)) (fun r => .int r :: []) C E xi_2_SlatCratesModel (fun r h' e => wk_X2_of e) q2247 q2249 qs39 q89 q2250 xh_SlatCratesModel xd_X2_of (by decide) (by decide) trivial (Nat.le_of_ble_eq_true rfl) rfl (fun _ => rfl) dX2_crate_144 (fun r23 h24 E => ?_)
      exact xr_iret C Z E dX2_crate_147
    rw [if_neg s9] at E
    by_cases s10 : a2 = (10 : Int32)
    · rw [if_pos s10] at E
      refine xr_tsw 148 (10) C dX2_crate_11 s10 (by decide) (by decide) (off := 137) rfl (by decide) ?_
      refine xr_aload_n 0 C rfl rfl dX2_crate_148 ?_
      refine xr_iload_n 1 C rfl rfl dX2_crate_149 ?_
      refine xr_V (v := a0) [.int a1] [] (fun r => some (.int r)) (fun r => .int r :: []) C E xi_2_SlatCratesModel (fun r h' e => wk_X2_effortTo e) q2374 q2376 qs61 q89 q2377 xh_SlatCratesModel xd_X2_effortTo (by decide) (by decide) trivial (Nat.le_of_ble_eq_true rfl) rfl (fun _ => rfl) dX2_crate_150 (fun r25 h26 E => ?_)
      exact xr_iret C Z E dX2_crate_153
    rw [if_neg s10] at E
    by_cases s11 : a2 = (11 : Int32)
    · rw [if_pos s11] at E
      refine xr_tsw 154 (11) C dX2_crate_11 s11 (by decide) (by decide) (off := 143) rfl (by decide) ?_
      refine xr_aload_n 0 C rfl rfl dX2_crate_154 ?_
      refine xr_iload_n 1 C rfl rfl dX2_crate_155 ?_
      refine xr_V (v := a0) [.int a1] [] (fun r => some (.int (xk_b2 r))) (fun r => .int (xk_b2 r) :: []) C E xi_2_SlatCratesModel (fun r h' e => wk_X2_isTold e) q2378 q2380 qs62 q89 q2381 xh_SlatCratesModel xd_X2_isTold (by decide) (by decide) trivial (Nat.le_of_ble_eq_true rfl) rfl (fun _ => rfl) dX2_crate_156 (fun r27 h28 E => ?_)
      refine xr_if_eq 166 C E dX2_crate_159 (by decide) (fun E => ?_) (fun E => ?_)
      · refine xr_iconst (0) C (by decide) dX2_crate_166 ?_
        exact xr_iret C Z E dX2_crate_167
      · refine xr_iconst (1) C (by decide) dX2_crate_162 ?_
        refine xr_goto 167 C dX2_crate_163 (by decide) ?_
        exact xr_iret C Z E dX2_crate_167
    rw [if_neg s11] at E
    by_cases s12 : a2 = (12 : Int32)
    · rw [if_pos s12] at E
      refine xr_tsw 168 (12) C dX2_crate_11 s12 (by decide) (by decide) (off := 157) rfl (by decide) ?_
      refine xr_aload_n 0 C rfl rfl dX2_crate_168 ?_
      refine xr_iload_n 1 C rfl rfl dX2_crate_169 ?_
      refine xr_V (v := a0) [.int a1] [] (fun r => some (.int r)) (fun r => .int r :: []) C E xi_2_SlatCratesModel (fun r h' e => wk_X2_lettersSeen e) q2398 q2400 qs67 q89 q2401 xh_SlatCratesModel xd_X2_lettersSeen (by decide) (by decide) trivial (Nat.le_of_ble_eq_true rfl) rfl (fun _ => rfl) dX2_crate_170 (fun r29 h30 E => ?_)
      exact xr_iret C Z E dX2_crate_173
    rw [if_neg s12] at E
    by_cases s13 : a2 = (13 : Int32)
    · rw [if_pos s13] at E
      refine xr_tsw 174 (13) C dX2_crate_11 s13 (by decide) (by decide) (off := 163) rfl (by decide) ?_
      refine xr_aload_n 0 C rfl rfl dX2_crate_174 ?_
      refine xr_iload_n 1 C rfl rfl dX2_crate_175 ?_
      refine xr_V (v := a0) [.int a1] [] (fun r => some (.int r)) (fun r => .int r :: []) C E xi_2_SlatCratesModel (fun r h' e => wk_X2_bestFor e) q2402 q2404 qs68 q89 q2405 xh_SlatCratesModel xd_X2_bestFor (by decide) (by decide) trivial (Nat.le_of_ble_eq_true rfl) rfl (fun _ => rfl) dX2_crate_176 (fun r31 h32 E => ?_)
      exact xr_iret C Z E dX2_crate_179
    rw [if_neg s13] at E
    by_cases s14 : a2 = (14 : Int32)
    · rw [if_pos s14] at E
      refine xr_tsw 180 (14) C dX2_crate_11 s14 (by decide) (by decide) (off := 169) rfl (by decide) ?_
      refine xr_aload_n 0 C rfl rfl dX2_crate_180 ?_
      refine xr_iload_n 1 C rfl rfl dX2_crate_181 ?_
      refine xr_V (v := a0) [.int a1] [] (fun r => some (.int r)) (fun r => .int r :: []) C E xi_2_SlatCratesModel (fun r h' e => wk_X2_reasonGround e) q2275 q2277 qs45 q89 q2278 xh_SlatCratesModel xd_X2_reasonGround (by decide) (by decide) trivial (Nat.le_of_ble_eq_true rfl) rfl (fun _ => rfl) dX2_crate_182 (fun r33 h34 E => ?_)
      exact xr_iret C Z E dX2_crate_185
    rw [if_neg s14] at E
    refine xr_tswd 186 C dX2_crate_11 (by have t0 := lv_neT s0 (a := 0) rfl; have t1 := lv_neT s1 (a := 1) rfl; have t2 := lv_neT s2 (a := 2) rfl; have t3 := lv_neT s3 (a := 3) rfl; have t4 := lv_neT s4 (a := 4) rfl; have t5 := lv_neT s5 (a := 5) rfl; have t6 := lv_neT s6 (a := 6) rfl; have t7 := lv_neT s7 (a := 7) rfl; have t8 := lv_neT s8 (a := 8) rfl; have t9 := lv_neT s9 (a := 9) rfl; have t10 := lv_neT s10 (a := 10) rfl; have t11 := lv_neT s11 (a := 11) rfl; have t12 := lv_neT s12 (a := 12) rfl; have t13 := lv_neT s13 (a := 13) rfl; have t14 := lv_neT s14 (a := 14) rfl; omega) (by decide) ?_
    refine xr_iconst (-1) C (by decide) dX2_crate_186 ?_
    exact xr_iret C Z E dX2_crate_187
  · refine xr_iconst (-1) C (by decide) dX2_crate_8 ?_
    exact xr_iret C Z E dX2_crate_9
def mf_X2_isPlace (a0 : Int32) (h0 : xk_H) : Option (Bool × xk_H) :=
  xm_cl (mf_X2_in a0 (0 : Int32) (3 : Int32) h0) fun r1 h2 => some (r1, h2)
set_option maxHeartbeats 1000000 in
theorem wk_X2_isPlace {l : Launch} {D : va_G} {base : Nat} {a0 : Int32} {h0 : xk_H} {r : Bool} {h' : xk_H} (E : mf_X2_isPlace a0 h0 = some (r, h')) : xk_Ok l D base yX2_isPlace cX2_isPlace 1 (Option.some FieldType.boolean) 2 82 [.int a0] h0 (some (.int (xk_b2 r))) h' := by
  refine xk_ofX RX2 "isPlace" xq_X2_isPlace rfl rfl (Nat.le_of_ble_eq_true rfl) ⟨rfl, trivial⟩ (fun Γ el eD eb C Z => ?_)
  rw [mf_X2_isPlace] at E
  show xk_X Γ 0 [(0, .int a0)] [] h0
  refine xr_iload_n 0 C rfl rfl dX2_isPlace_0 ?_
  refine xr_iconst (0) C (by decide) dX2_isPlace_1 ?_
  refine xr_iconst (3) C (by decide) dX2_isPlace_2 ?_
  refine xr_S [.int a0, .int (0 : Int32), .int (3 : Int32)] [] (fun r => some (.int (xk_b2 r))) (fun r => .int (xk_b2 r) :: []) C E (fun r h' e => wk_X2_in e) q2205 q2206 q89 q2207 xh_SlatCratesModel xd_X2_in (by decide) (by decide) trivial (Nat.le_of_ble_eq_true rfl) rfl (fun _ => rfl) dX2_isPlace_3 (fun r1 h2 E => ?_)
  exact xr_bret (b := r1) C Z E dX2_isPlace_6
def mf_X2_letter (a0 : Option Nat) (a1 : Int32) (a2 : Int32) (h0 : xk_H) : Option (Int32 × xk_H) :=
  xm_rc [2] a0 h0 <| xm_cl (mf_X2_isCrate a0 a1 h0) fun r1 h2 => if xk_b2 r1 = 0 then (some ((-1 : Int32), h2)) else (xm_cl (mf_X2_isPlace a2 h2) fun r3 h4 => if xk_b2 r3 = 0 then (some ((-1 : Int32), h4)) else (xm_rc [2] a0 h4 <| xm_cl (mf_X2_of a0 a1 ((3 : Int32) + a2) h4) fun r5 h6 => if r5 = 0 then (some ((-4 : Int32), h6)) else (xm_rc [2] a0 h6 <| xm_cl (mf_X2_of a0 a1 ((3 : Int32) + a2) h6) fun r7 h8 => some ((r7 - (1 : Int32)), h8))))
set_option maxHeartbeats 1000000 in
theorem wk_X2_letter {l : Launch} {D : va_G} {base : Nat} {a0 : Option Nat} {a1 : Int32} {a2 : Int32} {h0 : xk_H} {r : Int32} {h' : xk_H} (E : mf_X2_letter a0 a1 a2 h0 = some (r, h')) : xk_Ok l D base yX2_letter cX2_letter 3 (Option.some FieldType.int) 3 103 [va_rf a0, .int a1, .int a2] h0 (some (.int r)) h' := by
  refine xk_ofX RX2 "letter" xq_X2_letter rfl rfl (Nat.le_of_ble_eq_true rfl) ⟨xk_crf _, ⟨rfl, ⟨rfl, trivial⟩⟩⟩ (fun Γ el eD eb C Z => ?_)
  rw [mf_X2_letter] at E
  show xk_X Γ 0 [(0, va_rf a0), (1, .int a1), (2, .int a2)] [] h0
  refine xr_aload_n 0 C rfl rfl dX2_letter_0 ?_
  refine xr_iload_n 1 C rfl rfl dX2_letter_1 ?_
  refine xr_V (v := a0) [.int a1] [] (fun r => some (.int (xk_b2 r))) (fun r => .int (xk_b2 r) :: []) C E xi_2_SlatCratesModel (fun r h' e => wk_X2_isCrate e) q2231 q2233 qs35 q89 q2234 xh_SlatCratesModel xd_X2_isCrate (by decide) (by decide) trivial (Nat.le_of_ble_eq_true rfl) rfl (fun _ => rfl) dX2_letter_2 (fun r1 h2 E => ?_)
  refine xr_if_eq 15 C E dX2_letter_5 (by decide) (fun E => ?_) (fun E => ?_)
  · refine xr_iconst (-1) C (by decide) dX2_letter_15 ?_
    exact xr_iret C Z E dX2_letter_16
  · refine xr_iload_n 2 C rfl rfl dX2_letter_8 ?_
    refine xr_S [.int a2] [] (fun r => some (.int (xk_b2 r))) (fun r => .int (xk_b2 r) :: []) C E (fun r h' e => wk_X2_isPlace e) q2410 q2411 q89 q2412 xh_SlatCratesModel xd_X2_isPlace (by decide) (by decide) trivial (Nat.le_of_ble_eq_true rfl) rfl (fun _ => rfl) dX2_letter_9 (fun r3 h4 E => ?_)
    refine xr_if_ne 17 C E dX2_letter_12 (by decide) (fun E => ?_) (fun E => ?_)
    · refine xr_aload_n 0 C rfl rfl dX2_letter_17 ?_
      refine xr_iload_n 1 C rfl rfl dX2_letter_18 ?_
      refine xr_iconst (3) C (by decide) dX2_letter_19 ?_
      refine xr_iload_n 2 C rfl rfl dX2_letter_20 ?_
      refine xr_iadd C dX2_letter_21 ?_
      refine xr_V (v := a0) [.int a1, .int ((3 : Int32) + a2)] [] (fun r => some (.int r)) (fun r => .int r :: []) C E xi_2_SlatCratesModel (fun r h' e => wk_X2_of e) q2247 q2249 qs39 q89 q2250 xh_SlatCratesModel xd_X2_of (by decide) (by decide) trivial (Nat.le_of_ble_eq_true rfl) rfl (fun _ => rfl) dX2_letter_22 (fun r5 h6 E => ?_)
      refine xr_if_ne 33 C E dX2_letter_25 (by decide) (fun E => ?_) (fun E => ?_)
      · refine xr_aload_n 0 C rfl rfl dX2_letter_33 ?_
        refine xr_iload_n 1 C rfl rfl dX2_letter_34 ?_
        refine xr_iconst (3) C (by decide) dX2_letter_35 ?_
        refine xr_iload_n 2 C rfl rfl dX2_letter_36 ?_
        refine xr_iadd C dX2_letter_37 ?_
        refine xr_V (v := a0) [.int a1, .int ((3 : Int32) + a2)] [] (fun r => some (.int r)) (fun r => .int r :: []) C E xi_2_SlatCratesModel (fun r h' e => wk_X2_of e) q2247 q2249 qs39 q89 q2250 xh_SlatCratesModel xd_X2_of (by decide) (by decide) trivial (Nat.le_of_ble_eq_true rfl) rfl (fun _ => rfl) dX2_letter_38 (fun r7 h8 E => ?_)
        refine xr_iconst (1) C (by decide) dX2_letter_41 ?_
        refine xr_isub C dX2_letter_42 ?_
        exact xr_iret C Z E dX2_letter_43
      · refine xr_bipush (-4) C (by decide) dX2_letter_28 ?_
        refine xr_goto 43 C dX2_letter_30 (by decide) ?_
        exact xr_iret C Z E dX2_letter_43
    · refine xr_iconst (-1) C (by decide) dX2_letter_15 ?_
      exact xr_iret C Z E dX2_letter_16
def mf_X2_seen (a0 : Option Nat) (a1 : Int32) (a2 : Int32) (h0 : xk_H) : Option (Int32 × xk_H) :=
  xm_rc [2] a0 h0 <| xm_cl (mf_X2_isCrate a0 a1 h0) fun r1 h2 => if xk_b2 r1 = 0 then (some ((-1 : Int32), h2)) else (xm_cl (mf_X2_isPlace a2 h2) fun r3 h4 => if xk_b2 r3 = 0 then (some ((-1 : Int32), h4)) else (xm_rc [2] a0 h4 <| xm_cl (mf_X2_signOf a0 a1 a2 h4) fun r5 h6 => some (r5, h6)))
set_option maxHeartbeats 1000000 in
theorem wk_X2_seen {l : Launch} {D : va_G} {base : Nat} {a0 : Option Nat} {a1 : Int32} {a2 : Int32} {h0 : xk_H} {r : Int32} {h' : xk_H} (E : mf_X2_seen a0 a1 a2 h0 = some (r, h')) : xk_Ok l D base yX2_seen cX2_seen 3 (Option.some FieldType.int) 5 149 [va_rf a0, .int a1, .int a2] h0 (some (.int r)) h' := by
  refine xk_ofX RX2 "seen" xq_X2_seen rfl rfl (Nat.le_of_ble_eq_true rfl) ⟨xk_crf _, ⟨rfl, ⟨rfl, trivial⟩⟩⟩ (fun Γ el eD eb C Z => ?_)
  rw [mf_X2_seen] at E
  show xk_X Γ 0 [(0, va_rf a0), (1, .int a1), (2, .int a2)] [] h0
  refine xr_aload_n 0 C rfl rfl dX2_seen_0 ?_
  refine xr_iload_n 1 C rfl rfl dX2_seen_1 ?_
  refine xr_V (v := a0) [.int a1] [] (fun r => some (.int (xk_b2 r))) (fun r => .int (xk_b2 r) :: []) C E xi_2_SlatCratesModel (fun r h' e => wk_X2_isCrate e) q2231 q2233 qs35 q89 q2234 xh_SlatCratesModel xd_X2_isCrate (by decide) (by decide) trivial (Nat.le_of_ble_eq_true rfl) rfl (fun _ => rfl) dX2_seen_2 (fun r1 h2 E => ?_)
  refine xr_if_eq 24 C E dX2_seen_5 (by decide) (fun E => ?_) (fun E => ?_)
  · refine xr_iconst (-1) C (by decide) dX2_seen_24 ?_
    exact xr_iret C Z E dX2_seen_25
  · refine xr_iload_n 2 C rfl rfl dX2_seen_8 ?_
    refine xr_S [.int a2] [] (fun r => some (.int (xk_b2 r))) (fun r => .int (xk_b2 r) :: []) C E (fun r h' e => wk_X2_isPlace e) q2410 q2411 q89 q2412 xh_SlatCratesModel xd_X2_isPlace (by decide) (by decide) trivial (Nat.le_of_ble_eq_true rfl) rfl (fun _ => rfl) dX2_seen_9 (fun r3 h4 E => ?_)
    refine xr_if_eq 24 C E dX2_seen_12 (by decide) (fun E => ?_) (fun E => ?_)
    · refine xr_iconst (-1) C (by decide) dX2_seen_24 ?_
      exact xr_iret C Z E dX2_seen_25
    · refine xr_aload_n 0 C rfl rfl dX2_seen_15 ?_
      refine xr_iload_n 1 C rfl rfl dX2_seen_16 ?_
      refine xr_iload_n 2 C rfl rfl dX2_seen_17 ?_
      refine xr_V (v := a0) [.int a1, .int a2] [] (fun r => some (.int r)) (fun r => .int r :: []) C E xi_2_SlatCratesModel (fun r h' e => wk_X2_signOf e) q2386 q2388 qs64 q89 q2389 xh_SlatCratesModel xd_X2_signOf (by decide) (by decide) trivial (Nat.le_of_ble_eq_true rfl) rfl (fun _ => rfl) dX2_seen_18 (fun r5 h6 E => ?_)
      refine xr_goto 25 C dX2_seen_21 (by decide) ?_
      exact xr_iret C Z E dX2_seen_25
def mf_X2_whyNot (a0 : Option Nat) (a1 : Int32) (a2 : Int32) (h0 : xk_H) : Option (Int32 × xk_H) :=
  xm_rc [2] a0 h0 <| xm_cl (mf_X2_isCrate a0 a1 h0) fun r1 h2 => if xk_b2 r1 = 0 then (some ((-1 : Int32), h2)) else (xm_rc [2] a0 h2 <| xm_cl (mf_X2_isCrate a0 a2 h2) fun r3 h4 => if xk_b2 r3 = 0 then (some ((-1 : Int32), h4)) else (xm_rc [2] a0 h4 <| xm_cl (mf_X2_reasonPut a0 a1 a2 h4) fun r5 h6 => some (r5, h6)))
set_option maxHeartbeats 1000000 in
theorem wk_X2_whyNot {l : Launch} {D : va_G} {base : Nat} {a0 : Option Nat} {a1 : Int32} {a2 : Int32} {h0 : xk_H} {r : Int32} {h' : xk_H} (E : mf_X2_whyNot a0 a1 a2 h0 = some (r, h')) : xk_Ok l D base yX2_whyNot cX2_whyNot 3 (Option.some FieldType.int) 6 170 [va_rf a0, .int a1, .int a2] h0 (some (.int r)) h' := by
  refine xk_ofX RX2 "whyNot" xq_X2_whyNot rfl rfl (Nat.le_of_ble_eq_true rfl) ⟨xk_crf _, ⟨rfl, ⟨rfl, trivial⟩⟩⟩ (fun Γ el eD eb C Z => ?_)
  rw [mf_X2_whyNot] at E
  show xk_X Γ 0 [(0, va_rf a0), (1, .int a1), (2, .int a2)] [] h0
  refine xr_aload_n 0 C rfl rfl dX2_whyNot_0 ?_
  refine xr_iload_n 1 C rfl rfl dX2_whyNot_1 ?_
  refine xr_V (v := a0) [.int a1] [] (fun r => some (.int (xk_b2 r))) (fun r => .int (xk_b2 r) :: []) C E xi_2_SlatCratesModel (fun r h' e => wk_X2_isCrate e) q2231 q2233 qs35 q89 q2234 xh_SlatCratesModel xd_X2_isCrate (by decide) (by decide) trivial (Nat.le_of_ble_eq_true rfl) rfl (fun _ => rfl) dX2_whyNot_2 (fun r1 h2 E => ?_)
  refine xr_if_eq 25 C E dX2_whyNot_5 (by decide) (fun E => ?_) (fun E => ?_)
  · refine xr_iconst (-1) C (by decide) dX2_whyNot_25 ?_
    exact xr_iret C Z E dX2_whyNot_26
  · refine xr_aload_n 0 C rfl rfl dX2_whyNot_8 ?_
    refine xr_iload_n 2 C rfl rfl dX2_whyNot_9 ?_
    refine xr_V (v := a0) [.int a2] [] (fun r => some (.int (xk_b2 r))) (fun r => .int (xk_b2 r) :: []) C E xi_2_SlatCratesModel (fun r h' e => wk_X2_isCrate e) q2231 q2233 qs35 q89 q2234 xh_SlatCratesModel xd_X2_isCrate (by decide) (by decide) trivial (Nat.le_of_ble_eq_true rfl) rfl (fun _ => rfl) dX2_whyNot_10 (fun r3 h4 E => ?_)
    refine xr_if_eq 25 C E dX2_whyNot_13 (by decide) (fun E => ?_) (fun E => ?_)
    · refine xr_iconst (-1) C (by decide) dX2_whyNot_25 ?_
      exact xr_iret C Z E dX2_whyNot_26
    · refine xr_aload_n 0 C rfl rfl dX2_whyNot_16 ?_
      refine xr_iload_n 1 C rfl rfl dX2_whyNot_17 ?_
      refine xr_iload_n 2 C rfl rfl dX2_whyNot_18 ?_
      refine xr_V (v := a0) [.int a1, .int a2] [] (fun r => some (.int r)) (fun r => .int r :: []) C E xi_2_SlatCratesModel (fun r h' e => wk_X2_reasonPut e) q2235 q2237 qs36 q89 q2238 xh_SlatCratesModel xd_X2_reasonPut (by decide) (by decide) trivial (Nat.le_of_ble_eq_true rfl) rfl (fun _ => rfl) dX2_whyNot_19 (fun r5 h6 E => ?_)
      refine xr_goto 26 C dX2_whyNot_22 (by decide) ?_
      exact xr_iret C Z E dX2_whyNot_26
def mf_X2_effort_L26 (a0 : Option Nat) (a1 : Int32) : Nat → Int32 → Int32 → xk_H → Option (Int32 × xk_H)
  | 0, _, _, _ => none
  | n + 1, a3, a4, h0 => xm_gR [2] 0 a0 h0 fun x5 => xm_lI [100] x5 (0 : Int32) h0 fun x6 => if x6 ≤ a4 then (some (a3, h0)) else (xm_rc [2] a0 h0 <| xm_cl (mf_X2_of a0 a4 (0 : Int32) h0) fun r7 h8 => if r7 = a1 then (xm_rc [2] a0 h8 <| xm_cl (mf_X2_effortTo a0 a4 h8) fun r9 h10 => mf_X2_effort_L26 a0 a1 n (a3 + r9) (a4 + 1) h10) else (mf_X2_effort_L26 a0 a1 n (a3 + (0 : Int32)) (a4 + 1) h8))
set_option maxHeartbeats 1000000 in
theorem wk_X2_effort_L26 {Γ : xk_C} {r : Int32} {h' : xk_H} {a0 : Option Nat} {a1 : Int32} (C : xk_Cx Γ RX2 cX2_effort 5 (Option.some FieldType.int) "effort" 5 149) (Z : xk_Z Γ (some (.int r)) h') : ∀ (n : Nat) (a3 : Int32) (a4 : Int32) (h0 : xk_H), mf_X2_effort_L26 a0 a1 n a3 a4 h0 = some (r, h') → xk_X Γ 26 [(0, va_rf a0), (1, .int a1), (3, .int a3), (4, .int a4)] [] h0 := by
  intro n
  induction n with
  | zero =>
    intro a3 a4 h0 E
    rw [mf_X2_effort_L26] at E
    cases E
  | succ n ih =>
    intro a3 a4 h0 E
    have hkb26 : ∀ (m3 : Int32) (m4 : Int32) (g : xk_H), mf_X2_effort_L26 a0 a1 n m3 m4 g = some (r, h') → xk_X Γ 26 [(0, va_rf a0), (1, .int a1), (3, .int m3), (4, .int m4)] [] g := ih
    rw [mf_X2_effort_L26] at E
    refine xr_iload 3 C rfl dX2_effort_26 ?_
    refine xr_aload_n 0 C rfl rfl dX2_effort_28 ?_
    refine xr_gR C E xf_X2_7 dX2_effort_29 (fun x5 E => ?_)
    refine xr_iconst (0) C (by decide) dX2_effort_32 ?_
    refine xr_lI C E xt_100 dX2_effort_33 (fun x6 E => ?_)
    refine xr_icmp_ge 67 C E dX2_effort_34 (by decide) (fun E => ?_) (fun E => ?_)
    · refine xr_iload_n 2 C rfl rfl dX2_effort_67 ?_
      exact xr_iret C Z E dX2_effort_68
    · refine xr_iload_n 2 C rfl rfl dX2_effort_37 ?_
      refine xr_aload_n 0 C rfl rfl dX2_effort_38 ?_
      refine xr_iload 3 C rfl dX2_effort_39 ?_
      refine xr_iconst (0) C (by decide) dX2_effort_41 ?_
      refine xr_V (v := a0) [.int a4, .int (0 : Int32)] [.int a3] (fun r => some (.int r)) (fun r => .int r :: [.int a3]) C E xi_2_SlatCratesModel (fun r h' e => wk_X2_of e) q2247 q2249 qs39 q89 q2250 xh_SlatCratesModel xd_X2_of (by decide) (by decide) ⟨rfl, trivial⟩ (Nat.le_of_ble_eq_true rfl) rfl (fun _ => rfl) dX2_effort_42 (fun r7 h8 E => ?_)
      refine xr_iload_n 1 C rfl rfl dX2_effort_45 ?_
      refine xr_icmp_ne 58 C E dX2_effort_46 (by decide) (fun E => ?_) (fun E => ?_)
      · refine xr_iconst (0) C (by decide) dX2_effort_58 ?_
        refine xr_iadd C dX2_effort_59 ?_
        refine xr_istore_n (L2 := [(3, .int (a3 + (0 : Int32))), (0, va_rf a0), (1, .int a1), (4, .int a4)]) C rfl rfl dX2_effort_60 (by decide) ?_
        refine xr_iinc (v := (a4 + 1)) (L2 := [(4, .int (a4 + 1)), (3, .int (a3 + (0 : Int32))), (0, va_rf a0), (1, .int a1)]) 3 C rfl rfl rfl dX2_effort_61 (by decide) ?_
        refine xr_goto 26 C dX2_effort_64 (by decide) ?_
        refine xr_sub [2, 3, 1, 0] rfl ?_
        exact hkb26 (a3 + (0 : Int32)) (a4 + 1) h8 E
      · refine xr_aload_n 0 C rfl rfl dX2_effort_49 ?_
        refine xr_iload 3 C rfl dX2_effort_50 ?_
        refine xr_V (v := a0) [.int a4] [.int a3] (fun r => some (.int r)) (fun r => .int r :: [.int a3]) C E xi_2_SlatCratesModel (fun r h' e => wk_X2_effortTo e) q2374 q2376 qs61 q89 q2377 xh_SlatCratesModel xd_X2_effortTo (by decide) (by decide) ⟨rfl, trivial⟩ (Nat.le_of_ble_eq_true rfl) rfl (fun _ => rfl) dX2_effort_52 (fun r9 h10 E => ?_)
        refine xr_goto 59 C dX2_effort_55 (by decide) ?_
        refine xr_iadd C dX2_effort_59 ?_
        refine xr_istore_n (L2 := [(3, .int (a3 + r9)), (0, va_rf a0), (1, .int a1), (4, .int a4)]) C rfl rfl dX2_effort_60 (by decide) ?_
        refine xr_iinc (v := (a4 + 1)) (L2 := [(4, .int (a4 + 1)), (3, .int (a3 + r9)), (0, va_rf a0), (1, .int a1)]) 3 C rfl rfl rfl dX2_effort_61 (by decide) ?_
        refine xr_goto 26 C dX2_effort_64 (by decide) ?_
        refine xr_sub [2, 3, 1, 0] rfl ?_
        exact hkb26 (a3 + r9) (a4 + 1) h10 E
def mf_X2_effort (a0 : Option Nat) (a1 : Int32) (a2 : Int32) (h0 : xk_H) : Option (Int32 × xk_H) :=
  xm_cl (mf_X2_in a1 (1 : Int32) (60 : Int32) h0) fun r1 h2 => if xk_b2 r1 = 0 then (some ((-1 : Int32), h2)) else (xm_cl (mf_X2_in a2 (0 : Int32) (1 : Int32) h2) fun r3 h4 => if xk_b2 r3 = 0 then (some ((-1 : Int32), h4)) else (mf_X2_effort_L26 a0 a1 xk_fu (0 : Int32) (0 : Int32) h4))
set_option maxHeartbeats 1000000 in
theorem wk_X2_effort {l : Launch} {D : va_G} {base : Nat} {a0 : Option Nat} {a1 : Int32} {a2 : Int32} {h0 : xk_H} {r : Int32} {h' : xk_H} (E : mf_X2_effort a0 a1 a2 h0 = some (r, h')) : xk_Ok l D base yX2_effort cX2_effort 5 (Option.some FieldType.int) 5 149 [va_rf a0, .int a1, .int a2] h0 (some (.int r)) h' := by
  refine xk_ofX RX2 "effort" xq_X2_effort rfl rfl (Nat.le_of_ble_eq_true rfl) ⟨xk_crf _, ⟨rfl, ⟨rfl, trivial⟩⟩⟩ (fun Γ el eD eb C Z => ?_)
  rw [mf_X2_effort] at E
  show xk_X Γ 0 [(0, va_rf a0), (1, .int a1), (2, .int a2)] [] h0
  refine xr_iload_n 1 C rfl rfl dX2_effort_0 ?_
  refine xr_iconst (1) C (by decide) dX2_effort_1 ?_
  refine xr_bipush (60) C (by decide) dX2_effort_2 ?_
  refine xr_S [.int a1, .int (1 : Int32), .int (60 : Int32)] [] (fun r => some (.int (xk_b2 r))) (fun r => .int (xk_b2 r) :: []) C E (fun r h' e => wk_X2_in e) q2205 q2206 q89 q2207 xh_SlatCratesModel xd_X2_in (by decide) (by decide) trivial (Nat.le_of_ble_eq_true rfl) rfl (fun _ => rfl) dX2_effort_4 (fun r1 h2 E => ?_)
  refine xr_if_eq 19 C E dX2_effort_7 (by decide) (fun E => ?_) (fun E => ?_)
  · refine xr_iconst (-1) C (by decide) dX2_effort_19 ?_
    exact xr_iret C Z E dX2_effort_20
  · refine xr_iload_n 2 C rfl rfl dX2_effort_10 ?_
    refine xr_iconst (0) C (by decide) dX2_effort_11 ?_
    refine xr_iconst (1) C (by decide) dX2_effort_12 ?_
    refine xr_S [.int a2, .int (0 : Int32), .int (1 : Int32)] [] (fun r => some (.int (xk_b2 r))) (fun r => .int (xk_b2 r) :: []) C E (fun r h' e => wk_X2_in e) q2205 q2206 q89 q2207 xh_SlatCratesModel xd_X2_in (by decide) (by decide) trivial (Nat.le_of_ble_eq_true rfl) rfl (fun _ => rfl) dX2_effort_13 (fun r3 h4 E => ?_)
    refine xr_if_ne 21 C E dX2_effort_16 (by decide) (fun E => ?_) (fun E => ?_)
    · refine xr_iconst (0) C (by decide) dX2_effort_21 ?_
      refine xr_istore_n (L2 := [(3, .int (0 : Int32)), (0, va_rf a0), (1, .int a1), (2, .int a2)]) C rfl rfl dX2_effort_22 (by decide) ?_
      refine xr_iconst (0) C (by decide) dX2_effort_23 ?_
      refine xr_istore (L2 := [(4, .int (0 : Int32)), (3, .int (0 : Int32)), (0, va_rf a0), (1, .int a1), (2, .int a2)]) C rfl dX2_effort_24 (by decide) ?_
      refine xr_sub [2, 3, 1, 0] rfl ?_
      exact wk_X2_effort_L26 (a0 := a0) (a1 := a1) C Z xk_fu (0 : Int32) (0 : Int32) h4 E
    · refine xr_iconst (-1) C (by decide) dX2_effort_19 ?_
      exact xr_iret C Z E dX2_effort_20
def mf_X2_isAs (a0 : Option Nat) (a1 : Int32) (a2 : Int32) (a3 : Int32) (h0 : xk_H) : Option (Bool × xk_H) :=
  if a3 = (28 : Int32) then (some (true, h0)) else (xm_rc [2] a0 h0 <| xm_cl (mf_X2_signOf a0 a1 a2 h0) fun r1 h2 => if r1 = a3 then (some (true, h2)) else (some (false, h2)))
set_option maxHeartbeats 1000000 in
theorem wk_X2_isAs {l : Launch} {D : va_G} {base : Nat} {a0 : Option Nat} {a1 : Int32} {a2 : Int32} {a3 : Int32} {h0 : xk_H} {r : Bool} {h' : xk_H} (E : mf_X2_isAs a0 a1 a2 a3 h0 = some (r, h')) : xk_Ok l D base yX2_isAs cX2_isAs 4 (Option.some FieldType.boolean) 5 149 [va_rf a0, .int a1, .int a2, .int a3] h0 (some (.int (xk_b2 r))) h' := by
  refine xk_ofX RX2 "isAs" xq_X2_isAs rfl rfl (Nat.le_of_ble_eq_true rfl) ⟨xk_crf _, ⟨rfl, ⟨rfl, ⟨rfl, trivial⟩⟩⟩⟩ (fun Γ el eD eb C Z => ?_)
  rw [mf_X2_isAs] at E
  show xk_X Γ 0 [(0, va_rf a0), (1, .int a1), (2, .int a2), (3, .int a3)] [] h0
  refine xr_iload_n 3 C rfl rfl dX2_isAs_0 ?_
  refine xr_bipush (28) C (by decide) dX2_isAs_1 ?_
  refine xr_icmp_eq 16 C E dX2_isAs_3 (by decide) (fun E => ?_) (fun E => ?_)
  · refine xr_iconst (1) C (by decide) dX2_isAs_16 ?_
    refine xr_goto 21 C dX2_isAs_17 (by decide) ?_
    exact xr_bret (b := true) C Z E dX2_isAs_21
  · refine xr_aload_n 0 C rfl rfl dX2_isAs_6 ?_
    refine xr_iload_n 1 C rfl rfl dX2_isAs_7 ?_
    refine xr_iload_n 2 C rfl rfl dX2_isAs_8 ?_
    refine xr_V (v := a0) [.int a1, .int a2] [] (fun r => some (.int r)) (fun r => .int r :: []) C E xi_2_SlatCratesModel (fun r h' e => wk_X2_signOf e) q2386 q2388 qs64 q89 q2389 xh_SlatCratesModel xd_X2_signOf (by decide) (by decide) trivial (Nat.le_of_ble_eq_true rfl) rfl (fun _ => rfl) dX2_isAs_9 (fun r1 h2 E => ?_)
    refine xr_iload_n 3 C rfl rfl dX2_isAs_12 ?_
    refine xr_icmp_ne 20 C E dX2_isAs_13 (by decide) (fun E => ?_) (fun E => ?_)
    · refine xr_iconst (0) C (by decide) dX2_isAs_20 ?_
      exact xr_bret (b := false) C Z E dX2_isAs_21
    · refine xr_iconst (1) C (by decide) dX2_isAs_16 ?_
      refine xr_goto 21 C dX2_isAs_17 (by decide) ?_
      exact xr_bret (b := true) C Z E dX2_isAs_21
def mf_X2_alike_L49 (a0 : Option Nat) (a1 : Int32) (a2 : Int32) (a3 : Int32) (a4 : Int32) : Nat → Int32 → Int32 → xk_H → Option (Int32 × xk_H)
  | 0, _, _, _ => none
  | n + 1, a5, a6, h0 => xm_gR [2] 0 a0 h0 fun x9 => xm_lI [100] x9 (0 : Int32) h0 fun x10 => if x10 ≤ a6 then (some (a5, h0)) else (xm_rc [2] a0 h0 <| xm_cl (mf_X2_isAs a0 a6 (0 : Int32) a1 h0) fun r11 h12 => if xk_b2 r11 = 0 then (mf_X2_alike_L49 a0 a1 a2 a3 a4 n (a5 + (0 : Int32)) (a6 + 1) h12) else (xm_rc [2] a0 h12 <| xm_cl (mf_X2_isAs a0 a6 (1 : Int32) a2 h12) fun r13 h14 => if xk_b2 r13 = 0 then (mf_X2_alike_L49 a0 a1 a2 a3 a4 n (a5 + (0 : Int32)) (a6 + 1) h14) else (xm_rc [2] a0 h14 <| xm_cl (mf_X2_isAs a0 a6 (2 : Int32) a3 h14) fun r15 h16 => if xk_b2 r15 = 0 then (mf_X2_alike_L49 a0 a1 a2 a3 a4 n (a5 + (0 : Int32)) (a6 + 1) h16) else (xm_rc [2] a0 h16 <| xm_cl (mf_X2_isAs a0 a6 (3 : Int32) a4 h16) fun r17 h18 => if xk_b2 r17 = 0 then (mf_X2_alike_L49 a0 a1 a2 a3 a4 n (a5 + (0 : Int32)) (a6 + 1) h18) else (mf_X2_alike_L49 a0 a1 a2 a3 a4 n (a5 + (1 : Int32)) (a6 + 1) h18)))))
set_option maxHeartbeats 1000000 in
theorem wk_X2_alike_L49 {Γ : xk_C} {r : Int32} {h' : xk_H} {a0 : Option Nat} {a1 : Int32} {a2 : Int32} {a3 : Int32} {a4 : Int32} (C : xk_Cx Γ RX2 cX2_alike 7 (Option.some FieldType.int) "alike" 6 172) (Z : xk_Z Γ (some (.int r)) h') : ∀ (n : Nat) (a5 : Int32) (a6 : Int32) (h0 : xk_H), mf_X2_alike_L49 a0 a1 a2 a3 a4 n a5 a6 h0 = some (r, h') → xk_X Γ 49 [(0, va_rf a0), (1, .int a1), (2, .int a2), (3, .int a3), (4, .int a4), (5, .int a5), (6, .int a6)] [] h0 := by
  intro n
  induction n with
  | zero =>
    intro a5 a6 h0 E
    rw [mf_X2_alike_L49] at E
    cases E
  | succ n ih =>
    intro a5 a6 h0 E
    have hkb49 : ∀ (m5 : Int32) (m6 : Int32) (g : xk_H), mf_X2_alike_L49 a0 a1 a2 a3 a4 n m5 m6 g = some (r, h') → xk_X Γ 49 [(0, va_rf a0), (1, .int a1), (2, .int a2), (3, .int a3), (4, .int a4), (5, .int m5), (6, .int m6)] [] g := ih
    rw [mf_X2_alike_L49] at E
    refine xr_iload 6 C rfl dX2_alike_49 ?_
    refine xr_aload_n 0 C rfl rfl dX2_alike_51 ?_
    refine xr_gR C E xf_X2_7 dX2_alike_52 (fun x9 E => ?_)
    refine xr_iconst (0) C (by decide) dX2_alike_55 ?_
    refine xr_lI C E xt_100 dX2_alike_56 (fun x10 E => ?_)
    refine xr_icmp_ge 121 C E dX2_alike_57 (by decide) (fun E => ?_) (fun E => ?_)
    · refine xr_iload 5 C rfl dX2_alike_121 ?_
      exact xr_iret C Z E dX2_alike_123
    · refine xr_iload 5 C rfl dX2_alike_60 ?_
      refine xr_aload_n 0 C rfl rfl dX2_alike_62 ?_
      refine xr_iload 6 C rfl dX2_alike_63 ?_
      refine xr_iconst (0) C (by decide) dX2_alike_65 ?_
      refine xr_iload_n 1 C rfl rfl dX2_alike_66 ?_
      refine xr_V (v := a0) [.int a6, .int (0 : Int32), .int a1] [.int a5] (fun r => some (.int (xk_b2 r))) (fun r => .int (xk_b2 r) :: [.int a5]) C E xi_2_SlatCratesModel (fun r h' e => wk_X2_isAs e) q2429 q2431 qs69 q89 q2432 xh_SlatCratesModel xd_X2_isAs (by decide) (by decide) ⟨rfl, trivial⟩ (Nat.le_of_ble_eq_true rfl) rfl (fun _ => rfl) dX2_alike_67 (fun r11 h12 E => ?_)
      refine xr_if_eq 111 C E dX2_alike_70 (by decide) (fun E => ?_) (fun E => ?_)
      · refine xr_iconst (0) C (by decide) dX2_alike_111 ?_
        refine xr_iadd C dX2_alike_112 ?_
        refine xr_istore (L2 := [(5, .int (a5 + (0 : Int32))), (0, va_rf a0), (1, .int a1), (2, .int a2), (3, .int a3), (4, .int a4), (6, .int a6)]) C rfl dX2_alike_113 (by decide) ?_
        refine xr_iinc (v := (a6 + 1)) (L2 := [(6, .int (a6 + 1)), (5, .int (a5 + (0 : Int32))), (0, va_rf a0), (1, .int a1), (2, .int a2), (3, .int a3), (4, .int a4)]) 6 C rfl rfl rfl dX2_alike_115 (by decide) ?_
        refine xr_goto 49 C dX2_alike_118 (by decide) ?_
        refine xr_sub [2, 3, 4, 5, 6, 1, 0] rfl ?_
        exact hkb49 (a5 + (0 : Int32)) (a6 + 1) h12 E
      · refine xr_aload_n 0 C rfl rfl dX2_alike_73 ?_
        refine xr_iload 6 C rfl dX2_alike_74 ?_
        refine xr_iconst (1) C (by decide) dX2_alike_76 ?_
        refine xr_iload_n 2 C rfl rfl dX2_alike_77 ?_
        refine xr_V (v := a0) [.int a6, .int (1 : Int32), .int a2] [.int a5] (fun r => some (.int (xk_b2 r))) (fun r => .int (xk_b2 r) :: [.int a5]) C E xi_2_SlatCratesModel (fun r h' e => wk_X2_isAs e) q2429 q2431 qs69 q89 q2432 xh_SlatCratesModel xd_X2_isAs (by decide) (by decide) ⟨rfl, trivial⟩ (Nat.le_of_ble_eq_true rfl) rfl (fun _ => rfl) dX2_alike_78 (fun r13 h14 E => ?_)
        refine xr_if_eq 111 C E dX2_alike_81 (by decide) (fun E => ?_) (fun E => ?_)
        · refine xr_iconst (0) C (by decide) dX2_alike_111 ?_
          refine xr_iadd C dX2_alike_112 ?_
          refine xr_istore (L2 := [(5, .int (a5 + (0 : Int32))), (0, va_rf a0), (1, .int a1), (2, .int a2), (3, .int a3), (4, .int a4), (6, .int a6)]) C rfl dX2_alike_113 (by decide) ?_
          refine xr_iinc (v := (a6 + 1)) (L2 := [(6, .int (a6 + 1)), (5, .int (a5 + (0 : Int32))), (0, va_rf a0), (1, .int a1), (2, .int a2), (3, .int a3), (4, .int a4)]) 6 C rfl rfl rfl dX2_alike_115 (by decide) ?_
          refine xr_goto 49 C dX2_alike_118 (by decide) ?_
          refine xr_sub [2, 3, 4, 5, 6, 1, 0] rfl ?_
          exact hkb49 (a5 + (0 : Int32)) (a6 + 1) h14 E
        · refine xr_aload_n 0 C rfl rfl dX2_alike_84 ?_
          refine xr_iload 6 C rfl dX2_alike_85 ?_
          refine xr_iconst (2) C (by decide) dX2_alike_87 ?_
          refine xr_iload_n 3 C rfl rfl dX2_alike_88 ?_
          refine xr_V (v := a0) [.int a6, .int (2 : Int32), .int a3] [.int a5] (fun r => some (.int (xk_b2 r))) (fun r => .int (xk_b2 r) :: [.int a5]) C E xi_2_SlatCratesModel (fun r h' e => wk_X2_isAs e) q2429 q2431 qs69 q89 q2432 xh_SlatCratesModel xd_X2_isAs (by decide) (by decide) ⟨rfl, trivial⟩ (Nat.le_of_ble_eq_true rfl) rfl (fun _ => rfl) dX2_alike_89 (fun r15 h16 E => ?_)
          refine xr_if_eq 111 C E dX2_alike_92 (by decide) (fun E => ?_) (fun E => ?_)
          · refine xr_iconst (0) C (by decide) dX2_alike_111 ?_
            refine xr_iadd C dX2_alike_112 ?_
            refine xr_istore (L2 := [(5, .int (a5 + (0 : Int32))), (0, va_rf a0), (1, .int a1), (2, .int a2), (3, .int a3), (4, .int a4), (6, .int a6)]) C rfl dX2_alike_113 (by decide) ?_
            refine xr_iinc (v := (a6 + 1)) (L2 := [(6, .int (a6 + 1)), (5, .int (a5 + (0 : Int32))), (0, va_rf a0), (1, .int a1), (2, .int a2), (3, .int a3), (4, .int a4)]) 6 C rfl rfl rfl dX2_alike_115 (by decide) ?_
            refine xr_goto 49 C dX2_alike_118 (by decide) ?_
            refine xr_sub [2, 3, 4, 5, 6, 1, 0] rfl ?_
            exact hkb49 (a5 + (0 : Int32)) (a6 + 1) h16 E
          · refine xr_aload_n 0 C rfl rfl dX2_alike_95 ?_
            refine xr_iload 6 C rfl dX2_alike_96 ?_
            refine xr_iconst (3) C (by decide) dX2_alike_98 ?_
            refine xr_iload 4 C rfl dX2_alike_99 ?_
            refine xr_V (v := a0) [.int a6, .int (3 : Int32), .int a4] [.int a5] (fun r => some (.int (xk_b2 r))) (fun r => .int (xk_b2 r) :: [.int a5]) C E xi_2_SlatCratesModel (fun r h' e => wk_X2_isAs e) q2429 q2431 qs69 q89 q2432 xh_SlatCratesModel xd_X2_isAs (by decide) (by decide) ⟨rfl, trivial⟩ (Nat.le_of_ble_eq_true rfl) rfl (fun _ => rfl) dX2_alike_101 (fun r17 h18 E => ?_)
            refine xr_if_eq 111 C E dX2_alike_104 (by decide) (fun E => ?_) (fun E => ?_)
            · refine xr_iconst (0) C (by decide) dX2_alike_111 ?_
              refine xr_iadd C dX2_alike_112 ?_
              refine xr_istore (L2 := [(5, .int (a5 + (0 : Int32))), (0, va_rf a0), (1, .int a1), (2, .int a2), (3, .int a3), (4, .int a4), (6, .int a6)]) C rfl dX2_alike_113 (by decide) ?_
              refine xr_iinc (v := (a6 + 1)) (L2 := [(6, .int (a6 + 1)), (5, .int (a5 + (0 : Int32))), (0, va_rf a0), (1, .int a1), (2, .int a2), (3, .int a3), (4, .int a4)]) 6 C rfl rfl rfl dX2_alike_115 (by decide) ?_
              refine xr_goto 49 C dX2_alike_118 (by decide) ?_
              refine xr_sub [2, 3, 4, 5, 6, 1, 0] rfl ?_
              exact hkb49 (a5 + (0 : Int32)) (a6 + 1) h18 E
            · refine xr_iconst (1) C (by decide) dX2_alike_107 ?_
              refine xr_goto 112 C dX2_alike_108 (by decide) ?_
              refine xr_iadd C dX2_alike_112 ?_
              refine xr_istore (L2 := [(5, .int (a5 + (1 : Int32))), (0, va_rf a0), (1, .int a1), (2, .int a2), (3, .int a3), (4, .int a4), (6, .int a6)]) C rfl dX2_alike_113 (by decide) ?_
              refine xr_iinc (v := (a6 + 1)) (L2 := [(6, .int (a6 + 1)), (5, .int (a5 + (1 : Int32))), (0, va_rf a0), (1, .int a1), (2, .int a2), (3, .int a3), (4, .int a4)]) 6 C rfl rfl rfl dX2_alike_115 (by decide) ?_
              refine xr_goto 49 C dX2_alike_118 (by decide) ?_
              refine xr_sub [2, 3, 4, 5, 6, 1, 0] rfl ?_
              exact hkb49 (a5 + (1 : Int32)) (a6 + 1) h18 E
def mf_X2_alike (a0 : Option Nat) (a1 : Int32) (a2 : Int32) (a3 : Int32) (a4 : Int32) (h0 : xk_H) : Option (Int32 × xk_H) :=
  xm_cl (mf_X2_in a1 (0 : Int32) (28 : Int32) h0) fun r1 h2 => if xk_b2 r1 = 0 then (some ((-1 : Int32), h2)) else (xm_cl (mf_X2_in a2 (0 : Int32) (28 : Int32) h2) fun r3 h4 => if xk_b2 r3 = 0 then (some ((-1 : Int32), h4)) else (xm_cl (mf_X2_in a3 (0 : Int32) (28 : Int32) h4) fun r5 h6 => if xk_b2 r5 = 0 then (some ((-1 : Int32), h6)) else (xm_cl (mf_X2_in a4 (0 : Int32) (28 : Int32) h6) fun r7 h8 => if xk_b2 r7 = 0 then (some ((-1 : Int32), h8)) else (mf_X2_alike_L49 a0 a1 a2 a3 a4 xk_fu (0 : Int32) (0 : Int32) h8))))
set_option maxHeartbeats 1000000 in
theorem wk_X2_alike {l : Launch} {D : va_G} {base : Nat} {a0 : Option Nat} {a1 : Int32} {a2 : Int32} {a3 : Int32} {a4 : Int32} {h0 : xk_H} {r : Int32} {h' : xk_H} (E : mf_X2_alike a0 a1 a2 a3 a4 h0 = some (r, h')) : xk_Ok l D base yX2_alike cX2_alike 7 (Option.some FieldType.int) 6 172 [va_rf a0, .int a1, .int a2, .int a3, .int a4] h0 (some (.int r)) h' := by
  refine xk_ofX RX2 "alike" xq_X2_alike rfl rfl (Nat.le_of_ble_eq_true rfl) ⟨xk_crf _, ⟨rfl, ⟨rfl, ⟨rfl, ⟨rfl, trivial⟩⟩⟩⟩⟩ (fun Γ el eD eb C Z => ?_)
  rw [mf_X2_alike] at E
  show xk_X Γ 0 [(0, va_rf a0), (1, .int a1), (2, .int a2), (3, .int a3), (4, .int a4)] [] h0
  refine xr_iload_n 1 C rfl rfl dX2_alike_0 ?_
  refine xr_iconst (0) C (by decide) dX2_alike_1 ?_
  refine xr_bipush (28) C (by decide) dX2_alike_2 ?_
  refine xr_S [.int a1, .int (0 : Int32), .int (28 : Int32)] [] (fun r => some (.int (xk_b2 r))) (fun r => .int (xk_b2 r) :: []) C E (fun r h' e => wk_X2_in e) q2205 q2206 q89 q2207 xh_SlatCratesModel xd_X2_in (by decide) (by decide) trivial (Nat.le_of_ble_eq_true rfl) rfl (fun _ => rfl) dX2_alike_4 (fun r1 h2 E => ?_)
  refine xr_if_eq 41 C E dX2_alike_7 (by decide) (fun E => ?_) (fun E => ?_)
  · refine xr_iconst (-1) C (by decide) dX2_alike_41 ?_
    exact xr_iret C Z E dX2_alike_42
  · refine xr_iload_n 2 C rfl rfl dX2_alike_10 ?_
    refine xr_iconst (0) C (by decide) dX2_alike_11 ?_
    refine xr_bipush (28) C (by decide) dX2_alike_12 ?_
    refine xr_S [.int a2, .int (0 : Int32), .int (28 : Int32)] [] (fun r => some (.int (xk_b2 r))) (fun r => .int (xk_b2 r) :: []) C E (fun r h' e => wk_X2_in e) q2205 q2206 q89 q2207 xh_SlatCratesModel xd_X2_in (by decide) (by decide) trivial (Nat.le_of_ble_eq_true rfl) rfl (fun _ => rfl) dX2_alike_14 (fun r3 h4 E => ?_)
    refine xr_if_eq 41 C E dX2_alike_17 (by decide) (fun E => ?_) (fun E => ?_)
    · refine xr_iconst (-1) C (by decide) dX2_alike_41 ?_
      exact xr_iret C Z E dX2_alike_42
    · refine xr_iload_n 3 C rfl rfl dX2_alike_20 ?_
      refine xr_iconst (0) C (by decide) dX2_alike_21 ?_
      refine xr_bipush (28) C (by decide) dX2_alike_22 ?_
      refine xr_S [.int a3, .int (0 : Int32), .int (28 : Int32)] [] (fun r => some (.int (xk_b2 r))) (fun r => .int (xk_b2 r) :: []) C E (fun r h' e => wk_X2_in e) q2205 q2206 q89 q2207 xh_SlatCratesModel xd_X2_in (by decide) (by decide) trivial (Nat.le_of_ble_eq_true rfl) rfl (fun _ => rfl) dX2_alike_24 (fun r5 h6 E => ?_)
      refine xr_if_eq 41 C E dX2_alike_27 (by decide) (fun E => ?_) (fun E => ?_)
      · refine xr_iconst (-1) C (by decide) dX2_alike_41 ?_
        exact xr_iret C Z E dX2_alike_42
      · refine xr_iload 4 C rfl dX2_alike_30 ?_
        refine xr_iconst (0) C (by decide) dX2_alike_32 ?_
        refine xr_bipush (28) C (by decide) dX2_alike_33 ?_
        refine xr_S [.int a4, .int (0 : Int32), .int (28 : Int32)] [] (fun r => some (.int (xk_b2 r))) (fun r => .int (xk_b2 r) :: []) C E (fun r h' e => wk_X2_in e) q2205 q2206 q89 q2207 xh_SlatCratesModel xd_X2_in (by decide) (by decide) trivial (Nat.le_of_ble_eq_true rfl) rfl (fun _ => rfl) dX2_alike_35 (fun r7 h8 E => ?_)
        refine xr_if_ne 43 C E dX2_alike_38 (by decide) (fun E => ?_) (fun E => ?_)
        · refine xr_iconst (0) C (by decide) dX2_alike_43 ?_
          refine xr_istore (L2 := [(5, .int (0 : Int32)), (0, va_rf a0), (1, .int a1), (2, .int a2), (3, .int a3), (4, .int a4)]) C rfl dX2_alike_44 (by decide) ?_
          refine xr_iconst (0) C (by decide) dX2_alike_46 ?_
          refine xr_istore (L2 := [(6, .int (0 : Int32)), (5, .int (0 : Int32)), (0, va_rf a0), (1, .int a1), (2, .int a2), (3, .int a3), (4, .int a4)]) C rfl dX2_alike_47 (by decide) ?_
          refine xr_sub [2, 3, 4, 5, 6, 1, 0] rfl ?_
          exact wk_X2_alike_L49 (a0 := a0) (a1 := a1) (a2 := a2) (a3 := a3) (a4 := a4) C Z xk_fu (0 : Int32) (0 : Int32) h8 E
        · refine xr_iconst (-1) C (by decide) dX2_alike_41 ?_
          exact xr_iret C Z E dX2_alike_42
def mf_X2_isLoose (a0 : Option Nat) (a1 : Int32) (h0 : xk_H) : Option (Bool × xk_H) :=
  xm_rc [2] a0 h0 <| xm_cl (mf_X2_around a0 a1 h0) fun r1 h2 => if 0 ≤ r1 then (some (false, h2)) else (xm_rc [2] a0 h2 <| xm_cl (mf_X2_pile a0 a1 h2) fun r3 h4 => if r3 = 0 then (some (true, h4)) else (some (false, h4)))
set_option maxHeartbeats 1000000 in
theorem wk_X2_isLoose {l : Launch} {D : va_G} {base : Nat} {a0 : Option Nat} {a1 : Int32} {h0 : xk_H} {r : Bool} {h' : xk_H} (E : mf_X2_isLoose a0 a1 h0 = some (r, h')) : xk_Ok l D base yX2_isLoose cX2_isLoose 2 (Option.some FieldType.boolean) 4 126 [va_rf a0, .int a1] h0 (some (.int (xk_b2 r))) h' := by
  refine xk_ofX RX2 "isLoose" xq_X2_isLoose rfl rfl (Nat.le_of_ble_eq_true rfl) ⟨xk_crf _, ⟨rfl, trivial⟩⟩ (fun Γ el eD eb C Z => ?_)
  rw [mf_X2_isLoose] at E
  show xk_X Γ 0 [(0, va_rf a0), (1, .int a1)] [] h0
  refine xr_aload_n 0 C rfl rfl dX2_isLoose_0 ?_
  refine xr_iload_n 1 C rfl rfl dX2_isLoose_1 ?_
  refine xr_V (v := a0) [.int a1] [] (fun r => some (.int r)) (fun r => .int r :: []) C E xi_2_SlatCratesModel (fun r h' e => wk_X2_around e) q2243 q2245 qs38 q89 q2246 xh_SlatCratesModel xd_X2_around (by decide) (by decide) trivial (Nat.le_of_ble_eq_true rfl) rfl (fun _ => rfl) dX2_isLoose_2 (fun r1 h2 E => ?_)
  refine xr_if_ge 20 C E dX2_isLoose_5 (by decide) (fun E => ?_) (fun E => ?_)
  · refine xr_iconst (0) C (by decide) dX2_isLoose_20 ?_
    exact xr_bret (b := false) C Z E dX2_isLoose_21
  · refine xr_aload_n 0 C rfl rfl dX2_isLoose_8 ?_
    refine xr_iload_n 1 C rfl rfl dX2_isLoose_9 ?_
    refine xr_V (v := a0) [.int a1] [] (fun r => some (.int r)) (fun r => .int r :: []) C E xi_2_SlatCratesModel (fun r h' e => wk_X2_pile e) q2251 q2253 qs40 q89 q2254 xh_SlatCratesModel xd_X2_pile (by decide) (by decide) trivial (Nat.le_of_ble_eq_true rfl) rfl (fun _ => rfl) dX2_isLoose_10 (fun r3 h4 E => ?_)
    refine xr_if_ne 20 C E dX2_isLoose_13 (by decide) (fun E => ?_) (fun E => ?_)
    · refine xr_iconst (0) C (by decide) dX2_isLoose_20 ?_
      exact xr_bret (b := false) C Z E dX2_isLoose_21
    · refine xr_iconst (1) C (by decide) dX2_isLoose_16 ?_
      refine xr_goto 21 C dX2_isLoose_17 (by decide) ?_
      exact xr_bret (b := true) C Z E dX2_isLoose_21
def mf_X2_laysNests_L2 (kx37 : xk_H → Option (Unit × xk_H)) (a0 : Option Nat) : Nat → Int32 → xk_H → Option (Unit × xk_H)
  | 0, _, _ => none
  | n + 1, a1, h0 => xm_gR [2] 0 a0 h0 fun x1 => xm_lI [100] x1 (0 : Int32) h0 fun x2 => if x2 ≤ a1 then (kx37 h0) else (xm_gR [2] 18 a0 h0 fun x3 => xm_rc [2] a0 h0 <| xm_cl (mf_X2_isLoose a0 a1 h0) fun r4 h5 => if xk_b2 r4 = 0 then (xm_sV [100] x3 a1 (.int (0 : Int32)) h5 fun h6 => mf_X2_laysNests_L2 kx37 a0 n (a1 + 1) h6) else (xm_sV [100] x3 a1 (.int (1 : Int32)) h5 fun h7 => mf_X2_laysNests_L2 kx37 a0 n (a1 + 1) h7))
set_option maxHeartbeats 1000000 in
theorem wk_X2_laysNests_L2 {Γ : xk_C} {r : Unit} {h' : xk_H} {kx37 : xk_H → Option (Unit × xk_H)} {a0 : Option Nat} (C : xk_Cx Γ RX2 cX2_laysNests 5 none "laysNests" 5 147) (Z : xk_Z Γ none h') (hkx37 : ∀ (g : xk_H), kx37 g = some (r, h') → xk_X Γ 37 [(0, va_rf a0)] [] g) : ∀ (n : Nat) (a1 : Int32) (h0 : xk_H), mf_X2_laysNests_L2 kx37 a0 n a1 h0 = some (r, h') → xk_X Γ 2 [(0, va_rf a0), (1, .int a1)] [] h0 := by
  intro n
  induction n with
  | zero =>
    intro a1 h0 E
    rw [mf_X2_laysNests_L2] at E
    cases E
  | succ n ih =>
    intro a1 h0 E
    have hkb2 : ∀ (m1 : Int32) (g : xk_H), mf_X2_laysNests_L2 kx37 a0 n m1 g = some (r, h') → xk_X Γ 2 [(0, va_rf a0), (1, .int m1)] [] g := ih
    rw [mf_X2_laysNests_L2] at E
    refine xr_iload_n 1 C rfl rfl dX2_laysNests_2 ?_
    refine xr_aload_n 0 C rfl rfl dX2_laysNests_3 ?_
    refine xr_gR C E xf_X2_7 dX2_laysNests_4 (fun x1 E => ?_)
    refine xr_iconst (0) C (by decide) dX2_laysNests_7 ?_
    refine xr_lI C E xt_100 dX2_laysNests_8 (fun x2 E => ?_)
    refine xr_icmp_ge 37 C E dX2_laysNests_9 (by decide) (fun E => ?_) (fun E => ?_)
    · refine xr_sub [0] rfl ?_
      exact hkx37 h0 E
    · refine xr_aload_n 0 C rfl rfl dX2_laysNests_12 ?_
      refine xr_gR C E xf_X2_40 dX2_laysNests_13 (fun x3 E => ?_)
      refine xr_iload_n 1 C rfl rfl dX2_laysNests_16 ?_
      refine xr_aload_n 0 C rfl rfl dX2_laysNests_17 ?_
      refine xr_iload_n 1 C rfl rfl dX2_laysNests_18 ?_
      refine xr_V (v := a0) [.int a1] [.int a1, va_rf x3] (fun r => some (.int (xk_b2 r))) (fun r => .int (xk_b2 r) :: [.int a1, va_rf x3]) C E xi_2_SlatCratesModel (fun r h' e => wk_X2_isLoose e) q2445 q2447 qs72 q89 q2448 xh_SlatCratesModel xd_X2_isLoose (by decide) (by decide) ⟨rfl, ⟨xk_crf _, trivial⟩⟩ (Nat.le_of_ble_eq_true rfl) rfl (fun _ => rfl) dX2_laysNests_19 (fun r4 h5 E => ?_)
      refine xr_if_eq 29 C E dX2_laysNests_22 (by decide) (fun E => ?_) (fun E => ?_)
      · refine xr_iconst (0) C (by decide) dX2_laysNests_29 ?_
        refine xr_sI C E dX2_laysNests_30 (fun h6 E => ?_)
        refine xr_iinc (v := (a1 + 1)) (L2 := [(1, .int (a1 + 1)), (0, va_rf a0)]) 1 C rfl rfl rfl dX2_laysNests_31 (by decide) ?_
        refine xr_goto 2 C dX2_laysNests_34 (by decide) ?_
        refine xr_sub [1, 0] rfl ?_
        exact hkb2 (a1 + 1) h6 E
      · refine xr_iconst (1) C (by decide) dX2_laysNests_25 ?_
        refine xr_goto 30 C dX2_laysNests_26 (by decide) ?_
        refine xr_sI C E dX2_laysNests_30 (fun h7 E => ?_)
        refine xr_iinc (v := (a1 + 1)) (L2 := [(1, .int (a1 + 1)), (0, va_rf a0)]) 1 C rfl rfl rfl dX2_laysNests_31 (by decide) ?_
        refine xr_goto 2 C dX2_laysNests_34 (by decide) ?_
        refine xr_sub [1, 0] rfl ?_
        exact hkb2 (a1 + 1) h7 E
def mf_X2_laysNests_J111 (kb63 : Int32 → xk_H → Option (Unit × xk_H)) (a0 : Option Nat) (a1 : Int32) (a2 : Int32) (a3 : Int32) (s0 : Int32) (h0 : xk_H) : Option (Unit × xk_H) :=
  xm_gR [2] 18 a0 h0 fun x17 => if s0 = 0 then (xm_gR [2] 18 a0 h0 fun x18 => xm_lI [100] x18 a2 h0 fun x19 => xm_sV [100] x17 a2 (.int x19) h0 fun h20 => kb63 (a3 + 1) h20) else (xm_gR [2] 18 a0 h0 fun x21 => xm_lI [100] x21 a3 h0 fun x22 => xm_gR [2] 18 a0 h0 fun x23 => xm_lI [100] x23 a2 h0 fun x24 => if (x22 + (1 : Int32)) ≤ x24 then (xm_gR [2] 18 a0 h0 fun x25 => xm_lI [100] x25 a2 h0 fun x26 => xm_sV [100] x17 a2 (.int x26) h0 fun h27 => kb63 (a3 + 1) h27) else (xm_gR [2] 18 a0 h0 fun x28 => xm_lI [100] x28 a3 h0 fun x29 => xm_sV [100] x17 a2 (.int (x29 + (1 : Int32))) h0 fun h30 => kb63 (a3 + 1) h30))
set_option maxHeartbeats 1000000 in
theorem wk_X2_laysNests_J111 {Γ : xk_C} {r : Unit} {h' : xk_H} {kb63 : Int32 → xk_H → Option (Unit × xk_H)} {a0 : Option Nat} {a1 : Int32} {a2 : Int32} {a3 : Int32} {s0 : Int32} {h0 : xk_H} (C : xk_Cx Γ RX2 cX2_laysNests 5 none "laysNests" 5 147) (Z : xk_Z Γ none h') (hkb63 : ∀ (m3 : Int32) (g : xk_H), kb63 m3 g = some (r, h') → xk_X Γ 63 [(0, va_rf a0), (1, .int a1), (2, .int a2), (3, .int m3)] [] g) (E : mf_X2_laysNests_J111 kb63 a0 a1 a2 a3 s0 h0 = some (r, h')) : xk_X Γ 111 [(0, va_rf a0), (1, .int a1), (2, .int a2), (3, .int a3)] [.int s0] h0 := by
  rw [mf_X2_laysNests_J111] at E
  refine xr_istore (L2 := [(4, .int s0), (0, va_rf a0), (1, .int a1), (2, .int a2), (3, .int a3)]) C rfl dX2_laysNests_111 (by decide) ?_
  refine xr_aload_n 1 C rfl rfl dX2_laysNests_113 ?_
  refine xr_gR C E xf_X2_40 dX2_laysNests_114 (fun x17 E => ?_)
  refine xr_iload_n 3 C rfl rfl dX2_laysNests_117 ?_
  refine xr_iload 0 C rfl dX2_laysNests_118 ?_
  refine xr_if_eq 151 C E dX2_laysNests_120 (by decide) (fun E => ?_) (fun E => ?_)
  · refine xr_aload_n 1 C rfl rfl dX2_laysNests_151 ?_
    refine xr_gR C E xf_X2_40 dX2_laysNests_152 (fun x18 E => ?_)
    refine xr_iload_n 3 C rfl rfl dX2_laysNests_155 ?_
    refine xr_lI C E xt_100 dX2_laysNests_156 (fun x19 E => ?_)
    refine xr_sI C E dX2_laysNests_157 (fun h20 E => ?_)
    refine xr_iinc (v := (a3 + 1)) (L2 := [(3, .int (a3 + 1)), (4, .int s0), (0, va_rf a0), (1, .int a1), (2, .int a2)]) 4 C rfl rfl rfl dX2_laysNests_158 (by decide) ?_
    refine xr_goto 63 C dX2_laysNests_161 (by decide) ?_
    refine xr_sub [2, 3, 4, 0] rfl ?_
    exact hkb63 (a3 + 1) h20 E
  · refine xr_aload_n 1 C rfl rfl dX2_laysNests_123 ?_
    refine xr_gR C E xf_X2_40 dX2_laysNests_124 (fun x21 E => ?_)
    refine xr_iload_n 4 C rfl rfl dX2_laysNests_127 ?_
    refine xr_lI C E xt_100 dX2_laysNests_128 (fun x22 E => ?_)
    refine xr_iconst (1) C (by decide) dX2_laysNests_129 ?_
    refine xr_iadd C dX2_laysNests_130 ?_
    refine xr_aload_n 1 C rfl rfl dX2_laysNests_131 ?_
    refine xr_gR C E xf_X2_40 dX2_laysNests_132 (fun x23 E => ?_)
    refine xr_iload_n 3 C rfl rfl dX2_laysNests_135 ?_
    refine xr_lI C E xt_100 dX2_laysNests_136 (fun x24 E => ?_)
    refine xr_icmp_le 151 C E dX2_laysNests_137 (by decide) (fun E => ?_) (fun E => ?_)
    · refine xr_aload_n 1 C rfl rfl dX2_laysNests_151 ?_
      refine xr_gR C E xf_X2_40 dX2_laysNests_152 (fun x25 E => ?_)
      refine xr_iload_n 3 C rfl rfl dX2_laysNests_155 ?_
      refine xr_lI C E xt_100 dX2_laysNests_156 (fun x26 E => ?_)
      refine xr_sI C E dX2_laysNests_157 (fun h27 E => ?_)
      refine xr_iinc (v := (a3 + 1)) (L2 := [(3, .int (a3 + 1)), (4, .int s0), (0, va_rf a0), (1, .int a1), (2, .int a2)]) 4 C rfl rfl rfl dX2_laysNests_158 (by decide) ?_
      refine xr_goto 63 C dX2_laysNests_161 (by decide) ?_
      refine xr_sub [2, 3, 4, 0] rfl ?_
      exact hkb63 (a3 + 1) h27 E
    · refine xr_aload_n 1 C rfl rfl dX2_laysNests_140 ?_
      refine xr_gR C E xf_X2_40 dX2_laysNests_141 (fun x28 E => ?_)
      refine xr_iload_n 4 C rfl rfl dX2_laysNests_144 ?_
      refine xr_lI C E xt_100 dX2_laysNests_145 (fun x29 E => ?_)
      refine xr_iconst (1) C (by decide) dX2_laysNests_146 ?_
      refine xr_iadd C dX2_laysNests_147 ?_
      refine xr_goto 157 C dX2_laysNests_148 (by decide) ?_
      refine xr_sI C E dX2_laysNests_157 (fun h30 E => ?_)
      refine xr_iinc (v := (a3 + 1)) (L2 := [(3, .int (a3 + 1)), (4, .int s0), (0, va_rf a0), (1, .int a1), (2, .int a2)]) 4 C rfl rfl rfl dX2_laysNests_158 (by decide) ?_
      refine xr_goto 63 C dX2_laysNests_161 (by decide) ?_
      refine xr_sub [2, 3, 4, 0] rfl ?_
      exact hkb63 (a3 + 1) h30 E
def mf_X2_laysNests_L63 (kx164 : xk_H → Option (Unit × xk_H)) (a0 : Option Nat) (a1 : Int32) (a2 : Int32) : Nat → Int32 → xk_H → Option (Unit × xk_H)
  | 0, _, _ => none
  | n + 1, a3, h0 => xm_gR [2] 0 a0 h0 fun x13 => xm_lI [100] x13 (0 : Int32) h0 fun x14 => if x14 ≤ a3 then (kx164 h0) else (xm_gR [2] 18 a0 h0 fun x15 => xm_lI [100] x15 a2 h0 fun x16 => if x16 ≤ 0 then (mf_X2_laysNests_J111 (fun m3 g => mf_X2_laysNests_L63 kx164 a0 a1 a2 n m3 g) a0 a1 a2 a3 (0 : Int32) h0) else (xm_gR [2] 18 a0 h0 fun x31 => xm_lI [100] x31 a3 h0 fun x32 => if x32 ≤ 0 then (mf_X2_laysNests_J111 (fun m3 g => mf_X2_laysNests_L63 kx164 a0 a1 a2 n m3 g) a0 a1 a2 a3 (0 : Int32) h0) else (xm_rc [2] a0 h0 <| xm_cl (mf_X2_of a0 a3 (0 : Int32) h0) fun r33 h34 => xm_rc [2] a0 h34 <| xm_cl (mf_X2_of a0 a2 (1 : Int32) h34) fun r35 h36 => if r35 < r33 then (mf_X2_laysNests_J111 (fun m3 g => mf_X2_laysNests_L63 kx164 a0 a1 a2 n m3 g) a0 a1 a2 a3 (0 : Int32) h36) else (mf_X2_laysNests_J111 (fun m3 g => mf_X2_laysNests_L63 kx164 a0 a1 a2 n m3 g) a0 a1 a2 a3 (1 : Int32) h36))))
set_option maxHeartbeats 1000000 in
theorem wk_X2_laysNests_L63 {Γ : xk_C} {r : Unit} {h' : xk_H} {kx164 : xk_H → Option (Unit × xk_H)} {a0 : Option Nat} {a1 : Int32} {a2 : Int32} (C : xk_Cx Γ RX2 cX2_laysNests 5 none "laysNests" 5 147) (Z : xk_Z Γ none h') (hkx164 : ∀ (g : xk_H), kx164 g = some (r, h') → xk_X Γ 164 [(0, va_rf a0), (1, .int a1), (2, .int a2)] [] g) : ∀ (n : Nat) (a3 : Int32) (h0 : xk_H), mf_X2_laysNests_L63 kx164 a0 a1 a2 n a3 h0 = some (r, h') → xk_X Γ 63 [(0, va_rf a0), (1, .int a1), (2, .int a2), (3, .int a3)] [] h0 := by
  intro n
  induction n with
  | zero =>
    intro a3 h0 E
    rw [mf_X2_laysNests_L63] at E
    cases E
  | succ n ih =>
    intro a3 h0 E
    have hkb63 : ∀ (m3 : Int32) (g : xk_H), mf_X2_laysNests_L63 kx164 a0 a1 a2 n m3 g = some (r, h') → xk_X Γ 63 [(0, va_rf a0), (1, .int a1), (2, .int a2), (3, .int m3)] [] g := ih
    rw [mf_X2_laysNests_L63] at E
    refine xr_iload_n 3 C rfl rfl dX2_laysNests_63 ?_
    refine xr_aload_n 0 C rfl rfl dX2_laysNests_64 ?_
    refine xr_gR C E xf_X2_7 dX2_laysNests_65 (fun x13 E => ?_)
    refine xr_iconst (0) C (by decide) dX2_laysNests_68 ?_
    refine xr_lI C E xt_100 dX2_laysNests_69 (fun x14 E => ?_)
    refine xr_icmp_ge 164 C E dX2_laysNests_70 (by decide) (fun E => ?_) (fun E => ?_)
    · refine xr_sub [0, 1, 2] rfl ?_
      exact hkx164 h0 E
    · refine xr_aload_n 0 C rfl rfl dX2_laysNests_73 ?_
      refine xr_gR C E xf_X2_40 dX2_laysNests_74 (fun x15 E => ?_)
      refine xr_iload_n 2 C rfl rfl dX2_laysNests_77 ?_
      refine xr_lI C E xt_100 dX2_laysNests_78 (fun x16 E => ?_)
      refine xr_if_le 110 C E dX2_laysNests_79 (by decide) (fun E => ?_) (fun E => ?_)
      · refine xr_iconst (0) C (by decide) dX2_laysNests_110 ?_
        exact wk_X2_laysNests_J111 C Z hkb63 E
      · refine xr_aload_n 0 C rfl rfl dX2_laysNests_82 ?_
        refine xr_gR C E xf_X2_40 dX2_laysNests_83 (fun x31 E => ?_)
        refine xr_iload_n 3 C rfl rfl dX2_laysNests_86 ?_
        refine xr_lI C E xt_100 dX2_laysNests_87 (fun x32 E => ?_)
        refine xr_if_le 110 C E dX2_laysNests_88 (by decide) (fun E => ?_) (fun E => ?_)
        · refine xr_iconst (0) C (by decide) dX2_laysNests_110 ?_
          exact wk_X2_laysNests_J111 C Z hkb63 E
        · refine xr_aload_n 0 C rfl rfl dX2_laysNests_91 ?_
          refine xr_iload_n 3 C rfl rfl dX2_laysNests_92 ?_
          refine xr_iconst (0) C (by decide) dX2_laysNests_93 ?_
          refine xr_V (v := a0) [.int a3, .int (0 : Int32)] [] (fun r => some (.int r)) (fun r => .int r :: []) C E xi_2_SlatCratesModel (fun r h' e => wk_X2_of e) q2247 q2249 qs39 q89 q2250 xh_SlatCratesModel xd_X2_of (by decide) (by decide) trivial (Nat.le_of_ble_eq_true rfl) rfl (fun _ => rfl) dX2_laysNests_94 (fun r33 h34 E => ?_)
          refine xr_aload_n 0 C rfl rfl dX2_laysNests_97 ?_
          refine xr_iload_n 2 C rfl rfl dX2_laysNests_98 ?_
          refine xr_iconst (1) C (by decide) dX2_laysNests_99 ?_
          refine xr_V (v := a0) [.int a2, .int (1 : Int32)] [.int r33] (fun r => some (.int r)) (fun r => .int r :: [.int r33]) C E xi_2_SlatCratesModel (fun r h' e => wk_X2_of e) q2247 q2249 qs39 q89 q2250 xh_SlatCratesModel xd_X2_of (by decide) (by decide) ⟨rfl, trivial⟩ (Nat.le_of_ble_eq_true rfl) rfl (fun _ => rfl) dX2_laysNests_100 (fun r35 h36 E => ?_)
          refine xr_icmp_gt 110 C E dX2_laysNests_103 (by decide) (fun E => ?_) (fun E => ?_)
          · refine xr_iconst (0) C (by decide) dX2_laysNests_110 ?_
            exact wk_X2_laysNests_J111 C Z hkb63 E
          · refine xr_iconst (1) C (by decide) dX2_laysNests_106 ?_
            refine xr_goto 111 C dX2_laysNests_107 (by decide) ?_
            exact wk_X2_laysNests_J111 C Z hkb63 E
def mf_X2_laysNests_L51 (kx170 : xk_H → Option (Unit × xk_H)) (a0 : Option Nat) (a1 : Int32) : Nat → Int32 → xk_H → Option (Unit × xk_H)
  | 0, _, _ => none
  | n + 1, a2, h0 => xm_gR [2] 0 a0 h0 fun x11 => xm_lI [100] x11 (0 : Int32) h0 fun x12 => if x12 ≤ a2 then (kx170 h0) else (mf_X2_laysNests_L63 (fun h37 => mf_X2_laysNests_L51 kx170 a0 a1 n (a2 + 1) h37) a0 a1 a2 xk_fu (0 : Int32) h0)
set_option maxHeartbeats 1000000 in
theorem wk_X2_laysNests_L51 {Γ : xk_C} {r : Unit} {h' : xk_H} {kx170 : xk_H → Option (Unit × xk_H)} {a0 : Option Nat} {a1 : Int32} (C : xk_Cx Γ RX2 cX2_laysNests 5 none "laysNests" 5 147) (Z : xk_Z Γ none h') (hkx170 : ∀ (g : xk_H), kx170 g = some (r, h') → xk_X Γ 170 [(0, va_rf a0), (1, .int a1)] [] g) : ∀ (n : Nat) (a2 : Int32) (h0 : xk_H), mf_X2_laysNests_L51 kx170 a0 a1 n a2 h0 = some (r, h') → xk_X Γ 51 [(0, va_rf a0), (1, .int a1), (2, .int a2)] [] h0 := by
  intro n
  induction n with
  | zero =>
    intro a2 h0 E
    rw [mf_X2_laysNests_L51] at E
    cases E
  | succ n ih =>
    intro a2 h0 E
    have hkb51 : ∀ (m2 : Int32) (g : xk_H), mf_X2_laysNests_L51 kx170 a0 a1 n m2 g = some (r, h') → xk_X Γ 51 [(0, va_rf a0), (1, .int a1), (2, .int m2)] [] g := ih
    rw [mf_X2_laysNests_L51] at E
    refine xr_iload_n 2 C rfl rfl dX2_laysNests_51 ?_
    refine xr_aload_n 0 C rfl rfl dX2_laysNests_52 ?_
    refine xr_gR C E xf_X2_7 dX2_laysNests_53 (fun x11 E => ?_)
    refine xr_iconst (0) C (by decide) dX2_laysNests_56 ?_
    refine xr_lI C E xt_100 dX2_laysNests_57 (fun x12 E => ?_)
    refine xr_icmp_ge 170 C E dX2_laysNests_58 (by decide) (fun E => ?_) (fun E => ?_)
    · refine xr_sub [0, 1] rfl ?_
      exact hkx170 h0 E
    · refine xr_iconst (0) C (by decide) dX2_laysNests_61 ?_
      refine xr_istore_n (L2 := [(3, .int (0 : Int32)), (0, va_rf a0), (1, .int a1), (2, .int a2)]) C rfl rfl dX2_laysNests_62 (by decide) ?_
      refine xr_sub [1, 2, 3, 0] rfl ?_
      refine wk_X2_laysNests_L63 (a0 := a0) (a1 := a1) (a2 := a2) C Z (fun h37 E => ?_) xk_fu (0 : Int32) h0 E
      · refine xr_iinc (v := (a2 + 1)) (L2 := [(2, .int (a2 + 1)), (0, va_rf a0), (1, .int a1)]) 2 C rfl rfl rfl dX2_laysNests_164 (by decide) ?_
        refine xr_goto 51 C dX2_laysNests_167 (by decide) ?_
        refine xr_sub [1, 2, 0] rfl ?_
        exact hkb51 (a2 + 1) h37 E
def mf_X2_laysNests_L39 (a0 : Option Nat) : Nat → Int32 → xk_H → Option (Unit × xk_H)
  | 0, _, _ => none
  | n + 1, a1, h0 => xm_gR [2] 0 a0 h0 fun x9 => xm_lI [100] x9 (0 : Int32) h0 fun x10 => if x10 ≤ a1 then (some ((), h0)) else (mf_X2_laysNests_L51 (fun h38 => mf_X2_laysNests_L39 a0 n (a1 + 1) h38) a0 a1 xk_fu (0 : Int32) h0)
set_option maxHeartbeats 1000000 in
theorem wk_X2_laysNests_L39 {Γ : xk_C} {r : Unit} {h' : xk_H} {a0 : Option Nat} (C : xk_Cx Γ RX2 cX2_laysNests 5 none "laysNests" 5 147) (Z : xk_Z Γ none h') : ∀ (n : Nat) (a1 : Int32) (h0 : xk_H), mf_X2_laysNests_L39 a0 n a1 h0 = some (r, h') → xk_X Γ 39 [(0, va_rf a0), (1, .int a1)] [] h0 := by
  intro n
  induction n with
  | zero =>
    intro a1 h0 E
    rw [mf_X2_laysNests_L39] at E
    cases E
  | succ n ih =>
    intro a1 h0 E
    have hkb39 : ∀ (m1 : Int32) (g : xk_H), mf_X2_laysNests_L39 a0 n m1 g = some (r, h') → xk_X Γ 39 [(0, va_rf a0), (1, .int m1)] [] g := ih
    rw [mf_X2_laysNests_L39] at E
    refine xr_iload_n 1 C rfl rfl dX2_laysNests_39 ?_
    refine xr_aload_n 0 C rfl rfl dX2_laysNests_40 ?_
    refine xr_gR C E xf_X2_7 dX2_laysNests_41 (fun x9 E => ?_)
    refine xr_iconst (0) C (by decide) dX2_laysNests_44 ?_
    refine xr_lI C E xt_100 dX2_laysNests_45 (fun x10 E => ?_)
    refine xr_icmp_ge 176 C E dX2_laysNests_46 (by decide) (fun E => ?_) (fun E => ?_)
    · exact xr_vret C Z E dX2_laysNests_176
    · refine xr_iconst (0) C (by decide) dX2_laysNests_49 ?_
      refine xr_istore_n (L2 := [(2, .int (0 : Int32)), (0, va_rf a0), (1, .int a1)]) C rfl rfl dX2_laysNests_50 (by decide) ?_
      refine xr_sub [1, 2, 0] rfl ?_
      refine wk_X2_laysNests_L51 (a0 := a0) (a1 := a1) C Z (fun h38 E => ?_) xk_fu (0 : Int32) h0 E
      · refine xr_iinc (v := (a1 + 1)) (L2 := [(1, .int (a1 + 1)), (0, va_rf a0)]) 1 C rfl rfl rfl dX2_laysNests_170 (by decide) ?_
        refine xr_goto 39 C dX2_laysNests_173 (by decide) ?_
        refine xr_sub [1, 0] rfl ?_
        exact hkb39 (a1 + 1) h38 E
def mf_X2_laysNests (a0 : Option Nat) (h0 : xk_H) : Option (Unit × xk_H) :=
  mf_X2_laysNests_L2 (fun h8 => mf_X2_laysNests_L39 a0 xk_fu (0 : Int32) h8) a0 xk_fu (0 : Int32) h0
set_option maxHeartbeats 1000000 in
theorem wk_X2_laysNests {l : Launch} {D : va_G} {base : Nat} {a0 : Option Nat} {h0 : xk_H} {r : Unit} {h' : xk_H} (E : mf_X2_laysNests a0 h0 = some (r, h')) : xk_Ok l D base yX2_laysNests cX2_laysNests 5 none 5 147 [va_rf a0] h0 none h' := by
  refine xk_ofX RX2 "laysNests" xq_X2_laysNests rfl rfl (Nat.le_of_ble_eq_true rfl) ⟨xk_crf _, trivial⟩ (fun Γ el eD eb C Z => ?_)
  rw [mf_X2_laysNests] at E
  show xk_X Γ 0 [(0, va_rf a0)] [] h0
  refine xr_iconst (0) C (by decide) dX2_laysNests_0 ?_
  refine xr_istore_n (L2 := [(1, .int (0 : Int32)), (0, va_rf a0)]) C rfl rfl dX2_laysNests_1 (by decide) ?_
  refine xr_sub [1, 0] rfl ?_
  refine wk_X2_laysNests_L2 (a0 := a0) C Z (fun h8 E => ?_) xk_fu (0 : Int32) h0 E
  · refine xr_iconst (0) C (by decide) dX2_laysNests_37 ?_
    refine xr_istore_n (L2 := [(1, .int (0 : Int32)), (0, va_rf a0)]) C rfl rfl dX2_laysNests_38 (by decide) ?_
    refine xr_sub [1, 0] rfl ?_
    exact wk_X2_laysNests_L39 (a0 := a0) C Z xk_fu (0 : Int32) h8 E
def mf_X2_longestNest_L8 (a0 : Option Nat) : Nat → Int32 → Int32 → xk_H → Option (Int32 × xk_H)
  | 0, _, _, _ => none
  | n + 1, a1, a2, h0 => xm_gR [2] 0 a0 h0 fun x3 => xm_lI [100] x3 (0 : Int32) h0 fun x4 => if x4 ≤ a2 then (some (a1, h0)) else (xm_gR [2] 18 a0 h0 fun x5 => xm_lI [100] x5 a2 h0 fun x6 => if x6 ≤ a1 then (mf_X2_longestNest_L8 a0 n a1 (a2 + 1) h0) else (xm_gR [2] 18 a0 h0 fun x7 => xm_lI [100] x7 a2 h0 fun x8 => mf_X2_longestNest_L8 a0 n x8 (a2 + 1) h0))
set_option maxHeartbeats 1000000 in
theorem wk_X2_longestNest_L8 {Γ : xk_C} {r : Int32} {h' : xk_H} {a0 : Option Nat} (C : xk_Cx Γ RX2 cX2_longestNest 3 (Option.some FieldType.int) "longestNest" 6 171) (Z : xk_Z Γ (some (.int r)) h') : ∀ (n : Nat) (a1 : Int32) (a2 : Int32) (h0 : xk_H), mf_X2_longestNest_L8 a0 n a1 a2 h0 = some (r, h') → xk_X Γ 8 [(0, va_rf a0), (1, .int a1), (2, .int a2)] [] h0 := by
  intro n
  induction n with
  | zero =>
    intro a1 a2 h0 E
    rw [mf_X2_longestNest_L8] at E
    cases E
  | succ n ih =>
    intro a1 a2 h0 E
    have hkb8 : ∀ (m1 : Int32) (m2 : Int32) (g : xk_H), mf_X2_longestNest_L8 a0 n m1 m2 g = some (r, h') → xk_X Γ 8 [(0, va_rf a0), (1, .int m1), (2, .int m2)] [] g := ih
    rw [mf_X2_longestNest_L8] at E
    refine xr_iload_n 2 C rfl rfl dX2_longestNest_8 ?_
    refine xr_aload_n 0 C rfl rfl dX2_longestNest_9 ?_
    refine xr_gR C E xf_X2_7 dX2_longestNest_10 (fun x3 E => ?_)
    refine xr_iconst (0) C (by decide) dX2_longestNest_13 ?_
    refine xr_lI C E xt_100 dX2_longestNest_14 (fun x4 E => ?_)
    refine xr_icmp_ge 45 C E dX2_longestNest_15 (by decide) (fun E => ?_) (fun E => ?_)
    · refine xr_iload_n 1 C rfl rfl dX2_longestNest_45 ?_
      exact xr_iret C Z E dX2_longestNest_46
    · refine xr_aload_n 0 C rfl rfl dX2_longestNest_18 ?_
      refine xr_gR C E xf_X2_40 dX2_longestNest_19 (fun x5 E => ?_)
      refine xr_iload_n 2 C rfl rfl dX2_longestNest_22 ?_
      refine xr_lI C E xt_100 dX2_longestNest_23 (fun x6 E => ?_)
      refine xr_iload_n 1 C rfl rfl dX2_longestNest_24 ?_
      refine xr_icmp_le 37 C E dX2_longestNest_25 (by decide) (fun E => ?_) (fun E => ?_)
      · refine xr_iload_n 1 C rfl rfl dX2_longestNest_37 ?_
        refine xr_istore_n (L2 := [(1, .int a1), (0, va_rf a0), (2, .int a2)]) C rfl rfl dX2_longestNest_38 (by decide) ?_
        refine xr_iinc (v := (a2 + 1)) (L2 := [(2, .int (a2 + 1)), (1, .int a1), (0, va_rf a0)]) 2 C rfl rfl rfl dX2_longestNest_39 (by decide) ?_
        refine xr_goto 8 C dX2_longestNest_42 (by decide) ?_
        refine xr_sub [2, 1, 0] rfl ?_
        exact hkb8 a1 (a2 + 1) h0 E
      · refine xr_aload_n 0 C rfl rfl dX2_longestNest_28 ?_
        refine xr_gR C E xf_X2_40 dX2_longestNest_29 (fun x7 E => ?_)
        refine xr_iload_n 2 C rfl rfl dX2_longestNest_32 ?_
        refine xr_lI C E xt_100 dX2_longestNest_33 (fun x8 E => ?_)
        refine xr_goto 38 C dX2_longestNest_34 (by decide) ?_
        refine xr_istore_n (L2 := [(1, .int x8), (0, va_rf a0), (2, .int a2)]) C rfl rfl dX2_longestNest_38 (by decide) ?_
        refine xr_iinc (v := (a2 + 1)) (L2 := [(2, .int (a2 + 1)), (1, .int x8), (0, va_rf a0)]) 2 C rfl rfl rfl dX2_longestNest_39 (by decide) ?_
        refine xr_goto 8 C dX2_longestNest_42 (by decide) ?_
        refine xr_sub [2, 1, 0] rfl ?_
        exact hkb8 x8 (a2 + 1) h0 E
def mf_X2_longestNest (a0 : Option Nat) (h0 : xk_H) : Option (Int32 × xk_H) :=
  xm_rc [2] a0 h0 <| xm_cl (mf_X2_laysNests a0 h0) fun r1 h2 => mf_X2_longestNest_L8 a0 xk_fu (0 : Int32) (0 : Int32) h2
set_option maxHeartbeats 1000000 in
theorem wk_X2_longestNest {l : Launch} {D : va_G} {base : Nat} {a0 : Option Nat} {h0 : xk_H} {r : Int32} {h' : xk_H} (E : mf_X2_longestNest a0 h0 = some (r, h')) : xk_Ok l D base yX2_longestNest cX2_longestNest 3 (Option.some FieldType.int) 6 171 [va_rf a0] h0 (some (.int r)) h' := by
  refine xk_ofX RX2 "longestNest" xq_X2_longestNest rfl rfl (Nat.le_of_ble_eq_true rfl) ⟨xk_crf _, trivial⟩ (fun Γ el eD eb C Z => ?_)
  rw [mf_X2_longestNest] at E
  show xk_X Γ 0 [(0, va_rf a0)] [] h0
  refine xr_aload_n 0 C rfl rfl dX2_longestNest_0 ?_
  refine xr_V (v := a0) [] [] (fun _ => none) (fun _ => []) C E xi_2_SlatCratesModel (fun r h' e => wk_X2_laysNests e) q2441 q2443 qs71 q89 q2444 xh_SlatCratesModel xd_X2_laysNests (by decide) (by decide) trivial (Nat.le_of_ble_eq_true rfl) rfl (fun _ => rfl) dX2_longestNest_1 (fun r1 h2 E => ?_)
  refine xr_iconst (0) C (by decide) dX2_longestNest_4 ?_
  refine xr_istore_n (L2 := [(1, .int (0 : Int32)), (0, va_rf a0)]) C rfl rfl dX2_longestNest_5 (by decide) ?_
  refine xr_iconst (0) C (by decide) dX2_longestNest_6 ?_
  refine xr_istore_n (L2 := [(2, .int (0 : Int32)), (1, .int (0 : Int32)), (0, va_rf a0)]) C rfl rfl dX2_longestNest_7 (by decide) ?_
  refine xr_sub [2, 1, 0] rfl ?_
  exact wk_X2_longestNest_L8 (a0 := a0) C Z xk_fu (0 : Int32) (0 : Int32) h2 E
def mf_X2_nest_L49 (kx95 : Int32 → xk_H → Option (Int32 × xk_H)) (a0 : Option Nat) (a1 : Int32) (a2 : Int32) (a4 : Int32) (a5 : Int32) : Nat → Int32 → Int32 → xk_H → Option (Int32 × xk_H)
  | 0, _, _, _ => none
  | n + 1, a6, a7, h0 => if a7 < 0 then (kx95 a6 h0) else (xm_gR [2] 18 a0 h0 fun x5 => xm_lI [100] x5 a7 h0 fun x6 => if x6 = (a2 - a5) then (xm_rc [2] a0 h0 <| xm_cl (mf_X2_of a0 a7 (0 : Int32) h0) fun r7 h8 => if a4 < r7 then (mf_X2_nest_L49 kx95 a0 a1 a2 a4 a5 n a6 (a7 + (-1 : Int32)) h8) else (mf_X2_nest_L49 kx95 a0 a1 a2 a4 a5 n a7 (a7 + (-1 : Int32)) h8)) else (mf_X2_nest_L49 kx95 a0 a1 a2 a4 a5 n a6 (a7 + (-1 : Int32)) h0))
set_option maxHeartbeats 1000000 in
theorem wk_X2_nest_L49 {Γ : xk_C} {r : Int32} {h' : xk_H} {kx95 : Int32 → xk_H → Option (Int32 × xk_H)} {a0 : Option Nat} {a1 : Int32} {a2 : Int32} {a4 : Int32} {a5 : Int32} (C : xk_Cx Γ RX2 cX2_nest 8 (Option.some FieldType.int) "nest" 7 193) (Z : xk_Z Γ (some (.int r)) h') (hkx95 : ∀ (m6 : Int32) (g : xk_H), kx95 m6 g = some (r, h') → xk_X Γ 95 [(0, va_rf a0), (1, .int a1), (2, .int a2), (5, .int a5), (6, .int m6)] [] g) : ∀ (n : Nat) (a6 : Int32) (a7 : Int32) (h0 : xk_H), mf_X2_nest_L49 kx95 a0 a1 a2 a4 a5 n a6 a7 h0 = some (r, h') → xk_X Γ 49 [(0, va_rf a0), (1, .int a1), (2, .int a2), (4, .int a4), (5, .int a5), (6, .int a6), (7, .int a7)] [] h0 := by
  intro n
  induction n with
  | zero =>
    intro a6 a7 h0 E
    rw [mf_X2_nest_L49] at E
    cases E
  | succ n ih =>
    intro a6 a7 h0 E
    have hkb49 : ∀ (m6 : Int32) (m7 : Int32) (g : xk_H), mf_X2_nest_L49 kx95 a0 a1 a2 a4 a5 n m6 m7 g = some (r, h') → xk_X Γ 49 [(0, va_rf a0), (1, .int a1), (2, .int a2), (4, .int a4), (5, .int a5), (6, .int m6), (7, .int m7)] [] g := ih
    rw [mf_X2_nest_L49] at E
    refine xr_iload 6 C rfl dX2_nest_49 ?_
    refine xr_if_lt 95 C E dX2_nest_51 (by decide) (fun E => ?_) (fun E => ?_)
    · refine xr_sub [0, 1, 2, 4, 5] rfl ?_
      exact hkx95 a6 h0 E
    · refine xr_aload_n 0 C rfl rfl dX2_nest_54 ?_
      refine xr_gR C E xf_X2_40 dX2_nest_55 (fun x5 E => ?_)
      refine xr_iload 6 C rfl dX2_nest_58 ?_
      refine xr_lI C E xt_100 dX2_nest_60 (fun x6 E => ?_)
      refine xr_iload_n 2 C rfl rfl dX2_nest_61 ?_
      refine xr_iload 4 C rfl dX2_nest_62 ?_
      refine xr_isub C dX2_nest_64 ?_
      refine xr_icmp_ne 85 C E dX2_nest_65 (by decide) (fun E => ?_) (fun E => ?_)
      · refine xr_iload 5 C rfl dX2_nest_85 ?_
        refine xr_istore (L2 := [(6, .int a6), (0, va_rf a0), (1, .int a1), (2, .int a2), (4, .int a4), (5, .int a5), (7, .int a7)]) C rfl dX2_nest_87 (by decide) ?_
        refine xr_iinc (v := (a7 + (-1 : Int32))) (L2 := [(7, .int (a7 + (-1 : Int32))), (6, .int a6), (0, va_rf a0), (1, .int a1), (2, .int a2), (4, .int a4), (5, .int a5)]) 6 C rfl (congrArg (HAdd.hAdd a7) (show Int32.ofInt (-1) = (-1 : Int32) by decide)) rfl dX2_nest_89 (by decide) ?_
        refine xr_goto 49 C dX2_nest_92 (by decide) ?_
        refine xr_sub [2, 3, 4, 5, 6, 1, 0] rfl ?_
        exact hkb49 a6 (a7 + (-1 : Int32)) h0 E
      · refine xr_aload_n 0 C rfl rfl dX2_nest_68 ?_
        refine xr_iload 6 C rfl dX2_nest_69 ?_
        refine xr_iconst (0) C (by decide) dX2_nest_71 ?_
        refine xr_V (v := a0) [.int a7, .int (0 : Int32)] [] (fun r => some (.int r)) (fun r => .int r :: []) C E xi_2_SlatCratesModel (fun r h' e => wk_X2_of e) q2247 q2249 qs39 q89 q2250 xh_SlatCratesModel xd_X2_of (by decide) (by decide) trivial (Nat.le_of_ble_eq_true rfl) rfl (fun _ => rfl) dX2_nest_72 (fun r7 h8 E => ?_)
        refine xr_iload 3 C rfl dX2_nest_75 ?_
        refine xr_icmp_gt 85 C E dX2_nest_77 (by decide) (fun E => ?_) (fun E => ?_)
        · refine xr_iload 5 C rfl dX2_nest_85 ?_
          refine xr_istore (L2 := [(6, .int a6), (0, va_rf a0), (1, .int a1), (2, .int a2), (4, .int a4), (5, .int a5), (7, .int a7)]) C rfl dX2_nest_87 (by decide) ?_
          refine xr_iinc (v := (a7 + (-1 : Int32))) (L2 := [(7, .int (a7 + (-1 : Int32))), (6, .int a6), (0, va_rf a0), (1, .int a1), (2, .int a2), (4, .int a4), (5, .int a5)]) 6 C rfl (congrArg (HAdd.hAdd a7) (show Int32.ofInt (-1) = (-1 : Int32) by decide)) rfl dX2_nest_89 (by decide) ?_
          refine xr_goto 49 C dX2_nest_92 (by decide) ?_
          refine xr_sub [2, 3, 4, 5, 6, 1, 0] rfl ?_
          exact hkb49 a6 (a7 + (-1 : Int32)) h8 E
        · refine xr_iload 6 C rfl dX2_nest_80 ?_
          refine xr_goto 87 C dX2_nest_82 (by decide) ?_
          refine xr_istore (L2 := [(6, .int a7), (0, va_rf a0), (1, .int a1), (2, .int a2), (4, .int a4), (5, .int a5), (7, .int a7)]) C rfl dX2_nest_87 (by decide) ?_
          refine xr_iinc (v := (a7 + (-1 : Int32))) (L2 := [(7, .int (a7 + (-1 : Int32))), (6, .int a7), (0, va_rf a0), (1, .int a1), (2, .int a2), (4, .int a4), (5, .int a5)]) 6 C rfl (congrArg (HAdd.hAdd a7) (show Int32.ofInt (-1) = (-1 : Int32) by decide)) rfl dX2_nest_89 (by decide) ?_
          refine xr_goto 49 C dX2_nest_92 (by decide) ?_
          refine xr_sub [2, 3, 4, 5, 6, 1, 0] rfl ?_
          exact hkb49 a7 (a7 + (-1 : Int32)) h8 E
def mf_X2_nest_L29 (a0 : Option Nat) (a1 : Int32) (a2 : Int32) : Nat → Int32 → Int32 → Int32 → xk_H → Option (Int32 × xk_H)
  | 0, _, _, _, _ => none
  | n + 1, a3, a4, a5, h0 => if a1 < a5 then (some (a3, h0)) else (xm_gR [2] 0 a0 h0 fun x3 => xm_lI [100] x3 (0 : Int32) h0 fun x4 => mf_X2_nest_L49 (fun m9 h10 => xm_rc [2] a0 h10 <| xm_cl (mf_X2_of a0 m9 (1 : Int32) h10) fun r11 h12 => mf_X2_nest_L29 a0 a1 a2 n m9 r11 (a5 + 1) h12) a0 a1 a2 a4 a5 xk_fu (-4 : Int32) (x4 - (1 : Int32)) h0)
set_option maxHeartbeats 1000000 in
theorem wk_X2_nest_L29 {Γ : xk_C} {r : Int32} {h' : xk_H} {a0 : Option Nat} {a1 : Int32} {a2 : Int32} (C : xk_Cx Γ RX2 cX2_nest 8 (Option.some FieldType.int) "nest" 7 193) (Z : xk_Z Γ (some (.int r)) h') : ∀ (n : Nat) (a3 : Int32) (a4 : Int32) (a5 : Int32) (h0 : xk_H), mf_X2_nest_L29 a0 a1 a2 n a3 a4 a5 h0 = some (r, h') → xk_X Γ 29 [(0, va_rf a0), (1, .int a1), (2, .int a2), (3, .int a3), (4, .int a4), (5, .int a5)] [] h0 := by
  intro n
  induction n with
  | zero =>
    intro a3 a4 a5 h0 E
    rw [mf_X2_nest_L29] at E
    cases E
  | succ n ih =>
    intro a3 a4 a5 h0 E
    have hkb29 : ∀ (m3 : Int32) (m4 : Int32) (m5 : Int32) (g : xk_H), mf_X2_nest_L29 a0 a1 a2 n m3 m4 m5 g = some (r, h') → xk_X Γ 29 [(0, va_rf a0), (1, .int a1), (2, .int a2), (3, .int m3), (4, .int m4), (5, .int m5)] [] g := ih
    rw [mf_X2_nest_L29] at E
    refine xr_iload 5 C rfl dX2_nest_29 ?_
    refine xr_iload_n 1 C rfl rfl dX2_nest_31 ?_
    refine xr_icmp_gt 112 C E dX2_nest_32 (by decide) (fun E => ?_) (fun E => ?_)
    · refine xr_iload_n 3 C rfl rfl dX2_nest_112 ?_
      exact xr_iret C Z E dX2_nest_113
    · refine xr_bipush (-4) C (by decide) dX2_nest_35 ?_
      refine xr_istore (L2 := [(6, .int (-4 : Int32)), (0, va_rf a0), (1, .int a1), (2, .int a2), (3, .int a3), (4, .int a4), (5, .int a5)]) C rfl dX2_nest_37 (by decide) ?_
      refine xr_aload_n 1 C rfl rfl dX2_nest_39 ?_
      refine xr_gR C E xf_X2_7 dX2_nest_40 (fun x3 E => ?_)
      refine xr_iconst (0) C (by decide) dX2_nest_43 ?_
      refine xr_lI C E xt_100 dX2_nest_44 (fun x4 E => ?_)
      refine xr_iconst (1) C (by decide) dX2_nest_45 ?_
      refine xr_isub C dX2_nest_46 ?_
      refine xr_istore (L2 := [(7, .int (x4 - (1 : Int32))), (6, .int (-4 : Int32)), (0, va_rf a0), (1, .int a1), (2, .int a2), (3, .int a3), (4, .int a4), (5, .int a5)]) C rfl dX2_nest_47 (by decide) ?_
      refine xr_sub [2, 3, 4, 6, 7, 1, 0] rfl ?_
      refine wk_X2_nest_L49 (a0 := a0) (a1 := a1) (a2 := a2) (a4 := a4) (a5 := a5) C Z (fun m9 h10 E => ?_) xk_fu (-4 : Int32) (x4 - (1 : Int32)) h0 E
      · refine xr_iload 4 C rfl dX2_nest_95 ?_
        refine xr_istore_n (L2 := [(3, .int m9), (0, va_rf a0), (1, .int a1), (2, .int a2), (5, .int a5), (6, .int m9)]) C rfl rfl dX2_nest_97 (by decide) ?_
        refine xr_aload_n 1 C rfl rfl dX2_nest_98 ?_
        refine xr_iload_n 0 C rfl rfl dX2_nest_99 ?_
        refine xr_iconst (1) C (by decide) dX2_nest_100 ?_
        refine xr_V (v := a0) [.int m9, .int (1 : Int32)] [] (fun r => some (.int r)) (fun r => .int r :: []) C E xi_2_SlatCratesModel (fun r h' e => wk_X2_of e) q2247 q2249 qs39 q89 q2250 xh_SlatCratesModel xd_X2_of (by decide) (by decide) trivial (Nat.le_of_ble_eq_true rfl) rfl (fun _ => rfl) dX2_nest_101 (fun r11 h12 E => ?_)
        refine xr_istore (L2 := [(4, .int r11), (3, .int m9), (0, va_rf a0), (1, .int a1), (2, .int a2), (5, .int a5), (6, .int m9)]) C rfl dX2_nest_104 (by decide) ?_
        refine xr_iinc (v := (a5 + 1)) (L2 := [(5, .int (a5 + 1)), (4, .int r11), (3, .int m9), (0, va_rf a0), (1, .int a1), (2, .int a2), (6, .int m9)]) 5 C rfl rfl rfl dX2_nest_106 (by decide) ?_
        refine xr_goto 29 C dX2_nest_109 (by decide) ?_
        refine xr_sub [3, 4, 5, 2, 1, 0] rfl ?_
        exact hkb29 m9 r11 (a5 + 1) h12 E
def mf_X2_nest (a0 : Option Nat) (a1 : Int32) (h0 : xk_H) : Option (Int32 × xk_H) :=
  if 0 ≤ a1 then (xm_rc [2] a0 h0 <| xm_cl (mf_X2_longestNest a0 h0) fun r1 h2 => if a1 < r1 then (mf_X2_nest_L29 a0 a1 r1 xk_fu (-4 : Int32) (60 : Int32) (0 : Int32) h2) else (some ((-4 : Int32), h2))) else (some ((-1 : Int32), h0))
set_option maxHeartbeats 1000000 in
theorem wk_X2_nest {l : Launch} {D : va_G} {base : Nat} {a0 : Option Nat} {a1 : Int32} {h0 : xk_H} {r : Int32} {h' : xk_H} (E : mf_X2_nest a0 a1 h0 = some (r, h')) : xk_Ok l D base yX2_nest cX2_nest 8 (Option.some FieldType.int) 7 193 [va_rf a0, .int a1] h0 (some (.int r)) h' := by
  refine xk_ofX RX2 "nest" xq_X2_nest rfl rfl (Nat.le_of_ble_eq_true rfl) ⟨xk_crf _, ⟨rfl, trivial⟩⟩ (fun Γ el eD eb C Z => ?_)
  rw [mf_X2_nest] at E
  show xk_X Γ 0 [(0, va_rf a0), (1, .int a1)] [] h0
  refine xr_iload_n 1 C rfl rfl dX2_nest_0 ?_
  refine xr_if_ge 6 C E dX2_nest_1 (by decide) (fun E => ?_) (fun E => ?_)
  · refine xr_aload_n 0 C rfl rfl dX2_nest_6 ?_
    refine xr_V (v := a0) [] [] (fun r => some (.int r)) (fun r => .int r :: []) C E xi_2_SlatCratesModel (fun r h' e => wk_X2_longestNest e) q2437 q2439 qs70 q89 q2440 xh_SlatCratesModel xd_X2_longestNest (by decide) (by decide) trivial (Nat.le_of_ble_eq_true rfl) rfl (fun _ => rfl) dX2_nest_7 (fun r1 h2 E => ?_)
    refine xr_istore_n (L2 := [(2, .int r1), (0, va_rf a0), (1, .int a1)]) C rfl rfl dX2_nest_10 (by decide) ?_
    refine xr_iload_n 2 C rfl rfl dX2_nest_11 ?_
    refine xr_iload_n 0 C rfl rfl dX2_nest_12 ?_
    refine xr_icmp_lt 19 C E dX2_nest_13 (by decide) (fun E => ?_) (fun E => ?_)
    · refine xr_bipush (-4) C (by decide) dX2_nest_19 ?_
      refine xr_istore_n (L2 := [(3, .int (-4 : Int32)), (2, .int r1), (0, va_rf a0), (1, .int a1)]) C rfl rfl dX2_nest_21 (by decide) ?_
      refine xr_bipush (60) C (by decide) dX2_nest_22 ?_
      refine xr_istore (L2 := [(4, .int (60 : Int32)), (3, .int (-4 : Int32)), (2, .int r1), (0, va_rf a0), (1, .int a1)]) C rfl dX2_nest_24 (by decide) ?_
      refine xr_iconst (0) C (by decide) dX2_nest_26 ?_
      refine xr_istore (L2 := [(5, .int (0 : Int32)), (4, .int (60 : Int32)), (3, .int (-4 : Int32)), (2, .int r1), (0, va_rf a0), (1, .int a1)]) C rfl dX2_nest_27 (by decide) ?_
      refine xr_sub [4, 5, 3, 2, 1, 0] rfl ?_
      exact wk_X2_nest_L29 (a0 := a0) (a1 := a1) (a2 := r1) C Z xk_fu (-4 : Int32) (60 : Int32) (0 : Int32) h2 E
    · refine xr_bipush (-4) C (by decide) dX2_nest_16 ?_
      exact xr_iret C Z E dX2_nest_18
  · refine xr_iconst (-1) C (by decide) dX2_nest_4 ?_
    exact xr_iret C Z E dX2_nest_5
def mf_X2_deepest_L4 (a0 : Option Nat) : Nat → Int32 → Int32 → xk_H → Option (Int32 × xk_H)
  | 0, _, _, _ => none
  | n + 1, a1, a2, h0 => xm_gR [2] 0 a0 h0 fun x1 => xm_lI [100] x1 (0 : Int32) h0 fun x2 => if x2 ≤ a2 then (some (a1, h0)) else (xm_rc [2] a0 h0 <| xm_cl (mf_X2_depthOf a0 a2 h0) fun r3 h4 => if r3 ≤ a1 then (mf_X2_deepest_L4 a0 n a1 (a2 + 1) h4) else (xm_rc [2] a0 h4 <| xm_cl (mf_X2_depthOf a0 a2 h4) fun r5 h6 => mf_X2_deepest_L4 a0 n r5 (a2 + 1) h6))
set_option maxHeartbeats 1000000 in
theorem wk_X2_deepest_L4 {Γ : xk_C} {r : Int32} {h' : xk_H} {a0 : Option Nat} (C : xk_Cx Γ RX2 cX2_deepest 3 (Option.some FieldType.int) "deepest" 4 126) (Z : xk_Z Γ (some (.int r)) h') : ∀ (n : Nat) (a1 : Int32) (a2 : Int32) (h0 : xk_H), mf_X2_deepest_L4 a0 n a1 a2 h0 = some (r, h') → xk_X Γ 4 [(0, va_rf a0), (1, .int a1), (2, .int a2)] [] h0 := by
  intro n
  induction n with
  | zero =>
    intro a1 a2 h0 E
    rw [mf_X2_deepest_L4] at E
    cases E
  | succ n ih =>
    intro a1 a2 h0 E
    have hkb4 : ∀ (m1 : Int32) (m2 : Int32) (g : xk_H), mf_X2_deepest_L4 a0 n m1 m2 g = some (r, h') → xk_X Γ 4 [(0, va_rf a0), (1, .int m1), (2, .int m2)] [] g := ih
    rw [mf_X2_deepest_L4] at E
    refine xr_iload_n 2 C rfl rfl dX2_deepest_4 ?_
    refine xr_aload_n 0 C rfl rfl dX2_deepest_5 ?_
    refine xr_gR C E xf_X2_7 dX2_deepest_6 (fun x1 E => ?_)
    refine xr_iconst (0) C (by decide) dX2_deepest_9 ?_
    refine xr_lI C E xt_100 dX2_deepest_10 (fun x2 E => ?_)
    refine xr_icmp_ge 39 C E dX2_deepest_11 (by decide) (fun E => ?_) (fun E => ?_)
    · refine xr_iload_n 1 C rfl rfl dX2_deepest_39 ?_
      exact xr_iret C Z E dX2_deepest_40
    · refine xr_aload_n 0 C rfl rfl dX2_deepest_14 ?_
      refine xr_iload_n 2 C rfl rfl dX2_deepest_15 ?_
      refine xr_V (v := a0) [.int a2] [] (fun r => some (.int r)) (fun r => .int r :: []) C E xi_2_SlatCratesModel (fun r h' e => wk_X2_depthOf e) q2267 q2269 qs44 q89 q2270 xh_SlatCratesModel xd_X2_depthOf (by decide) (by decide) trivial (Nat.le_of_ble_eq_true rfl) rfl (fun _ => rfl) dX2_deepest_16 (fun r3 h4 E => ?_)
      refine xr_iload_n 1 C rfl rfl dX2_deepest_19 ?_
      refine xr_icmp_le 31 C E dX2_deepest_20 (by decide) (fun E => ?_) (fun E => ?_)
      · refine xr_iload_n 1 C rfl rfl dX2_deepest_31 ?_
        refine xr_istore_n (L2 := [(1, .int a1), (0, va_rf a0), (2, .int a2)]) C rfl rfl dX2_deepest_32 (by decide) ?_
        refine xr_iinc (v := (a2 + 1)) (L2 := [(2, .int (a2 + 1)), (1, .int a1), (0, va_rf a0)]) 2 C rfl rfl rfl dX2_deepest_33 (by decide) ?_
        refine xr_goto 4 C dX2_deepest_36 (by decide) ?_
        refine xr_sub [2, 1, 0] rfl ?_
        exact hkb4 a1 (a2 + 1) h4 E
      · refine xr_aload_n 0 C rfl rfl dX2_deepest_23 ?_
        refine xr_iload_n 2 C rfl rfl dX2_deepest_24 ?_
        refine xr_V (v := a0) [.int a2] [] (fun r => some (.int r)) (fun r => .int r :: []) C E xi_2_SlatCratesModel (fun r h' e => wk_X2_depthOf e) q2267 q2269 qs44 q89 q2270 xh_SlatCratesModel xd_X2_depthOf (by decide) (by decide) trivial (Nat.le_of_ble_eq_true rfl) rfl (fun _ => rfl) dX2_deepest_25 (fun r5 h6 E => ?_)
        refine xr_goto 32 C dX2_deepest_28 (by decide) ?_
        refine xr_istore_n (L2 := [(1, .int r5), (0, va_rf a0), (2, .int a2)]) C rfl rfl dX2_deepest_32 (by decide) ?_
        refine xr_iinc (v := (a2 + 1)) (L2 := [(2, .int (a2 + 1)), (1, .int r5), (0, va_rf a0)]) 2 C rfl rfl rfl dX2_deepest_33 (by decide) ?_
        refine xr_goto 4 C dX2_deepest_36 (by decide) ?_
        refine xr_sub [2, 1, 0] rfl ?_
        exact hkb4 r5 (a2 + 1) h6 E
def mf_X2_deepest (a0 : Option Nat) (h0 : xk_H) : Option (Int32 × xk_H) :=
  mf_X2_deepest_L4 a0 xk_fu (0 : Int32) (0 : Int32) h0
set_option maxHeartbeats 1000000 in
theorem wk_X2_deepest {l : Launch} {D : va_G} {base : Nat} {a0 : Option Nat} {h0 : xk_H} {r : Int32} {h' : xk_H} (E : mf_X2_deepest a0 h0 = some (r, h')) : xk_Ok l D base yX2_deepest cX2_deepest 3 (Option.some FieldType.int) 4 126 [va_rf a0] h0 (some (.int r)) h' := by
  refine xk_ofX RX2 "deepest" xq_X2_deepest rfl rfl (Nat.le_of_ble_eq_true rfl) ⟨xk_crf _, trivial⟩ (fun Γ el eD eb C Z => ?_)
  rw [mf_X2_deepest] at E
  show xk_X Γ 0 [(0, va_rf a0)] [] h0
  refine xr_iconst (0) C (by decide) dX2_deepest_0 ?_
  refine xr_istore_n (L2 := [(1, .int (0 : Int32)), (0, va_rf a0)]) C rfl rfl dX2_deepest_1 (by decide) ?_
  refine xr_iconst (0) C (by decide) dX2_deepest_2 ?_
  refine xr_istore_n (L2 := [(2, .int (0 : Int32)), (1, .int (0 : Int32)), (0, va_rf a0)]) C rfl rfl dX2_deepest_3 (by decide) ?_
  refine xr_sub [2, 1, 0] rfl ?_
  exact wk_X2_deepest_L4 (a0 := a0) C Z xk_fu (0 : Int32) (0 : Int32) h0 E
def mf_X2_onGround_L4 (a0 : Option Nat) (a1 : Int32) : Nat → Int32 → Int32 → xk_H → Option (Int32 × xk_H)
  | 0, _, _, _ => none
  | n + 1, a2, a3, h0 => xm_gR [2] 0 a0 h0 fun x1 => xm_lI [100] x1 (0 : Int32) h0 fun x2 => if x2 ≤ a3 then (some (a2, h0)) else (xm_rc [2] a0 h0 <| xm_cl (mf_X2_around a0 a3 h0) fun r3 h4 => if 0 ≤ r3 then (mf_X2_onGround_L4 a0 a1 n (a2 + (0 : Int32)) (a3 + 1) h4) else (if a1 = 0 then (mf_X2_onGround_L4 a0 a1 n (a2 + (1 : Int32)) (a3 + 1) h4) else (xm_rc [2] a0 h4 <| xm_cl (mf_X2_isLoose a0 a3 h4) fun r5 h6 => if xk_b2 r5 = 0 then (mf_X2_onGround_L4 a0 a1 n (a2 + (0 : Int32)) (a3 + 1) h6) else (mf_X2_onGround_L4 a0 a1 n (a2 + (1 : Int32)) (a3 + 1) h6))))
set_option maxHeartbeats 1000000 in
theorem wk_X2_onGround_L4 {Γ : xk_C} {r : Int32} {h' : xk_H} {a0 : Option Nat} {a1 : Int32} (C : xk_Cx Γ RX2 cX2_onGround 4 (Option.some FieldType.int) "onGround" 5 147) (Z : xk_Z Γ (some (.int r)) h') : ∀ (n : Nat) (a2 : Int32) (a3 : Int32) (h0 : xk_H), mf_X2_onGround_L4 a0 a1 n a2 a3 h0 = some (r, h') → xk_X Γ 4 [(0, va_rf a0), (1, .int a1), (2, .int a2), (3, .int a3)] [] h0 := by
  intro n
  induction n with
  | zero =>
    intro a2 a3 h0 E
    rw [mf_X2_onGround_L4] at E
    cases E
  | succ n ih =>
    intro a2 a3 h0 E
    have hkb4 : ∀ (m2 : Int32) (m3 : Int32) (g : xk_H), mf_X2_onGround_L4 a0 a1 n m2 m3 g = some (r, h') → xk_X Γ 4 [(0, va_rf a0), (1, .int a1), (2, .int m2), (3, .int m3)] [] g := ih
    rw [mf_X2_onGround_L4] at E
    refine xr_iload_n 3 C rfl rfl dX2_onGround_4 ?_
    refine xr_aload_n 0 C rfl rfl dX2_onGround_5 ?_
    refine xr_gR C E xf_X2_7 dX2_onGround_6 (fun x1 E => ?_)
    refine xr_iconst (0) C (by decide) dX2_onGround_9 ?_
    refine xr_lI C E xt_100 dX2_onGround_10 (fun x2 E => ?_)
    refine xr_icmp_ge 48 C E dX2_onGround_11 (by decide) (fun E => ?_) (fun E => ?_)
    · refine xr_iload_n 2 C rfl rfl dX2_onGround_48 ?_
      exact xr_iret C Z E dX2_onGround_49
    · refine xr_iload_n 2 C rfl rfl dX2_onGround_14 ?_
      refine xr_aload_n 0 C rfl rfl dX2_onGround_15 ?_
      refine xr_iload_n 3 C rfl rfl dX2_onGround_16 ?_
      refine xr_V (v := a0) [.int a3] [.int a2] (fun r => some (.int r)) (fun r => .int r :: [.int a2]) C E xi_2_SlatCratesModel (fun r h' e => wk_X2_around e) q2243 q2245 qs38 q89 q2246 xh_SlatCratesModel xd_X2_around (by decide) (by decide) ⟨rfl, trivial⟩ (Nat.le_of_ble_eq_true rfl) rfl (fun _ => rfl) dX2_onGround_17 (fun r3 h4 E => ?_)
      refine xr_if_ge 39 C E dX2_onGround_20 (by decide) (fun E => ?_) (fun E => ?_)
      · refine xr_iconst (0) C (by decide) dX2_onGround_39 ?_
        refine xr_iadd C dX2_onGround_40 ?_
        refine xr_istore_n (L2 := [(2, .int (a2 + (0 : Int32))), (0, va_rf a0), (1, .int a1), (3, .int a3)]) C rfl rfl dX2_onGround_41 (by decide) ?_
        refine xr_iinc (v := (a3 + 1)) (L2 := [(3, .int (a3 + 1)), (2, .int (a2 + (0 : Int32))), (0, va_rf a0), (1, .int a1)]) 3 C rfl rfl rfl dX2_onGround_42 (by decide) ?_
        refine xr_goto 4 C dX2_onGround_45 (by decide) ?_
        refine xr_sub [2, 3, 1, 0] rfl ?_
        exact hkb4 (a2 + (0 : Int32)) (a3 + 1) h4 E
      · refine xr_iload_n 1 C rfl rfl dX2_onGround_23 ?_
        refine xr_if_eq 35 C E dX2_onGround_24 (by decide) (fun E => ?_) (fun E => ?_)
        · refine xr_iconst (1) C (by decide) dX2_onGround_35 ?_
          refine xr_goto 40 C dX2_onGround_36 (by decide) ?_
          refine xr_iadd C dX2_onGround_40 ?_
          refine xr_istore_n (L2 := [(2, .int (a2 + (1 : Int32))), (0, va_rf a0), (1, .int a1), (3, .int a3)]) C rfl rfl dX2_onGround_41 (by decide) ?_
          refine xr_iinc (v := (a3 + 1)) (L2 := [(3, .int (a3 + 1)), (2, .int (a2 + (1 : Int32))), (0, va_rf a0), (1, .int a1)]) 3 C rfl rfl rfl dX2_onGround_42 (by decide) ?_
          refine xr_goto 4 C dX2_onGround_45 (by decide) ?_
          refine xr_sub [2, 3, 1, 0] rfl ?_
          exact hkb4 (a2 + (1 : Int32)) (a3 + 1) h4 E
        · refine xr_aload_n 0 C rfl rfl dX2_onGround_27 ?_
          refine xr_iload_n 3 C rfl rfl dX2_onGround_28 ?_
          refine xr_V (v := a0) [.int a3] [.int a2] (fun r => some (.int (xk_b2 r))) (fun r => .int (xk_b2 r) :: [.int a2]) C E xi_2_SlatCratesModel (fun r h' e => wk_X2_isLoose e) q2445 q2447 qs72 q89 q2448 xh_SlatCratesModel xd_X2_isLoose (by decide) (by decide) ⟨rfl, trivial⟩ (Nat.le_of_ble_eq_true rfl) rfl (fun _ => rfl) dX2_onGround_29 (fun r5 h6 E => ?_)
          refine xr_if_eq 39 C E dX2_onGround_32 (by decide) (fun E => ?_) (fun E => ?_)
          · refine xr_iconst (0) C (by decide) dX2_onGround_39 ?_
            refine xr_iadd C dX2_onGround_40 ?_
            refine xr_istore_n (L2 := [(2, .int (a2 + (0 : Int32))), (0, va_rf a0), (1, .int a1), (3, .int a3)]) C rfl rfl dX2_onGround_41 (by decide) ?_
            refine xr_iinc (v := (a3 + 1)) (L2 := [(3, .int (a3 + 1)), (2, .int (a2 + (0 : Int32))), (0, va_rf a0), (1, .int a1)]) 3 C rfl rfl rfl dX2_onGround_42 (by decide) ?_
            refine xr_goto 4 C dX2_onGround_45 (by decide) ?_
            refine xr_sub [2, 3, 1, 0] rfl ?_
            exact hkb4 (a2 + (0 : Int32)) (a3 + 1) h6 E
          · refine xr_iconst (1) C (by decide) dX2_onGround_35 ?_
            refine xr_goto 40 C dX2_onGround_36 (by decide) ?_
            refine xr_iadd C dX2_onGround_40 ?_
            refine xr_istore_n (L2 := [(2, .int (a2 + (1 : Int32))), (0, va_rf a0), (1, .int a1), (3, .int a3)]) C rfl rfl dX2_onGround_41 (by decide) ?_
            refine xr_iinc (v := (a3 + 1)) (L2 := [(3, .int (a3 + 1)), (2, .int (a2 + (1 : Int32))), (0, va_rf a0), (1, .int a1)]) 3 C rfl rfl rfl dX2_onGround_42 (by decide) ?_
            refine xr_goto 4 C dX2_onGround_45 (by decide) ?_
            refine xr_sub [2, 3, 1, 0] rfl ?_
            exact hkb4 (a2 + (1 : Int32)) (a3 + 1) h6 E
def mf_X2_onGround (a0 : Option Nat) (a1 : Int32) (h0 : xk_H) : Option (Int32 × xk_H) :=
  mf_X2_onGround_L4 a0 a1 xk_fu (0 : Int32) (0 : Int32) h0
set_option maxHeartbeats 1000000 in
theorem wk_X2_onGround {l : Launch} {D : va_G} {base : Nat} {a0 : Option Nat} {a1 : Int32} {h0 : xk_H} {r : Int32} {h' : xk_H} (E : mf_X2_onGround a0 a1 h0 = some (r, h')) : xk_Ok l D base yX2_onGround cX2_onGround 4 (Option.some FieldType.int) 5 147 [va_rf a0, .int a1] h0 (some (.int r)) h' := by
  refine xk_ofX RX2 "onGround" xq_X2_onGround rfl rfl (Nat.le_of_ble_eq_true rfl) ⟨xk_crf _, ⟨rfl, trivial⟩⟩ (fun Γ el eD eb C Z => ?_)
  rw [mf_X2_onGround] at E
  show xk_X Γ 0 [(0, va_rf a0), (1, .int a1)] [] h0
  refine xr_iconst (0) C (by decide) dX2_onGround_0 ?_
  refine xr_istore_n (L2 := [(2, .int (0 : Int32)), (0, va_rf a0), (1, .int a1)]) C rfl rfl dX2_onGround_1 (by decide) ?_
  refine xr_iconst (0) C (by decide) dX2_onGround_2 ?_
  refine xr_istore_n (L2 := [(3, .int (0 : Int32)), (2, .int (0 : Int32)), (0, va_rf a0), (1, .int a1)]) C rfl rfl dX2_onGround_3 (by decide) ?_
  refine xr_sub [2, 3, 1, 0] rfl ?_
  exact wk_X2_onGround_L4 (a0 := a0) (a1 := a1) C Z xk_fu (0 : Int32) (0 : Int32) h0 E
def mf_X2_rowsSeen_L19 (kx55 : Int32 → xk_H → Option (Int32 × xk_H)) (a0 : Option Nat) (a1 : Int32) (a2 : Int32) : Nat → Int32 → Int32 → xk_H → Option (Int32 × xk_H)
  | 0, _, _, _ => none
  | n + 1, a3, a4, h0 => if a2 ≤ a4 then (kx55 a3 h0) else (if a3 = 0 then (mf_X2_rowsSeen_L19 kx55 a0 a1 a2 n (0 : Int32) (a4 + 1) h0) else (xm_rc [2] a0 h0 <| xm_cl (mf_X2_signsOf a0 a4 h0) fun r3 h4 => xm_rc [2] a0 h4 <| xm_cl (mf_X2_signsOf a0 a2 h4) fun r5 h6 => if r3 = r5 then (mf_X2_rowsSeen_L19 kx55 a0 a1 a2 n (0 : Int32) (a4 + 1) h6) else (mf_X2_rowsSeen_L19 kx55 a0 a1 a2 n (1 : Int32) (a4 + 1) h6)))
set_option maxHeartbeats 1000000 in
theorem wk_X2_rowsSeen_L19 {Γ : xk_C} {r : Int32} {h' : xk_H} {kx55 : Int32 → xk_H → Option (Int32 × xk_H)} {a0 : Option Nat} {a1 : Int32} {a2 : Int32} (C : xk_Cx Γ RX2 cX2_rowsSeen 5 (Option.some FieldType.int) "rowsSeen" 6 172) (Z : xk_Z Γ (some (.int r)) h') (hkx55 : ∀ (m3 : Int32) (g : xk_H), kx55 m3 g = some (r, h') → xk_X Γ 55 [(0, va_rf a0), (1, .int a1), (2, .int a2), (3, .int m3)] [] g) : ∀ (n : Nat) (a3 : Int32) (a4 : Int32) (h0 : xk_H), mf_X2_rowsSeen_L19 kx55 a0 a1 a2 n a3 a4 h0 = some (r, h') → xk_X Γ 19 [(0, va_rf a0), (1, .int a1), (2, .int a2), (3, .int a3), (4, .int a4)] [] h0 := by
  intro n
  induction n with
  | zero =>
    intro a3 a4 h0 E
    rw [mf_X2_rowsSeen_L19] at E
    cases E
  | succ n ih =>
    intro a3 a4 h0 E
    have hkb19 : ∀ (m3 : Int32) (m4 : Int32) (g : xk_H), mf_X2_rowsSeen_L19 kx55 a0 a1 a2 n m3 m4 g = some (r, h') → xk_X Γ 19 [(0, va_rf a0), (1, .int a1), (2, .int a2), (3, .int m3), (4, .int m4)] [] g := ih
    rw [mf_X2_rowsSeen_L19] at E
    refine xr_iload 4 C rfl dX2_rowsSeen_19 ?_
    refine xr_iload_n 2 C rfl rfl dX2_rowsSeen_21 ?_
    refine xr_icmp_ge 55 C E dX2_rowsSeen_22 (by decide) (fun E => ?_) (fun E => ?_)
    · refine xr_sub [0, 1, 2, 3] rfl ?_
      exact hkx55 a3 h0 E
    · refine xr_iload_n 3 C rfl rfl dX2_rowsSeen_25 ?_
      refine xr_if_eq 47 C E dX2_rowsSeen_26 (by decide) (fun E => ?_) (fun E => ?_)
      · refine xr_iconst (0) C (by decide) dX2_rowsSeen_47 ?_
        refine xr_istore_n (L2 := [(3, .int (0 : Int32)), (0, va_rf a0), (1, .int a1), (2, .int a2), (4, .int a4)]) C rfl rfl dX2_rowsSeen_48 (by decide) ?_
        refine xr_iinc (v := (a4 + 1)) (L2 := [(4, .int (a4 + 1)), (3, .int (0 : Int32)), (0, va_rf a0), (1, .int a1), (2, .int a2)]) 4 C rfl rfl rfl dX2_rowsSeen_49 (by decide) ?_
        refine xr_goto 19 C dX2_rowsSeen_52 (by decide) ?_
        refine xr_sub [2, 3, 4, 1, 0] rfl ?_
        exact hkb19 (0 : Int32) (a4 + 1) h0 E
      · refine xr_aload_n 0 C rfl rfl dX2_rowsSeen_29 ?_
        refine xr_iload 4 C rfl dX2_rowsSeen_30 ?_
        refine xr_V (v := a0) [.int a4] [] (fun r => some (.int r)) (fun r => .int r :: []) C E xi_2_SlatCratesModel (fun r h' e => wk_X2_signsOf e) q2382 q2384 qs63 q89 q2385 xh_SlatCratesModel xd_X2_signsOf (by decide) (by decide) trivial (Nat.le_of_ble_eq_true rfl) rfl (fun _ => rfl) dX2_rowsSeen_32 (fun r3 h4 E => ?_)
        refine xr_aload_n 0 C rfl rfl dX2_rowsSeen_35 ?_
        refine xr_iload_n 2 C rfl rfl dX2_rowsSeen_36 ?_
        refine xr_V (v := a0) [.int a2] [.int r3] (fun r => some (.int r)) (fun r => .int r :: [.int r3]) C E xi_2_SlatCratesModel (fun r h' e => wk_X2_signsOf e) q2382 q2384 qs63 q89 q2385 xh_SlatCratesModel xd_X2_signsOf (by decide) (by decide) ⟨rfl, trivial⟩ (Nat.le_of_ble_eq_true rfl) rfl (fun _ => rfl) dX2_rowsSeen_37 (fun r5 h6 E => ?_)
        refine xr_icmp_eq 47 C E dX2_rowsSeen_40 (by decide) (fun E => ?_) (fun E => ?_)
        · refine xr_iconst (0) C (by decide) dX2_rowsSeen_47 ?_
          refine xr_istore_n (L2 := [(3, .int (0 : Int32)), (0, va_rf a0), (1, .int a1), (2, .int a2), (4, .int a4)]) C rfl rfl dX2_rowsSeen_48 (by decide) ?_
          refine xr_iinc (v := (a4 + 1)) (L2 := [(4, .int (a4 + 1)), (3, .int (0 : Int32)), (0, va_rf a0), (1, .int a1), (2, .int a2)]) 4 C rfl rfl rfl dX2_rowsSeen_49 (by decide) ?_
          refine xr_goto 19 C dX2_rowsSeen_52 (by decide) ?_
          refine xr_sub [2, 3, 4, 1, 0] rfl ?_
          exact hkb19 (0 : Int32) (a4 + 1) h6 E
        · refine xr_iconst (1) C (by decide) dX2_rowsSeen_43 ?_
          refine xr_goto 48 C dX2_rowsSeen_44 (by decide) ?_
          refine xr_istore_n (L2 := [(3, .int (1 : Int32)), (0, va_rf a0), (1, .int a1), (2, .int a2), (4, .int a4)]) C rfl rfl dX2_rowsSeen_48 (by decide) ?_
          refine xr_iinc (v := (a4 + 1)) (L2 := [(4, .int (a4 + 1)), (3, .int (1 : Int32)), (0, va_rf a0), (1, .int a1), (2, .int a2)]) 4 C rfl rfl rfl dX2_rowsSeen_49 (by decide) ?_
          refine xr_goto 19 C dX2_rowsSeen_52 (by decide) ?_
          refine xr_sub [2, 3, 4, 1, 0] rfl ?_
          exact hkb19 (1 : Int32) (a4 + 1) h6 E
def mf_X2_rowsSeen_L4 (a0 : Option Nat) : Nat → Int32 → Int32 → xk_H → Option (Int32 × xk_H)
  | 0, _, _, _ => none
  | n + 1, a1, a2, h0 => xm_gR [2] 0 a0 h0 fun x1 => xm_lI [100] x1 (0 : Int32) h0 fun x2 => if x2 ≤ a2 then (some (a1, h0)) else (mf_X2_rowsSeen_L19 (fun m7 h8 => if m7 = 0 then (mf_X2_rowsSeen_L4 a0 n (a1 + (0 : Int32)) (a2 + 1) h8) else (mf_X2_rowsSeen_L4 a0 n (a1 + (1 : Int32)) (a2 + 1) h8)) a0 a1 a2 xk_fu (1 : Int32) (0 : Int32) h0)
set_option maxHeartbeats 1000000 in
theorem wk_X2_rowsSeen_L4 {Γ : xk_C} {r : Int32} {h' : xk_H} {a0 : Option Nat} (C : xk_Cx Γ RX2 cX2_rowsSeen 5 (Option.some FieldType.int) "rowsSeen" 6 172) (Z : xk_Z Γ (some (.int r)) h') : ∀ (n : Nat) (a1 : Int32) (a2 : Int32) (h0 : xk_H), mf_X2_rowsSeen_L4 a0 n a1 a2 h0 = some (r, h') → xk_X Γ 4 [(0, va_rf a0), (1, .int a1), (2, .int a2)] [] h0 := by
  intro n
  induction n with
  | zero =>
    intro a1 a2 h0 E
    rw [mf_X2_rowsSeen_L4] at E
    cases E
  | succ n ih =>
    intro a1 a2 h0 E
    have hkb4 : ∀ (m1 : Int32) (m2 : Int32) (g : xk_H), mf_X2_rowsSeen_L4 a0 n m1 m2 g = some (r, h') → xk_X Γ 4 [(0, va_rf a0), (1, .int m1), (2, .int m2)] [] g := ih
    rw [mf_X2_rowsSeen_L4] at E
    refine xr_iload_n 2 C rfl rfl dX2_rowsSeen_4 ?_
    refine xr_aload_n 0 C rfl rfl dX2_rowsSeen_5 ?_
    refine xr_gR C E xf_X2_7 dX2_rowsSeen_6 (fun x1 E => ?_)
    refine xr_iconst (0) C (by decide) dX2_rowsSeen_9 ?_
    refine xr_lI C E xt_100 dX2_rowsSeen_10 (fun x2 E => ?_)
    refine xr_icmp_ge 73 C E dX2_rowsSeen_11 (by decide) (fun E => ?_) (fun E => ?_)
    · refine xr_iload_n 1 C rfl rfl dX2_rowsSeen_73 ?_
      exact xr_iret C Z E dX2_rowsSeen_74
    · refine xr_iconst (1) C (by decide) dX2_rowsSeen_14 ?_
      refine xr_istore_n (L2 := [(3, .int (1 : Int32)), (0, va_rf a0), (1, .int a1), (2, .int a2)]) C rfl rfl dX2_rowsSeen_15 (by decide) ?_
      refine xr_iconst (0) C (by decide) dX2_rowsSeen_16 ?_
      refine xr_istore (L2 := [(4, .int (0 : Int32)), (3, .int (1 : Int32)), (0, va_rf a0), (1, .int a1), (2, .int a2)]) C rfl dX2_rowsSeen_17 (by decide) ?_
      refine xr_sub [2, 3, 4, 1, 0] rfl ?_
      refine wk_X2_rowsSeen_L19 (a0 := a0) (a1 := a1) (a2 := a2) C Z (fun m7 h8 E => ?_) xk_fu (1 : Int32) (0 : Int32) h0 E
      · refine xr_iload_n 1 C rfl rfl dX2_rowsSeen_55 ?_
        refine xr_iload_n 3 C rfl rfl dX2_rowsSeen_56 ?_
        refine xr_if_eq 64 C E dX2_rowsSeen_57 (by decide) (fun E => ?_) (fun E => ?_)
        · refine xr_iconst (0) C (by decide) dX2_rowsSeen_64 ?_
          refine xr_iadd C dX2_rowsSeen_65 ?_
          refine xr_istore_n (L2 := [(1, .int (a1 + (0 : Int32))), (0, va_rf a0), (2, .int a2), (3, .int m7)]) C rfl rfl dX2_rowsSeen_66 (by decide) ?_
          refine xr_iinc (v := (a2 + 1)) (L2 := [(2, .int (a2 + 1)), (1, .int (a1 + (0 : Int32))), (0, va_rf a0), (3, .int m7)]) 2 C rfl rfl rfl dX2_rowsSeen_67 (by decide) ?_
          refine xr_goto 4 C dX2_rowsSeen_70 (by decide) ?_
          refine xr_sub [2, 1, 0] rfl ?_
          exact hkb4 (a1 + (0 : Int32)) (a2 + 1) h8 E
        · refine xr_iconst (1) C (by decide) dX2_rowsSeen_60 ?_
          refine xr_goto 65 C dX2_rowsSeen_61 (by decide) ?_
          refine xr_iadd C dX2_rowsSeen_65 ?_
          refine xr_istore_n (L2 := [(1, .int (a1 + (1 : Int32))), (0, va_rf a0), (2, .int a2), (3, .int m7)]) C rfl rfl dX2_rowsSeen_66 (by decide) ?_
          refine xr_iinc (v := (a2 + 1)) (L2 := [(2, .int (a2 + 1)), (1, .int (a1 + (1 : Int32))), (0, va_rf a0), (3, .int m7)]) 2 C rfl rfl rfl dX2_rowsSeen_67 (by decide) ?_
          refine xr_goto 4 C dX2_rowsSeen_70 (by decide) ?_
          refine xr_sub [2, 1, 0] rfl ?_
          exact hkb4 (a1 + (1 : Int32)) (a2 + 1) h8 E
def mf_X2_rowsSeen (a0 : Option Nat) (h0 : xk_H) : Option (Int32 × xk_H) :=
  mf_X2_rowsSeen_L4 a0 xk_fu (0 : Int32) (0 : Int32) h0
set_option maxHeartbeats 1000000 in
theorem wk_X2_rowsSeen {l : Launch} {D : va_G} {base : Nat} {a0 : Option Nat} {h0 : xk_H} {r : Int32} {h' : xk_H} (E : mf_X2_rowsSeen a0 h0 = some (r, h')) : xk_Ok l D base yX2_rowsSeen cX2_rowsSeen 5 (Option.some FieldType.int) 6 172 [va_rf a0] h0 (some (.int r)) h' := by
  refine xk_ofX RX2 "rowsSeen" xq_X2_rowsSeen rfl rfl (Nat.le_of_ble_eq_true rfl) ⟨xk_crf _, trivial⟩ (fun Γ el eD eb C Z => ?_)
  rw [mf_X2_rowsSeen] at E
  show xk_X Γ 0 [(0, va_rf a0)] [] h0
  refine xr_iconst (0) C (by decide) dX2_rowsSeen_0 ?_
  refine xr_istore_n (L2 := [(1, .int (0 : Int32)), (0, va_rf a0)]) C rfl rfl dX2_rowsSeen_1 (by decide) ?_
  refine xr_iconst (0) C (by decide) dX2_rowsSeen_2 ?_
  refine xr_istore_n (L2 := [(2, .int (0 : Int32)), (1, .int (0 : Int32)), (0, va_rf a0)]) C rfl rfl dX2_rowsSeen_3 (by decide) ?_
  refine xr_sub [2, 1, 0] rfl ?_
  exact wk_X2_rowsSeen_L4 (a0 := a0) C Z xk_fu (0 : Int32) (0 : Int32) h0 E
def mf_X2_sum_L4 (a0 : Option Nat) (a1 : Int32) : Nat → Int32 → Int32 → xk_H → Option (Int32 × xk_H)
  | 0, _, _, _ => none
  | n + 1, a2, a3, h0 => xm_gR [2] 0 a0 h0 fun x1 => xm_lI [100] x1 (0 : Int32) h0 fun x2 => if x2 ≤ a3 then (some (a2, h0)) else (xm_rc [2] a0 h0 <| xm_cl (mf_X2_crate a0 a3 a1 h0) fun r3 h4 => mf_X2_sum_L4 a0 a1 n (a2 + r3) (a3 + 1) h4)
set_option maxHeartbeats 1000000 in
theorem wk_X2_sum_L4 {Γ : xk_C} {r : Int32} {h' : xk_H} {a0 : Option Nat} {a1 : Int32} (C : xk_Cx Γ RX2 cX2_sum 4 (Option.some FieldType.int) "sum" 8 218) (Z : xk_Z Γ (some (.int r)) h') : ∀ (n : Nat) (a2 : Int32) (a3 : Int32) (h0 : xk_H), mf_X2_sum_L4 a0 a1 n a2 a3 h0 = some (r, h') → xk_X Γ 4 [(0, va_rf a0), (1, .int a1), (2, .int a2), (3, .int a3)] [] h0 := by
  intro n
  induction n with
  | zero =>
    intro a2 a3 h0 E
    rw [mf_X2_sum_L4] at E
    cases E
  | succ n ih =>
    intro a2 a3 h0 E
    have hkb4 : ∀ (m2 : Int32) (m3 : Int32) (g : xk_H), mf_X2_sum_L4 a0 a1 n m2 m3 g = some (r, h') → xk_X Γ 4 [(0, va_rf a0), (1, .int a1), (2, .int m2), (3, .int m3)] [] g := ih
    rw [mf_X2_sum_L4] at E
    refine xr_iload_n 3 C rfl rfl dX2_sum_4 ?_
    refine xr_aload_n 0 C rfl rfl dX2_sum_5 ?_
    refine xr_gR C E xf_X2_7 dX2_sum_6 (fun x1 E => ?_)
    refine xr_iconst (0) C (by decide) dX2_sum_9 ?_
    refine xr_lI C E xt_100 dX2_sum_10 (fun x2 E => ?_)
    refine xr_icmp_ge 29 C E dX2_sum_11 (by decide) (fun E => ?_) (fun E => ?_)
    · refine xr_iload_n 2 C rfl rfl dX2_sum_29 ?_
      exact xr_iret C Z E dX2_sum_30
    · refine xr_iload_n 2 C rfl rfl dX2_sum_14 ?_
      refine xr_aload_n 0 C rfl rfl dX2_sum_15 ?_
      refine xr_iload_n 3 C rfl rfl dX2_sum_16 ?_
      refine xr_iload_n 1 C rfl rfl dX2_sum_17 ?_
      refine xr_V (v := a0) [.int a3, .int a1] [.int a2] (fun r => some (.int r)) (fun r => .int r :: [.int a2]) C E xi_2_SlatCratesModel (fun r h' e => wk_X2_crate e) q2465 q2367 q2368 q89 q2369 xh_SlatCratesModel xd_X2_crate (by decide) (by decide) ⟨rfl, trivial⟩ (Nat.le_of_ble_eq_true rfl) rfl (fun _ => rfl) dX2_sum_18 (fun r3 h4 E => ?_)
      refine xr_iadd C dX2_sum_21 ?_
      refine xr_istore_n (L2 := [(2, .int (a2 + r3)), (0, va_rf a0), (1, .int a1), (3, .int a3)]) C rfl rfl dX2_sum_22 (by decide) ?_
      refine xr_iinc (v := (a3 + 1)) (L2 := [(3, .int (a3 + 1)), (2, .int (a2 + r3)), (0, va_rf a0), (1, .int a1)]) 3 C rfl rfl rfl dX2_sum_23 (by decide) ?_
      refine xr_goto 4 C dX2_sum_26 (by decide) ?_
      refine xr_sub [2, 3, 1, 0] rfl ?_
      exact hkb4 (a2 + r3) (a3 + 1) h4 E
def mf_X2_sum (a0 : Option Nat) (a1 : Int32) (h0 : xk_H) : Option (Int32 × xk_H) :=
  mf_X2_sum_L4 a0 a1 xk_fu (0 : Int32) (0 : Int32) h0
set_option maxHeartbeats 1000000 in
theorem wk_X2_sum {l : Launch} {D : va_G} {base : Nat} {a0 : Option Nat} {a1 : Int32} {h0 : xk_H} {r : Int32} {h' : xk_H} (E : mf_X2_sum a0 a1 h0 = some (r, h')) : xk_Ok l D base yX2_sum cX2_sum 4 (Option.some FieldType.int) 8 218 [va_rf a0, .int a1] h0 (some (.int r)) h' := by
  refine xk_ofX RX2 "sum" xq_X2_sum rfl rfl (Nat.le_of_ble_eq_true rfl) ⟨xk_crf _, ⟨rfl, trivial⟩⟩ (fun Γ el eD eb C Z => ?_)
  rw [mf_X2_sum] at E
  show xk_X Γ 0 [(0, va_rf a0), (1, .int a1)] [] h0
  refine xr_iconst (0) C (by decide) dX2_sum_0 ?_
  refine xr_istore_n (L2 := [(2, .int (0 : Int32)), (0, va_rf a0), (1, .int a1)]) C rfl rfl dX2_sum_1 (by decide) ?_
  refine xr_iconst (0) C (by decide) dX2_sum_2 ?_
  refine xr_istore_n (L2 := [(3, .int (0 : Int32)), (2, .int (0 : Int32)), (0, va_rf a0), (1, .int a1)]) C rfl rfl dX2_sum_3 (by decide) ?_
  refine xr_sub [2, 3, 1, 0] rfl ?_
  exact wk_X2_sum_L4 (a0 := a0) (a1 := a1) C Z xk_fu (0 : Int32) (0 : Int32) h0 E
def mf_X2_count_J94 (s0 : Int32) (s1 : Option Nat) (h0 : xk_H) : Option (Int32 × xk_H) :=
  xm_rc [2] s1 h0 <| xm_cl (mf_X2_onGround s1 s0 h0) fun r3 h4 => some (r3, h4)
set_option maxHeartbeats 1000000 in
theorem wk_X2_count_J94 {Γ : xk_C} {r : Int32} {h' : xk_H} {s0 : Int32} {s1 : Option Nat} {h0 : xk_H} (C : xk_Cx Γ RX2 cX2_count 2 (Option.some FieldType.int) "count" 9 241) (Z : xk_Z Γ (some (.int r)) h') (E : mf_X2_count_J94 s0 s1 h0 = some (r, h')) : xk_X Γ 94 [] [.int s0, va_rf s1] h0 := by
  rw [mf_X2_count_J94] at E
  refine xr_V (v := s1) [.int s0] [] (fun r => some (.int r)) (fun r => .int r :: []) C E xi_2_SlatCratesModel (fun r h' e => wk_X2_onGround e) q2453 q2455 qs73 q89 q2456 xh_SlatCratesModel xd_X2_onGround (by decide) (by decide) trivial (Nat.le_of_ble_eq_true rfl) rfl (fun _ => rfl) dX2_count_94 (fun r3 h4 E => ?_)
  exact xr_iret C Z E dX2_count_97
def mf_X2_count (a0 : Option Nat) (a1 : Int32) (h0 : xk_H) : Option (Int32 × xk_H) :=
  if a1 = (0 : Int32) then (xm_gR [2] 0 a0 h0 fun x1 => xm_lI [100] x1 (0 : Int32) h0 fun x2 => some (x2, h0)) else if a1 = (1 : Int32) then (if a1 = (2 : Int32) then (mf_X2_count_J94 (1 : Int32) a0 h0) else (mf_X2_count_J94 (0 : Int32) a0 h0)) else if a1 = (2 : Int32) then (if a1 = (2 : Int32) then (mf_X2_count_J94 (1 : Int32) a0 h0) else (mf_X2_count_J94 (0 : Int32) a0 h0)) else if a1 = (3 : Int32) then (xm_rc [2] a0 h0 <| xm_cl (mf_X2_deepest a0 h0) fun r5 h6 => some (r5, h6)) else if a1 = (4 : Int32) then (xm_rc [2] a0 h0 <| xm_cl (mf_X2_sum a0 (0 : Int32) h0) fun r7 h8 => some (r7, h8)) else if a1 = (5 : Int32) then (xm_rc [2] a0 h0 <| xm_cl (mf_X2_sum a0 (8 : Int32) h0) fun r9 h10 => some (r9, h10)) else if a1 = (6 : Int32) then (xm_rc [2] a0 h0 <| xm_cl (mf_X2_sum a0 (11 : Int32) h0) fun r11 h12 => some (r11, h12)) else if a1 = (7 : Int32) then (xm_rc [2] a0 h0 <| xm_cl (mf_X2_sum a0 (3 : Int32) h0) fun r13 h14 => some (r13, h14)) else if a1 = (8 : Int32) then (xm_rc [2] a0 h0 <| xm_cl (mf_X2_sum a0 (12 : Int32) h0) fun r15 h16 => some (r15, h16)) else if a1 = (9 : Int32) then (xm_rc [2] a0 h0 <| xm_cl (mf_X2_rowsSeen a0 h0) fun r17 h18 => some (r17, h18)) else if a1 = (10 : Int32) then (xm_rc [2] a0 h0 <| xm_cl (mf_X2_longestNest a0 h0) fun r19 h20 => some (r19, h20)) else if a1 = (11 : Int32) then (xm_rc [2] a0 h0 <| xm_cl (mf_X2_sum a0 (10 : Int32) h0) fun r21 h22 => some (r21, h22)) else if a1 = (12 : Int32) then (xm_gR [2] 0 a0 h0 fun x23 => xm_lI [100] x23 (1 : Int32) h0 fun x24 => some (x24, h0)) else if a1 = (13 : Int32) then (xm_gI [2] 7 a0 h0 fun x25 => some (x25, h0)) else if a1 = (14 : Int32) then (xm_gI [2] 3 a0 h0 fun x26 => some (x26, h0)) else (some ((-1 : Int32), h0))
set_option maxHeartbeats 1000000 in
theorem wk_X2_count {l : Launch} {D : va_G} {base : Nat} {a0 : Option Nat} {a1 : Int32} {h0 : xk_H} {r : Int32} {h' : xk_H} (E : mf_X2_count a0 a1 h0 = some (r, h')) : xk_Ok l D base yX2_count cX2_count 2 (Option.some FieldType.int) 9 241 [va_rf a0, .int a1] h0 (some (.int r)) h' := by
  refine xk_ofX RX2 "count" xq_X2_count rfl rfl (Nat.le_of_ble_eq_true rfl) ⟨xk_crf _, ⟨rfl, trivial⟩⟩ (fun Γ el eD eb C Z => ?_)
  rw [mf_X2_count] at E
  show xk_X Γ 0 [(0, va_rf a0), (1, .int a1)] [] h0
  refine xr_iload_n 1 C rfl rfl dX2_count_0 ?_
  by_cases s0 : a1 = (0 : Int32)
  · rw [if_pos s0] at E
    refine xr_tsw 76 (0) C dX2_count_1 s0 (by decide) (by decide) (off := 75) rfl (by decide) ?_
    refine xr_aload_n 0 C rfl rfl dX2_count_76 ?_
    refine xr_gR C E xf_X2_7 dX2_count_77 (fun x1 E => ?_)
    refine xr_iconst (0) C (by decide) dX2_count_80 ?_
    refine xr_lI C E xt_100 dX2_count_81 (fun x2 E => ?_)
    exact xr_iret C Z E dX2_count_82
  rw [if_neg s0] at E
  by_cases s1 : a1 = (1 : Int32)
  · rw [if_pos s1] at E
    refine xr_tsw 83 (1) C dX2_count_1 s1 (by decide) (by decide) (off := 82) rfl (by decide) ?_
    refine xr_aload_n 0 C rfl rfl dX2_count_83 ?_
    refine xr_iload_n 1 C rfl rfl dX2_count_84 ?_
    refine xr_iconst (2) C (by decide) dX2_count_85 ?_
    refine xr_icmp_ne 93 C E dX2_count_86 (by decide) (fun E => ?_) (fun E => ?_)
    · refine xr_iconst (0) C (by decide) dX2_count_93 ?_
      refine xr_sub [] rfl ?_
      exact wk_X2_count_J94 C Z E
    · refine xr_iconst (1) C (by decide) dX2_count_89 ?_
      refine xr_goto 94 C dX2_count_90 (by decide) ?_
      refine xr_sub [] rfl ?_
      exact wk_X2_count_J94 C Z E
  rw [if_neg s1] at E
  by_cases s2 : a1 = (2 : Int32)
  · rw [if_pos s2] at E
    refine xr_tsw 83 (2) C dX2_count_1 s2 (by decide) (by decide) (off := 82) rfl (by decide) ?_
    refine xr_aload_n 0 C rfl rfl dX2_count_83 ?_
    refine xr_iload_n 1 C rfl rfl dX2_count_84 ?_
    refine xr_iconst (2) C (by decide) dX2_count_85 ?_
    refine xr_icmp_ne 93 C E dX2_count_86 (by decide) (fun E => ?_) (fun E => ?_)
    · refine xr_iconst (0) C (by decide) dX2_count_93 ?_
      refine xr_sub [] rfl ?_
      exact wk_X2_count_J94 C Z E
    · refine xr_iconst (1) C (by decide) dX2_count_89 ?_
      refine xr_goto 94 C dX2_count_90 (by decide) ?_
      refine xr_sub [] rfl ?_
      exact wk_X2_count_J94 C Z E
  rw [if_neg s2] at E
  by_cases s3 : a1 = (3 : Int32)
  · rw [if_pos s3] at E
    refine xr_tsw 98 (3) C dX2_count_1 s3 (by decide) (by decide) (off := 97) rfl (by decide) ?_
    refine xr_aload_n 0 C rfl rfl dX2_count_98 ?_
    refine xr_V (v := a0) [] [] (fun r => some (.int r)) (fun r => .int r :: []) C E xi_2_SlatCratesModel (fun r h' e => wk_X2_deepest e) q2457 q2459 qs74 q89 q2460 xh_SlatCratesModel xd_X2_deepest (by decide) (by decide) trivial (Nat.le_of_ble_eq_true rfl) rfl (fun _ => rfl) dX2_count_99 (fun r5 h6 E => ?_)
    exact xr_iret C Z E dX2_count_102
  rw [if_neg s3] at E
  by_cases s4 : a1 = (4 : Int32)
  · rw [if_pos s4] at E
    refine xr_tsw 103 (4) C dX2_count_1 s4 (by decide) (by decide) (off := 102) rfl (by decide) ?_
    refine xr_aload_n 0 C rfl rfl dX2_count_103 ?_
    refine xr_iconst (0) C (by decide) dX2_count_104 ?_
    refine xr_V (v := a0) [.int (0 : Int32)] [] (fun r => some (.int r)) (fun r => .int r :: []) C E xi_2_SlatCratesModel (fun r h' e => wk_X2_sum e) q2461 q2463 qs75 q89 q2464 xh_SlatCratesModel xd_X2_sum (by decide) (by decide) trivial (Nat.le_of_ble_eq_true rfl) rfl (fun _ => rfl) dX2_count_105 (fun r7 h8 E => ?_)
    exact xr_iret C Z E dX2_count_108
  rw [if_neg s4] at E
  by_cases s5 : a1 = (5 : Int32)
  · rw [if_pos s5] at E
    refine xr_tsw 109 (5) C dX2_count_1 s5 (by decide) (by decide) (off := 108) rfl (by decide) ?_
    refine xr_aload_n 0 C rfl rfl dX2_count_109 ?_
    refine xr_bipush (8) C (by decide) dX2_count_110 ?_
    refine xr_V (v := a0) [.int (8 : Int32)] [] (fun r => some (.int r)) (fun r => .int r :: []) C E xi_2_SlatCratesModel (fun r h' e => wk_X2_sum e) q2461 q2463 qs75 q89 q2464 xh_SlatCratesModel xd_X2_sum (by decide) (by decide) trivial (Nat.le_of_ble_eq_true rfl) rfl (fun _ => rfl) dX2_count_112 (fun r9 h10 E => ?_)
    exact xr_iret C Z E dX2_count_115
  rw [if_neg s5] at E
  by_cases s6 : a1 = (6 : Int32)
  · rw [if_pos s6] at E
    refine xr_tsw 116 (6) C dX2_count_1 s6 (by decide) (by decide) (off := 115) rfl (by decide) ?_
    refine xr_aload_n 0 C rfl rfl dX2_count_116 ?_
    refine xr_bipush (11) C (by decide) dX2_count_117 ?_
    refine xr_V (v := a0) [.int (11 : Int32)] [] (fun r => some (.int r)) (fun r => .int r :: []) C E xi_2_SlatCratesModel (fun r h' e => wk_X2_sum e) q2461 q2463 qs75 q89 q2464 xh_SlatCratesModel xd_X2_sum (by decide) (by decide) trivial (Nat.le_of_ble_eq_true rfl) rfl (fun _ => rfl) dX2_count_119 (fun r11 h12 E => ?_)
    exact xr_iret C Z E dX2_count_122
  rw [if_neg s6] at E
  by_cases s7 : a1 = (7 : Int32)
  · rw [if_pos s7] at E
    refine xr_tsw 123 (7) C dX2_count_1 s7 (by decide) (by decide) (off := 122) rfl (by decide) ?_
    refine xr_aload_n 0 C rfl rfl dX2_count_123 ?_
    refine xr_iconst (3) C (by decide) dX2_count_124 ?_
    refine xr_V (v := a0) [.int (3 : Int32)] [] (fun r => some (.int r)) (fun r => .int r :: []) C E xi_2_SlatCratesModel (fun r h' e => wk_X2_sum e) q2461 q2463 qs75 q89 q2464 xh_SlatCratesModel xd_X2_sum (by decide) (by decide) trivial (Nat.le_of_ble_eq_true rfl) rfl (fun _ => rfl) dX2_count_125 (fun r13 h14 E => ?_)
    exact xr_iret C Z E dX2_count_128
  rw [if_neg s7] at E
  by_cases s8 : a1 = (8 : Int32)
  · rw [if_pos s8] at E
    refine xr_tsw 129 (8) C dX2_count_1 s8 (by decide) (by decide) (off := 128) rfl (by decide) ?_
    refine xr_aload_n 0 C rfl rfl dX2_count_129 ?_
    refine xr_bipush (12) C (by decide) dX2_count_130 ?_
    refine xr_V (v := a0) [.int (12 : Int32)] [] (fun r => some (.int r)) (fun r => .int r :: []) C E xi_2_SlatCratesModel (fun r h' e => wk_X2_sum e) q2461 q2463 qs75 q89 q2464 xh_SlatCratesModel xd_X2_sum (by decide) (by decide) trivial (Nat.le_of_ble_eq_true rfl) rfl (fun _ => rfl) dX2_count_132 (fun r15 h16 E => ?_)
    exact xr_iret C Z E dX2_count_135
  rw [if_neg s8] at E
  by_cases s9 : a1 = (9 : Int32)
  · rw [if_pos s9] at E
    refine xr_tsw 136 (9) C dX2_count_1 s9 (by decide) (by decide) (off := 135) rfl (by decide) ?_
    refine xr_aload_n 0 C rfl rfl dX2_count_136 ?_
    refine xr_V (v := a0) [] [] (fun r => some (.int r)) (fun r => .int r :: []) C E xi_2_SlatCratesModel (fun r h' e => wk_X2_rowsSeen e) q2466 q2468 qs76 q89 q2469 xh_SlatCratesModel xd_X2_rowsSeen (by decide) (by decide) trivial (Nat.le_of_ble_eq_true rfl) rfl (fun _ => rfl) dX2_count_137 (fun r17 h18 E => ?_)
    exact xr_iret C Z E dX2_count_140
  rw [if_neg s9] at E
  by_cases s10 : a1 = (10 : Int32)
  · rw [if_pos s10] at E
    refine xr_tsw 141 (10) C dX2_count_1 s10 (by decide) (by decide) (off := 140) rfl (by decide) ?_
    refine xr_aload_n 0 C rfl rfl dX2_count_141 ?_
    refine xr_V (v := a0) [] [] (fun r => some (.int r)) (fun r => .int r :: []) C E xi_2_SlatCratesModel (fun r h' e => wk_X2_longestNest e) q2437 q2439 qs70 q89 q2440 xh_SlatCratesModel xd_X2_longestNest (by decide) (by decide) trivial (Nat.le_of_ble_eq_true rfl) rfl (fun _ => rfl) dX2_count_142 (fun r19 h20 E => ?_)
    exact xr_iret C Z E dX2_count_145
  rw [if_neg s10] at E
  by_cases s11 : a1 = (11 : Int32)
  · rw [if_pos s11] at E
    refine xr_tsw 146 (11) C dX2_count_1 s11 (by decide) (by decide) (off := 145) rfl (by decide) ?_
    refine xr_aload_n 0 C rfl rfl dX2_count_146 ?_
    refine xr_bipush (10) C (by decide) dX2_count_147 ?_
    refine xr_V (v := a0) [.int (10 : Int32)] [] (fun r => some (.int r)) (fun r => .int r :: []) C E xi_2_SlatCratesModel (fun r h' e => wk_X2_sum e) q2461 q2463 qs75 q89 q2464 xh_SlatCratesModel xd_X2_sum (by decide) (by decide) trivial (Nat.le_of_ble_eq_true rfl) rfl (fun _ => rfl) dX2_count_149 (fun r21 h22 E => ?_)
    exact xr_iret C Z E dX2_count_152
  rw [if_neg s11] at E
  by_cases s12 : a1 = (12 : Int32)
  · rw [if_pos s12] at E
    refine xr_tsw 153 (12) C dX2_count_1 s12 (by decide) (by decide) (off := 152) rfl (by decide) ?_
    refine xr_aload_n 0 C rfl rfl dX2_count_153 ?_
    refine xr_gR C E xf_X2_7 dX2_count_154 (fun x23 E => ?_)
    refine xr_iconst (1) C (by decide) dX2_count_157 ?_
    refine xr_lI C E xt_100 dX2_count_158 (fun x24 E => ?_)
    exact xr_iret C Z E dX2_count_159
  rw [if_neg s12] at E
  by_cases s13 : a1 = (13 : Int32)
  · rw [if_pos s13] at E
    refine xr_tsw 160 (13) C dX2_count_1 s13 (by decide) (by decide) (off := 159) rfl (by decide) ?_
    refine xr_aload_n 0 C rfl rfl dX2_count_160 ?_
    refine xr_gI C E xf_X2_126 dX2_count_161 (fun x25 E => ?_)
    exact xr_iret C Z E dX2_count_164
  rw [if_neg s13] at E
  by_cases s14 : a1 = (14 : Int32)
  · rw [if_pos s14] at E
    refine xr_tsw 165 (14) C dX2_count_1 s14 (by decide) (by decide) (off := 164) rfl (by decide) ?_
    refine xr_aload_n 0 C rfl rfl dX2_count_165 ?_
    refine xr_gI C E xf_X2_43 dX2_count_166 (fun x26 E => ?_)
    exact xr_iret C Z E dX2_count_169
  rw [if_neg s14] at E
  refine xr_tswd 170 C dX2_count_1 (by have t0 := lv_neT s0 (a := 0) rfl; have t1 := lv_neT s1 (a := 1) rfl; have t2 := lv_neT s2 (a := 2) rfl; have t3 := lv_neT s3 (a := 3) rfl; have t4 := lv_neT s4 (a := 4) rfl; have t5 := lv_neT s5 (a := 5) rfl; have t6 := lv_neT s6 (a := 6) rfl; have t7 := lv_neT s7 (a := 7) rfl; have t8 := lv_neT s8 (a := 8) rfl; have t9 := lv_neT s9 (a := 9) rfl; have t10 := lv_neT s10 (a := 10) rfl; have t11 := lv_neT s11 (a := 11) rfl; have t12 := lv_neT s12 (a := 12) rfl; have t13 := lv_neT s13 (a := 13) rfl; have t14 := lv_neT s14 (a := 14) rfl; omega) (by decide) ?_
  refine xr_iconst (-1) C (by decide) dX2_count_170 ?_
  exact xr_iret C Z E dX2_count_171
def mf_X2_full (a0 : Option Nat) (h0 : xk_H) : Option (UInt64 × xk_H) :=
  xm_rc [2] a0 h0 <| xm_cl (mf_X2_sum a0 (1 : Int32) h0) fun r1 h2 => if r1 = 0 then (some ((0 : UInt64), h2)) else (xm_rc [2] a0 h2 <| xm_cl (mf_X2_sum a0 (8 : Int32) h2) fun r3 h4 => xm_dd (FP.i2d (r1 - r3)) (FP.i2d r1) fun x5 => some (x5, h4))
set_option maxHeartbeats 1000000 in
theorem wk_X2_full {l : Launch} {D : va_G} {base : Nat} {a0 : Option Nat} {h0 : xk_H} {r : UInt64} {h' : xk_H} (E : mf_X2_full a0 h0 = some (r, h')) : xk_Ok l D base yX2_full cX2_full 2 (Option.some FieldType.double) 9 241 [va_rf a0] h0 (some (.double r)) h' := by
  refine xk_ofX RX2 "full" xq_X2_full rfl rfl (Nat.le_of_ble_eq_true rfl) ⟨xk_crf _, trivial⟩ (fun Γ el eD eb C Z => ?_)
  rw [mf_X2_full] at E
  show xk_X Γ 0 [(0, va_rf a0)] [] h0
  refine xr_aload_n 0 C rfl rfl dX2_full_0 ?_
  refine xr_iconst (1) C (by decide) dX2_full_1 ?_
  refine xr_V (v := a0) [.int (1 : Int32)] [] (fun r => some (.int r)) (fun r => .int r :: []) C E xi_2_SlatCratesModel (fun r h' e => wk_X2_sum e) q2461 q2463 qs75 q89 q2464 xh_SlatCratesModel xd_X2_sum (by decide) (by decide) trivial (Nat.le_of_ble_eq_true rfl) rfl (fun _ => rfl) dX2_full_2 (fun r1 h2 E => ?_)
  refine xr_istore_n (L2 := [(1, .int r1), (0, va_rf a0)]) C rfl rfl dX2_full_5 (by decide) ?_
  refine xr_iload_n 0 C rfl rfl dX2_full_6 ?_
  refine xr_if_ne 14 C E dX2_full_7 (by decide) (fun E => ?_) (fun E => ?_)
  · refine xr_iload_n 0 C rfl rfl dX2_full_14 ?_
    refine xr_aload_n 1 C rfl rfl dX2_full_15 ?_
    refine xr_bipush (8) C (by decide) dX2_full_16 ?_
    refine xr_V (v := a0) [.int (8 : Int32)] [.int r1] (fun r => some (.int r)) (fun r => .int r :: [.int r1]) C E xi_2_SlatCratesModel (fun r h' e => wk_X2_sum e) q2461 q2463 qs75 q89 q2464 xh_SlatCratesModel xd_X2_sum (by decide) (by decide) ⟨rfl, trivial⟩ (Nat.le_of_ble_eq_true rfl) rfl (fun _ => rfl) dX2_full_18 (fun r3 h4 E => ?_)
    refine xr_isub C dX2_full_21 ?_
    refine xr_i2d C dX2_full_22 ?_
    refine xr_iload_n 0 C rfl rfl dX2_full_23 ?_
    refine xr_i2d C dX2_full_24 ?_
    refine xr_dd C E dX2_full_25 (fun x5 E => ?_)
    exact xr_dret C Z E dX2_full_26
  · refine xr_dconst0 C dX2_full_10 ?_
    refine xr_goto 26 C dX2_full_11 (by decide) ?_
    exact xr_dret C Z E dX2_full_26
def mf_X2_ifTurned_J48 (a0 : Option Nat) (a1 : Int32) (a3 : Int32) (s0 : Int32) (s1 : Option Nat) (h0 : xk_H) : Option (Int32 × xk_H) :=
  xm_rc [2] s1 h0 <| xm_cl (mf_X2_sum s1 s0 h0) fun r11 h12 => xm_rc [2] a0 h12 <| xm_cl (mf_X2_lays a0 a1 (2 : Int32) a3 h12) fun r13 h14 => some (r11, h14)
set_option maxHeartbeats 1000000 in
theorem wk_X2_ifTurned_J48 {Γ : xk_C} {r : Int32} {h' : xk_H} {a0 : Option Nat} {a1 : Int32} {a3 : Int32} {s0 : Int32} {s1 : Option Nat} {h0 : xk_H} (C : xk_Cx Γ RX2 cX2_ifTurned 5 (Option.some FieldType.int) "ifTurned" 9 241) (Z : xk_Z Γ (some (.int r)) h') (E : mf_X2_ifTurned_J48 a0 a1 a3 s0 s1 h0 = some (r, h')) : xk_X Γ 48 [(0, va_rf a0), (1, .int a1), (3, .int a3)] [.int s0, va_rf s1] h0 := by
  rw [mf_X2_ifTurned_J48] at E
  refine xr_V (v := s1) [.int s0] [] (fun r => some (.int r)) (fun r => .int r :: []) C E xi_2_SlatCratesModel (fun r h' e => wk_X2_sum e) q2461 q2463 qs75 q89 q2464 xh_SlatCratesModel xd_X2_sum (by decide) (by decide) trivial (Nat.le_of_ble_eq_true rfl) rfl (fun _ => rfl) dX2_ifTurned_48 (fun r11 h12 E => ?_)
  refine xr_istore (L2 := [(4, .int r11), (0, va_rf a0), (1, .int a1), (3, .int a3)]) C rfl dX2_ifTurned_51 (by decide) ?_
  refine xr_aload_n 1 C rfl rfl dX2_ifTurned_53 ?_
  refine xr_iload_n 2 C rfl rfl dX2_ifTurned_54 ?_
  refine xr_iconst (2) C (by decide) dX2_ifTurned_55 ?_
  refine xr_iload_n 3 C rfl rfl dX2_ifTurned_56 ?_
  refine xr_V (v := a0) [.int a1, .int (2 : Int32), .int a3] [] (fun _ => none) (fun _ => []) C E xi_2_SlatCratesModel (fun r h' e => wk_X2_lays e) q2219 q2221 qs33 q89 q2222 xh_SlatCratesModel xd_X2_lays (by decide) (by decide) trivial (Nat.le_of_ble_eq_true rfl) rfl (fun _ => rfl) dX2_ifTurned_57 (fun r13 h14 E => ?_)
  refine xr_iload 0 C rfl dX2_ifTurned_60 ?_
  exact xr_iret C Z E dX2_ifTurned_62
def mf_X2_ifTurned (a0 : Option Nat) (a1 : Int32) (a2 : Int32) (h0 : xk_H) : Option (Int32 × xk_H) :=
  xm_rc [2] a0 h0 <| xm_cl (mf_X2_isCrate a0 a1 h0) fun r1 h2 => if xk_b2 r1 = 0 then (some ((-1 : Int32), h2)) else (xm_cl (mf_X2_in a2 (0 : Int32) (1 : Int32) h2) fun r3 h4 => if xk_b2 r3 = 0 then (some ((-1 : Int32), h4)) else (xm_rc [2] a0 h4 <| xm_cl (mf_X2_of a0 a1 (2 : Int32) h4) fun r5 h6 => xm_cl (mf_X2_turned r5 h6) fun r7 h8 => xm_rc [2] a0 h8 <| xm_cl (mf_X2_lays a0 a1 (2 : Int32) r7 h8) fun r9 h10 => if a2 = 0 then (mf_X2_ifTurned_J48 a0 a1 r5 (12 : Int32) a0 h10) else (mf_X2_ifTurned_J48 a0 a1 r5 (11 : Int32) a0 h10)))
set_option maxHeartbeats 1000000 in
theorem wk_X2_ifTurned {l : Launch} {D : va_G} {base : Nat} {a0 : Option Nat} {a1 : Int32} {a2 : Int32} {h0 : xk_H} {r : Int32} {h' : xk_H} (E : mf_X2_ifTurned a0 a1 a2 h0 = some (r, h')) : xk_Ok l D base yX2_ifTurned cX2_ifTurned 5 (Option.some FieldType.int) 9 241 [va_rf a0, .int a1, .int a2] h0 (some (.int r)) h' := by
  refine xk_ofX RX2 "ifTurned" xq_X2_ifTurned rfl rfl (Nat.le_of_ble_eq_true rfl) ⟨xk_crf _, ⟨rfl, ⟨rfl, trivial⟩⟩⟩ (fun Γ el eD eb C Z => ?_)
  rw [mf_X2_ifTurned] at E
  show xk_X Γ 0 [(0, va_rf a0), (1, .int a1), (2, .int a2)] [] h0
  refine xr_aload_n 0 C rfl rfl dX2_ifTurned_0 ?_
  refine xr_iload_n 1 C rfl rfl dX2_ifTurned_1 ?_
  refine xr_V (v := a0) [.int a1] [] (fun r => some (.int (xk_b2 r))) (fun r => .int (xk_b2 r) :: []) C E xi_2_SlatCratesModel (fun r h' e => wk_X2_isCrate e) q2231 q2233 qs35 q89 q2234 xh_SlatCratesModel xd_X2_isCrate (by decide) (by decide) trivial (Nat.le_of_ble_eq_true rfl) rfl (fun _ => rfl) dX2_ifTurned_2 (fun r1 h2 E => ?_)
  refine xr_if_eq 17 C E dX2_ifTurned_5 (by decide) (fun E => ?_) (fun E => ?_)
  · refine xr_iconst (-1) C (by decide) dX2_ifTurned_17 ?_
    exact xr_iret C Z E dX2_ifTurned_18
  · refine xr_iload_n 2 C rfl rfl dX2_ifTurned_8 ?_
    refine xr_iconst (0) C (by decide) dX2_ifTurned_9 ?_
    refine xr_iconst (1) C (by decide) dX2_ifTurned_10 ?_
    refine xr_S [.int a2, .int (0 : Int32), .int (1 : Int32)] [] (fun r => some (.int (xk_b2 r))) (fun r => .int (xk_b2 r) :: []) C E (fun r h' e => wk_X2_in e) q2205 q2206 q89 q2207 xh_SlatCratesModel xd_X2_in (by decide) (by decide) trivial (Nat.le_of_ble_eq_true rfl) rfl (fun _ => rfl) dX2_ifTurned_11 (fun r3 h4 E => ?_)
    refine xr_if_ne 19 C E dX2_ifTurned_14 (by decide) (fun E => ?_) (fun E => ?_)
    · refine xr_aload_n 0 C rfl rfl dX2_ifTurned_19 ?_
      refine xr_iload_n 1 C rfl rfl dX2_ifTurned_20 ?_
      refine xr_iconst (2) C (by decide) dX2_ifTurned_21 ?_
      refine xr_V (v := a0) [.int a1, .int (2 : Int32)] [] (fun r => some (.int r)) (fun r => .int r :: []) C E xi_2_SlatCratesModel (fun r h' e => wk_X2_of e) q2247 q2249 qs39 q89 q2250 xh_SlatCratesModel xd_X2_of (by decide) (by decide) trivial (Nat.le_of_ble_eq_true rfl) rfl (fun _ => rfl) dX2_ifTurned_22 (fun r5 h6 E => ?_)
      refine xr_istore_n (L2 := [(3, .int r5), (0, va_rf a0), (1, .int a1), (2, .int a2)]) C rfl rfl dX2_ifTurned_25 (by decide) ?_
      refine xr_aload_n 1 C rfl rfl dX2_ifTurned_26 ?_
      refine xr_iload_n 2 C rfl rfl dX2_ifTurned_27 ?_
      refine xr_iconst (2) C (by decide) dX2_ifTurned_28 ?_
      refine xr_iload_n 0 C rfl rfl dX2_ifTurned_29 ?_
      refine xr_S [.int r5] [.int (2 : Int32), .int a1, va_rf a0] (fun r => some (.int r)) (fun r => .int r :: [.int (2 : Int32), .int a1, va_rf a0]) C E (fun r h' e => wk_X2_turned e) q2283 q2284 q89 q2285 xh_SlatCratesModel xd_X2_turned (by decide) (by decide) ⟨rfl, ⟨rfl, ⟨xk_crf _, trivial⟩⟩⟩ (Nat.le_of_ble_eq_true rfl) rfl (fun _ => rfl) dX2_ifTurned_30 (fun r7 h8 E => ?_)
      refine xr_V (v := a0) [.int a1, .int (2 : Int32), .int r7] [] (fun _ => none) (fun _ => []) C E xi_2_SlatCratesModel (fun r h' e => wk_X2_lays e) q2219 q2221 qs33 q89 q2222 xh_SlatCratesModel xd_X2_lays (by decide) (by decide) trivial (Nat.le_of_ble_eq_true rfl) rfl (fun _ => rfl) dX2_ifTurned_33 (fun r9 h10 E => ?_)
      refine xr_aload_n 1 C rfl rfl dX2_ifTurned_36 ?_
      refine xr_iload_n 3 C rfl rfl dX2_ifTurned_37 ?_
      refine xr_if_ne 46 C E dX2_ifTurned_38 (by decide) (fun E => ?_) (fun E => ?_)
      · refine xr_bipush (11) C (by decide) dX2_ifTurned_46 ?_
        refine xr_sub [1, 2, 0] rfl ?_
        exact wk_X2_ifTurned_J48 C Z E
      · refine xr_bipush (12) C (by decide) dX2_ifTurned_41 ?_
        refine xr_goto 48 C dX2_ifTurned_43 (by decide) ?_
        refine xr_sub [1, 2, 0] rfl ?_
        exact wk_X2_ifTurned_J48 C Z E
    · refine xr_iconst (-1) C (by decide) dX2_ifTurned_17 ?_
      exact xr_iret C Z E dX2_ifTurned_18
def mf_X2_bestTurn_J36 (kb7 : Int32 → Int32 → Int32 → xk_H → Option (Int32 × xk_H)) (a0 : Option Nat) (a2 : Int32) (a3 : Int32) (a4 : Int32) (s0 : Int32) (h0 : xk_H) : Option (Int32 × xk_H) :=
  if a4 ≤ a2 then (kb7 s0 a2 (a3 + 1) h0) else (kb7 s0 a4 (a3 + 1) h0)
set_option maxHeartbeats 1000000 in
theorem wk_X2_bestTurn_J36 {Γ : xk_C} {r : Int32} {h' : xk_H} {kb7 : Int32 → Int32 → Int32 → xk_H → Option (Int32 × xk_H)} {a0 : Option Nat} {a2 : Int32} {a3 : Int32} {a4 : Int32} {s0 : Int32} {h0 : xk_H} (C : xk_Cx Γ RX2 cX2_bestTurn 5 (Option.some FieldType.int) "bestTurn" 10 265) (Z : xk_Z Γ (some (.int r)) h') (hkb7 : ∀ (m1 : Int32) (m2 : Int32) (m3 : Int32) (g : xk_H), kb7 m1 m2 m3 g = some (r, h') → xk_X Γ 7 [(0, va_rf a0), (1, .int m1), (2, .int m2), (3, .int m3)] [] g) (E : mf_X2_bestTurn_J36 kb7 a0 a2 a3 a4 s0 h0 = some (r, h')) : xk_X Γ 36 [(0, va_rf a0), (2, .int a2), (3, .int a3), (4, .int a4)] [.int s0] h0 := by
  rw [mf_X2_bestTurn_J36] at E
  refine xr_istore_n (L2 := [(1, .int s0), (0, va_rf a0), (2, .int a2), (3, .int a3), (4, .int a4)]) C rfl rfl dX2_bestTurn_36 (by decide) ?_
  refine xr_iload 4 C rfl dX2_bestTurn_37 ?_
  refine xr_iload_n 2 C rfl rfl dX2_bestTurn_39 ?_
  refine xr_icmp_le 48 C E dX2_bestTurn_40 (by decide) (fun E => ?_) (fun E => ?_)
  · refine xr_iload_n 2 C rfl rfl dX2_bestTurn_48 ?_
    refine xr_istore_n (L2 := [(2, .int a2), (1, .int s0), (0, va_rf a0), (3, .int a3), (4, .int a4)]) C rfl rfl dX2_bestTurn_49 (by decide) ?_
    refine xr_iinc (v := (a3 + 1)) (L2 := [(3, .int (a3 + 1)), (2, .int a2), (1, .int s0), (0, va_rf a0), (4, .int a4)]) 3 C rfl rfl rfl dX2_bestTurn_50 (by decide) ?_
    refine xr_goto 7 C dX2_bestTurn_53 (by decide) ?_
    refine xr_sub [3, 2, 1, 0] rfl ?_
    exact hkb7 s0 a2 (a3 + 1) h0 E
  · refine xr_iload 4 C rfl dX2_bestTurn_43 ?_
    refine xr_goto 49 C dX2_bestTurn_45 (by decide) ?_
    refine xr_istore_n (L2 := [(2, .int a4), (1, .int s0), (0, va_rf a0), (3, .int a3), (4, .int a4)]) C rfl rfl dX2_bestTurn_49 (by decide) ?_
    refine xr_iinc (v := (a3 + 1)) (L2 := [(3, .int (a3 + 1)), (2, .int a4), (1, .int s0), (0, va_rf a0), (4, .int a4)]) 3 C rfl rfl rfl dX2_bestTurn_50 (by decide) ?_
    refine xr_goto 7 C dX2_bestTurn_53 (by decide) ?_
    refine xr_sub [3, 2, 1, 0] rfl ?_
    exact hkb7 s0 a4 (a3 + 1) h0 E
def mf_X2_bestTurn_L7 (a0 : Option Nat) : Nat → Int32 → Int32 → Int32 → xk_H → Option (Int32 × xk_H)
  | 0, _, _, _, _ => none
  | n + 1, a1, a2, a3, h0 => xm_gR [2] 0 a0 h0 fun x1 => xm_lI [100] x1 (0 : Int32) h0 fun x2 => if x2 ≤ a3 then (some (a1, h0)) else (xm_rc [2] a0 h0 <| xm_cl (mf_X2_ifTurned a0 a3 (0 : Int32) h0) fun r3 h4 => if r3 ≤ a2 then (mf_X2_bestTurn_J36 (fun m1 m2 m3 g => mf_X2_bestTurn_L7 a0 n m1 m2 m3 g) a0 a2 a3 r3 a1 h4) else (mf_X2_bestTurn_J36 (fun m1 m2 m3 g => mf_X2_bestTurn_L7 a0 n m1 m2 m3 g) a0 a2 a3 r3 a3 h4))
set_option maxHeartbeats 1000000 in
theorem wk_X2_bestTurn_L7 {Γ : xk_C} {r : Int32} {h' : xk_H} {a0 : Option Nat} (C : xk_Cx Γ RX2 cX2_bestTurn 5 (Option.some FieldType.int) "bestTurn" 10 265) (Z : xk_Z Γ (some (.int r)) h') : ∀ (n : Nat) (a1 : Int32) (a2 : Int32) (a3 : Int32) (h0 : xk_H), mf_X2_bestTurn_L7 a0 n a1 a2 a3 h0 = some (r, h') → xk_X Γ 7 [(0, va_rf a0), (1, .int a1), (2, .int a2), (3, .int a3)] [] h0 := by
  intro n
  induction n with
  | zero =>
    intro a1 a2 a3 h0 E
    rw [mf_X2_bestTurn_L7] at E
    cases E
  | succ n ih =>
    intro a1 a2 a3 h0 E
    have hkb7 : ∀ (m1 : Int32) (m2 : Int32) (m3 : Int32) (g : xk_H), mf_X2_bestTurn_L7 a0 n m1 m2 m3 g = some (r, h') → xk_X Γ 7 [(0, va_rf a0), (1, .int m1), (2, .int m2), (3, .int m3)] [] g := ih
    rw [mf_X2_bestTurn_L7] at E
    refine xr_iload_n 3 C rfl rfl dX2_bestTurn_7 ?_
    refine xr_aload_n 0 C rfl rfl dX2_bestTurn_8 ?_
    refine xr_gR C E xf_X2_7 dX2_bestTurn_9 (fun x1 E => ?_)
    refine xr_iconst (0) C (by decide) dX2_bestTurn_12 ?_
    refine xr_lI C E xt_100 dX2_bestTurn_13 (fun x2 E => ?_)
    refine xr_icmp_ge 56 C E dX2_bestTurn_14 (by decide) (fun E => ?_) (fun E => ?_)
    · refine xr_iload_n 1 C rfl rfl dX2_bestTurn_56 ?_
      exact xr_iret C Z E dX2_bestTurn_57
    · refine xr_aload_n 0 C rfl rfl dX2_bestTurn_17 ?_
      refine xr_iload_n 3 C rfl rfl dX2_bestTurn_18 ?_
      refine xr_iconst (0) C (by decide) dX2_bestTurn_19 ?_
      refine xr_V (v := a0) [.int a3, .int (0 : Int32)] [] (fun r => some (.int r)) (fun r => .int r :: []) C E xi_2_SlatCratesModel (fun r h' e => wk_X2_ifTurned e) q2482 q2475 q2476 q89 q2477 xh_SlatCratesModel xd_X2_ifTurned (by decide) (by decide) trivial (Nat.le_of_ble_eq_true rfl) rfl (fun _ => rfl) dX2_bestTurn_20 (fun r3 h4 E => ?_)
      refine xr_istore (L2 := [(4, .int r3), (0, va_rf a0), (1, .int a1), (2, .int a2), (3, .int a3)]) C rfl dX2_bestTurn_23 (by decide) ?_
      refine xr_iload 0 C rfl dX2_bestTurn_25 ?_
      refine xr_iload_n 3 C rfl rfl dX2_bestTurn_27 ?_
      refine xr_icmp_le 35 C E dX2_bestTurn_28 (by decide) (fun E => ?_) (fun E => ?_)
      · refine xr_iload_n 2 C rfl rfl dX2_bestTurn_35 ?_
        refine xr_sub [1, 3, 4, 0] rfl ?_
        exact wk_X2_bestTurn_J36 C Z hkb7 E
      · refine xr_iload_n 4 C rfl rfl dX2_bestTurn_31 ?_
        refine xr_goto 36 C dX2_bestTurn_32 (by decide) ?_
        refine xr_sub [1, 3, 4, 0] rfl ?_
        exact wk_X2_bestTurn_J36 C Z hkb7 E
def mf_X2_bestTurn (a0 : Option Nat) (h0 : xk_H) : Option (Int32 × xk_H) :=
  mf_X2_bestTurn_L7 a0 xk_fu (-4 : Int32) (-1 : Int32) (0 : Int32) h0
set_option maxHeartbeats 1000000 in
theorem wk_X2_bestTurn {l : Launch} {D : va_G} {base : Nat} {a0 : Option Nat} {h0 : xk_H} {r : Int32} {h' : xk_H} (E : mf_X2_bestTurn a0 h0 = some (r, h')) : xk_Ok l D base yX2_bestTurn cX2_bestTurn 5 (Option.some FieldType.int) 10 265 [va_rf a0] h0 (some (.int r)) h' := by
  refine xk_ofX RX2 "bestTurn" xq_X2_bestTurn rfl rfl (Nat.le_of_ble_eq_true rfl) ⟨xk_crf _, trivial⟩ (fun Γ el eD eb C Z => ?_)
  rw [mf_X2_bestTurn] at E
  show xk_X Γ 0 [(0, va_rf a0)] [] h0
  refine xr_bipush (-4) C (by decide) dX2_bestTurn_0 ?_
  refine xr_istore_n (L2 := [(1, .int (-4 : Int32)), (0, va_rf a0)]) C rfl rfl dX2_bestTurn_2 (by decide) ?_
  refine xr_iconst (-1) C (by decide) dX2_bestTurn_3 ?_
  refine xr_istore_n (L2 := [(2, .int (-1 : Int32)), (1, .int (-4 : Int32)), (0, va_rf a0)]) C rfl rfl dX2_bestTurn_4 (by decide) ?_
  refine xr_iconst (0) C (by decide) dX2_bestTurn_5 ?_
  refine xr_istore_n (L2 := [(3, .int (0 : Int32)), (2, .int (-1 : Int32)), (1, .int (-4 : Int32)), (0, va_rf a0)]) C rfl rfl dX2_bestTurn_6 (by decide) ?_
  refine xr_sub [3, 2, 1, 0] rfl ?_
  exact wk_X2_bestTurn_L7 (a0 := a0) C Z xk_fu (-4 : Int32) (-1 : Int32) (0 : Int32) h0 E
def mf_X2_undo (a0 : Option Nat) (h0 : xk_H) : Option (Int32 × xk_H) :=
  xm_gI [2] 3 a0 h0 fun x1 => if x1 = 0 then (some ((-2 : Int32), h0)) else (xm_gI [2] 3 a0 h0 fun x2 => xm_pV [2] 3 a0 (.int (x2 - (1 : Int32))) h0 fun h3 => xm_gR [2] 2 a0 h3 fun x4 => xm_gI [2] 3 a0 h3 fun x5 => xm_gR [2] 0 a0 h3 fun x6 => xm_cl (mf_X2_copies x4 ((110 : Int32) * x5) x6 (0 : Int32) h3) fun r7 h8 => xm_gI [2] 3 a0 h8 fun x9 => some (x9, h8))
set_option maxHeartbeats 1000000 in
theorem wk_X2_undo {l : Launch} {D : va_G} {base : Nat} {a0 : Option Nat} {h0 : xk_H} {r : Int32} {h' : xk_H} (E : mf_X2_undo a0 h0 = some (r, h')) : xk_Ok l D base yX2_undo cX2_undo 1 (Option.some FieldType.int) 2 84 [va_rf a0] h0 (some (.int r)) h' := by
  refine xk_ofX RX2 "undo" xq_X2_undo rfl rfl (Nat.le_of_ble_eq_true rfl) ⟨xk_crf _, trivial⟩ (fun Γ el eD eb C Z => ?_)
  rw [mf_X2_undo] at E
  show xk_X Γ 0 [(0, va_rf a0)] [] h0
  refine xr_aload_n 0 C rfl rfl dX2_undo_0 ?_
  refine xr_gI C E xf_X2_43 dX2_undo_1 (fun x1 E => ?_)
  refine xr_if_ne 10 C E dX2_undo_4 (by decide) (fun E => ?_) (fun E => ?_)
  · refine xr_aload_n 0 C rfl rfl dX2_undo_10 ?_
    refine xr_dup C (xk_crf _) dX2_undo_11 ?_
    refine xr_gI C E xf_X2_43 dX2_undo_12 (fun x2 E => ?_)
    refine xr_iconst (1) C (by decide) dX2_undo_15 ?_
    refine xr_isub C dX2_undo_16 ?_
    refine xr_pI C E xf_X2_43 xp_X2_43 dX2_undo_17 (fun h3 E => ?_)
    refine xr_aload_n 0 C rfl rfl dX2_undo_20 ?_
    refine xr_gR C E xf_X2_16 dX2_undo_21 (fun x4 E => ?_)
    refine xr_bipush (110) C (by decide) dX2_undo_24 ?_
    refine xr_aload_n 0 C rfl rfl dX2_undo_26 ?_
    refine xr_gI C E xf_X2_43 dX2_undo_27 (fun x5 E => ?_)
    refine xr_imul C dX2_undo_30 ?_
    refine xr_aload_n 0 C rfl rfl dX2_undo_31 ?_
    refine xr_gR C E xf_X2_7 dX2_undo_32 (fun x6 E => ?_)
    refine xr_iconst (0) C (by decide) dX2_undo_35 ?_
    refine xr_S [va_rf x4, .int ((110 : Int32) * x5), va_rf x6, .int (0 : Int32)] [] (fun _ => none) (fun _ => []) C E (fun r h' e => wk_X2_copies e) q2216 q2217 q89 q2218 xh_SlatCratesModel xd_X2_copies (by decide) (by decide) trivial (Nat.le_of_ble_eq_true rfl) rfl (fun _ => rfl) dX2_undo_36 (fun r7 h8 E => ?_)
    refine xr_aload_n 0 C rfl rfl dX2_undo_39 ?_
    refine xr_gI C E xf_X2_43 dX2_undo_40 (fun x9 E => ?_)
    exact xr_iret C Z E dX2_undo_43
  · refine xr_bipush (-2) C (by decide) dX2_undo_7 ?_
    exact xr_iret C Z E dX2_undo_9
def mf_X2_save (a0 : Option Nat) (h0 : xk_H) : Option (Int32 × xk_H) :=
  xm_gR [2] 0 a0 h0 fun x1 => xm_gR [2] 4 a0 h0 fun x2 => xm_cl (mf_X2_copies x1 (0 : Int32) x2 (0 : Int32) h0) fun r3 h4 => xm_pN .boolean [2] 5 a0 (1 : Int32) h4 fun h5 => xm_gR [2] 0 a0 h5 fun x6 => xm_lI [100] x6 (0 : Int32) h5 fun x7 => some (x7, h5)
set_option maxHeartbeats 1000000 in
theorem wk_X2_save {l : Launch} {D : va_G} {base : Nat} {a0 : Option Nat} {h0 : xk_H} {r : Int32} {h' : xk_H} (E : mf_X2_save a0 h0 = some (r, h')) : xk_Ok l D base yX2_save cX2_save 1 (Option.some FieldType.int) 2 84 [va_rf a0] h0 (some (.int r)) h' := by
  refine xk_ofX RX2 "save" xq_X2_save rfl rfl (Nat.le_of_ble_eq_true rfl) ⟨xk_crf _, trivial⟩ (fun Γ el eD eb C Z => ?_)
  rw [mf_X2_save] at E
  show xk_X Γ 0 [(0, va_rf a0)] [] h0
  refine xr_aload_n 0 C rfl rfl dX2_save_0 ?_
  refine xr_gR C E xf_X2_7 dX2_save_1 (fun x1 E => ?_)
  refine xr_iconst (0) C (by decide) dX2_save_4 ?_
  refine xr_aload_n 0 C rfl rfl dX2_save_5 ?_
  refine xr_gR C E xf_X2_19 dX2_save_6 (fun x2 E => ?_)
  refine xr_iconst (0) C (by decide) dX2_save_9 ?_
  refine xr_S [va_rf x1, .int (0 : Int32), va_rf x2, .int (0 : Int32)] [] (fun _ => none) (fun _ => []) C E (fun r h' e => wk_X2_copies e) q2216 q2217 q89 q2218 xh_SlatCratesModel xd_X2_copies (by decide) (by decide) trivial (Nat.le_of_ble_eq_true rfl) rfl (fun _ => rfl) dX2_save_10 (fun r3 h4 E => ?_)
  refine xr_aload_n 0 C rfl rfl dX2_save_13 ?_
  refine xr_iconst (1) C (by decide) dX2_save_14 ?_
  refine xr_pN C E xf_X2_239 xp_X2_239 dX2_save_15 (fun h5 E => ?_)
  refine xr_aload_n 0 C rfl rfl dX2_save_18 ?_
  refine xr_gR C E xf_X2_7 dX2_save_19 (fun x6 E => ?_)
  refine xr_iconst (0) C (by decide) dX2_save_22 ?_
  refine xr_lI C E xt_100 dX2_save_23 (fun x7 E => ?_)
  exact xr_iret C Z E dX2_save_24
def mf_X2_restore (a0 : Option Nat) (h0 : xk_H) : Option (Int32 × xk_H) :=
  xm_gI [2] 5 a0 h0 fun x1 => if x1 = 0 then (some ((-2 : Int32), h0)) else (xm_rc [2] a0 h0 <| xm_cl (mf_X2_records a0 h0) fun r2 h3 => xm_gR [2] 4 a0 h3 fun x4 => xm_gR [2] 0 a0 h3 fun x5 => xm_cl (mf_X2_copies x4 (0 : Int32) x5 (0 : Int32) h3) fun r6 h7 => xm_gR [2] 0 a0 h7 fun x8 => xm_lI [100] x8 (0 : Int32) h7 fun x9 => some (x9, h7))
set_option maxHeartbeats 1000000 in
theorem wk_X2_restore {l : Launch} {D : va_G} {base : Nat} {a0 : Option Nat} {h0 : xk_H} {r : Int32} {h' : xk_H} (E : mf_X2_restore a0 h0 = some (r, h')) : xk_Ok l D base yX2_restore cX2_restore 1 (Option.some FieldType.int) 3 105 [va_rf a0] h0 (some (.int r)) h' := by
  refine xk_ofX RX2 "restore" xq_X2_restore rfl rfl (Nat.le_of_ble_eq_true rfl) ⟨xk_crf _, trivial⟩ (fun Γ el eD eb C Z => ?_)
  rw [mf_X2_restore] at E
  show xk_X Γ 0 [(0, va_rf a0)] [] h0
  refine xr_aload_n 0 C rfl rfl dX2_restore_0 ?_
  refine xr_gI C E xf_X2_239 dX2_restore_1 (fun x1 E => ?_)
  refine xr_if_ne 10 C E dX2_restore_4 (by decide) (fun E => ?_) (fun E => ?_)
  · refine xr_aload_n 0 C rfl rfl dX2_restore_10 ?_
    refine xr_V (v := a0) [] [] (fun _ => none) (fun _ => []) C E xi_2_SlatCratesModel (fun r h' e => wk_X2_records e) q2212 q2214 qs32 q89 q2215 xh_SlatCratesModel xd_X2_records (by decide) (by decide) trivial (Nat.le_of_ble_eq_true rfl) rfl (fun _ => rfl) dX2_restore_11 (fun r2 h3 E => ?_)
    refine xr_aload_n 0 C rfl rfl dX2_restore_14 ?_
    refine xr_gR C E xf_X2_19 dX2_restore_15 (fun x4 E => ?_)
    refine xr_iconst (0) C (by decide) dX2_restore_18 ?_
    refine xr_aload_n 0 C rfl rfl dX2_restore_19 ?_
    refine xr_gR C E xf_X2_7 dX2_restore_20 (fun x5 E => ?_)
    refine xr_iconst (0) C (by decide) dX2_restore_23 ?_
    refine xr_S [va_rf x4, .int (0 : Int32), va_rf x5, .int (0 : Int32)] [] (fun _ => none) (fun _ => []) C E (fun r h' e => wk_X2_copies e) q2216 q2217 q89 q2218 xh_SlatCratesModel xd_X2_copies (by decide) (by decide) trivial (Nat.le_of_ble_eq_true rfl) rfl (fun _ => rfl) dX2_restore_24 (fun r6 h7 E => ?_)
    refine xr_aload_n 0 C rfl rfl dX2_restore_27 ?_
    refine xr_gR C E xf_X2_7 dX2_restore_28 (fun x8 E => ?_)
    refine xr_iconst (0) C (by decide) dX2_restore_31 ?_
    refine xr_lI C E xt_100 dX2_restore_32 (fun x9 E => ?_)
    exact xr_iret C Z E dX2_restore_33
  · refine xr_bipush (-2) C (by decide) dX2_restore_7 ?_
    exact xr_iret C Z E dX2_restore_9
