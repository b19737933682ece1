set_option maxRecDepth 100000
theorem xf_X5_9 : xk_Fos "SlatCrates$Seen" 9 [5] 0 := List.forall_mem_cons.mpr ⟨⟨Or.inl (by decide), (RX5, TX5, 3), "SlatCrates$Seen", rfl, by decide, Or.inl q1321, Or.inl rfl⟩, fun _ h => absurd h List.not_mem_nil⟩
theorem xf_X5_15 : xk_Fos "SlatCrates$Seen" 15 [5] 1 := List.forall_mem_cons.mpr ⟨⟨Or.inl (by decide), (RX5, TX5, 3), "SlatCrates$Seen", rfl, by decide, Or.inl q1322, Or.inl rfl⟩, fun _ h => absurd h List.not_mem_nil⟩
theorem xf_X5_18 : xk_Fos "SlatCrates$Seen" 18 [5] 2 := List.forall_mem_cons.mpr ⟨⟨Or.inl (by decide), (RX5, TX5, 3), "SlatCrates$Seen", rfl, by decide, Or.inl q1323, Or.inl rfl⟩, fun _ h => absurd h List.not_mem_nil⟩
theorem xi_5_SlatCratesSeen : xk_Is [5] "SlatCrates$Seen" := List.forall_mem_cons.mpr ⟨⟨Or.inl (by decide), (RX5, TX5, 3), rfl, rfl⟩, fun _ h => absurd h List.not_mem_nil⟩
theorem xq_X5_equals : plainFor yX5_equals = true := by decide +kernel
theorem xq_X5_hashCode : plainFor yX5_hashCode = true := by decide +kernel
theorem xp_X5_9_i : xk_Fp "SlatCrates$Seen" "<init>" [5] 0 .int := List.forall_mem_cons.mpr ⟨⟨by decide, fun r h => by cases h; exact ⟨tyX5_ok 0 (by decide), Or.inr ⟨rfl, rfl, rfl⟩⟩⟩, fun _ h => absurd h List.not_mem_nil⟩
theorem xp_X5_15_i : xk_Fp "SlatCrates$Seen" "<init>" [5] 1 .int := List.forall_mem_cons.mpr ⟨⟨by decide, fun r h => by cases h; exact ⟨tyX5_ok 1 (by decide), Or.inr ⟨rfl, rfl, rfl⟩⟩⟩, fun _ h => absurd h List.not_mem_nil⟩
theorem xp_X5_18_i : xk_Fp "SlatCrates$Seen" "<init>" [5] 2 .int := List.forall_mem_cons.mpr ⟨⟨by decide, fun r h => by cases h; exact ⟨tyX5_ok 2 (by decide), Or.inr ⟨rfl, rfl, rfl⟩⟩⟩, fun _ h => absurd h List.not_mem_nil⟩
theorem xq_X5_init : plainFor yX5_init = true := by decide +kernel
theorem xq_X5_sign : plainFor yX5_sign = true := by decide +kernel
theorem xn_X5 : xk_Nf 5 [.int 0, .int 0, .int 0] := ⟨(RX5, TX5, 3), tyX5, rfl, rfl, fun k hk => by
    match k, hk with
    | 0, _ => exact ⟨tyX5_ok 0 (by decide), rfl⟩
    | 1, _ => exact ⟨tyX5_ok 1 (by decide), rfl⟩
    | 2, _ => exact ⟨tyX5_ok 2 (by decide), rfl⟩
    | j + 3, hk => exact absurd hk (by show ¬ j + 3 < 3; omega)⟩
theorem xd_X5_init : (parseMethodDescriptor "(III)V").map (fun d => d.parameters.length) = some 3 := by decide +kernel
theorem xh_SlatCrates_Seen : xk_noMH "SlatCrates$Seen" := by decide +kernel
theorem xq_X5_bare : plainFor yX5_bare = true := by decide +kernel
theorem xf_J24_156 : xk_Fos "java/util/HashMap" 156 [12] 4 := List.forall_mem_cons.mpr ⟨⟨Or.inl (by decide), (RJ24, TJ24, 8), "java/util/HashMap", rfl, by decide, Or.inl q1272, Or.inl rfl⟩, fun _ h => absurd h List.not_mem_nil⟩
theorem xq_J24_size : plainFor yJ24_size = true := by decide +kernel
theorem xf_J39_10 : xk_Fos "java/util/HashSet" 10 [17] 0 := List.forall_mem_cons.mpr ⟨⟨Or.inl (by decide), (RJ39, TJ39, 1), "java/util/HashSet", rfl, by decide, Or.inl q2066, Or.inl rfl⟩, fun _ h => absurd h List.not_mem_nil⟩
theorem xd_J24_size : (parseMethodDescriptor "()I").map (fun d => d.parameters.length) = some 0 := by decide +kernel
theorem xi_12_HashMap : xk_Is [12] "java/util/HashMap" := List.forall_mem_cons.mpr ⟨⟨Or.inl (by decide), (RJ24, TJ24, 8), rfl, rfl⟩, fun _ h => absurd h List.not_mem_nil⟩
theorem xh_java_util_HashMap : xk_noMH "java/util/HashMap" := by decide +kernel
theorem xq_J39_size : plainFor yJ39_size = true := by decide +kernel
theorem xq_J23_init : plainFor yJ23_init = true := by decide +kernel
theorem xq_J34_init : plainFor yJ34_init = true := by decide +kernel
theorem xd_J23_init : (parseMethodDescriptor "()V").map (fun d => d.parameters.length) = some 0 := by decide +kernel
theorem xh_java_util_AbstractMap : xk_noMH "java/util/AbstractMap" := by decide +kernel
theorem xf_J24_81 : xk_Fos "java/util/HashMap" 81 [12] 7 := List.forall_mem_cons.mpr ⟨⟨Or.inl (by decide), (RJ24, TJ24, 8), "java/util/HashMap", rfl, by decide, Or.inl q1276, Or.inl rfl⟩, fun _ h => absurd h List.not_mem_nil⟩
theorem xp_J24_81_i : xk_Fp "java/util/HashMap" "<init>" [12] 7 .float := List.forall_mem_cons.mpr ⟨⟨by decide, fun r h => by cases h; exact ⟨tyJ24_ok 7 (by decide), Or.inr ⟨rfl, rfl, rfl⟩⟩⟩, fun _ h => absurd h List.not_mem_nil⟩
theorem xq_J24_init : plainFor yJ24_init = true := by decide +kernel
theorem xd_java_lang_Object_hashCode__I : (parseMethodDescriptor "()I").map (fun d => d.parameters.length) = some 0 := by decide +kernel
theorem xq_J24_hash : plainFor yJ24_hash = true := by decide +kernel
theorem xf_J29_39 : xk_Fos "java/util/HashMap$TreeNode" 39 [14] 5 := List.forall_mem_cons.mpr ⟨⟨Or.inl (by decide), (RJ29, xk_T29, 11), "java/util/HashMap$TreeNode", rfl, by decide, Or.inl q1738, Or.inl rfl⟩, fun _ h => absurd h List.not_mem_nil⟩
theorem xf_J29_42 : xk_Fos "java/util/HashMap$TreeNode" 42 [14] 6 := List.forall_mem_cons.mpr ⟨⟨Or.inl (by decide), (RJ29, xk_T29, 11), "java/util/HashMap$TreeNode", rfl, by decide, Or.inl q1739, Or.inl rfl⟩, fun _ h => absurd h List.not_mem_nil⟩
theorem xf_J29_15 : xk_Fos "java/util/HashMap$TreeNode" 15 [13, 14] 0 := List.forall_mem_cons.mpr ⟨⟨Or.inl (by decide), (RJ27, TJ27, 4), "java/util/HashMap$TreeNode", rfl, by decide, Or.inl q1672, Or.inr q1673⟩, List.forall_mem_cons.mpr ⟨⟨Or.inl (by decide), (RJ29, xk_T29, 11), "java/util/HashMap$TreeNode", rfl, by decide, Or.inl q1672, Or.inr q1673⟩, fun _ h => absurd h List.not_mem_nil⟩⟩
theorem xf_J29_45 : xk_Fos "java/util/HashMap$TreeNode" 45 [13, 14] 1 := List.forall_mem_cons.mpr ⟨⟨Or.inl (by decide), (RJ27, TJ27, 4), "java/util/HashMap$TreeNode", rfl, by decide, Or.inl q1677, Or.inr q1678⟩, List.forall_mem_cons.mpr ⟨⟨Or.inl (by decide), (RJ29, xk_T29, 11), "java/util/HashMap$TreeNode", rfl, by decide, Or.inl q1677, Or.inr q1678⟩, fun _ h => absurd h List.not_mem_nil⟩⟩
theorem xq_J29_find : plainFor yJ29_find = true := by decide +kernel
theorem xf_J29_9 : xk_Fos "java/util/HashMap$TreeNode" 9 [14] 4 := List.forall_mem_cons.mpr ⟨⟨Or.inl (by decide), (RJ29, xk_T29, 11), "java/util/HashMap$TreeNode", rfl, by decide, Or.inl q1737, Or.inl rfl⟩, fun _ h => absurd h List.not_mem_nil⟩
theorem xq_J29_root : plainFor yJ29_root = true := by decide +kernel
theorem xd_J29_find : (parseMethodDescriptor "(ILjava/lang/Object;Ljava/lang/Class;)Ljava/util/HashMap$TreeNode;").map (fun d => d.parameters.length) = some 3 := by decide +kernel
theorem xi_14_HashMapTreeNode : xk_Is [14] "java/util/HashMap$TreeNode" := List.forall_mem_cons.mpr ⟨⟨Or.inl (by decide), (RJ29, xk_T29, 11), rfl, rfl⟩, fun _ h => absurd h List.not_mem_nil⟩
theorem xh_java_util_HashMap_TreeNode : xk_noMH "java/util/HashMap$TreeNode" := by decide +kernel
theorem xd_J29_root : (parseMethodDescriptor "()Ljava/util/HashMap$TreeNode;").map (fun d => d.parameters.length) = some 0 := by decide +kernel
theorem xq_J29_getTreeNode : plainFor yJ29_getTreeNode = true := by decide +kernel
theorem xf_J24_105 : xk_Fos "java/util/HashMap" 105 [12] 2 := List.forall_mem_cons.mpr ⟨⟨Or.inl (by decide), (RJ24, TJ24, 8), "java/util/HashMap", rfl, by decide, Or.inl q1268, Or.inl rfl⟩, fun _ h => absurd h List.not_mem_nil⟩
theorem xf_J24_168 : xk_Fos "java/util/HashMap" 168 [13, 14] 0 := List.forall_mem_cons.mpr ⟨⟨Or.inl (by decide), (RJ27, TJ27, 4), "java/util/HashMap$Node", rfl, by decide, Or.inl q1674, Or.inl rfl⟩, List.forall_mem_cons.mpr ⟨⟨Or.inl (by decide), (RJ29, xk_T29, 11), "java/util/HashMap$Node", rfl, by decide, Or.inl q1674, Or.inl rfl⟩, fun _ h => absurd h List.not_mem_nil⟩⟩
theorem xf_J24_177 : xk_Fos "java/util/HashMap" 177 [13, 14] 3 := List.forall_mem_cons.mpr ⟨⟨Or.inl (by decide), (RJ27, TJ27, 4), "java/util/HashMap$Node", rfl, by decide, Or.inl q1688, Or.inl rfl⟩, List.forall_mem_cons.mpr ⟨⟨Or.inl (by decide), (RJ29, xk_T29, 11), "java/util/HashMap$Node", rfl, by decide, Or.inl q1688, Or.inl rfl⟩, fun _ h => absurd h List.not_mem_nil⟩⟩
theorem xf_J24_170 : xk_Fos "java/util/HashMap" 170 [13, 14] 1 := List.forall_mem_cons.mpr ⟨⟨Or.inl (by decide), (RJ27, TJ27, 4), "java/util/HashMap$Node", rfl, by decide, Or.inl q1679, Or.inl rfl⟩, List.forall_mem_cons.mpr ⟨⟨Or.inl (by decide), (RJ29, xk_T29, 11), "java/util/HashMap$Node", rfl, by decide, Or.inl q1679, Or.inl rfl⟩, fun _ h => absurd h List.not_mem_nil⟩⟩
theorem xt_103 : ∀ t ∈ [103], (100 ≤ t ∧ t < 200 ∨ 300 ≤ t ∧ t < 400) ∧ t % 100 = 3 := by decide
theorem xd_J24_hash : (parseMethodDescriptor "(Ljava/lang/Object;)I").map (fun d => d.parameters.length) = some 1 := by decide +kernel
theorem xd_J29_getTreeNode : (parseMethodDescriptor "(ILjava/lang/Object;)Ljava/util/HashMap$TreeNode;").map (fun d => d.parameters.length) = some 2 := by decide +kernel
theorem xq_J24_getNode : plainFor yJ24_getNode = true := by decide +kernel
theorem xf_J24_162 : xk_Fos "java/util/HashMap" 162 [13, 14] 2 := List.forall_mem_cons.mpr ⟨⟨Or.inl (by decide), (RJ27, TJ27, 4), "java/util/HashMap$Node", rfl, by decide, Or.inl q1682, Or.inl rfl⟩, List.forall_mem_cons.mpr ⟨⟨Or.inl (by decide), (RJ29, xk_T29, 11), "java/util/HashMap$Node", rfl, by decide, Or.inl q1682, Or.inl rfl⟩, fun _ h => absurd h List.not_mem_nil⟩⟩
theorem xd_J24_getNode : (parseMethodDescriptor "(Ljava/lang/Object;)Ljava/util/HashMap$Node;").map (fun d => d.parameters.length) = some 1 := by decide +kernel
theorem xq_J24_get : plainFor yJ24_get = true := by decide +kernel
theorem xq_J24_afterNodeAccess : plainFor yJ24_afterNodeAccess = true := by decide +kernel
theorem xq_J24_afterNodeInsertion : plainFor yJ24_afterNodeInsertion = true := by decide +kernel
theorem xf_J27_7 : xk_Fos "java/util/HashMap$Node" 7 [13, 14] 0 := List.forall_mem_cons.mpr ⟨⟨Or.inl (by decide), (RJ27, TJ27, 4), "java/util/HashMap$Node", rfl, by decide, Or.inl q1671, Or.inl rfl⟩, List.forall_mem_cons.mpr ⟨⟨Or.inl (by decide), (RJ29, xk_T29, 11), "java/util/HashMap$Node", rfl, by decide, Or.inl q1671, Or.inl rfl⟩, fun _ h => absurd h List.not_mem_nil⟩⟩
theorem xp_J27_7_i : xk_Fp "java/util/HashMap$Node" "<init>" [13, 14] 0 .int := List.forall_mem_cons.mpr ⟨⟨by decide, fun r h => by cases h; exact ⟨tyJ27_ok 0 (by decide), Or.inr ⟨rfl, rfl, rfl⟩⟩⟩, List.forall_mem_cons.mpr ⟨⟨by decide, fun r h => by cases h; exact ⟨xk_ty29_ok 0 (by decide), Or.inr ⟨rfl, rfl, rfl⟩⟩⟩, fun _ h => absurd h List.not_mem_nil⟩⟩
theorem xf_J27_13 : xk_Fos "java/util/HashMap$Node" 13 [13, 14] 1 := List.forall_mem_cons.mpr ⟨⟨Or.inl (by decide), (RJ27, TJ27, 4), "java/util/HashMap$Node", rfl, by decide, Or.inl q1675, Or.inl rfl⟩, List.forall_mem_cons.mpr ⟨⟨Or.inl (by decide), (RJ29, xk_T29, 11), "java/util/HashMap$Node", rfl, by decide, Or.inl q1675, Or.inl rfl⟩, fun _ h => absurd h List.not_mem_nil⟩⟩
theorem xp_J27_13_i : xk_Fp "java/util/HashMap$Node" "<init>" [13, 14] 1 (.object "java/lang/Object") := List.forall_mem_cons.mpr ⟨⟨by decide, fun r h => by cases h; exact ⟨tyJ27_ok 1 (by decide), Or.inr ⟨rfl, rfl, rfl⟩⟩⟩, List.forall_mem_cons.mpr ⟨⟨by decide, fun r h => by cases h; exact ⟨xk_ty29_ok 1 (by decide), Or.inr ⟨rfl, rfl, rfl⟩⟩⟩, fun _ h => absurd h List.not_mem_nil⟩⟩
theorem xf_J27_17 : xk_Fos "java/util/HashMap$Node" 17 [13, 14] 2 := List.forall_mem_cons.mpr ⟨⟨Or.inl (by decide), (RJ27, TJ27, 4), "java/util/HashMap$Node", rfl, by decide, Or.inl q1680, Or.inl rfl⟩, List.forall_mem_cons.mpr ⟨⟨Or.inl (by decide), (RJ29, xk_T29, 11), "java/util/HashMap$Node", rfl, by decide, Or.inl q1680, Or.inl rfl⟩, fun _ h => absurd h List.not_mem_nil⟩⟩
theorem xp_J27_17_i : xk_Fp "java/util/HashMap$Node" "<init>" [13, 14] 2 (.object "java/lang/Object") := List.forall_mem_cons.mpr ⟨⟨by decide, fun r h => by cases h; exact ⟨tyJ27_ok 2 (by decide), Or.inl rfl⟩⟩, List.forall_mem_cons.mpr ⟨⟨by decide, fun r h => by cases h; exact ⟨xk_ty29_ok 2 (by decide), Or.inl rfl⟩⟩, fun _ h => absurd h List.not_mem_nil⟩⟩
theorem xf_J27_20 : xk_Fos "java/util/HashMap$Node" 20 [13, 14] 3 := List.forall_mem_cons.mpr ⟨⟨Or.inl (by decide), (RJ27, TJ27, 4), "java/util/HashMap$Node", rfl, by decide, Or.inl q1683, Or.inl rfl⟩, List.forall_mem_cons.mpr ⟨⟨Or.inl (by decide), (RJ29, xk_T29, 11), "java/util/HashMap$Node", rfl, by decide, Or.inl q1683, Or.inl rfl⟩, fun _ h => absurd h List.not_mem_nil⟩⟩
theorem xp_J27_20_i : xk_Fp "java/util/HashMap$Node" "<init>" [13, 14] 3 (.object "java/util/HashMap$Node") := List.forall_mem_cons.mpr ⟨⟨by decide, fun r h => by cases h; exact ⟨tyJ27_ok 3 (by decide), Or.inl rfl⟩⟩, List.forall_mem_cons.mpr ⟨⟨by decide, fun r h => by cases h; exact ⟨xk_ty29_ok 3 (by decide), Or.inl rfl⟩⟩, fun _ h => absurd h List.not_mem_nil⟩⟩
theorem xq_J27_init : plainFor yJ27_init = true := by decide +kernel
theorem xn_J27 : xk_Nf 13 [.int 0, .null, .null, .null] := ⟨(RJ27, TJ27, 4), tyJ27, rfl, rfl, fun k hk => by
    match k, hk with
    | 0, _ => exact ⟨tyJ27_ok 0 (by decide), rfl⟩
    | 1, _ => exact ⟨tyJ27_ok 1 (by decide), rfl⟩
    | 2, _ => exact ⟨tyJ27_ok 2 (by decide), rfl⟩
    | 3, _ => exact ⟨tyJ27_ok 3 (by decide), rfl⟩
    | j + 4, hk => exact absurd hk (by show ¬ j + 4 < 4; omega)⟩
theorem xd_J27_init : (parseMethodDescriptor "(ILjava/lang/Object;Ljava/lang/Object;Ljava/util/HashMap$Node;)V").map (fun d => d.parameters.length) = some 4 := by decide +kernel
theorem xh_java_util_HashMap_Node : xk_noMH "java/util/HashMap$Node" := by decide +kernel
theorem xq_J24_newNode : plainFor yJ24_newNode = true := by decide +kernel
theorem xf_J24_88 : xk_Fos "java/util/HashMap" 88 [12] 6 := List.forall_mem_cons.mpr ⟨⟨Or.inl (by decide), (RJ24, TJ24, 8), "java/util/HashMap", rfl, by decide, Or.inl q1275, Or.inl rfl⟩, fun _ h => absurd h List.not_mem_nil⟩
theorem xp_J24_88 {nm : String} : xk_Fp "java/util/HashMap" nm [12] 6 .int := List.forall_mem_cons.mpr ⟨⟨by decide, fun r h => by cases h; exact ⟨tyJ24_ok 6 (by decide), Or.inl rfl⟩⟩, fun _ h => absurd h List.not_mem_nil⟩
theorem xp_J24_105 {nm : String} : xk_Fp "java/util/HashMap" nm [12] 2 (.array (.object "java/util/HashMap$Node")) := List.forall_mem_cons.mpr ⟨⟨by decide, fun r h => by cases h; exact ⟨tyJ24_ok 2 (by decide), Or.inl rfl⟩⟩, fun _ h => absurd h List.not_mem_nil⟩
theorem xa_13_14_HashMapNode : xk_As [13, 14] "java/util/HashMap$Node" := List.forall_mem_cons.mpr ⟨⟨Or.inl (by decide), (RJ27, TJ27, 4), rfl, Or.inl rfl⟩, List.forall_mem_cons.mpr ⟨⟨Or.inl (by decide), (RJ29, xk_T29, 11), rfl, Or.inr (List.mem_of_getElem? (i := 4) rfl)⟩, fun _ h => absurd h List.not_mem_nil⟩⟩
theorem xp_J24_177 {nm : String} : xk_Fp "java/util/HashMap" nm [13, 14] 3 (.object "java/util/HashMap$Node") := List.forall_mem_cons.mpr ⟨⟨by decide, fun r h => by cases h; exact ⟨tyJ27_ok 3 (by decide), Or.inl rfl⟩⟩, List.forall_mem_cons.mpr ⟨⟨by decide, fun r h => by cases h; exact ⟨xk_ty29_ok 3 (by decide), Or.inl rfl⟩⟩, fun _ h => absurd h List.not_mem_nil⟩⟩
theorem xq_J24_resize : plainFor yJ24_resize = true := by decide +kernel
theorem xq_J28_init : plainFor yJ28_init = true := by decide +kernel
theorem xd_J28_init : (parseMethodDescriptor "(ILjava/lang/Object;Ljava/lang/Object;Ljava/util/HashMap$Node;)V").map (fun d => d.parameters.length) = some 4 := by decide +kernel
theorem xh_java_util_LinkedHashMap_Entry : xk_noMH "java/util/LinkedHashMap$Entry" := by decide +kernel
theorem xq_J29_init : plainFor yJ29_init = true := by decide +kernel
theorem xn_J29 : xk_Nf 14 [.int 0, .null, .null, .null, .null, .null, .null, .null, .int 0, .null, .null] := ⟨(RJ29, xk_T29, 11), xk_ty29, rfl, rfl, fun k hk => by
    match k, hk with
    | 0, _ => exact ⟨xk_ty29_ok 0 (by decide), rfl⟩
    | 1, _ => exact ⟨xk_ty29_ok 1 (by decide), rfl⟩
    | 2, _ => exact ⟨xk_ty29_ok 2 (by decide), rfl⟩
    | 3, _ => exact ⟨xk_ty29_ok 3 (by decide), rfl⟩
    | 4, _ => exact ⟨xk_ty29_ok 4 (by decide), rfl⟩
    | 5, _ => exact ⟨xk_ty29_ok 5 (by decide), rfl⟩
    | 6, _ => exact ⟨xk_ty29_ok 6 (by decide), rfl⟩
    | 7, _ => exact ⟨xk_ty29_ok 7 (by decide), rfl⟩
    | 8, _ => exact ⟨xk_ty29_ok 8 (by decide), rfl⟩
    | 9, _ => exact ⟨xk_ty29_ok 9 (by decide), rfl⟩
    | 10, _ => exact ⟨xk_ty29_ok 10 (by decide), rfl⟩
    | j + 11, hk => exact absurd hk (by show ¬ j + 11 < 11; omega)⟩
theorem xd_J29_init : (parseMethodDescriptor "(ILjava/lang/Object;Ljava/lang/Object;Ljava/util/HashMap$Node;)V").map (fun d => d.parameters.length) = some 4 := by decide +kernel
theorem xq_J24_replacementTreeNode : plainFor yJ24_replacementTreeNode = true := by decide +kernel
theorem xp_J29_42 {nm : String} : xk_Fp "java/util/HashMap$TreeNode" nm [14] 6 (.object "java/util/HashMap$TreeNode") := List.forall_mem_cons.mpr ⟨⟨by decide, fun r h => by cases h; exact ⟨xk_ty29_ok 6 (by decide), Or.inl rfl⟩⟩, fun _ h => absurd h List.not_mem_nil⟩
theorem xp_J29_9 {nm : String} : xk_Fp "java/util/HashMap$TreeNode" nm [14] 4 (.object "java/util/HashMap$TreeNode") := List.forall_mem_cons.mpr ⟨⟨by decide, fun r h => by cases h; exact ⟨xk_ty29_ok 4 (by decide), Or.inl rfl⟩⟩, fun _ h => absurd h List.not_mem_nil⟩
theorem xp_J29_39 {nm : String} : xk_Fp "java/util/HashMap$TreeNode" nm [14] 5 (.object "java/util/HashMap$TreeNode") := List.forall_mem_cons.mpr ⟨⟨by decide, fun r h => by cases h; exact ⟨xk_ty29_ok 5 (by decide), Or.inl rfl⟩⟩, fun _ h => absurd h List.not_mem_nil⟩
theorem xf_J29_93 : xk_Fos "java/util/HashMap$TreeNode" 93 [14] 8 := List.forall_mem_cons.mpr ⟨⟨Or.inl (by decide), (RJ29, xk_T29, 11), "java/util/HashMap$TreeNode", rfl, by decide, Or.inl q1742, Or.inl rfl⟩, fun _ h => absurd h List.not_mem_nil⟩
theorem xp_J29_93 {nm : String} : xk_Fp "java/util/HashMap$TreeNode" nm [14] 8 .boolean := List.forall_mem_cons.mpr ⟨⟨by decide, fun r h => by cases h; exact ⟨xk_ty29_ok 8 (by decide), Or.inl rfl⟩⟩, fun _ h => absurd h List.not_mem_nil⟩
theorem xq_J29_rotateLeft : plainFor yJ29_rotateLeft = true := by decide +kernel
theorem xq_J29_rotateRight : plainFor yJ29_rotateRight = true := by decide +kernel
theorem xd_J29_rotateLeft : (parseMethodDescriptor "(Ljava/util/HashMap$TreeNode;Ljava/util/HashMap$TreeNode;)Ljava/util/HashMap$TreeNode;").map (fun d => d.parameters.length) = some 2 := by decide +kernel
theorem xd_J29_rotateRight : (parseMethodDescriptor "(Ljava/util/HashMap$TreeNode;Ljava/util/HashMap$TreeNode;)Ljava/util/HashMap$TreeNode;").map (fun d => d.parameters.length) = some 2 := by decide +kernel
theorem xq_J29_balanceInsertion : plainFor yJ29_balanceInsertion = true := by decide +kernel
theorem xf_J29_19 : xk_Fos "java/util/HashMap$TreeNode" 19 [14] 7 := List.forall_mem_cons.mpr ⟨⟨Or.inl (by decide), (RJ29, xk_T29, 11), "java/util/HashMap$TreeNode", rfl, by decide, Or.inl q1740, Or.inl rfl⟩, fun _ h => absurd h List.not_mem_nil⟩
theorem xf_J29_22 : xk_Fos "java/util/HashMap$TreeNode" 22 [13, 14] 3 := List.forall_mem_cons.mpr ⟨⟨Or.inl (by decide), (RJ27, TJ27, 4), "java/util/HashMap$TreeNode", rfl, by decide, Or.inl q1685, Or.inr q1686⟩, List.forall_mem_cons.mpr ⟨⟨Or.inl (by decide), (RJ29, xk_T29, 11), "java/util/HashMap$TreeNode", rfl, by decide, Or.inl q1685, Or.inr q1686⟩, fun _ h => absurd h List.not_mem_nil⟩⟩
theorem xp_J29_22 {nm : String} : xk_Fp "java/util/HashMap$TreeNode" nm [13, 14] 3 (.object "java/util/HashMap$Node") := List.forall_mem_cons.mpr ⟨⟨by decide, fun r h => by cases h; exact ⟨tyJ27_ok 3 (by decide), Or.inl rfl⟩⟩, List.forall_mem_cons.mpr ⟨⟨by decide, fun r h => by cases h; exact ⟨xk_ty29_ok 3 (by decide), Or.inl rfl⟩⟩, fun _ h => absurd h List.not_mem_nil⟩⟩
theorem xp_J29_19 {nm : String} : xk_Fp "java/util/HashMap$TreeNode" nm [14] 7 (.object "java/util/HashMap$TreeNode") := List.forall_mem_cons.mpr ⟨⟨by decide, fun r h => by cases h; exact ⟨xk_ty29_ok 7 (by decide), Or.inl rfl⟩⟩, fun _ h => absurd h List.not_mem_nil⟩
theorem xq_J29_moveRootToFront : plainFor yJ29_moveRootToFront = true := by decide +kernel
theorem xd_J29_balanceInsertion : (parseMethodDescriptor "(Ljava/util/HashMap$TreeNode;Ljava/util/HashMap$TreeNode;)Ljava/util/HashMap$TreeNode;").map (fun d => d.parameters.length) = some 2 := by decide +kernel
theorem xd_J29_moveRootToFront : (parseMethodDescriptor "([Ljava/util/HashMap$Node;Ljava/util/HashMap$TreeNode;)V").map (fun d => d.parameters.length) = some 2 := by decide +kernel
theorem xq_J29_treeify : plainFor yJ29_treeify = true := by decide +kernel
theorem xd_J24_resize : (parseMethodDescriptor "()[Ljava/util/HashMap$Node;").map (fun d => d.parameters.length) = some 0 := by decide +kernel
theorem xd_J24_replacementTreeNode : (parseMethodDescriptor "(Ljava/util/HashMap$Node;Ljava/util/HashMap$Node;)Ljava/util/HashMap$TreeNode;").map (fun d => d.parameters.length) = some 2 := by decide +kernel
theorem xf_J24_219 : xk_Fos "java/util/HashMap" 219 [14] 7 := List.forall_mem_cons.mpr ⟨⟨Or.inl (by decide), (RJ29, xk_T29, 11), "java/util/HashMap$TreeNode", rfl, by decide, Or.inl q1741, Or.inl rfl⟩, fun _ h => absurd h List.not_mem_nil⟩
theorem xp_J24_219 {nm : String} : xk_Fp "java/util/HashMap" nm [14] 7 (.object "java/util/HashMap$TreeNode") := List.forall_mem_cons.mpr ⟨⟨by decide, fun r h => by cases h; exact ⟨xk_ty29_ok 7 (by decide), Or.inl rfl⟩⟩, fun _ h => absurd h List.not_mem_nil⟩
theorem xf_J24_223 : xk_Fos "java/util/HashMap" 223 [13, 14] 3 := List.forall_mem_cons.mpr ⟨⟨Or.inl (by decide), (RJ27, TJ27, 4), "java/util/HashMap$TreeNode", rfl, by decide, Or.inl q1689, Or.inr q1686⟩, List.forall_mem_cons.mpr ⟨⟨Or.inl (by decide), (RJ29, xk_T29, 11), "java/util/HashMap$TreeNode", rfl, by decide, Or.inl q1689, Or.inr q1686⟩, fun _ h => absurd h List.not_mem_nil⟩⟩
theorem xp_J24_223 {nm : String} : xk_Fp "java/util/HashMap" nm [13, 14] 3 (.object "java/util/HashMap$Node") := List.forall_mem_cons.mpr ⟨⟨by decide, fun r h => by cases h; exact ⟨tyJ27_ok 3 (by decide), Or.inl rfl⟩⟩, List.forall_mem_cons.mpr ⟨⟨by decide, fun r h => by cases h; exact ⟨xk_ty29_ok 3 (by decide), Or.inl rfl⟩⟩, fun _ h => absurd h List.not_mem_nil⟩⟩
theorem xd_J29_treeify : (parseMethodDescriptor "([Ljava/util/HashMap$Node;)V").map (fun d => d.parameters.length) = some 1 := by decide +kernel
theorem xq_J24_treeifyBin : plainFor yJ24_treeifyBin = true := by decide +kernel
theorem xq_J24_newTreeNode : plainFor yJ24_newTreeNode = true := by decide +kernel
theorem xd_J24_newTreeNode : (parseMethodDescriptor "(ILjava/lang/Object;Ljava/lang/Object;Ljava/util/HashMap$Node;)Ljava/util/HashMap$TreeNode;").map (fun d => d.parameters.length) = some 4 := by decide +kernel
theorem xq_J29_putTreeVal : plainFor yJ29_putTreeVal = true := by decide +kernel
theorem xf_J24_202 : xk_Fos "java/util/HashMap" 202 [12] 5 := List.forall_mem_cons.mpr ⟨⟨Or.inl (by decide), (RJ24, TJ24, 8), "java/util/HashMap", rfl, by decide, Or.inl q1274, Or.inl rfl⟩, fun _ h => absurd h List.not_mem_nil⟩
theorem xp_J24_202 {nm : String} : xk_Fp "java/util/HashMap" nm [12] 5 .int := List.forall_mem_cons.mpr ⟨⟨by decide, fun r h => by cases h; exact ⟨tyJ24_ok 5 (by decide), Or.inl rfl⟩⟩, fun _ h => absurd h List.not_mem_nil⟩
theorem xp_J24_156 {nm : String} : xk_Fp "java/util/HashMap" nm [12] 4 .int := List.forall_mem_cons.mpr ⟨⟨by decide, fun r h => by cases h; exact ⟨tyJ24_ok 4 (by decide), Or.inl rfl⟩⟩, fun _ h => absurd h List.not_mem_nil⟩
theorem xd_J24_afterNodeInsertion : (parseMethodDescriptor "(Z)V").map (fun d => d.parameters.length) = some 1 := by decide +kernel
theorem xp_J24_162 {nm : String} : xk_Fp "java/util/HashMap" nm [13, 14] 2 (.object "java/lang/Object") := List.forall_mem_cons.mpr ⟨⟨by decide, fun r h => by cases h; exact ⟨tyJ27_ok 2 (by decide), Or.inl rfl⟩⟩, List.forall_mem_cons.mpr ⟨⟨by decide, fun r h => by cases h; exact ⟨xk_ty29_ok 2 (by decide), Or.inl rfl⟩⟩, fun _ h => absurd h List.not_mem_nil⟩⟩
theorem xd_J24_afterNodeAccess : (parseMethodDescriptor "(Ljava/util/HashMap$Node;)V").map (fun d => d.parameters.length) = some 1 := by decide +kernel
theorem xd_J24_newNode : (parseMethodDescriptor "(ILjava/lang/Object;Ljava/lang/Object;Ljava/util/HashMap$Node;)Ljava/util/HashMap$Node;").map (fun d => d.parameters.length) = some 4 := by decide +kernel
theorem xd_J24_treeifyBin : (parseMethodDescriptor "([Ljava/util/HashMap$Node;I)V").map (fun d => d.parameters.length) = some 2 := by decide +kernel
theorem xd_J29_putTreeVal : (parseMethodDescriptor "(Ljava/util/HashMap;[Ljava/util/HashMap$Node;ILjava/lang/Object;Ljava/lang/Object;)Ljava/util/HashMap$TreeNode;").map (fun d => d.parameters.length) = some 5 := by decide +kernel
theorem xq_J24_putVal : plainFor yJ24_putVal = true := by decide +kernel
theorem xd_J24_putVal : (parseMethodDescriptor "(ILjava/lang/Object;Ljava/lang/Object;ZZ)Ljava/lang/Object;").map (fun d => d.parameters.length) = some 5 := by decide +kernel
theorem xq_J24_put : plainFor yJ24_put = true := by decide +kernel
theorem xf_J30_1 : xk_Fos "java/util/HashMap$Values" 1 [15] 0 := List.forall_mem_cons.mpr ⟨⟨Or.inl (by decide), (RJ30, TJ30, 1), "java/util/HashMap$Values", rfl, by decide, Or.inl q1891, Or.inl rfl⟩, fun _ h => absurd h List.not_mem_nil⟩
theorem xp_J30_1_i : xk_Fp "java/util/HashMap$Values" "<init>" [15] 0 (.object "java/util/HashMap") := List.forall_mem_cons.mpr ⟨⟨by decide, fun r h => by cases h; exact ⟨tyJ30_ok 0 (by decide), Or.inr ⟨rfl, rfl, rfl⟩⟩⟩, fun _ h => absurd h List.not_mem_nil⟩
theorem xq_J30_init : plainFor yJ30_init = true := by decide +kernel
theorem xf_J24_259 : xk_Fos "java/util/HashMap" 259 [12] 1 := List.forall_mem_cons.mpr ⟨⟨Or.inl (by decide), (RJ24, TJ24, 8), "java/util/HashMap", rfl, by decide, Or.inl q1279, Or.inr q1280⟩, fun _ h => absurd h List.not_mem_nil⟩
theorem xn_J30 : xk_Nf 15 [.null] := ⟨(RJ30, TJ30, 1), tyJ30, rfl, rfl, fun k hk => by
    match k, hk with
    | 0, _ => exact ⟨tyJ30_ok 0 (by decide), rfl⟩
    | j + 1, hk => exact absurd hk (by show ¬ j + 1 < 1; omega)⟩
theorem xd_J30_init : (parseMethodDescriptor "(Ljava/util/HashMap;)V").map (fun d => d.parameters.length) = some 1 := by decide +kernel
theorem xh_java_util_HashMap_Values : xk_noMH "java/util/HashMap$Values" := by decide +kernel
theorem xp_J24_259 {nm : String} : xk_Fp "java/util/HashMap" nm [12] 1 (.object "java/util/Collection") := List.forall_mem_cons.mpr ⟨⟨by decide, fun r h => by cases h; exact ⟨tyJ24_ok 1 (by decide), Or.inl rfl⟩⟩, fun _ h => absurd h List.not_mem_nil⟩
theorem xq_J24_values : plainFor yJ24_values = true := by decide +kernel
theorem xf_J31_13 : xk_Fos "java/util/HashMap$HashIterator" 13 [12] 5 := List.forall_mem_cons.mpr ⟨⟨Or.inl (by decide), (RJ24, TJ24, 8), "java/util/HashMap", rfl, by decide, Or.inl q1273, Or.inl rfl⟩, fun _ h => absurd h List.not_mem_nil⟩
theorem xf_J31_22 : xk_Fos "java/util/HashMap$HashIterator" 22 [12] 2 := List.forall_mem_cons.mpr ⟨⟨Or.inl (by decide), (RJ24, TJ24, 8), "java/util/HashMap", rfl, by decide, Or.inl q1267, Or.inl rfl⟩, fun _ h => absurd h List.not_mem_nil⟩
theorem xf_J31_36 : xk_Fos "java/util/HashMap$HashIterator" 36 [12] 4 := List.forall_mem_cons.mpr ⟨⟨Or.inl (by decide), (RJ24, TJ24, 8), "java/util/HashMap", rfl, by decide, Or.inl q1269, Or.inl rfl⟩, fun _ h => absurd h List.not_mem_nil⟩
theorem xf_J31_33 : xk_Fos "java/util/HashMap$HashIterator" 33 [16] 3 := List.forall_mem_cons.mpr ⟨⟨Or.inl (by decide), (RJ33, TJ33, 5), "java/util/HashMap$HashIterator", rfl, by decide, Or.inl q1919, Or.inl rfl⟩, fun _ h => absurd h List.not_mem_nil⟩
theorem xf_J31_1 : xk_Fos "java/util/HashMap$HashIterator" 1 [16] 4 := List.forall_mem_cons.mpr ⟨⟨Or.inl (by decide), (RJ33, TJ33, 5), "java/util/HashMap$HashIterator", rfl, by decide, Or.inl q1920, Or.inl rfl⟩, fun _ h => absurd h List.not_mem_nil⟩
theorem xp_J31_1_i : xk_Fp "java/util/HashMap$HashIterator" "<init>" [16] 4 (.object "java/util/HashMap") := List.forall_mem_cons.mpr ⟨⟨by decide, fun r h => by cases h; exact ⟨tyJ33_ok 4 (by decide), Or.inr ⟨rfl, rfl, rfl⟩⟩⟩, fun _ h => absurd h List.not_mem_nil⟩
theorem xf_J31_19 : xk_Fos "java/util/HashMap$HashIterator" 19 [16] 2 := List.forall_mem_cons.mpr ⟨⟨Or.inl (by decide), (RJ33, TJ33, 5), "java/util/HashMap$HashIterator", rfl, by decide, Or.inl q1918, Or.inl rfl⟩, fun _ h => absurd h List.not_mem_nil⟩
theorem xp_J31_19_i : xk_Fp "java/util/HashMap$HashIterator" "<init>" [16] 2 .int := List.forall_mem_cons.mpr ⟨⟨by decide, fun r h => by cases h; exact ⟨tyJ33_ok 2 (by decide), Or.inl rfl⟩⟩, fun _ h => absurd h List.not_mem_nil⟩
theorem xf_J31_26 : xk_Fos "java/util/HashMap$HashIterator" 26 [16] 0 := List.forall_mem_cons.mpr ⟨⟨Or.inl (by decide), (RJ33, TJ33, 5), "java/util/HashMap$HashIterator", rfl, by decide, Or.inl q1916, Or.inl rfl⟩, fun _ h => absurd h List.not_mem_nil⟩
theorem xp_J31_26_i : xk_Fp "java/util/HashMap$HashIterator" "<init>" [16] 0 (.object "java/util/HashMap$Node") := List.forall_mem_cons.mpr ⟨⟨by decide, fun r h => by cases h; exact ⟨tyJ33_ok 0 (by decide), Or.inl rfl⟩⟩, fun _ h => absurd h List.not_mem_nil⟩
theorem xf_J31_30 : xk_Fos "java/util/HashMap$HashIterator" 30 [16] 1 := List.forall_mem_cons.mpr ⟨⟨Or.inl (by decide), (RJ33, TJ33, 5), "java/util/HashMap$HashIterator", rfl, by decide, Or.inl q1917, Or.inl rfl⟩, fun _ h => absurd h List.not_mem_nil⟩
theorem xp_J31_30_i : xk_Fp "java/util/HashMap$HashIterator" "<init>" [16] 1 (.object "java/util/HashMap$Node") := List.forall_mem_cons.mpr ⟨⟨by decide, fun r h => by cases h; exact ⟨tyJ33_ok 1 (by decide), Or.inl rfl⟩⟩, fun _ h => absurd h List.not_mem_nil⟩
theorem xp_J31_33_i : xk_Fp "java/util/HashMap$HashIterator" "<init>" [16] 3 .int := List.forall_mem_cons.mpr ⟨⟨by decide, fun r h => by cases h; exact ⟨tyJ33_ok 3 (by decide), Or.inl rfl⟩⟩, fun _ h => absurd h List.not_mem_nil⟩
theorem xq_J31_init : plainFor yJ31_init = true := by decide +kernel
theorem xd_J31_init : (parseMethodDescriptor "(Ljava/util/HashMap;)V").map (fun d => d.parameters.length) = some 1 := by decide +kernel
theorem xh_java_util_HashMap_HashIterator : xk_noMH "java/util/HashMap$HashIterator" := by decide +kernel
theorem xq_J33_init : plainFor yJ33_init = true := by decide +kernel
theorem xn_J33 : xk_Nf 16 [.null, .null, .int 0, .int 0, .null] := ⟨(RJ33, TJ33, 5), tyJ33, rfl, rfl, fun k hk => by
    match k, hk with
    | 0, _ => exact ⟨tyJ33_ok 0 (by decide), rfl⟩
    | 1, _ => exact ⟨tyJ33_ok 1 (by decide), rfl⟩
    | 2, _ => exact ⟨tyJ33_ok 2 (by decide), rfl⟩
    | 3, _ => exact ⟨tyJ33_ok 3 (by decide), rfl⟩
    | 4, _ => exact ⟨tyJ33_ok 4 (by decide), rfl⟩
    | j + 5, hk => exact absurd hk (by show ¬ j + 5 < 5; omega)⟩
theorem xd_J33_init : (parseMethodDescriptor "(Ljava/util/HashMap;)V").map (fun d => d.parameters.length) = some 1 := by decide +kernel
theorem xh_java_util_HashMap_ValueIterator : xk_noMH "java/util/HashMap$ValueIterator" := by decide +kernel
theorem xq_J30_iterator : plainFor yJ30_iterator = true := by decide +kernel
theorem xq_J31_hasNext : plainFor yJ31_hasNext = true := by decide +kernel
theorem xf_J31_45 : xk_Fos "java/util/HashMap$HashIterator" 45 [13, 14] 3 := List.forall_mem_cons.mpr ⟨⟨Or.inl (by decide), (RJ27, TJ27, 4), "java/util/HashMap$Node", rfl, by decide, Or.inl q1684, Or.inl rfl⟩, List.forall_mem_cons.mpr ⟨⟨Or.inl (by decide), (RJ29, xk_T29, 11), "java/util/HashMap$Node", rfl, by decide, Or.inl q1684, Or.inl rfl⟩, fun _ h => absurd h List.not_mem_nil⟩⟩
theorem xp_J31_30 {nm : String} : xk_Fp "java/util/HashMap$HashIterator" nm [16] 1 (.object "java/util/HashMap$Node") := List.forall_mem_cons.mpr ⟨⟨by decide, fun r h => by cases h; exact ⟨tyJ33_ok 1 (by decide), Or.inl rfl⟩⟩, fun _ h => absurd h List.not_mem_nil⟩
theorem xp_J31_26 {nm : String} : xk_Fp "java/util/HashMap$HashIterator" nm [16] 0 (.object "java/util/HashMap$Node") := List.forall_mem_cons.mpr ⟨⟨by decide, fun r h => by cases h; exact ⟨tyJ33_ok 0 (by decide), Or.inl rfl⟩⟩, fun _ h => absurd h List.not_mem_nil⟩
theorem xp_J31_33 {nm : String} : xk_Fp "java/util/HashMap$HashIterator" nm [16] 3 .int := List.forall_mem_cons.mpr ⟨⟨by decide, fun r h => by cases h; exact ⟨tyJ33_ok 3 (by decide), Or.inl rfl⟩⟩, fun _ h => absurd h List.not_mem_nil⟩
theorem xq_J31_nextNode : plainFor yJ31_nextNode = true := by decide +kernel
theorem xf_J33_13 : xk_Fos "java/util/HashMap$ValueIterator" 13 [13, 14] 2 := List.forall_mem_cons.mpr ⟨⟨Or.inl (by decide), (RJ27, TJ27, 4), "java/util/HashMap$Node", rfl, by decide, Or.inl q1681, Or.inl rfl⟩, List.forall_mem_cons.mpr ⟨⟨Or.inl (by decide), (RJ29, xk_T29, 11), "java/util/HashMap$Node", rfl, by decide, Or.inl q1681, Or.inl rfl⟩, fun _ h => absurd h List.not_mem_nil⟩⟩
theorem xd_java_util_HashMap_ValueIterator_nextNode__Ljava_util_HashMap_Node_ : (parseMethodDescriptor "()Ljava/util/HashMap$Node;").map (fun d => d.parameters.length) = some 0 := by decide +kernel
theorem xi_16_HashMapValueIterator : xk_Is [16] "java/util/HashMap$ValueIterator" := List.forall_mem_cons.mpr ⟨⟨Or.inl (by decide), (RJ33, TJ33, 5), rfl, rfl⟩, fun _ h => absurd h List.not_mem_nil⟩
theorem xq_J33_next : plainFor yJ33_next = true := by decide +kernel
theorem xd_J34_init : (parseMethodDescriptor "()V").map (fun d => d.parameters.length) = some 0 := by decide +kernel
theorem xh_java_util_AbstractSet : xk_noMH "java/util/AbstractSet" := by decide +kernel
theorem xn_J24 : xk_Nf 12 [.null, .null, .null, .null, .int 0, .int 0, .int 0, .float 0] := ⟨(RJ24, TJ24, 8), tyJ24, rfl, rfl, fun k hk => by
    match k, hk with
    | 0, _ => exact ⟨tyJ24_ok 0 (by decide), rfl⟩
    | 1, _ => exact ⟨tyJ24_ok 1 (by decide), rfl⟩
    | 2, _ => exact ⟨tyJ24_ok 2 (by decide), rfl⟩
    | 3, _ => exact ⟨tyJ24_ok 3 (by decide), rfl⟩
    | 4, _ => exact ⟨tyJ24_ok 4 (by decide), rfl⟩
    | 5, _ => exact ⟨tyJ24_ok 5 (by decide), rfl⟩
    | 6, _ => exact ⟨tyJ24_ok 6 (by decide), rfl⟩
    | 7, _ => exact ⟨tyJ24_ok 7 (by decide), rfl⟩
    | j + 8, hk => exact absurd hk (by show ¬ j + 8 < 8; omega)⟩
theorem xd_J24_init : (parseMethodDescriptor "()V").map (fun d => d.parameters.length) = some 0 := by decide +kernel
theorem xp_J39_10_i : xk_Fp "java/util/HashSet" "<init>" [17] 0 (.object "java/util/HashMap") := List.forall_mem_cons.mpr ⟨⟨by decide, fun r h => by cases h; exact ⟨tyJ39_ok 0 (by decide), Or.inl rfl⟩⟩, fun _ h => absurd h List.not_mem_nil⟩
theorem xq_J39_init : plainFor yJ39_init = true := by decide +kernel
theorem xd_J24_put : (parseMethodDescriptor "(Ljava/lang/Object;Ljava/lang/Object;)Ljava/lang/Object;").map (fun d => d.parameters.length) = some 2 := by decide +kernel
theorem xq_J39_add : plainFor yJ39_add = true := by decide +kernel
def mf_X5_equals (a0 : Option Nat) (a1 : Option Nat) (h0 : xk_H) : Option (Bool × xk_H) :=
  xm_inst [5] [] a1 h0 fun x1 => if x1 = 0 then (some (false, h0)) else (xm_cast [5] a1 h0 <| xm_gI [5] 0 a1 h0 fun x2 => xm_gI [5] 0 a0 h0 fun x3 => if x2 = x3 then (xm_gI [5] 1 a1 h0 fun x4 => xm_gI [5] 1 a0 h0 fun x5 => if x4 = x5 then (xm_gI [5] 2 a1 h0 fun x6 => xm_gI [5] 2 a0 h0 fun x7 => if x6 = x7 then (some (true, h0)) else (some (false, h0))) else (some (false, h0))) else (some (false, h0)))
set_option maxHeartbeats 1000000 in
theorem wk_X5_equals {l : Launch} {D : va_G} {base : Nat} {a0 : Option Nat} {a1 : Option Nat} {h0 : xk_H} {r : Bool} {h' : xk_H} (E : mf_X5_equals a0 a1 h0 = some (r, h')) : xk_Ok l D base yX5_equals cX5_equals 3 (Option.some FieldType.boolean) 1 60 [va_rf a0, va_rf a1] h0 (some (.int (xk_b2 r))) h' := by
  refine xk_ofX RX5 "equals" xq_X5_equals rfl rfl (Nat.le_of_ble_eq_true rfl) ⟨xk_crf _, ⟨xk_crf _, trivial⟩⟩ (fun Γ el eD eb C Z => ?_)
  rw [mf_X5_equals] at E
  show xk_X Γ 0 [(0, va_rf a0), (1, va_rf a1)] [] h0
  refine xr_aload_n 1 C rfl rfl dX5_equals_0 ?_
  refine xr_inst C E xi_5_SlatCratesSeen (fun t ht => absurd ht List.not_mem_nil) q968 dX5_equals_1 (fun x1 E => ?_)
  refine xr_if_eq 49 C E dX5_equals_4 (by decide) (fun E => ?_) (fun E => ?_)
  · refine xr_iconst (0) C (by decide) dX5_equals_49 ?_
    exact xr_bret (b := false) C Z E dX5_equals_50
  · refine xr_aload_n 1 C rfl rfl dX5_equals_7 ?_
    refine xr_cast C E xi_5_SlatCratesSeen q968 dX5_equals_8 (fun E => ?_)
    refine xr_astore_n (L2 := [(2, va_rf a1), (0, va_rf a0), (1, va_rf a1)]) C rfl rfl dX5_equals_11 (by decide) ?_
    refine xr_aload_n 0 C rfl rfl dX5_equals_12 ?_
    refine xr_gI C E xf_X5_9 dX5_equals_13 (fun x2 E => ?_)
    refine xr_aload_n 1 C rfl rfl dX5_equals_16 ?_
    refine xr_gI C E xf_X5_9 dX5_equals_17 (fun x3 E => ?_)
    refine xr_icmp_ne 49 C E dX5_equals_20 (by decide) (fun E => ?_) (fun E => ?_)
    · refine xr_iconst (0) C (by decide) dX5_equals_49 ?_
      exact xr_bret (b := false) C Z E dX5_equals_50
    · refine xr_aload_n 0 C rfl rfl dX5_equals_23 ?_
      refine xr_gI C E xf_X5_15 dX5_equals_24 (fun x4 E => ?_)
      refine xr_aload_n 1 C rfl rfl dX5_equals_27 ?_
      refine xr_gI C E xf_X5_15 dX5_equals_28 (fun x5 E => ?_)
      refine xr_icmp_ne 49 C E dX5_equals_31 (by decide) (fun E => ?_) (fun E => ?_)
      · refine xr_iconst (0) C (by decide) dX5_equals_49 ?_
        exact xr_bret (b := false) C Z E dX5_equals_50
      · refine xr_aload_n 0 C rfl rfl dX5_equals_34 ?_
        refine xr_gI C E xf_X5_18 dX5_equals_35 (fun x6 E => ?_)
        refine xr_aload_n 1 C rfl rfl dX5_equals_38 ?_
        refine xr_gI C E xf_X5_18 dX5_equals_39 (fun x7 E => ?_)
        refine xr_icmp_ne 49 C E dX5_equals_42 (by decide) (fun E => ?_) (fun E => ?_)
        · refine xr_iconst (0) C (by decide) dX5_equals_49 ?_
          exact xr_bret (b := false) C Z E dX5_equals_50
        · refine xr_iconst (1) C (by decide) dX5_equals_45 ?_
          refine xr_goto 50 C dX5_equals_46 (by decide) ?_
          exact xr_bret (b := true) C Z E dX5_equals_50
def mf_X5_hashCode (a0 : Option Nat) (h0 : xk_H) : Option (Int32 × xk_H) :=
  xm_gI [5] 0 a0 h0 fun x1 => xm_gI [5] 1 a0 h0 fun x2 => xm_gI [5] 2 a0 h0 fun x3 => some ((((614656 : Int32) * (((12 : Int32) * x1) + x2)) + x3), h0)
set_option maxHeartbeats 1000000 in
theorem wk_X5_hashCode {l : Launch} {D : va_G} {base : Nat} {a0 : Option Nat} {h0 : xk_H} {r : Int32} {h' : xk_H} (E : mf_X5_hashCode a0 h0 = some (r, h')) : xk_Ok l D base yX5_hashCode cX5_hashCode 1 (Option.some FieldType.int) 1 60 [va_rf a0] h0 (some (.int r)) h' := by
  refine xk_ofX RX5 "hashCode" xq_X5_hashCode rfl rfl (Nat.le_of_ble_eq_true rfl) ⟨xk_crf _, trivial⟩ (fun Γ el eD eb C Z => ?_)
  rw [mf_X5_hashCode] at E
  show xk_X Γ 0 [(0, va_rf a0)] [] h0
  refine xr_ldc C q1352 dX5_hashCode_0 ?_
  refine xr_bipush (12) C (by decide) dX5_hashCode_2 ?_
  refine xr_aload_n 0 C rfl rfl dX5_hashCode_4 ?_
  refine xr_gI C E xf_X5_9 dX5_hashCode_5 (fun x1 E => ?_)
  refine xr_imul C dX5_hashCode_8 ?_
  refine xr_aload_n 0 C rfl rfl dX5_hashCode_9 ?_
  refine xr_gI C E xf_X5_15 dX5_hashCode_10 (fun x2 E => ?_)
  refine xr_iadd C dX5_hashCode_13 ?_
  refine xr_imul C dX5_hashCode_14 ?_
  refine xr_aload_n 0 C rfl rfl dX5_hashCode_15 ?_
  refine xr_gI C E xf_X5_18 dX5_hashCode_16 (fun x3 E => ?_)
  refine xr_iadd C dX5_hashCode_19 ?_
  exact xr_iret C Z E dX5_hashCode_20
def mf_X5_init (a0 : Nat) (a1 : Int32) (a2 : Int32) (a3 : Int32) (h0 : xk_H) : Option (Unit × xk_H) :=
  xm_pV [5] 0 (some a0) (.int a1) h0 fun h1 => xm_pV [5] 1 (some a0) (.int a2) h1 fun h2 => xm_pV [5] 2 (some a0) (.int a3) h2 fun h3 => some ((), h3)
set_option maxHeartbeats 1000000 in
theorem wk_X5_init {l : Launch} {D : va_G} {base : Nat} {a0 : Nat} {a1 : Int32} {a2 : Int32} {a3 : Int32} {h0 : xk_H} {r : Unit} {h' : xk_H} (E : mf_X5_init a0 a1 a2 a3 h0 = some (r, h')) : xk_Ok l D base yX5_init cX5_init 4 none 1 60 [va_rf (some a0), .int a1, .int a2, .int a3] h0 none h' := by
  refine xk_ofX RX5 "<init>" xq_X5_init rfl rfl (Nat.le_of_ble_eq_true rfl) ⟨xk_crf _, ⟨rfl, ⟨rfl, ⟨rfl, trivial⟩⟩⟩⟩ (fun Γ el eD eb C Z => ?_)
  rw [mf_X5_init] at E
  show xk_X Γ 0 [(0, va_rf (some a0)), (1, .int a1), (2, .int a2), (3, .int a3)] [] h0
  refine xr_aload_n 0 C rfl rfl dX5_init_0 ?_
  refine xr_objInit C q1320 q134 q135 (by decide) trivial (Nat.le_of_ble_eq_true rfl) dX5_init_1 ?_
  refine xr_aload_n 0 C rfl rfl dX5_init_4 ?_
  refine xr_iload_n 1 C rfl rfl dX5_init_5 ?_
  refine xr_pI C E xf_X5_9 xp_X5_9_i dX5_init_6 (fun h1 E => ?_)
  refine xr_aload_n 0 C rfl rfl dX5_init_9 ?_
  refine xr_iload_n 2 C rfl rfl dX5_init_10 ?_
  refine xr_pI C E xf_X5_15 xp_X5_15_i dX5_init_11 (fun h2 E => ?_)
  refine xr_aload_n 0 C rfl rfl dX5_init_14 ?_
  refine xr_iload_n 3 C rfl rfl dX5_init_15 ?_
  refine xr_pI C E xf_X5_18 xp_X5_18_i dX5_init_16 (fun h3 E => ?_)
  exact xr_vret C Z E dX5_init_19
def mf_X5_sign_L7 (a1 : Int32) : Nat → Int32 → Int32 → xk_H → Option (Int32 × xk_H)
  | 0, _, _, _ => none
  | n + 1, a2, a3, h0 => if a1 ≤ a3 then (some ((a2 - a2 / (28 : Int32) * (28 : Int32)), h0)) else (mf_X5_sign_L7 a1 n (a2 / (28 : Int32)) (a3 + 1) h0)
set_option maxHeartbeats 1000000 in
theorem wk_X5_sign_L7 {Γ : xk_C} {r : Int32} {h' : xk_H} {a1 : Int32} (C : xk_Cx Γ RX5 cX5_sign 4 (Option.some FieldType.int) "sign" 1 60) (Z : xk_Z Γ (some (.int r)) h') : ∀ (n : Nat) (a2 : Int32) (a3 : Int32) (h0 : xk_H), mf_X5_sign_L7 a1 n a2 a3 h0 = some (r, h') → xk_X Γ 7 [(1, .int a1), (2, .int a2), (3, .int a3)] [] h0 := by
  intro n
  induction n with
  | zero =>
    intro a2 a3 h0 E
    rw [mf_X5_sign_L7] at E
    cases E
  | succ n ih =>
    intro a2 a3 h0 E
    have hkb7 : ∀ (m2 : Int32) (m3 : Int32) (g : xk_H), mf_X5_sign_L7 a1 n m2 m3 g = some (r, h') → xk_X Γ 7 [(1, .int a1), (2, .int m2), (3, .int m3)] [] g := ih
    rw [mf_X5_sign_L7] at E
    refine xr_iload_n 2 C rfl rfl dX5_sign_7 ?_
    refine xr_iload_n 0 C rfl rfl dX5_sign_8 ?_
    refine xr_icmp_ge 23 C E dX5_sign_9 (by decide) (fun E => ?_) (fun E => ?_)
    · refine xr_iload_n 1 C rfl rfl dX5_sign_23 ?_
      refine xr_bipush (28) C (by decide) dX5_sign_24 ?_
      refine xr_irem C (by decide) dX5_sign_26 ?_
      exact xr_iret C Z E dX5_sign_27
    · refine xr_iload_n 1 C rfl rfl dX5_sign_12 ?_
      refine xr_bipush (28) C (by decide) dX5_sign_13 ?_
      refine xr_idiv C (by decide) dX5_sign_15 ?_
      refine xr_istore_n (L2 := [(2, .int (a2 / (28 : Int32))), (1, .int a1), (3, .int a3)]) C rfl rfl dX5_sign_16 (by decide) ?_
      refine xr_iinc (v := (a3 + 1)) (L2 := [(3, .int (a3 + 1)), (2, .int (a2 / (28 : Int32))), (1, .int a1)]) 2 C rfl rfl rfl dX5_sign_17 (by decide) ?_
      refine xr_goto 7 C dX5_sign_20 (by decide) ?_
      refine xr_sub [2, 1, 0] rfl ?_
      exact hkb7 (a2 / (28 : Int32)) (a3 + 1) h0 E
def mf_X5_sign (a0 : Option Nat) (a1 : Int32) (h0 : xk_H) : Option (Int32 × xk_H) :=
  xm_gI [5] 2 a0 h0 fun x1 => mf_X5_sign_L7 a1 xk_fu x1 (0 : Int32) h0
set_option maxHeartbeats 1000000 in
theorem wk_X5_sign {l : Launch} {D : va_G} {base : Nat} {a0 : Option Nat} {a1 : Int32} {h0 : xk_H} {r : Int32} {h' : xk_H} (E : mf_X5_sign a0 a1 h0 = some (r, h')) : xk_Ok l D base yX5_sign cX5_sign 4 (Option.some FieldType.int) 1 60 [va_rf a0, .int a1] h0 (some (.int r)) h' := by
  refine xk_ofX RX5 "sign" xq_X5_sign rfl rfl (Nat.le_of_ble_eq_true rfl) ⟨xk_crf _, ⟨rfl, trivial⟩⟩ (fun Γ el eD eb C Z => ?_)
  rw [mf_X5_sign] at E
  show xk_X Γ 0 [(0, va_rf a0), (1, .int a1)] [] h0
  refine xr_aload_n 0 C rfl rfl dX5_sign_0 ?_
  refine xr_gI C E xf_X5_18 dX5_sign_1 (fun x1 E => ?_)
  refine xr_istore_n (L2 := [(2, .int x1), (0, va_rf a0), (1, .int a1)]) C rfl rfl dX5_sign_4 (by decide) ?_
  refine xr_iconst (0) C (by decide) dX5_sign_5 ?_
  refine xr_istore_n (L2 := [(3, .int (0 : Int32)), (2, .int x1), (0, va_rf a0), (1, .int a1)]) C rfl rfl dX5_sign_6 (by decide) ?_
  refine xr_sub [3, 1, 0] rfl ?_
  exact wk_X5_sign_L7 (a1 := a1) C Z xk_fu x1 (0 : Int32) h0 E
def mf_X5_bare (a0 : Option Nat) (h0 : xk_H) : Option (Option Nat × xk_H) :=
  xm_new 5 [.int 0, .int 0, .int 0] h0 fun b1 h2 => xm_gI [5] 2 a0 h2 fun x3 => xm_cl (mf_X5_init b1 (0 : Int32) (0 : Int32) x3 h2) fun r4 h5 => some ((some b1), h5)
set_option maxHeartbeats 1000000 in
theorem wk_X5_bare {l : Launch} {D : va_G} {base : Nat} {a0 : Option Nat} {h0 : xk_H} {r : Option Nat} {h' : xk_H} (E : mf_X5_bare a0 h0 = some (r, h')) : xk_Ok l D base yX5_bare cX5_bare 1 (Option.some (FieldType.object "SlatCrates$Seen")) 2 83 [va_rf a0] h0 (some (va_rf r)) h' := by
  refine xk_ofX RX5 "bare" xq_X5_bare rfl rfl (Nat.le_of_ble_eq_true rfl) ⟨xk_crf _, trivial⟩ (fun Γ el eD eb C Z => ?_)
  rw [mf_X5_bare] at E
  show xk_X Γ 0 [(0, va_rf a0)] [] h0
  refine xr_new (t := 5) (C0 := "SlatCrates$Seen") (n := 3) C E (by decide) xn_X5 (fun r hr => by cases hr; exact ⟨rfl, rfl⟩) q968 q1315 q110 dX5_bare_0 (fun b1 h2 E => ?_)
  refine xr_dup C (xk_crf _) dX5_bare_3 ?_
  refine xr_iconst (0) C (by decide) dX5_bare_4 ?_
  refine xr_iconst (0) C (by decide) dX5_bare_5 ?_
  refine xr_aload_n 0 C rfl rfl dX5_bare_6 ?_
  refine xr_gI C E xf_X5_18 dX5_bare_7 (fun x3 E => ?_)
  refine xr_I (b := b1) [.int (0 : Int32), .int (0 : Int32), .int x3] [va_rf (some b1)] (fun _ => none) (fun _ => [va_rf (some b1)]) C E (fun r h' e => wk_X5_init e) q2074 q1318 q110 q1319 xh_SlatCrates_Seen rfl xd_X5_init (by decide) (by decide) ⟨xk_crf _, trivial⟩ (Nat.le_of_ble_eq_true rfl) rfl (fun _ => rfl) dX5_bare_10 (fun r4 h5 E => ?_)
  exact xr_aret C Z E (Or.inl ⟨_, rfl⟩) dX5_bare_13
def mf_J24_size (a0 : Option Nat) (h0 : xk_H) : Option (Int32 × xk_H) :=
  xm_gI [12] 4 a0 h0 fun x1 => some (x1, h0)
set_option maxHeartbeats 1000000 in
theorem wk_J24_size {l : Launch} {D : va_G} {base : Nat} {a0 : Option Nat} {h0 : xk_H} {r : Int32} {h' : xk_H} (E : mf_J24_size a0 h0 = some (r, h')) : xk_Ok l D base yJ24_size cJ24_size 1 (Option.some FieldType.int) 1 60 [va_rf a0] h0 (some (.int r)) h' := by
  refine xk_ofX RJ24 "size" xq_J24_size rfl rfl (Nat.le_of_ble_eq_true rfl) ⟨xk_crf _, trivial⟩ (fun Γ el eD eb C Z => ?_)
  rw [mf_J24_size] at E
  show xk_X Γ 0 [(0, va_rf a0)] [] h0
  refine xr_aload_n 0 C rfl rfl dJ24_size_0 ?_
  refine xr_gI C E xf_J24_156 dJ24_size_1 (fun x1 E => ?_)
  exact xr_iret C Z E dJ24_size_4
def mf_J39_size (a0 : Option Nat) (h0 : xk_H) : Option (Int32 × xk_H) :=
  xm_gR [17] 0 a0 h0 fun x1 => xm_rc [12] x1 h0 <| xm_cl (mf_J24_size x1 h0) fun r2 h3 => some (r2, h3)
set_option maxHeartbeats 1000000 in
theorem wk_J39_size {l : Launch} {D : va_G} {base : Nat} {a0 : Option Nat} {h0 : xk_H} {r : Int32} {h' : xk_H} (E : mf_J39_size a0 h0 = some (r, h')) : xk_Ok l D base yJ39_size cJ39_size 1 (Option.some FieldType.int) 2 80 [va_rf a0] h0 (some (.int r)) h' := by
  refine xk_ofX RJ39 "size" xq_J39_size rfl rfl (Nat.le_of_ble_eq_true rfl) ⟨xk_crf _, trivial⟩ (fun Γ el eD eb C Z => ?_)
  rw [mf_J39_size] at E
  show xk_X Γ 0 [(0, va_rf a0)] [] h0
  refine xr_aload_n 0 C rfl rfl dJ39_size_0 ?_
  refine xr_gR C E xf_J39_10 dJ39_size_1 (fun x1 E => ?_)
  refine xr_V (v := x1) [] [] (fun r => some (.int r)) (fun r => .int r :: []) C E xi_12_HashMap (fun r h' e => wk_J24_size e) q836 q837 q838 q109 q839 xh_java_util_HashMap xd_J24_size (by decide) (by decide) trivial (Nat.le_of_ble_eq_true rfl) rfl (fun _ => rfl) dJ39_size_4 (fun r2 h3 E => ?_)
  exact xr_iret C Z E dJ39_size_7
def mf_J23_init (a0 : Nat) (h0 : xk_H) : Option (Unit × xk_H) :=
  some ((), h0)
set_option maxHeartbeats 1000000 in
theorem wk_J23_init {l : Launch} {D : va_G} {base : Nat} {a0 : Nat} {h0 : xk_H} {r : Unit} {h' : xk_H} (E : mf_J23_init a0 h0 = some (r, h')) : xk_Ok l D base yJ23_init cJ23_init 1 none 1 60 [va_rf (some a0)] h0 none h' := by
  refine xk_ofX RJ23 "<init>" xq_J23_init rfl rfl (Nat.le_of_ble_eq_true rfl) ⟨xk_crf _, trivial⟩ (fun Γ el eD eb C Z => ?_)
  rw [mf_J23_init] at E
  show xk_X Γ 0 [(0, va_rf (some a0))] [] h0
  refine xr_aload_n 0 C rfl rfl dJ23_init_0 ?_
  refine xr_objInit C q1265 q134 q135 (by decide) trivial (Nat.le_of_ble_eq_true rfl) dJ23_init_1 ?_
  exact xr_vret C Z E dJ23_init_4
def mf_J34_init (a0 : Nat) (h0 : xk_H) : Option (Unit × xk_H) :=
  xm_cl (mf_J0_init a0 h0) fun r1 h2 => some ((), h2)
set_option maxHeartbeats 1000000 in
theorem wk_J34_init {l : Launch} {D : va_G} {base : Nat} {a0 : Nat} {h0 : xk_H} {r : Unit} {h' : xk_H} (E : mf_J34_init a0 h0 = some (r, h')) : xk_Ok l D base yJ34_init cJ34_init 1 none 2 80 [va_rf (some a0)] h0 none h' := by
  refine xk_ofX RJ34 "<init>" xq_J34_init rfl rfl (Nat.le_of_ble_eq_true rfl) ⟨xk_crf _, trivial⟩ (fun Γ el eD eb C Z => ?_)
  rw [mf_J34_init] at E
  show xk_X Γ 0 [(0, va_rf (some a0))] [] h0
  refine xr_aload_n 0 C rfl rfl dJ34_init_0 ?_
  refine xr_I (b := a0) [] [] (fun _ => none) (fun _ => []) C E (fun r h' e => wk_J0_init e) q1966 q151 q80 q152 xh_java_util_AbstractCollection rfl xd_J0_init (by decide) (by decide) trivial (Nat.le_of_ble_eq_true rfl) rfl (fun _ => rfl) dJ34_init_1 (fun r1 h2 E => ?_)
  exact xr_vret C Z E dJ34_init_4
def mf_J24_init (a0 : Nat) (h0 : xk_H) : Option (Unit × xk_H) :=
  xm_cl (mf_J23_init a0 h0) fun r1 h2 => xm_pV [12] 7 (some a0) (.float (1061158912 : UInt32)) h2 fun h3 => some ((), h3)
set_option maxHeartbeats 1000000 in
theorem wk_J24_init {l : Launch} {D : va_G} {base : Nat} {a0 : Nat} {h0 : xk_H} {r : Unit} {h' : xk_H} (E : mf_J24_init a0 h0 = some (r, h')) : xk_Ok l D base yJ24_init cJ24_init 1 none 2 80 [va_rf (some a0)] h0 none h' := by
  refine xk_ofX RJ24 "<init>" xq_J24_init rfl rfl (Nat.le_of_ble_eq_true rfl) ⟨xk_crf _, trivial⟩ (fun Γ el eD eb C Z => ?_)
  rw [mf_J24_init] at E
  show xk_X Γ 0 [(0, va_rf (some a0))] [] h0
  refine xr_aload_n 0 C rfl rfl dJ24_init_0 ?_
  refine xr_I (b := a0) [] [] (fun _ => none) (fun _ => []) C E (fun r h' e => wk_J23_init e) q1262 q1263 q108 q1264 xh_java_util_AbstractMap rfl xd_J23_init (by decide) (by decide) trivial (Nat.le_of_ble_eq_true rfl) rfl (fun _ => rfl) dJ24_init_1 (fun r1 h2 E => ?_)
  refine xr_aload_n 0 C rfl rfl dJ24_init_4 ?_
  refine xr_ldcf C q1266 dJ24_init_5 ?_
  refine xr_pF C E xf_J24_81 xp_J24_81_i dJ24_init_7 (fun h3 E => ?_)
  exact xr_vret C Z E dJ24_init_10
def mf_J24_hash (a0 : Option Nat) (h0 : xk_H) : Option (Int32 × xk_H) :=
  if a0 = none then (some ((0 : Int32), h0)) else (xm_rc [5] a0 h0 <| xm_cl (mf_X5_hashCode a0 h0) fun r1 h2 => some ((r1 ^^^ ((r1).toUInt32 >>> (((16 : Int32)).toUInt32 &&& Int32.toUInt32 31)).toInt32), h2))
set_option maxHeartbeats 1000000 in
theorem wk_J24_hash {l : Launch} {D : va_G} {base : Nat} {a0 : Option Nat} {h0 : xk_H} {r : Int32} {h' : xk_H} (E : mf_J24_hash a0 h0 = some (r, h')) : xk_Ok l D base yJ24_hash cJ24_hash 2 (Option.some FieldType.int) 2 80 [va_rf a0] h0 (some (.int r)) h' := by
  refine xk_ofX RJ24 "hash" xq_J24_hash rfl rfl (Nat.le_of_ble_eq_true rfl) ⟨xk_crf _, trivial⟩ (fun Γ el eD eb C Z => ?_)
  rw [mf_J24_hash] at E
  show xk_X Γ 0 [(0, va_rf a0)] [] h0
  refine xr_aload_n 0 C rfl rfl dJ24_hash_0 ?_
  refine xr_ifnonnull 8 C E dJ24_hash_1 (by decide) (fun E => ?_) (fun E => ?_)
  · refine xr_aload_n 0 C rfl rfl dJ24_hash_8 ?_
    refine xr_U (v := a0) [] [] (fun r => some (.int r)) (fun r => .int r :: []) C E xi_5_SlatCratesSeen (fun r h' e => wk_X5_hashCode e) q1343 q1345 (xk_dec2 (List.mem_of_getElem? (i := 0) rfl)) q1350 q1349 q110 q1351 xh_java_lang_Object xd_java_lang_Object_hashCode__I (by decide) (by decide) trivial (Nat.le_of_ble_eq_true rfl) rfl (fun _ => rfl) dJ24_hash_9 (fun r1 h2 E => ?_)
    refine xr_dup C rfl dJ24_hash_12 ?_
    refine xr_istore_n (L2 := [(1, .int r1), (0, va_rf a0)]) C rfl rfl dJ24_hash_13 (by decide) ?_
    refine xr_iload_n 0 C rfl rfl dJ24_hash_14 ?_
    refine xr_bipush (16) C (by decide) dJ24_hash_15 ?_
    refine xr_iushr C dJ24_hash_17 ?_
    refine xr_ixor C dJ24_hash_18 ?_
    exact xr_iret C Z E dJ24_hash_19
  · refine xr_iconst (0) C (by decide) dJ24_hash_4 ?_
    refine xr_goto 19 C dJ24_hash_5 (by decide) ?_
    exact xr_iret C Z E dJ24_hash_19
def mf_J29_find_J165 (kb3 : Option Nat → xk_H → Option (Option Nat × xk_H)) (a1 : Int32) (a2 : Option Nat) (a3 : Option Nat) (a4 : Option Nat) (h0 : xk_H) : Option (Option Nat × xk_H) :=
  if a4 = none then (some (none, h0)) else (kb3 a4 h0)
set_option maxHeartbeats 1000000 in
theorem wk_J29_find_J165 {Γ : xk_C} {r : Option Nat} {h' : xk_H} {kb3 : Option Nat → xk_H → Option (Option Nat × xk_H)} {a1 : Int32} {a2 : Option Nat} {a3 : Option Nat} {a4 : Option Nat} {h0 : xk_H} (C : xk_Cx Γ RJ29 cJ29_find 11 (Option.some (FieldType.object "java/util/HashMap$TreeNode")) "find" 2 82) (Z : xk_Z Γ (some (va_rf r)) h') (hkb3 : ∀ (m4 : Option Nat) (g : xk_H), kb3 m4 g = some (r, h') → xk_X Γ 3 [(1, .int a1), (2, va_rf a2), (3, va_rf a3), (4, va_rf m4)] [] g) (E : mf_J29_find_J165 kb3 a1 a2 a3 a4 h0 = some (r, h')) : xk_X Γ 165 [(1, .int a1), (2, va_rf a2), (3, va_rf a3), (4, va_rf a4)] [] h0 := by
  rw [mf_J29_find_J165] at E
  refine xr_aload 3 C rfl dJ29_find_165 ?_
  refine xr_ifnonnull 3 C E dJ29_find_167 (by decide) (fun E => ?_) (fun E => ?_)
  · exact hkb3 a4 h0 E
  · refine xr_null C dJ29_find_170 ?_
    exact xr_aret C Z E (Or.inl ⟨_, rfl⟩) dJ29_find_171
def mf_J29_find_J77 (kx101 : Option Nat → xk_H → Option (Option Nat × xk_H)) (kb3 : Option Nat → xk_H → Option (Option Nat × xk_H)) (a1 : Int32) (a2 : Option Nat) (a3 : Option Nat) (a7 : Option Nat) (a8 : Option Nat) (a9 : Option Nat) (h0 : xk_H) : Option (Option Nat × xk_H) :=
  if a8 = none then (mf_J29_find_J165 kb3 a1 a2 a3 a9 h0) else (if a9 = none then (mf_J29_find_J165 kb3 a1 a2 a3 a8 h0) else (kx101 a7 h0))
set_option maxHeartbeats 1000000 in
theorem wk_J29_find_J77 {Γ : xk_C} {r : Option Nat} {h' : xk_H} {kx101 : Option Nat → xk_H → Option (Option Nat × xk_H)} {kb3 : Option Nat → xk_H → Option (Option Nat × xk_H)} {a1 : Int32} {a2 : Option Nat} {a3 : Option Nat} {a7 : Option Nat} {a8 : Option Nat} {a9 : Option Nat} {h0 : xk_H} (C : xk_Cx Γ RJ29 cJ29_find 11 (Option.some (FieldType.object "java/util/HashMap$TreeNode")) "find" 2 82) (Z : xk_Z Γ (some (va_rf r)) h') (hkx101 : ∀ (m7 : Option Nat) (g : xk_H), kx101 m7 g = some (r, h') → xk_X Γ 101 [(2, va_rf a2), (3, va_rf a3), (7, va_rf m7)] [] g) (hkb3 : ∀ (m4 : Option Nat) (g : xk_H), kb3 m4 g = some (r, h') → xk_X Γ 3 [(1, .int a1), (2, va_rf a2), (3, va_rf a3), (4, va_rf m4)] [] g) (E : mf_J29_find_J77 kx101 kb3 a1 a2 a3 a7 a8 a9 h0 = some (r, h')) : xk_X Γ 77 [(1, .int a1), (2, va_rf a2), (3, va_rf a3), (7, va_rf a7), (8, va_rf a8), (9, va_rf a9)] [] h0 := by
  rw [mf_J29_find_J77] at E
  refine xr_aload 4 C rfl dJ29_find_77 ?_
  refine xr_ifnonnull 89 C E dJ29_find_79 (by decide) (fun E => ?_) (fun E => ?_)
  · refine xr_aload 5 C rfl dJ29_find_89 ?_
    refine xr_ifnonnull 101 C E dJ29_find_91 (by decide) (fun E => ?_) (fun E => ?_)
    · refine xr_sub [1, 2, 3] rfl ?_
      exact hkx101 a7 h0 E
    · refine xr_aload 4 C rfl dJ29_find_94 ?_
      refine xr_astore (L2 := [(4, va_rf a8), (1, .int a1), (2, va_rf a2), (3, va_rf a3), (7, va_rf a7), (8, va_rf a8), (9, va_rf a9)]) C rfl dJ29_find_96 (by decide) ?_
      refine xr_goto 165 C dJ29_find_98 (by decide) ?_
      refine xr_sub [1, 2, 3, 0] rfl ?_
      exact wk_J29_find_J165 C Z hkb3 E
  · refine xr_aload 5 C rfl dJ29_find_82 ?_
    refine xr_astore (L2 := [(4, va_rf a9), (1, .int a1), (2, va_rf a2), (3, va_rf a3), (7, va_rf a7), (8, va_rf a8), (9, va_rf a9)]) C rfl dJ29_find_84 (by decide) ?_
    refine xr_goto 165 C dJ29_find_86 (by decide) ?_
    refine xr_sub [1, 2, 3, 0] rfl ?_
    exact wk_J29_find_J165 C Z hkb3 E
def mf_J29_find_L3 (kx101 : Option Nat → xk_H → Option (Option Nat × xk_H)) (a1 : Int32) (a2 : Option Nat) (a3 : Option Nat) : Nat → Option Nat → xk_H → Option (Option Nat × xk_H)
  | 0, _, _ => none
  | n + 1, a4, h0 => xm_gR [14] 5 a4 h0 fun x1 => xm_gR [14] 6 a4 h0 fun x2 => xm_gI [13, 14] 0 a4 h0 fun x3 => if x3 ≤ a1 then (if a1 ≤ x3 then (xm_gR [13, 14] 1 a4 h0 fun x4 => if x4 = a2 then (some (a4, h0)) else (if a2 = none then (mf_J29_find_J77 kx101 (fun m4 g => mf_J29_find_L3 kx101 a1 a2 a3 n m4 g) a1 a2 a3 x4 x1 x2 h0) else (xm_rc [5] a2 h0 <| xm_cl (mf_X5_equals a2 x4 h0) fun r5 h6 => if xk_b2 r5 = 0 then (mf_J29_find_J77 kx101 (fun m4 g => mf_J29_find_L3 kx101 a1 a2 a3 n m4 g) a1 a2 a3 x4 x1 x2 h6) else (some (a4, h6))))) else (mf_J29_find_J165 (fun m4 g => mf_J29_find_L3 kx101 a1 a2 a3 n m4 g) a1 a2 a3 x2 h0)) else (mf_J29_find_J165 (fun m4 g => mf_J29_find_L3 kx101 a1 a2 a3 n m4 g) a1 a2 a3 x1 h0)
set_option maxHeartbeats 1000000 in
theorem wk_J29_find_L3 {Γ : xk_C} {r : Option Nat} {h' : xk_H} {kx101 : Option Nat → xk_H → Option (Option Nat × xk_H)} {a1 : Int32} {a2 : Option Nat} {a3 : Option Nat} (C : xk_Cx Γ RJ29 cJ29_find 11 (Option.some (FieldType.object "java/util/HashMap$TreeNode")) "find" 2 82) (Z : xk_Z Γ (some (va_rf r)) h') (hkx101 : ∀ (m7 : Option Nat) (g : xk_H), kx101 m7 g = some (r, h') → xk_X Γ 101 [(2, va_rf a2), (3, va_rf a3), (7, va_rf m7)] [] g) : ∀ (n : Nat) (a4 : Option Nat) (h0 : xk_H), mf_J29_find_L3 kx101 a1 a2 a3 n a4 h0 = some (r, h') → xk_X Γ 3 [(1, .int a1), (2, va_rf a2), (3, va_rf a3), (4, va_rf a4)] [] h0 := by
  intro n
  induction n with
  | zero =>
    intro a4 h0 E
    rw [mf_J29_find_L3] at E
    cases E
  | succ n ih =>
    intro a4 h0 E
    have hkb3 : ∀ (m4 : Option Nat) (g : xk_H), mf_J29_find_L3 kx101 a1 a2 a3 n m4 g = some (r, h') → xk_X Γ 3 [(1, .int a1), (2, va_rf a2), (3, va_rf a3), (4, va_rf m4)] [] g := ih
    rw [mf_J29_find_L3] at E
    refine xr_aload 3 C rfl dJ29_find_3 ?_
    refine xr_gR C E xf_J29_39 dJ29_find_5 (fun x1 E => ?_)
    refine xr_astore (L2 := [(8, va_rf x1), (1, .int a1), (2, va_rf a2), (3, va_rf a3), (4, va_rf a4)]) C rfl dJ29_find_8 (by decide) ?_
    refine xr_aload 4 C rfl dJ29_find_10 ?_
    refine xr_gR C E xf_J29_42 dJ29_find_12 (fun x2 E => ?_)
    refine xr_astore (L2 := [(9, va_rf x2), (8, va_rf x1), (1, .int a1), (2, va_rf a2), (3, va_rf a3), (4, va_rf a4)]) C rfl dJ29_find_15 (by decide) ?_
    refine xr_aload 5 C rfl dJ29_find_17 ?_
    refine xr_gI C E xf_J29_15 dJ29_find_19 (fun x3 E => ?_)
    refine xr_dup C rfl dJ29_find_22 ?_
    refine xr_istore (L2 := [(5, .int x3), (9, va_rf x2), (8, va_rf x1), (1, .int a1), (2, va_rf a2), (3, va_rf a3), (4, va_rf a4)]) C rfl dJ29_find_23 (by decide) ?_
    refine xr_iload_n 3 C rfl rfl dJ29_find_25 ?_
    refine xr_icmp_le 36 C E dJ29_find_26 (by decide) (fun E => ?_) (fun E => ?_)
    · refine xr_iload 0 C rfl dJ29_find_36 ?_
      refine xr_iload_n 3 C rfl rfl dJ29_find_38 ?_
      refine xr_icmp_ge 49 C E dJ29_find_39 (by decide) (fun E => ?_) (fun E => ?_)
      · refine xr_aload 6 C rfl dJ29_find_49 ?_
        refine xr_gR C E xf_J29_45 dJ29_find_51 (fun x4 E => ?_)
        refine xr_dup C (xk_crf _) dJ29_find_54 ?_
        refine xr_astore (L2 := [(7, va_rf x4), (5, .int x3), (9, va_rf x2), (8, va_rf x1), (1, .int a1), (2, va_rf a2), (3, va_rf a3), (4, va_rf a4)]) C rfl dJ29_find_55 (by decide) ?_
        refine xr_aload_n 5 C rfl rfl dJ29_find_57 ?_
        refine xr_acmp_eq 74 C E dJ29_find_58 (by decide) (fun E => ?_) (fun E => ?_)
        · refine xr_aload 7 C rfl dJ29_find_74 ?_
          exact xr_aret C Z E (Or.inl ⟨_, rfl⟩) dJ29_find_76
        · refine xr_aload_n 5 C rfl rfl dJ29_find_61 ?_
          refine xr_ifnull 77 C E dJ29_find_62 (by decide) (fun E => ?_) (fun E => ?_)
          · refine xr_sub [4, 5, 6, 0, 3, 2] rfl ?_
            exact wk_J29_find_J77 C Z hkx101 hkb3 E
          · refine xr_aload_n 5 C rfl rfl dJ29_find_65 ?_
            refine xr_aload 0 C rfl dJ29_find_66 ?_
            refine xr_U (v := a2) [va_rf x4] [] (fun r => some (.int (xk_b2 r))) (fun r => .int (xk_b2 r) :: []) C E xi_5_SlatCratesSeen (fun r h' e => wk_X5_equals e) q1431 q961 (xk_dec1 q960 q988) q966 q965 q110 q967 xh_java_lang_Object xd_J40_equals (by decide) (by decide) trivial (Nat.le_of_ble_eq_true rfl) rfl (fun _ => rfl) dJ29_find_68 (fun r5 h6 E => ?_)
            refine xr_if_eq 77 C E dJ29_find_71 (by decide) (fun E => ?_) (fun E => ?_)
            · refine xr_sub [4, 5, 6, 0, 3, 2] rfl ?_
              exact wk_J29_find_J77 C Z hkx101 hkb3 E
            · refine xr_aload 7 C rfl dJ29_find_74 ?_
              exact xr_aret C Z E (Or.inl ⟨_, rfl⟩) dJ29_find_76
      · refine xr_aload 1 C rfl dJ29_find_42 ?_
        refine xr_astore (L2 := [(4, va_rf x2), (5, .int x3), (9, va_rf x2), (8, va_rf x1), (1, .int a1), (2, va_rf a2), (3, va_rf a3)]) C rfl dJ29_find_44 (by decide) ?_
        refine xr_goto 165 C dJ29_find_46 (by decide) ?_
        refine xr_sub [4, 5, 6, 0] rfl ?_
        exact wk_J29_find_J165 C Z hkb3 E
    · refine xr_aload 2 C rfl dJ29_find_29 ?_
      refine xr_astore (L2 := [(4, va_rf x1), (5, .int x3), (9, va_rf x2), (8, va_rf x1), (1, .int a1), (2, va_rf a2), (3, va_rf a3)]) C rfl dJ29_find_31 (by decide) ?_
      refine xr_goto 165 C dJ29_find_33 (by decide) ?_
      refine xr_sub [4, 5, 6, 0] rfl ?_
      exact wk_J29_find_J165 C Z hkb3 E
def mf_J29_find (a0 : Option Nat) (a1 : Int32) (a2 : Option Nat) (a3 : Option Nat) (h0 : xk_H) : Option (Option Nat × xk_H) :=
  mf_J29_find_L3 (fun m7 h8 => if a3 = none then (none) else (none)) a1 a2 a3 xk_fu a0 h0
set_option maxHeartbeats 1000000 in
theorem wk_J29_find {l : Launch} {D : va_G} {base : Nat} {a0 : Option Nat} {a1 : Int32} {a2 : Option Nat} {a3 : Option Nat} {h0 : xk_H} {r : Option Nat} {h' : xk_H} (E : mf_J29_find a0 a1 a2 a3 h0 = some (r, h')) : xk_Ok l D base yJ29_find cJ29_find 11 (Option.some (FieldType.object "java/util/HashMap$TreeNode")) 2 82 [va_rf a0, .int a1, va_rf a2, va_rf a3] h0 (some (va_rf r)) h' := by
  refine xk_ofX RJ29 "find" xq_J29_find rfl rfl (Nat.le_of_ble_eq_true rfl) ⟨xk_crf _, ⟨rfl, ⟨xk_crf _, ⟨xk_crf _, trivial⟩⟩⟩⟩ (fun Γ el eD eb C Z => ?_)
  rw [mf_J29_find] at E
  show xk_X Γ 0 [(0, va_rf a0), (1, .int a1), (2, va_rf a2), (3, va_rf a3)] [] h0
  refine xr_aload_n 0 C rfl rfl dJ29_find_0 ?_
  refine xr_astore (L2 := [(4, va_rf a0), (0, va_rf a0), (1, .int a1), (2, va_rf a2), (3, va_rf a3)]) C rfl dJ29_find_1 (by decide) ?_
  refine xr_sub [2, 3, 4, 0] rfl ?_
  refine wk_J29_find_L3 (a1 := a1) (a2 := a2) (a3 := a3) C Z (fun m7 h8 E => ?_) xk_fu a0 h0 E
  · refine xr_aload_n 1 C rfl rfl dJ29_find_101 ?_
    refine xr_ifnonnull 114 C E dJ29_find_102 (by decide) (fun E => ?_) (fun E => ?_)
    · refine xr_aload_n 1 C rfl rfl dJ29_find_114 ?_
      refine xr_aload_n 0 C rfl rfl dJ29_find_115 ?_
      refine xr_aload 2 C rfl dJ29_find_116 ?_
      cases E
    · refine xr_aload_n 0 C rfl rfl dJ29_find_105 ?_
      cases E
def mf_J29_root_L2 : Nat → Option Nat → xk_H → Option (Option Nat × xk_H)
  | 0, _, _ => none
  | n + 1, a1, h0 => xm_gR [14] 4 a1 h0 fun x1 => if x1 = none then (some (a1, h0)) else (mf_J29_root_L2 n x1 h0)
set_option maxHeartbeats 1000000 in
theorem wk_J29_root_L2 {Γ : xk_C} {r : Option Nat} {h' : xk_H} (C : xk_Cx Γ RJ29 cJ29_root 3 (Option.some (FieldType.object "java/util/HashMap$TreeNode")) "root" 1 60) (Z : xk_Z Γ (some (va_rf r)) h') : ∀ (n : Nat) (a1 : Option Nat) (h0 : xk_H), mf_J29_root_L2 n a1 h0 = some (r, h') → xk_X Γ 2 [(1, va_rf a1)] [] h0 := by
  intro n
  induction n with
  | zero =>
    intro a1 h0 E
    rw [mf_J29_root_L2] at E
    cases E
  | succ n ih =>
    intro a1 h0 E
    have hkb2 : ∀ (m1 : Option Nat) (g : xk_H), mf_J29_root_L2  n m1 g = some (r, h') → xk_X Γ 2 [(1, va_rf m1)] [] g := ih
    rw [mf_J29_root_L2] at E
    refine xr_aload_n 0 C rfl rfl dJ29_root_2 ?_
    refine xr_gR C E xf_J29_9 dJ29_root_3 (fun x1 E => ?_)
    refine xr_dup C (xk_crf _) dJ29_root_6 ?_
    refine xr_astore_n (L2 := [(2, va_rf x1), (1, va_rf a1)]) C rfl rfl dJ29_root_7 (by decide) ?_
    refine xr_ifnonnull 13 C E dJ29_root_8 (by decide) (fun E => ?_) (fun E => ?_)
    · refine xr_aload_n 0 C rfl rfl dJ29_root_13 ?_
      refine xr_astore_n (L2 := [(1, va_rf x1), (2, va_rf x1)]) C rfl rfl dJ29_root_14 (by decide) ?_
      refine xr_goto 2 C dJ29_root_15 (by decide) ?_
      refine xr_sub [0] rfl ?_
      exact hkb2 x1 h0 E
    · refine xr_aload_n 1 C rfl rfl dJ29_root_11 ?_
      exact xr_aret C Z E (Or.inl ⟨_, rfl⟩) dJ29_root_12
def mf_J29_root (a0 : Option Nat) (h0 : xk_H) : Option (Option Nat × xk_H) :=
  mf_J29_root_L2 xk_fu a0 h0
set_option maxHeartbeats 1000000 in
theorem wk_J29_root {l : Launch} {D : va_G} {base : Nat} {a0 : Option Nat} {h0 : xk_H} {r : Option Nat} {h' : xk_H} (E : mf_J29_root a0 h0 = some (r, h')) : xk_Ok l D base yJ29_root cJ29_root 3 (Option.some (FieldType.object "java/util/HashMap$TreeNode")) 1 60 [va_rf a0] h0 (some (va_rf r)) h' := by
  refine xk_ofX RJ29 "root" xq_J29_root rfl rfl (Nat.le_of_ble_eq_true rfl) ⟨xk_crf _, trivial⟩ (fun Γ el eD eb C Z => ?_)
  rw [mf_J29_root] at E
  show xk_X Γ 0 [(0, va_rf a0)] [] h0
  refine xr_aload_n 0 C rfl rfl dJ29_root_0 ?_
  refine xr_astore_n (L2 := [(1, va_rf a0), (0, va_rf a0)]) C rfl rfl dJ29_root_1 (by decide) ?_
  refine xr_sub [0] rfl ?_
  exact wk_J29_root_L2 C Z xk_fu a0 h0 E
def mf_J29_getTreeNode_J15 (a1 : Int32) (a2 : Option Nat) (s0 : Option Nat) (h0 : xk_H) : Option (Option Nat × xk_H) :=
  xm_rc [14] s0 h0 <| xm_cl (mf_J29_find s0 a1 a2 none h0) fun r2 h3 => some (r2, h3)
set_option maxHeartbeats 1000000 in
theorem wk_J29_getTreeNode_J15 {Γ : xk_C} {r : Option Nat} {h' : xk_H} {a1 : Int32} {a2 : Option Nat} {s0 : Option Nat} {h0 : xk_H} (C : xk_Cx Γ RJ29 cJ29_getTreeNode 3 (Option.some (FieldType.object "java/util/HashMap$TreeNode")) "getTreeNode" 3 112) (Z : xk_Z Γ (some (va_rf r)) h') (E : mf_J29_getTreeNode_J15 a1 a2 s0 h0 = some (r, h')) : xk_X Γ 15 [(1, .int a1), (2, va_rf a2)] [va_rf s0] h0 := by
  rw [mf_J29_getTreeNode_J15] at E
  refine xr_iload_n 0 C rfl rfl dJ29_getTreeNode_15 ?_
  refine xr_aload_n 1 C rfl rfl dJ29_getTreeNode_16 ?_
  refine xr_null C dJ29_getTreeNode_17 ?_
  refine xr_V (v := s0) [.int a1, va_rf a2, va_rf none] [] (fun r => some (va_rf r)) (fun r => va_rf r :: []) C E xi_14_HashMapTreeNode (fun r h' e => wk_J29_find e) q1427 q1428 q1429 q116 q1430 xh_java_util_HashMap_TreeNode xd_J29_find (by decide) (by decide) trivial (Nat.le_of_ble_eq_true rfl) rfl (fun _ => rfl) dJ29_getTreeNode_18 (fun r2 h3 E => ?_)
  exact xr_aret C Z E (Or.inl ⟨_, rfl⟩) dJ29_getTreeNode_21
def mf_J29_getTreeNode (a0 : Option Nat) (a1 : Int32) (a2 : Option Nat) (h0 : xk_H) : Option (Option Nat × xk_H) :=
  xm_gR [14] 4 a0 h0 fun x1 => if x1 = none then (mf_J29_getTreeNode_J15 a1 a2 a0 h0) else (xm_rc [14] a0 h0 <| xm_cl (mf_J29_root a0 h0) fun r4 h5 => mf_J29_getTreeNode_J15 a1 a2 r4 h5)
set_option maxHeartbeats 1000000 in
theorem wk_J29_getTreeNode {l : Launch} {D : va_G} {base : Nat} {a0 : Option Nat} {a1 : Int32} {a2 : Option Nat} {h0 : xk_H} {r : Option Nat} {h' : xk_H} (E : mf_J29_getTreeNode a0 a1 a2 h0 = some (r, h')) : xk_Ok l D base yJ29_getTreeNode cJ29_getTreeNode 3 (Option.some (FieldType.object "java/util/HashMap$TreeNode")) 3 112 [va_rf a0, .int a1, va_rf a2] h0 (some (va_rf r)) h' := by
  refine xk_ofX RJ29 "getTreeNode" xq_J29_getTreeNode rfl rfl (Nat.le_of_ble_eq_true rfl) ⟨xk_crf _, ⟨rfl, ⟨xk_crf _, trivial⟩⟩⟩ (fun Γ el eD eb C Z => ?_)
  rw [mf_J29_getTreeNode] at E
  show xk_X Γ 0 [(0, va_rf a0), (1, .int a1), (2, va_rf a2)] [] h0
  refine xr_aload_n 0 C rfl rfl dJ29_getTreeNode_0 ?_
  refine xr_gR C E xf_J29_9 dJ29_getTreeNode_1 (fun x1 E => ?_)
  refine xr_ifnull 14 C E dJ29_getTreeNode_4 (by decide) (fun E => ?_) (fun E => ?_)
  · refine xr_aload_n 0 C rfl rfl dJ29_getTreeNode_14 ?_
    refine xr_sub [1, 2] rfl ?_
    exact wk_J29_getTreeNode_J15 C Z E
  · refine xr_aload_n 0 C rfl rfl dJ29_getTreeNode_7 ?_
    refine xr_V (v := a0) [] [] (fun r => some (va_rf r)) (fun r => va_rf r :: []) C E xi_14_HashMapTreeNode (fun r h' e => wk_J29_root e) q1423 q1424 q1425 q116 q1426 xh_java_util_HashMap_TreeNode xd_J29_root (by decide) (by decide) trivial (Nat.le_of_ble_eq_true rfl) rfl (fun _ => rfl) dJ29_getTreeNode_8 (fun r4 h5 E => ?_)
    refine xr_goto 15 C dJ29_getTreeNode_11 (by decide) ?_
    refine xr_sub [1, 2] rfl ?_
    exact wk_J29_getTreeNode_J15 C Z E
def mf_J24_getNode_J137 (kb99 : Option Nat → xk_H → Option (Option Nat × xk_H)) (a1 : Option Nat) (a4 : Option Nat) (a6 : Int32) (h0 : xk_H) : Option (Option Nat × xk_H) :=
  xm_gR [13, 14] 3 a4 h0 fun x10 => if x10 = none then (some (none, h0)) else (kb99 x10 h0)
set_option maxHeartbeats 1000000 in
theorem wk_J24_getNode_J137 {Γ : xk_C} {r : Option Nat} {h' : xk_H} {kb99 : Option Nat → xk_H → Option (Option Nat × xk_H)} {a1 : Option Nat} {a4 : Option Nat} {a6 : Int32} {h0 : xk_H} (C : xk_Cx Γ RJ24 cJ24_getNode 8 (Option.some (FieldType.object "java/util/HashMap$Node")) "getNode" 4 134) (Z : xk_Z Γ (some (va_rf r)) h') (hkb99 : ∀ (m4 : Option Nat) (g : xk_H), kb99 m4 g = some (r, h') → xk_X Γ 99 [(1, va_rf a1), (4, va_rf m4), (6, .int a6)] [] g) (E : mf_J24_getNode_J137 kb99 a1 a4 a6 h0 = some (r, h')) : xk_X Γ 137 [(1, va_rf a1), (4, va_rf a4), (6, .int a6)] [] h0 := by
  rw [mf_J24_getNode_J137] at E
  refine xr_aload 1 C rfl dJ24_getNode_137 ?_
  refine xr_gR C E xf_J24_177 dJ24_getNode_139 (fun x10 E => ?_)
  refine xr_dup C (xk_crf _) dJ24_getNode_142 ?_
  refine xr_astore (L2 := [(4, va_rf x10), (1, va_rf a1), (6, .int a6)]) C rfl dJ24_getNode_143 (by decide) ?_
  refine xr_ifnonnull 99 C E dJ24_getNode_145 (by decide) (fun E => ?_) (fun E => ?_)
  · refine xr_sub [1, 0, 2] rfl ?_
    exact hkb99 x10 h0 E
  · refine xr_null C dJ24_getNode_148 ?_
    exact xr_aret C Z E (Or.inl ⟨_, rfl⟩) dJ24_getNode_149
def mf_J24_getNode_L99 (a1 : Option Nat) (a6 : Int32) : Nat → Option Nat → xk_H → Option (Option Nat × xk_H)
  | 0, _, _ => none
  | n + 1, a4, h0 => xm_gI [13, 14] 0 a4 h0 fun x9 => if x9 = a6 then (xm_gR [13, 14] 1 a4 h0 fun x11 => if x11 = a1 then (some (a4, h0)) else (if a1 = none then (mf_J24_getNode_J137 (fun m4 g => mf_J24_getNode_L99 a1 a6 n m4 g) a1 a4 a6 h0) else (xm_rc [5] a1 h0 <| xm_cl (mf_X5_equals a1 x11 h0) fun r12 h13 => if xk_b2 r12 = 0 then (mf_J24_getNode_J137 (fun m4 g => mf_J24_getNode_L99 a1 a6 n m4 g) a1 a4 a6 h13) else (some (a4, h13))))) else (mf_J24_getNode_J137 (fun m4 g => mf_J24_getNode_L99 a1 a6 n m4 g) a1 a4 a6 h0)
set_option maxHeartbeats 1000000 in
theorem wk_J24_getNode_L99 {Γ : xk_C} {r : Option Nat} {h' : xk_H} {a1 : Option Nat} {a6 : Int32} (C : xk_Cx Γ RJ24 cJ24_getNode 8 (Option.some (FieldType.object "java/util/HashMap$Node")) "getNode" 4 134) (Z : xk_Z Γ (some (va_rf r)) h') : ∀ (n : Nat) (a4 : Option Nat) (h0 : xk_H), mf_J24_getNode_L99 a1 a6 n a4 h0 = some (r, h') → xk_X Γ 99 [(1, va_rf a1), (4, va_rf a4), (6, .int a6)] [] h0 := by
  intro n
  induction n with
  | zero =>
    intro a4 h0 E
    rw [mf_J24_getNode_L99] at E
    cases E
  | succ n ih =>
    intro a4 h0 E
    have hkb99 : ∀ (m4 : Option Nat) (g : xk_H), mf_J24_getNode_L99 a1 a6 n m4 g = some (r, h') → xk_X Γ 99 [(1, va_rf a1), (4, va_rf m4), (6, .int a6)] [] g := ih
    rw [mf_J24_getNode_L99] at E
    refine xr_aload 1 C rfl dJ24_getNode_99 ?_
    refine xr_gI C E xf_J24_168 dJ24_getNode_101 (fun x9 E => ?_)
    refine xr_iload 2 C rfl dJ24_getNode_104 ?_
    refine xr_icmp_ne 137 C E dJ24_getNode_106 (by decide) (fun E => ?_) (fun E => ?_)
    · exact wk_J24_getNode_J137 C Z hkb99 E
    · refine xr_aload 1 C rfl dJ24_getNode_109 ?_
      refine xr_gR C E xf_J24_170 dJ24_getNode_111 (fun x11 E => ?_)
      refine xr_dup C (xk_crf _) dJ24_getNode_114 ?_
      refine xr_astore (L2 := [(7, va_rf x11), (1, va_rf a1), (4, va_rf a4), (6, .int a6)]) C rfl dJ24_getNode_115 (by decide) ?_
      refine xr_aload_n 1 C rfl rfl dJ24_getNode_117 ?_
      refine xr_acmp_eq 134 C E dJ24_getNode_118 (by decide) (fun E => ?_) (fun E => ?_)
      · refine xr_aload 2 C rfl dJ24_getNode_134 ?_
        exact xr_aret C Z E (Or.inl ⟨_, rfl⟩) dJ24_getNode_136
      · refine xr_aload_n 1 C rfl rfl dJ24_getNode_121 ?_
        refine xr_ifnull 137 C E dJ24_getNode_122 (by decide) (fun E => ?_) (fun E => ?_)
        · refine xr_sub [1, 2, 3] rfl ?_
          exact wk_J24_getNode_J137 C Z hkb99 E
        · refine xr_aload_n 1 C rfl rfl dJ24_getNode_125 ?_
          refine xr_aload 0 C rfl dJ24_getNode_126 ?_
          refine xr_U (v := a1) [va_rf x11] [] (fun r => some (.int (xk_b2 r))) (fun r => .int (xk_b2 r) :: []) C E xi_5_SlatCratesSeen (fun r h' e => wk_X5_equals e) q1417 q961 (xk_dec1 q960 q988) q966 q965 q110 q967 xh_java_lang_Object xd_J40_equals (by decide) (by decide) trivial (Nat.le_of_ble_eq_true rfl) rfl (fun _ => rfl) dJ24_getNode_128 (fun r12 h13 E => ?_)
          refine xr_if_eq 137 C E dJ24_getNode_131 (by decide) (fun E => ?_) (fun E => ?_)
          · refine xr_sub [1, 2, 3] rfl ?_
            exact wk_J24_getNode_J137 C Z hkb99 E
          · refine xr_aload 2 C rfl dJ24_getNode_134 ?_
            exact xr_aret C Z E (Or.inl ⟨_, rfl⟩) dJ24_getNode_136
def mf_J24_getNode_J71 (a1 : Option Nat) (a3 : Option Nat) (a6 : Int32) (h0 : xk_H) : Option (Option Nat × xk_H) :=
  xm_gR [13, 14] 3 a3 h0 fun x7 => if x7 = none then (some (none, h0)) else (xm_inst [14] [13] a3 h0 fun x8 => if x8 = 0 then (mf_J24_getNode_L99 a1 a6 xk_fu x7 h0) else (xm_cast [14] a3 h0 <| xm_rc [14] a3 h0 <| xm_cl (mf_J29_getTreeNode a3 a6 a1 h0) fun r14 h15 => some (r14, h15)))
set_option maxHeartbeats 1000000 in
theorem wk_J24_getNode_J71 {Γ : xk_C} {r : Option Nat} {h' : xk_H} {a1 : Option Nat} {a3 : Option Nat} {a6 : Int32} {h0 : xk_H} (C : xk_Cx Γ RJ24 cJ24_getNode 8 (Option.some (FieldType.object "java/util/HashMap$Node")) "getNode" 4 134) (Z : xk_Z Γ (some (va_rf r)) h') (E : mf_J24_getNode_J71 a1 a3 a6 h0 = some (r, h')) : xk_X Γ 71 [(1, va_rf a1), (3, va_rf a3), (6, .int a6)] [] h0 := by
  rw [mf_J24_getNode_J71] at E
  refine xr_aload_n 1 C rfl rfl dJ24_getNode_71 ?_
  refine xr_gR C E xf_J24_177 dJ24_getNode_72 (fun x7 E => ?_)
  refine xr_dup C (xk_crf _) dJ24_getNode_75 ?_
  refine xr_astore (L2 := [(4, va_rf x7), (1, va_rf a1), (3, va_rf a3), (6, .int a6)]) C rfl dJ24_getNode_76 (by decide) ?_
  refine xr_ifnull 148 C E dJ24_getNode_78 (by decide) (fun E => ?_) (fun E => ?_)
  · refine xr_null C dJ24_getNode_148 ?_
    exact xr_aret C Z E (Or.inl ⟨_, rfl⟩) dJ24_getNode_149
  · refine xr_aload_n 2 C rfl rfl dJ24_getNode_81 ?_
    refine xr_inst C E xi_14_HashMapTreeNode xk_n13 q1418 dJ24_getNode_82 (fun x8 E => ?_)
    refine xr_if_eq 99 C E dJ24_getNode_85 (by decide) (fun E => ?_) (fun E => ?_)
    · refine xr_sub [1, 0, 3] rfl ?_
      exact wk_J24_getNode_L99 (a1 := a1) (a6 := a6) C Z xk_fu x7 h0 E
    · refine xr_aload_n 2 C rfl rfl dJ24_getNode_88 ?_
      refine xr_cast C E xi_14_HashMapTreeNode q1418 dJ24_getNode_89 (fun E => ?_)
      refine xr_iload 3 C rfl dJ24_getNode_92 ?_
      refine xr_aload_n 1 C rfl rfl dJ24_getNode_94 ?_
      refine xr_V (v := a3) [.int a6, va_rf a1] [] (fun r => some (va_rf r)) (fun r => va_rf r :: []) C E xi_14_HashMapTreeNode (fun r h' e => wk_J29_getTreeNode e) q1419 q1420 q1421 q116 q1422 xh_java_util_HashMap_TreeNode xd_J29_getTreeNode (by decide) (by decide) trivial (Nat.le_of_ble_eq_true rfl) rfl (fun _ => rfl) dJ24_getNode_95 (fun r14 h15 E => ?_)
      exact xr_aret C Z E (Or.inl ⟨_, rfl⟩) dJ24_getNode_98
def mf_J24_getNode (a0 : Option Nat) (a1 : Option Nat) (h0 : xk_H) : Option (Option Nat × xk_H) :=
  xm_gR [12] 2 a0 h0 fun x1 => if x1 = none then (some (none, h0)) else (xm_len [103] x1 h0 fun x2 => if x2 ≤ 0 then (some (none, h0)) else (xm_cl (mf_J24_hash a1 h0) fun r3 h4 => xm_lR [103] x1 ((x2 - (1 : Int32)) &&& r3) h4 fun x5 => if x5 = none then (some (none, h4)) else (xm_gI [13, 14] 0 x5 h4 fun x6 => if x6 = r3 then (xm_gR [13, 14] 1 x5 h4 fun x16 => if x16 = a1 then (some (x5, h4)) else (if a1 = none then (mf_J24_getNode_J71 a1 x5 r3 h4) else (xm_rc [5] a1 h4 <| xm_cl (mf_X5_equals a1 x16 h4) fun r17 h18 => if xk_b2 r17 = 0 then (mf_J24_getNode_J71 a1 x5 r3 h18) else (some (x5, h18))))) else (mf_J24_getNode_J71 a1 x5 r3 h4))))
set_option maxHeartbeats 1000000 in
theorem wk_J24_getNode {l : Launch} {D : va_G} {base : Nat} {a0 : Option Nat} {a1 : Option Nat} {h0 : xk_H} {r : Option Nat} {h' : xk_H} (E : mf_J24_getNode a0 a1 h0 = some (r, h')) : xk_Ok l D base yJ24_getNode cJ24_getNode 8 (Option.some (FieldType.object "java/util/HashMap$Node")) 4 134 [va_rf a0, va_rf a1] h0 (some (va_rf r)) h' := by
  refine xk_ofX RJ24 "getNode" xq_J24_getNode rfl rfl (Nat.le_of_ble_eq_true rfl) ⟨xk_crf _, ⟨xk_crf _, trivial⟩⟩ (fun Γ el eD eb C Z => ?_)
  rw [mf_J24_getNode] at E
  show xk_X Γ 0 [(0, va_rf a0), (1, va_rf a1)] [] h0
  refine xr_aload_n 0 C rfl rfl dJ24_getNode_0 ?_
  refine xr_gR C E xf_J24_105 dJ24_getNode_1 (fun x1 E => ?_)
  refine xr_dup C (xk_crf _) dJ24_getNode_4 ?_
  refine xr_astore_n (L2 := [(2, va_rf x1), (0, va_rf a0), (1, va_rf a1)]) C rfl rfl dJ24_getNode_5 (by decide) ?_
  refine xr_ifnull 148 C E dJ24_getNode_6 (by decide) (fun E => ?_) (fun E => ?_)
  · refine xr_null C dJ24_getNode_148 ?_
    exact xr_aret C Z E (Or.inl ⟨_, rfl⟩) dJ24_getNode_149
  · refine xr_aload_n 0 C rfl rfl dJ24_getNode_9 ?_
    refine xr_len 3 (.object "java/util/HashMap$Node") C E (fun _ => rfl) xt_103 dJ24_getNode_10 (fun x2 E => ?_)
    refine xr_dup C rfl dJ24_getNode_11 ?_
    refine xr_istore (L2 := [(5, .int x2), (2, va_rf x1), (0, va_rf a0), (1, va_rf a1)]) C rfl dJ24_getNode_12 (by decide) ?_
    refine xr_if_le 148 C E dJ24_getNode_14 (by decide) (fun E => ?_) (fun E => ?_)
    · refine xr_null C dJ24_getNode_148 ?_
      exact xr_aret C Z E (Or.inl ⟨_, rfl⟩) dJ24_getNode_149
    · refine xr_aload_n 1 C rfl rfl dJ24_getNode_17 ?_
      refine xr_iload 0 C rfl dJ24_getNode_18 ?_
      refine xr_iconst (1) C (by decide) dJ24_getNode_20 ?_
      refine xr_isub C dJ24_getNode_21 ?_
      refine xr_aload_n 3 C rfl rfl dJ24_getNode_22 ?_
      refine xr_S [va_rf a1] [.int (x2 - (1 : Int32)), va_rf x1] (fun r => some (.int r)) (fun r => .int r :: [.int (x2 - (1 : Int32)), va_rf x1]) C E (fun r h' e => wk_J24_hash e) q1339 q1340 q109 q1341 xh_java_util_HashMap xd_J24_hash (by decide) (by decide) ⟨rfl, ⟨xk_crf _, trivial⟩⟩ (Nat.le_of_ble_eq_true rfl) rfl (fun _ => rfl) dJ24_getNode_23 (fun r3 h4 E => ?_)
      refine xr_dup C rfl dJ24_getNode_26 ?_
      refine xr_istore (L2 := [(6, .int r3), (5, .int x2), (2, va_rf x1), (0, va_rf a0), (1, va_rf a1)]) C rfl dJ24_getNode_27 (by decide) ?_
      refine xr_iand C dJ24_getNode_29 ?_
      refine xr_lR 3 (.object "java/util/HashMap$Node") C E (fun _ => rfl) rfl xt_103 dJ24_getNode_30 (fun x5 E => ?_)
      refine xr_dup C (xk_crf _) dJ24_getNode_31 ?_
      refine xr_astore_n (L2 := [(3, va_rf x5), (6, .int r3), (5, .int x2), (2, va_rf x1), (0, va_rf a0), (1, va_rf a1)]) C rfl rfl dJ24_getNode_32 (by decide) ?_
      refine xr_ifnull 148 C E dJ24_getNode_33 (by decide) (fun E => ?_) (fun E => ?_)
      · refine xr_null C dJ24_getNode_148 ?_
        exact xr_aret C Z E (Or.inl ⟨_, rfl⟩) dJ24_getNode_149
      · refine xr_aload_n 0 C rfl rfl dJ24_getNode_36 ?_
        refine xr_gI C E xf_J24_168 dJ24_getNode_37 (fun x6 E => ?_)
        refine xr_iload 1 C rfl dJ24_getNode_40 ?_
        refine xr_icmp_ne 71 C E dJ24_getNode_42 (by decide) (fun E => ?_) (fun E => ?_)
        · refine xr_sub [5, 0, 1] rfl ?_
          exact wk_J24_getNode_J71 C Z E
        · refine xr_aload_n 0 C rfl rfl dJ24_getNode_45 ?_
          refine xr_gR C E xf_J24_170 dJ24_getNode_46 (fun x16 E => ?_)
          refine xr_dup C (xk_crf _) dJ24_getNode_49 ?_
          refine xr_astore (L2 := [(7, va_rf x16), (3, va_rf x5), (6, .int r3), (5, .int x2), (2, va_rf x1), (0, va_rf a0), (1, va_rf a1)]) C rfl dJ24_getNode_50 (by decide) ?_
          refine xr_aload_n 6 C rfl rfl dJ24_getNode_52 ?_
          refine xr_acmp_eq 69 C E dJ24_getNode_53 (by decide) (fun E => ?_) (fun E => ?_)
          · refine xr_aload_n 1 C rfl rfl dJ24_getNode_69 ?_
            exact xr_aret C Z E (Or.inl ⟨_, rfl⟩) dJ24_getNode_70
          · refine xr_aload_n 6 C rfl rfl dJ24_getNode_56 ?_
            refine xr_ifnull 71 C E dJ24_getNode_57 (by decide) (fun E => ?_) (fun E => ?_)
            · refine xr_sub [6, 1, 2] rfl ?_
              exact wk_J24_getNode_J71 C Z E
            · refine xr_aload_n 6 C rfl rfl dJ24_getNode_60 ?_
              refine xr_aload 0 C rfl dJ24_getNode_61 ?_
              refine xr_U (v := a1) [va_rf x16] [] (fun r => some (.int (xk_b2 r))) (fun r => .int (xk_b2 r) :: []) C E xi_5_SlatCratesSeen (fun r h' e => wk_X5_equals e) q1417 q961 (xk_dec1 q960 q988) q966 q965 q110 q967 xh_java_lang_Object xd_J40_equals (by decide) (by decide) trivial (Nat.le_of_ble_eq_true rfl) rfl (fun _ => rfl) dJ24_getNode_63 (fun r17 h18 E => ?_)
              refine xr_if_eq 71 C E dJ24_getNode_66 (by decide) (fun E => ?_) (fun E => ?_)
              · refine xr_sub [6, 1, 2] rfl ?_
                exact wk_J24_getNode_J71 C Z E
              · refine xr_aload_n 1 C rfl rfl dJ24_getNode_69 ?_
                exact xr_aret C Z E (Or.inl ⟨_, rfl⟩) dJ24_getNode_70
def mf_J24_get (a0 : Option Nat) (a1 : Option Nat) (h0 : xk_H) : Option (Option Nat × xk_H) :=
  xm_rc [12] a0 h0 <| xm_cl (mf_J24_getNode a0 a1 h0) fun r1 h2 => if r1 = none then (some (none, h2)) else (xm_gR [13, 14] 2 r1 h2 fun x3 => some (x3, h2))
set_option maxHeartbeats 1000000 in
theorem wk_J24_get {l : Launch} {D : va_G} {base : Nat} {a0 : Option Nat} {a1 : Option Nat} {h0 : xk_H} {r : Option Nat} {h' : xk_H} (E : mf_J24_get a0 a1 h0 = some (r, h')) : xk_Ok l D base yJ24_get cJ24_get 3 (Option.some (FieldType.object "java/lang/Object")) 5 161 [va_rf a0, va_rf a1] h0 (some (va_rf r)) h' := by
  refine xk_ofX RJ24 "get" xq_J24_get rfl rfl (Nat.le_of_ble_eq_true rfl) ⟨xk_crf _, ⟨xk_crf _, trivial⟩⟩ (fun Γ el eD eb C Z => ?_)
  rw [mf_J24_get] at E
  show xk_X Γ 0 [(0, va_rf a0), (1, va_rf a1)] [] h0
  refine xr_aload_n 0 C rfl rfl dJ24_get_0 ?_
  refine xr_aload_n 1 C rfl rfl dJ24_get_1 ?_
  refine xr_V (v := a0) [va_rf a1] [] (fun r => some (va_rf r)) (fun r => va_rf r :: []) C E xi_12_HashMap (fun r h' e => wk_J24_getNode e) q1335 q1336 q1337 q109 q1338 xh_java_util_HashMap xd_J24_getNode (by decide) (by decide) trivial (Nat.le_of_ble_eq_true rfl) rfl (fun _ => rfl) dJ24_get_2 (fun r1 h2 E => ?_)
  refine xr_dup C (xk_crf _) dJ24_get_5 ?_
  refine xr_astore_n (L2 := [(2, va_rf r1), (0, va_rf a0), (1, va_rf a1)]) C rfl rfl dJ24_get_6 (by decide) ?_
  refine xr_ifnonnull 14 C E dJ24_get_7 (by decide) (fun E => ?_) (fun E => ?_)
  · refine xr_aload_n 0 C rfl rfl dJ24_get_14 ?_
    refine xr_gR C E xf_J24_162 dJ24_get_15 (fun x3 E => ?_)
    exact xr_aret C Z E (Or.inl ⟨_, rfl⟩) dJ24_get_18
  · refine xr_null C dJ24_get_10 ?_
    refine xr_goto 18 C dJ24_get_11 (by decide) ?_
    exact xr_aret C Z E (Or.inl ⟨_, rfl⟩) dJ24_get_18
def mf_J24_afterNodeAccess (a0 : Option Nat) (a1 : Option Nat) (h0 : xk_H) : Option (Unit × xk_H) :=
  some ((), h0)
set_option maxHeartbeats 1000000 in
theorem wk_J24_afterNodeAccess {l : Launch} {D : va_G} {base : Nat} {a0 : Option Nat} {a1 : Option Nat} {h0 : xk_H} {r : Unit} {h' : xk_H} (E : mf_J24_afterNodeAccess a0 a1 h0 = some (r, h')) : xk_Ok l D base yJ24_afterNodeAccess cJ24_afterNodeAccess 2 none 1 60 [va_rf a0, va_rf a1] h0 none h' := by
  refine xk_ofX RJ24 "afterNodeAccess" xq_J24_afterNodeAccess rfl rfl (Nat.le_of_ble_eq_true rfl) ⟨xk_crf _, ⟨xk_crf _, trivial⟩⟩ (fun Γ el eD eb C Z => ?_)
  rw [mf_J24_afterNodeAccess] at E
  show xk_X Γ 0 [(0, va_rf a0), (1, va_rf a1)] [] h0
  exact xr_vret C Z E dJ24_afterNodeAccess_0
def mf_J24_afterNodeInsertion (a0 : Option Nat) (a1 : Int32) (h0 : xk_H) : Option (Unit × xk_H) :=
  some ((), h0)
set_option maxHeartbeats 1000000 in
theorem wk_J24_afterNodeInsertion {l : Launch} {D : va_G} {base : Nat} {a0 : Option Nat} {a1 : Int32} {h0 : xk_H} {r : Unit} {h' : xk_H} (E : mf_J24_afterNodeInsertion a0 a1 h0 = some (r, h')) : xk_Ok l D base yJ24_afterNodeInsertion cJ24_afterNodeInsertion 2 none 1 60 [va_rf a0, .int a1] h0 none h' := by
  refine xk_ofX RJ24 "afterNodeInsertion" xq_J24_afterNodeInsertion rfl rfl (Nat.le_of_ble_eq_true rfl) ⟨xk_crf _, ⟨rfl, trivial⟩⟩ (fun Γ el eD eb C Z => ?_)
  rw [mf_J24_afterNodeInsertion] at E
  show xk_X Γ 0 [(0, va_rf a0), (1, .int a1)] [] h0
  exact xr_vret C Z E dJ24_afterNodeInsertion_0
def mf_J27_init (a0 : Nat) (a1 : Int32) (a2 : Option Nat) (a3 : Option Nat) (a4 : Option Nat) (h0 : xk_H) : Option (Unit × xk_H) :=
  xm_pV [13, 14] 0 (some a0) (.int a1) h0 fun h1 => xm_pV [13, 14] 1 (some a0) (va_rf a2) h1 fun h2 => xm_pV [13, 14] 2 (some a0) (va_rf a3) h2 fun h3 => xm_pV [13, 14] 3 (some a0) (va_rf a4) h3 fun h4 => some ((), h4)
set_option maxHeartbeats 1000000 in
theorem wk_J27_init {l : Launch} {D : va_G} {base : Nat} {a0 : Nat} {a1 : Int32} {a2 : Option Nat} {a3 : Option Nat} {a4 : Option Nat} {h0 : xk_H} {r : Unit} {h' : xk_H} (E : mf_J27_init a0 a1 a2 a3 a4 h0 = some (r, h')) : xk_Ok l D base yJ27_init cJ27_init 5 none 1 60 [va_rf (some a0), .int a1, va_rf a2, va_rf a3, va_rf a4] h0 none h' := by
  refine xk_ofX RJ27 "<init>" xq_J27_init rfl rfl (Nat.le_of_ble_eq_true rfl) ⟨xk_crf _, ⟨rfl, ⟨xk_crf _, ⟨xk_crf _, ⟨xk_crf _, trivial⟩⟩⟩⟩⟩ (fun Γ el eD eb C Z => ?_)
  rw [mf_J27_init] at E
  show xk_X Γ 0 [(0, va_rf (some a0)), (1, .int a1), (2, va_rf a2), (3, va_rf a3), (4, va_rf a4)] [] h0
  refine xr_aload_n 0 C rfl rfl dJ27_init_0 ?_
  refine xr_objInit C q1670 q134 q135 (by decide) trivial (Nat.le_of_ble_eq_true rfl) dJ27_init_1 ?_
  refine xr_aload_n 0 C rfl rfl dJ27_init_4 ?_
  refine xr_iload_n 1 C rfl rfl dJ27_init_5 ?_
  refine xr_pI C E xf_J27_7 xp_J27_7_i dJ27_init_6 (fun h1 E => ?_)
  refine xr_aload_n 0 C rfl rfl dJ27_init_9 ?_
  refine xr_aload_n 2 C rfl rfl dJ27_init_10 ?_
  refine xr_pR C E xf_J27_13 xp_J27_13_i (Or.inl ⟨_, rfl⟩) dJ27_init_11 (fun h2 E => ?_)
  refine xr_aload_n 0 C rfl rfl dJ27_init_14 ?_
  refine xr_aload_n 3 C rfl rfl dJ27_init_15 ?_
  refine xr_pR C E xf_J27_17 xp_J27_17_i (Or.inl ⟨_, rfl⟩) dJ27_init_16 (fun h3 E => ?_)
  refine xr_aload_n 0 C rfl rfl dJ27_init_19 ?_
  refine xr_aload 4 C rfl dJ27_init_20 ?_
  refine xr_pR C E xf_J27_20 xp_J27_20_i (Or.inl ⟨_, rfl⟩) dJ27_init_22 (fun h4 E => ?_)
  exact xr_vret C Z E dJ27_init_25
def mf_J24_newNode (a0 : Option Nat) (a1 : Int32) (a2 : Option Nat) (a3 : Option Nat) (a4 : Option Nat) (h0 : xk_H) : Option (Option Nat × xk_H) :=
  xm_new 13 [.int 0, .null, .null, .null] h0 fun b1 h2 => xm_cl (mf_J27_init b1 a1 a2 a3 a4 h2) fun r3 h4 => some ((some b1), h4)
set_option maxHeartbeats 1000000 in
theorem wk_J24_newNode {l : Launch} {D : va_G} {base : Nat} {a0 : Option Nat} {a1 : Int32} {a2 : Option Nat} {a3 : Option Nat} {a4 : Option Nat} {h0 : xk_H} {r : Option Nat} {h' : xk_H} (E : mf_J24_newNode a0 a1 a2 a3 a4 h0 = some (r, h')) : xk_Ok l D base yJ24_newNode cJ24_newNode 5 (Option.some (FieldType.object "java/util/HashMap$Node")) 2 84 [va_rf a0, .int a1, va_rf a2, va_rf a3, va_rf a4] h0 (some (va_rf r)) h' := by
  refine xk_ofX RJ24 "newNode" xq_J24_newNode rfl rfl (Nat.le_of_ble_eq_true rfl) ⟨xk_crf _, ⟨rfl, ⟨xk_crf _, ⟨xk_crf _, ⟨xk_crf _, trivial⟩⟩⟩⟩⟩ (fun Γ el eD eb C Z => ?_)
  rw [mf_J24_newNode] at E
  show xk_X Γ 0 [(0, va_rf a0), (1, .int a1), (2, va_rf a2), (3, va_rf a3), (4, va_rf a4)] [] h0
  refine xr_new (t := 13) (C0 := "java/util/HashMap$Node") (n := 4) C E (by decide) xn_J27 (fun r hr => by cases hr; exact ⟨rfl, rfl⟩) q1651 q1666 q114 dJ24_newNode_0 (fun b1 h2 E => ?_)
  refine xr_dup C (xk_crf _) dJ24_newNode_3 ?_
  refine xr_iload_n 1 C rfl rfl dJ24_newNode_4 ?_
  refine xr_aload_n 2 C rfl rfl dJ24_newNode_5 ?_
  refine xr_aload_n 3 C rfl rfl dJ24_newNode_6 ?_
  refine xr_aload 4 C rfl dJ24_newNode_7 ?_
  refine xr_I (b := b1) [.int a1, va_rf a2, va_rf a3, va_rf a4] [va_rf (some b1)] (fun _ => none) (fun _ => [va_rf (some b1)]) C E (fun r h' e => wk_J27_init e) q1667 q1668 q114 q1669 xh_java_util_HashMap_Node rfl xd_J27_init (by decide) (by decide) ⟨xk_crf _, trivial⟩ (Nat.le_of_ble_eq_true rfl) rfl (fun _ => rfl) dJ24_newNode_9 (fun r3 h4 E => ?_)
  exact xr_aret C Z E (Or.inl ⟨_, rfl⟩) dJ24_newNode_12
def mf_J24_resize_J301 (kb235 : Option Nat → Option Nat → Option Nat → Option Nat → Option Nat → xk_H → Option (Option Nat × xk_H)) (kx309 : Option Nat → Option Nat → Option Nat → Option Nat → xk_H → Option (Option Nat × xk_H)) (a0 : Option Nat) (a1 : Option Nat) (a2 : Int32) (a4 : Int32) (a6 : Option Nat) (a7 : Int32) (a9 : Option Nat) (a10 : Option Nat) (a11 : Option Nat) (a12 : Option Nat) (a13 : Option Nat) (h0 : xk_H) : Option (Option Nat × xk_H) :=
  if a13 = none then (kx309 a9 a10 a11 a12 h0) else (kb235 a13 a9 a10 a11 a12 h0)
set_option maxHeartbeats 1000000 in
theorem wk_J24_resize_J301 {Γ : xk_C} {r : Option Nat} {h' : xk_H} {kb235 : Option Nat → Option Nat → Option Nat → Option Nat → Option Nat → xk_H → Option (Option Nat × xk_H)} {kx309 : Option Nat → Option Nat → Option Nat → Option Nat → xk_H → Option (Option Nat × xk_H)} {a0 : Option Nat} {a1 : Option Nat} {a2 : Int32} {a4 : Int32} {a6 : Option Nat} {a7 : Int32} {a9 : Option Nat} {a10 : Option Nat} {a11 : Option Nat} {a12 : Option Nat} {a13 : Option Nat} {h0 : xk_H} (C : xk_Cx Γ RJ24 cJ24_resize 14 (Option.some (FieldType.array (FieldType.object "java/util/HashMap$Node"))) "resize" 1 60) (Z : xk_Z Γ (some (va_rf r)) h') (hkb235 : ∀ (m8 : Option Nat) (m9 : Option Nat) (m10 : Option Nat) (m11 : Option Nat) (m12 : Option Nat) (g : xk_H), kb235 m8 m9 m10 m11 m12 g = some (r, h') → xk_X Γ 235 [(0, va_rf a0), (1, va_rf a1), (2, .int a2), (4, .int a4), (6, va_rf a6), (7, .int a7), (8, va_rf m8), (9, va_rf m9), (10, va_rf m10), (11, va_rf m11), (12, va_rf m12)] [] g) (hkx309 : ∀ (m9 : Option Nat) (m10 : Option Nat) (m11 : Option Nat) (m12 : Option Nat) (g : xk_H), kx309 m9 m10 m11 m12 g = some (r, h') → xk_X Γ 309 [(0, va_rf a0), (1, va_rf a1), (2, .int a2), (4, .int a4), (6, va_rf a6), (7, .int a7), (9, va_rf m9), (10, va_rf m10), (11, va_rf m11), (12, va_rf m12)] [] g) (E : mf_J24_resize_J301 kb235 kx309 a0 a1 a2 a4 a6 a7 a9 a10 a11 a12 a13 h0 = some (r, h')) : xk_X Γ 301 [(0, va_rf a0), (1, va_rf a1), (2, .int a2), (4, .int a4), (6, va_rf a6), (7, .int a7), (9, va_rf a9), (10, va_rf a10), (11, va_rf a11), (12, va_rf a12), (13, va_rf a13)] [] h0 := by
  rw [mf_J24_resize_J301] at E
  refine xr_aload 10 C rfl dJ24_resize_301 ?_
  refine xr_dup C (xk_crf _) dJ24_resize_303 ?_
  refine xr_astore (L2 := [(8, va_rf a13), (0, va_rf a0), (1, va_rf a1), (2, .int a2), (4, .int a4), (6, va_rf a6), (7, .int a7), (9, va_rf a9), (10, va_rf a10), (11, va_rf a11), (12, va_rf a12), (13, va_rf a13)]) C rfl dJ24_resize_304 (by decide) ?_
  refine xr_ifnonnull 235 C E dJ24_resize_306 (by decide) (fun E => ?_) (fun E => ?_)
  · refine xr_sub [1, 2, 3, 4, 5, 6, 0, 7, 8, 9, 10] rfl ?_
    exact hkb235 a13 a9 a10 a11 a12 h0 E
  · refine xr_sub [1, 2, 3, 4, 5, 6, 7, 8, 9, 10] rfl ?_
    exact hkx309 a9 a10 a11 a12 h0 E
def mf_J24_resize_L235 (kx309 : Option Nat → Option Nat → Option Nat → Option Nat → xk_H → Option (Option Nat × xk_H)) (a0 : Option Nat) (a1 : Option Nat) (a2 : Int32) (a4 : Int32) (a6 : Option Nat) (a7 : Int32) : Nat → Option Nat → Option Nat → Option Nat → Option Nat → Option Nat → xk_H → Option (Option Nat × xk_H)
  | 0, _, _, _, _, _, _ => none
  | n + 1, a8, a9, a10, a11, a12, h0 => xm_gR [13, 14] 3 a8 h0 fun x12 => xm_gI [13, 14] 0 a8 h0 fun x13 => if (x13 &&& a2) = 0 then (if a10 = none then (mf_J24_resize_J301 (fun m8 m9 m10 m11 m12 g => mf_J24_resize_L235 kx309 a0 a1 a2 a4 a6 a7 n m8 m9 m10 m11 m12 g) kx309 a0 a1 a2 a4 a6 a7 a8 a8 a11 a12 x12 h0) else (xm_pV [13, 14] 3 a10 (va_rf a8) h0 fun h15 => mf_J24_resize_J301 (fun m8 m9 m10 m11 m12 g => mf_J24_resize_L235 kx309 a0 a1 a2 a4 a6 a7 n m8 m9 m10 m11 m12 g) kx309 a0 a1 a2 a4 a6 a7 a9 a8 a11 a12 x12 h15)) else (if a12 = none then (mf_J24_resize_J301 (fun m8 m9 m10 m11 m12 g => mf_J24_resize_L235 kx309 a0 a1 a2 a4 a6 a7 n m8 m9 m10 m11 m12 g) kx309 a0 a1 a2 a4 a6 a7 a9 a10 a8 a8 x12 h0) else (xm_pV [13, 14] 3 a12 (va_rf a8) h0 fun h14 => mf_J24_resize_J301 (fun m8 m9 m10 m11 m12 g => mf_J24_resize_L235 kx309 a0 a1 a2 a4 a6 a7 n m8 m9 m10 m11 m12 g) kx309 a0 a1 a2 a4 a6 a7 a9 a10 a11 a8 x12 h14))
set_option maxHeartbeats 1000000 in
theorem wk_J24_resize_L235 {Γ : xk_C} {r : Option Nat} {h' : xk_H} {kx309 : Option Nat → Option Nat → Option Nat → Option Nat → xk_H → Option (Option Nat × xk_H)} {a0 : Option Nat} {a1 : Option Nat} {a2 : Int32} {a4 : Int32} {a6 : Option Nat} {a7 : Int32} (C : xk_Cx Γ RJ24 cJ24_resize 14 (Option.some (FieldType.array (FieldType.object "java/util/HashMap$Node"))) "resize" 1 60) (Z : xk_Z Γ (some (va_rf r)) h') (hkx309 : ∀ (m9 : Option Nat) (m10 : Option Nat) (m11 : Option Nat) (m12 : Option Nat) (g : xk_H), kx309 m9 m10 m11 m12 g = some (r, h') → xk_X Γ 309 [(0, va_rf a0), (1, va_rf a1), (2, .int a2), (4, .int a4), (6, va_rf a6), (7, .int a7), (9, va_rf m9), (10, va_rf m10), (11, va_rf m11), (12, va_rf m12)] [] g) : ∀ (n : Nat) (a8 : Option Nat) (a9 : Option Nat) (a10 : Option Nat) (a11 : Option Nat) (a12 : Option Nat) (h0 : xk_H), mf_J24_resize_L235 kx309 a0 a1 a2 a4 a6 a7 n a8 a9 a10 a11 a12 h0 = some (r, h') → xk_X Γ 235 [(0, va_rf a0), (1, va_rf a1), (2, .int a2), (4, .int a4), (6, va_rf a6), (7, .int a7), (8, va_rf a8), (9, va_rf a9), (10, va_rf a10), (11, va_rf a11), (12, va_rf a12)] [] h0 := by
  intro n
  induction n with
  | zero =>
    intro a8 a9 a10 a11 a12 h0 E
    rw [mf_J24_resize_L235] at E
    cases E
  | succ n ih =>
    intro a8 a9 a10 a11 a12 h0 E
    have hkb235 : ∀ (m8 : Option Nat) (m9 : Option Nat) (m10 : Option Nat) (m11 : Option Nat) (m12 : Option Nat) (g : xk_H), mf_J24_resize_L235 kx309 a0 a1 a2 a4 a6 a7 n m8 m9 m10 m11 m12 g = some (r, h') → xk_X Γ 235 [(0, va_rf a0), (1, va_rf a1), (2, .int a2), (4, .int a4), (6, va_rf a6), (7, .int a7), (8, va_rf m8), (9, va_rf m9), (10, va_rf m10), (11, va_rf m11), (12, va_rf m12)] [] g := ih
    rw [mf_J24_resize_L235] at E
    refine xr_aload 6 C rfl dJ24_resize_235 ?_
    refine xr_gR C E xf_J24_177 dJ24_resize_237 (fun x12 E => ?_)
    refine xr_astore (L2 := [(13, va_rf x12), (0, va_rf a0), (1, va_rf a1), (2, .int a2), (4, .int a4), (6, va_rf a6), (7, .int a7), (8, va_rf a8), (9, va_rf a9), (10, va_rf a10), (11, va_rf a11), (12, va_rf a12)]) C rfl dJ24_resize_240 (by decide) ?_
    refine xr_aload 7 C rfl dJ24_resize_242 ?_
    refine xr_gI C E xf_J24_168 dJ24_resize_244 (fun x13 E => ?_)
    refine xr_iload_n 3 C rfl rfl dJ24_resize_247 ?_
    refine xr_iand C dJ24_resize_248 ?_
    refine xr_if_ne 278 C E dJ24_resize_249 (by decide) (fun E => ?_) (fun E => ?_)
    · refine xr_aload 11 C rfl dJ24_resize_278 ?_
      refine xr_ifnonnull 290 C E dJ24_resize_280 (by decide) (fun E => ?_) (fun E => ?_)
      · refine xr_aload 11 C rfl dJ24_resize_290 ?_
        refine xr_aload 7 C rfl dJ24_resize_292 ?_
        refine xr_pR C E xf_J24_177 xp_J24_177 (Or.inl ⟨_, rfl⟩) dJ24_resize_294 (fun h14 E => ?_)
        refine xr_aload 7 C rfl dJ24_resize_297 ?_
        refine xr_astore (L2 := [(12, va_rf a8), (13, va_rf x12), (0, va_rf a0), (1, va_rf a1), (2, .int a2), (4, .int a4), (6, va_rf a6), (7, .int a7), (8, va_rf a8), (9, va_rf a9), (10, va_rf a10), (11, va_rf a11)]) C rfl dJ24_resize_299 (by decide) ?_
        refine xr_sub [2, 3, 4, 5, 6, 7, 9, 10, 11, 0, 1] rfl ?_
        exact wk_J24_resize_J301 C Z hkb235 hkx309 E
      · refine xr_aload 7 C rfl dJ24_resize_283 ?_
        refine xr_astore (L2 := [(11, va_rf a8), (13, va_rf x12), (0, va_rf a0), (1, va_rf a1), (2, .int a2), (4, .int a4), (6, va_rf a6), (7, .int a7), (8, va_rf a8), (9, va_rf a9), (10, va_rf a10), (12, va_rf a12)]) C rfl dJ24_resize_285 (by decide) ?_
        refine xr_goto 297 C dJ24_resize_287 (by decide) ?_
        refine xr_aload 8 C rfl dJ24_resize_297 ?_
        refine xr_astore (L2 := [(12, va_rf a8), (11, va_rf a8), (13, va_rf x12), (0, va_rf a0), (1, va_rf a1), (2, .int a2), (4, .int a4), (6, va_rf a6), (7, .int a7), (8, va_rf a8), (9, va_rf a9), (10, va_rf a10)]) C rfl dJ24_resize_299 (by decide) ?_
        refine xr_sub [3, 4, 5, 6, 7, 8, 10, 11, 1, 0, 2] rfl ?_
        exact wk_J24_resize_J301 C Z hkb235 hkx309 E
    · refine xr_aload 9 C rfl dJ24_resize_252 ?_
      refine xr_ifnonnull 264 C E dJ24_resize_254 (by decide) (fun E => ?_) (fun E => ?_)
      · refine xr_aload 9 C rfl dJ24_resize_264 ?_
        refine xr_aload 7 C rfl dJ24_resize_266 ?_
        refine xr_pR C E xf_J24_177 xp_J24_177 (Or.inl ⟨_, rfl⟩) dJ24_resize_268 (fun h15 E => ?_)
        refine xr_aload 7 C rfl dJ24_resize_271 ?_
        refine xr_astore (L2 := [(10, va_rf a8), (13, va_rf x12), (0, va_rf a0), (1, va_rf a1), (2, .int a2), (4, .int a4), (6, va_rf a6), (7, .int a7), (8, va_rf a8), (9, va_rf a9), (11, va_rf a11), (12, va_rf a12)]) C rfl dJ24_resize_273 (by decide) ?_
        refine xr_goto 301 C dJ24_resize_275 (by decide) ?_
        refine xr_sub [2, 3, 4, 5, 6, 7, 9, 0, 10, 11, 1] rfl ?_
        exact wk_J24_resize_J301 C Z hkb235 hkx309 E
      · refine xr_aload 7 C rfl dJ24_resize_257 ?_
        refine xr_astore (L2 := [(9, va_rf a8), (13, va_rf x12), (0, va_rf a0), (1, va_rf a1), (2, .int a2), (4, .int a4), (6, va_rf a6), (7, .int a7), (8, va_rf a8), (10, va_rf a10), (11, va_rf a11), (12, va_rf a12)]) C rfl dJ24_resize_259 (by decide) ?_
        refine xr_goto 271 C dJ24_resize_261 (by decide) ?_
        refine xr_aload 8 C rfl dJ24_resize_271 ?_
        refine xr_astore (L2 := [(10, va_rf a8), (9, va_rf a8), (13, va_rf x12), (0, va_rf a0), (1, va_rf a1), (2, .int a2), (4, .int a4), (6, va_rf a6), (7, .int a7), (8, va_rf a8), (11, va_rf a11), (12, va_rf a12)]) C rfl dJ24_resize_273 (by decide) ?_
        refine xr_goto 301 C dJ24_resize_275 (by decide) ?_
        refine xr_sub [3, 4, 5, 6, 7, 8, 1, 0, 10, 11, 2] rfl ?_
        exact wk_J24_resize_J301 C Z hkb235 hkx309 E
def mf_J24_resize_J327 (kb151 : Int32 → xk_H → Option (Option Nat × xk_H)) (a0 : Option Nat) (a1 : Option Nat) (a2 : Int32) (a4 : Int32) (a6 : Option Nat) (a7 : Int32) (a11 : Option Nat) (a12 : Option Nat) (h0 : xk_H) : Option (Option Nat × xk_H) :=
  if a12 = none then (kb151 (a7 + 1) h0) else (xm_pV [13, 14] 3 a12 (va_rf none) h0 fun h21 => xm_sR [103] [13, 14] a6 (a7 + a2) a11 h21 fun h22 => kb151 (a7 + 1) h22)
set_option maxHeartbeats 1000000 in
theorem wk_J24_resize_J327 {Γ : xk_C} {r : Option Nat} {h' : xk_H} {kb151 : Int32 → xk_H → Option (Option Nat × xk_H)} {a0 : Option Nat} {a1 : Option Nat} {a2 : Int32} {a4 : Int32} {a6 : Option Nat} {a7 : Int32} {a11 : Option Nat} {a12 : Option Nat} {h0 : xk_H} (C : xk_Cx Γ RJ24 cJ24_resize 14 (Option.some (FieldType.array (FieldType.object "java/util/HashMap$Node"))) "resize" 1 60) (Z : xk_Z Γ (some (va_rf r)) h') (hkb151 : ∀ (m7 : Int32) (g : xk_H), kb151 m7 g = some (r, h') → xk_X Γ 151 [(0, va_rf a0), (1, va_rf a1), (2, .int a2), (4, .int a4), (6, va_rf a6), (7, .int m7)] [] g) (E : mf_J24_resize_J327 kb151 a0 a1 a2 a4 a6 a7 a11 a12 h0 = some (r, h')) : xk_X Γ 327 [(0, va_rf a0), (1, va_rf a1), (2, .int a2), (4, .int a4), (6, va_rf a6), (7, .int a7), (11, va_rf a11), (12, va_rf a12)] [] h0 := by
  rw [mf_J24_resize_J327] at E
  refine xr_aload 7 C rfl dJ24_resize_327 ?_
  refine xr_ifnull 347 C E dJ24_resize_329 (by decide) (fun E => ?_) (fun E => ?_)
  · refine xr_iinc (v := (a7 + 1)) (L2 := [(7, .int (a7 + 1)), (0, va_rf a0), (1, va_rf a1), (2, .int a2), (4, .int a4), (6, va_rf a6), (11, va_rf a11), (12, va_rf a12)]) 5 C rfl rfl rfl dJ24_resize_347 (by decide) ?_
    refine xr_goto 151 C dJ24_resize_350 (by decide) ?_
    refine xr_sub [1, 2, 3, 4, 5, 0] rfl ?_
    exact hkb151 (a7 + 1) h0 E
  · refine xr_aload 7 C rfl dJ24_resize_332 ?_
    refine xr_null C dJ24_resize_334 ?_
    refine xr_pR C E xf_J24_177 xp_J24_177 (Or.inl ⟨_, rfl⟩) dJ24_resize_335 (fun h21 E => ?_)
    refine xr_aload 4 C rfl dJ24_resize_338 ?_
    refine xr_iload 5 C rfl dJ24_resize_340 ?_
    refine xr_iload_n 2 C rfl rfl dJ24_resize_342 ?_
    refine xr_iadd C dJ24_resize_343 ?_
    refine xr_aload 6 C rfl dJ24_resize_344 ?_
    refine xr_sN C E xa_13_14_HashMapNode dJ24_resize_346 (fun h22 E => ?_)
    refine xr_iinc (v := (a7 + 1)) (L2 := [(7, .int (a7 + 1)), (0, va_rf a0), (1, va_rf a1), (2, .int a2), (4, .int a4), (6, va_rf a6), (11, va_rf a11), (12, va_rf a12)]) 5 C rfl rfl rfl dJ24_resize_347 (by decide) ?_
    refine xr_goto 151 C dJ24_resize_350 (by decide) ?_
    refine xr_sub [1, 2, 3, 4, 5, 0] rfl ?_
    exact hkb151 (a7 + 1) h22 E
def mf_J24_resize_L151 (a0 : Option Nat) (a1 : Option Nat) (a2 : Int32) (a4 : Int32) (a6 : Option Nat) : Nat → Int32 → xk_H → Option (Option Nat × xk_H)
  | 0, _, _ => none
  | n + 1, a7, h0 => if a2 ≤ a7 then (some (a6, h0)) else (xm_lR [103] a1 a7 h0 fun x8 => if x8 = none then (mf_J24_resize_L151 a0 a1 a2 a4 a6 n (a7 + 1) h0) else (xm_sR [103] [13, 14] a1 a7 none h0 fun h9 => xm_gR [13, 14] 3 x8 h9 fun x10 => if x10 = none then (xm_gI [13, 14] 0 x8 h9 fun x25 => xm_sR [103] [13, 14] a6 (x25 &&& (a4 - (1 : Int32))) x8 h9 fun h26 => mf_J24_resize_L151 a0 a1 a2 a4 a6 n (a7 + 1) h26) else (xm_inst [14] [13] x8 h9 fun x11 => if x11 = 0 then (mf_J24_resize_L235 (fun m16 m17 m18 m19 h20 => if m17 = none then (mf_J24_resize_J327 (fun m7 g => mf_J24_resize_L151 a0 a1 a2 a4 a6 n m7 g) a0 a1 a2 a4 a6 a7 m18 m19 h20) else (xm_pV [13, 14] 3 m17 (va_rf none) h20 fun h23 => xm_sR [103] [13, 14] a6 a7 m16 h23 fun h24 => mf_J24_resize_J327 (fun m7 g => mf_J24_resize_L151 a0 a1 a2 a4 a6 n m7 g) a0 a1 a2 a4 a6 a7 m18 m19 h24)) a0 a1 a2 a4 a6 a7 xk_fu x8 none none none none h9) else (xm_cast [14] x8 h9 <| none))))
set_option maxHeartbeats 1000000 in
theorem wk_J24_resize_L151 {Γ : xk_C} {r : Option Nat} {h' : xk_H} {a0 : Option Nat} {a1 : Option Nat} {a2 : Int32} {a4 : Int32} {a6 : Option Nat} (C : xk_Cx Γ RJ24 cJ24_resize 14 (Option.some (FieldType.array (FieldType.object "java/util/HashMap$Node"))) "resize" 1 60) (Z : xk_Z Γ (some (va_rf r)) h') : ∀ (n : Nat) (a7 : Int32) (h0 : xk_H), mf_J24_resize_L151 a0 a1 a2 a4 a6 n a7 h0 = some (r, h') → xk_X Γ 151 [(0, va_rf a0), (1, va_rf a1), (2, .int a2), (4, .int a4), (6, va_rf a6), (7, .int a7)] [] h0 := by
  intro n
  induction n with
  | zero =>
    intro a7 h0 E
    rw [mf_J24_resize_L151] at E
    cases E
  | succ n ih =>
    intro a7 h0 E
    have hkb151 : ∀ (m7 : Int32) (g : xk_H), mf_J24_resize_L151 a0 a1 a2 a4 a6 n m7 g = some (r, h') → xk_X Γ 151 [(0, va_rf a0), (1, va_rf a1), (2, .int a2), (4, .int a4), (6, va_rf a6), (7, .int m7)] [] g := ih
    rw [mf_J24_resize_L151] at E
    refine xr_iload 5 C rfl dJ24_resize_151 ?_
    refine xr_iload_n 2 C rfl rfl dJ24_resize_153 ?_
    refine xr_icmp_ge 353 C E dJ24_resize_154 (by decide) (fun E => ?_) (fun E => ?_)
    · refine xr_aload 4 C rfl dJ24_resize_353 ?_
      exact xr_aret C Z E (Or.inr ⟨_, rfl⟩) dJ24_resize_355
    · refine xr_aload_n 1 C rfl rfl dJ24_resize_157 ?_
      refine xr_iload 5 C rfl dJ24_resize_158 ?_
      refine xr_lR 3 (.object "java/util/HashMap$Node") C E (fun _ => rfl) rfl xt_103 dJ24_resize_160 (fun x8 E => ?_)
      refine xr_dup C (xk_crf _) dJ24_resize_161 ?_
      refine xr_astore (L2 := [(8, va_rf x8), (0, va_rf a0), (1, va_rf a1), (2, .int a2), (4, .int a4), (6, va_rf a6), (7, .int a7)]) C rfl dJ24_resize_162 (by decide) ?_
      refine xr_ifnull 347 C E dJ24_resize_164 (by decide) (fun E => ?_) (fun E => ?_)
      · refine xr_iinc (v := (a7 + 1)) (L2 := [(7, .int (a7 + 1)), (8, va_rf x8), (0, va_rf a0), (1, va_rf a1), (2, .int a2), (4, .int a4), (6, va_rf a6)]) 6 C rfl rfl rfl dJ24_resize_347 (by decide) ?_
        refine xr_goto 151 C dJ24_resize_350 (by decide) ?_
        refine xr_sub [2, 3, 4, 5, 6, 0] rfl ?_
        exact hkb151 (a7 + 1) h0 E
      · refine xr_aload_n 2 C rfl rfl dJ24_resize_167 ?_
        refine xr_iload 6 C rfl dJ24_resize_168 ?_
        refine xr_null C dJ24_resize_170 ?_
        refine xr_sN C E xa_13_14_HashMapNode dJ24_resize_171 (fun h9 E => ?_)
        refine xr_aload 0 C rfl dJ24_resize_172 ?_
        refine xr_gR C E xf_J24_177 dJ24_resize_174 (fun x10 E => ?_)
        refine xr_ifnonnull 198 C E dJ24_resize_177 (by decide) (fun E => ?_) (fun E => ?_)
        · refine xr_aload 0 C rfl dJ24_resize_198 ?_
          refine xr_inst C E xi_14_HashMapTreeNode xk_n13 q1418 dJ24_resize_200 (fun x11 E => ?_)
          refine xr_if_eq 223 C E dJ24_resize_203 (by decide) (fun E => ?_) (fun E => ?_)
          · refine xr_null C dJ24_resize_223 ?_
            refine xr_astore (L2 := [(9, va_rf none), (8, va_rf x8), (0, va_rf a0), (1, va_rf a1), (2, .int a2), (4, .int a4), (6, va_rf a6), (7, .int a7)]) C rfl dJ24_resize_224 (by decide) ?_
            refine xr_null C dJ24_resize_226 ?_
            refine xr_astore (L2 := [(10, va_rf none), (9, va_rf none), (8, va_rf x8), (0, va_rf a0), (1, va_rf a1), (2, .int a2), (4, .int a4), (6, va_rf a6), (7, .int a7)]) C rfl dJ24_resize_227 (by decide) ?_
            refine xr_null C dJ24_resize_229 ?_
            refine xr_astore (L2 := [(11, va_rf none), (10, va_rf none), (9, va_rf none), (8, va_rf x8), (0, va_rf a0), (1, va_rf a1), (2, .int a2), (4, .int a4), (6, va_rf a6), (7, .int a7)]) C rfl dJ24_resize_230 (by decide) ?_
            refine xr_null C dJ24_resize_232 ?_
            refine xr_astore (L2 := [(12, va_rf none), (11, va_rf none), (10, va_rf none), (9, va_rf none), (8, va_rf x8), (0, va_rf a0), (1, va_rf a1), (2, .int a2), (4, .int a4), (6, va_rf a6), (7, .int a7)]) C rfl dJ24_resize_233 (by decide) ?_
            refine xr_sub [5, 6, 7, 8, 9, 10, 4, 3, 2, 1, 0] rfl ?_
            refine wk_J24_resize_L235 (a0 := a0) (a1 := a1) (a2 := a2) (a4 := a4) (a6 := a6) (a7 := a7) C Z (fun m16 m17 m18 m19 h20 E => ?_) xk_fu x8 none none none none h9 E
            · refine xr_aload 7 C rfl dJ24_resize_309 ?_
              refine xr_ifnull 327 C E dJ24_resize_311 (by decide) (fun E => ?_) (fun E => ?_)
              · refine xr_sub [0, 1, 2, 3, 4, 5, 8, 9] rfl ?_
                exact wk_J24_resize_J327 C Z hkb151 E
              · refine xr_aload 7 C rfl dJ24_resize_314 ?_
                refine xr_null C dJ24_resize_316 ?_
                refine xr_pR C E xf_J24_177 xp_J24_177 (Or.inl ⟨_, rfl⟩) dJ24_resize_317 (fun h23 E => ?_)
                refine xr_aload 4 C rfl dJ24_resize_320 ?_
                refine xr_iload 5 C rfl dJ24_resize_322 ?_
                refine xr_aload 6 C rfl dJ24_resize_324 ?_
                refine xr_sN C E xa_13_14_HashMapNode dJ24_resize_326 (fun h24 E => ?_)
                refine xr_sub [0, 1, 2, 3, 4, 5, 8, 9] rfl ?_
                exact wk_J24_resize_J327 C Z hkb151 E
          · refine xr_aload 0 C rfl dJ24_resize_206 ?_
            refine xr_cast C E xi_14_HashMapTreeNode q1418 dJ24_resize_208 (fun E => ?_)
            refine xr_aload_n 1 C rfl rfl dJ24_resize_211 ?_
            refine xr_aload 5 C rfl dJ24_resize_212 ?_
            refine xr_iload 6 C rfl dJ24_resize_214 ?_
            refine xr_iload_n 3 C rfl rfl dJ24_resize_216 ?_
            cases E
        · refine xr_aload 5 C rfl dJ24_resize_180 ?_
          refine xr_aload 0 C rfl dJ24_resize_182 ?_
          refine xr_gI C E xf_J24_168 dJ24_resize_184 (fun x25 E => ?_)
          refine xr_iload 4 C rfl dJ24_resize_187 ?_
          refine xr_iconst (1) C (by decide) dJ24_resize_189 ?_
          refine xr_isub C dJ24_resize_190 ?_
          refine xr_iand C dJ24_resize_191 ?_
          refine xr_aload 0 C rfl dJ24_resize_192 ?_
          refine xr_sN C E xa_13_14_HashMapNode dJ24_resize_194 (fun h26 E => ?_)
          refine xr_goto 347 C dJ24_resize_195 (by decide) ?_
          refine xr_iinc (v := (a7 + 1)) (L2 := [(7, .int (a7 + 1)), (8, va_rf x8), (0, va_rf a0), (1, va_rf a1), (2, .int a2), (4, .int a4), (6, va_rf a6)]) 6 C rfl rfl rfl dJ24_resize_347 (by decide) ?_
          refine xr_goto 151 C dJ24_resize_350 (by decide) ?_
          refine xr_sub [2, 3, 4, 5, 6, 0] rfl ?_
          exact hkb151 (a7 + 1) h26 E
def mf_J24_resize_J85 (a0 : Option Nat) (a1 : Option Nat) (a2 : Int32) (a4 : Int32) (a5 : Int32) (h0 : xk_H) : Option (Option Nat × xk_H) :=
  if a5 = 0 then (none) else (xm_pV [12] 6 a0 (.int a5) h0 fun h4 => xm_nwa 103 .null a4 h4 fun b5 h6 => xm_pV [12] 2 a0 (va_rf (some b5)) h6 fun h7 => if a1 = none then (some ((some b5), h7)) else (mf_J24_resize_L151 a0 a1 a2 a4 (some b5) xk_fu (0 : Int32) h7))
set_option maxHeartbeats 1000000 in
theorem wk_J24_resize_J85 {Γ : xk_C} {r : Option Nat} {h' : xk_H} {a0 : Option Nat} {a1 : Option Nat} {a2 : Int32} {a4 : Int32} {a5 : Int32} {h0 : xk_H} (C : xk_Cx Γ RJ24 cJ24_resize 14 (Option.some (FieldType.array (FieldType.object "java/util/HashMap$Node"))) "resize" 1 60) (Z : xk_Z Γ (some (va_rf r)) h') (E : mf_J24_resize_J85 a0 a1 a2 a4 a5 h0 = some (r, h')) : xk_X Γ 85 [(0, va_rf a0), (1, va_rf a1), (2, .int a2), (4, .int a4), (5, .int a5)] [] h0 := by
  rw [mf_J24_resize_J85] at E
  refine xr_iload 4 C rfl dJ24_resize_85 ?_
  refine xr_if_ne 125 C E dJ24_resize_87 (by decide) (fun E => ?_) (fun E => ?_)
  · refine xr_aload_n 0 C rfl rfl dJ24_resize_125 ?_
    refine xr_iload 4 C rfl dJ24_resize_126 ?_
    refine xr_pI C E xf_J24_88 xp_J24_88 dJ24_resize_128 (fun h4 E => ?_)
    refine xr_iload 3 C rfl dJ24_resize_131 ?_
    refine xr_nwN C E q1651 dJ24_resize_133 (fun b5 h6 E => ?_)
    refine xr_astore (L2 := [(6, va_rf (some b5)), (0, va_rf a0), (1, va_rf a1), (2, .int a2), (4, .int a4), (5, .int a5)]) C rfl dJ24_resize_136 (by decide) ?_
    refine xr_aload_n 1 C rfl rfl dJ24_resize_138 ?_
    refine xr_aload 0 C rfl dJ24_resize_139 ?_
    refine xr_pR C E xf_J24_105 xp_J24_105 (Or.inr ⟨_, rfl⟩) dJ24_resize_141 (fun h7 E => ?_)
    refine xr_aload_n 2 C rfl rfl dJ24_resize_144 ?_
    refine xr_ifnull 353 C E dJ24_resize_145 (by decide) (fun E => ?_) (fun E => ?_)
    · refine xr_aload 0 C rfl dJ24_resize_353 ?_
      exact xr_aret C Z E (Or.inr ⟨_, rfl⟩) dJ24_resize_355
    · refine xr_iconst (0) C (by decide) dJ24_resize_148 ?_
      refine xr_istore (L2 := [(7, .int (0 : Int32)), (6, va_rf (some b5)), (0, va_rf a0), (1, va_rf a1), (2, .int a2), (4, .int a4), (5, .int a5)]) C rfl dJ24_resize_149 (by decide) ?_
      refine xr_sub [2, 3, 4, 5, 1, 0] rfl ?_
      exact wk_J24_resize_L151 (a0 := a0) (a1 := a1) (a2 := a2) (a4 := a4) (a6 := (some b5)) C Z xk_fu (0 : Int32) h7 E
  · refine xr_iload 3 C rfl dJ24_resize_90 ?_
    cases E
def mf_J24_resize_J15 (a0 : Option Nat) (a1 : Option Nat) (s0 : Int32) (h0 : xk_H) : Option (Option Nat × xk_H) :=
  xm_gI [12] 6 a0 h0 fun x3 => if s0 ≤ 0 then (if x3 ≤ 0 then (mf_J24_resize_J85 a0 a1 s0 (16 : Int32) (12 : Int32) h0) else (mf_J24_resize_J85 a0 a1 s0 x3 (0 : Int32) h0)) else (if s0 < (1073741824 : Int32) then (if (1073741824 : Int32) ≤ (s0 <<< ((1 : Int32) &&& 31)) then (mf_J24_resize_J85 a0 a1 s0 (s0 <<< ((1 : Int32) &&& 31)) (0 : Int32) h0) else (if s0 < (16 : Int32) then (mf_J24_resize_J85 a0 a1 s0 (s0 <<< ((1 : Int32) &&& 31)) (0 : Int32) h0) else (mf_J24_resize_J85 a0 a1 s0 (s0 <<< ((1 : Int32) &&& 31)) (x3 <<< ((1 : Int32) &&& 31)) h0))) else (xm_pV [12] 6 a0 (.int (2147483647 : Int32)) h0 fun h27 => some (a1, h27)))
set_option maxHeartbeats 1000000 in
theorem wk_J24_resize_J15 {Γ : xk_C} {r : Option Nat} {h' : xk_H} {a0 : Option Nat} {a1 : Option Nat} {s0 : Int32} {h0 : xk_H} (C : xk_Cx Γ RJ24 cJ24_resize 14 (Option.some (FieldType.array (FieldType.object "java/util/HashMap$Node"))) "resize" 1 60) (Z : xk_Z Γ (some (va_rf r)) h') (E : mf_J24_resize_J15 a0 a1 s0 h0 = some (r, h')) : xk_X Γ 15 [(0, va_rf a0), (1, va_rf a1)] [.int s0] h0 := by
  rw [mf_J24_resize_J15] at E
  refine xr_istore_n (L2 := [(2, .int s0), (0, va_rf a0), (1, va_rf a1)]) C rfl rfl dJ24_resize_15 (by decide) ?_
  refine xr_aload_n 1 C rfl rfl dJ24_resize_16 ?_
  refine xr_gI C E xf_J24_88 dJ24_resize_17 (fun x3 E => ?_)
  refine xr_istore_n (L2 := [(3, .int x3), (2, .int s0), (0, va_rf a0), (1, va_rf a1)]) C rfl rfl dJ24_resize_20 (by decide) ?_
  refine xr_iconst (0) C (by decide) dJ24_resize_21 ?_
  refine xr_istore (L2 := [(5, .int (0 : Int32)), (3, .int x3), (2, .int s0), (0, va_rf a0), (1, va_rf a1)]) C rfl dJ24_resize_22 (by decide) ?_
  refine xr_iload_n 2 C rfl rfl dJ24_resize_24 ?_
  refine xr_if_le 67 C E dJ24_resize_25 (by decide) (fun E => ?_) (fun E => ?_)
  · refine xr_iload_n 1 C rfl rfl dJ24_resize_67 ?_
    refine xr_if_le 77 C E dJ24_resize_68 (by decide) (fun E => ?_) (fun E => ?_)
    · refine xr_bipush (16) C (by decide) dJ24_resize_77 ?_
      refine xr_istore (L2 := [(4, .int (16 : Int32)), (5, .int (0 : Int32)), (3, .int x3), (2, .int s0), (0, va_rf a0), (1, va_rf a1)]) C rfl dJ24_resize_79 (by decide) ?_
      refine xr_bipush (12) C (by decide) dJ24_resize_81 ?_
      refine xr_istore (L2 := [(5, .int (12 : Int32)), (4, .int (16 : Int32)), (3, .int x3), (2, .int s0), (0, va_rf a0), (1, va_rf a1)]) C rfl dJ24_resize_83 (by decide) ?_
      refine xr_sub [4, 5, 3, 1, 0] rfl ?_
      exact wk_J24_resize_J85 C Z E
    · refine xr_iload_n 1 C rfl rfl dJ24_resize_71 ?_
      refine xr_istore (L2 := [(4, .int x3), (5, .int (0 : Int32)), (3, .int x3), (2, .int s0), (0, va_rf a0), (1, va_rf a1)]) C rfl dJ24_resize_72 (by decide) ?_
      refine xr_goto 85 C dJ24_resize_74 (by decide) ?_
      refine xr_sub [4, 5, 3, 0, 1] rfl ?_
      exact wk_J24_resize_J85 C Z E
  · refine xr_iload_n 2 C rfl rfl dJ24_resize_28 ?_
    refine xr_ldc C q1648 dJ24_resize_29 ?_
    refine xr_icmp_lt 42 C E dJ24_resize_31 (by decide) (fun E => ?_) (fun E => ?_)
    · refine xr_iload_n 2 C rfl rfl dJ24_resize_42 ?_
      refine xr_iconst (1) C (by decide) dJ24_resize_43 ?_
      refine xr_ishl C dJ24_resize_44 ?_
      refine xr_dup C rfl dJ24_resize_45 ?_
      refine xr_istore (L2 := [(4, .int (s0 <<< ((1 : Int32) &&& 31))), (5, .int (0 : Int32)), (3, .int x3), (2, .int s0), (0, va_rf a0), (1, va_rf a1)]) C rfl dJ24_resize_46 (by decide) ?_
      refine xr_ldc C q1648 dJ24_resize_48 ?_
      refine xr_icmp_ge 85 C E dJ24_resize_50 (by decide) (fun E => ?_) (fun E => ?_)
      · refine xr_sub [4, 5, 3, 0, 1] rfl ?_
        exact wk_J24_resize_J85 C Z E
      · refine xr_iload_n 3 C rfl rfl dJ24_resize_53 ?_
        refine xr_bipush (16) C (by decide) dJ24_resize_54 ?_
        refine xr_icmp_lt 85 C E dJ24_resize_56 (by decide) (fun E => ?_) (fun E => ?_)
        · refine xr_sub [4, 5, 3, 0, 1] rfl ?_
          exact wk_J24_resize_J85 C Z E
        · refine xr_iload_n 2 C rfl rfl dJ24_resize_59 ?_
          refine xr_iconst (1) C (by decide) dJ24_resize_60 ?_
          refine xr_ishl C dJ24_resize_61 ?_
          refine xr_istore (L2 := [(5, .int (x3 <<< ((1 : Int32) &&& 31))), (4, .int (s0 <<< ((1 : Int32) &&& 31))), (3, .int x3), (2, .int s0), (0, va_rf a0), (1, va_rf a1)]) C rfl dJ24_resize_62 (by decide) ?_
          refine xr_goto 85 C dJ24_resize_64 (by decide) ?_
          refine xr_sub [4, 5, 3, 1, 0] rfl ?_
          exact wk_J24_resize_J85 C Z E
    · refine xr_aload_n 3 C rfl rfl dJ24_resize_34 ?_
      refine xr_ldc C q1649 dJ24_resize_35 ?_
      refine xr_pI C E xf_J24_88 xp_J24_88 dJ24_resize_37 (fun h27 E => ?_)
      refine xr_aload_n 4 C rfl rfl dJ24_resize_40 ?_
      exact xr_aret C Z E (Or.inr ⟨_, rfl⟩) dJ24_resize_41
def mf_J24_resize (a0 : Option Nat) (h0 : xk_H) : Option (Option Nat × xk_H) :=
  xm_gR [12] 2 a0 h0 fun x1 => if x1 = none then (mf_J24_resize_J15 a0 x1 (0 : Int32) h0) else (xm_len [103] x1 h0 fun x2 => mf_J24_resize_J15 a0 x1 x2 h0)
set_option maxHeartbeats 1000000 in
theorem wk_J24_resize {l : Launch} {D : va_G} {base : Nat} {a0 : Option Nat} {h0 : xk_H} {r : Option Nat} {h' : xk_H} (E : mf_J24_resize a0 h0 = some (r, h')) : xk_Ok l D base yJ24_resize cJ24_resize 14 (Option.some (FieldType.array (FieldType.object "java/util/HashMap$Node"))) 1 60 [va_rf a0] h0 (some (va_rf r)) h' := by
  refine xk_ofX RJ24 "resize" xq_J24_resize rfl rfl (Nat.le_of_ble_eq_true rfl) ⟨xk_crf _, trivial⟩ (fun Γ el eD eb C Z => ?_)
  rw [mf_J24_resize] at E
  show xk_X Γ 0 [(0, va_rf a0)] [] h0
  refine xr_aload_n 0 C rfl rfl dJ24_resize_0 ?_
  refine xr_gR C E xf_J24_105 dJ24_resize_1 (fun x1 E => ?_)
  refine xr_astore_n (L2 := [(1, va_rf x1), (0, va_rf a0)]) C rfl rfl dJ24_resize_4 (by decide) ?_
  refine xr_aload_n 0 C rfl rfl dJ24_resize_5 ?_
  refine xr_ifnonnull 13 C E dJ24_resize_6 (by decide) (fun E => ?_) (fun E => ?_)
  · refine xr_aload_n 0 C rfl rfl dJ24_resize_13 ?_
    refine xr_len 3 (.object "java/util/HashMap$Node") C E (fun _ => rfl) xt_103 dJ24_resize_14 (fun x2 E => ?_)
    refine xr_sub [1, 0] rfl ?_
    exact wk_J24_resize_J15 C Z E
  · refine xr_iconst (0) C (by decide) dJ24_resize_9 ?_
    refine xr_goto 15 C dJ24_resize_10 (by decide) ?_
    refine xr_sub [1, 0] rfl ?_
    exact wk_J24_resize_J15 C Z E
def mf_J28_init (a0 : Nat) (a1 : Int32) (a2 : Option Nat) (a3 : Option Nat) (a4 : Option Nat) (h0 : xk_H) : Option (Unit × xk_H) :=
  xm_cl (mf_J27_init a0 a1 a2 a3 a4 h0) fun r1 h2 => some ((), h2)
set_option maxHeartbeats 1000000 in
theorem wk_J28_init {l : Launch} {D : va_G} {base : Nat} {a0 : Nat} {a1 : Int32} {a2 : Option Nat} {a3 : Option Nat} {a4 : Option Nat} {h0 : xk_H} {r : Unit} {h' : xk_H} (E : mf_J28_init a0 a1 a2 a3 a4 h0 = some (r, h')) : xk_Ok l D base yJ28_init cJ28_init 5 none 2 84 [va_rf (some a0), .int a1, va_rf a2, va_rf a3, va_rf a4] h0 none h' := by
  refine xk_ofX RJ28 "<init>" xq_J28_init rfl rfl (Nat.le_of_ble_eq_true rfl) ⟨xk_crf _, ⟨rfl, ⟨xk_crf _, ⟨xk_crf _, ⟨xk_crf _, trivial⟩⟩⟩⟩⟩ (fun Γ el eD eb C Z => ?_)
  rw [mf_J28_init] at E
  show xk_X Γ 0 [(0, va_rf (some a0)), (1, .int a1), (2, va_rf a2), (3, va_rf a3), (4, va_rf a4)] [] h0
  refine xr_aload_n 0 C rfl rfl dJ28_init_0 ?_
  refine xr_iload_n 1 C rfl rfl dJ28_init_1 ?_
  refine xr_aload_n 2 C rfl rfl dJ28_init_2 ?_
  refine xr_aload_n 3 C rfl rfl dJ28_init_3 ?_
  refine xr_aload 4 C rfl dJ28_init_4 ?_
  refine xr_I (b := a0) [.int a1, va_rf a2, va_rf a3, va_rf a4] [] (fun _ => none) (fun _ => []) C E (fun r h' e => wk_J27_init e) q1736 q1668 q114 q1669 xh_java_util_HashMap_Node rfl xd_J27_init (by decide) (by decide) trivial (Nat.le_of_ble_eq_true rfl) rfl (fun _ => rfl) dJ28_init_6 (fun r1 h2 E => ?_)
  exact xr_vret C Z E dJ28_init_9
def mf_J29_init (a0 : Nat) (a1 : Int32) (a2 : Option Nat) (a3 : Option Nat) (a4 : Option Nat) (h0 : xk_H) : Option (Unit × xk_H) :=
  xm_cl (mf_J28_init a0 a1 a2 a3 a4 h0) fun r1 h2 => some ((), h2)
set_option maxHeartbeats 1000000 in
theorem wk_J29_init {l : Launch} {D : va_G} {base : Nat} {a0 : Nat} {a1 : Int32} {a2 : Option Nat} {a3 : Option Nat} {a4 : Option Nat} {h0 : xk_H} {r : Unit} {h' : xk_H} (E : mf_J29_init a0 a1 a2 a3 a4 h0 = some (r, h')) : xk_Ok l D base yJ29_init cJ29_init 5 none 3 108 [va_rf (some a0), .int a1, va_rf a2, va_rf a3, va_rf a4] h0 none h' := by
  refine xk_ofX RJ29 "<init>" xq_J29_init rfl rfl (Nat.le_of_ble_eq_true rfl) ⟨xk_crf _, ⟨rfl, ⟨xk_crf _, ⟨xk_crf _, ⟨xk_crf _, trivial⟩⟩⟩⟩⟩ (fun Γ el eD eb C Z => ?_)
  rw [mf_J29_init] at E
  show xk_X Γ 0 [(0, va_rf (some a0)), (1, .int a1), (2, va_rf a2), (3, va_rf a3), (4, va_rf a4)] [] h0
  refine xr_aload_n 0 C rfl rfl dJ29_init_0 ?_
  refine xr_iload_n 1 C rfl rfl dJ29_init_1 ?_
  refine xr_aload_n 2 C rfl rfl dJ29_init_2 ?_
  refine xr_aload_n 3 C rfl rfl dJ29_init_3 ?_
  refine xr_aload 4 C rfl dJ29_init_4 ?_
  refine xr_I (b := a0) [.int a1, va_rf a2, va_rf a3, va_rf a4] [] (fun _ => none) (fun _ => []) C E (fun r h' e => wk_J28_init e) q1733 q1734 q115 q1735 xh_java_util_LinkedHashMap_Entry rfl xd_J28_init (by decide) (by decide) trivial (Nat.le_of_ble_eq_true rfl) rfl (fun _ => rfl) dJ29_init_6 (fun r1 h2 E => ?_)
  exact xr_vret C Z E dJ29_init_9
def mf_J24_replacementTreeNode (a0 : Option Nat) (a1 : Option Nat) (a2 : Option Nat) (h0 : xk_H) : Option (Option Nat × xk_H) :=
  xm_new 14 [.int 0, .null, .null, .null, .null, .null, .null, .null, .int 0, .null, .null] h0 fun b1 h2 => xm_gI [13, 14] 0 a1 h2 fun x3 => xm_gR [13, 14] 1 a1 h2 fun x4 => xm_gR [13, 14] 2 a1 h2 fun x5 => xm_cl (mf_J29_init b1 x3 x4 x5 a2 h2) fun r6 h7 => some ((some b1), h7)
set_option maxHeartbeats 1000000 in
theorem wk_J24_replacementTreeNode {l : Launch} {D : va_G} {base : Nat} {a0 : Option Nat} {a1 : Option Nat} {a2 : Option Nat} {h0 : xk_H} {r : Option Nat} {h' : xk_H} (E : mf_J24_replacementTreeNode a0 a1 a2 h0 = some (r, h')) : xk_Ok l D base yJ24_replacementTreeNode cJ24_replacementTreeNode 3 (Option.some (FieldType.object "java/util/HashMap$TreeNode")) 4 132 [va_rf a0, va_rf a1, va_rf a2] h0 (some (va_rf r)) h' := by
  refine xk_ofX RJ24 "replacementTreeNode" xq_J24_replacementTreeNode rfl rfl (Nat.le_of_ble_eq_true rfl) ⟨xk_crf _, ⟨xk_crf _, ⟨xk_crf _, trivial⟩⟩⟩ (fun Γ el eD eb C Z => ?_)
  rw [mf_J24_replacementTreeNode] at E
  show xk_X Γ 0 [(0, va_rf a0), (1, va_rf a1), (2, va_rf a2)] [] h0
  refine xr_new (t := 14) (C0 := "java/util/HashMap$TreeNode") (n := 11) C E (by decide) xn_J29 (fun r hr => by cases hr; exact ⟨rfl, rfl⟩) q1418 q1729 q116 dJ24_replacementTreeNode_0 (fun b1 h2 E => ?_)
  refine xr_dup C (xk_crf _) dJ24_replacementTreeNode_3 ?_
  refine xr_aload_n 1 C rfl rfl dJ24_replacementTreeNode_4 ?_
  refine xr_gI C E xf_J24_168 dJ24_replacementTreeNode_5 (fun x3 E => ?_)
  refine xr_aload_n 1 C rfl rfl dJ24_replacementTreeNode_8 ?_
  refine xr_gR C E xf_J24_170 dJ24_replacementTreeNode_9 (fun x4 E => ?_)
  refine xr_aload_n 1 C rfl rfl dJ24_replacementTreeNode_12 ?_
  refine xr_gR C E xf_J24_162 dJ24_replacementTreeNode_13 (fun x5 E => ?_)
  refine xr_aload_n 2 C rfl rfl dJ24_replacementTreeNode_16 ?_
  refine xr_I (b := b1) [.int x3, va_rf x4, va_rf x5, va_rf a2] [va_rf (some b1)] (fun _ => none) (fun _ => [va_rf (some b1)]) C E (fun r h' e => wk_J29_init e) q1730 q1731 q116 q1732 xh_java_util_HashMap_TreeNode rfl xd_J29_init (by decide) (by decide) ⟨xk_crf _, trivial⟩ (Nat.le_of_ble_eq_true rfl) rfl (fun _ => rfl) dJ24_replacementTreeNode_17 (fun r6 h7 E => ?_)
  exact xr_aret C Z E (Or.inl ⟨_, rfl⟩) dJ24_replacementTreeNode_20
def mf_J29_rotateLeft_J34 (a0 : Option Nat) (a1 : Option Nat) (a2 : Option Nat) (h0 : xk_H) : Option (Option Nat × xk_H) :=
  xm_gR [14] 4 a1 h0 fun x4 => xm_pV [14] 4 a2 (va_rf x4) h0 fun h5 => if x4 = none then (xm_pN .boolean [14] 8 a2 (0 : Int32) h5 fun h13 => xm_pV [14] 5 a2 (va_rf a1) h13 fun h14 => xm_pV [14] 4 a1 (va_rf a2) h14 fun h15 => some (a2, h15)) else (xm_gR [14] 5 x4 h5 fun x6 => if x6 = a1 then (xm_pV [14] 5 x4 (va_rf a2) h5 fun h10 => xm_pV [14] 5 a2 (va_rf a1) h10 fun h11 => xm_pV [14] 4 a1 (va_rf a2) h11 fun h12 => some (a0, h12)) else (xm_pV [14] 6 x4 (va_rf a2) h5 fun h7 => xm_pV [14] 5 a2 (va_rf a1) h7 fun h8 => xm_pV [14] 4 a1 (va_rf a2) h8 fun h9 => some (a0, h9)))
set_option maxHeartbeats 1000000 in
theorem wk_J29_rotateLeft_J34 {Γ : xk_C} {r : Option Nat} {h' : xk_H} {a0 : Option Nat} {a1 : Option Nat} {a2 : Option Nat} {h0 : xk_H} (C : xk_Cx Γ RJ29 cJ29_rotateLeft 5 (Option.some (FieldType.object "java/util/HashMap$TreeNode")) "rotateLeft" 1 60) (Z : xk_Z Γ (some (va_rf r)) h') (E : mf_J29_rotateLeft_J34 a0 a1 a2 h0 = some (r, h')) : xk_X Γ 34 [(0, va_rf a0), (1, va_rf a1), (2, va_rf a2)] [] h0 := by
  rw [mf_J29_rotateLeft_J34] at E
  refine xr_aload_n 2 C rfl rfl dJ29_rotateLeft_34 ?_
  refine xr_aload_n 1 C rfl rfl dJ29_rotateLeft_35 ?_
  refine xr_gR C E xf_J29_9 dJ29_rotateLeft_36 (fun x4 E => ?_)
  refine xr_dup_x1 C (xk_crf _) (xk_crf _) dJ29_rotateLeft_39 ?_
  refine xr_pR C E xf_J29_9 xp_J29_9 (Or.inl ⟨_, rfl⟩) dJ29_rotateLeft_40 (fun h5 E => ?_)
  refine xr_dup C (xk_crf _) dJ29_rotateLeft_43 ?_
  refine xr_astore_n (L2 := [(3, va_rf x4), (0, va_rf a0), (1, va_rf a1), (2, va_rf a2)]) C rfl rfl dJ29_rotateLeft_44 (by decide) ?_
  refine xr_ifnonnull 58 C E dJ29_rotateLeft_45 (by decide) (fun E => ?_) (fun E => ?_)
  · refine xr_aload_n 0 C rfl rfl dJ29_rotateLeft_58 ?_
    refine xr_gR C E xf_J29_39 dJ29_rotateLeft_59 (fun x6 E => ?_)
    refine xr_aload_n 2 C rfl rfl dJ29_rotateLeft_62 ?_
    refine xr_acmp_ne 74 C E dJ29_rotateLeft_63 (by decide) (fun E => ?_) (fun E => ?_)
    · refine xr_aload_n 0 C rfl rfl dJ29_rotateLeft_74 ?_
      refine xr_aload_n 3 C rfl rfl dJ29_rotateLeft_75 ?_
      refine xr_pR C E xf_J29_42 xp_J29_42 (Or.inl ⟨_, rfl⟩) dJ29_rotateLeft_76 (fun h7 E => ?_)
      refine xr_aload_n 3 C rfl rfl dJ29_rotateLeft_79 ?_
      refine xr_aload_n 2 C rfl rfl dJ29_rotateLeft_80 ?_
      refine xr_pR C E xf_J29_39 xp_J29_39 (Or.inl ⟨_, rfl⟩) dJ29_rotateLeft_81 (fun h8 E => ?_)
      refine xr_aload_n 2 C rfl rfl dJ29_rotateLeft_84 ?_
      refine xr_aload_n 3 C rfl rfl dJ29_rotateLeft_85 ?_
      refine xr_pR C E xf_J29_9 xp_J29_9 (Or.inl ⟨_, rfl⟩) dJ29_rotateLeft_86 (fun h9 E => ?_)
      refine xr_aload_n 1 C rfl rfl dJ29_rotateLeft_89 ?_
      exact xr_aret C Z E (Or.inl ⟨_, rfl⟩) dJ29_rotateLeft_90
    · refine xr_aload_n 0 C rfl rfl dJ29_rotateLeft_66 ?_
      refine xr_aload_n 3 C rfl rfl dJ29_rotateLeft_67 ?_
      refine xr_pR C E xf_J29_39 xp_J29_39 (Or.inl ⟨_, rfl⟩) dJ29_rotateLeft_68 (fun h10 E => ?_)
      refine xr_goto 79 C dJ29_rotateLeft_71 (by decide) ?_
      refine xr_aload_n 3 C rfl rfl dJ29_rotateLeft_79 ?_
      refine xr_aload_n 2 C rfl rfl dJ29_rotateLeft_80 ?_
      refine xr_pR C E xf_J29_39 xp_J29_39 (Or.inl ⟨_, rfl⟩) dJ29_rotateLeft_81 (fun h11 E => ?_)
      refine xr_aload_n 2 C rfl rfl dJ29_rotateLeft_84 ?_
      refine xr_aload_n 3 C rfl rfl dJ29_rotateLeft_85 ?_
      refine xr_pR C E xf_J29_9 xp_J29_9 (Or.inl ⟨_, rfl⟩) dJ29_rotateLeft_86 (fun h12 E => ?_)
      refine xr_aload_n 1 C rfl rfl dJ29_rotateLeft_89 ?_
      exact xr_aret C Z E (Or.inl ⟨_, rfl⟩) dJ29_rotateLeft_90
  · refine xr_aload_n 3 C rfl rfl dJ29_rotateLeft_48 ?_
    refine xr_dup C (xk_crf _) dJ29_rotateLeft_49 ?_
    refine xr_astore_n (L2 := [(0, va_rf a2), (3, va_rf x4), (1, va_rf a1), (2, va_rf a2)]) C rfl rfl dJ29_rotateLeft_50 (by decide) ?_
    refine xr_iconst (0) C (by decide) dJ29_rotateLeft_51 ?_
    refine xr_pN C E xf_J29_93 xp_J29_93 dJ29_rotateLeft_52 (fun h13 E => ?_)
    refine xr_goto 79 C dJ29_rotateLeft_55 (by decide) ?_
    refine xr_aload_n 3 C rfl rfl dJ29_rotateLeft_79 ?_
    refine xr_aload_n 2 C rfl rfl dJ29_rotateLeft_80 ?_
    refine xr_pR C E xf_J29_39 xp_J29_39 (Or.inl ⟨_, rfl⟩) dJ29_rotateLeft_81 (fun h14 E => ?_)
    refine xr_aload_n 2 C rfl rfl dJ29_rotateLeft_84 ?_
    refine xr_aload_n 3 C rfl rfl dJ29_rotateLeft_85 ?_
    refine xr_pR C E xf_J29_9 xp_J29_9 (Or.inl ⟨_, rfl⟩) dJ29_rotateLeft_86 (fun h15 E => ?_)
    refine xr_aload_n 0 C rfl rfl dJ29_rotateLeft_89 ?_
    exact xr_aret C Z E (Or.inl ⟨_, rfl⟩) dJ29_rotateLeft_90
def mf_J29_rotateLeft (a0 : Option Nat) (a1 : Option Nat) (h0 : xk_H) : Option (Option Nat × xk_H) :=
  if a1 = none then (some (a0, h0)) else (xm_gR [14] 6 a1 h0 fun x1 => if x1 = none then (some (a0, h0)) else (xm_gR [14] 5 x1 h0 fun x2 => xm_pV [14] 6 a1 (va_rf x2) h0 fun h3 => if x2 = none then (mf_J29_rotateLeft_J34 a0 a1 x1 h3) else (xm_pV [14] 4 x2 (va_rf a1) h3 fun h16 => mf_J29_rotateLeft_J34 a0 a1 x1 h16)))
set_option maxHeartbeats 1000000 in
theorem wk_J29_rotateLeft {l : Launch} {D : va_G} {base : Nat} {a0 : Option Nat} {a1 : Option Nat} {h0 : xk_H} {r : Option Nat} {h' : xk_H} (E : mf_J29_rotateLeft a0 a1 h0 = some (r, h')) : xk_Ok l D base yJ29_rotateLeft cJ29_rotateLeft 5 (Option.some (FieldType.object "java/util/HashMap$TreeNode")) 1 60 [va_rf a0, va_rf a1] h0 (some (va_rf r)) h' := by
  refine xk_ofX RJ29 "rotateLeft" xq_J29_rotateLeft rfl rfl (Nat.le_of_ble_eq_true rfl) ⟨xk_crf _, ⟨xk_crf _, trivial⟩⟩ (fun Γ el eD eb C Z => ?_)
  rw [mf_J29_rotateLeft] at E
  show xk_X Γ 0 [(0, va_rf a0), (1, va_rf a1)] [] h0
  refine xr_aload_n 1 C rfl rfl dJ29_rotateLeft_0 ?_
  refine xr_ifnull 89 C E dJ29_rotateLeft_1 (by decide) (fun E => ?_) (fun E => ?_)
  · refine xr_aload_n 0 C rfl rfl dJ29_rotateLeft_89 ?_
    exact xr_aret C Z E (Or.inl ⟨_, rfl⟩) dJ29_rotateLeft_90
  · refine xr_aload_n 1 C rfl rfl dJ29_rotateLeft_4 ?_
    refine xr_gR C E xf_J29_42 dJ29_rotateLeft_5 (fun x1 E => ?_)
    refine xr_dup C (xk_crf _) dJ29_rotateLeft_8 ?_
    refine xr_astore_n (L2 := [(2, va_rf x1), (0, va_rf a0), (1, va_rf a1)]) C rfl rfl dJ29_rotateLeft_9 (by decide) ?_
    refine xr_ifnull 89 C E dJ29_rotateLeft_10 (by decide) (fun E => ?_) (fun E => ?_)
    · refine xr_aload_n 1 C rfl rfl dJ29_rotateLeft_89 ?_
      exact xr_aret C Z E (Or.inl ⟨_, rfl⟩) dJ29_rotateLeft_90
    · refine xr_aload_n 2 C rfl rfl dJ29_rotateLeft_13 ?_
      refine xr_aload_n 0 C rfl rfl dJ29_rotateLeft_14 ?_
      refine xr_gR C E xf_J29_39 dJ29_rotateLeft_15 (fun x2 E => ?_)
      refine xr_dup_x1 C (xk_crf _) (xk_crf _) dJ29_rotateLeft_18 ?_
      refine xr_pR C E xf_J29_42 xp_J29_42 (Or.inl ⟨_, rfl⟩) dJ29_rotateLeft_19 (fun h3 E => ?_)
      refine xr_dup C (xk_crf _) dJ29_rotateLeft_22 ?_
      refine xr_astore (L2 := [(4, va_rf x2), (2, va_rf x1), (0, va_rf a0), (1, va_rf a1)]) C rfl dJ29_rotateLeft_23 (by decide) ?_
      refine xr_ifnull 34 C E dJ29_rotateLeft_25 (by decide) (fun E => ?_) (fun E => ?_)
      · refine xr_sub [2, 3, 1] rfl ?_
        exact wk_J29_rotateLeft_J34 C Z E
      · refine xr_aload 0 C rfl dJ29_rotateLeft_28 ?_
        refine xr_aload_n 3 C rfl rfl dJ29_rotateLeft_30 ?_
        refine xr_pR C E xf_J29_9 xp_J29_9 (Or.inl ⟨_, rfl⟩) dJ29_rotateLeft_31 (fun h16 E => ?_)
        refine xr_sub [2, 3, 1] rfl ?_
        exact wk_J29_rotateLeft_J34 C Z E
def mf_J29_rotateRight_J34 (a0 : Option Nat) (a1 : Option Nat) (a2 : Option Nat) (h0 : xk_H) : Option (Option Nat × xk_H) :=
  xm_gR [14] 4 a1 h0 fun x4 => xm_pV [14] 4 a2 (va_rf x4) h0 fun h5 => if x4 = none then (xm_pN .boolean [14] 8 a2 (0 : Int32) h5 fun h13 => xm_pV [14] 6 a2 (va_rf a1) h13 fun h14 => xm_pV [14] 4 a1 (va_rf a2) h14 fun h15 => some (a2, h15)) else (xm_gR [14] 6 x4 h5 fun x6 => if x6 = a1 then (xm_pV [14] 6 x4 (va_rf a2) h5 fun h10 => xm_pV [14] 6 a2 (va_rf a1) h10 fun h11 => xm_pV [14] 4 a1 (va_rf a2) h11 fun h12 => some (a0, h12)) else (xm_pV [14] 5 x4 (va_rf a2) h5 fun h7 => xm_pV [14] 6 a2 (va_rf a1) h7 fun h8 => xm_pV [14] 4 a1 (va_rf a2) h8 fun h9 => some (a0, h9)))
set_option maxHeartbeats 1000000 in
theorem wk_J29_rotateRight_J34 {Γ : xk_C} {r : Option Nat} {h' : xk_H} {a0 : Option Nat} {a1 : Option Nat} {a2 : Option Nat} {h0 : xk_H} (C : xk_Cx Γ RJ29 cJ29_rotateRight 5 (Option.some (FieldType.object "java/util/HashMap$TreeNode")) "rotateRight" 1 60) (Z : xk_Z Γ (some (va_rf r)) h') (E : mf_J29_rotateRight_J34 a0 a1 a2 h0 = some (r, h')) : xk_X Γ 34 [(0, va_rf a0), (1, va_rf a1), (2, va_rf a2)] [] h0 := by
  rw [mf_J29_rotateRight_J34] at E
  refine xr_aload_n 2 C rfl rfl dJ29_rotateRight_34 ?_
  refine xr_aload_n 1 C rfl rfl dJ29_rotateRight_35 ?_
  refine xr_gR C E xf_J29_9 dJ29_rotateRight_36 (fun x4 E => ?_)
  refine xr_dup_x1 C (xk_crf _) (xk_crf _) dJ29_rotateRight_39 ?_
  refine xr_pR C E xf_J29_9 xp_J29_9 (Or.inl ⟨_, rfl⟩) dJ29_rotateRight_40 (fun h5 E => ?_)
  refine xr_dup C (xk_crf _) dJ29_rotateRight_43 ?_
  refine xr_astore_n (L2 := [(3, va_rf x4), (0, va_rf a0), (1, va_rf a1), (2, va_rf a2)]) C rfl rfl dJ29_rotateRight_44 (by decide) ?_
  refine xr_ifnonnull 58 C E dJ29_rotateRight_45 (by decide) (fun E => ?_) (fun E => ?_)
  · refine xr_aload_n 0 C rfl rfl dJ29_rotateRight_58 ?_
    refine xr_gR C E xf_J29_42 dJ29_rotateRight_59 (fun x6 E => ?_)
    refine xr_aload_n 2 C rfl rfl dJ29_rotateRight_62 ?_
    refine xr_acmp_ne 74 C E dJ29_rotateRight_63 (by decide) (fun E => ?_) (fun E => ?_)
    · refine xr_aload_n 0 C rfl rfl dJ29_rotateRight_74 ?_
      refine xr_aload_n 3 C rfl rfl dJ29_rotateRight_75 ?_
      refine xr_pR C E xf_J29_39 xp_J29_39 (Or.inl ⟨_, rfl⟩) dJ29_rotateRight_76 (fun h7 E => ?_)
      refine xr_aload_n 3 C rfl rfl dJ29_rotateRight_79 ?_
      refine xr_aload_n 2 C rfl rfl dJ29_rotateRight_80 ?_
      refine xr_pR C E xf_J29_42 xp_J29_42 (Or.inl ⟨_, rfl⟩) dJ29_rotateRight_81 (fun h8 E => ?_)
      refine xr_aload_n 2 C rfl rfl dJ29_rotateRight_84 ?_
      refine xr_aload_n 3 C rfl rfl dJ29_rotateRight_85 ?_
      refine xr_pR C E xf_J29_9 xp_J29_9 (Or.inl ⟨_, rfl⟩) dJ29_rotateRight_86 (fun h9 E => ?_)
      refine xr_aload_n 1 C rfl rfl dJ29_rotateRight_89 ?_
      exact xr_aret C Z E (Or.inl ⟨_, rfl⟩) dJ29_rotateRight_90
    · refine xr_aload_n 0 C rfl rfl dJ29_rotateRight_66 ?_
      refine xr_aload_n 3 C rfl rfl dJ29_rotateRight_67 ?_
      refine xr_pR C E xf_J29_42 xp_J29_42 (Or.inl ⟨_, rfl⟩) dJ29_rotateRight_68 (fun h10 E => ?_)
      refine xr_goto 79 C dJ29_rotateRight_71 (by decide) ?_
      refine xr_aload_n 3 C rfl rfl dJ29_rotateRight_79 ?_
      refine xr_aload_n 2 C rfl rfl dJ29_rotateRight_80 ?_
      refine xr_pR C E xf_J29_42 xp_J29_42 (Or.inl ⟨_, rfl⟩) dJ29_rotateRight_81 (fun h11 E => ?_)
      refine xr_aload_n 2 C rfl rfl dJ29_rotateRight_84 ?_
      refine xr_aload_n 3 C rfl rfl dJ29_rotateRight_85 ?_
      refine xr_pR C E xf_J29_9 xp_J29_9 (Or.inl ⟨_, rfl⟩) dJ29_rotateRight_86 (fun h12 E => ?_)
      refine xr_aload_n 1 C rfl rfl dJ29_rotateRight_89 ?_
      exact xr_aret C Z E (Or.inl ⟨_, rfl⟩) dJ29_rotateRight_90
  · refine xr_aload_n 3 C rfl rfl dJ29_rotateRight_48 ?_
    refine xr_dup C (xk_crf _) dJ29_rotateRight_49 ?_
    refine xr_astore_n (L2 := [(0, va_rf a2), (3, va_rf x4), (1, va_rf a1), (2, va_rf a2)]) C rfl rfl dJ29_rotateRight_50 (by decide) ?_
    refine xr_iconst (0) C (by decide) dJ29_rotateRight_51 ?_
    refine xr_pN C E xf_J29_93 xp_J29_93 dJ29_rotateRight_52 (fun h13 E => ?_)
    refine xr_goto 79 C dJ29_rotateRight_55 (by decide) ?_
    refine xr_aload_n 3 C rfl rfl dJ29_rotateRight_79 ?_
    refine xr_aload_n 2 C rfl rfl dJ29_rotateRight_80 ?_
    refine xr_pR C E xf_J29_42 xp_J29_42 (Or.inl ⟨_, rfl⟩) dJ29_rotateRight_81 (fun h14 E => ?_)
    refine xr_aload_n 2 C rfl rfl dJ29_rotateRight_84 ?_
    refine xr_aload_n 3 C rfl rfl dJ29_rotateRight_85 ?_
    refine xr_pR C E xf_J29_9 xp_J29_9 (Or.inl ⟨_, rfl⟩) dJ29_rotateRight_86 (fun h15 E => ?_)
    refine xr_aload_n 0 C rfl rfl dJ29_rotateRight_89 ?_
    exact xr_aret C Z E (Or.inl ⟨_, rfl⟩) dJ29_rotateRight_90
def mf_J29_rotateRight (a0 : Option Nat) (a1 : Option Nat) (h0 : xk_H) : Option (Option Nat × xk_H) :=
  if a1 = none then (some (a0, h0)) else (xm_gR [14] 5 a1 h0 fun x1 => if x1 = none then (some (a0, h0)) else (xm_gR [14] 6 x1 h0 fun x2 => xm_pV [14] 5 a1 (va_rf x2) h0 fun h3 => if x2 = none then (mf_J29_rotateRight_J34 a0 a1 x1 h3) else (xm_pV [14] 4 x2 (va_rf a1) h3 fun h16 => mf_J29_rotateRight_J34 a0 a1 x1 h16)))
set_option maxHeartbeats 1000000 in
theorem wk_J29_rotateRight {l : Launch} {D : va_G} {base : Nat} {a0 : Option Nat} {a1 : Option Nat} {h0 : xk_H} {r : Option Nat} {h' : xk_H} (E : mf_J29_rotateRight a0 a1 h0 = some (r, h')) : xk_Ok l D base yJ29_rotateRight cJ29_rotateRight 5 (Option.some (FieldType.object "java/util/HashMap$TreeNode")) 1 60 [va_rf a0, va_rf a1] h0 (some (va_rf r)) h' := by
  refine xk_ofX RJ29 "rotateRight" xq_J29_rotateRight rfl rfl (Nat.le_of_ble_eq_true rfl) ⟨xk_crf _, ⟨xk_crf _, trivial⟩⟩ (fun Γ el eD eb C Z => ?_)
  rw [mf_J29_rotateRight] at E
  show xk_X Γ 0 [(0, va_rf a0), (1, va_rf a1)] [] h0
  refine xr_aload_n 1 C rfl rfl dJ29_rotateRight_0 ?_
  refine xr_ifnull 89 C E dJ29_rotateRight_1 (by decide) (fun E => ?_) (fun E => ?_)
  · refine xr_aload_n 0 C rfl rfl dJ29_rotateRight_89 ?_
    exact xr_aret C Z E (Or.inl ⟨_, rfl⟩) dJ29_rotateRight_90
  · refine xr_aload_n 1 C rfl rfl dJ29_rotateRight_4 ?_
    refine xr_gR C E xf_J29_39 dJ29_rotateRight_5 (fun x1 E => ?_)
    refine xr_dup C (xk_crf _) dJ29_rotateRight_8 ?_
    refine xr_astore_n (L2 := [(2, va_rf x1), (0, va_rf a0), (1, va_rf a1)]) C rfl rfl dJ29_rotateRight_9 (by decide) ?_
    refine xr_ifnull 89 C E dJ29_rotateRight_10 (by decide) (fun E => ?_) (fun E => ?_)
    · refine xr_aload_n 1 C rfl rfl dJ29_rotateRight_89 ?_
      exact xr_aret C Z E (Or.inl ⟨_, rfl⟩) dJ29_rotateRight_90
    · refine xr_aload_n 2 C rfl rfl dJ29_rotateRight_13 ?_
      refine xr_aload_n 0 C rfl rfl dJ29_rotateRight_14 ?_
      refine xr_gR C E xf_J29_42 dJ29_rotateRight_15 (fun x2 E => ?_)
      refine xr_dup_x1 C (xk_crf _) (xk_crf _) dJ29_rotateRight_18 ?_
      refine xr_pR C E xf_J29_39 xp_J29_39 (Or.inl ⟨_, rfl⟩) dJ29_rotateRight_19 (fun h3 E => ?_)
      refine xr_dup C (xk_crf _) dJ29_rotateRight_22 ?_
      refine xr_astore (L2 := [(4, va_rf x2), (2, va_rf x1), (0, va_rf a0), (1, va_rf a1)]) C rfl dJ29_rotateRight_23 (by decide) ?_
      refine xr_ifnull 34 C E dJ29_rotateRight_25 (by decide) (fun E => ?_) (fun E => ?_)
      · refine xr_sub [2, 3, 1] rfl ?_
        exact wk_J29_rotateRight_J34 C Z E
      · refine xr_aload 0 C rfl dJ29_rotateRight_28 ?_
        refine xr_aload_n 3 C rfl rfl dJ29_rotateRight_30 ?_
        refine xr_pR C E xf_J29_9 xp_J29_9 (Or.inl ⟨_, rfl⟩) dJ29_rotateRight_31 (fun h16 E => ?_)
        refine xr_sub [2, 3, 1] rfl ?_
        exact wk_J29_rotateRight_J34 C Z E
def mf_J29_balanceInsertion_J218 (kb5 : Option Nat → Option Nat → xk_H → Option (Option Nat × xk_H)) (a0 : Option Nat) (a1 : Option Nat) (a2 : Option Nat) (a3 : Option Nat) (h0 : xk_H) : Option (Option Nat × xk_H) :=
  if a2 = none then (kb5 a0 a1 h0) else (xm_pN .boolean [14] 8 a2 (0 : Int32) h0 fun h7 => if a3 = none then (kb5 a0 a1 h7) else (xm_pN .boolean [14] 8 a3 (1 : Int32) h7 fun h8 => xm_cl (mf_J29_rotateLeft a0 a3 h8) fun r9 h10 => kb5 r9 a1 h10))
set_option maxHeartbeats 1000000 in
theorem wk_J29_balanceInsertion_J218 {Γ : xk_C} {r : Option Nat} {h' : xk_H} {kb5 : Option Nat → Option Nat → xk_H → Option (Option Nat × xk_H)} {a0 : Option Nat} {a1 : Option Nat} {a2 : Option Nat} {a3 : Option Nat} {h0 : xk_H} (C : xk_Cx Γ RJ29 cJ29_balanceInsertion 6 (Option.some (FieldType.object "java/util/HashMap$TreeNode")) "balanceInsertion" 2 84) (Z : xk_Z Γ (some (va_rf r)) h') (hkb5 : ∀ (m0 : Option Nat) (m1 : Option Nat) (g : xk_H), kb5 m0 m1 g = some (r, h') → xk_X Γ 5 [(0, va_rf m0), (1, va_rf m1)] [] g) (E : mf_J29_balanceInsertion_J218 kb5 a0 a1 a2 a3 h0 = some (r, h')) : xk_X Γ 218 [(0, va_rf a0), (1, va_rf a1), (2, va_rf a2), (3, va_rf a3)] [] h0 := by
  rw [mf_J29_balanceInsertion_J218] at E
  refine xr_aload_n 2 C rfl rfl dJ29_balanceInsertion_218 ?_
  refine xr_ifnull 5 C E dJ29_balanceInsertion_219 (by decide) (fun E => ?_) (fun E => ?_)
  · refine xr_sub [0, 1] rfl ?_
    exact hkb5 a0 a1 h0 E
  · refine xr_aload_n 2 C rfl rfl dJ29_balanceInsertion_222 ?_
    refine xr_iconst (0) C (by decide) dJ29_balanceInsertion_223 ?_
    refine xr_pN C E xf_J29_93 xp_J29_93 dJ29_balanceInsertion_224 (fun h7 E => ?_)
    refine xr_aload_n 3 C rfl rfl dJ29_balanceInsertion_227 ?_
    refine xr_ifnull 5 C E dJ29_balanceInsertion_228 (by decide) (fun E => ?_) (fun E => ?_)
    · refine xr_sub [0, 1] rfl ?_
      exact hkb5 a0 a1 h7 E
    · refine xr_aload_n 3 C rfl rfl dJ29_balanceInsertion_231 ?_
      refine xr_iconst (1) C (by decide) dJ29_balanceInsertion_232 ?_
      refine xr_pN C E xf_J29_93 xp_J29_93 dJ29_balanceInsertion_233 (fun h8 E => ?_)
      refine xr_aload_n 0 C rfl rfl dJ29_balanceInsertion_236 ?_
      refine xr_aload_n 3 C rfl rfl dJ29_balanceInsertion_237 ?_
      refine xr_S [va_rf a0, va_rf a3] [] (fun r => some (va_rf r)) (fun r => va_rf r :: []) C E (fun r h' e => wk_J29_rotateLeft e) q1706 q1707 q116 q1708 xh_java_util_HashMap_TreeNode xd_J29_rotateLeft (by decide) (by decide) trivial (Nat.le_of_ble_eq_true rfl) rfl (fun _ => rfl) dJ29_balanceInsertion_238 (fun r9 h10 E => ?_)
      refine xr_astore_n (L2 := [(0, va_rf r9), (1, va_rf a1), (2, va_rf a2), (3, va_rf a3)]) C rfl rfl dJ29_balanceInsertion_241 (by decide) ?_
      refine xr_goto 5 C dJ29_balanceInsertion_242 (by decide) ?_
      refine xr_sub [0, 1] rfl ?_
      exact hkb5 r9 a1 h10 E
def mf_J29_balanceInsertion_J184 (kb5 : Option Nat → Option Nat → xk_H → Option (Option Nat × xk_H)) (a0 : Option Nat) (a1 : Option Nat) (a2 : Option Nat) (a3 : Option Nat) (h0 : xk_H) : Option (Option Nat × xk_H) :=
  xm_gR [14] 5 a2 h0 fun x6 => if a1 = x6 then (xm_cl (mf_J29_rotateRight a0 a2 h0) fun r11 h12 => xm_gR [14] 4 a2 h12 fun x13 => if x13 = none then (mf_J29_balanceInsertion_J218 kb5 r11 a2 x13 none h12) else (xm_gR [14] 4 x13 h12 fun x14 => mf_J29_balanceInsertion_J218 kb5 r11 a2 x13 x14 h12)) else (mf_J29_balanceInsertion_J218 kb5 a0 a1 a2 a3 h0)
set_option maxHeartbeats 1000000 in
theorem wk_J29_balanceInsertion_J184 {Γ : xk_C} {r : Option Nat} {h' : xk_H} {kb5 : Option Nat → Option Nat → xk_H → Option (Option Nat × xk_H)} {a0 : Option Nat} {a1 : Option Nat} {a2 : Option Nat} {a3 : Option Nat} {h0 : xk_H} (C : xk_Cx Γ RJ29 cJ29_balanceInsertion 6 (Option.some (FieldType.object "java/util/HashMap$TreeNode")) "balanceInsertion" 2 84) (Z : xk_Z Γ (some (va_rf r)) h') (hkb5 : ∀ (m0 : Option Nat) (m1 : Option Nat) (g : xk_H), kb5 m0 m1 g = some (r, h') → xk_X Γ 5 [(0, va_rf m0), (1, va_rf m1)] [] g) (E : mf_J29_balanceInsertion_J184 kb5 a0 a1 a2 a3 h0 = some (r, h')) : xk_X Γ 184 [(0, va_rf a0), (1, va_rf a1), (2, va_rf a2), (3, va_rf a3)] [] h0 := by
  rw [mf_J29_balanceInsertion_J184] at E
  refine xr_aload_n 1 C rfl rfl dJ29_balanceInsertion_184 ?_
  refine xr_aload_n 2 C rfl rfl dJ29_balanceInsertion_185 ?_
  refine xr_gR C E xf_J29_39 dJ29_balanceInsertion_186 (fun x6 E => ?_)
  refine xr_acmp_ne 218 C E dJ29_balanceInsertion_189 (by decide) (fun E => ?_) (fun E => ?_)
  · exact wk_J29_balanceInsertion_J218 C Z hkb5 E
  · refine xr_aload_n 0 C rfl rfl dJ29_balanceInsertion_192 ?_
    refine xr_aload_n 2 C rfl rfl dJ29_balanceInsertion_193 ?_
    refine xr_dup C (xk_crf _) dJ29_balanceInsertion_194 ?_
    refine xr_astore_n (L2 := [(1, va_rf a2), (0, va_rf a0), (2, va_rf a2), (3, va_rf a3)]) C rfl rfl dJ29_balanceInsertion_195 (by decide) ?_
    refine xr_S [va_rf a0, va_rf a2] [] (fun r => some (va_rf r)) (fun r => va_rf r :: []) C E (fun r h' e => wk_J29_rotateRight e) q1709 q1710 q116 q1711 xh_java_util_HashMap_TreeNode xd_J29_rotateRight (by decide) (by decide) trivial (Nat.le_of_ble_eq_true rfl) rfl (fun _ => rfl) dJ29_balanceInsertion_196 (fun r11 h12 E => ?_)
    refine xr_astore_n (L2 := [(0, va_rf r11), (1, va_rf a2), (2, va_rf a2), (3, va_rf a3)]) C rfl rfl dJ29_balanceInsertion_199 (by decide) ?_
    refine xr_aload_n 1 C rfl rfl dJ29_balanceInsertion_200 ?_
    refine xr_gR C E xf_J29_9 dJ29_balanceInsertion_201 (fun x13 E => ?_)
    refine xr_dup C (xk_crf _) dJ29_balanceInsertion_204 ?_
    refine xr_astore_n (L2 := [(2, va_rf x13), (0, va_rf r11), (1, va_rf a2), (3, va_rf a3)]) C rfl rfl dJ29_balanceInsertion_205 (by decide) ?_
    refine xr_ifnonnull 213 C E dJ29_balanceInsertion_206 (by decide) (fun E => ?_) (fun E => ?_)
    · refine xr_aload_n 0 C rfl rfl dJ29_balanceInsertion_213 ?_
      refine xr_gR C E xf_J29_9 dJ29_balanceInsertion_214 (fun x14 E => ?_)
      refine xr_astore_n (L2 := [(3, va_rf x14), (2, va_rf x13), (0, va_rf r11), (1, va_rf a2)]) C rfl rfl dJ29_balanceInsertion_217 (by decide) ?_
      refine xr_sub [2, 3, 1, 0] rfl ?_
      exact wk_J29_balanceInsertion_J218 C Z hkb5 E
    · refine xr_null C dJ29_balanceInsertion_209 ?_
      refine xr_goto 217 C dJ29_balanceInsertion_210 (by decide) ?_
      refine xr_astore_n (L2 := [(3, va_rf none), (2, va_rf x13), (0, va_rf r11), (1, va_rf a2)]) C rfl rfl dJ29_balanceInsertion_217 (by decide) ?_
      refine xr_sub [2, 3, 1, 0] rfl ?_
      exact wk_J29_balanceInsertion_J218 C Z hkb5 E
def mf_J29_balanceInsertion_J123 (kb5 : Option Nat → Option Nat → xk_H → Option (Option Nat × xk_H)) (a0 : Option Nat) (a1 : Option Nat) (a2 : Option Nat) (a3 : Option Nat) (h0 : xk_H) : Option (Option Nat × xk_H) :=
  if a2 = none then (kb5 a0 a1 h0) else (xm_pN .boolean [14] 8 a2 (0 : Int32) h0 fun h21 => if a3 = none then (kb5 a0 a1 h21) else (xm_pN .boolean [14] 8 a3 (1 : Int32) h21 fun h22 => xm_cl (mf_J29_rotateRight a0 a3 h22) fun r23 h24 => kb5 r23 a1 h24))
set_option maxHeartbeats 1000000 in
theorem wk_J29_balanceInsertion_J123 {Γ : xk_C} {r : Option Nat} {h' : xk_H} {kb5 : Option Nat → Option Nat → xk_H → Option (Option Nat × xk_H)} {a0 : Option Nat} {a1 : Option Nat} {a2 : Option Nat} {a3 : Option Nat} {h0 : xk_H} (C : xk_Cx Γ RJ29 cJ29_balanceInsertion 6 (Option.some (FieldType.object "java/util/HashMap$TreeNode")) "balanceInsertion" 2 84) (Z : xk_Z Γ (some (va_rf r)) h') (hkb5 : ∀ (m0 : Option Nat) (m1 : Option Nat) (g : xk_H), kb5 m0 m1 g = some (r, h') → xk_X Γ 5 [(0, va_rf m0), (1, va_rf m1)] [] g) (E : mf_J29_balanceInsertion_J123 kb5 a0 a1 a2 a3 h0 = some (r, h')) : xk_X Γ 123 [(0, va_rf a0), (1, va_rf a1), (2, va_rf a2), (3, va_rf a3)] [] h0 := by
  rw [mf_J29_balanceInsertion_J123] at E
  refine xr_aload_n 2 C rfl rfl dJ29_balanceInsertion_123 ?_
  refine xr_ifnull 5 C E dJ29_balanceInsertion_124 (by decide) (fun E => ?_) (fun E => ?_)
  · refine xr_sub [0, 1] rfl ?_
    exact hkb5 a0 a1 h0 E
  · refine xr_aload_n 2 C rfl rfl dJ29_balanceInsertion_127 ?_
    refine xr_iconst (0) C (by decide) dJ29_balanceInsertion_128 ?_
    refine xr_pN C E xf_J29_93 xp_J29_93 dJ29_balanceInsertion_129 (fun h21 E => ?_)
    refine xr_aload_n 3 C rfl rfl dJ29_balanceInsertion_132 ?_
    refine xr_ifnull 5 C E dJ29_balanceInsertion_133 (by decide) (fun E => ?_) (fun E => ?_)
    · refine xr_sub [0, 1] rfl ?_
      exact hkb5 a0 a1 h21 E
    · refine xr_aload_n 3 C rfl rfl dJ29_balanceInsertion_136 ?_
      refine xr_iconst (1) C (by decide) dJ29_balanceInsertion_137 ?_
      refine xr_pN C E xf_J29_93 xp_J29_93 dJ29_balanceInsertion_138 (fun h22 E => ?_)
      refine xr_aload_n 0 C rfl rfl dJ29_balanceInsertion_141 ?_
      refine xr_aload_n 3 C rfl rfl dJ29_balanceInsertion_142 ?_
      refine xr_S [va_rf a0, va_rf a3] [] (fun r => some (va_rf r)) (fun r => va_rf r :: []) C E (fun r h' e => wk_J29_rotateRight e) q1709 q1710 q116 q1711 xh_java_util_HashMap_TreeNode xd_J29_rotateRight (by decide) (by decide) trivial (Nat.le_of_ble_eq_true rfl) rfl (fun _ => rfl) dJ29_balanceInsertion_143 (fun r23 h24 E => ?_)
      refine xr_astore_n (L2 := [(0, va_rf r23), (1, va_rf a1), (2, va_rf a2), (3, va_rf a3)]) C rfl rfl dJ29_balanceInsertion_146 (by decide) ?_
      refine xr_goto 5 C dJ29_balanceInsertion_147 (by decide) ?_
      refine xr_sub [0, 1] rfl ?_
      exact hkb5 r23 a1 h24 E
def mf_J29_balanceInsertion_J89 (kb5 : Option Nat → Option Nat → xk_H → Option (Option Nat × xk_H)) (a0 : Option Nat) (a1 : Option Nat) (a2 : Option Nat) (a3 : Option Nat) (h0 : xk_H) : Option (Option Nat × xk_H) :=
  xm_gR [14] 6 a2 h0 fun x20 => if a1 = x20 then (xm_cl (mf_J29_rotateLeft a0 a2 h0) fun r25 h26 => xm_gR [14] 4 a2 h26 fun x27 => if x27 = none then (mf_J29_balanceInsertion_J123 kb5 r25 a2 x27 none h26) else (xm_gR [14] 4 x27 h26 fun x28 => mf_J29_balanceInsertion_J123 kb5 r25 a2 x27 x28 h26)) else (mf_J29_balanceInsertion_J123 kb5 a0 a1 a2 a3 h0)
set_option maxHeartbeats 1000000 in
theorem wk_J29_balanceInsertion_J89 {Γ : xk_C} {r : Option Nat} {h' : xk_H} {kb5 : Option Nat → Option Nat → xk_H → Option (Option Nat × xk_H)} {a0 : Option Nat} {a1 : Option Nat} {a2 : Option Nat} {a3 : Option Nat} {h0 : xk_H} (C : xk_Cx Γ RJ29 cJ29_balanceInsertion 6 (Option.some (FieldType.object "java/util/HashMap$TreeNode")) "balanceInsertion" 2 84) (Z : xk_Z Γ (some (va_rf r)) h') (hkb5 : ∀ (m0 : Option Nat) (m1 : Option Nat) (g : xk_H), kb5 m0 m1 g = some (r, h') → xk_X Γ 5 [(0, va_rf m0), (1, va_rf m1)] [] g) (E : mf_J29_balanceInsertion_J89 kb5 a0 a1 a2 a3 h0 = some (r, h')) : xk_X Γ 89 [(0, va_rf a0), (1, va_rf a1), (2, va_rf a2), (3, va_rf a3)] [] h0 := by
  rw [mf_J29_balanceInsertion_J89] at E
  refine xr_aload_n 1 C rfl rfl dJ29_balanceInsertion_89 ?_
  refine xr_aload_n 2 C rfl rfl dJ29_balanceInsertion_90 ?_
  refine xr_gR C E xf_J29_42 dJ29_balanceInsertion_91 (fun x20 E => ?_)
  refine xr_acmp_ne 123 C E dJ29_balanceInsertion_94 (by decide) (fun E => ?_) (fun E => ?_)
  · exact wk_J29_balanceInsertion_J123 C Z hkb5 E
  · refine xr_aload_n 0 C rfl rfl dJ29_balanceInsertion_97 ?_
    refine xr_aload_n 2 C rfl rfl dJ29_balanceInsertion_98 ?_
    refine xr_dup C (xk_crf _) dJ29_balanceInsertion_99 ?_
    refine xr_astore_n (L2 := [(1, va_rf a2), (0, va_rf a0), (2, va_rf a2), (3, va_rf a3)]) C rfl rfl dJ29_balanceInsertion_100 (by decide) ?_
    refine xr_S [va_rf a0, va_rf a2] [] (fun r => some (va_rf r)) (fun r => va_rf r :: []) C E (fun r h' e => wk_J29_rotateLeft e) q1706 q1707 q116 q1708 xh_java_util_HashMap_TreeNode xd_J29_rotateLeft (by decide) (by decide) trivial (Nat.le_of_ble_eq_true rfl) rfl (fun _ => rfl) dJ29_balanceInsertion_101 (fun r25 h26 E => ?_)
    refine xr_astore_n (L2 := [(0, va_rf r25), (1, va_rf a2), (2, va_rf a2), (3, va_rf a3)]) C rfl rfl dJ29_balanceInsertion_104 (by decide) ?_
    refine xr_aload_n 1 C rfl rfl dJ29_balanceInsertion_105 ?_
    refine xr_gR C E xf_J29_9 dJ29_balanceInsertion_106 (fun x27 E => ?_)
    refine xr_dup C (xk_crf _) dJ29_balanceInsertion_109 ?_
    refine xr_astore_n (L2 := [(2, va_rf x27), (0, va_rf r25), (1, va_rf a2), (3, va_rf a3)]) C rfl rfl dJ29_balanceInsertion_110 (by decide) ?_
    refine xr_ifnonnull 118 C E dJ29_balanceInsertion_111 (by decide) (fun E => ?_) (fun E => ?_)
    · refine xr_aload_n 0 C rfl rfl dJ29_balanceInsertion_118 ?_
      refine xr_gR C E xf_J29_9 dJ29_balanceInsertion_119 (fun x28 E => ?_)
      refine xr_astore_n (L2 := [(3, va_rf x28), (2, va_rf x27), (0, va_rf r25), (1, va_rf a2)]) C rfl rfl dJ29_balanceInsertion_122 (by decide) ?_
      refine xr_sub [2, 3, 1, 0] rfl ?_
      exact wk_J29_balanceInsertion_J123 C Z hkb5 E
    · refine xr_null C dJ29_balanceInsertion_114 ?_
      refine xr_goto 122 C dJ29_balanceInsertion_115 (by decide) ?_
      refine xr_astore_n (L2 := [(3, va_rf none), (2, va_rf x27), (0, va_rf r25), (1, va_rf a2)]) C rfl rfl dJ29_balanceInsertion_122 (by decide) ?_
      refine xr_sub [2, 3, 1, 0] rfl ?_
      exact wk_J29_balanceInsertion_J123 C Z hkb5 E
def mf_J29_balanceInsertion_L5 : Nat → Option Nat → Option Nat → xk_H → Option (Option Nat × xk_H)
  | 0, _, _, _ => none
  | n + 1, a0, a1, h0 => xm_gR [14] 4 a1 h0 fun x2 => if x2 = none then (xm_pN .boolean [14] 8 a1 (0 : Int32) h0 fun h33 => some (a1, h33)) else (xm_gI [14] 8 x2 h0 fun x3 => if x3 = 0 then (some (a0, h0)) else (xm_gR [14] 4 x2 h0 fun x4 => if x4 = none then (some (a0, h0)) else (xm_gR [14] 5 x4 h0 fun x5 => if x2 = x5 then (xm_gR [14] 6 x4 h0 fun x19 => if x19 = none then (mf_J29_balanceInsertion_J89 (fun m0 m1 g => mf_J29_balanceInsertion_L5 n m0 m1 g) a0 a1 x2 x4 h0) else (xm_gI [14] 8 x19 h0 fun x29 => if x29 = 0 then (mf_J29_balanceInsertion_J89 (fun m0 m1 g => mf_J29_balanceInsertion_L5 n m0 m1 g) a0 a1 x2 x4 h0) else (xm_pN .boolean [14] 8 x19 (0 : Int32) h0 fun h30 => xm_pN .boolean [14] 8 x2 (0 : Int32) h30 fun h31 => xm_pN .boolean [14] 8 x4 (1 : Int32) h31 fun h32 => mf_J29_balanceInsertion_L5 n a0 x4 h32))) else (if x5 = none then (mf_J29_balanceInsertion_J184 (fun m0 m1 g => mf_J29_balanceInsertion_L5 n m0 m1 g) a0 a1 x2 x4 h0) else (xm_gI [14] 8 x5 h0 fun x15 => if x15 = 0 then (mf_J29_balanceInsertion_J184 (fun m0 m1 g => mf_J29_balanceInsertion_L5 n m0 m1 g) a0 a1 x2 x4 h0) else (xm_pN .boolean [14] 8 x5 (0 : Int32) h0 fun h16 => xm_pN .boolean [14] 8 x2 (0 : Int32) h16 fun h17 => xm_pN .boolean [14] 8 x4 (1 : Int32) h17 fun h18 => mf_J29_balanceInsertion_L5 n a0 x4 h18))))))
set_option maxHeartbeats 1000000 in
theorem wk_J29_balanceInsertion_L5 {Γ : xk_C} {r : Option Nat} {h' : xk_H} (C : xk_Cx Γ RJ29 cJ29_balanceInsertion 6 (Option.some (FieldType.object "java/util/HashMap$TreeNode")) "balanceInsertion" 2 84) (Z : xk_Z Γ (some (va_rf r)) h') : ∀ (n : Nat) (a0 : Option Nat) (a1 : Option Nat) (h0 : xk_H), mf_J29_balanceInsertion_L5 n a0 a1 h0 = some (r, h') → xk_X Γ 5 [(0, va_rf a0), (1, va_rf a1)] [] h0 := by
  intro n
  induction n with
  | zero =>
    intro a0 a1 h0 E
    rw [mf_J29_balanceInsertion_L5] at E
    cases E
  | succ n ih =>
    intro a0 a1 h0 E
    have hkb5 : ∀ (m0 : Option Nat) (m1 : Option Nat) (g : xk_H), mf_J29_balanceInsertion_L5  n m0 m1 g = some (r, h') → xk_X Γ 5 [(0, va_rf m0), (1, va_rf m1)] [] g := ih
    rw [mf_J29_balanceInsertion_L5] at E
    refine xr_aload_n 1 C rfl rfl dJ29_balanceInsertion_5 ?_
    refine xr_gR C E xf_J29_9 dJ29_balanceInsertion_6 (fun x2 E => ?_)
    refine xr_dup C (xk_crf _) dJ29_balanceInsertion_9 ?_
    refine xr_astore_n (L2 := [(2, va_rf x2), (0, va_rf a0), (1, va_rf a1)]) C rfl rfl dJ29_balanceInsertion_10 (by decide) ?_
    refine xr_ifnonnull 21 C E dJ29_balanceInsertion_11 (by decide) (fun E => ?_) (fun E => ?_)
    · refine xr_aload_n 0 C rfl rfl dJ29_balanceInsertion_21 ?_
      refine xr_gI C E xf_J29_93 dJ29_balanceInsertion_22 (fun x3 E => ?_)
      refine xr_if_eq 37 C E dJ29_balanceInsertion_25 (by decide) (fun E => ?_) (fun E => ?_)
      · refine xr_aload_n 1 C rfl rfl dJ29_balanceInsertion_37 ?_
        exact xr_aret C Z E (Or.inl ⟨_, rfl⟩) dJ29_balanceInsertion_38
      · refine xr_aload_n 0 C rfl rfl dJ29_balanceInsertion_28 ?_
        refine xr_gR C E xf_J29_9 dJ29_balanceInsertion_29 (fun x4 E => ?_)
        refine xr_dup C (xk_crf _) dJ29_balanceInsertion_32 ?_
        refine xr_astore_n (L2 := [(3, va_rf x4), (2, va_rf x2), (0, va_rf a0), (1, va_rf a1)]) C rfl rfl dJ29_balanceInsertion_33 (by decide) ?_
        refine xr_ifnonnull 39 C E dJ29_balanceInsertion_34 (by decide) (fun E => ?_) (fun E => ?_)
        · refine xr_aload_n 1 C rfl rfl dJ29_balanceInsertion_39 ?_
          refine xr_aload_n 0 C rfl rfl dJ29_balanceInsertion_40 ?_
          refine xr_gR C E xf_J29_39 dJ29_balanceInsertion_41 (fun x5 E => ?_)
          refine xr_dup C (xk_crf _) dJ29_balanceInsertion_44 ?_
          refine xr_astore (L2 := [(4, va_rf x5), (3, va_rf x4), (2, va_rf x2), (0, va_rf a0), (1, va_rf a1)]) C rfl dJ29_balanceInsertion_45 (by decide) ?_
          refine xr_acmp_ne 150 C E dJ29_balanceInsertion_47 (by decide) (fun E => ?_) (fun E => ?_)
          · refine xr_aload 0 C rfl dJ29_balanceInsertion_150 ?_
            refine xr_ifnull 184 C E dJ29_balanceInsertion_152 (by decide) (fun E => ?_) (fun E => ?_)
            · refine xr_sub [3, 4, 2, 1] rfl ?_
              exact wk_J29_balanceInsertion_J184 C Z hkb5 E
            · refine xr_aload 0 C rfl dJ29_balanceInsertion_155 ?_
              refine xr_gI C E xf_J29_93 dJ29_balanceInsertion_157 (fun x15 E => ?_)
              refine xr_if_eq 184 C E dJ29_balanceInsertion_160 (by decide) (fun E => ?_) (fun E => ?_)
              · refine xr_sub [3, 4, 2, 1] rfl ?_
                exact wk_J29_balanceInsertion_J184 C Z hkb5 E
              · refine xr_aload 0 C rfl dJ29_balanceInsertion_163 ?_
                refine xr_iconst (0) C (by decide) dJ29_balanceInsertion_165 ?_
                refine xr_pN C E xf_J29_93 xp_J29_93 dJ29_balanceInsertion_166 (fun h16 E => ?_)
                refine xr_aload_n 2 C rfl rfl dJ29_balanceInsertion_169 ?_
                refine xr_iconst (0) C (by decide) dJ29_balanceInsertion_170 ?_
                refine xr_pN C E xf_J29_93 xp_J29_93 dJ29_balanceInsertion_171 (fun h17 E => ?_)
                refine xr_aload_n 1 C rfl rfl dJ29_balanceInsertion_174 ?_
                refine xr_iconst (1) C (by decide) dJ29_balanceInsertion_175 ?_
                refine xr_pN C E xf_J29_93 xp_J29_93 dJ29_balanceInsertion_176 (fun h18 E => ?_)
                refine xr_aload_n 1 C rfl rfl dJ29_balanceInsertion_179 ?_
                refine xr_astore_n (L2 := [(1, va_rf x4), (4, va_rf x5), (3, va_rf x4), (2, va_rf x2), (0, va_rf a0)]) C rfl rfl dJ29_balanceInsertion_180 (by decide) ?_
                refine xr_goto 5 C dJ29_balanceInsertion_181 (by decide) ?_
                refine xr_sub [4, 0] rfl ?_
                exact hkb5 a0 x4 h18 E
          · refine xr_aload_n 1 C rfl rfl dJ29_balanceInsertion_50 ?_
            refine xr_gR C E xf_J29_42 dJ29_balanceInsertion_51 (fun x19 E => ?_)
            refine xr_dup C (xk_crf _) dJ29_balanceInsertion_54 ?_
            refine xr_astore (L2 := [(5, va_rf x19), (4, va_rf x5), (3, va_rf x4), (2, va_rf x2), (0, va_rf a0), (1, va_rf a1)]) C rfl dJ29_balanceInsertion_55 (by decide) ?_
            refine xr_ifnull 89 C E dJ29_balanceInsertion_57 (by decide) (fun E => ?_) (fun E => ?_)
            · refine xr_sub [4, 5, 3, 2] rfl ?_
              exact wk_J29_balanceInsertion_J89 C Z hkb5 E
            · refine xr_aload 0 C rfl dJ29_balanceInsertion_60 ?_
              refine xr_gI C E xf_J29_93 dJ29_balanceInsertion_62 (fun x29 E => ?_)
              refine xr_if_eq 89 C E dJ29_balanceInsertion_65 (by decide) (fun E => ?_) (fun E => ?_)
              · refine xr_sub [4, 5, 3, 2] rfl ?_
                exact wk_J29_balanceInsertion_J89 C Z hkb5 E
              · refine xr_aload 0 C rfl dJ29_balanceInsertion_68 ?_
                refine xr_iconst (0) C (by decide) dJ29_balanceInsertion_70 ?_
                refine xr_pN C E xf_J29_93 xp_J29_93 dJ29_balanceInsertion_71 (fun h30 E => ?_)
                refine xr_aload_n 3 C rfl rfl dJ29_balanceInsertion_74 ?_
                refine xr_iconst (0) C (by decide) dJ29_balanceInsertion_75 ?_
                refine xr_pN C E xf_J29_93 xp_J29_93 dJ29_balanceInsertion_76 (fun h31 E => ?_)
                refine xr_aload_n 2 C rfl rfl dJ29_balanceInsertion_79 ?_
                refine xr_iconst (1) C (by decide) dJ29_balanceInsertion_80 ?_
                refine xr_pN C E xf_J29_93 xp_J29_93 dJ29_balanceInsertion_81 (fun h32 E => ?_)
                refine xr_aload_n 2 C rfl rfl dJ29_balanceInsertion_84 ?_
                refine xr_astore_n (L2 := [(1, va_rf x4), (5, va_rf x19), (4, va_rf x5), (3, va_rf x4), (2, va_rf x2), (0, va_rf a0)]) C rfl rfl dJ29_balanceInsertion_85 (by decide) ?_
                refine xr_goto 5 C dJ29_balanceInsertion_86 (by decide) ?_
                refine xr_sub [5, 0] rfl ?_
                exact hkb5 a0 x4 h32 E
        · refine xr_aload_n 2 C rfl rfl dJ29_balanceInsertion_37 ?_
          exact xr_aret C Z E (Or.inl ⟨_, rfl⟩) dJ29_balanceInsertion_38
    · refine xr_aload_n 2 C rfl rfl dJ29_balanceInsertion_14 ?_
      refine xr_iconst (0) C (by decide) dJ29_balanceInsertion_15 ?_
      refine xr_pN C E xf_J29_93 xp_J29_93 dJ29_balanceInsertion_16 (fun h33 E => ?_)
      refine xr_aload_n 2 C rfl rfl dJ29_balanceInsertion_19 ?_
      exact xr_aret C Z E (Or.inl ⟨_, rfl⟩) dJ29_balanceInsertion_20
def mf_J29_balanceInsertion (a0 : Option Nat) (a1 : Option Nat) (h0 : xk_H) : Option (Option Nat × xk_H) :=
  xm_pN .boolean [14] 8 a1 (1 : Int32) h0 fun h1 => mf_J29_balanceInsertion_L5 xk_fu a0 a1 h1
set_option maxHeartbeats 1000000 in
theorem wk_J29_balanceInsertion {l : Launch} {D : va_G} {base : Nat} {a0 : Option Nat} {a1 : Option Nat} {h0 : xk_H} {r : Option Nat} {h' : xk_H} (E : mf_J29_balanceInsertion a0 a1 h0 = some (r, h')) : xk_Ok l D base yJ29_balanceInsertion cJ29_balanceInsertion 6 (Option.some (FieldType.object "java/util/HashMap$TreeNode")) 2 84 [va_rf a0, va_rf a1] h0 (some (va_rf r)) h' := by
  refine xk_ofX RJ29 "balanceInsertion" xq_J29_balanceInsertion rfl rfl (Nat.le_of_ble_eq_true rfl) ⟨xk_crf _, ⟨xk_crf _, trivial⟩⟩ (fun Γ el eD eb C Z => ?_)
  rw [mf_J29_balanceInsertion] at E
  show xk_X Γ 0 [(0, va_rf a0), (1, va_rf a1)] [] h0
  refine xr_aload_n 1 C rfl rfl dJ29_balanceInsertion_0 ?_
  refine xr_iconst (1) C (by decide) dJ29_balanceInsertion_1 ?_
  refine xr_pN C E xf_J29_93 xp_J29_93 dJ29_balanceInsertion_2 (fun h1 E => ?_)
  exact wk_J29_balanceInsertion_L5 C Z xk_fu a0 a1 h1 E
def mf_J29_moveRootToFront_J102 (a1 : Option Nat) (h0 : xk_H) : Option (Unit × xk_H) :=
  if (1 : Int32) = 0 then (none) else (some ((), h0))
set_option maxHeartbeats 1000000 in
theorem wk_J29_moveRootToFront_J102 {Γ : xk_C} {r : Unit} {h' : xk_H} {a1 : Option Nat} {h0 : xk_H} (C : xk_Cx Γ RJ29 cJ29_moveRootToFront 7 none "moveRootToFront" 1 60) (Z : xk_Z Γ none h') (E : mf_J29_moveRootToFront_J102 a1 h0 = some (r, h')) : xk_X Γ 102 [(1, va_rf a1)] [] h0 := by
  rw [mf_J29_moveRootToFront_J102] at E
  refine xr_gsI (x := 1) C (List.mem_of_getElem? (i := 2) rfl) q1715 (Or.inl rfl) dJ29_moveRootToFront_102 ?_
  refine xr_if_ne 123 C E dJ29_moveRootToFront_105 (by decide) (fun E => ?_) (fun E => ?_)
  · exact xr_vret C Z E dJ29_moveRootToFront_123
  · refine xr_aload_n 0 C rfl rfl dJ29_moveRootToFront_108 ?_
    cases E
def mf_J29_moveRootToFront_J80 (a1 : Option Nat) (a4 : Option Nat) (h0 : xk_H) : Option (Unit × xk_H) :=
  if a4 = none then (xm_pV [13, 14] 3 a1 (va_rf a4) h0 fun h7 => xm_pV [14] 7 a1 (va_rf none) h7 fun h8 => mf_J29_moveRootToFront_J102 a1 h8) else (xm_pV [14] 7 a4 (va_rf a1) h0 fun h9 => xm_pV [13, 14] 3 a1 (va_rf a4) h9 fun h10 => xm_pV [14] 7 a1 (va_rf none) h10 fun h11 => mf_J29_moveRootToFront_J102 a1 h11)
set_option maxHeartbeats 1000000 in
theorem wk_J29_moveRootToFront_J80 {Γ : xk_C} {r : Unit} {h' : xk_H} {a1 : Option Nat} {a4 : Option Nat} {h0 : xk_H} (C : xk_Cx Γ RJ29 cJ29_moveRootToFront 7 none "moveRootToFront" 1 60) (Z : xk_Z Γ none h') (E : mf_J29_moveRootToFront_J80 a1 a4 h0 = some (r, h')) : xk_X Γ 80 [(1, va_rf a1), (4, va_rf a4)] [] h0 := by
  rw [mf_J29_moveRootToFront_J80] at E
  refine xr_aload 1 C rfl dJ29_moveRootToFront_80 ?_
  refine xr_ifnull 91 C E dJ29_moveRootToFront_82 (by decide) (fun E => ?_) (fun E => ?_)
  · refine xr_aload_n 0 C rfl rfl dJ29_moveRootToFront_91 ?_
    refine xr_aload 1 C rfl dJ29_moveRootToFront_92 ?_
    refine xr_pR C E xf_J29_22 xp_J29_22 (Or.inl ⟨_, rfl⟩) dJ29_moveRootToFront_94 (fun h7 E => ?_)
    refine xr_aload_n 0 C rfl rfl dJ29_moveRootToFront_97 ?_
    refine xr_null C dJ29_moveRootToFront_98 ?_
    refine xr_pR C E xf_J29_19 xp_J29_19 (Or.inl ⟨_, rfl⟩) dJ29_moveRootToFront_99 (fun h8 E => ?_)
    refine xr_sub [0] rfl ?_
    exact wk_J29_moveRootToFront_J102 C Z E
  · refine xr_aload 1 C rfl dJ29_moveRootToFront_85 ?_
    refine xr_aload_n 0 C rfl rfl dJ29_moveRootToFront_87 ?_
    refine xr_pR C E xf_J29_19 xp_J29_19 (Or.inl ⟨_, rfl⟩) dJ29_moveRootToFront_88 (fun h9 E => ?_)
    refine xr_aload_n 0 C rfl rfl dJ29_moveRootToFront_91 ?_
    refine xr_aload 1 C rfl dJ29_moveRootToFront_92 ?_
    refine xr_pR C E xf_J29_22 xp_J29_22 (Or.inl ⟨_, rfl⟩) dJ29_moveRootToFront_94 (fun h10 E => ?_)
    refine xr_aload_n 0 C rfl rfl dJ29_moveRootToFront_97 ?_
    refine xr_null C dJ29_moveRootToFront_98 ?_
    refine xr_pR C E xf_J29_19 xp_J29_19 (Or.inl ⟨_, rfl⟩) dJ29_moveRootToFront_99 (fun h11 E => ?_)
    refine xr_sub [0] rfl ?_
    exact wk_J29_moveRootToFront_J102 C Z E
def mf_J29_moveRootToFront_J68 (a1 : Option Nat) (a4 : Option Nat) (a5 : Option Nat) (a6 : Option Nat) (h0 : xk_H) : Option (Unit × xk_H) :=
  if a6 = none then (mf_J29_moveRootToFront_J80 a1 a4 h0) else (xm_pV [13, 14] 3 a6 (va_rf a5) h0 fun h12 => mf_J29_moveRootToFront_J80 a1 a4 h12)
set_option maxHeartbeats 1000000 in
theorem wk_J29_moveRootToFront_J68 {Γ : xk_C} {r : Unit} {h' : xk_H} {a1 : Option Nat} {a4 : Option Nat} {a5 : Option Nat} {a6 : Option Nat} {h0 : xk_H} (C : xk_Cx Γ RJ29 cJ29_moveRootToFront 7 none "moveRootToFront" 1 60) (Z : xk_Z Γ none h') (E : mf_J29_moveRootToFront_J68 a1 a4 a5 a6 h0 = some (r, h')) : xk_X Γ 68 [(1, va_rf a1), (4, va_rf a4), (5, va_rf a5), (6, va_rf a6)] [] h0 := by
  rw [mf_J29_moveRootToFront_J68] at E
  refine xr_aload 3 C rfl dJ29_moveRootToFront_68 ?_
  refine xr_ifnull 80 C E dJ29_moveRootToFront_70 (by decide) (fun E => ?_) (fun E => ?_)
  · refine xr_sub [0, 1] rfl ?_
    exact wk_J29_moveRootToFront_J80 C Z E
  · refine xr_aload 3 C rfl dJ29_moveRootToFront_73 ?_
    refine xr_aload 2 C rfl dJ29_moveRootToFront_75 ?_
    refine xr_pR C E xf_J29_22 xp_J29_22 (Or.inl ⟨_, rfl⟩) dJ29_moveRootToFront_77 (fun h12 E => ?_)
    refine xr_sub [0, 1] rfl ?_
    exact wk_J29_moveRootToFront_J80 C Z E
def mf_J29_moveRootToFront (a0 : Option Nat) (a1 : Option Nat) (h0 : xk_H) : Option (Unit × xk_H) :=
  if a1 = none then (some ((), h0)) else (if a0 = none then (some ((), h0)) else (xm_len [103] a0 h0 fun x1 => if x1 ≤ 0 then (some ((), h0)) else (xm_gI [13, 14] 0 a1 h0 fun x2 => xm_lR [103] a0 ((x1 - (1 : Int32)) &&& x2) h0 fun x3 => xm_cast [14] x3 h0 <| if a1 = x3 then (mf_J29_moveRootToFront_J102 a1 h0) else (xm_sR [103] [13, 14] a0 ((x1 - (1 : Int32)) &&& x2) a1 h0 fun h4 => xm_gR [14] 7 a1 h4 fun x5 => xm_gR [13, 14] 3 a1 h4 fun x6 => if x6 = none then (mf_J29_moveRootToFront_J68 a1 x3 x6 x5 h4) else (xm_cast [14] x6 h4 <| xm_pV [14] 7 x6 (va_rf x5) h4 fun h13 => mf_J29_moveRootToFront_J68 a1 x3 x6 x5 h13)))))
set_option maxHeartbeats 1000000 in
theorem wk_J29_moveRootToFront {l : Launch} {D : va_G} {base : Nat} {a0 : Option Nat} {a1 : Option Nat} {h0 : xk_H} {r : Unit} {h' : xk_H} (E : mf_J29_moveRootToFront a0 a1 h0 = some (r, h')) : xk_Ok l D base yJ29_moveRootToFront cJ29_moveRootToFront 7 none 1 60 [va_rf a0, va_rf a1] h0 none h' := by
  refine xk_ofX RJ29 "moveRootToFront" xq_J29_moveRootToFront rfl rfl (Nat.le_of_ble_eq_true rfl) ⟨xk_crf _, ⟨xk_crf _, trivial⟩⟩ (fun Γ el eD eb C Z => ?_)
  rw [mf_J29_moveRootToFront] at E
  show xk_X Γ 0 [(0, va_rf a0), (1, va_rf a1)] [] h0
  refine xr_aload_n 1 C rfl rfl dJ29_moveRootToFront_0 ?_
  refine xr_ifnull 123 C E dJ29_moveRootToFront_1 (by decide) (fun E => ?_) (fun E => ?_)
  · exact xr_vret C Z E dJ29_moveRootToFront_123
  · refine xr_aload_n 0 C rfl rfl dJ29_moveRootToFront_4 ?_
    refine xr_ifnull 123 C E dJ29_moveRootToFront_5 (by decide) (fun E => ?_) (fun E => ?_)
    · exact xr_vret C Z E dJ29_moveRootToFront_123
    · refine xr_aload_n 0 C rfl rfl dJ29_moveRootToFront_8 ?_
      refine xr_len 3 (.object "java/util/HashMap$Node") C E (fun _ => rfl) xt_103 dJ29_moveRootToFront_9 (fun x1 E => ?_)
      refine xr_dup C rfl dJ29_moveRootToFront_10 ?_
      refine xr_istore_n (L2 := [(2, .int x1), (0, va_rf a0), (1, va_rf a1)]) C rfl rfl dJ29_moveRootToFront_11 (by decide) ?_
      refine xr_if_le 123 C E dJ29_moveRootToFront_12 (by decide) (fun E => ?_) (fun E => ?_)
      · exact xr_vret C Z E dJ29_moveRootToFront_123
      · refine xr_iload_n 0 C rfl rfl dJ29_moveRootToFront_15 ?_
        refine xr_iconst (1) C (by decide) dJ29_moveRootToFront_16 ?_
        refine xr_isub C dJ29_moveRootToFront_17 ?_
        refine xr_aload_n 2 C rfl rfl dJ29_moveRootToFront_18 ?_
        refine xr_gI C E xf_J29_15 dJ29_moveRootToFront_19 (fun x2 E => ?_)
        refine xr_iand C dJ29_moveRootToFront_22 ?_
        refine xr_istore_n (L2 := [(3, .int ((x1 - (1 : Int32)) &&& x2)), (2, .int x1), (0, va_rf a0), (1, va_rf a1)]) C rfl rfl dJ29_moveRootToFront_23 (by decide) ?_
        refine xr_aload_n 2 C rfl rfl dJ29_moveRootToFront_24 ?_
        refine xr_iload_n 0 C rfl rfl dJ29_moveRootToFront_25 ?_
        refine xr_lR 3 (.object "java/util/HashMap$Node") C E (fun _ => rfl) rfl xt_103 dJ29_moveRootToFront_26 (fun x3 E => ?_)
        refine xr_cast C E xi_14_HashMapTreeNode q1657 dJ29_moveRootToFront_27 (fun E => ?_)
        refine xr_astore (L2 := [(4, va_rf x3), (3, .int ((x1 - (1 : Int32)) &&& x2)), (2, .int x1), (0, va_rf a0), (1, va_rf a1)]) C rfl dJ29_moveRootToFront_30 (by decide) ?_
        refine xr_aload_n 4 C rfl rfl dJ29_moveRootToFront_32 ?_
        refine xr_aload 0 C rfl dJ29_moveRootToFront_33 ?_
        refine xr_acmp_eq 102 C E dJ29_moveRootToFront_35 (by decide) (fun E => ?_) (fun E => ?_)
        · refine xr_sub [4] rfl ?_
          exact wk_J29_moveRootToFront_J102 C Z E
        · refine xr_aload_n 3 C rfl rfl dJ29_moveRootToFront_38 ?_
          refine xr_iload_n 1 C rfl rfl dJ29_moveRootToFront_39 ?_
          refine xr_aload_n 4 C rfl rfl dJ29_moveRootToFront_40 ?_
          refine xr_sN C E xa_13_14_HashMapNode dJ29_moveRootToFront_41 (fun h4 E => ?_)
          refine xr_aload_n 4 C rfl rfl dJ29_moveRootToFront_42 ?_
          refine xr_gR C E xf_J29_19 dJ29_moveRootToFront_43 (fun x5 E => ?_)
          refine xr_astore (L2 := [(6, va_rf x5), (4, va_rf x3), (3, .int ((x1 - (1 : Int32)) &&& x2)), (2, .int x1), (0, va_rf a0), (1, va_rf a1)]) C rfl dJ29_moveRootToFront_46 (by decide) ?_
          refine xr_aload_n 5 C rfl rfl dJ29_moveRootToFront_48 ?_
          refine xr_gR C E xf_J29_22 dJ29_moveRootToFront_49 (fun x6 E => ?_)
          refine xr_dup C (xk_crf _) dJ29_moveRootToFront_52 ?_
          refine xr_astore (L2 := [(5, va_rf x6), (6, va_rf x5), (4, va_rf x3), (3, .int ((x1 - (1 : Int32)) &&& x2)), (2, .int x1), (0, va_rf a0), (1, va_rf a1)]) C rfl dJ29_moveRootToFront_53 (by decide) ?_
          refine xr_ifnull 68 C E dJ29_moveRootToFront_55 (by decide) (fun E => ?_) (fun E => ?_)
          · refine xr_sub [6, 2, 0, 1] rfl ?_
            exact wk_J29_moveRootToFront_J68 C Z E
          · refine xr_aload 0 C rfl dJ29_moveRootToFront_58 ?_
            refine xr_cast C E xi_14_HashMapTreeNode q1657 dJ29_moveRootToFront_60 (fun E => ?_)
            refine xr_aload 1 C rfl dJ29_moveRootToFront_63 ?_
            refine xr_pR C E xf_J29_19 xp_J29_19 (Or.inl ⟨_, rfl⟩) dJ29_moveRootToFront_65 (fun h13 E => ?_)
            refine xr_sub [6, 2, 0, 1] rfl ?_
            exact wk_J29_moveRootToFront_J68 C Z E
def mf_J29_treeify_J165 (kb64 : Option Nat → xk_H → Option (Unit × xk_H)) (kx171 : Int32 → Option Nat → xk_H → Option (Unit × xk_H)) (a1 : Option Nat) (a2 : Option Nat) (a3 : Option Nat) (a4 : Option Nat) (a5 : Option Nat) (a6 : Int32) (a7 : Option Nat) (a9 : Int32) (a12 : Option Nat) (s0 : Option Nat) (h0 : xk_H) : Option (Unit × xk_H) :=
  if s0 = none then (kx171 a9 a12 h0) else (kb64 s0 h0)
set_option maxHeartbeats 1000000 in
theorem wk_J29_treeify_J165 {Γ : xk_C} {r : Unit} {h' : xk_H} {kb64 : Option Nat → xk_H → Option (Unit × xk_H)} {kx171 : Int32 → Option Nat → xk_H → Option (Unit × xk_H)} {a1 : Option Nat} {a2 : Option Nat} {a3 : Option Nat} {a4 : Option Nat} {a5 : Option Nat} {a6 : Int32} {a7 : Option Nat} {a9 : Int32} {a12 : Option Nat} {s0 : Option Nat} {h0 : xk_H} (C : xk_Cx Γ RJ29 cJ29_treeify 13 none "treeify" 3 109) (Z : xk_Z Γ none h') (hkb64 : ∀ (m8 : Option Nat) (g : xk_H), kb64 m8 g = some (r, h') → xk_X Γ 64 [(1, va_rf a1), (2, va_rf a2), (3, va_rf a3), (4, va_rf a4), (5, va_rf a5), (6, .int a6), (7, va_rf a7), (8, va_rf m8)] [] g) (hkx171 : ∀ (m9 : Int32) (m12 : Option Nat) (g : xk_H), kx171 m9 m12 g = some (r, h') → xk_X Γ 171 [(1, va_rf a1), (2, va_rf a2), (3, va_rf a3), (4, va_rf a4), (9, .int m9), (12, va_rf m12)] [] g) (E : mf_J29_treeify_J165 kb64 kx171 a1 a2 a3 a4 a5 a6 a7 a9 a12 s0 h0 = some (r, h')) : xk_X Γ 165 [(1, va_rf a1), (2, va_rf a2), (3, va_rf a3), (4, va_rf a4), (5, va_rf a5), (6, .int a6), (7, va_rf a7), (9, .int a9), (12, va_rf a12)] [va_rf s0] h0 := by
  rw [mf_J29_treeify_J165] at E
  refine xr_dup C (xk_crf _) dJ29_treeify_165 ?_
  refine xr_astore (L2 := [(8, va_rf s0), (1, va_rf a1), (2, va_rf a2), (3, va_rf a3), (4, va_rf a4), (5, va_rf a5), (6, .int a6), (7, va_rf a7), (9, .int a9), (12, va_rf a12)]) C rfl dJ29_treeify_166 (by decide) ?_
  refine xr_ifnonnull 206 C E dJ29_treeify_168 (by decide) (fun E => ?_) (fun E => ?_)
  · refine xr_goto 64 C dJ29_treeify_206 (by decide) ?_
    refine xr_sub [1, 2, 3, 4, 5, 6, 7, 0] rfl ?_
    exact hkb64 s0 h0 E
  · refine xr_sub [1, 2, 3, 4, 8, 9] rfl ?_
    exact hkx171 a9 a12 h0 E
def mf_J29_treeify_J143 (kb64 : Option Nat → xk_H → Option (Unit × xk_H)) (kx171 : Int32 → Option Nat → xk_H → Option (Unit × xk_H)) (a1 : Option Nat) (a2 : Option Nat) (a3 : Option Nat) (a4 : Option Nat) (a5 : Option Nat) (a6 : Int32) (a7 : Option Nat) (a8 : Option Nat) (a9 : Int32) (h0 : xk_H) : Option (Unit × xk_H) :=
  if 0 < a9 then (xm_gR [14] 6 a8 h0 fun x8 => mf_J29_treeify_J165 kb64 kx171 a1 a2 a3 a4 a5 a6 a7 a9 a8 x8 h0) else (xm_gR [14] 5 a8 h0 fun x9 => mf_J29_treeify_J165 kb64 kx171 a1 a2 a3 a4 a5 a6 a7 a9 a8 x9 h0)
set_option maxHeartbeats 1000000 in
theorem wk_J29_treeify_J143 {Γ : xk_C} {r : Unit} {h' : xk_H} {kb64 : Option Nat → xk_H → Option (Unit × xk_H)} {kx171 : Int32 → Option Nat → xk_H → Option (Unit × xk_H)} {a1 : Option Nat} {a2 : Option Nat} {a3 : Option Nat} {a4 : Option Nat} {a5 : Option Nat} {a6 : Int32} {a7 : Option Nat} {a8 : Option Nat} {a9 : Int32} {h0 : xk_H} (C : xk_Cx Γ RJ29 cJ29_treeify 13 none "treeify" 3 109) (Z : xk_Z Γ none h') (hkb64 : ∀ (m8 : Option Nat) (g : xk_H), kb64 m8 g = some (r, h') → xk_X Γ 64 [(1, va_rf a1), (2, va_rf a2), (3, va_rf a3), (4, va_rf a4), (5, va_rf a5), (6, .int a6), (7, va_rf a7), (8, va_rf m8)] [] g) (hkx171 : ∀ (m9 : Int32) (m12 : Option Nat) (g : xk_H), kx171 m9 m12 g = some (r, h') → xk_X Γ 171 [(1, va_rf a1), (2, va_rf a2), (3, va_rf a3), (4, va_rf a4), (9, .int m9), (12, va_rf m12)] [] g) (E : mf_J29_treeify_J143 kb64 kx171 a1 a2 a3 a4 a5 a6 a7 a8 a9 h0 = some (r, h')) : xk_X Γ 143 [(1, va_rf a1), (2, va_rf a2), (3, va_rf a3), (4, va_rf a4), (5, va_rf a5), (6, .int a6), (7, va_rf a7), (8, va_rf a8), (9, .int a9)] [] h0 := by
  rw [mf_J29_treeify_J143] at E
  refine xr_aload 7 C rfl dJ29_treeify_143 ?_
  refine xr_astore (L2 := [(12, va_rf a8), (1, va_rf a1), (2, va_rf a2), (3, va_rf a3), (4, va_rf a4), (5, va_rf a5), (6, .int a6), (7, va_rf a7), (8, va_rf a8), (9, .int a9)]) C rfl dJ29_treeify_145 (by decide) ?_
  refine xr_iload 9 C rfl dJ29_treeify_147 ?_
  refine xr_if_gt 160 C E dJ29_treeify_149 (by decide) (fun E => ?_) (fun E => ?_)
  · refine xr_aload 8 C rfl dJ29_treeify_160 ?_
    refine xr_gR C E xf_J29_42 dJ29_treeify_162 (fun x8 E => ?_)
    refine xr_sub [1, 2, 3, 4, 5, 6, 7, 9, 0] rfl ?_
    exact wk_J29_treeify_J165 C Z hkb64 hkx171 E
  · refine xr_aload 8 C rfl dJ29_treeify_152 ?_
    refine xr_gR C E xf_J29_39 dJ29_treeify_154 (fun x9 E => ?_)
    refine xr_goto 165 C dJ29_treeify_157 (by decide) ?_
    refine xr_sub [1, 2, 3, 4, 5, 6, 7, 9, 0] rfl ?_
    exact wk_J29_treeify_J165 C Z hkb64 hkx171 E
def mf_J29_treeify_L64 (kx103 : Option Nat → xk_H → Option (Unit × xk_H)) (kx171 : Int32 → Option Nat → xk_H → Option (Unit × xk_H)) (a1 : Option Nat) (a2 : Option Nat) (a3 : Option Nat) (a4 : Option Nat) (a5 : Option Nat) (a6 : Int32) (a7 : Option Nat) : Nat → Option Nat → xk_H → Option (Unit × xk_H)
  | 0, _, _ => none
  | n + 1, a8, h0 => xm_gR [13, 14] 1 a8 h0 fun x6 => xm_gI [13, 14] 0 a8 h0 fun x7 => if x7 ≤ a6 then (if a6 ≤ x7 then (kx103 x6 h0) else (mf_J29_treeify_J143 (fun m8 g => mf_J29_treeify_L64 kx103 kx171 a1 a2 a3 a4 a5 a6 a7 n m8 g) kx171 a1 a2 a3 a4 a5 a6 a7 a8 (1 : Int32) h0)) else (mf_J29_treeify_J143 (fun m8 g => mf_J29_treeify_L64 kx103 kx171 a1 a2 a3 a4 a5 a6 a7 n m8 g) kx171 a1 a2 a3 a4 a5 a6 a7 a8 (-1 : Int32) h0)
set_option maxHeartbeats 1000000 in
theorem wk_J29_treeify_L64 {Γ : xk_C} {r : Unit} {h' : xk_H} {kx103 : Option Nat → xk_H → Option (Unit × xk_H)} {kx171 : Int32 → Option Nat → xk_H → Option (Unit × xk_H)} {a1 : Option Nat} {a2 : Option Nat} {a3 : Option Nat} {a4 : Option Nat} {a5 : Option Nat} {a6 : Int32} {a7 : Option Nat} (C : xk_Cx Γ RJ29 cJ29_treeify 13 none "treeify" 3 109) (Z : xk_Z Γ none h') (hkx103 : ∀ (m11 : Option Nat) (g : xk_H), kx103 m11 g = some (r, h') → xk_X Γ 103 [(5, va_rf a5), (7, va_rf a7), (11, va_rf m11)] [] g) (hkx171 : ∀ (m9 : Int32) (m12 : Option Nat) (g : xk_H), kx171 m9 m12 g = some (r, h') → xk_X Γ 171 [(1, va_rf a1), (2, va_rf a2), (3, va_rf a3), (4, va_rf a4), (9, .int m9), (12, va_rf m12)] [] g) : ∀ (n : Nat) (a8 : Option Nat) (h0 : xk_H), mf_J29_treeify_L64 kx103 kx171 a1 a2 a3 a4 a5 a6 a7 n a8 h0 = some (r, h') → xk_X Γ 64 [(1, va_rf a1), (2, va_rf a2), (3, va_rf a3), (4, va_rf a4), (5, va_rf a5), (6, .int a6), (7, va_rf a7), (8, va_rf a8)] [] h0 := by
  intro n
  induction n with
  | zero =>
    intro a8 h0 E
    rw [mf_J29_treeify_L64] at E
    cases E
  | succ n ih =>
    intro a8 h0 E
    have hkb64 : ∀ (m8 : Option Nat) (g : xk_H), mf_J29_treeify_L64 kx103 kx171 a1 a2 a3 a4 a5 a6 a7 n m8 g = some (r, h') → xk_X Γ 64 [(1, va_rf a1), (2, va_rf a2), (3, va_rf a3), (4, va_rf a4), (5, va_rf a5), (6, .int a6), (7, va_rf a7), (8, va_rf m8)] [] g := ih
    rw [mf_J29_treeify_L64] at E
    refine xr_aload 7 C rfl dJ29_treeify_64 ?_
    refine xr_gR C E xf_J29_45 dJ29_treeify_66 (fun x6 E => ?_)
    refine xr_astore (L2 := [(11, va_rf x6), (1, va_rf a1), (2, va_rf a2), (3, va_rf a3), (4, va_rf a4), (5, va_rf a5), (6, .int a6), (7, va_rf a7), (8, va_rf a8)]) C rfl dJ29_treeify_69 (by decide) ?_
    refine xr_aload 8 C rfl dJ29_treeify_71 ?_
    refine xr_gI C E xf_J29_15 dJ29_treeify_73 (fun x7 E => ?_)
    refine xr_dup C rfl dJ29_treeify_76 ?_
    refine xr_istore (L2 := [(10, .int x7), (11, va_rf x6), (1, va_rf a1), (2, va_rf a2), (3, va_rf a3), (4, va_rf a4), (5, va_rf a5), (6, .int a6), (7, va_rf a7), (8, va_rf a8)]) C rfl dJ29_treeify_77 (by decide) ?_
    refine xr_iload 7 C rfl dJ29_treeify_79 ?_
    refine xr_icmp_le 90 C E dJ29_treeify_81 (by decide) (fun E => ?_) (fun E => ?_)
    · refine xr_iload 0 C rfl dJ29_treeify_90 ?_
      refine xr_iload 7 C rfl dJ29_treeify_92 ?_
      refine xr_icmp_ge 103 C E dJ29_treeify_94 (by decide) (fun E => ?_) (fun E => ?_)
      · refine xr_sub [6, 8, 1] rfl ?_
        exact hkx103 x6 h0 E
      · refine xr_iconst (1) C (by decide) dJ29_treeify_97 ?_
        refine xr_istore (L2 := [(9, .int (1 : Int32)), (10, .int x7), (11, va_rf x6), (1, va_rf a1), (2, va_rf a2), (3, va_rf a3), (4, va_rf a4), (5, va_rf a5), (6, .int a6), (7, va_rf a7), (8, va_rf a8)]) C rfl dJ29_treeify_98 (by decide) ?_
        refine xr_goto 143 C dJ29_treeify_100 (by decide) ?_
        refine xr_sub [3, 4, 5, 6, 7, 8, 9, 10, 0] rfl ?_
        exact wk_J29_treeify_J143 C Z hkb64 hkx171 E
    · refine xr_iconst (-1) C (by decide) dJ29_treeify_84 ?_
      refine xr_istore (L2 := [(9, .int (-1 : Int32)), (10, .int x7), (11, va_rf x6), (1, va_rf a1), (2, va_rf a2), (3, va_rf a3), (4, va_rf a4), (5, va_rf a5), (6, .int a6), (7, va_rf a7), (8, va_rf a8)]) C rfl dJ29_treeify_85 (by decide) ?_
      refine xr_goto 143 C dJ29_treeify_87 (by decide) ?_
      refine xr_sub [3, 4, 5, 6, 7, 8, 9, 10, 0] rfl ?_
      exact wk_J29_treeify_J143 C Z hkb64 hkx171 E
def mf_J29_treeify_J197 (kb4 : Option Nat → Option Nat → xk_H → Option (Unit × xk_H)) (a1 : Option Nat) (a2 : Option Nat) (a3 : Option Nat) (a4 : Option Nat) (h0 : xk_H) : Option (Unit × xk_H) :=
  xm_cl (mf_J29_balanceInsertion a2 a3 h0) fun r17 h18 => kb4 r17 a4 h18
set_option maxHeartbeats 1000000 in
theorem wk_J29_treeify_J197 {Γ : xk_C} {r : Unit} {h' : xk_H} {kb4 : Option Nat → Option Nat → xk_H → Option (Unit × xk_H)} {a1 : Option Nat} {a2 : Option Nat} {a3 : Option Nat} {a4 : Option Nat} {h0 : xk_H} (C : xk_Cx Γ RJ29 cJ29_treeify 13 none "treeify" 3 109) (Z : xk_Z Γ none h') (hkb4 : ∀ (m2 : Option Nat) (m3 : Option Nat) (g : xk_H), kb4 m2 m3 g = some (r, h') → xk_X Γ 4 [(1, va_rf a1), (2, va_rf m2), (3, va_rf m3)] [] g) (E : mf_J29_treeify_J197 kb4 a1 a2 a3 a4 h0 = some (r, h')) : xk_X Γ 197 [(1, va_rf a1), (2, va_rf a2), (3, va_rf a3), (4, va_rf a4)] [] h0 := by
  rw [mf_J29_treeify_J197] at E
  refine xr_aload_n 1 C rfl rfl dJ29_treeify_197 ?_
  refine xr_aload_n 2 C rfl rfl dJ29_treeify_198 ?_
  refine xr_S [va_rf a2, va_rf a3] [] (fun r => some (va_rf r)) (fun r => va_rf r :: []) C E (fun r h' e => wk_J29_balanceInsertion e) q1703 q1704 q116 q1705 xh_java_util_HashMap_TreeNode xd_J29_balanceInsertion (by decide) (by decide) trivial (Nat.le_of_ble_eq_true rfl) rfl (fun _ => rfl) dJ29_treeify_199 (fun r17 h18 E => ?_)
  refine xr_astore_n (L2 := [(2, va_rf r17), (1, va_rf a1), (3, va_rf a3), (4, va_rf a4)]) C rfl rfl dJ29_treeify_202 (by decide) ?_
  refine xr_goto 209 C dJ29_treeify_203 (by decide) ?_
  refine xr_aload 3 C rfl dJ29_treeify_209 ?_
  refine xr_astore_n (L2 := [(3, va_rf a4), (2, va_rf r17), (1, va_rf a1), (4, va_rf a4)]) C rfl rfl dJ29_treeify_211 (by decide) ?_
  refine xr_goto 4 C dJ29_treeify_212 (by decide) ?_
  refine xr_sub [2, 1, 0] rfl ?_
  exact hkb4 r17 a4 h18 E
def mf_J29_treeify_L4 (kx215 : Option Nat → xk_H → Option (Unit × xk_H)) (kx103 : Option Nat → Option Nat → Option Nat → xk_H → Option (Unit × xk_H)) (a1 : Option Nat) : Nat → Option Nat → Option Nat → xk_H → Option (Unit × xk_H)
  | 0, _, _, _ => none
  | n + 1, a2, a3, h0 => if a3 = none then (kx215 a2 h0) else (xm_gR [13, 14] 3 a3 h0 fun x1 => xm_cast [14] x1 h0 <| xm_pV [14] 6 a3 (va_rf none) h0 fun h2 => xm_pV [14] 5 a3 (va_rf none) h2 fun h3 => if a2 = none then (xm_pV [14] 4 a3 (va_rf none) h3 fun h20 => xm_pN .boolean [14] 8 a3 (0 : Int32) h20 fun h21 => mf_J29_treeify_L4 kx215 kx103 a1 n a3 x1 h21) else (xm_gR [13, 14] 1 a3 h3 fun x4 => xm_gI [13, 14] 0 a3 h3 fun x5 => mf_J29_treeify_L64 (fun m10 h11 => kx103 x4 none m10 h11) (fun m12 m13 h14 => xm_pV [14] 4 a3 (va_rf m13) h14 fun h15 => if 0 < m12 then (xm_pV [14] 6 m13 (va_rf a3) h15 fun h16 => mf_J29_treeify_J197 (fun m2 m3 g => mf_J29_treeify_L4 kx215 kx103 a1 n m2 m3 g) a1 a2 a3 x1 h16) else (xm_pV [14] 5 m13 (va_rf a3) h15 fun h19 => mf_J29_treeify_J197 (fun m2 m3 g => mf_J29_treeify_L4 kx215 kx103 a1 n m2 m3 g) a1 a2 a3 x1 h19)) a1 a2 a3 x1 x4 x5 none xk_fu a2 h3))
set_option maxHeartbeats 1000000 in
theorem wk_J29_treeify_L4 {Γ : xk_C} {r : Unit} {h' : xk_H} {kx215 : Option Nat → xk_H → Option (Unit × xk_H)} {kx103 : Option Nat → Option Nat → Option Nat → xk_H → Option (Unit × xk_H)} {a1 : Option Nat} (C : xk_Cx Γ RJ29 cJ29_treeify 13 none "treeify" 3 109) (Z : xk_Z Γ none h') (hkx215 : ∀ (m2 : Option Nat) (g : xk_H), kx215 m2 g = some (r, h') → xk_X Γ 215 [(1, va_rf a1), (2, va_rf m2)] [] g) (hkx103 : ∀ (m5 : Option Nat) (m7 : Option Nat) (m11 : Option Nat) (g : xk_H), kx103 m5 m7 m11 g = some (r, h') → xk_X Γ 103 [(5, va_rf m5), (7, va_rf m7), (11, va_rf m11)] [] g) : ∀ (n : Nat) (a2 : Option Nat) (a3 : Option Nat) (h0 : xk_H), mf_J29_treeify_L4 kx215 kx103 a1 n a2 a3 h0 = some (r, h') → xk_X Γ 4 [(1, va_rf a1), (2, va_rf a2), (3, va_rf a3)] [] h0 := by
  intro n
  induction n with
  | zero =>
    intro a2 a3 h0 E
    rw [mf_J29_treeify_L4] at E
    cases E
  | succ n ih =>
    intro a2 a3 h0 E
    have hkb4 : ∀ (m2 : Option Nat) (m3 : Option Nat) (g : xk_H), mf_J29_treeify_L4 kx215 kx103 a1 n m2 m3 g = some (r, h') → xk_X Γ 4 [(1, va_rf a1), (2, va_rf m2), (3, va_rf m3)] [] g := ih
    rw [mf_J29_treeify_L4] at E
    refine xr_aload_n 2 C rfl rfl dJ29_treeify_4 ?_
    refine xr_ifnull 215 C E dJ29_treeify_5 (by decide) (fun E => ?_) (fun E => ?_)
    · refine xr_sub [0, 1] rfl ?_
      exact hkx215 a2 h0 E
    · refine xr_aload_n 2 C rfl rfl dJ29_treeify_8 ?_
      refine xr_gR C E xf_J29_22 dJ29_treeify_9 (fun x1 E => ?_)
      refine xr_cast C E xi_14_HashMapTreeNode q1657 dJ29_treeify_12 (fun E => ?_)
      refine xr_astore (L2 := [(4, va_rf x1), (1, va_rf a1), (2, va_rf a2), (3, va_rf a3)]) C rfl dJ29_treeify_15 (by decide) ?_
      refine xr_aload_n 3 C rfl rfl dJ29_treeify_17 ?_
      refine xr_aload_n 3 C rfl rfl dJ29_treeify_18 ?_
      refine xr_null C dJ29_treeify_19 ?_
      refine xr_dup_x1 C (xk_crf _) (xk_crf _) dJ29_treeify_20 ?_
      refine xr_pR C E xf_J29_42 xp_J29_42 (Or.inl ⟨_, rfl⟩) dJ29_treeify_21 (fun h2 E => ?_)
      refine xr_pR C E xf_J29_39 xp_J29_39 (Or.inl ⟨_, rfl⟩) dJ29_treeify_24 (fun h3 E => ?_)
      refine xr_aload_n 2 C rfl rfl dJ29_treeify_27 ?_
      refine xr_ifnonnull 46 C E dJ29_treeify_28 (by decide) (fun E => ?_) (fun E => ?_)
      · refine xr_aload_n 3 C rfl rfl dJ29_treeify_46 ?_
        refine xr_gR C E xf_J29_45 dJ29_treeify_47 (fun x4 E => ?_)
        refine xr_astore (L2 := [(5, va_rf x4), (4, va_rf x1), (1, va_rf a1), (2, va_rf a2), (3, va_rf a3)]) C rfl dJ29_treeify_50 (by decide) ?_
        refine xr_aload_n 4 C rfl rfl dJ29_treeify_52 ?_
        refine xr_gI C E xf_J29_15 dJ29_treeify_53 (fun x5 E => ?_)
        refine xr_istore (L2 := [(6, .int x5), (5, va_rf x4), (4, va_rf x1), (1, va_rf a1), (2, va_rf a2), (3, va_rf a3)]) C rfl dJ29_treeify_56 (by decide) ?_
        refine xr_null C dJ29_treeify_58 ?_
        refine xr_astore (L2 := [(7, va_rf none), (6, .int x5), (5, va_rf x4), (4, va_rf x1), (1, va_rf a1), (2, va_rf a2), (3, va_rf a3)]) C rfl dJ29_treeify_59 (by decide) ?_
        refine xr_aload_n 5 C rfl rfl dJ29_treeify_61 ?_
        refine xr_astore (L2 := [(8, va_rf a2), (7, va_rf none), (6, .int x5), (5, va_rf x4), (4, va_rf x1), (1, va_rf a1), (2, va_rf a2), (3, va_rf a3)]) C rfl dJ29_treeify_62 (by decide) ?_
        refine xr_sub [5, 6, 7, 4, 3, 2, 1, 0] rfl ?_
        refine wk_J29_treeify_L64 (a1 := a1) (a2 := a2) (a3 := a3) (a4 := x1) (a5 := x4) (a6 := x5) (a7 := none) C Z (fun m10 h11 E => ?_) (fun m12 m13 h14 E => ?_) xk_fu a2 h3 E
        · exact hkx103 x4 none m10 h11 E
        · refine xr_aload_n 2 C rfl rfl dJ29_treeify_171 ?_
          refine xr_aload 5 C rfl dJ29_treeify_172 ?_
          refine xr_pR C E xf_J29_9 xp_J29_9 (Or.inl ⟨_, rfl⟩) dJ29_treeify_174 (fun h15 E => ?_)
          refine xr_iload 4 C rfl dJ29_treeify_177 ?_
          refine xr_if_gt 191 C E dJ29_treeify_179 (by decide) (fun E => ?_) (fun E => ?_)
          · refine xr_aload 5 C rfl dJ29_treeify_191 ?_
            refine xr_aload_n 2 C rfl rfl dJ29_treeify_193 ?_
            refine xr_pR C E xf_J29_42 xp_J29_42 (Or.inl ⟨_, rfl⟩) dJ29_treeify_194 (fun h16 E => ?_)
            refine xr_sub [0, 1, 2, 3] rfl ?_
            exact wk_J29_treeify_J197 C Z hkb4 E
          · refine xr_aload 5 C rfl dJ29_treeify_182 ?_
            refine xr_aload_n 2 C rfl rfl dJ29_treeify_184 ?_
            refine xr_pR C E xf_J29_39 xp_J29_39 (Or.inl ⟨_, rfl⟩) dJ29_treeify_185 (fun h19 E => ?_)
            refine xr_goto 197 C dJ29_treeify_188 (by decide) ?_
            refine xr_sub [0, 1, 2, 3] rfl ?_
            exact wk_J29_treeify_J197 C Z hkb4 E
      · refine xr_aload_n 3 C rfl rfl dJ29_treeify_31 ?_
        refine xr_null C dJ29_treeify_32 ?_
        refine xr_pR C E xf_J29_9 xp_J29_9 (Or.inl ⟨_, rfl⟩) dJ29_treeify_33 (fun h20 E => ?_)
        refine xr_aload_n 3 C rfl rfl dJ29_treeify_36 ?_
        refine xr_iconst (0) C (by decide) dJ29_treeify_37 ?_
        refine xr_pN C E xf_J29_93 xp_J29_93 dJ29_treeify_38 (fun h21 E => ?_)
        refine xr_aload_n 3 C rfl rfl dJ29_treeify_41 ?_
        refine xr_astore_n (L2 := [(2, va_rf a3), (4, va_rf x1), (1, va_rf a1), (3, va_rf a3)]) C rfl rfl dJ29_treeify_42 (by decide) ?_
        refine xr_goto 209 C dJ29_treeify_43 (by decide) ?_
        refine xr_aload 1 C rfl dJ29_treeify_209 ?_
        refine xr_astore_n (L2 := [(3, va_rf x1), (2, va_rf a3), (4, va_rf x1), (1, va_rf a1)]) C rfl rfl dJ29_treeify_211 (by decide) ?_
        refine xr_goto 4 C dJ29_treeify_212 (by decide) ?_
        refine xr_sub [3, 1, 0] rfl ?_
        exact hkb4 a3 x1 h21 E
def mf_J29_treeify (a0 : Option Nat) (a1 : Option Nat) (h0 : xk_H) : Option (Unit × xk_H) :=
  mf_J29_treeify_L4 (fun m22 h23 => xm_cl (mf_J29_moveRootToFront a1 m22 h23) fun r24 h25 => some ((), h25)) (fun m26 m27 m28 h29 => if m27 = none then (none) else (none)) a1 xk_fu none a0 h0
set_option maxHeartbeats 1000000 in
theorem wk_J29_treeify {l : Launch} {D : va_G} {base : Nat} {a0 : Option Nat} {a1 : Option Nat} {h0 : xk_H} {r : Unit} {h' : xk_H} (E : mf_J29_treeify a0 a1 h0 = some (r, h')) : xk_Ok l D base yJ29_treeify cJ29_treeify 13 none 3 109 [va_rf a0, va_rf a1] h0 none h' := by
  refine xk_ofX RJ29 "treeify" xq_J29_treeify rfl rfl (Nat.le_of_ble_eq_true rfl) ⟨xk_crf _, ⟨xk_crf _, trivial⟩⟩ (fun Γ el eD eb C Z => ?_)
  rw [mf_J29_treeify] at E
  show xk_X Γ 0 [(0, va_rf a0), (1, va_rf a1)] [] h0
  refine xr_null C dJ29_treeify_0 ?_
  refine xr_astore_n (L2 := [(2, va_rf none), (0, va_rf a0), (1, va_rf a1)]) C rfl rfl dJ29_treeify_1 (by decide) ?_
  refine xr_aload_n 1 C rfl rfl dJ29_treeify_2 ?_
  refine xr_astore_n (L2 := [(3, va_rf a0), (2, va_rf none), (0, va_rf a0), (1, va_rf a1)]) C rfl rfl dJ29_treeify_3 (by decide) ?_
  refine xr_sub [3, 1, 0] rfl ?_
  refine wk_J29_treeify_L4 (a1 := a1) C Z (fun m22 h23 E => ?_) (fun m26 m27 m28 h29 E => ?_) xk_fu none a0 h0 E
  · refine xr_aload_n 0 C rfl rfl dJ29_treeify_215 ?_
    refine xr_aload_n 1 C rfl rfl dJ29_treeify_216 ?_
    refine xr_S [va_rf a1, va_rf m22] [] (fun _ => none) (fun _ => []) C E (fun r h' e => wk_J29_moveRootToFront e) q1712 q1713 q116 q1714 xh_java_util_HashMap_TreeNode xd_J29_moveRootToFront (by decide) (by decide) trivial (Nat.le_of_ble_eq_true rfl) rfl (fun _ => rfl) dJ29_treeify_217 (fun r24 h25 E => ?_)
    exact xr_vret C Z E dJ29_treeify_220
  · refine xr_aload 1 C rfl dJ29_treeify_103 ?_
    refine xr_ifnonnull 119 C E dJ29_treeify_105 (by decide) (fun E => ?_) (fun E => ?_)
    · refine xr_aload 1 C rfl dJ29_treeify_119 ?_
      refine xr_aload 0 C rfl dJ29_treeify_121 ?_
      refine xr_aload 2 C rfl dJ29_treeify_123 ?_
      cases E
    · refine xr_aload 0 C rfl dJ29_treeify_108 ?_
      cases E
def mf_J24_treeifyBin_J13 (a0 : Option Nat) (h0 : xk_H) : Option (Unit × xk_H) :=
  xm_rc [12] a0 h0 <| xm_cl (mf_J24_resize a0 h0) fun r1 h2 => some ((), h2)
set_option maxHeartbeats 1000000 in
theorem wk_J24_treeifyBin_J13 {Γ : xk_C} {r : Unit} {h' : xk_H} {a0 : Option Nat} {h0 : xk_H} (C : xk_Cx Γ RJ24 cJ24_treeifyBin 9 none "treeifyBin" 5 154) (Z : xk_Z Γ none h') (E : mf_J24_treeifyBin_J13 a0 h0 = some (r, h')) : xk_X Γ 13 [(0, va_rf a0)] [] h0 := by
  rw [mf_J24_treeifyBin_J13] at E
  refine xr_aload_n 0 C rfl rfl dJ24_treeifyBin_13 ?_
  refine xr_V (v := a0) [] [] (fun r => some (va_rf r)) (fun r => va_rf r :: []) C E xi_12_HashMap (fun r h' e => wk_J24_resize e) q1644 q1645 q1646 q109 q1647 xh_java_util_HashMap xd_J24_resize (by decide) (by decide) trivial (Nat.le_of_ble_eq_true rfl) rfl (fun _ => rfl) dJ24_treeifyBin_14 (fun r1 h2 E => ?_)
  refine xr_pop C (xk_crf _) dJ24_treeifyBin_17 ?_
  refine xr_goto 109 C dJ24_treeifyBin_18 (by decide) ?_
  exact xr_vret C Z E dJ24_treeifyBin_109
def mf_J24_treeifyBin_J78 (kb43 : Option Nat → Option Nat → Option Nat → xk_H → Option (Unit × xk_H)) (kx93 : Option Nat → xk_H → Option (Unit × xk_H)) (a0 : Option Nat) (a1 : Option Nat) (a4 : Int32) (a5 : Option Nat) (a6 : Option Nat) (a8 : Option Nat) (h0 : xk_H) : Option (Unit × xk_H) :=
  xm_gR [13, 14] 3 a5 h0 fun x9 => if x9 = none then (kx93 a6 h0) else (kb43 x9 a6 a8 h0)
set_option maxHeartbeats 1000000 in
theorem wk_J24_treeifyBin_J78 {Γ : xk_C} {r : Unit} {h' : xk_H} {kb43 : Option Nat → Option Nat → Option Nat → xk_H → Option (Unit × xk_H)} {kx93 : Option Nat → xk_H → Option (Unit × xk_H)} {a0 : Option Nat} {a1 : Option Nat} {a4 : Int32} {a5 : Option Nat} {a6 : Option Nat} {a8 : Option Nat} {h0 : xk_H} (C : xk_Cx Γ RJ24 cJ24_treeifyBin 9 none "treeifyBin" 5 154) (Z : xk_Z Γ none h') (hkb43 : ∀ (m5 : Option Nat) (m6 : Option Nat) (m7 : Option Nat) (g : xk_H), kb43 m5 m6 m7 g = some (r, h') → xk_X Γ 43 [(0, va_rf a0), (1, va_rf a1), (4, .int a4), (5, va_rf m5), (6, va_rf m6), (7, va_rf m7)] [] g) (hkx93 : ∀ (m6 : Option Nat) (g : xk_H), kx93 m6 g = some (r, h') → xk_X Γ 93 [(1, va_rf a1), (4, .int a4), (6, va_rf m6)] [] g) (E : mf_J24_treeifyBin_J78 kb43 kx93 a0 a1 a4 a5 a6 a8 h0 = some (r, h')) : xk_X Γ 78 [(0, va_rf a0), (1, va_rf a1), (4, .int a4), (5, va_rf a5), (6, va_rf a6), (8, va_rf a8)] [] h0 := by
  rw [mf_J24_treeifyBin_J78] at E
  refine xr_aload 5 C rfl dJ24_treeifyBin_78 ?_
  refine xr_astore (L2 := [(7, va_rf a8), (0, va_rf a0), (1, va_rf a1), (4, .int a4), (5, va_rf a5), (6, va_rf a6), (8, va_rf a8)]) C rfl dJ24_treeifyBin_80 (by decide) ?_
  refine xr_aload 4 C rfl dJ24_treeifyBin_82 ?_
  refine xr_gR C E xf_J24_177 dJ24_treeifyBin_84 (fun x9 E => ?_)
  refine xr_dup C (xk_crf _) dJ24_treeifyBin_87 ?_
  refine xr_astore (L2 := [(5, va_rf x9), (7, va_rf a8), (0, va_rf a0), (1, va_rf a1), (4, .int a4), (6, va_rf a6), (8, va_rf a8)]) C rfl dJ24_treeifyBin_88 (by decide) ?_
  refine xr_ifnonnull 43 C E dJ24_treeifyBin_90 (by decide) (fun E => ?_) (fun E => ?_)
  · refine xr_sub [2, 3, 4, 0, 5, 1] rfl ?_
    exact hkb43 x9 a6 a8 h0 E
  · refine xr_sub [3, 4, 5] rfl ?_
    exact hkx93 a6 h0 E
def mf_J24_treeifyBin_L43 (kx93 : Option Nat → xk_H → Option (Unit × xk_H)) (a0 : Option Nat) (a1 : Option Nat) (a4 : Int32) : Nat → Option Nat → Option Nat → Option Nat → xk_H → Option (Unit × xk_H)
  | 0, _, _, _, _ => none
  | n + 1, a5, a6, a7, h0 => xm_rc [12] a0 h0 <| xm_cl (mf_J24_replacementTreeNode a0 a5 none h0) fun r5 h6 => if a7 = none then (mf_J24_treeifyBin_J78 (fun m5 m6 m7 g => mf_J24_treeifyBin_L43 kx93 a0 a1 a4 n m5 m6 m7 g) kx93 a0 a1 a4 a5 r5 r5 h6) else (xm_pV [14] 7 r5 (va_rf a7) h6 fun h7 => xm_pV [13, 14] 3 a7 (va_rf r5) h7 fun h8 => mf_J24_treeifyBin_J78 (fun m5 m6 m7 g => mf_J24_treeifyBin_L43 kx93 a0 a1 a4 n m5 m6 m7 g) kx93 a0 a1 a4 a5 a6 r5 h8)
set_option maxHeartbeats 1000000 in
theorem wk_J24_treeifyBin_L43 {Γ : xk_C} {r : Unit} {h' : xk_H} {kx93 : Option Nat → xk_H → Option (Unit × xk_H)} {a0 : Option Nat} {a1 : Option Nat} {a4 : Int32} (C : xk_Cx Γ RJ24 cJ24_treeifyBin 9 none "treeifyBin" 5 154) (Z : xk_Z Γ none h') (hkx93 : ∀ (m6 : Option Nat) (g : xk_H), kx93 m6 g = some (r, h') → xk_X Γ 93 [(1, va_rf a1), (4, .int a4), (6, va_rf m6)] [] g) : ∀ (n : Nat) (a5 : Option Nat) (a6 : Option Nat) (a7 : Option Nat) (h0 : xk_H), mf_J24_treeifyBin_L43 kx93 a0 a1 a4 n a5 a6 a7 h0 = some (r, h') → xk_X Γ 43 [(0, va_rf a0), (1, va_rf a1), (4, .int a4), (5, va_rf a5), (6, va_rf a6), (7, va_rf a7)] [] h0 := by
  intro n
  induction n with
  | zero =>
    intro a5 a6 a7 h0 E
    rw [mf_J24_treeifyBin_L43] at E
    cases E
  | succ n ih =>
    intro a5 a6 a7 h0 E
    have hkb43 : ∀ (m5 : Option Nat) (m6 : Option Nat) (m7 : Option Nat) (g : xk_H), mf_J24_treeifyBin_L43 kx93 a0 a1 a4 n m5 m6 m7 g = some (r, h') → xk_X Γ 43 [(0, va_rf a0), (1, va_rf a1), (4, .int a4), (5, va_rf m5), (6, va_rf m6), (7, va_rf m7)] [] g := ih
    rw [mf_J24_treeifyBin_L43] at E
    refine xr_aload_n 0 C rfl rfl dJ24_treeifyBin_43 ?_
    refine xr_aload 3 C rfl dJ24_treeifyBin_44 ?_
    refine xr_null C dJ24_treeifyBin_46 ?_
    refine xr_V (v := a0) [va_rf a5, va_rf none] [] (fun r => some (va_rf r)) (fun r => va_rf r :: []) C E xi_12_HashMap (fun r h' e => wk_J24_replacementTreeNode e) q1766 q1767 q1768 q109 q1769 xh_java_util_HashMap xd_J24_replacementTreeNode (by decide) (by decide) trivial (Nat.le_of_ble_eq_true rfl) rfl (fun _ => rfl) dJ24_treeifyBin_47 (fun r5 h6 E => ?_)
    refine xr_astore (L2 := [(8, va_rf r5), (0, va_rf a0), (1, va_rf a1), (4, .int a4), (5, va_rf a5), (6, va_rf a6), (7, va_rf a7)]) C rfl dJ24_treeifyBin_50 (by decide) ?_
    refine xr_aload 6 C rfl dJ24_treeifyBin_52 ?_
    refine xr_ifnonnull 64 C E dJ24_treeifyBin_54 (by decide) (fun E => ?_) (fun E => ?_)
    · refine xr_aload 0 C rfl dJ24_treeifyBin_64 ?_
      refine xr_aload 6 C rfl dJ24_treeifyBin_66 ?_
      refine xr_pR C E xf_J24_219 xp_J24_219 (Or.inl ⟨_, rfl⟩) dJ24_treeifyBin_68 (fun h7 E => ?_)
      refine xr_aload 6 C rfl dJ24_treeifyBin_71 ?_
      refine xr_aload 0 C rfl dJ24_treeifyBin_73 ?_
      refine xr_pR C E xf_J24_223 xp_J24_223 (Or.inl ⟨_, rfl⟩) dJ24_treeifyBin_75 (fun h8 E => ?_)
      refine xr_sub [1, 2, 3, 4, 5, 0] rfl ?_
      exact wk_J24_treeifyBin_J78 C Z hkb43 hkx93 E
    · refine xr_aload 0 C rfl dJ24_treeifyBin_57 ?_
      refine xr_astore (L2 := [(6, va_rf r5), (8, va_rf r5), (0, va_rf a0), (1, va_rf a1), (4, .int a4), (5, va_rf a5), (7, va_rf a7)]) C rfl dJ24_treeifyBin_59 (by decide) ?_
      refine xr_goto 78 C dJ24_treeifyBin_61 (by decide) ?_
      refine xr_sub [2, 3, 4, 5, 0, 1] rfl ?_
      exact wk_J24_treeifyBin_J78 C Z hkb43 hkx93 E
def mf_J24_treeifyBin (a0 : Option Nat) (a1 : Option Nat) (a2 : Int32) (h0 : xk_H) : Option (Unit × xk_H) :=
  if a1 = none then (mf_J24_treeifyBin_J13 a0 h0) else (xm_len [103] a1 h0 fun x3 => if (64 : Int32) ≤ x3 then (xm_lR [103] a1 ((x3 - (1 : Int32)) &&& a2) h0 fun x4 => if x4 = none then (some ((), h0)) else (mf_J24_treeifyBin_L43 (fun m10 h11 => xm_sR [103] [13, 14] a1 ((x3 - (1 : Int32)) &&& a2) m10 h11 fun h12 => if m10 = none then (some ((), h12)) else (xm_rc [14] m10 h12 <| xm_cl (mf_J29_treeify m10 a1 h12) fun r13 h14 => some ((), h14))) a0 a1 ((x3 - (1 : Int32)) &&& a2) xk_fu x4 none none h0)) else (mf_J24_treeifyBin_J13 a0 h0))
set_option maxHeartbeats 1000000 in
theorem wk_J24_treeifyBin {l : Launch} {D : va_G} {base : Nat} {a0 : Option Nat} {a1 : Option Nat} {a2 : Int32} {h0 : xk_H} {r : Unit} {h' : xk_H} (E : mf_J24_treeifyBin a0 a1 a2 h0 = some (r, h')) : xk_Ok l D base yJ24_treeifyBin cJ24_treeifyBin 9 none 5 154 [va_rf a0, va_rf a1, .int a2] h0 none h' := by
  refine xk_ofX RJ24 "treeifyBin" xq_J24_treeifyBin rfl rfl (Nat.le_of_ble_eq_true rfl) ⟨xk_crf _, ⟨xk_crf _, ⟨rfl, trivial⟩⟩⟩ (fun Γ el eD eb C Z => ?_)
  rw [mf_J24_treeifyBin] at E
  show xk_X Γ 0 [(0, va_rf a0), (1, va_rf a1), (2, .int a2)] [] h0
  refine xr_aload_n 1 C rfl rfl dJ24_treeifyBin_0 ?_
  refine xr_ifnull 13 C E dJ24_treeifyBin_1 (by decide) (fun E => ?_) (fun E => ?_)
  · refine xr_sub [0] rfl ?_
    exact wk_J24_treeifyBin_J13 C Z E
  · refine xr_aload_n 1 C rfl rfl dJ24_treeifyBin_4 ?_
    refine xr_len 3 (.object "java/util/HashMap$Node") C E (fun _ => rfl) xt_103 dJ24_treeifyBin_5 (fun x3 E => ?_)
    refine xr_dup C rfl dJ24_treeifyBin_6 ?_
    refine xr_istore_n (L2 := [(3, .int x3), (0, va_rf a0), (1, va_rf a1), (2, .int a2)]) C rfl rfl dJ24_treeifyBin_7 (by decide) ?_
    refine xr_bipush (64) C (by decide) dJ24_treeifyBin_8 ?_
    refine xr_icmp_ge 21 C E dJ24_treeifyBin_10 (by decide) (fun E => ?_) (fun E => ?_)
    · refine xr_aload_n 2 C rfl rfl dJ24_treeifyBin_21 ?_
      refine xr_iload_n 0 C rfl rfl dJ24_treeifyBin_22 ?_
      refine xr_iconst (1) C (by decide) dJ24_treeifyBin_23 ?_
      refine xr_isub C dJ24_treeifyBin_24 ?_
      refine xr_iload_n 3 C rfl rfl dJ24_treeifyBin_25 ?_
      refine xr_iand C dJ24_treeifyBin_26 ?_
      refine xr_dup C rfl dJ24_treeifyBin_27 ?_
      refine xr_istore (L2 := [(4, .int ((x3 - (1 : Int32)) &&& a2)), (3, .int x3), (0, va_rf a0), (1, va_rf a1), (2, .int a2)]) C rfl dJ24_treeifyBin_28 (by decide) ?_
      refine xr_lR 3 (.object "java/util/HashMap$Node") C E (fun _ => rfl) rfl xt_103 dJ24_treeifyBin_30 (fun x4 E => ?_)
      refine xr_dup C (xk_crf _) dJ24_treeifyBin_31 ?_
      refine xr_astore (L2 := [(5, va_rf x4), (4, .int ((x3 - (1 : Int32)) &&& a2)), (3, .int x3), (0, va_rf a0), (1, va_rf a1), (2, .int a2)]) C rfl dJ24_treeifyBin_32 (by decide) ?_
      refine xr_ifnull 109 C E dJ24_treeifyBin_34 (by decide) (fun E => ?_) (fun E => ?_)
      · exact xr_vret C Z E dJ24_treeifyBin_109
      · refine xr_null C dJ24_treeifyBin_37 ?_
        refine xr_astore (L2 := [(6, va_rf none), (5, va_rf x4), (4, .int ((x3 - (1 : Int32)) &&& a2)), (3, .int x3), (0, va_rf a0), (1, va_rf a1), (2, .int a2)]) C rfl dJ24_treeifyBin_38 (by decide) ?_
        refine xr_null C dJ24_treeifyBin_40 ?_
        refine xr_astore (L2 := [(7, va_rf none), (6, va_rf none), (5, va_rf x4), (4, .int ((x3 - (1 : Int32)) &&& a2)), (3, .int x3), (0, va_rf a0), (1, va_rf a1), (2, .int a2)]) C rfl dJ24_treeifyBin_41 (by decide) ?_
        refine xr_sub [5, 6, 3, 2, 1, 0] rfl ?_
        refine wk_J24_treeifyBin_L43 (a0 := a0) (a1 := a1) (a4 := ((x3 - (1 : Int32)) &&& a2)) C Z (fun m10 h11 E => ?_) xk_fu x4 none none h0 E
        · refine xr_aload_n 0 C rfl rfl dJ24_treeifyBin_93 ?_
          refine xr_iload 1 C rfl dJ24_treeifyBin_94 ?_
          refine xr_aload 2 C rfl dJ24_treeifyBin_96 ?_
          refine xr_dup_x2 C (xk_crf _) rfl (xk_crf _) dJ24_treeifyBin_98 ?_
          refine xr_sN C E xa_13_14_HashMapNode dJ24_treeifyBin_99 (fun h12 E => ?_)
          refine xr_ifnull 109 C E dJ24_treeifyBin_100 (by decide) (fun E => ?_) (fun E => ?_)
          · exact xr_vret C Z E dJ24_treeifyBin_109
          · refine xr_aload 2 C rfl dJ24_treeifyBin_103 ?_
            refine xr_aload_n 0 C rfl rfl dJ24_treeifyBin_105 ?_
            refine xr_V (v := m10) [va_rf a1] [] (fun _ => none) (fun _ => []) C E xi_14_HashMapTreeNode (fun r h' e => wk_J29_treeify e) q1770 q1700 q1701 q116 q1702 xh_java_util_HashMap_TreeNode xd_J29_treeify (by decide) (by decide) trivial (Nat.le_of_ble_eq_true rfl) rfl (fun _ => rfl) dJ24_treeifyBin_106 (fun r13 h14 E => ?_)
            exact xr_vret C Z E dJ24_treeifyBin_109
    · refine xr_sub [1] rfl ?_
      exact wk_J24_treeifyBin_J13 C Z E
def mf_J24_newTreeNode (a0 : Option Nat) (a1 : Int32) (a2 : Option Nat) (a3 : Option Nat) (a4 : Option Nat) (h0 : xk_H) : Option (Option Nat × xk_H) :=
  xm_new 14 [.int 0, .null, .null, .null, .null, .null, .null, .null, .int 0, .null, .null] h0 fun b1 h2 => xm_cl (mf_J29_init b1 a1 a2 a3 a4 h2) fun r3 h4 => some ((some b1), h4)
set_option maxHeartbeats 1000000 in
theorem wk_J24_newTreeNode {l : Launch} {D : va_G} {base : Nat} {a0 : Option Nat} {a1 : Int32} {a2 : Option Nat} {a3 : Option Nat} {a4 : Option Nat} {h0 : xk_H} {r : Option Nat} {h' : xk_H} (E : mf_J24_newTreeNode a0 a1 a2 a3 a4 h0 = some (r, h')) : xk_Ok l D base yJ24_newTreeNode cJ24_newTreeNode 5 (Option.some (FieldType.object "java/util/HashMap$TreeNode")) 4 132 [va_rf a0, .int a1, va_rf a2, va_rf a3, va_rf a4] h0 (some (va_rf r)) h' := by
  refine xk_ofX RJ24 "newTreeNode" xq_J24_newTreeNode rfl rfl (Nat.le_of_ble_eq_true rfl) ⟨xk_crf _, ⟨rfl, ⟨xk_crf _, ⟨xk_crf _, ⟨xk_crf _, trivial⟩⟩⟩⟩⟩ (fun Γ el eD eb C Z => ?_)
  rw [mf_J24_newTreeNode] at E
  show xk_X Γ 0 [(0, va_rf a0), (1, .int a1), (2, va_rf a2), (3, va_rf a3), (4, va_rf a4)] [] h0
  refine xr_new (t := 14) (C0 := "java/util/HashMap$TreeNode") (n := 11) C E (by decide) xn_J29 (fun r hr => by cases hr; exact ⟨rfl, rfl⟩) q1418 q1729 q116 dJ24_newTreeNode_0 (fun b1 h2 E => ?_)
  refine xr_dup C (xk_crf _) dJ24_newTreeNode_3 ?_
  refine xr_iload_n 1 C rfl rfl dJ24_newTreeNode_4 ?_
  refine xr_aload_n 2 C rfl rfl dJ24_newTreeNode_5 ?_
  refine xr_aload_n 3 C rfl rfl dJ24_newTreeNode_6 ?_
  refine xr_aload 4 C rfl dJ24_newTreeNode_7 ?_
  refine xr_I (b := b1) [.int a1, va_rf a2, va_rf a3, va_rf a4] [va_rf (some b1)] (fun _ => none) (fun _ => [va_rf (some b1)]) C E (fun r h' e => wk_J29_init e) q1730 q1731 q116 q1732 xh_java_util_HashMap_TreeNode rfl xd_J29_init (by decide) (by decide) ⟨xk_crf _, trivial⟩ (Nat.le_of_ble_eq_true rfl) rfl (fun _ => rfl) dJ24_newTreeNode_9 (fun r3 h4 E => ?_)
  exact xr_aret C Z E (Or.inl ⟨_, rfl⟩) dJ24_newTreeNode_12
def mf_J29_putTreeVal_J215 (kb27 : Option Nat → xk_H → Option (Option Nat × xk_H)) (kx221 : Int32 → Option Nat → xk_H → Option (Option Nat × xk_H)) (a1 : Option Nat) (a2 : Option Nat) (a3 : Int32) (a4 : Option Nat) (a5 : Option Nat) (a6 : Option Nat) (a8 : Option Nat) (a10 : Int32) (a13 : Option Nat) (s0 : Option Nat) (h0 : xk_H) : Option (Option Nat × xk_H) :=
  if s0 = none then (kx221 a10 a13 h0) else (kb27 s0 h0)
set_option maxHeartbeats 1000000 in
theorem wk_J29_putTreeVal_J215 {Γ : xk_C} {r : Option Nat} {h' : xk_H} {kb27 : Option Nat → xk_H → Option (Option Nat × xk_H)} {kx221 : Int32 → Option Nat → xk_H → Option (Option Nat × xk_H)} {a1 : Option Nat} {a2 : Option Nat} {a3 : Int32} {a4 : Option Nat} {a5 : Option Nat} {a6 : Option Nat} {a8 : Option Nat} {a10 : Int32} {a13 : Option Nat} {s0 : Option Nat} {h0 : xk_H} (C : xk_Cx Γ RJ29 cJ29_putTreeVal 16 (Option.some (FieldType.object "java/util/HashMap$TreeNode")) "putTreeVal" 5 156) (Z : xk_Z Γ (some (va_rf r)) h') (hkb27 : ∀ (m9 : Option Nat) (g : xk_H), kb27 m9 g = some (r, h') → xk_X Γ 27 [(1, va_rf a1), (2, va_rf a2), (3, .int a3), (4, va_rf a4), (5, va_rf a5), (6, va_rf a6), (8, va_rf a8), (9, va_rf m9)] [] g) (hkx221 : ∀ (m10 : Int32) (m13 : Option Nat) (g : xk_H), kx221 m10 m13 g = some (r, h') → xk_X Γ 221 [(1, va_rf a1), (2, va_rf a2), (3, .int a3), (4, va_rf a4), (5, va_rf a5), (8, va_rf a8), (10, .int m10), (13, va_rf m13)] [] g) (E : mf_J29_putTreeVal_J215 kb27 kx221 a1 a2 a3 a4 a5 a6 a8 a10 a13 s0 h0 = some (r, h')) : xk_X Γ 215 [(1, va_rf a1), (2, va_rf a2), (3, .int a3), (4, va_rf a4), (5, va_rf a5), (6, va_rf a6), (8, va_rf a8), (10, .int a10), (13, va_rf a13)] [va_rf s0] h0 := by
  rw [mf_J29_putTreeVal_J215] at E
  refine xr_dup C (xk_crf _) dJ29_putTreeVal_215 ?_
  refine xr_astore (L2 := [(9, va_rf s0), (1, va_rf a1), (2, va_rf a2), (3, .int a3), (4, va_rf a4), (5, va_rf a5), (6, va_rf a6), (8, va_rf a8), (10, .int a10), (13, va_rf a13)]) C rfl dJ29_putTreeVal_216 (by decide) ?_
  refine xr_ifnonnull 311 C E dJ29_putTreeVal_218 (by decide) (fun E => ?_) (fun E => ?_)
  · refine xr_goto 27 C dJ29_putTreeVal_311 (by decide) ?_
    refine xr_sub [1, 2, 3, 4, 5, 6, 7, 0] rfl ?_
    exact hkb27 s0 h0 E
  · refine xr_sub [1, 2, 3, 4, 5, 7, 8, 9] rfl ?_
    exact hkx221 a10 a13 h0 E
def mf_J29_putTreeVal_J193 (kb27 : Option Nat → xk_H → Option (Option Nat × xk_H)) (kx221 : Int32 → Option Nat → xk_H → Option (Option Nat × xk_H)) (a1 : Option Nat) (a2 : Option Nat) (a3 : Int32) (a4 : Option Nat) (a5 : Option Nat) (a6 : Option Nat) (a8 : Option Nat) (a9 : Option Nat) (a10 : Int32) (h0 : xk_H) : Option (Option Nat × xk_H) :=
  if 0 < a10 then (xm_gR [14] 6 a9 h0 fun x3 => mf_J29_putTreeVal_J215 kb27 kx221 a1 a2 a3 a4 a5 a6 a8 a10 a9 x3 h0) else (xm_gR [14] 5 a9 h0 fun x4 => mf_J29_putTreeVal_J215 kb27 kx221 a1 a2 a3 a4 a5 a6 a8 a10 a9 x4 h0)
set_option maxHeartbeats 1000000 in
theorem wk_J29_putTreeVal_J193 {Γ : xk_C} {r : Option Nat} {h' : xk_H} {kb27 : Option Nat → xk_H → Option (Option Nat × xk_H)} {kx221 : Int32 → Option Nat → xk_H → Option (Option Nat × xk_H)} {a1 : Option Nat} {a2 : Option Nat} {a3 : Int32} {a4 : Option Nat} {a5 : Option Nat} {a6 : Option Nat} {a8 : Option Nat} {a9 : Option Nat} {a10 : Int32} {h0 : xk_H} (C : xk_Cx Γ RJ29 cJ29_putTreeVal 16 (Option.some (FieldType.object "java/util/HashMap$TreeNode")) "putTreeVal" 5 156) (Z : xk_Z Γ (some (va_rf r)) h') (hkb27 : ∀ (m9 : Option Nat) (g : xk_H), kb27 m9 g = some (r, h') → xk_X Γ 27 [(1, va_rf a1), (2, va_rf a2), (3, .int a3), (4, va_rf a4), (5, va_rf a5), (6, va_rf a6), (8, va_rf a8), (9, va_rf m9)] [] g) (hkx221 : ∀ (m10 : Int32) (m13 : Option Nat) (g : xk_H), kx221 m10 m13 g = some (r, h') → xk_X Γ 221 [(1, va_rf a1), (2, va_rf a2), (3, .int a3), (4, va_rf a4), (5, va_rf a5), (8, va_rf a8), (10, .int m10), (13, va_rf m13)] [] g) (E : mf_J29_putTreeVal_J193 kb27 kx221 a1 a2 a3 a4 a5 a6 a8 a9 a10 h0 = some (r, h')) : xk_X Γ 193 [(1, va_rf a1), (2, va_rf a2), (3, .int a3), (4, va_rf a4), (5, va_rf a5), (6, va_rf a6), (8, va_rf a8), (9, va_rf a9), (10, .int a10)] [] h0 := by
  rw [mf_J29_putTreeVal_J193] at E
  refine xr_aload 7 C rfl dJ29_putTreeVal_193 ?_
  refine xr_astore (L2 := [(13, va_rf a9), (1, va_rf a1), (2, va_rf a2), (3, .int a3), (4, va_rf a4), (5, va_rf a5), (6, va_rf a6), (8, va_rf a8), (9, va_rf a9), (10, .int a10)]) C rfl dJ29_putTreeVal_195 (by decide) ?_
  refine xr_iload 9 C rfl dJ29_putTreeVal_197 ?_
  refine xr_if_gt 210 C E dJ29_putTreeVal_199 (by decide) (fun E => ?_) (fun E => ?_)
  · refine xr_aload 8 C rfl dJ29_putTreeVal_210 ?_
    refine xr_gR C E xf_J29_42 dJ29_putTreeVal_212 (fun x3 E => ?_)
    refine xr_sub [1, 2, 3, 4, 5, 6, 7, 9, 0] rfl ?_
    exact wk_J29_putTreeVal_J215 C Z hkb27 hkx221 E
  · refine xr_aload 8 C rfl dJ29_putTreeVal_202 ?_
    refine xr_gR C E xf_J29_39 dJ29_putTreeVal_204 (fun x4 E => ?_)
    refine xr_goto 215 C dJ29_putTreeVal_207 (by decide) ?_
    refine xr_sub [1, 2, 3, 4, 5, 6, 7, 9, 0] rfl ?_
    exact wk_J29_putTreeVal_J215 C Z hkb27 hkx221 E
def mf_J29_putTreeVal_L27 (kx57 : Option Nat → xk_H → Option (Option Nat × xk_H)) (kx221 : Int32 → Option Nat → xk_H → Option (Option Nat × xk_H)) (a1 : Option Nat) (a2 : Option Nat) (a3 : Int32) (a4 : Option Nat) (a5 : Option Nat) (a6 : Option Nat) (a8 : Option Nat) : Nat → Option Nat → xk_H → Option (Option Nat × xk_H)
  | 0, _, _ => none
  | n + 1, a9, h0 => xm_gI [13, 14] 0 a9 h0 fun x2 => if x2 ≤ a3 then (if a3 ≤ x2 then (kx57 a9 h0) else (mf_J29_putTreeVal_J193 (fun m9 g => mf_J29_putTreeVal_L27 kx57 kx221 a1 a2 a3 a4 a5 a6 a8 n m9 g) kx221 a1 a2 a3 a4 a5 a6 a8 a9 (1 : Int32) h0)) else (mf_J29_putTreeVal_J193 (fun m9 g => mf_J29_putTreeVal_L27 kx57 kx221 a1 a2 a3 a4 a5 a6 a8 n m9 g) kx221 a1 a2 a3 a4 a5 a6 a8 a9 (-1 : Int32) h0)
set_option maxHeartbeats 1000000 in
theorem wk_J29_putTreeVal_L27 {Γ : xk_C} {r : Option Nat} {h' : xk_H} {kx57 : Option Nat → xk_H → Option (Option Nat × xk_H)} {kx221 : Int32 → Option Nat → xk_H → Option (Option Nat × xk_H)} {a1 : Option Nat} {a2 : Option Nat} {a3 : Int32} {a4 : Option Nat} {a5 : Option Nat} {a6 : Option Nat} {a8 : Option Nat} (C : xk_Cx Γ RJ29 cJ29_putTreeVal 16 (Option.some (FieldType.object "java/util/HashMap$TreeNode")) "putTreeVal" 5 156) (Z : xk_Z Γ (some (va_rf r)) h') (hkx57 : ∀ (m9 : Option Nat) (g : xk_H), kx57 m9 g = some (r, h') → xk_X Γ 57 [(4, va_rf a4), (6, va_rf a6), (9, va_rf m9)] [] g) (hkx221 : ∀ (m10 : Int32) (m13 : Option Nat) (g : xk_H), kx221 m10 m13 g = some (r, h') → xk_X Γ 221 [(1, va_rf a1), (2, va_rf a2), (3, .int a3), (4, va_rf a4), (5, va_rf a5), (8, va_rf a8), (10, .int m10), (13, va_rf m13)] [] g) : ∀ (n : Nat) (a9 : Option Nat) (h0 : xk_H), mf_J29_putTreeVal_L27 kx57 kx221 a1 a2 a3 a4 a5 a6 a8 n a9 h0 = some (r, h') → xk_X Γ 27 [(1, va_rf a1), (2, va_rf a2), (3, .int a3), (4, va_rf a4), (5, va_rf a5), (6, va_rf a6), (8, va_rf a8), (9, va_rf a9)] [] h0 := by
  intro n
  induction n with
  | zero =>
    intro a9 h0 E
    rw [mf_J29_putTreeVal_L27] at E
    cases E
  | succ n ih =>
    intro a9 h0 E
    have hkb27 : ∀ (m9 : Option Nat) (g : xk_H), mf_J29_putTreeVal_L27 kx57 kx221 a1 a2 a3 a4 a5 a6 a8 n m9 g = some (r, h') → xk_X Γ 27 [(1, va_rf a1), (2, va_rf a2), (3, .int a3), (4, va_rf a4), (5, va_rf a5), (6, va_rf a6), (8, va_rf a8), (9, va_rf m9)] [] g := ih
    rw [mf_J29_putTreeVal_L27] at E
    refine xr_aload 7 C rfl dJ29_putTreeVal_27 ?_
    refine xr_gI C E xf_J29_15 dJ29_putTreeVal_29 (fun x2 E => ?_)
    refine xr_dup C rfl dJ29_putTreeVal_32 ?_
    refine xr_istore (L2 := [(11, .int x2), (1, va_rf a1), (2, va_rf a2), (3, .int a3), (4, va_rf a4), (5, va_rf a5), (6, va_rf a6), (8, va_rf a8), (9, va_rf a9)]) C rfl dJ29_putTreeVal_33 (by decide) ?_
    refine xr_iload_n 3 C rfl rfl dJ29_putTreeVal_35 ?_
    refine xr_icmp_le 45 C E dJ29_putTreeVal_36 (by decide) (fun E => ?_) (fun E => ?_)
    · refine xr_iload 0 C rfl dJ29_putTreeVal_45 ?_
      refine xr_iload_n 3 C rfl rfl dJ29_putTreeVal_47 ?_
      refine xr_icmp_ge 57 C E dJ29_putTreeVal_48 (by decide) (fun E => ?_) (fun E => ?_)
      · refine xr_sub [4, 6, 8] rfl ?_
        exact hkx57 a9 h0 E
      · refine xr_iconst (1) C (by decide) dJ29_putTreeVal_51 ?_
        refine xr_istore (L2 := [(10, .int (1 : Int32)), (11, .int x2), (1, va_rf a1), (2, va_rf a2), (3, .int a3), (4, va_rf a4), (5, va_rf a5), (6, va_rf a6), (8, va_rf a8), (9, va_rf a9)]) C rfl dJ29_putTreeVal_52 (by decide) ?_
        refine xr_goto 193 C dJ29_putTreeVal_54 (by decide) ?_
        refine xr_sub [2, 3, 4, 5, 6, 7, 8, 9, 0] rfl ?_
        exact wk_J29_putTreeVal_J193 C Z hkb27 hkx221 E
    · refine xr_iconst (-1) C (by decide) dJ29_putTreeVal_39 ?_
      refine xr_istore (L2 := [(10, .int (-1 : Int32)), (11, .int x2), (1, va_rf a1), (2, va_rf a2), (3, .int a3), (4, va_rf a4), (5, va_rf a5), (6, va_rf a6), (8, va_rf a8), (9, va_rf a9)]) C rfl dJ29_putTreeVal_40 (by decide) ?_
      refine xr_goto 193 C dJ29_putTreeVal_42 (by decide) ?_
      refine xr_sub [2, 3, 4, 5, 6, 7, 8, 9, 0] rfl ?_
      exact wk_J29_putTreeVal_J193 C Z hkb27 hkx221 E
def mf_J29_putTreeVal_J88 (a4 : Option Nat) (a6 : Option Nat) (a12 : Option Nat) (h0 : xk_H) : Option (Option Nat × xk_H) :=
  if a6 = none then (none) else (none)
set_option maxHeartbeats 1000000 in
theorem wk_J29_putTreeVal_J88 {Γ : xk_C} {r : Option Nat} {h' : xk_H} {a4 : Option Nat} {a6 : Option Nat} {a12 : Option Nat} {h0 : xk_H} (C : xk_Cx Γ RJ29 cJ29_putTreeVal 16 (Option.some (FieldType.object "java/util/HashMap$TreeNode")) "putTreeVal" 5 156) (Z : xk_Z Γ (some (va_rf r)) h') (E : mf_J29_putTreeVal_J88 a4 a6 a12 h0 = some (r, h')) : xk_X Γ 88 [(4, va_rf a4), (6, va_rf a6), (12, va_rf a12)] [] h0 := by
  rw [mf_J29_putTreeVal_J88] at E
  refine xr_aload 1 C rfl dJ29_putTreeVal_88 ?_
  refine xr_ifnonnull 104 C E dJ29_putTreeVal_90 (by decide) (fun E => ?_) (fun E => ?_)
  · refine xr_aload 1 C rfl dJ29_putTreeVal_104 ?_
    refine xr_aload 0 C rfl dJ29_putTreeVal_106 ?_
    refine xr_aload 2 C rfl dJ29_putTreeVal_108 ?_
    cases E
  · refine xr_aload 0 C rfl dJ29_putTreeVal_93 ?_
    cases E
def mf_J29_putTreeVal_J298 (a2 : Option Nat) (a8 : Option Nat) (a15 : Option Nat) (h0 : xk_H) : Option (Option Nat × xk_H) :=
  xm_cl (mf_J29_balanceInsertion a8 a15 h0) fun r20 h21 => xm_cl (mf_J29_moveRootToFront a2 r20 h21) fun r22 h23 => some (none, h23)
set_option maxHeartbeats 1000000 in
theorem wk_J29_putTreeVal_J298 {Γ : xk_C} {r : Option Nat} {h' : xk_H} {a2 : Option Nat} {a8 : Option Nat} {a15 : Option Nat} {h0 : xk_H} (C : xk_Cx Γ RJ29 cJ29_putTreeVal 16 (Option.some (FieldType.object "java/util/HashMap$TreeNode")) "putTreeVal" 5 156) (Z : xk_Z Γ (some (va_rf r)) h') (E : mf_J29_putTreeVal_J298 a2 a8 a15 h0 = some (r, h')) : xk_X Γ 298 [(2, va_rf a2), (8, va_rf a8), (15, va_rf a15)] [] h0 := by
  rw [mf_J29_putTreeVal_J298] at E
  refine xr_aload_n 0 C rfl rfl dJ29_putTreeVal_298 ?_
  refine xr_aload 1 C rfl dJ29_putTreeVal_299 ?_
  refine xr_aload 2 C rfl dJ29_putTreeVal_301 ?_
  refine xr_S [va_rf a8, va_rf a15] [va_rf a2] (fun r => some (va_rf r)) (fun r => va_rf r :: [va_rf a2]) C E (fun r h' e => wk_J29_balanceInsertion e) q1703 q1704 q116 q1705 xh_java_util_HashMap_TreeNode xd_J29_balanceInsertion (by decide) (by decide) ⟨xk_crf _, trivial⟩ (Nat.le_of_ble_eq_true rfl) rfl (fun _ => rfl) dJ29_putTreeVal_303 (fun r20 h21 E => ?_)
  refine xr_S [va_rf a2, va_rf r20] [] (fun _ => none) (fun _ => []) C E (fun r h' e => wk_J29_moveRootToFront e) q1712 q1713 q116 q1714 xh_java_util_HashMap_TreeNode xd_J29_moveRootToFront (by decide) (by decide) trivial (Nat.le_of_ble_eq_true rfl) rfl (fun _ => rfl) dJ29_putTreeVal_306 (fun r22 h23 E => ?_)
  refine xr_null C dJ29_putTreeVal_309 ?_
  exact xr_aret C Z E (Or.inl ⟨_, rfl⟩) dJ29_putTreeVal_310
def mf_J29_putTreeVal_J263 (a2 : Option Nat) (a8 : Option Nat) (a13 : Option Nat) (a14 : Option Nat) (a15 : Option Nat) (h0 : xk_H) : Option (Option Nat × xk_H) :=
  xm_pV [13, 14] 3 a13 (va_rf a15) h0 fun h17 => xm_pV [14] 7 a15 (va_rf a13) h17 fun h18 => xm_pV [14] 4 a15 (va_rf a13) h18 fun h19 => if a14 = none then (mf_J29_putTreeVal_J298 a2 a8 a15 h19) else (xm_cast [14] a14 h19 <| xm_pV [14] 7 a14 (va_rf a15) h19 fun h24 => mf_J29_putTreeVal_J298 a2 a8 a15 h24)
set_option maxHeartbeats 1000000 in
theorem wk_J29_putTreeVal_J263 {Γ : xk_C} {r : Option Nat} {h' : xk_H} {a2 : Option Nat} {a8 : Option Nat} {a13 : Option Nat} {a14 : Option Nat} {a15 : Option Nat} {h0 : xk_H} (C : xk_Cx Γ RJ29 cJ29_putTreeVal 16 (Option.some (FieldType.object "java/util/HashMap$TreeNode")) "putTreeVal" 5 156) (Z : xk_Z Γ (some (va_rf r)) h') (E : mf_J29_putTreeVal_J263 a2 a8 a13 a14 a15 h0 = some (r, h')) : xk_X Γ 263 [(2, va_rf a2), (8, va_rf a8), (13, va_rf a13), (14, va_rf a14), (15, va_rf a15)] [] h0 := by
  rw [mf_J29_putTreeVal_J263] at E
  refine xr_aload 2 C rfl dJ29_putTreeVal_263 ?_
  refine xr_aload 4 C rfl dJ29_putTreeVal_265 ?_
  refine xr_pR C E xf_J29_22 xp_J29_22 (Or.inl ⟨_, rfl⟩) dJ29_putTreeVal_267 (fun h17 E => ?_)
  refine xr_aload 4 C rfl dJ29_putTreeVal_270 ?_
  refine xr_aload 4 C rfl dJ29_putTreeVal_272 ?_
  refine xr_aload 2 C rfl dJ29_putTreeVal_274 ?_
  refine xr_dup_x1 C (xk_crf _) (xk_crf _) dJ29_putTreeVal_276 ?_
  refine xr_pR C E xf_J29_19 xp_J29_19 (Or.inl ⟨_, rfl⟩) dJ29_putTreeVal_277 (fun h18 E => ?_)
  refine xr_pR C E xf_J29_9 xp_J29_9 (Or.inl ⟨_, rfl⟩) dJ29_putTreeVal_280 (fun h19 E => ?_)
  refine xr_aload 3 C rfl dJ29_putTreeVal_283 ?_
  refine xr_ifnull 298 C E dJ29_putTreeVal_285 (by decide) (fun E => ?_) (fun E => ?_)
  · refine xr_sub [0, 1, 4] rfl ?_
    exact wk_J29_putTreeVal_J298 C Z E
  · refine xr_aload 3 C rfl dJ29_putTreeVal_288 ?_
    refine xr_cast C E xi_14_HashMapTreeNode q1657 dJ29_putTreeVal_290 (fun E => ?_)
    refine xr_aload 4 C rfl dJ29_putTreeVal_293 ?_
    refine xr_pR C E xf_J29_19 xp_J29_19 (Or.inl ⟨_, rfl⟩) dJ29_putTreeVal_295 (fun h24 E => ?_)
    refine xr_sub [0, 1, 4] rfl ?_
    exact wk_J29_putTreeVal_J298 C Z E
def mf_J29_putTreeVal (a0 : Option Nat) (a1 : Option Nat) (a2 : Option Nat) (a3 : Int32) (a4 : Option Nat) (a5 : Option Nat) (h0 : xk_H) : Option (Option Nat × xk_H) :=
  xm_gR [14] 4 a0 h0 fun x1 => if x1 = none then (mf_J29_putTreeVal_L27 (fun m5 h6 => xm_gR [13, 14] 1 m5 h6 fun x7 => if x7 = a4 then (some (m5, h6)) else (if a4 = none then (mf_J29_putTreeVal_J88 a4 none x7 h6) else (xm_rc [5] a4 h6 <| xm_cl (mf_X5_equals a4 x7 h6) fun r8 h9 => if xk_b2 r8 = 0 then (mf_J29_putTreeVal_J88 a4 none x7 h9) else (some (m5, h9))))) (fun m10 m11 h12 => xm_gR [13, 14] 3 m11 h12 fun x13 => xm_rc [12] a1 h12 <| xm_cl (mf_J24_newTreeNode a1 a3 a4 a5 x13 h12) fun r14 h15 => if 0 < m10 then (xm_pV [14] 6 m11 (va_rf r14) h15 fun h16 => mf_J29_putTreeVal_J263 a2 a0 m11 x13 r14 h16) else (xm_pV [14] 5 m11 (va_rf r14) h15 fun h25 => mf_J29_putTreeVal_J263 a2 a0 m11 x13 r14 h25)) a1 a2 a3 a4 a5 none a0 xk_fu a0 h0) else (xm_rc [14] a0 h0 <| xm_cl (mf_J29_root a0 h0) fun r26 h27 => mf_J29_putTreeVal_L27 (fun m28 h29 => xm_gR [13, 14] 1 m28 h29 fun x30 => if x30 = a4 then (some (m28, h29)) else (if a4 = none then (mf_J29_putTreeVal_J88 a4 none x30 h29) else (xm_rc [5] a4 h29 <| xm_cl (mf_X5_equals a4 x30 h29) fun r31 h32 => if xk_b2 r31 = 0 then (mf_J29_putTreeVal_J88 a4 none x30 h32) else (some (m28, h32))))) (fun m33 m34 h35 => xm_gR [13, 14] 3 m34 h35 fun x36 => xm_rc [12] a1 h35 <| xm_cl (mf_J24_newTreeNode a1 a3 a4 a5 x36 h35) fun r37 h38 => if 0 < m33 then (xm_pV [14] 6 m34 (va_rf r37) h38 fun h39 => mf_J29_putTreeVal_J263 a2 r26 m34 x36 r37 h39) else (xm_pV [14] 5 m34 (va_rf r37) h38 fun h40 => mf_J29_putTreeVal_J263 a2 r26 m34 x36 r37 h40)) a1 a2 a3 a4 a5 none r26 xk_fu r26 h27)
set_option maxHeartbeats 1000000 in
theorem wk_J29_putTreeVal {l : Launch} {D : va_G} {base : Nat} {a0 : Option Nat} {a1 : Option Nat} {a2 : Option Nat} {a3 : Int32} {a4 : Option Nat} {a5 : Option Nat} {h0 : xk_H} {r : Option Nat} {h' : xk_H} (E : mf_J29_putTreeVal a0 a1 a2 a3 a4 a5 h0 = some (r, h')) : xk_Ok l D base yJ29_putTreeVal cJ29_putTreeVal 16 (Option.some (FieldType.object "java/util/HashMap$TreeNode")) 5 156 [va_rf a0, va_rf a1, va_rf a2, .int a3, va_rf a4, va_rf a5] h0 (some (va_rf r)) h' := by
  refine xk_ofX RJ29 "putTreeVal" xq_J29_putTreeVal rfl rfl (Nat.le_of_ble_eq_true rfl) ⟨xk_crf _, ⟨xk_crf _, ⟨xk_crf _, ⟨rfl, ⟨xk_crf _, ⟨xk_crf _, trivial⟩⟩⟩⟩⟩⟩ (fun Γ el eD eb C Z => ?_)
  rw [mf_J29_putTreeVal] at E
  show xk_X Γ 0 [(0, va_rf a0), (1, va_rf a1), (2, va_rf a2), (3, .int a3), (4, va_rf a4), (5, va_rf a5)] [] h0
  refine xr_null C dJ29_putTreeVal_0 ?_
  refine xr_astore (L2 := [(6, va_rf none), (0, va_rf a0), (1, va_rf a1), (2, va_rf a2), (3, .int a3), (4, va_rf a4), (5, va_rf a5)]) C rfl dJ29_putTreeVal_1 (by decide) ?_
  refine xr_iconst (0) C (by decide) dJ29_putTreeVal_3 ?_
  refine xr_istore (L2 := [(7, .int (0 : Int32)), (6, va_rf none), (0, va_rf a0), (1, va_rf a1), (2, va_rf a2), (3, .int a3), (4, va_rf a4), (5, va_rf a5)]) C rfl dJ29_putTreeVal_4 (by decide) ?_
  refine xr_aload_n 2 C rfl rfl dJ29_putTreeVal_6 ?_
  refine xr_gR C E xf_J29_9 dJ29_putTreeVal_7 (fun x1 E => ?_)
  refine xr_ifnull 20 C E dJ29_putTreeVal_10 (by decide) (fun E => ?_) (fun E => ?_)
  · refine xr_aload_n 2 C rfl rfl dJ29_putTreeVal_20 ?_
    refine xr_astore (L2 := [(8, va_rf a0), (7, .int (0 : Int32)), (6, va_rf none), (0, va_rf a0), (1, va_rf a1), (2, va_rf a2), (3, .int a3), (4, va_rf a4), (5, va_rf a5)]) C rfl dJ29_putTreeVal_21 (by decide) ?_
    refine xr_aload 0 C rfl dJ29_putTreeVal_23 ?_
    refine xr_astore (L2 := [(9, va_rf a0), (8, va_rf a0), (7, .int (0 : Int32)), (6, va_rf none), (0, va_rf a0), (1, va_rf a1), (2, va_rf a2), (3, .int a3), (4, va_rf a4), (5, va_rf a5)]) C rfl dJ29_putTreeVal_25 (by decide) ?_
    refine xr_sub [5, 6, 7, 8, 9, 3, 1, 0] rfl ?_
    refine wk_J29_putTreeVal_L27 (a1 := a1) (a2 := a2) (a3 := a3) (a4 := a4) (a5 := a5) (a6 := none) (a8 := a0) C Z (fun m5 h6 E => ?_) (fun m10 m11 h12 E => ?_) xk_fu a0 h0 E
    · refine xr_aload 2 C rfl dJ29_putTreeVal_57 ?_
      refine xr_gR C E xf_J29_45 dJ29_putTreeVal_59 (fun x7 E => ?_)
      refine xr_dup C (xk_crf _) dJ29_putTreeVal_62 ?_
      refine xr_astore (L2 := [(12, va_rf x7), (4, va_rf a4), (6, va_rf none), (9, va_rf m5)]) C rfl dJ29_putTreeVal_63 (by decide) ?_
      refine xr_aload 1 C rfl dJ29_putTreeVal_65 ?_
      refine xr_acmp_eq 85 C E dJ29_putTreeVal_67 (by decide) (fun E => ?_) (fun E => ?_)
      · refine xr_aload 3 C rfl dJ29_putTreeVal_85 ?_
        exact xr_aret C Z E (Or.inl ⟨_, rfl⟩) dJ29_putTreeVal_87
      · refine xr_aload 1 C rfl dJ29_putTreeVal_70 ?_
        refine xr_ifnull 88 C E dJ29_putTreeVal_72 (by decide) (fun E => ?_) (fun E => ?_)
        · refine xr_sub [1, 2, 0] rfl ?_
          exact wk_J29_putTreeVal_J88 C Z E
        · refine xr_aload 1 C rfl dJ29_putTreeVal_75 ?_
          refine xr_aload 0 C rfl dJ29_putTreeVal_77 ?_
          refine xr_U (v := a4) [va_rf x7] [] (fun r => some (.int (xk_b2 r))) (fun r => .int (xk_b2 r) :: []) C E xi_5_SlatCratesSeen (fun r h' e => wk_X5_equals e) q1431 q961 (xk_dec1 q960 q988) q966 q965 q110 q967 xh_java_lang_Object xd_J40_equals (by decide) (by decide) trivial (Nat.le_of_ble_eq_true rfl) rfl (fun _ => rfl) dJ29_putTreeVal_79 (fun r8 h9 E => ?_)
          refine xr_if_eq 88 C E dJ29_putTreeVal_82 (by decide) (fun E => ?_) (fun E => ?_)
          · refine xr_sub [1, 2, 0] rfl ?_
            exact wk_J29_putTreeVal_J88 C Z E
          · refine xr_aload 3 C rfl dJ29_putTreeVal_85 ?_
            exact xr_aret C Z E (Or.inl ⟨_, rfl⟩) dJ29_putTreeVal_87
    · refine xr_aload 7 C rfl dJ29_putTreeVal_221 ?_
      refine xr_gR C E xf_J29_22 dJ29_putTreeVal_223 (fun x13 E => ?_)
      refine xr_astore (L2 := [(14, va_rf x13), (1, va_rf a1), (2, va_rf a2), (3, .int a3), (4, va_rf a4), (5, va_rf a5), (8, va_rf a0), (10, .int m10), (13, va_rf m11)]) C rfl dJ29_putTreeVal_226 (by decide) ?_
      refine xr_aload_n 1 C rfl rfl dJ29_putTreeVal_228 ?_
      refine xr_iload_n 3 C rfl rfl dJ29_putTreeVal_229 ?_
      refine xr_aload 4 C rfl dJ29_putTreeVal_230 ?_
      refine xr_aload 5 C rfl dJ29_putTreeVal_232 ?_
      refine xr_aload 0 C rfl dJ29_putTreeVal_234 ?_
      refine xr_V (v := a1) [.int a3, va_rf a4, va_rf a5, va_rf x13] [] (fun r => some (va_rf r)) (fun r => va_rf r :: []) C E xi_12_HashMap (fun r h' e => wk_J24_newTreeNode e) q1725 q1726 q1727 q109 q1728 xh_java_util_HashMap xd_J24_newTreeNode (by decide) (by decide) trivial (Nat.le_of_ble_eq_true rfl) rfl (fun _ => rfl) dJ29_putTreeVal_236 (fun r14 h15 E => ?_)
      refine xr_astore (L2 := [(15, va_rf r14), (14, va_rf x13), (1, va_rf a1), (2, va_rf a2), (3, .int a3), (4, va_rf a4), (5, va_rf a5), (8, va_rf a0), (10, .int m10), (13, va_rf m11)]) C rfl dJ29_putTreeVal_239 (by decide) ?_
      refine xr_iload 8 C rfl dJ29_putTreeVal_241 ?_
      refine xr_if_gt 256 C E dJ29_putTreeVal_243 (by decide) (fun E => ?_) (fun E => ?_)
      · refine xr_aload 9 C rfl dJ29_putTreeVal_256 ?_
        refine xr_aload 0 C rfl dJ29_putTreeVal_258 ?_
        refine xr_pR C E xf_J29_42 xp_J29_42 (Or.inl ⟨_, rfl⟩) dJ29_putTreeVal_260 (fun h16 E => ?_)
        refine xr_sub [3, 7, 9, 1, 0] rfl ?_
        exact wk_J29_putTreeVal_J263 C Z E
      · refine xr_aload 9 C rfl dJ29_putTreeVal_246 ?_
        refine xr_aload 0 C rfl dJ29_putTreeVal_248 ?_
        refine xr_pR C E xf_J29_39 xp_J29_39 (Or.inl ⟨_, rfl⟩) dJ29_putTreeVal_250 (fun h25 E => ?_)
        refine xr_goto 263 C dJ29_putTreeVal_253 (by decide) ?_
        refine xr_sub [3, 7, 9, 1, 0] rfl ?_
        exact wk_J29_putTreeVal_J263 C Z E
  · refine xr_aload_n 2 C rfl rfl dJ29_putTreeVal_13 ?_
    refine xr_V (v := a0) [] [] (fun r => some (va_rf r)) (fun r => va_rf r :: []) C E xi_14_HashMapTreeNode (fun r h' e => wk_J29_root e) q1423 q1424 q1425 q116 q1426 xh_java_util_HashMap_TreeNode xd_J29_root (by decide) (by decide) trivial (Nat.le_of_ble_eq_true rfl) rfl (fun _ => rfl) dJ29_putTreeVal_14 (fun r26 h27 E => ?_)
    refine xr_goto 21 C dJ29_putTreeVal_17 (by decide) ?_
    refine xr_astore (L2 := [(8, va_rf r26), (7, .int (0 : Int32)), (6, va_rf none), (0, va_rf a0), (1, va_rf a1), (2, va_rf a2), (3, .int a3), (4, va_rf a4), (5, va_rf a5)]) C rfl dJ29_putTreeVal_21 (by decide) ?_
    refine xr_aload 0 C rfl dJ29_putTreeVal_23 ?_
    refine xr_astore (L2 := [(9, va_rf r26), (8, va_rf r26), (7, .int (0 : Int32)), (6, va_rf none), (0, va_rf a0), (1, va_rf a1), (2, va_rf a2), (3, .int a3), (4, va_rf a4), (5, va_rf a5)]) C rfl dJ29_putTreeVal_25 (by decide) ?_
    refine xr_sub [5, 6, 7, 8, 9, 3, 1, 0] rfl ?_
    refine wk_J29_putTreeVal_L27 (a1 := a1) (a2 := a2) (a3 := a3) (a4 := a4) (a5 := a5) (a6 := none) (a8 := r26) C Z (fun m28 h29 E => ?_) (fun m33 m34 h35 E => ?_) xk_fu r26 h27 E
    · refine xr_aload 2 C rfl dJ29_putTreeVal_57 ?_
      refine xr_gR C E xf_J29_45 dJ29_putTreeVal_59 (fun x30 E => ?_)
      refine xr_dup C (xk_crf _) dJ29_putTreeVal_62 ?_
      refine xr_astore (L2 := [(12, va_rf x30), (4, va_rf a4), (6, va_rf none), (9, va_rf m28)]) C rfl dJ29_putTreeVal_63 (by decide) ?_
      refine xr_aload 1 C rfl dJ29_putTreeVal_65 ?_
      refine xr_acmp_eq 85 C E dJ29_putTreeVal_67 (by decide) (fun E => ?_) (fun E => ?_)
      · refine xr_aload 3 C rfl dJ29_putTreeVal_85 ?_
        exact xr_aret C Z E (Or.inl ⟨_, rfl⟩) dJ29_putTreeVal_87
      · refine xr_aload 1 C rfl dJ29_putTreeVal_70 ?_
        refine xr_ifnull 88 C E dJ29_putTreeVal_72 (by decide) (fun E => ?_) (fun E => ?_)
        · refine xr_sub [1, 2, 0] rfl ?_
          exact wk_J29_putTreeVal_J88 C Z E
        · refine xr_aload 1 C rfl dJ29_putTreeVal_75 ?_
          refine xr_aload 0 C rfl dJ29_putTreeVal_77 ?_
          refine xr_U (v := a4) [va_rf x30] [] (fun r => some (.int (xk_b2 r))) (fun r => .int (xk_b2 r) :: []) C E xi_5_SlatCratesSeen (fun r h' e => wk_X5_equals e) q1431 q961 (xk_dec1 q960 q988) q966 q965 q110 q967 xh_java_lang_Object xd_J40_equals (by decide) (by decide) trivial (Nat.le_of_ble_eq_true rfl) rfl (fun _ => rfl) dJ29_putTreeVal_79 (fun r31 h32 E => ?_)
          refine xr_if_eq 88 C E dJ29_putTreeVal_82 (by decide) (fun E => ?_) (fun E => ?_)
          · refine xr_sub [1, 2, 0] rfl ?_
            exact wk_J29_putTreeVal_J88 C Z E
          · refine xr_aload 3 C rfl dJ29_putTreeVal_85 ?_
            exact xr_aret C Z E (Or.inl ⟨_, rfl⟩) dJ29_putTreeVal_87
    · refine xr_aload 7 C rfl dJ29_putTreeVal_221 ?_
      refine xr_gR C E xf_J29_22 dJ29_putTreeVal_223 (fun x36 E => ?_)
      refine xr_astore (L2 := [(14, va_rf x36), (1, va_rf a1), (2, va_rf a2), (3, .int a3), (4, va_rf a4), (5, va_rf a5), (8, va_rf r26), (10, .int m33), (13, va_rf m34)]) C rfl dJ29_putTreeVal_226 (by decide) ?_
      refine xr_aload_n 1 C rfl rfl dJ29_putTreeVal_228 ?_
      refine xr_iload_n 3 C rfl rfl dJ29_putTreeVal_229 ?_
      refine xr_aload 4 C rfl dJ29_putTreeVal_230 ?_
      refine xr_aload 5 C rfl dJ29_putTreeVal_232 ?_
      refine xr_aload 0 C rfl dJ29_putTreeVal_234 ?_
      refine xr_V (v := a1) [.int a3, va_rf a4, va_rf a5, va_rf x36] [] (fun r => some (va_rf r)) (fun r => va_rf r :: []) C E xi_12_HashMap (fun r h' e => wk_J24_newTreeNode e) q1725 q1726 q1727 q109 q1728 xh_java_util_HashMap xd_J24_newTreeNode (by decide) (by decide) trivial (Nat.le_of_ble_eq_true rfl) rfl (fun _ => rfl) dJ29_putTreeVal_236 (fun r37 h38 E => ?_)
      refine xr_astore (L2 := [(15, va_rf r37), (14, va_rf x36), (1, va_rf a1), (2, va_rf a2), (3, .int a3), (4, va_rf a4), (5, va_rf a5), (8, va_rf r26), (10, .int m33), (13, va_rf m34)]) C rfl dJ29_putTreeVal_239 (by decide) ?_
      refine xr_iload 8 C rfl dJ29_putTreeVal_241 ?_
      refine xr_if_gt 256 C E dJ29_putTreeVal_243 (by decide) (fun E => ?_) (fun E => ?_)
      · refine xr_aload 9 C rfl dJ29_putTreeVal_256 ?_
        refine xr_aload 0 C rfl dJ29_putTreeVal_258 ?_
        refine xr_pR C E xf_J29_42 xp_J29_42 (Or.inl ⟨_, rfl⟩) dJ29_putTreeVal_260 (fun h39 E => ?_)
        refine xr_sub [3, 7, 9, 1, 0] rfl ?_
        exact wk_J29_putTreeVal_J263 C Z E
      · refine xr_aload 9 C rfl dJ29_putTreeVal_246 ?_
        refine xr_aload 0 C rfl dJ29_putTreeVal_248 ?_
        refine xr_pR C E xf_J29_39 xp_J29_39 (Or.inl ⟨_, rfl⟩) dJ29_putTreeVal_250 (fun h40 E => ?_)
        refine xr_goto 263 C dJ29_putTreeVal_253 (by decide) ?_
        refine xr_sub [3, 7, 9, 1, 0] rfl ?_
        exact wk_J29_putTreeVal_J263 C Z E
def mf_J24_putVal_L134 (kx222 : Option Nat → xk_H → Option (Option Nat × xk_H)) (kx209 : Option Nat → xk_H → Option (Option Nat × xk_H)) (kx145 : Option Nat → Option Nat → Int32 → xk_H → Option (Option Nat × xk_H)) (a0 : Option Nat) (a1 : Int32) (a2 : Option Nat) (a3 : Option Nat) (a4 : Int32) (a5 : Int32) (a6 : Option Nat) : Nat → Option Nat → Int32 → xk_H → Option (Option Nat × xk_H)
  | 0, _, _, _ => none
  | n + 1, a7, a12, h0 => xm_gR [13, 14] 3 a7 h0 fun x8 => if x8 = none then (kx145 a7 x8 a12 h0) else (xm_gI [13, 14] 0 x8 h0 fun x9 => if x9 = a1 then (xm_gR [13, 14] 1 x8 h0 fun x10 => if x10 = a2 then (kx222 x8 h0) else (if a2 = none then (mf_J24_putVal_L134 kx222 kx209 kx145 a0 a1 a2 a3 a4 a5 a6 n x8 (a12 + 1) h0) else (xm_rc [5] a2 h0 <| xm_cl (mf_X5_equals a2 x10 h0) fun r11 h12 => if xk_b2 r11 = 0 then (mf_J24_putVal_L134 kx222 kx209 kx145 a0 a1 a2 a3 a4 a5 a6 n x8 (a12 + 1) h12) else (kx209 x8 h12)))) else (mf_J24_putVal_L134 kx222 kx209 kx145 a0 a1 a2 a3 a4 a5 a6 n x8 (a12 + 1) h0))
set_option maxHeartbeats 1000000 in
theorem wk_J24_putVal_L134 {Γ : xk_C} {r : Option Nat} {h' : xk_H} {kx222 : Option Nat → xk_H → Option (Option Nat × xk_H)} {kx209 : Option Nat → xk_H → Option (Option Nat × xk_H)} {kx145 : Option Nat → Option Nat → Int32 → xk_H → Option (Option Nat × xk_H)} {a0 : Option Nat} {a1 : Int32} {a2 : Option Nat} {a3 : Option Nat} {a4 : Int32} {a5 : Int32} {a6 : Option Nat} (C : xk_Cx Γ RJ24 cJ24_putVal 13 (Option.some (FieldType.object "java/lang/Object")) "putVal" 6 191) (Z : xk_Z Γ (some (va_rf r)) h') (hkx222 : ∀ (m10 : Option Nat) (g : xk_H), kx222 m10 g = some (r, h') → xk_X Γ 222 [(0, va_rf a0), (3, va_rf a3), (4, .int a4), (5, .int a5), (10, va_rf m10)] [] g) (hkx209 : ∀ (m10 : Option Nat) (g : xk_H), kx209 m10 g = some (r, h') → xk_X Γ 209 [(0, va_rf a0), (3, va_rf a3), (4, .int a4), (5, .int a5), (10, va_rf m10)] [] g) (hkx145 : ∀ (m7 : Option Nat) (m10 : Option Nat) (m12 : Int32) (g : xk_H), kx145 m7 m10 m12 g = some (r, h') → xk_X Γ 145 [(0, va_rf a0), (1, .int a1), (2, va_rf a2), (3, va_rf a3), (4, .int a4), (5, .int a5), (6, va_rf a6), (7, va_rf m7), (10, va_rf m10), (12, .int m12)] [] g) : ∀ (n : Nat) (a7 : Option Nat) (a12 : Int32) (h0 : xk_H), mf_J24_putVal_L134 kx222 kx209 kx145 a0 a1 a2 a3 a4 a5 a6 n a7 a12 h0 = some (r, h') → xk_X Γ 134 [(0, va_rf a0), (1, .int a1), (2, va_rf a2), (3, va_rf a3), (4, .int a4), (5, .int a5), (6, va_rf a6), (7, va_rf a7), (12, .int a12)] [] h0 := by
  intro n
  induction n with
  | zero =>
    intro a7 a12 h0 E
    rw [mf_J24_putVal_L134] at E
    cases E
  | succ n ih =>
    intro a7 a12 h0 E
    have hkb134 : ∀ (m7 : Option Nat) (m12 : Int32) (g : xk_H), mf_J24_putVal_L134 kx222 kx209 kx145 a0 a1 a2 a3 a4 a5 a6 n m7 m12 g = some (r, h') → xk_X Γ 134 [(0, va_rf a0), (1, .int a1), (2, va_rf a2), (3, va_rf a3), (4, .int a4), (5, .int a5), (6, va_rf a6), (7, va_rf m7), (12, .int m12)] [] g := ih
    rw [mf_J24_putVal_L134] at E
    refine xr_aload 7 C rfl dJ24_putVal_134 ?_
    refine xr_gR C E xf_J24_177 dJ24_putVal_136 (fun x8 E => ?_)
    refine xr_dup C (xk_crf _) dJ24_putVal_139 ?_
    refine xr_astore (L2 := [(10, va_rf x8), (0, va_rf a0), (1, .int a1), (2, va_rf a2), (3, va_rf a3), (4, .int a4), (5, .int a5), (6, va_rf a6), (7, va_rf a7), (12, .int a12)]) C rfl dJ24_putVal_140 (by decide) ?_
    refine xr_ifnonnull 175 C E dJ24_putVal_142 (by decide) (fun E => ?_) (fun E => ?_)
    · refine xr_aload 0 C rfl dJ24_putVal_175 ?_
      refine xr_gI C E xf_J24_168 dJ24_putVal_177 (fun x9 E => ?_)
      refine xr_iload_n 2 C rfl rfl dJ24_putVal_180 ?_
      refine xr_icmp_ne 212 C E dJ24_putVal_181 (by decide) (fun E => ?_) (fun E => ?_)
      · refine xr_aload 0 C rfl dJ24_putVal_212 ?_
        refine xr_astore (L2 := [(7, va_rf x8), (10, va_rf x8), (0, va_rf a0), (1, .int a1), (2, va_rf a2), (3, va_rf a3), (4, .int a4), (5, .int a5), (6, va_rf a6), (12, .int a12)]) C rfl dJ24_putVal_214 (by decide) ?_
        refine xr_iinc (v := (a12 + 1)) (L2 := [(12, .int (a12 + 1)), (7, va_rf x8), (10, va_rf x8), (0, va_rf a0), (1, .int a1), (2, va_rf a2), (3, va_rf a3), (4, .int a4), (5, .int a5), (6, va_rf a6)]) 9 C rfl rfl rfl dJ24_putVal_216 (by decide) ?_
        refine xr_goto 134 C dJ24_putVal_219 (by decide) ?_
        refine xr_sub [3, 4, 5, 6, 7, 8, 9, 1, 0] rfl ?_
        exact hkb134 x8 (a12 + 1) h0 E
      · refine xr_aload 0 C rfl dJ24_putVal_184 ?_
        refine xr_gR C E xf_J24_170 dJ24_putVal_186 (fun x10 E => ?_)
        refine xr_dup C (xk_crf _) dJ24_putVal_189 ?_
        refine xr_astore (L2 := [(11, va_rf x10), (10, va_rf x8), (0, va_rf a0), (1, .int a1), (2, va_rf a2), (3, va_rf a3), (4, .int a4), (5, .int a5), (6, va_rf a6), (7, va_rf a7), (12, .int a12)]) C rfl dJ24_putVal_190 (by decide) ?_
        refine xr_aload_n 4 C rfl rfl dJ24_putVal_192 ?_
        refine xr_acmp_eq 222 C E dJ24_putVal_193 (by decide) (fun E => ?_) (fun E => ?_)
        · refine xr_sub [2, 5, 6, 7, 1] rfl ?_
          exact hkx222 x8 h0 E
        · refine xr_aload_n 4 C rfl rfl dJ24_putVal_196 ?_
          refine xr_ifnull 212 C E dJ24_putVal_197 (by decide) (fun E => ?_) (fun E => ?_)
          · refine xr_aload 1 C rfl dJ24_putVal_212 ?_
            refine xr_astore (L2 := [(7, va_rf x8), (11, va_rf x10), (10, va_rf x8), (0, va_rf a0), (1, .int a1), (2, va_rf a2), (3, va_rf a3), (4, .int a4), (5, .int a5), (6, va_rf a6), (12, .int a12)]) C rfl dJ24_putVal_214 (by decide) ?_
            refine xr_iinc (v := (a12 + 1)) (L2 := [(12, .int (a12 + 1)), (7, va_rf x8), (11, va_rf x10), (10, va_rf x8), (0, va_rf a0), (1, .int a1), (2, va_rf a2), (3, va_rf a3), (4, .int a4), (5, .int a5), (6, va_rf a6)]) 10 C rfl rfl rfl dJ24_putVal_216 (by decide) ?_
            refine xr_goto 134 C dJ24_putVal_219 (by decide) ?_
            refine xr_sub [4, 5, 6, 7, 8, 9, 10, 1, 0] rfl ?_
            exact hkb134 x8 (a12 + 1) h0 E
          · refine xr_aload_n 4 C rfl rfl dJ24_putVal_200 ?_
            refine xr_aload 0 C rfl dJ24_putVal_201 ?_
            refine xr_U (v := a2) [va_rf x10] [] (fun r => some (.int (xk_b2 r))) (fun r => .int (xk_b2 r) :: []) C E xi_5_SlatCratesSeen (fun r h' e => wk_X5_equals e) q1417 q961 (xk_dec1 q960 q988) q966 q965 q110 q967 xh_java_lang_Object xd_J40_equals (by decide) (by decide) trivial (Nat.le_of_ble_eq_true rfl) rfl (fun _ => rfl) dJ24_putVal_203 (fun r11 h12 E => ?_)
            refine xr_if_eq 212 C E dJ24_putVal_206 (by decide) (fun E => ?_) (fun E => ?_)
            · refine xr_aload 1 C rfl dJ24_putVal_212 ?_
              refine xr_astore (L2 := [(7, va_rf x8), (11, va_rf x10), (10, va_rf x8), (0, va_rf a0), (1, .int a1), (2, va_rf a2), (3, va_rf a3), (4, .int a4), (5, .int a5), (6, va_rf a6), (12, .int a12)]) C rfl dJ24_putVal_214 (by decide) ?_
              refine xr_iinc (v := (a12 + 1)) (L2 := [(12, .int (a12 + 1)), (7, va_rf x8), (11, va_rf x10), (10, va_rf x8), (0, va_rf a0), (1, .int a1), (2, va_rf a2), (3, va_rf a3), (4, .int a4), (5, .int a5), (6, va_rf a6)]) 10 C rfl rfl rfl dJ24_putVal_216 (by decide) ?_
              refine xr_goto 134 C dJ24_putVal_219 (by decide) ?_
              refine xr_sub [4, 5, 6, 7, 8, 9, 10, 1, 0] rfl ?_
              exact hkb134 x8 (a12 + 1) h12 E
            · refine xr_sub [2, 5, 6, 7, 1] rfl ?_
              exact hkx209 x8 h12 E
    · refine xr_sub [1, 2, 3, 4, 5, 6, 7, 8, 0, 9] rfl ?_
      exact hkx145 a7 x8 a12 h0 E
def mf_J24_putVal_J292 (a0 : Option Nat) (a5 : Int32) (h0 : xk_H) : Option (Option Nat × xk_H) :=
  xm_rc [12] a0 h0 <| xm_cl (mf_J24_afterNodeInsertion a0 a5 h0) fun r20 h21 => some (none, h21)
set_option maxHeartbeats 1000000 in
theorem wk_J24_putVal_J292 {Γ : xk_C} {r : Option Nat} {h' : xk_H} {a0 : Option Nat} {a5 : Int32} {h0 : xk_H} (C : xk_Cx Γ RJ24 cJ24_putVal 13 (Option.some (FieldType.object "java/lang/Object")) "putVal" 6 191) (Z : xk_Z Γ (some (va_rf r)) h') (E : mf_J24_putVal_J292 a0 a5 h0 = some (r, h')) : xk_X Γ 292 [(0, va_rf a0), (5, .int a5)] [] h0 := by
  rw [mf_J24_putVal_J292] at E
  refine xr_aload_n 0 C rfl rfl dJ24_putVal_292 ?_
  refine xr_iload 1 C rfl dJ24_putVal_293 ?_
  refine xr_V (v := a0) [.int a5] [] (fun _ => none) (fun _ => []) C E xi_12_HashMap (fun r h' e => wk_J24_afterNodeInsertion e) q1775 q1776 q1777 q109 q1778 xh_java_util_HashMap xd_J24_afterNodeInsertion (by decide) (by decide) trivial (Nat.le_of_ble_eq_true rfl) rfl (fun _ => rfl) dJ24_putVal_295 (fun r20 h21 E => ?_)
  refine xr_null C dJ24_putVal_298 ?_
  exact xr_aret C Z E (Or.inl ⟨_, rfl⟩) dJ24_putVal_299
def mf_J24_putVal_J259 (a0 : Option Nat) (a5 : Int32) (h0 : xk_H) : Option (Option Nat × xk_H) :=
  xm_gI [12] 5 a0 h0 fun x15 => xm_pV [12] 5 a0 (.int (x15 + (1 : Int32))) h0 fun h16 => xm_gI [12] 4 a0 h16 fun x17 => xm_pV [12] 4 a0 (.int (x17 + (1 : Int32))) h16 fun h18 => xm_gI [12] 6 a0 h18 fun x19 => if (x17 + (1 : Int32)) ≤ x19 then (mf_J24_putVal_J292 a0 a5 h18) else (xm_rc [12] a0 h18 <| xm_cl (mf_J24_resize a0 h18) fun r22 h23 => mf_J24_putVal_J292 a0 a5 h23)
set_option maxHeartbeats 1000000 in
theorem wk_J24_putVal_J259 {Γ : xk_C} {r : Option Nat} {h' : xk_H} {a0 : Option Nat} {a5 : Int32} {h0 : xk_H} (C : xk_Cx Γ RJ24 cJ24_putVal 13 (Option.some (FieldType.object "java/lang/Object")) "putVal" 6 191) (Z : xk_Z Γ (some (va_rf r)) h') (E : mf_J24_putVal_J259 a0 a5 h0 = some (r, h')) : xk_X Γ 259 [(0, va_rf a0), (5, .int a5)] [] h0 := by
  rw [mf_J24_putVal_J259] at E
  refine xr_aload_n 0 C rfl rfl dJ24_putVal_259 ?_
  refine xr_dup C (xk_crf _) dJ24_putVal_260 ?_
  refine xr_gI C E xf_J24_202 dJ24_putVal_261 (fun x15 E => ?_)
  refine xr_iconst (1) C (by decide) dJ24_putVal_264 ?_
  refine xr_iadd C dJ24_putVal_265 ?_
  refine xr_pI C E xf_J24_202 xp_J24_202 dJ24_putVal_266 (fun h16 E => ?_)
  refine xr_aload_n 0 C rfl rfl dJ24_putVal_269 ?_
  refine xr_dup C (xk_crf _) dJ24_putVal_270 ?_
  refine xr_gI C E xf_J24_156 dJ24_putVal_271 (fun x17 E => ?_)
  refine xr_iconst (1) C (by decide) dJ24_putVal_274 ?_
  refine xr_iadd C dJ24_putVal_275 ?_
  refine xr_dup_x1 C rfl (xk_crf _) dJ24_putVal_276 ?_
  refine xr_pI C E xf_J24_156 xp_J24_156 dJ24_putVal_277 (fun h18 E => ?_)
  refine xr_aload_n 0 C rfl rfl dJ24_putVal_280 ?_
  refine xr_gI C E xf_J24_88 dJ24_putVal_281 (fun x19 E => ?_)
  refine xr_icmp_le 292 C E dJ24_putVal_284 (by decide) (fun E => ?_) (fun E => ?_)
  · exact wk_J24_putVal_J292 C Z E
  · refine xr_aload_n 0 C rfl rfl dJ24_putVal_287 ?_
    refine xr_V (v := a0) [] [] (fun r => some (va_rf r)) (fun r => va_rf r :: []) C E xi_12_HashMap (fun r h' e => wk_J24_resize e) q1644 q1645 q1646 q109 q1647 xh_java_util_HashMap xd_J24_resize (by decide) (by decide) trivial (Nat.le_of_ble_eq_true rfl) rfl (fun _ => rfl) dJ24_putVal_288 (fun r22 h23 E => ?_)
    refine xr_pop C (xk_crf _) dJ24_putVal_291 ?_
    exact wk_J24_putVal_J292 C Z E
def mf_J24_putVal_J250 (a0 : Option Nat) (a10 : Option Nat) (a12 : Option Nat) (h0 : xk_H) : Option (Option Nat × xk_H) :=
  xm_rc [12] a0 h0 <| xm_cl (mf_J24_afterNodeAccess a0 a10 h0) fun r26 h27 => some (a12, h27)
set_option maxHeartbeats 1000000 in
theorem wk_J24_putVal_J250 {Γ : xk_C} {r : Option Nat} {h' : xk_H} {a0 : Option Nat} {a10 : Option Nat} {a12 : Option Nat} {h0 : xk_H} (C : xk_Cx Γ RJ24 cJ24_putVal 13 (Option.some (FieldType.object "java/lang/Object")) "putVal" 6 191) (Z : xk_Z Γ (some (va_rf r)) h') (E : mf_J24_putVal_J250 a0 a10 a12 h0 = some (r, h')) : xk_X Γ 250 [(0, va_rf a0), (10, va_rf a10), (12, va_rf a12)] [] h0 := by
  rw [mf_J24_putVal_J250] at E
  refine xr_aload_n 0 C rfl rfl dJ24_putVal_250 ?_
  refine xr_aload 1 C rfl dJ24_putVal_251 ?_
  refine xr_V (v := a0) [va_rf a10] [] (fun _ => none) (fun _ => []) C E xi_12_HashMap (fun r h' e => wk_J24_afterNodeAccess e) q1771 q1772 q1773 q109 q1774 xh_java_util_HashMap xd_J24_afterNodeAccess (by decide) (by decide) trivial (Nat.le_of_ble_eq_true rfl) rfl (fun _ => rfl) dJ24_putVal_253 (fun r26 h27 E => ?_)
  refine xr_aload 2 C rfl dJ24_putVal_256 ?_
  exact xr_aret C Z E (Or.inl ⟨_, rfl⟩) dJ24_putVal_258
def mf_J24_putVal_J222 (a0 : Option Nat) (a3 : Option Nat) (a4 : Int32) (a5 : Int32) (a10 : Option Nat) (h0 : xk_H) : Option (Option Nat × xk_H) :=
  if a10 = none then (mf_J24_putVal_J259 a0 a5 h0) else (xm_gR [13, 14] 2 a10 h0 fun x24 => if a4 = 0 then (xm_pV [13, 14] 2 a10 (va_rf a3) h0 fun h25 => mf_J24_putVal_J250 a0 a10 x24 h25) else (if x24 = none then (xm_pV [13, 14] 2 a10 (va_rf a3) h0 fun h28 => mf_J24_putVal_J250 a0 a10 x24 h28) else (mf_J24_putVal_J250 a0 a10 x24 h0)))
set_option maxHeartbeats 1000000 in
theorem wk_J24_putVal_J222 {Γ : xk_C} {r : Option Nat} {h' : xk_H} {a0 : Option Nat} {a3 : Option Nat} {a4 : Int32} {a5 : Int32} {a10 : Option Nat} {h0 : xk_H} (C : xk_Cx Γ RJ24 cJ24_putVal 13 (Option.some (FieldType.object "java/lang/Object")) "putVal" 6 191) (Z : xk_Z Γ (some (va_rf r)) h') (E : mf_J24_putVal_J222 a0 a3 a4 a5 a10 h0 = some (r, h')) : xk_X Γ 222 [(0, va_rf a0), (3, va_rf a3), (4, .int a4), (5, .int a5), (10, va_rf a10)] [] h0 := by
  rw [mf_J24_putVal_J222] at E
  refine xr_aload 4 C rfl dJ24_putVal_222 ?_
  refine xr_ifnull 259 C E dJ24_putVal_224 (by decide) (fun E => ?_) (fun E => ?_)
  · refine xr_sub [0, 3] rfl ?_
    exact wk_J24_putVal_J259 C Z E
  · refine xr_aload 4 C rfl dJ24_putVal_227 ?_
    refine xr_gR C E xf_J24_162 dJ24_putVal_229 (fun x24 E => ?_)
    refine xr_astore (L2 := [(12, va_rf x24), (0, va_rf a0), (3, va_rf a3), (4, .int a4), (5, .int a5), (10, va_rf a10)]) C rfl dJ24_putVal_232 (by decide) ?_
    refine xr_iload 3 C rfl dJ24_putVal_234 ?_
    refine xr_if_eq 244 C E dJ24_putVal_236 (by decide) (fun E => ?_) (fun E => ?_)
    · refine xr_aload 5 C rfl dJ24_putVal_244 ?_
      refine xr_aload_n 2 C rfl rfl dJ24_putVal_246 ?_
      refine xr_pR C E xf_J24_162 xp_J24_162 (Or.inl ⟨_, rfl⟩) dJ24_putVal_247 (fun h25 E => ?_)
      refine xr_sub [1, 5, 0] rfl ?_
      exact wk_J24_putVal_J250 C Z E
    · refine xr_aload 0 C rfl dJ24_putVal_239 ?_
      refine xr_ifnonnull 250 C E dJ24_putVal_241 (by decide) (fun E => ?_) (fun E => ?_)
      · refine xr_sub [1, 5, 0] rfl ?_
        exact wk_J24_putVal_J250 C Z E
      · refine xr_aload 5 C rfl dJ24_putVal_244 ?_
        refine xr_aload_n 2 C rfl rfl dJ24_putVal_246 ?_
        refine xr_pR C E xf_J24_162 xp_J24_162 (Or.inl ⟨_, rfl⟩) dJ24_putVal_247 (fun h28 E => ?_)
        refine xr_sub [1, 5, 0] rfl ?_
        exact wk_J24_putVal_J250 C Z E
def mf_J24_putVal_J104 (a0 : Option Nat) (a1 : Int32) (a2 : Option Nat) (a3 : Option Nat) (a4 : Int32) (a5 : Int32) (a6 : Option Nat) (a7 : Option Nat) (h0 : xk_H) : Option (Option Nat × xk_H) :=
  xm_inst [14] [13] a7 h0 fun x7 => if x7 = 0 then (mf_J24_putVal_L134 (fun m13 h14 => mf_J24_putVal_J222 a0 a3 a4 a5 m13 h14) (fun m29 h30 => mf_J24_putVal_J222 a0 a3 a4 a5 m29 h30) (fun m31 m32 m33 h34 => xm_rc [12] a0 h34 <| xm_cl (mf_J24_newNode a0 a1 a2 a3 none h34) fun r35 h36 => xm_pV [13, 14] 3 m31 (va_rf r35) h36 fun h37 => if m33 < (7 : Int32) then (mf_J24_putVal_J222 a0 a3 a4 a5 m32 h37) else (xm_rc [12] a0 h37 <| xm_cl (mf_J24_treeifyBin a0 a6 a1 h37) fun r38 h39 => mf_J24_putVal_J222 a0 a3 a4 a5 m32 h39)) a0 a1 a2 a3 a4 a5 a6 xk_fu a7 (0 : Int32) h0) else (xm_cast [14] a7 h0 <| xm_rc [14] a7 h0 <| xm_cl (mf_J29_putTreeVal a7 a0 a6 a1 a2 a3 h0) fun r40 h41 => mf_J24_putVal_J222 a0 a3 a4 a5 r40 h41)
set_option maxHeartbeats 1000000 in
theorem wk_J24_putVal_J104 {Γ : xk_C} {r : Option Nat} {h' : xk_H} {a0 : Option Nat} {a1 : Int32} {a2 : Option Nat} {a3 : Option Nat} {a4 : Int32} {a5 : Int32} {a6 : Option Nat} {a7 : Option Nat} {h0 : xk_H} (C : xk_Cx Γ RJ24 cJ24_putVal 13 (Option.some (FieldType.object "java/lang/Object")) "putVal" 6 191) (Z : xk_Z Γ (some (va_rf r)) h') (E : mf_J24_putVal_J104 a0 a1 a2 a3 a4 a5 a6 a7 h0 = some (r, h')) : xk_X Γ 104 [(0, va_rf a0), (1, .int a1), (2, va_rf a2), (3, va_rf a3), (4, .int a4), (5, .int a5), (6, va_rf a6), (7, va_rf a7)] [] h0 := by
  rw [mf_J24_putVal_J104] at E
  refine xr_aload 7 C rfl dJ24_putVal_104 ?_
  refine xr_inst C E xi_14_HashMapTreeNode xk_n13 q1418 dJ24_putVal_106 (fun x7 E => ?_)
  refine xr_if_eq 131 C E dJ24_putVal_109 (by decide) (fun E => ?_) (fun E => ?_)
  · refine xr_iconst (0) C (by decide) dJ24_putVal_131 ?_
    refine xr_istore (L2 := [(12, .int (0 : Int32)), (0, va_rf a0), (1, .int a1), (2, va_rf a2), (3, va_rf a3), (4, .int a4), (5, .int a5), (6, va_rf a6), (7, va_rf a7)]) C rfl dJ24_putVal_132 (by decide) ?_
    refine xr_sub [1, 2, 3, 4, 5, 6, 7, 8, 0] rfl ?_
    refine wk_J24_putVal_L134 (a0 := a0) (a1 := a1) (a2 := a2) (a3 := a3) (a4 := a4) (a5 := a5) (a6 := a6) C Z (fun m13 h14 E => ?_) (fun m29 h30 E => ?_) (fun m31 m32 m33 h34 E => ?_) xk_fu a7 (0 : Int32) h0 E
    · exact wk_J24_putVal_J222 C Z E
    · refine xr_goto 222 C dJ24_putVal_209 (by decide) ?_
      exact wk_J24_putVal_J222 C Z E
    · refine xr_aload 7 C rfl dJ24_putVal_145 ?_
      refine xr_aload_n 0 C rfl rfl dJ24_putVal_147 ?_
      refine xr_iload_n 1 C rfl rfl dJ24_putVal_148 ?_
      refine xr_aload_n 2 C rfl rfl dJ24_putVal_149 ?_
      refine xr_aload_n 3 C rfl rfl dJ24_putVal_150 ?_
      refine xr_null C dJ24_putVal_151 ?_
      refine xr_V (v := a0) [.int a1, va_rf a2, va_rf a3, va_rf none] [va_rf m31] (fun r => some (va_rf r)) (fun r => va_rf r :: [va_rf m31]) C E xi_12_HashMap (fun r h' e => wk_J24_newNode e) q1717 q1718 q1719 q109 q1720 xh_java_util_HashMap xd_J24_newNode (by decide) (by decide) ⟨xk_crf _, trivial⟩ (Nat.le_of_ble_eq_true rfl) rfl (fun _ => rfl) dJ24_putVal_152 (fun r35 h36 E => ?_)
      refine xr_pR C E xf_J24_177 xp_J24_177 (Or.inl ⟨_, rfl⟩) dJ24_putVal_155 (fun h37 E => ?_)
      refine xr_iload 9 C rfl dJ24_putVal_158 ?_
      refine xr_bipush (7) C (by decide) dJ24_putVal_160 ?_
      refine xr_icmp_lt 222 C E dJ24_putVal_162 (by decide) (fun E => ?_) (fun E => ?_)
      · refine xr_sub [0, 3, 4, 5, 8] rfl ?_
        exact wk_J24_putVal_J222 C Z E
      · refine xr_aload_n 0 C rfl rfl dJ24_putVal_165 ?_
        refine xr_aload 6 C rfl dJ24_putVal_166 ?_
        refine xr_iload_n 1 C rfl rfl dJ24_putVal_168 ?_
        refine xr_V (v := a0) [va_rf a6, .int a1] [] (fun _ => none) (fun _ => []) C E xi_12_HashMap (fun r h' e => wk_J24_treeifyBin e) q1762 q1763 q1764 q109 q1765 xh_java_util_HashMap xd_J24_treeifyBin (by decide) (by decide) trivial (Nat.le_of_ble_eq_true rfl) rfl (fun _ => rfl) dJ24_putVal_169 (fun r38 h39 E => ?_)
        refine xr_goto 222 C dJ24_putVal_172 (by decide) ?_
        refine xr_sub [0, 3, 4, 5, 8] rfl ?_
        exact wk_J24_putVal_J222 C Z E
  · refine xr_aload 7 C rfl dJ24_putVal_112 ?_
    refine xr_cast C E xi_14_HashMapTreeNode q1418 dJ24_putVal_114 (fun E => ?_)
    refine xr_aload_n 0 C rfl rfl dJ24_putVal_117 ?_
    refine xr_aload 6 C rfl dJ24_putVal_118 ?_
    refine xr_iload_n 1 C rfl rfl dJ24_putVal_120 ?_
    refine xr_aload_n 2 C rfl rfl dJ24_putVal_121 ?_
    refine xr_aload_n 3 C rfl rfl dJ24_putVal_122 ?_
    refine xr_V (v := a7) [va_rf a0, va_rf a6, .int a1, va_rf a2, va_rf a3] [] (fun r => some (va_rf r)) (fun r => va_rf r :: []) C E xi_14_HashMapTreeNode (fun r h' e => wk_J29_putTreeVal e) q1721 q1722 q1723 q116 q1724 xh_java_util_HashMap_TreeNode xd_J29_putTreeVal (by decide) (by decide) trivial (Nat.le_of_ble_eq_true rfl) rfl (fun _ => rfl) dJ24_putVal_123 (fun r40 h41 E => ?_)
    refine xr_astore (L2 := [(10, va_rf r40), (0, va_rf a0), (1, .int a1), (2, va_rf a2), (3, va_rf a3), (4, .int a4), (5, .int a5), (6, va_rf a6), (7, va_rf a7)]) C rfl dJ24_putVal_126 (by decide) ?_
    refine xr_goto 222 C dJ24_putVal_128 (by decide) ?_
    refine xr_sub [1, 4, 5, 6, 0] rfl ?_
    exact wk_J24_putVal_J222 C Z E
def mf_J24_putVal_J29 (a0 : Option Nat) (a1 : Int32) (a2 : Option Nat) (a3 : Option Nat) (a4 : Int32) (a5 : Int32) (a6 : Option Nat) (a8 : Int32) (h0 : xk_H) : Option (Option Nat × xk_H) :=
  xm_lR [103] a6 ((a8 - (1 : Int32)) &&& a1) h0 fun x5 => if x5 = none then (xm_rc [12] a0 h0 <| xm_cl (mf_J24_newNode a0 a1 a2 a3 none h0) fun r45 h46 => xm_sR [103] [13, 14] a6 ((a8 - (1 : Int32)) &&& a1) r45 h46 fun h47 => mf_J24_putVal_J259 a0 a5 h47) else (xm_gI [13, 14] 0 x5 h0 fun x6 => if x6 = a1 then (xm_gR [13, 14] 1 x5 h0 fun x42 => if x42 = a2 then (mf_J24_putVal_J222 a0 a3 a4 a5 x5 h0) else (if a2 = none then (mf_J24_putVal_J104 a0 a1 a2 a3 a4 a5 a6 x5 h0) else (xm_rc [5] a2 h0 <| xm_cl (mf_X5_equals a2 x42 h0) fun r43 h44 => if xk_b2 r43 = 0 then (mf_J24_putVal_J104 a0 a1 a2 a3 a4 a5 a6 x5 h44) else (mf_J24_putVal_J222 a0 a3 a4 a5 x5 h44)))) else (mf_J24_putVal_J104 a0 a1 a2 a3 a4 a5 a6 x5 h0))
set_option maxHeartbeats 1000000 in
theorem wk_J24_putVal_J29 {Γ : xk_C} {r : Option Nat} {h' : xk_H} {a0 : Option Nat} {a1 : Int32} {a2 : Option Nat} {a3 : Option Nat} {a4 : Int32} {a5 : Int32} {a6 : Option Nat} {a8 : Int32} {h0 : xk_H} (C : xk_Cx Γ RJ24 cJ24_putVal 13 (Option.some (FieldType.object "java/lang/Object")) "putVal" 6 191) (Z : xk_Z Γ (some (va_rf r)) h') (E : mf_J24_putVal_J29 a0 a1 a2 a3 a4 a5 a6 a8 h0 = some (r, h')) : xk_X Γ 29 [(0, va_rf a0), (1, .int a1), (2, va_rf a2), (3, va_rf a3), (4, .int a4), (5, .int a5), (6, va_rf a6), (8, .int a8)] [] h0 := by
  rw [mf_J24_putVal_J29] at E
  refine xr_aload 6 C rfl dJ24_putVal_29 ?_
  refine xr_iload 7 C rfl dJ24_putVal_31 ?_
  refine xr_iconst (1) C (by decide) dJ24_putVal_33 ?_
  refine xr_isub C dJ24_putVal_34 ?_
  refine xr_iload_n 1 C rfl rfl dJ24_putVal_35 ?_
  refine xr_iand C dJ24_putVal_36 ?_
  refine xr_dup C rfl dJ24_putVal_37 ?_
  refine xr_istore (L2 := [(9, .int ((a8 - (1 : Int32)) &&& a1)), (0, va_rf a0), (1, .int a1), (2, va_rf a2), (3, va_rf a3), (4, .int a4), (5, .int a5), (6, va_rf a6), (8, .int a8)]) C rfl dJ24_putVal_38 (by decide) ?_
  refine xr_lR 3 (.object "java/util/HashMap$Node") C E (fun _ => rfl) rfl xt_103 dJ24_putVal_40 (fun x5 E => ?_)
  refine xr_dup C (xk_crf _) dJ24_putVal_41 ?_
  refine xr_astore (L2 := [(7, va_rf x5), (9, .int ((a8 - (1 : Int32)) &&& a1)), (0, va_rf a0), (1, .int a1), (2, va_rf a2), (3, va_rf a3), (4, .int a4), (5, .int a5), (6, va_rf a6), (8, .int a8)]) C rfl dJ24_putVal_42 (by decide) ?_
  refine xr_ifnonnull 63 C E dJ24_putVal_44 (by decide) (fun E => ?_) (fun E => ?_)
  · refine xr_aload 0 C rfl dJ24_putVal_63 ?_
    refine xr_gI C E xf_J24_168 dJ24_putVal_65 (fun x6 E => ?_)
    refine xr_iload_n 3 C rfl rfl dJ24_putVal_68 ?_
    refine xr_icmp_ne 104 C E dJ24_putVal_69 (by decide) (fun E => ?_) (fun E => ?_)
    · refine xr_sub [2, 3, 4, 5, 6, 7, 8, 0] rfl ?_
      exact wk_J24_putVal_J104 C Z E
    · refine xr_aload 0 C rfl dJ24_putVal_72 ?_
      refine xr_gR C E xf_J24_170 dJ24_putVal_74 (fun x42 E => ?_)
      refine xr_dup C (xk_crf _) dJ24_putVal_77 ?_
      refine xr_astore (L2 := [(11, va_rf x42), (7, va_rf x5), (9, .int ((a8 - (1 : Int32)) &&& a1)), (0, va_rf a0), (1, .int a1), (2, va_rf a2), (3, va_rf a3), (4, .int a4), (5, .int a5), (6, va_rf a6), (8, .int a8)]) C rfl dJ24_putVal_78 (by decide) ?_
      refine xr_aload_n 5 C rfl rfl dJ24_putVal_80 ?_
      refine xr_acmp_eq 97 C E dJ24_putVal_81 (by decide) (fun E => ?_) (fun E => ?_)
      · refine xr_aload 1 C rfl dJ24_putVal_97 ?_
        refine xr_astore (L2 := [(10, va_rf x5), (11, va_rf x42), (7, va_rf x5), (9, .int ((a8 - (1 : Int32)) &&& a1)), (0, va_rf a0), (1, .int a1), (2, va_rf a2), (3, va_rf a3), (4, .int a4), (5, .int a5), (6, va_rf a6), (8, .int a8)]) C rfl dJ24_putVal_99 (by decide) ?_
        refine xr_goto 222 C dJ24_putVal_101 (by decide) ?_
        refine xr_sub [4, 7, 8, 9, 0] rfl ?_
        exact wk_J24_putVal_J222 C Z E
      · refine xr_aload_n 5 C rfl rfl dJ24_putVal_84 ?_
        refine xr_ifnull 104 C E dJ24_putVal_85 (by decide) (fun E => ?_) (fun E => ?_)
        · refine xr_sub [3, 4, 5, 6, 7, 8, 9, 1] rfl ?_
          exact wk_J24_putVal_J104 C Z E
        · refine xr_aload_n 5 C rfl rfl dJ24_putVal_88 ?_
          refine xr_aload 0 C rfl dJ24_putVal_89 ?_
          refine xr_U (v := a2) [va_rf x42] [] (fun r => some (.int (xk_b2 r))) (fun r => .int (xk_b2 r) :: []) C E xi_5_SlatCratesSeen (fun r h' e => wk_X5_equals e) q1417 q961 (xk_dec1 q960 q988) q966 q965 q110 q967 xh_java_lang_Object xd_J40_equals (by decide) (by decide) trivial (Nat.le_of_ble_eq_true rfl) rfl (fun _ => rfl) dJ24_putVal_91 (fun r43 h44 E => ?_)
          refine xr_if_eq 104 C E dJ24_putVal_94 (by decide) (fun E => ?_) (fun E => ?_)
          · refine xr_sub [3, 4, 5, 6, 7, 8, 9, 1] rfl ?_
            exact wk_J24_putVal_J104 C Z E
          · refine xr_aload 1 C rfl dJ24_putVal_97 ?_
            refine xr_astore (L2 := [(10, va_rf x5), (11, va_rf x42), (7, va_rf x5), (9, .int ((a8 - (1 : Int32)) &&& a1)), (0, va_rf a0), (1, .int a1), (2, va_rf a2), (3, va_rf a3), (4, .int a4), (5, .int a5), (6, va_rf a6), (8, .int a8)]) C rfl dJ24_putVal_99 (by decide) ?_
            refine xr_goto 222 C dJ24_putVal_101 (by decide) ?_
            refine xr_sub [4, 7, 8, 9, 0] rfl ?_
            exact wk_J24_putVal_J222 C Z E
  · refine xr_aload 8 C rfl dJ24_putVal_47 ?_
    refine xr_iload 1 C rfl dJ24_putVal_49 ?_
    refine xr_aload_n 2 C rfl rfl dJ24_putVal_51 ?_
    refine xr_iload_n 3 C rfl rfl dJ24_putVal_52 ?_
    refine xr_aload_n 4 C rfl rfl dJ24_putVal_53 ?_
    refine xr_aload_n 5 C rfl rfl dJ24_putVal_54 ?_
    refine xr_null C dJ24_putVal_55 ?_
    refine xr_V (v := a0) [.int a1, va_rf a2, va_rf a3, va_rf none] [.int ((a8 - (1 : Int32)) &&& a1), va_rf a6] (fun r => some (va_rf r)) (fun r => va_rf r :: [.int ((a8 - (1 : Int32)) &&& a1), va_rf a6]) C E xi_12_HashMap (fun r h' e => wk_J24_newNode e) q1717 q1718 q1719 q109 q1720 xh_java_util_HashMap xd_J24_newNode (by decide) (by decide) ⟨rfl, ⟨xk_crf _, trivial⟩⟩ (Nat.le_of_ble_eq_true rfl) rfl (fun _ => rfl) dJ24_putVal_56 (fun r45 h46 E => ?_)
    refine xr_sN C E xa_13_14_HashMapNode dJ24_putVal_59 (fun h47 E => ?_)
    refine xr_goto 259 C dJ24_putVal_60 (by decide) ?_
    refine xr_sub [2, 7] rfl ?_
    exact wk_J24_putVal_J259 C Z E
def mf_J24_putVal_J19 (a0 : Option Nat) (a1 : Int32) (a2 : Option Nat) (a3 : Option Nat) (a4 : Int32) (a5 : Int32) (h0 : xk_H) : Option (Option Nat × xk_H) :=
  xm_rc [12] a0 h0 <| xm_cl (mf_J24_resize a0 h0) fun r2 h3 => xm_len [103] r2 h3 fun x4 => mf_J24_putVal_J29 a0 a1 a2 a3 a4 a5 r2 x4 h3
set_option maxHeartbeats 1000000 in
theorem wk_J24_putVal_J19 {Γ : xk_C} {r : Option Nat} {h' : xk_H} {a0 : Option Nat} {a1 : Int32} {a2 : Option Nat} {a3 : Option Nat} {a4 : Int32} {a5 : Int32} {h0 : xk_H} (C : xk_Cx Γ RJ24 cJ24_putVal 13 (Option.some (FieldType.object "java/lang/Object")) "putVal" 6 191) (Z : xk_Z Γ (some (va_rf r)) h') (E : mf_J24_putVal_J19 a0 a1 a2 a3 a4 a5 h0 = some (r, h')) : xk_X Γ 19 [(0, va_rf a0), (1, .int a1), (2, va_rf a2), (3, va_rf a3), (4, .int a4), (5, .int a5)] [] h0 := by
  rw [mf_J24_putVal_J19] at E
  refine xr_aload_n 0 C rfl rfl dJ24_putVal_19 ?_
  refine xr_V (v := a0) [] [] (fun r => some (va_rf r)) (fun r => va_rf r :: []) C E xi_12_HashMap (fun r h' e => wk_J24_resize e) q1644 q1645 q1646 q109 q1647 xh_java_util_HashMap xd_J24_resize (by decide) (by decide) trivial (Nat.le_of_ble_eq_true rfl) rfl (fun _ => rfl) dJ24_putVal_20 (fun r2 h3 E => ?_)
  refine xr_dup C (xk_crf _) dJ24_putVal_23 ?_
  refine xr_astore (L2 := [(6, va_rf r2), (0, va_rf a0), (1, .int a1), (2, va_rf a2), (3, va_rf a3), (4, .int a4), (5, .int a5)]) C rfl dJ24_putVal_24 (by decide) ?_
  refine xr_len 3 (.object "java/util/HashMap$Node") C E (fun _ => rfl) xt_103 dJ24_putVal_26 (fun x4 E => ?_)
  refine xr_istore (L2 := [(8, .int x4), (6, va_rf r2), (0, va_rf a0), (1, .int a1), (2, va_rf a2), (3, va_rf a3), (4, .int a4), (5, .int a5)]) C rfl dJ24_putVal_27 (by decide) ?_
  refine xr_sub [2, 3, 4, 5, 6, 7, 1, 0] rfl ?_
  exact wk_J24_putVal_J29 C Z E
def mf_J24_putVal (a0 : Option Nat) (a1 : Int32) (a2 : Option Nat) (a3 : Option Nat) (a4 : Int32) (a5 : Int32) (h0 : xk_H) : Option (Option Nat × xk_H) :=
  xm_gR [12] 2 a0 h0 fun x1 => if x1 = none then (mf_J24_putVal_J19 a0 a1 a2 a3 a4 a5 h0) else (xm_len [103] x1 h0 fun x48 => if x48 = 0 then (mf_J24_putVal_J19 a0 a1 a2 a3 a4 a5 h0) else (mf_J24_putVal_J29 a0 a1 a2 a3 a4 a5 x1 x48 h0))
set_option maxHeartbeats 1000000 in
theorem wk_J24_putVal {l : Launch} {D : va_G} {base : Nat} {a0 : Option Nat} {a1 : Int32} {a2 : Option Nat} {a3 : Option Nat} {a4 : Int32} {a5 : Int32} {h0 : xk_H} {r : Option Nat} {h' : xk_H} (E : mf_J24_putVal a0 a1 a2 a3 a4 a5 h0 = some (r, h')) : xk_Ok l D base yJ24_putVal cJ24_putVal 13 (Option.some (FieldType.object "java/lang/Object")) 6 191 [va_rf a0, .int a1, va_rf a2, va_rf a3, .int a4, .int a5] h0 (some (va_rf r)) h' := by
  refine xk_ofX RJ24 "putVal" xq_J24_putVal rfl rfl (Nat.le_of_ble_eq_true rfl) ⟨xk_crf _, ⟨rfl, ⟨xk_crf _, ⟨xk_crf _, ⟨rfl, ⟨rfl, trivial⟩⟩⟩⟩⟩⟩ (fun Γ el eD eb C Z => ?_)
  rw [mf_J24_putVal] at E
  show xk_X Γ 0 [(0, va_rf a0), (1, .int a1), (2, va_rf a2), (3, va_rf a3), (4, .int a4), (5, .int a5)] [] h0
  refine xr_aload_n 0 C rfl rfl dJ24_putVal_0 ?_
  refine xr_gR C E xf_J24_105 dJ24_putVal_1 (fun x1 E => ?_)
  refine xr_dup C (xk_crf _) dJ24_putVal_4 ?_
  refine xr_astore (L2 := [(6, va_rf x1), (0, va_rf a0), (1, .int a1), (2, va_rf a2), (3, va_rf a3), (4, .int a4), (5, .int a5)]) C rfl dJ24_putVal_5 (by decide) ?_
  refine xr_ifnull 19 C E dJ24_putVal_7 (by decide) (fun E => ?_) (fun E => ?_)
  · refine xr_sub [1, 2, 3, 4, 5, 6] rfl ?_
    exact wk_J24_putVal_J19 C Z E
  · refine xr_aload 0 C rfl dJ24_putVal_10 ?_
    refine xr_len 3 (.object "java/util/HashMap$Node") C E (fun _ => rfl) xt_103 dJ24_putVal_12 (fun x48 E => ?_)
    refine xr_dup C rfl dJ24_putVal_13 ?_
    refine xr_istore (L2 := [(8, .int x48), (6, va_rf x1), (0, va_rf a0), (1, .int a1), (2, va_rf a2), (3, va_rf a3), (4, .int a4), (5, .int a5)]) C rfl dJ24_putVal_14 (by decide) ?_
    refine xr_if_ne 29 C E dJ24_putVal_16 (by decide) (fun E => ?_) (fun E => ?_)
    · refine xr_sub [2, 3, 4, 5, 6, 7, 1, 0] rfl ?_
      exact wk_J24_putVal_J29 C Z E
    · refine xr_sub [2, 3, 4, 5, 6, 7] rfl ?_
      exact wk_J24_putVal_J19 C Z E
def mf_J24_put (a0 : Option Nat) (a1 : Option Nat) (a2 : Option Nat) (h0 : xk_H) : Option (Option Nat × xk_H) :=
  xm_cl (mf_J24_hash a1 h0) fun r1 h2 => xm_rc [12] a0 h2 <| xm_cl (mf_J24_putVal a0 r1 a1 a2 (0 : Int32) (1 : Int32) h2) fun r3 h4 => some (r3, h4)
set_option maxHeartbeats 1000000 in
theorem wk_J24_put {l : Launch} {D : va_G} {base : Nat} {a0 : Option Nat} {a1 : Option Nat} {a2 : Option Nat} {h0 : xk_H} {r : Option Nat} {h' : xk_H} (E : mf_J24_put a0 a1 a2 h0 = some (r, h')) : xk_Ok l D base yJ24_put cJ24_put 3 (Option.some (FieldType.object "java/lang/Object")) 7 223 [va_rf a0, va_rf a1, va_rf a2] h0 (some (va_rf r)) h' := by
  refine xk_ofX RJ24 "put" xq_J24_put rfl rfl (Nat.le_of_ble_eq_true rfl) ⟨xk_crf _, ⟨xk_crf _, ⟨xk_crf _, trivial⟩⟩⟩ (fun Γ el eD eb C Z => ?_)
  rw [mf_J24_put] at E
  show xk_X Γ 0 [(0, va_rf a0), (1, va_rf a1), (2, va_rf a2)] [] h0
  refine xr_aload_n 0 C rfl rfl dJ24_put_0 ?_
  refine xr_aload_n 1 C rfl rfl dJ24_put_1 ?_
  refine xr_S [va_rf a1] [va_rf a0] (fun r => some (.int r)) (fun r => .int r :: [va_rf a0]) C E (fun r h' e => wk_J24_hash e) q1339 q1340 q109 q1341 xh_java_util_HashMap xd_J24_hash (by decide) (by decide) ⟨xk_crf _, trivial⟩ (Nat.le_of_ble_eq_true rfl) rfl (fun _ => rfl) dJ24_put_2 (fun r1 h2 E => ?_)
  refine xr_aload_n 1 C rfl rfl dJ24_put_5 ?_
  refine xr_aload_n 2 C rfl rfl dJ24_put_6 ?_
  refine xr_iconst (0) C (by decide) dJ24_put_7 ?_
  refine xr_iconst (1) C (by decide) dJ24_put_8 ?_
  refine xr_V (v := a0) [.int r1, va_rf a1, va_rf a2, .int (0 : Int32), .int (1 : Int32)] [] (fun r => some (va_rf r)) (fun r => va_rf r :: []) C E xi_12_HashMap (fun r h' e => wk_J24_putVal e) q1640 q1641 q1642 q109 q1643 xh_java_util_HashMap xd_J24_putVal (by decide) (by decide) trivial (Nat.le_of_ble_eq_true rfl) rfl (fun _ => rfl) dJ24_put_9 (fun r3 h4 E => ?_)
  exact xr_aret C Z E (Or.inl ⟨_, rfl⟩) dJ24_put_12
def mf_J30_init (a0 : Nat) (a1 : Option Nat) (h0 : xk_H) : Option (Unit × xk_H) :=
  xm_pV [15] 0 (some a0) (va_rf a1) h0 fun h1 => xm_cl (mf_J0_init a0 h1) fun r2 h3 => some ((), h3)
set_option maxHeartbeats 1000000 in
theorem wk_J30_init {l : Launch} {D : va_G} {base : Nat} {a0 : Nat} {a1 : Option Nat} {h0 : xk_H} {r : Unit} {h' : xk_H} (E : mf_J30_init a0 a1 h0 = some (r, h')) : xk_Ok l D base yJ30_init cJ30_init 2 none 2 80 [va_rf (some a0), va_rf a1] h0 none h' := by
  refine xk_ofX RJ30 "<init>" xq_J30_init rfl rfl (Nat.le_of_ble_eq_true rfl) ⟨xk_crf _, ⟨xk_crf _, trivial⟩⟩ (fun Γ el eD eb C Z => ?_)
  rw [mf_J30_init] at E
  show xk_X Γ 0 [(0, va_rf (some a0)), (1, va_rf a1)] [] h0
  refine xr_aload_n 0 C rfl rfl dJ30_init_0 ?_
  refine xr_aload_n 1 C rfl rfl dJ30_init_1 ?_
  refine xr_pR C E xf_J30_1 xp_J30_1_i (Or.inl ⟨_, rfl⟩) dJ30_init_2 (fun h1 E => ?_)
  refine xr_aload_n 0 C rfl rfl dJ30_init_5 ?_
  refine xr_I (b := a0) [] [] (fun _ => none) (fun _ => []) C E (fun r h' e => wk_J0_init e) q1890 q151 q80 q152 xh_java_util_AbstractCollection rfl xd_J0_init (by decide) (by decide) trivial (Nat.le_of_ble_eq_true rfl) rfl (fun _ => rfl) dJ30_init_6 (fun r2 h3 E => ?_)
  exact xr_vret C Z E dJ30_init_9
def mf_J24_values (a0 : Option Nat) (h0 : xk_H) : Option (Option Nat × xk_H) :=
  xm_gR [12] 1 a0 h0 fun x1 => if x1 = none then (xm_new 15 [.null] h0 fun b2 h3 => xm_cl (mf_J30_init b2 a0 h3) fun r4 h5 => xm_pV [12] 1 a0 (va_rf (some b2)) h5 fun h6 => some ((some b2), h6)) else (some (x1, h0))
set_option maxHeartbeats 1000000 in
theorem wk_J24_values {l : Launch} {D : va_G} {base : Nat} {a0 : Option Nat} {h0 : xk_H} {r : Option Nat} {h' : xk_H} (E : mf_J24_values a0 h0 = some (r, h')) : xk_Ok l D base yJ24_values cJ24_values 2 (Option.some (FieldType.object "java/util/Collection")) 3 101 [va_rf a0] h0 (some (va_rf r)) h' := by
  refine xk_ofX RJ24 "values" xq_J24_values rfl rfl (Nat.le_of_ble_eq_true rfl) ⟨xk_crf _, trivial⟩ (fun Γ el eD eb C Z => ?_)
  rw [mf_J24_values] at E
  show xk_X Γ 0 [(0, va_rf a0)] [] h0
  refine xr_aload_n 0 C rfl rfl dJ24_values_0 ?_
  refine xr_gR C E xf_J24_259 dJ24_values_1 (fun x1 E => ?_)
  refine xr_astore_n (L2 := [(1, va_rf x1), (0, va_rf a0)]) C rfl rfl dJ24_values_4 (by decide) ?_
  refine xr_aload_n 0 C rfl rfl dJ24_values_5 ?_
  refine xr_ifnonnull 23 C E dJ24_values_6 (by decide) (fun E => ?_) (fun E => ?_)
  · refine xr_aload_n 0 C rfl rfl dJ24_values_23 ?_
    exact xr_aret C Z E (Or.inl ⟨_, rfl⟩) dJ24_values_24
  · refine xr_new (t := 15) (C0 := "java/util/HashMap$Values") (n := 1) C E (by decide) xn_J30 (fun r hr => by cases hr; exact ⟨rfl, rfl⟩) q1885 q1886 q117 dJ24_values_9 (fun b2 h3 E => ?_)
    refine xr_dup C (xk_crf _) dJ24_values_12 ?_
    refine xr_aload_n 1 C rfl rfl dJ24_values_13 ?_
    refine xr_I (b := b2) [va_rf a0] [va_rf (some b2)] (fun _ => none) (fun _ => [va_rf (some b2)]) C E (fun r h' e => wk_J30_init e) q1887 q1888 q117 q1889 xh_java_util_HashMap_Values rfl xd_J30_init (by decide) (by decide) ⟨xk_crf _, trivial⟩ (Nat.le_of_ble_eq_true rfl) rfl (fun _ => rfl) dJ24_values_14 (fun r4 h5 E => ?_)
    refine xr_astore_n (L2 := [(1, va_rf (some b2)), (0, va_rf a0)]) C rfl rfl dJ24_values_17 (by decide) ?_
    refine xr_aload_n 1 C rfl rfl dJ24_values_18 ?_
    refine xr_aload_n 0 C rfl rfl dJ24_values_19 ?_
    refine xr_pR C E xf_J24_259 xp_J24_259 (Or.inl ⟨_, rfl⟩) dJ24_values_20 (fun h6 E => ?_)
    refine xr_aload_n 0 C rfl rfl dJ24_values_23 ?_
    exact xr_aret C Z E (Or.inl ⟨_, rfl⟩) dJ24_values_24
def mf_J31_init_L48 (a0 : Option Nat) (a2 : Option Nat) : Nat → xk_H → Option (Unit × xk_H)
  | 0, _ => none
  | n + 1, h0 => xm_gI [16] 3 a0 h0 fun x9 => xm_len [103] a2 h0 fun x10 => if x10 ≤ x9 then (some ((), h0)) else (xm_gI [16] 3 a0 h0 fun x11 => xm_pV [16] 3 a0 (.int (x11 + (1 : Int32))) h0 fun h12 => xm_lR [103] a2 x11 h12 fun x13 => xm_pV [16] 0 a0 (va_rf x13) h12 fun h14 => if x13 = none then (mf_J31_init_L48 a0 a2 n h14) else (some ((), h14)))
set_option maxHeartbeats 1000000 in
theorem wk_J31_init_L48 {Γ : xk_C} {r : Unit} {h' : xk_H} {a0 : Option Nat} {a2 : Option Nat} (C : xk_Cx Γ RJ31 cJ31_init 3 none "<init>" 1 60) (Z : xk_Z Γ none h') : ∀ (n : Nat) (h0 : xk_H), mf_J31_init_L48 a0 a2 n h0 = some (r, h') → xk_X Γ 48 [(0, va_rf a0), (2, va_rf a2)] [] h0 := by
  intro n
  induction n with
  | zero =>
    intro  h0 E
    rw [mf_J31_init_L48] at E
    cases E
  | succ n ih =>
    intro  h0 E
    have hkb48 : ∀ (g : xk_H), mf_J31_init_L48 a0 a2 n g = some (r, h') → xk_X Γ 48 [(0, va_rf a0), (2, va_rf a2)] [] g := ih
    rw [mf_J31_init_L48] at E
    refine xr_aload_n 0 C rfl rfl dJ31_init_48 ?_
    refine xr_gI C E xf_J31_33 dJ31_init_49 (fun x9 E => ?_)
    refine xr_aload_n 1 C rfl rfl dJ31_init_52 ?_
    refine xr_len 3 (.object "java/util/HashMap$Node") C E (fun _ => rfl) xt_103 dJ31_init_53 (fun x10 E => ?_)
    refine xr_icmp_ge 78 C E dJ31_init_54 (by decide) (fun E => ?_) (fun E => ?_)
    · exact xr_vret C Z E dJ31_init_78
    · refine xr_aload_n 0 C rfl rfl dJ31_init_57 ?_
      refine xr_aload_n 1 C rfl rfl dJ31_init_58 ?_
      refine xr_aload_n 0 C rfl rfl dJ31_init_59 ?_
      refine xr_dup C (xk_crf _) dJ31_init_60 ?_
      refine xr_gI C E xf_J31_33 dJ31_init_61 (fun x11 E => ?_)
      refine xr_dup_x1 C rfl (xk_crf _) dJ31_init_64 ?_
      refine xr_iconst (1) C (by decide) dJ31_init_65 ?_
      refine xr_iadd C dJ31_init_66 ?_
      refine xr_pI C E xf_J31_33 xp_J31_33_i dJ31_init_67 (fun h12 E => ?_)
      refine xr_lR 3 (.object "java/util/HashMap$Node") C E (fun _ => rfl) rfl xt_103 dJ31_init_70 (fun x13 E => ?_)
      refine xr_dup_x1 C (xk_crf _) (xk_crf _) dJ31_init_71 ?_
      refine xr_pR C E xf_J31_26 xp_J31_26_i (Or.inl ⟨_, rfl⟩) dJ31_init_72 (fun h14 E => ?_)
      refine xr_ifnull 48 C E dJ31_init_75 (by decide) (fun E => ?_) (fun E => ?_)
      · exact hkb48 h14 E
      · exact xr_vret C Z E dJ31_init_78
def mf_J31_init (a0 : Nat) (a1 : Option Nat) (h0 : xk_H) : Option (Unit × xk_H) :=
  xm_pV [16] 4 (some a0) (va_rf a1) h0 fun h1 => xm_gI [12] 5 a1 h1 fun x2 => xm_pV [16] 2 (some a0) (.int x2) h1 fun h3 => xm_gR [12] 2 a1 h3 fun x4 => xm_pV [16] 0 (some a0) (va_rf none) h3 fun h5 => xm_pV [16] 1 (some a0) (va_rf none) h5 fun h6 => xm_pV [16] 3 (some a0) (.int (0 : Int32)) h6 fun h7 => if x4 = none then (some ((), h7)) else (xm_gI [12] 4 a1 h7 fun x8 => if x8 ≤ 0 then (some ((), h7)) else (mf_J31_init_L48 (some a0) x4 xk_fu h7))
set_option maxHeartbeats 1000000 in
theorem wk_J31_init {l : Launch} {D : va_G} {base : Nat} {a0 : Nat} {a1 : Option Nat} {h0 : xk_H} {r : Unit} {h' : xk_H} (E : mf_J31_init a0 a1 h0 = some (r, h')) : xk_Ok l D base yJ31_init cJ31_init 3 none 1 60 [va_rf (some a0), va_rf a1] h0 none h' := by
  refine xk_ofX RJ31 "<init>" xq_J31_init rfl rfl (Nat.le_of_ble_eq_true rfl) ⟨xk_crf _, ⟨xk_crf _, trivial⟩⟩ (fun Γ el eD eb C Z => ?_)
  rw [mf_J31_init] at E
  show xk_X Γ 0 [(0, va_rf (some a0)), (1, va_rf a1)] [] h0
  refine xr_aload_n 0 C rfl rfl dJ31_init_0 ?_
  refine xr_aload_n 1 C rfl rfl dJ31_init_1 ?_
  refine xr_pR C E xf_J31_1 xp_J31_1_i (Or.inl ⟨_, rfl⟩) dJ31_init_2 (fun h1 E => ?_)
  refine xr_aload_n 0 C rfl rfl dJ31_init_5 ?_
  refine xr_objInit C q1915 q134 q135 (by decide) trivial (Nat.le_of_ble_eq_true rfl) dJ31_init_6 ?_
  refine xr_aload_n 0 C rfl rfl dJ31_init_9 ?_
  refine xr_aload_n 1 C rfl rfl dJ31_init_10 ?_
  refine xr_gI C E xf_J31_13 dJ31_init_11 (fun x2 E => ?_)
  refine xr_pI C E xf_J31_19 xp_J31_19_i dJ31_init_14 (fun h3 E => ?_)
  refine xr_aload_n 1 C rfl rfl dJ31_init_17 ?_
  refine xr_gR C E xf_J31_22 dJ31_init_18 (fun x4 E => ?_)
  refine xr_astore_n (L2 := [(2, va_rf x4), (0, va_rf (some a0)), (1, va_rf a1)]) C rfl rfl dJ31_init_21 (by decide) ?_
  refine xr_aload_n 1 C rfl rfl dJ31_init_22 ?_
  refine xr_aload_n 1 C rfl rfl dJ31_init_23 ?_
  refine xr_null C dJ31_init_24 ?_
  refine xr_dup_x1 C (xk_crf _) (xk_crf _) dJ31_init_25 ?_
  refine xr_pR C E xf_J31_26 xp_J31_26_i (Or.inl ⟨_, rfl⟩) dJ31_init_26 (fun h5 E => ?_)
  refine xr_pR C E xf_J31_30 xp_J31_30_i (Or.inl ⟨_, rfl⟩) dJ31_init_29 (fun h6 E => ?_)
  refine xr_aload_n 1 C rfl rfl dJ31_init_32 ?_
  refine xr_iconst (0) C (by decide) dJ31_init_33 ?_
  refine xr_pI C E xf_J31_33 xp_J31_33_i dJ31_init_34 (fun h7 E => ?_)
  refine xr_aload_n 0 C rfl rfl dJ31_init_37 ?_
  refine xr_ifnull 78 C E dJ31_init_38 (by decide) (fun E => ?_) (fun E => ?_)
  · exact xr_vret C Z E dJ31_init_78
  · refine xr_aload_n 2 C rfl rfl dJ31_init_41 ?_
    refine xr_gI C E xf_J31_36 dJ31_init_42 (fun x8 E => ?_)
    refine xr_if_le 78 C E dJ31_init_45 (by decide) (fun E => ?_) (fun E => ?_)
    · exact xr_vret C Z E dJ31_init_78
    · refine xr_sub [1, 0] rfl ?_
      exact wk_J31_init_L48 (a0 := (some a0)) (a2 := x4) C Z xk_fu h7 E
def mf_J33_init (a0 : Nat) (a1 : Option Nat) (h0 : xk_H) : Option (Unit × xk_H) :=
  xm_cl (mf_J31_init a0 a1 h0) fun r1 h2 => some ((), h2)
set_option maxHeartbeats 1000000 in
theorem wk_J33_init {l : Launch} {D : va_G} {base : Nat} {a0 : Nat} {a1 : Option Nat} {h0 : xk_H} {r : Unit} {h' : xk_H} (E : mf_J33_init a0 a1 h0 = some (r, h')) : xk_Ok l D base yJ33_init cJ33_init 2 none 2 82 [va_rf (some a0), va_rf a1] h0 none h' := by
  refine xk_ofX RJ33 "<init>" xq_J33_init rfl rfl (Nat.le_of_ble_eq_true rfl) ⟨xk_crf _, ⟨xk_crf _, trivial⟩⟩ (fun Γ el eD eb C Z => ?_)
  rw [mf_J33_init] at E
  show xk_X Γ 0 [(0, va_rf (some a0)), (1, va_rf a1)] [] h0
  refine xr_aload_n 0 C rfl rfl dJ33_init_0 ?_
  refine xr_aload_n 1 C rfl rfl dJ33_init_1 ?_
  refine xr_I (b := a0) [va_rf a1] [] (fun _ => none) (fun _ => []) C E (fun r h' e => wk_J31_init e) q1942 q1913 q118 q1914 xh_java_util_HashMap_HashIterator rfl xd_J31_init (by decide) (by decide) trivial (Nat.le_of_ble_eq_true rfl) rfl (fun _ => rfl) dJ33_init_2 (fun r1 h2 E => ?_)
  exact xr_vret C Z E dJ33_init_5
def mf_J30_iterator (a0 : Option Nat) (h0 : xk_H) : Option (Option Nat × xk_H) :=
  xm_new 16 [.null, .null, .int 0, .int 0, .null] h0 fun b1 h2 => xm_gR [15] 0 a0 h2 fun x3 => xm_cl (mf_J33_init b1 x3 h2) fun r4 h5 => some ((some b1), h5)
set_option maxHeartbeats 1000000 in
theorem wk_J30_iterator {l : Launch} {D : va_G} {base : Nat} {a0 : Option Nat} {h0 : xk_H} {r : Option Nat} {h' : xk_H} (E : mf_J30_iterator a0 h0 = some (r, h')) : xk_Ok l D base yJ30_iterator cJ30_iterator 1 (Option.some (FieldType.object "java/util/Iterator")) 3 103 [va_rf a0] h0 (some (va_rf r)) h' := by
  refine xk_ofX RJ30 "iterator" xq_J30_iterator rfl rfl (Nat.le_of_ble_eq_true rfl) ⟨xk_crf _, trivial⟩ (fun Γ el eD eb C Z => ?_)
  rw [mf_J30_iterator] at E
  show xk_X Γ 0 [(0, va_rf a0)] [] h0
  refine xr_new (t := 16) (C0 := "java/util/HashMap$ValueIterator") (n := 5) C E (by decide) xn_J33 (fun r hr => by cases hr; exact ⟨rfl, rfl⟩) q1937 q1938 q120 dJ30_iterator_0 (fun b1 h2 E => ?_)
  refine xr_dup C (xk_crf _) dJ30_iterator_3 ?_
  refine xr_aload_n 0 C rfl rfl dJ30_iterator_4 ?_
  refine xr_gR C E xf_J30_1 dJ30_iterator_5 (fun x3 E => ?_)
  refine xr_I (b := b1) [va_rf x3] [va_rf (some b1)] (fun _ => none) (fun _ => [va_rf (some b1)]) C E (fun r h' e => wk_J33_init e) q1939 q1940 q120 q1941 xh_java_util_HashMap_ValueIterator rfl xd_J33_init (by decide) (by decide) ⟨xk_crf _, trivial⟩ (Nat.le_of_ble_eq_true rfl) rfl (fun _ => rfl) dJ30_iterator_8 (fun r4 h5 E => ?_)
  exact xr_aret C Z E (Or.inl ⟨_, rfl⟩) dJ30_iterator_11
def mf_J31_hasNext (a0 : Option Nat) (h0 : xk_H) : Option (Bool × xk_H) :=
  xm_gR [16] 0 a0 h0 fun x1 => if x1 = none then (some (false, h0)) else (some (true, h0))
set_option maxHeartbeats 1000000 in
theorem wk_J31_hasNext {l : Launch} {D : va_G} {base : Nat} {a0 : Option Nat} {h0 : xk_H} {r : Bool} {h' : xk_H} (E : mf_J31_hasNext a0 h0 = some (r, h')) : xk_Ok l D base yJ31_hasNext cJ31_hasNext 1 (Option.some FieldType.boolean) 1 60 [va_rf a0] h0 (some (.int (xk_b2 r))) h' := by
  refine xk_ofX RJ31 "hasNext" xq_J31_hasNext rfl rfl (Nat.le_of_ble_eq_true rfl) ⟨xk_crf _, trivial⟩ (fun Γ el eD eb C Z => ?_)
  rw [mf_J31_hasNext] at E
  show xk_X Γ 0 [(0, va_rf a0)] [] h0
  refine xr_aload_n 0 C rfl rfl dJ31_hasNext_0 ?_
  refine xr_gR C E xf_J31_26 dJ31_hasNext_1 (fun x1 E => ?_)
  refine xr_ifnull 11 C E dJ31_hasNext_4 (by decide) (fun E => ?_) (fun E => ?_)
  · refine xr_iconst (0) C (by decide) dJ31_hasNext_11 ?_
    exact xr_bret (b := false) C Z E dJ31_hasNext_12
  · refine xr_iconst (1) C (by decide) dJ31_hasNext_7 ?_
    refine xr_goto 12 C dJ31_hasNext_8 (by decide) ?_
    exact xr_bret (b := true) C Z E dJ31_hasNext_12
def mf_J31_nextNode_L68 (a0 : Option Nat) (a1 : Option Nat) (a2 : Option Nat) : Nat → xk_H → Option (Option Nat × xk_H)
  | 0, _ => none
  | n + 1, h0 => xm_gI [16] 3 a0 h0 fun x10 => xm_len [103] a1 h0 fun x11 => if x11 ≤ x10 then (some (a2, h0)) else (xm_gI [16] 3 a0 h0 fun x12 => xm_pV [16] 3 a0 (.int (x12 + (1 : Int32))) h0 fun h13 => xm_lR [103] a1 x12 h13 fun x14 => xm_pV [16] 0 a0 (va_rf x14) h13 fun h15 => if x14 = none then (mf_J31_nextNode_L68 a0 a1 a2 n h15) else (some (a2, h15)))
set_option maxHeartbeats 1000000 in
theorem wk_J31_nextNode_L68 {Γ : xk_C} {r : Option Nat} {h' : xk_H} {a0 : Option Nat} {a1 : Option Nat} {a2 : Option Nat} (C : xk_Cx Γ RJ31 cJ31_nextNode 3 (Option.some (FieldType.object "java/util/HashMap$Node")) "nextNode" 1 60) (Z : xk_Z Γ (some (va_rf r)) h') : ∀ (n : Nat) (h0 : xk_H), mf_J31_nextNode_L68 a0 a1 a2 n h0 = some (r, h') → xk_X Γ 68 [(0, va_rf a0), (1, va_rf a1), (2, va_rf a2)] [] h0 := by
  intro n
  induction n with
  | zero =>
    intro  h0 E
    rw [mf_J31_nextNode_L68] at E
    cases E
  | succ n ih =>
    intro  h0 E
    have hkb68 : ∀ (g : xk_H), mf_J31_nextNode_L68 a0 a1 a2 n g = some (r, h') → xk_X Γ 68 [(0, va_rf a0), (1, va_rf a1), (2, va_rf a2)] [] g := ih
    rw [mf_J31_nextNode_L68] at E
    refine xr_aload_n 0 C rfl rfl dJ31_nextNode_68 ?_
    refine xr_gI C E xf_J31_33 dJ31_nextNode_69 (fun x10 E => ?_)
    refine xr_aload_n 1 C rfl rfl dJ31_nextNode_72 ?_
    refine xr_len 3 (.object "java/util/HashMap$Node") C E (fun _ => rfl) xt_103 dJ31_nextNode_73 (fun x11 E => ?_)
    refine xr_icmp_ge 98 C E dJ31_nextNode_74 (by decide) (fun E => ?_) (fun E => ?_)
    · refine xr_aload_n 2 C rfl rfl dJ31_nextNode_98 ?_
      exact xr_aret C Z E (Or.inl ⟨_, rfl⟩) dJ31_nextNode_99
    · refine xr_aload_n 0 C rfl rfl dJ31_nextNode_77 ?_
      refine xr_aload_n 1 C rfl rfl dJ31_nextNode_78 ?_
      refine xr_aload_n 0 C rfl rfl dJ31_nextNode_79 ?_
      refine xr_dup C (xk_crf _) dJ31_nextNode_80 ?_
      refine xr_gI C E xf_J31_33 dJ31_nextNode_81 (fun x12 E => ?_)
      refine xr_dup_x1 C rfl (xk_crf _) dJ31_nextNode_84 ?_
      refine xr_iconst (1) C (by decide) dJ31_nextNode_85 ?_
      refine xr_iadd C dJ31_nextNode_86 ?_
      refine xr_pI C E xf_J31_33 xp_J31_33 dJ31_nextNode_87 (fun h13 E => ?_)
      refine xr_lR 3 (.object "java/util/HashMap$Node") C E (fun _ => rfl) rfl xt_103 dJ31_nextNode_90 (fun x14 E => ?_)
      refine xr_dup_x1 C (xk_crf _) (xk_crf _) dJ31_nextNode_91 ?_
      refine xr_pR C E xf_J31_26 xp_J31_26 (Or.inl ⟨_, rfl⟩) dJ31_nextNode_92 (fun h15 E => ?_)
      refine xr_ifnull 68 C E dJ31_nextNode_95 (by decide) (fun E => ?_) (fun E => ?_)
      · exact hkb68 h15 E
      · refine xr_aload_n 2 C rfl rfl dJ31_nextNode_98 ?_
        exact xr_aret C Z E (Or.inl ⟨_, rfl⟩) dJ31_nextNode_99
def mf_J31_nextNode (a0 : Option Nat) (h0 : xk_H) : Option (Option Nat × xk_H) :=
  xm_gR [16] 0 a0 h0 fun x1 => xm_gR [16] 4 a0 h0 fun x2 => xm_gI [12] 5 x2 h0 fun x3 => xm_gI [16] 2 a0 h0 fun x4 => if x3 = x4 then (if x1 = none then (none) else (xm_pV [16] 1 a0 (va_rf x1) h0 fun h5 => xm_gR [13, 14] 3 x1 h5 fun x6 => xm_pV [16] 0 a0 (va_rf x6) h5 fun h7 => if x6 = none then (xm_gR [16] 4 a0 h7 fun x8 => xm_gR [12] 2 x8 h7 fun x9 => if x9 = none then (some (x1, h7)) else (mf_J31_nextNode_L68 a0 x9 x1 xk_fu h7)) else (some (x1, h7)))) else (none)
set_option maxHeartbeats 1000000 in
theorem wk_J31_nextNode {l : Launch} {D : va_G} {base : Nat} {a0 : Option Nat} {h0 : xk_H} {r : Option Nat} {h' : xk_H} (E : mf_J31_nextNode a0 h0 = some (r, h')) : xk_Ok l D base yJ31_nextNode cJ31_nextNode 3 (Option.some (FieldType.object "java/util/HashMap$Node")) 1 60 [va_rf a0] h0 (some (va_rf r)) h' := by
  refine xk_ofX RJ31 "nextNode" xq_J31_nextNode rfl rfl (Nat.le_of_ble_eq_true rfl) ⟨xk_crf _, trivial⟩ (fun Γ el eD eb C Z => ?_)
  rw [mf_J31_nextNode] at E
  show xk_X Γ 0 [(0, va_rf a0)] [] h0
  refine xr_aload_n 0 C rfl rfl dJ31_nextNode_0 ?_
  refine xr_gR C E xf_J31_26 dJ31_nextNode_1 (fun x1 E => ?_)
  refine xr_astore_n (L2 := [(2, va_rf x1), (0, va_rf a0)]) C rfl rfl dJ31_nextNode_4 (by decide) ?_
  refine xr_aload_n 1 C rfl rfl dJ31_nextNode_5 ?_
  refine xr_gR C E xf_J31_1 dJ31_nextNode_6 (fun x2 E => ?_)
  refine xr_gI C E xf_J31_13 dJ31_nextNode_9 (fun x3 E => ?_)
  refine xr_aload_n 1 C rfl rfl dJ31_nextNode_12 ?_
  refine xr_gI C E xf_J31_19 dJ31_nextNode_13 (fun x4 E => ?_)
  refine xr_icmp_eq 27 C E dJ31_nextNode_16 (by decide) (fun E => ?_) (fun E => ?_)
  · refine xr_aload_n 0 C rfl rfl dJ31_nextNode_27 ?_
    refine xr_ifnonnull 39 C E dJ31_nextNode_28 (by decide) (fun E => ?_) (fun E => ?_)
    · refine xr_aload_n 1 C rfl rfl dJ31_nextNode_39 ?_
      refine xr_aload_n 1 C rfl rfl dJ31_nextNode_40 ?_
      refine xr_aload_n 0 C rfl rfl dJ31_nextNode_41 ?_
      refine xr_dup_x1 C (xk_crf _) (xk_crf _) dJ31_nextNode_42 ?_
      refine xr_pR C E xf_J31_30 xp_J31_30 (Or.inl ⟨_, rfl⟩) dJ31_nextNode_43 (fun h5 E => ?_)
      refine xr_gR C E xf_J31_45 dJ31_nextNode_46 (fun x6 E => ?_)
      refine xr_dup_x1 C (xk_crf _) (xk_crf _) dJ31_nextNode_49 ?_
      refine xr_pR C E xf_J31_26 xp_J31_26 (Or.inl ⟨_, rfl⟩) dJ31_nextNode_50 (fun h7 E => ?_)
      refine xr_ifnonnull 98 C E dJ31_nextNode_53 (by decide) (fun E => ?_) (fun E => ?_)
      · refine xr_aload_n 0 C rfl rfl dJ31_nextNode_98 ?_
        exact xr_aret C Z E (Or.inl ⟨_, rfl⟩) dJ31_nextNode_99
      · refine xr_aload_n 1 C rfl rfl dJ31_nextNode_56 ?_
        refine xr_gR C E xf_J31_1 dJ31_nextNode_57 (fun x8 E => ?_)
        refine xr_gR C E xf_J31_22 dJ31_nextNode_60 (fun x9 E => ?_)
        refine xr_dup C (xk_crf _) dJ31_nextNode_63 ?_
        refine xr_astore_n (L2 := [(1, va_rf x9), (2, va_rf x1), (0, va_rf a0)]) C rfl rfl dJ31_nextNode_64 (by decide) ?_
        refine xr_ifnull 98 C E dJ31_nextNode_65 (by decide) (fun E => ?_) (fun E => ?_)
        · refine xr_aload_n 1 C rfl rfl dJ31_nextNode_98 ?_
          exact xr_aret C Z E (Or.inl ⟨_, rfl⟩) dJ31_nextNode_99
        · refine xr_sub [2, 0, 1] rfl ?_
          exact wk_J31_nextNode_L68 (a0 := a0) (a1 := x9) (a2 := x1) C Z xk_fu h7 E
    · cases E
  · cases E
def mf_J33_next (a0 : Option Nat) (h0 : xk_H) : Option (Option Nat × xk_H) :=
  xm_rc [16] a0 h0 <| xm_cl (mf_J31_nextNode a0 h0) fun r1 h2 => xm_gR [13, 14] 2 r1 h2 fun x3 => some (x3, h2)
set_option maxHeartbeats 1000000 in
theorem wk_J33_next {l : Launch} {D : va_G} {base : Nat} {a0 : Option Nat} {h0 : xk_H} {r : Option Nat} {h' : xk_H} (E : mf_J33_next a0 h0 = some (r, h')) : xk_Ok l D base yJ33_next cJ33_next 1 (Option.some (FieldType.object "java/lang/Object")) 2 82 [va_rf a0] h0 (some (va_rf r)) h' := by
  refine xk_ofX RJ33 "next" xq_J33_next rfl rfl (Nat.le_of_ble_eq_true rfl) ⟨xk_crf _, trivial⟩ (fun Γ el eD eb C Z => ?_)
  rw [mf_J33_next] at E
  show xk_X Γ 0 [(0, va_rf a0)] [] h0
  refine xr_aload_n 0 C rfl rfl dJ33_next_0 ?_
  refine xr_U (v := a0) [] [] (fun r => some (va_rf r)) (fun r => va_rf r :: []) C E xi_16_HashMapValueIterator (fun r h' e => wk_J31_nextNode e) q725 q726 (xk_dec1 q718 q719) q718 q727 q118 q719 xh_java_util_HashMap_HashIterator xd_java_util_HashMap_ValueIterator_nextNode__Ljava_util_HashMap_Node_ (by decide) (by decide) trivial (Nat.le_of_ble_eq_true rfl) rfl (fun _ => rfl) dJ33_next_1 (fun r1 h2 E => ?_)
  refine xr_gR C E xf_J33_13 dJ33_next_4 (fun x3 E => ?_)
  exact xr_aret C Z E (Or.inl ⟨_, rfl⟩) dJ33_next_7
def mf_J39_init (a0 : Nat) (h0 : xk_H) : Option (Unit × xk_H) :=
  xm_cl (mf_J34_init a0 h0) fun r1 h2 => xm_new 12 [.null, .null, .null, .null, .int 0, .int 0, .int 0, .float 0] h2 fun b3 h4 => xm_cl (mf_J24_init b3 h4) fun r5 h6 => xm_pV [17] 0 (some a0) (va_rf (some b3)) h6 fun h7 => some ((), h7)
set_option maxHeartbeats 1000000 in
theorem wk_J39_init {l : Launch} {D : va_G} {base : Nat} {a0 : Nat} {h0 : xk_H} {r : Unit} {h' : xk_H} (E : mf_J39_init a0 h0 = some (r, h')) : xk_Ok l D base yJ39_init cJ39_init 1 none 3 100 [va_rf (some a0)] h0 none h' := by
  refine xk_ofX RJ39 "<init>" xq_J39_init rfl rfl (Nat.le_of_ble_eq_true rfl) ⟨xk_crf _, trivial⟩ (fun Γ el eD eb C Z => ?_)
  rw [mf_J39_init] at E
  show xk_X Γ 0 [(0, va_rf (some a0))] [] h0
  refine xr_aload_n 0 C rfl rfl dJ39_init_0 ?_
  refine xr_I (b := a0) [] [] (fun _ => none) (fun _ => []) C E (fun r h' e => wk_J34_init e) q2063 q1964 q121 q1965 xh_java_util_AbstractSet rfl xd_J34_init (by decide) (by decide) trivial (Nat.le_of_ble_eq_true rfl) rfl (fun _ => rfl) dJ39_init_1 (fun r1 h2 E => ?_)
  refine xr_aload_n 0 C rfl rfl dJ39_init_4 ?_
  refine xr_new (t := 12) (C0 := "java/util/HashMap") (n := 8) C E (by decide) xn_J24 (fun r hr => by cases hr; exact ⟨rfl, rfl⟩) q2064 q1258 q109 dJ39_init_5 (fun b3 h4 E => ?_)
  refine xr_dup C (xk_crf _) dJ39_init_8 ?_
  refine xr_I (b := b3) [] [va_rf (some b3), va_rf (some a0)] (fun _ => none) (fun _ => [va_rf (some b3), va_rf (some a0)]) C E (fun r h' e => wk_J24_init e) q2065 q1260 q109 q1261 xh_java_util_HashMap rfl xd_J24_init (by decide) (by decide) ⟨xk_crf _, ⟨xk_crf _, trivial⟩⟩ (Nat.le_of_ble_eq_true rfl) rfl (fun _ => rfl) dJ39_init_9 (fun r5 h6 E => ?_)
  refine xr_pR C E xf_J39_10 xp_J39_10_i (Or.inl ⟨_, rfl⟩) dJ39_init_12 (fun h7 E => ?_)
  exact xr_vret C Z E dJ39_init_15
def mf_J39_add (a0 : Option Nat) (a1 : Option Nat) (h0 : xk_H) : Option (Bool × xk_H) :=
  xm_gR [17] 0 a0 h0 fun x1 => xm_rc [12] x1 h0 <| xm_cl (mf_J24_put x1 a1 (h0.2.1 4) h0) fun r2 h3 => if r2 = none then (some (true, h3)) else (some (false, h3))
set_option maxHeartbeats 1000000 in
theorem wk_J39_add {l : Launch} {D : va_G} {base : Nat} {a0 : Option Nat} {a1 : Option Nat} {h0 : xk_H} {r : Bool} {h' : xk_H} (E : mf_J39_add a0 a1 h0 = some (r, h')) : xk_Ok l D base yJ39_add cJ39_add 2 (Option.some FieldType.boolean) 8 245 [va_rf a0, va_rf a1] h0 (some (.int (xk_b2 r))) h' := by
  refine xk_ofX RJ39 "add" xq_J39_add rfl rfl (Nat.le_of_ble_eq_true rfl) ⟨xk_crf _, ⟨xk_crf _, trivial⟩⟩ (fun Γ el eD eb C Z => ?_)
  rw [mf_J39_add] at E
  show xk_X Γ 0 [(0, va_rf a0), (1, va_rf a1)] [] h0
  refine xr_aload_n 0 C rfl rfl dJ39_add_0 ?_
  refine xr_gR C E xf_J39_10 dJ39_add_1 (fun x1 E => ?_)
  refine xr_aload_n 1 C rfl rfl dJ39_add_4 ?_
  refine xr_gsR (k := 4) C (List.mem_of_getElem? (i := 4) rfl) q2079 (Or.inl rfl) dJ39_add_5 ?_
  refine xr_V (v := x1) [va_rf a1, va_rf (h0.2.1 4)] [] (fun r => some (va_rf r)) (fun r => va_rf r :: []) C E xi_12_HashMap (fun r h' e => wk_J24_put e) q2081 q1637 q1638 q109 q1639 xh_java_util_HashMap xd_J24_put (by decide) (by decide) trivial (Nat.le_of_ble_eq_true rfl) rfl (fun _ => rfl) dJ39_add_8 (fun r2 h3 E => ?_)
  refine xr_ifnonnull 18 C E dJ39_add_11 (by decide) (fun E => ?_) (fun E => ?_)
  · refine xr_iconst (0) C (by decide) dJ39_add_18 ?_
    exact xr_bret (b := false) C Z E dJ39_add_19
  · refine xr_iconst (1) C (by decide) dJ39_add_14 ?_
    refine xr_goto 19 C dJ39_add_15 (by decide) ?_
    exact xr_bret (b := true) C Z E dJ39_add_19
