set_option maxRecDepth 100000
theorem xq_J0_init : plainFor yJ0_init = true := by decide +kernel
theorem xf_J2_48 : xk_Fos "java/util/ArrayList" 48 [6] 2 := List.forall_mem_cons.mpr ⟨⟨Or.inl (by decide), (RJ2, TJ2, 3), "java/util/ArrayList", rfl, by decide, Or.inl q159, Or.inl rfl⟩, fun _ h => absurd h List.not_mem_nil⟩
theorem xq_J2_size : plainFor yJ2_size = true := by decide +kernel
theorem xf_J4_7 : xk_Fos "java/util/LinkedList" 7 [7] 1 := List.forall_mem_cons.mpr ⟨⟨Or.inl (by decide), (RJ4, TJ4, 4), "java/util/LinkedList", rfl, by decide, Or.inl q193, Or.inl rfl⟩, fun _ h => absurd h List.not_mem_nil⟩
theorem xq_J4_size : plainFor yJ4_size = true := by decide +kernel
theorem xd_java_util_AbstractCollection_size__I : (parseMethodDescriptor "()I").map (fun d => d.parameters.length) = some 0 := by decide +kernel
theorem xi_7_LinkedList : xk_Is [7] "java/util/LinkedList" := List.forall_mem_cons.mpr ⟨⟨Or.inl (by decide), (RJ4, TJ4, 4), rfl, rfl⟩, fun _ h => absurd h List.not_mem_nil⟩
theorem xh_java_util_AbstractCollection : xk_noMH "java/util/AbstractCollection" := by decide +kernel
theorem xq_J0_isEmpty : plainFor yJ0_isEmpty = true := by decide +kernel
theorem xd_J0_init : (parseMethodDescriptor "()V").map (fun d => d.parameters.length) = some 0 := by decide +kernel
theorem xf_J1_7 : xk_Fos "java/util/AbstractList" 7 [6, 7] 0 := List.forall_mem_cons.mpr ⟨⟨Or.inl (by decide), (RJ2, TJ2, 3), "java/util/AbstractList", rfl, by decide, Or.inl q160, Or.inl rfl⟩, List.forall_mem_cons.mpr ⟨⟨Or.inl (by decide), (RJ4, TJ4, 4), "java/util/AbstractList", rfl, by decide, Or.inl q160, Or.inl rfl⟩, fun _ h => absurd h List.not_mem_nil⟩⟩
theorem xp_J1_7_i : xk_Fp "java/util/AbstractList" "<init>" [6, 7] 0 .int := List.forall_mem_cons.mpr ⟨⟨by decide, fun r h => by cases h; exact ⟨tyJ2_ok 0 (by decide), Or.inl rfl⟩⟩, List.forall_mem_cons.mpr ⟨⟨by decide, fun r h => by cases h; exact ⟨tyJ4_ok 0 (by decide), Or.inl rfl⟩⟩, fun _ h => absurd h List.not_mem_nil⟩⟩
theorem xq_J1_init : plainFor yJ1_init = true := by decide +kernel
theorem xd_J1_init : (parseMethodDescriptor "()V").map (fun d => d.parameters.length) = some 0 := by decide +kernel
theorem xh_java_util_AbstractList : xk_noMH "java/util/AbstractList" := by decide +kernel
theorem xq_J3_init : plainFor yJ3_init = true := by decide +kernel
theorem xf_J2_9 : xk_Fos "java/util/ArrayList" 9 [6] 1 := List.forall_mem_cons.mpr ⟨⟨Or.inl (by decide), (RJ2, TJ2, 3), "java/util/ArrayList", rfl, by decide, Or.inl q156, Or.inl rfl⟩, fun _ h => absurd h List.not_mem_nil⟩
theorem xp_J2_9_i : xk_Fp "java/util/ArrayList" "<init>" [6] 1 (.array (.object "java/lang/Object")) := List.forall_mem_cons.mpr ⟨⟨by decide, fun r h => by cases h; exact ⟨tyJ2_ok 1 (by decide), Or.inl rfl⟩⟩, fun _ h => absurd h List.not_mem_nil⟩
theorem xq_J2_init : plainFor yJ2_init = true := by decide +kernel
theorem xf_J9_1 : xk_Fos "java/util/ArrayList$Itr" 1 [9] 3 := List.forall_mem_cons.mpr ⟨⟨Or.inl (by decide), (RJ9, TJ9, 4), "java/util/ArrayList$Itr", rfl, by decide, Or.inl q306, Or.inl rfl⟩, fun _ h => absurd h List.not_mem_nil⟩
theorem xf_J9_17 : xk_Fos "java/util/ArrayList$Itr" 17 [6] 0 := List.forall_mem_cons.mpr ⟨⟨Or.inl (by decide), (RJ2, TJ2, 3), "java/util/ArrayList", rfl, by decide, Or.inl q163, Or.inr q164⟩, fun _ h => absurd h List.not_mem_nil⟩
theorem xp_J9_1_i : xk_Fp "java/util/ArrayList$Itr" "<init>" [9] 3 (.object "java/util/ArrayList") := List.forall_mem_cons.mpr ⟨⟨by decide, fun r h => by cases h; exact ⟨tyJ9_ok 3 (by decide), Or.inr ⟨rfl, rfl, rfl⟩⟩⟩, fun _ h => absurd h List.not_mem_nil⟩
theorem xf_J9_13 : xk_Fos "java/util/ArrayList$Itr" 13 [9] 1 := List.forall_mem_cons.mpr ⟨⟨Or.inl (by decide), (RJ9, TJ9, 4), "java/util/ArrayList$Itr", rfl, by decide, Or.inl q304, Or.inl rfl⟩, fun _ h => absurd h List.not_mem_nil⟩
theorem xp_J9_13_i : xk_Fp "java/util/ArrayList$Itr" "<init>" [9] 1 .int := List.forall_mem_cons.mpr ⟨⟨by decide, fun r h => by cases h; exact ⟨tyJ9_ok 1 (by decide), Or.inl rfl⟩⟩, fun _ h => absurd h List.not_mem_nil⟩
theorem xf_J9_22 : xk_Fos "java/util/ArrayList$Itr" 22 [9] 2 := List.forall_mem_cons.mpr ⟨⟨Or.inl (by decide), (RJ9, TJ9, 4), "java/util/ArrayList$Itr", rfl, by decide, Or.inl q305, Or.inl rfl⟩, fun _ h => absurd h List.not_mem_nil⟩
theorem xp_J9_22_i : xk_Fp "java/util/ArrayList$Itr" "<init>" [9] 2 .int := List.forall_mem_cons.mpr ⟨⟨by decide, fun r h => by cases h; exact ⟨tyJ9_ok 2 (by decide), Or.inl rfl⟩⟩, fun _ h => absurd h List.not_mem_nil⟩
theorem xq_J9_init : plainFor yJ9_init = true := by decide +kernel
theorem xn_J9 : xk_Nf 9 [.int 0, .int 0, .int 0, .null] := ⟨(RJ9, TJ9, 4), tyJ9, rfl, rfl, fun k hk => by
    match k, hk with
    | 0, _ => exact ⟨tyJ9_ok 0 (by decide), rfl⟩
    | 1, _ => exact ⟨tyJ9_ok 1 (by decide), rfl⟩
    | 2, _ => exact ⟨tyJ9_ok 2 (by decide), rfl⟩
    | 3, _ => exact ⟨tyJ9_ok 3 (by decide), rfl⟩
    | j + 4, hk => exact absurd hk (by show ¬ j + 4 < 4; omega)⟩
theorem xd_J9_init : (parseMethodDescriptor "(Ljava/util/ArrayList;)V").map (fun d => d.parameters.length) = some 1 := by decide +kernel
theorem xh_java_util_ArrayList_Itr : xk_noMH "java/util/ArrayList$Itr" := by decide +kernel
theorem xq_J2_iterator : plainFor yJ2_iterator = true := by decide +kernel
theorem xq_J11_checkIndex : plainFor yJ11_checkIndex = true := by decide +kernel
theorem xd_J11_checkIndex : (parseMethodDescriptor "(IILjava/util/function/BiFunction;)I").map (fun d => d.parameters.length) = some 3 := by decide +kernel
theorem xh_jdk_internal_util_Preconditions : xk_noMH "jdk/internal/util/Preconditions" := by decide +kernel
theorem xq_J10_checkIndex : plainFor yJ10_checkIndex = true := by decide +kernel
theorem xt_102_302 : ∀ t ∈ [102, 302], (100 ≤ t ∧ t < 200 ∨ 300 ≤ t ∧ t < 400) ∧ t % 100 = 2 := by decide
theorem xq_J2_elementData : plainFor yJ2_elementData = true := by decide +kernel
theorem xd_J10_checkIndex : (parseMethodDescriptor "(II)I").map (fun d => d.parameters.length) = some 2 := by decide +kernel
theorem xh_java_util_Objects : xk_noMH "java/util/Objects" := by decide +kernel
theorem xd_J2_elementData : (parseMethodDescriptor "(I)Ljava/lang/Object;").map (fun d => d.parameters.length) = some 1 := by decide +kernel
theorem xi_6_ArrayList : xk_Is [6] "java/util/ArrayList" := List.forall_mem_cons.mpr ⟨⟨Or.inl (by decide), (RJ2, TJ2, 3), rfl, rfl⟩, fun _ h => absurd h List.not_mem_nil⟩
theorem xh_java_util_ArrayList : xk_noMH "java/util/ArrayList" := by decide +kernel
theorem xq_J2_get : plainFor yJ2_get = true := by decide +kernel
theorem xq_J17_max : plainFor yJ17_max = true := by decide +kernel
theorem xd_J17_max : (parseMethodDescriptor "(II)I").map (fun d => d.parameters.length) = some 2 := by decide +kernel
theorem xh_java_lang_Math : xk_noMH "java/lang/Math" := by decide +kernel
theorem xq_J16_newLength : plainFor yJ16_newLength = true := by decide +kernel
theorem xq_J17_min : plainFor yJ17_min = true := by decide +kernel
theorem xd_J17_min : (parseMethodDescriptor "(II)I").map (fun d => d.parameters.length) = some 2 := by decide +kernel
theorem xa_3_211_Object : xk_As [3, 211] "java/lang/Object" := List.forall_mem_cons.mpr ⟨⟨Or.inl (by decide), (RX3, TX3, 6), rfl, Or.inr (List.mem_of_getElem? (i := 0) rfl)⟩, List.forall_mem_cons.mpr ⟨⟨Or.inr ⟨by decide, by decide⟩, (RJ22, TJ22, 1), rfl, Or.inr (List.mem_of_getElem? (i := 3) rfl)⟩, fun _ h => absurd h List.not_mem_nil⟩⟩
theorem xq_J18_copyOf_3 : plainFor yJ18_copyOf_3 = true := by decide +kernel
theorem xd_J18_copyOf_3 : (parseMethodDescriptor "([Ljava/lang/Object;ILjava/lang/Class;)[Ljava/lang/Object;").map (fun d => d.parameters.length) = some 3 := by decide +kernel
theorem xh_java_util_Arrays : xk_noMH "java/util/Arrays" := by decide +kernel
theorem xq_J18_copyOf_2 : plainFor yJ18_copyOf_2 = true := by decide +kernel
theorem xd_J16_newLength : (parseMethodDescriptor "(III)I").map (fun d => d.parameters.length) = some 3 := by decide +kernel
theorem xh_jdk_internal_util_ArraysSupport : xk_noMH "jdk/internal/util/ArraysSupport" := by decide +kernel
theorem xd_J18_copyOf_2 : (parseMethodDescriptor "([Ljava/lang/Object;I)[Ljava/lang/Object;").map (fun d => d.parameters.length) = some 2 := by decide +kernel
theorem xp_J2_9 {nm : String} : xk_Fp "java/util/ArrayList" nm [6] 1 (.array (.object "java/lang/Object")) := List.forall_mem_cons.mpr ⟨⟨by decide, fun r h => by cases h; exact ⟨tyJ2_ok 1 (by decide), Or.inl rfl⟩⟩, fun _ h => absurd h List.not_mem_nil⟩
theorem xq_J2_grow : plainFor yJ2_grow = true := by decide +kernel
theorem xq_J2_toArray : plainFor yJ2_toArray = true := by decide +kernel
theorem xf_J2_63 : xk_Fos "java/util/ArrayList" 63 [6] 0 := List.forall_mem_cons.mpr ⟨⟨Or.inl (by decide), (RJ2, TJ2, 3), "java/util/ArrayList", rfl, by decide, Or.inl q167, Or.inr q164⟩, fun _ h => absurd h List.not_mem_nil⟩
theorem xd_java_util_Collection_toArray___Ljava_lang_Object_ : (parseMethodDescriptor "()[Ljava/lang/Object;").map (fun d => d.parameters.length) = some 0 := by decide +kernel
theorem xh_java_util_Collection : xk_noMH "java/util/Collection" := by decide +kernel
theorem xp_J2_63 {nm : String} : xk_Fp "java/util/ArrayList" nm [6] 0 .int := List.forall_mem_cons.mpr ⟨⟨by decide, fun r h => by cases h; exact ⟨tyJ2_ok 0 (by decide), Or.inl rfl⟩⟩, fun _ h => absurd h List.not_mem_nil⟩
theorem xp_J2_48 {nm : String} : xk_Fp "java/util/ArrayList" nm [6] 2 .int := List.forall_mem_cons.mpr ⟨⟨by decide, fun r h => by cases h; exact ⟨tyJ2_ok 2 (by decide), Or.inl rfl⟩⟩, fun _ h => absurd h List.not_mem_nil⟩
theorem xd_J2_grow : (parseMethodDescriptor "(I)[Ljava/lang/Object;").map (fun d => d.parameters.length) = some 1 := by decide +kernel
theorem xq_J2_addAll : plainFor yJ2_addAll = true := by decide +kernel
theorem xq_J2_grow_2 : plainFor yJ2_grow_2 = true := by decide +kernel
theorem xd_J2_grow_2 : (parseMethodDescriptor "()[Ljava/lang/Object;").map (fun d => d.parameters.length) = some 0 := by decide +kernel
theorem xq_J2_add_2 : plainFor yJ2_add_2 = true := by decide +kernel
theorem xd_J2_add_2 : (parseMethodDescriptor "(Ljava/lang/Object;[Ljava/lang/Object;I)V").map (fun d => d.parameters.length) = some 3 := by decide +kernel
theorem xq_J2_add : plainFor yJ2_add = true := by decide +kernel
theorem xf_J22_205 : xk_Fos "java/lang/Integer" 205 [211] 0 := List.forall_mem_cons.mpr ⟨⟨Or.inr ⟨by decide, by decide⟩, (RJ22, TJ22, 1), "java/lang/Integer", rfl, by decide, Or.inl q946, Or.inl rfl⟩, fun _ h => absurd h List.not_mem_nil⟩
theorem xq_J22_intValue : plainFor yJ22_intValue = true := by decide +kernel
theorem xi_211_Integer : xk_Is [211] "java/lang/Integer" := List.forall_mem_cons.mpr ⟨⟨Or.inr ⟨by decide, by decide⟩, (RJ22, TJ22, 1), rfl, rfl⟩, fun _ h => absurd h List.not_mem_nil⟩
theorem xd_J22_intValue : (parseMethodDescriptor "()I").map (fun d => d.parameters.length) = some 0 := by decide +kernel
theorem xh_java_lang_Integer : xk_noMH "java/lang/Integer" := by decide +kernel
theorem xq_J22_equals : plainFor yJ22_equals = true := by decide +kernel
theorem xd_J40_equals : (parseMethodDescriptor "(Ljava/lang/Object;)Z").map (fun d => d.parameters.length) = some 1 := by decide +kernel
theorem xh_java_lang_Object : xk_noMH "java/lang/Object" := by decide +kernel
theorem xq_J2_indexOfRange : plainFor yJ2_indexOfRange = true := by decide +kernel
theorem xd_J2_indexOfRange : (parseMethodDescriptor "(Ljava/lang/Object;II)I").map (fun d => d.parameters.length) = some 3 := by decide +kernel
theorem xq_J2_indexOf : plainFor yJ2_indexOf = true := by decide +kernel
theorem xq_J2_fastRemove : plainFor yJ2_fastRemove = true := by decide +kernel
theorem xd_J2_fastRemove : (parseMethodDescriptor "([Ljava/lang/Object;I)V").map (fun d => d.parameters.length) = some 2 := by decide +kernel
theorem xq_J2_remove : plainFor yJ2_remove = true := by decide +kernel
theorem xq_J2_isEmpty : plainFor yJ2_isEmpty = true := by decide +kernel
theorem xq_J2_set : plainFor yJ2_set = true := by decide +kernel
theorem xf_J9_25 : xk_Fos "java/util/ArrayList$Itr" 25 [9] 0 := List.forall_mem_cons.mpr ⟨⟨Or.inl (by decide), (RJ9, TJ9, 4), "java/util/ArrayList$Itr", rfl, by decide, Or.inl q303, Or.inl rfl⟩, fun _ h => absurd h List.not_mem_nil⟩
theorem xf_J9_28 : xk_Fos "java/util/ArrayList$Itr" 28 [6] 2 := List.forall_mem_cons.mpr ⟨⟨Or.inl (by decide), (RJ2, TJ2, 3), "java/util/ArrayList", rfl, by decide, Or.inr ⟨_, List.mem_of_getElem? (i := 0) rfl⟩, Or.inl rfl⟩, fun _ h => absurd h List.not_mem_nil⟩
theorem xq_J9_hasNext : plainFor yJ9_hasNext = true := by decide +kernel
theorem xq_J9_checkForComodification : plainFor yJ9_checkForComodification = true := by decide +kernel
theorem xf_J9_37 : xk_Fos "java/util/ArrayList$Itr" 37 [6] 1 := List.forall_mem_cons.mpr ⟨⟨Or.inl (by decide), (RJ2, TJ2, 3), "java/util/ArrayList", rfl, by decide, Or.inl q157, Or.inl rfl⟩, fun _ h => absurd h List.not_mem_nil⟩
theorem xd_J9_checkForComodification : (parseMethodDescriptor "()V").map (fun d => d.parameters.length) = some 0 := by decide +kernel
theorem xi_9_ArrayListItr : xk_Is [9] "java/util/ArrayList$Itr" := List.forall_mem_cons.mpr ⟨⟨Or.inl (by decide), (RJ9, TJ9, 4), rfl, rfl⟩, fun _ h => absurd h List.not_mem_nil⟩
theorem xp_J9_25 {nm : String} : xk_Fp "java/util/ArrayList$Itr" nm [9] 0 .int := List.forall_mem_cons.mpr ⟨⟨by decide, fun r h => by cases h; exact ⟨tyJ9_ok 0 (by decide), Or.inl rfl⟩⟩, fun _ h => absurd h List.not_mem_nil⟩
theorem xp_J9_13 {nm : String} : xk_Fp "java/util/ArrayList$Itr" nm [9] 1 .int := List.forall_mem_cons.mpr ⟨⟨by decide, fun r h => by cases h; exact ⟨tyJ9_ok 1 (by decide), Or.inl rfl⟩⟩, fun _ h => absurd h List.not_mem_nil⟩
theorem xq_J9_next : plainFor yJ9_next = true := by decide +kernel
theorem xt_101 : ∀ t ∈ [101], (100 ≤ t ∧ t < 200 ∨ 300 ≤ t ∧ t < 400) ∧ t % 100 = 1 := by decide
theorem xq_J18_copyOf : plainFor yJ18_copyOf = true := by decide +kernel
theorem xd_J3_init : (parseMethodDescriptor "()V").map (fun d => d.parameters.length) = some 0 := by decide +kernel
theorem xh_java_util_AbstractSequentialList : xk_noMH "java/util/AbstractSequentialList" := by decide +kernel
theorem xp_J4_7_i : xk_Fp "java/util/LinkedList" "<init>" [7] 1 .int := List.forall_mem_cons.mpr ⟨⟨by decide, fun r h => by cases h; exact ⟨tyJ4_ok 1 (by decide), Or.inl rfl⟩⟩, fun _ h => absurd h List.not_mem_nil⟩
theorem xq_J4_init : plainFor yJ4_init = true := by decide +kernel
theorem xf_J4_39 : xk_Fos "java/util/LinkedList" 39 [10] 0 := List.forall_mem_cons.mpr ⟨⟨Or.inl (by decide), (RJ20, TJ20, 3), "java/util/LinkedList$Node", rfl, by decide, Or.inl q885, Or.inl rfl⟩, fun _ h => absurd h List.not_mem_nil⟩
theorem xf_J4_36 : xk_Fos "java/util/LinkedList" 36 [10] 1 := List.forall_mem_cons.mpr ⟨⟨Or.inl (by decide), (RJ20, TJ20, 3), "java/util/LinkedList$Node", rfl, by decide, Or.inl q888, Or.inl rfl⟩, fun _ h => absurd h List.not_mem_nil⟩
theorem xf_J4_33 : xk_Fos "java/util/LinkedList" 33 [7] 0 := List.forall_mem_cons.mpr ⟨⟨Or.inl (by decide), (RJ4, TJ4, 4), "java/util/LinkedList", rfl, by decide, Or.inl q166, Or.inr q162⟩, fun _ h => absurd h List.not_mem_nil⟩
theorem xp_J4_39 {nm : String} : xk_Fp "java/util/LinkedList" nm [10] 0 (.object "java/lang/Object") := List.forall_mem_cons.mpr ⟨⟨by decide, fun r h => by cases h; exact ⟨tyJ20_ok 0 (by decide), Or.inl rfl⟩⟩, fun _ h => absurd h List.not_mem_nil⟩
theorem xp_J4_36 {nm : String} : xk_Fp "java/util/LinkedList" nm [10] 1 (.object "java/util/LinkedList$Node") := List.forall_mem_cons.mpr ⟨⟨by decide, fun r h => by cases h; exact ⟨tyJ20_ok 1 (by decide), Or.inl rfl⟩⟩, fun _ h => absurd h List.not_mem_nil⟩
theorem xf_J4_18 : xk_Fos "java/util/LinkedList" 18 [7] 2 := List.forall_mem_cons.mpr ⟨⟨Or.inl (by decide), (RJ4, TJ4, 4), "java/util/LinkedList", rfl, by decide, Or.inl q195, Or.inl rfl⟩, fun _ h => absurd h List.not_mem_nil⟩
theorem xp_J4_18 {nm : String} : xk_Fp "java/util/LinkedList" nm [7] 2 (.object "java/util/LinkedList$Node") := List.forall_mem_cons.mpr ⟨⟨by decide, fun r h => by cases h; exact ⟨tyJ4_ok 2 (by decide), Or.inl rfl⟩⟩, fun _ h => absurd h List.not_mem_nil⟩
theorem xf_J4_30 : xk_Fos "java/util/LinkedList" 30 [10] 2 := List.forall_mem_cons.mpr ⟨⟨Or.inl (by decide), (RJ20, TJ20, 3), "java/util/LinkedList$Node", rfl, by decide, Or.inl q890, Or.inl rfl⟩, fun _ h => absurd h List.not_mem_nil⟩
theorem xp_J4_30 {nm : String} : xk_Fp "java/util/LinkedList" nm [10] 2 (.object "java/util/LinkedList$Node") := List.forall_mem_cons.mpr ⟨⟨by decide, fun r h => by cases h; exact ⟨tyJ20_ok 2 (by decide), Or.inl rfl⟩⟩, fun _ h => absurd h List.not_mem_nil⟩
theorem xp_J4_7 {nm : String} : xk_Fp "java/util/LinkedList" nm [7] 1 .int := List.forall_mem_cons.mpr ⟨⟨by decide, fun r h => by cases h; exact ⟨tyJ4_ok 1 (by decide), Or.inl rfl⟩⟩, fun _ h => absurd h List.not_mem_nil⟩
theorem xp_J4_33 {nm : String} : xk_Fp "java/util/LinkedList" nm [7] 0 .int := List.forall_mem_cons.mpr ⟨⟨by decide, fun r h => by cases h; exact ⟨tyJ4_ok 0 (by decide), Or.inl rfl⟩⟩, fun _ h => absurd h List.not_mem_nil⟩
theorem xf_J4_27 : xk_Fos "java/util/LinkedList" 27 [7] 3 := List.forall_mem_cons.mpr ⟨⟨Or.inl (by decide), (RJ4, TJ4, 4), "java/util/LinkedList", rfl, by decide, Or.inl q196, Or.inl rfl⟩, fun _ h => absurd h List.not_mem_nil⟩
theorem xp_J4_27 {nm : String} : xk_Fp "java/util/LinkedList" nm [7] 3 (.object "java/util/LinkedList$Node") := List.forall_mem_cons.mpr ⟨⟨by decide, fun r h => by cases h; exact ⟨tyJ4_ok 3 (by decide), Or.inl rfl⟩⟩, fun _ h => absurd h List.not_mem_nil⟩
theorem xq_J4_unlinkFirst : plainFor yJ4_unlinkFirst = true := by decide +kernel
theorem xd_J4_unlinkFirst : (parseMethodDescriptor "(Ljava/util/LinkedList$Node;)Ljava/lang/Object;").map (fun d => d.parameters.length) = some 1 := by decide +kernel
theorem xh_java_util_LinkedList : xk_noMH "java/util/LinkedList" := by decide +kernel
theorem xq_J4_removeFirst : plainFor yJ4_removeFirst = true := by decide +kernel
theorem xf_J20_7 : xk_Fos "java/util/LinkedList$Node" 7 [10] 0 := List.forall_mem_cons.mpr ⟨⟨Or.inl (by decide), (RJ20, TJ20, 3), "java/util/LinkedList$Node", rfl, by decide, Or.inl q883, Or.inl rfl⟩, fun _ h => absurd h List.not_mem_nil⟩
theorem xp_J20_7_i : xk_Fp "java/util/LinkedList$Node" "<init>" [10] 0 (.object "java/lang/Object") := List.forall_mem_cons.mpr ⟨⟨by decide, fun r h => by cases h; exact ⟨tyJ20_ok 0 (by decide), Or.inl rfl⟩⟩, fun _ h => absurd h List.not_mem_nil⟩
theorem xf_J20_13 : xk_Fos "java/util/LinkedList$Node" 13 [10] 1 := List.forall_mem_cons.mpr ⟨⟨Or.inl (by decide), (RJ20, TJ20, 3), "java/util/LinkedList$Node", rfl, by decide, Or.inl q886, Or.inl rfl⟩, fun _ h => absurd h List.not_mem_nil⟩
theorem xp_J20_13_i : xk_Fp "java/util/LinkedList$Node" "<init>" [10] 1 (.object "java/util/LinkedList$Node") := List.forall_mem_cons.mpr ⟨⟨by decide, fun r h => by cases h; exact ⟨tyJ20_ok 1 (by decide), Or.inl rfl⟩⟩, fun _ h => absurd h List.not_mem_nil⟩
theorem xf_J20_17 : xk_Fos "java/util/LinkedList$Node" 17 [10] 2 := List.forall_mem_cons.mpr ⟨⟨Or.inl (by decide), (RJ20, TJ20, 3), "java/util/LinkedList$Node", rfl, by decide, Or.inl q889, Or.inl rfl⟩, fun _ h => absurd h List.not_mem_nil⟩
theorem xp_J20_17_i : xk_Fp "java/util/LinkedList$Node" "<init>" [10] 2 (.object "java/util/LinkedList$Node") := List.forall_mem_cons.mpr ⟨⟨by decide, fun r h => by cases h; exact ⟨tyJ20_ok 2 (by decide), Or.inl rfl⟩⟩, fun _ h => absurd h List.not_mem_nil⟩
theorem xq_J20_init : plainFor yJ20_init = true := by decide +kernel
theorem xn_J20 : xk_Nf 10 [.null, .null, .null] := ⟨(RJ20, TJ20, 3), tyJ20, rfl, rfl, fun k hk => by
    match k, hk with
    | 0, _ => exact ⟨tyJ20_ok 0 (by decide), rfl⟩
    | 1, _ => exact ⟨tyJ20_ok 1 (by decide), rfl⟩
    | 2, _ => exact ⟨tyJ20_ok 2 (by decide), rfl⟩
    | j + 3, hk => exact absurd hk (by show ¬ j + 3 < 3; omega)⟩
theorem xd_J20_init : (parseMethodDescriptor "(Ljava/util/LinkedList$Node;Ljava/lang/Object;Ljava/util/LinkedList$Node;)V").map (fun d => d.parameters.length) = some 3 := by decide +kernel
theorem xh_java_util_LinkedList_Node : xk_noMH "java/util/LinkedList$Node" := by decide +kernel
theorem xq_J4_linkLast : plainFor yJ4_linkLast = true := by decide +kernel
theorem xd_J4_linkLast : (parseMethodDescriptor "(Ljava/lang/Object;)V").map (fun d => d.parameters.length) = some 1 := by decide +kernel
theorem xq_J4_addLast : plainFor yJ4_addLast = true := by decide +kernel
theorem xq_J4_unlinkLast : plainFor yJ4_unlinkLast = true := by decide +kernel
theorem xd_J4_unlinkLast : (parseMethodDescriptor "(Ljava/util/LinkedList$Node;)Ljava/lang/Object;").map (fun d => d.parameters.length) = some 1 := by decide +kernel
theorem xq_J4_removeLast : plainFor yJ4_removeLast = true := by decide +kernel
theorem xn_J22 : xk_Nf 11 [.int 0] := ⟨(RJ22, TJ22, 1), tyJ22, rfl, rfl, fun k hk => by
    match k, hk with
    | 0, _ => exact ⟨tyJ22_ok 0 (by decide), rfl⟩
    | j + 1, hk => exact absurd hk (by show ¬ j + 1 < 1; omega)⟩
theorem xt_304 : ∀ t ∈ [304], (100 ≤ t ∧ t < 200 ∨ 300 ≤ t ∧ t < 400) ∧ t % 100 = 4 := by decide
theorem xq_J22_valueOf : plainFor yJ22_valueOf = true := by decide +kernel
theorem xq_J22_stringSize : plainFor yJ22_stringSize = true := by decide +kernel
theorem xt_301 : ∀ t ∈ [301], (100 ≤ t ∧ t < 200 ∨ 300 ≤ t ∧ t < 400) ∧ t % 100 = 1 := by decide
theorem xq_J22_getChars : plainFor yJ22_getChars = true := by decide +kernel
theorem xf_J5_15 : xk_Fos "java/lang/AbstractStringBuilder" 15 [8] 0 := List.forall_mem_cons.mpr ⟨⟨Or.inl (by decide), (RJ6, TJ6, 4), "java/lang/AbstractStringBuilder", rfl, by decide, Or.inl q223, Or.inl rfl⟩, fun _ h => absurd h List.not_mem_nil⟩
theorem xp_J5_15_i : xk_Fp "java/lang/AbstractStringBuilder" "<init>" [8] 0 (.array .byte) := List.forall_mem_cons.mpr ⟨⟨by decide, fun r h => by cases h; exact ⟨tyJ6_ok 0 (by decide), Or.inl rfl⟩⟩, fun _ h => absurd h List.not_mem_nil⟩
theorem xf_J5_22 : xk_Fos "java/lang/AbstractStringBuilder" 22 [8] 1 := List.forall_mem_cons.mpr ⟨⟨Or.inl (by decide), (RJ6, TJ6, 4), "java/lang/AbstractStringBuilder", rfl, by decide, Or.inl q224, Or.inl rfl⟩, fun _ h => absurd h List.not_mem_nil⟩
theorem xp_J5_22_i : xk_Fp "java/lang/AbstractStringBuilder" "<init>" [8] 1 .byte := List.forall_mem_cons.mpr ⟨⟨by decide, fun r h => by cases h; exact ⟨tyJ6_ok 1 (by decide), Or.inl rfl⟩⟩, fun _ h => absurd h List.not_mem_nil⟩
theorem xq_J5_init : plainFor yJ5_init = true := by decide +kernel
theorem xd_J5_init : (parseMethodDescriptor "(I)V").map (fun d => d.parameters.length) = some 1 := by decide +kernel
theorem xh_java_lang_AbstractStringBuilder : xk_noMH "java/lang/AbstractStringBuilder" := by decide +kernel
theorem xq_J6_init : plainFor yJ6_init = true := by decide +kernel
theorem xf_J5_79 : xk_Fos "java/lang/AbstractStringBuilder" 79 [8] 3 := List.forall_mem_cons.mpr ⟨⟨Or.inl (by decide), (RJ6, TJ6, 4), "java/lang/AbstractStringBuilder", rfl, by decide, Or.inl q227, Or.inl rfl⟩, fun _ h => absurd h List.not_mem_nil⟩
theorem xq_J5_length : plainFor yJ5_length = true := by decide +kernel
theorem xd_J5_length : (parseMethodDescriptor "()I").map (fun d => d.parameters.length) = some 0 := by decide +kernel
theorem xi_8_StringBuilder : xk_Is [8] "java/lang/StringBuilder" := List.forall_mem_cons.mpr ⟨⟨Or.inl (by decide), (RJ6, TJ6, 4), rfl, rfl⟩, fun _ h => absurd h List.not_mem_nil⟩
theorem xq_J6_length : plainFor yJ6_length = true := by decide +kernel
theorem xq_J19_canEncode : plainFor yJ19_canEncode = true := by decide +kernel
theorem xq_J5_newCapacity : plainFor yJ5_newCapacity = true := by decide +kernel
theorem xd_J5_newCapacity : (parseMethodDescriptor "(I)I").map (fun d => d.parameters.length) = some 1 := by decide +kernel
theorem xd_J18_copyOf : (parseMethodDescriptor "([BI)[B").map (fun d => d.parameters.length) = some 2 := by decide +kernel
theorem xp_J5_15 {nm : String} : xk_Fp "java/lang/AbstractStringBuilder" nm [8] 0 (.array .byte) := List.forall_mem_cons.mpr ⟨⟨by decide, fun r h => by cases h; exact ⟨tyJ6_ok 0 (by decide), Or.inl rfl⟩⟩, fun _ h => absurd h List.not_mem_nil⟩
theorem xq_J5_ensureCapacityInternal : plainFor yJ5_ensureCapacityInternal = true := by decide +kernel
theorem xq_J5_isLatin1 : plainFor yJ5_isLatin1 = true := by decide +kernel
theorem xd_J5_ensureCapacityInternal : (parseMethodDescriptor "(I)V").map (fun d => d.parameters.length) = some 1 := by decide +kernel
theorem xd_J5_isLatin1 : (parseMethodDescriptor "()Z").map (fun d => d.parameters.length) = some 0 := by decide +kernel
theorem xp_J5_79 {nm : String} : xk_Fp "java/lang/AbstractStringBuilder" nm [8] 3 .int := List.forall_mem_cons.mpr ⟨⟨by decide, fun r h => by cases h; exact ⟨tyJ6_ok 3 (by decide), Or.inl rfl⟩⟩, fun _ h => absurd h List.not_mem_nil⟩
theorem xd_J19_canEncode : (parseMethodDescriptor "(C)Z").map (fun d => d.parameters.length) = some 1 := by decide +kernel
theorem xh_java_lang_StringLatin1 : xk_noMH "java/lang/StringLatin1" := by decide +kernel
theorem xq_J5_append_2 : plainFor yJ5_append_2 = true := by decide +kernel
theorem xd_J5_append_2 : (parseMethodDescriptor "(C)Ljava/lang/AbstractStringBuilder;").map (fun d => d.parameters.length) = some 1 := by decide +kernel
theorem xq_J6_append_2 : plainFor yJ6_append_2 = true := by decide +kernel
theorem xd_J22_stringSize : (parseMethodDescriptor "(I)I").map (fun d => d.parameters.length) = some 1 := by decide +kernel
theorem xd_J22_getChars : (parseMethodDescriptor "(II[B)I").map (fun d => d.parameters.length) = some 3 := by decide +kernel
theorem xq_J5_append_3 : plainFor yJ5_append_3 = true := by decide +kernel
theorem xd_J5_append_3 : (parseMethodDescriptor "(I)Ljava/lang/AbstractStringBuilder;").map (fun d => d.parameters.length) = some 1 := by decide +kernel
theorem xq_J6_append_3 : plainFor yJ6_append_3 = true := by decide +kernel
theorem xf_J5_73 : xk_Fos "java/lang/AbstractStringBuilder" 73 [8] 2 := List.forall_mem_cons.mpr ⟨⟨Or.inl (by decide), (RJ6, TJ6, 4), "java/lang/AbstractStringBuilder", rfl, by decide, Or.inl q225, Or.inl rfl⟩, fun _ h => absurd h List.not_mem_nil⟩
theorem xp_J5_73 {nm : String} : xk_Fp "java/lang/AbstractStringBuilder" nm [8] 2 .boolean := List.forall_mem_cons.mpr ⟨⟨by decide, fun r h => by cases h; exact ⟨tyJ6_ok 2 (by decide), Or.inl rfl⟩⟩, fun _ h => absurd h List.not_mem_nil⟩
theorem xq_J5_setLength : plainFor yJ5_setLength = true := by decide +kernel
theorem xd_J5_setLength : (parseMethodDescriptor "(I)V").map (fun d => d.parameters.length) = some 1 := by decide +kernel
theorem xq_J6_setLength : plainFor yJ6_setLength = true := by decide +kernel
theorem xq_J7_checkIndex : plainFor yJ7_checkIndex = true := by decide +kernel
theorem xd_J7_checkIndex : (parseMethodDescriptor "(II)V").map (fun d => d.parameters.length) = some 2 := by decide +kernel
theorem xh_java_lang_String : xk_noMH "java/lang/String" := by decide +kernel
theorem xq_J5_charAt : plainFor yJ5_charAt = true := by decide +kernel
theorem xd_J5_charAt : (parseMethodDescriptor "(I)C").map (fun d => d.parameters.length) = some 1 := by decide +kernel
theorem xq_J6_charAt : plainFor yJ6_charAt = true := by decide +kernel
def mf_J0_init (a0 : Nat) (h0 : xk_H) : Option (Unit × xk_H) :=
  some ((), h0)
set_option maxHeartbeats 1000000 in
theorem wk_J0_init {l : Launch} {D : va_G} {base : Nat} {a0 : Nat} {h0 : xk_H} {r : Unit} {h' : xk_H} (E : mf_J0_init a0 h0 = some (r, h')) : xk_Ok l D base yJ0_init cJ0_init 1 none 1 60 [va_rf (some a0)] h0 none h' := by
  refine xk_ofX RJ0 "<init>" xq_J0_init rfl rfl (Nat.le_of_ble_eq_true rfl) ⟨xk_crf _, trivial⟩ (fun Γ el eD eb C Z => ?_)
  rw [mf_J0_init] at E
  show xk_X Γ 0 [(0, va_rf (some a0))] [] h0
  refine xr_aload_n 0 C rfl rfl dJ0_init_0 ?_
  refine xr_objInit C q153 q134 q135 (by decide) trivial (Nat.le_of_ble_eq_true rfl) dJ0_init_1 ?_
  exact xr_vret C Z E dJ0_init_4
def mf_J2_size (a0 : Option Nat) (h0 : xk_H) : Option (Int32 × xk_H) :=
  xm_gI [6] 2 a0 h0 fun x1 => some (x1, h0)
set_option maxHeartbeats 1000000 in
theorem wk_J2_size {l : Launch} {D : va_G} {base : Nat} {a0 : Option Nat} {h0 : xk_H} {r : Int32} {h' : xk_H} (E : mf_J2_size a0 h0 = some (r, h')) : xk_Ok l D base yJ2_size cJ2_size 1 (Option.some FieldType.int) 1 60 [va_rf a0] h0 (some (.int r)) h' := by
  refine xk_ofX RJ2 "size" xq_J2_size rfl rfl (Nat.le_of_ble_eq_true rfl) ⟨xk_crf _, trivial⟩ (fun Γ el eD eb C Z => ?_)
  rw [mf_J2_size] at E
  show xk_X Γ 0 [(0, va_rf a0)] [] h0
  refine xr_aload_n 0 C rfl rfl dJ2_size_0 ?_
  refine xr_gI C E xf_J2_48 dJ2_size_1 (fun x1 E => ?_)
  exact xr_iret C Z E dJ2_size_4
def mf_J4_size (a0 : Option Nat) (h0 : xk_H) : Option (Int32 × xk_H) :=
  xm_gI [7] 1 a0 h0 fun x1 => some (x1, h0)
set_option maxHeartbeats 1000000 in
theorem wk_J4_size {l : Launch} {D : va_G} {base : Nat} {a0 : Option Nat} {h0 : xk_H} {r : Int32} {h' : xk_H} (E : mf_J4_size a0 h0 = some (r, h')) : xk_Ok l D base yJ4_size cJ4_size 1 (Option.some FieldType.int) 1 60 [va_rf a0] h0 (some (.int r)) h' := by
  refine xk_ofX RJ4 "size" xq_J4_size rfl rfl (Nat.le_of_ble_eq_true rfl) ⟨xk_crf _, trivial⟩ (fun Γ el eD eb C Z => ?_)
  rw [mf_J4_size] at E
  show xk_X Γ 0 [(0, va_rf a0)] [] h0
  refine xr_aload_n 0 C rfl rfl dJ4_size_0 ?_
  refine xr_gI C E xf_J4_7 dJ4_size_1 (fun x1 E => ?_)
  exact xr_iret C Z E dJ4_size_4
def mf_J0_isEmpty (a0 : Option Nat) (h0 : xk_H) : Option (Bool × xk_H) :=
  xm_rc [7] a0 h0 <| xm_cl (mf_J4_size a0 h0) fun r1 h2 => if r1 = 0 then (some (true, h2)) else (some (false, h2))
set_option maxHeartbeats 1000000 in
theorem wk_J0_isEmpty {l : Launch} {D : va_G} {base : Nat} {a0 : Option Nat} {h0 : xk_H} {r : Bool} {h' : xk_H} (E : mf_J0_isEmpty a0 h0 = some (r, h')) : xk_Ok l D base yJ0_isEmpty cJ0_isEmpty 1 (Option.some FieldType.boolean) 2 80 [va_rf a0] h0 (some (.int (xk_b2 r))) h' := by
  refine xk_ofX RJ0 "isEmpty" xq_J0_isEmpty rfl rfl (Nat.le_of_ble_eq_true rfl) ⟨xk_crf _, trivial⟩ (fun Γ el eD eb C Z => ?_)
  rw [mf_J0_isEmpty] at E
  show xk_X Γ 0 [(0, va_rf a0)] [] h0
  refine xr_aload_n 0 C rfl rfl dJ0_isEmpty_0 ?_
  refine xr_U (v := a0) [] [] (fun r => some (.int r)) (fun r => .int r :: []) C E xi_7_LinkedList (fun r h' e => wk_J4_size e) q2116 q2511 (xk_dec2 (List.mem_of_getElem? (i := 2) rfl)) q274 q2516 q84 q276 xh_java_util_AbstractCollection xd_java_util_AbstractCollection_size__I (by decide) (by decide) trivial (Nat.le_of_ble_eq_true rfl) rfl (fun _ => rfl) dJ0_isEmpty_1 (fun r1 h2 E => ?_)
  refine xr_if_ne 11 C E dJ0_isEmpty_4 (by decide) (fun E => ?_) (fun E => ?_)
  · refine xr_iconst (0) C (by decide) dJ0_isEmpty_11 ?_
    exact xr_bret (b := false) C Z E dJ0_isEmpty_12
  · refine xr_iconst (1) C (by decide) dJ0_isEmpty_7 ?_
    refine xr_goto 12 C dJ0_isEmpty_8 (by decide) ?_
    exact xr_bret (b := true) C Z E dJ0_isEmpty_12
def mf_J1_init (a0 : Nat) (h0 : xk_H) : Option (Unit × xk_H) :=
  xm_cl (mf_J0_init a0 h0) fun r1 h2 => xm_pV [6, 7] 0 (some a0) (.int (0 : Int32)) h2 fun h3 => some ((), h3)
set_option maxHeartbeats 1000000 in
theorem wk_J1_init {l : Launch} {D : va_G} {base : Nat} {a0 : Nat} {h0 : xk_H} {r : Unit} {h' : xk_H} (E : mf_J1_init a0 h0 = some (r, h')) : xk_Ok l D base yJ1_init cJ1_init 1 none 2 80 [va_rf (some a0)] h0 none h' := by
  refine xk_ofX RJ1 "<init>" xq_J1_init rfl rfl (Nat.le_of_ble_eq_true rfl) ⟨xk_crf _, trivial⟩ (fun Γ el eD eb C Z => ?_)
  rw [mf_J1_init] at E
  show xk_X Γ 0 [(0, va_rf (some a0))] [] h0
  refine xr_aload_n 0 C rfl rfl dJ1_init_0 ?_
  refine xr_I (b := a0) [] [] (fun _ => none) (fun _ => []) C E (fun r h' e => wk_J0_init e) q150 q151 q80 q152 xh_java_util_AbstractCollection rfl xd_J0_init (by decide) (by decide) trivial (Nat.le_of_ble_eq_true rfl) rfl (fun _ => rfl) dJ1_init_1 (fun r1 h2 E => ?_)
  refine xr_aload_n 0 C rfl rfl dJ1_init_4 ?_
  refine xr_iconst (0) C (by decide) dJ1_init_5 ?_
  refine xr_pI C E xf_J1_7 xp_J1_7_i dJ1_init_6 (fun h3 E => ?_)
  exact xr_vret C Z E dJ1_init_9
def mf_J3_init (a0 : Nat) (h0 : xk_H) : Option (Unit × xk_H) :=
  xm_cl (mf_J1_init a0 h0) fun r1 h2 => some ((), h2)
set_option maxHeartbeats 1000000 in
theorem wk_J3_init {l : Launch} {D : va_G} {base : Nat} {a0 : Nat} {h0 : xk_H} {r : Unit} {h' : xk_H} (E : mf_J3_init a0 h0 = some (r, h')) : xk_Ok l D base yJ3_init cJ3_init 1 none 3 100 [va_rf (some a0)] h0 none h' := by
  refine xk_ofX RJ3 "<init>" xq_J3_init rfl rfl (Nat.le_of_ble_eq_true rfl) ⟨xk_crf _, trivial⟩ (fun Γ el eD eb C Z => ?_)
  rw [mf_J3_init] at E
  show xk_X Γ 0 [(0, va_rf (some a0))] [] h0
  refine xr_aload_n 0 C rfl rfl dJ3_init_0 ?_
  refine xr_I (b := a0) [] [] (fun _ => none) (fun _ => []) C E (fun r h' e => wk_J1_init e) q192 q148 q81 q149 xh_java_util_AbstractList rfl xd_J1_init (by decide) (by decide) trivial (Nat.le_of_ble_eq_true rfl) rfl (fun _ => rfl) dJ3_init_1 (fun r1 h2 E => ?_)
  exact xr_vret C Z E dJ3_init_4
def mf_J2_init (a0 : Nat) (h0 : xk_H) : Option (Unit × xk_H) :=
  xm_cl (mf_J1_init a0 h0) fun r1 h2 => xm_pV [6] 1 (some a0) (va_rf (h2.2.1 0)) h2 fun h3 => some ((), h3)
set_option maxHeartbeats 1000000 in
theorem wk_J2_init {l : Launch} {D : va_G} {base : Nat} {a0 : Nat} {h0 : xk_H} {r : Unit} {h' : xk_H} (E : mf_J2_init a0 h0 = some (r, h')) : xk_Ok l D base yJ2_init cJ2_init 1 none 3 100 [va_rf (some a0)] h0 none h' := by
  refine xk_ofX RJ2 "<init>" xq_J2_init rfl rfl (Nat.le_of_ble_eq_true rfl) ⟨xk_crf _, trivial⟩ (fun Γ el eD eb C Z => ?_)
  rw [mf_J2_init] at E
  show xk_X Γ 0 [(0, va_rf (some a0))] [] h0
  refine xr_aload_n 0 C rfl rfl dJ2_init_0 ?_
  refine xr_I (b := a0) [] [] (fun _ => none) (fun _ => []) C E (fun r h' e => wk_J1_init e) q147 q148 q81 q149 xh_java_util_AbstractList rfl xd_J1_init (by decide) (by decide) trivial (Nat.le_of_ble_eq_true rfl) rfl (fun _ => rfl) dJ2_init_1 (fun r1 h2 E => ?_)
  refine xr_aload_n 0 C rfl rfl dJ2_init_4 ?_
  refine xr_gsR (k := 0) C (List.mem_of_getElem? (i := 0) rfl) q154 (Or.inl rfl) dJ2_init_5 ?_
  refine xr_pR C E xf_J2_9 xp_J2_9_i (Or.inr ⟨_, rfl⟩) dJ2_init_8 (fun h3 E => ?_)
  exact xr_vret C Z E dJ2_init_11
def mf_J9_init (a0 : Nat) (a1 : Option Nat) (h0 : xk_H) : Option (Unit × xk_H) :=
  xm_pV [9] 3 (some a0) (va_rf a1) h0 fun h1 => xm_pV [9] 1 (some a0) (.int (-1 : Int32)) h1 fun h2 => xm_gR [9] 3 (some a0) h2 fun x3 => xm_gI [6] 0 x3 h2 fun x4 => xm_pV [9] 2 (some a0) (.int x4) h2 fun h5 => some ((), h5)
set_option maxHeartbeats 1000000 in
theorem wk_J9_init {l : Launch} {D : va_G} {base : Nat} {a0 : Nat} {a1 : Option Nat} {h0 : xk_H} {r : Unit} {h' : xk_H} (E : mf_J9_init a0 a1 h0 = some (r, h')) : xk_Ok l D base yJ9_init cJ9_init 2 none 1 60 [va_rf (some a0), va_rf a1] h0 none h' := by
  refine xk_ofX RJ9 "<init>" xq_J9_init rfl rfl (Nat.le_of_ble_eq_true rfl) ⟨xk_crf _, ⟨xk_crf _, trivial⟩⟩ (fun Γ el eD eb C Z => ?_)
  rw [mf_J9_init] at E
  show xk_X Γ 0 [(0, va_rf (some a0)), (1, va_rf a1)] [] h0
  refine xr_aload_n 0 C rfl rfl dJ9_init_0 ?_
  refine xr_aload_n 1 C rfl rfl dJ9_init_1 ?_
  refine xr_pR C E xf_J9_1 xp_J9_1_i (Or.inl ⟨_, rfl⟩) dJ9_init_2 (fun h1 E => ?_)
  refine xr_aload_n 0 C rfl rfl dJ9_init_5 ?_
  refine xr_objInit C q300 q134 q135 (by decide) trivial (Nat.le_of_ble_eq_true rfl) dJ9_init_6 ?_
  refine xr_aload_n 0 C rfl rfl dJ9_init_9 ?_
  refine xr_iconst (-1) C (by decide) dJ9_init_10 ?_
  refine xr_pI C E xf_J9_13 xp_J9_13_i dJ9_init_11 (fun h2 E => ?_)
  refine xr_aload_n 0 C rfl rfl dJ9_init_14 ?_
  refine xr_aload_n 0 C rfl rfl dJ9_init_15 ?_
  refine xr_gR C E xf_J9_1 dJ9_init_16 (fun x3 E => ?_)
  refine xr_gI C E xf_J9_17 dJ9_init_19 (fun x4 E => ?_)
  refine xr_pI C E xf_J9_22 xp_J9_22_i dJ9_init_22 (fun h5 E => ?_)
  exact xr_vret C Z E dJ9_init_25
def mf_J2_iterator (a0 : Option Nat) (h0 : xk_H) : Option (Option Nat × xk_H) :=
  xm_new 9 [.int 0, .int 0, .int 0, .null] h0 fun b1 h2 => xm_cl (mf_J9_init b1 a0 h2) fun r3 h4 => some ((some b1), h4)
set_option maxHeartbeats 1000000 in
theorem wk_J2_iterator {l : Launch} {D : va_G} {base : Nat} {a0 : Option Nat} {h0 : xk_H} {r : Option Nat} {h' : xk_H} (E : mf_J2_iterator a0 h0 = some (r, h')) : xk_Ok l D base yJ2_iterator cJ2_iterator 1 (Option.some (FieldType.object "java/util/Iterator")) 2 81 [va_rf a0] h0 (some (va_rf r)) h' := by
  refine xk_ofX RJ2 "iterator" xq_J2_iterator rfl rfl (Nat.le_of_ble_eq_true rfl) ⟨xk_crf _, trivial⟩ (fun Γ el eD eb C Z => ?_)
  rw [mf_J2_iterator] at E
  show xk_X Γ 0 [(0, va_rf a0)] [] h0
  refine xr_new (t := 9) (C0 := "java/util/ArrayList$Itr") (n := 4) C E (by decide) xn_J9 (fun r hr => by cases hr; exact ⟨rfl, rfl⟩) q295 q296 q90 dJ2_iterator_0 (fun b1 h2 E => ?_)
  refine xr_dup C (xk_crf _) dJ2_iterator_3 ?_
  refine xr_aload_n 0 C rfl rfl dJ2_iterator_4 ?_
  refine xr_I (b := b1) [va_rf a0] [va_rf (some b1)] (fun _ => none) (fun _ => [va_rf (some b1)]) C E (fun r h' e => wk_J9_init e) q297 q298 q90 q299 xh_java_util_ArrayList_Itr rfl xd_J9_init (by decide) (by decide) ⟨xk_crf _, trivial⟩ (Nat.le_of_ble_eq_true rfl) rfl (fun _ => rfl) dJ2_iterator_5 (fun r3 h4 E => ?_)
  exact xr_aret C Z E (Or.inl ⟨_, rfl⟩) dJ2_iterator_8
def mf_J11_checkIndex (a0 : Int32) (a1 : Int32) (a2 : Option Nat) (h0 : xk_H) : Option (Int32 × xk_H) :=
  if a0 < 0 then (none) else (if a0 < a1 then (some (a0, h0)) else (none))
set_option maxHeartbeats 1000000 in
theorem wk_J11_checkIndex {l : Launch} {D : va_G} {base : Nat} {a0 : Int32} {a1 : Int32} {a2 : Option Nat} {h0 : xk_H} {r : Int32} {h' : xk_H} (E : mf_J11_checkIndex a0 a1 a2 h0 = some (r, h')) : xk_Ok l D base yJ11_checkIndex cJ11_checkIndex 3 (Option.some FieldType.int) 1 60 [.int a0, .int a1, va_rf a2] h0 (some (.int r)) h' := by
  refine xk_ofX RJ11 "checkIndex" xq_J11_checkIndex rfl rfl (Nat.le_of_ble_eq_true rfl) ⟨rfl, ⟨rfl, ⟨xk_crf _, trivial⟩⟩⟩ (fun Γ el eD eb C Z => ?_)
  rw [mf_J11_checkIndex] at E
  show xk_X Γ 0 [(0, .int a0), (1, .int a1), (2, va_rf a2)] [] h0
  refine xr_iload_n 0 C rfl rfl dJ11_checkIndex_0 ?_
  refine xr_if_lt 9 C E dJ11_checkIndex_1 (by decide) (fun E => ?_) (fun E => ?_)
  · refine xr_aload_n 2 C rfl rfl dJ11_checkIndex_9 ?_
    refine xr_iload_n 0 C rfl rfl dJ11_checkIndex_10 ?_
    refine xr_iload_n 1 C rfl rfl dJ11_checkIndex_11 ?_
    cases E
  · refine xr_iload_n 0 C rfl rfl dJ11_checkIndex_4 ?_
    refine xr_iload_n 1 C rfl rfl dJ11_checkIndex_5 ?_
    refine xr_icmp_lt 16 C E dJ11_checkIndex_6 (by decide) (fun E => ?_) (fun E => ?_)
    · refine xr_iload_n 0 C rfl rfl dJ11_checkIndex_16 ?_
      exact xr_iret C Z E dJ11_checkIndex_17
    · refine xr_aload_n 2 C rfl rfl dJ11_checkIndex_9 ?_
      refine xr_iload_n 0 C rfl rfl dJ11_checkIndex_10 ?_
      refine xr_iload_n 1 C rfl rfl dJ11_checkIndex_11 ?_
      cases E
def mf_J10_checkIndex (a0 : Int32) (a1 : Int32) (h0 : xk_H) : Option (Int32 × xk_H) :=
  xm_cl (mf_J11_checkIndex a0 a1 none h0) fun r1 h2 => some (r1, h2)
set_option maxHeartbeats 1000000 in
theorem wk_J10_checkIndex {l : Launch} {D : va_G} {base : Nat} {a0 : Int32} {a1 : Int32} {h0 : xk_H} {r : Int32} {h' : xk_H} (E : mf_J10_checkIndex a0 a1 h0 = some (r, h')) : xk_Ok l D base yJ10_checkIndex cJ10_checkIndex 2 (Option.some FieldType.int) 2 82 [.int a0, .int a1] h0 (some (.int r)) h' := by
  refine xk_ofX RJ10 "checkIndex" xq_J10_checkIndex rfl rfl (Nat.le_of_ble_eq_true rfl) ⟨rfl, ⟨rfl, trivial⟩⟩ (fun Γ el eD eb C Z => ?_)
  rw [mf_J10_checkIndex] at E
  show xk_X Γ 0 [(0, .int a0), (1, .int a1)] [] h0
  refine xr_iload_n 0 C rfl rfl dJ10_checkIndex_0 ?_
  refine xr_iload_n 1 C rfl rfl dJ10_checkIndex_1 ?_
  refine xr_null C dJ10_checkIndex_2 ?_
  refine xr_S [.int a0, .int a1, va_rf none] [] (fun r => some (.int r)) (fun r => .int r :: []) C E (fun r h' e => wk_J11_checkIndex e) q379 q380 q92 q381 xh_jdk_internal_util_Preconditions xd_J11_checkIndex (by decide) (by decide) trivial (Nat.le_of_ble_eq_true rfl) rfl (fun _ => rfl) dJ10_checkIndex_3 (fun r1 h2 E => ?_)
  exact xr_iret C Z E dJ10_checkIndex_6
def mf_J2_elementData (a0 : Option Nat) (a1 : Int32) (h0 : xk_H) : Option (Option Nat × xk_H) :=
  xm_gR [6] 1 a0 h0 fun x1 => xm_lR [102, 302] x1 a1 h0 fun x2 => some (x2, h0)
set_option maxHeartbeats 1000000 in
theorem wk_J2_elementData {l : Launch} {D : va_G} {base : Nat} {a0 : Option Nat} {a1 : Int32} {h0 : xk_H} {r : Option Nat} {h' : xk_H} (E : mf_J2_elementData a0 a1 h0 = some (r, h')) : xk_Ok l D base yJ2_elementData cJ2_elementData 2 (Option.some (FieldType.object "java/lang/Object")) 1 60 [va_rf a0, .int a1] h0 (some (va_rf r)) h' := by
  refine xk_ofX RJ2 "elementData" xq_J2_elementData rfl rfl (Nat.le_of_ble_eq_true rfl) ⟨xk_crf _, ⟨rfl, trivial⟩⟩ (fun Γ el eD eb C Z => ?_)
  rw [mf_J2_elementData] at E
  show xk_X Γ 0 [(0, va_rf a0), (1, .int a1)] [] h0
  refine xr_aload_n 0 C rfl rfl dJ2_elementData_0 ?_
  refine xr_gR C E xf_J2_9 dJ2_elementData_1 (fun x1 E => ?_)
  refine xr_iload_n 1 C rfl rfl dJ2_elementData_4 ?_
  refine xr_lR 2 (.object "java/lang/Object") C E (fun _ => rfl) rfl xt_102_302 dJ2_elementData_5 (fun x2 E => ?_)
  exact xr_aret C Z E (Or.inl ⟨_, rfl⟩) dJ2_elementData_6
def mf_J2_get (a0 : Option Nat) (a1 : Int32) (h0 : xk_H) : Option (Option Nat × xk_H) :=
  xm_gI [6] 2 a0 h0 fun x1 => xm_cl (mf_J10_checkIndex a1 x1 h0) fun r2 h3 => xm_rc [6] a0 h3 <| xm_cl (mf_J2_elementData a0 a1 h3) fun r4 h5 => some (r4, h5)
set_option maxHeartbeats 1000000 in
theorem wk_J2_get {l : Launch} {D : va_G} {base : Nat} {a0 : Option Nat} {a1 : Int32} {h0 : xk_H} {r : Option Nat} {h' : xk_H} (E : mf_J2_get a0 a1 h0 = some (r, h')) : xk_Ok l D base yJ2_get cJ2_get 2 (Option.some (FieldType.object "java/lang/Object")) 3 103 [va_rf a0, .int a1] h0 (some (va_rf r)) h' := by
  refine xk_ofX RJ2 "get" xq_J2_get rfl rfl (Nat.le_of_ble_eq_true rfl) ⟨xk_crf _, ⟨rfl, trivial⟩⟩ (fun Γ el eD eb C Z => ?_)
  rw [mf_J2_get] at E
  show xk_X Γ 0 [(0, va_rf a0), (1, .int a1)] [] h0
  refine xr_iload_n 1 C rfl rfl dJ2_get_0 ?_
  refine xr_aload_n 0 C rfl rfl dJ2_get_1 ?_
  refine xr_gI C E xf_J2_48 dJ2_get_2 (fun x1 E => ?_)
  refine xr_S [.int a1, .int x1] [] (fun r => some (.int r)) (fun r => .int r :: []) C E (fun r h' e => wk_J10_checkIndex e) q376 q377 q91 q378 xh_java_util_Objects xd_J10_checkIndex (by decide) (by decide) trivial (Nat.le_of_ble_eq_true rfl) rfl (fun _ => rfl) dJ2_get_5 (fun r2 h3 E => ?_)
  refine xr_pop C rfl dJ2_get_8 ?_
  refine xr_aload_n 0 C rfl rfl dJ2_get_9 ?_
  refine xr_iload_n 1 C rfl rfl dJ2_get_10 ?_
  refine xr_V (v := a0) [.int a1] [] (fun r => some (va_rf r)) (fun r => va_rf r :: []) C E xi_6_ArrayList (fun r h' e => wk_J2_elementData e) q382 q383 q384 q82 q385 xh_java_util_ArrayList xd_J2_elementData (by decide) (by decide) trivial (Nat.le_of_ble_eq_true rfl) rfl (fun _ => rfl) dJ2_get_11 (fun r4 h5 E => ?_)
  exact xr_aret C Z E (Or.inl ⟨_, rfl⟩) dJ2_get_14
def mf_J17_max (a0 : Int32) (a1 : Int32) (h0 : xk_H) : Option (Int32 × xk_H) :=
  if a0 < a1 then (some (a1, h0)) else (some (a0, h0))
set_option maxHeartbeats 1000000 in
theorem wk_J17_max {l : Launch} {D : va_G} {base : Nat} {a0 : Int32} {a1 : Int32} {h0 : xk_H} {r : Int32} {h' : xk_H} (E : mf_J17_max a0 a1 h0 = some (r, h')) : xk_Ok l D base yJ17_max cJ17_max 2 (Option.some FieldType.int) 1 60 [.int a0, .int a1] h0 (some (.int r)) h' := by
  refine xk_ofX RJ17 "max" xq_J17_max rfl rfl (Nat.le_of_ble_eq_true rfl) ⟨rfl, ⟨rfl, trivial⟩⟩ (fun Γ el eD eb C Z => ?_)
  rw [mf_J17_max] at E
  show xk_X Γ 0 [(0, .int a0), (1, .int a1)] [] h0
  refine xr_iload_n 0 C rfl rfl dJ17_max_0 ?_
  refine xr_iload_n 1 C rfl rfl dJ17_max_1 ?_
  refine xr_icmp_lt 9 C E dJ17_max_2 (by decide) (fun E => ?_) (fun E => ?_)
  · refine xr_iload_n 1 C rfl rfl dJ17_max_9 ?_
    exact xr_iret C Z E dJ17_max_10
  · refine xr_iload_n 0 C rfl rfl dJ17_max_5 ?_
    refine xr_goto 10 C dJ17_max_6 (by decide) ?_
    exact xr_iret C Z E dJ17_max_10
def mf_J16_newLength (a0 : Int32) (a1 : Int32) (a2 : Int32) (h0 : xk_H) : Option (Int32 × xk_H) :=
  xm_cl (mf_J17_max a1 a2 h0) fun r1 h2 => if (a0 + r1) ≤ (0 : Int32) then (none) else (if (2147483639 : Int32) < (a0 + r1) then (none) else (some ((a0 + r1), h2)))
set_option maxHeartbeats 1000000 in
theorem wk_J16_newLength {l : Launch} {D : va_G} {base : Nat} {a0 : Int32} {a1 : Int32} {a2 : Int32} {h0 : xk_H} {r : Int32} {h' : xk_H} (E : mf_J16_newLength a0 a1 a2 h0 = some (r, h')) : xk_Ok l D base yJ16_newLength cJ16_newLength 4 (Option.some FieldType.int) 2 81 [.int a0, .int a1, .int a2] h0 (some (.int r)) h' := by
  refine xk_ofX RJ16 "newLength" xq_J16_newLength rfl rfl (Nat.le_of_ble_eq_true rfl) ⟨rfl, ⟨rfl, ⟨rfl, trivial⟩⟩⟩ (fun Γ el eD eb C Z => ?_)
  rw [mf_J16_newLength] at E
  show xk_X Γ 0 [(0, .int a0), (1, .int a1), (2, .int a2)] [] h0
  refine xr_iload_n 0 C rfl rfl dJ16_newLength_0 ?_
  refine xr_iload_n 1 C rfl rfl dJ16_newLength_1 ?_
  refine xr_iload_n 2 C rfl rfl dJ16_newLength_2 ?_
  refine xr_S [.int a1, .int a2] [.int a0] (fun r => some (.int r)) (fun r => .int r :: [.int a0]) C E (fun r h' e => wk_J17_max e) q522 q523 q98 q524 xh_java_lang_Math xd_J17_max (by decide) (by decide) ⟨rfl, trivial⟩ (Nat.le_of_ble_eq_true rfl) rfl (fun _ => rfl) dJ16_newLength_3 (fun r1 h2 E => ?_)
  refine xr_iadd C dJ16_newLength_6 ?_
  refine xr_istore_n (L2 := [(3, .int (a0 + r1)), (0, .int a0), (1, .int a1), (2, .int a2)]) C rfl rfl dJ16_newLength_7 (by decide) ?_
  refine xr_iconst (0) C (by decide) dJ16_newLength_8 ?_
  refine xr_iload_n 0 C rfl rfl dJ16_newLength_9 ?_
  refine xr_icmp_ge 21 C E dJ16_newLength_10 (by decide) (fun E => ?_) (fun E => ?_)
  · refine xr_iload_n 1 C rfl rfl dJ16_newLength_21 ?_
    refine xr_iload_n 2 C rfl rfl dJ16_newLength_22 ?_
    cases E
  · refine xr_iload_n 0 C rfl rfl dJ16_newLength_13 ?_
    refine xr_ldc C q525 dJ16_newLength_14 ?_
    refine xr_icmp_gt 21 C E dJ16_newLength_16 (by decide) (fun E => ?_) (fun E => ?_)
    · refine xr_iload_n 1 C rfl rfl dJ16_newLength_21 ?_
      refine xr_iload_n 2 C rfl rfl dJ16_newLength_22 ?_
      cases E
    · refine xr_iload_n 0 C rfl rfl dJ16_newLength_19 ?_
      exact xr_iret C Z E dJ16_newLength_20
def mf_J17_min (a0 : Int32) (a1 : Int32) (h0 : xk_H) : Option (Int32 × xk_H) :=
  if a1 < a0 then (some (a1, h0)) else (some (a0, h0))
set_option maxHeartbeats 1000000 in
theorem wk_J17_min {l : Launch} {D : va_G} {base : Nat} {a0 : Int32} {a1 : Int32} {h0 : xk_H} {r : Int32} {h' : xk_H} (E : mf_J17_min a0 a1 h0 = some (r, h')) : xk_Ok l D base yJ17_min cJ17_min 2 (Option.some FieldType.int) 1 60 [.int a0, .int a1] h0 (some (.int r)) h' := by
  refine xk_ofX RJ17 "min" xq_J17_min rfl rfl (Nat.le_of_ble_eq_true rfl) ⟨rfl, ⟨rfl, trivial⟩⟩ (fun Γ el eD eb C Z => ?_)
  rw [mf_J17_min] at E
  show xk_X Γ 0 [(0, .int a0), (1, .int a1)] [] h0
  refine xr_iload_n 0 C rfl rfl dJ17_min_0 ?_
  refine xr_iload_n 1 C rfl rfl dJ17_min_1 ?_
  refine xr_icmp_gt 9 C E dJ17_min_2 (by decide) (fun E => ?_) (fun E => ?_)
  · refine xr_iload_n 1 C rfl rfl dJ17_min_9 ?_
    exact xr_iret C Z E dJ17_min_10
  · refine xr_iload_n 0 C rfl rfl dJ17_min_5 ?_
    refine xr_goto 10 C dJ17_min_6 (by decide) ?_
    exact xr_iret C Z E dJ17_min_10
def mf_J18_copyOf_3 (a0 : Option Nat) (a1 : Int32) (a2 : Option Nat) (h0 : xk_H) : Option (Option Nat × xk_H) :=
  if a2 = (h0.2.1 9) then (xm_nwa 102 .null a1 h0 fun b1 h2 => xm_len [102, 302] a0 h2 fun x3 => xm_cl (mf_J17_min x3 a1 h2) fun r4 h5 => xm_cpy [102, 302] [102] (xk_el [3, 211] h5) a0 (0 : Int32) (some b1) (0 : Int32) r4 h5 fun h6 => some ((some b1), h6)) else (none)
set_option maxHeartbeats 1000000 in
theorem wk_J18_copyOf_3 {l : Launch} {D : va_G} {base : Nat} {a0 : Option Nat} {a1 : Int32} {a2 : Option Nat} {h0 : xk_H} {r : Option Nat} {h' : xk_H} (E : mf_J18_copyOf_3 a0 a1 a2 h0 = some (r, h')) : xk_Ok l D base yJ18_copyOf_3 cJ18_copyOf_3 4 (Option.some (FieldType.array (FieldType.object "java/lang/Object"))) 2 81 [va_rf a0, .int a1, va_rf a2] h0 (some (va_rf r)) h' := by
  refine xk_ofX RJ18 "copyOf" xq_J18_copyOf_3 rfl rfl (Nat.le_of_ble_eq_true rfl) ⟨xk_crf _, ⟨rfl, ⟨xk_crf _, trivial⟩⟩⟩ (fun Γ el eD eb C Z => ?_)
  rw [mf_J18_copyOf_3] at E
  show xk_X Γ 0 [(0, va_rf a0), (1, .int a1), (2, va_rf a2)] [] h0
  refine xr_aload_n 2 C rfl rfl dJ18_copyOf_3_0 ?_
  refine xr_ldcM C q805 dJ18_copyOf_3_1 ?_
  refine xr_acmp_ne 13 C E dJ18_copyOf_3_3 (by decide) (fun E => ?_) (fun E => ?_)
  · refine xr_aload_n 2 C rfl rfl dJ18_copyOf_3_13 ?_
    cases E
  · refine xr_iload_n 1 C rfl rfl dJ18_copyOf_3_6 ?_
    refine xr_nwO C E q807 dJ18_copyOf_3_7 (fun b1 h2 E => ?_)
    refine xr_goto 24 C dJ18_copyOf_3_10 (by decide) ?_
    refine xr_astore_n (L2 := [(3, va_rf (some b1)), (0, va_rf a0), (1, .int a1), (2, va_rf a2)]) C rfl rfl dJ18_copyOf_3_24 (by decide) ?_
    refine xr_aload_n 1 C rfl rfl dJ18_copyOf_3_25 ?_
    refine xr_iconst (0) C (by decide) dJ18_copyOf_3_26 ?_
    refine xr_aload_n 0 C rfl rfl dJ18_copyOf_3_27 ?_
    refine xr_iconst (0) C (by decide) dJ18_copyOf_3_28 ?_
    refine xr_aload_n 1 C rfl rfl dJ18_copyOf_3_29 ?_
    refine xr_len 2 (.object "java/lang/Object") C E (fun _ => rfl) xt_102_302 dJ18_copyOf_3_30 (fun x3 E => ?_)
    refine xr_iload_n 2 C rfl rfl dJ18_copyOf_3_31 ?_
    refine xr_S [.int x3, .int a1] [.int (0 : Int32), va_rf (some b1), .int (0 : Int32), va_rf a0] (fun r => some (.int r)) (fun r => .int r :: [.int (0 : Int32), va_rf (some b1), .int (0 : Int32), va_rf a0]) C E (fun r h' e => wk_J17_min e) q540 q541 q98 q542 xh_java_lang_Math xd_J17_min (by decide) (by decide) ⟨rfl, ⟨xk_crf _, ⟨rfl, ⟨xk_crf _, trivial⟩⟩⟩⟩ (Nat.le_of_ble_eq_true rfl) rfl (fun _ => rfl) dJ18_copyOf_3_32 (fun r4 h5 E => ?_)
    refine xr_cpO C E xa_3_211_Object q543 q545 q544 q100 (by decide) trivial (by exact Nat.le_of_ble_eq_true rfl) dJ18_copyOf_3_35 (fun h6 E => ?_)
    refine xr_aload_n 0 C rfl rfl dJ18_copyOf_3_38 ?_
    exact xr_aret C Z E (Or.inr ⟨_, rfl⟩) dJ18_copyOf_3_39
def mf_J18_copyOf_2 (a0 : Option Nat) (a1 : Int32) (h0 : xk_H) : Option (Option Nat × xk_H) :=
  xm_rc [102, 302] a0 h0 <| xm_cl (mf_J18_copyOf_3 a0 a1 (h0.2.1 9) h0) fun r1 h2 => some (r1, h2)
set_option maxHeartbeats 1000000 in
theorem wk_J18_copyOf_2 {l : Launch} {D : va_G} {base : Nat} {a0 : Option Nat} {a1 : Int32} {h0 : xk_H} {r : Option Nat} {h' : xk_H} (E : mf_J18_copyOf_2 a0 a1 h0 = some (r, h')) : xk_Ok l D base yJ18_copyOf_2 cJ18_copyOf_2 2 (Option.some (FieldType.array (FieldType.object "java/lang/Object"))) 3 104 [va_rf a0, .int a1] h0 (some (va_rf r)) h' := by
  refine xk_ofX RJ18 "copyOf" xq_J18_copyOf_2 rfl rfl (Nat.le_of_ble_eq_true rfl) ⟨xk_crf _, ⟨rfl, trivial⟩⟩ (fun Γ el eD eb C Z => ?_)
  rw [mf_J18_copyOf_2] at E
  show xk_X Γ 0 [(0, va_rf a0), (1, .int a1)] [] h0
  refine xr_aload_n 0 C rfl rfl dJ18_copyOf_2_0 ?_
  refine xr_iload_n 1 C rfl rfl dJ18_copyOf_2_1 ?_
  refine xr_aload_n 0 C rfl rfl dJ18_copyOf_2_2 ?_
  refine xr_getC C E q801 q2549 q458 q487 (by decide) ⟨rfl, ⟨xk_crf _, trivial⟩⟩ (Nat.le_of_ble_eq_true rfl) dJ18_copyOf_2_3 (fun E => ?_)
  refine xr_S [va_rf a0, .int a1, va_rf (h0.2.1 9)] [] (fun r => some (va_rf r)) (fun r => va_rf r :: []) C E (fun r h' e => wk_J18_copyOf_3 e) q802 q803 q99 q804 xh_java_util_Arrays xd_J18_copyOf_3 (by decide) (by decide) trivial (Nat.le_of_ble_eq_true rfl) rfl (fun _ => rfl) dJ18_copyOf_2_6 (fun r1 h2 E => ?_)
  exact xr_aret C Z E (Or.inr ⟨_, rfl⟩) dJ18_copyOf_2_9
def mf_J2_grow_J20 (a0 : Option Nat) (a1 : Int32) (a2 : Int32) (h0 : xk_H) : Option (Option Nat × xk_H) :=
  xm_cl (mf_J16_newLength a2 (a1 - a2) (a2 >>> ((1 : Int32) &&& 31)) h0) fun r3 h4 => xm_gR [6] 1 a0 h4 fun x5 => xm_cl (mf_J18_copyOf_2 x5 r3 h4) fun r6 h7 => xm_pV [6] 1 a0 (va_rf r6) h7 fun h8 => some (r6, h8)
set_option maxHeartbeats 1000000 in
theorem wk_J2_grow_J20 {Γ : xk_C} {r : Option Nat} {h' : xk_H} {a0 : Option Nat} {a1 : Int32} {a2 : Int32} {h0 : xk_H} (C : xk_Cx Γ RJ2 cJ2_grow 4 (Option.some (FieldType.array (FieldType.object "java/lang/Object"))) "grow" 4 125) (Z : xk_Z Γ (some (va_rf r)) h') (E : mf_J2_grow_J20 a0 a1 a2 h0 = some (r, h')) : xk_X Γ 20 [(0, va_rf a0), (1, .int a1), (2, .int a2)] [] h0 := by
  rw [mf_J2_grow_J20] at E
  refine xr_iload_n 2 C rfl rfl dJ2_grow_20 ?_
  refine xr_iload_n 1 C rfl rfl dJ2_grow_21 ?_
  refine xr_iload_n 2 C rfl rfl dJ2_grow_22 ?_
  refine xr_isub C dJ2_grow_23 ?_
  refine xr_iload_n 2 C rfl rfl dJ2_grow_24 ?_
  refine xr_iconst (1) C (by decide) dJ2_grow_25 ?_
  refine xr_ishr C dJ2_grow_26 ?_
  refine xr_S [.int a2, .int (a1 - a2), .int (a2 >>> ((1 : Int32) &&& 31))] [] (fun r => some (.int r)) (fun r => .int r :: []) C E (fun r h' e => wk_J16_newLength e) q853 q520 q97 q521 xh_jdk_internal_util_ArraysSupport xd_J16_newLength (by decide) (by decide) trivial (Nat.le_of_ble_eq_true rfl) rfl (fun _ => rfl) dJ2_grow_27 (fun r3 h4 E => ?_)
  refine xr_istore_n (L2 := [(3, .int r3), (0, va_rf a0), (1, .int a1), (2, .int a2)]) C rfl rfl dJ2_grow_30 (by decide) ?_
  refine xr_aload_n 1 C rfl rfl dJ2_grow_31 ?_
  refine xr_aload_n 1 C rfl rfl dJ2_grow_32 ?_
  refine xr_gR C E xf_J2_9 dJ2_grow_33 (fun x5 E => ?_)
  refine xr_iload_n 0 C rfl rfl dJ2_grow_36 ?_
  refine xr_S [va_rf x5, .int r3] [va_rf a0] (fun r => some (va_rf r)) (fun r => va_rf r :: [va_rf a0]) C E (fun r h' e => wk_J18_copyOf_2 e) q798 q799 q99 q800 xh_java_util_Arrays xd_J18_copyOf_2 (by decide) (by decide) ⟨xk_crf _, trivial⟩ (Nat.le_of_ble_eq_true rfl) rfl (fun _ => rfl) dJ2_grow_37 (fun r6 h7 E => ?_)
  refine xr_dup_x1 C (xk_crf _) (xk_crf _) dJ2_grow_40 ?_
  refine xr_pR C E xf_J2_9 xp_J2_9 (Or.inr ⟨_, rfl⟩) dJ2_grow_41 (fun h8 E => ?_)
  exact xr_aret C Z E (Or.inr ⟨_, rfl⟩) dJ2_grow_44
def mf_J2_grow (a0 : Option Nat) (a1 : Int32) (h0 : xk_H) : Option (Option Nat × xk_H) :=
  xm_gR [6] 1 a0 h0 fun x1 => xm_len [102, 302] x1 h0 fun x2 => if 0 < x2 then (mf_J2_grow_J20 a0 a1 x2 h0) else (xm_gR [6] 1 a0 h0 fun x9 => if x9 = (h0.2.1 0) then (xm_cl (mf_J17_max (10 : Int32) a1 h0) fun r10 h11 => xm_nwa 102 .null r10 h11 fun b12 h13 => xm_pV [6] 1 a0 (va_rf (some b12)) h13 fun h14 => some ((some b12), h14)) else (mf_J2_grow_J20 a0 a1 x2 h0))
set_option maxHeartbeats 1000000 in
theorem wk_J2_grow {l : Launch} {D : va_G} {base : Nat} {a0 : Option Nat} {a1 : Int32} {h0 : xk_H} {r : Option Nat} {h' : xk_H} (E : mf_J2_grow a0 a1 h0 = some (r, h')) : xk_Ok l D base yJ2_grow cJ2_grow 4 (Option.some (FieldType.array (FieldType.object "java/lang/Object"))) 4 125 [va_rf a0, .int a1] h0 (some (va_rf r)) h' := by
  refine xk_ofX RJ2 "grow" xq_J2_grow rfl rfl (Nat.le_of_ble_eq_true rfl) ⟨xk_crf _, ⟨rfl, trivial⟩⟩ (fun Γ el eD eb C Z => ?_)
  rw [mf_J2_grow] at E
  show xk_X Γ 0 [(0, va_rf a0), (1, .int a1)] [] h0
  refine xr_aload_n 0 C rfl rfl dJ2_grow_0 ?_
  refine xr_gR C E xf_J2_9 dJ2_grow_1 (fun x1 E => ?_)
  refine xr_len 2 (.object "java/lang/Object") C E (fun _ => rfl) xt_102_302 dJ2_grow_4 (fun x2 E => ?_)
  refine xr_istore_n (L2 := [(2, .int x2), (0, va_rf a0), (1, .int a1)]) C rfl rfl dJ2_grow_5 (by decide) ?_
  refine xr_iload_n 0 C rfl rfl dJ2_grow_6 ?_
  refine xr_if_gt 20 C E dJ2_grow_7 (by decide) (fun E => ?_) (fun E => ?_)
  · refine xr_sub [1, 2, 0] rfl ?_
    exact wk_J2_grow_J20 C Z E
  · refine xr_aload_n 1 C rfl rfl dJ2_grow_10 ?_
    refine xr_gR C E xf_J2_9 dJ2_grow_11 (fun x9 E => ?_)
    refine xr_gsR (k := 0) C (List.mem_of_getElem? (i := 0) rfl) q154 (Or.inl rfl) dJ2_grow_14 ?_
    refine xr_acmp_eq 45 C E dJ2_grow_17 (by decide) (fun E => ?_) (fun E => ?_)
    · refine xr_aload_n 1 C rfl rfl dJ2_grow_45 ?_
      refine xr_bipush (10) C (by decide) dJ2_grow_46 ?_
      refine xr_iload_n 2 C rfl rfl dJ2_grow_48 ?_
      refine xr_S [.int (10 : Int32), .int a1] [va_rf a0] (fun r => some (.int r)) (fun r => .int r :: [va_rf a0]) C E (fun r h' e => wk_J17_max e) q854 q523 q98 q524 xh_java_lang_Math xd_J17_max (by decide) (by decide) ⟨xk_crf _, trivial⟩ (Nat.le_of_ble_eq_true rfl) rfl (fun _ => rfl) dJ2_grow_49 (fun r10 h11 E => ?_)
      refine xr_nwO C E q855 dJ2_grow_52 (fun b12 h13 E => ?_)
      refine xr_dup_x1 C (xk_crf _) (xk_crf _) dJ2_grow_55 ?_
      refine xr_pR C E xf_J2_9 xp_J2_9 (Or.inr ⟨_, rfl⟩) dJ2_grow_56 (fun h14 E => ?_)
      exact xr_aret C Z E (Or.inr ⟨_, rfl⟩) dJ2_grow_59
    · refine xr_sub [1, 2, 0] rfl ?_
      exact wk_J2_grow_J20 C Z E
def mf_J2_toArray (a0 : Option Nat) (h0 : xk_H) : Option (Option Nat × xk_H) :=
  xm_gR [6] 1 a0 h0 fun x1 => xm_gI [6] 2 a0 h0 fun x2 => xm_cl (mf_J18_copyOf_2 x1 x2 h0) fun r3 h4 => some (r3, h4)
set_option maxHeartbeats 1000000 in
theorem wk_J2_toArray {l : Launch} {D : va_G} {base : Nat} {a0 : Option Nat} {h0 : xk_H} {r : Option Nat} {h' : xk_H} (E : mf_J2_toArray a0 h0 = some (r, h')) : xk_Ok l D base yJ2_toArray cJ2_toArray 1 (Option.some (FieldType.array (FieldType.object "java/lang/Object"))) 4 125 [va_rf a0] h0 (some (va_rf r)) h' := by
  refine xk_ofX RJ2 "toArray" xq_J2_toArray rfl rfl (Nat.le_of_ble_eq_true rfl) ⟨xk_crf _, trivial⟩ (fun Γ el eD eb C Z => ?_)
  rw [mf_J2_toArray] at E
  show xk_X Γ 0 [(0, va_rf a0)] [] h0
  refine xr_aload_n 0 C rfl rfl dJ2_toArray_0 ?_
  refine xr_gR C E xf_J2_9 dJ2_toArray_1 (fun x1 E => ?_)
  refine xr_aload_n 0 C rfl rfl dJ2_toArray_4 ?_
  refine xr_gI C E xf_J2_48 dJ2_toArray_5 (fun x2 E => ?_)
  refine xr_S [va_rf x1, .int x2] [] (fun r => some (va_rf r)) (fun r => va_rf r :: []) C E (fun r h' e => wk_J18_copyOf_2 e) q798 q799 q99 q800 xh_java_util_Arrays xd_J18_copyOf_2 (by decide) (by decide) trivial (Nat.le_of_ble_eq_true rfl) rfl (fun _ => rfl) dJ2_toArray_8 (fun r3 h4 E => ?_)
  exact xr_aret C Z E (Or.inr ⟨_, rfl⟩) dJ2_toArray_11
def mf_J2_addAll_J56 (a0 : Option Nat) (a2 : Option Nat) (a3 : Int32) (a4 : Option Nat) (a5 : Int32) (h0 : xk_H) : Option (Bool × xk_H) :=
  xm_cpy [102, 302] [102] (xk_el [3, 211] h0) a2 (0 : Int32) a4 a5 a3 h0 fun h9 => xm_pV [6] 2 a0 (.int (a5 + a3)) h9 fun h10 => some (true, h10)
set_option maxHeartbeats 1000000 in
theorem wk_J2_addAll_J56 {Γ : xk_C} {r : Bool} {h' : xk_H} {a0 : Option Nat} {a2 : Option Nat} {a3 : Int32} {a4 : Option Nat} {a5 : Int32} {h0 : xk_H} (C : xk_Cx Γ RJ2 cJ2_addAll 6 (Option.some FieldType.boolean) "addAll" 5 148) (Z : xk_Z Γ (some (.int (xk_b2 r))) h') (E : mf_J2_addAll_J56 a0 a2 a3 a4 a5 h0 = some (r, h')) : xk_X Γ 56 [(0, va_rf a0), (2, va_rf a2), (3, .int a3), (4, va_rf a4), (5, .int a5)] [] h0 := by
  rw [mf_J2_addAll_J56] at E
  refine xr_aload_n 1 C rfl rfl dJ2_addAll_56 ?_
  refine xr_iconst (0) C (by decide) dJ2_addAll_57 ?_
  refine xr_aload 3 C rfl dJ2_addAll_58 ?_
  refine xr_iload 4 C rfl dJ2_addAll_60 ?_
  refine xr_iload_n 2 C rfl rfl dJ2_addAll_62 ?_
  refine xr_cpO C E xa_3_211_Object q856 q545 q544 q100 (by decide) trivial (by exact Nat.le_of_ble_eq_true rfl) dJ2_addAll_63 (fun h9 E => ?_)
  refine xr_aload_n 0 C rfl rfl dJ2_addAll_66 ?_
  refine xr_iload 4 C rfl dJ2_addAll_67 ?_
  refine xr_iload_n 2 C rfl rfl dJ2_addAll_69 ?_
  refine xr_iadd C dJ2_addAll_70 ?_
  refine xr_pI C E xf_J2_48 xp_J2_48 dJ2_addAll_71 (fun h10 E => ?_)
  refine xr_iconst (1) C (by decide) dJ2_addAll_74 ?_
  exact xr_bret (b := true) C Z E dJ2_addAll_75
def mf_J2_addAll (a0 : Option Nat) (a1 : Option Nat) (h0 : xk_H) : Option (Bool × xk_H) :=
  xm_rc [6] a1 h0 <| xm_cl (mf_J2_toArray a1 h0) fun r1 h2 => xm_gI [6] 0 a0 h2 fun x3 => xm_pV [6] 0 a0 (.int (x3 + (1 : Int32))) h2 fun h4 => xm_len [102, 302] r1 h4 fun x5 => if x5 = 0 then (some (false, h4)) else (xm_gR [6] 1 a0 h4 fun x6 => xm_len [102, 302] x6 h4 fun x7 => xm_gI [6] 2 a0 h4 fun x8 => if x5 ≤ (x7 - x8) then (mf_J2_addAll_J56 a0 r1 x5 x6 x8 h4) else (xm_rc [6] a0 h4 <| xm_cl (mf_J2_grow a0 (x8 + x5) h4) fun r11 h12 => mf_J2_addAll_J56 a0 r1 x5 r11 x8 h12))
set_option maxHeartbeats 1000000 in
theorem wk_J2_addAll {l : Launch} {D : va_G} {base : Nat} {a0 : Option Nat} {a1 : Option Nat} {h0 : xk_H} {r : Bool} {h' : xk_H} (E : mf_J2_addAll a0 a1 h0 = some (r, h')) : xk_Ok l D base yJ2_addAll cJ2_addAll 6 (Option.some FieldType.boolean) 5 148 [va_rf a0, va_rf a1] h0 (some (.int (xk_b2 r))) h' := by
  refine xk_ofX RJ2 "addAll" xq_J2_addAll rfl rfl (Nat.le_of_ble_eq_true rfl) ⟨xk_crf _, ⟨xk_crf _, trivial⟩⟩ (fun Γ el eD eb C Z => ?_)
  rw [mf_J2_addAll] at E
  show xk_X Γ 0 [(0, va_rf a0), (1, va_rf a1)] [] h0
  refine xr_aload_n 1 C rfl rfl dJ2_addAll_0 ?_
  refine xr_F (v := a1) [] [] (fun r => some (va_rf r)) (fun r => va_rf r :: []) C E xi_6_ArrayList (fun r h' e => wk_J2_toArray e) q789 (List.mem_of_getElem? (i := 4) rfl) q795 q793 q82 q797 xh_java_util_Collection xd_java_util_Collection_toArray___Ljava_lang_Object_ (by decide) (by decide) trivial (Nat.le_of_ble_eq_true rfl) rfl (fun _ => rfl) dJ2_addAll_1 (fun r1 h2 E => ?_)
  refine xr_astore_n (L2 := [(2, va_rf r1), (0, va_rf a0), (1, va_rf a1)]) C rfl rfl dJ2_addAll_6 (by decide) ?_
  refine xr_aload_n 1 C rfl rfl dJ2_addAll_7 ?_
  refine xr_dup C (xk_crf _) dJ2_addAll_8 ?_
  refine xr_gI C E xf_J2_63 dJ2_addAll_9 (fun x3 E => ?_)
  refine xr_iconst (1) C (by decide) dJ2_addAll_12 ?_
  refine xr_iadd C dJ2_addAll_13 ?_
  refine xr_pI C E xf_J2_63 xp_J2_63 dJ2_addAll_14 (fun h4 E => ?_)
  refine xr_aload_n 0 C rfl rfl dJ2_addAll_17 ?_
  refine xr_len 2 (.object "java/lang/Object") C E (fun _ => rfl) xt_102_302 dJ2_addAll_18 (fun x5 E => ?_)
  refine xr_istore_n (L2 := [(3, .int x5), (2, va_rf r1), (0, va_rf a0), (1, va_rf a1)]) C rfl rfl dJ2_addAll_19 (by decide) ?_
  refine xr_iload_n 0 C rfl rfl dJ2_addAll_20 ?_
  refine xr_if_ne 26 C E dJ2_addAll_21 (by decide) (fun E => ?_) (fun E => ?_)
  · refine xr_iload_n 0 C rfl rfl dJ2_addAll_26 ?_
    refine xr_aload_n 2 C rfl rfl dJ2_addAll_27 ?_
    refine xr_gR C E xf_J2_9 dJ2_addAll_28 (fun x6 E => ?_)
    refine xr_dup C (xk_crf _) dJ2_addAll_31 ?_
    refine xr_astore (L2 := [(4, va_rf x6), (3, .int x5), (2, va_rf r1), (0, va_rf a0), (1, va_rf a1)]) C rfl dJ2_addAll_32 (by decide) ?_
    refine xr_len 2 (.object "java/lang/Object") C E (fun _ => rfl) xt_102_302 dJ2_addAll_34 (fun x7 E => ?_)
    refine xr_aload_n 3 C rfl rfl dJ2_addAll_35 ?_
    refine xr_gI C E xf_J2_48 dJ2_addAll_36 (fun x8 E => ?_)
    refine xr_dup C rfl dJ2_addAll_39 ?_
    refine xr_istore (L2 := [(5, .int x8), (4, va_rf x6), (3, .int x5), (2, va_rf r1), (0, va_rf a0), (1, va_rf a1)]) C rfl dJ2_addAll_40 (by decide) ?_
    refine xr_isub C dJ2_addAll_42 ?_
    refine xr_icmp_le 56 C E dJ2_addAll_43 (by decide) (fun E => ?_) (fun E => ?_)
    · refine xr_sub [4, 3, 2, 1, 0] rfl ?_
      exact wk_J2_addAll_J56 C Z E
    · refine xr_aload_n 4 C rfl rfl dJ2_addAll_46 ?_
      refine xr_iload 0 C rfl dJ2_addAll_47 ?_
      refine xr_iload_n 2 C rfl rfl dJ2_addAll_49 ?_
      refine xr_iadd C dJ2_addAll_50 ?_
      refine xr_V (v := a0) [.int (x8 + x5)] [] (fun r => some (va_rf r)) (fun r => va_rf r :: []) C E xi_6_ArrayList (fun r h' e => wk_J2_grow e) q849 q851 qs5 q82 q852 xh_java_util_ArrayList xd_J2_grow (by decide) (by decide) trivial (Nat.le_of_ble_eq_true rfl) rfl (fun _ => rfl) dJ2_addAll_51 (fun r11 h12 E => ?_)
      refine xr_astore (L2 := [(4, va_rf r11), (5, .int x8), (3, .int x5), (2, va_rf r1), (0, va_rf a0), (1, va_rf a1)]) C rfl dJ2_addAll_54 (by decide) ?_
      refine xr_sub [4, 3, 2, 0, 1] rfl ?_
      exact wk_J2_addAll_J56 C Z E
  · refine xr_iconst (0) C (by decide) dJ2_addAll_24 ?_
    exact xr_bret (b := false) C Z E dJ2_addAll_25
def mf_J2_grow_2 (a0 : Option Nat) (h0 : xk_H) : Option (Option Nat × xk_H) :=
  xm_gI [6] 2 a0 h0 fun x1 => xm_rc [6] a0 h0 <| xm_cl (mf_J2_grow a0 (x1 + (1 : Int32)) h0) fun r2 h3 => some (r2, h3)
set_option maxHeartbeats 1000000 in
theorem wk_J2_grow_2 {l : Launch} {D : va_G} {base : Nat} {a0 : Option Nat} {h0 : xk_H} {r : Option Nat} {h' : xk_H} (E : mf_J2_grow_2 a0 h0 = some (r, h')) : xk_Ok l D base yJ2_grow_2 cJ2_grow_2 1 (Option.some (FieldType.array (FieldType.object "java/lang/Object"))) 5 148 [va_rf a0] h0 (some (va_rf r)) h' := by
  refine xk_ofX RJ2 "grow" xq_J2_grow_2 rfl rfl (Nat.le_of_ble_eq_true rfl) ⟨xk_crf _, trivial⟩ (fun Γ el eD eb C Z => ?_)
  rw [mf_J2_grow_2] at E
  show xk_X Γ 0 [(0, va_rf a0)] [] h0
  refine xr_aload_n 0 C rfl rfl dJ2_grow_2_0 ?_
  refine xr_aload_n 0 C rfl rfl dJ2_grow_2_1 ?_
  refine xr_gI C E xf_J2_48 dJ2_grow_2_2 (fun x1 E => ?_)
  refine xr_iconst (1) C (by decide) dJ2_grow_2_5 ?_
  refine xr_iadd C dJ2_grow_2_6 ?_
  refine xr_V (v := a0) [.int (x1 + (1 : Int32))] [] (fun r => some (va_rf r)) (fun r => va_rf r :: []) C E xi_6_ArrayList (fun r h' e => wk_J2_grow e) q849 q851 qs5 q82 q852 xh_java_util_ArrayList xd_J2_grow (by decide) (by decide) trivial (Nat.le_of_ble_eq_true rfl) rfl (fun _ => rfl) dJ2_grow_2_7 (fun r2 h3 E => ?_)
  exact xr_aret C Z E (Or.inr ⟨_, rfl⟩) dJ2_grow_2_10
def mf_J2_add_2_J11 (a0 : Option Nat) (a1 : Option Nat) (a2 : Option Nat) (a3 : Int32) (h0 : xk_H) : Option (Unit × xk_H) :=
  xm_sR [102] [3, 211] a2 a3 a1 h0 fun h2 => xm_pV [6] 2 a0 (.int (a3 + (1 : Int32))) h2 fun h3 => some ((), h3)
set_option maxHeartbeats 1000000 in
theorem wk_J2_add_2_J11 {Γ : xk_C} {r : Unit} {h' : xk_H} {a0 : Option Nat} {a1 : Option Nat} {a2 : Option Nat} {a3 : Int32} {h0 : xk_H} (C : xk_Cx Γ RJ2 cJ2_add_2 4 none "add" 6 168) (Z : xk_Z Γ none h') (E : mf_J2_add_2_J11 a0 a1 a2 a3 h0 = some (r, h')) : xk_X Γ 11 [(0, va_rf a0), (1, va_rf a1), (2, va_rf a2), (3, .int a3)] [] h0 := by
  rw [mf_J2_add_2_J11] at E
  refine xr_aload_n 2 C rfl rfl dJ2_add_2_11 ?_
  refine xr_iload_n 3 C rfl rfl dJ2_add_2_12 ?_
  refine xr_aload_n 1 C rfl rfl dJ2_add_2_13 ?_
  refine xr_sO C E xa_3_211_Object dJ2_add_2_14 (fun h2 E => ?_)
  refine xr_aload_n 0 C rfl rfl dJ2_add_2_15 ?_
  refine xr_iload_n 3 C rfl rfl dJ2_add_2_16 ?_
  refine xr_iconst (1) C (by decide) dJ2_add_2_17 ?_
  refine xr_iadd C dJ2_add_2_18 ?_
  refine xr_pI C E xf_J2_48 xp_J2_48 dJ2_add_2_19 (fun h3 E => ?_)
  exact xr_vret C Z E dJ2_add_2_22
def mf_J2_add_2 (a0 : Option Nat) (a1 : Option Nat) (a2 : Option Nat) (a3 : Int32) (h0 : xk_H) : Option (Unit × xk_H) :=
  xm_len [102, 302] a2 h0 fun x1 => if a3 = x1 then (xm_rc [6] a0 h0 <| xm_cl (mf_J2_grow_2 a0 h0) fun r4 h5 => mf_J2_add_2_J11 a0 a1 r4 a3 h5) else (mf_J2_add_2_J11 a0 a1 a2 a3 h0)
set_option maxHeartbeats 1000000 in
theorem wk_J2_add_2 {l : Launch} {D : va_G} {base : Nat} {a0 : Option Nat} {a1 : Option Nat} {a2 : Option Nat} {a3 : Int32} {h0 : xk_H} {r : Unit} {h' : xk_H} (E : mf_J2_add_2 a0 a1 a2 a3 h0 = some (r, h')) : xk_Ok l D base yJ2_add_2 cJ2_add_2 4 none 6 168 [va_rf a0, va_rf a1, va_rf a2, .int a3] h0 none h' := by
  refine xk_ofX RJ2 "add" xq_J2_add_2 rfl rfl (Nat.le_of_ble_eq_true rfl) ⟨xk_crf _, ⟨xk_crf _, ⟨xk_crf _, ⟨rfl, trivial⟩⟩⟩⟩ (fun Γ el eD eb C Z => ?_)
  rw [mf_J2_add_2] at E
  show xk_X Γ 0 [(0, va_rf a0), (1, va_rf a1), (2, va_rf a2), (3, .int a3)] [] h0
  refine xr_iload_n 3 C rfl rfl dJ2_add_2_0 ?_
  refine xr_aload_n 2 C rfl rfl dJ2_add_2_1 ?_
  refine xr_len 2 (.object "java/lang/Object") C E (fun _ => rfl) xt_102_302 dJ2_add_2_2 (fun x1 E => ?_)
  refine xr_icmp_ne 11 C E dJ2_add_2_3 (by decide) (fun E => ?_) (fun E => ?_)
  · exact wk_J2_add_2_J11 C Z E
  · refine xr_aload_n 0 C rfl rfl dJ2_add_2_6 ?_
    refine xr_V (v := a0) [] [] (fun r => some (va_rf r)) (fun r => va_rf r :: []) C E xi_6_ArrayList (fun r h' e => wk_J2_grow_2 e) q865 q867 qs7 q82 q868 xh_java_util_ArrayList xd_J2_grow_2 (by decide) (by decide) trivial (Nat.le_of_ble_eq_true rfl) rfl (fun _ => rfl) dJ2_add_2_7 (fun r4 h5 E => ?_)
    refine xr_astore_n (L2 := [(2, va_rf r4), (0, va_rf a0), (1, va_rf a1), (3, .int a3)]) C rfl rfl dJ2_add_2_10 (by decide) ?_
    refine xr_sub [1, 2, 0, 3] rfl ?_
    exact wk_J2_add_2_J11 C Z E
def mf_J2_add (a0 : Option Nat) (a1 : Option Nat) (h0 : xk_H) : Option (Bool × xk_H) :=
  xm_gI [6] 0 a0 h0 fun x1 => xm_pV [6] 0 a0 (.int (x1 + (1 : Int32))) h0 fun h2 => xm_gR [6] 1 a0 h2 fun x3 => xm_gI [6] 2 a0 h2 fun x4 => xm_rc [6] a0 h2 <| xm_cl (mf_J2_add_2 a0 a1 x3 x4 h2) fun r5 h6 => some (true, h6)
set_option maxHeartbeats 1000000 in
theorem wk_J2_add {l : Launch} {D : va_G} {base : Nat} {a0 : Option Nat} {a1 : Option Nat} {h0 : xk_H} {r : Bool} {h' : xk_H} (E : mf_J2_add a0 a1 h0 = some (r, h')) : xk_Ok l D base yJ2_add cJ2_add 2 (Option.some FieldType.boolean) 7 191 [va_rf a0, va_rf a1] h0 (some (.int (xk_b2 r))) h' := by
  refine xk_ofX RJ2 "add" xq_J2_add rfl rfl (Nat.le_of_ble_eq_true rfl) ⟨xk_crf _, ⟨xk_crf _, trivial⟩⟩ (fun Γ el eD eb C Z => ?_)
  rw [mf_J2_add] at E
  show xk_X Γ 0 [(0, va_rf a0), (1, va_rf a1)] [] h0
  refine xr_aload_n 0 C rfl rfl dJ2_add_0 ?_
  refine xr_dup C (xk_crf _) dJ2_add_1 ?_
  refine xr_gI C E xf_J2_63 dJ2_add_2 (fun x1 E => ?_)
  refine xr_iconst (1) C (by decide) dJ2_add_5 ?_
  refine xr_iadd C dJ2_add_6 ?_
  refine xr_pI C E xf_J2_63 xp_J2_63 dJ2_add_7 (fun h2 E => ?_)
  refine xr_aload_n 0 C rfl rfl dJ2_add_10 ?_
  refine xr_aload_n 1 C rfl rfl dJ2_add_11 ?_
  refine xr_aload_n 0 C rfl rfl dJ2_add_12 ?_
  refine xr_gR C E xf_J2_9 dJ2_add_13 (fun x3 E => ?_)
  refine xr_aload_n 0 C rfl rfl dJ2_add_16 ?_
  refine xr_gI C E xf_J2_48 dJ2_add_17 (fun x4 E => ?_)
  refine xr_V (v := a0) [va_rf a1, va_rf x3, .int x4] [] (fun _ => none) (fun _ => []) C E xi_6_ArrayList (fun r h' e => wk_J2_add_2 e) q861 q863 qs6 q82 q864 xh_java_util_ArrayList xd_J2_add_2 (by decide) (by decide) trivial (Nat.le_of_ble_eq_true rfl) rfl (fun _ => rfl) dJ2_add_20 (fun r5 h6 E => ?_)
  refine xr_iconst (1) C (by decide) dJ2_add_23 ?_
  exact xr_bret (b := true) C Z E dJ2_add_24
def mf_J22_intValue (a0 : Option Nat) (h0 : xk_H) : Option (Int32 × xk_H) :=
  xm_gI [211] 0 a0 h0 fun x1 => some (x1, h0)
set_option maxHeartbeats 1000000 in
theorem wk_J22_intValue {l : Launch} {D : va_G} {base : Nat} {a0 : Option Nat} {h0 : xk_H} {r : Int32} {h' : xk_H} (E : mf_J22_intValue a0 h0 = some (r, h')) : xk_Ok l D base yJ22_intValue cJ22_intValue 1 (Option.some FieldType.int) 1 60 [va_rf a0] h0 (some (.int r)) h' := by
  refine xk_ofX RJ22 "intValue" xq_J22_intValue rfl rfl (Nat.le_of_ble_eq_true rfl) ⟨xk_crf _, trivial⟩ (fun Γ el eD eb C Z => ?_)
  rw [mf_J22_intValue] at E
  show xk_X Γ 0 [(0, va_rf a0)] [] h0
  refine xr_aload_n 0 C rfl rfl dJ22_intValue_0 ?_
  refine xr_gI C E xf_J22_205 dJ22_intValue_1 (fun x1 E => ?_)
  exact xr_iret C Z E dJ22_intValue_4
def mf_J22_equals (a0 : Option Nat) (a1 : Option Nat) (h0 : xk_H) : Option (Bool × xk_H) :=
  xm_inst [211] [] a1 h0 fun x1 => if x1 = 0 then (some (false, h0)) else (xm_gI [211] 0 a0 h0 fun x2 => xm_cast [211] a1 h0 <| xm_rc [211] a1 h0 <| xm_cl (mf_J22_intValue a1 h0) fun r3 h4 => if x2 = r3 then (some (true, h4)) else (some (false, h4)))
set_option maxHeartbeats 1000000 in
theorem wk_J22_equals {l : Launch} {D : va_G} {base : Nat} {a0 : Option Nat} {a1 : Option Nat} {h0 : xk_H} {r : Bool} {h' : xk_H} (E : mf_J22_equals a0 a1 h0 = some (r, h')) : xk_Ok l D base yJ22_equals cJ22_equals 2 (Option.some FieldType.boolean) 2 80 [va_rf a0, va_rf a1] h0 (some (.int (xk_b2 r))) h' := by
  refine xk_ofX RJ22 "equals" xq_J22_equals rfl rfl (Nat.le_of_ble_eq_true rfl) ⟨xk_crf _, ⟨xk_crf _, trivial⟩⟩ (fun Γ el eD eb C Z => ?_)
  rw [mf_J22_equals] at E
  show xk_X Γ 0 [(0, va_rf a0), (1, va_rf a1)] [] h0
  refine xr_aload_n 1 C rfl rfl dJ22_equals_0 ?_
  refine xr_inst C E xi_211_Integer (fun t ht => absurd ht List.not_mem_nil) q937 dJ22_equals_1 (fun x1 E => ?_)
  refine xr_if_eq 27 C E dJ22_equals_4 (by decide) (fun E => ?_) (fun E => ?_)
  · refine xr_iconst (0) C (by decide) dJ22_equals_27 ?_
    exact xr_bret (b := false) C Z E dJ22_equals_28
  · refine xr_aload_n 0 C rfl rfl dJ22_equals_7 ?_
    refine xr_gI C E xf_J22_205 dJ22_equals_8 (fun x2 E => ?_)
    refine xr_aload_n 1 C rfl rfl dJ22_equals_11 ?_
    refine xr_cast C E xi_211_Integer q937 dJ22_equals_12 (fun E => ?_)
    refine xr_V (v := a1) [] [.int x2] (fun r => some (.int r)) (fun r => .int r :: [.int x2]) C E xi_211_Integer (fun r h' e => wk_J22_intValue e) q974 q975 q976 q105 q977 xh_java_lang_Integer xd_J22_intValue (by decide) (by decide) ⟨rfl, trivial⟩ (Nat.le_of_ble_eq_true rfl) rfl (fun _ => rfl) dJ22_equals_15 (fun r3 h4 E => ?_)
    refine xr_icmp_ne 25 C E dJ22_equals_18 (by decide) (fun E => ?_) (fun E => ?_)
    · refine xr_iconst (0) C (by decide) dJ22_equals_25 ?_
      exact xr_bret (b := false) C Z E dJ22_equals_26
    · refine xr_iconst (1) C (by decide) dJ22_equals_21 ?_
      refine xr_goto 26 C dJ22_equals_22 (by decide) ?_
      exact xr_bret (b := true) C Z E dJ22_equals_26
def mf_J2_indexOfRange_L42 (a1 : Option Nat) (a3 : Int32) (a4 : Option Nat) : Nat → Int32 → xk_H → Option (Int32 × xk_H)
  | 0, _, _ => none
  | n + 1, a5, h0 => if a3 ≤ a5 then (some ((-1 : Int32), h0)) else (xm_lR [102, 302] a4 a5 h0 fun x2 => xm_rc [211] a1 h0 <| xm_cl (mf_J22_equals a1 x2 h0) fun r3 h4 => if xk_b2 r3 = 0 then (mf_J2_indexOfRange_L42 a1 a3 a4 n (a5 + 1) h4) else (some (a5, h4)))
set_option maxHeartbeats 1000000 in
theorem wk_J2_indexOfRange_L42 {Γ : xk_C} {r : Int32} {h' : xk_H} {a1 : Option Nat} {a3 : Int32} {a4 : Option Nat} (C : xk_Cx Γ RJ2 cJ2_indexOfRange 6 (Option.some FieldType.int) "indexOfRange" 3 101) (Z : xk_Z Γ (some (.int r)) h') : ∀ (n : Nat) (a5 : Int32) (h0 : xk_H), mf_J2_indexOfRange_L42 a1 a3 a4 n a5 h0 = some (r, h') → xk_X Γ 42 [(1, va_rf a1), (3, .int a3), (4, va_rf a4), (5, .int a5)] [] h0 := by
  intro n
  induction n with
  | zero =>
    intro a5 h0 E
    rw [mf_J2_indexOfRange_L42] at E
    cases E
  | succ n ih =>
    intro a5 h0 E
    have hkb42 : ∀ (m5 : Int32) (g : xk_H), mf_J2_indexOfRange_L42 a1 a3 a4 n m5 g = some (r, h') → xk_X Γ 42 [(1, va_rf a1), (3, .int a3), (4, va_rf a4), (5, .int m5)] [] g := ih
    rw [mf_J2_indexOfRange_L42] at E
    refine xr_iload 3 C rfl dJ2_indexOfRange_42 ?_
    refine xr_iload_n 1 C rfl rfl dJ2_indexOfRange_44 ?_
    refine xr_icmp_ge 69 C E dJ2_indexOfRange_45 (by decide) (fun E => ?_) (fun E => ?_)
    · refine xr_iconst (-1) C (by decide) dJ2_indexOfRange_69 ?_
      exact xr_iret C Z E dJ2_indexOfRange_70
    · refine xr_aload_n 0 C rfl rfl dJ2_indexOfRange_48 ?_
      refine xr_aload 2 C rfl dJ2_indexOfRange_49 ?_
      refine xr_iload 3 C rfl dJ2_indexOfRange_51 ?_
      refine xr_lR 2 (.object "java/lang/Object") C E (fun _ => rfl) rfl xt_102_302 dJ2_indexOfRange_53 (fun x2 E => ?_)
      refine xr_U (v := a1) [va_rf x2] [] (fun r => some (.int (xk_b2 r))) (fun r => .int (xk_b2 r) :: []) C E xi_211_Integer (fun r h' e => wk_J22_equals e) q959 q961 (xk_dec1 q960 q988) q972 q971 q105 q973 xh_java_lang_Object xd_J40_equals (by decide) (by decide) trivial (Nat.le_of_ble_eq_true rfl) rfl (fun _ => rfl) dJ2_indexOfRange_54 (fun r3 h4 E => ?_)
      refine xr_if_eq 63 C E dJ2_indexOfRange_57 (by decide) (fun E => ?_) (fun E => ?_)
      · refine xr_iinc (v := (a5 + 1)) (L2 := [(5, .int (a5 + 1)), (1, va_rf a1), (3, .int a3), (4, va_rf a4)]) 3 C rfl rfl rfl dJ2_indexOfRange_63 (by decide) ?_
        refine xr_goto 42 C dJ2_indexOfRange_66 (by decide) ?_
        refine xr_sub [1, 2, 3, 0] rfl ?_
        exact hkb42 (a5 + 1) h4 E
      · refine xr_iload 3 C rfl dJ2_indexOfRange_60 ?_
        exact xr_iret C Z E dJ2_indexOfRange_62
def mf_J2_indexOfRange_L13 (a3 : Int32) (a4 : Option Nat) : Nat → Int32 → xk_H → Option (Int32 × xk_H)
  | 0, _, _ => none
  | n + 1, a5, h0 => if a3 ≤ a5 then (some ((-1 : Int32), h0)) else (xm_lR [102, 302] a4 a5 h0 fun x5 => if x5 = none then (some (a5, h0)) else (mf_J2_indexOfRange_L13 a3 a4 n (a5 + 1) h0))
set_option maxHeartbeats 1000000 in
theorem wk_J2_indexOfRange_L13 {Γ : xk_C} {r : Int32} {h' : xk_H} {a3 : Int32} {a4 : Option Nat} (C : xk_Cx Γ RJ2 cJ2_indexOfRange 6 (Option.some FieldType.int) "indexOfRange" 3 101) (Z : xk_Z Γ (some (.int r)) h') : ∀ (n : Nat) (a5 : Int32) (h0 : xk_H), mf_J2_indexOfRange_L13 a3 a4 n a5 h0 = some (r, h') → xk_X Γ 13 [(3, .int a3), (4, va_rf a4), (5, .int a5)] [] h0 := by
  intro n
  induction n with
  | zero =>
    intro a5 h0 E
    rw [mf_J2_indexOfRange_L13] at E
    cases E
  | succ n ih =>
    intro a5 h0 E
    have hkb13 : ∀ (m5 : Int32) (g : xk_H), mf_J2_indexOfRange_L13 a3 a4 n m5 g = some (r, h') → xk_X Γ 13 [(3, .int a3), (4, va_rf a4), (5, .int m5)] [] g := ih
    rw [mf_J2_indexOfRange_L13] at E
    refine xr_iload 2 C rfl dJ2_indexOfRange_13 ?_
    refine xr_iload_n 0 C rfl rfl dJ2_indexOfRange_15 ?_
    refine xr_icmp_ge 36 C E dJ2_indexOfRange_16 (by decide) (fun E => ?_) (fun E => ?_)
    · refine xr_goto 69 C dJ2_indexOfRange_36 (by decide) ?_
      refine xr_iconst (-1) C (by decide) dJ2_indexOfRange_69 ?_
      exact xr_iret C Z E dJ2_indexOfRange_70
    · refine xr_aload 1 C rfl dJ2_indexOfRange_19 ?_
      refine xr_iload 2 C rfl dJ2_indexOfRange_21 ?_
      refine xr_lR 2 (.object "java/lang/Object") C E (fun _ => rfl) rfl xt_102_302 dJ2_indexOfRange_23 (fun x5 E => ?_)
      refine xr_ifnonnull 30 C E dJ2_indexOfRange_24 (by decide) (fun E => ?_) (fun E => ?_)
      · refine xr_iinc (v := (a5 + 1)) (L2 := [(5, .int (a5 + 1)), (3, .int a3), (4, va_rf a4)]) 2 C rfl rfl rfl dJ2_indexOfRange_30 (by decide) ?_
        refine xr_goto 13 C dJ2_indexOfRange_33 (by decide) ?_
        refine xr_sub [1, 2, 0] rfl ?_
        exact hkb13 (a5 + 1) h0 E
      · refine xr_iload 2 C rfl dJ2_indexOfRange_27 ?_
        exact xr_iret C Z E dJ2_indexOfRange_29
def mf_J2_indexOfRange (a0 : Option Nat) (a1 : Option Nat) (a2 : Int32) (a3 : Int32) (h0 : xk_H) : Option (Int32 × xk_H) :=
  xm_gR [6] 1 a0 h0 fun x1 => if a1 = none then (mf_J2_indexOfRange_L13 a3 x1 xk_fu a2 h0) else (mf_J2_indexOfRange_L42 a1 a3 x1 xk_fu a2 h0)
set_option maxHeartbeats 1000000 in
theorem wk_J2_indexOfRange {l : Launch} {D : va_G} {base : Nat} {a0 : Option Nat} {a1 : Option Nat} {a2 : Int32} {a3 : Int32} {h0 : xk_H} {r : Int32} {h' : xk_H} (E : mf_J2_indexOfRange a0 a1 a2 a3 h0 = some (r, h')) : xk_Ok l D base yJ2_indexOfRange cJ2_indexOfRange 6 (Option.some FieldType.int) 3 101 [va_rf a0, va_rf a1, .int a2, .int a3] h0 (some (.int r)) h' := by
  refine xk_ofX RJ2 "indexOfRange" xq_J2_indexOfRange rfl rfl (Nat.le_of_ble_eq_true rfl) ⟨xk_crf _, ⟨xk_crf _, ⟨rfl, ⟨rfl, trivial⟩⟩⟩⟩ (fun Γ el eD eb C Z => ?_)
  rw [mf_J2_indexOfRange] at E
  show xk_X Γ 0 [(0, va_rf a0), (1, va_rf a1), (2, .int a2), (3, .int a3)] [] h0
  refine xr_aload_n 0 C rfl rfl dJ2_indexOfRange_0 ?_
  refine xr_gR C E xf_J2_9 dJ2_indexOfRange_1 (fun x1 E => ?_)
  refine xr_astore (L2 := [(4, va_rf x1), (0, va_rf a0), (1, va_rf a1), (2, .int a2), (3, .int a3)]) C rfl dJ2_indexOfRange_4 (by decide) ?_
  refine xr_aload_n 2 C rfl rfl dJ2_indexOfRange_6 ?_
  refine xr_ifnonnull 39 C E dJ2_indexOfRange_7 (by decide) (fun E => ?_) (fun E => ?_)
  · refine xr_iload_n 3 C rfl rfl dJ2_indexOfRange_39 ?_
    refine xr_istore (L2 := [(5, .int a2), (4, va_rf x1), (0, va_rf a0), (1, va_rf a1), (2, .int a2), (3, .int a3)]) C rfl dJ2_indexOfRange_40 (by decide) ?_
    refine xr_sub [3, 5, 1, 0] rfl ?_
    exact wk_J2_indexOfRange_L42 (a1 := a1) (a3 := a3) (a4 := x1) C Z xk_fu a2 h0 E
  · refine xr_iload_n 3 C rfl rfl dJ2_indexOfRange_10 ?_
    refine xr_istore (L2 := [(5, .int a2), (4, va_rf x1), (0, va_rf a0), (1, va_rf a1), (2, .int a2), (3, .int a3)]) C rfl dJ2_indexOfRange_11 (by decide) ?_
    refine xr_sub [5, 1, 0] rfl ?_
    exact wk_J2_indexOfRange_L13 (a3 := a3) (a4 := x1) C Z xk_fu a2 h0 E
def mf_J2_indexOf (a0 : Option Nat) (a1 : Option Nat) (h0 : xk_H) : Option (Int32 × xk_H) :=
  xm_gI [6] 2 a0 h0 fun x1 => xm_rc [6] a0 h0 <| xm_cl (mf_J2_indexOfRange a0 a1 (0 : Int32) x1 h0) fun r2 h3 => some (r2, h3)
set_option maxHeartbeats 1000000 in
theorem wk_J2_indexOf {l : Launch} {D : va_G} {base : Nat} {a0 : Option Nat} {a1 : Option Nat} {h0 : xk_H} {r : Int32} {h' : xk_H} (E : mf_J2_indexOf a0 a1 h0 = some (r, h')) : xk_Ok l D base yJ2_indexOf cJ2_indexOf 2 (Option.some FieldType.int) 4 126 [va_rf a0, va_rf a1] h0 (some (.int r)) h' := by
  refine xk_ofX RJ2 "indexOf" xq_J2_indexOf rfl rfl (Nat.le_of_ble_eq_true rfl) ⟨xk_crf _, ⟨xk_crf _, trivial⟩⟩ (fun Γ el eD eb C Z => ?_)
  rw [mf_J2_indexOf] at E
  show xk_X Γ 0 [(0, va_rf a0), (1, va_rf a1)] [] h0
  refine xr_aload_n 0 C rfl rfl dJ2_indexOf_0 ?_
  refine xr_aload_n 1 C rfl rfl dJ2_indexOf_1 ?_
  refine xr_iconst (0) C (by decide) dJ2_indexOf_2 ?_
  refine xr_aload_n 0 C rfl rfl dJ2_indexOf_3 ?_
  refine xr_gI C E xf_J2_48 dJ2_indexOf_4 (fun x1 E => ?_)
  refine xr_V (v := a0) [va_rf a1, .int (0 : Int32), .int x1] [] (fun r => some (.int r)) (fun r => .int r :: []) C E xi_6_ArrayList (fun r h' e => wk_J2_indexOfRange e) q954 q955 q956 q82 q957 xh_java_util_ArrayList xd_J2_indexOfRange (by decide) (by decide) trivial (Nat.le_of_ble_eq_true rfl) rfl (fun _ => rfl) dJ2_indexOf_7 (fun r2 h3 E => ?_)
  exact xr_iret C Z E dJ2_indexOf_10
def mf_J2_fastRemove (a0 : Option Nat) (a1 : Option Nat) (a2 : Int32) (h0 : xk_H) : Option (Unit × xk_H) :=
  xm_gI [6] 0 a0 h0 fun x1 => xm_pV [6] 0 a0 (.int (x1 + (1 : Int32))) h0 fun h2 => xm_gI [6] 2 a0 h2 fun x3 => if (x3 - (1 : Int32)) ≤ a2 then (xm_pV [6] 2 a0 (.int (x3 - (1 : Int32))) h2 fun h4 => xm_sR [102] [3, 211] a1 (x3 - (1 : Int32)) none h4 fun h5 => some ((), h5)) else (xm_cpy [102, 302] [102] (xk_el [3, 211] h2) a1 (a2 + (1 : Int32)) a1 a2 ((x3 - (1 : Int32)) - a2) h2 fun h6 => xm_pV [6] 2 a0 (.int (x3 - (1 : Int32))) h6 fun h7 => xm_sR [102] [3, 211] a1 (x3 - (1 : Int32)) none h7 fun h8 => some ((), h8))
set_option maxHeartbeats 1000000 in
theorem wk_J2_fastRemove {l : Launch} {D : va_G} {base : Nat} {a0 : Option Nat} {a1 : Option Nat} {a2 : Int32} {h0 : xk_H} {r : Unit} {h' : xk_H} (E : mf_J2_fastRemove a0 a1 a2 h0 = some (r, h')) : xk_Ok l D base yJ2_fastRemove cJ2_fastRemove 4 none 1 60 [va_rf a0, va_rf a1, .int a2] h0 none h' := by
  refine xk_ofX RJ2 "fastRemove" xq_J2_fastRemove rfl rfl (Nat.le_of_ble_eq_true rfl) ⟨xk_crf _, ⟨xk_crf _, ⟨rfl, trivial⟩⟩⟩ (fun Γ el eD eb C Z => ?_)
  rw [mf_J2_fastRemove] at E
  show xk_X Γ 0 [(0, va_rf a0), (1, va_rf a1), (2, .int a2)] [] h0
  refine xr_aload_n 0 C rfl rfl dJ2_fastRemove_0 ?_
  refine xr_dup C (xk_crf _) dJ2_fastRemove_1 ?_
  refine xr_gI C E xf_J2_63 dJ2_fastRemove_2 (fun x1 E => ?_)
  refine xr_iconst (1) C (by decide) dJ2_fastRemove_5 ?_
  refine xr_iadd C dJ2_fastRemove_6 ?_
  refine xr_pI C E xf_J2_63 xp_J2_63 dJ2_fastRemove_7 (fun h2 E => ?_)
  refine xr_aload_n 0 C rfl rfl dJ2_fastRemove_10 ?_
  refine xr_gI C E xf_J2_48 dJ2_fastRemove_11 (fun x3 E => ?_)
  refine xr_iconst (1) C (by decide) dJ2_fastRemove_14 ?_
  refine xr_isub C dJ2_fastRemove_15 ?_
  refine xr_dup C rfl dJ2_fastRemove_16 ?_
  refine xr_istore_n (L2 := [(3, .int (x3 - (1 : Int32))), (0, va_rf a0), (1, va_rf a1), (2, .int a2)]) C rfl rfl dJ2_fastRemove_17 (by decide) ?_
  refine xr_iload_n 3 C rfl rfl dJ2_fastRemove_18 ?_
  refine xr_icmp_le 34 C E dJ2_fastRemove_19 (by decide) (fun E => ?_) (fun E => ?_)
  · refine xr_aload_n 2 C rfl rfl dJ2_fastRemove_34 ?_
    refine xr_aload_n 1 C rfl rfl dJ2_fastRemove_35 ?_
    refine xr_iload_n 0 C rfl rfl dJ2_fastRemove_36 ?_
    refine xr_dup_x1 C rfl (xk_crf _) dJ2_fastRemove_37 ?_
    refine xr_pI C E xf_J2_48 xp_J2_48 dJ2_fastRemove_38 (fun h4 E => ?_)
    refine xr_null C dJ2_fastRemove_41 ?_
    refine xr_sO C E xa_3_211_Object dJ2_fastRemove_42 (fun h5 E => ?_)
    exact xr_vret C Z E dJ2_fastRemove_43
  · refine xr_aload_n 2 C rfl rfl dJ2_fastRemove_22 ?_
    refine xr_iload_n 3 C rfl rfl dJ2_fastRemove_23 ?_
    refine xr_iconst (1) C (by decide) dJ2_fastRemove_24 ?_
    refine xr_iadd C dJ2_fastRemove_25 ?_
    refine xr_aload_n 2 C rfl rfl dJ2_fastRemove_26 ?_
    refine xr_iload_n 3 C rfl rfl dJ2_fastRemove_27 ?_
    refine xr_iload_n 0 C rfl rfl dJ2_fastRemove_28 ?_
    refine xr_iload_n 3 C rfl rfl dJ2_fastRemove_29 ?_
    refine xr_isub C dJ2_fastRemove_30 ?_
    refine xr_cpO C E xa_3_211_Object q856 q545 q544 q100 (by decide) trivial (by exact Nat.le_of_ble_eq_true rfl) dJ2_fastRemove_31 (fun h6 E => ?_)
    refine xr_aload_n 2 C rfl rfl dJ2_fastRemove_34 ?_
    refine xr_aload_n 1 C rfl rfl dJ2_fastRemove_35 ?_
    refine xr_iload_n 0 C rfl rfl dJ2_fastRemove_36 ?_
    refine xr_dup_x1 C rfl (xk_crf _) dJ2_fastRemove_37 ?_
    refine xr_pI C E xf_J2_48 xp_J2_48 dJ2_fastRemove_38 (fun h7 E => ?_)
    refine xr_null C dJ2_fastRemove_41 ?_
    refine xr_sO C E xa_3_211_Object dJ2_fastRemove_42 (fun h8 E => ?_)
    exact xr_vret C Z E dJ2_fastRemove_43
def mf_J2_remove (a0 : Option Nat) (a1 : Int32) (h0 : xk_H) : Option (Option Nat × xk_H) :=
  xm_gI [6] 2 a0 h0 fun x1 => xm_cl (mf_J10_checkIndex a1 x1 h0) fun r2 h3 => xm_gR [6] 1 a0 h3 fun x4 => xm_lR [102, 302] x4 a1 h3 fun x5 => xm_rc [6] a0 h3 <| xm_cl (mf_J2_fastRemove a0 x4 a1 h3) fun r6 h7 => some (x5, h7)
set_option maxHeartbeats 1000000 in
theorem wk_J2_remove {l : Launch} {D : va_G} {base : Nat} {a0 : Option Nat} {a1 : Int32} {h0 : xk_H} {r : Option Nat} {h' : xk_H} (E : mf_J2_remove a0 a1 h0 = some (r, h')) : xk_Ok l D base yJ2_remove cJ2_remove 4 (Option.some (FieldType.object "java/lang/Object")) 3 103 [va_rf a0, .int a1] h0 (some (va_rf r)) h' := by
  refine xk_ofX RJ2 "remove" xq_J2_remove rfl rfl (Nat.le_of_ble_eq_true rfl) ⟨xk_crf _, ⟨rfl, trivial⟩⟩ (fun Γ el eD eb C Z => ?_)
  rw [mf_J2_remove] at E
  show xk_X Γ 0 [(0, va_rf a0), (1, .int a1)] [] h0
  refine xr_iload_n 1 C rfl rfl dJ2_remove_0 ?_
  refine xr_aload_n 0 C rfl rfl dJ2_remove_1 ?_
  refine xr_gI C E xf_J2_48 dJ2_remove_2 (fun x1 E => ?_)
  refine xr_S [.int a1, .int x1] [] (fun r => some (.int r)) (fun r => .int r :: []) C E (fun r h' e => wk_J10_checkIndex e) q376 q377 q91 q378 xh_java_util_Objects xd_J10_checkIndex (by decide) (by decide) trivial (Nat.le_of_ble_eq_true rfl) rfl (fun _ => rfl) dJ2_remove_5 (fun r2 h3 E => ?_)
  refine xr_pop C rfl dJ2_remove_8 ?_
  refine xr_aload_n 0 C rfl rfl dJ2_remove_9 ?_
  refine xr_gR C E xf_J2_9 dJ2_remove_10 (fun x4 E => ?_)
  refine xr_astore_n (L2 := [(2, va_rf x4), (0, va_rf a0), (1, .int a1)]) C rfl rfl dJ2_remove_13 (by decide) ?_
  refine xr_aload_n 0 C rfl rfl dJ2_remove_14 ?_
  refine xr_iload_n 2 C rfl rfl dJ2_remove_15 ?_
  refine xr_lR 2 (.object "java/lang/Object") C E (fun _ => rfl) rfl xt_102_302 dJ2_remove_16 (fun x5 E => ?_)
  refine xr_astore_n (L2 := [(3, va_rf x5), (2, va_rf x4), (0, va_rf a0), (1, .int a1)]) C rfl rfl dJ2_remove_17 (by decide) ?_
  refine xr_aload_n 2 C rfl rfl dJ2_remove_18 ?_
  refine xr_aload_n 1 C rfl rfl dJ2_remove_19 ?_
  refine xr_iload_n 3 C rfl rfl dJ2_remove_20 ?_
  refine xr_V (v := a0) [va_rf x4, .int a1] [] (fun _ => none) (fun _ => []) C E xi_6_ArrayList (fun r h' e => wk_J2_fastRemove e) q1015 q1017 qs11 q82 q1018 xh_java_util_ArrayList xd_J2_fastRemove (by decide) (by decide) trivial (Nat.le_of_ble_eq_true rfl) rfl (fun _ => rfl) dJ2_remove_21 (fun r6 h7 E => ?_)
  refine xr_aload_n 0 C rfl rfl dJ2_remove_24 ?_
  exact xr_aret C Z E (Or.inl ⟨_, rfl⟩) dJ2_remove_25
def mf_J2_isEmpty (a0 : Option Nat) (h0 : xk_H) : Option (Bool × xk_H) :=
  xm_gI [6] 2 a0 h0 fun x1 => if x1 = 0 then (some (true, h0)) else (some (false, h0))
set_option maxHeartbeats 1000000 in
theorem wk_J2_isEmpty {l : Launch} {D : va_G} {base : Nat} {a0 : Option Nat} {h0 : xk_H} {r : Bool} {h' : xk_H} (E : mf_J2_isEmpty a0 h0 = some (r, h')) : xk_Ok l D base yJ2_isEmpty cJ2_isEmpty 1 (Option.some FieldType.boolean) 1 60 [va_rf a0] h0 (some (.int (xk_b2 r))) h' := by
  refine xk_ofX RJ2 "isEmpty" xq_J2_isEmpty rfl rfl (Nat.le_of_ble_eq_true rfl) ⟨xk_crf _, trivial⟩ (fun Γ el eD eb C Z => ?_)
  rw [mf_J2_isEmpty] at E
  show xk_X Γ 0 [(0, va_rf a0)] [] h0
  refine xr_aload_n 0 C rfl rfl dJ2_isEmpty_0 ?_
  refine xr_gI C E xf_J2_48 dJ2_isEmpty_1 (fun x1 E => ?_)
  refine xr_if_ne 11 C E dJ2_isEmpty_4 (by decide) (fun E => ?_) (fun E => ?_)
  · refine xr_iconst (0) C (by decide) dJ2_isEmpty_11 ?_
    exact xr_bret (b := false) C Z E dJ2_isEmpty_12
  · refine xr_iconst (1) C (by decide) dJ2_isEmpty_7 ?_
    refine xr_goto 12 C dJ2_isEmpty_8 (by decide) ?_
    exact xr_bret (b := true) C Z E dJ2_isEmpty_12
def mf_J2_set (a0 : Option Nat) (a1 : Int32) (a2 : Option Nat) (h0 : xk_H) : Option (Option Nat × xk_H) :=
  xm_gI [6] 2 a0 h0 fun x1 => xm_cl (mf_J10_checkIndex a1 x1 h0) fun r2 h3 => xm_rc [6] a0 h3 <| xm_cl (mf_J2_elementData a0 a1 h3) fun r4 h5 => xm_gR [6] 1 a0 h5 fun x6 => xm_sR [102] [3, 211] x6 a1 a2 h5 fun h7 => some (r4, h7)
set_option maxHeartbeats 1000000 in
theorem wk_J2_set {l : Launch} {D : va_G} {base : Nat} {a0 : Option Nat} {a1 : Int32} {a2 : Option Nat} {h0 : xk_H} {r : Option Nat} {h' : xk_H} (E : mf_J2_set a0 a1 a2 h0 = some (r, h')) : xk_Ok l D base yJ2_set cJ2_set 4 (Option.some (FieldType.object "java/lang/Object")) 3 103 [va_rf a0, .int a1, va_rf a2] h0 (some (va_rf r)) h' := by
  refine xk_ofX RJ2 "set" xq_J2_set rfl rfl (Nat.le_of_ble_eq_true rfl) ⟨xk_crf _, ⟨rfl, ⟨xk_crf _, trivial⟩⟩⟩ (fun Γ el eD eb C Z => ?_)
  rw [mf_J2_set] at E
  show xk_X Γ 0 [(0, va_rf a0), (1, .int a1), (2, va_rf a2)] [] h0
  refine xr_iload_n 1 C rfl rfl dJ2_set_0 ?_
  refine xr_aload_n 0 C rfl rfl dJ2_set_1 ?_
  refine xr_gI C E xf_J2_48 dJ2_set_2 (fun x1 E => ?_)
  refine xr_S [.int a1, .int x1] [] (fun r => some (.int r)) (fun r => .int r :: []) C E (fun r h' e => wk_J10_checkIndex e) q376 q377 q91 q378 xh_java_util_Objects xd_J10_checkIndex (by decide) (by decide) trivial (Nat.le_of_ble_eq_true rfl) rfl (fun _ => rfl) dJ2_set_5 (fun r2 h3 E => ?_)
  refine xr_pop C rfl dJ2_set_8 ?_
  refine xr_aload_n 0 C rfl rfl dJ2_set_9 ?_
  refine xr_iload_n 1 C rfl rfl dJ2_set_10 ?_
  refine xr_V (v := a0) [.int a1] [] (fun r => some (va_rf r)) (fun r => va_rf r :: []) C E xi_6_ArrayList (fun r h' e => wk_J2_elementData e) q382 q383 q384 q82 q385 xh_java_util_ArrayList xd_J2_elementData (by decide) (by decide) trivial (Nat.le_of_ble_eq_true rfl) rfl (fun _ => rfl) dJ2_set_11 (fun r4 h5 E => ?_)
  refine xr_astore_n (L2 := [(3, va_rf r4), (0, va_rf a0), (1, .int a1), (2, va_rf a2)]) C rfl rfl dJ2_set_14 (by decide) ?_
  refine xr_aload_n 1 C rfl rfl dJ2_set_15 ?_
  refine xr_gR C E xf_J2_9 dJ2_set_16 (fun x6 E => ?_)
  refine xr_iload_n 2 C rfl rfl dJ2_set_19 ?_
  refine xr_aload_n 3 C rfl rfl dJ2_set_20 ?_
  refine xr_sO C E xa_3_211_Object dJ2_set_21 (fun h7 E => ?_)
  refine xr_aload_n 0 C rfl rfl dJ2_set_22 ?_
  exact xr_aret C Z E (Or.inl ⟨_, rfl⟩) dJ2_set_23
def mf_J9_hasNext (a0 : Option Nat) (h0 : xk_H) : Option (Bool × xk_H) :=
  xm_gI [9] 0 a0 h0 fun x1 => xm_gR [9] 3 a0 h0 fun x2 => xm_gI [6] 2 x2 h0 fun x3 => if x1 = x3 then (some (false, h0)) else (some (true, h0))
set_option maxHeartbeats 1000000 in
theorem wk_J9_hasNext {l : Launch} {D : va_G} {base : Nat} {a0 : Option Nat} {h0 : xk_H} {r : Bool} {h' : xk_H} (E : mf_J9_hasNext a0 h0 = some (r, h')) : xk_Ok l D base yJ9_hasNext cJ9_hasNext 1 (Option.some FieldType.boolean) 1 60 [va_rf a0] h0 (some (.int (xk_b2 r))) h' := by
  refine xk_ofX RJ9 "hasNext" xq_J9_hasNext rfl rfl (Nat.le_of_ble_eq_true rfl) ⟨xk_crf _, trivial⟩ (fun Γ el eD eb C Z => ?_)
  rw [mf_J9_hasNext] at E
  show xk_X Γ 0 [(0, va_rf a0)] [] h0
  refine xr_aload_n 0 C rfl rfl dJ9_hasNext_0 ?_
  refine xr_gI C E xf_J9_25 dJ9_hasNext_1 (fun x1 E => ?_)
  refine xr_aload_n 0 C rfl rfl dJ9_hasNext_4 ?_
  refine xr_gR C E xf_J9_1 dJ9_hasNext_5 (fun x2 E => ?_)
  refine xr_gI C E xf_J9_28 dJ9_hasNext_8 (fun x3 E => ?_)
  refine xr_icmp_eq 18 C E dJ9_hasNext_11 (by decide) (fun E => ?_) (fun E => ?_)
  · refine xr_iconst (0) C (by decide) dJ9_hasNext_18 ?_
    exact xr_bret (b := false) C Z E dJ9_hasNext_19
  · refine xr_iconst (1) C (by decide) dJ9_hasNext_14 ?_
    refine xr_goto 19 C dJ9_hasNext_15 (by decide) ?_
    exact xr_bret (b := true) C Z E dJ9_hasNext_19
def mf_J9_checkForComodification (a0 : Option Nat) (h0 : xk_H) : Option (Unit × xk_H) :=
  xm_gR [9] 3 a0 h0 fun x1 => xm_gI [6] 0 x1 h0 fun x2 => xm_gI [9] 2 a0 h0 fun x3 => if x2 = x3 then (some ((), h0)) else (none)
set_option maxHeartbeats 1000000 in
theorem wk_J9_checkForComodification {l : Launch} {D : va_G} {base : Nat} {a0 : Option Nat} {h0 : xk_H} {r : Unit} {h' : xk_H} (E : mf_J9_checkForComodification a0 h0 = some (r, h')) : xk_Ok l D base yJ9_checkForComodification cJ9_checkForComodification 1 none 1 60 [va_rf a0] h0 none h' := by
  refine xk_ofX RJ9 "checkForComodification" xq_J9_checkForComodification rfl rfl (Nat.le_of_ble_eq_true rfl) ⟨xk_crf _, trivial⟩ (fun Γ el eD eb C Z => ?_)
  rw [mf_J9_checkForComodification] at E
  show xk_X Γ 0 [(0, va_rf a0)] [] h0
  refine xr_aload_n 0 C rfl rfl dJ9_checkForComodification_0 ?_
  refine xr_gR C E xf_J9_1 dJ9_checkForComodification_1 (fun x1 E => ?_)
  refine xr_gI C E xf_J9_17 dJ9_checkForComodification_4 (fun x2 E => ?_)
  refine xr_aload_n 0 C rfl rfl dJ9_checkForComodification_7 ?_
  refine xr_gI C E xf_J9_22 dJ9_checkForComodification_8 (fun x3 E => ?_)
  refine xr_icmp_eq 22 C E dJ9_checkForComodification_11 (by decide) (fun E => ?_) (fun E => ?_)
  · exact xr_vret C Z E dJ9_checkForComodification_22
  · cases E
def mf_J9_next (a0 : Option Nat) (h0 : xk_H) : Option (Option Nat × xk_H) :=
  xm_rc [9] a0 h0 <| xm_cl (mf_J9_checkForComodification a0 h0) fun r1 h2 => xm_gI [9] 0 a0 h2 fun x3 => xm_gR [9] 3 a0 h2 fun x4 => xm_gI [6] 2 x4 h2 fun x5 => if x3 < x5 then (xm_gR [9] 3 a0 h2 fun x6 => xm_gR [6] 1 x6 h2 fun x7 => xm_len [102, 302] x7 h2 fun x8 => if x3 < x8 then (xm_pV [9] 0 a0 (.int (x3 + (1 : Int32))) h2 fun h9 => xm_pV [9] 1 a0 (.int x3) h9 fun h10 => xm_lR [102, 302] x7 x3 h10 fun x11 => some (x11, h10)) else (none)) else (none)
set_option maxHeartbeats 1000000 in
theorem wk_J9_next {l : Launch} {D : va_G} {base : Nat} {a0 : Option Nat} {h0 : xk_H} {r : Option Nat} {h' : xk_H} (E : mf_J9_next a0 h0 = some (r, h')) : xk_Ok l D base yJ9_next cJ9_next 3 (Option.some (FieldType.object "java/lang/Object")) 2 80 [va_rf a0] h0 (some (va_rf r)) h' := by
  refine xk_ofX RJ9 "next" xq_J9_next rfl rfl (Nat.le_of_ble_eq_true rfl) ⟨xk_crf _, trivial⟩ (fun Γ el eD eb C Z => ?_)
  rw [mf_J9_next] at E
  show xk_X Γ 0 [(0, va_rf a0)] [] h0
  refine xr_aload_n 0 C rfl rfl dJ9_next_0 ?_
  refine xr_V (v := a0) [] [] (fun _ => none) (fun _ => []) C E xi_9_ArrayListItr (fun r h' e => wk_J9_checkForComodification e) q701 q702 q703 q90 q706 xh_java_util_ArrayList_Itr xd_J9_checkForComodification (by decide) (by decide) trivial (Nat.le_of_ble_eq_true rfl) rfl (fun _ => rfl) dJ9_next_1 (fun r1 h2 E => ?_)
  refine xr_aload_n 0 C rfl rfl dJ9_next_4 ?_
  refine xr_gI C E xf_J9_25 dJ9_next_5 (fun x3 E => ?_)
  refine xr_istore_n (L2 := [(1, .int x3), (0, va_rf a0)]) C rfl rfl dJ9_next_8 (by decide) ?_
  refine xr_iload_n 0 C rfl rfl dJ9_next_9 ?_
  refine xr_aload_n 1 C rfl rfl dJ9_next_10 ?_
  refine xr_gR C E xf_J9_1 dJ9_next_11 (fun x4 E => ?_)
  refine xr_gI C E xf_J9_28 dJ9_next_14 (fun x5 E => ?_)
  refine xr_icmp_lt 28 C E dJ9_next_17 (by decide) (fun E => ?_) (fun E => ?_)
  · refine xr_aload_n 1 C rfl rfl dJ9_next_28 ?_
    refine xr_gR C E xf_J9_1 dJ9_next_29 (fun x6 E => ?_)
    refine xr_gR C E xf_J9_37 dJ9_next_32 (fun x7 E => ?_)
    refine xr_astore_n (L2 := [(2, va_rf x7), (1, .int x3), (0, va_rf a0)]) C rfl rfl dJ9_next_35 (by decide) ?_
    refine xr_iload_n 1 C rfl rfl dJ9_next_36 ?_
    refine xr_aload_n 0 C rfl rfl dJ9_next_37 ?_
    refine xr_len 2 (.object "java/lang/Object") C E (fun _ => rfl) xt_102_302 dJ9_next_38 (fun x8 E => ?_)
    refine xr_icmp_lt 50 C E dJ9_next_39 (by decide) (fun E => ?_) (fun E => ?_)
    · refine xr_aload_n 2 C rfl rfl dJ9_next_50 ?_
      refine xr_iload_n 1 C rfl rfl dJ9_next_51 ?_
      refine xr_iconst (1) C (by decide) dJ9_next_52 ?_
      refine xr_iadd C dJ9_next_53 ?_
      refine xr_pI C E xf_J9_25 xp_J9_25 dJ9_next_54 (fun h9 E => ?_)
      refine xr_aload_n 0 C rfl rfl dJ9_next_57 ?_
      refine xr_aload_n 2 C rfl rfl dJ9_next_58 ?_
      refine xr_iload_n 1 C rfl rfl dJ9_next_59 ?_
      refine xr_dup_x1 C rfl (xk_crf _) dJ9_next_60 ?_
      refine xr_pI C E xf_J9_13 xp_J9_13 dJ9_next_61 (fun h10 E => ?_)
      refine xr_lR 2 (.object "java/lang/Object") C E (fun _ => rfl) rfl xt_102_302 dJ9_next_64 (fun x11 E => ?_)
      exact xr_aret C Z E (Or.inl ⟨_, rfl⟩) dJ9_next_65
    · cases E
  · cases E
def mf_J18_copyOf (a0 : Option Nat) (a1 : Int32) (h0 : xk_H) : Option (Option Nat × xk_H) :=
  xm_len [101] a0 h0 fun x1 => if a1 = x1 then (none) else (xm_nwa 101 (.int 0) a1 h0 fun b2 h3 => xm_len [101] a0 h3 fun x4 => xm_cl (mf_J17_min x4 a1 h3) fun r5 h6 => xm_cpy [101] [101] (fits .byte) a0 (0 : Int32) (some b2) (0 : Int32) r5 h6 fun h7 => some ((some b2), h7))
set_option maxHeartbeats 1000000 in
theorem wk_J18_copyOf {l : Launch} {D : va_G} {base : Nat} {a0 : Option Nat} {a1 : Int32} {h0 : xk_H} {r : Option Nat} {h' : xk_H} (E : mf_J18_copyOf a0 a1 h0 = some (r, h')) : xk_Ok l D base yJ18_copyOf cJ18_copyOf 3 (Option.some (FieldType.array FieldType.byte)) 2 81 [va_rf a0, .int a1] h0 (some (va_rf r)) h' := by
  refine xk_ofX RJ18 "copyOf" xq_J18_copyOf rfl rfl (Nat.le_of_ble_eq_true rfl) ⟨xk_crf _, ⟨rfl, trivial⟩⟩ (fun Γ el eD eb C Z => ?_)
  rw [mf_J18_copyOf] at E
  show xk_X Γ 0 [(0, va_rf a0), (1, .int a1)] [] h0
  refine xr_iload_n 1 C rfl rfl dJ18_copyOf_0 ?_
  refine xr_aload_n 0 C rfl rfl dJ18_copyOf_1 ?_
  refine xr_len 1 .byte C E (fun _ => rfl) xt_101 dJ18_copyOf_2 (fun x1 E => ?_)
  refine xr_icmp_ne 14 C E dJ18_copyOf_3 (by decide) (fun E => ?_) (fun E => ?_)
  · refine xr_iload_n 1 C rfl rfl dJ18_copyOf_14 ?_
    refine xr_nwB C E q237 dJ18_copyOf_15 (fun b2 h3 E => ?_)
    refine xr_astore_n (L2 := [(2, va_rf (some b2)), (0, va_rf a0), (1, .int a1)]) C rfl rfl dJ18_copyOf_17 (by decide) ?_
    refine xr_aload_n 1 C rfl rfl dJ18_copyOf_18 ?_
    refine xr_iconst (0) C (by decide) dJ18_copyOf_19 ?_
    refine xr_aload_n 0 C rfl rfl dJ18_copyOf_20 ?_
    refine xr_iconst (0) C (by decide) dJ18_copyOf_21 ?_
    refine xr_aload_n 1 C rfl rfl dJ18_copyOf_22 ?_
    refine xr_len 1 .byte C E (fun _ => rfl) xt_101 dJ18_copyOf_23 (fun x4 E => ?_)
    refine xr_iload_n 2 C rfl rfl dJ18_copyOf_24 ?_
    refine xr_S [.int x4, .int a1] [.int (0 : Int32), va_rf (some b2), .int (0 : Int32), va_rf a0] (fun r => some (.int r)) (fun r => .int r :: [.int (0 : Int32), va_rf (some b2), .int (0 : Int32), va_rf a0]) C E (fun r h' e => wk_J17_min e) q540 q541 q98 q542 xh_java_lang_Math xd_J17_min (by decide) (by decide) ⟨rfl, ⟨xk_crf _, ⟨rfl, ⟨xk_crf _, trivial⟩⟩⟩⟩ (Nat.le_of_ble_eq_true rfl) rfl (fun _ => rfl) dJ18_copyOf_25 (fun r5 h6 E => ?_)
    refine xr_cpB C E q543 q545 q544 q100 (by decide) trivial (by exact Nat.le_of_ble_eq_true rfl) dJ18_copyOf_28 (fun h7 E => ?_)
    refine xr_aload_n 0 C rfl rfl dJ18_copyOf_31 ?_
    exact xr_aret C Z E (Or.inr ⟨_, rfl⟩) dJ18_copyOf_32
  · refine xr_aload_n 0 C rfl rfl dJ18_copyOf_6 ?_
    cases E
def mf_J4_init (a0 : Nat) (h0 : xk_H) : Option (Unit × xk_H) :=
  xm_cl (mf_J3_init a0 h0) fun r1 h2 => xm_pV [7] 1 (some a0) (.int (0 : Int32)) h2 fun h3 => some ((), h3)
set_option maxHeartbeats 1000000 in
theorem wk_J4_init {l : Launch} {D : va_G} {base : Nat} {a0 : Nat} {h0 : xk_H} {r : Unit} {h' : xk_H} (E : mf_J4_init a0 h0 = some (r, h')) : xk_Ok l D base yJ4_init cJ4_init 1 none 4 120 [va_rf (some a0)] h0 none h' := by
  refine xk_ofX RJ4 "<init>" xq_J4_init rfl rfl (Nat.le_of_ble_eq_true rfl) ⟨xk_crf _, trivial⟩ (fun Γ el eD eb C Z => ?_)
  rw [mf_J4_init] at E
  show xk_X Γ 0 [(0, va_rf (some a0))] [] h0
  refine xr_aload_n 0 C rfl rfl dJ4_init_0 ?_
  refine xr_I (b := a0) [] [] (fun _ => none) (fun _ => []) C E (fun r h' e => wk_J3_init e) q189 q190 q83 q191 xh_java_util_AbstractSequentialList rfl xd_J3_init (by decide) (by decide) trivial (Nat.le_of_ble_eq_true rfl) rfl (fun _ => rfl) dJ4_init_1 (fun r1 h2 E => ?_)
  refine xr_aload_n 0 C rfl rfl dJ4_init_4 ?_
  refine xr_iconst (0) C (by decide) dJ4_init_5 ?_
  refine xr_pI C E xf_J4_7 xp_J4_7_i dJ4_init_6 (fun h3 E => ?_)
  exact xr_vret C Z E dJ4_init_9
def mf_J4_unlinkFirst_J42 (a0 : Option Nat) (a2 : Option Nat) (h0 : xk_H) : Option (Option Nat × xk_H) :=
  xm_gI [7] 1 a0 h0 fun x7 => xm_pV [7] 1 a0 (.int (x7 - (1 : Int32))) h0 fun h8 => xm_gI [7] 0 a0 h8 fun x9 => xm_pV [7] 0 a0 (.int (x9 + (1 : Int32))) h8 fun h10 => some (a2, h10)
set_option maxHeartbeats 1000000 in
theorem wk_J4_unlinkFirst_J42 {Γ : xk_C} {r : Option Nat} {h' : xk_H} {a0 : Option Nat} {a2 : Option Nat} {h0 : xk_H} (C : xk_Cx Γ RJ4 cJ4_unlinkFirst 4 (Option.some (FieldType.object "java/lang/Object")) "unlinkFirst" 1 60) (Z : xk_Z Γ (some (va_rf r)) h') (E : mf_J4_unlinkFirst_J42 a0 a2 h0 = some (r, h')) : xk_X Γ 42 [(0, va_rf a0), (2, va_rf a2)] [] h0 := by
  rw [mf_J4_unlinkFirst_J42] at E
  refine xr_aload_n 0 C rfl rfl dJ4_unlinkFirst_42 ?_
  refine xr_dup C (xk_crf _) dJ4_unlinkFirst_43 ?_
  refine xr_gI C E xf_J4_7 dJ4_unlinkFirst_44 (fun x7 E => ?_)
  refine xr_iconst (1) C (by decide) dJ4_unlinkFirst_47 ?_
  refine xr_isub C dJ4_unlinkFirst_48 ?_
  refine xr_pI C E xf_J4_7 xp_J4_7 dJ4_unlinkFirst_49 (fun h8 E => ?_)
  refine xr_aload_n 0 C rfl rfl dJ4_unlinkFirst_52 ?_
  refine xr_dup C (xk_crf _) dJ4_unlinkFirst_53 ?_
  refine xr_gI C E xf_J4_33 dJ4_unlinkFirst_54 (fun x9 E => ?_)
  refine xr_iconst (1) C (by decide) dJ4_unlinkFirst_57 ?_
  refine xr_iadd C dJ4_unlinkFirst_58 ?_
  refine xr_pI C E xf_J4_33 xp_J4_33 dJ4_unlinkFirst_59 (fun h10 E => ?_)
  refine xr_aload_n 1 C rfl rfl dJ4_unlinkFirst_62 ?_
  exact xr_aret C Z E (Or.inl ⟨_, rfl⟩) dJ4_unlinkFirst_63
def mf_J4_unlinkFirst (a0 : Option Nat) (a1 : Option Nat) (h0 : xk_H) : Option (Option Nat × xk_H) :=
  xm_gR [10] 0 a1 h0 fun x1 => xm_gR [10] 1 a1 h0 fun x2 => xm_pV [10] 0 a1 (va_rf none) h0 fun h3 => xm_pV [10] 1 a1 (va_rf none) h3 fun h4 => xm_pV [7] 2 a0 (va_rf x2) h4 fun h5 => if x2 = none then (xm_pV [7] 3 a0 (va_rf none) h5 fun h11 => mf_J4_unlinkFirst_J42 a0 x1 h11) else (xm_pV [10] 2 x2 (va_rf none) h5 fun h6 => mf_J4_unlinkFirst_J42 a0 x1 h6)
set_option maxHeartbeats 1000000 in
theorem wk_J4_unlinkFirst {l : Launch} {D : va_G} {base : Nat} {a0 : Option Nat} {a1 : Option Nat} {h0 : xk_H} {r : Option Nat} {h' : xk_H} (E : mf_J4_unlinkFirst a0 a1 h0 = some (r, h')) : xk_Ok l D base yJ4_unlinkFirst cJ4_unlinkFirst 4 (Option.some (FieldType.object "java/lang/Object")) 1 60 [va_rf a0, va_rf a1] h0 (some (va_rf r)) h' := by
  refine xk_ofX RJ4 "unlinkFirst" xq_J4_unlinkFirst rfl rfl (Nat.le_of_ble_eq_true rfl) ⟨xk_crf _, ⟨xk_crf _, trivial⟩⟩ (fun Γ el eD eb C Z => ?_)
  rw [mf_J4_unlinkFirst] at E
  show xk_X Γ 0 [(0, va_rf a0), (1, va_rf a1)] [] h0
  refine xr_aload_n 1 C rfl rfl dJ4_unlinkFirst_0 ?_
  refine xr_gR C E xf_J4_39 dJ4_unlinkFirst_1 (fun x1 E => ?_)
  refine xr_astore_n (L2 := [(2, va_rf x1), (0, va_rf a0), (1, va_rf a1)]) C rfl rfl dJ4_unlinkFirst_4 (by decide) ?_
  refine xr_aload_n 2 C rfl rfl dJ4_unlinkFirst_5 ?_
  refine xr_gR C E xf_J4_36 dJ4_unlinkFirst_6 (fun x2 E => ?_)
  refine xr_astore_n (L2 := [(3, va_rf x2), (2, va_rf x1), (0, va_rf a0), (1, va_rf a1)]) C rfl rfl dJ4_unlinkFirst_9 (by decide) ?_
  refine xr_aload_n 3 C rfl rfl dJ4_unlinkFirst_10 ?_
  refine xr_null C dJ4_unlinkFirst_11 ?_
  refine xr_pR C E xf_J4_39 xp_J4_39 (Or.inl ⟨_, rfl⟩) dJ4_unlinkFirst_12 (fun h3 E => ?_)
  refine xr_aload_n 3 C rfl rfl dJ4_unlinkFirst_15 ?_
  refine xr_null C dJ4_unlinkFirst_16 ?_
  refine xr_pR C E xf_J4_36 xp_J4_36 (Or.inl ⟨_, rfl⟩) dJ4_unlinkFirst_17 (fun h4 E => ?_)
  refine xr_aload_n 2 C rfl rfl dJ4_unlinkFirst_20 ?_
  refine xr_aload_n 0 C rfl rfl dJ4_unlinkFirst_21 ?_
  refine xr_pR C E xf_J4_18 xp_J4_18 (Or.inl ⟨_, rfl⟩) dJ4_unlinkFirst_22 (fun h5 E => ?_)
  refine xr_aload_n 0 C rfl rfl dJ4_unlinkFirst_25 ?_
  refine xr_ifnonnull 37 C E dJ4_unlinkFirst_26 (by decide) (fun E => ?_) (fun E => ?_)
  · refine xr_aload_n 0 C rfl rfl dJ4_unlinkFirst_37 ?_
    refine xr_null C dJ4_unlinkFirst_38 ?_
    refine xr_pR C E xf_J4_30 xp_J4_30 (Or.inl ⟨_, rfl⟩) dJ4_unlinkFirst_39 (fun h6 E => ?_)
    refine xr_sub [2, 1] rfl ?_
    exact wk_J4_unlinkFirst_J42 C Z E
  · refine xr_aload_n 2 C rfl rfl dJ4_unlinkFirst_29 ?_
    refine xr_null C dJ4_unlinkFirst_30 ?_
    refine xr_pR C E xf_J4_27 xp_J4_27 (Or.inl ⟨_, rfl⟩) dJ4_unlinkFirst_31 (fun h11 E => ?_)
    refine xr_goto 42 C dJ4_unlinkFirst_34 (by decide) ?_
    refine xr_sub [2, 1] rfl ?_
    exact wk_J4_unlinkFirst_J42 C Z E
def mf_J4_removeFirst (a0 : Option Nat) (h0 : xk_H) : Option (Option Nat × xk_H) :=
  xm_gR [7] 2 a0 h0 fun x1 => if x1 = none then (none) else (xm_rc [7] a0 h0 <| xm_cl (mf_J4_unlinkFirst a0 x1 h0) fun r2 h3 => some (r2, h3))
set_option maxHeartbeats 1000000 in
theorem wk_J4_removeFirst {l : Launch} {D : va_G} {base : Nat} {a0 : Option Nat} {h0 : xk_H} {r : Option Nat} {h' : xk_H} (E : mf_J4_removeFirst a0 h0 = some (r, h')) : xk_Ok l D base yJ4_removeFirst cJ4_removeFirst 2 (Option.some (FieldType.object "java/lang/Object")) 2 83 [va_rf a0] h0 (some (va_rf r)) h' := by
  refine xk_ofX RJ4 "removeFirst" xq_J4_removeFirst rfl rfl (Nat.le_of_ble_eq_true rfl) ⟨xk_crf _, trivial⟩ (fun Γ el eD eb C Z => ?_)
  rw [mf_J4_removeFirst] at E
  show xk_X Γ 0 [(0, va_rf a0)] [] h0
  refine xr_aload_n 0 C rfl rfl dJ4_removeFirst_0 ?_
  refine xr_gR C E xf_J4_18 dJ4_removeFirst_1 (fun x1 E => ?_)
  refine xr_astore_n (L2 := [(1, va_rf x1), (0, va_rf a0)]) C rfl rfl dJ4_removeFirst_4 (by decide) ?_
  refine xr_aload_n 0 C rfl rfl dJ4_removeFirst_5 ?_
  refine xr_ifnonnull 17 C E dJ4_removeFirst_6 (by decide) (fun E => ?_) (fun E => ?_)
  · refine xr_aload_n 1 C rfl rfl dJ4_removeFirst_17 ?_
    refine xr_aload_n 0 C rfl rfl dJ4_removeFirst_18 ?_
    refine xr_V (v := a0) [va_rf x1] [] (fun r => some (va_rf r)) (fun r => va_rf r :: []) C E xi_7_LinkedList (fun r h' e => wk_J4_unlinkFirst e) q281 q283 qs1 q84 q284 xh_java_util_LinkedList xd_J4_unlinkFirst (by decide) (by decide) trivial (Nat.le_of_ble_eq_true rfl) rfl (fun _ => rfl) dJ4_removeFirst_19 (fun r2 h3 E => ?_)
    exact xr_aret C Z E (Or.inl ⟨_, rfl⟩) dJ4_removeFirst_22
  · cases E
def mf_J20_init (a0 : Nat) (a1 : Option Nat) (a2 : Option Nat) (a3 : Option Nat) (h0 : xk_H) : Option (Unit × xk_H) :=
  xm_pV [10] 0 (some a0) (va_rf a2) h0 fun h1 => xm_pV [10] 1 (some a0) (va_rf a3) h1 fun h2 => xm_pV [10] 2 (some a0) (va_rf a1) h2 fun h3 => some ((), h3)
set_option maxHeartbeats 1000000 in
theorem wk_J20_init {l : Launch} {D : va_G} {base : Nat} {a0 : Nat} {a1 : Option Nat} {a2 : Option Nat} {a3 : Option Nat} {h0 : xk_H} {r : Unit} {h' : xk_H} (E : mf_J20_init a0 a1 a2 a3 h0 = some (r, h')) : xk_Ok l D base yJ20_init cJ20_init 4 none 1 60 [va_rf (some a0), va_rf a1, va_rf a2, va_rf a3] h0 none h' := by
  refine xk_ofX RJ20 "<init>" xq_J20_init rfl rfl (Nat.le_of_ble_eq_true rfl) ⟨xk_crf _, ⟨xk_crf _, ⟨xk_crf _, ⟨xk_crf _, trivial⟩⟩⟩⟩ (fun Γ el eD eb C Z => ?_)
  rw [mf_J20_init] at E
  show xk_X Γ 0 [(0, va_rf (some a0)), (1, va_rf a1), (2, va_rf a2), (3, va_rf a3)] [] h0
  refine xr_aload_n 0 C rfl rfl dJ20_init_0 ?_
  refine xr_objInit C q882 q134 q135 (by decide) trivial (Nat.le_of_ble_eq_true rfl) dJ20_init_1 ?_
  refine xr_aload_n 0 C rfl rfl dJ20_init_4 ?_
  refine xr_aload_n 2 C rfl rfl dJ20_init_5 ?_
  refine xr_pR C E xf_J20_7 xp_J20_7_i (Or.inl ⟨_, rfl⟩) dJ20_init_6 (fun h1 E => ?_)
  refine xr_aload_n 0 C rfl rfl dJ20_init_9 ?_
  refine xr_aload_n 3 C rfl rfl dJ20_init_10 ?_
  refine xr_pR C E xf_J20_13 xp_J20_13_i (Or.inl ⟨_, rfl⟩) dJ20_init_11 (fun h2 E => ?_)
  refine xr_aload_n 0 C rfl rfl dJ20_init_14 ?_
  refine xr_aload_n 1 C rfl rfl dJ20_init_15 ?_
  refine xr_pR C E xf_J20_17 xp_J20_17_i (Or.inl ⟨_, rfl⟩) dJ20_init_16 (fun h3 E => ?_)
  exact xr_vret C Z E dJ20_init_19
def mf_J4_linkLast_J38 (a0 : Option Nat) (h0 : xk_H) : Option (Unit × xk_H) :=
  xm_gI [7] 1 a0 h0 fun x8 => xm_pV [7] 1 a0 (.int (x8 + (1 : Int32))) h0 fun h9 => xm_gI [7] 0 a0 h9 fun x10 => xm_pV [7] 0 a0 (.int (x10 + (1 : Int32))) h9 fun h11 => some ((), h11)
set_option maxHeartbeats 1000000 in
theorem wk_J4_linkLast_J38 {Γ : xk_C} {r : Unit} {h' : xk_H} {a0 : Option Nat} {h0 : xk_H} (C : xk_Cx Γ RJ4 cJ4_linkLast 4 none "linkLast" 2 83) (Z : xk_Z Γ none h') (E : mf_J4_linkLast_J38 a0 h0 = some (r, h')) : xk_X Γ 38 [(0, va_rf a0)] [] h0 := by
  rw [mf_J4_linkLast_J38] at E
  refine xr_aload_n 0 C rfl rfl dJ4_linkLast_38 ?_
  refine xr_dup C (xk_crf _) dJ4_linkLast_39 ?_
  refine xr_gI C E xf_J4_7 dJ4_linkLast_40 (fun x8 E => ?_)
  refine xr_iconst (1) C (by decide) dJ4_linkLast_43 ?_
  refine xr_iadd C dJ4_linkLast_44 ?_
  refine xr_pI C E xf_J4_7 xp_J4_7 dJ4_linkLast_45 (fun h9 E => ?_)
  refine xr_aload_n 0 C rfl rfl dJ4_linkLast_48 ?_
  refine xr_dup C (xk_crf _) dJ4_linkLast_49 ?_
  refine xr_gI C E xf_J4_33 dJ4_linkLast_50 (fun x10 E => ?_)
  refine xr_iconst (1) C (by decide) dJ4_linkLast_53 ?_
  refine xr_iadd C dJ4_linkLast_54 ?_
  refine xr_pI C E xf_J4_33 xp_J4_33 dJ4_linkLast_55 (fun h11 E => ?_)
  exact xr_vret C Z E dJ4_linkLast_58
def mf_J4_linkLast (a0 : Option Nat) (a1 : Option Nat) (h0 : xk_H) : Option (Unit × xk_H) :=
  xm_gR [7] 3 a0 h0 fun x1 => xm_new 10 [.null, .null, .null] h0 fun b2 h3 => xm_cl (mf_J20_init b2 x1 a1 none h3) fun r4 h5 => xm_pV [7] 3 a0 (va_rf (some b2)) h5 fun h6 => if x1 = none then (xm_pV [7] 2 a0 (va_rf (some b2)) h6 fun h12 => mf_J4_linkLast_J38 a0 h12) else (xm_pV [10] 1 x1 (va_rf (some b2)) h6 fun h7 => mf_J4_linkLast_J38 a0 h7)
set_option maxHeartbeats 1000000 in
theorem wk_J4_linkLast {l : Launch} {D : va_G} {base : Nat} {a0 : Option Nat} {a1 : Option Nat} {h0 : xk_H} {r : Unit} {h' : xk_H} (E : mf_J4_linkLast a0 a1 h0 = some (r, h')) : xk_Ok l D base yJ4_linkLast cJ4_linkLast 4 none 2 83 [va_rf a0, va_rf a1] h0 none h' := by
  refine xk_ofX RJ4 "linkLast" xq_J4_linkLast rfl rfl (Nat.le_of_ble_eq_true rfl) ⟨xk_crf _, ⟨xk_crf _, trivial⟩⟩ (fun Γ el eD eb C Z => ?_)
  rw [mf_J4_linkLast] at E
  show xk_X Γ 0 [(0, va_rf a0), (1, va_rf a1)] [] h0
  refine xr_aload_n 0 C rfl rfl dJ4_linkLast_0 ?_
  refine xr_gR C E xf_J4_27 dJ4_linkLast_1 (fun x1 E => ?_)
  refine xr_astore_n (L2 := [(2, va_rf x1), (0, va_rf a0), (1, va_rf a1)]) C rfl rfl dJ4_linkLast_4 (by decide) ?_
  refine xr_new (t := 10) (C0 := "java/util/LinkedList$Node") (n := 3) C E (by decide) xn_J20 (fun r hr => by cases hr; exact ⟨rfl, rfl⟩) q877 q878 q103 dJ4_linkLast_5 (fun b2 h3 E => ?_)
  refine xr_dup C (xk_crf _) dJ4_linkLast_8 ?_
  refine xr_aload_n 0 C rfl rfl dJ4_linkLast_9 ?_
  refine xr_aload_n 2 C rfl rfl dJ4_linkLast_10 ?_
  refine xr_null C dJ4_linkLast_11 ?_
  refine xr_I (b := b2) [va_rf x1, va_rf a1, va_rf none] [va_rf (some b2)] (fun _ => none) (fun _ => [va_rf (some b2)]) C E (fun r h' e => wk_J20_init e) q879 q880 q103 q881 xh_java_util_LinkedList_Node rfl xd_J20_init (by decide) (by decide) ⟨xk_crf _, trivial⟩ (Nat.le_of_ble_eq_true rfl) rfl (fun _ => rfl) dJ4_linkLast_12 (fun r4 h5 E => ?_)
  refine xr_astore_n (L2 := [(3, va_rf (some b2)), (2, va_rf x1), (0, va_rf a0), (1, va_rf a1)]) C rfl rfl dJ4_linkLast_15 (by decide) ?_
  refine xr_aload_n 2 C rfl rfl dJ4_linkLast_16 ?_
  refine xr_aload_n 0 C rfl rfl dJ4_linkLast_17 ?_
  refine xr_pR C E xf_J4_27 xp_J4_27 (Or.inl ⟨_, rfl⟩) dJ4_linkLast_18 (fun h6 E => ?_)
  refine xr_aload_n 1 C rfl rfl dJ4_linkLast_21 ?_
  refine xr_ifnonnull 33 C E dJ4_linkLast_22 (by decide) (fun E => ?_) (fun E => ?_)
  · refine xr_aload_n 1 C rfl rfl dJ4_linkLast_33 ?_
    refine xr_aload_n 0 C rfl rfl dJ4_linkLast_34 ?_
    refine xr_pR C E xf_J4_36 xp_J4_36 (Or.inl ⟨_, rfl⟩) dJ4_linkLast_35 (fun h7 E => ?_)
    refine xr_sub [2] rfl ?_
    exact wk_J4_linkLast_J38 C Z E
  · refine xr_aload_n 2 C rfl rfl dJ4_linkLast_25 ?_
    refine xr_aload_n 0 C rfl rfl dJ4_linkLast_26 ?_
    refine xr_pR C E xf_J4_18 xp_J4_18 (Or.inl ⟨_, rfl⟩) dJ4_linkLast_27 (fun h12 E => ?_)
    refine xr_goto 38 C dJ4_linkLast_30 (by decide) ?_
    refine xr_sub [2] rfl ?_
    exact wk_J4_linkLast_J38 C Z E
def mf_J4_addLast (a0 : Option Nat) (a1 : Option Nat) (h0 : xk_H) : Option (Unit × xk_H) :=
  xm_rc [7] a0 h0 <| xm_cl (mf_J4_linkLast a0 a1 h0) fun r1 h2 => some ((), h2)
set_option maxHeartbeats 1000000 in
theorem wk_J4_addLast {l : Launch} {D : va_G} {base : Nat} {a0 : Option Nat} {a1 : Option Nat} {h0 : xk_H} {r : Unit} {h' : xk_H} (E : mf_J4_addLast a0 a1 h0 = some (r, h')) : xk_Ok l D base yJ4_addLast cJ4_addLast 2 none 3 106 [va_rf a0, va_rf a1] h0 none h' := by
  refine xk_ofX RJ4 "addLast" xq_J4_addLast rfl rfl (Nat.le_of_ble_eq_true rfl) ⟨xk_crf _, ⟨xk_crf _, trivial⟩⟩ (fun Γ el eD eb C Z => ?_)
  rw [mf_J4_addLast] at E
  show xk_X Γ 0 [(0, va_rf a0), (1, va_rf a1)] [] h0
  refine xr_aload_n 0 C rfl rfl dJ4_addLast_0 ?_
  refine xr_aload_n 1 C rfl rfl dJ4_addLast_1 ?_
  refine xr_V (v := a0) [va_rf a1] [] (fun _ => none) (fun _ => []) C E xi_7_LinkedList (fun r h' e => wk_J4_linkLast e) q873 q874 q875 q84 q876 xh_java_util_LinkedList xd_J4_linkLast (by decide) (by decide) trivial (Nat.le_of_ble_eq_true rfl) rfl (fun _ => rfl) dJ4_addLast_2 (fun r1 h2 E => ?_)
  exact xr_vret C Z E dJ4_addLast_5
def mf_J4_unlinkLast_J42 (a0 : Option Nat) (a2 : Option Nat) (h0 : xk_H) : Option (Option Nat × xk_H) :=
  xm_gI [7] 1 a0 h0 fun x7 => xm_pV [7] 1 a0 (.int (x7 - (1 : Int32))) h0 fun h8 => xm_gI [7] 0 a0 h8 fun x9 => xm_pV [7] 0 a0 (.int (x9 + (1 : Int32))) h8 fun h10 => some (a2, h10)
set_option maxHeartbeats 1000000 in
theorem wk_J4_unlinkLast_J42 {Γ : xk_C} {r : Option Nat} {h' : xk_H} {a0 : Option Nat} {a2 : Option Nat} {h0 : xk_H} (C : xk_Cx Γ RJ4 cJ4_unlinkLast 4 (Option.some (FieldType.object "java/lang/Object")) "unlinkLast" 1 60) (Z : xk_Z Γ (some (va_rf r)) h') (E : mf_J4_unlinkLast_J42 a0 a2 h0 = some (r, h')) : xk_X Γ 42 [(0, va_rf a0), (2, va_rf a2)] [] h0 := by
  rw [mf_J4_unlinkLast_J42] at E
  refine xr_aload_n 0 C rfl rfl dJ4_unlinkLast_42 ?_
  refine xr_dup C (xk_crf _) dJ4_unlinkLast_43 ?_
  refine xr_gI C E xf_J4_7 dJ4_unlinkLast_44 (fun x7 E => ?_)
  refine xr_iconst (1) C (by decide) dJ4_unlinkLast_47 ?_
  refine xr_isub C dJ4_unlinkLast_48 ?_
  refine xr_pI C E xf_J4_7 xp_J4_7 dJ4_unlinkLast_49 (fun h8 E => ?_)
  refine xr_aload_n 0 C rfl rfl dJ4_unlinkLast_52 ?_
  refine xr_dup C (xk_crf _) dJ4_unlinkLast_53 ?_
  refine xr_gI C E xf_J4_33 dJ4_unlinkLast_54 (fun x9 E => ?_)
  refine xr_iconst (1) C (by decide) dJ4_unlinkLast_57 ?_
  refine xr_iadd C dJ4_unlinkLast_58 ?_
  refine xr_pI C E xf_J4_33 xp_J4_33 dJ4_unlinkLast_59 (fun h10 E => ?_)
  refine xr_aload_n 1 C rfl rfl dJ4_unlinkLast_62 ?_
  exact xr_aret C Z E (Or.inl ⟨_, rfl⟩) dJ4_unlinkLast_63
def mf_J4_unlinkLast (a0 : Option Nat) (a1 : Option Nat) (h0 : xk_H) : Option (Option Nat × xk_H) :=
  xm_gR [10] 0 a1 h0 fun x1 => xm_gR [10] 2 a1 h0 fun x2 => xm_pV [10] 0 a1 (va_rf none) h0 fun h3 => xm_pV [10] 2 a1 (va_rf none) h3 fun h4 => xm_pV [7] 3 a0 (va_rf x2) h4 fun h5 => if x2 = none then (xm_pV [7] 2 a0 (va_rf none) h5 fun h11 => mf_J4_unlinkLast_J42 a0 x1 h11) else (xm_pV [10] 1 x2 (va_rf none) h5 fun h6 => mf_J4_unlinkLast_J42 a0 x1 h6)
set_option maxHeartbeats 1000000 in
theorem wk_J4_unlinkLast {l : Launch} {D : va_G} {base : Nat} {a0 : Option Nat} {a1 : Option Nat} {h0 : xk_H} {r : Option Nat} {h' : xk_H} (E : mf_J4_unlinkLast a0 a1 h0 = some (r, h')) : xk_Ok l D base yJ4_unlinkLast cJ4_unlinkLast 4 (Option.some (FieldType.object "java/lang/Object")) 1 60 [va_rf a0, va_rf a1] h0 (some (va_rf r)) h' := by
  refine xk_ofX RJ4 "unlinkLast" xq_J4_unlinkLast rfl rfl (Nat.le_of_ble_eq_true rfl) ⟨xk_crf _, ⟨xk_crf _, trivial⟩⟩ (fun Γ el eD eb C Z => ?_)
  rw [mf_J4_unlinkLast] at E
  show xk_X Γ 0 [(0, va_rf a0), (1, va_rf a1)] [] h0
  refine xr_aload_n 1 C rfl rfl dJ4_unlinkLast_0 ?_
  refine xr_gR C E xf_J4_39 dJ4_unlinkLast_1 (fun x1 E => ?_)
  refine xr_astore_n (L2 := [(2, va_rf x1), (0, va_rf a0), (1, va_rf a1)]) C rfl rfl dJ4_unlinkLast_4 (by decide) ?_
  refine xr_aload_n 2 C rfl rfl dJ4_unlinkLast_5 ?_
  refine xr_gR C E xf_J4_30 dJ4_unlinkLast_6 (fun x2 E => ?_)
  refine xr_astore_n (L2 := [(3, va_rf x2), (2, va_rf x1), (0, va_rf a0), (1, va_rf a1)]) C rfl rfl dJ4_unlinkLast_9 (by decide) ?_
  refine xr_aload_n 3 C rfl rfl dJ4_unlinkLast_10 ?_
  refine xr_null C dJ4_unlinkLast_11 ?_
  refine xr_pR C E xf_J4_39 xp_J4_39 (Or.inl ⟨_, rfl⟩) dJ4_unlinkLast_12 (fun h3 E => ?_)
  refine xr_aload_n 3 C rfl rfl dJ4_unlinkLast_15 ?_
  refine xr_null C dJ4_unlinkLast_16 ?_
  refine xr_pR C E xf_J4_30 xp_J4_30 (Or.inl ⟨_, rfl⟩) dJ4_unlinkLast_17 (fun h4 E => ?_)
  refine xr_aload_n 2 C rfl rfl dJ4_unlinkLast_20 ?_
  refine xr_aload_n 0 C rfl rfl dJ4_unlinkLast_21 ?_
  refine xr_pR C E xf_J4_27 xp_J4_27 (Or.inl ⟨_, rfl⟩) dJ4_unlinkLast_22 (fun h5 E => ?_)
  refine xr_aload_n 0 C rfl rfl dJ4_unlinkLast_25 ?_
  refine xr_ifnonnull 37 C E dJ4_unlinkLast_26 (by decide) (fun E => ?_) (fun E => ?_)
  · refine xr_aload_n 0 C rfl rfl dJ4_unlinkLast_37 ?_
    refine xr_null C dJ4_unlinkLast_38 ?_
    refine xr_pR C E xf_J4_36 xp_J4_36 (Or.inl ⟨_, rfl⟩) dJ4_unlinkLast_39 (fun h6 E => ?_)
    refine xr_sub [2, 1] rfl ?_
    exact wk_J4_unlinkLast_J42 C Z E
  · refine xr_aload_n 2 C rfl rfl dJ4_unlinkLast_29 ?_
    refine xr_null C dJ4_unlinkLast_30 ?_
    refine xr_pR C E xf_J4_18 xp_J4_18 (Or.inl ⟨_, rfl⟩) dJ4_unlinkLast_31 (fun h11 E => ?_)
    refine xr_goto 42 C dJ4_unlinkLast_34 (by decide) ?_
    refine xr_sub [2, 1] rfl ?_
    exact wk_J4_unlinkLast_J42 C Z E
def mf_J4_removeLast (a0 : Option Nat) (h0 : xk_H) : Option (Option Nat × xk_H) :=
  xm_gR [7] 3 a0 h0 fun x1 => if x1 = none then (none) else (xm_rc [7] a0 h0 <| xm_cl (mf_J4_unlinkLast a0 x1 h0) fun r2 h3 => some (r2, h3))
set_option maxHeartbeats 1000000 in
theorem wk_J4_removeLast {l : Launch} {D : va_G} {base : Nat} {a0 : Option Nat} {h0 : xk_H} {r : Option Nat} {h' : xk_H} (E : mf_J4_removeLast a0 h0 = some (r, h')) : xk_Ok l D base yJ4_removeLast cJ4_removeLast 2 (Option.some (FieldType.object "java/lang/Object")) 2 83 [va_rf a0] h0 (some (va_rf r)) h' := by
  refine xk_ofX RJ4 "removeLast" xq_J4_removeLast rfl rfl (Nat.le_of_ble_eq_true rfl) ⟨xk_crf _, trivial⟩ (fun Γ el eD eb C Z => ?_)
  rw [mf_J4_removeLast] at E
  show xk_X Γ 0 [(0, va_rf a0)] [] h0
  refine xr_aload_n 0 C rfl rfl dJ4_removeLast_0 ?_
  refine xr_gR C E xf_J4_27 dJ4_removeLast_1 (fun x1 E => ?_)
  refine xr_astore_n (L2 := [(1, va_rf x1), (0, va_rf a0)]) C rfl rfl dJ4_removeLast_4 (by decide) ?_
  refine xr_aload_n 0 C rfl rfl dJ4_removeLast_5 ?_
  refine xr_ifnonnull 17 C E dJ4_removeLast_6 (by decide) (fun E => ?_) (fun E => ?_)
  · refine xr_aload_n 1 C rfl rfl dJ4_removeLast_17 ?_
    refine xr_aload_n 0 C rfl rfl dJ4_removeLast_18 ?_
    refine xr_V (v := a0) [va_rf x1] [] (fun r => some (va_rf r)) (fun r => va_rf r :: []) C E xi_7_LinkedList (fun r h' e => wk_J4_unlinkLast e) q2125 q2127 qs31 q84 q2128 xh_java_util_LinkedList xd_J4_unlinkLast (by decide) (by decide) trivial (Nat.le_of_ble_eq_true rfl) rfl (fun _ => rfl) dJ4_removeLast_19 (fun r2 h3 E => ?_)
    exact xr_aret C Z E (Or.inl ⟨_, rfl⟩) dJ4_removeLast_22
  · cases E
def mf_J22_valueOf (a0 : Int32) (h0 : xk_H) : Option (Option Nat × xk_H) :=
  if a0 < (-128 : Int32) then (xm_new 11 [.int 0] h0 fun b1 h2 => none) else (if (127 : Int32) < a0 then (xm_new 11 [.int 0] h0 fun b3 h4 => none) else (xm_lR [304] (h0.2.1 1) (a0 + (128 : Int32)) h0 fun x5 => some (x5, h0)))
set_option maxHeartbeats 1000000 in
theorem wk_J22_valueOf {l : Launch} {D : va_G} {base : Nat} {a0 : Int32} {h0 : xk_H} {r : Option Nat} {h' : xk_H} (E : mf_J22_valueOf a0 h0 = some (r, h')) : xk_Ok l D base yJ22_valueOf cJ22_valueOf 1 (Option.some (FieldType.object "java/lang/Integer")) 1 60 [.int a0] h0 (some (va_rf r)) h' := by
  refine xk_ofX RJ22 "valueOf" xq_J22_valueOf rfl rfl (Nat.le_of_ble_eq_true rfl) ⟨rfl, trivial⟩ (fun Γ el eD eb C Z => ?_)
  rw [mf_J22_valueOf] at E
  show xk_X Γ 0 [(0, .int a0)] [] h0
  refine xr_iload_n 0 C rfl rfl dJ22_valueOf_0 ?_
  refine xr_bipush (-128) C (by decide) dJ22_valueOf_1 ?_
  refine xr_icmp_lt 23 C E dJ22_valueOf_3 (by decide) (fun E => ?_) (fun E => ?_)
  · refine xr_new (t := 11) (C0 := "java/lang/Integer") (n := 1) C E (by decide) xn_J22 (fun r hr => by cases hr; exact ⟨rfl, rfl⟩) q937 q938 q105 dJ22_valueOf_23 (fun b1 h2 E => ?_)
    refine xr_dup C (xk_crf _) dJ22_valueOf_26 ?_
    refine xr_iload_n 0 C rfl rfl dJ22_valueOf_27 ?_
    cases E
  · refine xr_iload_n 0 C rfl rfl dJ22_valueOf_6 ?_
    refine xr_gsI (x := 127) C (List.mem_of_getElem? (i := 1) rfl) q933 (Or.inl rfl) dJ22_valueOf_7 ?_
    refine xr_icmp_gt 23 C E dJ22_valueOf_10 (by decide) (fun E => ?_) (fun E => ?_)
    · refine xr_new (t := 11) (C0 := "java/lang/Integer") (n := 1) C E (by decide) xn_J22 (fun r hr => by cases hr; exact ⟨rfl, rfl⟩) q937 q938 q105 dJ22_valueOf_23 (fun b3 h4 E => ?_)
      refine xr_dup C (xk_crf _) dJ22_valueOf_26 ?_
      refine xr_iload_n 0 C rfl rfl dJ22_valueOf_27 ?_
      cases E
    · refine xr_gsR (k := 1) C (List.mem_of_getElem? (i := 1) rfl) q935 (Or.inl rfl) dJ22_valueOf_13 ?_
      refine xr_iload_n 0 C rfl rfl dJ22_valueOf_16 ?_
      refine xr_sipush (128) C (by decide) dJ22_valueOf_17 ?_
      refine xr_iadd C dJ22_valueOf_20 ?_
      refine xr_lR 4 (.object "java/lang/Integer") C E (fun _ => rfl) rfl xt_304 dJ22_valueOf_21 (fun x5 E => ?_)
      exact xr_aret C Z E (Or.inl ⟨_, rfl⟩) dJ22_valueOf_22
def mf_J22_stringSize_L16 (a0 : Int32) (a1 : Int32) : Nat → Int32 → Int32 → xk_H → Option (Int32 × xk_H)
  | 0, _, _, _ => none
  | n + 1, a2, a3, h0 => if (10 : Int32) ≤ a3 then (some (((10 : Int32) + a1), h0)) else (if a0 ≤ a2 then (mf_J22_stringSize_L16 a0 a1 n ((10 : Int32) * a2) (a3 + 1) h0) else (some ((a3 + a1), h0)))
set_option maxHeartbeats 1000000 in
theorem wk_J22_stringSize_L16 {Γ : xk_C} {r : Int32} {h' : xk_H} {a0 : Int32} {a1 : Int32} (C : xk_Cx Γ RJ22 cJ22_stringSize 4 (Option.some FieldType.int) "stringSize" 1 60) (Z : xk_Z Γ (some (.int r)) h') : ∀ (n : Nat) (a2 : Int32) (a3 : Int32) (h0 : xk_H), mf_J22_stringSize_L16 a0 a1 n a2 a3 h0 = some (r, h') → xk_X Γ 16 [(0, .int a0), (1, .int a1), (2, .int a2), (3, .int a3)] [] h0 := by
  intro n
  induction n with
  | zero =>
    intro a2 a3 h0 E
    rw [mf_J22_stringSize_L16] at E
    cases E
  | succ n ih =>
    intro a2 a3 h0 E
    have hkb16 : ∀ (m2 : Int32) (m3 : Int32) (g : xk_H), mf_J22_stringSize_L16 a0 a1 n m2 m3 g = some (r, h') → xk_X Γ 16 [(0, .int a0), (1, .int a1), (2, .int m2), (3, .int m3)] [] g := ih
    rw [mf_J22_stringSize_L16] at E
    refine xr_iload_n 3 C rfl rfl dJ22_stringSize_16 ?_
    refine xr_bipush (10) C (by decide) dJ22_stringSize_17 ?_
    refine xr_icmp_ge 42 C E dJ22_stringSize_19 (by decide) (fun E => ?_) (fun E => ?_)
    · refine xr_bipush (10) C (by decide) dJ22_stringSize_42 ?_
      refine xr_iload_n 1 C rfl rfl dJ22_stringSize_44 ?_
      refine xr_iadd C dJ22_stringSize_45 ?_
      exact xr_iret C Z E dJ22_stringSize_46
    · refine xr_iload_n 0 C rfl rfl dJ22_stringSize_22 ?_
      refine xr_iload_n 2 C rfl rfl dJ22_stringSize_23 ?_
      refine xr_icmp_le 31 C E dJ22_stringSize_24 (by decide) (fun E => ?_) (fun E => ?_)
      · refine xr_bipush (10) C (by decide) dJ22_stringSize_31 ?_
        refine xr_iload_n 2 C rfl rfl dJ22_stringSize_33 ?_
        refine xr_imul C dJ22_stringSize_34 ?_
        refine xr_istore_n (L2 := [(2, .int ((10 : Int32) * a2)), (0, .int a0), (1, .int a1), (3, .int a3)]) C rfl rfl dJ22_stringSize_35 (by decide) ?_
        refine xr_iinc (v := (a3 + 1)) (L2 := [(3, .int (a3 + 1)), (2, .int ((10 : Int32) * a2)), (0, .int a0), (1, .int a1)]) 3 C rfl rfl rfl dJ22_stringSize_36 (by decide) ?_
        refine xr_goto 16 C dJ22_stringSize_39 (by decide) ?_
        refine xr_sub [2, 3, 1, 0] rfl ?_
        exact hkb16 ((10 : Int32) * a2) (a3 + 1) h0 E
      · refine xr_iload_n 3 C rfl rfl dJ22_stringSize_27 ?_
        refine xr_iload_n 1 C rfl rfl dJ22_stringSize_28 ?_
        refine xr_iadd C dJ22_stringSize_29 ?_
        exact xr_iret C Z E dJ22_stringSize_30
def mf_J22_stringSize (a0 : Int32) (h0 : xk_H) : Option (Int32 × xk_H) :=
  if a0 < 0 then (mf_J22_stringSize_L16 a0 (1 : Int32) xk_fu (-10 : Int32) (1 : Int32) h0) else (mf_J22_stringSize_L16 (-a0) (0 : Int32) xk_fu (-10 : Int32) (1 : Int32) h0)
set_option maxHeartbeats 1000000 in
theorem wk_J22_stringSize {l : Launch} {D : va_G} {base : Nat} {a0 : Int32} {h0 : xk_H} {r : Int32} {h' : xk_H} (E : mf_J22_stringSize a0 h0 = some (r, h')) : xk_Ok l D base yJ22_stringSize cJ22_stringSize 4 (Option.some FieldType.int) 1 60 [.int a0] h0 (some (.int r)) h' := by
  refine xk_ofX RJ22 "stringSize" xq_J22_stringSize rfl rfl (Nat.le_of_ble_eq_true rfl) ⟨rfl, trivial⟩ (fun Γ el eD eb C Z => ?_)
  rw [mf_J22_stringSize] at E
  show xk_X Γ 0 [(0, .int a0)] [] h0
  refine xr_iconst (1) C (by decide) dJ22_stringSize_0 ?_
  refine xr_istore_n (L2 := [(1, .int (1 : Int32)), (0, .int a0)]) C rfl rfl dJ22_stringSize_1 (by decide) ?_
  refine xr_iload_n 1 C rfl rfl dJ22_stringSize_2 ?_
  refine xr_if_lt 11 C E dJ22_stringSize_3 (by decide) (fun E => ?_) (fun E => ?_)
  · refine xr_bipush (-10) C (by decide) dJ22_stringSize_11 ?_
    refine xr_istore_n (L2 := [(2, .int (-10 : Int32)), (1, .int (1 : Int32)), (0, .int a0)]) C rfl rfl dJ22_stringSize_13 (by decide) ?_
    refine xr_iconst (1) C (by decide) dJ22_stringSize_14 ?_
    refine xr_istore_n (L2 := [(3, .int (1 : Int32)), (2, .int (-10 : Int32)), (1, .int (1 : Int32)), (0, .int a0)]) C rfl rfl dJ22_stringSize_15 (by decide) ?_
    refine xr_sub [3, 2, 1, 0] rfl ?_
    exact wk_J22_stringSize_L16 (a0 := a0) (a1 := (1 : Int32)) C Z xk_fu (-10 : Int32) (1 : Int32) h0 E
  · refine xr_iconst (0) C (by decide) dJ22_stringSize_6 ?_
    refine xr_istore_n (L2 := [(1, .int (0 : Int32)), (0, .int a0)]) C rfl rfl dJ22_stringSize_7 (by decide) ?_
    refine xr_iload_n 1 C rfl rfl dJ22_stringSize_8 ?_
    refine xr_ineg C dJ22_stringSize_9 ?_
    refine xr_istore_n (L2 := [(0, .int (-a0)), (1, .int (0 : Int32))]) C rfl rfl dJ22_stringSize_10 (by decide) ?_
    refine xr_bipush (-10) C (by decide) dJ22_stringSize_11 ?_
    refine xr_istore_n (L2 := [(2, .int (-10 : Int32)), (0, .int (-a0)), (1, .int (0 : Int32))]) C rfl rfl dJ22_stringSize_13 (by decide) ?_
    refine xr_iconst (1) C (by decide) dJ22_stringSize_14 ?_
    refine xr_istore_n (L2 := [(3, .int (1 : Int32)), (2, .int (-10 : Int32)), (0, .int (-a0)), (1, .int (0 : Int32))]) C rfl rfl dJ22_stringSize_15 (by decide) ?_
    refine xr_sub [2, 3, 1, 0] rfl ?_
    exact wk_J22_stringSize_L16 (a0 := (-a0)) (a1 := (0 : Int32)) C Z xk_fu (-10 : Int32) (1 : Int32) h0 E
def mf_J22_getChars_L22 (kx72 : Int32 → Int32 → xk_H → Option (Int32 × xk_H)) (a2 : Option Nat) (a6 : Int32) : Nat → Int32 → Int32 → xk_H → Option (Int32 × xk_H)
  | 0, _, _, _ => none
  | n + 1, a0, a5, h0 => if (-100 : Int32) < a0 then (kx72 a0 a5 h0) else (xm_lI [301] (h0.2.1 3) (((a0 / (100 : Int32)) * (100 : Int32)) - a0) h0 fun x1 => xm_sV [101] a2 (a5 + (-1 : Int32)) (.int x1.toInt8.toInt32) h0 fun h2 => xm_lI [301] (h2.2.1 2) (((a0 / (100 : Int32)) * (100 : Int32)) - a0) h2 fun x3 => xm_sV [101] a2 ((a5 + (-1 : Int32)) + (-1 : Int32)) (.int x3.toInt8.toInt32) h2 fun h4 => mf_J22_getChars_L22 kx72 a2 a6 n (a0 / (100 : Int32)) ((a5 + (-1 : Int32)) + (-1 : Int32)) h4)
set_option maxHeartbeats 1000000 in
theorem wk_J22_getChars_L22 {Γ : xk_C} {r : Int32} {h' : xk_H} {kx72 : Int32 → Int32 → xk_H → Option (Int32 × xk_H)} {a2 : Option Nat} {a6 : Int32} (C : xk_Cx Γ RJ22 cJ22_getChars 7 (Option.some FieldType.int) "getChars" 1 60) (Z : xk_Z Γ (some (.int r)) h') (hkx72 : ∀ (m0 : Int32) (m5 : Int32) (g : xk_H), kx72 m0 m5 g = some (r, h') → xk_X Γ 72 [(0, .int m0), (2, va_rf a2), (5, .int m5), (6, .int a6)] [] g) : ∀ (n : Nat) (a0 : Int32) (a5 : Int32) (h0 : xk_H), mf_J22_getChars_L22 kx72 a2 a6 n a0 a5 h0 = some (r, h') → xk_X Γ 22 [(0, .int a0), (2, va_rf a2), (5, .int a5), (6, .int a6)] [] h0 := by
  intro n
  induction n with
  | zero =>
    intro a0 a5 h0 E
    rw [mf_J22_getChars_L22] at E
    cases E
  | succ n ih =>
    intro a0 a5 h0 E
    have hkb22 : ∀ (m0 : Int32) (m5 : Int32) (g : xk_H), mf_J22_getChars_L22 kx72 a2 a6 n m0 m5 g = some (r, h') → xk_X Γ 22 [(0, .int m0), (2, va_rf a2), (5, .int m5), (6, .int a6)] [] g := ih
    rw [mf_J22_getChars_L22] at E
    refine xr_iload_n 0 C rfl rfl dJ22_getChars_22 ?_
    refine xr_bipush (-100) C (by decide) dJ22_getChars_23 ?_
    refine xr_icmp_gt 72 C E dJ22_getChars_25 (by decide) (fun E => ?_) (fun E => ?_)
    · exact hkx72 a0 a5 h0 E
    · refine xr_iload_n 0 C rfl rfl dJ22_getChars_28 ?_
      refine xr_bipush (100) C (by decide) dJ22_getChars_29 ?_
      refine xr_idiv C (by decide) dJ22_getChars_31 ?_
      refine xr_istore_n (L2 := [(3, .int (a0 / (100 : Int32))), (0, .int a0), (2, va_rf a2), (5, .int a5), (6, .int a6)]) C rfl rfl dJ22_getChars_32 (by decide) ?_
      refine xr_iload_n 0 C rfl rfl dJ22_getChars_33 ?_
      refine xr_bipush (100) C (by decide) dJ22_getChars_34 ?_
      refine xr_imul C dJ22_getChars_36 ?_
      refine xr_iload_n 1 C rfl rfl dJ22_getChars_37 ?_
      refine xr_isub C dJ22_getChars_38 ?_
      refine xr_istore (L2 := [(4, .int (((a0 / (100 : Int32)) * (100 : Int32)) - a0)), (3, .int (a0 / (100 : Int32))), (0, .int a0), (2, va_rf a2), (5, .int a5), (6, .int a6)]) C rfl dJ22_getChars_39 (by decide) ?_
      refine xr_iload_n 1 C rfl rfl dJ22_getChars_41 ?_
      refine xr_istore_n (L2 := [(0, .int (a0 / (100 : Int32))), (4, .int (((a0 / (100 : Int32)) * (100 : Int32)) - a0)), (3, .int (a0 / (100 : Int32))), (2, va_rf a2), (5, .int a5), (6, .int a6)]) C rfl rfl dJ22_getChars_42 (by decide) ?_
      refine xr_aload_n 3 C rfl rfl dJ22_getChars_43 ?_
      refine xr_iinc (v := (a5 + (-1 : Int32))) (L2 := [(5, .int (a5 + (-1 : Int32))), (0, .int (a0 / (100 : Int32))), (4, .int (((a0 / (100 : Int32)) * (100 : Int32)) - a0)), (3, .int (a0 / (100 : Int32))), (2, va_rf a2), (6, .int a6)]) 4 C rfl (congrArg (HAdd.hAdd a5) (show Int32.ofInt (-1) = (-1 : Int32) by decide)) rfl dJ22_getChars_44 (by decide) ?_
      refine xr_iload 0 C rfl dJ22_getChars_47 ?_
      refine xr_gsR (k := 3) C (List.mem_of_getElem? (i := 3) rfl) q1219 (Or.inl rfl) dJ22_getChars_49 ?_
      refine xr_iload 2 C rfl dJ22_getChars_52 ?_
      refine xr_lB C E xt_301 dJ22_getChars_54 (fun x1 E => ?_)
      refine xr_sB C E dJ22_getChars_55 (fun h2 E => ?_)
      refine xr_aload_n 4 C rfl rfl dJ22_getChars_56 ?_
      refine xr_iinc (v := ((a5 + (-1 : Int32)) + (-1 : Int32))) (L2 := [(5, .int ((a5 + (-1 : Int32)) + (-1 : Int32))), (0, .int (a0 / (100 : Int32))), (4, .int (((a0 / (100 : Int32)) * (100 : Int32)) - a0)), (3, .int (a0 / (100 : Int32))), (2, va_rf a2), (6, .int a6)]) 0 C rfl (congrArg (HAdd.hAdd (a5 + (-1 : Int32))) (show Int32.ofInt (-1) = (-1 : Int32) by decide)) rfl dJ22_getChars_57 (by decide) ?_
      refine xr_iload 0 C rfl dJ22_getChars_60 ?_
      refine xr_gsR (k := 2) C (List.mem_of_getElem? (i := 2) rfl) q1221 (Or.inl rfl) dJ22_getChars_62 ?_
      refine xr_iload 2 C rfl dJ22_getChars_65 ?_
      refine xr_lB C E xt_301 dJ22_getChars_67 (fun x3 E => ?_)
      refine xr_sB C E dJ22_getChars_68 (fun h4 E => ?_)
      refine xr_goto 22 C dJ22_getChars_69 (by decide) ?_
      refine xr_sub [1, 4, 0, 5] rfl ?_
      exact hkb22 (a0 / (100 : Int32)) ((a5 + (-1 : Int32)) + (-1 : Int32)) h4 E
def mf_J22_getChars_J104 (a2 : Option Nat) (a5 : Int32) (a6 : Int32) (h0 : xk_H) : Option (Int32 × xk_H) :=
  if a6 = 0 then (some (a5, h0)) else (xm_sV [101] a2 (a5 + (-1 : Int32)) (.int (45 : Int32).toInt8.toInt32) h0 fun h10 => some ((a5 + (-1 : Int32)), h10))
set_option maxHeartbeats 1000000 in
theorem wk_J22_getChars_J104 {Γ : xk_C} {r : Int32} {h' : xk_H} {a2 : Option Nat} {a5 : Int32} {a6 : Int32} {h0 : xk_H} (C : xk_Cx Γ RJ22 cJ22_getChars 7 (Option.some FieldType.int) "getChars" 1 60) (Z : xk_Z Γ (some (.int r)) h') (E : mf_J22_getChars_J104 a2 a5 a6 h0 = some (r, h')) : xk_X Γ 104 [(2, va_rf a2), (5, .int a5), (6, .int a6)] [] h0 := by
  rw [mf_J22_getChars_J104] at E
  refine xr_iload 2 C rfl dJ22_getChars_104 ?_
  refine xr_if_eq 118 C E dJ22_getChars_106 (by decide) (fun E => ?_) (fun E => ?_)
  · refine xr_iload 1 C rfl dJ22_getChars_118 ?_
    exact xr_iret C Z E dJ22_getChars_120
  · refine xr_aload_n 0 C rfl rfl dJ22_getChars_109 ?_
    refine xr_iinc (v := (a5 + (-1 : Int32))) (L2 := [(5, .int (a5 + (-1 : Int32))), (2, va_rf a2), (6, .int a6)]) 1 C rfl (congrArg (HAdd.hAdd a5) (show Int32.ofInt (-1) = (-1 : Int32) by decide)) rfl dJ22_getChars_110 (by decide) ?_
    refine xr_iload 0 C rfl dJ22_getChars_113 ?_
    refine xr_bipush (45) C (by decide) dJ22_getChars_115 ?_
    refine xr_sB C E dJ22_getChars_117 (fun h10 E => ?_)
    refine xr_iload 0 C rfl dJ22_getChars_118 ?_
    exact xr_iret C Z E dJ22_getChars_120
def mf_J22_getChars_J12 (a0 : Int32) (a2 : Option Nat) (a5 : Int32) (s0 : Int32) (h0 : xk_H) : Option (Int32 × xk_H) :=
  if s0 = 0 then (mf_J22_getChars_L22 (fun m13 m14 h15 => xm_lI [301] (h15.2.1 3) (-m13) h15 fun x16 => xm_sV [101] a2 (m14 + (-1 : Int32)) (.int x16.toInt8.toInt32) h15 fun h17 => if (-9 : Int32) ≤ m13 then (mf_J22_getChars_J104 a2 (m14 + (-1 : Int32)) s0 h17) else (xm_lI [301] (h17.2.1 2) (-m13) h17 fun x18 => xm_sV [101] a2 ((m14 + (-1 : Int32)) + (-1 : Int32)) (.int x18.toInt8.toInt32) h17 fun h19 => mf_J22_getChars_J104 a2 ((m14 + (-1 : Int32)) + (-1 : Int32)) s0 h19)) a2 s0 xk_fu (-a0) a5 h0) else (mf_J22_getChars_L22 (fun m5 m6 h7 => xm_lI [301] (h7.2.1 3) (-m5) h7 fun x8 => xm_sV [101] a2 (m6 + (-1 : Int32)) (.int x8.toInt8.toInt32) h7 fun h9 => if (-9 : Int32) ≤ m5 then (mf_J22_getChars_J104 a2 (m6 + (-1 : Int32)) s0 h9) else (xm_lI [301] (h9.2.1 2) (-m5) h9 fun x11 => xm_sV [101] a2 ((m6 + (-1 : Int32)) + (-1 : Int32)) (.int x11.toInt8.toInt32) h9 fun h12 => mf_J22_getChars_J104 a2 ((m6 + (-1 : Int32)) + (-1 : Int32)) s0 h12)) a2 s0 xk_fu a0 a5 h0)
set_option maxHeartbeats 1000000 in
theorem wk_J22_getChars_J12 {Γ : xk_C} {r : Int32} {h' : xk_H} {a0 : Int32} {a2 : Option Nat} {a5 : Int32} {s0 : Int32} {h0 : xk_H} (C : xk_Cx Γ RJ22 cJ22_getChars 7 (Option.some FieldType.int) "getChars" 1 60) (Z : xk_Z Γ (some (.int r)) h') (E : mf_J22_getChars_J12 a0 a2 a5 s0 h0 = some (r, h')) : xk_X Γ 12 [(0, .int a0), (2, va_rf a2), (5, .int a5)] [.int s0] h0 := by
  rw [mf_J22_getChars_J12] at E
  refine xr_istore (L2 := [(6, .int s0), (0, .int a0), (2, va_rf a2), (5, .int a5)]) C rfl dJ22_getChars_12 (by decide) ?_
  refine xr_iload 0 C rfl dJ22_getChars_14 ?_
  refine xr_if_ne 22 C E dJ22_getChars_16 (by decide) (fun E => ?_) (fun E => ?_)
  · refine xr_sub [1, 2, 3, 0] rfl ?_
    refine wk_J22_getChars_L22 (a2 := a2) (a6 := s0) C Z (fun m5 m6 h7 E => ?_) xk_fu a0 a5 h0 E
    · refine xr_aload_n 1 C rfl rfl dJ22_getChars_72 ?_
      refine xr_iinc (v := (m6 + (-1 : Int32))) (L2 := [(5, .int (m6 + (-1 : Int32))), (0, .int m5), (2, va_rf a2), (6, .int s0)]) 2 C rfl (congrArg (HAdd.hAdd m6) (show Int32.ofInt (-1) = (-1 : Int32) by decide)) rfl dJ22_getChars_73 (by decide) ?_
      refine xr_iload 0 C rfl dJ22_getChars_76 ?_
      refine xr_gsR (k := 3) C (List.mem_of_getElem? (i := 3) rfl) q1219 (Or.inl rfl) dJ22_getChars_78 ?_
      refine xr_iload_n 1 C rfl rfl dJ22_getChars_81 ?_
      refine xr_ineg C dJ22_getChars_82 ?_
      refine xr_lB C E xt_301 dJ22_getChars_83 (fun x8 E => ?_)
      refine xr_sB C E dJ22_getChars_84 (fun h9 E => ?_)
      refine xr_iload_n 1 C rfl rfl dJ22_getChars_85 ?_
      refine xr_bipush (-9) C (by decide) dJ22_getChars_86 ?_
      refine xr_icmp_ge 104 C E dJ22_getChars_88 (by decide) (fun E => ?_) (fun E => ?_)
      · refine xr_sub [2, 0, 3] rfl ?_
        exact wk_J22_getChars_J104 C Z E
      · refine xr_aload_n 2 C rfl rfl dJ22_getChars_91 ?_
        refine xr_iinc (v := ((m6 + (-1 : Int32)) + (-1 : Int32))) (L2 := [(5, .int ((m6 + (-1 : Int32)) + (-1 : Int32))), (0, .int m5), (2, va_rf a2), (6, .int s0)]) 0 C rfl (congrArg (HAdd.hAdd (m6 + (-1 : Int32))) (show Int32.ofInt (-1) = (-1 : Int32) by decide)) rfl dJ22_getChars_92 (by decide) ?_
        refine xr_iload 0 C rfl dJ22_getChars_95 ?_
        refine xr_gsR (k := 2) C (List.mem_of_getElem? (i := 2) rfl) q1221 (Or.inl rfl) dJ22_getChars_97 ?_
        refine xr_iload_n 1 C rfl rfl dJ22_getChars_100 ?_
        refine xr_ineg C dJ22_getChars_101 ?_
        refine xr_lB C E xt_301 dJ22_getChars_102 (fun x11 E => ?_)
        refine xr_sB C E dJ22_getChars_103 (fun h12 E => ?_)
        refine xr_sub [2, 0, 3] rfl ?_
        exact wk_J22_getChars_J104 C Z E
  · refine xr_iload_n 1 C rfl rfl dJ22_getChars_19 ?_
    refine xr_ineg C dJ22_getChars_20 ?_
    refine xr_istore_n (L2 := [(0, .int (-a0)), (6, .int s0), (2, va_rf a2), (5, .int a5)]) C rfl rfl dJ22_getChars_21 (by decide) ?_
    refine xr_sub [0, 2, 3, 1] rfl ?_
    refine wk_J22_getChars_L22 (a2 := a2) (a6 := s0) C Z (fun m13 m14 h15 E => ?_) xk_fu (-a0) a5 h0 E
    · refine xr_aload_n 1 C rfl rfl dJ22_getChars_72 ?_
      refine xr_iinc (v := (m14 + (-1 : Int32))) (L2 := [(5, .int (m14 + (-1 : Int32))), (0, .int m13), (2, va_rf a2), (6, .int s0)]) 2 C rfl (congrArg (HAdd.hAdd m14) (show Int32.ofInt (-1) = (-1 : Int32) by decide)) rfl dJ22_getChars_73 (by decide) ?_
      refine xr_iload 0 C rfl dJ22_getChars_76 ?_
      refine xr_gsR (k := 3) C (List.mem_of_getElem? (i := 3) rfl) q1219 (Or.inl rfl) dJ22_getChars_78 ?_
      refine xr_iload_n 1 C rfl rfl dJ22_getChars_81 ?_
      refine xr_ineg C dJ22_getChars_82 ?_
      refine xr_lB C E xt_301 dJ22_getChars_83 (fun x16 E => ?_)
      refine xr_sB C E dJ22_getChars_84 (fun h17 E => ?_)
      refine xr_iload_n 1 C rfl rfl dJ22_getChars_85 ?_
      refine xr_bipush (-9) C (by decide) dJ22_getChars_86 ?_
      refine xr_icmp_ge 104 C E dJ22_getChars_88 (by decide) (fun E => ?_) (fun E => ?_)
      · refine xr_sub [2, 0, 3] rfl ?_
        exact wk_J22_getChars_J104 C Z E
      · refine xr_aload_n 2 C rfl rfl dJ22_getChars_91 ?_
        refine xr_iinc (v := ((m14 + (-1 : Int32)) + (-1 : Int32))) (L2 := [(5, .int ((m14 + (-1 : Int32)) + (-1 : Int32))), (0, .int m13), (2, va_rf a2), (6, .int s0)]) 0 C rfl (congrArg (HAdd.hAdd (m14 + (-1 : Int32))) (show Int32.ofInt (-1) = (-1 : Int32) by decide)) rfl dJ22_getChars_92 (by decide) ?_
        refine xr_iload 0 C rfl dJ22_getChars_95 ?_
        refine xr_gsR (k := 2) C (List.mem_of_getElem? (i := 2) rfl) q1221 (Or.inl rfl) dJ22_getChars_97 ?_
        refine xr_iload_n 1 C rfl rfl dJ22_getChars_100 ?_
        refine xr_ineg C dJ22_getChars_101 ?_
        refine xr_lB C E xt_301 dJ22_getChars_102 (fun x18 E => ?_)
        refine xr_sB C E dJ22_getChars_103 (fun h19 E => ?_)
        refine xr_sub [2, 0, 3] rfl ?_
        exact wk_J22_getChars_J104 C Z E
def mf_J22_getChars (a0 : Int32) (a1 : Int32) (a2 : Option Nat) (h0 : xk_H) : Option (Int32 × xk_H) :=
  if 0 ≤ a0 then (mf_J22_getChars_J12 a0 a2 a1 (0 : Int32) h0) else (mf_J22_getChars_J12 a0 a2 a1 (1 : Int32) h0)
set_option maxHeartbeats 1000000 in
theorem wk_J22_getChars {l : Launch} {D : va_G} {base : Nat} {a0 : Int32} {a1 : Int32} {a2 : Option Nat} {h0 : xk_H} {r : Int32} {h' : xk_H} (E : mf_J22_getChars a0 a1 a2 h0 = some (r, h')) : xk_Ok l D base yJ22_getChars cJ22_getChars 7 (Option.some FieldType.int) 1 60 [.int a0, .int a1, va_rf a2] h0 (some (.int r)) h' := by
  refine xk_ofX RJ22 "getChars" xq_J22_getChars rfl rfl (Nat.le_of_ble_eq_true rfl) ⟨rfl, ⟨rfl, ⟨xk_crf _, trivial⟩⟩⟩ (fun Γ el eD eb C Z => ?_)
  rw [mf_J22_getChars] at E
  show xk_X Γ 0 [(0, .int a0), (1, .int a1), (2, va_rf a2)] [] h0
  refine xr_iload_n 1 C rfl rfl dJ22_getChars_0 ?_
  refine xr_istore (L2 := [(5, .int a1), (0, .int a0), (1, .int a1), (2, va_rf a2)]) C rfl dJ22_getChars_1 (by decide) ?_
  refine xr_iload_n 1 C rfl rfl dJ22_getChars_3 ?_
  refine xr_if_ge 11 C E dJ22_getChars_4 (by decide) (fun E => ?_) (fun E => ?_)
  · refine xr_iconst (0) C (by decide) dJ22_getChars_11 ?_
    refine xr_sub [1, 3, 0] rfl ?_
    exact wk_J22_getChars_J12 C Z E
  · refine xr_iconst (1) C (by decide) dJ22_getChars_7 ?_
    refine xr_goto 12 C dJ22_getChars_8 (by decide) ?_
    refine xr_sub [1, 3, 0] rfl ?_
    exact wk_J22_getChars_J12 C Z E
def mf_J5_init (a0 : Nat) (a1 : Int32) (h0 : xk_H) : Option (Unit × xk_H) :=
  if (1 : Int32) = 0 then (none) else (xm_nwa 101 (.int 0) a1 h0 fun b1 h2 => xm_pV [8] 0 (some a0) (va_rf (some b1)) h2 fun h3 => xm_pN .byte [8] 1 (some a0) (0 : Int32) h3 fun h4 => some ((), h4))
set_option maxHeartbeats 1000000 in
theorem wk_J5_init {l : Launch} {D : va_G} {base : Nat} {a0 : Nat} {a1 : Int32} {h0 : xk_H} {r : Unit} {h' : xk_H} (E : mf_J5_init a0 a1 h0 = some (r, h')) : xk_Ok l D base yJ5_init cJ5_init 2 none 1 60 [va_rf (some a0), .int a1] h0 none h' := by
  refine xk_ofX RJ5 "<init>" xq_J5_init rfl rfl (Nat.le_of_ble_eq_true rfl) ⟨xk_crf _, ⟨rfl, trivial⟩⟩ (fun Γ el eD eb C Z => ?_)
  rw [mf_J5_init] at E
  show xk_X Γ 0 [(0, va_rf (some a0)), (1, .int a1)] [] h0
  refine xr_aload_n 0 C rfl rfl dJ5_init_0 ?_
  refine xr_objInit C q213 q134 q135 (by decide) trivial (Nat.le_of_ble_eq_true rfl) dJ5_init_1 ?_
  refine xr_gsI (x := 1) C (List.mem_of_getElem? (i := 0) rfl) q214 (Or.inl rfl) dJ5_init_4 ?_
  refine xr_if_eq 25 C E dJ5_init_7 (by decide) (fun E => ?_) (fun E => ?_)
  · refine xr_aload_n 0 C rfl rfl dJ5_init_25 ?_
    refine xr_iload_n 1 C rfl rfl dJ5_init_26 ?_
    cases E
  · refine xr_aload_n 0 C rfl rfl dJ5_init_10 ?_
    refine xr_iload_n 1 C rfl rfl dJ5_init_11 ?_
    refine xr_nwB C E q237 dJ5_init_12 (fun b1 h2 E => ?_)
    refine xr_pR C E xf_J5_15 xp_J5_15_i (Or.inr ⟨_, rfl⟩) dJ5_init_14 (fun h3 E => ?_)
    refine xr_aload_n 0 C rfl rfl dJ5_init_17 ?_
    refine xr_iconst (0) C (by decide) dJ5_init_18 ?_
    refine xr_pN C E xf_J5_22 xp_J5_22_i dJ5_init_19 (fun h4 E => ?_)
    refine xr_goto 38 C dJ5_init_22 (by decide) ?_
    exact xr_vret C Z E dJ5_init_38
def mf_J6_init (a0 : Nat) (h0 : xk_H) : Option (Unit × xk_H) :=
  xm_cl (mf_J5_init a0 (16 : Int32) h0) fun r1 h2 => some ((), h2)
set_option maxHeartbeats 1000000 in
theorem wk_J6_init {l : Launch} {D : va_G} {base : Nat} {a0 : Nat} {h0 : xk_H} {r : Unit} {h' : xk_H} (E : mf_J6_init a0 h0 = some (r, h')) : xk_Ok l D base yJ6_init cJ6_init 1 none 2 81 [va_rf (some a0)] h0 none h' := by
  refine xk_ofX RJ6 "<init>" xq_J6_init rfl rfl (Nat.le_of_ble_eq_true rfl) ⟨xk_crf _, trivial⟩ (fun Γ el eD eb C Z => ?_)
  rw [mf_J6_init] at E
  show xk_X Γ 0 [(0, va_rf (some a0))] [] h0
  refine xr_aload_n 0 C rfl rfl dJ6_init_0 ?_
  refine xr_bipush (16) C (by decide) dJ6_init_1 ?_
  refine xr_I (b := a0) [.int (16 : Int32)] [] (fun _ => none) (fun _ => []) C E (fun r h' e => wk_J5_init e) q210 q211 q85 q212 xh_java_lang_AbstractStringBuilder rfl xd_J5_init (by decide) (by decide) trivial (Nat.le_of_ble_eq_true rfl) rfl (fun _ => rfl) dJ6_init_3 (fun r1 h2 E => ?_)
  exact xr_vret C Z E dJ6_init_6
def mf_J5_length (a0 : Option Nat) (h0 : xk_H) : Option (Int32 × xk_H) :=
  xm_gI [8] 3 a0 h0 fun x1 => some (x1, h0)
set_option maxHeartbeats 1000000 in
theorem wk_J5_length {l : Launch} {D : va_G} {base : Nat} {a0 : Option Nat} {h0 : xk_H} {r : Int32} {h' : xk_H} (E : mf_J5_length a0 h0 = some (r, h')) : xk_Ok l D base yJ5_length cJ5_length 1 (Option.some FieldType.int) 1 60 [va_rf a0] h0 (some (.int r)) h' := by
  refine xk_ofX RJ5 "length" xq_J5_length rfl rfl (Nat.le_of_ble_eq_true rfl) ⟨xk_crf _, trivial⟩ (fun Γ el eD eb C Z => ?_)
  rw [mf_J5_length] at E
  show xk_X Γ 0 [(0, va_rf a0)] [] h0
  refine xr_aload_n 0 C rfl rfl dJ5_length_0 ?_
  refine xr_gI C E xf_J5_79 dJ5_length_1 (fun x1 E => ?_)
  exact xr_iret C Z E dJ5_length_4
def mf_J6_length (a0 : Option Nat) (h0 : xk_H) : Option (Int32 × xk_H) :=
  xm_rc [8] a0 h0 <| xm_cl (mf_J5_length a0 h0) fun r1 h2 => some (r1, h2)
set_option maxHeartbeats 1000000 in
theorem wk_J6_length {l : Launch} {D : va_G} {base : Nat} {a0 : Option Nat} {h0 : xk_H} {r : Int32} {h' : xk_H} (E : mf_J6_length a0 h0 = some (r, h')) : xk_Ok l D base yJ6_length cJ6_length 1 (Option.some FieldType.int) 2 80 [va_rf a0] h0 (some (.int r)) h' := by
  refine xk_ofX RJ6 "length" xq_J6_length rfl rfl (Nat.le_of_ble_eq_true rfl) ⟨xk_crf _, trivial⟩ (fun Γ el eD eb C Z => ?_)
  rw [mf_J6_length] at E
  show xk_X Γ 0 [(0, va_rf a0)] [] h0
  refine xr_aload_n 0 C rfl rfl dJ6_length_0 ?_
  refine xr_SU (v := a0) [] [] (fun r => some (.int r)) (fun r => .int r :: []) C E xi_8_StringBuilder (fun r h' e => wk_J5_length e) q645 q641 q236 q640 q85 q646 (by decide +kernel) xd_J5_length (by decide) (by decide) trivial (Nat.le_of_ble_eq_true rfl) rfl (fun _ => rfl) dJ6_length_1 (fun r1 h2 E => ?_)
  exact xr_iret C Z E dJ6_length_4
def mf_J19_canEncode (a0 : Int32) (h0 : xk_H) : Option (Bool × xk_H) :=
  if (255 : Int32) < a0 then (some (false, h0)) else (some (true, h0))
set_option maxHeartbeats 1000000 in
theorem wk_J19_canEncode {l : Launch} {D : va_G} {base : Nat} {a0 : Int32} {h0 : xk_H} {r : Bool} {h' : xk_H} (E : mf_J19_canEncode a0 h0 = some (r, h')) : xk_Ok l D base yJ19_canEncode cJ19_canEncode 1 (Option.some FieldType.boolean) 1 60 [.int a0] h0 (some (.int (xk_b2 r))) h' := by
  refine xk_ofX RJ19 "canEncode" xq_J19_canEncode rfl rfl (Nat.le_of_ble_eq_true rfl) ⟨rfl, trivial⟩ (fun Γ el eD eb C Z => ?_)
  rw [mf_J19_canEncode] at E
  show xk_X Γ 0 [(0, .int a0)] [] h0
  refine xr_iload_n 0 C rfl rfl dJ19_canEncode_0 ?_
  refine xr_sipush (255) C (by decide) dJ19_canEncode_1 ?_
  refine xr_icmp_gt 11 C E dJ19_canEncode_4 (by decide) (fun E => ?_) (fun E => ?_)
  · refine xr_iconst (0) C (by decide) dJ19_canEncode_11 ?_
    exact xr_bret (b := false) C Z E dJ19_canEncode_12
  · refine xr_iconst (1) C (by decide) dJ19_canEncode_7 ?_
    refine xr_goto 12 C dJ19_canEncode_8 (by decide) ?_
    exact xr_bret (b := true) C Z E dJ19_canEncode_12
def mf_J5_newCapacity (a0 : Option Nat) (a1 : Int32) (h0 : xk_H) : Option (Int32 × xk_H) :=
  xm_gR [8] 0 a0 h0 fun x1 => xm_len [101] x1 h0 fun x2 => xm_gI [8] 1 a0 h0 fun x3 => xm_gI [8] 1 a0 h0 fun x4 => xm_cl (mf_J16_newLength x2 ((a1 <<< (x3 &&& 31)) - x2) (x2 + ((2 : Int32) <<< (x4 &&& 31))) h0) fun r5 h6 => if r5 = (2147483647 : Int32) then (none) else (xm_gI [8] 1 a0 h6 fun x7 => some ((r5 >>> (x7 &&& 31)), h6))
set_option maxHeartbeats 1000000 in
theorem wk_J5_newCapacity {l : Launch} {D : va_G} {base : Nat} {a0 : Option Nat} {a1 : Int32} {h0 : xk_H} {r : Int32} {h' : xk_H} (E : mf_J5_newCapacity a0 a1 h0 = some (r, h')) : xk_Ok l D base yJ5_newCapacity cJ5_newCapacity 6 (Option.some FieldType.int) 3 104 [va_rf a0, .int a1] h0 (some (.int r)) h' := by
  refine xk_ofX RJ5 "newCapacity" xq_J5_newCapacity rfl rfl (Nat.le_of_ble_eq_true rfl) ⟨xk_crf _, ⟨rfl, trivial⟩⟩ (fun Γ el eD eb C Z => ?_)
  rw [mf_J5_newCapacity] at E
  show xk_X Γ 0 [(0, va_rf a0), (1, .int a1)] [] h0
  refine xr_aload_n 0 C rfl rfl dJ5_newCapacity_0 ?_
  refine xr_gR C E xf_J5_15 dJ5_newCapacity_1 (fun x1 E => ?_)
  refine xr_len 1 .byte C E (fun _ => rfl) xt_101 dJ5_newCapacity_4 (fun x2 E => ?_)
  refine xr_istore_n (L2 := [(2, .int x2), (0, va_rf a0), (1, .int a1)]) C rfl rfl dJ5_newCapacity_5 (by decide) ?_
  refine xr_iload_n 2 C rfl rfl dJ5_newCapacity_6 ?_
  refine xr_aload_n 1 C rfl rfl dJ5_newCapacity_7 ?_
  refine xr_gI C E xf_J5_22 dJ5_newCapacity_8 (fun x3 E => ?_)
  refine xr_ishl C dJ5_newCapacity_11 ?_
  refine xr_istore_n (L2 := [(3, .int (a1 <<< (x3 &&& 31))), (2, .int x2), (0, va_rf a0), (1, .int a1)]) C rfl rfl dJ5_newCapacity_12 (by decide) ?_
  refine xr_iload_n 0 C rfl rfl dJ5_newCapacity_13 ?_
  refine xr_iload_n 1 C rfl rfl dJ5_newCapacity_14 ?_
  refine xr_isub C dJ5_newCapacity_15 ?_
  refine xr_istore (L2 := [(4, .int ((a1 <<< (x3 &&& 31)) - x2)), (3, .int (a1 <<< (x3 &&& 31))), (2, .int x2), (0, va_rf a0), (1, .int a1)]) C rfl dJ5_newCapacity_16 (by decide) ?_
  refine xr_iload_n 2 C rfl rfl dJ5_newCapacity_18 ?_
  refine xr_iload 0 C rfl dJ5_newCapacity_19 ?_
  refine xr_iload_n 2 C rfl rfl dJ5_newCapacity_21 ?_
  refine xr_iconst (2) C (by decide) dJ5_newCapacity_22 ?_
  refine xr_aload_n 3 C rfl rfl dJ5_newCapacity_23 ?_
  refine xr_gI C E xf_J5_22 dJ5_newCapacity_24 (fun x4 E => ?_)
  refine xr_ishl C dJ5_newCapacity_27 ?_
  refine xr_iadd C dJ5_newCapacity_28 ?_
  refine xr_S [.int x2, .int ((a1 <<< (x3 &&& 31)) - x2), .int (x2 + ((2 : Int32) <<< (x4 &&& 31)))] [] (fun r => some (.int r)) (fun r => .int r :: []) C E (fun r h' e => wk_J16_newLength e) q519 q520 q97 q521 xh_jdk_internal_util_ArraysSupport xd_J16_newLength (by decide) (by decide) trivial (Nat.le_of_ble_eq_true rfl) rfl (fun _ => rfl) dJ5_newCapacity_29 (fun r5 h6 E => ?_)
  refine xr_istore (L2 := [(5, .int r5), (4, .int ((a1 <<< (x3 &&& 31)) - x2)), (3, .int (a1 <<< (x3 &&& 31))), (2, .int x2), (0, va_rf a0), (1, .int a1)]) C rfl dJ5_newCapacity_32 (by decide) ?_
  refine xr_iload 0 C rfl dJ5_newCapacity_34 ?_
  refine xr_ldc C q529 dJ5_newCapacity_36 ?_
  refine xr_icmp_ne 51 C E dJ5_newCapacity_38 (by decide) (fun E => ?_) (fun E => ?_)
  · refine xr_iload 0 C rfl dJ5_newCapacity_51 ?_
    refine xr_aload_n 4 C rfl rfl dJ5_newCapacity_53 ?_
    refine xr_gI C E xf_J5_22 dJ5_newCapacity_54 (fun x7 E => ?_)
    refine xr_ishr C dJ5_newCapacity_57 ?_
    exact xr_iret C Z E dJ5_newCapacity_58
  · cases E
def mf_J5_ensureCapacityInternal (a0 : Option Nat) (a1 : Int32) (h0 : xk_H) : Option (Unit × xk_H) :=
  xm_gR [8] 0 a0 h0 fun x1 => xm_len [101] x1 h0 fun x2 => xm_gI [8] 1 a0 h0 fun x3 => if (a1 - (x2 >>> (x3 &&& 31))) ≤ 0 then (some ((), h0)) else (xm_gR [8] 0 a0 h0 fun x4 => xm_rc [8] a0 h0 <| xm_cl (mf_J5_newCapacity a0 a1 h0) fun r5 h6 => xm_gI [8] 1 a0 h6 fun x7 => xm_cl (mf_J18_copyOf x4 (r5 <<< (x7 &&& 31)) h6) fun r8 h9 => xm_pV [8] 0 a0 (va_rf r8) h9 fun h10 => some ((), h10))
set_option maxHeartbeats 1000000 in
theorem wk_J5_ensureCapacityInternal {l : Launch} {D : va_G} {base : Nat} {a0 : Option Nat} {a1 : Int32} {h0 : xk_H} {r : Unit} {h' : xk_H} (E : mf_J5_ensureCapacityInternal a0 a1 h0 = some (r, h')) : xk_Ok l D base yJ5_ensureCapacityInternal cJ5_ensureCapacityInternal 3 none 4 129 [va_rf a0, .int a1] h0 none h' := by
  refine xk_ofX RJ5 "ensureCapacityInternal" xq_J5_ensureCapacityInternal rfl rfl (Nat.le_of_ble_eq_true rfl) ⟨xk_crf _, ⟨rfl, trivial⟩⟩ (fun Γ el eD eb C Z => ?_)
  rw [mf_J5_ensureCapacityInternal] at E
  show xk_X Γ 0 [(0, va_rf a0), (1, .int a1)] [] h0
  refine xr_aload_n 0 C rfl rfl dJ5_ensureCapacityInternal_0 ?_
  refine xr_gR C E xf_J5_15 dJ5_ensureCapacityInternal_1 (fun x1 E => ?_)
  refine xr_len 1 .byte C E (fun _ => rfl) xt_101 dJ5_ensureCapacityInternal_4 (fun x2 E => ?_)
  refine xr_aload_n 0 C rfl rfl dJ5_ensureCapacityInternal_5 ?_
  refine xr_gI C E xf_J5_22 dJ5_ensureCapacityInternal_6 (fun x3 E => ?_)
  refine xr_ishr C dJ5_ensureCapacityInternal_9 ?_
  refine xr_istore_n (L2 := [(2, .int (x2 >>> (x3 &&& 31))), (0, va_rf a0), (1, .int a1)]) C rfl rfl dJ5_ensureCapacityInternal_10 (by decide) ?_
  refine xr_iload_n 2 C rfl rfl dJ5_ensureCapacityInternal_11 ?_
  refine xr_iload_n 0 C rfl rfl dJ5_ensureCapacityInternal_12 ?_
  refine xr_isub C dJ5_ensureCapacityInternal_13 ?_
  refine xr_if_le 38 C E dJ5_ensureCapacityInternal_14 (by decide) (fun E => ?_) (fun E => ?_)
  · exact xr_vret C Z E dJ5_ensureCapacityInternal_38
  · refine xr_aload_n 1 C rfl rfl dJ5_ensureCapacityInternal_17 ?_
    refine xr_aload_n 1 C rfl rfl dJ5_ensureCapacityInternal_18 ?_
    refine xr_gR C E xf_J5_15 dJ5_ensureCapacityInternal_19 (fun x4 E => ?_)
    refine xr_aload_n 1 C rfl rfl dJ5_ensureCapacityInternal_22 ?_
    refine xr_iload_n 2 C rfl rfl dJ5_ensureCapacityInternal_23 ?_
    refine xr_UP (v := a0) [.int a1] [va_rf x4, va_rf a0] (fun r => some (.int r)) (fun r => .int r :: [va_rf x4, va_rf a0]) C E xi_8_StringBuilder (fun r h' e => wk_J5_newCapacity e) q515 q2499 (xk_dec1 q517 q518) q517 (List.mem_of_getElem? (i := 1) rfl) q85 q518 xh_java_lang_AbstractStringBuilder xd_J5_newCapacity (by decide) (by decide) ⟨xk_crf _, ⟨xk_crf _, trivial⟩⟩ (Nat.le_of_ble_eq_true rfl) rfl (fun _ => rfl) dJ5_ensureCapacityInternal_24 (fun r5 h6 E => ?_)
    refine xr_aload_n 1 C rfl rfl dJ5_ensureCapacityInternal_27 ?_
    refine xr_gI C E xf_J5_22 dJ5_ensureCapacityInternal_28 (fun x7 E => ?_)
    refine xr_ishl C dJ5_ensureCapacityInternal_31 ?_
    refine xr_S [va_rf x4, .int (r5 <<< (x7 &&& 31))] [va_rf a0] (fun r => some (va_rf r)) (fun r => va_rf r :: [va_rf a0]) C E (fun r h' e => wk_J18_copyOf e) q530 q531 q99 q532 xh_java_util_Arrays xd_J18_copyOf (by decide) (by decide) ⟨xk_crf _, trivial⟩ (Nat.le_of_ble_eq_true rfl) rfl (fun _ => rfl) dJ5_ensureCapacityInternal_32 (fun r8 h9 E => ?_)
    refine xr_pR C E xf_J5_15 xp_J5_15 (Or.inr ⟨_, rfl⟩) dJ5_ensureCapacityInternal_35 (fun h10 E => ?_)
    exact xr_vret C Z E dJ5_ensureCapacityInternal_38
def mf_J5_isLatin1 (a0 : Option Nat) (h0 : xk_H) : Option (Bool × xk_H) :=
  if (1 : Int32) = 0 then (some (false, h0)) else (xm_gI [8] 1 a0 h0 fun x1 => if x1 = 0 then (some (true, h0)) else (some (false, h0)))
set_option maxHeartbeats 1000000 in
theorem wk_J5_isLatin1 {l : Launch} {D : va_G} {base : Nat} {a0 : Option Nat} {h0 : xk_H} {r : Bool} {h' : xk_H} (E : mf_J5_isLatin1 a0 h0 = some (r, h')) : xk_Ok l D base yJ5_isLatin1 cJ5_isLatin1 1 (Option.some FieldType.boolean) 1 60 [va_rf a0] h0 (some (.int (xk_b2 r))) h' := by
  refine xk_ofX RJ5 "isLatin1" xq_J5_isLatin1 rfl rfl (Nat.le_of_ble_eq_true rfl) ⟨xk_crf _, trivial⟩ (fun Γ el eD eb C Z => ?_)
  rw [mf_J5_isLatin1] at E
  show xk_X Γ 0 [(0, va_rf a0)] [] h0
  refine xr_gsI (x := 1) C (List.mem_of_getElem? (i := 0) rfl) q214 (Or.inl rfl) dJ5_isLatin1_0 ?_
  refine xr_if_eq 17 C E dJ5_isLatin1_3 (by decide) (fun E => ?_) (fun E => ?_)
  · refine xr_iconst (0) C (by decide) dJ5_isLatin1_17 ?_
    exact xr_bret (b := false) C Z E dJ5_isLatin1_18
  · refine xr_aload_n 0 C rfl rfl dJ5_isLatin1_6 ?_
    refine xr_gI C E xf_J5_22 dJ5_isLatin1_7 (fun x1 E => ?_)
    refine xr_if_ne 17 C E dJ5_isLatin1_10 (by decide) (fun E => ?_) (fun E => ?_)
    · refine xr_iconst (0) C (by decide) dJ5_isLatin1_17 ?_
      exact xr_bret (b := false) C Z E dJ5_isLatin1_18
    · refine xr_iconst (1) C (by decide) dJ5_isLatin1_13 ?_
      refine xr_goto 18 C dJ5_isLatin1_14 (by decide) ?_
      exact xr_bret (b := true) C Z E dJ5_isLatin1_18
def mf_J5_append_2_J45 (a0 : Option Nat) (a1 : Int32) (h0 : xk_H) : Option (Option Nat × xk_H) :=
  xm_rc [8] a0 h0 <| xm_cl (mf_J5_isLatin1 a0 h0) fun r6 h7 => if xk_b2 r6 = 0 then (xm_gR [8] 0 a0 h7 fun x8 => xm_gI [8] 3 a0 h7 fun x9 => xm_pV [8] 3 a0 (.int (x9 + (1 : Int32))) h7 fun h10 => none) else (none)
set_option maxHeartbeats 1000000 in
theorem wk_J5_append_2_J45 {Γ : xk_C} {r : Option Nat} {h' : xk_H} {a0 : Option Nat} {a1 : Int32} {h0 : xk_H} (C : xk_Cx Γ RJ5 cJ5_append_2 2 (Option.some (FieldType.object "java/lang/AbstractStringBuilder")) "append" 5 151) (Z : xk_Z Γ (some (va_rf r)) h') (E : mf_J5_append_2_J45 a0 a1 h0 = some (r, h')) : xk_X Γ 45 [(0, va_rf a0), (1, .int a1)] [] h0 := by
  rw [mf_J5_append_2_J45] at E
  refine xr_aload_n 0 C rfl rfl dJ5_append_2_45 ?_
  refine xr_U (v := a0) [] [] (fun r => some (.int (xk_b2 r))) (fun r => .int (xk_b2 r) :: []) C E xi_8_StringBuilder (fun r h' e => wk_J5_isLatin1 e) q546 q548 (xk_dec1 q547 q550) q547 q549 q85 q550 xh_java_lang_AbstractStringBuilder xd_J5_isLatin1 (by decide) (by decide) trivial (Nat.le_of_ble_eq_true rfl) rfl (fun _ => rfl) dJ5_append_2_46 (fun r6 h7 E => ?_)
  refine xr_if_eq 56 C E dJ5_append_2_49 (by decide) (fun E => ?_) (fun E => ?_)
  · refine xr_aload_n 0 C rfl rfl dJ5_append_2_56 ?_
    refine xr_gR C E xf_J5_15 dJ5_append_2_57 (fun x8 E => ?_)
    refine xr_aload_n 0 C rfl rfl dJ5_append_2_60 ?_
    refine xr_dup C (xk_crf _) dJ5_append_2_61 ?_
    refine xr_gI C E xf_J5_79 dJ5_append_2_62 (fun x9 E => ?_)
    refine xr_dup_x1 C rfl (xk_crf _) dJ5_append_2_65 ?_
    refine xr_iconst (1) C (by decide) dJ5_append_2_66 ?_
    refine xr_iadd C dJ5_append_2_67 ?_
    refine xr_pI C E xf_J5_79 xp_J5_79 dJ5_append_2_68 (fun h10 E => ?_)
    refine xr_iload_n 1 C rfl rfl dJ5_append_2_71 ?_
    cases E
  · refine xr_aload_n 0 C rfl rfl dJ5_append_2_52 ?_
    cases E
def mf_J5_append_2 (a0 : Option Nat) (a1 : Int32) (h0 : xk_H) : Option (Option Nat × xk_H) :=
  xm_gI [8] 3 a0 h0 fun x1 => xm_rc [8] a0 h0 <| xm_cl (mf_J5_ensureCapacityInternal a0 (x1 + (1 : Int32)) h0) fun r2 h3 => xm_rc [8] a0 h3 <| xm_cl (mf_J5_isLatin1 a0 h3) fun r4 h5 => if xk_b2 r4 = 0 then (mf_J5_append_2_J45 a0 a1 h5) else (xm_cl (mf_J19_canEncode a1 h5) fun r11 h12 => if xk_b2 r11 = 0 then (mf_J5_append_2_J45 a0 a1 h12) else (xm_gR [8] 0 a0 h12 fun x13 => xm_gI [8] 3 a0 h12 fun x14 => xm_pV [8] 3 a0 (.int (x14 + (1 : Int32))) h12 fun h15 => xm_sV [101] x13 x14 (.int a1.toInt8.toInt32.toInt8.toInt32) h15 fun h16 => some (a0, h16)))
set_option maxHeartbeats 1000000 in
theorem wk_J5_append_2 {l : Launch} {D : va_G} {base : Nat} {a0 : Option Nat} {a1 : Int32} {h0 : xk_H} {r : Option Nat} {h' : xk_H} (E : mf_J5_append_2 a0 a1 h0 = some (r, h')) : xk_Ok l D base yJ5_append_2 cJ5_append_2 2 (Option.some (FieldType.object "java/lang/AbstractStringBuilder")) 5 151 [va_rf a0, .int a1] h0 (some (va_rf r)) h' := by
  refine xk_ofX RJ5 "append" xq_J5_append_2 rfl rfl (Nat.le_of_ble_eq_true rfl) ⟨xk_crf _, ⟨rfl, trivial⟩⟩ (fun Γ el eD eb C Z => ?_)
  rw [mf_J5_append_2] at E
  show xk_X Γ 0 [(0, va_rf a0), (1, .int a1)] [] h0
  refine xr_aload_n 0 C rfl rfl dJ5_append_2_0 ?_
  refine xr_aload_n 0 C rfl rfl dJ5_append_2_1 ?_
  refine xr_gI C E xf_J5_79 dJ5_append_2_2 (fun x1 E => ?_)
  refine xr_iconst (1) C (by decide) dJ5_append_2_5 ?_
  refine xr_iadd C dJ5_append_2_6 ?_
  refine xr_UP (v := a0) [.int (x1 + (1 : Int32))] [] (fun _ => none) (fun _ => []) C E xi_8_StringBuilder (fun r h' e => wk_J5_ensureCapacityInternal e) q511 q2498 (xk_dec1 q513 q514) q513 (List.mem_of_getElem? (i := 0) rfl) q85 q514 xh_java_lang_AbstractStringBuilder xd_J5_ensureCapacityInternal (by decide) (by decide) trivial (Nat.le_of_ble_eq_true rfl) rfl (fun _ => rfl) dJ5_append_2_7 (fun r2 h3 E => ?_)
  refine xr_aload_n 0 C rfl rfl dJ5_append_2_10 ?_
  refine xr_U (v := a0) [] [] (fun r => some (.int (xk_b2 r))) (fun r => .int (xk_b2 r) :: []) C E xi_8_StringBuilder (fun r h' e => wk_J5_isLatin1 e) q546 q548 (xk_dec1 q547 q550) q547 q549 q85 q550 xh_java_lang_AbstractStringBuilder xd_J5_isLatin1 (by decide) (by decide) trivial (Nat.le_of_ble_eq_true rfl) rfl (fun _ => rfl) dJ5_append_2_11 (fun r4 h5 E => ?_)
  refine xr_if_eq 45 C E dJ5_append_2_14 (by decide) (fun E => ?_) (fun E => ?_)
  · exact wk_J5_append_2_J45 C Z E
  · refine xr_iload_n 1 C rfl rfl dJ5_append_2_17 ?_
    refine xr_S [.int a1] [] (fun r => some (.int (xk_b2 r))) (fun r => .int (xk_b2 r) :: []) C E (fun r h' e => wk_J19_canEncode e) q1073 q1074 q101 q1075 xh_java_lang_StringLatin1 xd_J19_canEncode (by decide) (by decide) trivial (Nat.le_of_ble_eq_true rfl) rfl (fun _ => rfl) dJ5_append_2_18 (fun r11 h12 E => ?_)
    refine xr_if_eq 45 C E dJ5_append_2_21 (by decide) (fun E => ?_) (fun E => ?_)
    · exact wk_J5_append_2_J45 C Z E
    · refine xr_aload_n 0 C rfl rfl dJ5_append_2_24 ?_
      refine xr_gR C E xf_J5_15 dJ5_append_2_25 (fun x13 E => ?_)
      refine xr_aload_n 0 C rfl rfl dJ5_append_2_28 ?_
      refine xr_dup C (xk_crf _) dJ5_append_2_29 ?_
      refine xr_gI C E xf_J5_79 dJ5_append_2_30 (fun x14 E => ?_)
      refine xr_dup_x1 C rfl (xk_crf _) dJ5_append_2_33 ?_
      refine xr_iconst (1) C (by decide) dJ5_append_2_34 ?_
      refine xr_iadd C dJ5_append_2_35 ?_
      refine xr_pI C E xf_J5_79 xp_J5_79 dJ5_append_2_36 (fun h15 E => ?_)
      refine xr_iload_n 1 C rfl rfl dJ5_append_2_39 ?_
      refine xr_i2b C dJ5_append_2_40 ?_
      refine xr_sB C E dJ5_append_2_41 (fun h16 E => ?_)
      refine xr_goto 75 C dJ5_append_2_42 (by decide) ?_
      refine xr_aload_n 0 C rfl rfl dJ5_append_2_75 ?_
      exact xr_aret C Z E (Or.inl ⟨_, rfl⟩) dJ5_append_2_76
def mf_J6_append_2 (a0 : Option Nat) (a1 : Int32) (h0 : xk_H) : Option (Option Nat × xk_H) :=
  xm_rc [8] a0 h0 <| xm_cl (mf_J5_append_2 a0 a1 h0) fun r1 h2 => some (a0, h2)
set_option maxHeartbeats 1000000 in
theorem wk_J6_append_2 {l : Launch} {D : va_G} {base : Nat} {a0 : Option Nat} {a1 : Int32} {h0 : xk_H} {r : Option Nat} {h' : xk_H} (E : mf_J6_append_2 a0 a1 h0 = some (r, h')) : xk_Ok l D base yJ6_append_2 cJ6_append_2 2 (Option.some (FieldType.object "java/lang/StringBuilder")) 6 172 [va_rf a0, .int a1] h0 (some (va_rf r)) h' := by
  refine xk_ofX RJ6 "append" xq_J6_append_2 rfl rfl (Nat.le_of_ble_eq_true rfl) ⟨xk_crf _, ⟨rfl, trivial⟩⟩ (fun Γ el eD eb C Z => ?_)
  rw [mf_J6_append_2] at E
  show xk_X Γ 0 [(0, va_rf a0), (1, .int a1)] [] h0
  refine xr_aload_n 0 C rfl rfl dJ6_append_2_0 ?_
  refine xr_iload_n 1 C rfl rfl dJ6_append_2_1 ?_
  refine xr_SU (v := a0) [.int a1] [] (fun r => some (va_rf r)) (fun r => va_rf r :: []) C E xi_8_StringBuilder (fun r h' e => wk_J5_append_2 e) q1070 q2506 q236 q1071 q85 q1072 (by decide +kernel) xd_J5_append_2 (by decide) (by decide) trivial (Nat.le_of_ble_eq_true rfl) rfl (fun _ => rfl) dJ6_append_2_2 (fun r1 h2 E => ?_)
  refine xr_pop C (xk_crf _) dJ6_append_2_5 ?_
  refine xr_aload_n 0 C rfl rfl dJ6_append_2_6 ?_
  exact xr_aret C Z E (Or.inl ⟨_, rfl⟩) dJ6_append_2_7
def mf_J5_append_3 (a0 : Option Nat) (a1 : Int32) (h0 : xk_H) : Option (Option Nat × xk_H) :=
  xm_gI [8] 3 a0 h0 fun x1 => xm_cl (mf_J22_stringSize a1 h0) fun r2 h3 => xm_rc [8] a0 h3 <| xm_cl (mf_J5_ensureCapacityInternal a0 (x1 + r2) h3) fun r4 h5 => xm_rc [8] a0 h5 <| xm_cl (mf_J5_isLatin1 a0 h5) fun r6 h7 => if xk_b2 r6 = 0 then (xm_gR [8] 0 a0 h7 fun x8 => none) else (xm_gR [8] 0 a0 h7 fun x9 => xm_cl (mf_J22_getChars a1 (x1 + r2) x9 h7) fun r10 h11 => xm_pV [8] 3 a0 (.int (x1 + r2)) h11 fun h12 => some (a0, h12))
set_option maxHeartbeats 1000000 in
theorem wk_J5_append_3 {l : Launch} {D : va_G} {base : Nat} {a0 : Option Nat} {a1 : Int32} {h0 : xk_H} {r : Option Nat} {h' : xk_H} (E : mf_J5_append_3 a0 a1 h0 = some (r, h')) : xk_Ok l D base yJ5_append_3 cJ5_append_3 4 (Option.some (FieldType.object "java/lang/AbstractStringBuilder")) 5 151 [va_rf a0, .int a1] h0 (some (va_rf r)) h' := by
  refine xk_ofX RJ5 "append" xq_J5_append_3 rfl rfl (Nat.le_of_ble_eq_true rfl) ⟨xk_crf _, ⟨rfl, trivial⟩⟩ (fun Γ el eD eb C Z => ?_)
  rw [mf_J5_append_3] at E
  show xk_X Γ 0 [(0, va_rf a0), (1, .int a1)] [] h0
  refine xr_aload_n 0 C rfl rfl dJ5_append_3_0 ?_
  refine xr_gI C E xf_J5_79 dJ5_append_3_1 (fun x1 E => ?_)
  refine xr_istore_n (L2 := [(2, .int x1), (0, va_rf a0), (1, .int a1)]) C rfl rfl dJ5_append_3_4 (by decide) ?_
  refine xr_iload_n 0 C rfl rfl dJ5_append_3_5 ?_
  refine xr_iload_n 2 C rfl rfl dJ5_append_3_6 ?_
  refine xr_S [.int a1] [.int x1] (fun r => some (.int r)) (fun r => .int r :: [.int x1]) C E (fun r h' e => wk_J22_stringSize e) q1213 q1214 q105 q1215 xh_java_lang_Integer xd_J22_stringSize (by decide) (by decide) ⟨rfl, trivial⟩ (Nat.le_of_ble_eq_true rfl) rfl (fun _ => rfl) dJ5_append_3_7 (fun r2 h3 E => ?_)
  refine xr_iadd C dJ5_append_3_10 ?_
  refine xr_istore_n (L2 := [(3, .int (x1 + r2)), (2, .int x1), (0, va_rf a0), (1, .int a1)]) C rfl rfl dJ5_append_3_11 (by decide) ?_
  refine xr_aload_n 2 C rfl rfl dJ5_append_3_12 ?_
  refine xr_iload_n 0 C rfl rfl dJ5_append_3_13 ?_
  refine xr_UP (v := a0) [.int (x1 + r2)] [] (fun _ => none) (fun _ => []) C E xi_8_StringBuilder (fun r h' e => wk_J5_ensureCapacityInternal e) q511 q2498 (xk_dec1 q513 q514) q513 (List.mem_of_getElem? (i := 0) rfl) q85 q514 xh_java_lang_AbstractStringBuilder xd_J5_ensureCapacityInternal (by decide) (by decide) trivial (Nat.le_of_ble_eq_true rfl) rfl (fun _ => rfl) dJ5_append_3_14 (fun r4 h5 E => ?_)
  refine xr_aload_n 2 C rfl rfl dJ5_append_3_17 ?_
  refine xr_U (v := a0) [] [] (fun r => some (.int (xk_b2 r))) (fun r => .int (xk_b2 r) :: []) C E xi_8_StringBuilder (fun r h' e => wk_J5_isLatin1 e) q546 q548 (xk_dec1 q547 q550) q547 q549 q85 q550 xh_java_lang_AbstractStringBuilder xd_J5_isLatin1 (by decide) (by decide) trivial (Nat.le_of_ble_eq_true rfl) rfl (fun _ => rfl) dJ5_append_3_18 (fun r6 h7 E => ?_)
  refine xr_if_eq 37 C E dJ5_append_3_21 (by decide) (fun E => ?_) (fun E => ?_)
  · refine xr_iload_n 3 C rfl rfl dJ5_append_3_37 ?_
    refine xr_iload_n 1 C rfl rfl dJ5_append_3_38 ?_
    refine xr_iload_n 0 C rfl rfl dJ5_append_3_39 ?_
    refine xr_aload_n 2 C rfl rfl dJ5_append_3_40 ?_
    refine xr_gR C E xf_J5_15 dJ5_append_3_41 (fun x8 E => ?_)
    cases E
  · refine xr_iload_n 3 C rfl rfl dJ5_append_3_24 ?_
    refine xr_iload_n 0 C rfl rfl dJ5_append_3_25 ?_
    refine xr_aload_n 2 C rfl rfl dJ5_append_3_26 ?_
    refine xr_gR C E xf_J5_15 dJ5_append_3_27 (fun x9 E => ?_)
    refine xr_S [.int a1, .int (x1 + r2), va_rf x9] [] (fun r => some (.int r)) (fun r => .int r :: []) C E (fun r h' e => wk_J22_getChars e) q1216 q1217 q105 q1218 xh_java_lang_Integer xd_J22_getChars (by decide) (by decide) trivial (Nat.le_of_ble_eq_true rfl) rfl (fun _ => rfl) dJ5_append_3_30 (fun r10 h11 E => ?_)
    refine xr_pop C rfl dJ5_append_3_33 ?_
    refine xr_goto 48 C dJ5_append_3_34 (by decide) ?_
    refine xr_aload_n 2 C rfl rfl dJ5_append_3_48 ?_
    refine xr_iload_n 0 C rfl rfl dJ5_append_3_49 ?_
    refine xr_pI C E xf_J5_79 xp_J5_79 dJ5_append_3_50 (fun h12 E => ?_)
    refine xr_aload_n 2 C rfl rfl dJ5_append_3_53 ?_
    exact xr_aret C Z E (Or.inl ⟨_, rfl⟩) dJ5_append_3_54
def mf_J6_append_3 (a0 : Option Nat) (a1 : Int32) (h0 : xk_H) : Option (Option Nat × xk_H) :=
  xm_rc [8] a0 h0 <| xm_cl (mf_J5_append_3 a0 a1 h0) fun r1 h2 => some (a0, h2)
set_option maxHeartbeats 1000000 in
theorem wk_J6_append_3 {l : Launch} {D : va_G} {base : Nat} {a0 : Option Nat} {a1 : Int32} {h0 : xk_H} {r : Option Nat} {h' : xk_H} (E : mf_J6_append_3 a0 a1 h0 = some (r, h')) : xk_Ok l D base yJ6_append_3 cJ6_append_3 2 (Option.some (FieldType.object "java/lang/StringBuilder")) 6 174 [va_rf a0, .int a1] h0 (some (va_rf r)) h' := by
  refine xk_ofX RJ6 "append" xq_J6_append_3 rfl rfl (Nat.le_of_ble_eq_true rfl) ⟨xk_crf _, ⟨rfl, trivial⟩⟩ (fun Γ el eD eb C Z => ?_)
  rw [mf_J6_append_3] at E
  show xk_X Γ 0 [(0, va_rf a0), (1, .int a1)] [] h0
  refine xr_aload_n 0 C rfl rfl dJ6_append_3_0 ?_
  refine xr_iload_n 1 C rfl rfl dJ6_append_3_1 ?_
  refine xr_SU (v := a0) [.int a1] [] (fun r => some (va_rf r)) (fun r => va_rf r :: []) C E xi_8_StringBuilder (fun r h' e => wk_J5_append_3 e) q1210 q2509 q236 q1211 q85 q1212 (by decide +kernel) xd_J5_append_3 (by decide) (by decide) trivial (Nat.le_of_ble_eq_true rfl) rfl (fun _ => rfl) dJ6_append_3_2 (fun r1 h2 E => ?_)
  refine xr_pop C (xk_crf _) dJ6_append_3_5 ?_
  refine xr_aload_n 0 C rfl rfl dJ6_append_3_6 ?_
  exact xr_aret C Z E (Or.inl ⟨_, rfl⟩) dJ6_append_3_7
def mf_J5_setLength (a0 : Option Nat) (a1 : Int32) (h0 : xk_H) : Option (Unit × xk_H) :=
  if 0 ≤ a1 then (xm_rc [8] a0 h0 <| xm_cl (mf_J5_ensureCapacityInternal a0 a1 h0) fun r1 h2 => xm_gI [8] 3 a0 h2 fun x3 => if a1 ≤ x3 then (xm_gI [8] 3 a0 h2 fun x4 => if x4 ≤ a1 then (xm_pV [8] 3 a0 (.int a1) h2 fun h5 => some ((), h5)) else (xm_pN .boolean [8] 2 a0 (1 : Int32) h2 fun h6 => xm_pV [8] 3 a0 (.int a1) h6 fun h7 => some ((), h7))) else (xm_rc [8] a0 h2 <| xm_cl (mf_J5_isLatin1 a0 h2) fun r8 h9 => if xk_b2 r8 = 0 then (xm_gR [8] 0 a0 h9 fun x10 => xm_gI [8] 3 a0 h9 fun x11 => none) else (xm_gR [8] 0 a0 h9 fun x12 => xm_gI [8] 3 a0 h9 fun x13 => none))) else (none)
set_option maxHeartbeats 1000000 in
theorem wk_J5_setLength {l : Launch} {D : va_G} {base : Nat} {a0 : Option Nat} {a1 : Int32} {h0 : xk_H} {r : Unit} {h' : xk_H} (E : mf_J5_setLength a0 a1 h0 = some (r, h')) : xk_Ok l D base yJ5_setLength cJ5_setLength 2 none 5 151 [va_rf a0, .int a1] h0 none h' := by
  refine xk_ofX RJ5 "setLength" xq_J5_setLength rfl rfl (Nat.le_of_ble_eq_true rfl) ⟨xk_crf _, ⟨rfl, trivial⟩⟩ (fun Γ el eD eb C Z => ?_)
  rw [mf_J5_setLength] at E
  show xk_X Γ 0 [(0, va_rf a0), (1, .int a1)] [] h0
  refine xr_iload_n 1 C rfl rfl dJ5_setLength_0 ?_
  refine xr_if_ge 13 C E dJ5_setLength_1 (by decide) (fun E => ?_) (fun E => ?_)
  · refine xr_aload_n 0 C rfl rfl dJ5_setLength_13 ?_
    refine xr_iload_n 1 C rfl rfl dJ5_setLength_14 ?_
    refine xr_UP (v := a0) [.int a1] [] (fun _ => none) (fun _ => []) C E xi_8_StringBuilder (fun r h' e => wk_J5_ensureCapacityInternal e) q511 q2498 (xk_dec1 q513 q514) q513 (List.mem_of_getElem? (i := 0) rfl) q85 q514 xh_java_lang_AbstractStringBuilder xd_J5_ensureCapacityInternal (by decide) (by decide) trivial (Nat.le_of_ble_eq_true rfl) rfl (fun _ => rfl) dJ5_setLength_15 (fun r1 h2 E => ?_)
    refine xr_aload_n 0 C rfl rfl dJ5_setLength_18 ?_
    refine xr_gI C E xf_J5_79 dJ5_setLength_19 (fun x3 E => ?_)
    refine xr_iload_n 1 C rfl rfl dJ5_setLength_22 ?_
    refine xr_icmp_ge 63 C E dJ5_setLength_23 (by decide) (fun E => ?_) (fun E => ?_)
    · refine xr_aload_n 0 C rfl rfl dJ5_setLength_63 ?_
      refine xr_gI C E xf_J5_79 dJ5_setLength_64 (fun x4 E => ?_)
      refine xr_iload_n 1 C rfl rfl dJ5_setLength_67 ?_
      refine xr_icmp_le 76 C E dJ5_setLength_68 (by decide) (fun E => ?_) (fun E => ?_)
      · refine xr_aload_n 0 C rfl rfl dJ5_setLength_76 ?_
        refine xr_iload_n 1 C rfl rfl dJ5_setLength_77 ?_
        refine xr_pI C E xf_J5_79 xp_J5_79 dJ5_setLength_78 (fun h5 E => ?_)
        exact xr_vret C Z E dJ5_setLength_81
      · refine xr_aload_n 0 C rfl rfl dJ5_setLength_71 ?_
        refine xr_iconst (1) C (by decide) dJ5_setLength_72 ?_
        refine xr_pN C E xf_J5_73 xp_J5_73 dJ5_setLength_73 (fun h6 E => ?_)
        refine xr_aload_n 0 C rfl rfl dJ5_setLength_76 ?_
        refine xr_iload_n 1 C rfl rfl dJ5_setLength_77 ?_
        refine xr_pI C E xf_J5_79 xp_J5_79 dJ5_setLength_78 (fun h7 E => ?_)
        exact xr_vret C Z E dJ5_setLength_81
    · refine xr_aload_n 0 C rfl rfl dJ5_setLength_26 ?_
      refine xr_U (v := a0) [] [] (fun r => some (.int (xk_b2 r))) (fun r => .int (xk_b2 r) :: []) C E xi_8_StringBuilder (fun r h' e => wk_J5_isLatin1 e) q546 q548 (xk_dec1 q547 q550) q547 q549 q85 q550 xh_java_lang_AbstractStringBuilder xd_J5_isLatin1 (by decide) (by decide) trivial (Nat.le_of_ble_eq_true rfl) rfl (fun _ => rfl) dJ5_setLength_27 (fun r8 h9 E => ?_)
      refine xr_if_eq 48 C E dJ5_setLength_30 (by decide) (fun E => ?_) (fun E => ?_)
      · refine xr_aload_n 0 C rfl rfl dJ5_setLength_48 ?_
        refine xr_gR C E xf_J5_15 dJ5_setLength_49 (fun x10 E => ?_)
        refine xr_aload_n 0 C rfl rfl dJ5_setLength_52 ?_
        refine xr_gI C E xf_J5_79 dJ5_setLength_53 (fun x11 E => ?_)
        refine xr_iload_n 1 C rfl rfl dJ5_setLength_56 ?_
        cases E
      · refine xr_aload_n 0 C rfl rfl dJ5_setLength_33 ?_
        refine xr_gR C E xf_J5_15 dJ5_setLength_34 (fun x12 E => ?_)
        refine xr_aload_n 0 C rfl rfl dJ5_setLength_37 ?_
        refine xr_gI C E xf_J5_79 dJ5_setLength_38 (fun x13 E => ?_)
        refine xr_iload_n 1 C rfl rfl dJ5_setLength_41 ?_
        cases E
  · cases E
def mf_J6_setLength (a0 : Option Nat) (a1 : Int32) (h0 : xk_H) : Option (Unit × xk_H) :=
  xm_rc [8] a0 h0 <| xm_cl (mf_J5_setLength a0 a1 h0) fun r1 h2 => some ((), h2)
set_option maxHeartbeats 1000000 in
theorem wk_J6_setLength {l : Launch} {D : va_G} {base : Nat} {a0 : Option Nat} {a1 : Int32} {h0 : xk_H} {r : Unit} {h' : xk_H} (E : mf_J6_setLength a0 a1 h0 = some (r, h')) : xk_Ok l D base yJ6_setLength cJ6_setLength 2 none 6 172 [va_rf a0, .int a1] h0 none h' := by
  refine xk_ofX RJ6 "setLength" xq_J6_setLength rfl rfl (Nat.le_of_ble_eq_true rfl) ⟨xk_crf _, ⟨rfl, trivial⟩⟩ (fun Γ el eD eb C Z => ?_)
  rw [mf_J6_setLength] at E
  show xk_X Γ 0 [(0, va_rf a0), (1, .int a1)] [] h0
  refine xr_aload_n 0 C rfl rfl dJ6_setLength_0 ?_
  refine xr_iload_n 1 C rfl rfl dJ6_setLength_1 ?_
  refine xr_SU (v := a0) [.int a1] [] (fun _ => none) (fun _ => []) C E xi_8_StringBuilder (fun r h' e => wk_J5_setLength e) q1094 q2507 q236 q1095 q85 q1096 (by decide +kernel) xd_J5_setLength (by decide) (by decide) trivial (Nat.le_of_ble_eq_true rfl) rfl (fun _ => rfl) dJ6_setLength_2 (fun r1 h2 E => ?_)
  exact xr_vret C Z E dJ6_setLength_5
def mf_J7_checkIndex (a0 : Int32) (a1 : Int32) (h0 : xk_H) : Option (Unit × xk_H) :=
  xm_cl (mf_J11_checkIndex a0 a1 (h0.2.1 5) h0) fun r1 h2 => some ((), h2)
set_option maxHeartbeats 1000000 in
theorem wk_J7_checkIndex {l : Launch} {D : va_G} {base : Nat} {a0 : Int32} {a1 : Int32} {h0 : xk_H} {r : Unit} {h' : xk_H} (E : mf_J7_checkIndex a0 a1 h0 = some (r, h')) : xk_Ok l D base yJ7_checkIndex cJ7_checkIndex 2 none 2 82 [.int a0, .int a1] h0 none h' := by
  refine xk_ofX RJ7 "checkIndex" xq_J7_checkIndex rfl rfl (Nat.le_of_ble_eq_true rfl) ⟨rfl, ⟨rfl, trivial⟩⟩ (fun Γ el eD eb C Z => ?_)
  rw [mf_J7_checkIndex] at E
  show xk_X Γ 0 [(0, .int a0), (1, .int a1)] [] h0
  refine xr_iload_n 0 C rfl rfl dJ7_checkIndex_0 ?_
  refine xr_iload_n 1 C rfl rfl dJ7_checkIndex_1 ?_
  refine xr_gsR (k := 5) C (List.mem_of_getElem? (i := 5) rfl) q563 (Or.inl rfl) dJ7_checkIndex_2 ?_
  refine xr_S [.int a0, .int a1, va_rf (h0.2.1 5)] [] (fun r => some (.int r)) (fun r => .int r :: []) C E (fun r h' e => wk_J11_checkIndex e) q1085 q380 q92 q381 xh_jdk_internal_util_Preconditions xd_J11_checkIndex (by decide) (by decide) trivial (Nat.le_of_ble_eq_true rfl) rfl (fun _ => rfl) dJ7_checkIndex_5 (fun r1 h2 E => ?_)
  refine xr_pop C rfl dJ7_checkIndex_8 ?_
  exact xr_vret C Z E dJ7_checkIndex_9
def mf_J5_charAt (a0 : Option Nat) (a1 : Int32) (h0 : xk_H) : Option (Int32 × xk_H) :=
  xm_gI [8] 1 a0 h0 fun x1 => xm_gR [8] 0 a0 h0 fun x2 => xm_gI [8] 3 a0 h0 fun x3 => xm_len [101] x2 h0 fun x4 => xm_cl (mf_J17_min x3 (x4 >>> (x1 &&& 31)) h0) fun r5 h6 => xm_cl (mf_J7_checkIndex a1 r5 h6) fun r7 h8 => if x1 = 0 then (xm_lI [101] x2 a1 h8 fun x9 => some (((x9 &&& (255 : Int32)).toUInt32 % 65536).toInt32, h8)) else (none)
set_option maxHeartbeats 1000000 in
theorem wk_J5_charAt {l : Launch} {D : va_G} {base : Nat} {a0 : Option Nat} {a1 : Int32} {h0 : xk_H} {r : Int32} {h' : xk_H} (E : mf_J5_charAt a0 a1 h0 = some (r, h')) : xk_Ok l D base yJ5_charAt cJ5_charAt 5 (Option.some FieldType.char) 3 103 [va_rf a0, .int a1] h0 (some (.int r)) h' := by
  refine xk_ofX RJ5 "charAt" xq_J5_charAt rfl rfl (Nat.le_of_ble_eq_true rfl) ⟨xk_crf _, ⟨rfl, trivial⟩⟩ (fun Γ el eD eb C Z => ?_)
  rw [mf_J5_charAt] at E
  show xk_X Γ 0 [(0, va_rf a0), (1, .int a1)] [] h0
  refine xr_aload_n 0 C rfl rfl dJ5_charAt_0 ?_
  refine xr_gI C E xf_J5_22 dJ5_charAt_1 (fun x1 E => ?_)
  refine xr_istore_n (L2 := [(2, .int x1), (0, va_rf a0), (1, .int a1)]) C rfl rfl dJ5_charAt_4 (by decide) ?_
  refine xr_aload_n 1 C rfl rfl dJ5_charAt_5 ?_
  refine xr_gR C E xf_J5_15 dJ5_charAt_6 (fun x2 E => ?_)
  refine xr_astore_n (L2 := [(3, va_rf x2), (2, .int x1), (0, va_rf a0), (1, .int a1)]) C rfl rfl dJ5_charAt_9 (by decide) ?_
  refine xr_aload_n 2 C rfl rfl dJ5_charAt_10 ?_
  refine xr_gI C E xf_J5_79 dJ5_charAt_11 (fun x3 E => ?_)
  refine xr_aload_n 0 C rfl rfl dJ5_charAt_14 ?_
  refine xr_len 1 .byte C E (fun _ => rfl) xt_101 dJ5_charAt_15 (fun x4 E => ?_)
  refine xr_iload_n 1 C rfl rfl dJ5_charAt_16 ?_
  refine xr_ishr C dJ5_charAt_17 ?_
  refine xr_S [.int x3, .int (x4 >>> (x1 &&& 31))] [] (fun r => some (.int r)) (fun r => .int r :: []) C E (fun r h' e => wk_J17_min e) q1163 q541 q98 q542 xh_java_lang_Math xd_J17_min (by decide) (by decide) trivial (Nat.le_of_ble_eq_true rfl) rfl (fun _ => rfl) dJ5_charAt_18 (fun r5 h6 E => ?_)
  refine xr_istore (L2 := [(4, .int r5), (3, va_rf x2), (2, .int x1), (0, va_rf a0), (1, .int a1)]) C rfl dJ5_charAt_21 (by decide) ?_
  refine xr_iload_n 4 C rfl rfl dJ5_charAt_23 ?_
  refine xr_iload 0 C rfl dJ5_charAt_24 ?_
  refine xr_S [.int a1, .int r5] [] (fun _ => none) (fun _ => []) C E (fun r h' e => wk_J7_checkIndex e) q1164 q1083 q87 q1084 xh_java_lang_String xd_J7_checkIndex (by decide) (by decide) trivial (Nat.le_of_ble_eq_true rfl) rfl (fun _ => rfl) dJ5_charAt_26 (fun r7 h8 E => ?_)
  refine xr_iload_n 2 C rfl rfl dJ5_charAt_29 ?_
  refine xr_if_ne 42 C E dJ5_charAt_30 (by decide) (fun E => ?_) (fun E => ?_)
  · refine xr_aload_n 1 C rfl rfl dJ5_charAt_42 ?_
    refine xr_iload_n 4 C rfl rfl dJ5_charAt_43 ?_
    cases E
  · refine xr_aload_n 1 C rfl rfl dJ5_charAt_33 ?_
    refine xr_iload_n 4 C rfl rfl dJ5_charAt_34 ?_
    refine xr_lB C E xt_101 dJ5_charAt_35 (fun x9 E => ?_)
    refine xr_sipush (255) C (by decide) dJ5_charAt_36 ?_
    refine xr_iand C dJ5_charAt_39 ?_
    refine xr_i2c C dJ5_charAt_40 ?_
    exact xr_cret C Z E (pk_nc _) dJ5_charAt_41
def mf_J6_charAt (a0 : Option Nat) (a1 : Int32) (h0 : xk_H) : Option (Int32 × xk_H) :=
  xm_rc [8] a0 h0 <| xm_cl (mf_J5_charAt a0 a1 h0) fun r1 h2 => xm_c r1 (some (r1, h2))
set_option maxHeartbeats 1000000 in
theorem wk_J6_charAt {l : Launch} {D : va_G} {base : Nat} {a0 : Option Nat} {a1 : Int32} {h0 : xk_H} {r : Int32} {h' : xk_H} (E : mf_J6_charAt a0 a1 h0 = some (r, h')) : xk_Ok l D base yJ6_charAt cJ6_charAt 2 (Option.some FieldType.char) 4 127 [va_rf a0, .int a1] h0 (some (.int r)) h' := by
  refine xk_ofX RJ6 "charAt" xq_J6_charAt rfl rfl (Nat.le_of_ble_eq_true rfl) ⟨xk_crf _, ⟨rfl, trivial⟩⟩ (fun Γ el eD eb C Z => ?_)
  rw [mf_J6_charAt] at E
  show xk_X Γ 0 [(0, va_rf a0), (1, .int a1)] [] h0
  refine xr_aload_n 0 C rfl rfl dJ6_charAt_0 ?_
  refine xr_iload_n 1 C rfl rfl dJ6_charAt_1 ?_
  refine xr_SU (v := a0) [.int a1] [] (fun r => some (.int r)) (fun r => .int r :: []) C E xi_8_StringBuilder (fun r h' e => wk_J5_charAt e) q1160 q2508 q236 q1161 q85 q1162 (by decide +kernel) xd_J5_charAt (by decide) (by decide) trivial (Nat.le_of_ble_eq_true rfl) rfl (fun _ => rfl) dJ6_charAt_2 (fun r1 h2 E => ?_)
  exact xr_cretc C Z E dJ6_charAt_5
