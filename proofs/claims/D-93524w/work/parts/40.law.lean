/-! STAGE 1, printed by wip/D-93524w/genlaw.py: the law's body -/
set_option maxRecDepth 100000
theorem hdL_X0_accept : yX0_accept.cls = "MergeWorkbenchLaw" ∧ yX0_accept.cls ≠ "java/lang/invoke/MethodHandle" ∧ yX0_accept.cls ≠ "java/lang/invoke/VarHandle" ∧ (parseMethodDescriptor yX0_accept.desc).map (fun d => d.parameters.length) = some 3 := by decide +kernel
theorem hdL_X0_anchors : yX0_anchors.cls = "MergeWorkbenchLaw" ∧ yX0_anchors.cls ≠ "java/lang/invoke/MethodHandle" ∧ yX0_anchors.cls ≠ "java/lang/invoke/VarHandle" ∧ (parseMethodDescriptor yX0_anchors.desc).map (fun d => d.parameters.length) = some 2 := by decide +kernel
theorem hdL_X0_append : yX0_append.cls = "MergeWorkbenchLaw" ∧ yX0_append.cls ≠ "java/lang/invoke/MethodHandle" ∧ yX0_append.cls ≠ "java/lang/invoke/VarHandle" ∧ (parseMethodDescriptor yX0_append.desc).map (fun d => d.parameters.length) = some 4 := by decide +kernel
theorem hdL_X0_apply : yX0_apply.cls = "MergeWorkbenchLaw" ∧ yX0_apply.cls ≠ "java/lang/invoke/MethodHandle" ∧ yX0_apply.cls ≠ "java/lang/invoke/VarHandle" ∧ (parseMethodDescriptor yX0_apply.desc).map (fun d => d.parameters.length) = some 5 := by decide +kernel
theorem hdL_X0_chunk : yX0_chunk.cls = "MergeWorkbenchLaw" ∧ yX0_chunk.cls ≠ "java/lang/invoke/MethodHandle" ∧ yX0_chunk.cls ≠ "java/lang/invoke/VarHandle" ∧ (parseMethodDescriptor yX0_chunk.desc).map (fun d => d.parameters.length) = some 4 := by decide +kernel
theorem hdL_X0_chunks : yX0_chunks.cls = "MergeWorkbenchLaw" ∧ yX0_chunks.cls ≠ "java/lang/invoke/MethodHandle" ∧ yX0_chunks.cls ≠ "java/lang/invoke/VarHandle" ∧ (parseMethodDescriptor yX0_chunks.desc).map (fun d => d.parameters.length) = some 2 := by decide +kernel
theorem hdL_X0_compare : yX0_compare.cls = "MergeWorkbenchLaw" ∧ yX0_compare.cls ≠ "java/lang/invoke/MethodHandle" ∧ yX0_compare.cls ≠ "java/lang/invoke/VarHandle" ∧ (parseMethodDescriptor yX0_compare.desc).map (fun d => d.parameters.length) = some 4 := by decide +kernel
theorem hdL_X0_copy : yX0_copy.cls = "MergeWorkbenchLaw" ∧ yX0_copy.cls ≠ "java/lang/invoke/MethodHandle" ∧ yX0_copy.cls ≠ "java/lang/invoke/VarHandle" ∧ (parseMethodDescriptor yX0_copy.desc).map (fun d => d.parameters.length) = some 4 := by decide +kernel
theorem hdL_X0_delete : yX0_delete.cls = "MergeWorkbenchLaw" ∧ yX0_delete.cls ≠ "java/lang/invoke/MethodHandle" ∧ yX0_delete.cls ≠ "java/lang/invoke/VarHandle" ∧ (parseMethodDescriptor yX0_delete.desc).map (fun d => d.parameters.length) = some 4 := by decide +kernel
theorem hdL_X0_difference : yX0_difference.cls = "MergeWorkbenchLaw" ∧ yX0_difference.cls ≠ "java/lang/invoke/MethodHandle" ∧ yX0_difference.cls ≠ "java/lang/invoke/VarHandle" ∧ (parseMethodDescriptor yX0_difference.desc).map (fun d => d.parameters.length) = some 4 := by decide +kernel
theorem hdL_X0_differences : yX0_differences.cls = "MergeWorkbenchLaw" ∧ yX0_differences.cls ≠ "java/lang/invoke/MethodHandle" ∧ yX0_differences.cls ≠ "java/lang/invoke/VarHandle" ∧ (parseMethodDescriptor yX0_differences.desc).map (fun d => d.parameters.length) = some 2 := by decide +kernel
theorem hdL_X0_distance : yX0_distance.cls = "MergeWorkbenchLaw" ∧ yX0_distance.cls ≠ "java/lang/invoke/MethodHandle" ∧ yX0_distance.cls ≠ "java/lang/invoke/VarHandle" ∧ (parseMethodDescriptor yX0_distance.desc).map (fun d => d.parameters.length) = some 4 := by decide +kernel
theorem hdL_X0_feed : yX0_feed.cls = "MergeWorkbenchLaw" ∧ yX0_feed.cls ≠ "java/lang/invoke/MethodHandle" ∧ yX0_feed.cls ≠ "java/lang/invoke/VarHandle" ∧ (parseMethodDescriptor yX0_feed.desc).map (fun d => d.parameters.length) = some 3 := by decide +kernel
theorem hdL_X0_findMoves : yX0_findMoves.cls = "MergeWorkbenchLaw" ∧ yX0_findMoves.cls ≠ "java/lang/invoke/MethodHandle" ∧ yX0_findMoves.cls ≠ "java/lang/invoke/VarHandle" ∧ (parseMethodDescriptor yX0_findMoves.desc).map (fun d => d.parameters.length) = some 3 := by decide +kernel
theorem hdL_X0_hunk : yX0_hunk.cls = "MergeWorkbenchLaw" ∧ yX0_hunk.cls ≠ "java/lang/invoke/MethodHandle" ∧ yX0_hunk.cls ≠ "java/lang/invoke/VarHandle" ∧ (parseMethodDescriptor yX0_hunk.desc).map (fun d => d.parameters.length) = some 4 := by decide +kernel
theorem hdL_X0_insert : yX0_insert.cls = "MergeWorkbenchLaw" ∧ yX0_insert.cls ≠ "java/lang/invoke/MethodHandle" ∧ yX0_insert.cls ≠ "java/lang/invoke/VarHandle" ∧ (parseMethodDescriptor yX0_insert.desc).map (fun d => d.parameters.length) = some 5 := by decide +kernel
theorem hdL_X0_isSame : yX0_isSame.cls = "MergeWorkbenchLaw" ∧ yX0_isSame.cls ≠ "java/lang/invoke/MethodHandle" ∧ yX0_isSame.cls ≠ "java/lang/invoke/VarHandle" ∧ (parseMethodDescriptor yX0_isSame.desc).map (fun d => d.parameters.length) = some 4 := by decide +kernel
theorem hdL_X0_length : yX0_length.cls = "MergeWorkbenchLaw" ∧ yX0_length.cls ≠ "java/lang/invoke/MethodHandle" ∧ yX0_length.cls ≠ "java/lang/invoke/VarHandle" ∧ (parseMethodDescriptor yX0_length.desc).map (fun d => d.parameters.length) = some 3 := by decide +kernel
theorem hdL_X0_line : yX0_line.cls = "MergeWorkbenchLaw" ∧ yX0_line.cls ≠ "java/lang/invoke/MethodHandle" ∧ yX0_line.cls ≠ "java/lang/invoke/VarHandle" ∧ (parseMethodDescriptor yX0_line.desc).map (fun d => d.parameters.length) = some 4 := by decide +kernel
theorem hdL_X0_makePatch : yX0_makePatch.cls = "MergeWorkbenchLaw" ∧ yX0_makePatch.cls ≠ "java/lang/invoke/MethodHandle" ∧ yX0_makePatch.cls ≠ "java/lang/invoke/VarHandle" ∧ (parseMethodDescriptor yX0_makePatch.desc).map (fun d => d.parameters.length) = some 3 := by decide +kernel
theorem hdL_X0_merge : yX0_merge.cls = "MergeWorkbenchLaw" ∧ yX0_merge.cls ≠ "java/lang/invoke/MethodHandle" ∧ yX0_merge.cls ≠ "java/lang/invoke/VarHandle" ∧ (parseMethodDescriptor yX0_merge.desc).map (fun d => d.parameters.length) = some 5 := by decide +kernel
theorem hdL_X0_merged : yX0_merged.cls = "MergeWorkbenchLaw" ∧ yX0_merged.cls ≠ "java/lang/invoke/MethodHandle" ∧ yX0_merged.cls ≠ "java/lang/invoke/VarHandle" ∧ (parseMethodDescriptor yX0_merged.desc).map (fun d => d.parameters.length) = some 3 := by decide +kernel
theorem hdL_X0_mergedLength : yX0_mergedLength.cls = "MergeWorkbenchLaw" ∧ yX0_mergedLength.cls ≠ "java/lang/invoke/MethodHandle" ∧ yX0_mergedLength.cls ≠ "java/lang/invoke/VarHandle" ∧ (parseMethodDescriptor yX0_mergedLength.desc).map (fun d => d.parameters.length) = some 2 := by decide +kernel
theorem hdL_X0_move : yX0_move.cls = "MergeWorkbenchLaw" ∧ yX0_move.cls ≠ "java/lang/invoke/MethodHandle" ∧ yX0_move.cls ≠ "java/lang/invoke/VarHandle" ∧ (parseMethodDescriptor yX0_move.desc).map (fun d => d.parameters.length) = some 4 := by decide +kernel
theorem hdL_X0_outcome : yX0_outcome.cls = "MergeWorkbenchLaw" ∧ yX0_outcome.cls ≠ "java/lang/invoke/MethodHandle" ∧ yX0_outcome.cls ≠ "java/lang/invoke/VarHandle" ∧ (parseMethodDescriptor yX0_outcome.desc).map (fun d => d.parameters.length) = some 4 := by decide +kernel
theorem hdL_X0_partner : yX0_partner.cls = "MergeWorkbenchLaw" ∧ yX0_partner.cls ≠ "java/lang/invoke/MethodHandle" ∧ yX0_partner.cls ≠ "java/lang/invoke/VarHandle" ∧ (parseMethodDescriptor yX0_partner.desc).map (fun d => d.parameters.length) = some 3 := by decide +kernel
theorem hdL_X0_readDocument : yX0_readDocument.cls = "MergeWorkbenchLaw" ∧ yX0_readDocument.cls ≠ "java/lang/invoke/MethodHandle" ∧ yX0_readDocument.cls ≠ "java/lang/invoke/VarHandle" ∧ (parseMethodDescriptor yX0_readDocument.desc).map (fun d => d.parameters.length) = some 3 := by decide +kernel
theorem hdL_X0_resolve : yX0_resolve.cls = "MergeWorkbenchLaw" ∧ yX0_resolve.cls ≠ "java/lang/invoke/MethodHandle" ∧ yX0_resolve.cls ≠ "java/lang/invoke/VarHandle" ∧ (parseMethodDescriptor yX0_resolve.desc).map (fun d => d.parameters.length) = some 4 := by decide +kernel
theorem hdL_X0_restore : yX0_restore.cls = "MergeWorkbenchLaw" ∧ yX0_restore.cls ≠ "java/lang/invoke/MethodHandle" ∧ yX0_restore.cls ≠ "java/lang/invoke/VarHandle" ∧ (parseMethodDescriptor yX0_restore.desc).map (fun d => d.parameters.length) = some 2 := by decide +kernel
theorem hdL_X0_setMode : yX0_setMode.cls = "MergeWorkbenchLaw" ∧ yX0_setMode.cls ≠ "java/lang/invoke/MethodHandle" ∧ yX0_setMode.cls ≠ "java/lang/invoke/VarHandle" ∧ (parseMethodDescriptor yX0_setMode.desc).map (fun d => d.parameters.length) = some 3 := by decide +kernel
theorem hdL_X0_similarity : yX0_similarity.cls = "MergeWorkbenchLaw" ∧ yX0_similarity.cls ≠ "java/lang/invoke/MethodHandle" ∧ yX0_similarity.cls ≠ "java/lang/invoke/VarHandle" ∧ (parseMethodDescriptor yX0_similarity.desc).map (fun d => d.parameters.length) = some 2 := by decide +kernel
theorem hdL_X0_step : yX0_step.cls = "MergeWorkbenchLaw" ∧ yX0_step.cls ≠ "java/lang/invoke/MethodHandle" ∧ yX0_step.cls ≠ "java/lang/invoke/VarHandle" ∧ (parseMethodDescriptor yX0_step.desc).map (fun d => d.parameters.length) = some 3 := by decide +kernel
theorem hdL_X0_undo : yX0_undo.cls = "MergeWorkbenchLaw" ∧ yX0_undo.cls ≠ "java/lang/invoke/MethodHandle" ∧ yX0_undo.cls ≠ "java/lang/invoke/VarHandle" ∧ (parseMethodDescriptor yX0_undo.desc).map (fun d => d.parameters.length) = some 2 := by decide +kernel
theorem hdL_X0_unresolved : yX0_unresolved.cls = "MergeWorkbenchLaw" ∧ yX0_unresolved.cls ≠ "java/lang/invoke/MethodHandle" ∧ yX0_unresolved.cls ≠ "java/lang/invoke/VarHandle" ∧ (parseMethodDescriptor yX0_unresolved.desc).map (fun d => d.parameters.length) = some 2 := by decide +kernel
theorem hdL_X1_init : yX1_init.cls = "MergeWorkbench" ∧ yX1_init.cls ≠ "java/lang/invoke/MethodHandle" ∧ yX1_init.cls ≠ "java/lang/invoke/VarHandle" ∧ (parseMethodDescriptor yX1_init.desc).map (fun d => d.parameters.length) = some 0 := by decide +kernel
theorem hdL_X1_save : yX1_save.cls = "MergeWorkbench" ∧ yX1_save.cls ≠ "java/lang/invoke/MethodHandle" ∧ yX1_save.cls ≠ "java/lang/invoke/VarHandle" ∧ (parseMethodDescriptor yX1_save.desc).map (fun d => d.parameters.length) = some 0 := by decide +kernel
theorem hdL_X1_setShrinking : yX1_setShrinking.cls = "MergeWorkbench" ∧ yX1_setShrinking.cls ≠ "java/lang/invoke/MethodHandle" ∧ yX1_setShrinking.cls ≠ "java/lang/invoke/VarHandle" ∧ (parseMethodDescriptor yX1_setShrinking.desc).map (fun d => d.parameters.length) = some 1 := by decide +kernel
theorem hdL_X3_accept : yX3_accept.cls = "MergeWorkbenchModel" ∧ yX3_accept.cls ≠ "java/lang/invoke/MethodHandle" ∧ yX3_accept.cls ≠ "java/lang/invoke/VarHandle" ∧ (parseMethodDescriptor yX3_accept.desc).map (fun d => d.parameters.length) = some 1 := by decide +kernel
theorem hdL_X3_anchors : yX3_anchors.cls = "MergeWorkbenchModel" ∧ yX3_anchors.cls ≠ "java/lang/invoke/MethodHandle" ∧ yX3_anchors.cls ≠ "java/lang/invoke/VarHandle" ∧ (parseMethodDescriptor yX3_anchors.desc).map (fun d => d.parameters.length) = some 0 := by decide +kernel
theorem hdL_X3_append : yX3_append.cls = "MergeWorkbenchModel" ∧ yX3_append.cls ≠ "java/lang/invoke/MethodHandle" ∧ yX3_append.cls ≠ "java/lang/invoke/VarHandle" ∧ (parseMethodDescriptor yX3_append.desc).map (fun d => d.parameters.length) = some 2 := by decide +kernel
theorem hdL_X3_apply : yX3_apply.cls = "MergeWorkbenchModel" ∧ yX3_apply.cls ≠ "java/lang/invoke/MethodHandle" ∧ yX3_apply.cls ≠ "java/lang/invoke/VarHandle" ∧ (parseMethodDescriptor yX3_apply.desc).map (fun d => d.parameters.length) = some 3 := by decide +kernel
theorem hdL_X3_chunk : yX3_chunk.cls = "MergeWorkbenchModel" ∧ yX3_chunk.cls ≠ "java/lang/invoke/MethodHandle" ∧ yX3_chunk.cls ≠ "java/lang/invoke/VarHandle" ∧ (parseMethodDescriptor yX3_chunk.desc).map (fun d => d.parameters.length) = some 2 := by decide +kernel
theorem hdL_X3_chunks : yX3_chunks.cls = "MergeWorkbenchModel" ∧ yX3_chunks.cls ≠ "java/lang/invoke/MethodHandle" ∧ yX3_chunks.cls ≠ "java/lang/invoke/VarHandle" ∧ (parseMethodDescriptor yX3_chunks.desc).map (fun d => d.parameters.length) = some 0 := by decide +kernel
theorem hdL_X3_compare : yX3_compare.cls = "MergeWorkbenchModel" ∧ yX3_compare.cls ≠ "java/lang/invoke/MethodHandle" ∧ yX3_compare.cls ≠ "java/lang/invoke/VarHandle" ∧ (parseMethodDescriptor yX3_compare.desc).map (fun d => d.parameters.length) = some 2 := by decide +kernel
theorem hdL_X3_copy : yX3_copy.cls = "MergeWorkbenchModel" ∧ yX3_copy.cls ≠ "java/lang/invoke/MethodHandle" ∧ yX3_copy.cls ≠ "java/lang/invoke/VarHandle" ∧ (parseMethodDescriptor yX3_copy.desc).map (fun d => d.parameters.length) = some 2 := by decide +kernel
theorem hdL_X3_delete : yX3_delete.cls = "MergeWorkbenchModel" ∧ yX3_delete.cls ≠ "java/lang/invoke/MethodHandle" ∧ yX3_delete.cls ≠ "java/lang/invoke/VarHandle" ∧ (parseMethodDescriptor yX3_delete.desc).map (fun d => d.parameters.length) = some 2 := by decide +kernel
theorem hdL_X3_difference : yX3_difference.cls = "MergeWorkbenchModel" ∧ yX3_difference.cls ≠ "java/lang/invoke/MethodHandle" ∧ yX3_difference.cls ≠ "java/lang/invoke/VarHandle" ∧ (parseMethodDescriptor yX3_difference.desc).map (fun d => d.parameters.length) = some 2 := by decide +kernel
theorem hdL_X3_differences : yX3_differences.cls = "MergeWorkbenchModel" ∧ yX3_differences.cls ≠ "java/lang/invoke/MethodHandle" ∧ yX3_differences.cls ≠ "java/lang/invoke/VarHandle" ∧ (parseMethodDescriptor yX3_differences.desc).map (fun d => d.parameters.length) = some 0 := by decide +kernel
theorem hdL_X3_distance : yX3_distance.cls = "MergeWorkbenchModel" ∧ yX3_distance.cls ≠ "java/lang/invoke/MethodHandle" ∧ yX3_distance.cls ≠ "java/lang/invoke/VarHandle" ∧ (parseMethodDescriptor yX3_distance.desc).map (fun d => d.parameters.length) = some 2 := by decide +kernel
theorem hdL_X3_feed : yX3_feed.cls = "MergeWorkbenchModel" ∧ yX3_feed.cls ≠ "java/lang/invoke/MethodHandle" ∧ yX3_feed.cls ≠ "java/lang/invoke/VarHandle" ∧ (parseMethodDescriptor yX3_feed.desc).map (fun d => d.parameters.length) = some 1 := by decide +kernel
theorem hdL_X3_findMoves : yX3_findMoves.cls = "MergeWorkbenchModel" ∧ yX3_findMoves.cls ≠ "java/lang/invoke/MethodHandle" ∧ yX3_findMoves.cls ≠ "java/lang/invoke/VarHandle" ∧ (parseMethodDescriptor yX3_findMoves.desc).map (fun d => d.parameters.length) = some 1 := by decide +kernel
theorem hdL_X3_hunk : yX3_hunk.cls = "MergeWorkbenchModel" ∧ yX3_hunk.cls ≠ "java/lang/invoke/MethodHandle" ∧ yX3_hunk.cls ≠ "java/lang/invoke/VarHandle" ∧ (parseMethodDescriptor yX3_hunk.desc).map (fun d => d.parameters.length) = some 2 := by decide +kernel
theorem hdL_X3_init : yX3_init.cls = "MergeWorkbenchModel" ∧ yX3_init.cls ≠ "java/lang/invoke/MethodHandle" ∧ yX3_init.cls ≠ "java/lang/invoke/VarHandle" ∧ (parseMethodDescriptor yX3_init.desc).map (fun d => d.parameters.length) = some 0 := by decide +kernel
theorem hdL_X3_insert : yX3_insert.cls = "MergeWorkbenchModel" ∧ yX3_insert.cls ≠ "java/lang/invoke/MethodHandle" ∧ yX3_insert.cls ≠ "java/lang/invoke/VarHandle" ∧ (parseMethodDescriptor yX3_insert.desc).map (fun d => d.parameters.length) = some 3 := by decide +kernel
theorem hdL_X3_isSame : yX3_isSame.cls = "MergeWorkbenchModel" ∧ yX3_isSame.cls ≠ "java/lang/invoke/MethodHandle" ∧ yX3_isSame.cls ≠ "java/lang/invoke/VarHandle" ∧ (parseMethodDescriptor yX3_isSame.desc).map (fun d => d.parameters.length) = some 2 := by decide +kernel
theorem hdL_X3_length : yX3_length.cls = "MergeWorkbenchModel" ∧ yX3_length.cls ≠ "java/lang/invoke/MethodHandle" ∧ yX3_length.cls ≠ "java/lang/invoke/VarHandle" ∧ (parseMethodDescriptor yX3_length.desc).map (fun d => d.parameters.length) = some 1 := by decide +kernel
theorem hdL_X3_line : yX3_line.cls = "MergeWorkbenchModel" ∧ yX3_line.cls ≠ "java/lang/invoke/MethodHandle" ∧ yX3_line.cls ≠ "java/lang/invoke/VarHandle" ∧ (parseMethodDescriptor yX3_line.desc).map (fun d => d.parameters.length) = some 2 := by decide +kernel
theorem hdL_X3_makePatch : yX3_makePatch.cls = "MergeWorkbenchModel" ∧ yX3_makePatch.cls ≠ "java/lang/invoke/MethodHandle" ∧ yX3_makePatch.cls ≠ "java/lang/invoke/VarHandle" ∧ (parseMethodDescriptor yX3_makePatch.desc).map (fun d => d.parameters.length) = some 1 := by decide +kernel
theorem hdL_X3_merge : yX3_merge.cls = "MergeWorkbenchModel" ∧ yX3_merge.cls ≠ "java/lang/invoke/MethodHandle" ∧ yX3_merge.cls ≠ "java/lang/invoke/VarHandle" ∧ (parseMethodDescriptor yX3_merge.desc).map (fun d => d.parameters.length) = some 3 := by decide +kernel
theorem hdL_X3_merged : yX3_merged.cls = "MergeWorkbenchModel" ∧ yX3_merged.cls ≠ "java/lang/invoke/MethodHandle" ∧ yX3_merged.cls ≠ "java/lang/invoke/VarHandle" ∧ (parseMethodDescriptor yX3_merged.desc).map (fun d => d.parameters.length) = some 1 := by decide +kernel
theorem hdL_X3_mergedLength : yX3_mergedLength.cls = "MergeWorkbenchModel" ∧ yX3_mergedLength.cls ≠ "java/lang/invoke/MethodHandle" ∧ yX3_mergedLength.cls ≠ "java/lang/invoke/VarHandle" ∧ (parseMethodDescriptor yX3_mergedLength.desc).map (fun d => d.parameters.length) = some 0 := by decide +kernel
theorem hdL_X3_move : yX3_move.cls = "MergeWorkbenchModel" ∧ yX3_move.cls ≠ "java/lang/invoke/MethodHandle" ∧ yX3_move.cls ≠ "java/lang/invoke/VarHandle" ∧ (parseMethodDescriptor yX3_move.desc).map (fun d => d.parameters.length) = some 2 := by decide +kernel
theorem hdL_X3_outcome : yX3_outcome.cls = "MergeWorkbenchModel" ∧ yX3_outcome.cls ≠ "java/lang/invoke/MethodHandle" ∧ yX3_outcome.cls ≠ "java/lang/invoke/VarHandle" ∧ (parseMethodDescriptor yX3_outcome.desc).map (fun d => d.parameters.length) = some 2 := by decide +kernel
theorem hdL_X3_partner : yX3_partner.cls = "MergeWorkbenchModel" ∧ yX3_partner.cls ≠ "java/lang/invoke/MethodHandle" ∧ yX3_partner.cls ≠ "java/lang/invoke/VarHandle" ∧ (parseMethodDescriptor yX3_partner.desc).map (fun d => d.parameters.length) = some 1 := by decide +kernel
theorem hdL_X3_readDocument : yX3_readDocument.cls = "MergeWorkbenchModel" ∧ yX3_readDocument.cls ≠ "java/lang/invoke/MethodHandle" ∧ yX3_readDocument.cls ≠ "java/lang/invoke/VarHandle" ∧ (parseMethodDescriptor yX3_readDocument.desc).map (fun d => d.parameters.length) = some 1 := by decide +kernel
theorem hdL_X3_resolve : yX3_resolve.cls = "MergeWorkbenchModel" ∧ yX3_resolve.cls ≠ "java/lang/invoke/MethodHandle" ∧ yX3_resolve.cls ≠ "java/lang/invoke/VarHandle" ∧ (parseMethodDescriptor yX3_resolve.desc).map (fun d => d.parameters.length) = some 2 := by decide +kernel
theorem hdL_X3_restore : yX3_restore.cls = "MergeWorkbenchModel" ∧ yX3_restore.cls ≠ "java/lang/invoke/MethodHandle" ∧ yX3_restore.cls ≠ "java/lang/invoke/VarHandle" ∧ (parseMethodDescriptor yX3_restore.desc).map (fun d => d.parameters.length) = some 0 := by decide +kernel
theorem hdL_X3_save : yX3_save.cls = "MergeWorkbenchModel" ∧ yX3_save.cls ≠ "java/lang/invoke/MethodHandle" ∧ yX3_save.cls ≠ "java/lang/invoke/VarHandle" ∧ (parseMethodDescriptor yX3_save.desc).map (fun d => d.parameters.length) = some 0 := by decide +kernel
theorem hdL_X3_setMode : yX3_setMode.cls = "MergeWorkbenchModel" ∧ yX3_setMode.cls ≠ "java/lang/invoke/MethodHandle" ∧ yX3_setMode.cls ≠ "java/lang/invoke/VarHandle" ∧ (parseMethodDescriptor yX3_setMode.desc).map (fun d => d.parameters.length) = some 1 := by decide +kernel
theorem hdL_X3_setShrinking : yX3_setShrinking.cls = "MergeWorkbenchModel" ∧ yX3_setShrinking.cls ≠ "java/lang/invoke/MethodHandle" ∧ yX3_setShrinking.cls ≠ "java/lang/invoke/VarHandle" ∧ (parseMethodDescriptor yX3_setShrinking.desc).map (fun d => d.parameters.length) = some 1 := by decide +kernel
theorem hdL_X3_similarity : yX3_similarity.cls = "MergeWorkbenchModel" ∧ yX3_similarity.cls ≠ "java/lang/invoke/MethodHandle" ∧ yX3_similarity.cls ≠ "java/lang/invoke/VarHandle" ∧ (parseMethodDescriptor yX3_similarity.desc).map (fun d => d.parameters.length) = some 0 := by decide +kernel
theorem hdL_X3_step : yX3_step.cls = "MergeWorkbenchModel" ∧ yX3_step.cls ≠ "java/lang/invoke/MethodHandle" ∧ yX3_step.cls ≠ "java/lang/invoke/VarHandle" ∧ (parseMethodDescriptor yX3_step.desc).map (fun d => d.parameters.length) = some 1 := by decide +kernel
theorem hdL_X3_thrown : yX3_thrown.cls = "MergeWorkbenchModel" ∧ yX3_thrown.cls ≠ "java/lang/invoke/MethodHandle" ∧ yX3_thrown.cls ≠ "java/lang/invoke/VarHandle" ∧ (parseMethodDescriptor yX3_thrown.desc).map (fun d => d.parameters.length) = some 0 := by decide +kernel
theorem hdL_X3_undo : yX3_undo.cls = "MergeWorkbenchModel" ∧ yX3_undo.cls ≠ "java/lang/invoke/MethodHandle" ∧ yX3_undo.cls ≠ "java/lang/invoke/VarHandle" ∧ (parseMethodDescriptor yX3_undo.desc).map (fun d => d.parameters.length) = some 0 := by decide +kernel
theorem hdL_X3_unresolved : yX3_unresolved.cls = "MergeWorkbenchModel" ∧ yX3_unresolved.cls ≠ "java/lang/invoke/MethodHandle" ∧ yX3_unresolved.cls ≠ "java/lang/invoke/VarHandle" ∧ (parseMethodDescriptor yX3_unresolved.desc).map (fun d => d.parameters.length) = some 0 := by decide +kernel
theorem sw_out0_35 {x : Int32} (h0 : ¬ x = (0 : Int32)) (h1 : ¬ x = (1 : Int32)) (h2 : ¬ x = (2 : Int32)) (h3 : ¬ x = (3 : Int32)) (h4 : ¬ x = (4 : Int32)) (h5 : ¬ x = (5 : Int32)) (h6 : ¬ x = (6 : Int32)) (h7 : ¬ x = (7 : Int32)) (h8 : ¬ x = (8 : Int32)) (h9 : ¬ x = (9 : Int32)) (h10 : ¬ x = (10 : Int32)) (h11 : ¬ x = (11 : Int32)) (h12 : ¬ x = (12 : Int32)) (h13 : ¬ x = (13 : Int32)) (h14 : ¬ x = (14 : Int32)) (h15 : ¬ x = (15 : Int32)) (h16 : ¬ x = (16 : Int32)) (h17 : ¬ x = (17 : Int32)) (h18 : ¬ x = (18 : Int32)) (h19 : ¬ x = (19 : Int32)) (h20 : ¬ x = (20 : Int32)) (h21 : ¬ x = (21 : Int32)) (h22 : ¬ x = (22 : Int32)) (h23 : ¬ x = (23 : Int32)) (h24 : ¬ x = (24 : Int32)) (h25 : ¬ x = (25 : Int32)) (h26 : ¬ x = (26 : Int32)) (h27 : ¬ x = (27 : Int32)) (h28 : ¬ x = (28 : Int32)) (h29 : ¬ x = (29 : Int32)) (h30 : ¬ x = (30 : Int32)) (h31 : ¬ x = (31 : Int32)) (h32 : ¬ x = (32 : Int32)) (h33 : ¬ x = (33 : Int32)) (h34 : ¬ x = (34 : Int32)) (h35 : ¬ x = (35 : Int32)) : x.toInt < 0 ∨ 35 < x.toInt := by
  rcases Int.lt_or_le x.toInt (0) with hy | hy
  · exact Or.inl hy
  · rcases Int.lt_or_le (35) x.toInt with hz | hz
    · exact Or.inr hz
    · exfalso
      rcases (show x.toInt = 0 ∨ x.toInt = 1 ∨ x.toInt = 2 ∨ x.toInt = 3 ∨ x.toInt = 4 ∨ x.toInt = 5 ∨ x.toInt = 6 ∨ x.toInt = 7 ∨ x.toInt = 8 ∨ x.toInt = 9 ∨ x.toInt = 10 ∨ x.toInt = 11 ∨ x.toInt = 12 ∨ x.toInt = 13 ∨ x.toInt = 14 ∨ x.toInt = 15 ∨ x.toInt = 16 ∨ x.toInt = 17 ∨ x.toInt = 18 ∨ x.toInt = 19 ∨ x.toInt = 20 ∨ x.toInt = 21 ∨ x.toInt = 22 ∨ x.toInt = 23 ∨ x.toInt = 24 ∨ x.toInt = 25 ∨ x.toInt = 26 ∨ x.toInt = 27 ∨ x.toInt = 28 ∨ x.toInt = 29 ∨ x.toInt = 30 ∨ x.toInt = 31 ∨ x.toInt = 32 ∨ x.toInt = 33 ∨ x.toInt = 34 ∨ x.toInt = 35 by omega) with e | e | e | e | e | e | e | e | e | e | e | e | e | e | e | e | e | e | e | e | e | e | e | e | e | e | e | e | e | e | e | e | e | e | e | e
      · exact h0 (sw_toInt e (by decide))
      · exact h1 (sw_toInt e (by decide))
      · exact h2 (sw_toInt e (by decide))
      · exact h3 (sw_toInt e (by decide))
      · exact h4 (sw_toInt e (by decide))
      · exact h5 (sw_toInt e (by decide))
      · exact h6 (sw_toInt e (by decide))
      · exact h7 (sw_toInt e (by decide))
      · exact h8 (sw_toInt e (by decide))
      · exact h9 (sw_toInt e (by decide))
      · exact h10 (sw_toInt e (by decide))
      · exact h11 (sw_toInt e (by decide))
      · exact h12 (sw_toInt e (by decide))
      · exact h13 (sw_toInt e (by decide))
      · exact h14 (sw_toInt e (by decide))
      · exact h15 (sw_toInt e (by decide))
      · exact h16 (sw_toInt e (by decide))
      · exact h17 (sw_toInt e (by decide))
      · exact h18 (sw_toInt e (by decide))
      · exact h19 (sw_toInt e (by decide))
      · exact h20 (sw_toInt e (by decide))
      · exact h21 (sw_toInt e (by decide))
      · exact h22 (sw_toInt e (by decide))
      · exact h23 (sw_toInt e (by decide))
      · exact h24 (sw_toInt e (by decide))
      · exact h25 (sw_toInt e (by decide))
      · exact h26 (sw_toInt e (by decide))
      · exact h27 (sw_toInt e (by decide))
      · exact h28 (sw_toInt e (by decide))
      · exact h29 (sw_toInt e (by decide))
      · exact h30 (sw_toInt e (by decide))
      · exact h31 (sw_toInt e (by decide))
      · exact h32 (sw_toInt e (by decide))
      · exact h33 (sw_toInt e (by decide))
      · exact h34 (sw_toInt e (by decide))
      · exact h35 (sw_toInt e (by decide))
def w_L_law_2340 (g : gT) (F : Nat) (a0 : Nat) (L : Nat) (xs : Nat → Int32) (K28 : (Option Nat) → (Option Nat) → (Option Nat) → (Option Nat) → Int32 → hM → Prop) (v1 : Option Nat) (v2 : Option Nat) (v3 : Option Nat) (v4 : Option Nat) (v5 : Int32) (M : hM) : Prop :=
  K28 v1 v2 v3 v4 (v5 + (4 : Int32)) M
def w_L_law_269 (g : gT) (F : Nat) (a0 : Nat) (L : Nat) (xs : Nat → Int32) (K28 : (Option Nat) → (Option Nat) → (Option Nat) → (Option Nat) → Int32 → hM → Prop) (v1 : Option Nat) (v2 : Option Nat) (v3 : Option Nat) (v4 : Option Nat) (v5 : Int32) (M : hM) : Prop :=
  w_L_law_2340 g F a0 L xs K28 v1 v2 v3 v4 v5 M
def w_L_law_349 (g : gT) (F : Nat) (a0 : Nat) (L : Nat) (xs : Nat → Int32) (K28 : (Option Nat) → (Option Nat) → (Option Nat) → (Option Nat) → Int32 → hM → Prop) (v1 : Option Nat) (v2 : Option Nat) (v3 : Option Nat) (v4 : Option Nat) (v5 : Int32) (M : hM) : Prop :=
  w_L_law_2340 g F a0 L xs K28 v1 v2 v3 v4 v5 M
def w_L_law_417 (g : gT) (F : Nat) (a0 : Nat) (L : Nat) (xs : Nat → Int32) (K28 : (Option Nat) → (Option Nat) → (Option Nat) → (Option Nat) → Int32 → hM → Prop) (v1 : Option Nat) (v2 : Option Nat) (v3 : Option Nat) (v4 : Option Nat) (v5 : Int32) (M : hM) : Prop :=
  w_L_law_2340 g F a0 L xs K28 v1 v2 v3 v4 v5 M
def w_L_law_473 (g : gT) (F : Nat) (a0 : Nat) (L : Nat) (xs : Nat → Int32) (K28 : (Option Nat) → (Option Nat) → (Option Nat) → (Option Nat) → Int32 → hM → Prop) (v1 : Option Nat) (v2 : Option Nat) (v3 : Option Nat) (v4 : Option Nat) (v5 : Int32) (M : hM) : Prop :=
  w_L_law_2340 g F a0 L xs K28 v1 v2 v3 v4 v5 M
def w_L_law_541 (g : gT) (F : Nat) (a0 : Nat) (L : Nat) (xs : Nat → Int32) (K28 : (Option Nat) → (Option Nat) → (Option Nat) → (Option Nat) → Int32 → hM → Prop) (v1 : Option Nat) (v2 : Option Nat) (v3 : Option Nat) (v4 : Option Nat) (v5 : Int32) (M : hM) : Prop :=
  w_L_law_2340 g F a0 L xs K28 v1 v2 v3 v4 v5 M
def w_L_law_609 (g : gT) (F : Nat) (a0 : Nat) (L : Nat) (xs : Nat → Int32) (K28 : (Option Nat) → (Option Nat) → (Option Nat) → (Option Nat) → Int32 → hM → Prop) (v1 : Option Nat) (v2 : Option Nat) (v3 : Option Nat) (v4 : Option Nat) (v5 : Int32) (M : hM) : Prop :=
  w_L_law_2340 g F a0 L xs K28 v1 v2 v3 v4 v5 M
def w_L_law_684 (g : gT) (F : Nat) (a0 : Nat) (L : Nat) (xs : Nat → Int32) (K28 : (Option Nat) → (Option Nat) → (Option Nat) → (Option Nat) → Int32 → hM → Prop) (v1 : Option Nat) (v2 : Option Nat) (v3 : Option Nat) (v4 : Option Nat) (v5 : Int32) (M : hM) : Prop :=
  w_L_law_2340 g F a0 L xs K28 v1 v2 v3 v4 v5 M
def w_L_law_678 (g : gT) (F : Nat) (a0 : Nat) (L : Nat) (xs : Nat → Int32) (K28 : (Option Nat) → (Option Nat) → (Option Nat) → (Option Nat) → Int32 → hM → Prop) (v1 : Option Nat) (v2 : Option Nat) (v3 : Option Nat) (v4 : Option Nat) (v5 : Int32) (s0 : Int64) (s1 : Int64) (M : hM) : Prop :=
  (((lg_cmp s0 s1) = 0 → w_L_law_684 g F a0 L xs K28 v1 v2 v3 v4 v5 M) ∧ (¬ ((lg_cmp s0 s1) = 0) → False))
def w_L_law_752 (g : gT) (F : Nat) (a0 : Nat) (L : Nat) (xs : Nat → Int32) (K28 : (Option Nat) → (Option Nat) → (Option Nat) → (Option Nat) → Int32 → hM → Prop) (v1 : Option Nat) (v2 : Option Nat) (v3 : Option Nat) (v4 : Option Nat) (v5 : Int32) (M : hM) : Prop :=
  w_L_law_2340 g F a0 L xs K28 v1 v2 v3 v4 v5 M
def w_L_law_810 (g : gT) (F : Nat) (a0 : Nat) (L : Nat) (xs : Nat → Int32) (K28 : (Option Nat) → (Option Nat) → (Option Nat) → (Option Nat) → Int32 → hM → Prop) (v1 : Option Nat) (v2 : Option Nat) (v3 : Option Nat) (v4 : Option Nat) (v5 : Int32) (M : hM) : Prop :=
  w_L_law_2340 g F a0 L xs K28 v1 v2 v3 v4 v5 M
def w_L_law_866 (g : gT) (F : Nat) (a0 : Nat) (L : Nat) (xs : Nat → Int32) (K28 : (Option Nat) → (Option Nat) → (Option Nat) → (Option Nat) → Int32 → hM → Prop) (v1 : Option Nat) (v2 : Option Nat) (v3 : Option Nat) (v4 : Option Nat) (v5 : Int32) (M : hM) : Prop :=
  w_L_law_2340 g F a0 L xs K28 v1 v2 v3 v4 v5 M
def w_L_law_922 (g : gT) (F : Nat) (a0 : Nat) (L : Nat) (xs : Nat → Int32) (K28 : (Option Nat) → (Option Nat) → (Option Nat) → (Option Nat) → Int32 → hM → Prop) (v1 : Option Nat) (v2 : Option Nat) (v3 : Option Nat) (v4 : Option Nat) (v5 : Int32) (M : hM) : Prop :=
  w_L_law_2340 g F a0 L xs K28 v1 v2 v3 v4 v5 M
def w_L_law_990 (g : gT) (F : Nat) (a0 : Nat) (L : Nat) (xs : Nat → Int32) (K28 : (Option Nat) → (Option Nat) → (Option Nat) → (Option Nat) → Int32 → hM → Prop) (v1 : Option Nat) (v2 : Option Nat) (v3 : Option Nat) (v4 : Option Nat) (v5 : Int32) (M : hM) : Prop :=
  w_L_law_2340 g F a0 L xs K28 v1 v2 v3 v4 v5 M
def w_L_law_1046 (g : gT) (F : Nat) (a0 : Nat) (L : Nat) (xs : Nat → Int32) (K28 : (Option Nat) → (Option Nat) → (Option Nat) → (Option Nat) → Int32 → hM → Prop) (v1 : Option Nat) (v2 : Option Nat) (v3 : Option Nat) (v4 : Option Nat) (v5 : Int32) (M : hM) : Prop :=
  w_L_law_2340 g F a0 L xs K28 v1 v2 v3 v4 v5 M
def w_L_law_1090 (g : gT) (F : Nat) (a0 : Nat) (L : Nat) (xs : Nat → Int32) (K28 : (Option Nat) → (Option Nat) → (Option Nat) → (Option Nat) → Int32 → hM → Prop) (v1 : Option Nat) (v2 : Option Nat) (v3 : Option Nat) (v4 : Option Nat) (v5 : Int32) (M : hM) : Prop :=
  w_L_law_2340 g F a0 L xs K28 v1 v2 v3 v4 v5 M
def w_L_law_1134 (g : gT) (F : Nat) (a0 : Nat) (L : Nat) (xs : Nat → Int32) (K28 : (Option Nat) → (Option Nat) → (Option Nat) → (Option Nat) → Int32 → hM → Prop) (v1 : Option Nat) (v2 : Option Nat) (v3 : Option Nat) (v4 : Option Nat) (v5 : Int32) (M : hM) : Prop :=
  w_L_law_2340 g F a0 L xs K28 v1 v2 v3 v4 v5 M
def w_L_law_1202 (g : gT) (F : Nat) (a0 : Nat) (L : Nat) (xs : Nat → Int32) (K28 : (Option Nat) → (Option Nat) → (Option Nat) → (Option Nat) → Int32 → hM → Prop) (v1 : Option Nat) (v2 : Option Nat) (v3 : Option Nat) (v4 : Option Nat) (v5 : Int32) (M : hM) : Prop :=
  w_L_law_2340 g F a0 L xs K28 v1 v2 v3 v4 v5 M
def w_L_law_1258 (g : gT) (F : Nat) (a0 : Nat) (L : Nat) (xs : Nat → Int32) (K28 : (Option Nat) → (Option Nat) → (Option Nat) → (Option Nat) → Int32 → hM → Prop) (v1 : Option Nat) (v2 : Option Nat) (v3 : Option Nat) (v4 : Option Nat) (v5 : Int32) (M : hM) : Prop :=
  w_L_law_2340 g F a0 L xs K28 v1 v2 v3 v4 v5 M
def w_L_law_1323 (g : gT) (F : Nat) (a0 : Nat) (L : Nat) (xs : Nat → Int32) (K28 : (Option Nat) → (Option Nat) → (Option Nat) → (Option Nat) → Int32 → hM → Prop) (v1 : Option Nat) (v2 : Option Nat) (v3 : Option Nat) (v4 : Option Nat) (v5 : Int32) (M : hM) : Prop :=
  w_L_law_2340 g F a0 L xs K28 v1 v2 v3 v4 v5 M
def w_L_law_1321 (g : gT) (F : Nat) (a0 : Nat) (L : Nat) (xs : Nat → Int32) (M : hM) : Prop :=
  False
def w_L_law_1379 (g : gT) (F : Nat) (a0 : Nat) (L : Nat) (xs : Nat → Int32) (K28 : (Option Nat) → (Option Nat) → (Option Nat) → (Option Nat) → Int32 → hM → Prop) (v1 : Option Nat) (v2 : Option Nat) (v3 : Option Nat) (v4 : Option Nat) (v5 : Int32) (M : hM) : Prop :=
  w_L_law_2340 g F a0 L xs K28 v1 v2 v3 v4 v5 M
def w_L_law_1447 (g : gT) (F : Nat) (a0 : Nat) (L : Nat) (xs : Nat → Int32) (K28 : (Option Nat) → (Option Nat) → (Option Nat) → (Option Nat) → Int32 → hM → Prop) (v1 : Option Nat) (v2 : Option Nat) (v3 : Option Nat) (v4 : Option Nat) (v5 : Int32) (M : hM) : Prop :=
  w_L_law_2340 g F a0 L xs K28 v1 v2 v3 v4 v5 M
def w_L_law_1483 (g : gT) (F : Nat) (a0 : Nat) (L : Nat) (xs : Nat → Int32) (K28 : (Option Nat) → (Option Nat) → (Option Nat) → (Option Nat) → Int32 → hM → Prop) (v1 : Option Nat) (v2 : Option Nat) (v3 : Option Nat) (v4 : Option Nat) (v5 : Int32) (s0 : Int32) (s1 : Option Nat) (s2 : Int32) (M : hM) : Prop :=
  gThis M s1 2 fun b2 => w_X3_setShrinking g F b2 s2 M (fun x3 M1 => ((s0 = x3 → w_L_law_2340 g F a0 L xs K28 v1 v2 v3 v4 v5 M1) ∧ (¬ (s0 = x3) → False)))
def w_L_law_1465 (g : gT) (F : Nat) (a0 : Nat) (L : Nat) (xs : Nat → Int32) (K28 : (Option Nat) → (Option Nat) → (Option Nat) → (Option Nat) → Int32 → hM → Prop) (v1 : Option Nat) (v2 : Option Nat) (v3 : Option Nat) (v4 : Option Nat) (v5 : Int32) (s0 : Option Nat) (s1 : Int32) (M : hM) : Prop :=
  gThis M s0 0 fun b2 => w_X1_setShrinking g F b2 s1 M (fun x3 M1 => sldW L xs (v5 + (1 : Int32)) fun x4 => ((x4 = 0 → w_L_law_1483 g F a0 L xs K28 v1 v2 v3 v4 v5 x3 v2 (0 : Int32) M1) ∧ (¬ (x4 = 0) → w_L_law_1483 g F a0 L xs K28 v1 v2 v3 v4 v5 x3 v2 (1 : Int32) M1)))
def w_L_law_1568 (g : gT) (F : Nat) (a0 : Nat) (L : Nat) (xs : Nat → Int32) (K28 : (Option Nat) → (Option Nat) → (Option Nat) → (Option Nat) → Int32 → hM → Prop) (v1 : Option Nat) (v2 : Option Nat) (v3 : Option Nat) (v4 : Option Nat) (v5 : Int32) (M : hM) : Prop :=
  w_L_law_2340 g F a0 L xs K28 v1 v2 v3 v4 v5 M
def w_L_law_1612 (g : gT) (F : Nat) (a0 : Nat) (L : Nat) (xs : Nat → Int32) (K28 : (Option Nat) → (Option Nat) → (Option Nat) → (Option Nat) → Int32 → hM → Prop) (v1 : Option Nat) (v2 : Option Nat) (v3 : Option Nat) (v4 : Option Nat) (v5 : Int32) (M : hM) : Prop :=
  w_L_law_2340 g F a0 L xs K28 v1 v2 v3 v4 v5 M
def w_L_law_1680 (g : gT) (F : Nat) (a0 : Nat) (L : Nat) (xs : Nat → Int32) (K28 : (Option Nat) → (Option Nat) → (Option Nat) → (Option Nat) → Int32 → hM → Prop) (v1 : Option Nat) (v2 : Option Nat) (v3 : Option Nat) (v4 : Option Nat) (v5 : Int32) (M : hM) : Prop :=
  w_L_law_2340 g F a0 L xs K28 v1 v2 v3 v4 v5 M
def w_L_law_1748 (g : gT) (F : Nat) (a0 : Nat) (L : Nat) (xs : Nat → Int32) (K28 : (Option Nat) → (Option Nat) → (Option Nat) → (Option Nat) → Int32 → hM → Prop) (v1 : Option Nat) (v2 : Option Nat) (v3 : Option Nat) (v4 : Option Nat) (v5 : Int32) (M : hM) : Prop :=
  w_L_law_2340 g F a0 L xs K28 v1 v2 v3 v4 v5 M
def w_L_law_1792 (g : gT) (F : Nat) (a0 : Nat) (L : Nat) (xs : Nat → Int32) (K28 : (Option Nat) → (Option Nat) → (Option Nat) → (Option Nat) → Int32 → hM → Prop) (v1 : Option Nat) (v2 : Option Nat) (v3 : Option Nat) (v4 : Option Nat) (v5 : Int32) (M : hM) : Prop :=
  w_L_law_2340 g F a0 L xs K28 v1 v2 v3 v4 v5 M
def w_L_law_1836 (g : gT) (F : Nat) (a0 : Nat) (L : Nat) (xs : Nat → Int32) (K28 : (Option Nat) → (Option Nat) → (Option Nat) → (Option Nat) → Int32 → hM → Prop) (v1 : Option Nat) (v2 : Option Nat) (v3 : Option Nat) (v4 : Option Nat) (v5 : Int32) (M : hM) : Prop :=
  w_L_law_2340 g F a0 L xs K28 v1 v2 v3 v4 v5 M
def w_L_law_1892 (g : gT) (F : Nat) (a0 : Nat) (L : Nat) (xs : Nat → Int32) (K28 : (Option Nat) → (Option Nat) → (Option Nat) → (Option Nat) → Int32 → hM → Prop) (v1 : Option Nat) (v2 : Option Nat) (v3 : Option Nat) (v4 : Option Nat) (v5 : Int32) (M : hM) : Prop :=
  w_L_law_2340 g F a0 L xs K28 v1 v2 v3 v4 v5 M
def w_L_law_1948 (g : gT) (F : Nat) (a0 : Nat) (L : Nat) (xs : Nat → Int32) (K28 : (Option Nat) → (Option Nat) → (Option Nat) → (Option Nat) → Int32 → hM → Prop) (v1 : Option Nat) (v2 : Option Nat) (v3 : Option Nat) (v4 : Option Nat) (v5 : Int32) (M : hM) : Prop :=
  w_L_law_2340 g F a0 L xs K28 v1 v2 v3 v4 v5 M
def w_L_law_2004 (g : gT) (F : Nat) (a0 : Nat) (L : Nat) (xs : Nat → Int32) (K28 : (Option Nat) → (Option Nat) → (Option Nat) → (Option Nat) → Int32 → hM → Prop) (v1 : Option Nat) (v2 : Option Nat) (v3 : Option Nat) (v4 : Option Nat) (v5 : Int32) (M : hM) : Prop :=
  w_L_law_2340 g F a0 L xs K28 v1 v2 v3 v4 v5 M
def w_L_law_2072 (g : gT) (F : Nat) (a0 : Nat) (L : Nat) (xs : Nat → Int32) (K28 : (Option Nat) → (Option Nat) → (Option Nat) → (Option Nat) → Int32 → hM → Prop) (v1 : Option Nat) (v2 : Option Nat) (v3 : Option Nat) (v4 : Option Nat) (v5 : Int32) (M : hM) : Prop :=
  w_L_law_2340 g F a0 L xs K28 v1 v2 v3 v4 v5 M
def w_L_law_2168 (g : gT) (F : Nat) (a0 : Nat) (L : Nat) (xs : Nat → Int32) (K28 : (Option Nat) → (Option Nat) → (Option Nat) → (Option Nat) → Int32 → hM → Prop) (v1 : Option Nat) (v2 : Option Nat) (v3 : Option Nat) (v4 : Option Nat) (v5 : Int32) (M : hM) : Prop :=
  w_L_law_2340 g F a0 L xs K28 v1 v2 v3 v4 v5 M
def w_L_law_2135 (g : gT) (F : Nat) (a0 : Nat) (L : Nat) (xs : Nat → Int32) (K28 : (Option Nat) → (Option Nat) → (Option Nat) → (Option Nat) → Int32 → hM → Prop) (v1 : Option Nat) (v2 : Option Nat) (v3 : Option Nat) (v4 : Option Nat) (v5 : Int32) (v6 : Int32) (s0 : Option Nat) (s1 : Int32) (s2 : Int32) (s3 : Int32) (M : hM) : Prop :=
  gThis M s0 2 fun b2 => w_X3_apply g F b2 s1 s2 s3 M (fun x3 M1 => gThis M1 v2 2 fun b5 => w_X3_thrown g F b5  M1 (fun x6 M4 => ((x6 = v6 → ((¬ v6 = 0 → w_L_law_2168 g F a0 L xs K28 v1 (some b5) v3 v4 v5 M4) ∧ (v6 = 0 → aJ M4 v3 (0 : Int32) fun x7 => (((lg_cmp x7 (x3).toInt64) = 0 → w_L_law_2168 g F a0 L xs K28 v1 (some b5) v3 v4 v5 M4) ∧ (¬ ((lg_cmp x7 (x3).toInt64) = 0) → False))))) ∧ (¬ (x6 = v6) → False))))
def w_L_law_2102 (g : gT) (F : Nat) (a0 : Nat) (L : Nat) (xs : Nat → Int32) (K28 : (Option Nat) → (Option Nat) → (Option Nat) → (Option Nat) → Int32 → hM → Prop) (v1 : Option Nat) (v2 : Option Nat) (v3 : Option Nat) (v4 : Option Nat) (v5 : Int32) (s0 : Option Nat) (s1 : Int32) (s2 : Int32) (s3 : Int32) (M : hM) : Prop :=
  w_X0_apply g F s0 s1 s2 s3 v3 M (fun x2 M1 => sldW L xs (v5 + (1 : Int32)) fun x3 => sldW L xs (v5 + (2 : Int32)) fun x4 => sldW L xs (v5 + (3 : Int32)) fun x5 => ((x5 = 0 → w_L_law_2135 g F a0 L xs K28 v1 v2 v3 v4 v5 x2 v2 x3 x4 (0 : Int32) M1) ∧ (¬ (x5 = 0) → w_L_law_2135 g F a0 L xs K28 v1 v2 v3 v4 v5 x2 v2 x3 x4 (1 : Int32) M1))) (fun _ _ _ => False)
def w_L_law_2236 (g : gT) (F : Nat) (a0 : Nat) (L : Nat) (xs : Nat → Int32) (K28 : (Option Nat) → (Option Nat) → (Option Nat) → (Option Nat) → Int32 → hM → Prop) (v1 : Option Nat) (v2 : Option Nat) (v3 : Option Nat) (v4 : Option Nat) (v5 : Int32) (M : hM) : Prop :=
  w_L_law_2340 g F a0 L xs K28 v1 v2 v3 v4 v5 M
def w_L_law_2280 (g : gT) (F : Nat) (a0 : Nat) (L : Nat) (xs : Nat → Int32) (K28 : (Option Nat) → (Option Nat) → (Option Nat) → (Option Nat) → Int32 → hM → Prop) (v1 : Option Nat) (v2 : Option Nat) (v3 : Option Nat) (v4 : Option Nat) (v5 : Int32) (M : hM) : Prop :=
  w_L_law_2340 g F a0 L xs K28 v1 v2 v3 v4 v5 M
def w_L_law_2337 (g : gT) (F : Nat) (a0 : Nat) (L : Nat) (xs : Nat → Int32) (K28 : (Option Nat) → (Option Nat) → (Option Nat) → (Option Nat) → Int32 → hM → Prop) (v1 : Option Nat) (v2 : Option Nat) (v3 : Option Nat) (v4 : Option Nat) (v5 : Int32) (M : hM) : Prop :=
  w_L_law_2340 g F a0 L xs K28 v1 v2 v3 v4 v5 M
def w_L_law_28 (g : gT) (F : Nat) (a0 : Nat) (L : Nat) (xs : Nat → Int32) : Nat → (Option Nat) → (Option Nat) → (Option Nat) → (Option Nat) → Int32 → hM → Prop
  | 0, _, _, _, _, _, _ => False
  | n + 1, v1, v2, v3, v4, v5, M => ((((Int32.ofNat L) - (4 : Int32)) < v5 → True) ∧ (¬ (((Int32.ofNat L) - (4 : Int32)) < v5) → sldW L xs v5 fun x1 => (((x1 &&& (63 : Int32)) = (0 : Int32) → sldW L xs (v5 + (1 : Int32)) fun x2 => sldW L xs (v5 + (2 : Int32)) fun x3 => w_X0_append g F v1 x2 x3 v3 M (fun x5 M4 => sldW L xs (v5 + (1 : Int32)) fun x6 => sldW L xs (v5 + (2 : Int32)) fun x7 => gThis M4 v2 2 fun b9 => w_X3_append g F b9 x6 x7 M4 (fun x10 M8 => (isC M8 b9 2 ∧ w_X3_thrown g F b9  M8 (fun x12 M11 => ((x12 = x5 → ((¬ x5 = 0 → w_L_law_269 g F a0 L xs (fun v1 v2 v3 v4 v5 M => w_L_law_28 g F a0 L xs n v1 v2 v3 v4 v5 M) v1 (some b9) v3 v4 v5 M11) ∧ (x5 = 0 → aJ M11 v3 (0 : Int32) fun x13 => (((lg_cmp x13 (x10).toInt64) = 0 → w_L_law_269 g F a0 L xs (fun v1 v2 v3 v4 v5 M => w_L_law_28 g F a0 L xs n v1 v2 v3 v4 v5 M) v1 (some b9) v3 v4 v5 M11) ∧ (¬ ((lg_cmp x13 (x10).toInt64) = 0) → False))))) ∧ (¬ (x12 = x5) → False)))))) (fun _ _ _ => False)) ∧ ((x1 &&& (63 : Int32)) = (1 : Int32) → sldW L xs (v5 + (1 : Int32)) fun x14 => sldW L xs (v5 + (2 : Int32)) fun x15 => sldW L xs (v5 + (3 : Int32)) fun x16 => w_X0_insert g F v1 x14 x15 x16 v3 M (fun x18 M17 => sldW L xs (v5 + (1 : Int32)) fun x19 => sldW L xs (v5 + (2 : Int32)) fun x20 => sldW L xs (v5 + (3 : Int32)) fun x21 => gThis M17 v2 2 fun b23 => w_X3_insert g F b23 x19 x20 x21 M17 (fun x24 M22 => (isC M22 b23 2 ∧ w_X3_thrown g F b23  M22 (fun x26 M25 => ((x26 = x18 → ((¬ x18 = 0 → w_L_law_349 g F a0 L xs (fun v1 v2 v3 v4 v5 M => w_L_law_28 g F a0 L xs n v1 v2 v3 v4 v5 M) v1 (some b23) v3 v4 v5 M25) ∧ (x18 = 0 → aJ M25 v3 (0 : Int32) fun x27 => (((lg_cmp x27 (x24).toInt64) = 0 → w_L_law_349 g F a0 L xs (fun v1 v2 v3 v4 v5 M => w_L_law_28 g F a0 L xs n v1 v2 v3 v4 v5 M) v1 (some b23) v3 v4 v5 M25) ∧ (¬ ((lg_cmp x27 (x24).toInt64) = 0) → False))))) ∧ (¬ (x26 = x18) → False)))))) (fun _ _ _ => False)) ∧ ((x1 &&& (63 : Int32)) = (2 : Int32) → sldW L xs (v5 + (1 : Int32)) fun x28 => sldW L xs (v5 + (2 : Int32)) fun x29 => w_X0_delete g F v1 x28 x29 v3 M (fun x31 M30 => sldW L xs (v5 + (1 : Int32)) fun x32 => sldW L xs (v5 + (2 : Int32)) fun x33 => gThis M30 v2 2 fun b35 => w_X3_delete g F b35 x32 x33 M30 (fun x36 M34 => (isC M34 b35 2 ∧ w_X3_thrown g F b35  M34 (fun x38 M37 => ((x38 = x31 → ((¬ x31 = 0 → w_L_law_417 g F a0 L xs (fun v1 v2 v3 v4 v5 M => w_L_law_28 g F a0 L xs n v1 v2 v3 v4 v5 M) v1 (some b35) v3 v4 v5 M37) ∧ (x31 = 0 → aJ M37 v3 (0 : Int32) fun x39 => (((lg_cmp x39 (x36).toInt64) = 0 → w_L_law_417 g F a0 L xs (fun v1 v2 v3 v4 v5 M => w_L_law_28 g F a0 L xs n v1 v2 v3 v4 v5 M) v1 (some b35) v3 v4 v5 M37) ∧ (¬ ((lg_cmp x39 (x36).toInt64) = 0) → False))))) ∧ (¬ (x38 = x31) → False)))))) (fun _ _ _ => False)) ∧ ((x1 &&& (63 : Int32)) = (3 : Int32) → sldW L xs (v5 + (1 : Int32)) fun x40 => w_X0_length g F v1 x40 v3 M (fun x42 M41 => sldW L xs (v5 + (1 : Int32)) fun x43 => gThis M41 v2 2 fun b45 => w_X3_length g F b45 x43 M41 (fun x46 M44 => (isC M44 b45 2 ∧ w_X3_thrown g F b45  M44 (fun x48 M47 => ((x48 = x42 → ((¬ x42 = 0 → w_L_law_473 g F a0 L xs (fun v1 v2 v3 v4 v5 M => w_L_law_28 g F a0 L xs n v1 v2 v3 v4 v5 M) v1 (some b45) v3 v4 v5 M47) ∧ (x42 = 0 → aJ M47 v3 (0 : Int32) fun x49 => (((lg_cmp x49 (x46).toInt64) = 0 → w_L_law_473 g F a0 L xs (fun v1 v2 v3 v4 v5 M => w_L_law_28 g F a0 L xs n v1 v2 v3 v4 v5 M) v1 (some b45) v3 v4 v5 M47) ∧ (¬ ((lg_cmp x49 (x46).toInt64) = 0) → False))))) ∧ (¬ (x48 = x42) → False)))))) (fun _ _ _ => False)) ∧ ((x1 &&& (63 : Int32)) = (4 : Int32) → sldW L xs (v5 + (1 : Int32)) fun x50 => sldW L xs (v5 + (2 : Int32)) fun x51 => w_X0_line g F v1 x50 x51 v3 M (fun x53 M52 => sldW L xs (v5 + (1 : Int32)) fun x54 => sldW L xs (v5 + (2 : Int32)) fun x55 => gThis M52 v2 2 fun b57 => w_X3_line g F b57 x54 x55 M52 (fun x58 M56 => (isC M56 b57 2 ∧ w_X3_thrown g F b57  M56 (fun x60 M59 => ((x60 = x53 → ((¬ x53 = 0 → w_L_law_541 g F a0 L xs (fun v1 v2 v3 v4 v5 M => w_L_law_28 g F a0 L xs n v1 v2 v3 v4 v5 M) v1 (some b57) v3 v4 v5 M59) ∧ (x53 = 0 → aJ M59 v3 (0 : Int32) fun x61 => (((lg_cmp x61 (x58).toInt64) = 0 → w_L_law_541 g F a0 L xs (fun v1 v2 v3 v4 v5 M => w_L_law_28 g F a0 L xs n v1 v2 v3 v4 v5 M) v1 (some b57) v3 v4 v5 M59) ∧ (¬ ((lg_cmp x61 (x58).toInt64) = 0) → False))))) ∧ (¬ (x60 = x53) → False)))))) (fun _ _ _ => False)) ∧ ((x1 &&& (63 : Int32)) = (5 : Int32) → sldW L xs (v5 + (1 : Int32)) fun x62 => sldW L xs (v5 + (2 : Int32)) fun x63 => w_X0_copy g F v1 x62 x63 v3 M (fun x65 M64 => sldW L xs (v5 + (1 : Int32)) fun x66 => sldW L xs (v5 + (2 : Int32)) fun x67 => gThis M64 v2 2 fun b69 => w_X3_copy g F b69 x66 x67 M64 (fun x70 M68 => (isC M68 b69 2 ∧ w_X3_thrown g F b69  M68 (fun x72 M71 => ((x72 = x65 → ((¬ x65 = 0 → w_L_law_609 g F a0 L xs (fun v1 v2 v3 v4 v5 M => w_L_law_28 g F a0 L xs n v1 v2 v3 v4 v5 M) v1 (some b69) v3 v4 v5 M71) ∧ (x65 = 0 → aJ M71 v3 (0 : Int32) fun x73 => (((lg_cmp x73 (x70).toInt64) = 0 → w_L_law_609 g F a0 L xs (fun v1 v2 v3 v4 v5 M => w_L_law_28 g F a0 L xs n v1 v2 v3 v4 v5 M) v1 (some b69) v3 v4 v5 M71) ∧ (¬ ((lg_cmp x73 (x70).toInt64) = 0) → False))))) ∧ (¬ (x72 = x65) → False)))))) (fun _ _ _ => False)) ∧ ((x1 &&& (63 : Int32)) = (6 : Int32) → sldW L xs (v5 + (1 : Int32)) fun x74 => sldW L xs (v5 + (2 : Int32)) fun x75 => w_X0_isSame g F v1 x74 x75 v3 M (fun x77 M76 => sldW L xs (v5 + (1 : Int32)) fun x78 => sldW L xs (v5 + (2 : Int32)) fun x79 => gThis M76 v2 2 fun b81 => w_X3_isSame g F b81 x78 x79 M76 (fun x82 M80 => (isC M80 b81 2 ∧ w_X3_thrown g F b81  M80 (fun x84 M83 => ((x84 = x77 → ((¬ x77 = 0 → w_L_law_684 g F a0 L xs (fun v1 v2 v3 v4 v5 M => w_L_law_28 g F a0 L xs n v1 v2 v3 v4 v5 M) v1 (some b81) v3 v4 v5 M83) ∧ (x77 = 0 → aJ M83 v3 (0 : Int32) fun x85 => ((x82 = 0 → w_L_law_678 g F a0 L xs (fun v1 v2 v3 v4 v5 M => w_L_law_28 g F a0 L xs n v1 v2 v3 v4 v5 M) v1 (some b81) v3 v4 v5 x85 (0 : Int64) M83) ∧ (¬ (x82 = 0) → w_L_law_678 g F a0 L xs (fun v1 v2 v3 v4 v5 M => w_L_law_28 g F a0 L xs n v1 v2 v3 v4 v5 M) v1 (some b81) v3 v4 v5 x85 (1 : Int64) M83))))) ∧ (¬ (x84 = x77) → False)))))) (fun _ _ _ => False)) ∧ ((x1 &&& (63 : Int32)) = (7 : Int32) → sldW L xs (v5 + (1 : Int32)) fun x86 => sldW L xs (v5 + (2 : Int32)) fun x87 => w_X0_distance g F v1 x86 x87 v3 M (fun x89 M88 => sldW L xs (v5 + (1 : Int32)) fun x90 => sldW L xs (v5 + (2 : Int32)) fun x91 => gThis M88 v2 2 fun b93 => w_X3_distance g F b93 x90 x91 M88 (fun x94 M92 => (isC M92 b93 2 ∧ w_X3_thrown g F b93  M92 (fun x96 M95 => ((x96 = x89 → ((¬ x89 = 0 → w_L_law_752 g F a0 L xs (fun v1 v2 v3 v4 v5 M => w_L_law_28 g F a0 L xs n v1 v2 v3 v4 v5 M) v1 (some b93) v3 v4 v5 M95) ∧ (x89 = 0 → aJ M95 v3 (0 : Int32) fun x97 => (((lg_cmp x97 (x94).toInt64) = 0 → w_L_law_752 g F a0 L xs (fun v1 v2 v3 v4 v5 M => w_L_law_28 g F a0 L xs n v1 v2 v3 v4 v5 M) v1 (some b93) v3 v4 v5 M95) ∧ (¬ ((lg_cmp x97 (x94).toInt64) = 0) → False))))) ∧ (¬ (x96 = x89) → False)))))) (fun _ _ _ => False)) ∧ ((x1 &&& (63 : Int32)) = (8 : Int32) → sldW L xs (v5 + (1 : Int32)) fun x98 => w_X0_feed g F v1 ((x98).toUInt32 % 65536).toInt32 v3 M (fun x100 M99 => sldW L xs (v5 + (1 : Int32)) fun x101 => gThis M99 v2 2 fun b103 => w_X3_feed g F b103 ((x101).toUInt32 % 65536).toInt32 M99 (fun x104 M102 => (isC M102 b103 2 ∧ w_X3_thrown g F b103  M102 (fun x106 M105 => ((x106 = x100 → ((¬ x100 = 0 → w_L_law_810 g F a0 L xs (fun v1 v2 v3 v4 v5 M => w_L_law_28 g F a0 L xs n v1 v2 v3 v4 v5 M) v1 (some b103) v3 v4 v5 M105) ∧ (x100 = 0 → aJ M105 v3 (0 : Int32) fun x107 => (((lg_cmp x107 (x104).toInt64) = 0 → w_L_law_810 g F a0 L xs (fun v1 v2 v3 v4 v5 M => w_L_law_28 g F a0 L xs n v1 v2 v3 v4 v5 M) v1 (some b103) v3 v4 v5 M105) ∧ (¬ ((lg_cmp x107 (x104).toInt64) = 0) → False))))) ∧ (¬ (x106 = x100) → False)))))) (fun _ _ _ => False)) ∧ ((x1 &&& (63 : Int32)) = (9 : Int32) → sldW L xs (v5 + (1 : Int32)) fun x108 => w_X0_readDocument g F v1 x108 v3 M (fun x110 M109 => sldW L xs (v5 + (1 : Int32)) fun x111 => gThis M109 v2 2 fun b113 => w_X3_readDocument g F b113 x111 M109 (fun x114 M112 => (isC M112 b113 2 ∧ w_X3_thrown g F b113  M112 (fun x116 M115 => ((x116 = x110 → ((¬ x110 = 0 → w_L_law_866 g F a0 L xs (fun v1 v2 v3 v4 v5 M => w_L_law_28 g F a0 L xs n v1 v2 v3 v4 v5 M) v1 (some b113) v3 v4 v5 M115) ∧ (x110 = 0 → aJ M115 v3 (0 : Int32) fun x117 => (((lg_cmp x117 (x114).toInt64) = 0 → w_L_law_866 g F a0 L xs (fun v1 v2 v3 v4 v5 M => w_L_law_28 g F a0 L xs n v1 v2 v3 v4 v5 M) v1 (some b113) v3 v4 v5 M115) ∧ (¬ ((lg_cmp x117 (x114).toInt64) = 0) → False))))) ∧ (¬ (x116 = x110) → False)))))) (fun _ _ _ => False)) ∧ ((x1 &&& (63 : Int32)) = (10 : Int32) → sldW L xs (v5 + (1 : Int32)) fun x118 => w_X0_setMode g F v1 x118 v3 M (fun x120 M119 => sldW L xs (v5 + (1 : Int32)) fun x121 => gThis M119 v2 2 fun b123 => w_X3_setMode g F b123 x121 M119 (fun x124 M122 => (isC M122 b123 2 ∧ w_X3_thrown g F b123  M122 (fun x126 M125 => ((x126 = x120 → ((¬ x120 = 0 → w_L_law_922 g F a0 L xs (fun v1 v2 v3 v4 v5 M => w_L_law_28 g F a0 L xs n v1 v2 v3 v4 v5 M) v1 (some b123) v3 v4 v5 M125) ∧ (x120 = 0 → aJ M125 v3 (0 : Int32) fun x127 => (((lg_cmp x127 (x124).toInt64) = 0 → w_L_law_922 g F a0 L xs (fun v1 v2 v3 v4 v5 M => w_L_law_28 g F a0 L xs n v1 v2 v3 v4 v5 M) v1 (some b123) v3 v4 v5 M125) ∧ (¬ ((lg_cmp x127 (x124).toInt64) = 0) → False))))) ∧ (¬ (x126 = x120) → False)))))) (fun _ _ _ => False)) ∧ ((x1 &&& (63 : Int32)) = (11 : Int32) → sldW L xs (v5 + (1 : Int32)) fun x128 => sldW L xs (v5 + (2 : Int32)) fun x129 => w_X0_compare g F v1 x128 x129 v3 M (fun x131 M130 => sldW L xs (v5 + (1 : Int32)) fun x132 => sldW L xs (v5 + (2 : Int32)) fun x133 => gThis M130 v2 2 fun b135 => w_X3_compare g F b135 x132 x133 M130 (fun x136 M134 => (isC M134 b135 2 ∧ w_X3_thrown g F b135  M134 (fun x138 M137 => ((x138 = x131 → ((¬ x131 = 0 → w_L_law_990 g F a0 L xs (fun v1 v2 v3 v4 v5 M => w_L_law_28 g F a0 L xs n v1 v2 v3 v4 v5 M) v1 (some b135) v3 v4 v5 M137) ∧ (x131 = 0 → aJ M137 v3 (0 : Int32) fun x139 => (((lg_cmp x139 (x136).toInt64) = 0 → w_L_law_990 g F a0 L xs (fun v1 v2 v3 v4 v5 M => w_L_law_28 g F a0 L xs n v1 v2 v3 v4 v5 M) v1 (some b135) v3 v4 v5 M137) ∧ (¬ ((lg_cmp x139 (x136).toInt64) = 0) → False))))) ∧ (¬ (x138 = x131) → False)))))) (fun _ _ _ => False)) ∧ ((x1 &&& (63 : Int32)) = (12 : Int32) → sldW L xs (v5 + (1 : Int32)) fun x140 => w_X0_partner g F v1 x140 v3 M (fun x142 M141 => sldW L xs (v5 + (1 : Int32)) fun x143 => gThis M141 v2 2 fun b145 => w_X3_partner g F b145 x143 M141 (fun x146 M144 => (isC M144 b145 2 ∧ w_X3_thrown g F b145  M144 (fun x148 M147 => ((x148 = x142 → ((¬ x142 = 0 → w_L_law_1046 g F a0 L xs (fun v1 v2 v3 v4 v5 M => w_L_law_28 g F a0 L xs n v1 v2 v3 v4 v5 M) v1 (some b145) v3 v4 v5 M147) ∧ (x142 = 0 → aJ M147 v3 (0 : Int32) fun x149 => (((lg_cmp x149 (x146).toInt64) = 0 → w_L_law_1046 g F a0 L xs (fun v1 v2 v3 v4 v5 M => w_L_law_28 g F a0 L xs n v1 v2 v3 v4 v5 M) v1 (some b145) v3 v4 v5 M147) ∧ (¬ ((lg_cmp x149 (x146).toInt64) = 0) → False))))) ∧ (¬ (x148 = x142) → False)))))) (fun _ _ _ => False)) ∧ ((x1 &&& (63 : Int32)) = (13 : Int32) → w_X0_anchors g F v1 v3 M (fun x151 M150 => gThis M150 v2 2 fun b153 => w_X3_anchors g F b153  M150 (fun x154 M152 => (isC M152 b153 2 ∧ w_X3_thrown g F b153  M152 (fun x156 M155 => ((x156 = x151 → ((¬ x151 = 0 → w_L_law_1090 g F a0 L xs (fun v1 v2 v3 v4 v5 M => w_L_law_28 g F a0 L xs n v1 v2 v3 v4 v5 M) v1 (some b153) v3 v4 v5 M155) ∧ (x151 = 0 → aJ M155 v3 (0 : Int32) fun x157 => (((lg_cmp x157 (x154).toInt64) = 0 → w_L_law_1090 g F a0 L xs (fun v1 v2 v3 v4 v5 M => w_L_law_28 g F a0 L xs n v1 v2 v3 v4 v5 M) v1 (some b153) v3 v4 v5 M155) ∧ (¬ ((lg_cmp x157 (x154).toInt64) = 0) → False))))) ∧ (¬ (x156 = x151) → False)))))) (fun _ _ _ => False)) ∧ ((x1 &&& (63 : Int32)) = (14 : Int32) → w_X0_differences g F v1 v3 M (fun x159 M158 => gThis M158 v2 2 fun b161 => w_X3_differences g F b161  M158 (fun x162 M160 => (isC M160 b161 2 ∧ w_X3_thrown g F b161  M160 (fun x164 M163 => ((x164 = x159 → ((¬ x159 = 0 → w_L_law_1134 g F a0 L xs (fun v1 v2 v3 v4 v5 M => w_L_law_28 g F a0 L xs n v1 v2 v3 v4 v5 M) v1 (some b161) v3 v4 v5 M163) ∧ (x159 = 0 → aJ M163 v3 (0 : Int32) fun x165 => (((lg_cmp x165 (x162).toInt64) = 0 → w_L_law_1134 g F a0 L xs (fun v1 v2 v3 v4 v5 M => w_L_law_28 g F a0 L xs n v1 v2 v3 v4 v5 M) v1 (some b161) v3 v4 v5 M163) ∧ (¬ ((lg_cmp x165 (x162).toInt64) = 0) → False))))) ∧ (¬ (x164 = x159) → False)))))) (fun _ _ _ => False)) ∧ ((x1 &&& (63 : Int32)) = (15 : Int32) → sldW L xs (v5 + (1 : Int32)) fun x166 => sldW L xs (v5 + (2 : Int32)) fun x167 => w_X0_difference g F v1 x166 x167 v3 M (fun x169 M168 => sldW L xs (v5 + (1 : Int32)) fun x170 => sldW L xs (v5 + (2 : Int32)) fun x171 => gThis M168 v2 2 fun b173 => w_X3_difference g F b173 x170 x171 M168 (fun x174 M172 => (isC M172 b173 2 ∧ w_X3_thrown g F b173  M172 (fun x176 M175 => ((x176 = x169 → ((¬ x169 = 0 → w_L_law_1202 g F a0 L xs (fun v1 v2 v3 v4 v5 M => w_L_law_28 g F a0 L xs n v1 v2 v3 v4 v5 M) v1 (some b173) v3 v4 v5 M175) ∧ (x169 = 0 → aJ M175 v3 (0 : Int32) fun x177 => (((lg_cmp x177 (x174).toInt64) = 0 → w_L_law_1202 g F a0 L xs (fun v1 v2 v3 v4 v5 M => w_L_law_28 g F a0 L xs n v1 v2 v3 v4 v5 M) v1 (some b173) v3 v4 v5 M175) ∧ (¬ ((lg_cmp x177 (x174).toInt64) = 0) → False))))) ∧ (¬ (x176 = x169) → False)))))) (fun _ _ _ => False)) ∧ ((x1 &&& (63 : Int32)) = (16 : Int32) → sldW L xs (v5 + (1 : Int32)) fun x178 => w_X0_step g F v1 x178 v3 M (fun x180 M179 => sldW L xs (v5 + (1 : Int32)) fun x181 => gThis M179 v2 2 fun b183 => w_X3_step g F b183 x181 M179 (fun x184 M182 => (isC M182 b183 2 ∧ w_X3_thrown g F b183  M182 (fun x186 M185 => ((x186 = x180 → ((¬ x180 = 0 → w_L_law_1258 g F a0 L xs (fun v1 v2 v3 v4 v5 M => w_L_law_28 g F a0 L xs n v1 v2 v3 v4 v5 M) v1 (some b183) v3 v4 v5 M185) ∧ (x180 = 0 → aJ M185 v3 (0 : Int32) fun x187 => (((lg_cmp x187 (x184).toInt64) = 0 → w_L_law_1258 g F a0 L xs (fun v1 v2 v3 v4 v5 M => w_L_law_28 g F a0 L xs n v1 v2 v3 v4 v5 M) v1 (some b183) v3 v4 v5 M185) ∧ (¬ ((lg_cmp x187 (x184).toInt64) = 0) → False))))) ∧ (¬ (x186 = x180) → False)))))) (fun _ _ _ => False)) ∧ ((x1 &&& (63 : Int32)) = (17 : Int32) → w_X0_similarity g F v1 v4 M (fun x189 M188 => gThis M188 v2 2 fun b191 => w_X3_similarity g F b191  M188 (fun x192 M190 => (isC M190 b191 2 ∧ w_X3_thrown g F b191  M190 (fun x194 M193 => ((x194 = x189 → ((¬ x189 = 0 → w_L_law_1323 g F a0 L xs (fun v1 v2 v3 v4 v5 M => w_L_law_28 g F a0 L xs n v1 v2 v3 v4 v5 M) v1 (some b191) v3 v4 v5 M193) ∧ (x189 = 0 → aD M193 v4 (0 : Int32) fun x195 => (((Op.cmpValue (FP.dcmp x195 x192) .l) = 0 → w_L_law_1323 g F a0 L xs (fun v1 v2 v3 v4 v5 M => w_L_law_28 g F a0 L xs n v1 v2 v3 v4 v5 M) v1 (some b191) v3 v4 v5 M193) ∧ (¬ ((Op.cmpValue (FP.dcmp x195 x192) .l) = 0) → aD M193 v4 (0 : Int32) fun x196 => aD M193 v4 (0 : Int32) fun x197 => (((Op.cmpValue (FP.dcmp x196 x197) .l) = 0 → w_L_law_1321 g F a0 L xs M193) ∧ (¬ ((Op.cmpValue (FP.dcmp x196 x197) .l) = 0) → ((¬ (Op.cmpValue (FP.dcmp x192 x192) .l) = 0 → w_L_law_1323 g F a0 L xs (fun v1 v2 v3 v4 v5 M => w_L_law_28 g F a0 L xs n v1 v2 v3 v4 v5 M) v1 (some b191) v3 v4 v5 M193) ∧ ((Op.cmpValue (FP.dcmp x192 x192) .l) = 0 → w_L_law_1321 g F a0 L xs M193))))))))) ∧ (¬ (x194 = x189) → False)))))) (fun _ _ _ => False)) ∧ ((x1 &&& (63 : Int32)) = (18 : Int32) → sldW L xs (v5 + (1 : Int32)) fun x198 => w_X0_findMoves g F v1 x198 v3 M (fun x200 M199 => sldW L xs (v5 + (1 : Int32)) fun x201 => gThis M199 v2 2 fun b203 => w_X3_findMoves g F b203 x201 M199 (fun x204 M202 => (isC M202 b203 2 ∧ w_X3_thrown g F b203  M202 (fun x206 M205 => ((x206 = x200 → ((¬ x200 = 0 → w_L_law_1379 g F a0 L xs (fun v1 v2 v3 v4 v5 M => w_L_law_28 g F a0 L xs n v1 v2 v3 v4 v5 M) v1 (some b203) v3 v4 v5 M205) ∧ (x200 = 0 → aJ M205 v3 (0 : Int32) fun x207 => (((lg_cmp x207 (x204).toInt64) = 0 → w_L_law_1379 g F a0 L xs (fun v1 v2 v3 v4 v5 M => w_L_law_28 g F a0 L xs n v1 v2 v3 v4 v5 M) v1 (some b203) v3 v4 v5 M205) ∧ (¬ ((lg_cmp x207 (x204).toInt64) = 0) → False))))) ∧ (¬ (x206 = x200) → False)))))) (fun _ _ _ => False)) ∧ ((x1 &&& (63 : Int32)) = (19 : Int32) → sldW L xs (v5 + (1 : Int32)) fun x208 => sldW L xs (v5 + (2 : Int32)) fun x209 => w_X0_move g F v1 x208 x209 v3 M (fun x211 M210 => sldW L xs (v5 + (1 : Int32)) fun x212 => sldW L xs (v5 + (2 : Int32)) fun x213 => gThis M210 v2 2 fun b215 => w_X3_move g F b215 x212 x213 M210 (fun x216 M214 => (isC M214 b215 2 ∧ w_X3_thrown g F b215  M214 (fun x218 M217 => ((x218 = x211 → ((¬ x211 = 0 → w_L_law_1447 g F a0 L xs (fun v1 v2 v3 v4 v5 M => w_L_law_28 g F a0 L xs n v1 v2 v3 v4 v5 M) v1 (some b215) v3 v4 v5 M217) ∧ (x211 = 0 → aJ M217 v3 (0 : Int32) fun x219 => (((lg_cmp x219 (x216).toInt64) = 0 → w_L_law_1447 g F a0 L xs (fun v1 v2 v3 v4 v5 M => w_L_law_28 g F a0 L xs n v1 v2 v3 v4 v5 M) v1 (some b215) v3 v4 v5 M217) ∧ (¬ ((lg_cmp x219 (x216).toInt64) = 0) → False))))) ∧ (¬ (x218 = x211) → False)))))) (fun _ _ _ => False)) ∧ ((x1 &&& (63 : Int32)) = (20 : Int32) → sldW L xs (v5 + (1 : Int32)) fun x220 => ((x220 = 0 → w_L_law_1465 g F a0 L xs (fun v1 v2 v3 v4 v5 M => w_L_law_28 g F a0 L xs n v1 v2 v3 v4 v5 M) v1 v2 v3 v4 v5 v1 (0 : Int32) M) ∧ (¬ (x220 = 0) → w_L_law_1465 g F a0 L xs (fun v1 v2 v3 v4 v5 M => w_L_law_28 g F a0 L xs n v1 v2 v3 v4 v5 M) v1 v2 v3 v4 v5 v1 (1 : Int32) M))) ∧ ((x1 &&& (63 : Int32)) = (21 : Int32) → sldW L xs (v5 + (1 : Int32)) fun x221 => sldW L xs (v5 + (2 : Int32)) fun x222 => sldW L xs (v5 + (3 : Int32)) fun x223 => w_X0_merge g F v1 x221 x222 x223 v3 M (fun x225 M224 => sldW L xs (v5 + (1 : Int32)) fun x226 => sldW L xs (v5 + (2 : Int32)) fun x227 => sldW L xs (v5 + (3 : Int32)) fun x228 => gThis M224 v2 2 fun b230 => w_X3_merge g F b230 x226 x227 x228 M224 (fun x231 M229 => (isC M229 b230 2 ∧ w_X3_thrown g F b230  M229 (fun x233 M232 => ((x233 = x225 → ((¬ x225 = 0 → w_L_law_1568 g F a0 L xs (fun v1 v2 v3 v4 v5 M => w_L_law_28 g F a0 L xs n v1 v2 v3 v4 v5 M) v1 (some b230) v3 v4 v5 M232) ∧ (x225 = 0 → aJ M232 v3 (0 : Int32) fun x234 => (((lg_cmp x234 (x231).toInt64) = 0 → w_L_law_1568 g F a0 L xs (fun v1 v2 v3 v4 v5 M => w_L_law_28 g F a0 L xs n v1 v2 v3 v4 v5 M) v1 (some b230) v3 v4 v5 M232) ∧ (¬ ((lg_cmp x234 (x231).toInt64) = 0) → False))))) ∧ (¬ (x233 = x225) → False)))))) (fun _ _ _ => False)) ∧ ((x1 &&& (63 : Int32)) = (22 : Int32) → w_X0_chunks g F v1 v3 M (fun x236 M235 => gThis M235 v2 2 fun b238 => w_X3_chunks g F b238  M235 (fun x239 M237 => (isC M237 b238 2 ∧ w_X3_thrown g F b238  M237 (fun x241 M240 => ((x241 = x236 → ((¬ x236 = 0 → w_L_law_1612 g F a0 L xs (fun v1 v2 v3 v4 v5 M => w_L_law_28 g F a0 L xs n v1 v2 v3 v4 v5 M) v1 (some b238) v3 v4 v5 M240) ∧ (x236 = 0 → aJ M240 v3 (0 : Int32) fun x242 => (((lg_cmp x242 (x239).toInt64) = 0 → w_L_law_1612 g F a0 L xs (fun v1 v2 v3 v4 v5 M => w_L_law_28 g F a0 L xs n v1 v2 v3 v4 v5 M) v1 (some b238) v3 v4 v5 M240) ∧ (¬ ((lg_cmp x242 (x239).toInt64) = 0) → False))))) ∧ (¬ (x241 = x236) → False)))))) (fun _ _ _ => False)) ∧ ((x1 &&& (63 : Int32)) = (23 : Int32) → sldW L xs (v5 + (1 : Int32)) fun x243 => sldW L xs (v5 + (2 : Int32)) fun x244 => w_X0_chunk g F v1 x243 x244 v3 M (fun x246 M245 => sldW L xs (v5 + (1 : Int32)) fun x247 => sldW L xs (v5 + (2 : Int32)) fun x248 => gThis M245 v2 2 fun b250 => w_X3_chunk g F b250 x247 x248 M245 (fun x251 M249 => (isC M249 b250 2 ∧ w_X3_thrown g F b250  M249 (fun x253 M252 => ((x253 = x246 → ((¬ x246 = 0 → w_L_law_1680 g F a0 L xs (fun v1 v2 v3 v4 v5 M => w_L_law_28 g F a0 L xs n v1 v2 v3 v4 v5 M) v1 (some b250) v3 v4 v5 M252) ∧ (x246 = 0 → aJ M252 v3 (0 : Int32) fun x254 => (((lg_cmp x254 (x251).toInt64) = 0 → w_L_law_1680 g F a0 L xs (fun v1 v2 v3 v4 v5 M => w_L_law_28 g F a0 L xs n v1 v2 v3 v4 v5 M) v1 (some b250) v3 v4 v5 M252) ∧ (¬ ((lg_cmp x254 (x251).toInt64) = 0) → False))))) ∧ (¬ (x253 = x246) → False)))))) (fun _ _ _ => False)) ∧ ((x1 &&& (63 : Int32)) = (24 : Int32) → sldW L xs (v5 + (1 : Int32)) fun x255 => sldW L xs (v5 + (2 : Int32)) fun x256 => w_X0_resolve g F v1 x255 x256 v3 M (fun x258 M257 => sldW L xs (v5 + (1 : Int32)) fun x259 => sldW L xs (v5 + (2 : Int32)) fun x260 => gThis M257 v2 2 fun b262 => w_X3_resolve g F b262 x259 x260 M257 (fun x263 M261 => (isC M261 b262 2 ∧ w_X3_thrown g F b262  M261 (fun x265 M264 => ((x265 = x258 → ((¬ x258 = 0 → w_L_law_1748 g F a0 L xs (fun v1 v2 v3 v4 v5 M => w_L_law_28 g F a0 L xs n v1 v2 v3 v4 v5 M) v1 (some b262) v3 v4 v5 M264) ∧ (x258 = 0 → aJ M264 v3 (0 : Int32) fun x266 => (((lg_cmp x266 (x263).toInt64) = 0 → w_L_law_1748 g F a0 L xs (fun v1 v2 v3 v4 v5 M => w_L_law_28 g F a0 L xs n v1 v2 v3 v4 v5 M) v1 (some b262) v3 v4 v5 M264) ∧ (¬ ((lg_cmp x266 (x263).toInt64) = 0) → False))))) ∧ (¬ (x265 = x258) → False)))))) (fun _ _ _ => False)) ∧ ((x1 &&& (63 : Int32)) = (25 : Int32) → w_X0_unresolved g F v1 v3 M (fun x268 M267 => gThis M267 v2 2 fun b270 => w_X3_unresolved g F b270  M267 (fun x271 M269 => (isC M269 b270 2 ∧ w_X3_thrown g F b270  M269 (fun x273 M272 => ((x273 = x268 → ((¬ x268 = 0 → w_L_law_1792 g F a0 L xs (fun v1 v2 v3 v4 v5 M => w_L_law_28 g F a0 L xs n v1 v2 v3 v4 v5 M) v1 (some b270) v3 v4 v5 M272) ∧ (x268 = 0 → aJ M272 v3 (0 : Int32) fun x274 => (((lg_cmp x274 (x271).toInt64) = 0 → w_L_law_1792 g F a0 L xs (fun v1 v2 v3 v4 v5 M => w_L_law_28 g F a0 L xs n v1 v2 v3 v4 v5 M) v1 (some b270) v3 v4 v5 M272) ∧ (¬ ((lg_cmp x274 (x271).toInt64) = 0) → False))))) ∧ (¬ (x273 = x268) → False)))))) (fun _ _ _ => False)) ∧ ((x1 &&& (63 : Int32)) = (26 : Int32) → w_X0_mergedLength g F v1 v3 M (fun x276 M275 => gThis M275 v2 2 fun b278 => w_X3_mergedLength g F b278  M275 (fun x279 M277 => (isC M277 b278 2 ∧ w_X3_thrown g F b278  M277 (fun x281 M280 => ((x281 = x276 → ((¬ x276 = 0 → w_L_law_1836 g F a0 L xs (fun v1 v2 v3 v4 v5 M => w_L_law_28 g F a0 L xs n v1 v2 v3 v4 v5 M) v1 (some b278) v3 v4 v5 M280) ∧ (x276 = 0 → aJ M280 v3 (0 : Int32) fun x282 => (((lg_cmp x282 (x279).toInt64) = 0 → w_L_law_1836 g F a0 L xs (fun v1 v2 v3 v4 v5 M => w_L_law_28 g F a0 L xs n v1 v2 v3 v4 v5 M) v1 (some b278) v3 v4 v5 M280) ∧ (¬ ((lg_cmp x282 (x279).toInt64) = 0) → False))))) ∧ (¬ (x281 = x276) → False)))))) (fun _ _ _ => False)) ∧ ((x1 &&& (63 : Int32)) = (27 : Int32) → sldW L xs (v5 + (1 : Int32)) fun x283 => w_X0_merged g F v1 x283 v3 M (fun x285 M284 => sldW L xs (v5 + (1 : Int32)) fun x286 => gThis M284 v2 2 fun b288 => w_X3_merged g F b288 x286 M284 (fun x289 M287 => (isC M287 b288 2 ∧ w_X3_thrown g F b288  M287 (fun x291 M290 => ((x291 = x285 → ((¬ x285 = 0 → w_L_law_1892 g F a0 L xs (fun v1 v2 v3 v4 v5 M => w_L_law_28 g F a0 L xs n v1 v2 v3 v4 v5 M) v1 (some b288) v3 v4 v5 M290) ∧ (x285 = 0 → aJ M290 v3 (0 : Int32) fun x292 => (((lg_cmp x292 (x289).toInt64) = 0 → w_L_law_1892 g F a0 L xs (fun v1 v2 v3 v4 v5 M => w_L_law_28 g F a0 L xs n v1 v2 v3 v4 v5 M) v1 (some b288) v3 v4 v5 M290) ∧ (¬ ((lg_cmp x292 (x289).toInt64) = 0) → False))))) ∧ (¬ (x291 = x285) → False)))))) (fun _ _ _ => False)) ∧ ((x1 &&& (63 : Int32)) = (28 : Int32) → sldW L xs (v5 + (1 : Int32)) fun x293 => w_X0_accept g F v1 x293 v3 M (fun x295 M294 => sldW L xs (v5 + (1 : Int32)) fun x296 => gThis M294 v2 2 fun b298 => w_X3_accept g F b298 x296 M294 (fun x299 M297 => (isC M297 b298 2 ∧ w_X3_thrown g F b298  M297 (fun x301 M300 => ((x301 = x295 → ((¬ x295 = 0 → w_L_law_1948 g F a0 L xs (fun v1 v2 v3 v4 v5 M => w_L_law_28 g F a0 L xs n v1 v2 v3 v4 v5 M) v1 (some b298) v3 v4 v5 M300) ∧ (x295 = 0 → aJ M300 v3 (0 : Int32) fun x302 => (((lg_cmp x302 (x299).toInt64) = 0 → w_L_law_1948 g F a0 L xs (fun v1 v2 v3 v4 v5 M => w_L_law_28 g F a0 L xs n v1 v2 v3 v4 v5 M) v1 (some b298) v3 v4 v5 M300) ∧ (¬ ((lg_cmp x302 (x299).toInt64) = 0) → False))))) ∧ (¬ (x301 = x295) → False)))))) (fun _ _ _ => False)) ∧ ((x1 &&& (63 : Int32)) = (29 : Int32) → sldW L xs (v5 + (1 : Int32)) fun x303 => w_X0_makePatch g F v1 x303 v3 M (fun x305 M304 => sldW L xs (v5 + (1 : Int32)) fun x306 => gThis M304 v2 2 fun b308 => w_X3_makePatch g F b308 x306 M304 (fun x309 M307 => (isC M307 b308 2 ∧ w_X3_thrown g F b308  M307 (fun x311 M310 => ((x311 = x305 → ((¬ x305 = 0 → w_L_law_2004 g F a0 L xs (fun v1 v2 v3 v4 v5 M => w_L_law_28 g F a0 L xs n v1 v2 v3 v4 v5 M) v1 (some b308) v3 v4 v5 M310) ∧ (x305 = 0 → aJ M310 v3 (0 : Int32) fun x312 => (((lg_cmp x312 (x309).toInt64) = 0 → w_L_law_2004 g F a0 L xs (fun v1 v2 v3 v4 v5 M => w_L_law_28 g F a0 L xs n v1 v2 v3 v4 v5 M) v1 (some b308) v3 v4 v5 M310) ∧ (¬ ((lg_cmp x312 (x309).toInt64) = 0) → False))))) ∧ (¬ (x311 = x305) → False)))))) (fun _ _ _ => False)) ∧ ((x1 &&& (63 : Int32)) = (30 : Int32) → sldW L xs (v5 + (1 : Int32)) fun x313 => sldW L xs (v5 + (2 : Int32)) fun x314 => w_X0_hunk g F v1 x313 x314 v3 M (fun x316 M315 => sldW L xs (v5 + (1 : Int32)) fun x317 => sldW L xs (v5 + (2 : Int32)) fun x318 => gThis M315 v2 2 fun b320 => w_X3_hunk g F b320 x317 x318 M315 (fun x321 M319 => (isC M319 b320 2 ∧ w_X3_thrown g F b320  M319 (fun x323 M322 => ((x323 = x316 → ((¬ x316 = 0 → w_L_law_2072 g F a0 L xs (fun v1 v2 v3 v4 v5 M => w_L_law_28 g F a0 L xs n v1 v2 v3 v4 v5 M) v1 (some b320) v3 v4 v5 M322) ∧ (x316 = 0 → aJ M322 v3 (0 : Int32) fun x324 => (((lg_cmp x324 (x321).toInt64) = 0 → w_L_law_2072 g F a0 L xs (fun v1 v2 v3 v4 v5 M => w_L_law_28 g F a0 L xs n v1 v2 v3 v4 v5 M) v1 (some b320) v3 v4 v5 M322) ∧ (¬ ((lg_cmp x324 (x321).toInt64) = 0) → False))))) ∧ (¬ (x323 = x316) → False)))))) (fun _ _ _ => False)) ∧ ((x1 &&& (63 : Int32)) = (31 : Int32) → sldW L xs (v5 + (1 : Int32)) fun x325 => sldW L xs (v5 + (2 : Int32)) fun x326 => sldW L xs (v5 + (3 : Int32)) fun x327 => ((x327 = 0 → w_L_law_2102 g F a0 L xs (fun v1 v2 v3 v4 v5 M => w_L_law_28 g F a0 L xs n v1 v2 v3 v4 v5 M) v1 v2 v3 v4 v5 v1 x325 x326 (0 : Int32) M) ∧ (¬ (x327 = 0) → w_L_law_2102 g F a0 L xs (fun v1 v2 v3 v4 v5 M => w_L_law_28 g F a0 L xs n v1 v2 v3 v4 v5 M) v1 v2 v3 v4 v5 v1 x325 x326 (1 : Int32) M))) ∧ ((x1 &&& (63 : Int32)) = (32 : Int32) → sldW L xs (v5 + (1 : Int32)) fun x328 => sldW L xs (v5 + (2 : Int32)) fun x329 => w_X0_outcome g F v1 x328 x329 v3 M (fun x331 M330 => sldW L xs (v5 + (1 : Int32)) fun x332 => sldW L xs (v5 + (2 : Int32)) fun x333 => gThis M330 v2 2 fun b335 => w_X3_outcome g F b335 x332 x333 M330 (fun x336 M334 => (isC M334 b335 2 ∧ w_X3_thrown g F b335  M334 (fun x338 M337 => ((x338 = x331 → ((¬ x331 = 0 → w_L_law_2236 g F a0 L xs (fun v1 v2 v3 v4 v5 M => w_L_law_28 g F a0 L xs n v1 v2 v3 v4 v5 M) v1 (some b335) v3 v4 v5 M337) ∧ (x331 = 0 → aJ M337 v3 (0 : Int32) fun x339 => (((lg_cmp x339 (x336).toInt64) = 0 → w_L_law_2236 g F a0 L xs (fun v1 v2 v3 v4 v5 M => w_L_law_28 g F a0 L xs n v1 v2 v3 v4 v5 M) v1 (some b335) v3 v4 v5 M337) ∧ (¬ ((lg_cmp x339 (x336).toInt64) = 0) → False))))) ∧ (¬ (x338 = x331) → False)))))) (fun _ _ _ => False)) ∧ ((x1 &&& (63 : Int32)) = (33 : Int32) → w_X0_undo g F v1 v3 M (fun x341 M340 => gThis M340 v2 2 fun b343 => w_X3_undo g F b343  M340 (fun x344 M342 => (isC M342 b343 2 ∧ w_X3_thrown g F b343  M342 (fun x346 M345 => ((x346 = x341 → ((¬ x341 = 0 → w_L_law_2280 g F a0 L xs (fun v1 v2 v3 v4 v5 M => w_L_law_28 g F a0 L xs n v1 v2 v3 v4 v5 M) v1 (some b343) v3 v4 v5 M345) ∧ (x341 = 0 → aJ M345 v3 (0 : Int32) fun x347 => (((lg_cmp x347 (x344).toInt64) = 0 → w_L_law_2280 g F a0 L xs (fun v1 v2 v3 v4 v5 M => w_L_law_28 g F a0 L xs n v1 v2 v3 v4 v5 M) v1 (some b343) v3 v4 v5 M345) ∧ (¬ ((lg_cmp x347 (x344).toInt64) = 0) → False))))) ∧ (¬ (x346 = x341) → False)))))) (fun _ _ _ => False)) ∧ ((x1 &&& (63 : Int32)) = (34 : Int32) → gThis M v1 0 fun b349 => w_X1_save g F b349  M (fun x350 M348 => gThis M348 v2 2 fun b352 => w_X3_save g F b352  M348 (fun x353 M351 => ((x350 = x353 → w_L_law_2340 g F a0 L xs (fun v1 v2 v3 v4 v5 M => w_L_law_28 g F a0 L xs n v1 v2 v3 v4 v5 M) (some b349) (some b352) v3 v4 v5 M351) ∧ (¬ (x350 = x353) → False))))) ∧ ((x1 &&& (63 : Int32)) = (35 : Int32) → w_X0_restore g F v1 v3 M (fun x355 M354 => gThis M354 v2 2 fun b357 => w_X3_restore g F b357  M354 (fun x358 M356 => (isC M356 b357 2 ∧ w_X3_thrown g F b357  M356 (fun x360 M359 => ((x360 = x355 → ((¬ x355 = 0 → w_L_law_2337 g F a0 L xs (fun v1 v2 v3 v4 v5 M => w_L_law_28 g F a0 L xs n v1 v2 v3 v4 v5 M) v1 (some b357) v3 v4 v5 M359) ∧ (x355 = 0 → aJ M359 v3 (0 : Int32) fun x361 => (((lg_cmp x361 (x358).toInt64) = 0 → w_L_law_2337 g F a0 L xs (fun v1 v2 v3 v4 v5 M => w_L_law_28 g F a0 L xs n v1 v2 v3 v4 v5 M) v1 (some b357) v3 v4 v5 M359) ∧ (¬ ((lg_cmp x361 (x358).toInt64) = 0) → False))))) ∧ (¬ (x360 = x355) → False)))))) (fun _ _ _ => False)) ∧ (¬ (x1 &&& (63 : Int32)) = (0 : Int32) → ¬ (x1 &&& (63 : Int32)) = (1 : Int32) → ¬ (x1 &&& (63 : Int32)) = (2 : Int32) → ¬ (x1 &&& (63 : Int32)) = (3 : Int32) → ¬ (x1 &&& (63 : Int32)) = (4 : Int32) → ¬ (x1 &&& (63 : Int32)) = (5 : Int32) → ¬ (x1 &&& (63 : Int32)) = (6 : Int32) → ¬ (x1 &&& (63 : Int32)) = (7 : Int32) → ¬ (x1 &&& (63 : Int32)) = (8 : Int32) → ¬ (x1 &&& (63 : Int32)) = (9 : Int32) → ¬ (x1 &&& (63 : Int32)) = (10 : Int32) → ¬ (x1 &&& (63 : Int32)) = (11 : Int32) → ¬ (x1 &&& (63 : Int32)) = (12 : Int32) → ¬ (x1 &&& (63 : Int32)) = (13 : Int32) → ¬ (x1 &&& (63 : Int32)) = (14 : Int32) → ¬ (x1 &&& (63 : Int32)) = (15 : Int32) → ¬ (x1 &&& (63 : Int32)) = (16 : Int32) → ¬ (x1 &&& (63 : Int32)) = (17 : Int32) → ¬ (x1 &&& (63 : Int32)) = (18 : Int32) → ¬ (x1 &&& (63 : Int32)) = (19 : Int32) → ¬ (x1 &&& (63 : Int32)) = (20 : Int32) → ¬ (x1 &&& (63 : Int32)) = (21 : Int32) → ¬ (x1 &&& (63 : Int32)) = (22 : Int32) → ¬ (x1 &&& (63 : Int32)) = (23 : Int32) → ¬ (x1 &&& (63 : Int32)) = (24 : Int32) → ¬ (x1 &&& (63 : Int32)) = (25 : Int32) → ¬ (x1 &&& (63 : Int32)) = (26 : Int32) → ¬ (x1 &&& (63 : Int32)) = (27 : Int32) → ¬ (x1 &&& (63 : Int32)) = (28 : Int32) → ¬ (x1 &&& (63 : Int32)) = (29 : Int32) → ¬ (x1 &&& (63 : Int32)) = (30 : Int32) → ¬ (x1 &&& (63 : Int32)) = (31 : Int32) → ¬ (x1 &&& (63 : Int32)) = (32 : Int32) → ¬ (x1 &&& (63 : Int32)) = (33 : Int32) → ¬ (x1 &&& (63 : Int32)) = (34 : Int32) → ¬ (x1 &&& (63 : Int32)) = (35 : Int32) → w_L_law_2340 g F a0 L xs (fun v1 v2 v3 v4 v5 M => w_L_law_28 g F a0 L xs n v1 v2 v3 v4 v5 M) v1 v2 v3 v4 v5 M))))
def w_L_law (g : gT) (F : Nat) (a0 : Nat) (L : Nat) (xs : Nat → Int32) (M : hM) : Prop :=
  nW M 0 fsX1 fun q1 M2 => (isC M2 q1 0 ∧ w_X1_init g F q1  M2 (fun M3 => nW M3 2 fsX3 fun q4 M5 => (isC M5 q4 2 ∧ w_X3_init g F q4  M5 (fun M6 => nA M6 1 (1 : Int32) (.inr (.inl (fun _ => 0))) fun q7 M8 => nA M8 2 (1 : Int32) (.inr (.inr (.inr (.inl (fun _ => 0))))) fun q9 M10 => w_L_law_28 g F a0 L xs F (some q1) (some q4) (some q7) (some q9) (0 : Int32) M10))))
theorem g_L_law_2340 {k : kT} {F : Nat} {a0 : Nat} {L : Nat} {xs : Nat → Int32} {K28 : (Option Nat) → (Option Nat) → (Option Nat) → (Option Nat) → Int32 → hM → Prop} (hJ : JOK (kl k) (kg k)) (hC : CX k 9 cL_law RX0 (some .boolean) 57 2383) (hQ : isQL k a0 L xs) (hK28 : ∀ (v1 : Option Nat) (v2 : Option Nat) (v3 : Option Nat) (v4 : Option Nat) (v5 : Int32) (M : hM), K28 v1 v2 v3 v4 v5 M → GW k 9 M 28 [some (va_rf (some a0)), some (va_rf v1), some (va_rf v2), some (va_rf v3), some (va_rf v4), some (.int v5), none, none, none] []) : ∀ (v1 : Option Nat) (v2 : Option Nat) (v3 : Option Nat) (v4 : Option Nat) (v5 : Int32) (M : hM), w_L_law_2340 (kg k) F a0 L xs K28 v1 v2 v3 v4 v5 M → GW k 9 M 2340 [some (va_rf (some a0)), some (va_rf v1), some (va_rf v2), some (va_rf v3), some (va_rf v4), some (.int v5), none, none, none] [] := by
  intro v1 v2 v3 v4 v5 M hw
  refine G_iinc (pc := 2340) (i := 5) (v := (v5 + (4 : Int32))) (lw := [some (va_rf (some a0)), some (va_rf v1), some (va_rf v2), some (va_rf v3), some (va_rf v4), some (.int (v5 + (4 : Int32))), none, none, none]) hC dL_law_2340 rfl (Nat.le_of_ble_eq_true rfl) rfl rfl ?_
  refine G_goto (pc := 2343) (tgt := 28) hC dL_law_2343 (by decide) ?_
  exact hK28 v1 v2 v3 v4 (v5 + (4 : Int32)) M hw
theorem g_L_law_269 {k : kT} {F : Nat} {a0 : Nat} {L : Nat} {xs : Nat → Int32} {K28 : (Option Nat) → (Option Nat) → (Option Nat) → (Option Nat) → Int32 → hM → Prop} (hJ : JOK (kl k) (kg k)) (hC : CX k 9 cL_law RX0 (some .boolean) 57 2383) (hQ : isQL k a0 L xs) (hK28 : ∀ (v1 : Option Nat) (v2 : Option Nat) (v3 : Option Nat) (v4 : Option Nat) (v5 : Int32) (M : hM), K28 v1 v2 v3 v4 v5 M → GW k 9 M 28 [some (va_rf (some a0)), some (va_rf v1), some (va_rf v2), some (va_rf v3), some (va_rf v4), some (.int v5), none, none, none] []) : ∀ (v1 : Option Nat) (v2 : Option Nat) (v3 : Option Nat) (v4 : Option Nat) (v5 : Int32) (M : hM), w_L_law_269 (kg k) F a0 L xs K28 v1 v2 v3 v4 v5 M → GW k 9 M 269 [some (va_rf (some a0)), some (va_rf v1), some (va_rf v2), some (va_rf v3), some (va_rf v4), some (.int v5), none, none, none] [] := by
  intro v1 v2 v3 v4 v5 M hw
  refine G_goto (pc := 269) (tgt := 2340) hC dL_law_269 (by decide) ?_
  exact g_L_law_2340 hJ hC hQ hK28  v1 v2 v3 v4 v5 M hw
theorem g_L_law_349 {k : kT} {F : Nat} {a0 : Nat} {L : Nat} {xs : Nat → Int32} {K28 : (Option Nat) → (Option Nat) → (Option Nat) → (Option Nat) → Int32 → hM → Prop} (hJ : JOK (kl k) (kg k)) (hC : CX k 9 cL_law RX0 (some .boolean) 57 2383) (hQ : isQL k a0 L xs) (hK28 : ∀ (v1 : Option Nat) (v2 : Option Nat) (v3 : Option Nat) (v4 : Option Nat) (v5 : Int32) (M : hM), K28 v1 v2 v3 v4 v5 M → GW k 9 M 28 [some (va_rf (some a0)), some (va_rf v1), some (va_rf v2), some (va_rf v3), some (va_rf v4), some (.int v5), none, none, none] []) : ∀ (v1 : Option Nat) (v2 : Option Nat) (v3 : Option Nat) (v4 : Option Nat) (v5 : Int32) (M : hM), w_L_law_349 (kg k) F a0 L xs K28 v1 v2 v3 v4 v5 M → GW k 9 M 349 [some (va_rf (some a0)), some (va_rf v1), some (va_rf v2), some (va_rf v3), some (va_rf v4), some (.int v5), none, none, none] [] := by
  intro v1 v2 v3 v4 v5 M hw
  refine G_goto (pc := 349) (tgt := 2340) hC dL_law_349 (by decide) ?_
  exact g_L_law_2340 hJ hC hQ hK28  v1 v2 v3 v4 v5 M hw
theorem g_L_law_417 {k : kT} {F : Nat} {a0 : Nat} {L : Nat} {xs : Nat → Int32} {K28 : (Option Nat) → (Option Nat) → (Option Nat) → (Option Nat) → Int32 → hM → Prop} (hJ : JOK (kl k) (kg k)) (hC : CX k 9 cL_law RX0 (some .boolean) 57 2383) (hQ : isQL k a0 L xs) (hK28 : ∀ (v1 : Option Nat) (v2 : Option Nat) (v3 : Option Nat) (v4 : Option Nat) (v5 : Int32) (M : hM), K28 v1 v2 v3 v4 v5 M → GW k 9 M 28 [some (va_rf (some a0)), some (va_rf v1), some (va_rf v2), some (va_rf v3), some (va_rf v4), some (.int v5), none, none, none] []) : ∀ (v1 : Option Nat) (v2 : Option Nat) (v3 : Option Nat) (v4 : Option Nat) (v5 : Int32) (M : hM), w_L_law_417 (kg k) F a0 L xs K28 v1 v2 v3 v4 v5 M → GW k 9 M 417 [some (va_rf (some a0)), some (va_rf v1), some (va_rf v2), some (va_rf v3), some (va_rf v4), some (.int v5), none, none, none] [] := by
  intro v1 v2 v3 v4 v5 M hw
  refine G_goto (pc := 417) (tgt := 2340) hC dL_law_417 (by decide) ?_
  exact g_L_law_2340 hJ hC hQ hK28  v1 v2 v3 v4 v5 M hw
theorem g_L_law_473 {k : kT} {F : Nat} {a0 : Nat} {L : Nat} {xs : Nat → Int32} {K28 : (Option Nat) → (Option Nat) → (Option Nat) → (Option Nat) → Int32 → hM → Prop} (hJ : JOK (kl k) (kg k)) (hC : CX k 9 cL_law RX0 (some .boolean) 57 2383) (hQ : isQL k a0 L xs) (hK28 : ∀ (v1 : Option Nat) (v2 : Option Nat) (v3 : Option Nat) (v4 : Option Nat) (v5 : Int32) (M : hM), K28 v1 v2 v3 v4 v5 M → GW k 9 M 28 [some (va_rf (some a0)), some (va_rf v1), some (va_rf v2), some (va_rf v3), some (va_rf v4), some (.int v5), none, none, none] []) : ∀ (v1 : Option Nat) (v2 : Option Nat) (v3 : Option Nat) (v4 : Option Nat) (v5 : Int32) (M : hM), w_L_law_473 (kg k) F a0 L xs K28 v1 v2 v3 v4 v5 M → GW k 9 M 473 [some (va_rf (some a0)), some (va_rf v1), some (va_rf v2), some (va_rf v3), some (va_rf v4), some (.int v5), none, none, none] [] := by
  intro v1 v2 v3 v4 v5 M hw
  refine G_goto (pc := 473) (tgt := 2340) hC dL_law_473 (by decide) ?_
  exact g_L_law_2340 hJ hC hQ hK28  v1 v2 v3 v4 v5 M hw
theorem g_L_law_541 {k : kT} {F : Nat} {a0 : Nat} {L : Nat} {xs : Nat → Int32} {K28 : (Option Nat) → (Option Nat) → (Option Nat) → (Option Nat) → Int32 → hM → Prop} (hJ : JOK (kl k) (kg k)) (hC : CX k 9 cL_law RX0 (some .boolean) 57 2383) (hQ : isQL k a0 L xs) (hK28 : ∀ (v1 : Option Nat) (v2 : Option Nat) (v3 : Option Nat) (v4 : Option Nat) (v5 : Int32) (M : hM), K28 v1 v2 v3 v4 v5 M → GW k 9 M 28 [some (va_rf (some a0)), some (va_rf v1), some (va_rf v2), some (va_rf v3), some (va_rf v4), some (.int v5), none, none, none] []) : ∀ (v1 : Option Nat) (v2 : Option Nat) (v3 : Option Nat) (v4 : Option Nat) (v5 : Int32) (M : hM), w_L_law_541 (kg k) F a0 L xs K28 v1 v2 v3 v4 v5 M → GW k 9 M 541 [some (va_rf (some a0)), some (va_rf v1), some (va_rf v2), some (va_rf v3), some (va_rf v4), some (.int v5), none, none, none] [] := by
  intro v1 v2 v3 v4 v5 M hw
  refine G_goto (pc := 541) (tgt := 2340) hC dL_law_541 (by decide) ?_
  exact g_L_law_2340 hJ hC hQ hK28  v1 v2 v3 v4 v5 M hw
theorem g_L_law_609 {k : kT} {F : Nat} {a0 : Nat} {L : Nat} {xs : Nat → Int32} {K28 : (Option Nat) → (Option Nat) → (Option Nat) → (Option Nat) → Int32 → hM → Prop} (hJ : JOK (kl k) (kg k)) (hC : CX k 9 cL_law RX0 (some .boolean) 57 2383) (hQ : isQL k a0 L xs) (hK28 : ∀ (v1 : Option Nat) (v2 : Option Nat) (v3 : Option Nat) (v4 : Option Nat) (v5 : Int32) (M : hM), K28 v1 v2 v3 v4 v5 M → GW k 9 M 28 [some (va_rf (some a0)), some (va_rf v1), some (va_rf v2), some (va_rf v3), some (va_rf v4), some (.int v5), none, none, none] []) : ∀ (v1 : Option Nat) (v2 : Option Nat) (v3 : Option Nat) (v4 : Option Nat) (v5 : Int32) (M : hM), w_L_law_609 (kg k) F a0 L xs K28 v1 v2 v3 v4 v5 M → GW k 9 M 609 [some (va_rf (some a0)), some (va_rf v1), some (va_rf v2), some (va_rf v3), some (va_rf v4), some (.int v5), none, none, none] [] := by
  intro v1 v2 v3 v4 v5 M hw
  refine G_goto (pc := 609) (tgt := 2340) hC dL_law_609 (by decide) ?_
  exact g_L_law_2340 hJ hC hQ hK28  v1 v2 v3 v4 v5 M hw
theorem g_L_law_684 {k : kT} {F : Nat} {a0 : Nat} {L : Nat} {xs : Nat → Int32} {K28 : (Option Nat) → (Option Nat) → (Option Nat) → (Option Nat) → Int32 → hM → Prop} (hJ : JOK (kl k) (kg k)) (hC : CX k 9 cL_law RX0 (some .boolean) 57 2383) (hQ : isQL k a0 L xs) (hK28 : ∀ (v1 : Option Nat) (v2 : Option Nat) (v3 : Option Nat) (v4 : Option Nat) (v5 : Int32) (M : hM), K28 v1 v2 v3 v4 v5 M → GW k 9 M 28 [some (va_rf (some a0)), some (va_rf v1), some (va_rf v2), some (va_rf v3), some (va_rf v4), some (.int v5), none, none, none] []) : ∀ (v1 : Option Nat) (v2 : Option Nat) (v3 : Option Nat) (v4 : Option Nat) (v5 : Int32) (M : hM), w_L_law_684 (kg k) F a0 L xs K28 v1 v2 v3 v4 v5 M → GW k 9 M 684 [some (va_rf (some a0)), some (va_rf v1), some (va_rf v2), some (va_rf v3), some (va_rf v4), some (.int v5), none, none, none] [] := by
  intro v1 v2 v3 v4 v5 M hw
  refine G_goto (pc := 684) (tgt := 2340) hC dL_law_684 (by decide) ?_
  exact g_L_law_2340 hJ hC hQ hK28  v1 v2 v3 v4 v5 M hw
theorem g_L_law_678 {k : kT} {F : Nat} {a0 : Nat} {L : Nat} {xs : Nat → Int32} {K28 : (Option Nat) → (Option Nat) → (Option Nat) → (Option Nat) → Int32 → hM → Prop} (hJ : JOK (kl k) (kg k)) (hC : CX k 9 cL_law RX0 (some .boolean) 57 2383) (hQ : isQL k a0 L xs) (hK28 : ∀ (v1 : Option Nat) (v2 : Option Nat) (v3 : Option Nat) (v4 : Option Nat) (v5 : Int32) (M : hM), K28 v1 v2 v3 v4 v5 M → GW k 9 M 28 [some (va_rf (some a0)), some (va_rf v1), some (va_rf v2), some (va_rf v3), some (va_rf v4), some (.int v5), none, none, none] []) : ∀ (v1 : Option Nat) (v2 : Option Nat) (v3 : Option Nat) (v4 : Option Nat) (v5 : Int32) (s0 : Int64) (s1 : Int64) (M : hM), w_L_law_678 (kg k) F a0 L xs K28 v1 v2 v3 v4 v5 s0 s1 M → GW k 9 M 678 [some (va_rf (some a0)), some (va_rf v1), some (va_rf v2), some (va_rf v3), some (va_rf v4), some (.int v5), none, none, none] [.long s1, .long s0] := by
  intro v1 v2 v3 v4 v5 s0 s1 M hw
  refine G_lcmp (pc := 678) hC dL_law_678 ?_
  refine G_if_eq (pc := 679) (tgt := 684) hC dL_law_679 (by decide) (fun hc => ?_) (fun hc => ?_)
  · replace hw := hw.1 hc
    exact g_L_law_684 hJ hC hQ hK28  v1 v2 v3 v4 v5 M hw
  · replace hw := hw.2 hc
    refine G_iconst (pc := 682) (v := 0) hC dL_law_682 (by decide) ?_
    exact hw.elim
theorem g_L_law_752 {k : kT} {F : Nat} {a0 : Nat} {L : Nat} {xs : Nat → Int32} {K28 : (Option Nat) → (Option Nat) → (Option Nat) → (Option Nat) → Int32 → hM → Prop} (hJ : JOK (kl k) (kg k)) (hC : CX k 9 cL_law RX0 (some .boolean) 57 2383) (hQ : isQL k a0 L xs) (hK28 : ∀ (v1 : Option Nat) (v2 : Option Nat) (v3 : Option Nat) (v4 : Option Nat) (v5 : Int32) (M : hM), K28 v1 v2 v3 v4 v5 M → GW k 9 M 28 [some (va_rf (some a0)), some (va_rf v1), some (va_rf v2), some (va_rf v3), some (va_rf v4), some (.int v5), none, none, none] []) : ∀ (v1 : Option Nat) (v2 : Option Nat) (v3 : Option Nat) (v4 : Option Nat) (v5 : Int32) (M : hM), w_L_law_752 (kg k) F a0 L xs K28 v1 v2 v3 v4 v5 M → GW k 9 M 752 [some (va_rf (some a0)), some (va_rf v1), some (va_rf v2), some (va_rf v3), some (va_rf v4), some (.int v5), none, none, none] [] := by
  intro v1 v2 v3 v4 v5 M hw
  refine G_goto (pc := 752) (tgt := 2340) hC dL_law_752 (by decide) ?_
  exact g_L_law_2340 hJ hC hQ hK28  v1 v2 v3 v4 v5 M hw
theorem g_L_law_810 {k : kT} {F : Nat} {a0 : Nat} {L : Nat} {xs : Nat → Int32} {K28 : (Option Nat) → (Option Nat) → (Option Nat) → (Option Nat) → Int32 → hM → Prop} (hJ : JOK (kl k) (kg k)) (hC : CX k 9 cL_law RX0 (some .boolean) 57 2383) (hQ : isQL k a0 L xs) (hK28 : ∀ (v1 : Option Nat) (v2 : Option Nat) (v3 : Option Nat) (v4 : Option Nat) (v5 : Int32) (M : hM), K28 v1 v2 v3 v4 v5 M → GW k 9 M 28 [some (va_rf (some a0)), some (va_rf v1), some (va_rf v2), some (va_rf v3), some (va_rf v4), some (.int v5), none, none, none] []) : ∀ (v1 : Option Nat) (v2 : Option Nat) (v3 : Option Nat) (v4 : Option Nat) (v5 : Int32) (M : hM), w_L_law_810 (kg k) F a0 L xs K28 v1 v2 v3 v4 v5 M → GW k 9 M 810 [some (va_rf (some a0)), some (va_rf v1), some (va_rf v2), some (va_rf v3), some (va_rf v4), some (.int v5), none, none, none] [] := by
  intro v1 v2 v3 v4 v5 M hw
  refine G_goto (pc := 810) (tgt := 2340) hC dL_law_810 (by decide) ?_
  exact g_L_law_2340 hJ hC hQ hK28  v1 v2 v3 v4 v5 M hw
theorem g_L_law_866 {k : kT} {F : Nat} {a0 : Nat} {L : Nat} {xs : Nat → Int32} {K28 : (Option Nat) → (Option Nat) → (Option Nat) → (Option Nat) → Int32 → hM → Prop} (hJ : JOK (kl k) (kg k)) (hC : CX k 9 cL_law RX0 (some .boolean) 57 2383) (hQ : isQL k a0 L xs) (hK28 : ∀ (v1 : Option Nat) (v2 : Option Nat) (v3 : Option Nat) (v4 : Option Nat) (v5 : Int32) (M : hM), K28 v1 v2 v3 v4 v5 M → GW k 9 M 28 [some (va_rf (some a0)), some (va_rf v1), some (va_rf v2), some (va_rf v3), some (va_rf v4), some (.int v5), none, none, none] []) : ∀ (v1 : Option Nat) (v2 : Option Nat) (v3 : Option Nat) (v4 : Option Nat) (v5 : Int32) (M : hM), w_L_law_866 (kg k) F a0 L xs K28 v1 v2 v3 v4 v5 M → GW k 9 M 866 [some (va_rf (some a0)), some (va_rf v1), some (va_rf v2), some (va_rf v3), some (va_rf v4), some (.int v5), none, none, none] [] := by
  intro v1 v2 v3 v4 v5 M hw
  refine G_goto (pc := 866) (tgt := 2340) hC dL_law_866 (by decide) ?_
  exact g_L_law_2340 hJ hC hQ hK28  v1 v2 v3 v4 v5 M hw
theorem g_L_law_922 {k : kT} {F : Nat} {a0 : Nat} {L : Nat} {xs : Nat → Int32} {K28 : (Option Nat) → (Option Nat) → (Option Nat) → (Option Nat) → Int32 → hM → Prop} (hJ : JOK (kl k) (kg k)) (hC : CX k 9 cL_law RX0 (some .boolean) 57 2383) (hQ : isQL k a0 L xs) (hK28 : ∀ (v1 : Option Nat) (v2 : Option Nat) (v3 : Option Nat) (v4 : Option Nat) (v5 : Int32) (M : hM), K28 v1 v2 v3 v4 v5 M → GW k 9 M 28 [some (va_rf (some a0)), some (va_rf v1), some (va_rf v2), some (va_rf v3), some (va_rf v4), some (.int v5), none, none, none] []) : ∀ (v1 : Option Nat) (v2 : Option Nat) (v3 : Option Nat) (v4 : Option Nat) (v5 : Int32) (M : hM), w_L_law_922 (kg k) F a0 L xs K28 v1 v2 v3 v4 v5 M → GW k 9 M 922 [some (va_rf (some a0)), some (va_rf v1), some (va_rf v2), some (va_rf v3), some (va_rf v4), some (.int v5), none, none, none] [] := by
  intro v1 v2 v3 v4 v5 M hw
  refine G_goto (pc := 922) (tgt := 2340) hC dL_law_922 (by decide) ?_
  exact g_L_law_2340 hJ hC hQ hK28  v1 v2 v3 v4 v5 M hw
theorem g_L_law_990 {k : kT} {F : Nat} {a0 : Nat} {L : Nat} {xs : Nat → Int32} {K28 : (Option Nat) → (Option Nat) → (Option Nat) → (Option Nat) → Int32 → hM → Prop} (hJ : JOK (kl k) (kg k)) (hC : CX k 9 cL_law RX0 (some .boolean) 57 2383) (hQ : isQL k a0 L xs) (hK28 : ∀ (v1 : Option Nat) (v2 : Option Nat) (v3 : Option Nat) (v4 : Option Nat) (v5 : Int32) (M : hM), K28 v1 v2 v3 v4 v5 M → GW k 9 M 28 [some (va_rf (some a0)), some (va_rf v1), some (va_rf v2), some (va_rf v3), some (va_rf v4), some (.int v5), none, none, none] []) : ∀ (v1 : Option Nat) (v2 : Option Nat) (v3 : Option Nat) (v4 : Option Nat) (v5 : Int32) (M : hM), w_L_law_990 (kg k) F a0 L xs K28 v1 v2 v3 v4 v5 M → GW k 9 M 990 [some (va_rf (some a0)), some (va_rf v1), some (va_rf v2), some (va_rf v3), some (va_rf v4), some (.int v5), none, none, none] [] := by
  intro v1 v2 v3 v4 v5 M hw
  refine G_goto (pc := 990) (tgt := 2340) hC dL_law_990 (by decide) ?_
  exact g_L_law_2340 hJ hC hQ hK28  v1 v2 v3 v4 v5 M hw
theorem g_L_law_1046 {k : kT} {F : Nat} {a0 : Nat} {L : Nat} {xs : Nat → Int32} {K28 : (Option Nat) → (Option Nat) → (Option Nat) → (Option Nat) → Int32 → hM → Prop} (hJ : JOK (kl k) (kg k)) (hC : CX k 9 cL_law RX0 (some .boolean) 57 2383) (hQ : isQL k a0 L xs) (hK28 : ∀ (v1 : Option Nat) (v2 : Option Nat) (v3 : Option Nat) (v4 : Option Nat) (v5 : Int32) (M : hM), K28 v1 v2 v3 v4 v5 M → GW k 9 M 28 [some (va_rf (some a0)), some (va_rf v1), some (va_rf v2), some (va_rf v3), some (va_rf v4), some (.int v5), none, none, none] []) : ∀ (v1 : Option Nat) (v2 : Option Nat) (v3 : Option Nat) (v4 : Option Nat) (v5 : Int32) (M : hM), w_L_law_1046 (kg k) F a0 L xs K28 v1 v2 v3 v4 v5 M → GW k 9 M 1046 [some (va_rf (some a0)), some (va_rf v1), some (va_rf v2), some (va_rf v3), some (va_rf v4), some (.int v5), none, none, none] [] := by
  intro v1 v2 v3 v4 v5 M hw
  refine G_goto (pc := 1046) (tgt := 2340) hC dL_law_1046 (by decide) ?_
  exact g_L_law_2340 hJ hC hQ hK28  v1 v2 v3 v4 v5 M hw
theorem g_L_law_1090 {k : kT} {F : Nat} {a0 : Nat} {L : Nat} {xs : Nat → Int32} {K28 : (Option Nat) → (Option Nat) → (Option Nat) → (Option Nat) → Int32 → hM → Prop} (hJ : JOK (kl k) (kg k)) (hC : CX k 9 cL_law RX0 (some .boolean) 57 2383) (hQ : isQL k a0 L xs) (hK28 : ∀ (v1 : Option Nat) (v2 : Option Nat) (v3 : Option Nat) (v4 : Option Nat) (v5 : Int32) (M : hM), K28 v1 v2 v3 v4 v5 M → GW k 9 M 28 [some (va_rf (some a0)), some (va_rf v1), some (va_rf v2), some (va_rf v3), some (va_rf v4), some (.int v5), none, none, none] []) : ∀ (v1 : Option Nat) (v2 : Option Nat) (v3 : Option Nat) (v4 : Option Nat) (v5 : Int32) (M : hM), w_L_law_1090 (kg k) F a0 L xs K28 v1 v2 v3 v4 v5 M → GW k 9 M 1090 [some (va_rf (some a0)), some (va_rf v1), some (va_rf v2), some (va_rf v3), some (va_rf v4), some (.int v5), none, none, none] [] := by
  intro v1 v2 v3 v4 v5 M hw
  refine G_goto (pc := 1090) (tgt := 2340) hC dL_law_1090 (by decide) ?_
  exact g_L_law_2340 hJ hC hQ hK28  v1 v2 v3 v4 v5 M hw
theorem g_L_law_1134 {k : kT} {F : Nat} {a0 : Nat} {L : Nat} {xs : Nat → Int32} {K28 : (Option Nat) → (Option Nat) → (Option Nat) → (Option Nat) → Int32 → hM → Prop} (hJ : JOK (kl k) (kg k)) (hC : CX k 9 cL_law RX0 (some .boolean) 57 2383) (hQ : isQL k a0 L xs) (hK28 : ∀ (v1 : Option Nat) (v2 : Option Nat) (v3 : Option Nat) (v4 : Option Nat) (v5 : Int32) (M : hM), K28 v1 v2 v3 v4 v5 M → GW k 9 M 28 [some (va_rf (some a0)), some (va_rf v1), some (va_rf v2), some (va_rf v3), some (va_rf v4), some (.int v5), none, none, none] []) : ∀ (v1 : Option Nat) (v2 : Option Nat) (v3 : Option Nat) (v4 : Option Nat) (v5 : Int32) (M : hM), w_L_law_1134 (kg k) F a0 L xs K28 v1 v2 v3 v4 v5 M → GW k 9 M 1134 [some (va_rf (some a0)), some (va_rf v1), some (va_rf v2), some (va_rf v3), some (va_rf v4), some (.int v5), none, none, none] [] := by
  intro v1 v2 v3 v4 v5 M hw
  refine G_goto (pc := 1134) (tgt := 2340) hC dL_law_1134 (by decide) ?_
  exact g_L_law_2340 hJ hC hQ hK28  v1 v2 v3 v4 v5 M hw
theorem g_L_law_1202 {k : kT} {F : Nat} {a0 : Nat} {L : Nat} {xs : Nat → Int32} {K28 : (Option Nat) → (Option Nat) → (Option Nat) → (Option Nat) → Int32 → hM → Prop} (hJ : JOK (kl k) (kg k)) (hC : CX k 9 cL_law RX0 (some .boolean) 57 2383) (hQ : isQL k a0 L xs) (hK28 : ∀ (v1 : Option Nat) (v2 : Option Nat) (v3 : Option Nat) (v4 : Option Nat) (v5 : Int32) (M : hM), K28 v1 v2 v3 v4 v5 M → GW k 9 M 28 [some (va_rf (some a0)), some (va_rf v1), some (va_rf v2), some (va_rf v3), some (va_rf v4), some (.int v5), none, none, none] []) : ∀ (v1 : Option Nat) (v2 : Option Nat) (v3 : Option Nat) (v4 : Option Nat) (v5 : Int32) (M : hM), w_L_law_1202 (kg k) F a0 L xs K28 v1 v2 v3 v4 v5 M → GW k 9 M 1202 [some (va_rf (some a0)), some (va_rf v1), some (va_rf v2), some (va_rf v3), some (va_rf v4), some (.int v5), none, none, none] [] := by
  intro v1 v2 v3 v4 v5 M hw
  refine G_goto (pc := 1202) (tgt := 2340) hC dL_law_1202 (by decide) ?_
  exact g_L_law_2340 hJ hC hQ hK28  v1 v2 v3 v4 v5 M hw
theorem g_L_law_1258 {k : kT} {F : Nat} {a0 : Nat} {L : Nat} {xs : Nat → Int32} {K28 : (Option Nat) → (Option Nat) → (Option Nat) → (Option Nat) → Int32 → hM → Prop} (hJ : JOK (kl k) (kg k)) (hC : CX k 9 cL_law RX0 (some .boolean) 57 2383) (hQ : isQL k a0 L xs) (hK28 : ∀ (v1 : Option Nat) (v2 : Option Nat) (v3 : Option Nat) (v4 : Option Nat) (v5 : Int32) (M : hM), K28 v1 v2 v3 v4 v5 M → GW k 9 M 28 [some (va_rf (some a0)), some (va_rf v1), some (va_rf v2), some (va_rf v3), some (va_rf v4), some (.int v5), none, none, none] []) : ∀ (v1 : Option Nat) (v2 : Option Nat) (v3 : Option Nat) (v4 : Option Nat) (v5 : Int32) (M : hM), w_L_law_1258 (kg k) F a0 L xs K28 v1 v2 v3 v4 v5 M → GW k 9 M 1258 [some (va_rf (some a0)), some (va_rf v1), some (va_rf v2), some (va_rf v3), some (va_rf v4), some (.int v5), none, none, none] [] := by
  intro v1 v2 v3 v4 v5 M hw
  refine G_goto (pc := 1258) (tgt := 2340) hC dL_law_1258 (by decide) ?_
  exact g_L_law_2340 hJ hC hQ hK28  v1 v2 v3 v4 v5 M hw
theorem g_L_law_1323 {k : kT} {F : Nat} {a0 : Nat} {L : Nat} {xs : Nat → Int32} {K28 : (Option Nat) → (Option Nat) → (Option Nat) → (Option Nat) → Int32 → hM → Prop} (hJ : JOK (kl k) (kg k)) (hC : CX k 9 cL_law RX0 (some .boolean) 57 2383) (hQ : isQL k a0 L xs) (hK28 : ∀ (v1 : Option Nat) (v2 : Option Nat) (v3 : Option Nat) (v4 : Option Nat) (v5 : Int32) (M : hM), K28 v1 v2 v3 v4 v5 M → GW k 9 M 28 [some (va_rf (some a0)), some (va_rf v1), some (va_rf v2), some (va_rf v3), some (va_rf v4), some (.int v5), none, none, none] []) : ∀ (v1 : Option Nat) (v2 : Option Nat) (v3 : Option Nat) (v4 : Option Nat) (v5 : Int32) (M : hM), w_L_law_1323 (kg k) F a0 L xs K28 v1 v2 v3 v4 v5 M → GW k 9 M 1323 [some (va_rf (some a0)), some (va_rf v1), some (va_rf v2), some (va_rf v3), some (va_rf v4), some (.int v5), none, none, none] [] := by
  intro v1 v2 v3 v4 v5 M hw
  refine G_goto (pc := 1323) (tgt := 2340) hC dL_law_1323 (by decide) ?_
  exact g_L_law_2340 hJ hC hQ hK28  v1 v2 v3 v4 v5 M hw
theorem g_L_law_1321 {k : kT} {F : Nat} {a0 : Nat} {L : Nat} {xs : Nat → Int32} (hJ : JOK (kl k) (kg k)) (hC : CX k 9 cL_law RX0 (some .boolean) 57 2383) (hQ : isQL k a0 L xs) : ∀  (M : hM), w_L_law_1321 (kg k) F a0 L xs  M → GW k 9 M 1321 [some (va_rf (some a0)), none, none, none, none, none, none, none, none] [] := by
  intro  M hw
  refine G_iconst (pc := 1321) (v := 0) hC dL_law_1321 (by decide) ?_
  exact hw.elim
theorem g_L_law_1379 {k : kT} {F : Nat} {a0 : Nat} {L : Nat} {xs : Nat → Int32} {K28 : (Option Nat) → (Option Nat) → (Option Nat) → (Option Nat) → Int32 → hM → Prop} (hJ : JOK (kl k) (kg k)) (hC : CX k 9 cL_law RX0 (some .boolean) 57 2383) (hQ : isQL k a0 L xs) (hK28 : ∀ (v1 : Option Nat) (v2 : Option Nat) (v3 : Option Nat) (v4 : Option Nat) (v5 : Int32) (M : hM), K28 v1 v2 v3 v4 v5 M → GW k 9 M 28 [some (va_rf (some a0)), some (va_rf v1), some (va_rf v2), some (va_rf v3), some (va_rf v4), some (.int v5), none, none, none] []) : ∀ (v1 : Option Nat) (v2 : Option Nat) (v3 : Option Nat) (v4 : Option Nat) (v5 : Int32) (M : hM), w_L_law_1379 (kg k) F a0 L xs K28 v1 v2 v3 v4 v5 M → GW k 9 M 1379 [some (va_rf (some a0)), some (va_rf v1), some (va_rf v2), some (va_rf v3), some (va_rf v4), some (.int v5), none, none, none] [] := by
  intro v1 v2 v3 v4 v5 M hw
  refine G_goto (pc := 1379) (tgt := 2340) hC dL_law_1379 (by decide) ?_
  exact g_L_law_2340 hJ hC hQ hK28  v1 v2 v3 v4 v5 M hw
theorem g_L_law_1447 {k : kT} {F : Nat} {a0 : Nat} {L : Nat} {xs : Nat → Int32} {K28 : (Option Nat) → (Option Nat) → (Option Nat) → (Option Nat) → Int32 → hM → Prop} (hJ : JOK (kl k) (kg k)) (hC : CX k 9 cL_law RX0 (some .boolean) 57 2383) (hQ : isQL k a0 L xs) (hK28 : ∀ (v1 : Option Nat) (v2 : Option Nat) (v3 : Option Nat) (v4 : Option Nat) (v5 : Int32) (M : hM), K28 v1 v2 v3 v4 v5 M → GW k 9 M 28 [some (va_rf (some a0)), some (va_rf v1), some (va_rf v2), some (va_rf v3), some (va_rf v4), some (.int v5), none, none, none] []) : ∀ (v1 : Option Nat) (v2 : Option Nat) (v3 : Option Nat) (v4 : Option Nat) (v5 : Int32) (M : hM), w_L_law_1447 (kg k) F a0 L xs K28 v1 v2 v3 v4 v5 M → GW k 9 M 1447 [some (va_rf (some a0)), some (va_rf v1), some (va_rf v2), some (va_rf v3), some (va_rf v4), some (.int v5), none, none, none] [] := by
  intro v1 v2 v3 v4 v5 M hw
  refine G_goto (pc := 1447) (tgt := 2340) hC dL_law_1447 (by decide) ?_
  exact g_L_law_2340 hJ hC hQ hK28  v1 v2 v3 v4 v5 M hw
theorem g_L_law_1483 {k : kT} {F : Nat} {a0 : Nat} {L : Nat} {xs : Nat → Int32} {K28 : (Option Nat) → (Option Nat) → (Option Nat) → (Option Nat) → Int32 → hM → Prop} (hJ : JOK (kl k) (kg k)) (hC : CX k 9 cL_law RX0 (some .boolean) 57 2383) (hQ : isQL k a0 L xs) (hK28 : ∀ (v1 : Option Nat) (v2 : Option Nat) (v3 : Option Nat) (v4 : Option Nat) (v5 : Int32) (M : hM), K28 v1 v2 v3 v4 v5 M → GW k 9 M 28 [some (va_rf (some a0)), some (va_rf v1), some (va_rf v2), some (va_rf v3), some (va_rf v4), some (.int v5), none, none, none] []) : ∀ (v1 : Option Nat) (v2 : Option Nat) (v3 : Option Nat) (v4 : Option Nat) (v5 : Int32) (s0 : Int32) (s1 : Option Nat) (s2 : Int32) (M : hM), w_L_law_1483 (kg k) F a0 L xs K28 v1 v2 v3 v4 v5 s0 s1 s2 M → GW k 9 M 1483 [some (va_rf (some a0)), some (va_rf v1), some (va_rf v2), some (va_rf v3), some (va_rf v4), some (.int v5), none, none, none] [.int s2, va_rf s1, .int s0] := by
  intro v1 v2 v3 v4 v5 s0 s1 s2 M hw
  obtain ⟨b2, rfl, hb, hw⟩ := gThis_e hw
  refine G_callV (pc := 1483) (n := 1) (C := "MergeWorkbenchModel") (b := b2) (As := [.int s2]) (rest := [.int s0]) hC (m_X3_setShrinking hJ hw) (lw_V q3734 q3735 q3736 q108 q3737) hdL_X3_setShrinking (by decide) (rcv (C := RX3) (T := TX3) (N := 61) hC hb rfl) rfl rfl (st_c (cat_i cat_e) (Nat.le_of_ble_eq_true rfl)) dL_law_1483 (kI fun x3 M1 hw => ?_)
  refine G_icmp_eq (pc := 1486) (tgt := 2340) hC dL_law_1486 (by decide) (fun hc => ?_) (fun hc => ?_)
  · replace hw := hw.1 hc
    exact g_L_law_2340 hJ hC hQ hK28  v1 v2 v3 v4 v5 M1 hw
  · replace hw := hw.2 hc
    refine G_iconst (pc := 1489) (v := 0) hC dL_law_1489 (by decide) ?_
    exact hw.elim
theorem g_L_law_1465 {k : kT} {F : Nat} {a0 : Nat} {L : Nat} {xs : Nat → Int32} {K28 : (Option Nat) → (Option Nat) → (Option Nat) → (Option Nat) → Int32 → hM → Prop} (hJ : JOK (kl k) (kg k)) (hC : CX k 9 cL_law RX0 (some .boolean) 57 2383) (hQ : isQL k a0 L xs) (hK28 : ∀ (v1 : Option Nat) (v2 : Option Nat) (v3 : Option Nat) (v4 : Option Nat) (v5 : Int32) (M : hM), K28 v1 v2 v3 v4 v5 M → GW k 9 M 28 [some (va_rf (some a0)), some (va_rf v1), some (va_rf v2), some (va_rf v3), some (va_rf v4), some (.int v5), none, none, none] []) : ∀ (v1 : Option Nat) (v2 : Option Nat) (v3 : Option Nat) (v4 : Option Nat) (v5 : Int32) (s0 : Option Nat) (s1 : Int32) (M : hM), w_L_law_1465 (kg k) F a0 L xs K28 v1 v2 v3 v4 v5 s0 s1 M → GW k 9 M 1465 [some (va_rf (some a0)), some (va_rf v1), some (va_rf v2), some (va_rf v3), some (va_rf v4), some (.int v5), none, none, none] [.int s1, va_rf s0] := by
  intro v1 v2 v3 v4 v5 s0 s1 M hw
  obtain ⟨b2, rfl, hb, hw⟩ := gThis_e hw
  refine G_callV (pc := 1465) (n := 1) (C := "MergeWorkbench") (b := b2) (As := [.int s1]) (rest := []) hC (m_X1_setShrinking hJ hw) (lw_V q725 q726 q727 q84 q728) hdL_X1_setShrinking (by decide) (rcv (C := RX1) (T := TX1) (N := 10) hC hb rfl) rfl rfl (st_c cat_e (Nat.le_of_ble_eq_true rfl)) dL_law_1465 (kI fun x3 M1 hw => ?_)
  refine G_aload_n (pc := 1468) (i := 2) hC dL_law_1468 rfl rfl ?_
  refine G_aload_n (pc := 1469) (i := 0) hC dL_law_1469 rfl rfl ?_
  refine G_iload (pc := 1470) (i := 5) hC dL_law_1470 rfl ?_
  refine G_iconst (pc := 1472) (v := 1) hC dL_law_1472 (by decide) ?_
  refine G_iadd (pc := 1473) hC dL_law_1473 ?_
  refine G_sld (pc := 1474) hC hQ dL_law_1474 hw (fun x4 hw => ?_)
  refine G_if_eq (pc := 1475) (tgt := 1482) hC dL_law_1475 (by decide) (fun hc => ?_) (fun hc => ?_)
  · replace hw := hw.1 hc
    refine G_iconst (pc := 1482) (v := 0) hC dL_law_1482 (by decide) ?_
    exact g_L_law_1483 hJ hC hQ hK28  v1 v2 v3 v4 v5 x3 v2 (0 : Int32) M1 hw
  · replace hw := hw.2 hc
    refine G_iconst (pc := 1478) (v := 1) hC dL_law_1478 (by decide) ?_
    refine G_goto (pc := 1479) (tgt := 1483) hC dL_law_1479 (by decide) ?_
    exact g_L_law_1483 hJ hC hQ hK28  v1 v2 v3 v4 v5 x3 v2 (1 : Int32) M1 hw
theorem g_L_law_1568 {k : kT} {F : Nat} {a0 : Nat} {L : Nat} {xs : Nat → Int32} {K28 : (Option Nat) → (Option Nat) → (Option Nat) → (Option Nat) → Int32 → hM → Prop} (hJ : JOK (kl k) (kg k)) (hC : CX k 9 cL_law RX0 (some .boolean) 57 2383) (hQ : isQL k a0 L xs) (hK28 : ∀ (v1 : Option Nat) (v2 : Option Nat) (v3 : Option Nat) (v4 : Option Nat) (v5 : Int32) (M : hM), K28 v1 v2 v3 v4 v5 M → GW k 9 M 28 [some (va_rf (some a0)), some (va_rf v1), some (va_rf v2), some (va_rf v3), some (va_rf v4), some (.int v5), none, none, none] []) : ∀ (v1 : Option Nat) (v2 : Option Nat) (v3 : Option Nat) (v4 : Option Nat) (v5 : Int32) (M : hM), w_L_law_1568 (kg k) F a0 L xs K28 v1 v2 v3 v4 v5 M → GW k 9 M 1568 [some (va_rf (some a0)), some (va_rf v1), some (va_rf v2), some (va_rf v3), some (va_rf v4), some (.int v5), none, none, none] [] := by
  intro v1 v2 v3 v4 v5 M hw
  refine G_goto (pc := 1568) (tgt := 2340) hC dL_law_1568 (by decide) ?_
  exact g_L_law_2340 hJ hC hQ hK28  v1 v2 v3 v4 v5 M hw
theorem g_L_law_1612 {k : kT} {F : Nat} {a0 : Nat} {L : Nat} {xs : Nat → Int32} {K28 : (Option Nat) → (Option Nat) → (Option Nat) → (Option Nat) → Int32 → hM → Prop} (hJ : JOK (kl k) (kg k)) (hC : CX k 9 cL_law RX0 (some .boolean) 57 2383) (hQ : isQL k a0 L xs) (hK28 : ∀ (v1 : Option Nat) (v2 : Option Nat) (v3 : Option Nat) (v4 : Option Nat) (v5 : Int32) (M : hM), K28 v1 v2 v3 v4 v5 M → GW k 9 M 28 [some (va_rf (some a0)), some (va_rf v1), some (va_rf v2), some (va_rf v3), some (va_rf v4), some (.int v5), none, none, none] []) : ∀ (v1 : Option Nat) (v2 : Option Nat) (v3 : Option Nat) (v4 : Option Nat) (v5 : Int32) (M : hM), w_L_law_1612 (kg k) F a0 L xs K28 v1 v2 v3 v4 v5 M → GW k 9 M 1612 [some (va_rf (some a0)), some (va_rf v1), some (va_rf v2), some (va_rf v3), some (va_rf v4), some (.int v5), none, none, none] [] := by
  intro v1 v2 v3 v4 v5 M hw
  refine G_goto (pc := 1612) (tgt := 2340) hC dL_law_1612 (by decide) ?_
  exact g_L_law_2340 hJ hC hQ hK28  v1 v2 v3 v4 v5 M hw
theorem g_L_law_1680 {k : kT} {F : Nat} {a0 : Nat} {L : Nat} {xs : Nat → Int32} {K28 : (Option Nat) → (Option Nat) → (Option Nat) → (Option Nat) → Int32 → hM → Prop} (hJ : JOK (kl k) (kg k)) (hC : CX k 9 cL_law RX0 (some .boolean) 57 2383) (hQ : isQL k a0 L xs) (hK28 : ∀ (v1 : Option Nat) (v2 : Option Nat) (v3 : Option Nat) (v4 : Option Nat) (v5 : Int32) (M : hM), K28 v1 v2 v3 v4 v5 M → GW k 9 M 28 [some (va_rf (some a0)), some (va_rf v1), some (va_rf v2), some (va_rf v3), some (va_rf v4), some (.int v5), none, none, none] []) : ∀ (v1 : Option Nat) (v2 : Option Nat) (v3 : Option Nat) (v4 : Option Nat) (v5 : Int32) (M : hM), w_L_law_1680 (kg k) F a0 L xs K28 v1 v2 v3 v4 v5 M → GW k 9 M 1680 [some (va_rf (some a0)), some (va_rf v1), some (va_rf v2), some (va_rf v3), some (va_rf v4), some (.int v5), none, none, none] [] := by
  intro v1 v2 v3 v4 v5 M hw
  refine G_goto (pc := 1680) (tgt := 2340) hC dL_law_1680 (by decide) ?_
  exact g_L_law_2340 hJ hC hQ hK28  v1 v2 v3 v4 v5 M hw
theorem g_L_law_1748 {k : kT} {F : Nat} {a0 : Nat} {L : Nat} {xs : Nat → Int32} {K28 : (Option Nat) → (Option Nat) → (Option Nat) → (Option Nat) → Int32 → hM → Prop} (hJ : JOK (kl k) (kg k)) (hC : CX k 9 cL_law RX0 (some .boolean) 57 2383) (hQ : isQL k a0 L xs) (hK28 : ∀ (v1 : Option Nat) (v2 : Option Nat) (v3 : Option Nat) (v4 : Option Nat) (v5 : Int32) (M : hM), K28 v1 v2 v3 v4 v5 M → GW k 9 M 28 [some (va_rf (some a0)), some (va_rf v1), some (va_rf v2), some (va_rf v3), some (va_rf v4), some (.int v5), none, none, none] []) : ∀ (v1 : Option Nat) (v2 : Option Nat) (v3 : Option Nat) (v4 : Option Nat) (v5 : Int32) (M : hM), w_L_law_1748 (kg k) F a0 L xs K28 v1 v2 v3 v4 v5 M → GW k 9 M 1748 [some (va_rf (some a0)), some (va_rf v1), some (va_rf v2), some (va_rf v3), some (va_rf v4), some (.int v5), none, none, none] [] := by
  intro v1 v2 v3 v4 v5 M hw
  refine G_goto (pc := 1748) (tgt := 2340) hC dL_law_1748 (by decide) ?_
  exact g_L_law_2340 hJ hC hQ hK28  v1 v2 v3 v4 v5 M hw
theorem g_L_law_1792 {k : kT} {F : Nat} {a0 : Nat} {L : Nat} {xs : Nat → Int32} {K28 : (Option Nat) → (Option Nat) → (Option Nat) → (Option Nat) → Int32 → hM → Prop} (hJ : JOK (kl k) (kg k)) (hC : CX k 9 cL_law RX0 (some .boolean) 57 2383) (hQ : isQL k a0 L xs) (hK28 : ∀ (v1 : Option Nat) (v2 : Option Nat) (v3 : Option Nat) (v4 : Option Nat) (v5 : Int32) (M : hM), K28 v1 v2 v3 v4 v5 M → GW k 9 M 28 [some (va_rf (some a0)), some (va_rf v1), some (va_rf v2), some (va_rf v3), some (va_rf v4), some (.int v5), none, none, none] []) : ∀ (v1 : Option Nat) (v2 : Option Nat) (v3 : Option Nat) (v4 : Option Nat) (v5 : Int32) (M : hM), w_L_law_1792 (kg k) F a0 L xs K28 v1 v2 v3 v4 v5 M → GW k 9 M 1792 [some (va_rf (some a0)), some (va_rf v1), some (va_rf v2), some (va_rf v3), some (va_rf v4), some (.int v5), none, none, none] [] := by
  intro v1 v2 v3 v4 v5 M hw
  refine G_goto (pc := 1792) (tgt := 2340) hC dL_law_1792 (by decide) ?_
  exact g_L_law_2340 hJ hC hQ hK28  v1 v2 v3 v4 v5 M hw
theorem g_L_law_1836 {k : kT} {F : Nat} {a0 : Nat} {L : Nat} {xs : Nat → Int32} {K28 : (Option Nat) → (Option Nat) → (Option Nat) → (Option Nat) → Int32 → hM → Prop} (hJ : JOK (kl k) (kg k)) (hC : CX k 9 cL_law RX0 (some .boolean) 57 2383) (hQ : isQL k a0 L xs) (hK28 : ∀ (v1 : Option Nat) (v2 : Option Nat) (v3 : Option Nat) (v4 : Option Nat) (v5 : Int32) (M : hM), K28 v1 v2 v3 v4 v5 M → GW k 9 M 28 [some (va_rf (some a0)), some (va_rf v1), some (va_rf v2), some (va_rf v3), some (va_rf v4), some (.int v5), none, none, none] []) : ∀ (v1 : Option Nat) (v2 : Option Nat) (v3 : Option Nat) (v4 : Option Nat) (v5 : Int32) (M : hM), w_L_law_1836 (kg k) F a0 L xs K28 v1 v2 v3 v4 v5 M → GW k 9 M 1836 [some (va_rf (some a0)), some (va_rf v1), some (va_rf v2), some (va_rf v3), some (va_rf v4), some (.int v5), none, none, none] [] := by
  intro v1 v2 v3 v4 v5 M hw
  refine G_goto (pc := 1836) (tgt := 2340) hC dL_law_1836 (by decide) ?_
  exact g_L_law_2340 hJ hC hQ hK28  v1 v2 v3 v4 v5 M hw
theorem g_L_law_1892 {k : kT} {F : Nat} {a0 : Nat} {L : Nat} {xs : Nat → Int32} {K28 : (Option Nat) → (Option Nat) → (Option Nat) → (Option Nat) → Int32 → hM → Prop} (hJ : JOK (kl k) (kg k)) (hC : CX k 9 cL_law RX0 (some .boolean) 57 2383) (hQ : isQL k a0 L xs) (hK28 : ∀ (v1 : Option Nat) (v2 : Option Nat) (v3 : Option Nat) (v4 : Option Nat) (v5 : Int32) (M : hM), K28 v1 v2 v3 v4 v5 M → GW k 9 M 28 [some (va_rf (some a0)), some (va_rf v1), some (va_rf v2), some (va_rf v3), some (va_rf v4), some (.int v5), none, none, none] []) : ∀ (v1 : Option Nat) (v2 : Option Nat) (v3 : Option Nat) (v4 : Option Nat) (v5 : Int32) (M : hM), w_L_law_1892 (kg k) F a0 L xs K28 v1 v2 v3 v4 v5 M → GW k 9 M 1892 [some (va_rf (some a0)), some (va_rf v1), some (va_rf v2), some (va_rf v3), some (va_rf v4), some (.int v5), none, none, none] [] := by
  intro v1 v2 v3 v4 v5 M hw
  refine G_goto (pc := 1892) (tgt := 2340) hC dL_law_1892 (by decide) ?_
  exact g_L_law_2340 hJ hC hQ hK28  v1 v2 v3 v4 v5 M hw
theorem g_L_law_1948 {k : kT} {F : Nat} {a0 : Nat} {L : Nat} {xs : Nat → Int32} {K28 : (Option Nat) → (Option Nat) → (Option Nat) → (Option Nat) → Int32 → hM → Prop} (hJ : JOK (kl k) (kg k)) (hC : CX k 9 cL_law RX0 (some .boolean) 57 2383) (hQ : isQL k a0 L xs) (hK28 : ∀ (v1 : Option Nat) (v2 : Option Nat) (v3 : Option Nat) (v4 : Option Nat) (v5 : Int32) (M : hM), K28 v1 v2 v3 v4 v5 M → GW k 9 M 28 [some (va_rf (some a0)), some (va_rf v1), some (va_rf v2), some (va_rf v3), some (va_rf v4), some (.int v5), none, none, none] []) : ∀ (v1 : Option Nat) (v2 : Option Nat) (v3 : Option Nat) (v4 : Option Nat) (v5 : Int32) (M : hM), w_L_law_1948 (kg k) F a0 L xs K28 v1 v2 v3 v4 v5 M → GW k 9 M 1948 [some (va_rf (some a0)), some (va_rf v1), some (va_rf v2), some (va_rf v3), some (va_rf v4), some (.int v5), none, none, none] [] := by
  intro v1 v2 v3 v4 v5 M hw
  refine G_goto (pc := 1948) (tgt := 2340) hC dL_law_1948 (by decide) ?_
  exact g_L_law_2340 hJ hC hQ hK28  v1 v2 v3 v4 v5 M hw
theorem g_L_law_2004 {k : kT} {F : Nat} {a0 : Nat} {L : Nat} {xs : Nat → Int32} {K28 : (Option Nat) → (Option Nat) → (Option Nat) → (Option Nat) → Int32 → hM → Prop} (hJ : JOK (kl k) (kg k)) (hC : CX k 9 cL_law RX0 (some .boolean) 57 2383) (hQ : isQL k a0 L xs) (hK28 : ∀ (v1 : Option Nat) (v2 : Option Nat) (v3 : Option Nat) (v4 : Option Nat) (v5 : Int32) (M : hM), K28 v1 v2 v3 v4 v5 M → GW k 9 M 28 [some (va_rf (some a0)), some (va_rf v1), some (va_rf v2), some (va_rf v3), some (va_rf v4), some (.int v5), none, none, none] []) : ∀ (v1 : Option Nat) (v2 : Option Nat) (v3 : Option Nat) (v4 : Option Nat) (v5 : Int32) (M : hM), w_L_law_2004 (kg k) F a0 L xs K28 v1 v2 v3 v4 v5 M → GW k 9 M 2004 [some (va_rf (some a0)), some (va_rf v1), some (va_rf v2), some (va_rf v3), some (va_rf v4), some (.int v5), none, none, none] [] := by
  intro v1 v2 v3 v4 v5 M hw
  refine G_goto (pc := 2004) (tgt := 2340) hC dL_law_2004 (by decide) ?_
  exact g_L_law_2340 hJ hC hQ hK28  v1 v2 v3 v4 v5 M hw
theorem g_L_law_2072 {k : kT} {F : Nat} {a0 : Nat} {L : Nat} {xs : Nat → Int32} {K28 : (Option Nat) → (Option Nat) → (Option Nat) → (Option Nat) → Int32 → hM → Prop} (hJ : JOK (kl k) (kg k)) (hC : CX k 9 cL_law RX0 (some .boolean) 57 2383) (hQ : isQL k a0 L xs) (hK28 : ∀ (v1 : Option Nat) (v2 : Option Nat) (v3 : Option Nat) (v4 : Option Nat) (v5 : Int32) (M : hM), K28 v1 v2 v3 v4 v5 M → GW k 9 M 28 [some (va_rf (some a0)), some (va_rf v1), some (va_rf v2), some (va_rf v3), some (va_rf v4), some (.int v5), none, none, none] []) : ∀ (v1 : Option Nat) (v2 : Option Nat) (v3 : Option Nat) (v4 : Option Nat) (v5 : Int32) (M : hM), w_L_law_2072 (kg k) F a0 L xs K28 v1 v2 v3 v4 v5 M → GW k 9 M 2072 [some (va_rf (some a0)), some (va_rf v1), some (va_rf v2), some (va_rf v3), some (va_rf v4), some (.int v5), none, none, none] [] := by
  intro v1 v2 v3 v4 v5 M hw
  refine G_goto (pc := 2072) (tgt := 2340) hC dL_law_2072 (by decide) ?_
  exact g_L_law_2340 hJ hC hQ hK28  v1 v2 v3 v4 v5 M hw
theorem g_L_law_2168 {k : kT} {F : Nat} {a0 : Nat} {L : Nat} {xs : Nat → Int32} {K28 : (Option Nat) → (Option Nat) → (Option Nat) → (Option Nat) → Int32 → hM → Prop} (hJ : JOK (kl k) (kg k)) (hC : CX k 9 cL_law RX0 (some .boolean) 57 2383) (hQ : isQL k a0 L xs) (hK28 : ∀ (v1 : Option Nat) (v2 : Option Nat) (v3 : Option Nat) (v4 : Option Nat) (v5 : Int32) (M : hM), K28 v1 v2 v3 v4 v5 M → GW k 9 M 28 [some (va_rf (some a0)), some (va_rf v1), some (va_rf v2), some (va_rf v3), some (va_rf v4), some (.int v5), none, none, none] []) : ∀ (v1 : Option Nat) (v2 : Option Nat) (v3 : Option Nat) (v4 : Option Nat) (v5 : Int32) (M : hM), w_L_law_2168 (kg k) F a0 L xs K28 v1 v2 v3 v4 v5 M → GW k 9 M 2168 [some (va_rf (some a0)), some (va_rf v1), some (va_rf v2), some (va_rf v3), some (va_rf v4), some (.int v5), none, none, none] [] := by
  intro v1 v2 v3 v4 v5 M hw
  refine G_goto (pc := 2168) (tgt := 2340) hC dL_law_2168 (by decide) ?_
  exact g_L_law_2340 hJ hC hQ hK28  v1 v2 v3 v4 v5 M hw
theorem g_L_law_2135 {k : kT} {F : Nat} {a0 : Nat} {L : Nat} {xs : Nat → Int32} {K28 : (Option Nat) → (Option Nat) → (Option Nat) → (Option Nat) → Int32 → hM → Prop} (hJ : JOK (kl k) (kg k)) (hC : CX k 9 cL_law RX0 (some .boolean) 57 2383) (hQ : isQL k a0 L xs) (hK28 : ∀ (v1 : Option Nat) (v2 : Option Nat) (v3 : Option Nat) (v4 : Option Nat) (v5 : Int32) (M : hM), K28 v1 v2 v3 v4 v5 M → GW k 9 M 28 [some (va_rf (some a0)), some (va_rf v1), some (va_rf v2), some (va_rf v3), some (va_rf v4), some (.int v5), none, none, none] []) : ∀ (v1 : Option Nat) (v2 : Option Nat) (v3 : Option Nat) (v4 : Option Nat) (v5 : Int32) (v6 : Int32) (s0 : Option Nat) (s1 : Int32) (s2 : Int32) (s3 : Int32) (M : hM), w_L_law_2135 (kg k) F a0 L xs K28 v1 v2 v3 v4 v5 v6 s0 s1 s2 s3 M → GW k 9 M 2135 [some (va_rf (some a0)), some (va_rf v1), some (va_rf v2), some (va_rf v3), some (va_rf v4), some (.int v5), some (.int v6), none, none] [.int s3, .int s2, .int s1, va_rf s0] := by
  intro v1 v2 v3 v4 v5 v6 s0 s1 s2 s3 M hw
  obtain ⟨b2, rfl, hb, hw⟩ := gThis_e hw
  refine G_callV (pc := 2135) (n := 3) (C := "MergeWorkbenchModel") (b := b2) (As := [.int s1, .int s2, .int s3]) (rest := []) hC (m_X3_apply hJ hw) (lw_V q3816 q3817 q3818 q108 q3819) hdL_X3_apply (by decide) (rcv (C := RX3) (T := TX3) (N := 61) hC hb rfl) rfl rfl (st_c cat_e (Nat.le_of_ble_eq_true rfl)) dL_law_2135 (kI fun x3 M1 hw => ?_)
  refine G_istore (pc := 2138) (i := 7) (lw := [some (va_rf (some a0)), some (va_rf v1), some (va_rf v2), some (va_rf v3), some (va_rf v4), some (.int v5), some (.int v6), some (.int x3), none]) hC dL_law_2138 (Nat.le_of_ble_eq_true rfl) rfl ?_
  refine G_aload_n (pc := 2140) (i := 2) hC dL_law_2140 rfl rfl ?_
  obtain ⟨b5, rfl, hb, hw⟩ := gThis_e hw
  refine G_callV (pc := 2141) (n := 0) (C := "MergeWorkbenchModel") (b := b5) (As := []) (rest := []) hC (m_X3_thrown hJ hw) (lw_V q3559 q3560 q3561 q108 q3562) hdL_X3_thrown (by decide) (rcv (C := RX3) (T := TX3) (N := 61) hC hb rfl) rfl rfl (st_c cat_e (Nat.le_of_ble_eq_true rfl)) dL_law_2141 (kI fun x6 M4 hw => ?_)
  refine G_iload (pc := 2144) (i := 6) hC dL_law_2144 rfl ?_
  refine G_icmp_eq (pc := 2146) (tgt := 2151) hC dL_law_2146 (by decide) (fun hc => ?_) (fun hc => ?_)
  · replace hw := hw.1 hc
    refine G_iload (pc := 2151) (i := 6) hC dL_law_2151 rfl ?_
    refine G_if_ne (pc := 2153) (tgt := 2168) hC dL_law_2153 (by decide) (fun hc => ?_) (fun hc => ?_)
    · replace hw := hw.1 hc
      refine G_loc (lv' := [some (va_rf (some a0)), some (va_rf v1), some (va_rf (some b5)), some (va_rf v3), some (va_rf v4), some (.int v5), none, none, none]) ⟨Or.inr rfl, Or.inr rfl, Or.inr rfl, Or.inr rfl, Or.inr rfl, Or.inr rfl, Or.inl rfl, Or.inl rfl, Or.inr rfl, trivial⟩ ?_
      exact g_L_law_2168 hJ hC hQ hK28  v1 (some b5) v3 v4 v5 M4 hw
    · replace hw := hw.2 hc
      refine G_aload_n (pc := 2156) (i := 3) hC dL_law_2156 rfl rfl ?_
      refine G_iconst (pc := 2157) (v := 0) hC dL_law_2157 (by decide) ?_
      refine G_lald (pc := 2158) hC dL_law_2158 hw (fun x7 hw => ?_)
      refine G_iload (pc := 2159) (i := 7) hC dL_law_2159 rfl ?_
      refine G_i2l (pc := 2161) hC dL_law_2161 ?_
      refine G_lcmp (pc := 2162) hC dL_law_2162 ?_
      refine G_if_eq (pc := 2163) (tgt := 2168) hC dL_law_2163 (by decide) (fun hc => ?_) (fun hc => ?_)
      · replace hw := hw.1 hc
        refine G_loc (lv' := [some (va_rf (some a0)), some (va_rf v1), some (va_rf (some b5)), some (va_rf v3), some (va_rf v4), some (.int v5), none, none, none]) ⟨Or.inr rfl, Or.inr rfl, Or.inr rfl, Or.inr rfl, Or.inr rfl, Or.inr rfl, Or.inl rfl, Or.inl rfl, Or.inr rfl, trivial⟩ ?_
        exact g_L_law_2168 hJ hC hQ hK28  v1 (some b5) v3 v4 v5 M4 hw
      · replace hw := hw.2 hc
        refine G_iconst (pc := 2166) (v := 0) hC dL_law_2166 (by decide) ?_
        exact hw.elim
  · replace hw := hw.2 hc
    refine G_iconst (pc := 2149) (v := 0) hC dL_law_2149 (by decide) ?_
    exact hw.elim
theorem g_L_law_2102 {k : kT} {F : Nat} {a0 : Nat} {L : Nat} {xs : Nat → Int32} {K28 : (Option Nat) → (Option Nat) → (Option Nat) → (Option Nat) → Int32 → hM → Prop} (hJ : JOK (kl k) (kg k)) (hC : CX k 9 cL_law RX0 (some .boolean) 57 2383) (hQ : isQL k a0 L xs) (hK28 : ∀ (v1 : Option Nat) (v2 : Option Nat) (v3 : Option Nat) (v4 : Option Nat) (v5 : Int32) (M : hM), K28 v1 v2 v3 v4 v5 M → GW k 9 M 28 [some (va_rf (some a0)), some (va_rf v1), some (va_rf v2), some (va_rf v3), some (va_rf v4), some (.int v5), none, none, none] []) : ∀ (v1 : Option Nat) (v2 : Option Nat) (v3 : Option Nat) (v4 : Option Nat) (v5 : Int32) (s0 : Option Nat) (s1 : Int32) (s2 : Int32) (s3 : Int32) (M : hM), w_L_law_2102 (kg k) F a0 L xs K28 v1 v2 v3 v4 v5 s0 s1 s2 s3 M → GW k 9 M 2102 [some (va_rf (some a0)), some (va_rf v1), some (va_rf v2), some (va_rf v3), some (va_rf v4), some (.int v5), none, none, none] [.int s3, .int s2, .int s1, va_rf s0] := by
  intro v1 v2 v3 v4 v5 s0 s1 s2 s3 M hw
  refine G_aload_n (pc := 2102) (i := 3) hC dL_law_2102 rfl rfl ?_
  refine GX_callSW (pc := 2103) (n := 5) (As := [va_rf s0, .int s1, .int s2, .int s3, va_rf v3]) (rest := []) hC (m_X0_apply hJ hw) (lw_SW q3162 q3163 q83 q3164) hdL_X0_apply.2 (by decide) rfl rfl (st_c cat_e (Nat.le_of_ble_eq_true rfl)) dL_law_2103 (fun E q M hx => hx.elim) (kI fun x2 M1 hw => ?_)
  refine G_istore (pc := 2106) (i := 6) (lw := [some (va_rf (some a0)), some (va_rf v1), some (va_rf v2), some (va_rf v3), some (va_rf v4), some (.int v5), some (.int x2), none, none]) hC dL_law_2106 (Nat.le_of_ble_eq_true rfl) rfl ?_
  refine G_aload_n (pc := 2108) (i := 2) hC dL_law_2108 rfl rfl ?_
  refine G_aload_n (pc := 2109) (i := 0) hC dL_law_2109 rfl rfl ?_
  refine G_iload (pc := 2110) (i := 5) hC dL_law_2110 rfl ?_
  refine G_iconst (pc := 2112) (v := 1) hC dL_law_2112 (by decide) ?_
  refine G_iadd (pc := 2113) hC dL_law_2113 ?_
  refine G_sld (pc := 2114) hC hQ dL_law_2114 hw (fun x3 hw => ?_)
  refine G_aload_n (pc := 2115) (i := 0) hC dL_law_2115 rfl rfl ?_
  refine G_iload (pc := 2116) (i := 5) hC dL_law_2116 rfl ?_
  refine G_iconst (pc := 2118) (v := 2) hC dL_law_2118 (by decide) ?_
  refine G_iadd (pc := 2119) hC dL_law_2119 ?_
  refine G_sld (pc := 2120) hC hQ dL_law_2120 hw (fun x4 hw => ?_)
  refine G_aload_n (pc := 2121) (i := 0) hC dL_law_2121 rfl rfl ?_
  refine G_iload (pc := 2122) (i := 5) hC dL_law_2122 rfl ?_
  refine G_iconst (pc := 2124) (v := 3) hC dL_law_2124 (by decide) ?_
  refine G_iadd (pc := 2125) hC dL_law_2125 ?_
  refine G_sld (pc := 2126) hC hQ dL_law_2126 hw (fun x5 hw => ?_)
  refine G_if_eq (pc := 2127) (tgt := 2134) hC dL_law_2127 (by decide) (fun hc => ?_) (fun hc => ?_)
  · replace hw := hw.1 hc
    refine G_iconst (pc := 2134) (v := 0) hC dL_law_2134 (by decide) ?_
    exact g_L_law_2135 hJ hC hQ hK28  v1 v2 v3 v4 v5 x2 v2 x3 x4 (0 : Int32) M1 hw
  · replace hw := hw.2 hc
    refine G_iconst (pc := 2130) (v := 1) hC dL_law_2130 (by decide) ?_
    refine G_goto (pc := 2131) (tgt := 2135) hC dL_law_2131 (by decide) ?_
    exact g_L_law_2135 hJ hC hQ hK28  v1 v2 v3 v4 v5 x2 v2 x3 x4 (1 : Int32) M1 hw
theorem g_L_law_2236 {k : kT} {F : Nat} {a0 : Nat} {L : Nat} {xs : Nat → Int32} {K28 : (Option Nat) → (Option Nat) → (Option Nat) → (Option Nat) → Int32 → hM → Prop} (hJ : JOK (kl k) (kg k)) (hC : CX k 9 cL_law RX0 (some .boolean) 57 2383) (hQ : isQL k a0 L xs) (hK28 : ∀ (v1 : Option Nat) (v2 : Option Nat) (v3 : Option Nat) (v4 : Option Nat) (v5 : Int32) (M : hM), K28 v1 v2 v3 v4 v5 M → GW k 9 M 28 [some (va_rf (some a0)), some (va_rf v1), some (va_rf v2), some (va_rf v3), some (va_rf v4), some (.int v5), none, none, none] []) : ∀ (v1 : Option Nat) (v2 : Option Nat) (v3 : Option Nat) (v4 : Option Nat) (v5 : Int32) (M : hM), w_L_law_2236 (kg k) F a0 L xs K28 v1 v2 v3 v4 v5 M → GW k 9 M 2236 [some (va_rf (some a0)), some (va_rf v1), some (va_rf v2), some (va_rf v3), some (va_rf v4), some (.int v5), none, none, none] [] := by
  intro v1 v2 v3 v4 v5 M hw
  refine G_goto (pc := 2236) (tgt := 2340) hC dL_law_2236 (by decide) ?_
  exact g_L_law_2340 hJ hC hQ hK28  v1 v2 v3 v4 v5 M hw
theorem g_L_law_2280 {k : kT} {F : Nat} {a0 : Nat} {L : Nat} {xs : Nat → Int32} {K28 : (Option Nat) → (Option Nat) → (Option Nat) → (Option Nat) → Int32 → hM → Prop} (hJ : JOK (kl k) (kg k)) (hC : CX k 9 cL_law RX0 (some .boolean) 57 2383) (hQ : isQL k a0 L xs) (hK28 : ∀ (v1 : Option Nat) (v2 : Option Nat) (v3 : Option Nat) (v4 : Option Nat) (v5 : Int32) (M : hM), K28 v1 v2 v3 v4 v5 M → GW k 9 M 28 [some (va_rf (some a0)), some (va_rf v1), some (va_rf v2), some (va_rf v3), some (va_rf v4), some (.int v5), none, none, none] []) : ∀ (v1 : Option Nat) (v2 : Option Nat) (v3 : Option Nat) (v4 : Option Nat) (v5 : Int32) (M : hM), w_L_law_2280 (kg k) F a0 L xs K28 v1 v2 v3 v4 v5 M → GW k 9 M 2280 [some (va_rf (some a0)), some (va_rf v1), some (va_rf v2), some (va_rf v3), some (va_rf v4), some (.int v5), none, none, none] [] := by
  intro v1 v2 v3 v4 v5 M hw
  refine G_goto (pc := 2280) (tgt := 2340) hC dL_law_2280 (by decide) ?_
  exact g_L_law_2340 hJ hC hQ hK28  v1 v2 v3 v4 v5 M hw
theorem g_L_law_2337 {k : kT} {F : Nat} {a0 : Nat} {L : Nat} {xs : Nat → Int32} {K28 : (Option Nat) → (Option Nat) → (Option Nat) → (Option Nat) → Int32 → hM → Prop} (hJ : JOK (kl k) (kg k)) (hC : CX k 9 cL_law RX0 (some .boolean) 57 2383) (hQ : isQL k a0 L xs) (hK28 : ∀ (v1 : Option Nat) (v2 : Option Nat) (v3 : Option Nat) (v4 : Option Nat) (v5 : Int32) (M : hM), K28 v1 v2 v3 v4 v5 M → GW k 9 M 28 [some (va_rf (some a0)), some (va_rf v1), some (va_rf v2), some (va_rf v3), some (va_rf v4), some (.int v5), none, none, none] []) : ∀ (v1 : Option Nat) (v2 : Option Nat) (v3 : Option Nat) (v4 : Option Nat) (v5 : Int32) (M : hM), w_L_law_2337 (kg k) F a0 L xs K28 v1 v2 v3 v4 v5 M → GW k 9 M 2337 [some (va_rf (some a0)), some (va_rf v1), some (va_rf v2), some (va_rf v3), some (va_rf v4), some (.int v5), none, none, none] [] := by
  intro v1 v2 v3 v4 v5 M hw
  refine G_goto (pc := 2337) (tgt := 2340) hC dL_law_2337 (by decide) ?_
  exact g_L_law_2340 hJ hC hQ hK28  v1 v2 v3 v4 v5 M hw
theorem g_L_law_28 {k : kT} {F : Nat} {a0 : Nat} {L : Nat} {xs : Nat → Int32} (hJ : JOK (kl k) (kg k)) (hC : CX k 9 cL_law RX0 (some .boolean) 57 2383) (hQ : isQL k a0 L xs) : ∀ (n : Nat) (v1 : Option Nat) (v2 : Option Nat) (v3 : Option Nat) (v4 : Option Nat) (v5 : Int32) (M : hM), w_L_law_28 (kg k) F a0 L xs n v1 v2 v3 v4 v5 M → GW k 9 M 28 [some (va_rf (some a0)), some (va_rf v1), some (va_rf v2), some (va_rf v3), some (va_rf v4), some (.int v5), none, none, none] [] := by
  intro n
  induction n with
  | zero =>
    intro v1 v2 v3 v4 v5 M hw
    exact hw.elim
  | succ n ih =>
    intro v1 v2 v3 v4 v5 M hw
    refine G_iload (pc := 28) (i := 5) hC dL_law_28 rfl ?_
    refine G_aload_n (pc := 30) (i := 0) hC dL_law_30 rfl rfl ?_
    refine G_slen (pc := 31) hC hQ dL_law_31 ?_
    refine G_iconst (pc := 32) (v := 4) hC dL_law_32 (by decide) ?_
    refine G_isub (pc := 33) hC dL_law_33 ?_
    refine G_icmp_gt (pc := 34) (tgt := 2346) hC dL_law_34 (by decide) (fun hc => ?_) (fun hc => ?_)
    · replace hw := hw.1 hc
      refine G_iconst (pc := 2346) (v := 1) hC dL_law_2346 (by decide) ?_
      exact G_lret (pc := 2347) hC hQ dL_law_2347
    · replace hw := hw.2 hc
      refine G_aload_n (pc := 37) (i := 0) hC dL_law_37 rfl rfl ?_
      refine G_iload (pc := 38) (i := 5) hC dL_law_38 rfl ?_
      refine G_sld (pc := 40) hC hQ dL_law_40 hw (fun x1 hw => ?_)
      refine G_bipush (pc := 41) (v := 63) hC dL_law_41 (by decide) ?_
      refine G_iand (pc := 43) hC dL_law_43 ?_
      by_cases hc0 : (x1 &&& (63 : Int32)) = (0 : Int32)
      · replace hw := hw.1 hc0
        refine G_tableIn (pc := 44) (off := 160) (tgt := 204) hC dL_law_44 (by rw [hc0]; decide) (by rw [hc0]; decide) (by rw [hc0]; rfl) (by decide) ?_
        refine G_aload_n (pc := 204) (i := 1) hC dL_law_204 rfl rfl ?_
        refine G_aload_n (pc := 205) (i := 0) hC dL_law_205 rfl rfl ?_
        refine G_iload (pc := 206) (i := 5) hC dL_law_206 rfl ?_
        refine G_iconst (pc := 208) (v := 1) hC dL_law_208 (by decide) ?_
        refine G_iadd (pc := 209) hC dL_law_209 ?_
        refine G_sld (pc := 210) hC hQ dL_law_210 hw (fun x2 hw => ?_)
        refine G_aload_n (pc := 211) (i := 0) hC dL_law_211 rfl rfl ?_
        refine G_iload (pc := 212) (i := 5) hC dL_law_212 rfl ?_
        refine G_iconst (pc := 214) (v := 2) hC dL_law_214 (by decide) ?_
        refine G_iadd (pc := 215) hC dL_law_215 ?_
        refine G_sld (pc := 216) hC hQ dL_law_216 hw (fun x3 hw => ?_)
        refine G_aload_n (pc := 217) (i := 3) hC dL_law_217 rfl rfl ?_
        refine GX_callSW (pc := 218) (n := 4) (As := [va_rf v1, .int x2, .int x3, va_rf v3]) (rest := []) hC (m_X0_append hJ hw) (lw_SW q1206 q1207 q83 q1208) hdL_X0_append.2 (by decide) rfl rfl (st_c cat_e (Nat.le_of_ble_eq_true rfl)) dL_law_218 (fun E q M hx => hx.elim) (kI fun x5 M4 hw => ?_)
        refine G_istore (pc := 221) (i := 6) (lw := [some (va_rf (some a0)), some (va_rf v1), some (va_rf v2), some (va_rf v3), some (va_rf v4), some (.int v5), some (.int x5), none, none]) hC dL_law_221 (Nat.le_of_ble_eq_true rfl) rfl ?_
        refine G_aload_n (pc := 223) (i := 2) hC dL_law_223 rfl rfl ?_
        refine G_aload_n (pc := 224) (i := 0) hC dL_law_224 rfl rfl ?_
        refine G_iload (pc := 225) (i := 5) hC dL_law_225 rfl ?_
        refine G_iconst (pc := 227) (v := 1) hC dL_law_227 (by decide) ?_
        refine G_iadd (pc := 228) hC dL_law_228 ?_
        refine G_sld (pc := 229) hC hQ dL_law_229 hw (fun x6 hw => ?_)
        refine G_aload_n (pc := 230) (i := 0) hC dL_law_230 rfl rfl ?_
        refine G_iload (pc := 231) (i := 5) hC dL_law_231 rfl ?_
        refine G_iconst (pc := 233) (v := 2) hC dL_law_233 (by decide) ?_
        refine G_iadd (pc := 234) hC dL_law_234 ?_
        refine G_sld (pc := 235) hC hQ dL_law_235 hw (fun x7 hw => ?_)
        obtain ⟨b9, rfl, hb, hw⟩ := gThis_e hw
        refine G_callV (pc := 236) (n := 2) (C := "MergeWorkbenchModel") (b := b9) (As := [.int x6, .int x7]) (rest := []) hC (m_X3_append hJ hw) (lw_V q3563 q3564 q3565 q108 q3566) hdL_X3_append (by decide) (rcv (C := RX3) (T := TX3) (N := 61) hC hb rfl) rfl rfl (st_c cat_e (Nat.le_of_ble_eq_true rfl)) dL_law_236 (kI fun x10 M8 hw => ?_)
        refine G_istore (pc := 239) (i := 7) (lw := [some (va_rf (some a0)), some (va_rf v1), some (va_rf (some b9)), some (va_rf v3), some (va_rf v4), some (.int v5), some (.int x5), some (.int x10), none]) hC dL_law_239 (Nat.le_of_ble_eq_true rfl) rfl ?_
        refine G_aload_n (pc := 241) (i := 2) hC dL_law_241 rfl rfl ?_
        obtain ⟨hb, hw⟩ := hw
        refine G_callV (pc := 242) (n := 0) (C := "MergeWorkbenchModel") (b := b9) (As := []) (rest := []) hC (m_X3_thrown hJ hw) (lw_V q3559 q3560 q3561 q108 q3562) hdL_X3_thrown (by decide) (rcv (C := RX3) (T := TX3) (N := 61) hC hb rfl) rfl rfl (st_c cat_e (Nat.le_of_ble_eq_true rfl)) dL_law_242 (kI fun x12 M11 hw => ?_)
        refine G_iload (pc := 245) (i := 6) hC dL_law_245 rfl ?_
        refine G_icmp_eq (pc := 247) (tgt := 252) hC dL_law_247 (by decide) (fun hc => ?_) (fun hc => ?_)
        · replace hw := hw.1 hc
          refine G_iload (pc := 252) (i := 6) hC dL_law_252 rfl ?_
          refine G_if_ne (pc := 254) (tgt := 269) hC dL_law_254 (by decide) (fun hc => ?_) (fun hc => ?_)
          · replace hw := hw.1 hc
            refine G_loc (lv' := [some (va_rf (some a0)), some (va_rf v1), some (va_rf (some b9)), some (va_rf v3), some (va_rf v4), some (.int v5), none, none, none]) ⟨Or.inr rfl, Or.inr rfl, Or.inr rfl, Or.inr rfl, Or.inr rfl, Or.inr rfl, Or.inl rfl, Or.inl rfl, Or.inr rfl, trivial⟩ ?_
            exact g_L_law_269 hJ hC hQ ih  v1 (some b9) v3 v4 v5 M11 hw
          · replace hw := hw.2 hc
            refine G_aload_n (pc := 257) (i := 3) hC dL_law_257 rfl rfl ?_
            refine G_iconst (pc := 258) (v := 0) hC dL_law_258 (by decide) ?_
            refine G_lald (pc := 259) hC dL_law_259 hw (fun x13 hw => ?_)
            refine G_iload (pc := 260) (i := 7) hC dL_law_260 rfl ?_
            refine G_i2l (pc := 262) hC dL_law_262 ?_
            refine G_lcmp (pc := 263) hC dL_law_263 ?_
            refine G_if_eq (pc := 264) (tgt := 269) hC dL_law_264 (by decide) (fun hc => ?_) (fun hc => ?_)
            · replace hw := hw.1 hc
              refine G_loc (lv' := [some (va_rf (some a0)), some (va_rf v1), some (va_rf (some b9)), some (va_rf v3), some (va_rf v4), some (.int v5), none, none, none]) ⟨Or.inr rfl, Or.inr rfl, Or.inr rfl, Or.inr rfl, Or.inr rfl, Or.inr rfl, Or.inl rfl, Or.inl rfl, Or.inr rfl, trivial⟩ ?_
              exact g_L_law_269 hJ hC hQ ih  v1 (some b9) v3 v4 v5 M11 hw
            · replace hw := hw.2 hc
              refine G_iconst (pc := 267) (v := 0) hC dL_law_267 (by decide) ?_
              exact hw.elim
        · replace hw := hw.2 hc
          refine G_iconst (pc := 250) (v := 0) hC dL_law_250 (by decide) ?_
          exact hw.elim
      by_cases hc1 : (x1 &&& (63 : Int32)) = (1 : Int32)
      · replace hw := hw.2.1 hc1
        refine G_tableIn (pc := 44) (off := 228) (tgt := 272) hC dL_law_44 (by rw [hc1]; decide) (by rw [hc1]; decide) (by rw [hc1]; rfl) (by decide) ?_
        refine G_aload_n (pc := 272) (i := 1) hC dL_law_272 rfl rfl ?_
        refine G_aload_n (pc := 273) (i := 0) hC dL_law_273 rfl rfl ?_
        refine G_iload (pc := 274) (i := 5) hC dL_law_274 rfl ?_
        refine G_iconst (pc := 276) (v := 1) hC dL_law_276 (by decide) ?_
        refine G_iadd (pc := 277) hC dL_law_277 ?_
        refine G_sld (pc := 278) hC hQ dL_law_278 hw (fun x14 hw => ?_)
        refine G_aload_n (pc := 279) (i := 0) hC dL_law_279 rfl rfl ?_
        refine G_iload (pc := 280) (i := 5) hC dL_law_280 rfl ?_
        refine G_iconst (pc := 282) (v := 2) hC dL_law_282 (by decide) ?_
        refine G_iadd (pc := 283) hC dL_law_283 ?_
        refine G_sld (pc := 284) hC hQ dL_law_284 hw (fun x15 hw => ?_)
        refine G_aload_n (pc := 285) (i := 0) hC dL_law_285 rfl rfl ?_
        refine G_iload (pc := 286) (i := 5) hC dL_law_286 rfl ?_
        refine G_iconst (pc := 288) (v := 3) hC dL_law_288 (by decide) ?_
        refine G_iadd (pc := 289) hC dL_law_289 ?_
        refine G_sld (pc := 290) hC hQ dL_law_290 hw (fun x16 hw => ?_)
        refine G_aload_n (pc := 291) (i := 3) hC dL_law_291 rfl rfl ?_
        refine GX_callSW (pc := 292) (n := 5) (As := [va_rf v1, .int x14, .int x15, .int x16, va_rf v3]) (rest := []) hC (m_X0_insert hJ hw) (lw_SW q1343 q1344 q83 q1345) hdL_X0_insert.2 (by decide) rfl rfl (st_c cat_e (Nat.le_of_ble_eq_true rfl)) dL_law_292 (fun E q M hx => hx.elim) (kI fun x18 M17 hw => ?_)
        refine G_istore (pc := 295) (i := 6) (lw := [some (va_rf (some a0)), some (va_rf v1), some (va_rf v2), some (va_rf v3), some (va_rf v4), some (.int v5), some (.int x18), none, none]) hC dL_law_295 (Nat.le_of_ble_eq_true rfl) rfl ?_
        refine G_aload_n (pc := 297) (i := 2) hC dL_law_297 rfl rfl ?_
        refine G_aload_n (pc := 298) (i := 0) hC dL_law_298 rfl rfl ?_
        refine G_iload (pc := 299) (i := 5) hC dL_law_299 rfl ?_
        refine G_iconst (pc := 301) (v := 1) hC dL_law_301 (by decide) ?_
        refine G_iadd (pc := 302) hC dL_law_302 ?_
        refine G_sld (pc := 303) hC hQ dL_law_303 hw (fun x19 hw => ?_)
        refine G_aload_n (pc := 304) (i := 0) hC dL_law_304 rfl rfl ?_
        refine G_iload (pc := 305) (i := 5) hC dL_law_305 rfl ?_
        refine G_iconst (pc := 307) (v := 2) hC dL_law_307 (by decide) ?_
        refine G_iadd (pc := 308) hC dL_law_308 ?_
        refine G_sld (pc := 309) hC hQ dL_law_309 hw (fun x20 hw => ?_)
        refine G_aload_n (pc := 310) (i := 0) hC dL_law_310 rfl rfl ?_
        refine G_iload (pc := 311) (i := 5) hC dL_law_311 rfl ?_
        refine G_iconst (pc := 313) (v := 3) hC dL_law_313 (by decide) ?_
        refine G_iadd (pc := 314) hC dL_law_314 ?_
        refine G_sld (pc := 315) hC hQ dL_law_315 hw (fun x21 hw => ?_)
        obtain ⟨b23, rfl, hb, hw⟩ := gThis_e hw
        refine G_callV (pc := 316) (n := 3) (C := "MergeWorkbenchModel") (b := b23) (As := [.int x19, .int x20, .int x21]) (rest := []) hC (m_X3_insert hJ hw) (lw_V q3585 q3586 q3587 q108 q3588) hdL_X3_insert (by decide) (rcv (C := RX3) (T := TX3) (N := 61) hC hb rfl) rfl rfl (st_c cat_e (Nat.le_of_ble_eq_true rfl)) dL_law_316 (kI fun x24 M22 hw => ?_)
        refine G_istore (pc := 319) (i := 7) (lw := [some (va_rf (some a0)), some (va_rf v1), some (va_rf (some b23)), some (va_rf v3), some (va_rf v4), some (.int v5), some (.int x18), some (.int x24), none]) hC dL_law_319 (Nat.le_of_ble_eq_true rfl) rfl ?_
        refine G_aload_n (pc := 321) (i := 2) hC dL_law_321 rfl rfl ?_
        obtain ⟨hb, hw⟩ := hw
        refine G_callV (pc := 322) (n := 0) (C := "MergeWorkbenchModel") (b := b23) (As := []) (rest := []) hC (m_X3_thrown hJ hw) (lw_V q3559 q3560 q3561 q108 q3562) hdL_X3_thrown (by decide) (rcv (C := RX3) (T := TX3) (N := 61) hC hb rfl) rfl rfl (st_c cat_e (Nat.le_of_ble_eq_true rfl)) dL_law_322 (kI fun x26 M25 hw => ?_)
        refine G_iload (pc := 325) (i := 6) hC dL_law_325 rfl ?_
        refine G_icmp_eq (pc := 327) (tgt := 332) hC dL_law_327 (by decide) (fun hc => ?_) (fun hc => ?_)
        · replace hw := hw.1 hc
          refine G_iload (pc := 332) (i := 6) hC dL_law_332 rfl ?_
          refine G_if_ne (pc := 334) (tgt := 349) hC dL_law_334 (by decide) (fun hc => ?_) (fun hc => ?_)
          · replace hw := hw.1 hc
            refine G_loc (lv' := [some (va_rf (some a0)), some (va_rf v1), some (va_rf (some b23)), some (va_rf v3), some (va_rf v4), some (.int v5), none, none, none]) ⟨Or.inr rfl, Or.inr rfl, Or.inr rfl, Or.inr rfl, Or.inr rfl, Or.inr rfl, Or.inl rfl, Or.inl rfl, Or.inr rfl, trivial⟩ ?_
            exact g_L_law_349 hJ hC hQ ih  v1 (some b23) v3 v4 v5 M25 hw
          · replace hw := hw.2 hc
            refine G_aload_n (pc := 337) (i := 3) hC dL_law_337 rfl rfl ?_
            refine G_iconst (pc := 338) (v := 0) hC dL_law_338 (by decide) ?_
            refine G_lald (pc := 339) hC dL_law_339 hw (fun x27 hw => ?_)
            refine G_iload (pc := 340) (i := 7) hC dL_law_340 rfl ?_
            refine G_i2l (pc := 342) hC dL_law_342 ?_
            refine G_lcmp (pc := 343) hC dL_law_343 ?_
            refine G_if_eq (pc := 344) (tgt := 349) hC dL_law_344 (by decide) (fun hc => ?_) (fun hc => ?_)
            · replace hw := hw.1 hc
              refine G_loc (lv' := [some (va_rf (some a0)), some (va_rf v1), some (va_rf (some b23)), some (va_rf v3), some (va_rf v4), some (.int v5), none, none, none]) ⟨Or.inr rfl, Or.inr rfl, Or.inr rfl, Or.inr rfl, Or.inr rfl, Or.inr rfl, Or.inl rfl, Or.inl rfl, Or.inr rfl, trivial⟩ ?_
              exact g_L_law_349 hJ hC hQ ih  v1 (some b23) v3 v4 v5 M25 hw
            · replace hw := hw.2 hc
              refine G_iconst (pc := 347) (v := 0) hC dL_law_347 (by decide) ?_
              exact hw.elim
        · replace hw := hw.2 hc
          refine G_iconst (pc := 330) (v := 0) hC dL_law_330 (by decide) ?_
          exact hw.elim
      by_cases hc2 : (x1 &&& (63 : Int32)) = (2 : Int32)
      · replace hw := hw.2.2.1 hc2
        refine G_tableIn (pc := 44) (off := 308) (tgt := 352) hC dL_law_44 (by rw [hc2]; decide) (by rw [hc2]; decide) (by rw [hc2]; rfl) (by decide) ?_
        refine G_aload_n (pc := 352) (i := 1) hC dL_law_352 rfl rfl ?_
        refine G_aload_n (pc := 353) (i := 0) hC dL_law_353 rfl rfl ?_
        refine G_iload (pc := 354) (i := 5) hC dL_law_354 rfl ?_
        refine G_iconst (pc := 356) (v := 1) hC dL_law_356 (by decide) ?_
        refine G_iadd (pc := 357) hC dL_law_357 ?_
        refine G_sld (pc := 358) hC hQ dL_law_358 hw (fun x28 hw => ?_)
        refine G_aload_n (pc := 359) (i := 0) hC dL_law_359 rfl rfl ?_
        refine G_iload (pc := 360) (i := 5) hC dL_law_360 rfl ?_
        refine G_iconst (pc := 362) (v := 2) hC dL_law_362 (by decide) ?_
        refine G_iadd (pc := 363) hC dL_law_363 ?_
        refine G_sld (pc := 364) hC hQ dL_law_364 hw (fun x29 hw => ?_)
        refine G_aload_n (pc := 365) (i := 3) hC dL_law_365 rfl rfl ?_
        refine GX_callSW (pc := 366) (n := 4) (As := [va_rf v1, .int x28, .int x29, va_rf v3]) (rest := []) hC (m_X0_delete hJ hw) (lw_SW q1384 q1385 q83 q1386) hdL_X0_delete.2 (by decide) rfl rfl (st_c cat_e (Nat.le_of_ble_eq_true rfl)) dL_law_366 (fun E q M hx => hx.elim) (kI fun x31 M30 hw => ?_)
        refine G_istore (pc := 369) (i := 6) (lw := [some (va_rf (some a0)), some (va_rf v1), some (va_rf v2), some (va_rf v3), some (va_rf v4), some (.int v5), some (.int x31), none, none]) hC dL_law_369 (Nat.le_of_ble_eq_true rfl) rfl ?_
        refine G_aload_n (pc := 371) (i := 2) hC dL_law_371 rfl rfl ?_
        refine G_aload_n (pc := 372) (i := 0) hC dL_law_372 rfl rfl ?_
        refine G_iload (pc := 373) (i := 5) hC dL_law_373 rfl ?_
        refine G_iconst (pc := 375) (v := 1) hC dL_law_375 (by decide) ?_
        refine G_iadd (pc := 376) hC dL_law_376 ?_
        refine G_sld (pc := 377) hC hQ dL_law_377 hw (fun x32 hw => ?_)
        refine G_aload_n (pc := 378) (i := 0) hC dL_law_378 rfl rfl ?_
        refine G_iload (pc := 379) (i := 5) hC dL_law_379 rfl ?_
        refine G_iconst (pc := 381) (v := 2) hC dL_law_381 (by decide) ?_
        refine G_iadd (pc := 382) hC dL_law_382 ?_
        refine G_sld (pc := 383) hC hQ dL_law_383 hw (fun x33 hw => ?_)
        obtain ⟨b35, rfl, hb, hw⟩ := gThis_e hw
        refine G_callV (pc := 384) (n := 2) (C := "MergeWorkbenchModel") (b := b35) (As := [.int x32, .int x33]) (rest := []) hC (m_X3_delete hJ hw) (lw_V q3589 q3590 q3591 q108 q3592) hdL_X3_delete (by decide) (rcv (C := RX3) (T := TX3) (N := 61) hC hb rfl) rfl rfl (st_c cat_e (Nat.le_of_ble_eq_true rfl)) dL_law_384 (kI fun x36 M34 hw => ?_)
        refine G_istore (pc := 387) (i := 7) (lw := [some (va_rf (some a0)), some (va_rf v1), some (va_rf (some b35)), some (va_rf v3), some (va_rf v4), some (.int v5), some (.int x31), some (.int x36), none]) hC dL_law_387 (Nat.le_of_ble_eq_true rfl) rfl ?_
        refine G_aload_n (pc := 389) (i := 2) hC dL_law_389 rfl rfl ?_
        obtain ⟨hb, hw⟩ := hw
        refine G_callV (pc := 390) (n := 0) (C := "MergeWorkbenchModel") (b := b35) (As := []) (rest := []) hC (m_X3_thrown hJ hw) (lw_V q3559 q3560 q3561 q108 q3562) hdL_X3_thrown (by decide) (rcv (C := RX3) (T := TX3) (N := 61) hC hb rfl) rfl rfl (st_c cat_e (Nat.le_of_ble_eq_true rfl)) dL_law_390 (kI fun x38 M37 hw => ?_)
        refine G_iload (pc := 393) (i := 6) hC dL_law_393 rfl ?_
        refine G_icmp_eq (pc := 395) (tgt := 400) hC dL_law_395 (by decide) (fun hc => ?_) (fun hc => ?_)
        · replace hw := hw.1 hc
          refine G_iload (pc := 400) (i := 6) hC dL_law_400 rfl ?_
          refine G_if_ne (pc := 402) (tgt := 417) hC dL_law_402 (by decide) (fun hc => ?_) (fun hc => ?_)
          · replace hw := hw.1 hc
            refine G_loc (lv' := [some (va_rf (some a0)), some (va_rf v1), some (va_rf (some b35)), some (va_rf v3), some (va_rf v4), some (.int v5), none, none, none]) ⟨Or.inr rfl, Or.inr rfl, Or.inr rfl, Or.inr rfl, Or.inr rfl, Or.inr rfl, Or.inl rfl, Or.inl rfl, Or.inr rfl, trivial⟩ ?_
            exact g_L_law_417 hJ hC hQ ih  v1 (some b35) v3 v4 v5 M37 hw
          · replace hw := hw.2 hc
            refine G_aload_n (pc := 405) (i := 3) hC dL_law_405 rfl rfl ?_
            refine G_iconst (pc := 406) (v := 0) hC dL_law_406 (by decide) ?_
            refine G_lald (pc := 407) hC dL_law_407 hw (fun x39 hw => ?_)
            refine G_iload (pc := 408) (i := 7) hC dL_law_408 rfl ?_
            refine G_i2l (pc := 410) hC dL_law_410 ?_
            refine G_lcmp (pc := 411) hC dL_law_411 ?_
            refine G_if_eq (pc := 412) (tgt := 417) hC dL_law_412 (by decide) (fun hc => ?_) (fun hc => ?_)
            · replace hw := hw.1 hc
              refine G_loc (lv' := [some (va_rf (some a0)), some (va_rf v1), some (va_rf (some b35)), some (va_rf v3), some (va_rf v4), some (.int v5), none, none, none]) ⟨Or.inr rfl, Or.inr rfl, Or.inr rfl, Or.inr rfl, Or.inr rfl, Or.inr rfl, Or.inl rfl, Or.inl rfl, Or.inr rfl, trivial⟩ ?_
              exact g_L_law_417 hJ hC hQ ih  v1 (some b35) v3 v4 v5 M37 hw
            · replace hw := hw.2 hc
              refine G_iconst (pc := 415) (v := 0) hC dL_law_415 (by decide) ?_
              exact hw.elim
        · replace hw := hw.2 hc
          refine G_iconst (pc := 398) (v := 0) hC dL_law_398 (by decide) ?_
          exact hw.elim
      by_cases hc3 : (x1 &&& (63 : Int32)) = (3 : Int32)
      · replace hw := hw.2.2.2.1 hc3
        refine G_tableIn (pc := 44) (off := 376) (tgt := 420) hC dL_law_44 (by rw [hc3]; decide) (by rw [hc3]; decide) (by rw [hc3]; rfl) (by decide) ?_
        refine G_aload_n (pc := 420) (i := 1) hC dL_law_420 rfl rfl ?_
        refine G_aload_n (pc := 421) (i := 0) hC dL_law_421 rfl rfl ?_
        refine G_iload (pc := 422) (i := 5) hC dL_law_422 rfl ?_
        refine G_iconst (pc := 424) (v := 1) hC dL_law_424 (by decide) ?_
        refine G_iadd (pc := 425) hC dL_law_425 ?_
        refine G_sld (pc := 426) hC hQ dL_law_426 hw (fun x40 hw => ?_)
        refine G_aload_n (pc := 427) (i := 3) hC dL_law_427 rfl rfl ?_
        refine GX_callSW (pc := 428) (n := 3) (As := [va_rf v1, .int x40, va_rf v3]) (rest := []) hC (m_X0_length hJ hw) (lw_SW q1411 q1412 q83 q1413) hdL_X0_length.2 (by decide) rfl rfl (st_c cat_e (Nat.le_of_ble_eq_true rfl)) dL_law_428 (fun E q M hx => hx.elim) (kI fun x42 M41 hw => ?_)
        refine G_istore (pc := 431) (i := 6) (lw := [some (va_rf (some a0)), some (va_rf v1), some (va_rf v2), some (va_rf v3), some (va_rf v4), some (.int v5), some (.int x42), none, none]) hC dL_law_431 (Nat.le_of_ble_eq_true rfl) rfl ?_
        refine G_aload_n (pc := 433) (i := 2) hC dL_law_433 rfl rfl ?_
        refine G_aload_n (pc := 434) (i := 0) hC dL_law_434 rfl rfl ?_
        refine G_iload (pc := 435) (i := 5) hC dL_law_435 rfl ?_
        refine G_iconst (pc := 437) (v := 1) hC dL_law_437 (by decide) ?_
        refine G_iadd (pc := 438) hC dL_law_438 ?_
        refine G_sld (pc := 439) hC hQ dL_law_439 hw (fun x43 hw => ?_)
        obtain ⟨b45, rfl, hb, hw⟩ := gThis_e hw
        refine G_callV (pc := 440) (n := 1) (C := "MergeWorkbenchModel") (b := b45) (As := [.int x43]) (rest := []) hC (m_X3_length hJ hw) (lw_V q3593 q3594 q3595 q108 q3596) hdL_X3_length (by decide) (rcv (C := RX3) (T := TX3) (N := 61) hC hb rfl) rfl rfl (st_c cat_e (Nat.le_of_ble_eq_true rfl)) dL_law_440 (kI fun x46 M44 hw => ?_)
        refine G_istore (pc := 443) (i := 7) (lw := [some (va_rf (some a0)), some (va_rf v1), some (va_rf (some b45)), some (va_rf v3), some (va_rf v4), some (.int v5), some (.int x42), some (.int x46), none]) hC dL_law_443 (Nat.le_of_ble_eq_true rfl) rfl ?_
        refine G_aload_n (pc := 445) (i := 2) hC dL_law_445 rfl rfl ?_
        obtain ⟨hb, hw⟩ := hw
        refine G_callV (pc := 446) (n := 0) (C := "MergeWorkbenchModel") (b := b45) (As := []) (rest := []) hC (m_X3_thrown hJ hw) (lw_V q3559 q3560 q3561 q108 q3562) hdL_X3_thrown (by decide) (rcv (C := RX3) (T := TX3) (N := 61) hC hb rfl) rfl rfl (st_c cat_e (Nat.le_of_ble_eq_true rfl)) dL_law_446 (kI fun x48 M47 hw => ?_)
        refine G_iload (pc := 449) (i := 6) hC dL_law_449 rfl ?_
        refine G_icmp_eq (pc := 451) (tgt := 456) hC dL_law_451 (by decide) (fun hc => ?_) (fun hc => ?_)
        · replace hw := hw.1 hc
          refine G_iload (pc := 456) (i := 6) hC dL_law_456 rfl ?_
          refine G_if_ne (pc := 458) (tgt := 473) hC dL_law_458 (by decide) (fun hc => ?_) (fun hc => ?_)
          · replace hw := hw.1 hc
            refine G_loc (lv' := [some (va_rf (some a0)), some (va_rf v1), some (va_rf (some b45)), some (va_rf v3), some (va_rf v4), some (.int v5), none, none, none]) ⟨Or.inr rfl, Or.inr rfl, Or.inr rfl, Or.inr rfl, Or.inr rfl, Or.inr rfl, Or.inl rfl, Or.inl rfl, Or.inr rfl, trivial⟩ ?_
            exact g_L_law_473 hJ hC hQ ih  v1 (some b45) v3 v4 v5 M47 hw
          · replace hw := hw.2 hc
            refine G_aload_n (pc := 461) (i := 3) hC dL_law_461 rfl rfl ?_
            refine G_iconst (pc := 462) (v := 0) hC dL_law_462 (by decide) ?_
            refine G_lald (pc := 463) hC dL_law_463 hw (fun x49 hw => ?_)
            refine G_iload (pc := 464) (i := 7) hC dL_law_464 rfl ?_
            refine G_i2l (pc := 466) hC dL_law_466 ?_
            refine G_lcmp (pc := 467) hC dL_law_467 ?_
            refine G_if_eq (pc := 468) (tgt := 473) hC dL_law_468 (by decide) (fun hc => ?_) (fun hc => ?_)
            · replace hw := hw.1 hc
              refine G_loc (lv' := [some (va_rf (some a0)), some (va_rf v1), some (va_rf (some b45)), some (va_rf v3), some (va_rf v4), some (.int v5), none, none, none]) ⟨Or.inr rfl, Or.inr rfl, Or.inr rfl, Or.inr rfl, Or.inr rfl, Or.inr rfl, Or.inl rfl, Or.inl rfl, Or.inr rfl, trivial⟩ ?_
              exact g_L_law_473 hJ hC hQ ih  v1 (some b45) v3 v4 v5 M47 hw
            · replace hw := hw.2 hc
              refine G_iconst (pc := 471) (v := 0) hC dL_law_471 (by decide) ?_
              exact hw.elim
        · replace hw := hw.2 hc
          refine G_iconst (pc := 454) (v := 0) hC dL_law_454 (by decide) ?_
          exact hw.elim
      by_cases hc4 : (x1 &&& (63 : Int32)) = (4 : Int32)
      · replace hw := hw.2.2.2.2.1 hc4
        refine G_tableIn (pc := 44) (off := 432) (tgt := 476) hC dL_law_44 (by rw [hc4]; decide) (by rw [hc4]; decide) (by rw [hc4]; rfl) (by decide) ?_
        refine G_aload_n (pc := 476) (i := 1) hC dL_law_476 rfl rfl ?_
        refine G_aload_n (pc := 477) (i := 0) hC dL_law_477 rfl rfl ?_
        refine G_iload (pc := 478) (i := 5) hC dL_law_478 rfl ?_
        refine G_iconst (pc := 480) (v := 1) hC dL_law_480 (by decide) ?_
        refine G_iadd (pc := 481) hC dL_law_481 ?_
        refine G_sld (pc := 482) hC hQ dL_law_482 hw (fun x50 hw => ?_)
        refine G_aload_n (pc := 483) (i := 0) hC dL_law_483 rfl rfl ?_
        refine G_iload (pc := 484) (i := 5) hC dL_law_484 rfl ?_
        refine G_iconst (pc := 486) (v := 2) hC dL_law_486 (by decide) ?_
        refine G_iadd (pc := 487) hC dL_law_487 ?_
        refine G_sld (pc := 488) hC hQ dL_law_488 hw (fun x51 hw => ?_)
        refine G_aload_n (pc := 489) (i := 3) hC dL_law_489 rfl rfl ?_
        refine GX_callSW (pc := 490) (n := 4) (As := [va_rf v1, .int x50, .int x51, va_rf v3]) (rest := []) hC (m_X0_line hJ hw) (lw_SW q1418 q1419 q83 q1420) hdL_X0_line.2 (by decide) rfl rfl (st_c cat_e (Nat.le_of_ble_eq_true rfl)) dL_law_490 (fun E q M hx => hx.elim) (kI fun x53 M52 hw => ?_)
        refine G_istore (pc := 493) (i := 6) (lw := [some (va_rf (some a0)), some (va_rf v1), some (va_rf v2), some (va_rf v3), some (va_rf v4), some (.int v5), some (.int x53), none, none]) hC dL_law_493 (Nat.le_of_ble_eq_true rfl) rfl ?_
        refine G_aload_n (pc := 495) (i := 2) hC dL_law_495 rfl rfl ?_
        refine G_aload_n (pc := 496) (i := 0) hC dL_law_496 rfl rfl ?_
        refine G_iload (pc := 497) (i := 5) hC dL_law_497 rfl ?_
        refine G_iconst (pc := 499) (v := 1) hC dL_law_499 (by decide) ?_
        refine G_iadd (pc := 500) hC dL_law_500 ?_
        refine G_sld (pc := 501) hC hQ dL_law_501 hw (fun x54 hw => ?_)
        refine G_aload_n (pc := 502) (i := 0) hC dL_law_502 rfl rfl ?_
        refine G_iload (pc := 503) (i := 5) hC dL_law_503 rfl ?_
        refine G_iconst (pc := 505) (v := 2) hC dL_law_505 (by decide) ?_
        refine G_iadd (pc := 506) hC dL_law_506 ?_
        refine G_sld (pc := 507) hC hQ dL_law_507 hw (fun x55 hw => ?_)
        obtain ⟨b57, rfl, hb, hw⟩ := gThis_e hw
        refine G_callV (pc := 508) (n := 2) (C := "MergeWorkbenchModel") (b := b57) (As := [.int x54, .int x55]) (rest := []) hC (m_X3_line hJ hw) (lw_V q3597 q3598 q3599 q108 q3600) hdL_X3_line (by decide) (rcv (C := RX3) (T := TX3) (N := 61) hC hb rfl) rfl rfl (st_c cat_e (Nat.le_of_ble_eq_true rfl)) dL_law_508 (kI fun x58 M56 hw => ?_)
        refine G_istore (pc := 511) (i := 7) (lw := [some (va_rf (some a0)), some (va_rf v1), some (va_rf (some b57)), some (va_rf v3), some (va_rf v4), some (.int v5), some (.int x53), some (.int x58), none]) hC dL_law_511 (Nat.le_of_ble_eq_true rfl) rfl ?_
        refine G_aload_n (pc := 513) (i := 2) hC dL_law_513 rfl rfl ?_
        obtain ⟨hb, hw⟩ := hw
        refine G_callV (pc := 514) (n := 0) (C := "MergeWorkbenchModel") (b := b57) (As := []) (rest := []) hC (m_X3_thrown hJ hw) (lw_V q3559 q3560 q3561 q108 q3562) hdL_X3_thrown (by decide) (rcv (C := RX3) (T := TX3) (N := 61) hC hb rfl) rfl rfl (st_c cat_e (Nat.le_of_ble_eq_true rfl)) dL_law_514 (kI fun x60 M59 hw => ?_)
        refine G_iload (pc := 517) (i := 6) hC dL_law_517 rfl ?_
        refine G_icmp_eq (pc := 519) (tgt := 524) hC dL_law_519 (by decide) (fun hc => ?_) (fun hc => ?_)
        · replace hw := hw.1 hc
          refine G_iload (pc := 524) (i := 6) hC dL_law_524 rfl ?_
          refine G_if_ne (pc := 526) (tgt := 541) hC dL_law_526 (by decide) (fun hc => ?_) (fun hc => ?_)
          · replace hw := hw.1 hc
            refine G_loc (lv' := [some (va_rf (some a0)), some (va_rf v1), some (va_rf (some b57)), some (va_rf v3), some (va_rf v4), some (.int v5), none, none, none]) ⟨Or.inr rfl, Or.inr rfl, Or.inr rfl, Or.inr rfl, Or.inr rfl, Or.inr rfl, Or.inl rfl, Or.inl rfl, Or.inr rfl, trivial⟩ ?_
            exact g_L_law_541 hJ hC hQ ih  v1 (some b57) v3 v4 v5 M59 hw
          · replace hw := hw.2 hc
            refine G_aload_n (pc := 529) (i := 3) hC dL_law_529 rfl rfl ?_
            refine G_iconst (pc := 530) (v := 0) hC dL_law_530 (by decide) ?_
            refine G_lald (pc := 531) hC dL_law_531 hw (fun x61 hw => ?_)
            refine G_iload (pc := 532) (i := 7) hC dL_law_532 rfl ?_
            refine G_i2l (pc := 534) hC dL_law_534 ?_
            refine G_lcmp (pc := 535) hC dL_law_535 ?_
            refine G_if_eq (pc := 536) (tgt := 541) hC dL_law_536 (by decide) (fun hc => ?_) (fun hc => ?_)
            · replace hw := hw.1 hc
              refine G_loc (lv' := [some (va_rf (some a0)), some (va_rf v1), some (va_rf (some b57)), some (va_rf v3), some (va_rf v4), some (.int v5), none, none, none]) ⟨Or.inr rfl, Or.inr rfl, Or.inr rfl, Or.inr rfl, Or.inr rfl, Or.inr rfl, Or.inl rfl, Or.inl rfl, Or.inr rfl, trivial⟩ ?_
              exact g_L_law_541 hJ hC hQ ih  v1 (some b57) v3 v4 v5 M59 hw
            · replace hw := hw.2 hc
              refine G_iconst (pc := 539) (v := 0) hC dL_law_539 (by decide) ?_
              exact hw.elim
        · replace hw := hw.2 hc
          refine G_iconst (pc := 522) (v := 0) hC dL_law_522 (by decide) ?_
          exact hw.elim
      by_cases hc5 : (x1 &&& (63 : Int32)) = (5 : Int32)
      · replace hw := hw.2.2.2.2.2.1 hc5
        refine G_tableIn (pc := 44) (off := 500) (tgt := 544) hC dL_law_44 (by rw [hc5]; decide) (by rw [hc5]; decide) (by rw [hc5]; rfl) (by decide) ?_
        refine G_aload_n (pc := 544) (i := 1) hC dL_law_544 rfl rfl ?_
        refine G_aload_n (pc := 545) (i := 0) hC dL_law_545 rfl rfl ?_
        refine G_iload (pc := 546) (i := 5) hC dL_law_546 rfl ?_
        refine G_iconst (pc := 548) (v := 1) hC dL_law_548 (by decide) ?_
        refine G_iadd (pc := 549) hC dL_law_549 ?_
        refine G_sld (pc := 550) hC hQ dL_law_550 hw (fun x62 hw => ?_)
        refine G_aload_n (pc := 551) (i := 0) hC dL_law_551 rfl rfl ?_
        refine G_iload (pc := 552) (i := 5) hC dL_law_552 rfl ?_
        refine G_iconst (pc := 554) (v := 2) hC dL_law_554 (by decide) ?_
        refine G_iadd (pc := 555) hC dL_law_555 ?_
        refine G_sld (pc := 556) hC hQ dL_law_556 hw (fun x63 hw => ?_)
        refine G_aload_n (pc := 557) (i := 3) hC dL_law_557 rfl rfl ?_
        refine GX_callSW (pc := 558) (n := 4) (As := [va_rf v1, .int x62, .int x63, va_rf v3]) (rest := []) hC (m_X0_copy hJ hw) (lw_SW q1425 q1426 q83 q1427) hdL_X0_copy.2 (by decide) rfl rfl (st_c cat_e (Nat.le_of_ble_eq_true rfl)) dL_law_558 (fun E q M hx => hx.elim) (kI fun x65 M64 hw => ?_)
        refine G_istore (pc := 561) (i := 6) (lw := [some (va_rf (some a0)), some (va_rf v1), some (va_rf v2), some (va_rf v3), some (va_rf v4), some (.int v5), some (.int x65), none, none]) hC dL_law_561 (Nat.le_of_ble_eq_true rfl) rfl ?_
        refine G_aload_n (pc := 563) (i := 2) hC dL_law_563 rfl rfl ?_
        refine G_aload_n (pc := 564) (i := 0) hC dL_law_564 rfl rfl ?_
        refine G_iload (pc := 565) (i := 5) hC dL_law_565 rfl ?_
        refine G_iconst (pc := 567) (v := 1) hC dL_law_567 (by decide) ?_
        refine G_iadd (pc := 568) hC dL_law_568 ?_
        refine G_sld (pc := 569) hC hQ dL_law_569 hw (fun x66 hw => ?_)
        refine G_aload_n (pc := 570) (i := 0) hC dL_law_570 rfl rfl ?_
        refine G_iload (pc := 571) (i := 5) hC dL_law_571 rfl ?_
        refine G_iconst (pc := 573) (v := 2) hC dL_law_573 (by decide) ?_
        refine G_iadd (pc := 574) hC dL_law_574 ?_
        refine G_sld (pc := 575) hC hQ dL_law_575 hw (fun x67 hw => ?_)
        obtain ⟨b69, rfl, hb, hw⟩ := gThis_e hw
        refine G_callV (pc := 576) (n := 2) (C := "MergeWorkbenchModel") (b := b69) (As := [.int x66, .int x67]) (rest := []) hC (m_X3_copy hJ hw) (lw_V q3601 q3602 q3603 q108 q3604) hdL_X3_copy (by decide) (rcv (C := RX3) (T := TX3) (N := 61) hC hb rfl) rfl rfl (st_c cat_e (Nat.le_of_ble_eq_true rfl)) dL_law_576 (kI fun x70 M68 hw => ?_)
        refine G_istore (pc := 579) (i := 7) (lw := [some (va_rf (some a0)), some (va_rf v1), some (va_rf (some b69)), some (va_rf v3), some (va_rf v4), some (.int v5), some (.int x65), some (.int x70), none]) hC dL_law_579 (Nat.le_of_ble_eq_true rfl) rfl ?_
        refine G_aload_n (pc := 581) (i := 2) hC dL_law_581 rfl rfl ?_
        obtain ⟨hb, hw⟩ := hw
        refine G_callV (pc := 582) (n := 0) (C := "MergeWorkbenchModel") (b := b69) (As := []) (rest := []) hC (m_X3_thrown hJ hw) (lw_V q3559 q3560 q3561 q108 q3562) hdL_X3_thrown (by decide) (rcv (C := RX3) (T := TX3) (N := 61) hC hb rfl) rfl rfl (st_c cat_e (Nat.le_of_ble_eq_true rfl)) dL_law_582 (kI fun x72 M71 hw => ?_)
        refine G_iload (pc := 585) (i := 6) hC dL_law_585 rfl ?_
        refine G_icmp_eq (pc := 587) (tgt := 592) hC dL_law_587 (by decide) (fun hc => ?_) (fun hc => ?_)
        · replace hw := hw.1 hc
          refine G_iload (pc := 592) (i := 6) hC dL_law_592 rfl ?_
          refine G_if_ne (pc := 594) (tgt := 609) hC dL_law_594 (by decide) (fun hc => ?_) (fun hc => ?_)
          · replace hw := hw.1 hc
            refine G_loc (lv' := [some (va_rf (some a0)), some (va_rf v1), some (va_rf (some b69)), some (va_rf v3), some (va_rf v4), some (.int v5), none, none, none]) ⟨Or.inr rfl, Or.inr rfl, Or.inr rfl, Or.inr rfl, Or.inr rfl, Or.inr rfl, Or.inl rfl, Or.inl rfl, Or.inr rfl, trivial⟩ ?_
            exact g_L_law_609 hJ hC hQ ih  v1 (some b69) v3 v4 v5 M71 hw
          · replace hw := hw.2 hc
            refine G_aload_n (pc := 597) (i := 3) hC dL_law_597 rfl rfl ?_
            refine G_iconst (pc := 598) (v := 0) hC dL_law_598 (by decide) ?_
            refine G_lald (pc := 599) hC dL_law_599 hw (fun x73 hw => ?_)
            refine G_iload (pc := 600) (i := 7) hC dL_law_600 rfl ?_
            refine G_i2l (pc := 602) hC dL_law_602 ?_
            refine G_lcmp (pc := 603) hC dL_law_603 ?_
            refine G_if_eq (pc := 604) (tgt := 609) hC dL_law_604 (by decide) (fun hc => ?_) (fun hc => ?_)
            · replace hw := hw.1 hc
              refine G_loc (lv' := [some (va_rf (some a0)), some (va_rf v1), some (va_rf (some b69)), some (va_rf v3), some (va_rf v4), some (.int v5), none, none, none]) ⟨Or.inr rfl, Or.inr rfl, Or.inr rfl, Or.inr rfl, Or.inr rfl, Or.inr rfl, Or.inl rfl, Or.inl rfl, Or.inr rfl, trivial⟩ ?_
              exact g_L_law_609 hJ hC hQ ih  v1 (some b69) v3 v4 v5 M71 hw
            · replace hw := hw.2 hc
              refine G_iconst (pc := 607) (v := 0) hC dL_law_607 (by decide) ?_
              exact hw.elim
        · replace hw := hw.2 hc
          refine G_iconst (pc := 590) (v := 0) hC dL_law_590 (by decide) ?_
          exact hw.elim
      by_cases hc6 : (x1 &&& (63 : Int32)) = (6 : Int32)
      · replace hw := hw.2.2.2.2.2.2.1 hc6
        refine G_tableIn (pc := 44) (off := 568) (tgt := 612) hC dL_law_44 (by rw [hc6]; decide) (by rw [hc6]; decide) (by rw [hc6]; rfl) (by decide) ?_
        refine G_aload_n (pc := 612) (i := 1) hC dL_law_612 rfl rfl ?_
        refine G_aload_n (pc := 613) (i := 0) hC dL_law_613 rfl rfl ?_
        refine G_iload (pc := 614) (i := 5) hC dL_law_614 rfl ?_
        refine G_iconst (pc := 616) (v := 1) hC dL_law_616 (by decide) ?_
        refine G_iadd (pc := 617) hC dL_law_617 ?_
        refine G_sld (pc := 618) hC hQ dL_law_618 hw (fun x74 hw => ?_)
        refine G_aload_n (pc := 619) (i := 0) hC dL_law_619 rfl rfl ?_
        refine G_iload (pc := 620) (i := 5) hC dL_law_620 rfl ?_
        refine G_iconst (pc := 622) (v := 2) hC dL_law_622 (by decide) ?_
        refine G_iadd (pc := 623) hC dL_law_623 ?_
        refine G_sld (pc := 624) hC hQ dL_law_624 hw (fun x75 hw => ?_)
        refine G_aload_n (pc := 625) (i := 3) hC dL_law_625 rfl rfl ?_
        refine GX_callSW (pc := 626) (n := 4) (As := [va_rf v1, .int x74, .int x75, va_rf v3]) (rest := []) hC (m_X0_isSame hJ hw) (lw_SW q1432 q1433 q83 q1434) hdL_X0_isSame.2 (by decide) rfl rfl (st_c cat_e (Nat.le_of_ble_eq_true rfl)) dL_law_626 (fun E q M hx => hx.elim) (kI fun x77 M76 hw => ?_)
        refine G_istore (pc := 629) (i := 6) (lw := [some (va_rf (some a0)), some (va_rf v1), some (va_rf v2), some (va_rf v3), some (va_rf v4), some (.int v5), some (.int x77), none, none]) hC dL_law_629 (Nat.le_of_ble_eq_true rfl) rfl ?_
        refine G_aload_n (pc := 631) (i := 2) hC dL_law_631 rfl rfl ?_
        refine G_aload_n (pc := 632) (i := 0) hC dL_law_632 rfl rfl ?_
        refine G_iload (pc := 633) (i := 5) hC dL_law_633 rfl ?_
        refine G_iconst (pc := 635) (v := 1) hC dL_law_635 (by decide) ?_
        refine G_iadd (pc := 636) hC dL_law_636 ?_
        refine G_sld (pc := 637) hC hQ dL_law_637 hw (fun x78 hw => ?_)
        refine G_aload_n (pc := 638) (i := 0) hC dL_law_638 rfl rfl ?_
        refine G_iload (pc := 639) (i := 5) hC dL_law_639 rfl ?_
        refine G_iconst (pc := 641) (v := 2) hC dL_law_641 (by decide) ?_
        refine G_iadd (pc := 642) hC dL_law_642 ?_
        refine G_sld (pc := 643) hC hQ dL_law_643 hw (fun x79 hw => ?_)
        obtain ⟨b81, rfl, hb, hw⟩ := gThis_e hw
        refine G_callV (pc := 644) (n := 2) (C := "MergeWorkbenchModel") (b := b81) (As := [.int x78, .int x79]) (rest := []) hC (m_X3_isSame hJ hw) (lw_V q3609 q3610 q3611 q108 q3612) hdL_X3_isSame (by decide) (rcv (C := RX3) (T := TX3) (N := 61) hC hb rfl) rfl rfl (st_c cat_e (Nat.le_of_ble_eq_true rfl)) dL_law_644 (kI fun x82 M80 hw => ?_)
        refine G_istore (pc := 647) (i := 7) (lw := [some (va_rf (some a0)), some (va_rf v1), some (va_rf (some b81)), some (va_rf v3), some (va_rf v4), some (.int v5), some (.int x77), some (.int x82), none]) hC dL_law_647 (Nat.le_of_ble_eq_true rfl) rfl ?_
        refine G_aload_n (pc := 649) (i := 2) hC dL_law_649 rfl rfl ?_
        obtain ⟨hb, hw⟩ := hw
        refine G_callV (pc := 650) (n := 0) (C := "MergeWorkbenchModel") (b := b81) (As := []) (rest := []) hC (m_X3_thrown hJ hw) (lw_V q3559 q3560 q3561 q108 q3562) hdL_X3_thrown (by decide) (rcv (C := RX3) (T := TX3) (N := 61) hC hb rfl) rfl rfl (st_c cat_e (Nat.le_of_ble_eq_true rfl)) dL_law_650 (kI fun x84 M83 hw => ?_)
        refine G_iload (pc := 653) (i := 6) hC dL_law_653 rfl ?_
        refine G_icmp_eq (pc := 655) (tgt := 660) hC dL_law_655 (by decide) (fun hc => ?_) (fun hc => ?_)
        · replace hw := hw.1 hc
          refine G_iload (pc := 660) (i := 6) hC dL_law_660 rfl ?_
          refine G_if_ne (pc := 662) (tgt := 684) hC dL_law_662 (by decide) (fun hc => ?_) (fun hc => ?_)
          · replace hw := hw.1 hc
            refine G_loc (lv' := [some (va_rf (some a0)), some (va_rf v1), some (va_rf (some b81)), some (va_rf v3), some (va_rf v4), some (.int v5), none, none, none]) ⟨Or.inr rfl, Or.inr rfl, Or.inr rfl, Or.inr rfl, Or.inr rfl, Or.inr rfl, Or.inl rfl, Or.inl rfl, Or.inr rfl, trivial⟩ ?_
            exact g_L_law_684 hJ hC hQ ih  v1 (some b81) v3 v4 v5 M83 hw
          · replace hw := hw.2 hc
            refine G_aload_n (pc := 665) (i := 3) hC dL_law_665 rfl rfl ?_
            refine G_iconst (pc := 666) (v := 0) hC dL_law_666 (by decide) ?_
            refine G_lald (pc := 667) hC dL_law_667 hw (fun x85 hw => ?_)
            refine G_iload (pc := 668) (i := 7) hC dL_law_668 rfl ?_
            refine G_if_eq (pc := 670) (tgt := 677) hC dL_law_670 (by decide) (fun hc => ?_) (fun hc => ?_)
            · replace hw := hw.1 hc
              refine G_lconst (pc := 677) (v := 0) hC dL_law_677 (by decide) ?_
              refine G_loc (lv' := [some (va_rf (some a0)), some (va_rf v1), some (va_rf (some b81)), some (va_rf v3), some (va_rf v4), some (.int v5), none, none, none]) ⟨Or.inr rfl, Or.inr rfl, Or.inr rfl, Or.inr rfl, Or.inr rfl, Or.inr rfl, Or.inl rfl, Or.inl rfl, Or.inr rfl, trivial⟩ ?_
              exact g_L_law_678 hJ hC hQ ih  v1 (some b81) v3 v4 v5 x85 (0 : Int64) M83 hw
            · replace hw := hw.2 hc
              refine G_lconst (pc := 673) (v := 1) hC dL_law_673 (by decide) ?_
              refine G_goto (pc := 674) (tgt := 678) hC dL_law_674 (by decide) ?_
              refine G_loc (lv' := [some (va_rf (some a0)), some (va_rf v1), some (va_rf (some b81)), some (va_rf v3), some (va_rf v4), some (.int v5), none, none, none]) ⟨Or.inr rfl, Or.inr rfl, Or.inr rfl, Or.inr rfl, Or.inr rfl, Or.inr rfl, Or.inl rfl, Or.inl rfl, Or.inr rfl, trivial⟩ ?_
              exact g_L_law_678 hJ hC hQ ih  v1 (some b81) v3 v4 v5 x85 (1 : Int64) M83 hw
        · replace hw := hw.2 hc
          refine G_iconst (pc := 658) (v := 0) hC dL_law_658 (by decide) ?_
          exact hw.elim
      by_cases hc7 : (x1 &&& (63 : Int32)) = (7 : Int32)
      · replace hw := hw.2.2.2.2.2.2.2.1 hc7
        refine G_tableIn (pc := 44) (off := 643) (tgt := 687) hC dL_law_44 (by rw [hc7]; decide) (by rw [hc7]; decide) (by rw [hc7]; rfl) (by decide) ?_
        refine G_aload_n (pc := 687) (i := 1) hC dL_law_687 rfl rfl ?_
        refine G_aload_n (pc := 688) (i := 0) hC dL_law_688 rfl rfl ?_
        refine G_iload (pc := 689) (i := 5) hC dL_law_689 rfl ?_
        refine G_iconst (pc := 691) (v := 1) hC dL_law_691 (by decide) ?_
        refine G_iadd (pc := 692) hC dL_law_692 ?_
        refine G_sld (pc := 693) hC hQ dL_law_693 hw (fun x86 hw => ?_)
        refine G_aload_n (pc := 694) (i := 0) hC dL_law_694 rfl rfl ?_
        refine G_iload (pc := 695) (i := 5) hC dL_law_695 rfl ?_
        refine G_iconst (pc := 697) (v := 2) hC dL_law_697 (by decide) ?_
        refine G_iadd (pc := 698) hC dL_law_698 ?_
        refine G_sld (pc := 699) hC hQ dL_law_699 hw (fun x87 hw => ?_)
        refine G_aload_n (pc := 700) (i := 3) hC dL_law_700 rfl rfl ?_
        refine GX_callSW (pc := 701) (n := 4) (As := [va_rf v1, .int x86, .int x87, va_rf v3]) (rest := []) hC (m_X0_distance hJ hw) (lw_SW q1626 q1627 q83 q1628) hdL_X0_distance.2 (by decide) rfl rfl (st_c cat_e (Nat.le_of_ble_eq_true rfl)) dL_law_701 (fun E q M hx => hx.elim) (kI fun x89 M88 hw => ?_)
        refine G_istore (pc := 704) (i := 6) (lw := [some (va_rf (some a0)), some (va_rf v1), some (va_rf v2), some (va_rf v3), some (va_rf v4), some (.int v5), some (.int x89), none, none]) hC dL_law_704 (Nat.le_of_ble_eq_true rfl) rfl ?_
        refine G_aload_n (pc := 706) (i := 2) hC dL_law_706 rfl rfl ?_
        refine G_aload_n (pc := 707) (i := 0) hC dL_law_707 rfl rfl ?_
        refine G_iload (pc := 708) (i := 5) hC dL_law_708 rfl ?_
        refine G_iconst (pc := 710) (v := 1) hC dL_law_710 (by decide) ?_
        refine G_iadd (pc := 711) hC dL_law_711 ?_
        refine G_sld (pc := 712) hC hQ dL_law_712 hw (fun x90 hw => ?_)
        refine G_aload_n (pc := 713) (i := 0) hC dL_law_713 rfl rfl ?_
        refine G_iload (pc := 714) (i := 5) hC dL_law_714 rfl ?_
        refine G_iconst (pc := 716) (v := 2) hC dL_law_716 (by decide) ?_
        refine G_iadd (pc := 717) hC dL_law_717 ?_
        refine G_sld (pc := 718) hC hQ dL_law_718 hw (fun x91 hw => ?_)
        obtain ⟨b93, rfl, hb, hw⟩ := gThis_e hw
        refine G_callV (pc := 719) (n := 2) (C := "MergeWorkbenchModel") (b := b93) (As := [.int x90, .int x91]) (rest := []) hC (m_X3_distance hJ hw) (lw_V q3644 q3645 q3646 q108 q3647) hdL_X3_distance (by decide) (rcv (C := RX3) (T := TX3) (N := 61) hC hb rfl) rfl rfl (st_c cat_e (Nat.le_of_ble_eq_true rfl)) dL_law_719 (kI fun x94 M92 hw => ?_)
        refine G_istore (pc := 722) (i := 7) (lw := [some (va_rf (some a0)), some (va_rf v1), some (va_rf (some b93)), some (va_rf v3), some (va_rf v4), some (.int v5), some (.int x89), some (.int x94), none]) hC dL_law_722 (Nat.le_of_ble_eq_true rfl) rfl ?_
        refine G_aload_n (pc := 724) (i := 2) hC dL_law_724 rfl rfl ?_
        obtain ⟨hb, hw⟩ := hw
        refine G_callV (pc := 725) (n := 0) (C := "MergeWorkbenchModel") (b := b93) (As := []) (rest := []) hC (m_X3_thrown hJ hw) (lw_V q3559 q3560 q3561 q108 q3562) hdL_X3_thrown (by decide) (rcv (C := RX3) (T := TX3) (N := 61) hC hb rfl) rfl rfl (st_c cat_e (Nat.le_of_ble_eq_true rfl)) dL_law_725 (kI fun x96 M95 hw => ?_)
        refine G_iload (pc := 728) (i := 6) hC dL_law_728 rfl ?_
        refine G_icmp_eq (pc := 730) (tgt := 735) hC dL_law_730 (by decide) (fun hc => ?_) (fun hc => ?_)
        · replace hw := hw.1 hc
          refine G_iload (pc := 735) (i := 6) hC dL_law_735 rfl ?_
          refine G_if_ne (pc := 737) (tgt := 752) hC dL_law_737 (by decide) (fun hc => ?_) (fun hc => ?_)
          · replace hw := hw.1 hc
            refine G_loc (lv' := [some (va_rf (some a0)), some (va_rf v1), some (va_rf (some b93)), some (va_rf v3), some (va_rf v4), some (.int v5), none, none, none]) ⟨Or.inr rfl, Or.inr rfl, Or.inr rfl, Or.inr rfl, Or.inr rfl, Or.inr rfl, Or.inl rfl, Or.inl rfl, Or.inr rfl, trivial⟩ ?_
            exact g_L_law_752 hJ hC hQ ih  v1 (some b93) v3 v4 v5 M95 hw
          · replace hw := hw.2 hc
            refine G_aload_n (pc := 740) (i := 3) hC dL_law_740 rfl rfl ?_
            refine G_iconst (pc := 741) (v := 0) hC dL_law_741 (by decide) ?_
            refine G_lald (pc := 742) hC dL_law_742 hw (fun x97 hw => ?_)
            refine G_iload (pc := 743) (i := 7) hC dL_law_743 rfl ?_
            refine G_i2l (pc := 745) hC dL_law_745 ?_
            refine G_lcmp (pc := 746) hC dL_law_746 ?_
            refine G_if_eq (pc := 747) (tgt := 752) hC dL_law_747 (by decide) (fun hc => ?_) (fun hc => ?_)
            · replace hw := hw.1 hc
              refine G_loc (lv' := [some (va_rf (some a0)), some (va_rf v1), some (va_rf (some b93)), some (va_rf v3), some (va_rf v4), some (.int v5), none, none, none]) ⟨Or.inr rfl, Or.inr rfl, Or.inr rfl, Or.inr rfl, Or.inr rfl, Or.inr rfl, Or.inl rfl, Or.inl rfl, Or.inr rfl, trivial⟩ ?_
              exact g_L_law_752 hJ hC hQ ih  v1 (some b93) v3 v4 v5 M95 hw
            · replace hw := hw.2 hc
              refine G_iconst (pc := 750) (v := 0) hC dL_law_750 (by decide) ?_
              exact hw.elim
        · replace hw := hw.2 hc
          refine G_iconst (pc := 733) (v := 0) hC dL_law_733 (by decide) ?_
          exact hw.elim
      by_cases hc8 : (x1 &&& (63 : Int32)) = (8 : Int32)
      · replace hw := hw.2.2.2.2.2.2.2.2.1 hc8
        refine G_tableIn (pc := 44) (off := 711) (tgt := 755) hC dL_law_44 (by rw [hc8]; decide) (by rw [hc8]; decide) (by rw [hc8]; rfl) (by decide) ?_
        refine G_aload_n (pc := 755) (i := 1) hC dL_law_755 rfl rfl ?_
        refine G_aload_n (pc := 756) (i := 0) hC dL_law_756 rfl rfl ?_
        refine G_iload (pc := 757) (i := 5) hC dL_law_757 rfl ?_
        refine G_iconst (pc := 759) (v := 1) hC dL_law_759 (by decide) ?_
        refine G_iadd (pc := 760) hC dL_law_760 ?_
        refine G_sld (pc := 761) hC hQ dL_law_761 hw (fun x98 hw => ?_)
        refine G_i2c (pc := 762) hC dL_law_762 ?_
        refine G_aload_n (pc := 763) (i := 3) hC dL_law_763 rfl rfl ?_
        refine GX_callSW (pc := 764) (n := 3) (As := [va_rf v1, .int ((x98).toUInt32 % 65536).toInt32, va_rf v3]) (rest := []) hC (m_X0_feed hJ hw) (lw_SW q1715 q1716 q83 q1717) hdL_X0_feed.2 (by decide) rfl rfl (st_c cat_e (Nat.le_of_ble_eq_true rfl)) dL_law_764 (fun E q M hx => hx.elim) (kI fun x100 M99 hw => ?_)
        refine G_istore (pc := 767) (i := 6) (lw := [some (va_rf (some a0)), some (va_rf v1), some (va_rf v2), some (va_rf v3), some (va_rf v4), some (.int v5), some (.int x100), none, none]) hC dL_law_767 (Nat.le_of_ble_eq_true rfl) rfl ?_
        refine G_aload_n (pc := 769) (i := 2) hC dL_law_769 rfl rfl ?_
        refine G_aload_n (pc := 770) (i := 0) hC dL_law_770 rfl rfl ?_
        refine G_iload (pc := 771) (i := 5) hC dL_law_771 rfl ?_
        refine G_iconst (pc := 773) (v := 1) hC dL_law_773 (by decide) ?_
        refine G_iadd (pc := 774) hC dL_law_774 ?_
        refine G_sld (pc := 775) hC hQ dL_law_775 hw (fun x101 hw => ?_)
        refine G_i2c (pc := 776) hC dL_law_776 ?_
        obtain ⟨b103, rfl, hb, hw⟩ := gThis_e hw
        refine G_callV (pc := 777) (n := 1) (C := "MergeWorkbenchModel") (b := b103) (As := [.int ((x101).toUInt32 % 65536).toInt32]) (rest := []) hC (m_X3_feed hJ hw) (lw_V q3621 q3622 q3623 q108 q3624) hdL_X3_feed (by decide) (rcv (C := RX3) (T := TX3) (N := 61) hC hb rfl) rfl rfl (st_c cat_e (Nat.le_of_ble_eq_true rfl)) dL_law_777 (kI fun x104 M102 hw => ?_)
        refine G_istore (pc := 780) (i := 7) (lw := [some (va_rf (some a0)), some (va_rf v1), some (va_rf (some b103)), some (va_rf v3), some (va_rf v4), some (.int v5), some (.int x100), some (.int x104), none]) hC dL_law_780 (Nat.le_of_ble_eq_true rfl) rfl ?_
        refine G_aload_n (pc := 782) (i := 2) hC dL_law_782 rfl rfl ?_
        obtain ⟨hb, hw⟩ := hw
        refine G_callV (pc := 783) (n := 0) (C := "MergeWorkbenchModel") (b := b103) (As := []) (rest := []) hC (m_X3_thrown hJ hw) (lw_V q3559 q3560 q3561 q108 q3562) hdL_X3_thrown (by decide) (rcv (C := RX3) (T := TX3) (N := 61) hC hb rfl) rfl rfl (st_c cat_e (Nat.le_of_ble_eq_true rfl)) dL_law_783 (kI fun x106 M105 hw => ?_)
        refine G_iload (pc := 786) (i := 6) hC dL_law_786 rfl ?_
        refine G_icmp_eq (pc := 788) (tgt := 793) hC dL_law_788 (by decide) (fun hc => ?_) (fun hc => ?_)
        · replace hw := hw.1 hc
          refine G_iload (pc := 793) (i := 6) hC dL_law_793 rfl ?_
          refine G_if_ne (pc := 795) (tgt := 810) hC dL_law_795 (by decide) (fun hc => ?_) (fun hc => ?_)
          · replace hw := hw.1 hc
            refine G_loc (lv' := [some (va_rf (some a0)), some (va_rf v1), some (va_rf (some b103)), some (va_rf v3), some (va_rf v4), some (.int v5), none, none, none]) ⟨Or.inr rfl, Or.inr rfl, Or.inr rfl, Or.inr rfl, Or.inr rfl, Or.inr rfl, Or.inl rfl, Or.inl rfl, Or.inr rfl, trivial⟩ ?_
            exact g_L_law_810 hJ hC hQ ih  v1 (some b103) v3 v4 v5 M105 hw
          · replace hw := hw.2 hc
            refine G_aload_n (pc := 798) (i := 3) hC dL_law_798 rfl rfl ?_
            refine G_iconst (pc := 799) (v := 0) hC dL_law_799 (by decide) ?_
            refine G_lald (pc := 800) hC dL_law_800 hw (fun x107 hw => ?_)
            refine G_iload (pc := 801) (i := 7) hC dL_law_801 rfl ?_
            refine G_i2l (pc := 803) hC dL_law_803 ?_
            refine G_lcmp (pc := 804) hC dL_law_804 ?_
            refine G_if_eq (pc := 805) (tgt := 810) hC dL_law_805 (by decide) (fun hc => ?_) (fun hc => ?_)
            · replace hw := hw.1 hc
              refine G_loc (lv' := [some (va_rf (some a0)), some (va_rf v1), some (va_rf (some b103)), some (va_rf v3), some (va_rf v4), some (.int v5), none, none, none]) ⟨Or.inr rfl, Or.inr rfl, Or.inr rfl, Or.inr rfl, Or.inr rfl, Or.inr rfl, Or.inl rfl, Or.inl rfl, Or.inr rfl, trivial⟩ ?_
              exact g_L_law_810 hJ hC hQ ih  v1 (some b103) v3 v4 v5 M105 hw
            · replace hw := hw.2 hc
              refine G_iconst (pc := 808) (v := 0) hC dL_law_808 (by decide) ?_
              exact hw.elim
        · replace hw := hw.2 hc
          refine G_iconst (pc := 791) (v := 0) hC dL_law_791 (by decide) ?_
          exact hw.elim
      by_cases hc9 : (x1 &&& (63 : Int32)) = (9 : Int32)
      · replace hw := hw.2.2.2.2.2.2.2.2.2.1 hc9
        refine G_tableIn (pc := 44) (off := 769) (tgt := 813) hC dL_law_44 (by rw [hc9]; decide) (by rw [hc9]; decide) (by rw [hc9]; rfl) (by decide) ?_
        refine G_aload_n (pc := 813) (i := 1) hC dL_law_813 rfl rfl ?_
        refine G_aload_n (pc := 814) (i := 0) hC dL_law_814 rfl rfl ?_
        refine G_iload (pc := 815) (i := 5) hC dL_law_815 rfl ?_
        refine G_iconst (pc := 817) (v := 1) hC dL_law_817 (by decide) ?_
        refine G_iadd (pc := 818) hC dL_law_818 ?_
        refine G_sld (pc := 819) hC hQ dL_law_819 hw (fun x108 hw => ?_)
        refine G_aload_n (pc := 820) (i := 3) hC dL_law_820 rfl rfl ?_
        refine GX_callSW (pc := 821) (n := 3) (As := [va_rf v1, .int x108, va_rf v3]) (rest := []) hC (m_X0_readDocument hJ hw) (lw_SW q1743 q1744 q83 q1745) hdL_X0_readDocument.2 (by decide) rfl rfl (st_c cat_e (Nat.le_of_ble_eq_true rfl)) dL_law_821 (fun E q M hx => hx.elim) (kI fun x110 M109 hw => ?_)
        refine G_istore (pc := 824) (i := 6) (lw := [some (va_rf (some a0)), some (va_rf v1), some (va_rf v2), some (va_rf v3), some (va_rf v4), some (.int v5), some (.int x110), none, none]) hC dL_law_824 (Nat.le_of_ble_eq_true rfl) rfl ?_
        refine G_aload_n (pc := 826) (i := 2) hC dL_law_826 rfl rfl ?_
        refine G_aload_n (pc := 827) (i := 0) hC dL_law_827 rfl rfl ?_
        refine G_iload (pc := 828) (i := 5) hC dL_law_828 rfl ?_
        refine G_iconst (pc := 830) (v := 1) hC dL_law_830 (by decide) ?_
        refine G_iadd (pc := 831) hC dL_law_831 ?_
        refine G_sld (pc := 832) hC hQ dL_law_832 hw (fun x111 hw => ?_)
        obtain ⟨b113, rfl, hb, hw⟩ := gThis_e hw
        refine G_callV (pc := 833) (n := 1) (C := "MergeWorkbenchModel") (b := b113) (As := [.int x111]) (rest := []) hC (m_X3_readDocument hJ hw) (lw_V q3625 q3626 q3627 q108 q3628) hdL_X3_readDocument (by decide) (rcv (C := RX3) (T := TX3) (N := 61) hC hb rfl) rfl rfl (st_c cat_e (Nat.le_of_ble_eq_true rfl)) dL_law_833 (kI fun x114 M112 hw => ?_)
        refine G_istore (pc := 836) (i := 7) (lw := [some (va_rf (some a0)), some (va_rf v1), some (va_rf (some b113)), some (va_rf v3), some (va_rf v4), some (.int v5), some (.int x110), some (.int x114), none]) hC dL_law_836 (Nat.le_of_ble_eq_true rfl) rfl ?_
        refine G_aload_n (pc := 838) (i := 2) hC dL_law_838 rfl rfl ?_
        obtain ⟨hb, hw⟩ := hw
        refine G_callV (pc := 839) (n := 0) (C := "MergeWorkbenchModel") (b := b113) (As := []) (rest := []) hC (m_X3_thrown hJ hw) (lw_V q3559 q3560 q3561 q108 q3562) hdL_X3_thrown (by decide) (rcv (C := RX3) (T := TX3) (N := 61) hC hb rfl) rfl rfl (st_c cat_e (Nat.le_of_ble_eq_true rfl)) dL_law_839 (kI fun x116 M115 hw => ?_)
        refine G_iload (pc := 842) (i := 6) hC dL_law_842 rfl ?_
        refine G_icmp_eq (pc := 844) (tgt := 849) hC dL_law_844 (by decide) (fun hc => ?_) (fun hc => ?_)
        · replace hw := hw.1 hc
          refine G_iload (pc := 849) (i := 6) hC dL_law_849 rfl ?_
          refine G_if_ne (pc := 851) (tgt := 866) hC dL_law_851 (by decide) (fun hc => ?_) (fun hc => ?_)
          · replace hw := hw.1 hc
            refine G_loc (lv' := [some (va_rf (some a0)), some (va_rf v1), some (va_rf (some b113)), some (va_rf v3), some (va_rf v4), some (.int v5), none, none, none]) ⟨Or.inr rfl, Or.inr rfl, Or.inr rfl, Or.inr rfl, Or.inr rfl, Or.inr rfl, Or.inl rfl, Or.inl rfl, Or.inr rfl, trivial⟩ ?_
            exact g_L_law_866 hJ hC hQ ih  v1 (some b113) v3 v4 v5 M115 hw
          · replace hw := hw.2 hc
            refine G_aload_n (pc := 854) (i := 3) hC dL_law_854 rfl rfl ?_
            refine G_iconst (pc := 855) (v := 0) hC dL_law_855 (by decide) ?_
            refine G_lald (pc := 856) hC dL_law_856 hw (fun x117 hw => ?_)
            refine G_iload (pc := 857) (i := 7) hC dL_law_857 rfl ?_
            refine G_i2l (pc := 859) hC dL_law_859 ?_
            refine G_lcmp (pc := 860) hC dL_law_860 ?_
            refine G_if_eq (pc := 861) (tgt := 866) hC dL_law_861 (by decide) (fun hc => ?_) (fun hc => ?_)
            · replace hw := hw.1 hc
              refine G_loc (lv' := [some (va_rf (some a0)), some (va_rf v1), some (va_rf (some b113)), some (va_rf v3), some (va_rf v4), some (.int v5), none, none, none]) ⟨Or.inr rfl, Or.inr rfl, Or.inr rfl, Or.inr rfl, Or.inr rfl, Or.inr rfl, Or.inl rfl, Or.inl rfl, Or.inr rfl, trivial⟩ ?_
              exact g_L_law_866 hJ hC hQ ih  v1 (some b113) v3 v4 v5 M115 hw
            · replace hw := hw.2 hc
              refine G_iconst (pc := 864) (v := 0) hC dL_law_864 (by decide) ?_
              exact hw.elim
        · replace hw := hw.2 hc
          refine G_iconst (pc := 847) (v := 0) hC dL_law_847 (by decide) ?_
          exact hw.elim
      by_cases hc10 : (x1 &&& (63 : Int32)) = (10 : Int32)
      · replace hw := hw.2.2.2.2.2.2.2.2.2.2.1 hc10
        refine G_tableIn (pc := 44) (off := 825) (tgt := 869) hC dL_law_44 (by rw [hc10]; decide) (by rw [hc10]; decide) (by rw [hc10]; rfl) (by decide) ?_
        refine G_aload_n (pc := 869) (i := 1) hC dL_law_869 rfl rfl ?_
        refine G_aload_n (pc := 870) (i := 0) hC dL_law_870 rfl rfl ?_
        refine G_iload (pc := 871) (i := 5) hC dL_law_871 rfl ?_
        refine G_iconst (pc := 873) (v := 1) hC dL_law_873 (by decide) ?_
        refine G_iadd (pc := 874) hC dL_law_874 ?_
        refine G_sld (pc := 875) hC hQ dL_law_875 hw (fun x118 hw => ?_)
        refine G_aload_n (pc := 876) (i := 3) hC dL_law_876 rfl rfl ?_
        refine GX_callSW (pc := 877) (n := 3) (As := [va_rf v1, .int x118, va_rf v3]) (rest := []) hC (m_X0_setMode hJ hw) (lw_SW q2170 q2171 q83 q2172) hdL_X0_setMode.2 (by decide) rfl rfl (st_c cat_e (Nat.le_of_ble_eq_true rfl)) dL_law_877 (fun E q M hx => hx.elim) (kI fun x120 M119 hw => ?_)
        refine G_istore (pc := 880) (i := 6) (lw := [some (va_rf (some a0)), some (va_rf v1), some (va_rf v2), some (va_rf v3), some (va_rf v4), some (.int v5), some (.int x120), none, none]) hC dL_law_880 (Nat.le_of_ble_eq_true rfl) rfl ?_
        refine G_aload_n (pc := 882) (i := 2) hC dL_law_882 rfl rfl ?_
        refine G_aload_n (pc := 883) (i := 0) hC dL_law_883 rfl rfl ?_
        refine G_iload (pc := 884) (i := 5) hC dL_law_884 rfl ?_
        refine G_iconst (pc := 886) (v := 1) hC dL_law_886 (by decide) ?_
        refine G_iadd (pc := 887) hC dL_law_887 ?_
        refine G_sld (pc := 888) hC hQ dL_law_888 hw (fun x121 hw => ?_)
        obtain ⟨b123, rfl, hb, hw⟩ := gThis_e hw
        refine G_callV (pc := 889) (n := 1) (C := "MergeWorkbenchModel") (b := b123) (As := [.int x121]) (rest := []) hC (m_X3_setMode hJ hw) (lw_V q3663 q3664 q3665 q108 q3666) hdL_X3_setMode (by decide) (rcv (C := RX3) (T := TX3) (N := 61) hC hb rfl) rfl rfl (st_c cat_e (Nat.le_of_ble_eq_true rfl)) dL_law_889 (kI fun x124 M122 hw => ?_)
        refine G_istore (pc := 892) (i := 7) (lw := [some (va_rf (some a0)), some (va_rf v1), some (va_rf (some b123)), some (va_rf v3), some (va_rf v4), some (.int v5), some (.int x120), some (.int x124), none]) hC dL_law_892 (Nat.le_of_ble_eq_true rfl) rfl ?_
        refine G_aload_n (pc := 894) (i := 2) hC dL_law_894 rfl rfl ?_
        obtain ⟨hb, hw⟩ := hw
        refine G_callV (pc := 895) (n := 0) (C := "MergeWorkbenchModel") (b := b123) (As := []) (rest := []) hC (m_X3_thrown hJ hw) (lw_V q3559 q3560 q3561 q108 q3562) hdL_X3_thrown (by decide) (rcv (C := RX3) (T := TX3) (N := 61) hC hb rfl) rfl rfl (st_c cat_e (Nat.le_of_ble_eq_true rfl)) dL_law_895 (kI fun x126 M125 hw => ?_)
        refine G_iload (pc := 898) (i := 6) hC dL_law_898 rfl ?_
        refine G_icmp_eq (pc := 900) (tgt := 905) hC dL_law_900 (by decide) (fun hc => ?_) (fun hc => ?_)
        · replace hw := hw.1 hc
          refine G_iload (pc := 905) (i := 6) hC dL_law_905 rfl ?_
          refine G_if_ne (pc := 907) (tgt := 922) hC dL_law_907 (by decide) (fun hc => ?_) (fun hc => ?_)
          · replace hw := hw.1 hc
            refine G_loc (lv' := [some (va_rf (some a0)), some (va_rf v1), some (va_rf (some b123)), some (va_rf v3), some (va_rf v4), some (.int v5), none, none, none]) ⟨Or.inr rfl, Or.inr rfl, Or.inr rfl, Or.inr rfl, Or.inr rfl, Or.inr rfl, Or.inl rfl, Or.inl rfl, Or.inr rfl, trivial⟩ ?_
            exact g_L_law_922 hJ hC hQ ih  v1 (some b123) v3 v4 v5 M125 hw
          · replace hw := hw.2 hc
            refine G_aload_n (pc := 910) (i := 3) hC dL_law_910 rfl rfl ?_
            refine G_iconst (pc := 911) (v := 0) hC dL_law_911 (by decide) ?_
            refine G_lald (pc := 912) hC dL_law_912 hw (fun x127 hw => ?_)
            refine G_iload (pc := 913) (i := 7) hC dL_law_913 rfl ?_
            refine G_i2l (pc := 915) hC dL_law_915 ?_
            refine G_lcmp (pc := 916) hC dL_law_916 ?_
            refine G_if_eq (pc := 917) (tgt := 922) hC dL_law_917 (by decide) (fun hc => ?_) (fun hc => ?_)
            · replace hw := hw.1 hc
              refine G_loc (lv' := [some (va_rf (some a0)), some (va_rf v1), some (va_rf (some b123)), some (va_rf v3), some (va_rf v4), some (.int v5), none, none, none]) ⟨Or.inr rfl, Or.inr rfl, Or.inr rfl, Or.inr rfl, Or.inr rfl, Or.inr rfl, Or.inl rfl, Or.inl rfl, Or.inr rfl, trivial⟩ ?_
              exact g_L_law_922 hJ hC hQ ih  v1 (some b123) v3 v4 v5 M125 hw
            · replace hw := hw.2 hc
              refine G_iconst (pc := 920) (v := 0) hC dL_law_920 (by decide) ?_
              exact hw.elim
        · replace hw := hw.2 hc
          refine G_iconst (pc := 903) (v := 0) hC dL_law_903 (by decide) ?_
          exact hw.elim
      by_cases hc11 : (x1 &&& (63 : Int32)) = (11 : Int32)
      · replace hw := hw.2.2.2.2.2.2.2.2.2.2.2.1 hc11
        refine G_tableIn (pc := 44) (off := 881) (tgt := 925) hC dL_law_44 (by rw [hc11]; decide) (by rw [hc11]; decide) (by rw [hc11]; rfl) (by decide) ?_
        refine G_aload_n (pc := 925) (i := 1) hC dL_law_925 rfl rfl ?_
        refine G_aload_n (pc := 926) (i := 0) hC dL_law_926 rfl rfl ?_
        refine G_iload (pc := 927) (i := 5) hC dL_law_927 rfl ?_
        refine G_iconst (pc := 929) (v := 1) hC dL_law_929 (by decide) ?_
        refine G_iadd (pc := 930) hC dL_law_930 ?_
        refine G_sld (pc := 931) hC hQ dL_law_931 hw (fun x128 hw => ?_)
        refine G_aload_n (pc := 932) (i := 0) hC dL_law_932 rfl rfl ?_
        refine G_iload (pc := 933) (i := 5) hC dL_law_933 rfl ?_
        refine G_iconst (pc := 935) (v := 2) hC dL_law_935 (by decide) ?_
        refine G_iadd (pc := 936) hC dL_law_936 ?_
        refine G_sld (pc := 937) hC hQ dL_law_937 hw (fun x129 hw => ?_)
        refine G_aload_n (pc := 938) (i := 3) hC dL_law_938 rfl rfl ?_
        refine GX_callSW (pc := 939) (n := 4) (As := [va_rf v1, .int x128, .int x129, va_rf v3]) (rest := []) hC (m_X0_compare hJ hw) (lw_SW q2177 q2178 q83 q2179) hdL_X0_compare.2 (by decide) rfl rfl (st_c cat_e (Nat.le_of_ble_eq_true rfl)) dL_law_939 (fun E q M hx => hx.elim) (kI fun x131 M130 hw => ?_)
        refine G_istore (pc := 942) (i := 6) (lw := [some (va_rf (some a0)), some (va_rf v1), some (va_rf v2), some (va_rf v3), some (va_rf v4), some (.int v5), some (.int x131), none, none]) hC dL_law_942 (Nat.le_of_ble_eq_true rfl) rfl ?_
        refine G_aload_n (pc := 944) (i := 2) hC dL_law_944 rfl rfl ?_
        refine G_aload_n (pc := 945) (i := 0) hC dL_law_945 rfl rfl ?_
        refine G_iload (pc := 946) (i := 5) hC dL_law_946 rfl ?_
        refine G_iconst (pc := 948) (v := 1) hC dL_law_948 (by decide) ?_
        refine G_iadd (pc := 949) hC dL_law_949 ?_
        refine G_sld (pc := 950) hC hQ dL_law_950 hw (fun x132 hw => ?_)
        refine G_aload_n (pc := 951) (i := 0) hC dL_law_951 rfl rfl ?_
        refine G_iload (pc := 952) (i := 5) hC dL_law_952 rfl ?_
        refine G_iconst (pc := 954) (v := 2) hC dL_law_954 (by decide) ?_
        refine G_iadd (pc := 955) hC dL_law_955 ?_
        refine G_sld (pc := 956) hC hQ dL_law_956 hw (fun x133 hw => ?_)
        obtain ⟨b135, rfl, hb, hw⟩ := gThis_e hw
        refine G_callV (pc := 957) (n := 2) (C := "MergeWorkbenchModel") (b := b135) (As := [.int x132, .int x133]) (rest := []) hC (m_X3_compare hJ hw) (lw_V q3667 q3668 q3669 q108 q3670) hdL_X3_compare (by decide) (rcv (C := RX3) (T := TX3) (N := 61) hC hb rfl) rfl rfl (st_c cat_e (Nat.le_of_ble_eq_true rfl)) dL_law_957 (kI fun x136 M134 hw => ?_)
        refine G_istore (pc := 960) (i := 7) (lw := [some (va_rf (some a0)), some (va_rf v1), some (va_rf (some b135)), some (va_rf v3), some (va_rf v4), some (.int v5), some (.int x131), some (.int x136), none]) hC dL_law_960 (Nat.le_of_ble_eq_true rfl) rfl ?_
        refine G_aload_n (pc := 962) (i := 2) hC dL_law_962 rfl rfl ?_
        obtain ⟨hb, hw⟩ := hw
        refine G_callV (pc := 963) (n := 0) (C := "MergeWorkbenchModel") (b := b135) (As := []) (rest := []) hC (m_X3_thrown hJ hw) (lw_V q3559 q3560 q3561 q108 q3562) hdL_X3_thrown (by decide) (rcv (C := RX3) (T := TX3) (N := 61) hC hb rfl) rfl rfl (st_c cat_e (Nat.le_of_ble_eq_true rfl)) dL_law_963 (kI fun x138 M137 hw => ?_)
        refine G_iload (pc := 966) (i := 6) hC dL_law_966 rfl ?_
        refine G_icmp_eq (pc := 968) (tgt := 973) hC dL_law_968 (by decide) (fun hc => ?_) (fun hc => ?_)
        · replace hw := hw.1 hc
          refine G_iload (pc := 973) (i := 6) hC dL_law_973 rfl ?_
          refine G_if_ne (pc := 975) (tgt := 990) hC dL_law_975 (by decide) (fun hc => ?_) (fun hc => ?_)
          · replace hw := hw.1 hc
            refine G_loc (lv' := [some (va_rf (some a0)), some (va_rf v1), some (va_rf (some b135)), some (va_rf v3), some (va_rf v4), some (.int v5), none, none, none]) ⟨Or.inr rfl, Or.inr rfl, Or.inr rfl, Or.inr rfl, Or.inr rfl, Or.inr rfl, Or.inl rfl, Or.inl rfl, Or.inr rfl, trivial⟩ ?_
            exact g_L_law_990 hJ hC hQ ih  v1 (some b135) v3 v4 v5 M137 hw
          · replace hw := hw.2 hc
            refine G_aload_n (pc := 978) (i := 3) hC dL_law_978 rfl rfl ?_
            refine G_iconst (pc := 979) (v := 0) hC dL_law_979 (by decide) ?_
            refine G_lald (pc := 980) hC dL_law_980 hw (fun x139 hw => ?_)
            refine G_iload (pc := 981) (i := 7) hC dL_law_981 rfl ?_
            refine G_i2l (pc := 983) hC dL_law_983 ?_
            refine G_lcmp (pc := 984) hC dL_law_984 ?_
            refine G_if_eq (pc := 985) (tgt := 990) hC dL_law_985 (by decide) (fun hc => ?_) (fun hc => ?_)
            · replace hw := hw.1 hc
              refine G_loc (lv' := [some (va_rf (some a0)), some (va_rf v1), some (va_rf (some b135)), some (va_rf v3), some (va_rf v4), some (.int v5), none, none, none]) ⟨Or.inr rfl, Or.inr rfl, Or.inr rfl, Or.inr rfl, Or.inr rfl, Or.inr rfl, Or.inl rfl, Or.inl rfl, Or.inr rfl, trivial⟩ ?_
              exact g_L_law_990 hJ hC hQ ih  v1 (some b135) v3 v4 v5 M137 hw
            · replace hw := hw.2 hc
              refine G_iconst (pc := 988) (v := 0) hC dL_law_988 (by decide) ?_
              exact hw.elim
        · replace hw := hw.2 hc
          refine G_iconst (pc := 971) (v := 0) hC dL_law_971 (by decide) ?_
          exact hw.elim
      by_cases hc12 : (x1 &&& (63 : Int32)) = (12 : Int32)
      · replace hw := hw.2.2.2.2.2.2.2.2.2.2.2.2.1 hc12
        refine G_tableIn (pc := 44) (off := 949) (tgt := 993) hC dL_law_44 (by rw [hc12]; decide) (by rw [hc12]; decide) (by rw [hc12]; rfl) (by decide) ?_
        refine G_aload_n (pc := 993) (i := 1) hC dL_law_993 rfl rfl ?_
        refine G_aload_n (pc := 994) (i := 0) hC dL_law_994 rfl rfl ?_
        refine G_iload (pc := 995) (i := 5) hC dL_law_995 rfl ?_
        refine G_iconst (pc := 997) (v := 1) hC dL_law_997 (by decide) ?_
        refine G_iadd (pc := 998) hC dL_law_998 ?_
        refine G_sld (pc := 999) hC hQ dL_law_999 hw (fun x140 hw => ?_)
        refine G_aload_n (pc := 1000) (i := 3) hC dL_law_1000 rfl rfl ?_
        refine GX_callSW (pc := 1001) (n := 3) (As := [va_rf v1, .int x140, va_rf v3]) (rest := []) hC (m_X0_partner hJ hw) (lw_SW q2450 q2451 q83 q2452) hdL_X0_partner.2 (by decide) rfl rfl (st_c cat_e (Nat.le_of_ble_eq_true rfl)) dL_law_1001 (fun E q M hx => hx.elim) (kI fun x142 M141 hw => ?_)
        refine G_istore (pc := 1004) (i := 6) (lw := [some (va_rf (some a0)), some (va_rf v1), some (va_rf v2), some (va_rf v3), some (va_rf v4), some (.int v5), some (.int x142), none, none]) hC dL_law_1004 (Nat.le_of_ble_eq_true rfl) rfl ?_
        refine G_aload_n (pc := 1006) (i := 2) hC dL_law_1006 rfl rfl ?_
        refine G_aload_n (pc := 1007) (i := 0) hC dL_law_1007 rfl rfl ?_
        refine G_iload (pc := 1008) (i := 5) hC dL_law_1008 rfl ?_
        refine G_iconst (pc := 1010) (v := 1) hC dL_law_1010 (by decide) ?_
        refine G_iadd (pc := 1011) hC dL_law_1011 ?_
        refine G_sld (pc := 1012) hC hQ dL_law_1012 hw (fun x143 hw => ?_)
        obtain ⟨b145, rfl, hb, hw⟩ := gThis_e hw
        refine G_callV (pc := 1013) (n := 1) (C := "MergeWorkbenchModel") (b := b145) (As := [.int x143]) (rest := []) hC (m_X3_partner hJ hw) (lw_V q3694 q3695 q3696 q108 q3697) hdL_X3_partner (by decide) (rcv (C := RX3) (T := TX3) (N := 61) hC hb rfl) rfl rfl (st_c cat_e (Nat.le_of_ble_eq_true rfl)) dL_law_1013 (kI fun x146 M144 hw => ?_)
        refine G_istore (pc := 1016) (i := 7) (lw := [some (va_rf (some a0)), some (va_rf v1), some (va_rf (some b145)), some (va_rf v3), some (va_rf v4), some (.int v5), some (.int x142), some (.int x146), none]) hC dL_law_1016 (Nat.le_of_ble_eq_true rfl) rfl ?_
        refine G_aload_n (pc := 1018) (i := 2) hC dL_law_1018 rfl rfl ?_
        obtain ⟨hb, hw⟩ := hw
        refine G_callV (pc := 1019) (n := 0) (C := "MergeWorkbenchModel") (b := b145) (As := []) (rest := []) hC (m_X3_thrown hJ hw) (lw_V q3559 q3560 q3561 q108 q3562) hdL_X3_thrown (by decide) (rcv (C := RX3) (T := TX3) (N := 61) hC hb rfl) rfl rfl (st_c cat_e (Nat.le_of_ble_eq_true rfl)) dL_law_1019 (kI fun x148 M147 hw => ?_)
        refine G_iload (pc := 1022) (i := 6) hC dL_law_1022 rfl ?_
        refine G_icmp_eq (pc := 1024) (tgt := 1029) hC dL_law_1024 (by decide) (fun hc => ?_) (fun hc => ?_)
        · replace hw := hw.1 hc
          refine G_iload (pc := 1029) (i := 6) hC dL_law_1029 rfl ?_
          refine G_if_ne (pc := 1031) (tgt := 1046) hC dL_law_1031 (by decide) (fun hc => ?_) (fun hc => ?_)
          · replace hw := hw.1 hc
            refine G_loc (lv' := [some (va_rf (some a0)), some (va_rf v1), some (va_rf (some b145)), some (va_rf v3), some (va_rf v4), some (.int v5), none, none, none]) ⟨Or.inr rfl, Or.inr rfl, Or.inr rfl, Or.inr rfl, Or.inr rfl, Or.inr rfl, Or.inl rfl, Or.inl rfl, Or.inr rfl, trivial⟩ ?_
            exact g_L_law_1046 hJ hC hQ ih  v1 (some b145) v3 v4 v5 M147 hw
          · replace hw := hw.2 hc
            refine G_aload_n (pc := 1034) (i := 3) hC dL_law_1034 rfl rfl ?_
            refine G_iconst (pc := 1035) (v := 0) hC dL_law_1035 (by decide) ?_
            refine G_lald (pc := 1036) hC dL_law_1036 hw (fun x149 hw => ?_)
            refine G_iload (pc := 1037) (i := 7) hC dL_law_1037 rfl ?_
            refine G_i2l (pc := 1039) hC dL_law_1039 ?_
            refine G_lcmp (pc := 1040) hC dL_law_1040 ?_
            refine G_if_eq (pc := 1041) (tgt := 1046) hC dL_law_1041 (by decide) (fun hc => ?_) (fun hc => ?_)
            · replace hw := hw.1 hc
              refine G_loc (lv' := [some (va_rf (some a0)), some (va_rf v1), some (va_rf (some b145)), some (va_rf v3), some (va_rf v4), some (.int v5), none, none, none]) ⟨Or.inr rfl, Or.inr rfl, Or.inr rfl, Or.inr rfl, Or.inr rfl, Or.inr rfl, Or.inl rfl, Or.inl rfl, Or.inr rfl, trivial⟩ ?_
              exact g_L_law_1046 hJ hC hQ ih  v1 (some b145) v3 v4 v5 M147 hw
            · replace hw := hw.2 hc
              refine G_iconst (pc := 1044) (v := 0) hC dL_law_1044 (by decide) ?_
              exact hw.elim
        · replace hw := hw.2 hc
          refine G_iconst (pc := 1027) (v := 0) hC dL_law_1027 (by decide) ?_
          exact hw.elim
      by_cases hc13 : (x1 &&& (63 : Int32)) = (13 : Int32)
      · replace hw := hw.2.2.2.2.2.2.2.2.2.2.2.2.2.1 hc13
        refine G_tableIn (pc := 44) (off := 1005) (tgt := 1049) hC dL_law_44 (by rw [hc13]; decide) (by rw [hc13]; decide) (by rw [hc13]; rfl) (by decide) ?_
        refine G_aload_n (pc := 1049) (i := 1) hC dL_law_1049 rfl rfl ?_
        refine G_aload_n (pc := 1050) (i := 3) hC dL_law_1050 rfl rfl ?_
        refine GX_callSW (pc := 1051) (n := 2) (As := [va_rf v1, va_rf v3]) (rest := []) hC (m_X0_anchors hJ hw) (lw_SW q2467 q2468 q83 q2469) hdL_X0_anchors.2 (by decide) rfl rfl (st_c cat_e (Nat.le_of_ble_eq_true rfl)) dL_law_1051 (fun E q M hx => hx.elim) (kI fun x151 M150 hw => ?_)
        refine G_istore (pc := 1054) (i := 6) (lw := [some (va_rf (some a0)), some (va_rf v1), some (va_rf v2), some (va_rf v3), some (va_rf v4), some (.int v5), some (.int x151), none, none]) hC dL_law_1054 (Nat.le_of_ble_eq_true rfl) rfl ?_
        refine G_aload_n (pc := 1056) (i := 2) hC dL_law_1056 rfl rfl ?_
        obtain ⟨b153, rfl, hb, hw⟩ := gThis_e hw
        refine G_callV (pc := 1057) (n := 0) (C := "MergeWorkbenchModel") (b := b153) (As := []) (rest := []) hC (m_X3_anchors hJ hw) (lw_V q3698 q3699 q3700 q108 q3701) hdL_X3_anchors (by decide) (rcv (C := RX3) (T := TX3) (N := 61) hC hb rfl) rfl rfl (st_c cat_e (Nat.le_of_ble_eq_true rfl)) dL_law_1057 (kI fun x154 M152 hw => ?_)
        refine G_istore (pc := 1060) (i := 7) (lw := [some (va_rf (some a0)), some (va_rf v1), some (va_rf (some b153)), some (va_rf v3), some (va_rf v4), some (.int v5), some (.int x151), some (.int x154), none]) hC dL_law_1060 (Nat.le_of_ble_eq_true rfl) rfl ?_
        refine G_aload_n (pc := 1062) (i := 2) hC dL_law_1062 rfl rfl ?_
        obtain ⟨hb, hw⟩ := hw
        refine G_callV (pc := 1063) (n := 0) (C := "MergeWorkbenchModel") (b := b153) (As := []) (rest := []) hC (m_X3_thrown hJ hw) (lw_V q3559 q3560 q3561 q108 q3562) hdL_X3_thrown (by decide) (rcv (C := RX3) (T := TX3) (N := 61) hC hb rfl) rfl rfl (st_c cat_e (Nat.le_of_ble_eq_true rfl)) dL_law_1063 (kI fun x156 M155 hw => ?_)
        refine G_iload (pc := 1066) (i := 6) hC dL_law_1066 rfl ?_
        refine G_icmp_eq (pc := 1068) (tgt := 1073) hC dL_law_1068 (by decide) (fun hc => ?_) (fun hc => ?_)
        · replace hw := hw.1 hc
          refine G_iload (pc := 1073) (i := 6) hC dL_law_1073 rfl ?_
          refine G_if_ne (pc := 1075) (tgt := 1090) hC dL_law_1075 (by decide) (fun hc => ?_) (fun hc => ?_)
          · replace hw := hw.1 hc
            refine G_loc (lv' := [some (va_rf (some a0)), some (va_rf v1), some (va_rf (some b153)), some (va_rf v3), some (va_rf v4), some (.int v5), none, none, none]) ⟨Or.inr rfl, Or.inr rfl, Or.inr rfl, Or.inr rfl, Or.inr rfl, Or.inr rfl, Or.inl rfl, Or.inl rfl, Or.inr rfl, trivial⟩ ?_
            exact g_L_law_1090 hJ hC hQ ih  v1 (some b153) v3 v4 v5 M155 hw
          · replace hw := hw.2 hc
            refine G_aload_n (pc := 1078) (i := 3) hC dL_law_1078 rfl rfl ?_
            refine G_iconst (pc := 1079) (v := 0) hC dL_law_1079 (by decide) ?_
            refine G_lald (pc := 1080) hC dL_law_1080 hw (fun x157 hw => ?_)
            refine G_iload (pc := 1081) (i := 7) hC dL_law_1081 rfl ?_
            refine G_i2l (pc := 1083) hC dL_law_1083 ?_
            refine G_lcmp (pc := 1084) hC dL_law_1084 ?_
            refine G_if_eq (pc := 1085) (tgt := 1090) hC dL_law_1085 (by decide) (fun hc => ?_) (fun hc => ?_)
            · replace hw := hw.1 hc
              refine G_loc (lv' := [some (va_rf (some a0)), some (va_rf v1), some (va_rf (some b153)), some (va_rf v3), some (va_rf v4), some (.int v5), none, none, none]) ⟨Or.inr rfl, Or.inr rfl, Or.inr rfl, Or.inr rfl, Or.inr rfl, Or.inr rfl, Or.inl rfl, Or.inl rfl, Or.inr rfl, trivial⟩ ?_
              exact g_L_law_1090 hJ hC hQ ih  v1 (some b153) v3 v4 v5 M155 hw
            · replace hw := hw.2 hc
              refine G_iconst (pc := 1088) (v := 0) hC dL_law_1088 (by decide) ?_
              exact hw.elim
        · replace hw := hw.2 hc
          refine G_iconst (pc := 1071) (v := 0) hC dL_law_1071 (by decide) ?_
          exact hw.elim
      by_cases hc14 : (x1 &&& (63 : Int32)) = (14 : Int32)
      · replace hw := hw.2.2.2.2.2.2.2.2.2.2.2.2.2.2.1 hc14
        refine G_tableIn (pc := 44) (off := 1049) (tgt := 1093) hC dL_law_44 (by rw [hc14]; decide) (by rw [hc14]; decide) (by rw [hc14]; rfl) (by decide) ?_
        refine G_aload_n (pc := 1093) (i := 1) hC dL_law_1093 rfl rfl ?_
        refine G_aload_n (pc := 1094) (i := 3) hC dL_law_1094 rfl rfl ?_
        refine GX_callSW (pc := 1095) (n := 2) (As := [va_rf v1, va_rf v3]) (rest := []) hC (m_X0_differences hJ hw) (lw_SW q2474 q2475 q83 q2476) hdL_X0_differences.2 (by decide) rfl rfl (st_c cat_e (Nat.le_of_ble_eq_true rfl)) dL_law_1095 (fun E q M hx => hx.elim) (kI fun x159 M158 hw => ?_)
        refine G_istore (pc := 1098) (i := 6) (lw := [some (va_rf (some a0)), some (va_rf v1), some (va_rf v2), some (va_rf v3), some (va_rf v4), some (.int v5), some (.int x159), none, none]) hC dL_law_1098 (Nat.le_of_ble_eq_true rfl) rfl ?_
        refine G_aload_n (pc := 1100) (i := 2) hC dL_law_1100 rfl rfl ?_
        obtain ⟨b161, rfl, hb, hw⟩ := gThis_e hw
        refine G_callV (pc := 1101) (n := 0) (C := "MergeWorkbenchModel") (b := b161) (As := []) (rest := []) hC (m_X3_differences hJ hw) (lw_V q3702 q3703 q3704 q108 q3705) hdL_X3_differences (by decide) (rcv (C := RX3) (T := TX3) (N := 61) hC hb rfl) rfl rfl (st_c cat_e (Nat.le_of_ble_eq_true rfl)) dL_law_1101 (kI fun x162 M160 hw => ?_)
        refine G_istore (pc := 1104) (i := 7) (lw := [some (va_rf (some a0)), some (va_rf v1), some (va_rf (some b161)), some (va_rf v3), some (va_rf v4), some (.int v5), some (.int x159), some (.int x162), none]) hC dL_law_1104 (Nat.le_of_ble_eq_true rfl) rfl ?_
        refine G_aload_n (pc := 1106) (i := 2) hC dL_law_1106 rfl rfl ?_
        obtain ⟨hb, hw⟩ := hw
        refine G_callV (pc := 1107) (n := 0) (C := "MergeWorkbenchModel") (b := b161) (As := []) (rest := []) hC (m_X3_thrown hJ hw) (lw_V q3559 q3560 q3561 q108 q3562) hdL_X3_thrown (by decide) (rcv (C := RX3) (T := TX3) (N := 61) hC hb rfl) rfl rfl (st_c cat_e (Nat.le_of_ble_eq_true rfl)) dL_law_1107 (kI fun x164 M163 hw => ?_)
        refine G_iload (pc := 1110) (i := 6) hC dL_law_1110 rfl ?_
        refine G_icmp_eq (pc := 1112) (tgt := 1117) hC dL_law_1112 (by decide) (fun hc => ?_) (fun hc => ?_)
        · replace hw := hw.1 hc
          refine G_iload (pc := 1117) (i := 6) hC dL_law_1117 rfl ?_
          refine G_if_ne (pc := 1119) (tgt := 1134) hC dL_law_1119 (by decide) (fun hc => ?_) (fun hc => ?_)
          · replace hw := hw.1 hc
            refine G_loc (lv' := [some (va_rf (some a0)), some (va_rf v1), some (va_rf (some b161)), some (va_rf v3), some (va_rf v4), some (.int v5), none, none, none]) ⟨Or.inr rfl, Or.inr rfl, Or.inr rfl, Or.inr rfl, Or.inr rfl, Or.inr rfl, Or.inl rfl, Or.inl rfl, Or.inr rfl, trivial⟩ ?_
            exact g_L_law_1134 hJ hC hQ ih  v1 (some b161) v3 v4 v5 M163 hw
          · replace hw := hw.2 hc
            refine G_aload_n (pc := 1122) (i := 3) hC dL_law_1122 rfl rfl ?_
            refine G_iconst (pc := 1123) (v := 0) hC dL_law_1123 (by decide) ?_
            refine G_lald (pc := 1124) hC dL_law_1124 hw (fun x165 hw => ?_)
            refine G_iload (pc := 1125) (i := 7) hC dL_law_1125 rfl ?_
            refine G_i2l (pc := 1127) hC dL_law_1127 ?_
            refine G_lcmp (pc := 1128) hC dL_law_1128 ?_
            refine G_if_eq (pc := 1129) (tgt := 1134) hC dL_law_1129 (by decide) (fun hc => ?_) (fun hc => ?_)
            · replace hw := hw.1 hc
              refine G_loc (lv' := [some (va_rf (some a0)), some (va_rf v1), some (va_rf (some b161)), some (va_rf v3), some (va_rf v4), some (.int v5), none, none, none]) ⟨Or.inr rfl, Or.inr rfl, Or.inr rfl, Or.inr rfl, Or.inr rfl, Or.inr rfl, Or.inl rfl, Or.inl rfl, Or.inr rfl, trivial⟩ ?_
              exact g_L_law_1134 hJ hC hQ ih  v1 (some b161) v3 v4 v5 M163 hw
            · replace hw := hw.2 hc
              refine G_iconst (pc := 1132) (v := 0) hC dL_law_1132 (by decide) ?_
              exact hw.elim
        · replace hw := hw.2 hc
          refine G_iconst (pc := 1115) (v := 0) hC dL_law_1115 (by decide) ?_
          exact hw.elim
      by_cases hc15 : (x1 &&& (63 : Int32)) = (15 : Int32)
      · replace hw := hw.2.2.2.2.2.2.2.2.2.2.2.2.2.2.2.1 hc15
        refine G_tableIn (pc := 44) (off := 1093) (tgt := 1137) hC dL_law_44 (by rw [hc15]; decide) (by rw [hc15]; decide) (by rw [hc15]; rfl) (by decide) ?_
        refine G_aload_n (pc := 1137) (i := 1) hC dL_law_1137 rfl rfl ?_
        refine G_aload_n (pc := 1138) (i := 0) hC dL_law_1138 rfl rfl ?_
        refine G_iload (pc := 1139) (i := 5) hC dL_law_1139 rfl ?_
        refine G_iconst (pc := 1141) (v := 1) hC dL_law_1141 (by decide) ?_
        refine G_iadd (pc := 1142) hC dL_law_1142 ?_
        refine G_sld (pc := 1143) hC hQ dL_law_1143 hw (fun x166 hw => ?_)
        refine G_aload_n (pc := 1144) (i := 0) hC dL_law_1144 rfl rfl ?_
        refine G_iload (pc := 1145) (i := 5) hC dL_law_1145 rfl ?_
        refine G_iconst (pc := 1147) (v := 2) hC dL_law_1147 (by decide) ?_
        refine G_iadd (pc := 1148) hC dL_law_1148 ?_
        refine G_sld (pc := 1149) hC hQ dL_law_1149 hw (fun x167 hw => ?_)
        refine G_aload_n (pc := 1150) (i := 3) hC dL_law_1150 rfl rfl ?_
        refine GX_callSW (pc := 1151) (n := 4) (As := [va_rf v1, .int x166, .int x167, va_rf v3]) (rest := []) hC (m_X0_difference hJ hw) (lw_SW q2481 q2482 q83 q2483) hdL_X0_difference.2 (by decide) rfl rfl (st_c cat_e (Nat.le_of_ble_eq_true rfl)) dL_law_1151 (fun E q M hx => hx.elim) (kI fun x169 M168 hw => ?_)
        refine G_istore (pc := 1154) (i := 6) (lw := [some (va_rf (some a0)), some (va_rf v1), some (va_rf v2), some (va_rf v3), some (va_rf v4), some (.int v5), some (.int x169), none, none]) hC dL_law_1154 (Nat.le_of_ble_eq_true rfl) rfl ?_
        refine G_aload_n (pc := 1156) (i := 2) hC dL_law_1156 rfl rfl ?_
        refine G_aload_n (pc := 1157) (i := 0) hC dL_law_1157 rfl rfl ?_
        refine G_iload (pc := 1158) (i := 5) hC dL_law_1158 rfl ?_
        refine G_iconst (pc := 1160) (v := 1) hC dL_law_1160 (by decide) ?_
        refine G_iadd (pc := 1161) hC dL_law_1161 ?_
        refine G_sld (pc := 1162) hC hQ dL_law_1162 hw (fun x170 hw => ?_)
        refine G_aload_n (pc := 1163) (i := 0) hC dL_law_1163 rfl rfl ?_
        refine G_iload (pc := 1164) (i := 5) hC dL_law_1164 rfl ?_
        refine G_iconst (pc := 1166) (v := 2) hC dL_law_1166 (by decide) ?_
        refine G_iadd (pc := 1167) hC dL_law_1167 ?_
        refine G_sld (pc := 1168) hC hQ dL_law_1168 hw (fun x171 hw => ?_)
        obtain ⟨b173, rfl, hb, hw⟩ := gThis_e hw
        refine G_callV (pc := 1169) (n := 2) (C := "MergeWorkbenchModel") (b := b173) (As := [.int x170, .int x171]) (rest := []) hC (m_X3_difference hJ hw) (lw_V q3706 q3707 q3708 q108 q3709) hdL_X3_difference (by decide) (rcv (C := RX3) (T := TX3) (N := 61) hC hb rfl) rfl rfl (st_c cat_e (Nat.le_of_ble_eq_true rfl)) dL_law_1169 (kI fun x174 M172 hw => ?_)
        refine G_istore (pc := 1172) (i := 7) (lw := [some (va_rf (some a0)), some (va_rf v1), some (va_rf (some b173)), some (va_rf v3), some (va_rf v4), some (.int v5), some (.int x169), some (.int x174), none]) hC dL_law_1172 (Nat.le_of_ble_eq_true rfl) rfl ?_
        refine G_aload_n (pc := 1174) (i := 2) hC dL_law_1174 rfl rfl ?_
        obtain ⟨hb, hw⟩ := hw
        refine G_callV (pc := 1175) (n := 0) (C := "MergeWorkbenchModel") (b := b173) (As := []) (rest := []) hC (m_X3_thrown hJ hw) (lw_V q3559 q3560 q3561 q108 q3562) hdL_X3_thrown (by decide) (rcv (C := RX3) (T := TX3) (N := 61) hC hb rfl) rfl rfl (st_c cat_e (Nat.le_of_ble_eq_true rfl)) dL_law_1175 (kI fun x176 M175 hw => ?_)
        refine G_iload (pc := 1178) (i := 6) hC dL_law_1178 rfl ?_
        refine G_icmp_eq (pc := 1180) (tgt := 1185) hC dL_law_1180 (by decide) (fun hc => ?_) (fun hc => ?_)
        · replace hw := hw.1 hc
          refine G_iload (pc := 1185) (i := 6) hC dL_law_1185 rfl ?_
          refine G_if_ne (pc := 1187) (tgt := 1202) hC dL_law_1187 (by decide) (fun hc => ?_) (fun hc => ?_)
          · replace hw := hw.1 hc
            refine G_loc (lv' := [some (va_rf (some a0)), some (va_rf v1), some (va_rf (some b173)), some (va_rf v3), some (va_rf v4), some (.int v5), none, none, none]) ⟨Or.inr rfl, Or.inr rfl, Or.inr rfl, Or.inr rfl, Or.inr rfl, Or.inr rfl, Or.inl rfl, Or.inl rfl, Or.inr rfl, trivial⟩ ?_
            exact g_L_law_1202 hJ hC hQ ih  v1 (some b173) v3 v4 v5 M175 hw
          · replace hw := hw.2 hc
            refine G_aload_n (pc := 1190) (i := 3) hC dL_law_1190 rfl rfl ?_
            refine G_iconst (pc := 1191) (v := 0) hC dL_law_1191 (by decide) ?_
            refine G_lald (pc := 1192) hC dL_law_1192 hw (fun x177 hw => ?_)
            refine G_iload (pc := 1193) (i := 7) hC dL_law_1193 rfl ?_
            refine G_i2l (pc := 1195) hC dL_law_1195 ?_
            refine G_lcmp (pc := 1196) hC dL_law_1196 ?_
            refine G_if_eq (pc := 1197) (tgt := 1202) hC dL_law_1197 (by decide) (fun hc => ?_) (fun hc => ?_)
            · replace hw := hw.1 hc
              refine G_loc (lv' := [some (va_rf (some a0)), some (va_rf v1), some (va_rf (some b173)), some (va_rf v3), some (va_rf v4), some (.int v5), none, none, none]) ⟨Or.inr rfl, Or.inr rfl, Or.inr rfl, Or.inr rfl, Or.inr rfl, Or.inr rfl, Or.inl rfl, Or.inl rfl, Or.inr rfl, trivial⟩ ?_
              exact g_L_law_1202 hJ hC hQ ih  v1 (some b173) v3 v4 v5 M175 hw
            · replace hw := hw.2 hc
              refine G_iconst (pc := 1200) (v := 0) hC dL_law_1200 (by decide) ?_
              exact hw.elim
        · replace hw := hw.2 hc
          refine G_iconst (pc := 1183) (v := 0) hC dL_law_1183 (by decide) ?_
          exact hw.elim
      by_cases hc16 : (x1 &&& (63 : Int32)) = (16 : Int32)
      · replace hw := hw.2.2.2.2.2.2.2.2.2.2.2.2.2.2.2.2.1 hc16
        refine G_tableIn (pc := 44) (off := 1161) (tgt := 1205) hC dL_law_44 (by rw [hc16]; decide) (by rw [hc16]; decide) (by rw [hc16]; rfl) (by decide) ?_
        refine G_aload_n (pc := 1205) (i := 1) hC dL_law_1205 rfl rfl ?_
        refine G_aload_n (pc := 1206) (i := 0) hC dL_law_1206 rfl rfl ?_
        refine G_iload (pc := 1207) (i := 5) hC dL_law_1207 rfl ?_
        refine G_iconst (pc := 1209) (v := 1) hC dL_law_1209 (by decide) ?_
        refine G_iadd (pc := 1210) hC dL_law_1210 ?_
        refine G_sld (pc := 1211) hC hQ dL_law_1211 hw (fun x178 hw => ?_)
        refine G_aload_n (pc := 1212) (i := 3) hC dL_law_1212 rfl rfl ?_
        refine GX_callSW (pc := 1213) (n := 3) (As := [va_rf v1, .int x178, va_rf v3]) (rest := []) hC (m_X0_step hJ hw) (lw_SW q2493 q2494 q83 q2495) hdL_X0_step.2 (by decide) rfl rfl (st_c cat_e (Nat.le_of_ble_eq_true rfl)) dL_law_1213 (fun E q M hx => hx.elim) (kI fun x180 M179 hw => ?_)
        refine G_istore (pc := 1216) (i := 6) (lw := [some (va_rf (some a0)), some (va_rf v1), some (va_rf v2), some (va_rf v3), some (va_rf v4), some (.int v5), some (.int x180), none, none]) hC dL_law_1216 (Nat.le_of_ble_eq_true rfl) rfl ?_
        refine G_aload_n (pc := 1218) (i := 2) hC dL_law_1218 rfl rfl ?_
        refine G_aload_n (pc := 1219) (i := 0) hC dL_law_1219 rfl rfl ?_
        refine G_iload (pc := 1220) (i := 5) hC dL_law_1220 rfl ?_
        refine G_iconst (pc := 1222) (v := 1) hC dL_law_1222 (by decide) ?_
        refine G_iadd (pc := 1223) hC dL_law_1223 ?_
        refine G_sld (pc := 1224) hC hQ dL_law_1224 hw (fun x181 hw => ?_)
        obtain ⟨b183, rfl, hb, hw⟩ := gThis_e hw
        refine G_callV (pc := 1225) (n := 1) (C := "MergeWorkbenchModel") (b := b183) (As := [.int x181]) (rest := []) hC (m_X3_step hJ hw) (lw_V q3710 q3711 q3712 q108 q3713) hdL_X3_step (by decide) (rcv (C := RX3) (T := TX3) (N := 61) hC hb rfl) rfl rfl (st_c cat_e (Nat.le_of_ble_eq_true rfl)) dL_law_1225 (kI fun x184 M182 hw => ?_)
        refine G_istore (pc := 1228) (i := 7) (lw := [some (va_rf (some a0)), some (va_rf v1), some (va_rf (some b183)), some (va_rf v3), some (va_rf v4), some (.int v5), some (.int x180), some (.int x184), none]) hC dL_law_1228 (Nat.le_of_ble_eq_true rfl) rfl ?_
        refine G_aload_n (pc := 1230) (i := 2) hC dL_law_1230 rfl rfl ?_
        obtain ⟨hb, hw⟩ := hw
        refine G_callV (pc := 1231) (n := 0) (C := "MergeWorkbenchModel") (b := b183) (As := []) (rest := []) hC (m_X3_thrown hJ hw) (lw_V q3559 q3560 q3561 q108 q3562) hdL_X3_thrown (by decide) (rcv (C := RX3) (T := TX3) (N := 61) hC hb rfl) rfl rfl (st_c cat_e (Nat.le_of_ble_eq_true rfl)) dL_law_1231 (kI fun x186 M185 hw => ?_)
        refine G_iload (pc := 1234) (i := 6) hC dL_law_1234 rfl ?_
        refine G_icmp_eq (pc := 1236) (tgt := 1241) hC dL_law_1236 (by decide) (fun hc => ?_) (fun hc => ?_)
        · replace hw := hw.1 hc
          refine G_iload (pc := 1241) (i := 6) hC dL_law_1241 rfl ?_
          refine G_if_ne (pc := 1243) (tgt := 1258) hC dL_law_1243 (by decide) (fun hc => ?_) (fun hc => ?_)
          · replace hw := hw.1 hc
            refine G_loc (lv' := [some (va_rf (some a0)), some (va_rf v1), some (va_rf (some b183)), some (va_rf v3), some (va_rf v4), some (.int v5), none, none, none]) ⟨Or.inr rfl, Or.inr rfl, Or.inr rfl, Or.inr rfl, Or.inr rfl, Or.inr rfl, Or.inl rfl, Or.inl rfl, Or.inr rfl, trivial⟩ ?_
            exact g_L_law_1258 hJ hC hQ ih  v1 (some b183) v3 v4 v5 M185 hw
          · replace hw := hw.2 hc
            refine G_aload_n (pc := 1246) (i := 3) hC dL_law_1246 rfl rfl ?_
            refine G_iconst (pc := 1247) (v := 0) hC dL_law_1247 (by decide) ?_
            refine G_lald (pc := 1248) hC dL_law_1248 hw (fun x187 hw => ?_)
            refine G_iload (pc := 1249) (i := 7) hC dL_law_1249 rfl ?_
            refine G_i2l (pc := 1251) hC dL_law_1251 ?_
            refine G_lcmp (pc := 1252) hC dL_law_1252 ?_
            refine G_if_eq (pc := 1253) (tgt := 1258) hC dL_law_1253 (by decide) (fun hc => ?_) (fun hc => ?_)
            · replace hw := hw.1 hc
              refine G_loc (lv' := [some (va_rf (some a0)), some (va_rf v1), some (va_rf (some b183)), some (va_rf v3), some (va_rf v4), some (.int v5), none, none, none]) ⟨Or.inr rfl, Or.inr rfl, Or.inr rfl, Or.inr rfl, Or.inr rfl, Or.inr rfl, Or.inl rfl, Or.inl rfl, Or.inr rfl, trivial⟩ ?_
              exact g_L_law_1258 hJ hC hQ ih  v1 (some b183) v3 v4 v5 M185 hw
            · replace hw := hw.2 hc
              refine G_iconst (pc := 1256) (v := 0) hC dL_law_1256 (by decide) ?_
              exact hw.elim
        · replace hw := hw.2 hc
          refine G_iconst (pc := 1239) (v := 0) hC dL_law_1239 (by decide) ?_
          exact hw.elim
      by_cases hc17 : (x1 &&& (63 : Int32)) = (17 : Int32)
      · replace hw := hw.2.2.2.2.2.2.2.2.2.2.2.2.2.2.2.2.2.1 hc17
        refine G_tableIn (pc := 44) (off := 1217) (tgt := 1261) hC dL_law_44 (by rw [hc17]; decide) (by rw [hc17]; decide) (by rw [hc17]; rfl) (by decide) ?_
        refine G_aload_n (pc := 1261) (i := 1) hC dL_law_1261 rfl rfl ?_
        refine G_aload (pc := 1262) (i := 4) hC dL_law_1262 rfl ?_
        refine GX_callSW (pc := 1264) (n := 2) (As := [va_rf v1, va_rf v4]) (rest := []) hC (m_X0_similarity hJ hw) (lw_SW q2525 q2526 q83 q2527) hdL_X0_similarity.2 (by decide) rfl rfl (st_c cat_e (Nat.le_of_ble_eq_true rfl)) dL_law_1264 (fun E q M hx => hx.elim) (kI fun x189 M188 hw => ?_)
        refine G_istore (pc := 1267) (i := 6) (lw := [some (va_rf (some a0)), some (va_rf v1), some (va_rf v2), some (va_rf v3), some (va_rf v4), some (.int v5), some (.int x189), none, none]) hC dL_law_1267 (Nat.le_of_ble_eq_true rfl) rfl ?_
        refine G_aload_n (pc := 1269) (i := 2) hC dL_law_1269 rfl rfl ?_
        obtain ⟨b191, rfl, hb, hw⟩ := gThis_e hw
        refine G_callV (pc := 1270) (n := 0) (C := "MergeWorkbenchModel") (b := b191) (As := []) (rest := []) hC (m_X3_similarity hJ hw) (lw_V q3714 q3715 q3716 q108 q3717) hdL_X3_similarity (by decide) (rcv (C := RX3) (T := TX3) (N := 61) hC hb rfl) rfl rfl (st_c cat_e (Nat.le_of_ble_eq_true rfl)) dL_law_1270 (kD fun x192 M190 hw => ?_)
        refine G_dstoreD (pc := 1273) (i := 7) (lw := [some (va_rf (some a0)), some (va_rf v1), some (va_rf (some b191)), some (va_rf v3), some (va_rf v4), some (.int v5), some (.int x189), none, none]) hC dL_law_1273 (by decide) rfl ?_
        refine D_aload_n (pc := 1275) (i := 2) hC dL_law_1275 rfl rfl ?_
        obtain ⟨hb, hw⟩ := hw
        refine D_callV (pc := 1276) (n := 0) (C := "MergeWorkbenchModel") (b := b191) (As := []) (rest := []) hC (m_X3_thrown hJ hw) (lw_V q3559 q3560 q3561 q108 q3562) hdL_X3_thrown (by decide) (rcv (C := RX3) (T := TX3) (N := 61) hC hb rfl) rfl rfl (st_c cat_e (Nat.le_of_ble_eq_true rfl)) dL_law_1276 (kID fun x194 M193 hw => ?_)
        refine D_iload (pc := 1279) (i := 6) hC dL_law_1279 rfl ?_
        refine D_icmp_eq (pc := 1281) (tgt := 1286) hC dL_law_1281 (by decide) (fun hc => ?_) (fun hc => ?_)
        · replace hw := hw.1 hc
          refine D_iload (pc := 1286) (i := 6) hC dL_law_1286 rfl ?_
          refine D_if_ne (pc := 1288) (tgt := 1323) hC dL_law_1288 (by decide) (fun hc => ?_) (fun hc => ?_)
          · replace hw := hw.1 hc
            refine D_drop (G_loc (lv' := [some (va_rf (some a0)), some (va_rf v1), some (va_rf (some b191)), some (va_rf v3), some (va_rf v4), some (.int v5), none, none, none]) ⟨Or.inr rfl, Or.inr rfl, Or.inr rfl, Or.inr rfl, Or.inr rfl, Or.inr rfl, Or.inl rfl, Or.inl rfl, Or.inr rfl, trivial⟩ ?_)
            exact g_L_law_1323 hJ hC hQ ih  v1 (some b191) v3 v4 v5 M193 hw
          · replace hw := hw.2 hc
            refine D_aload (pc := 1291) (i := 4) hC dL_law_1291 rfl ?_
            refine D_iconst (pc := 1293) (v := 0) hC dL_law_1293 (by decide) ?_
            refine D_dald (pc := 1294) hC dL_law_1294 hw (fun x195 hw => ?_)
            refine D_dload (pc := 1295) (i := 7) hC dL_law_1295 rfl ?_
            refine D_dcmp (pc := 1297) hC dL_law_1297 ?_
            refine D_if_eq (pc := 1298) (tgt := 1323) hC dL_law_1298 (by decide) (fun hc => ?_) (fun hc => ?_)
            · replace hw := hw.1 hc
              refine D_drop (G_loc (lv' := [some (va_rf (some a0)), some (va_rf v1), some (va_rf (some b191)), some (va_rf v3), some (va_rf v4), some (.int v5), none, none, none]) ⟨Or.inr rfl, Or.inr rfl, Or.inr rfl, Or.inr rfl, Or.inr rfl, Or.inr rfl, Or.inl rfl, Or.inl rfl, Or.inr rfl, trivial⟩ ?_)
              exact g_L_law_1323 hJ hC hQ ih  v1 (some b191) v3 v4 v5 M193 hw
            · replace hw := hw.2 hc
              refine D_aload (pc := 1301) (i := 4) hC dL_law_1301 rfl ?_
              refine D_iconst (pc := 1303) (v := 0) hC dL_law_1303 (by decide) ?_
              refine D_dald (pc := 1304) hC dL_law_1304 hw (fun x196 hw => ?_)
              refine D_aload (pc := 1305) (i := 4) hC dL_law_1305 rfl ?_
              refine D_iconst (pc := 1307) (v := 0) hC dL_law_1307 (by decide) ?_
              refine D_dald (pc := 1308) hC dL_law_1308 hw (fun x197 hw => ?_)
              refine D_dcmp (pc := 1309) hC dL_law_1309 ?_
              refine D_if_eq (pc := 1310) (tgt := 1321) hC dL_law_1310 (by decide) (fun hc => ?_) (fun hc => ?_)
              · replace hw := hw.1 hc
                refine D_drop (G_loc (lv' := [some (va_rf (some a0)), none, none, none, none, none, none, none, none]) ⟨Or.inr rfl, Or.inl rfl, Or.inl rfl, Or.inl rfl, Or.inl rfl, Or.inl rfl, Or.inl rfl, Or.inl rfl, Or.inr rfl, trivial⟩ ?_)
                exact g_L_law_1321 hJ hC hQ   M193 hw
              · replace hw := hw.2 hc
                refine D_dload (pc := 1313) (i := 7) hC dL_law_1313 rfl ?_
                refine D_dload (pc := 1315) (i := 7) hC dL_law_1315 rfl ?_
                refine D_dcmp (pc := 1317) hC dL_law_1317 ?_
                refine D_if_ne (pc := 1318) (tgt := 1323) hC dL_law_1318 (by decide) (fun hc => ?_) (fun hc => ?_)
                · replace hw := hw.1 hc
                  refine D_drop (G_loc (lv' := [some (va_rf (some a0)), some (va_rf v1), some (va_rf (some b191)), some (va_rf v3), some (va_rf v4), some (.int v5), none, none, none]) ⟨Or.inr rfl, Or.inr rfl, Or.inr rfl, Or.inr rfl, Or.inr rfl, Or.inr rfl, Or.inl rfl, Or.inl rfl, Or.inr rfl, trivial⟩ ?_)
                  exact g_L_law_1323 hJ hC hQ ih  v1 (some b191) v3 v4 v5 M193 hw
                · replace hw := hw.2 hc
                  refine D_drop (G_loc (lv' := [some (va_rf (some a0)), none, none, none, none, none, none, none, none]) ⟨Or.inr rfl, Or.inl rfl, Or.inl rfl, Or.inl rfl, Or.inl rfl, Or.inl rfl, Or.inl rfl, Or.inl rfl, Or.inr rfl, trivial⟩ ?_)
                  exact g_L_law_1321 hJ hC hQ   M193 hw
        · replace hw := hw.2 hc
          refine D_iconst (pc := 1284) (v := 0) hC dL_law_1284 (by decide) ?_
          exact hw.elim
      by_cases hc18 : (x1 &&& (63 : Int32)) = (18 : Int32)
      · replace hw := hw.2.2.2.2.2.2.2.2.2.2.2.2.2.2.2.2.2.2.1 hc18
        refine G_tableIn (pc := 44) (off := 1282) (tgt := 1326) hC dL_law_44 (by rw [hc18]; decide) (by rw [hc18]; decide) (by rw [hc18]; rfl) (by decide) ?_
        refine G_aload_n (pc := 1326) (i := 1) hC dL_law_1326 rfl rfl ?_
        refine G_aload_n (pc := 1327) (i := 0) hC dL_law_1327 rfl rfl ?_
        refine G_iload (pc := 1328) (i := 5) hC dL_law_1328 rfl ?_
        refine G_iconst (pc := 1330) (v := 1) hC dL_law_1330 (by decide) ?_
        refine G_iadd (pc := 1331) hC dL_law_1331 ?_
        refine G_sld (pc := 1332) hC hQ dL_law_1332 hw (fun x198 hw => ?_)
        refine G_aload_n (pc := 1333) (i := 3) hC dL_law_1333 rfl rfl ?_
        refine GX_callSW (pc := 1334) (n := 3) (As := [va_rf v1, .int x198, va_rf v3]) (rest := []) hC (m_X0_findMoves hJ hw) (lw_SW q2551 q2552 q83 q2553) hdL_X0_findMoves.2 (by decide) rfl rfl (st_c cat_e (Nat.le_of_ble_eq_true rfl)) dL_law_1334 (fun E q M hx => hx.elim) (kI fun x200 M199 hw => ?_)
        refine G_istore (pc := 1337) (i := 6) (lw := [some (va_rf (some a0)), some (va_rf v1), some (va_rf v2), some (va_rf v3), some (va_rf v4), some (.int v5), some (.int x200), none, none]) hC dL_law_1337 (Nat.le_of_ble_eq_true rfl) rfl ?_
        refine G_aload_n (pc := 1339) (i := 2) hC dL_law_1339 rfl rfl ?_
        refine G_aload_n (pc := 1340) (i := 0) hC dL_law_1340 rfl rfl ?_
        refine G_iload (pc := 1341) (i := 5) hC dL_law_1341 rfl ?_
        refine G_iconst (pc := 1343) (v := 1) hC dL_law_1343 (by decide) ?_
        refine G_iadd (pc := 1344) hC dL_law_1344 ?_
        refine G_sld (pc := 1345) hC hQ dL_law_1345 hw (fun x201 hw => ?_)
        obtain ⟨b203, rfl, hb, hw⟩ := gThis_e hw
        refine G_callV (pc := 1346) (n := 1) (C := "MergeWorkbenchModel") (b := b203) (As := [.int x201]) (rest := []) hC (m_X3_findMoves hJ hw) (lw_V q3718 q3719 q3720 q108 q3721) hdL_X3_findMoves (by decide) (rcv (C := RX3) (T := TX3) (N := 61) hC hb rfl) rfl rfl (st_c cat_e (Nat.le_of_ble_eq_true rfl)) dL_law_1346 (kI fun x204 M202 hw => ?_)
        refine G_istore (pc := 1349) (i := 7) (lw := [some (va_rf (some a0)), some (va_rf v1), some (va_rf (some b203)), some (va_rf v3), some (va_rf v4), some (.int v5), some (.int x200), some (.int x204), none]) hC dL_law_1349 (Nat.le_of_ble_eq_true rfl) rfl ?_
        refine G_aload_n (pc := 1351) (i := 2) hC dL_law_1351 rfl rfl ?_
        obtain ⟨hb, hw⟩ := hw
        refine G_callV (pc := 1352) (n := 0) (C := "MergeWorkbenchModel") (b := b203) (As := []) (rest := []) hC (m_X3_thrown hJ hw) (lw_V q3559 q3560 q3561 q108 q3562) hdL_X3_thrown (by decide) (rcv (C := RX3) (T := TX3) (N := 61) hC hb rfl) rfl rfl (st_c cat_e (Nat.le_of_ble_eq_true rfl)) dL_law_1352 (kI fun x206 M205 hw => ?_)
        refine G_iload (pc := 1355) (i := 6) hC dL_law_1355 rfl ?_
        refine G_icmp_eq (pc := 1357) (tgt := 1362) hC dL_law_1357 (by decide) (fun hc => ?_) (fun hc => ?_)
        · replace hw := hw.1 hc
          refine G_iload (pc := 1362) (i := 6) hC dL_law_1362 rfl ?_
          refine G_if_ne (pc := 1364) (tgt := 1379) hC dL_law_1364 (by decide) (fun hc => ?_) (fun hc => ?_)
          · replace hw := hw.1 hc
            refine G_loc (lv' := [some (va_rf (some a0)), some (va_rf v1), some (va_rf (some b203)), some (va_rf v3), some (va_rf v4), some (.int v5), none, none, none]) ⟨Or.inr rfl, Or.inr rfl, Or.inr rfl, Or.inr rfl, Or.inr rfl, Or.inr rfl, Or.inl rfl, Or.inl rfl, Or.inr rfl, trivial⟩ ?_
            exact g_L_law_1379 hJ hC hQ ih  v1 (some b203) v3 v4 v5 M205 hw
          · replace hw := hw.2 hc
            refine G_aload_n (pc := 1367) (i := 3) hC dL_law_1367 rfl rfl ?_
            refine G_iconst (pc := 1368) (v := 0) hC dL_law_1368 (by decide) ?_
            refine G_lald (pc := 1369) hC dL_law_1369 hw (fun x207 hw => ?_)
            refine G_iload (pc := 1370) (i := 7) hC dL_law_1370 rfl ?_
            refine G_i2l (pc := 1372) hC dL_law_1372 ?_
            refine G_lcmp (pc := 1373) hC dL_law_1373 ?_
            refine G_if_eq (pc := 1374) (tgt := 1379) hC dL_law_1374 (by decide) (fun hc => ?_) (fun hc => ?_)
            · replace hw := hw.1 hc
              refine G_loc (lv' := [some (va_rf (some a0)), some (va_rf v1), some (va_rf (some b203)), some (va_rf v3), some (va_rf v4), some (.int v5), none, none, none]) ⟨Or.inr rfl, Or.inr rfl, Or.inr rfl, Or.inr rfl, Or.inr rfl, Or.inr rfl, Or.inl rfl, Or.inl rfl, Or.inr rfl, trivial⟩ ?_
              exact g_L_law_1379 hJ hC hQ ih  v1 (some b203) v3 v4 v5 M205 hw
            · replace hw := hw.2 hc
              refine G_iconst (pc := 1377) (v := 0) hC dL_law_1377 (by decide) ?_
              exact hw.elim
        · replace hw := hw.2 hc
          refine G_iconst (pc := 1360) (v := 0) hC dL_law_1360 (by decide) ?_
          exact hw.elim
      by_cases hc19 : (x1 &&& (63 : Int32)) = (19 : Int32)
      · replace hw := hw.2.2.2.2.2.2.2.2.2.2.2.2.2.2.2.2.2.2.2.1 hc19
        refine G_tableIn (pc := 44) (off := 1338) (tgt := 1382) hC dL_law_44 (by rw [hc19]; decide) (by rw [hc19]; decide) (by rw [hc19]; rfl) (by decide) ?_
        refine G_aload_n (pc := 1382) (i := 1) hC dL_law_1382 rfl rfl ?_
        refine G_aload_n (pc := 1383) (i := 0) hC dL_law_1383 rfl rfl ?_
        refine G_iload (pc := 1384) (i := 5) hC dL_law_1384 rfl ?_
        refine G_iconst (pc := 1386) (v := 1) hC dL_law_1386 (by decide) ?_
        refine G_iadd (pc := 1387) hC dL_law_1387 ?_
        refine G_sld (pc := 1388) hC hQ dL_law_1388 hw (fun x208 hw => ?_)
        refine G_aload_n (pc := 1389) (i := 0) hC dL_law_1389 rfl rfl ?_
        refine G_iload (pc := 1390) (i := 5) hC dL_law_1390 rfl ?_
        refine G_iconst (pc := 1392) (v := 2) hC dL_law_1392 (by decide) ?_
        refine G_iadd (pc := 1393) hC dL_law_1393 ?_
        refine G_sld (pc := 1394) hC hQ dL_law_1394 hw (fun x209 hw => ?_)
        refine G_aload_n (pc := 1395) (i := 3) hC dL_law_1395 rfl rfl ?_
        refine GX_callSW (pc := 1396) (n := 4) (As := [va_rf v1, .int x208, .int x209, va_rf v3]) (rest := []) hC (m_X0_move hJ hw) (lw_SW q2767 q2768 q83 q2769) hdL_X0_move.2 (by decide) rfl rfl (st_c cat_e (Nat.le_of_ble_eq_true rfl)) dL_law_1396 (fun E q M hx => hx.elim) (kI fun x211 M210 hw => ?_)
        refine G_istore (pc := 1399) (i := 6) (lw := [some (va_rf (some a0)), some (va_rf v1), some (va_rf v2), some (va_rf v3), some (va_rf v4), some (.int v5), some (.int x211), none, none]) hC dL_law_1399 (Nat.le_of_ble_eq_true rfl) rfl ?_
        refine G_aload_n (pc := 1401) (i := 2) hC dL_law_1401 rfl rfl ?_
        refine G_aload_n (pc := 1402) (i := 0) hC dL_law_1402 rfl rfl ?_
        refine G_iload (pc := 1403) (i := 5) hC dL_law_1403 rfl ?_
        refine G_iconst (pc := 1405) (v := 1) hC dL_law_1405 (by decide) ?_
        refine G_iadd (pc := 1406) hC dL_law_1406 ?_
        refine G_sld (pc := 1407) hC hQ dL_law_1407 hw (fun x212 hw => ?_)
        refine G_aload_n (pc := 1408) (i := 0) hC dL_law_1408 rfl rfl ?_
        refine G_iload (pc := 1409) (i := 5) hC dL_law_1409 rfl ?_
        refine G_iconst (pc := 1411) (v := 2) hC dL_law_1411 (by decide) ?_
        refine G_iadd (pc := 1412) hC dL_law_1412 ?_
        refine G_sld (pc := 1413) hC hQ dL_law_1413 hw (fun x213 hw => ?_)
        obtain ⟨b215, rfl, hb, hw⟩ := gThis_e hw
        refine G_callV (pc := 1414) (n := 2) (C := "MergeWorkbenchModel") (b := b215) (As := [.int x212, .int x213]) (rest := []) hC (m_X3_move hJ hw) (lw_V q3730 q3731 q3732 q108 q3733) hdL_X3_move (by decide) (rcv (C := RX3) (T := TX3) (N := 61) hC hb rfl) rfl rfl (st_c cat_e (Nat.le_of_ble_eq_true rfl)) dL_law_1414 (kI fun x216 M214 hw => ?_)
        refine G_istore (pc := 1417) (i := 7) (lw := [some (va_rf (some a0)), some (va_rf v1), some (va_rf (some b215)), some (va_rf v3), some (va_rf v4), some (.int v5), some (.int x211), some (.int x216), none]) hC dL_law_1417 (Nat.le_of_ble_eq_true rfl) rfl ?_
        refine G_aload_n (pc := 1419) (i := 2) hC dL_law_1419 rfl rfl ?_
        obtain ⟨hb, hw⟩ := hw
        refine G_callV (pc := 1420) (n := 0) (C := "MergeWorkbenchModel") (b := b215) (As := []) (rest := []) hC (m_X3_thrown hJ hw) (lw_V q3559 q3560 q3561 q108 q3562) hdL_X3_thrown (by decide) (rcv (C := RX3) (T := TX3) (N := 61) hC hb rfl) rfl rfl (st_c cat_e (Nat.le_of_ble_eq_true rfl)) dL_law_1420 (kI fun x218 M217 hw => ?_)
        refine G_iload (pc := 1423) (i := 6) hC dL_law_1423 rfl ?_
        refine G_icmp_eq (pc := 1425) (tgt := 1430) hC dL_law_1425 (by decide) (fun hc => ?_) (fun hc => ?_)
        · replace hw := hw.1 hc
          refine G_iload (pc := 1430) (i := 6) hC dL_law_1430 rfl ?_
          refine G_if_ne (pc := 1432) (tgt := 1447) hC dL_law_1432 (by decide) (fun hc => ?_) (fun hc => ?_)
          · replace hw := hw.1 hc
            refine G_loc (lv' := [some (va_rf (some a0)), some (va_rf v1), some (va_rf (some b215)), some (va_rf v3), some (va_rf v4), some (.int v5), none, none, none]) ⟨Or.inr rfl, Or.inr rfl, Or.inr rfl, Or.inr rfl, Or.inr rfl, Or.inr rfl, Or.inl rfl, Or.inl rfl, Or.inr rfl, trivial⟩ ?_
            exact g_L_law_1447 hJ hC hQ ih  v1 (some b215) v3 v4 v5 M217 hw
          · replace hw := hw.2 hc
            refine G_aload_n (pc := 1435) (i := 3) hC dL_law_1435 rfl rfl ?_
            refine G_iconst (pc := 1436) (v := 0) hC dL_law_1436 (by decide) ?_
            refine G_lald (pc := 1437) hC dL_law_1437 hw (fun x219 hw => ?_)
            refine G_iload (pc := 1438) (i := 7) hC dL_law_1438 rfl ?_
            refine G_i2l (pc := 1440) hC dL_law_1440 ?_
            refine G_lcmp (pc := 1441) hC dL_law_1441 ?_
            refine G_if_eq (pc := 1442) (tgt := 1447) hC dL_law_1442 (by decide) (fun hc => ?_) (fun hc => ?_)
            · replace hw := hw.1 hc
              refine G_loc (lv' := [some (va_rf (some a0)), some (va_rf v1), some (va_rf (some b215)), some (va_rf v3), some (va_rf v4), some (.int v5), none, none, none]) ⟨Or.inr rfl, Or.inr rfl, Or.inr rfl, Or.inr rfl, Or.inr rfl, Or.inr rfl, Or.inl rfl, Or.inl rfl, Or.inr rfl, trivial⟩ ?_
              exact g_L_law_1447 hJ hC hQ ih  v1 (some b215) v3 v4 v5 M217 hw
            · replace hw := hw.2 hc
              refine G_iconst (pc := 1445) (v := 0) hC dL_law_1445 (by decide) ?_
              exact hw.elim
        · replace hw := hw.2 hc
          refine G_iconst (pc := 1428) (v := 0) hC dL_law_1428 (by decide) ?_
          exact hw.elim
      by_cases hc20 : (x1 &&& (63 : Int32)) = (20 : Int32)
      · replace hw := hw.2.2.2.2.2.2.2.2.2.2.2.2.2.2.2.2.2.2.2.2.1 hc20
        refine G_tableIn (pc := 44) (off := 1406) (tgt := 1450) hC dL_law_44 (by rw [hc20]; decide) (by rw [hc20]; decide) (by rw [hc20]; rfl) (by decide) ?_
        refine G_aload_n (pc := 1450) (i := 1) hC dL_law_1450 rfl rfl ?_
        refine G_aload_n (pc := 1451) (i := 0) hC dL_law_1451 rfl rfl ?_
        refine G_iload (pc := 1452) (i := 5) hC dL_law_1452 rfl ?_
        refine G_iconst (pc := 1454) (v := 1) hC dL_law_1454 (by decide) ?_
        refine G_iadd (pc := 1455) hC dL_law_1455 ?_
        refine G_sld (pc := 1456) hC hQ dL_law_1456 hw (fun x220 hw => ?_)
        refine G_if_eq (pc := 1457) (tgt := 1464) hC dL_law_1457 (by decide) (fun hc => ?_) (fun hc => ?_)
        · replace hw := hw.1 hc
          refine G_iconst (pc := 1464) (v := 0) hC dL_law_1464 (by decide) ?_
          exact g_L_law_1465 hJ hC hQ ih  v1 v2 v3 v4 v5 v1 (0 : Int32) M hw
        · replace hw := hw.2 hc
          refine G_iconst (pc := 1460) (v := 1) hC dL_law_1460 (by decide) ?_
          refine G_goto (pc := 1461) (tgt := 1465) hC dL_law_1461 (by decide) ?_
          exact g_L_law_1465 hJ hC hQ ih  v1 v2 v3 v4 v5 v1 (1 : Int32) M hw
      by_cases hc21 : (x1 &&& (63 : Int32)) = (21 : Int32)
      · replace hw := hw.2.2.2.2.2.2.2.2.2.2.2.2.2.2.2.2.2.2.2.2.2.1 hc21
        refine G_tableIn (pc := 44) (off := 1447) (tgt := 1491) hC dL_law_44 (by rw [hc21]; decide) (by rw [hc21]; decide) (by rw [hc21]; rfl) (by decide) ?_
        refine G_aload_n (pc := 1491) (i := 1) hC dL_law_1491 rfl rfl ?_
        refine G_aload_n (pc := 1492) (i := 0) hC dL_law_1492 rfl rfl ?_
        refine G_iload (pc := 1493) (i := 5) hC dL_law_1493 rfl ?_
        refine G_iconst (pc := 1495) (v := 1) hC dL_law_1495 (by decide) ?_
        refine G_iadd (pc := 1496) hC dL_law_1496 ?_
        refine G_sld (pc := 1497) hC hQ dL_law_1497 hw (fun x221 hw => ?_)
        refine G_aload_n (pc := 1498) (i := 0) hC dL_law_1498 rfl rfl ?_
        refine G_iload (pc := 1499) (i := 5) hC dL_law_1499 rfl ?_
        refine G_iconst (pc := 1501) (v := 2) hC dL_law_1501 (by decide) ?_
        refine G_iadd (pc := 1502) hC dL_law_1502 ?_
        refine G_sld (pc := 1503) hC hQ dL_law_1503 hw (fun x222 hw => ?_)
        refine G_aload_n (pc := 1504) (i := 0) hC dL_law_1504 rfl rfl ?_
        refine G_iload (pc := 1505) (i := 5) hC dL_law_1505 rfl ?_
        refine G_iconst (pc := 1507) (v := 3) hC dL_law_1507 (by decide) ?_
        refine G_iadd (pc := 1508) hC dL_law_1508 ?_
        refine G_sld (pc := 1509) hC hQ dL_law_1509 hw (fun x223 hw => ?_)
        refine G_aload_n (pc := 1510) (i := 3) hC dL_law_1510 rfl rfl ?_
        refine GX_callSW (pc := 1511) (n := 5) (As := [va_rf v1, .int x221, .int x222, .int x223, va_rf v3]) (rest := []) hC (m_X0_merge hJ hw) (lw_SW q2779 q2780 q83 q2781) hdL_X0_merge.2 (by decide) rfl rfl (st_c cat_e (Nat.le_of_ble_eq_true rfl)) dL_law_1511 (fun E q M hx => hx.elim) (kI fun x225 M224 hw => ?_)
        refine G_istore (pc := 1514) (i := 6) (lw := [some (va_rf (some a0)), some (va_rf v1), some (va_rf v2), some (va_rf v3), some (va_rf v4), some (.int v5), some (.int x225), none, none]) hC dL_law_1514 (Nat.le_of_ble_eq_true rfl) rfl ?_
        refine G_aload_n (pc := 1516) (i := 2) hC dL_law_1516 rfl rfl ?_
        refine G_aload_n (pc := 1517) (i := 0) hC dL_law_1517 rfl rfl ?_
        refine G_iload (pc := 1518) (i := 5) hC dL_law_1518 rfl ?_
        refine G_iconst (pc := 1520) (v := 1) hC dL_law_1520 (by decide) ?_
        refine G_iadd (pc := 1521) hC dL_law_1521 ?_
        refine G_sld (pc := 1522) hC hQ dL_law_1522 hw (fun x226 hw => ?_)
        refine G_aload_n (pc := 1523) (i := 0) hC dL_law_1523 rfl rfl ?_
        refine G_iload (pc := 1524) (i := 5) hC dL_law_1524 rfl ?_
        refine G_iconst (pc := 1526) (v := 2) hC dL_law_1526 (by decide) ?_
        refine G_iadd (pc := 1527) hC dL_law_1527 ?_
        refine G_sld (pc := 1528) hC hQ dL_law_1528 hw (fun x227 hw => ?_)
        refine G_aload_n (pc := 1529) (i := 0) hC dL_law_1529 rfl rfl ?_
        refine G_iload (pc := 1530) (i := 5) hC dL_law_1530 rfl ?_
        refine G_iconst (pc := 1532) (v := 3) hC dL_law_1532 (by decide) ?_
        refine G_iadd (pc := 1533) hC dL_law_1533 ?_
        refine G_sld (pc := 1534) hC hQ dL_law_1534 hw (fun x228 hw => ?_)
        obtain ⟨b230, rfl, hb, hw⟩ := gThis_e hw
        refine G_callV (pc := 1535) (n := 3) (C := "MergeWorkbenchModel") (b := b230) (As := [.int x226, .int x227, .int x228]) (rest := []) hC (m_X3_merge hJ hw) (lw_V q3738 q3739 q3740 q108 q3741) hdL_X3_merge (by decide) (rcv (C := RX3) (T := TX3) (N := 61) hC hb rfl) rfl rfl (st_c cat_e (Nat.le_of_ble_eq_true rfl)) dL_law_1535 (kI fun x231 M229 hw => ?_)
        refine G_istore (pc := 1538) (i := 7) (lw := [some (va_rf (some a0)), some (va_rf v1), some (va_rf (some b230)), some (va_rf v3), some (va_rf v4), some (.int v5), some (.int x225), some (.int x231), none]) hC dL_law_1538 (Nat.le_of_ble_eq_true rfl) rfl ?_
        refine G_aload_n (pc := 1540) (i := 2) hC dL_law_1540 rfl rfl ?_
        obtain ⟨hb, hw⟩ := hw
        refine G_callV (pc := 1541) (n := 0) (C := "MergeWorkbenchModel") (b := b230) (As := []) (rest := []) hC (m_X3_thrown hJ hw) (lw_V q3559 q3560 q3561 q108 q3562) hdL_X3_thrown (by decide) (rcv (C := RX3) (T := TX3) (N := 61) hC hb rfl) rfl rfl (st_c cat_e (Nat.le_of_ble_eq_true rfl)) dL_law_1541 (kI fun x233 M232 hw => ?_)
        refine G_iload (pc := 1544) (i := 6) hC dL_law_1544 rfl ?_
        refine G_icmp_eq (pc := 1546) (tgt := 1551) hC dL_law_1546 (by decide) (fun hc => ?_) (fun hc => ?_)
        · replace hw := hw.1 hc
          refine G_iload (pc := 1551) (i := 6) hC dL_law_1551 rfl ?_
          refine G_if_ne (pc := 1553) (tgt := 1568) hC dL_law_1553 (by decide) (fun hc => ?_) (fun hc => ?_)
          · replace hw := hw.1 hc
            refine G_loc (lv' := [some (va_rf (some a0)), some (va_rf v1), some (va_rf (some b230)), some (va_rf v3), some (va_rf v4), some (.int v5), none, none, none]) ⟨Or.inr rfl, Or.inr rfl, Or.inr rfl, Or.inr rfl, Or.inr rfl, Or.inr rfl, Or.inl rfl, Or.inl rfl, Or.inr rfl, trivial⟩ ?_
            exact g_L_law_1568 hJ hC hQ ih  v1 (some b230) v3 v4 v5 M232 hw
          · replace hw := hw.2 hc
            refine G_aload_n (pc := 1556) (i := 3) hC dL_law_1556 rfl rfl ?_
            refine G_iconst (pc := 1557) (v := 0) hC dL_law_1557 (by decide) ?_
            refine G_lald (pc := 1558) hC dL_law_1558 hw (fun x234 hw => ?_)
            refine G_iload (pc := 1559) (i := 7) hC dL_law_1559 rfl ?_
            refine G_i2l (pc := 1561) hC dL_law_1561 ?_
            refine G_lcmp (pc := 1562) hC dL_law_1562 ?_
            refine G_if_eq (pc := 1563) (tgt := 1568) hC dL_law_1563 (by decide) (fun hc => ?_) (fun hc => ?_)
            · replace hw := hw.1 hc
              refine G_loc (lv' := [some (va_rf (some a0)), some (va_rf v1), some (va_rf (some b230)), some (va_rf v3), some (va_rf v4), some (.int v5), none, none, none]) ⟨Or.inr rfl, Or.inr rfl, Or.inr rfl, Or.inr rfl, Or.inr rfl, Or.inr rfl, Or.inl rfl, Or.inl rfl, Or.inr rfl, trivial⟩ ?_
              exact g_L_law_1568 hJ hC hQ ih  v1 (some b230) v3 v4 v5 M232 hw
            · replace hw := hw.2 hc
              refine G_iconst (pc := 1566) (v := 0) hC dL_law_1566 (by decide) ?_
              exact hw.elim
        · replace hw := hw.2 hc
          refine G_iconst (pc := 1549) (v := 0) hC dL_law_1549 (by decide) ?_
          exact hw.elim
      by_cases hc22 : (x1 &&& (63 : Int32)) = (22 : Int32)
      · replace hw := hw.2.2.2.2.2.2.2.2.2.2.2.2.2.2.2.2.2.2.2.2.2.2.1 hc22
        refine G_tableIn (pc := 44) (off := 1527) (tgt := 1571) hC dL_law_44 (by rw [hc22]; decide) (by rw [hc22]; decide) (by rw [hc22]; rfl) (by decide) ?_
        refine G_aload_n (pc := 1571) (i := 1) hC dL_law_1571 rfl rfl ?_
        refine G_aload_n (pc := 1572) (i := 3) hC dL_law_1572 rfl rfl ?_
        refine GX_callSW (pc := 1573) (n := 2) (As := [va_rf v1, va_rf v3]) (rest := []) hC (m_X0_chunks hJ hw) (lw_SW q2994 q2995 q83 q2996) hdL_X0_chunks.2 (by decide) rfl rfl (st_c cat_e (Nat.le_of_ble_eq_true rfl)) dL_law_1573 (fun E q M hx => hx.elim) (kI fun x236 M235 hw => ?_)
        refine G_istore (pc := 1576) (i := 6) (lw := [some (va_rf (some a0)), some (va_rf v1), some (va_rf v2), some (va_rf v3), some (va_rf v4), some (.int v5), some (.int x236), none, none]) hC dL_law_1576 (Nat.le_of_ble_eq_true rfl) rfl ?_
        refine G_aload_n (pc := 1578) (i := 2) hC dL_law_1578 rfl rfl ?_
        obtain ⟨b238, rfl, hb, hw⟩ := gThis_e hw
        refine G_callV (pc := 1579) (n := 0) (C := "MergeWorkbenchModel") (b := b238) (As := []) (rest := []) hC (m_X3_chunks hJ hw) (lw_V q3757 q3758 q3759 q108 q3760) hdL_X3_chunks (by decide) (rcv (C := RX3) (T := TX3) (N := 61) hC hb rfl) rfl rfl (st_c cat_e (Nat.le_of_ble_eq_true rfl)) dL_law_1579 (kI fun x239 M237 hw => ?_)
        refine G_istore (pc := 1582) (i := 7) (lw := [some (va_rf (some a0)), some (va_rf v1), some (va_rf (some b238)), some (va_rf v3), some (va_rf v4), some (.int v5), some (.int x236), some (.int x239), none]) hC dL_law_1582 (Nat.le_of_ble_eq_true rfl) rfl ?_
        refine G_aload_n (pc := 1584) (i := 2) hC dL_law_1584 rfl rfl ?_
        obtain ⟨hb, hw⟩ := hw
        refine G_callV (pc := 1585) (n := 0) (C := "MergeWorkbenchModel") (b := b238) (As := []) (rest := []) hC (m_X3_thrown hJ hw) (lw_V q3559 q3560 q3561 q108 q3562) hdL_X3_thrown (by decide) (rcv (C := RX3) (T := TX3) (N := 61) hC hb rfl) rfl rfl (st_c cat_e (Nat.le_of_ble_eq_true rfl)) dL_law_1585 (kI fun x241 M240 hw => ?_)
        refine G_iload (pc := 1588) (i := 6) hC dL_law_1588 rfl ?_
        refine G_icmp_eq (pc := 1590) (tgt := 1595) hC dL_law_1590 (by decide) (fun hc => ?_) (fun hc => ?_)
        · replace hw := hw.1 hc
          refine G_iload (pc := 1595) (i := 6) hC dL_law_1595 rfl ?_
          refine G_if_ne (pc := 1597) (tgt := 1612) hC dL_law_1597 (by decide) (fun hc => ?_) (fun hc => ?_)
          · replace hw := hw.1 hc
            refine G_loc (lv' := [some (va_rf (some a0)), some (va_rf v1), some (va_rf (some b238)), some (va_rf v3), some (va_rf v4), some (.int v5), none, none, none]) ⟨Or.inr rfl, Or.inr rfl, Or.inr rfl, Or.inr rfl, Or.inr rfl, Or.inr rfl, Or.inl rfl, Or.inl rfl, Or.inr rfl, trivial⟩ ?_
            exact g_L_law_1612 hJ hC hQ ih  v1 (some b238) v3 v4 v5 M240 hw
          · replace hw := hw.2 hc
            refine G_aload_n (pc := 1600) (i := 3) hC dL_law_1600 rfl rfl ?_
            refine G_iconst (pc := 1601) (v := 0) hC dL_law_1601 (by decide) ?_
            refine G_lald (pc := 1602) hC dL_law_1602 hw (fun x242 hw => ?_)
            refine G_iload (pc := 1603) (i := 7) hC dL_law_1603 rfl ?_
            refine G_i2l (pc := 1605) hC dL_law_1605 ?_
            refine G_lcmp (pc := 1606) hC dL_law_1606 ?_
            refine G_if_eq (pc := 1607) (tgt := 1612) hC dL_law_1607 (by decide) (fun hc => ?_) (fun hc => ?_)
            · replace hw := hw.1 hc
              refine G_loc (lv' := [some (va_rf (some a0)), some (va_rf v1), some (va_rf (some b238)), some (va_rf v3), some (va_rf v4), some (.int v5), none, none, none]) ⟨Or.inr rfl, Or.inr rfl, Or.inr rfl, Or.inr rfl, Or.inr rfl, Or.inr rfl, Or.inl rfl, Or.inl rfl, Or.inr rfl, trivial⟩ ?_
              exact g_L_law_1612 hJ hC hQ ih  v1 (some b238) v3 v4 v5 M240 hw
            · replace hw := hw.2 hc
              refine G_iconst (pc := 1610) (v := 0) hC dL_law_1610 (by decide) ?_
              exact hw.elim
        · replace hw := hw.2 hc
          refine G_iconst (pc := 1593) (v := 0) hC dL_law_1593 (by decide) ?_
          exact hw.elim
      by_cases hc23 : (x1 &&& (63 : Int32)) = (23 : Int32)
      · replace hw := hw.2.2.2.2.2.2.2.2.2.2.2.2.2.2.2.2.2.2.2.2.2.2.2.1 hc23
        refine G_tableIn (pc := 44) (off := 1571) (tgt := 1615) hC dL_law_44 (by rw [hc23]; decide) (by rw [hc23]; decide) (by rw [hc23]; rfl) (by decide) ?_
        refine G_aload_n (pc := 1615) (i := 1) hC dL_law_1615 rfl rfl ?_
        refine G_aload_n (pc := 1616) (i := 0) hC dL_law_1616 rfl rfl ?_
        refine G_iload (pc := 1617) (i := 5) hC dL_law_1617 rfl ?_
        refine G_iconst (pc := 1619) (v := 1) hC dL_law_1619 (by decide) ?_
        refine G_iadd (pc := 1620) hC dL_law_1620 ?_
        refine G_sld (pc := 1621) hC hQ dL_law_1621 hw (fun x243 hw => ?_)
        refine G_aload_n (pc := 1622) (i := 0) hC dL_law_1622 rfl rfl ?_
        refine G_iload (pc := 1623) (i := 5) hC dL_law_1623 rfl ?_
        refine G_iconst (pc := 1625) (v := 2) hC dL_law_1625 (by decide) ?_
        refine G_iadd (pc := 1626) hC dL_law_1626 ?_
        refine G_sld (pc := 1627) hC hQ dL_law_1627 hw (fun x244 hw => ?_)
        refine G_aload_n (pc := 1628) (i := 3) hC dL_law_1628 rfl rfl ?_
        refine GX_callSW (pc := 1629) (n := 4) (As := [va_rf v1, .int x243, .int x244, va_rf v3]) (rest := []) hC (m_X0_chunk hJ hw) (lw_SW q3005 q3006 q83 q3007) hdL_X0_chunk.2 (by decide) rfl rfl (st_c cat_e (Nat.le_of_ble_eq_true rfl)) dL_law_1629 (fun E q M hx => hx.elim) (kI fun x246 M245 hw => ?_)
        refine G_istore (pc := 1632) (i := 6) (lw := [some (va_rf (some a0)), some (va_rf v1), some (va_rf v2), some (va_rf v3), some (va_rf v4), some (.int v5), some (.int x246), none, none]) hC dL_law_1632 (Nat.le_of_ble_eq_true rfl) rfl ?_
        refine G_aload_n (pc := 1634) (i := 2) hC dL_law_1634 rfl rfl ?_
        refine G_aload_n (pc := 1635) (i := 0) hC dL_law_1635 rfl rfl ?_
        refine G_iload (pc := 1636) (i := 5) hC dL_law_1636 rfl ?_
        refine G_iconst (pc := 1638) (v := 1) hC dL_law_1638 (by decide) ?_
        refine G_iadd (pc := 1639) hC dL_law_1639 ?_
        refine G_sld (pc := 1640) hC hQ dL_law_1640 hw (fun x247 hw => ?_)
        refine G_aload_n (pc := 1641) (i := 0) hC dL_law_1641 rfl rfl ?_
        refine G_iload (pc := 1642) (i := 5) hC dL_law_1642 rfl ?_
        refine G_iconst (pc := 1644) (v := 2) hC dL_law_1644 (by decide) ?_
        refine G_iadd (pc := 1645) hC dL_law_1645 ?_
        refine G_sld (pc := 1646) hC hQ dL_law_1646 hw (fun x248 hw => ?_)
        obtain ⟨b250, rfl, hb, hw⟩ := gThis_e hw
        refine G_callV (pc := 1647) (n := 2) (C := "MergeWorkbenchModel") (b := b250) (As := [.int x247, .int x248]) (rest := []) hC (m_X3_chunk hJ hw) (lw_V q3761 q3762 q3763 q108 q3764) hdL_X3_chunk (by decide) (rcv (C := RX3) (T := TX3) (N := 61) hC hb rfl) rfl rfl (st_c cat_e (Nat.le_of_ble_eq_true rfl)) dL_law_1647 (kI fun x251 M249 hw => ?_)
        refine G_istore (pc := 1650) (i := 7) (lw := [some (va_rf (some a0)), some (va_rf v1), some (va_rf (some b250)), some (va_rf v3), some (va_rf v4), some (.int v5), some (.int x246), some (.int x251), none]) hC dL_law_1650 (Nat.le_of_ble_eq_true rfl) rfl ?_
        refine G_aload_n (pc := 1652) (i := 2) hC dL_law_1652 rfl rfl ?_
        obtain ⟨hb, hw⟩ := hw
        refine G_callV (pc := 1653) (n := 0) (C := "MergeWorkbenchModel") (b := b250) (As := []) (rest := []) hC (m_X3_thrown hJ hw) (lw_V q3559 q3560 q3561 q108 q3562) hdL_X3_thrown (by decide) (rcv (C := RX3) (T := TX3) (N := 61) hC hb rfl) rfl rfl (st_c cat_e (Nat.le_of_ble_eq_true rfl)) dL_law_1653 (kI fun x253 M252 hw => ?_)
        refine G_iload (pc := 1656) (i := 6) hC dL_law_1656 rfl ?_
        refine G_icmp_eq (pc := 1658) (tgt := 1663) hC dL_law_1658 (by decide) (fun hc => ?_) (fun hc => ?_)
        · replace hw := hw.1 hc
          refine G_iload (pc := 1663) (i := 6) hC dL_law_1663 rfl ?_
          refine G_if_ne (pc := 1665) (tgt := 1680) hC dL_law_1665 (by decide) (fun hc => ?_) (fun hc => ?_)
          · replace hw := hw.1 hc
            refine G_loc (lv' := [some (va_rf (some a0)), some (va_rf v1), some (va_rf (some b250)), some (va_rf v3), some (va_rf v4), some (.int v5), none, none, none]) ⟨Or.inr rfl, Or.inr rfl, Or.inr rfl, Or.inr rfl, Or.inr rfl, Or.inr rfl, Or.inl rfl, Or.inl rfl, Or.inr rfl, trivial⟩ ?_
            exact g_L_law_1680 hJ hC hQ ih  v1 (some b250) v3 v4 v5 M252 hw
          · replace hw := hw.2 hc
            refine G_aload_n (pc := 1668) (i := 3) hC dL_law_1668 rfl rfl ?_
            refine G_iconst (pc := 1669) (v := 0) hC dL_law_1669 (by decide) ?_
            refine G_lald (pc := 1670) hC dL_law_1670 hw (fun x254 hw => ?_)
            refine G_iload (pc := 1671) (i := 7) hC dL_law_1671 rfl ?_
            refine G_i2l (pc := 1673) hC dL_law_1673 ?_
            refine G_lcmp (pc := 1674) hC dL_law_1674 ?_
            refine G_if_eq (pc := 1675) (tgt := 1680) hC dL_law_1675 (by decide) (fun hc => ?_) (fun hc => ?_)
            · replace hw := hw.1 hc
              refine G_loc (lv' := [some (va_rf (some a0)), some (va_rf v1), some (va_rf (some b250)), some (va_rf v3), some (va_rf v4), some (.int v5), none, none, none]) ⟨Or.inr rfl, Or.inr rfl, Or.inr rfl, Or.inr rfl, Or.inr rfl, Or.inr rfl, Or.inl rfl, Or.inl rfl, Or.inr rfl, trivial⟩ ?_
              exact g_L_law_1680 hJ hC hQ ih  v1 (some b250) v3 v4 v5 M252 hw
            · replace hw := hw.2 hc
              refine G_iconst (pc := 1678) (v := 0) hC dL_law_1678 (by decide) ?_
              exact hw.elim
        · replace hw := hw.2 hc
          refine G_iconst (pc := 1661) (v := 0) hC dL_law_1661 (by decide) ?_
          exact hw.elim
      by_cases hc24 : (x1 &&& (63 : Int32)) = (24 : Int32)
      · replace hw := hw.2.2.2.2.2.2.2.2.2.2.2.2.2.2.2.2.2.2.2.2.2.2.2.2.1 hc24
        refine G_tableIn (pc := 44) (off := 1639) (tgt := 1683) hC dL_law_44 (by rw [hc24]; decide) (by rw [hc24]; decide) (by rw [hc24]; rfl) (by decide) ?_
        refine G_aload_n (pc := 1683) (i := 1) hC dL_law_1683 rfl rfl ?_
        refine G_aload_n (pc := 1684) (i := 0) hC dL_law_1684 rfl rfl ?_
        refine G_iload (pc := 1685) (i := 5) hC dL_law_1685 rfl ?_
        refine G_iconst (pc := 1687) (v := 1) hC dL_law_1687 (by decide) ?_
        refine G_iadd (pc := 1688) hC dL_law_1688 ?_
        refine G_sld (pc := 1689) hC hQ dL_law_1689 hw (fun x255 hw => ?_)
        refine G_aload_n (pc := 1690) (i := 0) hC dL_law_1690 rfl rfl ?_
        refine G_iload (pc := 1691) (i := 5) hC dL_law_1691 rfl ?_
        refine G_iconst (pc := 1693) (v := 2) hC dL_law_1693 (by decide) ?_
        refine G_iadd (pc := 1694) hC dL_law_1694 ?_
        refine G_sld (pc := 1695) hC hQ dL_law_1695 hw (fun x256 hw => ?_)
        refine G_aload_n (pc := 1696) (i := 3) hC dL_law_1696 rfl rfl ?_
        refine GX_callSW (pc := 1697) (n := 4) (As := [va_rf v1, .int x255, .int x256, va_rf v3]) (rest := []) hC (m_X0_resolve hJ hw) (lw_SW q3017 q3018 q83 q3019) hdL_X0_resolve.2 (by decide) rfl rfl (st_c cat_e (Nat.le_of_ble_eq_true rfl)) dL_law_1697 (fun E q M hx => hx.elim) (kI fun x258 M257 hw => ?_)
        refine G_istore (pc := 1700) (i := 6) (lw := [some (va_rf (some a0)), some (va_rf v1), some (va_rf v2), some (va_rf v3), some (va_rf v4), some (.int v5), some (.int x258), none, none]) hC dL_law_1700 (Nat.le_of_ble_eq_true rfl) rfl ?_
        refine G_aload_n (pc := 1702) (i := 2) hC dL_law_1702 rfl rfl ?_
        refine G_aload_n (pc := 1703) (i := 0) hC dL_law_1703 rfl rfl ?_
        refine G_iload (pc := 1704) (i := 5) hC dL_law_1704 rfl ?_
        refine G_iconst (pc := 1706) (v := 1) hC dL_law_1706 (by decide) ?_
        refine G_iadd (pc := 1707) hC dL_law_1707 ?_
        refine G_sld (pc := 1708) hC hQ dL_law_1708 hw (fun x259 hw => ?_)
        refine G_aload_n (pc := 1709) (i := 0) hC dL_law_1709 rfl rfl ?_
        refine G_iload (pc := 1710) (i := 5) hC dL_law_1710 rfl ?_
        refine G_iconst (pc := 1712) (v := 2) hC dL_law_1712 (by decide) ?_
        refine G_iadd (pc := 1713) hC dL_law_1713 ?_
        refine G_sld (pc := 1714) hC hQ dL_law_1714 hw (fun x260 hw => ?_)
        obtain ⟨b262, rfl, hb, hw⟩ := gThis_e hw
        refine G_callV (pc := 1715) (n := 2) (C := "MergeWorkbenchModel") (b := b262) (As := [.int x259, .int x260]) (rest := []) hC (m_X3_resolve hJ hw) (lw_V q3765 q3766 q3767 q108 q3768) hdL_X3_resolve (by decide) (rcv (C := RX3) (T := TX3) (N := 61) hC hb rfl) rfl rfl (st_c cat_e (Nat.le_of_ble_eq_true rfl)) dL_law_1715 (kI fun x263 M261 hw => ?_)
        refine G_istore (pc := 1718) (i := 7) (lw := [some (va_rf (some a0)), some (va_rf v1), some (va_rf (some b262)), some (va_rf v3), some (va_rf v4), some (.int v5), some (.int x258), some (.int x263), none]) hC dL_law_1718 (Nat.le_of_ble_eq_true rfl) rfl ?_
        refine G_aload_n (pc := 1720) (i := 2) hC dL_law_1720 rfl rfl ?_
        obtain ⟨hb, hw⟩ := hw
        refine G_callV (pc := 1721) (n := 0) (C := "MergeWorkbenchModel") (b := b262) (As := []) (rest := []) hC (m_X3_thrown hJ hw) (lw_V q3559 q3560 q3561 q108 q3562) hdL_X3_thrown (by decide) (rcv (C := RX3) (T := TX3) (N := 61) hC hb rfl) rfl rfl (st_c cat_e (Nat.le_of_ble_eq_true rfl)) dL_law_1721 (kI fun x265 M264 hw => ?_)
        refine G_iload (pc := 1724) (i := 6) hC dL_law_1724 rfl ?_
        refine G_icmp_eq (pc := 1726) (tgt := 1731) hC dL_law_1726 (by decide) (fun hc => ?_) (fun hc => ?_)
        · replace hw := hw.1 hc
          refine G_iload (pc := 1731) (i := 6) hC dL_law_1731 rfl ?_
          refine G_if_ne (pc := 1733) (tgt := 1748) hC dL_law_1733 (by decide) (fun hc => ?_) (fun hc => ?_)
          · replace hw := hw.1 hc
            refine G_loc (lv' := [some (va_rf (some a0)), some (va_rf v1), some (va_rf (some b262)), some (va_rf v3), some (va_rf v4), some (.int v5), none, none, none]) ⟨Or.inr rfl, Or.inr rfl, Or.inr rfl, Or.inr rfl, Or.inr rfl, Or.inr rfl, Or.inl rfl, Or.inl rfl, Or.inr rfl, trivial⟩ ?_
            exact g_L_law_1748 hJ hC hQ ih  v1 (some b262) v3 v4 v5 M264 hw
          · replace hw := hw.2 hc
            refine G_aload_n (pc := 1736) (i := 3) hC dL_law_1736 rfl rfl ?_
            refine G_iconst (pc := 1737) (v := 0) hC dL_law_1737 (by decide) ?_
            refine G_lald (pc := 1738) hC dL_law_1738 hw (fun x266 hw => ?_)
            refine G_iload (pc := 1739) (i := 7) hC dL_law_1739 rfl ?_
            refine G_i2l (pc := 1741) hC dL_law_1741 ?_
            refine G_lcmp (pc := 1742) hC dL_law_1742 ?_
            refine G_if_eq (pc := 1743) (tgt := 1748) hC dL_law_1743 (by decide) (fun hc => ?_) (fun hc => ?_)
            · replace hw := hw.1 hc
              refine G_loc (lv' := [some (va_rf (some a0)), some (va_rf v1), some (va_rf (some b262)), some (va_rf v3), some (va_rf v4), some (.int v5), none, none, none]) ⟨Or.inr rfl, Or.inr rfl, Or.inr rfl, Or.inr rfl, Or.inr rfl, Or.inr rfl, Or.inl rfl, Or.inl rfl, Or.inr rfl, trivial⟩ ?_
              exact g_L_law_1748 hJ hC hQ ih  v1 (some b262) v3 v4 v5 M264 hw
            · replace hw := hw.2 hc
              refine G_iconst (pc := 1746) (v := 0) hC dL_law_1746 (by decide) ?_
              exact hw.elim
        · replace hw := hw.2 hc
          refine G_iconst (pc := 1729) (v := 0) hC dL_law_1729 (by decide) ?_
          exact hw.elim
      by_cases hc25 : (x1 &&& (63 : Int32)) = (25 : Int32)
      · replace hw := hw.2.2.2.2.2.2.2.2.2.2.2.2.2.2.2.2.2.2.2.2.2.2.2.2.2.1 hc25
        refine G_tableIn (pc := 44) (off := 1707) (tgt := 1751) hC dL_law_44 (by rw [hc25]; decide) (by rw [hc25]; decide) (by rw [hc25]; rfl) (by decide) ?_
        refine G_aload_n (pc := 1751) (i := 1) hC dL_law_1751 rfl rfl ?_
        refine G_aload_n (pc := 1752) (i := 3) hC dL_law_1752 rfl rfl ?_
        refine GX_callSW (pc := 1753) (n := 2) (As := [va_rf v1, va_rf v3]) (rest := []) hC (m_X0_unresolved hJ hw) (lw_SW q3037 q3038 q83 q3039) hdL_X0_unresolved.2 (by decide) rfl rfl (st_c cat_e (Nat.le_of_ble_eq_true rfl)) dL_law_1753 (fun E q M hx => hx.elim) (kI fun x268 M267 hw => ?_)
        refine G_istore (pc := 1756) (i := 6) (lw := [some (va_rf (some a0)), some (va_rf v1), some (va_rf v2), some (va_rf v3), some (va_rf v4), some (.int v5), some (.int x268), none, none]) hC dL_law_1756 (Nat.le_of_ble_eq_true rfl) rfl ?_
        refine G_aload_n (pc := 1758) (i := 2) hC dL_law_1758 rfl rfl ?_
        obtain ⟨b270, rfl, hb, hw⟩ := gThis_e hw
        refine G_callV (pc := 1759) (n := 0) (C := "MergeWorkbenchModel") (b := b270) (As := []) (rest := []) hC (m_X3_unresolved hJ hw) (lw_V q3781 q3782 q3783 q108 q3784) hdL_X3_unresolved (by decide) (rcv (C := RX3) (T := TX3) (N := 61) hC hb rfl) rfl rfl (st_c cat_e (Nat.le_of_ble_eq_true rfl)) dL_law_1759 (kI fun x271 M269 hw => ?_)
        refine G_istore (pc := 1762) (i := 7) (lw := [some (va_rf (some a0)), some (va_rf v1), some (va_rf (some b270)), some (va_rf v3), some (va_rf v4), some (.int v5), some (.int x268), some (.int x271), none]) hC dL_law_1762 (Nat.le_of_ble_eq_true rfl) rfl ?_
        refine G_aload_n (pc := 1764) (i := 2) hC dL_law_1764 rfl rfl ?_
        obtain ⟨hb, hw⟩ := hw
        refine G_callV (pc := 1765) (n := 0) (C := "MergeWorkbenchModel") (b := b270) (As := []) (rest := []) hC (m_X3_thrown hJ hw) (lw_V q3559 q3560 q3561 q108 q3562) hdL_X3_thrown (by decide) (rcv (C := RX3) (T := TX3) (N := 61) hC hb rfl) rfl rfl (st_c cat_e (Nat.le_of_ble_eq_true rfl)) dL_law_1765 (kI fun x273 M272 hw => ?_)
        refine G_iload (pc := 1768) (i := 6) hC dL_law_1768 rfl ?_
        refine G_icmp_eq (pc := 1770) (tgt := 1775) hC dL_law_1770 (by decide) (fun hc => ?_) (fun hc => ?_)
        · replace hw := hw.1 hc
          refine G_iload (pc := 1775) (i := 6) hC dL_law_1775 rfl ?_
          refine G_if_ne (pc := 1777) (tgt := 1792) hC dL_law_1777 (by decide) (fun hc => ?_) (fun hc => ?_)
          · replace hw := hw.1 hc
            refine G_loc (lv' := [some (va_rf (some a0)), some (va_rf v1), some (va_rf (some b270)), some (va_rf v3), some (va_rf v4), some (.int v5), none, none, none]) ⟨Or.inr rfl, Or.inr rfl, Or.inr rfl, Or.inr rfl, Or.inr rfl, Or.inr rfl, Or.inl rfl, Or.inl rfl, Or.inr rfl, trivial⟩ ?_
            exact g_L_law_1792 hJ hC hQ ih  v1 (some b270) v3 v4 v5 M272 hw
          · replace hw := hw.2 hc
            refine G_aload_n (pc := 1780) (i := 3) hC dL_law_1780 rfl rfl ?_
            refine G_iconst (pc := 1781) (v := 0) hC dL_law_1781 (by decide) ?_
            refine G_lald (pc := 1782) hC dL_law_1782 hw (fun x274 hw => ?_)
            refine G_iload (pc := 1783) (i := 7) hC dL_law_1783 rfl ?_
            refine G_i2l (pc := 1785) hC dL_law_1785 ?_
            refine G_lcmp (pc := 1786) hC dL_law_1786 ?_
            refine G_if_eq (pc := 1787) (tgt := 1792) hC dL_law_1787 (by decide) (fun hc => ?_) (fun hc => ?_)
            · replace hw := hw.1 hc
              refine G_loc (lv' := [some (va_rf (some a0)), some (va_rf v1), some (va_rf (some b270)), some (va_rf v3), some (va_rf v4), some (.int v5), none, none, none]) ⟨Or.inr rfl, Or.inr rfl, Or.inr rfl, Or.inr rfl, Or.inr rfl, Or.inr rfl, Or.inl rfl, Or.inl rfl, Or.inr rfl, trivial⟩ ?_
              exact g_L_law_1792 hJ hC hQ ih  v1 (some b270) v3 v4 v5 M272 hw
            · replace hw := hw.2 hc
              refine G_iconst (pc := 1790) (v := 0) hC dL_law_1790 (by decide) ?_
              exact hw.elim
        · replace hw := hw.2 hc
          refine G_iconst (pc := 1773) (v := 0) hC dL_law_1773 (by decide) ?_
          exact hw.elim
      by_cases hc26 : (x1 &&& (63 : Int32)) = (26 : Int32)
      · replace hw := hw.2.2.2.2.2.2.2.2.2.2.2.2.2.2.2.2.2.2.2.2.2.2.2.2.2.2.1 hc26
        refine G_tableIn (pc := 44) (off := 1751) (tgt := 1795) hC dL_law_44 (by rw [hc26]; decide) (by rw [hc26]; decide) (by rw [hc26]; rfl) (by decide) ?_
        refine G_aload_n (pc := 1795) (i := 1) hC dL_law_1795 rfl rfl ?_
        refine G_aload_n (pc := 1796) (i := 3) hC dL_law_1796 rfl rfl ?_
        refine GX_callSW (pc := 1797) (n := 2) (As := [va_rf v1, va_rf v3]) (rest := []) hC (m_X0_mergedLength hJ hw) (lw_SW q3058 q3059 q83 q3060) hdL_X0_mergedLength.2 (by decide) rfl rfl (st_c cat_e (Nat.le_of_ble_eq_true rfl)) dL_law_1797 (fun E q M hx => hx.elim) (kI fun x276 M275 hw => ?_)
        refine G_istore (pc := 1800) (i := 6) (lw := [some (va_rf (some a0)), some (va_rf v1), some (va_rf v2), some (va_rf v3), some (va_rf v4), some (.int v5), some (.int x276), none, none]) hC dL_law_1800 (Nat.le_of_ble_eq_true rfl) rfl ?_
        refine G_aload_n (pc := 1802) (i := 2) hC dL_law_1802 rfl rfl ?_
        obtain ⟨b278, rfl, hb, hw⟩ := gThis_e hw
        refine G_callV (pc := 1803) (n := 0) (C := "MergeWorkbenchModel") (b := b278) (As := []) (rest := []) hC (m_X3_mergedLength hJ hw) (lw_V q3789 q3790 q3791 q108 q3792) hdL_X3_mergedLength (by decide) (rcv (C := RX3) (T := TX3) (N := 61) hC hb rfl) rfl rfl (st_c cat_e (Nat.le_of_ble_eq_true rfl)) dL_law_1803 (kI fun x279 M277 hw => ?_)
        refine G_istore (pc := 1806) (i := 7) (lw := [some (va_rf (some a0)), some (va_rf v1), some (va_rf (some b278)), some (va_rf v3), some (va_rf v4), some (.int v5), some (.int x276), some (.int x279), none]) hC dL_law_1806 (Nat.le_of_ble_eq_true rfl) rfl ?_
        refine G_aload_n (pc := 1808) (i := 2) hC dL_law_1808 rfl rfl ?_
        obtain ⟨hb, hw⟩ := hw
        refine G_callV (pc := 1809) (n := 0) (C := "MergeWorkbenchModel") (b := b278) (As := []) (rest := []) hC (m_X3_thrown hJ hw) (lw_V q3559 q3560 q3561 q108 q3562) hdL_X3_thrown (by decide) (rcv (C := RX3) (T := TX3) (N := 61) hC hb rfl) rfl rfl (st_c cat_e (Nat.le_of_ble_eq_true rfl)) dL_law_1809 (kI fun x281 M280 hw => ?_)
        refine G_iload (pc := 1812) (i := 6) hC dL_law_1812 rfl ?_
        refine G_icmp_eq (pc := 1814) (tgt := 1819) hC dL_law_1814 (by decide) (fun hc => ?_) (fun hc => ?_)
        · replace hw := hw.1 hc
          refine G_iload (pc := 1819) (i := 6) hC dL_law_1819 rfl ?_
          refine G_if_ne (pc := 1821) (tgt := 1836) hC dL_law_1821 (by decide) (fun hc => ?_) (fun hc => ?_)
          · replace hw := hw.1 hc
            refine G_loc (lv' := [some (va_rf (some a0)), some (va_rf v1), some (va_rf (some b278)), some (va_rf v3), some (va_rf v4), some (.int v5), none, none, none]) ⟨Or.inr rfl, Or.inr rfl, Or.inr rfl, Or.inr rfl, Or.inr rfl, Or.inr rfl, Or.inl rfl, Or.inl rfl, Or.inr rfl, trivial⟩ ?_
            exact g_L_law_1836 hJ hC hQ ih  v1 (some b278) v3 v4 v5 M280 hw
          · replace hw := hw.2 hc
            refine G_aload_n (pc := 1824) (i := 3) hC dL_law_1824 rfl rfl ?_
            refine G_iconst (pc := 1825) (v := 0) hC dL_law_1825 (by decide) ?_
            refine G_lald (pc := 1826) hC dL_law_1826 hw (fun x282 hw => ?_)
            refine G_iload (pc := 1827) (i := 7) hC dL_law_1827 rfl ?_
            refine G_i2l (pc := 1829) hC dL_law_1829 ?_
            refine G_lcmp (pc := 1830) hC dL_law_1830 ?_
            refine G_if_eq (pc := 1831) (tgt := 1836) hC dL_law_1831 (by decide) (fun hc => ?_) (fun hc => ?_)
            · replace hw := hw.1 hc
              refine G_loc (lv' := [some (va_rf (some a0)), some (va_rf v1), some (va_rf (some b278)), some (va_rf v3), some (va_rf v4), some (.int v5), none, none, none]) ⟨Or.inr rfl, Or.inr rfl, Or.inr rfl, Or.inr rfl, Or.inr rfl, Or.inr rfl, Or.inl rfl, Or.inl rfl, Or.inr rfl, trivial⟩ ?_
              exact g_L_law_1836 hJ hC hQ ih  v1 (some b278) v3 v4 v5 M280 hw
            · replace hw := hw.2 hc
              refine G_iconst (pc := 1834) (v := 0) hC dL_law_1834 (by decide) ?_
              exact hw.elim
        · replace hw := hw.2 hc
          refine G_iconst (pc := 1817) (v := 0) hC dL_law_1817 (by decide) ?_
          exact hw.elim
      by_cases hc27 : (x1 &&& (63 : Int32)) = (27 : Int32)
      · replace hw := hw.2.2.2.2.2.2.2.2.2.2.2.2.2.2.2.2.2.2.2.2.2.2.2.2.2.2.2.1 hc27
        refine G_tableIn (pc := 44) (off := 1795) (tgt := 1839) hC dL_law_44 (by rw [hc27]; decide) (by rw [hc27]; decide) (by rw [hc27]; rfl) (by decide) ?_
        refine G_aload_n (pc := 1839) (i := 1) hC dL_law_1839 rfl rfl ?_
        refine G_aload_n (pc := 1840) (i := 0) hC dL_law_1840 rfl rfl ?_
        refine G_iload (pc := 1841) (i := 5) hC dL_law_1841 rfl ?_
        refine G_iconst (pc := 1843) (v := 1) hC dL_law_1843 (by decide) ?_
        refine G_iadd (pc := 1844) hC dL_law_1844 ?_
        refine G_sld (pc := 1845) hC hQ dL_law_1845 hw (fun x283 hw => ?_)
        refine G_aload_n (pc := 1846) (i := 3) hC dL_law_1846 rfl rfl ?_
        refine GX_callSW (pc := 1847) (n := 3) (As := [va_rf v1, .int x283, va_rf v3]) (rest := []) hC (m_X0_merged hJ hw) (lw_SW q3070 q3071 q83 q3072) hdL_X0_merged.2 (by decide) rfl rfl (st_c cat_e (Nat.le_of_ble_eq_true rfl)) dL_law_1847 (fun E q M hx => hx.elim) (kI fun x285 M284 hw => ?_)
        refine G_istore (pc := 1850) (i := 6) (lw := [some (va_rf (some a0)), some (va_rf v1), some (va_rf v2), some (va_rf v3), some (va_rf v4), some (.int v5), some (.int x285), none, none]) hC dL_law_1850 (Nat.le_of_ble_eq_true rfl) rfl ?_
        refine G_aload_n (pc := 1852) (i := 2) hC dL_law_1852 rfl rfl ?_
        refine G_aload_n (pc := 1853) (i := 0) hC dL_law_1853 rfl rfl ?_
        refine G_iload (pc := 1854) (i := 5) hC dL_law_1854 rfl ?_
        refine G_iconst (pc := 1856) (v := 1) hC dL_law_1856 (by decide) ?_
        refine G_iadd (pc := 1857) hC dL_law_1857 ?_
        refine G_sld (pc := 1858) hC hQ dL_law_1858 hw (fun x286 hw => ?_)
        obtain ⟨b288, rfl, hb, hw⟩ := gThis_e hw
        refine G_callV (pc := 1859) (n := 1) (C := "MergeWorkbenchModel") (b := b288) (As := [.int x286]) (rest := []) hC (m_X3_merged hJ hw) (lw_V q3797 q3798 q3799 q108 q3800) hdL_X3_merged (by decide) (rcv (C := RX3) (T := TX3) (N := 61) hC hb rfl) rfl rfl (st_c cat_e (Nat.le_of_ble_eq_true rfl)) dL_law_1859 (kI fun x289 M287 hw => ?_)
        refine G_istore (pc := 1862) (i := 7) (lw := [some (va_rf (some a0)), some (va_rf v1), some (va_rf (some b288)), some (va_rf v3), some (va_rf v4), some (.int v5), some (.int x285), some (.int x289), none]) hC dL_law_1862 (Nat.le_of_ble_eq_true rfl) rfl ?_
        refine G_aload_n (pc := 1864) (i := 2) hC dL_law_1864 rfl rfl ?_
        obtain ⟨hb, hw⟩ := hw
        refine G_callV (pc := 1865) (n := 0) (C := "MergeWorkbenchModel") (b := b288) (As := []) (rest := []) hC (m_X3_thrown hJ hw) (lw_V q3559 q3560 q3561 q108 q3562) hdL_X3_thrown (by decide) (rcv (C := RX3) (T := TX3) (N := 61) hC hb rfl) rfl rfl (st_c cat_e (Nat.le_of_ble_eq_true rfl)) dL_law_1865 (kI fun x291 M290 hw => ?_)
        refine G_iload (pc := 1868) (i := 6) hC dL_law_1868 rfl ?_
        refine G_icmp_eq (pc := 1870) (tgt := 1875) hC dL_law_1870 (by decide) (fun hc => ?_) (fun hc => ?_)
        · replace hw := hw.1 hc
          refine G_iload (pc := 1875) (i := 6) hC dL_law_1875 rfl ?_
          refine G_if_ne (pc := 1877) (tgt := 1892) hC dL_law_1877 (by decide) (fun hc => ?_) (fun hc => ?_)
          · replace hw := hw.1 hc
            refine G_loc (lv' := [some (va_rf (some a0)), some (va_rf v1), some (va_rf (some b288)), some (va_rf v3), some (va_rf v4), some (.int v5), none, none, none]) ⟨Or.inr rfl, Or.inr rfl, Or.inr rfl, Or.inr rfl, Or.inr rfl, Or.inr rfl, Or.inl rfl, Or.inl rfl, Or.inr rfl, trivial⟩ ?_
            exact g_L_law_1892 hJ hC hQ ih  v1 (some b288) v3 v4 v5 M290 hw
          · replace hw := hw.2 hc
            refine G_aload_n (pc := 1880) (i := 3) hC dL_law_1880 rfl rfl ?_
            refine G_iconst (pc := 1881) (v := 0) hC dL_law_1881 (by decide) ?_
            refine G_lald (pc := 1882) hC dL_law_1882 hw (fun x292 hw => ?_)
            refine G_iload (pc := 1883) (i := 7) hC dL_law_1883 rfl ?_
            refine G_i2l (pc := 1885) hC dL_law_1885 ?_
            refine G_lcmp (pc := 1886) hC dL_law_1886 ?_
            refine G_if_eq (pc := 1887) (tgt := 1892) hC dL_law_1887 (by decide) (fun hc => ?_) (fun hc => ?_)
            · replace hw := hw.1 hc
              refine G_loc (lv' := [some (va_rf (some a0)), some (va_rf v1), some (va_rf (some b288)), some (va_rf v3), some (va_rf v4), some (.int v5), none, none, none]) ⟨Or.inr rfl, Or.inr rfl, Or.inr rfl, Or.inr rfl, Or.inr rfl, Or.inr rfl, Or.inl rfl, Or.inl rfl, Or.inr rfl, trivial⟩ ?_
              exact g_L_law_1892 hJ hC hQ ih  v1 (some b288) v3 v4 v5 M290 hw
            · replace hw := hw.2 hc
              refine G_iconst (pc := 1890) (v := 0) hC dL_law_1890 (by decide) ?_
              exact hw.elim
        · replace hw := hw.2 hc
          refine G_iconst (pc := 1873) (v := 0) hC dL_law_1873 (by decide) ?_
          exact hw.elim
      by_cases hc28 : (x1 &&& (63 : Int32)) = (28 : Int32)
      · replace hw := hw.2.2.2.2.2.2.2.2.2.2.2.2.2.2.2.2.2.2.2.2.2.2.2.2.2.2.2.2.1 hc28
        refine G_tableIn (pc := 44) (off := 1851) (tgt := 1895) hC dL_law_44 (by rw [hc28]; decide) (by rw [hc28]; decide) (by rw [hc28]; rfl) (by decide) ?_
        refine G_aload_n (pc := 1895) (i := 1) hC dL_law_1895 rfl rfl ?_
        refine G_aload_n (pc := 1896) (i := 0) hC dL_law_1896 rfl rfl ?_
        refine G_iload (pc := 1897) (i := 5) hC dL_law_1897 rfl ?_
        refine G_iconst (pc := 1899) (v := 1) hC dL_law_1899 (by decide) ?_
        refine G_iadd (pc := 1900) hC dL_law_1900 ?_
        refine G_sld (pc := 1901) hC hQ dL_law_1901 hw (fun x293 hw => ?_)
        refine G_aload_n (pc := 1902) (i := 3) hC dL_law_1902 rfl rfl ?_
        refine GX_callSW (pc := 1903) (n := 3) (As := [va_rf v1, .int x293, va_rf v3]) (rest := []) hC (m_X0_accept hJ hw) (lw_SW q3077 q3078 q83 q3079) hdL_X0_accept.2 (by decide) rfl rfl (st_c cat_e (Nat.le_of_ble_eq_true rfl)) dL_law_1903 (fun E q M hx => hx.elim) (kI fun x295 M294 hw => ?_)
        refine G_istore (pc := 1906) (i := 6) (lw := [some (va_rf (some a0)), some (va_rf v1), some (va_rf v2), some (va_rf v3), some (va_rf v4), some (.int v5), some (.int x295), none, none]) hC dL_law_1906 (Nat.le_of_ble_eq_true rfl) rfl ?_
        refine G_aload_n (pc := 1908) (i := 2) hC dL_law_1908 rfl rfl ?_
        refine G_aload_n (pc := 1909) (i := 0) hC dL_law_1909 rfl rfl ?_
        refine G_iload (pc := 1910) (i := 5) hC dL_law_1910 rfl ?_
        refine G_iconst (pc := 1912) (v := 1) hC dL_law_1912 (by decide) ?_
        refine G_iadd (pc := 1913) hC dL_law_1913 ?_
        refine G_sld (pc := 1914) hC hQ dL_law_1914 hw (fun x296 hw => ?_)
        obtain ⟨b298, rfl, hb, hw⟩ := gThis_e hw
        refine G_callV (pc := 1915) (n := 1) (C := "MergeWorkbenchModel") (b := b298) (As := [.int x296]) (rest := []) hC (m_X3_accept hJ hw) (lw_V q3801 q3802 q3803 q108 q3804) hdL_X3_accept (by decide) (rcv (C := RX3) (T := TX3) (N := 61) hC hb rfl) rfl rfl (st_c cat_e (Nat.le_of_ble_eq_true rfl)) dL_law_1915 (kI fun x299 M297 hw => ?_)
        refine G_istore (pc := 1918) (i := 7) (lw := [some (va_rf (some a0)), some (va_rf v1), some (va_rf (some b298)), some (va_rf v3), some (va_rf v4), some (.int v5), some (.int x295), some (.int x299), none]) hC dL_law_1918 (Nat.le_of_ble_eq_true rfl) rfl ?_
        refine G_aload_n (pc := 1920) (i := 2) hC dL_law_1920 rfl rfl ?_
        obtain ⟨hb, hw⟩ := hw
        refine G_callV (pc := 1921) (n := 0) (C := "MergeWorkbenchModel") (b := b298) (As := []) (rest := []) hC (m_X3_thrown hJ hw) (lw_V q3559 q3560 q3561 q108 q3562) hdL_X3_thrown (by decide) (rcv (C := RX3) (T := TX3) (N := 61) hC hb rfl) rfl rfl (st_c cat_e (Nat.le_of_ble_eq_true rfl)) dL_law_1921 (kI fun x301 M300 hw => ?_)
        refine G_iload (pc := 1924) (i := 6) hC dL_law_1924 rfl ?_
        refine G_icmp_eq (pc := 1926) (tgt := 1931) hC dL_law_1926 (by decide) (fun hc => ?_) (fun hc => ?_)
        · replace hw := hw.1 hc
          refine G_iload (pc := 1931) (i := 6) hC dL_law_1931 rfl ?_
          refine G_if_ne (pc := 1933) (tgt := 1948) hC dL_law_1933 (by decide) (fun hc => ?_) (fun hc => ?_)
          · replace hw := hw.1 hc
            refine G_loc (lv' := [some (va_rf (some a0)), some (va_rf v1), some (va_rf (some b298)), some (va_rf v3), some (va_rf v4), some (.int v5), none, none, none]) ⟨Or.inr rfl, Or.inr rfl, Or.inr rfl, Or.inr rfl, Or.inr rfl, Or.inr rfl, Or.inl rfl, Or.inl rfl, Or.inr rfl, trivial⟩ ?_
            exact g_L_law_1948 hJ hC hQ ih  v1 (some b298) v3 v4 v5 M300 hw
          · replace hw := hw.2 hc
            refine G_aload_n (pc := 1936) (i := 3) hC dL_law_1936 rfl rfl ?_
            refine G_iconst (pc := 1937) (v := 0) hC dL_law_1937 (by decide) ?_
            refine G_lald (pc := 1938) hC dL_law_1938 hw (fun x302 hw => ?_)
            refine G_iload (pc := 1939) (i := 7) hC dL_law_1939 rfl ?_
            refine G_i2l (pc := 1941) hC dL_law_1941 ?_
            refine G_lcmp (pc := 1942) hC dL_law_1942 ?_
            refine G_if_eq (pc := 1943) (tgt := 1948) hC dL_law_1943 (by decide) (fun hc => ?_) (fun hc => ?_)
            · replace hw := hw.1 hc
              refine G_loc (lv' := [some (va_rf (some a0)), some (va_rf v1), some (va_rf (some b298)), some (va_rf v3), some (va_rf v4), some (.int v5), none, none, none]) ⟨Or.inr rfl, Or.inr rfl, Or.inr rfl, Or.inr rfl, Or.inr rfl, Or.inr rfl, Or.inl rfl, Or.inl rfl, Or.inr rfl, trivial⟩ ?_
              exact g_L_law_1948 hJ hC hQ ih  v1 (some b298) v3 v4 v5 M300 hw
            · replace hw := hw.2 hc
              refine G_iconst (pc := 1946) (v := 0) hC dL_law_1946 (by decide) ?_
              exact hw.elim
        · replace hw := hw.2 hc
          refine G_iconst (pc := 1929) (v := 0) hC dL_law_1929 (by decide) ?_
          exact hw.elim
      by_cases hc29 : (x1 &&& (63 : Int32)) = (29 : Int32)
      · replace hw := hw.2.2.2.2.2.2.2.2.2.2.2.2.2.2.2.2.2.2.2.2.2.2.2.2.2.2.2.2.2.1 hc29
        refine G_tableIn (pc := 44) (off := 1907) (tgt := 1951) hC dL_law_44 (by rw [hc29]; decide) (by rw [hc29]; decide) (by rw [hc29]; rfl) (by decide) ?_
        refine G_aload_n (pc := 1951) (i := 1) hC dL_law_1951 rfl rfl ?_
        refine G_aload_n (pc := 1952) (i := 0) hC dL_law_1952 rfl rfl ?_
        refine G_iload (pc := 1953) (i := 5) hC dL_law_1953 rfl ?_
        refine G_iconst (pc := 1955) (v := 1) hC dL_law_1955 (by decide) ?_
        refine G_iadd (pc := 1956) hC dL_law_1956 ?_
        refine G_sld (pc := 1957) hC hQ dL_law_1957 hw (fun x303 hw => ?_)
        refine G_aload_n (pc := 1958) (i := 3) hC dL_law_1958 rfl rfl ?_
        refine GX_callSW (pc := 1959) (n := 3) (As := [va_rf v1, .int x303, va_rf v3]) (rest := []) hC (m_X0_makePatch hJ hw) (lw_SW q3087 q3088 q83 q3089) hdL_X0_makePatch.2 (by decide) rfl rfl (st_c cat_e (Nat.le_of_ble_eq_true rfl)) dL_law_1959 (fun E q M hx => hx.elim) (kI fun x305 M304 hw => ?_)
        refine G_istore (pc := 1962) (i := 6) (lw := [some (va_rf (some a0)), some (va_rf v1), some (va_rf v2), some (va_rf v3), some (va_rf v4), some (.int v5), some (.int x305), none, none]) hC dL_law_1962 (Nat.le_of_ble_eq_true rfl) rfl ?_
        refine G_aload_n (pc := 1964) (i := 2) hC dL_law_1964 rfl rfl ?_
        refine G_aload_n (pc := 1965) (i := 0) hC dL_law_1965 rfl rfl ?_
        refine G_iload (pc := 1966) (i := 5) hC dL_law_1966 rfl ?_
        refine G_iconst (pc := 1968) (v := 1) hC dL_law_1968 (by decide) ?_
        refine G_iadd (pc := 1969) hC dL_law_1969 ?_
        refine G_sld (pc := 1970) hC hQ dL_law_1970 hw (fun x306 hw => ?_)
        obtain ⟨b308, rfl, hb, hw⟩ := gThis_e hw
        refine G_callV (pc := 1971) (n := 1) (C := "MergeWorkbenchModel") (b := b308) (As := [.int x306]) (rest := []) hC (m_X3_makePatch hJ hw) (lw_V q3805 q3806 q3807 q108 q3808) hdL_X3_makePatch (by decide) (rcv (C := RX3) (T := TX3) (N := 61) hC hb rfl) rfl rfl (st_c cat_e (Nat.le_of_ble_eq_true rfl)) dL_law_1971 (kI fun x309 M307 hw => ?_)
        refine G_istore (pc := 1974) (i := 7) (lw := [some (va_rf (some a0)), some (va_rf v1), some (va_rf (some b308)), some (va_rf v3), some (va_rf v4), some (.int v5), some (.int x305), some (.int x309), none]) hC dL_law_1974 (Nat.le_of_ble_eq_true rfl) rfl ?_
        refine G_aload_n (pc := 1976) (i := 2) hC dL_law_1976 rfl rfl ?_
        obtain ⟨hb, hw⟩ := hw
        refine G_callV (pc := 1977) (n := 0) (C := "MergeWorkbenchModel") (b := b308) (As := []) (rest := []) hC (m_X3_thrown hJ hw) (lw_V q3559 q3560 q3561 q108 q3562) hdL_X3_thrown (by decide) (rcv (C := RX3) (T := TX3) (N := 61) hC hb rfl) rfl rfl (st_c cat_e (Nat.le_of_ble_eq_true rfl)) dL_law_1977 (kI fun x311 M310 hw => ?_)
        refine G_iload (pc := 1980) (i := 6) hC dL_law_1980 rfl ?_
        refine G_icmp_eq (pc := 1982) (tgt := 1987) hC dL_law_1982 (by decide) (fun hc => ?_) (fun hc => ?_)
        · replace hw := hw.1 hc
          refine G_iload (pc := 1987) (i := 6) hC dL_law_1987 rfl ?_
          refine G_if_ne (pc := 1989) (tgt := 2004) hC dL_law_1989 (by decide) (fun hc => ?_) (fun hc => ?_)
          · replace hw := hw.1 hc
            refine G_loc (lv' := [some (va_rf (some a0)), some (va_rf v1), some (va_rf (some b308)), some (va_rf v3), some (va_rf v4), some (.int v5), none, none, none]) ⟨Or.inr rfl, Or.inr rfl, Or.inr rfl, Or.inr rfl, Or.inr rfl, Or.inr rfl, Or.inl rfl, Or.inl rfl, Or.inr rfl, trivial⟩ ?_
            exact g_L_law_2004 hJ hC hQ ih  v1 (some b308) v3 v4 v5 M310 hw
          · replace hw := hw.2 hc
            refine G_aload_n (pc := 1992) (i := 3) hC dL_law_1992 rfl rfl ?_
            refine G_iconst (pc := 1993) (v := 0) hC dL_law_1993 (by decide) ?_
            refine G_lald (pc := 1994) hC dL_law_1994 hw (fun x312 hw => ?_)
            refine G_iload (pc := 1995) (i := 7) hC dL_law_1995 rfl ?_
            refine G_i2l (pc := 1997) hC dL_law_1997 ?_
            refine G_lcmp (pc := 1998) hC dL_law_1998 ?_
            refine G_if_eq (pc := 1999) (tgt := 2004) hC dL_law_1999 (by decide) (fun hc => ?_) (fun hc => ?_)
            · replace hw := hw.1 hc
              refine G_loc (lv' := [some (va_rf (some a0)), some (va_rf v1), some (va_rf (some b308)), some (va_rf v3), some (va_rf v4), some (.int v5), none, none, none]) ⟨Or.inr rfl, Or.inr rfl, Or.inr rfl, Or.inr rfl, Or.inr rfl, Or.inr rfl, Or.inl rfl, Or.inl rfl, Or.inr rfl, trivial⟩ ?_
              exact g_L_law_2004 hJ hC hQ ih  v1 (some b308) v3 v4 v5 M310 hw
            · replace hw := hw.2 hc
              refine G_iconst (pc := 2002) (v := 0) hC dL_law_2002 (by decide) ?_
              exact hw.elim
        · replace hw := hw.2 hc
          refine G_iconst (pc := 1985) (v := 0) hC dL_law_1985 (by decide) ?_
          exact hw.elim
      by_cases hc30 : (x1 &&& (63 : Int32)) = (30 : Int32)
      · replace hw := hw.2.2.2.2.2.2.2.2.2.2.2.2.2.2.2.2.2.2.2.2.2.2.2.2.2.2.2.2.2.2.1 hc30
        refine G_tableIn (pc := 44) (off := 1963) (tgt := 2007) hC dL_law_44 (by rw [hc30]; decide) (by rw [hc30]; decide) (by rw [hc30]; rfl) (by decide) ?_
        refine G_aload_n (pc := 2007) (i := 1) hC dL_law_2007 rfl rfl ?_
        refine G_aload_n (pc := 2008) (i := 0) hC dL_law_2008 rfl rfl ?_
        refine G_iload (pc := 2009) (i := 5) hC dL_law_2009 rfl ?_
        refine G_iconst (pc := 2011) (v := 1) hC dL_law_2011 (by decide) ?_
        refine G_iadd (pc := 2012) hC dL_law_2012 ?_
        refine G_sld (pc := 2013) hC hQ dL_law_2013 hw (fun x313 hw => ?_)
        refine G_aload_n (pc := 2014) (i := 0) hC dL_law_2014 rfl rfl ?_
        refine G_iload (pc := 2015) (i := 5) hC dL_law_2015 rfl ?_
        refine G_iconst (pc := 2017) (v := 2) hC dL_law_2017 (by decide) ?_
        refine G_iadd (pc := 2018) hC dL_law_2018 ?_
        refine G_sld (pc := 2019) hC hQ dL_law_2019 hw (fun x314 hw => ?_)
        refine G_aload_n (pc := 2020) (i := 3) hC dL_law_2020 rfl rfl ?_
        refine GX_callSW (pc := 2021) (n := 4) (As := [va_rf v1, .int x313, .int x314, va_rf v3]) (rest := []) hC (m_X0_hunk hJ hw) (lw_SW q3145 q3146 q83 q3147) hdL_X0_hunk.2 (by decide) rfl rfl (st_c cat_e (Nat.le_of_ble_eq_true rfl)) dL_law_2021 (fun E q M hx => hx.elim) (kI fun x316 M315 hw => ?_)
        refine G_istore (pc := 2024) (i := 6) (lw := [some (va_rf (some a0)), some (va_rf v1), some (va_rf v2), some (va_rf v3), some (va_rf v4), some (.int v5), some (.int x316), none, none]) hC dL_law_2024 (Nat.le_of_ble_eq_true rfl) rfl ?_
        refine G_aload_n (pc := 2026) (i := 2) hC dL_law_2026 rfl rfl ?_
        refine G_aload_n (pc := 2027) (i := 0) hC dL_law_2027 rfl rfl ?_
        refine G_iload (pc := 2028) (i := 5) hC dL_law_2028 rfl ?_
        refine G_iconst (pc := 2030) (v := 1) hC dL_law_2030 (by decide) ?_
        refine G_iadd (pc := 2031) hC dL_law_2031 ?_
        refine G_sld (pc := 2032) hC hQ dL_law_2032 hw (fun x317 hw => ?_)
        refine G_aload_n (pc := 2033) (i := 0) hC dL_law_2033 rfl rfl ?_
        refine G_iload (pc := 2034) (i := 5) hC dL_law_2034 rfl ?_
        refine G_iconst (pc := 2036) (v := 2) hC dL_law_2036 (by decide) ?_
        refine G_iadd (pc := 2037) hC dL_law_2037 ?_
        refine G_sld (pc := 2038) hC hQ dL_law_2038 hw (fun x318 hw => ?_)
        obtain ⟨b320, rfl, hb, hw⟩ := gThis_e hw
        refine G_callV (pc := 2039) (n := 2) (C := "MergeWorkbenchModel") (b := b320) (As := [.int x317, .int x318]) (rest := []) hC (m_X3_hunk hJ hw) (lw_V q3812 q3813 q3814 q108 q3815) hdL_X3_hunk (by decide) (rcv (C := RX3) (T := TX3) (N := 61) hC hb rfl) rfl rfl (st_c cat_e (Nat.le_of_ble_eq_true rfl)) dL_law_2039 (kI fun x321 M319 hw => ?_)
        refine G_istore (pc := 2042) (i := 7) (lw := [some (va_rf (some a0)), some (va_rf v1), some (va_rf (some b320)), some (va_rf v3), some (va_rf v4), some (.int v5), some (.int x316), some (.int x321), none]) hC dL_law_2042 (Nat.le_of_ble_eq_true rfl) rfl ?_
        refine G_aload_n (pc := 2044) (i := 2) hC dL_law_2044 rfl rfl ?_
        obtain ⟨hb, hw⟩ := hw
        refine G_callV (pc := 2045) (n := 0) (C := "MergeWorkbenchModel") (b := b320) (As := []) (rest := []) hC (m_X3_thrown hJ hw) (lw_V q3559 q3560 q3561 q108 q3562) hdL_X3_thrown (by decide) (rcv (C := RX3) (T := TX3) (N := 61) hC hb rfl) rfl rfl (st_c cat_e (Nat.le_of_ble_eq_true rfl)) dL_law_2045 (kI fun x323 M322 hw => ?_)
        refine G_iload (pc := 2048) (i := 6) hC dL_law_2048 rfl ?_
        refine G_icmp_eq (pc := 2050) (tgt := 2055) hC dL_law_2050 (by decide) (fun hc => ?_) (fun hc => ?_)
        · replace hw := hw.1 hc
          refine G_iload (pc := 2055) (i := 6) hC dL_law_2055 rfl ?_
          refine G_if_ne (pc := 2057) (tgt := 2072) hC dL_law_2057 (by decide) (fun hc => ?_) (fun hc => ?_)
          · replace hw := hw.1 hc
            refine G_loc (lv' := [some (va_rf (some a0)), some (va_rf v1), some (va_rf (some b320)), some (va_rf v3), some (va_rf v4), some (.int v5), none, none, none]) ⟨Or.inr rfl, Or.inr rfl, Or.inr rfl, Or.inr rfl, Or.inr rfl, Or.inr rfl, Or.inl rfl, Or.inl rfl, Or.inr rfl, trivial⟩ ?_
            exact g_L_law_2072 hJ hC hQ ih  v1 (some b320) v3 v4 v5 M322 hw
          · replace hw := hw.2 hc
            refine G_aload_n (pc := 2060) (i := 3) hC dL_law_2060 rfl rfl ?_
            refine G_iconst (pc := 2061) (v := 0) hC dL_law_2061 (by decide) ?_
            refine G_lald (pc := 2062) hC dL_law_2062 hw (fun x324 hw => ?_)
            refine G_iload (pc := 2063) (i := 7) hC dL_law_2063 rfl ?_
            refine G_i2l (pc := 2065) hC dL_law_2065 ?_
            refine G_lcmp (pc := 2066) hC dL_law_2066 ?_
            refine G_if_eq (pc := 2067) (tgt := 2072) hC dL_law_2067 (by decide) (fun hc => ?_) (fun hc => ?_)
            · replace hw := hw.1 hc
              refine G_loc (lv' := [some (va_rf (some a0)), some (va_rf v1), some (va_rf (some b320)), some (va_rf v3), some (va_rf v4), some (.int v5), none, none, none]) ⟨Or.inr rfl, Or.inr rfl, Or.inr rfl, Or.inr rfl, Or.inr rfl, Or.inr rfl, Or.inl rfl, Or.inl rfl, Or.inr rfl, trivial⟩ ?_
              exact g_L_law_2072 hJ hC hQ ih  v1 (some b320) v3 v4 v5 M322 hw
            · replace hw := hw.2 hc
              refine G_iconst (pc := 2070) (v := 0) hC dL_law_2070 (by decide) ?_
              exact hw.elim
        · replace hw := hw.2 hc
          refine G_iconst (pc := 2053) (v := 0) hC dL_law_2053 (by decide) ?_
          exact hw.elim
      by_cases hc31 : (x1 &&& (63 : Int32)) = (31 : Int32)
      · replace hw := hw.2.2.2.2.2.2.2.2.2.2.2.2.2.2.2.2.2.2.2.2.2.2.2.2.2.2.2.2.2.2.2.1 hc31
        refine G_tableIn (pc := 44) (off := 2031) (tgt := 2075) hC dL_law_44 (by rw [hc31]; decide) (by rw [hc31]; decide) (by rw [hc31]; rfl) (by decide) ?_
        refine G_aload_n (pc := 2075) (i := 1) hC dL_law_2075 rfl rfl ?_
        refine G_aload_n (pc := 2076) (i := 0) hC dL_law_2076 rfl rfl ?_
        refine G_iload (pc := 2077) (i := 5) hC dL_law_2077 rfl ?_
        refine G_iconst (pc := 2079) (v := 1) hC dL_law_2079 (by decide) ?_
        refine G_iadd (pc := 2080) hC dL_law_2080 ?_
        refine G_sld (pc := 2081) hC hQ dL_law_2081 hw (fun x325 hw => ?_)
        refine G_aload_n (pc := 2082) (i := 0) hC dL_law_2082 rfl rfl ?_
        refine G_iload (pc := 2083) (i := 5) hC dL_law_2083 rfl ?_
        refine G_iconst (pc := 2085) (v := 2) hC dL_law_2085 (by decide) ?_
        refine G_iadd (pc := 2086) hC dL_law_2086 ?_
        refine G_sld (pc := 2087) hC hQ dL_law_2087 hw (fun x326 hw => ?_)
        refine G_aload_n (pc := 2088) (i := 0) hC dL_law_2088 rfl rfl ?_
        refine G_iload (pc := 2089) (i := 5) hC dL_law_2089 rfl ?_
        refine G_iconst (pc := 2091) (v := 3) hC dL_law_2091 (by decide) ?_
        refine G_iadd (pc := 2092) hC dL_law_2092 ?_
        refine G_sld (pc := 2093) hC hQ dL_law_2093 hw (fun x327 hw => ?_)
        refine G_if_eq (pc := 2094) (tgt := 2101) hC dL_law_2094 (by decide) (fun hc => ?_) (fun hc => ?_)
        · replace hw := hw.1 hc
          refine G_iconst (pc := 2101) (v := 0) hC dL_law_2101 (by decide) ?_
          exact g_L_law_2102 hJ hC hQ ih  v1 v2 v3 v4 v5 v1 x325 x326 (0 : Int32) M hw
        · replace hw := hw.2 hc
          refine G_iconst (pc := 2097) (v := 1) hC dL_law_2097 (by decide) ?_
          refine G_goto (pc := 2098) (tgt := 2102) hC dL_law_2098 (by decide) ?_
          exact g_L_law_2102 hJ hC hQ ih  v1 v2 v3 v4 v5 v1 x325 x326 (1 : Int32) M hw
      by_cases hc32 : (x1 &&& (63 : Int32)) = (32 : Int32)
      · replace hw := hw.2.2.2.2.2.2.2.2.2.2.2.2.2.2.2.2.2.2.2.2.2.2.2.2.2.2.2.2.2.2.2.2.1 hc32
        refine G_tableIn (pc := 44) (off := 2127) (tgt := 2171) hC dL_law_44 (by rw [hc32]; decide) (by rw [hc32]; decide) (by rw [hc32]; rfl) (by decide) ?_
        refine G_aload_n (pc := 2171) (i := 1) hC dL_law_2171 rfl rfl ?_
        refine G_aload_n (pc := 2172) (i := 0) hC dL_law_2172 rfl rfl ?_
        refine G_iload (pc := 2173) (i := 5) hC dL_law_2173 rfl ?_
        refine G_iconst (pc := 2175) (v := 1) hC dL_law_2175 (by decide) ?_
        refine G_iadd (pc := 2176) hC dL_law_2176 ?_
        refine G_sld (pc := 2177) hC hQ dL_law_2177 hw (fun x328 hw => ?_)
        refine G_aload_n (pc := 2178) (i := 0) hC dL_law_2178 rfl rfl ?_
        refine G_iload (pc := 2179) (i := 5) hC dL_law_2179 rfl ?_
        refine G_iconst (pc := 2181) (v := 2) hC dL_law_2181 (by decide) ?_
        refine G_iadd (pc := 2182) hC dL_law_2182 ?_
        refine G_sld (pc := 2183) hC hQ dL_law_2183 hw (fun x329 hw => ?_)
        refine G_aload_n (pc := 2184) (i := 3) hC dL_law_2184 rfl rfl ?_
        refine GX_callSW (pc := 2185) (n := 4) (As := [va_rf v1, .int x328, .int x329, va_rf v3]) (rest := []) hC (m_X0_outcome hJ hw) (lw_SW q3266 q3267 q83 q3268) hdL_X0_outcome.2 (by decide) rfl rfl (st_c cat_e (Nat.le_of_ble_eq_true rfl)) dL_law_2185 (fun E q M hx => hx.elim) (kI fun x331 M330 hw => ?_)
        refine G_istore (pc := 2188) (i := 6) (lw := [some (va_rf (some a0)), some (va_rf v1), some (va_rf v2), some (va_rf v3), some (va_rf v4), some (.int v5), some (.int x331), none, none]) hC dL_law_2188 (Nat.le_of_ble_eq_true rfl) rfl ?_
        refine G_aload_n (pc := 2190) (i := 2) hC dL_law_2190 rfl rfl ?_
        refine G_aload_n (pc := 2191) (i := 0) hC dL_law_2191 rfl rfl ?_
        refine G_iload (pc := 2192) (i := 5) hC dL_law_2192 rfl ?_
        refine G_iconst (pc := 2194) (v := 1) hC dL_law_2194 (by decide) ?_
        refine G_iadd (pc := 2195) hC dL_law_2195 ?_
        refine G_sld (pc := 2196) hC hQ dL_law_2196 hw (fun x332 hw => ?_)
        refine G_aload_n (pc := 2197) (i := 0) hC dL_law_2197 rfl rfl ?_
        refine G_iload (pc := 2198) (i := 5) hC dL_law_2198 rfl ?_
        refine G_iconst (pc := 2200) (v := 2) hC dL_law_2200 (by decide) ?_
        refine G_iadd (pc := 2201) hC dL_law_2201 ?_
        refine G_sld (pc := 2202) hC hQ dL_law_2202 hw (fun x333 hw => ?_)
        obtain ⟨b335, rfl, hb, hw⟩ := gThis_e hw
        refine G_callV (pc := 2203) (n := 2) (C := "MergeWorkbenchModel") (b := b335) (As := [.int x332, .int x333]) (rest := []) hC (m_X3_outcome hJ hw) (lw_V q3832 q3833 q3834 q108 q3835) hdL_X3_outcome (by decide) (rcv (C := RX3) (T := TX3) (N := 61) hC hb rfl) rfl rfl (st_c cat_e (Nat.le_of_ble_eq_true rfl)) dL_law_2203 (kI fun x336 M334 hw => ?_)
        refine G_istore (pc := 2206) (i := 7) (lw := [some (va_rf (some a0)), some (va_rf v1), some (va_rf (some b335)), some (va_rf v3), some (va_rf v4), some (.int v5), some (.int x331), some (.int x336), none]) hC dL_law_2206 (Nat.le_of_ble_eq_true rfl) rfl ?_
        refine G_aload_n (pc := 2208) (i := 2) hC dL_law_2208 rfl rfl ?_
        obtain ⟨hb, hw⟩ := hw
        refine G_callV (pc := 2209) (n := 0) (C := "MergeWorkbenchModel") (b := b335) (As := []) (rest := []) hC (m_X3_thrown hJ hw) (lw_V q3559 q3560 q3561 q108 q3562) hdL_X3_thrown (by decide) (rcv (C := RX3) (T := TX3) (N := 61) hC hb rfl) rfl rfl (st_c cat_e (Nat.le_of_ble_eq_true rfl)) dL_law_2209 (kI fun x338 M337 hw => ?_)
        refine G_iload (pc := 2212) (i := 6) hC dL_law_2212 rfl ?_
        refine G_icmp_eq (pc := 2214) (tgt := 2219) hC dL_law_2214 (by decide) (fun hc => ?_) (fun hc => ?_)
        · replace hw := hw.1 hc
          refine G_iload (pc := 2219) (i := 6) hC dL_law_2219 rfl ?_
          refine G_if_ne (pc := 2221) (tgt := 2236) hC dL_law_2221 (by decide) (fun hc => ?_) (fun hc => ?_)
          · replace hw := hw.1 hc
            refine G_loc (lv' := [some (va_rf (some a0)), some (va_rf v1), some (va_rf (some b335)), some (va_rf v3), some (va_rf v4), some (.int v5), none, none, none]) ⟨Or.inr rfl, Or.inr rfl, Or.inr rfl, Or.inr rfl, Or.inr rfl, Or.inr rfl, Or.inl rfl, Or.inl rfl, Or.inr rfl, trivial⟩ ?_
            exact g_L_law_2236 hJ hC hQ ih  v1 (some b335) v3 v4 v5 M337 hw
          · replace hw := hw.2 hc
            refine G_aload_n (pc := 2224) (i := 3) hC dL_law_2224 rfl rfl ?_
            refine G_iconst (pc := 2225) (v := 0) hC dL_law_2225 (by decide) ?_
            refine G_lald (pc := 2226) hC dL_law_2226 hw (fun x339 hw => ?_)
            refine G_iload (pc := 2227) (i := 7) hC dL_law_2227 rfl ?_
            refine G_i2l (pc := 2229) hC dL_law_2229 ?_
            refine G_lcmp (pc := 2230) hC dL_law_2230 ?_
            refine G_if_eq (pc := 2231) (tgt := 2236) hC dL_law_2231 (by decide) (fun hc => ?_) (fun hc => ?_)
            · replace hw := hw.1 hc
              refine G_loc (lv' := [some (va_rf (some a0)), some (va_rf v1), some (va_rf (some b335)), some (va_rf v3), some (va_rf v4), some (.int v5), none, none, none]) ⟨Or.inr rfl, Or.inr rfl, Or.inr rfl, Or.inr rfl, Or.inr rfl, Or.inr rfl, Or.inl rfl, Or.inl rfl, Or.inr rfl, trivial⟩ ?_
              exact g_L_law_2236 hJ hC hQ ih  v1 (some b335) v3 v4 v5 M337 hw
            · replace hw := hw.2 hc
              refine G_iconst (pc := 2234) (v := 0) hC dL_law_2234 (by decide) ?_
              exact hw.elim
        · replace hw := hw.2 hc
          refine G_iconst (pc := 2217) (v := 0) hC dL_law_2217 (by decide) ?_
          exact hw.elim
      by_cases hc33 : (x1 &&& (63 : Int32)) = (33 : Int32)
      · replace hw := hw.2.2.2.2.2.2.2.2.2.2.2.2.2.2.2.2.2.2.2.2.2.2.2.2.2.2.2.2.2.2.2.2.2.1 hc33
        refine G_tableIn (pc := 44) (off := 2195) (tgt := 2239) hC dL_law_44 (by rw [hc33]; decide) (by rw [hc33]; decide) (by rw [hc33]; rfl) (by decide) ?_
        refine G_aload_n (pc := 2239) (i := 1) hC dL_law_2239 rfl rfl ?_
        refine G_aload_n (pc := 2240) (i := 3) hC dL_law_2240 rfl rfl ?_
        refine GX_callSW (pc := 2241) (n := 2) (As := [va_rf v1, va_rf v3]) (rest := []) hC (m_X0_undo hJ hw) (lw_SW q3274 q3275 q83 q3276) hdL_X0_undo.2 (by decide) rfl rfl (st_c cat_e (Nat.le_of_ble_eq_true rfl)) dL_law_2241 (fun E q M hx => hx.elim) (kI fun x341 M340 hw => ?_)
        refine G_istore (pc := 2244) (i := 6) (lw := [some (va_rf (some a0)), some (va_rf v1), some (va_rf v2), some (va_rf v3), some (va_rf v4), some (.int v5), some (.int x341), none, none]) hC dL_law_2244 (Nat.le_of_ble_eq_true rfl) rfl ?_
        refine G_aload_n (pc := 2246) (i := 2) hC dL_law_2246 rfl rfl ?_
        obtain ⟨b343, rfl, hb, hw⟩ := gThis_e hw
        refine G_callV (pc := 2247) (n := 0) (C := "MergeWorkbenchModel") (b := b343) (As := []) (rest := []) hC (m_X3_undo hJ hw) (lw_V q3836 q3837 q3838 q108 q3839) hdL_X3_undo (by decide) (rcv (C := RX3) (T := TX3) (N := 61) hC hb rfl) rfl rfl (st_c cat_e (Nat.le_of_ble_eq_true rfl)) dL_law_2247 (kI fun x344 M342 hw => ?_)
        refine G_istore (pc := 2250) (i := 7) (lw := [some (va_rf (some a0)), some (va_rf v1), some (va_rf (some b343)), some (va_rf v3), some (va_rf v4), some (.int v5), some (.int x341), some (.int x344), none]) hC dL_law_2250 (Nat.le_of_ble_eq_true rfl) rfl ?_
        refine G_aload_n (pc := 2252) (i := 2) hC dL_law_2252 rfl rfl ?_
        obtain ⟨hb, hw⟩ := hw
        refine G_callV (pc := 2253) (n := 0) (C := "MergeWorkbenchModel") (b := b343) (As := []) (rest := []) hC (m_X3_thrown hJ hw) (lw_V q3559 q3560 q3561 q108 q3562) hdL_X3_thrown (by decide) (rcv (C := RX3) (T := TX3) (N := 61) hC hb rfl) rfl rfl (st_c cat_e (Nat.le_of_ble_eq_true rfl)) dL_law_2253 (kI fun x346 M345 hw => ?_)
        refine G_iload (pc := 2256) (i := 6) hC dL_law_2256 rfl ?_
        refine G_icmp_eq (pc := 2258) (tgt := 2263) hC dL_law_2258 (by decide) (fun hc => ?_) (fun hc => ?_)
        · replace hw := hw.1 hc
          refine G_iload (pc := 2263) (i := 6) hC dL_law_2263 rfl ?_
          refine G_if_ne (pc := 2265) (tgt := 2280) hC dL_law_2265 (by decide) (fun hc => ?_) (fun hc => ?_)
          · replace hw := hw.1 hc
            refine G_loc (lv' := [some (va_rf (some a0)), some (va_rf v1), some (va_rf (some b343)), some (va_rf v3), some (va_rf v4), some (.int v5), none, none, none]) ⟨Or.inr rfl, Or.inr rfl, Or.inr rfl, Or.inr rfl, Or.inr rfl, Or.inr rfl, Or.inl rfl, Or.inl rfl, Or.inr rfl, trivial⟩ ?_
            exact g_L_law_2280 hJ hC hQ ih  v1 (some b343) v3 v4 v5 M345 hw
          · replace hw := hw.2 hc
            refine G_aload_n (pc := 2268) (i := 3) hC dL_law_2268 rfl rfl ?_
            refine G_iconst (pc := 2269) (v := 0) hC dL_law_2269 (by decide) ?_
            refine G_lald (pc := 2270) hC dL_law_2270 hw (fun x347 hw => ?_)
            refine G_iload (pc := 2271) (i := 7) hC dL_law_2271 rfl ?_
            refine G_i2l (pc := 2273) hC dL_law_2273 ?_
            refine G_lcmp (pc := 2274) hC dL_law_2274 ?_
            refine G_if_eq (pc := 2275) (tgt := 2280) hC dL_law_2275 (by decide) (fun hc => ?_) (fun hc => ?_)
            · replace hw := hw.1 hc
              refine G_loc (lv' := [some (va_rf (some a0)), some (va_rf v1), some (va_rf (some b343)), some (va_rf v3), some (va_rf v4), some (.int v5), none, none, none]) ⟨Or.inr rfl, Or.inr rfl, Or.inr rfl, Or.inr rfl, Or.inr rfl, Or.inr rfl, Or.inl rfl, Or.inl rfl, Or.inr rfl, trivial⟩ ?_
              exact g_L_law_2280 hJ hC hQ ih  v1 (some b343) v3 v4 v5 M345 hw
            · replace hw := hw.2 hc
              refine G_iconst (pc := 2278) (v := 0) hC dL_law_2278 (by decide) ?_
              exact hw.elim
        · replace hw := hw.2 hc
          refine G_iconst (pc := 2261) (v := 0) hC dL_law_2261 (by decide) ?_
          exact hw.elim
      by_cases hc34 : (x1 &&& (63 : Int32)) = (34 : Int32)
      · replace hw := hw.2.2.2.2.2.2.2.2.2.2.2.2.2.2.2.2.2.2.2.2.2.2.2.2.2.2.2.2.2.2.2.2.2.2.1 hc34
        refine G_tableIn (pc := 44) (off := 2239) (tgt := 2283) hC dL_law_44 (by rw [hc34]; decide) (by rw [hc34]; decide) (by rw [hc34]; rfl) (by decide) ?_
        refine G_aload_n (pc := 2283) (i := 1) hC dL_law_2283 rfl rfl ?_
        obtain ⟨b349, rfl, hb, hw⟩ := gThis_e hw
        refine G_callV (pc := 2284) (n := 0) (C := "MergeWorkbench") (b := b349) (As := []) (rest := []) hC (m_X1_save hJ hw) (lw_V q729 q730 q731 q84 q732) hdL_X1_save (by decide) (rcv (C := RX1) (T := TX1) (N := 10) hC hb rfl) rfl rfl (st_c cat_e (Nat.le_of_ble_eq_true rfl)) dL_law_2284 (kI fun x350 M348 hw => ?_)
        refine G_aload_n (pc := 2287) (i := 2) hC dL_law_2287 rfl rfl ?_
        obtain ⟨b352, rfl, hb, hw⟩ := gThis_e hw
        refine G_callV (pc := 2288) (n := 0) (C := "MergeWorkbenchModel") (b := b352) (As := []) (rest := [.int x350]) hC (m_X3_save hJ hw) (lw_V q3840 q3841 q3842 q108 q3843) hdL_X3_save (by decide) (rcv (C := RX3) (T := TX3) (N := 61) hC hb rfl) rfl rfl (st_c (cat_i cat_e) (Nat.le_of_ble_eq_true rfl)) dL_law_2288 (kI fun x353 M351 hw => ?_)
        refine G_icmp_eq (pc := 2291) (tgt := 2340) hC dL_law_2291 (by decide) (fun hc => ?_) (fun hc => ?_)
        · replace hw := hw.1 hc
          exact g_L_law_2340 hJ hC hQ ih  (some b349) (some b352) v3 v4 v5 M351 hw
        · replace hw := hw.2 hc
          refine G_iconst (pc := 2294) (v := 0) hC dL_law_2294 (by decide) ?_
          exact hw.elim
      by_cases hc35 : (x1 &&& (63 : Int32)) = (35 : Int32)
      · replace hw := hw.2.2.2.2.2.2.2.2.2.2.2.2.2.2.2.2.2.2.2.2.2.2.2.2.2.2.2.2.2.2.2.2.2.2.2.1 hc35
        refine G_tableIn (pc := 44) (off := 2252) (tgt := 2296) hC dL_law_44 (by rw [hc35]; decide) (by rw [hc35]; decide) (by rw [hc35]; rfl) (by decide) ?_
        refine G_aload_n (pc := 2296) (i := 1) hC dL_law_2296 rfl rfl ?_
        refine G_aload_n (pc := 2297) (i := 3) hC dL_law_2297 rfl rfl ?_
        refine GX_callSW (pc := 2298) (n := 2) (As := [va_rf v1, va_rf v3]) (rest := []) hC (m_X0_restore hJ hw) (lw_SW q3301 q3302 q83 q3303) hdL_X0_restore.2 (by decide) rfl rfl (st_c cat_e (Nat.le_of_ble_eq_true rfl)) dL_law_2298 (fun E q M hx => hx.elim) (kI fun x355 M354 hw => ?_)
        refine G_istore (pc := 2301) (i := 6) (lw := [some (va_rf (some a0)), some (va_rf v1), some (va_rf v2), some (va_rf v3), some (va_rf v4), some (.int v5), some (.int x355), none, none]) hC dL_law_2301 (Nat.le_of_ble_eq_true rfl) rfl ?_
        refine G_aload_n (pc := 2303) (i := 2) hC dL_law_2303 rfl rfl ?_
        obtain ⟨b357, rfl, hb, hw⟩ := gThis_e hw
        refine G_callV (pc := 2304) (n := 0) (C := "MergeWorkbenchModel") (b := b357) (As := []) (rest := []) hC (m_X3_restore hJ hw) (lw_V q3848 q3849 q3850 q108 q3851) hdL_X3_restore (by decide) (rcv (C := RX3) (T := TX3) (N := 61) hC hb rfl) rfl rfl (st_c cat_e (Nat.le_of_ble_eq_true rfl)) dL_law_2304 (kI fun x358 M356 hw => ?_)
        refine G_istore (pc := 2307) (i := 7) (lw := [some (va_rf (some a0)), some (va_rf v1), some (va_rf (some b357)), some (va_rf v3), some (va_rf v4), some (.int v5), some (.int x355), some (.int x358), none]) hC dL_law_2307 (Nat.le_of_ble_eq_true rfl) rfl ?_
        refine G_aload_n (pc := 2309) (i := 2) hC dL_law_2309 rfl rfl ?_
        obtain ⟨hb, hw⟩ := hw
        refine G_callV (pc := 2310) (n := 0) (C := "MergeWorkbenchModel") (b := b357) (As := []) (rest := []) hC (m_X3_thrown hJ hw) (lw_V q3559 q3560 q3561 q108 q3562) hdL_X3_thrown (by decide) (rcv (C := RX3) (T := TX3) (N := 61) hC hb rfl) rfl rfl (st_c cat_e (Nat.le_of_ble_eq_true rfl)) dL_law_2310 (kI fun x360 M359 hw => ?_)
        refine G_iload (pc := 2313) (i := 6) hC dL_law_2313 rfl ?_
        refine G_icmp_eq (pc := 2315) (tgt := 2320) hC dL_law_2315 (by decide) (fun hc => ?_) (fun hc => ?_)
        · replace hw := hw.1 hc
          refine G_iload (pc := 2320) (i := 6) hC dL_law_2320 rfl ?_
          refine G_if_ne (pc := 2322) (tgt := 2337) hC dL_law_2322 (by decide) (fun hc => ?_) (fun hc => ?_)
          · replace hw := hw.1 hc
            refine G_loc (lv' := [some (va_rf (some a0)), some (va_rf v1), some (va_rf (some b357)), some (va_rf v3), some (va_rf v4), some (.int v5), none, none, none]) ⟨Or.inr rfl, Or.inr rfl, Or.inr rfl, Or.inr rfl, Or.inr rfl, Or.inr rfl, Or.inl rfl, Or.inl rfl, Or.inr rfl, trivial⟩ ?_
            exact g_L_law_2337 hJ hC hQ ih  v1 (some b357) v3 v4 v5 M359 hw
          · replace hw := hw.2 hc
            refine G_aload_n (pc := 2325) (i := 3) hC dL_law_2325 rfl rfl ?_
            refine G_iconst (pc := 2326) (v := 0) hC dL_law_2326 (by decide) ?_
            refine G_lald (pc := 2327) hC dL_law_2327 hw (fun x361 hw => ?_)
            refine G_iload (pc := 2328) (i := 7) hC dL_law_2328 rfl ?_
            refine G_i2l (pc := 2330) hC dL_law_2330 ?_
            refine G_lcmp (pc := 2331) hC dL_law_2331 ?_
            refine G_if_eq (pc := 2332) (tgt := 2337) hC dL_law_2332 (by decide) (fun hc => ?_) (fun hc => ?_)
            · replace hw := hw.1 hc
              refine G_loc (lv' := [some (va_rf (some a0)), some (va_rf v1), some (va_rf (some b357)), some (va_rf v3), some (va_rf v4), some (.int v5), none, none, none]) ⟨Or.inr rfl, Or.inr rfl, Or.inr rfl, Or.inr rfl, Or.inr rfl, Or.inr rfl, Or.inl rfl, Or.inl rfl, Or.inr rfl, trivial⟩ ?_
              exact g_L_law_2337 hJ hC hQ ih  v1 (some b357) v3 v4 v5 M359 hw
            · replace hw := hw.2 hc
              refine G_iconst (pc := 2335) (v := 0) hC dL_law_2335 (by decide) ?_
              exact hw.elim
        · replace hw := hw.2 hc
          refine G_iconst (pc := 2318) (v := 0) hC dL_law_2318 (by decide) ?_
          exact hw.elim
      replace hw := hw.2.2.2.2.2.2.2.2.2.2.2.2.2.2.2.2.2.2.2.2.2.2.2.2.2.2.2.2.2.2.2.2.2.2.2.2 hc0 hc1 hc2 hc3 hc4 hc5 hc6 hc7 hc8 hc9 hc10 hc11 hc12 hc13 hc14 hc15 hc16 hc17 hc18 hc19 hc20 hc21 hc22 hc23 hc24 hc25 hc26 hc27 hc28 hc29 hc30 hc31 hc32 hc33 hc34 hc35
      refine G_tableOut (pc := 44) (tgt := 2340) hC dL_law_44 (sw_out0_35 hc0 hc1 hc2 hc3 hc4 hc5 hc6 hc7 hc8 hc9 hc10 hc11 hc12 hc13 hc14 hc15 hc16 hc17 hc18 hc19 hc20 hc21 hc22 hc23 hc24 hc25 hc26 hc27 hc28 hc29 hc30 hc31 hc32 hc33 hc34 hc35) (by decide) ?_
      exact g_L_law_2340 hJ hC hQ ih  v1 v2 v3 v4 v5 M hw
theorem t_L_law {k : kT} {F : Nat} {a0 : Nat} {L : Nat} {xs : Nat → Int32} {M : hM} (hJ : JOK (kl k) (kg k)) (hC : CX k 9 cL_law RX0 (some .boolean) 57 2383) (hQ : isQL k a0 L xs) (hw : w_L_law (kg k) F a0 L xs M) : GW k 9 M 0 [some (va_rf (some a0)), none, none, none, none, none, none, none, none] [] := by
  refine G_new (pc := 0) (ci := 0) (C := RX1) (T := TX1) (N := 10) (fs := fsX1) tyX1 hC rfl in_X1 tyX1_ok q152 q153 q84 dfX1 rfl dL_law_0 hw (fun q1 M2 hw => ?_)
  refine G_dup (pc := 3) hC dL_law_3 (rf_cat _) ?_
  obtain ⟨hb, hw⟩ := hw
  refine G_callI (pc := 4) (n := 0) (b := q1) (As := []) (rest := [va_rf (some q1)]) hC (m_X1_init hJ hw) (lw_meth q156) q84 q154 q155 rfl hdL_X1_init.2 (by decide) rfl rfl (st_c (cat_r cat_e) (Nat.le_of_ble_eq_true rfl)) dL_law_4 (kU fun M3 hw => ?_)
  refine G_astore_n (pc := 7) (i := 1) (lw := [some (va_rf (some a0)), some (va_rf (some q1)), none, none, none, none, none, none, none]) hC dL_law_7 rfl (Nat.le_of_ble_eq_true rfl) rfl ?_
  refine G_new (pc := 8) (ci := 2) (C := RX3) (T := TX3) (N := 61) (fs := fsX3) tyX3 hC rfl in_X3 tyX3_ok q3368 q3369 q108 dfX3 rfl dL_law_8 hw (fun q4 M5 hw => ?_)
  refine G_dup (pc := 11) hC dL_law_11 (rf_cat _) ?_
  obtain ⟨hb, hw⟩ := hw
  refine G_callI (pc := 12) (n := 0) (b := q4) (As := []) (rest := [va_rf (some q4)]) hC (m_X3_init hJ hw) (lw_meth q3372) q108 q3370 q3371 rfl hdL_X3_init.2 (by decide) rfl rfl (st_c (cat_r cat_e) (Nat.le_of_ble_eq_true rfl)) dL_law_12 (kU fun M6 hw => ?_)
  refine G_astore_n (pc := 15) (i := 2) (lw := [some (va_rf (some a0)), some (va_rf (some q1)), some (va_rf (some q4)), none, none, none, none, none, none]) hC dL_law_15 rfl (Nat.le_of_ble_eq_true rfl) rfl ?_
  refine G_iconst (pc := 16) (v := 1) hC dL_law_16 (by decide) ?_
  refine G_newJ (pc := 17) hC q3852 dL_law_17 hw (fun q7 M8 hw => ?_)
  refine G_astore_n (pc := 19) (i := 3) (lw := [some (va_rf (some a0)), some (va_rf (some q1)), some (va_rf (some q4)), some (va_rf (some q7)), none, none, none, none, none]) hC dL_law_19 rfl (Nat.le_of_ble_eq_true rfl) rfl ?_
  refine G_iconst (pc := 20) (v := 1) hC dL_law_20 (by decide) ?_
  refine G_newD (pc := 21) hC q3853 dL_law_21 hw (fun q9 M10 hw => ?_)
  refine G_astore (pc := 23) (i := 4) (lw := [some (va_rf (some a0)), some (va_rf (some q1)), some (va_rf (some q4)), some (va_rf (some q7)), some (va_rf (some q9)), none, none, none, none]) hC dL_law_23 (Nat.le_of_ble_eq_true rfl) rfl ?_
  refine G_iconst (pc := 25) (v := 0) hC dL_law_25 (by decide) ?_
  refine G_istore (pc := 26) (i := 5) (lw := [some (va_rf (some a0)), some (va_rf (some q1)), some (va_rf (some q4)), some (va_rf (some q7)), some (va_rf (some q9)), some (.int (0 : Int32)), none, none, none]) hC dL_law_26 (Nat.le_of_ble_eq_true rfl) rfl ?_
  exact g_L_law_28 hJ hC hQ _ (some q1) (some q4) (some q7) (some q9) (0 : Int32) M10 hw
