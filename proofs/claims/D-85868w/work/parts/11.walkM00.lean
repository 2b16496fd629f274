set_option maxRecDepth 100000
theorem hdS_X12_between : yX12_between.cls ≠ "java/lang/invoke/MethodHandle" ∧ yX12_between.cls ≠ "java/lang/invoke/VarHandle" ∧ (parseMethodDescriptor yX12_between.desc).map (fun d => d.parameters.length) = some 3 := by decide +kernel
theorem hdV_X12_thrown : yX12_thrown.cls = RX12 ∧ yX12_thrown.cls ≠ "java/lang/invoke/MethodHandle" ∧ yX12_thrown.cls ≠ "java/lang/invoke/VarHandle" ∧ (parseMethodDescriptor yX12_thrown.desc).map (fun d => d.parameters.length) = some 0 := by decide +kernel
theorem hdV_X12_dropCursor : yX12_dropCursor.cls = RX12 ∧ yX12_dropCursor.cls ≠ "java/lang/invoke/MethodHandle" ∧ yX12_dropCursor.cls ≠ "java/lang/invoke/VarHandle" ∧ (parseMethodDescriptor yX12_dropCursor.desc).map (fun d => d.parameters.length) = some 0 := by decide +kernel
theorem hdV_X12_isSeries : yX12_isSeries.cls = RX12 ∧ yX12_isSeries.cls ≠ "java/lang/invoke/MethodHandle" ∧ yX12_isSeries.cls ≠ "java/lang/invoke/VarHandle" ∧ (parseMethodDescriptor yX12_isSeries.desc).map (fun d => d.parameters.length) = some 1 := by decide +kernel
theorem hdV_X12_isRising : yX12_isRising.cls = RX12 ∧ yX12_isRising.cls ≠ "java/lang/invoke/MethodHandle" ∧ yX12_isRising.cls ≠ "java/lang/invoke/VarHandle" ∧ (parseMethodDescriptor yX12_isRising.desc).map (fun d => d.parameters.length) = some 2 := by decide +kernel
theorem hdV_X12_write : yX12_write.cls = RX12 ∧ yX12_write.cls ≠ "java/lang/invoke/MethodHandle" ∧ yX12_write.cls ≠ "java/lang/invoke/VarHandle" ∧ (parseMethodDescriptor yX12_write.desc).map (fun d => d.parameters.length) = some 2 := by decide +kernel
theorem hdV_X12_append : yX12_append.cls = RX12 ∧ yX12_append.cls ≠ "java/lang/invoke/MethodHandle" ∧ yX12_append.cls ≠ "java/lang/invoke/VarHandle" ∧ (parseMethodDescriptor yX12_append.desc).map (fun d => d.parameters.length) = some 3 := by decide +kernel
theorem hdV_X12_beginNext : yX12_beginNext.cls = RX12 ∧ yX12_beginNext.cls ≠ "java/lang/invoke/MethodHandle" ∧ yX12_beginNext.cls ≠ "java/lang/invoke/VarHandle" ∧ (parseMethodDescriptor yX12_beginNext.desc).map (fun d => d.parameters.length) = some 0 := by decide +kernel
theorem hdV_X12_comes : yX12_comes.cls = RX12 ∧ yX12_comes.cls ≠ "java/lang/invoke/MethodHandle" ∧ yX12_comes.cls ≠ "java/lang/invoke/VarHandle" ∧ (parseMethodDescriptor yX12_comes.desc).map (fun d => d.parameters.length) = some 2 := by decide +kernel
theorem hdV_X12_isUsed : yX12_isUsed.cls = RX12 ∧ yX12_isUsed.cls ≠ "java/lang/invoke/MethodHandle" ∧ yX12_isUsed.cls ≠ "java/lang/invoke/VarHandle" ∧ (parseMethodDescriptor yX12_isUsed.desc).map (fun d => d.parameters.length) = some 1 := by decide +kernel
theorem hdV_X12_freeSlot : yX12_freeSlot.cls = RX12 ∧ yX12_freeSlot.cls ≠ "java/lang/invoke/MethodHandle" ∧ yX12_freeSlot.cls ≠ "java/lang/invoke/VarHandle" ∧ (parseMethodDescriptor yX12_freeSlot.desc).map (fun d => d.parameters.length) = some 0 := by decide +kernel
theorem hdV_X12_add : yX12_add.cls = RX12 ∧ yX12_add.cls ≠ "java/lang/invoke/MethodHandle" ∧ yX12_add.cls ≠ "java/lang/invoke/VarHandle" ∧ (parseMethodDescriptor yX12_add.desc).map (fun d => d.parameters.length) = some 3 := by decide +kernel
theorem hdV_X12_headsOf : yX12_headsOf.cls = RX12 ∧ yX12_headsOf.cls ≠ "java/lang/invoke/MethodHandle" ∧ yX12_headsOf.cls ≠ "java/lang/invoke/VarHandle" ∧ (parseMethodDescriptor yX12_headsOf.desc).map (fun d => d.parameters.length) = some 1 := by decide +kernel
theorem hdV_X12_put : yX12_put.cls = RX12 ∧ yX12_put.cls ≠ "java/lang/invoke/MethodHandle" ∧ yX12_put.cls ≠ "java/lang/invoke/VarHandle" ∧ (parseMethodDescriptor yX12_put.desc).map (fun d => d.parameters.length) = some 2 := by decide +kernel
theorem hdV_X12_putStep : yX12_putStep.cls = RX12 ∧ yX12_putStep.cls ≠ "java/lang/invoke/MethodHandle" ∧ yX12_putStep.cls ≠ "java/lang/invoke/VarHandle" ∧ (parseMethodDescriptor yX12_putStep.desc).map (fun d => d.parameters.length) = some 1 := by decide +kernel
theorem hdV_X12_putValue : yX12_putValue.cls = RX12 ∧ yX12_putValue.cls ≠ "java/lang/invoke/MethodHandle" ∧ yX12_putValue.cls ≠ "java/lang/invoke/VarHandle" ∧ (parseMethodDescriptor yX12_putValue.desc).map (fun d => d.parameters.length) = some 1 := by decide +kernel
theorem hdV_X12_make : yX12_make.cls = RX12 ∧ yX12_make.cls ≠ "java/lang/invoke/MethodHandle" ∧ yX12_make.cls ≠ "java/lang/invoke/VarHandle" ∧ (parseMethodDescriptor yX12_make.desc).map (fun d => d.parameters.length) = some 1 := by decide +kernel
theorem hdV_X12_isOf : yX12_isOf.cls = RX12 ∧ yX12_isOf.cls ≠ "java/lang/invoke/MethodHandle" ∧ yX12_isOf.cls ≠ "java/lang/invoke/VarHandle" ∧ (parseMethodDescriptor yX12_isOf.desc).map (fun d => d.parameters.length) = some 2 := by decide +kernel
theorem hdV_X12_isTaken : yX12_isTaken.cls = RX12 ∧ yX12_isTaken.cls ≠ "java/lang/invoke/MethodHandle" ∧ yX12_isTaken.cls ≠ "java/lang/invoke/VarHandle" ∧ (parseMethodDescriptor yX12_isTaken.desc).map (fun d => d.parameters.length) = some 2 := by decide +kernel
theorem hdV_X12_find : yX12_find.cls = RX12 ∧ yX12_find.cls ≠ "java/lang/invoke/MethodHandle" ∧ yX12_find.cls ≠ "java/lang/invoke/VarHandle" ∧ (parseMethodDescriptor yX12_find.desc).map (fun d => d.parameters.length) = some 2 := by decide +kernel
theorem hdV_X12_writeChunk : yX12_writeChunk.cls = RX12 ∧ yX12_writeChunk.cls ≠ "java/lang/invoke/MethodHandle" ∧ yX12_writeChunk.cls ≠ "java/lang/invoke/VarHandle" ∧ (parseMethodDescriptor yX12_writeChunk.desc).map (fun d => d.parameters.length) = some 1 := by decide +kernel
theorem hdV_X12_index : yX12_index.cls = RX12 ∧ yX12_index.cls ≠ "java/lang/invoke/MethodHandle" ∧ yX12_index.cls ≠ "java/lang/invoke/VarHandle" ∧ (parseMethodDescriptor yX12_index.desc).map (fun d => d.parameters.length) = some 1 := by decide +kernel
theorem hdV_X12_sumOf : yX12_sumOf.cls = RX12 ∧ yX12_sumOf.cls ≠ "java/lang/invoke/MethodHandle" ∧ yX12_sumOf.cls ≠ "java/lang/invoke/VarHandle" ∧ (parseMethodDescriptor yX12_sumOf.desc).map (fun d => d.parameters.length) = some 1 := by decide +kernel
theorem hdV_X12_firstTime : yX12_firstTime.cls = RX12 ∧ yX12_firstTime.cls ≠ "java/lang/invoke/MethodHandle" ∧ yX12_firstTime.cls ≠ "java/lang/invoke/VarHandle" ∧ (parseMethodDescriptor yX12_firstTime.desc).map (fun d => d.parameters.length) = some 1 := by decide +kernel
theorem hdV_X12_lastTime : yX12_lastTime.cls = RX12 ∧ yX12_lastTime.cls ≠ "java/lang/invoke/MethodHandle" ∧ yX12_lastTime.cls ≠ "java/lang/invoke/VarHandle" ∧ (parseMethodDescriptor yX12_lastTime.desc).map (fun d => d.parameters.length) = some 1 := by decide +kernel
theorem hdV_X12_leastOf : yX12_leastOf.cls = RX12 ∧ yX12_leastOf.cls ≠ "java/lang/invoke/MethodHandle" ∧ yX12_leastOf.cls ≠ "java/lang/invoke/VarHandle" ∧ (parseMethodDescriptor yX12_leastOf.desc).map (fun d => d.parameters.length) = some 1 := by decide +kernel
theorem hdV_X12_greatestOf : yX12_greatestOf.cls = RX12 ∧ yX12_greatestOf.cls ≠ "java/lang/invoke/MethodHandle" ∧ yX12_greatestOf.cls ≠ "java/lang/invoke/VarHandle" ∧ (parseMethodDescriptor yX12_greatestOf.desc).map (fun d => d.parameters.length) = some 1 := by decide +kernel
theorem hdV_X12_writeIndex : yX12_writeIndex.cls = RX12 ∧ yX12_writeIndex.cls ≠ "java/lang/invoke/MethodHandle" ∧ yX12_writeIndex.cls ≠ "java/lang/invoke/VarHandle" ∧ (parseMethodDescriptor yX12_writeIndex.desc).map (fun d => d.parameters.length) = some 1 := by decide +kernel
theorem hdV_X12_turn : yX12_turn.cls = RX12 ∧ yX12_turn.cls ≠ "java/lang/invoke/MethodHandle" ∧ yX12_turn.cls ≠ "java/lang/invoke/VarHandle" ∧ (parseMethodDescriptor yX12_turn.desc).map (fun d => d.parameters.length) = some 1 := by decide +kernel
theorem hdV_X12_flush : yX12_flush.cls = RX12 ∧ yX12_flush.cls ≠ "java/lang/invoke/MethodHandle" ∧ yX12_flush.cls ≠ "java/lang/invoke/VarHandle" ∧ (parseMethodDescriptor yX12_flush.desc).map (fun d => d.parameters.length) = some 0 := by decide +kernel
theorem hdV_X12_together : yX12_together.cls = RX12 ∧ yX12_together.cls ≠ "java/lang/invoke/MethodHandle" ∧ yX12_together.cls ≠ "java/lang/invoke/VarHandle" ∧ (parseMethodDescriptor yX12_together.desc).map (fun d => d.parameters.length) = some 1 := by decide +kernel
theorem hdV_X12_joined : yX12_joined.cls = RX12 ∧ yX12_joined.cls ≠ "java/lang/invoke/MethodHandle" ∧ yX12_joined.cls ≠ "java/lang/invoke/VarHandle" ∧ (parseMethodDescriptor yX12_joined.desc).map (fun d => d.parameters.length) = some 2 := by decide +kernel
theorem hdV_X12_compact : yX12_compact.cls = RX12 ∧ yX12_compact.cls ≠ "java/lang/invoke/MethodHandle" ∧ yX12_compact.cls ≠ "java/lang/invoke/VarHandle" ∧ (parseMethodDescriptor yX12_compact.desc).map (fun d => d.parameters.length) = some 1 := by decide +kernel
theorem hdV_X12_expire : yX12_expire.cls = RX12 ∧ yX12_expire.cls ≠ "java/lang/invoke/MethodHandle" ∧ yX12_expire.cls ≠ "java/lang/invoke/VarHandle" ∧ (parseMethodDescriptor yX12_expire.desc).map (fun d => d.parameters.length) = some 1 := by decide +kernel
theorem hdV_X12_meet : yX12_meet.cls = RX12 ∧ yX12_meet.cls ≠ "java/lang/invoke/MethodHandle" ∧ yX12_meet.cls ≠ "java/lang/invoke/VarHandle" ∧ (parseMethodDescriptor yX12_meet.desc).map (fun d => d.parameters.length) = some 5 := by decide +kernel
theorem hdV_X12_chunksOf : yX12_chunksOf.cls = RX12 ∧ yX12_chunksOf.cls ≠ "java/lang/invoke/MethodHandle" ∧ yX12_chunksOf.cls ≠ "java/lang/invoke/VarHandle" ∧ (parseMethodDescriptor yX12_chunksOf.desc).map (fun d => d.parameters.length) = some 1 := by decide +kernel
theorem hdV_X12_groupsOf : yX12_groupsOf.cls = RX12 ∧ yX12_groupsOf.cls ≠ "java/lang/invoke/MethodHandle" ∧ yX12_groupsOf.cls ≠ "java/lang/invoke/VarHandle" ∧ (parseMethodDescriptor yX12_groupsOf.desc).map (fun d => d.parameters.length) = some 1 := by decide +kernel
theorem hdV_X12_slot : yX12_slot.cls = RX12 ∧ yX12_slot.cls ≠ "java/lang/invoke/MethodHandle" ∧ yX12_slot.cls ≠ "java/lang/invoke/VarHandle" ∧ (parseMethodDescriptor yX12_slot.desc).map (fun d => d.parameters.length) = some 2 := by decide +kernel
theorem hdS_X12_isPart : yX12_isPart.cls ≠ "java/lang/invoke/MethodHandle" ∧ yX12_isPart.cls ≠ "java/lang/invoke/VarHandle" ∧ (parseMethodDescriptor yX12_isPart.desc).map (fun d => d.parameters.length) = some 4 := by decide +kernel
theorem hdV_X12_lookInto : yX12_lookInto.cls = RX12 ∧ yX12_lookInto.cls ≠ "java/lang/invoke/MethodHandle" ∧ yX12_lookInto.cls ≠ "java/lang/invoke/VarHandle" ∧ (parseMethodDescriptor yX12_lookInto.desc).map (fun d => d.parameters.length) = some 5 := by decide +kernel
theorem hdV_X12_lookAt : yX12_lookAt.cls = RX12 ∧ yX12_lookAt.cls ≠ "java/lang/invoke/MethodHandle" ∧ yX12_lookAt.cls ≠ "java/lang/invoke/VarHandle" ∧ (parseMethodDescriptor yX12_lookAt.desc).map (fun d => d.parameters.length) = some 3 := by decide +kernel
theorem hdV_X12_ask : yX12_ask.cls = RX12 ∧ yX12_ask.cls ≠ "java/lang/invoke/MethodHandle" ∧ yX12_ask.cls ≠ "java/lang/invoke/VarHandle" ∧ (parseMethodDescriptor yX12_ask.desc).map (fun d => d.parameters.length) = some 4 := by decide +kernel
theorem hdV_X12_seek : yX12_seek.cls = RX12 ∧ yX12_seek.cls ≠ "java/lang/invoke/MethodHandle" ∧ yX12_seek.cls ≠ "java/lang/invoke/VarHandle" ∧ (parseMethodDescriptor yX12_seek.desc).map (fun d => d.parameters.length) = some 3 := by decide +kernel
theorem hdV_X12_next : yX12_next.cls = RX12 ∧ yX12_next.cls ≠ "java/lang/invoke/MethodHandle" ∧ yX12_next.cls ≠ "java/lang/invoke/VarHandle" ∧ (parseMethodDescriptor yX12_next.desc).map (fun d => d.parameters.length) = some 0 := by decide +kernel
theorem hdV_X12_isAt : yX12_isAt.cls = RX12 ∧ yX12_isAt.cls ≠ "java/lang/invoke/MethodHandle" ∧ yX12_isAt.cls ≠ "java/lang/invoke/VarHandle" ∧ (parseMethodDescriptor yX12_isAt.desc).map (fun d => d.parameters.length) = some 0 := by decide +kernel
theorem hdV_X12_curTime : yX12_curTime.cls = RX12 ∧ yX12_curTime.cls ≠ "java/lang/invoke/MethodHandle" ∧ yX12_curTime.cls ≠ "java/lang/invoke/VarHandle" ∧ (parseMethodDescriptor yX12_curTime.desc).map (fun d => d.parameters.length) = some 0 := by decide +kernel
theorem hdV_X12_curVal : yX12_curVal.cls = RX12 ∧ yX12_curVal.cls ≠ "java/lang/invoke/MethodHandle" ∧ yX12_curVal.cls ≠ "java/lang/invoke/VarHandle" ∧ (parseMethodDescriptor yX12_curVal.desc).map (fun d => d.parameters.length) = some 0 := by decide +kernel
theorem hdV_X12_aggCount : yX12_aggCount.cls = RX12 ∧ yX12_aggCount.cls ≠ "java/lang/invoke/MethodHandle" ∧ yX12_aggCount.cls ≠ "java/lang/invoke/VarHandle" ∧ (parseMethodDescriptor yX12_aggCount.desc).map (fun d => d.parameters.length) = some 3 := by decide +kernel
theorem hdV_X12_asks : yX12_asks.cls = RX12 ∧ yX12_asks.cls ≠ "java/lang/invoke/MethodHandle" ∧ yX12_asks.cls ≠ "java/lang/invoke/VarHandle" ∧ (parseMethodDescriptor yX12_asks.desc).map (fun d => d.parameters.length) = some 3 := by decide +kernel
theorem hdV_X12_aggMin : yX12_aggMin.cls = RX12 ∧ yX12_aggMin.cls ≠ "java/lang/invoke/MethodHandle" ∧ yX12_aggMin.cls ≠ "java/lang/invoke/VarHandle" ∧ (parseMethodDescriptor yX12_aggMin.desc).map (fun d => d.parameters.length) = some 3 := by decide +kernel
theorem hdV_X12_aggMax : yX12_aggMax.cls = RX12 ∧ yX12_aggMax.cls ≠ "java/lang/invoke/MethodHandle" ∧ yX12_aggMax.cls ≠ "java/lang/invoke/VarHandle" ∧ (parseMethodDescriptor yX12_aggMax.desc).map (fun d => d.parameters.length) = some 3 := by decide +kernel
theorem hdV_X12_aggSum : yX12_aggSum.cls = RX12 ∧ yX12_aggSum.cls ≠ "java/lang/invoke/MethodHandle" ∧ yX12_aggSum.cls ≠ "java/lang/invoke/VarHandle" ∧ (parseMethodDescriptor yX12_aggSum.desc).map (fun d => d.parameters.length) = some 3 := by decide +kernel
theorem hdV_X12_crashAfter : yX12_crashAfter.cls = RX12 ∧ yX12_crashAfter.cls ≠ "java/lang/invoke/MethodHandle" ∧ yX12_crashAfter.cls ≠ "java/lang/invoke/VarHandle" ∧ (parseMethodDescriptor yX12_crashAfter.desc).map (fun d => d.parameters.length) = some 1 := by decide +kernel
theorem hdV_X12_take : yX12_take.cls = RX12 ∧ yX12_take.cls ≠ "java/lang/invoke/MethodHandle" ∧ yX12_take.cls ≠ "java/lang/invoke/VarHandle" ∧ (parseMethodDescriptor yX12_take.desc).map (fun d => d.parameters.length) = some 1 := by decide +kernel
theorem hdV_X12_takeStep : yX12_takeStep.cls = RX12 ∧ yX12_takeStep.cls ≠ "java/lang/invoke/MethodHandle" ∧ yX12_takeStep.cls ≠ "java/lang/invoke/VarHandle" ∧ (parseMethodDescriptor yX12_takeStep.desc).map (fun d => d.parameters.length) = some 0 := by decide +kernel
theorem hdV_X12_takeValue : yX12_takeValue.cls = RX12 ∧ yX12_takeValue.cls ≠ "java/lang/invoke/MethodHandle" ∧ yX12_takeValue.cls ≠ "java/lang/invoke/VarHandle" ∧ (parseMethodDescriptor yX12_takeValue.desc).map (fun d => d.parameters.length) = some 0 := by decide +kernel
theorem hdV_X12_read : yX12_read.cls = RX12 ∧ yX12_read.cls ≠ "java/lang/invoke/MethodHandle" ∧ yX12_read.cls ≠ "java/lang/invoke/VarHandle" ∧ (parseMethodDescriptor yX12_read.desc).map (fun d => d.parameters.length) = some 1 := by decide +kernel
theorem hdV_X12_recover : yX12_recover.cls = RX12 ∧ yX12_recover.cls ≠ "java/lang/invoke/MethodHandle" ∧ yX12_recover.cls ≠ "java/lang/invoke/VarHandle" ∧ (parseMethodDescriptor yX12_recover.desc).map (fun d => d.parameters.length) = some 0 := by decide +kernel
theorem hdV_X12_cell : yX12_cell.cls = RX12 ∧ yX12_cell.cls ≠ "java/lang/invoke/MethodHandle" ∧ yX12_cell.cls ≠ "java/lang/invoke/VarHandle" ∧ (parseMethodDescriptor yX12_cell.desc).map (fun d => d.parameters.length) = some 1 := by decide +kernel
theorem hdV_X12_sizes : yX12_sizes.cls = RX12 ∧ yX12_sizes.cls ≠ "java/lang/invoke/MethodHandle" ∧ yX12_sizes.cls ≠ "java/lang/invoke/VarHandle" ∧ (parseMethodDescriptor yX12_sizes.desc).map (fun d => d.parameters.length) = some 2 := by decide +kernel
theorem hdV_X12_chunk : yX12_chunk.cls = RX12 ∧ yX12_chunk.cls ≠ "java/lang/invoke/MethodHandle" ∧ yX12_chunk.cls ≠ "java/lang/invoke/VarHandle" ∧ (parseMethodDescriptor yX12_chunk.desc).map (fun d => d.parameters.length) = some 3 := by decide +kernel
theorem hdV_X12_group : yX12_group.cls = RX12 ∧ yX12_group.cls ≠ "java/lang/invoke/MethodHandle" ∧ yX12_group.cls ≠ "java/lang/invoke/VarHandle" ∧ (parseMethodDescriptor yX12_group.desc).map (fun d => d.parameters.length) = some 3 := by decide +kernel
theorem hdV_X12_taken : yX12_taken.cls = RX12 ∧ yX12_taken.cls ≠ "java/lang/invoke/MethodHandle" ∧ yX12_taken.cls ≠ "java/lang/invoke/VarHandle" ∧ (parseMethodDescriptor yX12_taken.desc).map (fun d => d.parameters.length) = some 0 := by decide +kernel
theorem hdV_X12_look : yX12_look.cls = RX12 ∧ yX12_look.cls ≠ "java/lang/invoke/MethodHandle" ∧ yX12_look.cls ≠ "java/lang/invoke/VarHandle" ∧ (parseMethodDescriptor yX12_look.desc).map (fun d => d.parameters.length) = some 1 := by decide +kernel
set_option maxHeartbeats 4000000 in
theorem m_X12_between (l : Launch) (dC : Nat → ClassId) (dI : Nat → Nat → Nat) (d : Nat → ClassId) (h : Nat → Nat) (u : St) (x0 : Int32) (x1 : Int32) (x2 : Int32) {K : Int32 → St → Prop} (hwp : wp_X12_between u x0 x1 x2 K) : kM l yX12_between cX12_between 3 (some .int) ({ frames := 0, cells := 0, slots := 0, locals := 0 } : Room) dC dI d [.int x0, .int x1, .int x2] (wM d h) u (kQi dC dI (wM d h) K) 0 0 := by
  refine kM_start rfl (Nat.le_of_ble_eq_true rfl) ?_
  intro p e s m below meth c A ls cx hnm hw hl
  generalize hargs : ([.int x0, .int x1, .int x2] : List Value).toArray = args at cx ⊢
  unfold wp_X12_between at hwp
  replace hl : lv_has ls 3 [(0, .int x0), (1, .int x1), (2, .int x2)] := hl
  generalize hH : s.heap = H at hw ⊢
  generalize hlo : ([] : List Loc) = locs at hw ⊢
  refine lv_iload_n (pc := 0) cx.1 cx.2.1 dX12_between_0 rfl (lv_at hl 0 rfl) ?_
  refine lv_iload_n (pc := 1) cx.1 cx.2.1 dX12_between_1 rfl (lv_at hl 1 rfl) ?_
  refine lv_icmp_ge (pc := 2) (tgt := 9) cx.1 cx.2.1 dX12_between_2 (by decide) (fun c1 => ?_) (fun c1 => ?_)
  · replace hwp := hwp.1 c1
    refine lv_iload_n (pc := 9) cx.1 cx.2.1 dX12_between_9 rfl (lv_at hl 0 rfl) ?_
    refine lv_iload_n (pc := 10) cx.1 cx.2.1 dX12_between_10 rfl (lv_at hl 2 rfl) ?_
    refine lv_icmp_le (pc := 11) (tgt := 18) cx.1 cx.2.1 dX12_between_11 (by decide) (fun c2 => ?_) (fun c2 => ?_)
    · replace hwp := hwp.1 c2
      refine lv_iload_n (pc := 18) cx.1 cx.2.1 dX12_between_18 rfl (lv_at hl 0 rfl) ?_
      exact k_iret (pc := 19) (wf := (wM d h)) (u := u) cx hw hwp (by decide) (by decide) dX12_between_19
    · replace hwp := hwp.2 c2
      refine lv_iload_n (pc := 14) cx.1 cx.2.1 dX12_between_14 rfl (lv_at hl 2 rfl) ?_
      refine lv_goto (pc := 15) (tgt := 19) cx.1 cx.2.1 dX12_between_15 (by decide) ?_
      exact k_iret (pc := 19) (wf := (wM d h)) (u := u) cx hw hwp (by decide) (by decide) dX12_between_19
  · replace hwp := hwp.2 c1
    refine lv_iload_n (pc := 5) cx.1 cx.2.1 dX12_between_5 rfl (lv_at hl 1 rfl) ?_
    refine lv_goto (pc := 6) (tgt := 19) cx.1 cx.2.1 dX12_between_6 (by decide) ?_
    exact k_iret (pc := 19) (wf := (wM d h)) (u := u) cx hw hwp (by decide) (by decide) dX12_between_19
set_option maxHeartbeats 4000000 in
theorem m_X12_thrown (l : Launch) (dC : Nat → ClassId) (dI : Nat → Nat → Nat) (d : Nat → ClassId) (h : Nat → Nat) (u : St) {K : Int32 → St → Prop} (hwp : wp_X12_thrown u K) : kM l yX12_thrown cX12_thrown 1 (some .int) ({ frames := 0, cells := 0, slots := 0, locals := 0 } : Room) dC dI d [.ref (h 0)] (wM d h) u (kQi dC dI (wM d h) K) 0 0 := by
  refine kM_start rfl (Nat.le_of_ble_eq_true rfl) ?_
  intro p e s m below meth c A ls cx hnm hw hl
  generalize hargs : ([.ref (h 0)] : List Value).toArray = args at cx ⊢
  unfold wp_X12_thrown at hwp
  replace hl : lv_has ls 1 [(0, .ref (h 0))] := hl
  generalize hH : s.heap = H at hw ⊢
  generalize hlo : ([] : List Loc) = locs at hw ⊢
  refine lv_aload_n (pc := 0) cx.1 cx.2.1 dX12_thrown_0 rfl (lv_at hl 0 rfl) ?_
  refine k_getI (pc := 1) (u := u) (v := (u.1 0)) cx hw (ln_X12_this_0 d h) (C := RX12) (T := TX12) (N := 40) rfl in_X12 (by decide) q977 (fun _ h9 => h9) rfl dX12_thrown_1 ?_
  exact k_iret (pc := 4) (wf := (wM d h)) (u := u) cx hw hwp (by decide) (by decide) dX12_thrown_4
set_option maxHeartbeats 4000000 in
theorem m_X12_dropCursor (l : Launch) (dC : Nat → ClassId) (dI : Nat → Nat → Nat) (d : Nat → ClassId) (h : Nat → Nat) (u : St) {K : St → Prop} (hwp : wp_X12_dropCursor u K) : kM l yX12_dropCursor cX12_dropCursor 1 none ({ frames := 0, cells := 0, slots := 0, locals := 0 } : Room) dC dI d [.ref (h 0)] (wM d h) u (kQv dC dI (wM d h) K) 0 0 := by
  refine kM_start rfl (Nat.le_of_ble_eq_true rfl) ?_
  intro p e s m below meth c A ls cx hnm hw hl
  generalize hargs : ([.ref (h 0)] : List Value).toArray = args at cx ⊢
  unfold wp_X12_dropCursor at hwp
  replace hl : lv_has ls 1 [(0, .ref (h 0))] := hl
  generalize hH : s.heap = H at hw ⊢
  generalize hlo : ([] : List Loc) = locs at hw ⊢
  refine lv_aload_n (pc := 0) cx.1 cx.2.1 dX12_dropCursor_0 rfl (lv_at hl 0 rfl) ?_
  refine lv_iconst (pc := 1) (v := 0) cx.1 cx.2.1 dX12_dropCursor_1 (by decide) ?_
  refine k_putI (pc := 2) (u := u) (v := (0 : Int32)) cx hw (ln_X12_this_30 d h) (C := RX12) (T := TX12) (N := 40) rfl in_X12 tyX12 tyX12_ok nmX12 (by decide) q1007 (fun _ h9 => h9) rfl rfl rfl dX12_dropCursor_2 (fun H locs hw => ?_)
  refine lv_aload_n (pc := 5) cx.1 cx.2.1 dX12_dropCursor_5 rfl (lv_at hl 0 rfl) ?_
  refine lv_iconst (pc := 6) (v := 0) cx.1 cx.2.1 dX12_dropCursor_6 (by decide) ?_
  refine k_putI (pc := 7) (u := (st_I u 30 (0 : Int32))) (v := (0 : Int32)) cx hw (ln_X12_this_31 d h) (C := RX12) (T := TX12) (N := 40) rfl in_X12 tyX12 tyX12_ok nmX12 (by decide) q1008 (fun _ h9 => h9) rfl rfl rfl dX12_dropCursor_7 (fun H locs hw => ?_)
  refine lv_aload_n (pc := 10) cx.1 cx.2.1 dX12_dropCursor_10 rfl (lv_at hl 0 rfl) ?_
  refine lv_iconst (pc := 11) (v := -1) cx.1 cx.2.1 dX12_dropCursor_11 (by decide) ?_
  refine k_putI (pc := 12) (u := (st_I (st_I u 30 (0 : Int32)) 31 (0 : Int32))) (v := (-1 : Int32)) cx hw (ln_X12_this_32 d h) (C := RX12) (T := TX12) (N := 40) rfl in_X12 tyX12 tyX12_ok nmX12 (by decide) q1009 (fun _ h9 => h9) rfl rfl rfl dX12_dropCursor_12 (fun H locs hw => ?_)
  exact k_vret (pc := 15) (wf := (wM d h)) (u := (st_I (st_I (st_I u 30 (0 : Int32)) 31 (0 : Int32)) 32 (-1 : Int32))) cx hw hwp (by decide) (by decide) dX12_dropCursor_15
set_option maxHeartbeats 4000000 in
theorem m_X12_isSeries (l : Launch) (dC : Nat → ClassId) (dI : Nat → Nat → Nat) (d : Nat → ClassId) (h : Nat → Nat) (u : St) (x1 : Int32) {K : Int32 → St → Prop} (hwp : wp_X12_isSeries u x1 K) : kM l yX12_isSeries cX12_isSeries 2 (some .boolean) ({ frames := 0, cells := 0, slots := 0, locals := 0 } : Room) dC dI d [.ref (h 0), .int x1] (wM d h) u (kQi dC dI (wM d h) K) 0 0 := by
  refine kM_start rfl (Nat.le_of_ble_eq_true rfl) ?_
  intro p e s m below meth c A ls cx hnm hw hl
  generalize hargs : ([.ref (h 0), .int x1] : List Value).toArray = args at cx ⊢
  unfold wp_X12_isSeries at hwp
  replace hl : lv_has ls 2 [(0, .ref (h 0)), (1, .int x1)] := hl
  generalize hH : s.heap = H at hw ⊢
  generalize hlo : ([] : List Loc) = locs at hw ⊢
  refine lv_iload_n (pc := 0) cx.1 cx.2.1 dX12_isSeries_0 rfl (lv_at hl 1 rfl) ?_
  refine lv_if_lt (pc := 1) (tgt := 16) cx.1 cx.2.1 dX12_isSeries_1 (by decide) (fun c1 => ?_) (fun c1 => ?_)
  · replace hwp := hwp.1 c1
    refine lv_iconst (pc := 16) (v := 0) cx.1 cx.2.1 dX12_isSeries_16 (by decide) ?_
    exact k_zret (pc := 17) (wf := (wM d h)) (u := u) cx hw rfl hwp (by decide) (by decide) dX12_isSeries_17
  · replace hwp := hwp.2 c1
    refine lv_iload_n (pc := 4) cx.1 cx.2.1 dX12_isSeries_4 rfl (lv_at hl 1 rfl) ?_
    refine lv_aload_n (pc := 5) cx.1 cx.2.1 dX12_isSeries_5 rfl (lv_at hl 0 rfl) ?_
    refine k_getI (pc := 6) (u := u) (v := (u.1 1)) cx hw (ln_X12_this_1 d h) (C := RX12) (T := TX12) (N := 40) rfl in_X12 (by decide) q978 (fun _ h9 => h9) rfl dX12_isSeries_6 ?_
    refine lv_icmp_ge (pc := 9) (tgt := 16) cx.1 cx.2.1 dX12_isSeries_9 (by decide) (fun c2 => ?_) (fun c2 => ?_)
    · replace hwp := hwp.1 c2
      refine lv_iconst (pc := 16) (v := 0) cx.1 cx.2.1 dX12_isSeries_16 (by decide) ?_
      exact k_zret (pc := 17) (wf := (wM d h)) (u := u) cx hw rfl hwp (by decide) (by decide) dX12_isSeries_17
    · replace hwp := hwp.2 c2
      refine lv_iconst (pc := 12) (v := 1) cx.1 cx.2.1 dX12_isSeries_12 (by decide) ?_
      refine lv_goto (pc := 13) (tgt := 17) cx.1 cx.2.1 dX12_isSeries_13 (by decide) ?_
      exact k_zret (pc := 17) (wf := (wM d h)) (u := u) cx hw rfl hwp (by decide) (by decide) dX12_isSeries_17
set_option maxHeartbeats 4000000 in
theorem wk_X12_isRising_26 {p : Program} {l : Launch} {e : Env} {s : State} {m : MethodId} {args : Array Value} {below : List Frame} {meth : Method} {c : Code} {A : Nat → Prop} {dC : Nat → ClassId} {dI : Nat → Nat → Nat} {d : Nat → ClassId} {h : Nat → Nat} {C5 : Int32 → Int32 → Int32 → Int32 → St → Prop} {K : Int32 → St → Prop} (cx : Cx p s m args meth c cX12_isRising RX12 7 (some .boolean) A dC dI d) (hC5 : ∀ (x1 : Int32) (x2 : Int32) (x3 : Int32) (x4 : Int32) (u : St) (H : Heap) (locs : List Loc) (ls : Array Slot), C5 x1 x2 x3 x4 u → Wd dC dI A ((wM d h) u) s H locs → lv_has ls 7 [(0, .ref (h 0)), (1, .int x1), (2, .int x2), (3, .int x3), (4, .int x4)] → W p l e ({ frames := 0, cells := 0, slots := 0, locals := 0 } : Room) s m args below meth c H locs 0 0 (MQ below (kQi dC dI (wM d h) K A) args s 0 0 A) (F0 m 5 ls [])) : ∀ (n : Nat) (x1 : Int32) (x2 : Int32) (x3 : Int32) (x4 : Int32) (x5 : Int32) (x6 : Int32) (u : St) (H : Heap) (locs : List Loc) (ls : Array Slot), wp_X12_isRising_26 C5 K n x1 x2 x3 x4 x5 x6 u → Wd dC dI A ((wM d h) u) s H locs → lv_has ls 7 [(0, .ref (h 0)), (1, .int x1), (2, .int x2), (3, .int x3), (4, .int x4), (5, .int x5), (6, .int x6)] → W p l e ({ frames := 0, cells := 0, slots := 0, locals := 0 } : Room) s m args below meth c H locs 0 0 (MQ below (kQi dC dI (wM d h) K A) args s 0 0 A) (F0 m 26 ls []) := by
  intro n
  induction n with
  | zero =>
    intros; contradiction
  | succ n ih =>
    intro x1 x2 x3 x4 x5 x6 u H locs ls hwp hw hl
    unfold wp_X12_isRising_26 at hwp
    refine lv_iload (pc := 26) cx.1 cx.2.1 dX12_isRising_26 (lv_at hl 6 rfl) ?_
    refine lv_aload_n (pc := 28) cx.1 cx.2.1 dX12_isRising_28 rfl (lv_at hl 0 rfl) ?_
    refine k_getR (pc := 29) (u := u) (v := .ref (h 3)) cx hw (lr_X12_this_12 d h) (C := RX12) (T := TX12) (N := 40) rfl in_X12 (by decide) q989 (fun _ h9 => h9) rfl dX12_isRising_29 ?_
    refine lv_iload (pc := 32) cx.1 cx.2.1 dX12_isRising_32 (lv_at hl 5 rfl) ?_
    refine k_iald (pc := 34) (u := u) (f := (u.2.1 12)) cx hw (lx_X12_this_12 d h) 0 rfl rfl hwp.1 dX12_isRising_34 ?_
    replace hwp := hwp.2
    refine lv_icmp_ge (pc := 35) (tgt := 82) cx.1 cx.2.1 dX12_isRising_35 (by decide) (fun c1 => ?_) (fun c1 => ?_)
    · replace hwp := hwp.1 c1
      refine lv_iinc (pc := 82) (v := (x4 + (1 : Int32))) (lv' := [(4, .int (x4 + (1 : Int32))), (0, .ref (h 0)), (1, .int x1), (2, .int x2), (3, .int x3), (5, .int x5), (6, .int x6)]) cx.1 cx.2.1 dX12_isRising_82 hl (k := 4) rfl rfl (by decide) rfl (fun ls hl => ?_)
      refine lv_goto (pc := 85) (tgt := 5) cx.1 cx.2.1 dX12_isRising_85 (by decide) ?_
      exact hC5 _ _ _ _ _ _ _ _ hwp hw (lv_sub hl [1, 2, 3, 4, 0] rfl)
    · replace hwp := hwp.2 c1
      refine lv_aload_n (pc := 38) cx.1 cx.2.1 dX12_isRising_38 rfl (lv_at hl 0 rfl) ?_
      refine k_getR (pc := 39) (u := u) (v := .ref (h 2)) cx hw (lr_X12_this_11 d h) (C := RX12) (T := TX12) (N := 40) rfl in_X12 (by decide) q988 (fun _ h9 => h9) rfl dX12_isRising_39 ?_
      refine lv_iload (pc := 42) cx.1 cx.2.1 dX12_isRising_42 (lv_at hl 5 rfl) ?_
      refine k_iald (pc := 44) (u := u) (f := (u.2.1 11)) cx hw (lx_X12_this_11 d h) 0 rfl rfl hwp.1 dX12_isRising_44 ?_
      replace hwp := hwp.2
      refine lv_iload_n (pc := 45) cx.1 cx.2.1 dX12_isRising_45 rfl (lv_at hl 1 rfl) ?_
      refine lv_icmp_ne (pc := 46) (tgt := 82) cx.1 cx.2.1 dX12_isRising_46 (by decide) (fun c2 => ?_) (fun c2 => ?_)
      · replace hwp := hwp.1 c2
        refine lv_iinc (pc := 82) (v := (x4 + (1 : Int32))) (lv' := [(4, .int (x4 + (1 : Int32))), (0, .ref (h 0)), (1, .int x1), (2, .int x2), (3, .int x3), (5, .int x5), (6, .int x6)]) cx.1 cx.2.1 dX12_isRising_82 hl (k := 4) rfl rfl (by decide) rfl (fun ls hl => ?_)
        refine lv_goto (pc := 85) (tgt := 5) cx.1 cx.2.1 dX12_isRising_85 (by decide) ?_
        exact hC5 _ _ _ _ _ _ _ _ hwp hw (lv_sub hl [1, 2, 3, 4, 0] rfl)
      · replace hwp := hwp.2 c2
        refine lv_iload_n (pc := 49) cx.1 cx.2.1 dX12_isRising_49 rfl (lv_at hl 3 rfl) ?_
        refine lv_if_eq (pc := 50) (tgt := 74) cx.1 cx.2.1 dX12_isRising_50 (by decide) (fun c3 => ?_) (fun c3 => ?_)
        · replace hwp := hwp.1 c3
          refine lv_iconst (pc := 74) (v := 0) cx.1 cx.2.1 dX12_isRising_74 (by decide) ?_
          refine lv_istore_n (pc := 75) (lv' := [(3, .int (0 : Int32)), (0, .ref (h 0)), (1, .int x1), (2, .int x2), (4, .int x4), (5, .int x5), (6, .int x6)]) cx.1 cx.2.1 dX12_isRising_75 rfl hl (by decide) rfl (fun ls hl => ?_)
          refine lv_iinc (pc := 76) (v := (x6 + (1 : Int32))) (lv' := [(6, .int (x6 + (1 : Int32))), (3, .int (0 : Int32)), (0, .ref (h 0)), (1, .int x1), (2, .int x2), (4, .int x4), (5, .int x5)]) cx.1 cx.2.1 dX12_isRising_76 hl (k := 6) rfl rfl (by decide) rfl (fun ls hl => ?_)
          refine lv_goto (pc := 79) (tgt := 26) cx.1 cx.2.1 dX12_isRising_79 (by decide) ?_
          exact ih _ _ _ _ _ _ _ _ _ _ hwp hw (lv_sub hl [2, 3, 4, 1, 5, 6, 0] rfl)
        · replace hwp := hwp.2 c3
          refine lv_iload_n (pc := 53) cx.1 cx.2.1 dX12_isRising_53 rfl (lv_at hl 2 rfl) ?_
          refine lv_aload_n (pc := 54) cx.1 cx.2.1 dX12_isRising_54 rfl (lv_at hl 0 rfl) ?_
          refine k_getR (pc := 55) (u := u) (v := .ref (h 6)) cx hw (lr_X12_this_15 d h) (C := RX12) (T := TX12) (N := 40) rfl in_X12 (by decide) q992 (fun _ h9 => h9) rfl dX12_isRising_55 ?_
          refine lv_bipush (pc := 58) (v := 64) cx.1 cx.2.1 dX12_isRising_58 (by decide) ?_
          refine lv_iload (pc := 60) cx.1 cx.2.1 dX12_isRising_60 (lv_at hl 5 rfl) ?_
          refine lv_imul (pc := 62) cx.1 cx.2.1 dX12_isRising_62 ?_
          refine lv_iload (pc := 63) cx.1 cx.2.1 dX12_isRising_63 (lv_at hl 6 rfl) ?_
          refine lv_iadd (pc := 65) cx.1 cx.2.1 dX12_isRising_65 ?_
          refine k_iald (pc := 66) (u := u) (f := (u.2.1 15)) cx hw (lx_X12_this_15 d h) 0 rfl rfl hwp.1 dX12_isRising_66 ?_
          replace hwp := hwp.2
          refine lv_icmp_le (pc := 67) (tgt := 74) cx.1 cx.2.1 dX12_isRising_67 (by decide) (fun c4 => ?_) (fun c4 => ?_)
          · replace hwp := hwp.1 c4
            refine lv_iconst (pc := 74) (v := 0) cx.1 cx.2.1 dX12_isRising_74 (by decide) ?_
            refine lv_istore_n (pc := 75) (lv' := [(3, .int (0 : Int32)), (0, .ref (h 0)), (1, .int x1), (2, .int x2), (4, .int x4), (5, .int x5), (6, .int x6)]) cx.1 cx.2.1 dX12_isRising_75 rfl hl (by decide) rfl (fun ls hl => ?_)
            refine lv_iinc (pc := 76) (v := (x6 + (1 : Int32))) (lv' := [(6, .int (x6 + (1 : Int32))), (3, .int (0 : Int32)), (0, .ref (h 0)), (1, .int x1), (2, .int x2), (4, .int x4), (5, .int x5)]) cx.1 cx.2.1 dX12_isRising_76 hl (k := 6) rfl rfl (by decide) rfl (fun ls hl => ?_)
            refine lv_goto (pc := 79) (tgt := 26) cx.1 cx.2.1 dX12_isRising_79 (by decide) ?_
            exact ih _ _ _ _ _ _ _ _ _ _ hwp hw (lv_sub hl [2, 3, 4, 1, 5, 6, 0] rfl)
          · replace hwp := hwp.2 c4
            refine lv_iconst (pc := 70) (v := 1) cx.1 cx.2.1 dX12_isRising_70 (by decide) ?_
            refine lv_goto (pc := 71) (tgt := 75) cx.1 cx.2.1 dX12_isRising_71 (by decide) ?_
            refine lv_istore_n (pc := 75) (lv' := [(3, .int (1 : Int32)), (0, .ref (h 0)), (1, .int x1), (2, .int x2), (4, .int x4), (5, .int x5), (6, .int x6)]) cx.1 cx.2.1 dX12_isRising_75 rfl hl (by decide) rfl (fun ls hl => ?_)
            refine lv_iinc (pc := 76) (v := (x6 + (1 : Int32))) (lv' := [(6, .int (x6 + (1 : Int32))), (3, .int (1 : Int32)), (0, .ref (h 0)), (1, .int x1), (2, .int x2), (4, .int x4), (5, .int x5)]) cx.1 cx.2.1 dX12_isRising_76 hl (k := 6) rfl rfl (by decide) rfl (fun ls hl => ?_)
            refine lv_goto (pc := 79) (tgt := 26) cx.1 cx.2.1 dX12_isRising_79 (by decide) ?_
            exact ih _ _ _ _ _ _ _ _ _ _ hwp hw (lv_sub hl [2, 3, 4, 1, 5, 6, 0] rfl)
set_option maxHeartbeats 4000000 in
theorem wk_X12_isRising_91 {p : Program} {l : Launch} {e : Env} {s : State} {m : MethodId} {args : Array Value} {below : List Frame} {meth : Method} {c : Code} {A : Nat → Prop} {dC : Nat → ClassId} {dI : Nat → Nat → Nat} {d : Nat → ClassId} {h : Nat → Nat} {K : Int32 → St → Prop} (cx : Cx p s m args meth c cX12_isRising RX12 7 (some .boolean) A dC dI d) : ∀ (n : Nat) (x1 : Int32) (x2 : Int32) (x3 : Int32) (x4 : Int32) (u : St) (H : Heap) (locs : List Loc) (ls : Array Slot), wp_X12_isRising_91 K n x1 x2 x3 x4 u → Wd dC dI A ((wM d h) u) s H locs → lv_has ls 7 [(0, .ref (h 0)), (1, .int x1), (2, .int x2), (3, .int x3), (4, .int x4)] → W p l e ({ frames := 0, cells := 0, slots := 0, locals := 0 } : Room) s m args below meth c H locs 0 0 (MQ below (kQi dC dI (wM d h) K A) args s 0 0 A) (F0 m 91 ls []) := by
  intro n
  induction n with
  | zero =>
    intros; contradiction
  | succ n ih =>
    intro x1 x2 x3 x4 u H locs ls hwp hw hl
    unfold wp_X12_isRising_91 at hwp
    refine lv_iload (pc := 91) cx.1 cx.2.1 dX12_isRising_91 (lv_at hl 4 rfl) ?_
    refine lv_aload_n (pc := 93) cx.1 cx.2.1 dX12_isRising_93 rfl (lv_at hl 0 rfl) ?_
    refine k_getI (pc := 94) (u := u) (v := (u.1 24)) cx hw (ln_X12_this_24 d h) (C := RX12) (T := TX12) (N := 40) rfl in_X12 (by decide) q1001 (fun _ h9 => h9) rfl dX12_isRising_94 ?_
    refine lv_icmp_ge (pc := 97) (tgt := 138) cx.1 cx.2.1 dX12_isRising_97 (by decide) (fun c1 => ?_) (fun c1 => ?_)
    · replace hwp := hwp.1 c1
      refine lv_iload_n (pc := 138) cx.1 cx.2.1 dX12_isRising_138 rfl (lv_at hl 3 rfl) ?_
      exact k_zret (pc := 139) (wf := (wM d h)) (u := u) cx hw (ok_Zn hwp.1) hwp.2 (by decide) (by decide) dX12_isRising_139
    · replace hwp := hwp.2 c1
      refine lv_iload_n (pc := 100) cx.1 cx.2.1 dX12_isRising_100 rfl (lv_at hl 3 rfl) ?_
      refine lv_if_eq (pc := 101) (tgt := 130) cx.1 cx.2.1 dX12_isRising_101 (by decide) (fun c2 => ?_) (fun c2 => ?_)
      · replace hwp := hwp.1 c2
        refine lv_iconst (pc := 130) (v := 0) cx.1 cx.2.1 dX12_isRising_130 (by decide) ?_
        refine lv_istore_n (pc := 131) (lv' := [(3, .int (0 : Int32)), (0, .ref (h 0)), (1, .int x1), (2, .int x2), (4, .int x4)]) cx.1 cx.2.1 dX12_isRising_131 rfl hl (by decide) rfl (fun ls hl => ?_)
        refine lv_iinc (pc := 132) (v := (x4 + (1 : Int32))) (lv' := [(4, .int (x4 + (1 : Int32))), (3, .int (0 : Int32)), (0, .ref (h 0)), (1, .int x1), (2, .int x2)]) cx.1 cx.2.1 dX12_isRising_132 hl (k := 4) rfl rfl (by decide) rfl (fun ls hl => ?_)
        refine lv_goto (pc := 135) (tgt := 91) cx.1 cx.2.1 dX12_isRising_135 (by decide) ?_
        exact ih _ _ _ _ _ _ _ _ hwp hw (lv_sub hl [2, 3, 4, 1, 0] rfl)
      · replace hwp := hwp.2 c2
        refine lv_aload_n (pc := 104) cx.1 cx.2.1 dX12_isRising_104 rfl (lv_at hl 0 rfl) ?_
        refine k_getR (pc := 105) (u := u) (v := .ref (h 9)) cx hw (lr_X12_this_21 d h) (C := RX12) (T := TX12) (N := 40) rfl in_X12 (by decide) q998 (fun _ h9 => h9) rfl dX12_isRising_105 ?_
        refine lv_iload (pc := 108) cx.1 cx.2.1 dX12_isRising_108 (lv_at hl 4 rfl) ?_
        refine k_iald (pc := 110) (u := u) (f := (u.2.1 21)) cx hw (lx_X12_this_21 d h) 0 rfl rfl hwp.1 dX12_isRising_110 ?_
        replace hwp := hwp.2
        refine lv_iload_n (pc := 111) cx.1 cx.2.1 dX12_isRising_111 rfl (lv_at hl 1 rfl) ?_
        refine lv_icmp_ne (pc := 112) (tgt := 126) cx.1 cx.2.1 dX12_isRising_112 (by decide) (fun c3 => ?_) (fun c3 => ?_)
        · replace hwp := hwp.1 c3
          refine lv_iconst (pc := 126) (v := 1) cx.1 cx.2.1 dX12_isRising_126 (by decide) ?_
          refine lv_goto (pc := 127) (tgt := 131) cx.1 cx.2.1 dX12_isRising_127 (by decide) ?_
          refine lv_istore_n (pc := 131) (lv' := [(3, .int (1 : Int32)), (0, .ref (h 0)), (1, .int x1), (2, .int x2), (4, .int x4)]) cx.1 cx.2.1 dX12_isRising_131 rfl hl (by decide) rfl (fun ls hl => ?_)
          refine lv_iinc (pc := 132) (v := (x4 + (1 : Int32))) (lv' := [(4, .int (x4 + (1 : Int32))), (3, .int (1 : Int32)), (0, .ref (h 0)), (1, .int x1), (2, .int x2)]) cx.1 cx.2.1 dX12_isRising_132 hl (k := 4) rfl rfl (by decide) rfl (fun ls hl => ?_)
          refine lv_goto (pc := 135) (tgt := 91) cx.1 cx.2.1 dX12_isRising_135 (by decide) ?_
          exact ih _ _ _ _ _ _ _ _ hwp hw (lv_sub hl [2, 3, 4, 1, 0] rfl)
        · replace hwp := hwp.2 c3
          refine lv_iload_n (pc := 115) cx.1 cx.2.1 dX12_isRising_115 rfl (lv_at hl 2 rfl) ?_
          refine lv_aload_n (pc := 116) cx.1 cx.2.1 dX12_isRising_116 rfl (lv_at hl 0 rfl) ?_
          refine k_getR (pc := 117) (u := u) (v := .ref (h 10)) cx hw (lr_X12_this_22 d h) (C := RX12) (T := TX12) (N := 40) rfl in_X12 (by decide) q999 (fun _ h9 => h9) rfl dX12_isRising_117 ?_
          refine lv_iload (pc := 120) cx.1 cx.2.1 dX12_isRising_120 (lv_at hl 4 rfl) ?_
          refine k_iald (pc := 122) (u := u) (f := (u.2.1 22)) cx hw (lx_X12_this_22 d h) 0 rfl rfl hwp.1 dX12_isRising_122 ?_
          replace hwp := hwp.2
          refine lv_icmp_le (pc := 123) (tgt := 130) cx.1 cx.2.1 dX12_isRising_123 (by decide) (fun c4 => ?_) (fun c4 => ?_)
          · replace hwp := hwp.1 c4
            refine lv_iconst (pc := 130) (v := 0) cx.1 cx.2.1 dX12_isRising_130 (by decide) ?_
            refine lv_istore_n (pc := 131) (lv' := [(3, .int (0 : Int32)), (0, .ref (h 0)), (1, .int x1), (2, .int x2), (4, .int x4)]) cx.1 cx.2.1 dX12_isRising_131 rfl hl (by decide) rfl (fun ls hl => ?_)
            refine lv_iinc (pc := 132) (v := (x4 + (1 : Int32))) (lv' := [(4, .int (x4 + (1 : Int32))), (3, .int (0 : Int32)), (0, .ref (h 0)), (1, .int x1), (2, .int x2)]) cx.1 cx.2.1 dX12_isRising_132 hl (k := 4) rfl rfl (by decide) rfl (fun ls hl => ?_)
            refine lv_goto (pc := 135) (tgt := 91) cx.1 cx.2.1 dX12_isRising_135 (by decide) ?_
            exact ih _ _ _ _ _ _ _ _ hwp hw (lv_sub hl [2, 3, 4, 1, 0] rfl)
          · replace hwp := hwp.2 c4
            refine lv_iconst (pc := 126) (v := 1) cx.1 cx.2.1 dX12_isRising_126 (by decide) ?_
            refine lv_goto (pc := 127) (tgt := 131) cx.1 cx.2.1 dX12_isRising_127 (by decide) ?_
            refine lv_istore_n (pc := 131) (lv' := [(3, .int (1 : Int32)), (0, .ref (h 0)), (1, .int x1), (2, .int x2), (4, .int x4)]) cx.1 cx.2.1 dX12_isRising_131 rfl hl (by decide) rfl (fun ls hl => ?_)
            refine lv_iinc (pc := 132) (v := (x4 + (1 : Int32))) (lv' := [(4, .int (x4 + (1 : Int32))), (3, .int (1 : Int32)), (0, .ref (h 0)), (1, .int x1), (2, .int x2)]) cx.1 cx.2.1 dX12_isRising_132 hl (k := 4) rfl rfl (by decide) rfl (fun ls hl => ?_)
            refine lv_goto (pc := 135) (tgt := 91) cx.1 cx.2.1 dX12_isRising_135 (by decide) ?_
            exact ih _ _ _ _ _ _ _ _ hwp hw (lv_sub hl [2, 3, 4, 1, 0] rfl)
set_option maxHeartbeats 4000000 in
theorem wk_X12_isRising_5 {p : Program} {l : Launch} {e : Env} {s : State} {m : MethodId} {args : Array Value} {below : List Frame} {meth : Method} {c : Code} {A : Nat → Prop} {dC : Nat → ClassId} {dI : Nat → Nat → Nat} {d : Nat → ClassId} {h : Nat → Nat} {K : Int32 → St → Prop} (cx : Cx p s m args meth c cX12_isRising RX12 7 (some .boolean) A dC dI d) : ∀ (n : Nat) (x1 : Int32) (x2 : Int32) (x3 : Int32) (x4 : Int32) (u : St) (H : Heap) (locs : List Loc) (ls : Array Slot), wp_X12_isRising_5 K n x1 x2 x3 x4 u → Wd dC dI A ((wM d h) u) s H locs → lv_has ls 7 [(0, .ref (h 0)), (1, .int x1), (2, .int x2), (3, .int x3), (4, .int x4)] → W p l e ({ frames := 0, cells := 0, slots := 0, locals := 0 } : Room) s m args below meth c H locs 0 0 (MQ below (kQi dC dI (wM d h) K A) args s 0 0 A) (F0 m 5 ls []) := by
  intro n
  induction n with
  | zero =>
    intros; contradiction
  | succ n ih =>
    intro x1 x2 x3 x4 u H locs ls hwp hw hl
    unfold wp_X12_isRising_5 at hwp
    refine lv_iload (pc := 5) cx.1 cx.2.1 dX12_isRising_5 (lv_at hl 4 rfl) ?_
    refine lv_aload_n (pc := 7) cx.1 cx.2.1 dX12_isRising_7 rfl (lv_at hl 0 rfl) ?_
    refine k_getI (pc := 8) (u := u) (v := (u.1 18)) cx hw (ln_X12_this_18 d h) (C := RX12) (T := TX12) (N := 40) rfl in_X12 (by decide) q995 (fun _ h9 => h9) rfl dX12_isRising_8 ?_
    refine lv_icmp_ge (pc := 11) (tgt := 88) cx.1 cx.2.1 dX12_isRising_11 (by decide) (fun c1 => ?_) (fun c1 => ?_)
    · replace hwp := hwp.1 c1
      refine lv_iconst (pc := 88) (v := 0) cx.1 cx.2.1 dX12_isRising_88 (by decide) ?_
      refine lv_istore (pc := 89) (lv' := [(4, .int (0 : Int32)), (0, .ref (h 0)), (1, .int x1), (2, .int x2), (3, .int x3)]) cx.1 cx.2.1 dX12_isRising_89 hl (by decide) rfl (fun ls hl => ?_)
      obtain ⟨n91, hwp⟩ := hwp
      exact wk_X12_isRising_91 cx n91 _ _ _ _ _ _ _ _ hwp hw (lv_sub hl [1, 2, 3, 4, 0] rfl)
    · replace hwp := hwp.2 c1
      refine lv_aload_n (pc := 14) cx.1 cx.2.1 dX12_isRising_14 rfl (lv_at hl 0 rfl) ?_
      refine k_getR (pc := 15) (u := u) (v := .ref (h 8)) cx hw (lr_X12_this_17 d h) (C := RX12) (T := TX12) (N := 40) rfl in_X12 (by decide) q994 (fun _ h9 => h9) rfl dX12_isRising_15 ?_
      refine lv_iload (pc := 18) cx.1 cx.2.1 dX12_isRising_18 (lv_at hl 4 rfl) ?_
      refine k_iald (pc := 20) (u := u) (f := (u.2.1 17)) cx hw (lx_X12_this_17 d h) 0 rfl rfl hwp.1 dX12_isRising_20 ?_
      replace hwp := hwp.2
      refine lv_istore (pc := 21) (lv' := [(5, .int ((u.2.1 17) x4.toNatClampNeg)), (0, .ref (h 0)), (1, .int x1), (2, .int x2), (3, .int x3), (4, .int x4)]) cx.1 cx.2.1 dX12_isRising_21 hl (by decide) rfl (fun ls hl => ?_)
      refine lv_iconst (pc := 23) (v := 0) cx.1 cx.2.1 dX12_isRising_23 (by decide) ?_
      refine lv_istore (pc := 24) (lv' := [(6, .int (0 : Int32)), (5, .int ((u.2.1 17) x4.toNatClampNeg)), (0, .ref (h 0)), (1, .int x1), (2, .int x2), (3, .int x3), (4, .int x4)]) cx.1 cx.2.1 dX12_isRising_24 hl (by decide) rfl (fun ls hl => ?_)
      obtain ⟨n26, hwp⟩ := hwp
      exact wk_X12_isRising_26 cx ih n26 _ _ _ _ _ _ _ _ _ _ hwp hw (lv_sub hl [2, 3, 4, 5, 6, 1, 0] rfl)
set_option maxHeartbeats 4000000 in
theorem m_X12_isRising (l : Launch) (dC : Nat → ClassId) (dI : Nat → Nat → Nat) (d : Nat → ClassId) (h : Nat → Nat) (u : St) (x1 : Int32) (x2 : Int32) {K : Int32 → St → Prop} (hwp : wp_X12_isRising u x1 x2 K) : kM l yX12_isRising cX12_isRising 7 (some .boolean) ({ frames := 0, cells := 0, slots := 0, locals := 0 } : Room) dC dI d [.ref (h 0), .int x1, .int x2] (wM d h) u (kQi dC dI (wM d h) K) 0 0 := by
  refine kM_start rfl (Nat.le_of_ble_eq_true rfl) ?_
  intro p e s m below meth c A ls cx hnm hw hl
  generalize hargs : ([.ref (h 0), .int x1, .int x2] : List Value).toArray = args at cx ⊢
  unfold wp_X12_isRising at hwp
  replace hl : lv_has ls 7 [(0, .ref (h 0)), (1, .int x1), (2, .int x2)] := hl
  generalize hH : s.heap = H at hw ⊢
  generalize hlo : ([] : List Loc) = locs at hw ⊢
  refine lv_iconst (pc := 0) (v := 1) cx.1 cx.2.1 dX12_isRising_0 (by decide) ?_
  refine lv_istore_n (pc := 1) (lv' := [(3, .int (1 : Int32)), (0, .ref (h 0)), (1, .int x1), (2, .int x2)]) cx.1 cx.2.1 dX12_isRising_1 rfl hl (by decide) rfl (fun ls hl => ?_)
  refine lv_iconst (pc := 2) (v := 0) cx.1 cx.2.1 dX12_isRising_2 (by decide) ?_
  refine lv_istore (pc := 3) (lv' := [(4, .int (0 : Int32)), (3, .int (1 : Int32)), (0, .ref (h 0)), (1, .int x1), (2, .int x2)]) cx.1 cx.2.1 dX12_isRising_3 hl (by decide) rfl (fun ls hl => ?_)
  obtain ⟨n5, hwp⟩ := hwp
  exact wk_X12_isRising_5 cx n5 _ _ _ _ _ _ _ _ hwp hw (lv_sub hl [2, 3, 4, 1, 0] rfl)
set_option maxHeartbeats 4000000 in
theorem wk_X12_write_31 {p : Program} {l : Launch} {e : Env} {s : State} {m : MethodId} {args : Array Value} {below : List Frame} {meth : Method} {c : Code} {A : Nat → Prop} {dC : Nat → ClassId} {dI : Nat → Nat → Nat} {d : Nat → ClassId} {h : Nat → Nat} {K : Int32 → St → Prop} (cx : Cx p s m args meth c cX12_write RX12 3 (some .boolean) A dC dI d) : ∀ (x1 : Int32) (x2 : Int32) (u : St) (H : Heap) (locs : List Loc) (ls : Array Slot), wp_X12_write_31 K x1 x2 u → Wd dC dI A ((wM d h) u) s H locs → lv_has ls 3 [(0, .ref (h 0)), (1, .int x1), (2, .int x2)] → W p l e ({ frames := 0, cells := 0, slots := 0, locals := 0 } : Room) s m args below meth c H locs 0 0 (MQ below (kQi dC dI (wM d h) K A) args s 0 0 A) (F0 m 31 ls []) := by
  intro x1 x2 u H locs ls hwp hw hl
  unfold wp_X12_write_31 at hwp
  refine lv_aload_n (pc := 31) cx.1 cx.2.1 dX12_write_31 rfl (lv_at hl 0 rfl) ?_
  refine lv_dup (pc := 32) cx.1 cx.2.1 dX12_write_32 rfl ?_
  refine k_getI (pc := 33) (u := u) (v := (u.1 5)) cx hw (ln_X12_this_5 d h) (C := RX12) (T := TX12) (N := 40) rfl in_X12 (by decide) q982 (fun _ h9 => h9) rfl dX12_write_33 ?_
  refine lv_iconst (pc := 36) (v := 1) cx.1 cx.2.1 dX12_write_36 (by decide) ?_
  refine lv_iadd (pc := 37) cx.1 cx.2.1 dX12_write_37 ?_
  refine k_putI (pc := 38) (u := u) (v := ((u.1 5) + (1 : Int32))) cx hw (ln_X12_this_5 d h) (C := RX12) (T := TX12) (N := 40) rfl in_X12 tyX12 tyX12_ok nmX12 (by decide) q982 (fun _ h9 => h9) rfl rfl rfl dX12_write_38 (fun H locs hw => ?_)
  refine lv_aload_n (pc := 41) cx.1 cx.2.1 dX12_write_41 rfl (lv_at hl 0 rfl) ?_
  refine k_getR (pc := 42) (u := (st_I u 5 ((u.1 5) + (1 : Int32)))) (v := .ref (h 1)) cx hw (lr_X12_this_4 d h) (C := RX12) (T := TX12) (N := 40) rfl in_X12 (by decide) q981 (fun _ h9 => h9) rfl dX12_write_42 ?_
  refine lv_iload_n (pc := 45) cx.1 cx.2.1 dX12_write_45 rfl (lv_at hl 1 rfl) ?_
  refine lv_iload_n (pc := 46) cx.1 cx.2.1 dX12_write_46 rfl (lv_at hl 2 rfl) ?_
  refine k_iast (pc := 47) (u := (st_I u 5 ((u.1 5) + (1 : Int32)))) (f := (u.2.1 4)) cx hw (ln_X12_this_4 d h) 0 rfl rfl hwp.1 dX12_write_47 (fun H locs hw => ?_)
  replace hwp := hwp.2
  refine lv_iconst (pc := 48) (v := 1) cx.1 cx.2.1 dX12_write_48 (by decide) ?_
  exact k_zret (pc := 49) (wf := (wM d h)) (u := (st_A (st_I u 5 ((u.1 5) + (1 : Int32))) 4 (upd (u.2.1 4) x1.toNatClampNeg x2))) cx hw rfl hwp (by decide) (by decide) dX12_write_49
set_option maxHeartbeats 4000000 in
theorem m_X12_write (l : Launch) (dC : Nat → ClassId) (dI : Nat → Nat → Nat) (d : Nat → ClassId) (h : Nat → Nat) (u : St) (x1 : Int32) (x2 : Int32) {K : Int32 → St → Prop} (hwp : wp_X12_write u x1 x2 K) : kM l yX12_write cX12_write 3 (some .boolean) ({ frames := 0, cells := 0, slots := 0, locals := 0 } : Room) dC dI d [.ref (h 0), .int x1, .int x2] (wM d h) u (kQi dC dI (wM d h) K) 0 0 := by
  refine kM_start rfl (Nat.le_of_ble_eq_true rfl) ?_
  intro p e s m below meth c A ls cx hnm hw hl
  generalize hargs : ([.ref (h 0), .int x1, .int x2] : List Value).toArray = args at cx ⊢
  unfold wp_X12_write at hwp
  replace hl : lv_has ls 3 [(0, .ref (h 0)), (1, .int x1), (2, .int x2)] := hl
  generalize hH : s.heap = H at hw ⊢
  generalize hlo : ([] : List Loc) = locs at hw ⊢
  refine lv_aload_n (pc := 0) cx.1 cx.2.1 dX12_write_0 rfl (lv_at hl 0 rfl) ?_
  refine k_getI (pc := 1) (u := u) (v := (u.1 6)) cx hw (ln_X12_this_6 d h) (C := RX12) (T := TX12) (N := 40) rfl in_X12 (by decide) q983 (fun _ h9 => h9) rfl dX12_write_1 ?_
  refine lv_if_ne (pc := 4) (tgt := 14) cx.1 cx.2.1 dX12_write_4 (by decide) (fun c1 => ?_) (fun c1 => ?_)
  · replace hwp := hwp.1 c1
    refine lv_aload_n (pc := 14) cx.1 cx.2.1 dX12_write_14 rfl (lv_at hl 0 rfl) ?_
    refine k_getI (pc := 15) (u := u) (v := (u.1 6)) cx hw (ln_X12_this_6 d h) (C := RX12) (T := TX12) (N := 40) rfl in_X12 (by decide) q983 (fun _ h9 => h9) rfl dX12_write_15 ?_
    refine lv_if_le (pc := 18) (tgt := 31) cx.1 cx.2.1 dX12_write_18 (by decide) (fun c2 => ?_) (fun c2 => ?_)
    · replace hwp := hwp.1 c2
      exact wk_X12_write_31 cx _ _ _ _ _ _ hwp hw (lv_sub hl [0, 1, 2] rfl)
    · replace hwp := hwp.2 c2
      refine lv_aload_n (pc := 21) cx.1 cx.2.1 dX12_write_21 rfl (lv_at hl 0 rfl) ?_
      refine lv_dup (pc := 22) cx.1 cx.2.1 dX12_write_22 rfl ?_
      refine k_getI (pc := 23) (u := u) (v := (u.1 6)) cx hw (ln_X12_this_6 d h) (C := RX12) (T := TX12) (N := 40) rfl in_X12 (by decide) q983 (fun _ h9 => h9) rfl dX12_write_23 ?_
      refine lv_iconst (pc := 26) (v := 1) cx.1 cx.2.1 dX12_write_26 (by decide) ?_
      refine lv_isub (pc := 27) cx.1 cx.2.1 dX12_write_27 ?_
      refine k_putI (pc := 28) (u := u) (v := ((u.1 6) - (1 : Int32))) cx hw (ln_X12_this_6 d h) (C := RX12) (T := TX12) (N := 40) rfl in_X12 tyX12 tyX12_ok nmX12 (by decide) q983 (fun _ h9 => h9) rfl rfl rfl dX12_write_28 (fun H locs hw => ?_)
      exact wk_X12_write_31 cx _ _ _ _ _ _ hwp hw (lv_sub hl [0, 1, 2] rfl)
  · replace hwp := hwp.2 c1
    refine lv_aload_n (pc := 7) cx.1 cx.2.1 dX12_write_7 rfl (lv_at hl 0 rfl) ?_
    refine lv_iconst (pc := 8) (v := 1) cx.1 cx.2.1 dX12_write_8 (by decide) ?_
    refine k_putI (pc := 9) (u := u) (v := (1 : Int32)) cx hw (ln_X12_this_7 d h) (C := RX12) (T := TX12) (N := 40) rfl in_X12 tyX12 tyX12_ok nmX12 (by decide) q984 (fun _ h9 => h9) rfl rfl rfl dX12_write_9 (fun H locs hw => ?_)
    refine lv_iconst (pc := 12) (v := 0) cx.1 cx.2.1 dX12_write_12 (by decide) ?_
    exact k_zret (pc := 13) (wf := (wM d h)) (u := (st_I u 7 (1 : Int32))) cx hw rfl hwp (by decide) (by decide) dX12_write_13
set_option maxHeartbeats 4000000 in
theorem m_X12_append (l : Launch) (dC : Nat → ClassId) (dI : Nat → Nat → Nat) (d : Nat → ClassId) (h : Nat → Nat) (u : St) (x1 : Int32) (x2 : Int32) (x3 : Int32) {K : Int32 → St → Prop} (hwp : wp_X12_append u x1 x2 x3 K) : kM l yX12_append cX12_append 5 (some .int) ({ frames := 1, cells := 0, slots := 0, locals := 26 } : Room) dC dI d [.ref (h 0), .int x1, .int x2, .int x3] (wM d h) u (kQi dC dI (wM d h) K) 0 0 := by
  refine kM_start rfl (Nat.le_of_ble_eq_true rfl) ?_
  intro p e s m below meth c A ls cx hnm hw hl
  generalize hargs : ([.ref (h 0), .int x1, .int x2, .int x3] : List Value).toArray = args at cx ⊢
  unfold wp_X12_append at hwp
  replace hl : lv_has ls 5 [(0, .ref (h 0)), (1, .int x1), (2, .int x2), (3, .int x3)] := hl
  generalize hH : s.heap = H at hw ⊢
  generalize hlo : ([] : List Loc) = locs at hw ⊢
  refine lv_aload_n (pc := 0) cx.1 cx.2.1 dX12_append_0 rfl (lv_at hl 0 rfl) ?_
  refine lv_iconst (pc := 1) (v := 0) cx.1 cx.2.1 dX12_append_1 (by decide) ?_
  refine k_putI (pc := 2) (u := u) (v := (0 : Int32)) cx hw (ln_X12_this_0 d h) (C := RX12) (T := TX12) (N := 40) rfl in_X12 tyX12 tyX12_ok nmX12 (by decide) q977 (fun _ h9 => h9) rfl rfl rfl dX12_append_2 (fun H locs hw => ?_)
  refine lv_aload_n (pc := 5) cx.1 cx.2.1 dX12_append_5 rfl (lv_at hl 0 rfl) ?_
  refine k_whole_v (pc := 6) (wf := (wM d h)) (u := (st_I u 0 (0 : Int32))) cx hw (k_runV (pc := 6) (rest := []) (As := []) cx hw.1 (hw.2.1.weaken (fun _ _ _ _ => trivial)) hw.2.2 (k_recv cx hw 0 (ci := 10) (q := (RX12, TX12, 40)) rfl rfl) (m_X12_dropCursor l dC dI d h  (st_I u 0 (0 : Int32))  hwp H.size) (cwV 0 cx.2.2.2.2.1 (lw_V q1106 q1108 qs32 q89 q1109) rfl rfl rfl hdV_X12_dropCursor ⟨Nat.le_of_ble_eq_true rfl, Nat.le_of_ble_eq_true rfl⟩) rfl hl.1 rfl (Nat.le_of_ble_eq_true rfl) dX12_append_6 ⟨Nat.le_of_ble_eq_true rfl, Nat.le_of_ble_eq_true rfl⟩) (fun u1 H locs hwp hw => ?_)
  refine lv_aload_n (pc := 9) cx.1 cx.2.1 dX12_append_9 rfl (lv_at hl 0 rfl) ?_
  refine k_getI (pc := 10) (u := u1) (v := (u1.1 7)) cx hw (ln_X12_this_7 d h) (C := RX12) (T := TX12) (N := 40) rfl in_X12 (by decide) q984 (fun _ h9 => h9) rfl dX12_append_10 ?_
  refine lv_if_eq (pc := 13) (tgt := 19) cx.1 cx.2.1 dX12_append_13 (by decide) (fun c3 => ?_) (fun c3 => ?_)
  · replace hwp := hwp.1 c3
    refine lv_aload_n (pc := 19) cx.1 cx.2.1 dX12_append_19 rfl (lv_at hl 0 rfl) ?_
    refine lv_iload_n (pc := 20) cx.1 cx.2.1 dX12_append_20 rfl (lv_at hl 1 rfl) ?_
    refine k_whole_i (pc := 21) (wf := (wM d h)) (u := u1) cx hw (k_runV (pc := 21) (rest := []) (As := [.int x1]) cx hw.1 (hw.2.1.weaken (fun _ _ _ _ => trivial)) hw.2.2 (k_recv cx hw 0 (ci := 10) (q := (RX12, TX12, 40)) rfl rfl) (m_X12_isSeries l dC dI d h  u1 x1 hwp H.size) (cwV 1 cx.2.2.2.2.1 (lw_V q1110 q1112 qs33 q89 q1113) rfl rfl rfl hdV_X12_isSeries ⟨Nat.le_of_ble_eq_true rfl, Nat.le_of_ble_eq_true rfl⟩) rfl hl.1 rfl (Nat.le_of_ble_eq_true rfl) dX12_append_21 ⟨Nat.le_of_ble_eq_true rfl, Nat.le_of_ble_eq_true rfl⟩) (fun r5 u4 H locs hwp hw => ?_)
    refine lv_if_ne (pc := 24) (tgt := 30) cx.1 cx.2.1 dX12_append_24 (by decide) (fun c6 => ?_) (fun c6 => ?_)
    · replace hwp := hwp.1 c6
      refine lv_aload_n (pc := 30) cx.1 cx.2.1 dX12_append_30 rfl (lv_at hl 0 rfl) ?_
      refine lv_iload_n (pc := 31) cx.1 cx.2.1 dX12_append_31 rfl (lv_at hl 1 rfl) ?_
      refine lv_iload_n (pc := 32) cx.1 cx.2.1 dX12_append_32 rfl (lv_at hl 2 rfl) ?_
      refine k_whole_i (pc := 33) (wf := (wM d h)) (u := u4) cx hw (k_runV (pc := 33) (rest := []) (As := [.int x1, .int x2]) cx hw.1 (hw.2.1.weaken (fun _ _ _ _ => trivial)) hw.2.2 (k_recv cx hw 0 (ci := 10) (q := (RX12, TX12, 40)) rfl rfl) (m_X12_isRising l dC dI d h  u4 x1 x2 hwp H.size) (cwV 2 cx.2.2.2.2.1 (lw_V q1114 q1116 qs34 q89 q1117) rfl rfl rfl hdV_X12_isRising ⟨Nat.le_of_ble_eq_true rfl, Nat.le_of_ble_eq_true rfl⟩) rfl hl.1 rfl (Nat.le_of_ble_eq_true rfl) dX12_append_33 ⟨Nat.le_of_ble_eq_true rfl, Nat.le_of_ble_eq_true rfl⟩) (fun r8 u7 H locs hwp hw => ?_)
      refine lv_if_ne (pc := 36) (tgt := 41) cx.1 cx.2.1 dX12_append_36 (by decide) (fun c9 => ?_) (fun c9 => ?_)
      · replace hwp := hwp.1 c9
        refine lv_aload_n (pc := 41) cx.1 cx.2.1 dX12_append_41 rfl (lv_at hl 0 rfl) ?_
        refine k_getI (pc := 42) (u := u7) (v := (u7.1 24)) cx hw (ln_X12_this_24 d h) (C := RX12) (T := TX12) (N := 40) rfl in_X12 (by decide) q1001 (fun _ h9 => h9) rfl dX12_append_42 ?_
        refine lv_sipush (pc := 45) (v := 128) cx.1 cx.2.1 dX12_append_45 (by decide) ?_
        refine lv_icmp_ne (pc := 48) (tgt := 54) cx.1 cx.2.1 dX12_append_48 (by decide) (fun c10 => ?_) (fun c10 => ?_)
        · replace hwp := hwp.1 c10
          refine lv_sipush (pc := 54) (v := 1923) cx.1 cx.2.1 dX12_append_54 (by decide) ?_
          refine lv_iconst (pc := 57) (v := 4) cx.1 cx.2.1 dX12_append_57 (by decide) ?_
          refine lv_aload_n (pc := 58) cx.1 cx.2.1 dX12_append_58 rfl (lv_at hl 0 rfl) ?_
          refine k_getI (pc := 59) (u := u7) (v := (u7.1 24)) cx hw (ln_X12_this_24 d h) (C := RX12) (T := TX12) (N := 40) rfl in_X12 (by decide) q1001 (fun _ h9 => h9) rfl dX12_append_59 ?_
          refine lv_imul (pc := 62) cx.1 cx.2.1 dX12_append_62 ?_
          refine lv_iadd (pc := 63) cx.1 cx.2.1 dX12_append_63 ?_
          refine lv_istore (pc := 64) (lv' := [(4, .int ((1923 : Int32) + ((4 : Int32) * (u7.1 24)))), (0, .ref (h 0)), (1, .int x1), (2, .int x2), (3, .int x3)]) cx.1 cx.2.1 dX12_append_64 hl (by decide) rfl (fun ls hl => ?_)
          refine lv_aload_n (pc := 66) cx.1 cx.2.1 dX12_append_66 rfl (lv_at hl 1 rfl) ?_
          refine lv_iload (pc := 67) cx.1 cx.2.1 dX12_append_67 (lv_at hl 0 rfl) ?_
          refine lv_iload_n (pc := 69) cx.1 cx.2.1 dX12_append_69 rfl (lv_at hl 2 rfl) ?_
          refine k_whole_i (pc := 70) (wf := (wM d h)) (u := u7) cx hw (k_runV (pc := 70) (rest := []) (As := [.int ((1923 : Int32) + ((4 : Int32) * (u7.1 24))), .int x1]) cx hw.1 (hw.2.1.weaken (fun _ _ _ _ => trivial)) hw.2.2 (k_recv cx hw 0 (ci := 10) (q := (RX12, TX12, 40)) rfl rfl) (m_X12_write l dC dI d h  u7 ((1923 : Int32) + ((4 : Int32) * (u7.1 24))) x1 hwp H.size) (cwV 2 cx.2.2.2.2.1 (lw_V q1118 q1120 qs35 q89 q1121) rfl rfl rfl hdV_X12_write ⟨Nat.le_of_ble_eq_true rfl, Nat.le_of_ble_eq_true rfl⟩) rfl hl.1 rfl (Nat.le_of_ble_eq_true rfl) dX12_append_70 ⟨Nat.le_of_ble_eq_true rfl, Nat.le_of_ble_eq_true rfl⟩) (fun r12 u11 H locs hwp hw => ?_)
          refine lv_if_eq (pc := 73) (tgt := 117) cx.1 cx.2.1 dX12_append_73 (by decide) (fun c13 => ?_) (fun c13 => ?_)
          · replace hwp := hwp.1 c13
            refine lv_bipush (pc := 117) (v := -9) cx.1 cx.2.1 dX12_append_117 (by decide) ?_
            exact k_iret (pc := 119) (wf := (wM d h)) (u := u11) cx hw hwp (by decide) (by decide) dX12_append_119
          · replace hwp := hwp.2 c13
            refine lv_aload_n (pc := 76) cx.1 cx.2.1 dX12_append_76 rfl (lv_at hl 1 rfl) ?_
            refine lv_iload (pc := 77) cx.1 cx.2.1 dX12_append_77 (lv_at hl 0 rfl) ?_
            refine lv_iconst (pc := 79) (v := 1) cx.1 cx.2.1 dX12_append_79 (by decide) ?_
            refine lv_iadd (pc := 80) cx.1 cx.2.1 dX12_append_80 ?_
            refine lv_iload_n (pc := 81) cx.1 cx.2.1 dX12_append_81 rfl (lv_at hl 3 rfl) ?_
            refine k_whole_i (pc := 82) (wf := (wM d h)) (u := u11) cx hw (k_runV (pc := 82) (rest := []) (As := [.int (((1923 : Int32) + ((4 : Int32) * (u7.1 24))) + (1 : Int32)), .int x2]) cx hw.1 (hw.2.1.weaken (fun _ _ _ _ => trivial)) hw.2.2 (k_recv cx hw 0 (ci := 10) (q := (RX12, TX12, 40)) rfl rfl) (m_X12_write l dC dI d h  u11 (((1923 : Int32) + ((4 : Int32) * (u7.1 24))) + (1 : Int32)) x2 hwp H.size) (cwV 2 cx.2.2.2.2.1 (lw_V q1118 q1120 qs35 q89 q1121) rfl rfl rfl hdV_X12_write ⟨Nat.le_of_ble_eq_true rfl, Nat.le_of_ble_eq_true rfl⟩) rfl hl.1 rfl (Nat.le_of_ble_eq_true rfl) dX12_append_82 ⟨Nat.le_of_ble_eq_true rfl, Nat.le_of_ble_eq_true rfl⟩) (fun r15 u14 H locs hwp hw => ?_)
            refine lv_if_eq (pc := 85) (tgt := 117) cx.1 cx.2.1 dX12_append_85 (by decide) (fun c16 => ?_) (fun c16 => ?_)
            · replace hwp := hwp.1 c16
              refine lv_bipush (pc := 117) (v := -9) cx.1 cx.2.1 dX12_append_117 (by decide) ?_
              exact k_iret (pc := 119) (wf := (wM d h)) (u := u14) cx hw hwp (by decide) (by decide) dX12_append_119
            · replace hwp := hwp.2 c16
              refine lv_aload_n (pc := 88) cx.1 cx.2.1 dX12_append_88 rfl (lv_at hl 1 rfl) ?_
              refine lv_iload (pc := 89) cx.1 cx.2.1 dX12_append_89 (lv_at hl 0 rfl) ?_
              refine lv_iconst (pc := 91) (v := 2) cx.1 cx.2.1 dX12_append_91 (by decide) ?_
              refine lv_iadd (pc := 92) cx.1 cx.2.1 dX12_append_92 ?_
              refine lv_iload_n (pc := 93) cx.1 cx.2.1 dX12_append_93 rfl (lv_at hl 4 rfl) ?_
              refine k_whole_i (pc := 94) (wf := (wM d h)) (u := u14) cx hw (k_runV (pc := 94) (rest := []) (As := [.int (((1923 : Int32) + ((4 : Int32) * (u7.1 24))) + (2 : Int32)), .int x3]) cx hw.1 (hw.2.1.weaken (fun _ _ _ _ => trivial)) hw.2.2 (k_recv cx hw 0 (ci := 10) (q := (RX12, TX12, 40)) rfl rfl) (m_X12_write l dC dI d h  u14 (((1923 : Int32) + ((4 : Int32) * (u7.1 24))) + (2 : Int32)) x3 hwp H.size) (cwV 2 cx.2.2.2.2.1 (lw_V q1118 q1120 qs35 q89 q1121) rfl rfl rfl hdV_X12_write ⟨Nat.le_of_ble_eq_true rfl, Nat.le_of_ble_eq_true rfl⟩) rfl hl.1 rfl (Nat.le_of_ble_eq_true rfl) dX12_append_94 ⟨Nat.le_of_ble_eq_true rfl, Nat.le_of_ble_eq_true rfl⟩) (fun r18 u17 H locs hwp hw => ?_)
              refine lv_if_eq (pc := 97) (tgt := 117) cx.1 cx.2.1 dX12_append_97 (by decide) (fun c19 => ?_) (fun c19 => ?_)
              · replace hwp := hwp.1 c19
                refine lv_bipush (pc := 117) (v := -9) cx.1 cx.2.1 dX12_append_117 (by decide) ?_
                exact k_iret (pc := 119) (wf := (wM d h)) (u := u17) cx hw hwp (by decide) (by decide) dX12_append_119
              · replace hwp := hwp.2 c19
                refine lv_aload_n (pc := 100) cx.1 cx.2.1 dX12_append_100 rfl (lv_at hl 1 rfl) ?_
                refine lv_iload (pc := 101) cx.1 cx.2.1 dX12_append_101 (lv_at hl 0 rfl) ?_
                refine lv_iconst (pc := 103) (v := 3) cx.1 cx.2.1 dX12_append_103 (by decide) ?_
                refine lv_iadd (pc := 104) cx.1 cx.2.1 dX12_append_104 ?_
                refine lv_aload_n (pc := 105) cx.1 cx.2.1 dX12_append_105 rfl (lv_at hl 1 rfl) ?_
                refine k_getI (pc := 106) (u := u17) (v := (u17.1 19)) cx hw (ln_X12_this_19 d h) (C := RX12) (T := TX12) (N := 40) rfl in_X12 (by decide) q996 (fun _ h9 => h9) rfl dX12_append_106 ?_
                refine lv_iconst (pc := 109) (v := 1) cx.1 cx.2.1 dX12_append_109 (by decide) ?_
                refine lv_iadd (pc := 110) cx.1 cx.2.1 dX12_append_110 ?_
                refine k_whole_i (pc := 111) (wf := (wM d h)) (u := u17) cx hw (k_runV (pc := 111) (rest := []) (As := [.int (((1923 : Int32) + ((4 : Int32) * (u7.1 24))) + (3 : Int32)), .int ((u17.1 19) + (1 : Int32))]) cx hw.1 (hw.2.1.weaken (fun _ _ _ _ => trivial)) hw.2.2 (k_recv cx hw 0 (ci := 10) (q := (RX12, TX12, 40)) rfl rfl) (m_X12_write l dC dI d h  u17 (((1923 : Int32) + ((4 : Int32) * (u7.1 24))) + (3 : Int32)) ((u17.1 19) + (1 : Int32)) hwp H.size) (cwV 2 cx.2.2.2.2.1 (lw_V q1118 q1120 qs35 q89 q1121) rfl rfl rfl hdV_X12_write ⟨Nat.le_of_ble_eq_true rfl, Nat.le_of_ble_eq_true rfl⟩) rfl hl.1 rfl (Nat.le_of_ble_eq_true rfl) dX12_append_111 ⟨Nat.le_of_ble_eq_true rfl, Nat.le_of_ble_eq_true rfl⟩) (fun r21 u20 H locs hwp hw => ?_)
                refine lv_if_ne (pc := 114) (tgt := 120) cx.1 cx.2.1 dX12_append_114 (by decide) (fun c22 => ?_) (fun c22 => ?_)
                · replace hwp := hwp.1 c22
                  refine lv_aload_n (pc := 120) cx.1 cx.2.1 dX12_append_120 rfl (lv_at hl 1 rfl) ?_
                  refine k_getR (pc := 121) (u := u20) (v := .ref (h 9)) cx hw (lr_X12_this_21 d h) (C := RX12) (T := TX12) (N := 40) rfl in_X12 (by decide) q998 (fun _ h9 => h9) rfl dX12_append_121 ?_
                  refine lv_aload_n (pc := 124) cx.1 cx.2.1 dX12_append_124 rfl (lv_at hl 1 rfl) ?_
                  refine k_getI (pc := 125) (u := u20) (v := (u20.1 24)) cx hw (ln_X12_this_24 d h) (C := RX12) (T := TX12) (N := 40) rfl in_X12 (by decide) q1001 (fun _ h9 => h9) rfl dX12_append_125 ?_
                  refine lv_iload_n (pc := 128) cx.1 cx.2.1 dX12_append_128 rfl (lv_at hl 2 rfl) ?_
                  refine k_iast (pc := 129) (u := u20) (f := (u20.2.1 21)) cx hw (ln_X12_this_21 d h) 0 rfl rfl hwp.1 dX12_append_129 (fun H locs hw => ?_)
                  replace hwp := hwp.2
                  refine lv_aload_n (pc := 130) cx.1 cx.2.1 dX12_append_130 rfl (lv_at hl 1 rfl) ?_
                  refine k_getR (pc := 131) (u := (st_A u20 21 (upd (u20.2.1 21) (u20.1 24).toNatClampNeg x1))) (v := .ref (h 10)) cx hw (lr_X12_this_22 d h) (C := RX12) (T := TX12) (N := 40) rfl in_X12 (by decide) q999 (fun _ h9 => h9) rfl dX12_append_131 ?_
                  refine lv_aload_n (pc := 134) cx.1 cx.2.1 dX12_append_134 rfl (lv_at hl 1 rfl) ?_
                  refine k_getI (pc := 135) (u := (st_A u20 21 (upd (u20.2.1 21) (u20.1 24).toNatClampNeg x1))) (v := (u20.1 24)) cx hw (ln_X12_this_24 d h) (C := RX12) (T := TX12) (N := 40) rfl in_X12 (by decide) q1001 (fun _ h9 => h9) rfl dX12_append_135 ?_
                  refine lv_iload_n (pc := 138) cx.1 cx.2.1 dX12_append_138 rfl (lv_at hl 3 rfl) ?_
                  refine k_iast (pc := 139) (u := (st_A u20 21 (upd (u20.2.1 21) (u20.1 24).toNatClampNeg x1))) (f := (u20.2.1 22)) cx hw (ln_X12_this_22 d h) 0 rfl rfl hwp.1 dX12_append_139 (fun H locs hw => ?_)
                  replace hwp := hwp.2
                  refine lv_aload_n (pc := 140) cx.1 cx.2.1 dX12_append_140 rfl (lv_at hl 1 rfl) ?_
                  refine k_getR (pc := 141) (u := (st_A (st_A u20 21 (upd (u20.2.1 21) (u20.1 24).toNatClampNeg x1)) 22 (upd (u20.2.1 22) (u20.1 24).toNatClampNeg x2))) (v := .ref (h 11)) cx hw (lr_X12_this_23 d h) (C := RX12) (T := TX12) (N := 40) rfl in_X12 (by decide) q1000 (fun _ h9 => h9) rfl dX12_append_141 ?_
                  refine lv_aload_n (pc := 144) cx.1 cx.2.1 dX12_append_144 rfl (lv_at hl 1 rfl) ?_
                  refine k_getI (pc := 145) (u := (st_A (st_A u20 21 (upd (u20.2.1 21) (u20.1 24).toNatClampNeg x1)) 22 (upd (u20.2.1 22) (u20.1 24).toNatClampNeg x2))) (v := (u20.1 24)) cx hw (ln_X12_this_24 d h) (C := RX12) (T := TX12) (N := 40) rfl in_X12 (by decide) q1001 (fun _ h9 => h9) rfl dX12_append_145 ?_
                  refine lv_iload_n (pc := 148) cx.1 cx.2.1 dX12_append_148 rfl (lv_at hl 4 rfl) ?_
                  refine k_iast (pc := 149) (u := (st_A (st_A u20 21 (upd (u20.2.1 21) (u20.1 24).toNatClampNeg x1)) 22 (upd (u20.2.1 22) (u20.1 24).toNatClampNeg x2))) (f := (u20.2.1 23)) cx hw (ln_X12_this_23 d h) 0 rfl rfl hwp.1 dX12_append_149 (fun H locs hw => ?_)
                  replace hwp := hwp.2
                  refine lv_aload_n (pc := 150) cx.1 cx.2.1 dX12_append_150 rfl (lv_at hl 1 rfl) ?_
                  refine lv_dup (pc := 151) cx.1 cx.2.1 dX12_append_151 rfl ?_
                  refine k_getI (pc := 152) (u := (st_A (st_A (st_A u20 21 (upd (u20.2.1 21) (u20.1 24).toNatClampNeg x1)) 22 (upd (u20.2.1 22) (u20.1 24).toNatClampNeg x2)) 23 (upd (u20.2.1 23) (u20.1 24).toNatClampNeg x3))) (v := (u20.1 24)) cx hw (ln_X12_this_24 d h) (C := RX12) (T := TX12) (N := 40) rfl in_X12 (by decide) q1001 (fun _ h9 => h9) rfl dX12_append_152 ?_
                  refine lv_iconst (pc := 155) (v := 1) cx.1 cx.2.1 dX12_append_155 (by decide) ?_
                  refine lv_iadd (pc := 156) cx.1 cx.2.1 dX12_append_156 ?_
                  refine k_putI (pc := 157) (u := (st_A (st_A (st_A u20 21 (upd (u20.2.1 21) (u20.1 24).toNatClampNeg x1)) 22 (upd (u20.2.1 22) (u20.1 24).toNatClampNeg x2)) 23 (upd (u20.2.1 23) (u20.1 24).toNatClampNeg x3))) (v := ((u20.1 24) + (1 : Int32))) cx hw (ln_X12_this_24 d h) (C := RX12) (T := TX12) (N := 40) rfl in_X12 tyX12 tyX12_ok nmX12 (by decide) q1001 (fun _ h9 => h9) rfl rfl rfl dX12_append_157 (fun H locs hw => ?_)
                  refine lv_iconst (pc := 160) (v := 0) cx.1 cx.2.1 dX12_append_160 (by decide) ?_
                  exact k_iret (pc := 161) (wf := (wM d h)) (u := (st_I (st_A (st_A (st_A u20 21 (upd (u20.2.1 21) (u20.1 24).toNatClampNeg x1)) 22 (upd (u20.2.1 22) (u20.1 24).toNatClampNeg x2)) 23 (upd (u20.2.1 23) (u20.1 24).toNatClampNeg x3)) 24 ((u20.1 24) + (1 : Int32)))) cx hw hwp (by decide) (by decide) dX12_append_161
                · replace hwp := hwp.2 c22
                  refine lv_bipush (pc := 117) (v := -9) cx.1 cx.2.1 dX12_append_117 (by decide) ?_
                  exact k_iret (pc := 119) (wf := (wM d h)) (u := u20) cx hw hwp (by decide) (by decide) dX12_append_119
        · replace hwp := hwp.2 c10
          refine lv_bipush (pc := 51) (v := -3) cx.1 cx.2.1 dX12_append_51 (by decide) ?_
          exact k_iret (pc := 53) (wf := (wM d h)) (u := u7) cx hw hwp (by decide) (by decide) dX12_append_53
      · replace hwp := hwp.2 c9
        refine lv_iconst (pc := 39) (v := -1) cx.1 cx.2.1 dX12_append_39 (by decide) ?_
        exact k_iret (pc := 40) (wf := (wM d h)) (u := u7) cx hw hwp (by decide) (by decide) dX12_append_40
    · replace hwp := hwp.2 c6
      refine lv_bipush (pc := 27) (v := -2) cx.1 cx.2.1 dX12_append_27 (by decide) ?_
      exact k_iret (pc := 29) (wf := (wM d h)) (u := u4) cx hw hwp (by decide) (by decide) dX12_append_29
  · replace hwp := hwp.2 c3
    refine lv_bipush (pc := 16) (v := -9) cx.1 cx.2.1 dX12_append_16 (by decide) ?_
    exact k_iret (pc := 18) (wf := (wM d h)) (u := u1) cx hw hwp (by decide) (by decide) dX12_append_18
set_option maxHeartbeats 4000000 in
theorem m_X12_beginNext (l : Launch) (dC : Nat → ClassId) (dI : Nat → Nat → Nat) (d : Nat → ClassId) (h : Nat → Nat) (u : St) {K : St → Prop} (hwp : wp_X12_beginNext u K) : kM l yX12_beginNext cX12_beginNext 1 none ({ frames := 0, cells := 0, slots := 0, locals := 0 } : Room) dC dI d [.ref (h 0)] (wM d h) u (kQv dC dI (wM d h) K) 0 0 := by
  refine kM_start rfl (Nat.le_of_ble_eq_true rfl) ?_
  intro p e s m below meth c A ls cx hnm hw hl
  generalize hargs : ([.ref (h 0)] : List Value).toArray = args at cx ⊢
  unfold wp_X12_beginNext at hwp
  replace hl : lv_has ls 1 [(0, .ref (h 0))] := hl
  generalize hH : s.heap = H at hw ⊢
  generalize hlo : ([] : List Loc) = locs at hw ⊢
  refine lv_aload_n (pc := 0) cx.1 cx.2.1 dX12_beginNext_0 rfl (lv_at hl 0 rfl) ?_
  refine lv_iconst (pc := 1) (v := 0) cx.1 cx.2.1 dX12_beginNext_1 (by decide) ?_
  refine k_putI (pc := 2) (u := u) (v := (0 : Int32)) cx hw (ln_X12_this_27 d h) (C := RX12) (T := TX12) (N := 40) rfl in_X12 tyX12 tyX12_ok nmX12 (by decide) q1004 (fun _ h9 => h9) rfl rfl rfl dX12_beginNext_2 (fun H locs hw => ?_)
  exact k_vret (pc := 5) (wf := (wM d h)) (u := (st_I u 27 (0 : Int32))) cx hw hwp (by decide) (by decide) dX12_beginNext_5
set_option maxHeartbeats 4000000 in
theorem m_X12_comes (l : Launch) (dC : Nat → ClassId) (dI : Nat → Nat → Nat) (d : Nat → ClassId) (h : Nat → Nat) (u : St) (x1 : Int32) (x2 : Int32) {K : St → Prop} (hwp : wp_X12_comes u x1 x2 K) : kM l yX12_comes cX12_comes 3 none ({ frames := 0, cells := 0, slots := 0, locals := 0 } : Room) dC dI d [.ref (h 0), .int x1, .int x2] (wM d h) u (kQv dC dI (wM d h) K) 0 0 := by
  refine kM_start rfl (Nat.le_of_ble_eq_true rfl) ?_
  intro p e s m below meth c A ls cx hnm hw hl
  generalize hargs : ([.ref (h 0), .int x1, .int x2] : List Value).toArray = args at cx ⊢
  unfold wp_X12_comes at hwp
  replace hl : lv_has ls 3 [(0, .ref (h 0)), (1, .int x1), (2, .int x2)] := hl
  generalize hH : s.heap = H at hw ⊢
  generalize hlo : ([] : List Loc) = locs at hw ⊢
  refine lv_aload_n (pc := 0) cx.1 cx.2.1 dX12_comes_0 rfl (lv_at hl 0 rfl) ?_
  refine k_getR (pc := 1) (u := u) (v := .ref (h 12)) cx hw (lr_X12_this_25 d h) (C := RX12) (T := TX12) (N := 40) rfl in_X12 (by decide) q1002 (fun _ h9 => h9) rfl dX12_comes_1 ?_
  refine lv_aload_n (pc := 4) cx.1 cx.2.1 dX12_comes_4 rfl (lv_at hl 0 rfl) ?_
  refine k_getI (pc := 5) (u := u) (v := (u.1 27)) cx hw (ln_X12_this_27 d h) (C := RX12) (T := TX12) (N := 40) rfl in_X12 (by decide) q1004 (fun _ h9 => h9) rfl dX12_comes_5 ?_
  refine lv_iload_n (pc := 8) cx.1 cx.2.1 dX12_comes_8 rfl (lv_at hl 1 rfl) ?_
  refine k_iast (pc := 9) (u := u) (f := (u.2.1 25)) cx hw (ln_X12_this_25 d h) 0 rfl rfl hwp.1 dX12_comes_9 (fun H locs hw => ?_)
  replace hwp := hwp.2
  refine lv_aload_n (pc := 10) cx.1 cx.2.1 dX12_comes_10 rfl (lv_at hl 0 rfl) ?_
  refine k_getR (pc := 11) (u := (st_A u 25 (upd (u.2.1 25) (u.1 27).toNatClampNeg x1))) (v := .ref (h 13)) cx hw (lr_X12_this_26 d h) (C := RX12) (T := TX12) (N := 40) rfl in_X12 (by decide) q1003 (fun _ h9 => h9) rfl dX12_comes_11 ?_
  refine lv_aload_n (pc := 14) cx.1 cx.2.1 dX12_comes_14 rfl (lv_at hl 0 rfl) ?_
  refine k_getI (pc := 15) (u := (st_A u 25 (upd (u.2.1 25) (u.1 27).toNatClampNeg x1))) (v := (u.1 27)) cx hw (ln_X12_this_27 d h) (C := RX12) (T := TX12) (N := 40) rfl in_X12 (by decide) q1004 (fun _ h9 => h9) rfl dX12_comes_15 ?_
  refine lv_iload_n (pc := 18) cx.1 cx.2.1 dX12_comes_18 rfl (lv_at hl 2 rfl) ?_
  refine k_zast (pc := 19) (u := (st_A u 25 (upd (u.2.1 25) (u.1 27).toNatClampNeg x1))) (f := (u.2.1 26)) cx hw (ln_X12_this_26 d h) 5 rfl rfl hwp.1 dX12_comes_19 (fun H locs hw => ?_)
  replace hwp := hwp.2
  refine lv_aload_n (pc := 20) cx.1 cx.2.1 dX12_comes_20 rfl (lv_at hl 0 rfl) ?_
  refine lv_dup (pc := 21) cx.1 cx.2.1 dX12_comes_21 rfl ?_
  refine k_getI (pc := 22) (u := (st_A (st_A u 25 (upd (u.2.1 25) (u.1 27).toNatClampNeg x1)) 26 (upd (u.2.1 26) (u.1 27).toNatClampNeg (vp_nar .boolean x2)))) (v := (u.1 27)) cx hw (ln_X12_this_27 d h) (C := RX12) (T := TX12) (N := 40) rfl in_X12 (by decide) q1004 (fun _ h9 => h9) rfl dX12_comes_22 ?_
  refine lv_iconst (pc := 25) (v := 1) cx.1 cx.2.1 dX12_comes_25 (by decide) ?_
  refine lv_iadd (pc := 26) cx.1 cx.2.1 dX12_comes_26 ?_
  refine k_putI (pc := 27) (u := (st_A (st_A u 25 (upd (u.2.1 25) (u.1 27).toNatClampNeg x1)) 26 (upd (u.2.1 26) (u.1 27).toNatClampNeg (vp_nar .boolean x2)))) (v := ((u.1 27) + (1 : Int32))) cx hw (ln_X12_this_27 d h) (C := RX12) (T := TX12) (N := 40) rfl in_X12 tyX12 tyX12_ok nmX12 (by decide) q1004 (fun _ h9 => h9) rfl rfl rfl dX12_comes_27 (fun H locs hw => ?_)
  exact k_vret (pc := 30) (wf := (wM d h)) (u := (st_I (st_A (st_A u 25 (upd (u.2.1 25) (u.1 27).toNatClampNeg x1)) 26 (upd (u.2.1 26) (u.1 27).toNatClampNeg (vp_nar .boolean x2))) 27 ((u.1 27) + (1 : Int32)))) cx hw hwp (by decide) (by decide) dX12_comes_30
set_option maxHeartbeats 4000000 in
theorem wk_X12_isUsed_40 {p : Program} {l : Launch} {e : Env} {s : State} {m : MethodId} {args : Array Value} {below : List Frame} {meth : Method} {c : Code} {A : Nat → Prop} {dC : Nat → ClassId} {dI : Nat → Nat → Nat} {d : Nat → ClassId} {h : Nat → Nat} {K : Int32 → St → Prop} (cx : Cx p s m args meth c cX12_isUsed RX12 4 (some .boolean) A dC dI d) : ∀ (n : Nat) (x1 : Int32) (x2 : Int32) (x3 : Int32) (u : St) (H : Heap) (locs : List Loc) (ls : Array Slot), wp_X12_isUsed_40 K n x1 x2 x3 u → Wd dC dI A ((wM d h) u) s H locs → lv_has ls 4 [(0, .ref (h 0)), (1, .int x1), (2, .int x2), (3, .int x3)] → W p l e ({ frames := 0, cells := 0, slots := 0, locals := 0 } : Room) s m args below meth c H locs 0 0 (MQ below (kQi dC dI (wM d h) K A) args s 0 0 A) (F0 m 40 ls []) := by
  intro n
  induction n with
  | zero =>
    intros; contradiction
  | succ n ih =>
    intro x1 x2 x3 u H locs ls hwp hw hl
    unfold wp_X12_isUsed_40 at hwp
    refine lv_iload_n (pc := 40) cx.1 cx.2.1 dX12_isUsed_40 rfl (lv_at hl 3 rfl) ?_
    refine lv_aload_n (pc := 41) cx.1 cx.2.1 dX12_isUsed_41 rfl (lv_at hl 0 rfl) ?_
    refine k_getI (pc := 42) (u := u) (v := (u.1 27)) cx hw (ln_X12_this_27 d h) (C := RX12) (T := TX12) (N := 40) rfl in_X12 (by decide) q1004 (fun _ h9 => h9) rfl dX12_isUsed_42 ?_
    refine lv_icmp_ge (pc := 45) (tgt := 74) cx.1 cx.2.1 dX12_isUsed_45 (by decide) (fun c1 => ?_) (fun c1 => ?_)
    · replace hwp := hwp.1 c1
      refine lv_iload_n (pc := 74) cx.1 cx.2.1 dX12_isUsed_74 rfl (lv_at hl 2 rfl) ?_
      exact k_zret (pc := 75) (wf := (wM d h)) (u := u) cx hw (ok_Zn hwp.1) hwp.2 (by decide) (by decide) dX12_isUsed_75
    · replace hwp := hwp.2 c1
      refine lv_iload_n (pc := 48) cx.1 cx.2.1 dX12_isUsed_48 rfl (lv_at hl 2 rfl) ?_
      refine lv_if_ne (pc := 49) (tgt := 62) cx.1 cx.2.1 dX12_isUsed_49 (by decide) (fun c2 => ?_) (fun c2 => ?_)
      · replace hwp := hwp.1 c2
        refine lv_iconst (pc := 62) (v := 1) cx.1 cx.2.1 dX12_isUsed_62 (by decide) ?_
        refine lv_goto (pc := 63) (tgt := 67) cx.1 cx.2.1 dX12_isUsed_63 (by decide) ?_
        refine lv_istore_n (pc := 67) (lv' := [(2, .int (1 : Int32)), (0, .ref (h 0)), (1, .int x1), (3, .int x3)]) cx.1 cx.2.1 dX12_isUsed_67 rfl hl (by decide) rfl (fun ls hl => ?_)
        refine lv_iinc (pc := 68) (v := (x3 + (1 : Int32))) (lv' := [(3, .int (x3 + (1 : Int32))), (2, .int (1 : Int32)), (0, .ref (h 0)), (1, .int x1)]) cx.1 cx.2.1 dX12_isUsed_68 hl (k := 3) rfl rfl (by decide) rfl (fun ls hl => ?_)
        refine lv_goto (pc := 71) (tgt := 40) cx.1 cx.2.1 dX12_isUsed_71 (by decide) ?_
        exact ih _ _ _ _ _ _ _ hwp hw (lv_sub hl [2, 3, 1, 0] rfl)
      · replace hwp := hwp.2 c2
        refine lv_aload_n (pc := 52) cx.1 cx.2.1 dX12_isUsed_52 rfl (lv_at hl 0 rfl) ?_
        refine k_getR (pc := 53) (u := u) (v := .ref (h 12)) cx hw (lr_X12_this_25 d h) (C := RX12) (T := TX12) (N := 40) rfl in_X12 (by decide) q1002 (fun _ h9 => h9) rfl dX12_isUsed_53 ?_
        refine lv_iload_n (pc := 56) cx.1 cx.2.1 dX12_isUsed_56 rfl (lv_at hl 3 rfl) ?_
        refine k_iald (pc := 57) (u := u) (f := (u.2.1 25)) cx hw (lx_X12_this_25 d h) 0 rfl rfl hwp.1 dX12_isUsed_57 ?_
        replace hwp := hwp.2
        refine lv_iload_n (pc := 58) cx.1 cx.2.1 dX12_isUsed_58 rfl (lv_at hl 1 rfl) ?_
        refine lv_icmp_ne (pc := 59) (tgt := 66) cx.1 cx.2.1 dX12_isUsed_59 (by decide) (fun c3 => ?_) (fun c3 => ?_)
        · replace hwp := hwp.1 c3
          refine lv_iconst (pc := 66) (v := 0) cx.1 cx.2.1 dX12_isUsed_66 (by decide) ?_
          refine lv_istore_n (pc := 67) (lv' := [(2, .int (0 : Int32)), (0, .ref (h 0)), (1, .int x1), (3, .int x3)]) cx.1 cx.2.1 dX12_isUsed_67 rfl hl (by decide) rfl (fun ls hl => ?_)
          refine lv_iinc (pc := 68) (v := (x3 + (1 : Int32))) (lv' := [(3, .int (x3 + (1 : Int32))), (2, .int (0 : Int32)), (0, .ref (h 0)), (1, .int x1)]) cx.1 cx.2.1 dX12_isUsed_68 hl (k := 3) rfl rfl (by decide) rfl (fun ls hl => ?_)
          refine lv_goto (pc := 71) (tgt := 40) cx.1 cx.2.1 dX12_isUsed_71 (by decide) ?_
          exact ih _ _ _ _ _ _ _ hwp hw (lv_sub hl [2, 3, 1, 0] rfl)
        · replace hwp := hwp.2 c3
          refine lv_iconst (pc := 62) (v := 1) cx.1 cx.2.1 dX12_isUsed_62 (by decide) ?_
          refine lv_goto (pc := 63) (tgt := 67) cx.1 cx.2.1 dX12_isUsed_63 (by decide) ?_
          refine lv_istore_n (pc := 67) (lv' := [(2, .int (1 : Int32)), (0, .ref (h 0)), (1, .int x1), (3, .int x3)]) cx.1 cx.2.1 dX12_isUsed_67 rfl hl (by decide) rfl (fun ls hl => ?_)
          refine lv_iinc (pc := 68) (v := (x3 + (1 : Int32))) (lv' := [(3, .int (x3 + (1 : Int32))), (2, .int (1 : Int32)), (0, .ref (h 0)), (1, .int x1)]) cx.1 cx.2.1 dX12_isUsed_68 hl (k := 3) rfl rfl (by decide) rfl (fun ls hl => ?_)
          refine lv_goto (pc := 71) (tgt := 40) cx.1 cx.2.1 dX12_isUsed_71 (by decide) ?_
          exact ih _ _ _ _ _ _ _ hwp hw (lv_sub hl [2, 3, 1, 0] rfl)
set_option maxHeartbeats 4000000 in
theorem wk_X12_isUsed_4 {p : Program} {l : Launch} {e : Env} {s : State} {m : MethodId} {args : Array Value} {below : List Frame} {meth : Method} {c : Code} {A : Nat → Prop} {dC : Nat → ClassId} {dI : Nat → Nat → Nat} {d : Nat → ClassId} {h : Nat → Nat} {K : Int32 → St → Prop} (cx : Cx p s m args meth c cX12_isUsed RX12 4 (some .boolean) A dC dI d) : ∀ (n : Nat) (x1 : Int32) (x2 : Int32) (x3 : Int32) (u : St) (H : Heap) (locs : List Loc) (ls : Array Slot), wp_X12_isUsed_4 K n x1 x2 x3 u → Wd dC dI A ((wM d h) u) s H locs → lv_has ls 4 [(0, .ref (h 0)), (1, .int x1), (2, .int x2), (3, .int x3)] → W p l e ({ frames := 0, cells := 0, slots := 0, locals := 0 } : Room) s m args below meth c H locs 0 0 (MQ below (kQi dC dI (wM d h) K A) args s 0 0 A) (F0 m 4 ls []) := by
  intro n
  induction n with
  | zero =>
    intros; contradiction
  | succ n ih =>
    intro x1 x2 x3 u H locs ls hwp hw hl
    unfold wp_X12_isUsed_4 at hwp
    refine lv_iload_n (pc := 4) cx.1 cx.2.1 dX12_isUsed_4 rfl (lv_at hl 3 rfl) ?_
    refine lv_aload_n (pc := 5) cx.1 cx.2.1 dX12_isUsed_5 rfl (lv_at hl 0 rfl) ?_
    refine k_getI (pc := 6) (u := u) (v := (u.1 18)) cx hw (ln_X12_this_18 d h) (C := RX12) (T := TX12) (N := 40) rfl in_X12 (by decide) q995 (fun _ h9 => h9) rfl dX12_isUsed_6 ?_
    refine lv_icmp_ge (pc := 9) (tgt := 38) cx.1 cx.2.1 dX12_isUsed_9 (by decide) (fun c1 => ?_) (fun c1 => ?_)
    · replace hwp := hwp.1 c1
      refine lv_iconst (pc := 38) (v := 0) cx.1 cx.2.1 dX12_isUsed_38 (by decide) ?_
      refine lv_istore_n (pc := 39) (lv' := [(3, .int (0 : Int32)), (0, .ref (h 0)), (1, .int x1), (2, .int x2)]) cx.1 cx.2.1 dX12_isUsed_39 rfl hl (by decide) rfl (fun ls hl => ?_)
      obtain ⟨n40, hwp⟩ := hwp
      exact wk_X12_isUsed_40 cx n40 _ _ _ _ _ _ _ hwp hw (lv_sub hl [1, 2, 3, 0] rfl)
    · replace hwp := hwp.2 c1
      refine lv_iload_n (pc := 12) cx.1 cx.2.1 dX12_isUsed_12 rfl (lv_at hl 2 rfl) ?_
      refine lv_if_ne (pc := 13) (tgt := 26) cx.1 cx.2.1 dX12_isUsed_13 (by decide) (fun c2 => ?_) (fun c2 => ?_)
      · replace hwp := hwp.1 c2
        refine lv_iconst (pc := 26) (v := 1) cx.1 cx.2.1 dX12_isUsed_26 (by decide) ?_
        refine lv_goto (pc := 27) (tgt := 31) cx.1 cx.2.1 dX12_isUsed_27 (by decide) ?_
        refine lv_istore_n (pc := 31) (lv' := [(2, .int (1 : Int32)), (0, .ref (h 0)), (1, .int x1), (3, .int x3)]) cx.1 cx.2.1 dX12_isUsed_31 rfl hl (by decide) rfl (fun ls hl => ?_)
        refine lv_iinc (pc := 32) (v := (x3 + (1 : Int32))) (lv' := [(3, .int (x3 + (1 : Int32))), (2, .int (1 : Int32)), (0, .ref (h 0)), (1, .int x1)]) cx.1 cx.2.1 dX12_isUsed_32 hl (k := 3) rfl rfl (by decide) rfl (fun ls hl => ?_)
        refine lv_goto (pc := 35) (tgt := 4) cx.1 cx.2.1 dX12_isUsed_35 (by decide) ?_
        exact ih _ _ _ _ _ _ _ hwp hw (lv_sub hl [2, 3, 1, 0] rfl)
      · replace hwp := hwp.2 c2
        refine lv_aload_n (pc := 16) cx.1 cx.2.1 dX12_isUsed_16 rfl (lv_at hl 0 rfl) ?_
        refine k_getR (pc := 17) (u := u) (v := .ref (h 8)) cx hw (lr_X12_this_17 d h) (C := RX12) (T := TX12) (N := 40) rfl in_X12 (by decide) q994 (fun _ h9 => h9) rfl dX12_isUsed_17 ?_
        refine lv_iload_n (pc := 20) cx.1 cx.2.1 dX12_isUsed_20 rfl (lv_at hl 3 rfl) ?_
        refine k_iald (pc := 21) (u := u) (f := (u.2.1 17)) cx hw (lx_X12_this_17 d h) 0 rfl rfl hwp.1 dX12_isUsed_21 ?_
        replace hwp := hwp.2
        refine lv_iload_n (pc := 22) cx.1 cx.2.1 dX12_isUsed_22 rfl (lv_at hl 1 rfl) ?_
        refine lv_icmp_ne (pc := 23) (tgt := 30) cx.1 cx.2.1 dX12_isUsed_23 (by decide) (fun c3 => ?_) (fun c3 => ?_)
        · replace hwp := hwp.1 c3
          refine lv_iconst (pc := 30) (v := 0) cx.1 cx.2.1 dX12_isUsed_30 (by decide) ?_
          refine lv_istore_n (pc := 31) (lv' := [(2, .int (0 : Int32)), (0, .ref (h 0)), (1, .int x1), (3, .int x3)]) cx.1 cx.2.1 dX12_isUsed_31 rfl hl (by decide) rfl (fun ls hl => ?_)
          refine lv_iinc (pc := 32) (v := (x3 + (1 : Int32))) (lv' := [(3, .int (x3 + (1 : Int32))), (2, .int (0 : Int32)), (0, .ref (h 0)), (1, .int x1)]) cx.1 cx.2.1 dX12_isUsed_32 hl (k := 3) rfl rfl (by decide) rfl (fun ls hl => ?_)
          refine lv_goto (pc := 35) (tgt := 4) cx.1 cx.2.1 dX12_isUsed_35 (by decide) ?_
          exact ih _ _ _ _ _ _ _ hwp hw (lv_sub hl [2, 3, 1, 0] rfl)
        · replace hwp := hwp.2 c3
          refine lv_iconst (pc := 26) (v := 1) cx.1 cx.2.1 dX12_isUsed_26 (by decide) ?_
          refine lv_goto (pc := 27) (tgt := 31) cx.1 cx.2.1 dX12_isUsed_27 (by decide) ?_
          refine lv_istore_n (pc := 31) (lv' := [(2, .int (1 : Int32)), (0, .ref (h 0)), (1, .int x1), (3, .int x3)]) cx.1 cx.2.1 dX12_isUsed_31 rfl hl (by decide) rfl (fun ls hl => ?_)
          refine lv_iinc (pc := 32) (v := (x3 + (1 : Int32))) (lv' := [(3, .int (x3 + (1 : Int32))), (2, .int (1 : Int32)), (0, .ref (h 0)), (1, .int x1)]) cx.1 cx.2.1 dX12_isUsed_32 hl (k := 3) rfl rfl (by decide) rfl (fun ls hl => ?_)
          refine lv_goto (pc := 35) (tgt := 4) cx.1 cx.2.1 dX12_isUsed_35 (by decide) ?_
          exact ih _ _ _ _ _ _ _ hwp hw (lv_sub hl [2, 3, 1, 0] rfl)
set_option maxHeartbeats 4000000 in
theorem m_X12_isUsed (l : Launch) (dC : Nat → ClassId) (dI : Nat → Nat → Nat) (d : Nat → ClassId) (h : Nat → Nat) (u : St) (x1 : Int32) {K : Int32 → St → Prop} (hwp : wp_X12_isUsed u x1 K) : kM l yX12_isUsed cX12_isUsed 4 (some .boolean) ({ frames := 0, cells := 0, slots := 0, locals := 0 } : Room) dC dI d [.ref (h 0), .int x1] (wM d h) u (kQi dC dI (wM d h) K) 0 0 := by
  refine kM_start rfl (Nat.le_of_ble_eq_true rfl) ?_
  intro p e s m below meth c A ls cx hnm hw hl
  generalize hargs : ([.ref (h 0), .int x1] : List Value).toArray = args at cx ⊢
  unfold wp_X12_isUsed at hwp
  replace hl : lv_has ls 4 [(0, .ref (h 0)), (1, .int x1)] := hl
  generalize hH : s.heap = H at hw ⊢
  generalize hlo : ([] : List Loc) = locs at hw ⊢
  refine lv_iconst (pc := 0) (v := 0) cx.1 cx.2.1 dX12_isUsed_0 (by decide) ?_
  refine lv_istore_n (pc := 1) (lv' := [(2, .int (0 : Int32)), (0, .ref (h 0)), (1, .int x1)]) cx.1 cx.2.1 dX12_isUsed_1 rfl hl (by decide) rfl (fun ls hl => ?_)
  refine lv_iconst (pc := 2) (v := 0) cx.1 cx.2.1 dX12_isUsed_2 (by decide) ?_
  refine lv_istore_n (pc := 3) (lv' := [(3, .int (0 : Int32)), (2, .int (0 : Int32)), (0, .ref (h 0)), (1, .int x1)]) cx.1 cx.2.1 dX12_isUsed_3 rfl hl (by decide) rfl (fun ls hl => ?_)
  obtain ⟨n4, hwp⟩ := hwp
  exact wk_X12_isUsed_4 cx n4 _ _ _ _ _ _ _ hwp hw (lv_sub hl [2, 3, 1, 0] rfl)
set_option maxHeartbeats 4000000 in
theorem wk_X12_freeSlot_2 {p : Program} {l : Launch} {e : Env} {s : State} {m : MethodId} {args : Array Value} {below : List Frame} {meth : Method} {c : Code} {A : Nat → Prop} {dC : Nat → ClassId} {dI : Nat → Nat → Nat} {d : Nat → ClassId} {h : Nat → Nat} {K : Int32 → St → Prop} (cx : Cx p s m args meth c cX12_freeSlot RX12 2 (some .int) A dC dI d) : ∀ (n : Nat) (x1 : Int32) (u : St) (H : Heap) (locs : List Loc) (ls : Array Slot), wp_X12_freeSlot_2 K n x1 u → Wd dC dI A ((wM d h) u) s H locs → lv_has ls 2 [(0, .ref (h 0)), (1, .int x1)] → W p l e ({ frames := 1, cells := 0, slots := 0, locals := 23 } : Room) s m args below meth c H locs 0 0 (MQ below (kQi dC dI (wM d h) K A) args s 0 0 A) (F0 m 2 ls []) := by
  intro n
  induction n with
  | zero =>
    intros; contradiction
  | succ n ih =>
    intro x1 u H locs ls hwp hw hl
    unfold wp_X12_freeSlot_2 at hwp
    refine lv_aload_n (pc := 2) cx.1 cx.2.1 dX12_freeSlot_2 rfl (lv_at hl 0 rfl) ?_
    refine lv_iload_n (pc := 3) cx.1 cx.2.1 dX12_freeSlot_3 rfl (lv_at hl 1 rfl) ?_
    refine k_whole_i (pc := 4) (wf := (wM d h)) (u := u) cx hw (k_runV (pc := 4) (rest := []) (As := [.int x1]) cx hw.1 (hw.2.1.weaken (fun _ _ _ _ => trivial)) hw.2.2 (k_recv cx hw 0 (ci := 10) (q := (RX12, TX12, 40)) rfl rfl) (m_X12_isUsed l dC dI d h  u x1 hwp H.size) (cwV 1 cx.2.2.2.2.1 (lw_V q1142 q1144 qs40 q89 q1145) rfl rfl rfl hdV_X12_isUsed ⟨Nat.le_of_ble_eq_true rfl, Nat.le_of_ble_eq_true rfl⟩) rfl hl.1 rfl (Nat.le_of_ble_eq_true rfl) dX12_freeSlot_4 ⟨Nat.le_of_ble_eq_true rfl, Nat.le_of_ble_eq_true rfl⟩) (fun r2 u1 H locs hwp hw => ?_)
    refine lv_if_eq (pc := 7) (tgt := 16) cx.1 cx.2.1 dX12_freeSlot_7 (by decide) (fun c3 => ?_) (fun c3 => ?_)
    · replace hwp := hwp.1 c3
      refine lv_iload_n (pc := 16) cx.1 cx.2.1 dX12_freeSlot_16 rfl (lv_at hl 1 rfl) ?_
      exact k_iret (pc := 17) (wf := (wM d h)) (u := u1) cx hw hwp (by decide) (by decide) dX12_freeSlot_17
    · replace hwp := hwp.2 c3
      refine lv_iinc (pc := 10) (v := (x1 + (1 : Int32))) (lv' := [(1, .int (x1 + (1 : Int32))), (0, .ref (h 0))]) cx.1 cx.2.1 dX12_freeSlot_10 hl (k := 1) rfl rfl (by decide) rfl (fun ls hl => ?_)
      refine lv_goto (pc := 13) (tgt := 2) cx.1 cx.2.1 dX12_freeSlot_13 (by decide) ?_
      exact ih _ _ _ _ _ hwp hw (lv_sub hl [1, 0] rfl)
set_option maxHeartbeats 4000000 in
theorem m_X12_freeSlot (l : Launch) (dC : Nat → ClassId) (dI : Nat → Nat → Nat) (d : Nat → ClassId) (h : Nat → Nat) (u : St) {K : Int32 → St → Prop} (hwp : wp_X12_freeSlot u K) : kM l yX12_freeSlot cX12_freeSlot 2 (some .int) ({ frames := 1, cells := 0, slots := 0, locals := 23 } : Room) dC dI d [.ref (h 0)] (wM d h) u (kQi dC dI (wM d h) K) 0 0 := by
  refine kM_start rfl (Nat.le_of_ble_eq_true rfl) ?_
  intro p e s m below meth c A ls cx hnm hw hl
  generalize hargs : ([.ref (h 0)] : List Value).toArray = args at cx ⊢
  unfold wp_X12_freeSlot at hwp
  replace hl : lv_has ls 2 [(0, .ref (h 0))] := hl
  generalize hH : s.heap = H at hw ⊢
  generalize hlo : ([] : List Loc) = locs at hw ⊢
  refine lv_iconst (pc := 0) (v := 0) cx.1 cx.2.1 dX12_freeSlot_0 (by decide) ?_
  refine lv_istore_n (pc := 1) (lv' := [(1, .int (0 : Int32)), (0, .ref (h 0))]) cx.1 cx.2.1 dX12_freeSlot_1 rfl hl (by decide) rfl (fun ls hl => ?_)
  obtain ⟨n2, hwp⟩ := hwp
  exact wk_X12_freeSlot_2 cx n2 _ _ _ _ _ hwp hw (lv_sub hl [1, 0] rfl)
set_option maxHeartbeats 4000000 in
theorem m_X12_add (l : Launch) (dC : Nat → ClassId) (dI : Nat → Nat → Nat) (d : Nat → ClassId) (h : Nat → Nat) (u : St) (x1 : Int32) (x2 : Int32) (x3 : Int32) {K : St → Prop} (hwp : wp_X12_add u x1 x2 x3 K) : kM l yX12_add cX12_add 4 none ({ frames := 0, cells := 0, slots := 0, locals := 0 } : Room) dC dI d [.ref (h 0), .int x1, .int x2, .int x3] (wM d h) u (kQv dC dI (wM d h) K) 0 0 := by
  refine kM_start rfl (Nat.le_of_ble_eq_true rfl) ?_
  intro p e s m below meth c A ls cx hnm hw hl
  generalize hargs : ([.ref (h 0), .int x1, .int x2, .int x3] : List Value).toArray = args at cx ⊢
  unfold wp_X12_add at hwp
  replace hl : lv_has ls 4 [(0, .ref (h 0)), (1, .int x1), (2, .int x2), (3, .int x3)] := hl
  generalize hH : s.heap = H at hw ⊢
  generalize hlo : ([] : List Loc) = locs at hw ⊢
  refine lv_aload_n (pc := 0) cx.1 cx.2.1 dX12_add_0 rfl (lv_at hl 0 rfl) ?_
  refine k_getR (pc := 1) (u := u) (v := .ref (h 6)) cx hw (lr_X12_this_15 d h) (C := RX12) (T := TX12) (N := 40) rfl in_X12 (by decide) q992 (fun _ h9 => h9) rfl dX12_add_1 ?_
  refine lv_bipush (pc := 4) (v := 64) cx.1 cx.2.1 dX12_add_4 (by decide) ?_
  refine lv_iload_n (pc := 6) cx.1 cx.2.1 dX12_add_6 rfl (lv_at hl 1 rfl) ?_
  refine lv_imul (pc := 7) cx.1 cx.2.1 dX12_add_7 ?_
  refine lv_aload_n (pc := 8) cx.1 cx.2.1 dX12_add_8 rfl (lv_at hl 0 rfl) ?_
  refine k_getR (pc := 9) (u := u) (v := .ref (h 3)) cx hw (lr_X12_this_12 d h) (C := RX12) (T := TX12) (N := 40) rfl in_X12 (by decide) q989 (fun _ h9 => h9) rfl dX12_add_9 ?_
  refine lv_iload_n (pc := 12) cx.1 cx.2.1 dX12_add_12 rfl (lv_at hl 1 rfl) ?_
  refine k_iald (pc := 13) (u := u) (f := (u.2.1 12)) cx hw (lx_X12_this_12 d h) 0 rfl rfl hwp.1 dX12_add_13 ?_
  replace hwp := hwp.2
  refine lv_iadd (pc := 14) cx.1 cx.2.1 dX12_add_14 ?_
  refine lv_iload_n (pc := 15) cx.1 cx.2.1 dX12_add_15 rfl (lv_at hl 2 rfl) ?_
  refine k_top2 (fun y1 ey1 => ?_)
  replace hwp := hwp y1 ey1
  refine k_iast (pc := 16) (u := u) (f := (u.2.1 15)) cx hw (ln_X12_this_15 d h) 0 rfl rfl hwp.1 dX12_add_16 (fun H locs hw => ?_)
  replace hwp := hwp.2
  refine lv_aload_n (pc := 17) cx.1 cx.2.1 dX12_add_17 rfl (lv_at hl 0 rfl) ?_
  refine k_getR (pc := 18) (u := (st_A u 15 (upd (u.2.1 15) y1.toNatClampNeg x2))) (v := .ref (h 7)) cx hw (lr_X12_this_16 d h) (C := RX12) (T := TX12) (N := 40) rfl in_X12 (by decide) q993 (fun _ h9 => h9) rfl dX12_add_18 ?_
  refine lv_bipush (pc := 21) (v := 64) cx.1 cx.2.1 dX12_add_21 (by decide) ?_
  refine lv_iload_n (pc := 23) cx.1 cx.2.1 dX12_add_23 rfl (lv_at hl 1 rfl) ?_
  refine lv_imul (pc := 24) cx.1 cx.2.1 dX12_add_24 ?_
  refine lv_aload_n (pc := 25) cx.1 cx.2.1 dX12_add_25 rfl (lv_at hl 0 rfl) ?_
  refine k_getR (pc := 26) (u := (st_A u 15 (upd (u.2.1 15) y1.toNatClampNeg x2))) (v := .ref (h 3)) cx hw (lr_X12_this_12 d h) (C := RX12) (T := TX12) (N := 40) rfl in_X12 (by decide) q989 (fun _ h9 => h9) rfl dX12_add_26 ?_
  refine lv_iload_n (pc := 29) cx.1 cx.2.1 dX12_add_29 rfl (lv_at hl 1 rfl) ?_
  refine k_iald (pc := 30) (u := (st_A u 15 (upd (u.2.1 15) y1.toNatClampNeg x2))) (f := (u.2.1 12)) cx hw (lx_X12_this_12 d h) 0 rfl rfl hwp.1 dX12_add_30 ?_
  replace hwp := hwp.2
  refine lv_iadd (pc := 31) cx.1 cx.2.1 dX12_add_31 ?_
  refine lv_iload_n (pc := 32) cx.1 cx.2.1 dX12_add_32 rfl (lv_at hl 3 rfl) ?_
  refine k_top2 (fun y2 ey2 => ?_)
  replace hwp := hwp y2 ey2
  refine k_iast (pc := 33) (u := (st_A u 15 (upd (u.2.1 15) y1.toNatClampNeg x2))) (f := (u.2.1 16)) cx hw (ln_X12_this_16 d h) 0 rfl rfl hwp.1 dX12_add_33 (fun H locs hw => ?_)
  replace hwp := hwp.2
  refine lv_aload_n (pc := 34) cx.1 cx.2.1 dX12_add_34 rfl (lv_at hl 0 rfl) ?_
  refine k_getR (pc := 35) (u := (st_A (st_A u 15 (upd (u.2.1 15) y1.toNatClampNeg x2)) 16 (upd (u.2.1 16) y2.toNatClampNeg x3))) (v := .ref (h 3)) cx hw (lr_X12_this_12 d h) (C := RX12) (T := TX12) (N := 40) rfl in_X12 (by decide) q989 (fun _ h9 => h9) rfl dX12_add_35 ?_
  refine lv_iload_n (pc := 38) cx.1 cx.2.1 dX12_add_38 rfl (lv_at hl 1 rfl) ?_
  refine lv_dup2_11 (pc := 39) cx.1 cx.2.1 dX12_add_39 rfl rfl ?_
  refine k_iald (pc := 40) (u := (st_A (st_A u 15 (upd (u.2.1 15) y1.toNatClampNeg x2)) 16 (upd (u.2.1 16) y2.toNatClampNeg x3))) (f := (u.2.1 12)) cx hw (lx_X12_this_12 d h) 0 rfl rfl hwp.1 dX12_add_40 ?_
  replace hwp := hwp.2
  refine lv_iconst (pc := 41) (v := 1) cx.1 cx.2.1 dX12_add_41 (by decide) ?_
  refine lv_iadd (pc := 42) cx.1 cx.2.1 dX12_add_42 ?_
  refine lv_topi (fun y3 ey3 => ?_)
  replace hwp := hwp y3 ey3
  refine k_iast (pc := 43) (u := (st_A (st_A u 15 (upd (u.2.1 15) y1.toNatClampNeg x2)) 16 (upd (u.2.1 16) y2.toNatClampNeg x3))) (f := (u.2.1 12)) cx hw (ln_X12_this_12 d h) 0 rfl rfl hwp.1 dX12_add_43 (fun H locs hw => ?_)
  replace hwp := hwp.2
  exact k_vret (pc := 44) (wf := (wM d h)) (u := (st_A (st_A (st_A u 15 (upd (u.2.1 15) y1.toNatClampNeg x2)) 16 (upd (u.2.1 16) y2.toNatClampNeg x3)) 12 (upd (u.2.1 12) x1.toNatClampNeg y3))) cx hw hwp (by decide) (by decide) dX12_add_44
set_option maxHeartbeats 4000000 in
theorem wk_X12_headsOf_43 {p : Program} {l : Launch} {e : Env} {s : State} {m : MethodId} {args : Array Value} {below : List Frame} {meth : Method} {c : Code} {A : Nat → Prop} {dC : Nat → ClassId} {dI : Nat → Nat → Nat} {d : Nat → ClassId} {h : Nat → Nat} {C68 : Int32 → Int32 → Int32 → St → Prop} {K : St → Prop} (cx : Cx p s m args meth c cX12_headsOf RX12 4 none A dC dI d) (hC68 : ∀ (x1 : Int32) (x2 : Int32) (x3 : Int32) (u : St) (H : Heap) (locs : List Loc) (ls : Array Slot), C68 x1 x2 x3 u → Wd dC dI A ((wM d h) u) s H locs → lv_has ls 4 [(0, .ref (h 0)), (1, .int x1), (2, .int x2), (3, .int x3)] → W p l e ({ frames := 2, cells := 0, slots := 0, locals := 44 } : Room) s m args below meth c H locs 0 0 (MQ below (kQv dC dI (wM d h) K A) args s 0 0 A) (F0 m 68 ls [])) : ∀ (x1 : Int32) (x3 : Int32) (u : St) (H : Heap) (locs : List Loc) (ls : Array Slot), wp_X12_headsOf_43 C68 K x1 x3 u → Wd dC dI A ((wM d h) u) s H locs → lv_has ls 4 [(0, .ref (h 0)), (1, .int x1), (3, .int x3)] → W p l e ({ frames := 2, cells := 0, slots := 0, locals := 44 } : Room) s m args below meth c H locs 0 0 (MQ below (kQv dC dI (wM d h) K A) args s 0 0 A) (F0 m 43 ls []) := by
  intro x1 x3 u H locs ls hwp hw hl
  unfold wp_X12_headsOf_43 at hwp
  refine lv_aload_n (pc := 43) cx.1 cx.2.1 dX12_headsOf_43 rfl (lv_at hl 0 rfl) ?_
  refine k_whole_i (pc := 44) (wf := (wM d h)) (u := u) cx hw (k_runV (pc := 44) (rest := []) (As := []) cx hw.1 (hw.2.1.weaken (fun _ _ _ _ => trivial)) hw.2.2 (k_recv cx hw 0 (ci := 10) (q := (RX12, TX12, 40)) rfl rfl) (m_X12_freeSlot l dC dI d h  u  hwp H.size) (cwV 0 cx.2.2.2.2.1 (lw_V q1138 q1140 qs39 q89 q1141) rfl rfl rfl hdV_X12_freeSlot ⟨Nat.le_of_ble_eq_true rfl, Nat.le_of_ble_eq_true rfl⟩) rfl hl.1 rfl (Nat.le_of_ble_eq_true rfl) dX12_headsOf_44 ⟨Nat.le_of_ble_eq_true rfl, Nat.le_of_ble_eq_true rfl⟩) (fun r2 u1 H locs hwp hw => ?_)
  refine lv_istore_n (pc := 47) (lv' := [(2, .int r2), (0, .ref (h 0)), (1, .int x1), (3, .int x3)]) cx.1 cx.2.1 dX12_headsOf_47 rfl hl (by decide) rfl (fun ls hl => ?_)
  refine lv_aload_n (pc := 48) cx.1 cx.2.1 dX12_headsOf_48 rfl (lv_at hl 1 rfl) ?_
  refine k_getR (pc := 49) (u := u1) (v := .ref (h 2)) cx hw (lr_X12_this_11 d h) (C := RX12) (T := TX12) (N := 40) rfl in_X12 (by decide) q988 (fun _ h9 => h9) rfl dX12_headsOf_49 ?_
  refine lv_iload_n (pc := 52) cx.1 cx.2.1 dX12_headsOf_52 rfl (lv_at hl 0 rfl) ?_
  refine lv_iload_n (pc := 53) cx.1 cx.2.1 dX12_headsOf_53 rfl (lv_at hl 2 rfl) ?_
  refine k_iast (pc := 54) (u := u1) (f := (u1.2.1 11)) cx hw (ln_X12_this_11 d h) 0 rfl rfl hwp.1 dX12_headsOf_54 (fun H locs hw => ?_)
  replace hwp := hwp.2
  refine lv_aload_n (pc := 55) cx.1 cx.2.1 dX12_headsOf_55 rfl (lv_at hl 1 rfl) ?_
  refine k_getR (pc := 56) (u := (st_A u1 11 (upd (u1.2.1 11) r2.toNatClampNeg x1))) (v := .ref (h 3)) cx hw (lr_X12_this_12 d h) (C := RX12) (T := TX12) (N := 40) rfl in_X12 (by decide) q989 (fun _ h9 => h9) rfl dX12_headsOf_56 ?_
  refine lv_iload_n (pc := 59) cx.1 cx.2.1 dX12_headsOf_59 rfl (lv_at hl 0 rfl) ?_
  refine lv_iconst (pc := 60) (v := 0) cx.1 cx.2.1 dX12_headsOf_60 (by decide) ?_
  refine k_iast (pc := 61) (u := (st_A u1 11 (upd (u1.2.1 11) r2.toNatClampNeg x1))) (f := (u1.2.1 12)) cx hw (ln_X12_this_12 d h) 0 rfl rfl hwp.1 dX12_headsOf_61 (fun H locs hw => ?_)
  replace hwp := hwp.2
  refine lv_aload_n (pc := 62) cx.1 cx.2.1 dX12_headsOf_62 rfl (lv_at hl 1 rfl) ?_
  refine lv_iload_n (pc := 63) cx.1 cx.2.1 dX12_headsOf_63 rfl (lv_at hl 0 rfl) ?_
  refine lv_iconst (pc := 64) (v := 1) cx.1 cx.2.1 dX12_headsOf_64 (by decide) ?_
  refine k_whole_v (pc := 65) (wf := (wM d h)) (u := (st_A (st_A u1 11 (upd (u1.2.1 11) r2.toNatClampNeg x1)) 12 (upd (u1.2.1 12) r2.toNatClampNeg (0 : Int32)))) cx hw (k_runV (pc := 65) (rest := []) (As := [.int r2, .int (1 : Int32)]) cx hw.1 (hw.2.1.weaken (fun _ _ _ _ => trivial)) hw.2.2 (k_recv cx hw 0 (ci := 10) (q := (RX12, TX12, 40)) rfl rfl) (m_X12_comes l dC dI d h  (st_A (st_A u1 11 (upd (u1.2.1 11) r2.toNatClampNeg x1)) 12 (upd (u1.2.1 12) r2.toNatClampNeg (0 : Int32))) r2 (1 : Int32) hwp H.size) (cwV 2 cx.2.2.2.2.1 (lw_V q1130 q1132 qs37 q89 q1133) rfl rfl rfl hdV_X12_comes ⟨Nat.le_of_ble_eq_true rfl, Nat.le_of_ble_eq_true rfl⟩) rfl hl.1 rfl (Nat.le_of_ble_eq_true rfl) dX12_headsOf_65 ⟨Nat.le_of_ble_eq_true rfl, Nat.le_of_ble_eq_true rfl⟩) (fun u3 H locs hwp hw => ?_)
  exact hC68 _ _ _ _ _ _ _ hwp hw (lv_sub hl [1, 2, 0, 3] rfl)
set_option maxHeartbeats 4000000 in
theorem wk_X12_headsOf_68 {p : Program} {l : Launch} {e : Env} {s : State} {m : MethodId} {args : Array Value} {below : List Frame} {meth : Method} {c : Code} {A : Nat → Prop} {dC : Nat → ClassId} {dI : Nat → Nat → Nat} {d : Nat → ClassId} {h : Nat → Nat} {C4 : Int32 → Int32 → Int32 → St → Prop} {K : St → Prop} (cx : Cx p s m args meth c cX12_headsOf RX12 4 none A dC dI d) (hC4 : ∀ (x1 : Int32) (x2 : Int32) (x3 : Int32) (u : St) (H : Heap) (locs : List Loc) (ls : Array Slot), C4 x1 x2 x3 u → Wd dC dI A ((wM d h) u) s H locs → lv_has ls 4 [(0, .ref (h 0)), (1, .int x1), (2, .int x2), (3, .int x3)] → W p l e ({ frames := 2, cells := 0, slots := 0, locals := 44 } : Room) s m args below meth c H locs 0 0 (MQ below (kQv dC dI (wM d h) K A) args s 0 0 A) (F0 m 4 ls [])) : ∀ (x1 : Int32) (x2 : Int32) (x3 : Int32) (u : St) (H : Heap) (locs : List Loc) (ls : Array Slot), wp_X12_headsOf_68 C4 K x1 x2 x3 u → Wd dC dI A ((wM d h) u) s H locs → lv_has ls 4 [(0, .ref (h 0)), (1, .int x1), (2, .int x2), (3, .int x3)] → W p l e ({ frames := 2, cells := 0, slots := 0, locals := 44 } : Room) s m args below meth c H locs 0 0 (MQ below (kQv dC dI (wM d h) K A) args s 0 0 A) (F0 m 68 ls []) := by
  intro x1 x2 x3 u H locs ls hwp hw hl
  unfold wp_X12_headsOf_68 at hwp
  refine lv_aload_n (pc := 68) cx.1 cx.2.1 dX12_headsOf_68 rfl (lv_at hl 0 rfl) ?_
  refine lv_iload_n (pc := 69) cx.1 cx.2.1 dX12_headsOf_69 rfl (lv_at hl 2 rfl) ?_
  refine lv_aload_n (pc := 70) cx.1 cx.2.1 dX12_headsOf_70 rfl (lv_at hl 0 rfl) ?_
  refine k_getR (pc := 71) (u := u) (v := .ref (h 10)) cx hw (lr_X12_this_22 d h) (C := RX12) (T := TX12) (N := 40) rfl in_X12 (by decide) q999 (fun _ h9 => h9) rfl dX12_headsOf_71 ?_
  refine lv_iload_n (pc := 74) cx.1 cx.2.1 dX12_headsOf_74 rfl (lv_at hl 3 rfl) ?_
  refine k_iald (pc := 75) (u := u) (f := (u.2.1 22)) cx hw (lx_X12_this_22 d h) 0 rfl rfl hwp.1 dX12_headsOf_75 ?_
  replace hwp := hwp.2
  refine lv_aload_n (pc := 76) cx.1 cx.2.1 dX12_headsOf_76 rfl (lv_at hl 0 rfl) ?_
  refine k_getR (pc := 77) (u := u) (v := .ref (h 11)) cx hw (lr_X12_this_23 d h) (C := RX12) (T := TX12) (N := 40) rfl in_X12 (by decide) q1000 (fun _ h9 => h9) rfl dX12_headsOf_77 ?_
  refine lv_iload_n (pc := 80) cx.1 cx.2.1 dX12_headsOf_80 rfl (lv_at hl 3 rfl) ?_
  refine k_iald (pc := 81) (u := u) (f := (u.2.1 23)) cx hw (lx_X12_this_23 d h) 0 rfl rfl hwp.1 dX12_headsOf_81 ?_
  replace hwp := hwp.2
  refine k_whole_v (pc := 82) (wf := (wM d h)) (u := u) cx hw (k_runV (pc := 82) (rest := []) (As := [.int x2, .int ((u.2.1 22) x3.toNatClampNeg), .int ((u.2.1 23) x3.toNatClampNeg)]) cx hw.1 (hw.2.1.weaken (fun _ _ _ _ => trivial)) hw.2.2 (k_recv cx hw 0 (ci := 10) (q := (RX12, TX12, 40)) rfl rfl) (m_X12_add l dC dI d h  u x2 ((u.2.1 22) x3.toNatClampNeg) ((u.2.1 23) x3.toNatClampNeg) hwp H.size) (cwV 3 cx.2.2.2.2.1 (lw_V q1146 q1148 qs41 q89 q1149) rfl rfl rfl hdV_X12_add ⟨Nat.le_of_ble_eq_true rfl, Nat.le_of_ble_eq_true rfl⟩) rfl hl.1 rfl (Nat.le_of_ble_eq_true rfl) dX12_headsOf_82 ⟨Nat.le_of_ble_eq_true rfl, Nat.le_of_ble_eq_true rfl⟩) (fun u1 H locs hwp hw => ?_)
  refine lv_iinc (pc := 85) (v := (x3 + (1 : Int32))) (lv' := [(3, .int (x3 + (1 : Int32))), (0, .ref (h 0)), (1, .int x1), (2, .int x2)]) cx.1 cx.2.1 dX12_headsOf_85 hl (k := 3) rfl rfl (by decide) rfl (fun ls hl => ?_)
  refine lv_goto (pc := 88) (tgt := 4) cx.1 cx.2.1 dX12_headsOf_88 (by decide) ?_
  exact hC4 _ _ _ _ _ _ _ hwp hw (lv_sub hl [1, 2, 3, 0] rfl)
set_option maxHeartbeats 4000000 in
theorem wk_X12_headsOf_4 {p : Program} {l : Launch} {e : Env} {s : State} {m : MethodId} {args : Array Value} {below : List Frame} {meth : Method} {c : Code} {A : Nat → Prop} {dC : Nat → ClassId} {dI : Nat → Nat → Nat} {d : Nat → ClassId} {h : Nat → Nat} {K : St → Prop} (cx : Cx p s m args meth c cX12_headsOf RX12 4 none A dC dI d) : ∀ (n : Nat) (x1 : Int32) (x2 : Int32) (x3 : Int32) (u : St) (H : Heap) (locs : List Loc) (ls : Array Slot), wp_X12_headsOf_4 K n x1 x2 x3 u → Wd dC dI A ((wM d h) u) s H locs → lv_has ls 4 [(0, .ref (h 0)), (1, .int x1), (2, .int x2), (3, .int x3)] → W p l e ({ frames := 2, cells := 0, slots := 0, locals := 44 } : Room) s m args below meth c H locs 0 0 (MQ below (kQv dC dI (wM d h) K A) args s 0 0 A) (F0 m 4 ls []) := by
  intro n
  induction n with
  | zero =>
    intros; contradiction
  | succ n ih =>
    intro x1 x2 x3 u H locs ls hwp hw hl
    unfold wp_X12_headsOf_4 at hwp
    refine lv_iload_n (pc := 4) cx.1 cx.2.1 dX12_headsOf_4 rfl (lv_at hl 3 rfl) ?_
    refine lv_aload_n (pc := 5) cx.1 cx.2.1 dX12_headsOf_5 rfl (lv_at hl 0 rfl) ?_
    refine k_getI (pc := 6) (u := u) (v := (u.1 24)) cx hw (ln_X12_this_24 d h) (C := RX12) (T := TX12) (N := 40) rfl in_X12 (by decide) q1001 (fun _ h9 => h9) rfl dX12_headsOf_6 ?_
    refine lv_icmp_ge (pc := 9) (tgt := 91) cx.1 cx.2.1 dX12_headsOf_9 (by decide) (fun c1 => ?_) (fun c1 => ?_)
    · replace hwp := hwp.1 c1
      exact k_vret (pc := 91) (wf := (wM d h)) (u := u) cx hw hwp (by decide) (by decide) dX12_headsOf_91
    · replace hwp := hwp.2 c1
      refine lv_aload_n (pc := 12) cx.1 cx.2.1 dX12_headsOf_12 rfl (lv_at hl 0 rfl) ?_
      refine k_getR (pc := 13) (u := u) (v := .ref (h 9)) cx hw (lr_X12_this_21 d h) (C := RX12) (T := TX12) (N := 40) rfl in_X12 (by decide) q998 (fun _ h9 => h9) rfl dX12_headsOf_13 ?_
      refine lv_iload_n (pc := 16) cx.1 cx.2.1 dX12_headsOf_16 rfl (lv_at hl 3 rfl) ?_
      refine k_iald (pc := 17) (u := u) (f := (u.2.1 21)) cx hw (lx_X12_this_21 d h) 0 rfl rfl hwp.1 dX12_headsOf_17 ?_
      replace hwp := hwp.2
      refine lv_iload_n (pc := 18) cx.1 cx.2.1 dX12_headsOf_18 rfl (lv_at hl 1 rfl) ?_
      refine lv_icmp_eq (pc := 19) (tgt := 25) cx.1 cx.2.1 dX12_headsOf_19 (by decide) (fun c2 => ?_) (fun c2 => ?_)
      · replace hwp := hwp.1 c2
        refine lv_iload_n (pc := 25) cx.1 cx.2.1 dX12_headsOf_25 rfl (lv_at hl 2 rfl) ?_
        refine lv_iconst (pc := 26) (v := -1) cx.1 cx.2.1 dX12_headsOf_26 (by decide) ?_
        refine lv_icmp_eq (pc := 27) (tgt := 43) cx.1 cx.2.1 dX12_headsOf_27 (by decide) (fun c3 => ?_) (fun c3 => ?_)
        · replace hwp := hwp.1 c3
          exact wk_X12_headsOf_43 cx (wk_X12_headsOf_68 cx ih) _ _ _ _ _ _ hwp hw (lv_sub hl [0, 1, 3] rfl)
        · replace hwp := hwp.2 c3
          refine lv_aload_n (pc := 30) cx.1 cx.2.1 dX12_headsOf_30 rfl (lv_at hl 0 rfl) ?_
          refine k_getR (pc := 31) (u := u) (v := .ref (h 3)) cx hw (lr_X12_this_12 d h) (C := RX12) (T := TX12) (N := 40) rfl in_X12 (by decide) q989 (fun _ h9 => h9) rfl dX12_headsOf_31 ?_
          refine lv_iload_n (pc := 34) cx.1 cx.2.1 dX12_headsOf_34 rfl (lv_at hl 2 rfl) ?_
          refine k_iald (pc := 35) (u := u) (f := (u.2.1 12)) cx hw (lx_X12_this_12 d h) 0 rfl rfl hwp.1 dX12_headsOf_35 ?_
          replace hwp := hwp.2
          refine lv_aload_n (pc := 36) cx.1 cx.2.1 dX12_headsOf_36 rfl (lv_at hl 0 rfl) ?_
          refine k_getI (pc := 37) (u := u) (v := (u.1 2)) cx hw (ln_X12_this_2 d h) (C := RX12) (T := TX12) (N := 40) rfl in_X12 (by decide) q979 (fun _ h9 => h9) rfl dX12_headsOf_37 ?_
          refine lv_icmp_ne (pc := 40) (tgt := 68) cx.1 cx.2.1 dX12_headsOf_40 (by decide) (fun c4 => ?_) (fun c4 => ?_)
          · replace hwp := hwp.1 c4
            exact wk_X12_headsOf_68 cx ih _ _ _ _ _ _ _ hwp hw (lv_sub hl [0, 1, 2, 3] rfl)
          · replace hwp := hwp.2 c4
            exact wk_X12_headsOf_43 cx (wk_X12_headsOf_68 cx ih) _ _ _ _ _ _ hwp hw (lv_sub hl [0, 1, 3] rfl)
      · replace hwp := hwp.2 c2
        refine lv_goto (pc := 22) (tgt := 85) cx.1 cx.2.1 dX12_headsOf_22 (by decide) ?_
        refine lv_iinc (pc := 85) (v := (x3 + (1 : Int32))) (lv' := [(3, .int (x3 + (1 : Int32))), (0, .ref (h 0)), (1, .int x1), (2, .int x2)]) cx.1 cx.2.1 dX12_headsOf_85 hl (k := 3) rfl rfl (by decide) rfl (fun ls hl => ?_)
        refine lv_goto (pc := 88) (tgt := 4) cx.1 cx.2.1 dX12_headsOf_88 (by decide) ?_
        exact ih _ _ _ _ _ _ _ hwp hw (lv_sub hl [1, 2, 3, 0] rfl)
set_option maxHeartbeats 4000000 in
theorem m_X12_headsOf (l : Launch) (dC : Nat → ClassId) (dI : Nat → Nat → Nat) (d : Nat → ClassId) (h : Nat → Nat) (u : St) (x1 : Int32) {K : St → Prop} (hwp : wp_X12_headsOf u x1 K) : kM l yX12_headsOf cX12_headsOf 4 none ({ frames := 2, cells := 0, slots := 0, locals := 44 } : Room) dC dI d [.ref (h 0), .int x1] (wM d h) u (kQv dC dI (wM d h) K) 0 0 := by
  refine kM_start rfl (Nat.le_of_ble_eq_true rfl) ?_
  intro p e s m below meth c A ls cx hnm hw hl
  generalize hargs : ([.ref (h 0), .int x1] : List Value).toArray = args at cx ⊢
  unfold wp_X12_headsOf at hwp
  replace hl : lv_has ls 4 [(0, .ref (h 0)), (1, .int x1)] := hl
  generalize hH : s.heap = H at hw ⊢
  generalize hlo : ([] : List Loc) = locs at hw ⊢
  refine lv_iconst (pc := 0) (v := -1) cx.1 cx.2.1 dX12_headsOf_0 (by decide) ?_
  refine lv_istore_n (pc := 1) (lv' := [(2, .int (-1 : Int32)), (0, .ref (h 0)), (1, .int x1)]) cx.1 cx.2.1 dX12_headsOf_1 rfl hl (by decide) rfl (fun ls hl => ?_)
  refine lv_iconst (pc := 2) (v := 0) cx.1 cx.2.1 dX12_headsOf_2 (by decide) ?_
  refine lv_istore_n (pc := 3) (lv' := [(3, .int (0 : Int32)), (2, .int (-1 : Int32)), (0, .ref (h 0)), (1, .int x1)]) cx.1 cx.2.1 dX12_headsOf_3 rfl hl (by decide) rfl (fun ls hl => ?_)
  obtain ⟨n4, hwp⟩ := hwp
  exact wk_X12_headsOf_4 cx n4 _ _ _ _ _ _ _ hwp hw (lv_sub hl [2, 3, 1, 0] rfl)
set_option maxHeartbeats 4000000 in
theorem wk_X12_put_75 {p : Program} {l : Launch} {e : Env} {s : State} {m : MethodId} {args : Array Value} {below : List Frame} {meth : Method} {c : Code} {A : Nat → Prop} {dC : Nat → ClassId} {dI : Nat → Nat → Nat} {d : Nat → ClassId} {h : Nat → Nat} {C5 : Int64 → Int32 → St → Prop} {K : St → Prop} (cx : Cx p s m args meth c cX12_put RX12 5 none A dC dI d) (hC5 : ∀ (x1 : Int64) (x4 : Int32) (u : St) (H : Heap) (locs : List Loc) (ls : Array Slot), C5 x1 x4 u → Wd dC dI A ((wM d h) u) s H locs → lv_has ls 5 [(0, .ref (h 0)), (1, .long x1), (4, .int x4)] → W p l e ({ frames := 0, cells := 0, slots := 0, locals := 0 } : Room) s m args below meth c H locs 0 0 (MQ below (kQv dC dI (wM d h) K A) args s 0 0 A) (F0 m 5 ls [])) : ∀ (x1 : Int64) (x4 : Int32) (u : St) (H : Heap) (locs : List Loc) (ls : Array Slot), wp_X12_put_75 C5 K x1 x4 u → Wd dC dI A ((wM d h) u) s H locs → lv_has ls 5 [(0, .ref (h 0)), (1, .long x1), (4, .int x4)] → W p l e ({ frames := 0, cells := 0, slots := 0, locals := 0 } : Room) s m args below meth c H locs 0 0 (MQ below (kQv dC dI (wM d h) K A) args s 0 0 A) (F0 m 75 ls []) := by
  intro x1 x4 u H locs ls hwp hw hl
  unfold wp_X12_put_75 at hwp
  refine lv_aload_n (pc := 75) cx.1 cx.2.1 dX12_put_75 rfl (lv_at hl 0 rfl) ?_
  refine lv_dup (pc := 76) cx.1 cx.2.1 dX12_put_76 rfl ?_
  refine k_getI (pc := 77) (u := u) (v := (u.1 34)) cx hw (ln_X12_this_34 d h) (C := RX12) (T := TX12) (N := 40) rfl in_X12 (by decide) q1011 (fun _ h9 => h9) rfl dX12_put_77 ?_
  refine lv_iconst (pc := 80) (v := 1) cx.1 cx.2.1 dX12_put_80 (by decide) ?_
  refine lv_iadd (pc := 81) cx.1 cx.2.1 dX12_put_81 ?_
  refine k_putI (pc := 82) (u := u) (v := ((u.1 34) + (1 : Int32))) cx hw (ln_X12_this_34 d h) (C := RX12) (T := TX12) (N := 40) rfl in_X12 tyX12 tyX12_ok nmX12 (by decide) q1011 (fun _ h9 => h9) rfl rfl rfl dX12_put_82 (fun H locs hw => ?_)
  refine lv_iinc (pc := 85) (v := (x4 + (-1 : Int32))) (lv' := [(4, .int (x4 + (-1 : Int32))), (0, .ref (h 0)), (1, .long x1)]) cx.1 cx.2.1 dX12_put_85 hl (k := 2) rfl rfl (by decide) rfl (fun ls hl => ?_)
  refine lv_goto (pc := 88) (tgt := 5) cx.1 cx.2.1 dX12_put_88 (by decide) ?_
  exact hC5 _ _ _ _ _ _ hwp hw (lv_sub hl [1, 2, 0] rfl)
set_option maxHeartbeats 4000000 in
theorem wk_X12_put_35 {p : Program} {l : Launch} {e : Env} {s : State} {m : MethodId} {args : Array Value} {below : List Frame} {meth : Method} {c : Code} {A : Nat → Prop} {dC : Nat → ClassId} {dI : Nat → Nat → Nat} {d : Nat → ClassId} {h : Nat → Nat} {C5 : Int64 → Int32 → St → Prop} {K : St → Prop} (cx : Cx p s m args meth c cX12_put RX12 5 none A dC dI d) (hC5 : ∀ (x1 : Int64) (x4 : Int32) (u : St) (H : Heap) (locs : List Loc) (ls : Array Slot), C5 x1 x4 u → Wd dC dI A ((wM d h) u) s H locs → lv_has ls 5 [(0, .ref (h 0)), (1, .long x1), (4, .int x4)] → W p l e ({ frames := 0, cells := 0, slots := 0, locals := 0 } : Room) s m args below meth c H locs 0 0 (MQ below (kQv dC dI (wM d h) K A) args s 0 0 A) (F0 m 5 ls [])) : ∀ (x1 : Int64) (x4 : Int32) (u : St) (H : Heap) (locs : List Loc) (ls : Array Slot), wp_X12_put_35 C5 K x1 x4 u → Wd dC dI A ((wM d h) u) s H locs → lv_has ls 5 [(0, .ref (h 0)), (1, .long x1), (4, .int x4)] → W p l e ({ frames := 0, cells := 0, slots := 0, locals := 0 } : Room) s m args below meth c H locs 0 0 (MQ below (kQv dC dI (wM d h) K A) args s 0 0 A) (F0 m 35 ls []) := by
  intro x1 x4 u H locs ls hwp hw hl
  unfold wp_X12_put_35 at hwp
  refine lv_lload_n (pc := 35) cx.1 cx.2.1 dX12_put_35 rfl (lv_at hl 1 rfl) ?_
  refine lv_iload (pc := 36) cx.1 cx.2.1 dX12_put_36 (lv_at hl 2 rfl) ?_
  refine lv_lshr (pc := 38) cx.1 cx.2.1 dX12_put_38 rfl ?_
  refine lv_lconst (pc := 39) (v := 1) cx.1 cx.2.1 dX12_put_39 (by decide) ?_
  refine lv_land (pc := 40) cx.1 cx.2.1 dX12_put_40 ?_
  refine lv_lconst (pc := 41) (v := 1) cx.1 cx.2.1 dX12_put_41 (by decide) ?_
  refine W.lcmp (pc := 42) cx.1 cx.2.1 dX12_put_42 ?_
  refine lv_if_ne (pc := 43) (tgt := 75) cx.1 cx.2.1 dX12_put_43 (by decide) (fun c1 => ?_) (fun c1 => ?_)
  · replace hwp := hwp.1 (mt (lg_cmp_eq _ _).mpr c1)
    exact wk_X12_put_75 cx hC5 _ _ _ _ _ _ hwp hw (lv_sub hl [0, 1, 2] rfl)
  · replace hwp := hwp.2 ((lg_cmp_eq _ _).mp c1)
    refine lv_aload_n (pc := 46) cx.1 cx.2.1 dX12_put_46 rfl (lv_at hl 0 rfl) ?_
    refine k_getR (pc := 47) (u := u) (v := .ref (h 16)) cx hw (lr_X12_this_33 d h) (C := RX12) (T := TX12) (N := 40) rfl in_X12 (by decide) q1010 (fun _ h9 => h9) rfl dX12_put_47 ?_
    refine lv_iconst (pc := 50) (v := 2) cx.1 cx.2.1 dX12_put_50 (by decide) ?_
    refine lv_aload_n (pc := 51) cx.1 cx.2.1 dX12_put_51 rfl (lv_at hl 0 rfl) ?_
    refine k_getI (pc := 52) (u := u) (v := (u.1 34)) cx hw (ln_X12_this_34 d h) (C := RX12) (T := TX12) (N := 40) rfl in_X12 (by decide) q1011 (fun _ h9 => h9) rfl dX12_put_52 ?_
    refine lv_bipush (pc := 55) (v := 32) cx.1 cx.2.1 dX12_put_55 (by decide) ?_
    refine lv_idiv (pc := 57) cx.1 cx.2.1 dX12_put_57 (by decide) ?_
    refine lv_iadd (pc := 58) cx.1 cx.2.1 dX12_put_58 ?_
    refine lv_dup2_11 (pc := 59) cx.1 cx.2.1 dX12_put_59 rfl rfl ?_
    refine k_iald (pc := 60) (u := u) (f := (u.2.1 33)) cx hw (lx_X12_this_33 d h) 0 rfl rfl hwp.1 dX12_put_60 ?_
    replace hwp := hwp.2
    refine lv_iconst (pc := 61) (v := 1) cx.1 cx.2.1 dX12_put_61 (by decide) ?_
    refine lv_bipush (pc := 62) (v := 31) cx.1 cx.2.1 dX12_put_62 (by decide) ?_
    refine lv_aload_n (pc := 64) cx.1 cx.2.1 dX12_put_64 rfl (lv_at hl 0 rfl) ?_
    refine k_getI (pc := 65) (u := u) (v := (u.1 34)) cx hw (ln_X12_this_34 d h) (C := RX12) (T := TX12) (N := 40) rfl in_X12 (by decide) q1011 (fun _ h9 => h9) rfl dX12_put_65 ?_
    refine lv_bipush (pc := 68) (v := 32) cx.1 cx.2.1 dX12_put_68 (by decide) ?_
    refine lv_irem (pc := 70) cx.1 cx.2.1 dX12_put_70 (by decide) ?_
    refine lv_isub (pc := 71) cx.1 cx.2.1 dX12_put_71 ?_
    refine lv_ishl (pc := 72) cx.1 cx.2.1 dX12_put_72 ?_
    refine lv_ior (pc := 73) cx.1 cx.2.1 dX12_put_73 ?_
    refine lv_topi (fun y2 ey2 => ?_)
    replace hwp := hwp y2 ey2
    refine k_top2 (fun y3 ey3 => ?_)
    replace hwp := hwp y3 ey3
    refine k_iast (pc := 74) (u := u) (f := (u.2.1 33)) cx hw (ln_X12_this_33 d h) 0 rfl rfl hwp.1 dX12_put_74 (fun H locs hw => ?_)
    replace hwp := hwp.2
    exact wk_X12_put_75 cx hC5 _ _ _ _ _ _ hwp hw (lv_sub hl [0, 1, 2] rfl)
set_option maxHeartbeats 4000000 in
theorem wk_X12_put_5 {p : Program} {l : Launch} {e : Env} {s : State} {m : MethodId} {args : Array Value} {below : List Frame} {meth : Method} {c : Code} {A : Nat → Prop} {dC : Nat → ClassId} {dI : Nat → Nat → Nat} {d : Nat → ClassId} {h : Nat → Nat} {K : St → Prop} (cx : Cx p s m args meth c cX12_put RX12 5 none A dC dI d) : ∀ (n : Nat) (x1 : Int64) (x4 : Int32) (u : St) (H : Heap) (locs : List Loc) (ls : Array Slot), wp_X12_put_5 K n x1 x4 u → Wd dC dI A ((wM d h) u) s H locs → lv_has ls 5 [(0, .ref (h 0)), (1, .long x1), (4, .int x4)] → W p l e ({ frames := 0, cells := 0, slots := 0, locals := 0 } : Room) s m args below meth c H locs 0 0 (MQ below (kQv dC dI (wM d h) K A) args s 0 0 A) (F0 m 5 ls []) := by
  intro n
  induction n with
  | zero =>
    intros; contradiction
  | succ n ih =>
    intro x1 x4 u H locs ls hwp hw hl
    unfold wp_X12_put_5 at hwp
    refine lv_iload (pc := 5) cx.1 cx.2.1 dX12_put_5 (lv_at hl 2 rfl) ?_
    refine lv_if_lt (pc := 7) (tgt := 91) cx.1 cx.2.1 dX12_put_7 (by decide) (fun c1 => ?_) (fun c1 => ?_)
    · replace hwp := hwp.1 c1
      exact k_vret (pc := 91) (wf := (wM d h)) (u := u) cx hw hwp (by decide) (by decide) dX12_put_91
    · replace hwp := hwp.2 c1
      refine lv_aload_n (pc := 10) cx.1 cx.2.1 dX12_put_10 rfl (lv_at hl 0 rfl) ?_
      refine k_getI (pc := 11) (u := u) (v := (u.1 34)) cx hw (ln_X12_this_34 d h) (C := RX12) (T := TX12) (N := 40) rfl in_X12 (by decide) q1011 (fun _ h9 => h9) rfl dX12_put_11 ?_
      refine lv_bipush (pc := 14) (v := 32) cx.1 cx.2.1 dX12_put_14 (by decide) ?_
      refine lv_irem (pc := 16) cx.1 cx.2.1 dX12_put_16 (by decide) ?_
      refine lv_if_ne (pc := 17) (tgt := 35) cx.1 cx.2.1 dX12_put_17 (by decide) (fun c2 => ?_) (fun c2 => ?_)
      · replace hwp := hwp.1 c2
        exact wk_X12_put_35 cx ih _ _ _ _ _ _ hwp hw (lv_sub hl [0, 1, 2] rfl)
      · replace hwp := hwp.2 c2
        refine lv_aload_n (pc := 20) cx.1 cx.2.1 dX12_put_20 rfl (lv_at hl 0 rfl) ?_
        refine k_getR (pc := 21) (u := u) (v := .ref (h 16)) cx hw (lr_X12_this_33 d h) (C := RX12) (T := TX12) (N := 40) rfl in_X12 (by decide) q1010 (fun _ h9 => h9) rfl dX12_put_21 ?_
        refine lv_iconst (pc := 24) (v := 2) cx.1 cx.2.1 dX12_put_24 (by decide) ?_
        refine lv_aload_n (pc := 25) cx.1 cx.2.1 dX12_put_25 rfl (lv_at hl 0 rfl) ?_
        refine k_getI (pc := 26) (u := u) (v := (u.1 34)) cx hw (ln_X12_this_34 d h) (C := RX12) (T := TX12) (N := 40) rfl in_X12 (by decide) q1011 (fun _ h9 => h9) rfl dX12_put_26 ?_
        refine lv_bipush (pc := 29) (v := 32) cx.1 cx.2.1 dX12_put_29 (by decide) ?_
        refine lv_idiv (pc := 31) cx.1 cx.2.1 dX12_put_31 (by decide) ?_
        refine lv_iadd (pc := 32) cx.1 cx.2.1 dX12_put_32 ?_
        refine lv_iconst (pc := 33) (v := 0) cx.1 cx.2.1 dX12_put_33 (by decide) ?_
        refine k_top2 (fun y3 ey3 => ?_)
        replace hwp := hwp y3 ey3
        refine k_iast (pc := 34) (u := u) (f := (u.2.1 33)) cx hw (ln_X12_this_33 d h) 0 rfl rfl hwp.1 dX12_put_34 (fun H locs hw => ?_)
        replace hwp := hwp.2
        exact wk_X12_put_35 cx ih _ _ _ _ _ _ hwp hw (lv_sub hl [0, 1, 2] rfl)
set_option maxHeartbeats 4000000 in
theorem m_X12_put (l : Launch) (dC : Nat → ClassId) (dI : Nat → Nat → Nat) (d : Nat → ClassId) (h : Nat → Nat) (u : St) (x1 : Int64) (x3 : Int32) {K : St → Prop} (hwp : wp_X12_put u x1 x3 K) : kM l yX12_put cX12_put 5 none ({ frames := 0, cells := 0, slots := 0, locals := 0 } : Room) dC dI d [.ref (h 0), .long x1, .int x3] (wM d h) u (kQv dC dI (wM d h) K) 0 0 := by
  refine kM_start rfl (Nat.le_of_ble_eq_true rfl) ?_
  intro p e s m below meth c A ls cx hnm hw hl
  generalize hargs : ([.ref (h 0), .long x1, .int x3] : List Value).toArray = args at cx ⊢
  unfold wp_X12_put at hwp
  replace hl : lv_has ls 5 [(0, .ref (h 0)), (1, .long x1), (3, .int x3)] := hl
  generalize hH : s.heap = H at hw ⊢
  generalize hlo : ([] : List Loc) = locs at hw ⊢
  refine lv_iload_n (pc := 0) cx.1 cx.2.1 dX12_put_0 rfl (lv_at hl 2 rfl) ?_
  refine lv_iconst (pc := 1) (v := 1) cx.1 cx.2.1 dX12_put_1 (by decide) ?_
  refine lv_isub (pc := 2) cx.1 cx.2.1 dX12_put_2 ?_
  refine lv_istore (pc := 3) (lv' := [(4, .int (x3 - (1 : Int32))), (0, .ref (h 0)), (1, .long x1), (3, .int x3)]) cx.1 cx.2.1 dX12_put_3 hl (by decide) rfl (fun ls hl => ?_)
  obtain ⟨n5, hwp⟩ := hwp
  exact wk_X12_put_5 cx n5 _ _ _ _ _ _ hwp hw (lv_sub hl [1, 2, 0] rfl)
