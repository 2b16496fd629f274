set_option maxRecDepth 100000
theorem hdV_X2_write : yX2_write.cls = RX2 ∧ yX2_write.cls ≠ "java/lang/invoke/MethodHandle" ∧ yX2_write.cls ≠ "java/lang/invoke/VarHandle" ∧ (parseMethodDescriptor yX2_write.desc).map (fun d => d.parameters.length) = some 2 := by decide +kernel
theorem hdV_X1_isSeries : yX1_isSeries.cls = RX1 ∧ yX1_isSeries.cls ≠ "java/lang/invoke/MethodHandle" ∧ yX1_isSeries.cls ≠ "java/lang/invoke/VarHandle" ∧ (parseMethodDescriptor yX1_isSeries.desc).map (fun d => d.parameters.length) = some 1 := by decide +kernel
theorem hdV_X1_isRising : yX1_isRising.cls = RX1 ∧ yX1_isRising.cls ≠ "java/lang/invoke/MethodHandle" ∧ yX1_isRising.cls ≠ "java/lang/invoke/VarHandle" ∧ (parseMethodDescriptor yX1_isRising.desc).map (fun d => d.parameters.length) = some 2 := by decide +kernel
theorem hdV_X1_append : yX1_append.cls = RX1 ∧ yX1_append.cls ≠ "java/lang/invoke/MethodHandle" ∧ yX1_append.cls ≠ "java/lang/invoke/VarHandle" ∧ (parseMethodDescriptor yX1_append.desc).map (fun d => d.parameters.length) = some 3 := by decide +kernel
theorem hdV_X1_plans : yX1_plans.cls = RX1 ∧ yX1_plans.cls ≠ "java/lang/invoke/MethodHandle" ∧ yX1_plans.cls ≠ "java/lang/invoke/VarHandle" ∧ (parseMethodDescriptor yX1_plans.desc).map (fun d => d.parameters.length) = some 0 := by decide +kernel
theorem hdV_X1_opens : yX1_opens.cls = RX1 ∧ yX1_opens.cls ≠ "java/lang/invoke/MethodHandle" ∧ yX1_opens.cls ≠ "java/lang/invoke/VarHandle" ∧ (parseMethodDescriptor yX1_opens.desc).map (fun d => d.parameters.length) = some 1 := by decide +kernel
theorem hdV_X1_adds : yX1_adds.cls = RX1 ∧ yX1_adds.cls ≠ "java/lang/invoke/MethodHandle" ∧ yX1_adds.cls ≠ "java/lang/invoke/VarHandle" ∧ (parseMethodDescriptor yX1_adds.desc).map (fun d => d.parameters.length) = some 2 := by decide +kernel
theorem hdV_X1_closes : yX1_closes.cls = RX1 ∧ yX1_closes.cls ≠ "java/lang/invoke/MethodHandle" ∧ yX1_closes.cls ≠ "java/lang/invoke/VarHandle" ∧ (parseMethodDescriptor yX1_closes.desc).map (fun d => d.parameters.length) = some 0 := by decide +kernel
theorem hdV_X1_takes : yX1_takes.cls = RX1 ∧ yX1_takes.cls ≠ "java/lang/invoke/MethodHandle" ∧ yX1_takes.cls ≠ "java/lang/invoke/VarHandle" ∧ (parseMethodDescriptor yX1_takes.desc).map (fun d => d.parameters.length) = some 2 := by decide +kernel
theorem hdV_X1_free : yX1_free.cls = RX1 ∧ yX1_free.cls ≠ "java/lang/invoke/MethodHandle" ∧ yX1_free.cls ≠ "java/lang/invoke/VarHandle" ∧ (parseMethodDescriptor yX1_free.desc).map (fun d => d.parameters.length) = some 1 := by decide +kernel
theorem hdV_X1_places : yX1_places.cls = RX1 ∧ yX1_places.cls ≠ "java/lang/invoke/MethodHandle" ∧ yX1_places.cls ≠ "java/lang/invoke/VarHandle" ∧ (parseMethodDescriptor yX1_places.desc).map (fun d => d.parameters.length) = some 0 := by decide +kernel
theorem hdV_X1_entry : yX1_entry.cls = RX1 ∧ yX1_entry.cls ≠ "java/lang/invoke/MethodHandle" ∧ yX1_entry.cls ≠ "java/lang/invoke/VarHandle" ∧ (parseMethodDescriptor yX1_entry.desc).map (fun d => d.parameters.length) = some 2 := by decide +kernel
theorem hdV_X1_gather : yX1_gather.cls = RX1 ∧ yX1_gather.cls ≠ "java/lang/invoke/MethodHandle" ∧ yX1_gather.cls ≠ "java/lang/invoke/VarHandle" ∧ (parseMethodDescriptor yX1_gather.desc).map (fun d => d.parameters.length) = some 0 := by decide +kernel
theorem hdV_X1_turn : yX1_turn.cls = RX1 ∧ yX1_turn.cls ≠ "java/lang/invoke/MethodHandle" ∧ yX1_turn.cls ≠ "java/lang/invoke/VarHandle" ∧ (parseMethodDescriptor yX1_turn.desc).map (fun d => d.parameters.length) = some 1 := by decide +kernel
theorem hdV_X1_done : yX1_done.cls = RX1 ∧ yX1_done.cls ≠ "java/lang/invoke/MethodHandle" ∧ yX1_done.cls ≠ "java/lang/invoke/VarHandle" ∧ (parseMethodDescriptor yX1_done.desc).map (fun d => d.parameters.length) = some 2 := by decide +kernel
theorem hdV_X1_flush : yX1_flush.cls = RX1 ∧ yX1_flush.cls ≠ "java/lang/invoke/MethodHandle" ∧ yX1_flush.cls ≠ "java/lang/invoke/VarHandle" ∧ (parseMethodDescriptor yX1_flush.desc).map (fun d => d.parameters.length) = some 0 := by decide +kernel
theorem hdV_X1_reach : yX1_reach.cls = RX1 ∧ yX1_reach.cls ≠ "java/lang/invoke/MethodHandle" ∧ yX1_reach.cls ≠ "java/lang/invoke/VarHandle" ∧ (parseMethodDescriptor yX1_reach.desc).map (fun d => d.parameters.length) = some 2 := by decide +kernel
theorem hdV_X1_merges : yX1_merges.cls = RX1 ∧ yX1_merges.cls ≠ "java/lang/invoke/MethodHandle" ∧ yX1_merges.cls ≠ "java/lang/invoke/VarHandle" ∧ (parseMethodDescriptor yX1_merges.desc).map (fun d => d.parameters.length) = some 2 := by decide +kernel
theorem hdV_X1_compact : yX1_compact.cls = RX1 ∧ yX1_compact.cls ≠ "java/lang/invoke/MethodHandle" ∧ yX1_compact.cls ≠ "java/lang/invoke/VarHandle" ∧ (parseMethodDescriptor yX1_compact.desc).map (fun d => d.parameters.length) = some 1 := by decide +kernel
theorem hdV_X1_expire : yX1_expire.cls = RX1 ∧ yX1_expire.cls ≠ "java/lang/invoke/MethodHandle" ∧ yX1_expire.cls ≠ "java/lang/invoke/VarHandle" ∧ (parseMethodDescriptor yX1_expire.desc).map (fun d => d.parameters.length) = some 1 := by decide +kernel
theorem hdV_X1_asksGroup : yX1_asksGroup.cls = RX1 ∧ yX1_asksGroup.cls ≠ "java/lang/invoke/MethodHandle" ∧ yX1_asksGroup.cls ≠ "java/lang/invoke/VarHandle" ∧ (parseMethodDescriptor yX1_asksGroup.desc).map (fun d => d.parameters.length) = some 4 := by decide +kernel
theorem hdV_X1_asks : yX1_asks.cls = RX1 ∧ yX1_asks.cls ≠ "java/lang/invoke/MethodHandle" ∧ yX1_asks.cls ≠ "java/lang/invoke/VarHandle" ∧ (parseMethodDescriptor yX1_asks.desc).map (fun d => d.parameters.length) = some 3 := by decide +kernel
theorem hdV_X9_begin : yX9_begin.cls = RX9 ∧ yX9_begin.cls ≠ "java/lang/invoke/MethodHandle" ∧ yX9_begin.cls ≠ "java/lang/invoke/VarHandle" ∧ (parseMethodDescriptor yX9_begin.desc).map (fun d => d.parameters.length) = some 3 := by decide +kernel
theorem hdV_X1_seek : yX1_seek.cls = RX1 ∧ yX1_seek.cls ≠ "java/lang/invoke/MethodHandle" ∧ yX1_seek.cls ≠ "java/lang/invoke/VarHandle" ∧ (parseMethodDescriptor yX1_seek.desc).map (fun d => d.parameters.length) = some 3 := by decide +kernel
theorem hdV_X9_goes : yX9_goes.cls = RX9 ∧ yX9_goes.cls ≠ "java/lang/invoke/MethodHandle" ∧ yX9_goes.cls ≠ "java/lang/invoke/VarHandle" ∧ (parseMethodDescriptor yX9_goes.desc).map (fun d => d.parameters.length) = some 0 := by decide +kernel
theorem hdV_X9_step : yX9_step.cls = RX9 ∧ yX9_step.cls ≠ "java/lang/invoke/MethodHandle" ∧ yX9_step.cls ≠ "java/lang/invoke/VarHandle" ∧ (parseMethodDescriptor yX9_step.desc).map (fun d => d.parameters.length) = some 0 := by decide +kernel
theorem hdV_X1_next : yX1_next.cls = RX1 ∧ yX1_next.cls ≠ "java/lang/invoke/MethodHandle" ∧ yX1_next.cls ≠ "java/lang/invoke/VarHandle" ∧ (parseMethodDescriptor yX1_next.desc).map (fun d => d.parameters.length) = some 0 := by decide +kernel
theorem hdV_X1_isAt : yX1_isAt.cls = RX1 ∧ yX1_isAt.cls ≠ "java/lang/invoke/MethodHandle" ∧ yX1_isAt.cls ≠ "java/lang/invoke/VarHandle" ∧ (parseMethodDescriptor yX1_isAt.desc).map (fun d => d.parameters.length) = some 0 := by decide +kernel
theorem hdV_X1_curTime : yX1_curTime.cls = RX1 ∧ yX1_curTime.cls ≠ "java/lang/invoke/MethodHandle" ∧ yX1_curTime.cls ≠ "java/lang/invoke/VarHandle" ∧ (parseMethodDescriptor yX1_curTime.desc).map (fun d => d.parameters.length) = some 0 := by decide +kernel
theorem hdV_X1_curVal : yX1_curVal.cls = RX1 ∧ yX1_curVal.cls ≠ "java/lang/invoke/MethodHandle" ∧ yX1_curVal.cls ≠ "java/lang/invoke/VarHandle" ∧ (parseMethodDescriptor yX1_curVal.desc).map (fun d => d.parameters.length) = some 0 := by decide +kernel
theorem hdV_X1_aggCount : yX1_aggCount.cls = RX1 ∧ yX1_aggCount.cls ≠ "java/lang/invoke/MethodHandle" ∧ yX1_aggCount.cls ≠ "java/lang/invoke/VarHandle" ∧ (parseMethodDescriptor yX1_aggCount.desc).map (fun d => d.parameters.length) = some 3 := by decide +kernel
theorem hdV_X1_need : yX1_need.cls = RX1 ∧ yX1_need.cls ≠ "java/lang/invoke/MethodHandle" ∧ yX1_need.cls ≠ "java/lang/invoke/VarHandle" ∧ (parseMethodDescriptor yX1_need.desc).map (fun d => d.parameters.length) = some 1 := by decide +kernel
theorem hdV_X1_aggMin : yX1_aggMin.cls = RX1 ∧ yX1_aggMin.cls ≠ "java/lang/invoke/MethodHandle" ∧ yX1_aggMin.cls ≠ "java/lang/invoke/VarHandle" ∧ (parseMethodDescriptor yX1_aggMin.desc).map (fun d => d.parameters.length) = some 3 := by decide +kernel
theorem hdV_X1_aggMax : yX1_aggMax.cls = RX1 ∧ yX1_aggMax.cls ≠ "java/lang/invoke/MethodHandle" ∧ yX1_aggMax.cls ≠ "java/lang/invoke/VarHandle" ∧ (parseMethodDescriptor yX1_aggMax.desc).map (fun d => d.parameters.length) = some 3 := by decide +kernel
theorem hdV_X1_aggSum : yX1_aggSum.cls = RX1 ∧ yX1_aggSum.cls ≠ "java/lang/invoke/MethodHandle" ∧ yX1_aggSum.cls ≠ "java/lang/invoke/VarHandle" ∧ (parseMethodDescriptor yX1_aggSum.desc).map (fun d => d.parameters.length) = some 3 := by decide +kernel
theorem hdV_X1_crashAfter : yX1_crashAfter.cls = RX1 ∧ yX1_crashAfter.cls ≠ "java/lang/invoke/MethodHandle" ∧ yX1_crashAfter.cls ≠ "java/lang/invoke/VarHandle" ∧ (parseMethodDescriptor yX1_crashAfter.desc).map (fun d => d.parameters.length) = some 1 := by decide +kernel
theorem hdV_X1_reads : yX1_reads.cls = RX1 ∧ yX1_reads.cls ≠ "java/lang/invoke/MethodHandle" ∧ yX1_reads.cls ≠ "java/lang/invoke/VarHandle" ∧ (parseMethodDescriptor yX1_reads.desc).map (fun d => d.parameters.length) = some 0 := by decide +kernel
theorem hdV_X1_recover : yX1_recover.cls = RX1 ∧ yX1_recover.cls ≠ "java/lang/invoke/MethodHandle" ∧ yX1_recover.cls ≠ "java/lang/invoke/VarHandle" ∧ (parseMethodDescriptor yX1_recover.desc).map (fun d => d.parameters.length) = some 0 := by decide +kernel
theorem hdV_X1_cell : yX1_cell.cls = RX1 ∧ yX1_cell.cls ≠ "java/lang/invoke/MethodHandle" ∧ yX1_cell.cls ≠ "java/lang/invoke/VarHandle" ∧ (parseMethodDescriptor yX1_cell.desc).map (fun d => d.parameters.length) = some 1 := by decide +kernel
theorem hdV_X1_chunks : yX1_chunks.cls = RX1 ∧ yX1_chunks.cls ≠ "java/lang/invoke/MethodHandle" ∧ yX1_chunks.cls ≠ "java/lang/invoke/VarHandle" ∧ (parseMethodDescriptor yX1_chunks.desc).map (fun d => d.parameters.length) = some 1 := by decide +kernel
theorem hdV_X1_sizes : yX1_sizes.cls = RX1 ∧ yX1_sizes.cls ≠ "java/lang/invoke/MethodHandle" ∧ yX1_sizes.cls ≠ "java/lang/invoke/VarHandle" ∧ (parseMethodDescriptor yX1_sizes.desc).map (fun d => d.parameters.length) = some 2 := by decide +kernel
theorem hdV_X8_told : yX8_told.cls = RX8 ∧ yX8_told.cls ≠ "java/lang/invoke/MethodHandle" ∧ yX8_told.cls ≠ "java/lang/invoke/VarHandle" ∧ (parseMethodDescriptor yX8_told.desc).map (fun d => d.parameters.length) = some 2 := by decide +kernel
theorem hdV_X1_chunk : yX1_chunk.cls = RX1 ∧ yX1_chunk.cls ≠ "java/lang/invoke/MethodHandle" ∧ yX1_chunk.cls ≠ "java/lang/invoke/VarHandle" ∧ (parseMethodDescriptor yX1_chunk.desc).map (fun d => d.parameters.length) = some 3 := by decide +kernel
theorem hdV_X1_group : yX1_group.cls = RX1 ∧ yX1_group.cls ≠ "java/lang/invoke/MethodHandle" ∧ yX1_group.cls ≠ "java/lang/invoke/VarHandle" ∧ (parseMethodDescriptor yX1_group.desc).map (fun d => d.parameters.length) = some 3 := by decide +kernel
theorem hdV_X1_areaTaken : yX1_areaTaken.cls = RX1 ∧ yX1_areaTaken.cls ≠ "java/lang/invoke/MethodHandle" ∧ yX1_areaTaken.cls ≠ "java/lang/invoke/VarHandle" ∧ (parseMethodDescriptor yX1_areaTaken.desc).map (fun d => d.parameters.length) = some 0 := by decide +kernel
theorem hdV_X1_look : yX1_look.cls = RX1 ∧ yX1_look.cls ≠ "java/lang/invoke/MethodHandle" ∧ yX1_look.cls ≠ "java/lang/invoke/VarHandle" ∧ (parseMethodDescriptor yX1_look.desc).map (fun d => d.parameters.length) = some 1 := by decide +kernel
set_option maxHeartbeats 4000000 in
theorem wk_X2_write_34 {p : Program} {l : Launch} {e : Env} {s : State} {m : MethodId} {args : Array Value} {below : List Frame} {meth : Method} {c : Code} {A : Nat → Prop} {dC : Nat → ClassId} {dI : Nat → Nat → Nat} {d : Nat → ClassId} {h : Nat → Nat} {cf : List Value} {K : St → Prop} {E : Nat → St → Prop} (cx : Cx p s m args meth c cX2_write RX2 3 none A dC dI d) (xt : c.exceptionTable.toList = tableOf []) : ∀ (x1 : Int32) (x2 : Int32) (u : St) (H : Heap) (locs : List Loc) (ls : Array Slot), wp_X2_write_34 K E x1 x2 u → Wd dC dI A ((wDk d h cf) u) s H locs → lv_has ls 3 [(0, .ref (h 0)), (1, .int x1), (2, .int x2)] → W p l e ({ frames := 0, cells := 0, slots := 0, locals := 0 } : Room) s m args below meth c H locs 0 0 (MQT below (kXv dC dI (wDk d h cf) K E A) args s 0 0 A) (F0 m 34 ls []) := by
  intro x1 x2 u H locs ls hwp hw hl
  unfold wp_X2_write_34 at hwp
  refine lv_aload_n (pc := 34) cx.1 cx.2.1 dX2_write_34 rfl (lv_at hl 0 rfl) ?_
  refine k_getR (pc := 35) (u := u) (v := .ref (h 1)) cx hw (lr_X2_this_0 d h cf) (C := RX2) (T := TX2) (N := 5) rfl in_X2 (by decide) q189 (fun _ h9 => h9) rfl dX2_write_35 ?_
  refine lv_iload_n (pc := 38) cx.1 cx.2.1 dX2_write_38 rfl (lv_at hl 1 rfl) ?_
  refine lv_iload_n (pc := 39) cx.1 cx.2.1 dX2_write_39 rfl (lv_at hl 2 rfl) ?_
  refine k_iast (pc := 40) (u := u) (f := (u.2.1 0)) cx hw (ln_X2_this_0 d h cf) 0 rfl rfl hwp.1 dX2_write_40 (fun H locs hw => ?_)
  replace hwp := hwp.2
  refine lv_aload_n (pc := 41) cx.1 cx.2.1 dX2_write_41 rfl (lv_at hl 0 rfl) ?_
  refine lv_dup (pc := 42) cx.1 cx.2.1 dX2_write_42 rfl ?_
  refine k_getI (pc := 43) (u := (st_A u 0 (upd (u.2.1 0) x1.toNatClampNeg x2))) (v := (u.1 4)) cx hw (ln_X2_this_4 d h cf) (C := RX2) (T := TX2) (N := 5) rfl in_X2 (by decide) q197 (fun _ h9 => h9) rfl dX2_write_43 ?_
  refine lv_iconst (pc := 46) (v := 1) cx.1 cx.2.1 dX2_write_46 (by decide) ?_
  refine lv_iadd (pc := 47) cx.1 cx.2.1 dX2_write_47 ?_
  refine k_putI (pc := 48) (u := (st_A u 0 (upd (u.2.1 0) x1.toNatClampNeg x2))) (v := ((u.1 4) + (1 : Int32))) cx hw (ln_X2_this_4 d h cf) (C := RX2) (T := TX2) (N := 5) rfl in_X2 tyX2 tyX2_ok nmX2 (by decide) q197 (fun _ h9 => h9) rfl rfl rfl dX2_write_48 (fun H locs hw => ?_)
  exact k_vretT (pc := 51) (wf := (wDk d h cf)) (u := (st_I (st_A u 0 (upd (u.2.1 0) x1.toNatClampNeg x2)) 4 ((u.1 4) + (1 : Int32)))) cx hw hwp (by decide) (by decide) dX2_write_51
set_option maxHeartbeats 4000000 in
theorem m_X2_write (l : Launch) (dC : Nat → ClassId) (dI : Nat → Nat → Nat) (d : Nat → ClassId) (h : Nat → Nat) (cf : List Value) (u : St) (x1 : Int32) (x2 : Int32) {K : St → Prop} {E : Nat → St → Prop} (hwp : wp_X2_write u x1 x2 K E) : kMT l yX2_write cX2_write 3 none ({ frames := 0, cells := 0, slots := 0, locals := 0 } : Room) dC dI d [.ref (h 0), .int x1, .int x2] (wDk d h cf) u (kXv dC dI (wDk d h cf) K E) 0 0 := by
  refine kMT_start rfl (Nat.le_of_ble_eq_true rfl) ?_
  intro p e s m below meth c A ls cx hnm xt hw hl
  generalize hargs : ([.ref (h 0), .int x1, .int x2] : List Value).toArray = args at cx ⊢
  unfold wp_X2_write at hwp
  replace hl : lv_has ls 3 [(0, .ref (h 0)), (1, .int x1), (2, .int x2)] := hl
  generalize hH : s.heap = H at hw ⊢
  generalize hlo : ([] : List Loc) = locs at hw ⊢
  refine lv_aload_n (pc := 0) cx.1 cx.2.1 dX2_write_0 rfl (lv_at hl 0 rfl) ?_
  refine k_getI (pc := 1) (u := u) (v := (u.1 2)) cx hw (ln_X2_this_2 d h cf) (C := RX2) (T := TX2) (N := 5) rfl in_X2 (by decide) q193 (fun _ h9 => h9) rfl dX2_write_1 ?_
  refine lv_if_ne (pc := 4) (tgt := 17) cx.1 cx.2.1 dX2_write_4 (by decide) (fun c1 => ?_) (fun c1 => ?_)
  · replace hwp := hwp.1 c1
    refine lv_aload_n (pc := 17) cx.1 cx.2.1 dX2_write_17 rfl (lv_at hl 0 rfl) ?_
    refine k_getI (pc := 18) (u := u) (v := (u.1 2)) cx hw (ln_X2_this_2 d h cf) (C := RX2) (T := TX2) (N := 5) rfl in_X2 (by decide) q193 (fun _ h9 => h9) rfl dX2_write_18 ?_
    refine lv_if_le (pc := 21) (tgt := 34) cx.1 cx.2.1 dX2_write_21 (by decide) (fun c2 => ?_) (fun c2 => ?_)
    · replace hwp := hwp.1 c2
      exact wk_X2_write_34 cx xt _ _ _ _ _ _ hwp hw (lv_sub hl [0, 1, 2] rfl)
    · replace hwp := hwp.2 c2
      refine lv_aload_n (pc := 24) cx.1 cx.2.1 dX2_write_24 rfl (lv_at hl 0 rfl) ?_
      refine lv_dup (pc := 25) cx.1 cx.2.1 dX2_write_25 rfl ?_
      refine k_getI (pc := 26) (u := u) (v := (u.1 2)) cx hw (ln_X2_this_2 d h cf) (C := RX2) (T := TX2) (N := 5) rfl in_X2 (by decide) q193 (fun _ h9 => h9) rfl dX2_write_26 ?_
      refine lv_iconst (pc := 29) (v := 1) cx.1 cx.2.1 dX2_write_29 (by decide) ?_
      refine lv_isub (pc := 30) cx.1 cx.2.1 dX2_write_30 ?_
      refine k_putI (pc := 31) (u := u) (v := ((u.1 2) - (1 : Int32))) cx hw (ln_X2_this_2 d h cf) (C := RX2) (T := TX2) (N := 5) rfl in_X2 tyX2 tyX2_ok nmX2 (by decide) q193 (fun _ h9 => h9) rfl rfl rfl dX2_write_31 (fun H locs hw => ?_)
      exact wk_X2_write_34 cx xt _ _ _ _ _ _ hwp hw (lv_sub hl [0, 1, 2] rfl)
  · replace hwp := hwp.2 c1
    refine lv_aload_n (pc := 7) cx.1 cx.2.1 dX2_write_7 rfl (lv_at hl 0 rfl) ?_
    refine lv_iconst (pc := 8) (v := 1) cx.1 cx.2.1 dX2_write_8 (by decide) ?_
    refine k_putI (pc := 9) (u := u) (v := (1 : Int32)) cx hw (ln_X2_this_3 d h cf) (C := RX2) (T := TX2) (N := 5) rfl in_X2 tyX2 tyX2_ok nmX2 (by decide) q195 (fun _ h9 => h9) rfl rfl rfl dX2_write_9 (fun H locs hw => ?_)
    refine lv_aload_n (pc := 12) cx.1 cx.2.1 dX2_write_12 rfl (lv_at hl 0 rfl) ?_
    refine k_getR (pc := 13) (u := (st_I u 3 (1 : Int32))) (v := .ref (h 2)) cx hw (lr_X2_this_1 d h cf) (C := RX2) (T := TX2) (N := 5) rfl in_X2 (by decide) q192 (fun _ h9 => h9) rfl dX2_write_13 ?_
    refine k_athrowCut_X2 (pc := 16) cx hw dX2_write_16 (fun hx => ?_)
    exact k_leave (pc := 16) (wf := (wDk d h cf)) (u := (st_I u 3 (1 : Int32))) (k := 2) cx xt (by decide) hw hwp hx (by decide) (by decide)
/-- what head answers -/
def kQh (dC : Nat → ClassId) (dI : Nat → Nat → Nat) (wf : PS → va_W) (K : Option Nat → PS → Prop) (A : Nat → Prop) : Array Value → State → Outcome → State → Prop := va_Qq K (kB dC dI wf A) A
set_option maxHeartbeats 4000000 in
theorem m_X1_head (l : Launch) (hlt : l.stackTraces = false) (dC : Nat → ClassId) (dI : Nat → Nat → Nat) (d : Nat → ClassId) (z : Nat → Nat → Nat) (hh : Nat → Nat → Nat) (cf : List Value) (nh : Nat) (u : PS) (hn : nh < 2 ^ 31) (x1 : Int32) : kMW l yX1_head cX1_head 3 (some (.object "PointLedger$Head")) [(0, 6, 7, 110)] ({ frames := 10, cells := 3, slots := 300, locals := 10400 } : Room) dC dI d [.ref (z 0 0), .int x1] (wP d nh hh cf z) u (kQh dC dI (wP d nh hh cf z) (fun r v => v = u ∧ (vp_in x1 nh → r = some (hh x1.toNatClampNeg 0)) ∧ (¬ vp_in x1 nh → r = none))) 3 300 := by
  refine kMW_start rfl (Nat.le_of_ble_eq_true rfl) ?_
  intro p e s m below meth c A ls cx hnm xt hw hl
  generalize hargs : ([.ref (z 0 0), .int x1] : List Value).toArray = args at cx ⊢
  replace hl : lv_has ls 3 [(0, .ref (z 0 0)), (1, .int x1)] := hl
  generalize hH : s.heap = H at hw ⊢
  generalize hlo : ([] : List Loc) = locs at hw ⊢
  refine lv_aload_n (pc := 0) cx.1 cx.2.1 dX1_head_0 rfl (lv_at hl 0 rfl) ?_
  refine k_getR (pc := 1) (u := u) (v := .ref (z 0 3)) cx hw (lr_PL_pl_4 d z hh cf nh) (C := RX1) (T := TX1) (N := 21) rfl in_X1 (by decide) q481 (fun _ h9 => h9) rfl dX1_head_1 ?_
  refine lv_iload_n (pc := 4) cx.1 cx.2.1 dX1_head_4 rfl (lv_at hl 1 rfl) ?_
  by_cases hin : vp_in x1 nh
  · refine k_hald_PL (pc := 5) cx hw hin dX1_head_5 ?_
    refine W.widen (k := 3) (n := 300) (by decide) (by decide) ?_
    exact W.aret (v := .ref (hh x1.toNatClampNeg 0)) cx.1 cx.2.1 cx.2.2.2.2.2.2.2.2.1 (Or.inl ⟨_, rfl⟩) (Or.inr ⟨_, rfl⟩) (fun t ht _ => ⟨⟨some (hh x1.toNatClampNeg 0), u, rfl, ⟨rfl, fun _ => rfl, fun h => absurd hin h⟩, by rw [ht]; exact hw.1, hw.2.1⟩, hw.2.2.F ht⟩) hw.2.2.2.2 dX1_head_6 cx.2.2.2.2.2.2.2.1
  · refine k_aaOut (pc := 5) hlt cx hw hl.1 3 6 rfl rfl hin hn ⟨Nat.le_of_ble_eq_true rfl, Nat.le_of_ble_eq_true rfl, Nat.le_of_ble_eq_true rfl, Nat.le_of_ble_eq_true rfl⟩ dX1_head_5 (fun a H locs hw hx => ?_)
    refine k_catch0 (pc := 5) (tgt := 7) (q := (RJ5, TJ5, 6)) cx xt rfl (by decide) q556 hx rfl ?_
    refine lv_astore_n (pc := 7) (lv' := [(2, .ref a), (0, .ref (z 0 0)), (1, .int x1)]) cx.1 cx.2.1 dX1_head_7 rfl hl (by decide) rfl (fun ls hl => ?_)
    refine lv_null (pc := 8) cx.1 cx.2.1 dX1_head_8 ?_
    refine W.widen (k := 3) (n := 300) (by decide) (by decide) ?_
    exact W.aret (v := .null) cx.1 cx.2.1 cx.2.2.2.2.2.2.2.2.1 (Or.inl ⟨_, rfl⟩) (Or.inl rfl) (fun t ht _ => ⟨⟨none, u, rfl, ⟨rfl, fun h => absurd h hin, fun _ => rfl⟩, by rw [ht]; exact hw.1, hw.2.1⟩, hw.2.2.F ht⟩) hw.2.2.2.2 dX1_head_9 cx.2.2.2.2.2.2.2.1
theorem k_callq_PL {p : Program} {l : Launch} {e : Env} {R : Room} {s : State} {m : MethodId} {args : Array Value} {below : List Frame} {meth : Method} {c : Code} {H : Heap} {locs : List Loc} {cells slots : Nat} {Q : State → Prop} {cc : ByteArray} {own : String} {nL : Nat} {ret : Option FieldType} {A : Nat → Prop} {dC : Nat → ClassId} {dI : Nat → Nat → Nat} {d : Nat → ClassId} {pc : Nat} {ls : Array Slot} {rest : List Value} (cx : Cx p s m args meth c cc own nL ret A dC dI d) {wf : PS → va_W} {u : PS} {K : Option Nat → PS → Prop} (hw : Wd dC dI A (wf u) s H locs) {mc ms : Nat} {st0 : List Value} {a' : Array Value} (hr : va_Run p l e R s m args below meth c H locs cells slots mc ms (F0 m pc ls st0) rest (kQh dC dI wf K (va_A (wf u) H.size) a') (va_A (wf u) H.size))
    (kk : ∀ (r : Option Nat) (u : PS) (H : Heap) (locs : List Loc), K r u → Wd dC dI A (wf u) s H locs → W p l e R s m args below meth c H locs (cells + mc) (slots + ms) Q (F0 m (pc + 3) ls (va_rf r :: rest))) : W p l e R s m args below meth c H locs cells slots Q (F0 m pc ls st0) :=
  va_callq hr hw.2.2 (fun q _ h => k_free cx hw q h) (k_free cx hw) (fun r u' t H1 locs1 ht _ hK hB _ _ hS => kk r u' H1 locs1 hK ⟨by rw [← ht]; exact hB.1, hB.2.weaken (fun _ q _ h => k_free cx hw q.1 h), hS⟩)
theorem hdV_X1_head : yX1_head.cls = RX1 ∧ yX1_head.cls ≠ "java/lang/invoke/MethodHandle" ∧ yX1_head.cls ≠ "java/lang/invoke/VarHandle" ∧ (parseMethodDescriptor yX1_head.desc).map (fun d => d.parameters.length) = some 1 := by decide +kernel
set_option maxHeartbeats 4000000 in
theorem m_X1_isSeries (l : Launch) (hlt : l.stackTraces = false) (dC : Nat → ClassId) (dI : Nat → Nat → Nat) (d : Nat → ClassId) (z : Nat → Nat → Nat) (hh : Nat → Nat → Nat) (cf : List Value) (nh : Nat) (u : PS) (x1 : Int32) {K : Int32 → PS → Prop} (hwp : wp_X1_isSeries nh u x1 K) : kM l yX1_isSeries cX1_isSeries 2 (some .boolean) ({ frames := 11, cells := 3, slots := 300, locals := 10422 } : Room) dC dI d [.ref (z 0 0), .int x1] (wP d nh hh cf z) u (kQi dC dI (wP d nh hh cf z) K) 3 300 := by
  refine kM_start rfl (Nat.le_of_ble_eq_true rfl) ?_
  intro p e s m below meth c A ls cx hnm hw hl
  generalize hargs : ([.ref (z 0 0), .int x1] : List Value).toArray = args at cx ⊢
  replace hl : lv_has ls 2 [(0, .ref (z 0 0)), (1, .int x1)] := hl
  generalize hH : s.heap = H at hw ⊢
  generalize hlo : ([] : List Loc) = locs at hw ⊢
  obtain ⟨hn, hwp⟩ := hwp
  refine lv_aload_n (pc := 0) cx.1 cx.2.1 dX1_isSeries_0 rfl (lv_at hl 0 rfl) ?_
  refine lv_iload_n (pc := 1) cx.1 cx.2.1 dX1_isSeries_1 rfl (lv_at hl 1 rfl) ?_
  refine k_callq_PL (pc := 2) (wf := wP d nh hh cf z) (u := u) cx hw (k_runVW (pc := 2) (rest := []) (As := [.int x1]) cx hw.1 (hw.2.1.weaken (fun _ _ _ _ => trivial)) hw.2.2 (k_recv cx hw 0 (ci := 0) (q := (RX1, TX1, 21)) rfl rfl) (m_X1_head l hlt dC dI d z hh cf nh u hn x1 H.size) (k_cwVW 1 cx.2.2.2.2.1 (lw_VW q552 q554 qs4 q75 q555) rfl rfl rfl hdV_X1_head ⟨Nat.le_of_ble_eq_true rfl, Nat.le_of_ble_eq_true rfl⟩) rfl hl.1 rfl (Nat.le_of_ble_eq_true rfl) dX1_isSeries_2 ⟨Nat.le_of_ble_eq_true rfl, Nat.le_of_ble_eq_true rfl⟩) (fun r v H locs hr hw => ?_)
  obtain ⟨e1, hr1, hr2⟩ := hr
  rw [e1] at hw
  clear e1
  by_cases hin : vp_in x1 nh
  · rw [hr1 hin]
    refine lv_ifnull (pc := 5) cx.1 cx.2.1 dX1_isSeries_5 ?_
    refine lv_iconst (pc := 8) (v := 1) cx.1 cx.2.1 dX1_isSeries_8 (by decide) ?_
    refine lv_goto (pc := 9) (tgt := 13) cx.1 cx.2.1 dX1_isSeries_9 (by decide) ?_
    exact k_zret (pc := 13) (wf := wP d nh hh cf z) (u := u) cx hw rfl (hwp.1 hin) (by decide) (by decide) dX1_isSeries_13
  · rw [hr2 hin]
    refine lv_ifnullN (pc := 5) (tgt := 12) cx.1 cx.2.1 dX1_isSeries_5 (by decide) ?_
    refine lv_iconst (pc := 12) (v := 0) cx.1 cx.2.1 dX1_isSeries_12 (by decide) ?_
    exact k_zret (pc := 13) (wf := wP d nh hh cf z) (u := u) cx hw rfl (hwp.2 hin) (by decide) (by decide) dX1_isSeries_13
set_option maxHeartbeats 4000000 in
theorem m_X1_isRising (l : Launch) (dC : Nat → ClassId) (dI : Nat → Nat → Nat) (d : Nat → ClassId) (z : Nat → Nat → Nat) (hh : Nat → Nat → Nat) (cf : List Value) (nh : Nat) (u : PS) (x1 : Int32) (x2 : Int32) {K : Int32 → PS → Prop} (hwp : wp_X1_isRising nh u x1 x2 K) : kM l yX1_isRising cX1_isRising 5 (some .boolean) ({ frames := 0, cells := 0, slots := 0, locals := 0 } : Room) dC dI d [.ref (z 0 0), .int x1, .int x2] (wP d nh hh cf z) u (kQi dC dI (wP d nh hh cf z) K) 0 0 := by
  refine kM_start rfl (Nat.le_of_ble_eq_true rfl) ?_
  intro p e s m below meth c A ls cx hnm hw hl
  generalize hargs : ([.ref (z 0 0), .int x1, .int x2] : List Value).toArray = args at cx ⊢
  unfold wp_X1_isRising at hwp
  replace hl : lv_has ls 5 [(0, .ref (z 0 0)), (1, .int x1), (2, .int x2)] := hl
  generalize hH : s.heap = H at hw ⊢
  generalize hlo : ([] : List Loc) = locs at hw ⊢
  refine lv_aload_n (pc := 0) cx.1 cx.2.1 dX1_isRising_0 rfl (lv_at hl 0 rfl) ?_
  refine k_getR (pc := 1) (u := u) (v := .ref (z 0 3)) cx hw (lr_PL_pl_4 d z hh cf nh) (C := RX1) (T := TX1) (N := 21) rfl in_X1 (by decide) q481 (fun _ h9 => h9) rfl dX1_isRising_1 ?_
  refine lv_iload_n (pc := 4) cx.1 cx.2.1 dX1_isRising_4 rfl (lv_at hl 1 rfl) ?_
  have hs1 := vp_lt hwp.1
  refine k_hald_PL (pc := 5) cx hw hwp.1 dX1_isRising_5 ?_
  replace hwp := hwp.2
  refine lv_astore_n (pc := 6) (lv' := [(3, .ref (hh x1.toNatClampNeg 0)), (0, .ref (z 0 0)), (1, .int x1), (2, .int x2)]) cx.1 cx.2.1 dX1_isRising_6 rfl hl (by decide) rfl (fun ls hl => ?_)
  refine lv_aload_n (pc := 7) cx.1 cx.2.1 dX1_isRising_7 rfl (lv_at hl 0 rfl) ?_
  refine k_getIN (pc := 8) (u := u) (v := ((u.2 x1.toNatClampNeg).1 2)) cx hw (lhn_PL_2 d z hh cf nh hs1) (C := RX11) (T := TX11) (N := 3) rfl in_X11 (by decide) (nq450 cx.2.2.2.2.2.1) (fun _ h9 => h9) rfl dX1_isRising_8 ?_
  refine lv_if_le (pc := 11) (tgt := 35) cx.1 cx.2.1 dX1_isRising_11 (by decide) (fun c2 => ?_) (fun c2 => ?_)
  · replace hwp := hwp.1 c2
    refine lv_aload_n (pc := 35) cx.1 cx.2.1 dX1_isRising_35 rfl (lv_at hl 1 rfl) ?_
    refine k_getR (pc := 36) (u := u) (v := .ref (z 4 0)) cx hw (lr_PL_pl_7 d z hh cf nh) (C := RX1) (T := TX1) (N := 21) rfl in_X1 (by decide) q485 (fun _ h9 => h9) rfl dX1_isRising_36 ?_
    refine k_getRN (pc := 39) (u := u) (v := .ref (z 4 5)) cx hw (lr_PL_now_6 d z hh cf nh) (C := RX7) (T := TX7) (N := 7) rfl in_X7 (by decide) (nq343 cx.2.2.2.2.2.1) (fun _ h9 => h9) rfl dX1_isRising_39 ?_
    refine lv_iload_n (pc := 42) cx.1 cx.2.1 dX1_isRising_42 rfl (lv_at hl 2 rfl) ?_
    refine lv_iconst (pc := 43) (v := 1) cx.1 cx.2.1 dX1_isRising_43 (by decide) ?_
    refine lv_iadd (pc := 44) cx.1 cx.2.1 dX1_isRising_44 ?_
    refine k_iald (pc := 45) (u := u) (f := ((u.1 4).2.1 6)) cx hw (lx_PL_now_6 d z hh cf nh) 0 rfl rfl hwp.1 dX1_isRising_45 ?_
    replace hwp := hwp.2
    refine lv_istore (pc := 46) (lv' := [(4, .int (((u.1 4).2.1 6) (x1 + (1 : Int32)).toNatClampNeg)), (3, .ref (hh x1.toNatClampNeg 0)), (0, .ref (z 0 0)), (1, .int x1), (2, .int x2)]) cx.1 cx.2.1 dX1_isRising_46 hl (by decide) rfl (fun ls hl => ?_)
    refine lv_iload (pc := 48) cx.1 cx.2.1 dX1_isRising_48 (lv_at hl 0 rfl) ?_
    refine lv_aload_n (pc := 50) cx.1 cx.2.1 dX1_isRising_50 rfl (lv_at hl 2 rfl) ?_
    refine k_getR (pc := 51) (u := u) (v := .ref (z 4 0)) cx hw (lr_PL_pl_7 d z hh cf nh) (C := RX1) (T := TX1) (N := 21) rfl in_X1 (by decide) q485 (fun _ h9 => h9) rfl dX1_isRising_51 ?_
    refine k_getRN (pc := 54) (u := u) (v := .ref (z 4 5)) cx hw (lr_PL_now_6 d z hh cf nh) (C := RX7) (T := TX7) (N := 7) rfl in_X7 (by decide) (nq343 cx.2.2.2.2.2.1) (fun _ h9 => h9) rfl dX1_isRising_54 ?_
    refine lv_iload_n (pc := 57) cx.1 cx.2.1 dX1_isRising_57 rfl (lv_at hl 3 rfl) ?_
    refine k_iald (pc := 58) (u := u) (f := ((u.1 4).2.1 6)) cx hw (lx_PL_now_6 d z hh cf nh) 0 rfl rfl hwp.1 dX1_isRising_58 ?_
    replace hwp := hwp.2
    refine lv_icmp_eq (pc := 59) (tgt := 81) cx.1 cx.2.1 dX1_isRising_59 (by decide) (fun c3 => ?_) (fun c3 => ?_)
    · replace hwp := hwp.1 c3
      refine lv_iconst (pc := 81) (v := 1) cx.1 cx.2.1 dX1_isRising_81 (by decide) ?_
      refine lv_goto (pc := 82) (tgt := 86) cx.1 cx.2.1 dX1_isRising_82 (by decide) ?_
      exact k_zret (pc := 86) (wf := (wP d nh hh cf z)) (u := u) cx hw rfl hwp (by decide) (by decide) dX1_isRising_86
    · replace hwp := hwp.2 c3
      refine lv_iload_n (pc := 62) cx.1 cx.2.1 dX1_isRising_62 rfl (lv_at hl 4 rfl) ?_
      refine lv_aload_n (pc := 63) cx.1 cx.2.1 dX1_isRising_63 rfl (lv_at hl 2 rfl) ?_
      refine k_getR (pc := 64) (u := u) (v := .ref (z 4 0)) cx hw (lr_PL_pl_7 d z hh cf nh) (C := RX1) (T := TX1) (N := 21) rfl in_X1 (by decide) q485 (fun _ h9 => h9) rfl dX1_isRising_64 ?_
      refine k_getRN (pc := 67) (u := u) (v := .ref (z 5 0)) cx hw (lr_PL_now_0 d z hh cf nh) (C := RX7) (T := TX7) (N := 7) rfl in_X7 (by decide) (nq329 cx.2.2.2.2.2.1) (fun _ h9 => h9) rfl dX1_isRising_67 ?_
      refine k_getRN (pc := 70) (u := u) (v := .ref (z 5 2)) cx hw (lr_PL_nowsp_1 d z hh cf nh) (C := RX8) (T := TX8) (N := 6) rfl in_X8 (by decide) (nq298 cx.2.2.2.2.2.1) (fun _ h9 => h9) rfl dX1_isRising_70 ?_
      refine lv_iload (pc := 73) cx.1 cx.2.1 dX1_isRising_73 (lv_at hl 0 rfl) ?_
      refine lv_iconst (pc := 75) (v := 1) cx.1 cx.2.1 dX1_isRising_75 (by decide) ?_
      refine lv_isub (pc := 76) cx.1 cx.2.1 dX1_isRising_76 ?_
      refine k_iald (pc := 77) (u := u) (f := ((u.1 5).2.1 1)) cx hw (lx_PL_nowsp_1 d z hh cf nh) 0 rfl rfl hwp.1 dX1_isRising_77 ?_
      replace hwp := hwp.2
      refine lv_icmp_le (pc := 78) (tgt := 85) cx.1 cx.2.1 dX1_isRising_78 (by decide) (fun c4 => ?_) (fun c4 => ?_)
      · replace hwp := hwp.1 c4
        refine lv_iconst (pc := 85) (v := 0) cx.1 cx.2.1 dX1_isRising_85 (by decide) ?_
        exact k_zret (pc := 86) (wf := (wP d nh hh cf z)) (u := u) cx hw rfl hwp (by decide) (by decide) dX1_isRising_86
      · replace hwp := hwp.2 c4
        refine lv_iconst (pc := 81) (v := 1) cx.1 cx.2.1 dX1_isRising_81 (by decide) ?_
        refine lv_goto (pc := 82) (tgt := 86) cx.1 cx.2.1 dX1_isRising_82 (by decide) ?_
        exact k_zret (pc := 86) (wf := (wP d nh hh cf z)) (u := u) cx hw rfl hwp (by decide) (by decide) dX1_isRising_86
  · replace hwp := hwp.2 c2
    refine lv_iload_n (pc := 14) cx.1 cx.2.1 dX1_isRising_14 rfl (lv_at hl 3 rfl) ?_
    refine lv_aload_n (pc := 15) cx.1 cx.2.1 dX1_isRising_15 rfl (lv_at hl 0 rfl) ?_
    refine k_getRN (pc := 16) (u := u) (v := .ref (hh x1.toNatClampNeg 1)) cx hw (lhr_PL_0 d z hh cf nh hs1) (C := RX11) (T := TX11) (N := 3) rfl in_X11 (by decide) (nq444 cx.2.2.2.2.2.1) (fun _ h9 => h9) rfl dX1_isRising_16 ?_
    refine lv_aload_n (pc := 19) cx.1 cx.2.1 dX1_isRising_19 rfl (lv_at hl 0 rfl) ?_
    refine k_getIN (pc := 20) (u := u) (v := ((u.2 x1.toNatClampNeg).1 2)) cx hw (lhn_PL_2 d z hh cf nh hs1) (C := RX11) (T := TX11) (N := 3) rfl in_X11 (by decide) (nq450 cx.2.2.2.2.2.1) (fun _ h9 => h9) rfl dX1_isRising_20 ?_
    refine lv_iconst (pc := 23) (v := 1) cx.1 cx.2.1 dX1_isRising_23 (by decide) ?_
    refine lv_isub (pc := 24) cx.1 cx.2.1 dX1_isRising_24 ?_
    refine k_iald (pc := 25) (u := u) (f := ((u.2 x1.toNatClampNeg).2.1 0)) cx hw (lhx_PL_0 d z hh cf nh hs1) 0 rfl rfl hwp.1 dX1_isRising_25 ?_
    replace hwp := hwp.2
    have hJ6 : ∀ z5 : Int32, z5 = (if x2 ≤ (((u.2 x1.toNatClampNeg).2.1 0) (((u.2 x1.toNatClampNeg).1 2) - (1 : Int32)).toNatClampNeg) then (0 : Int32) else (1 : Int32)) → W p l e ({ frames := 0, cells := 0, slots := 0, locals := 0 } : Room) s m args below meth c H locs 0 0 (MQ below (kQi dC dI (wP d nh hh cf z) K A) args s 0 0 A) (F0 m 34 ls [.int z5]) := by
      intro z5 ez5
      replace hwp := hwp z5 ez5
      exact k_zret (pc := 34) (wf := (wP d nh hh cf z)) (u := u) cx hw (ok_Zn hwp.1) hwp.2 (by decide) (by decide) dX1_isRising_34
    clear hwp
    refine lv_icmp_le (pc := 26) (tgt := 33) cx.1 cx.2.1 dX1_isRising_26 (by decide) (fun c7 => ?_) (fun c7 => ?_)
    · skip
      refine lv_iconst (pc := 33) (v := 0) cx.1 cx.2.1 dX1_isRising_33 (by decide) ?_
      exact hJ6 _ (if_pos c7).symm
    · skip
      refine lv_iconst (pc := 29) (v := 1) cx.1 cx.2.1 dX1_isRising_29 (by decide) ?_
      refine lv_goto (pc := 30) (tgt := 34) cx.1 cx.2.1 dX1_isRising_30 (by decide) ?_
      exact hJ6 _ (if_neg c7).symm
set_option maxHeartbeats 4000000 in
theorem m_X1_append (l : Launch) (hlt : l.stackTraces = false) (dC : Nat → ClassId) (dI : Nat → Nat → Nat) (d : Nat → ClassId) (z : Nat → Nat → Nat) (hh : Nat → Nat → Nat) (cf : List Value) (nh : Nat) (u : PS) (x1 : Int32) (x2 : Int32) (x3 : Int32) {K : Int32 → PS → Prop} (hwp : wp_X1_append nh u x1 x2 x3 K) : kMW l yX1_append cX1_append 6 (some .int) [(65, 116, 119, 163)] ({ frames := 12, cells := 3, slots := 300, locals := 10443 } : Room) dC dI d [.ref (z 0 0), .int x1, .int x2, .int x3] (wP d nh hh cf z) u (kQi dC dI (wP d nh hh cf z) K) 3 300 := by
  refine kMW_start rfl (Nat.le_of_ble_eq_true rfl) ?_
  intro p e s m below meth c A ls cx hnm xt hw hl
  generalize hargs : ([.ref (z 0 0), .int x1, .int x2, .int x3] : List Value).toArray = args at cx ⊢
  unfold wp_X1_append at hwp
  replace hl : lv_has ls 6 [(0, .ref (z 0 0)), (1, .int x1), (2, .int x2), (3, .int x3)] := hl
  generalize hH : s.heap = H at hw ⊢
  generalize hlo : ([] : List Loc) = locs at hw ⊢
  refine lv_aload_n (pc := 0) cx.1 cx.2.1 dX1_append_0 rfl (lv_at hl 0 rfl) ?_
  refine lv_null (pc := 1) cx.1 cx.2.1 dX1_append_1 ?_
  refine k_putCuN_PL (pc := 2) (u := u) cx hw q496 dX1_append_2 (fun H locs hw => ?_)
  refine lv_aload_n (pc := 5) cx.1 cx.2.1 dX1_append_5 rfl (lv_at hl 0 rfl) ?_
  refine k_getR (pc := 6) (u := (ps_I u 0 17 (0 : Int32))) (v := .ref (z 1 0)) cx hw (lr_PL_pl_3 d z hh cf nh) (C := RX1) (T := TX1) (N := 21) rfl in_X1 (by decide) q479 (fun _ h9 => h9) rfl dX1_append_6 ?_
  refine k_getIN (pc := 9) (u := (ps_I u 0 17 (0 : Int32))) (v := ((u.1 1).1 3)) cx hw (ln_PL_disk_3 d z hh cf nh) (C := RX2) (T := TX2) (N := 5) rfl in_X2 (by decide) (nq196 cx.2.2.2.2.2.1) (fun _ h9 => h9) rfl dX1_append_9 ?_
  refine lv_if_eq (pc := 12) (tgt := 18) cx.1 cx.2.1 dX1_append_12 (by decide) (fun c1 => ?_) (fun c1 => ?_)
  · replace hwp := hwp.1 c1
    refine lv_aload_n (pc := 18) cx.1 cx.2.1 dX1_append_18 rfl (lv_at hl 0 rfl) ?_
    refine lv_iload_n (pc := 19) cx.1 cx.2.1 dX1_append_19 rfl (lv_at hl 1 rfl) ?_
    refine k_whole_i (pc := 20) (wf := (wP d nh hh cf z)) (u := (ps_I u 0 17 (0 : Int32))) cx hw (k_runV (pc := 20) (rest := []) (As := [.int x1]) cx hw.1 (hw.2.1.weaken (fun _ _ _ _ => trivial)) hw.2.2 (k_recv cx hw 0 (ci := 0) (q := (RX1, TX1, 21)) rfl rfl) (m_X1_isSeries l hlt dC dI d z hh cf nh (ps_I u 0 17 (0 : Int32)) x1 hwp H.size) (cwV 1 cx.2.2.2.2.1 (lw_V q548 q550 qs3 q75 q551) rfl rfl rfl hdV_X1_isSeries ⟨Nat.le_of_ble_eq_true rfl, Nat.le_of_ble_eq_true rfl⟩) rfl hl.1 rfl (Nat.le_of_ble_eq_true rfl) dX1_append_20 ⟨Nat.le_of_ble_eq_true rfl, Nat.le_of_ble_eq_true rfl⟩) (fun r3 u2 H locs hwp hw => ?_)
    refine lv_if_ne (pc := 23) (tgt := 29) cx.1 cx.2.1 dX1_append_23 (by decide) (fun c4 => ?_) (fun c4 => ?_)
    · replace hwp := hwp.1 c4
      refine lv_aload_n (pc := 29) cx.1 cx.2.1 dX1_append_29 rfl (lv_at hl 0 rfl) ?_
      refine lv_iload_n (pc := 30) cx.1 cx.2.1 dX1_append_30 rfl (lv_at hl 1 rfl) ?_
      refine lv_iload_n (pc := 31) cx.1 cx.2.1 dX1_append_31 rfl (lv_at hl 2 rfl) ?_
      refine k_whole_i (pc := 32) (wf := (wP d nh hh cf z)) (u := u2) cx hw (k_runV (pc := 32) (rest := []) (As := [.int x1, .int x2]) cx hw.1 (hw.2.1.weaken (fun _ _ _ _ => trivial)) hw.2.2 (k_recv cx hw 0 (ci := 0) (q := (RX1, TX1, 21)) rfl rfl) (m_X1_isRising l dC dI d z hh cf nh u2 x1 x2 hwp H.size) (cwV 2 cx.2.2.2.2.1 (lw_V q590 q592 qs5 q75 q593) rfl rfl rfl hdV_X1_isRising ⟨Nat.le_of_ble_eq_true rfl, Nat.le_of_ble_eq_true rfl⟩) rfl hl.1 rfl (Nat.le_of_ble_eq_true rfl) dX1_append_32 ⟨Nat.le_of_ble_eq_true rfl, Nat.le_of_ble_eq_true rfl⟩) (fun r6 u5 H locs hwp hw => ?_)
      refine lv_if_ne (pc := 35) (tgt := 40) cx.1 cx.2.1 dX1_append_35 (by decide) (fun c7 => ?_) (fun c7 => ?_)
      · replace hwp := hwp.1 c7
        refine lv_aload_n (pc := 40) cx.1 cx.2.1 dX1_append_40 rfl (lv_at hl 0 rfl) ?_
        refine k_getI (pc := 41) (u := u5) (v := ((u5.1 0).1 14)) cx hw (ln_PL_pl_14 d z hh cf nh) (C := RX1) (T := TX1) (N := 21) rfl in_X1 (by decide) q493 (fun _ h9 => h9) rfl dX1_append_41 ?_
        refine lv_sipush (pc := 44) (v := 128) cx.1 cx.2.1 dX1_append_44 (by decide) ?_
        refine lv_icmp_ne (pc := 47) (tgt := 53) cx.1 cx.2.1 dX1_append_47 (by decide) (fun c8 => ?_) (fun c8 => ?_)
        · replace hwp := hwp.1 c8
          refine lv_sipush (pc := 53) (v := 1923) cx.1 cx.2.1 dX1_append_53 (by decide) ?_
          refine lv_iconst (pc := 56) (v := 4) cx.1 cx.2.1 dX1_append_56 (by decide) ?_
          refine lv_aload_n (pc := 57) cx.1 cx.2.1 dX1_append_57 rfl (lv_at hl 0 rfl) ?_
          refine k_getI (pc := 58) (u := u5) (v := ((u5.1 0).1 14)) cx hw (ln_PL_pl_14 d z hh cf nh) (C := RX1) (T := TX1) (N := 21) rfl in_X1 (by decide) q493 (fun _ h9 => h9) rfl dX1_append_58 ?_
          refine lv_imul (pc := 61) cx.1 cx.2.1 dX1_append_61 ?_
          refine lv_iadd (pc := 62) cx.1 cx.2.1 dX1_append_62 ?_
          refine lv_istore (pc := 63) (lv' := [(4, .int ((1923 : Int32) + ((4 : Int32) * ((u5.1 0).1 14)))), (0, .ref (z 0 0)), (1, .int x1), (2, .int x2), (3, .int x3)]) cx.1 cx.2.1 dX1_append_63 hl (by decide) rfl (fun ls hl => ?_)
          refine lv_aload_n (pc := 65) cx.1 cx.2.1 dX1_append_65 rfl (lv_at hl 1 rfl) ?_
          refine k_getR (pc := 66) (u := u5) (v := .ref (z 1 0)) cx hw (lr_PL_pl_3 d z hh cf nh) (C := RX1) (T := TX1) (N := 21) rfl in_X1 (by decide) q479 (fun _ h9 => h9) rfl dX1_append_66 ?_
          refine lv_iload (pc := 69) cx.1 cx.2.1 dX1_append_69 (lv_at hl 0 rfl) ?_
          refine lv_iload_n (pc := 71) cx.1 cx.2.1 dX1_append_71 rfl (lv_at hl 2 rfl) ?_
          have hpt := k_part (w := (wDk d (z 1) cf) (u5.1 1)) (is := [4, 5, 6]) hw (pc_PL_X2_disk d z hh cf nh u5) (by decide)
          refine k_part_Tv (pc := 72) (wf := (wDk d (z 1) cf)) (u := (u5.1 1)) cx hw [4, 5, 6] (pc_PL_X2_disk d z hh cf nh u5) (by decide) (fun _ => rfl) (pw_PL_X2_disk d z hh cf nh u5) (k_runVT (pc := 72) (rest := []) (As := [.int ((1923 : Int32) + ((4 : Int32) * ((u5.1 0).1 14))), .int x1]) cx hpt.1 hpt.2 hw.2.2 (k_recv cx hw 4 (ci := 1) (q := (RX2, TX2, 5)) rfl rfl) (m_X2_write l dC dI d (z 1) cf  (u5.1 1) ((1923 : Int32) + ((4 : Int32) * ((u5.1 0).1 14))) x1 hwp H.size) (cwV 2 cx.2.2.2.2.1 (lw_V q594 q595 q596 q76 q597) rfl rfl rfl hdV_X2_write ⟨Nat.le_of_ble_eq_true rfl, Nat.le_of_ble_eq_true rfl⟩) rfl hl.1 rfl (Nat.le_of_ble_eq_true rfl) dX1_append_72 ⟨Nat.le_of_ble_eq_true rfl, Nat.le_of_ble_eq_true rfl⟩) (fun v9 H locs hwp hw => ?_) (fun k11 v12 a13 H locs hwp hw hx => ?_)
          · skip
            refine lv_aload_n (pc := 75) cx.1 cx.2.1 dX1_append_75 rfl (lv_at hl 1 rfl) ?_
            refine k_getR (pc := 76) (u := (ps_O u5 1 v9)) (v := .ref (z 1 0)) cx hw (lr_PL_pl_3 d z hh cf nh) (C := RX1) (T := TX1) (N := 21) rfl in_X1 (by decide) q479 (fun _ h9 => h9) rfl dX1_append_76 ?_
            refine lv_iload (pc := 79) cx.1 cx.2.1 dX1_append_79 (lv_at hl 0 rfl) ?_
            refine lv_iconst (pc := 81) (v := 1) cx.1 cx.2.1 dX1_append_81 (by decide) ?_
            refine lv_iadd (pc := 82) cx.1 cx.2.1 dX1_append_82 ?_
            refine lv_iload_n (pc := 83) cx.1 cx.2.1 dX1_append_83 rfl (lv_at hl 3 rfl) ?_
            have hpt := k_part (w := (wDk d (z 1) cf) v9) (is := [4, 5, 6]) hw (pc_PL_X2_disk d z hh cf nh (ps_O u5 1 v9)) (by decide)
            refine k_part_Tv (pc := 84) (wf := (wDk d (z 1) cf)) (u := v9) cx hw [4, 5, 6] (pc_PL_X2_disk d z hh cf nh (ps_O u5 1 v9)) (by decide) (fun _ => rfl) (pw_PL_X2_disk d z hh cf nh (ps_O u5 1 v9)) (k_runVT (pc := 84) (rest := []) (As := [.int (((1923 : Int32) + ((4 : Int32) * ((u5.1 0).1 14))) + (1 : Int32)), .int x2]) cx hpt.1 hpt.2 hw.2.2 (k_recv cx hw 4 (ci := 1) (q := (RX2, TX2, 5)) rfl rfl) (m_X2_write l dC dI d (z 1) cf  v9 (((1923 : Int32) + ((4 : Int32) * ((u5.1 0).1 14))) + (1 : Int32)) x2 hwp H.size) (cwV 2 cx.2.2.2.2.1 (lw_V q594 q595 q596 q76 q597) rfl rfl rfl hdV_X2_write ⟨Nat.le_of_ble_eq_true rfl, Nat.le_of_ble_eq_true rfl⟩) rfl hl.1 rfl (Nat.le_of_ble_eq_true rfl) dX1_append_84 ⟨Nat.le_of_ble_eq_true rfl, Nat.le_of_ble_eq_true rfl⟩) (fun v14 H locs hwp hw => ?_) (fun k16 v17 a18 H locs hwp hw hx => ?_)
            · skip
              refine lv_aload_n (pc := 87) cx.1 cx.2.1 dX1_append_87 rfl (lv_at hl 1 rfl) ?_
              refine k_getR (pc := 88) (u := (ps_O (ps_O u5 1 v9) 1 v14)) (v := .ref (z 1 0)) cx hw (lr_PL_pl_3 d z hh cf nh) (C := RX1) (T := TX1) (N := 21) rfl in_X1 (by decide) q479 (fun _ h9 => h9) rfl dX1_append_88 ?_
              refine lv_iload (pc := 91) cx.1 cx.2.1 dX1_append_91 (lv_at hl 0 rfl) ?_
              refine lv_iconst (pc := 93) (v := 2) cx.1 cx.2.1 dX1_append_93 (by decide) ?_
              refine lv_iadd (pc := 94) cx.1 cx.2.1 dX1_append_94 ?_
              refine lv_iload_n (pc := 95) cx.1 cx.2.1 dX1_append_95 rfl (lv_at hl 4 rfl) ?_
              have hpt := k_part (w := (wDk d (z 1) cf) v14) (is := [4, 5, 6]) hw (pc_PL_X2_disk d z hh cf nh (ps_O (ps_O u5 1 v9) 1 v14)) (by decide)
              refine k_part_Tv (pc := 96) (wf := (wDk d (z 1) cf)) (u := v14) cx hw [4, 5, 6] (pc_PL_X2_disk d z hh cf nh (ps_O (ps_O u5 1 v9) 1 v14)) (by decide) (fun _ => rfl) (pw_PL_X2_disk d z hh cf nh (ps_O (ps_O u5 1 v9) 1 v14)) (k_runVT (pc := 96) (rest := []) (As := [.int (((1923 : Int32) + ((4 : Int32) * ((u5.1 0).1 14))) + (2 : Int32)), .int x3]) cx hpt.1 hpt.2 hw.2.2 (k_recv cx hw 4 (ci := 1) (q := (RX2, TX2, 5)) rfl rfl) (m_X2_write l dC dI d (z 1) cf  v14 (((1923 : Int32) + ((4 : Int32) * ((u5.1 0).1 14))) + (2 : Int32)) x3 hwp H.size) (cwV 2 cx.2.2.2.2.1 (lw_V q594 q595 q596 q76 q597) rfl rfl rfl hdV_X2_write ⟨Nat.le_of_ble_eq_true rfl, Nat.le_of_ble_eq_true rfl⟩) rfl hl.1 rfl (Nat.le_of_ble_eq_true rfl) dX1_append_96 ⟨Nat.le_of_ble_eq_true rfl, Nat.le_of_ble_eq_true rfl⟩) (fun v19 H locs hwp hw => ?_) (fun k21 v22 a23 H locs hwp hw hx => ?_)
              · skip
                refine lv_aload_n (pc := 99) cx.1 cx.2.1 dX1_append_99 rfl (lv_at hl 1 rfl) ?_
                refine k_getR (pc := 100) (u := (ps_O (ps_O (ps_O u5 1 v9) 1 v14) 1 v19)) (v := .ref (z 1 0)) cx hw (lr_PL_pl_3 d z hh cf nh) (C := RX1) (T := TX1) (N := 21) rfl in_X1 (by decide) q479 (fun _ h9 => h9) rfl dX1_append_100 ?_
                refine lv_iload (pc := 103) cx.1 cx.2.1 dX1_append_103 (lv_at hl 0 rfl) ?_
                refine lv_iconst (pc := 105) (v := 3) cx.1 cx.2.1 dX1_append_105 (by decide) ?_
                refine lv_iadd (pc := 106) cx.1 cx.2.1 dX1_append_106 ?_
                refine lv_aload_n (pc := 107) cx.1 cx.2.1 dX1_append_107 rfl (lv_at hl 1 rfl) ?_
                refine k_getI (pc := 108) (u := (ps_O (ps_O (ps_O u5 1 v9) 1 v14) 1 v19)) (v := ((u5.1 0).1 12)) cx hw (ln_PL_pl_12 d z hh cf nh) (C := RX1) (T := TX1) (N := 21) rfl in_X1 (by decide) q491 (fun _ h9 => h9) rfl dX1_append_108 ?_
                refine lv_iconst (pc := 111) (v := 1) cx.1 cx.2.1 dX1_append_111 (by decide) ?_
                refine lv_iadd (pc := 112) cx.1 cx.2.1 dX1_append_112 ?_
                have hpt := k_part (w := (wDk d (z 1) cf) v19) (is := [4, 5, 6]) hw (pc_PL_X2_disk d z hh cf nh (ps_O (ps_O (ps_O u5 1 v9) 1 v14) 1 v19)) (by decide)
                refine k_part_Tv (pc := 113) (wf := (wDk d (z 1) cf)) (u := v19) cx hw [4, 5, 6] (pc_PL_X2_disk d z hh cf nh (ps_O (ps_O (ps_O u5 1 v9) 1 v14) 1 v19)) (by decide) (fun _ => rfl) (pw_PL_X2_disk d z hh cf nh (ps_O (ps_O (ps_O u5 1 v9) 1 v14) 1 v19)) (k_runVT (pc := 113) (rest := []) (As := [.int (((1923 : Int32) + ((4 : Int32) * ((u5.1 0).1 14))) + (3 : Int32)), .int (((u5.1 0).1 12) + (1 : Int32))]) cx hpt.1 hpt.2 hw.2.2 (k_recv cx hw 4 (ci := 1) (q := (RX2, TX2, 5)) rfl rfl) (m_X2_write l dC dI d (z 1) cf  v19 (((1923 : Int32) + ((4 : Int32) * ((u5.1 0).1 14))) + (3 : Int32)) (((u5.1 0).1 12) + (1 : Int32)) hwp H.size) (cwV 2 cx.2.2.2.2.1 (lw_V q594 q595 q596 q76 q597) rfl rfl rfl hdV_X2_write ⟨Nat.le_of_ble_eq_true rfl, Nat.le_of_ble_eq_true rfl⟩) rfl hl.1 rfl (Nat.le_of_ble_eq_true rfl) dX1_append_113 ⟨Nat.le_of_ble_eq_true rfl, Nat.le_of_ble_eq_true rfl⟩) (fun v24 H locs hwp hw => ?_) (fun k26 v27 a28 H locs hwp hw hx => ?_)
                · skip
                  refine lv_goto (pc := 116) (tgt := 124) cx.1 cx.2.1 dX1_append_116 (by decide) ?_
                  refine lv_aload_n (pc := 124) cx.1 cx.2.1 dX1_append_124 rfl (lv_at hl 1 rfl) ?_
                  refine lv_dup (pc := 125) cx.1 cx.2.1 dX1_append_125 rfl ?_
                  refine k_getI (pc := 126) (u := (ps_O (ps_O (ps_O (ps_O u5 1 v9) 1 v14) 1 v19) 1 v24)) (v := ((u5.1 0).1 14)) cx hw (ln_PL_pl_14 d z hh cf nh) (C := RX1) (T := TX1) (N := 21) rfl in_X1 (by decide) q493 (fun _ h9 => h9) rfl dX1_append_126 ?_
                  refine lv_iconst (pc := 129) (v := 1) cx.1 cx.2.1 dX1_append_129 (by decide) ?_
                  refine lv_iadd (pc := 130) cx.1 cx.2.1 dX1_append_130 ?_
                  refine k_putI (pc := 131) (u := (ps_O (ps_O (ps_O (ps_O u5 1 v9) 1 v14) 1 v19) 1 v24)) (v := (((u5.1 0).1 14) + (1 : Int32))) cx hw (ln_PL_pl_14 d z hh cf nh) (C := RX1) (T := TX1) (N := 21) rfl in_X1 tyX1 tyX1_ok nmX1 (by decide) q493 (fun _ h9 => h9) rfl rfl rfl dX1_append_131 (fun H locs hw => ?_)
                  refine lv_aload_n (pc := 134) cx.1 cx.2.1 dX1_append_134 rfl (lv_at hl 1 rfl) ?_
                  refine k_getR (pc := 135) (u := (ps_I (ps_O (ps_O (ps_O (ps_O u5 1 v9) 1 v14) 1 v19) 1 v24) 0 14 (((u5.1 0).1 14) + (1 : Int32)))) (v := .ref (z 0 3)) cx hw (lr_PL_pl_4 d z hh cf nh) (C := RX1) (T := TX1) (N := 21) rfl in_X1 (by decide) q481 (fun _ h9 => h9) rfl dX1_append_135 ?_
                  refine lv_iload_n (pc := 138) cx.1 cx.2.1 dX1_append_138 rfl (lv_at hl 2 rfl) ?_
                  have hs29 := vp_lt hwp.1
                  refine k_hald_PL (pc := 139) cx hw hwp.1 dX1_append_139 ?_
                  replace hwp := hwp.2
                  refine lv_iload_n (pc := 140) cx.1 cx.2.1 dX1_append_140 rfl (lv_at hl 3 rfl) ?_
                  refine lv_iload_n (pc := 141) cx.1 cx.2.1 dX1_append_141 rfl (lv_at hl 4 rfl) ?_
                  have hpt := k_part (w := (wHd d (hh x1.toNatClampNeg)) (u5.2 x1.toNatClampNeg)) (is := [46 + 3 * x1.toNatClampNeg, 46 + 3 * x1.toNatClampNeg + 1, 46 + 3 * x1.toNatClampNeg + 2]) hw (wP_hpart_PL d z hh cf nh hs29 (ps_I (ps_O (ps_O (ps_O (ps_O u5 1 v9) 1 v14) 1 v19) 1 v24) 0 14 (((u5.1 0).1 14) + (1 : Int32)))) wP_hnd
                  refine k_part_v (pc := 142) (wf := (wHd d (hh x1.toNatClampNeg))) (u := (u5.2 x1.toNatClampNeg)) cx hw [46 + 3 * x1.toNatClampNeg, 46 + 3 * x1.toNatClampNeg + 1, 46 + 3 * x1.toNatClampNeg + 2] (wP_hpart_PL d z hh cf nh hs29 (ps_I (ps_O (ps_O (ps_O (ps_O u5 1 v9) 1 v14) 1 v19) 1 v24) 0 14 (((u5.1 0).1 14) + (1 : Int32)))) wP_hnd (fun _ => rfl) (wP_hput_PL d z hh cf nh hs29 (ps_I (ps_O (ps_O (ps_O (ps_O u5 1 v9) 1 v14) 1 v19) 1 v24) 0 14 (((u5.1 0).1 14) + (1 : Int32)))) (k_runV (pc := 142) (rest := []) (As := [.int x2, .int x3]) cx hpt.1 hpt.2 hw.2.2 (k_recv cx hw (46 + 3 * x1.toNatClampNeg) (ci := 9) (q := (RX11, TX11, 3)) (wP_h0 hs29) rfl) (m_X11_add l dC dI d (hh x1.toNatClampNeg)  (u5.2 x1.toNatClampNeg) x2 x3 hwp H.size) (cwV 2 cx.2.2.2.2.1 (lw_V q598 q599 q600 q88 q601) rfl rfl rfl hdV_X11_add ⟨Nat.le_of_ble_eq_true rfl, Nat.le_of_ble_eq_true rfl⟩) rfl hl.1 rfl (Nat.le_of_ble_eq_true rfl) dX1_append_142 ⟨Nat.le_of_ble_eq_true rfl, Nat.le_of_ble_eq_true rfl⟩) (fun v30 H locs hwp hw => ?_)
                  refine lv_iconst (pc := 145) (v := 0) cx.1 cx.2.1 dX1_append_145 (by decide) ?_
                  exact k_iret (pc := 146) (wf := (wP d nh hh cf z)) (u := (ps_H (ps_I (ps_O (ps_O (ps_O (ps_O u5 1 v9) 1 v14) 1 v19) 1 v24) 0 14 (((u5.1 0).1 14) + (1 : Int32))) x1.toNatClampNeg v30)) cx hw hwp (by decide) (by decide) dX1_append_146
                · skip
                  obtain ⟨hk2, hor⟩ := hwp
                  rcases hor with rfl
                  · replace hwp := hk2 rfl
                    refine k_catch0 (pc := 113) (tgt := 119) (q := (RX3, TX3, 6)) cx xt rfl (by decide) q547 hx rfl ?_
                    refine lv_astore (pc := 119) (lv' := [(5, .ref a28), (4, .int ((1923 : Int32) + ((4 : Int32) * ((u5.1 0).1 14)))), (0, .ref (z 0 0)), (1, .int x1), (2, .int x2), (3, .int x3)]) cx.1 cx.2.1 dX1_append_119 hl (by decide) rfl (fun ls hl => ?_)
                    refine lv_bipush (pc := 121) (v := -9) cx.1 cx.2.1 dX1_append_121 (by decide) ?_
                    exact k_iret (pc := 123) (wf := (wP d nh hh cf z)) (u := (ps_O (ps_O (ps_O (ps_O u5 1 v9) 1 v14) 1 v19) 1 v27)) cx hw hwp (by decide) (by decide) dX1_append_123
              · skip
                obtain ⟨hk2, hor⟩ := hwp
                rcases hor with rfl
                · replace hwp := hk2 rfl
                  refine k_catch0 (pc := 96) (tgt := 119) (q := (RX3, TX3, 6)) cx xt rfl (by decide) q547 hx rfl ?_
                  refine lv_astore (pc := 119) (lv' := [(5, .ref a23), (4, .int ((1923 : Int32) + ((4 : Int32) * ((u5.1 0).1 14)))), (0, .ref (z 0 0)), (1, .int x1), (2, .int x2), (3, .int x3)]) cx.1 cx.2.1 dX1_append_119 hl (by decide) rfl (fun ls hl => ?_)
                  refine lv_bipush (pc := 121) (v := -9) cx.1 cx.2.1 dX1_append_121 (by decide) ?_
                  exact k_iret (pc := 123) (wf := (wP d nh hh cf z)) (u := (ps_O (ps_O (ps_O u5 1 v9) 1 v14) 1 v22)) cx hw hwp (by decide) (by decide) dX1_append_123
            · skip
              obtain ⟨hk2, hor⟩ := hwp
              rcases hor with rfl
              · replace hwp := hk2 rfl
                refine k_catch0 (pc := 84) (tgt := 119) (q := (RX3, TX3, 6)) cx xt rfl (by decide) q547 hx rfl ?_
                refine lv_astore (pc := 119) (lv' := [(5, .ref a18), (4, .int ((1923 : Int32) + ((4 : Int32) * ((u5.1 0).1 14)))), (0, .ref (z 0 0)), (1, .int x1), (2, .int x2), (3, .int x3)]) cx.1 cx.2.1 dX1_append_119 hl (by decide) rfl (fun ls hl => ?_)
                refine lv_bipush (pc := 121) (v := -9) cx.1 cx.2.1 dX1_append_121 (by decide) ?_
                exact k_iret (pc := 123) (wf := (wP d nh hh cf z)) (u := (ps_O (ps_O u5 1 v9) 1 v17)) cx hw hwp (by decide) (by decide) dX1_append_123
          · skip
            obtain ⟨hk2, hor⟩ := hwp
            rcases hor with rfl
            · replace hwp := hk2 rfl
              refine k_catch0 (pc := 72) (tgt := 119) (q := (RX3, TX3, 6)) cx xt rfl (by decide) q547 hx rfl ?_
              refine lv_astore (pc := 119) (lv' := [(5, .ref a13), (4, .int ((1923 : Int32) + ((4 : Int32) * ((u5.1 0).1 14)))), (0, .ref (z 0 0)), (1, .int x1), (2, .int x2), (3, .int x3)]) cx.1 cx.2.1 dX1_append_119 hl (by decide) rfl (fun ls hl => ?_)
              refine lv_bipush (pc := 121) (v := -9) cx.1 cx.2.1 dX1_append_121 (by decide) ?_
              exact k_iret (pc := 123) (wf := (wP d nh hh cf z)) (u := (ps_O u5 1 v12)) cx hw hwp (by decide) (by decide) dX1_append_123
        · replace hwp := hwp.2 c8
          refine lv_bipush (pc := 50) (v := -3) cx.1 cx.2.1 dX1_append_50 (by decide) ?_
          exact k_iret (pc := 52) (wf := (wP d nh hh cf z)) (u := u5) cx hw hwp (by decide) (by decide) dX1_append_52
      · replace hwp := hwp.2 c7
        refine lv_iconst (pc := 38) (v := -1) cx.1 cx.2.1 dX1_append_38 (by decide) ?_
        exact k_iret (pc := 39) (wf := (wP d nh hh cf z)) (u := u5) cx hw hwp (by decide) (by decide) dX1_append_39
    · replace hwp := hwp.2 c4
      refine lv_bipush (pc := 26) (v := -2) cx.1 cx.2.1 dX1_append_26 (by decide) ?_
      exact k_iret (pc := 28) (wf := (wP d nh hh cf z)) (u := u2) cx hw hwp (by decide) (by decide) dX1_append_28
  · replace hwp := hwp.2 c1
    refine lv_bipush (pc := 15) (v := -9) cx.1 cx.2.1 dX1_append_15 (by decide) ?_
    exact k_iret (pc := 17) (wf := (wP d nh hh cf z)) (u := (ps_I u 0 17 (0 : Int32))) cx hw hwp (by decide) (by decide) dX1_append_17
set_option maxHeartbeats 4000000 in
theorem m_X1_plans (l : Launch) (dC : Nat → ClassId) (dI : Nat → Nat → Nat) (d : Nat → ClassId) (z : Nat → Nat → Nat) (hh : Nat → Nat → Nat) (cf : List Value) (nh : Nat) (u : PS) {K : PS → Prop} (hwp : wp_X1_plans nh u K) : kM l yX1_plans cX1_plans 1 none ({ frames := 1, cells := 0, slots := 0, locals := 20 } : Room) dC dI d [.ref (z 0 0)] (wP d nh hh cf z) u (kQv dC dI (wP d nh hh cf z) K) 0 0 := by
  refine kM_start rfl (Nat.le_of_ble_eq_true rfl) ?_
  intro p e s m below meth c A ls cx hnm hw hl
  generalize hargs : ([.ref (z 0 0)] : List Value).toArray = args at cx ⊢
  unfold wp_X1_plans at hwp
  replace hl : lv_has ls 1 [(0, .ref (z 0 0))] := hl
  generalize hH : s.heap = H at hw ⊢
  generalize hlo : ([] : List Loc) = locs at hw ⊢
  refine lv_aload_n (pc := 0) cx.1 cx.2.1 dX1_plans_0 rfl (lv_at hl 0 rfl) ?_
  refine k_getR (pc := 1) (u := u) (v := .ref (z 6 0)) cx hw (lr_PL_pl_8 d z hh cf nh) (C := RX1) (T := TX1) (N := 21) rfl in_X1 (by decide) q487 (fun _ h9 => h9) rfl dX1_plans_1 ?_
  refine lv_iconst (pc := 4) (v := 0) cx.1 cx.2.1 dX1_plans_4 (by decide) ?_
  refine k_putIN (pc := 5) (u := u) (v := (0 : Int32)) cx hw (ln_PL_next_5 d z hh cf nh) (C := RX7) (T := TX7) (N := 7) rfl in_X7 tyX7 tyX7_ok nmX7 (by decide) (nq340 cx.2.2.2.2.2.1) (fun _ h9 => h9) rfl rfl rfl dX1_plans_5 (fun H locs hw => ?_)
  refine lv_aload_n (pc := 8) cx.1 cx.2.1 dX1_plans_8 rfl (lv_at hl 0 rfl) ?_
  refine k_getR (pc := 9) (u := (ps_I u 6 5 (0 : Int32))) (v := .ref (z 2 0)) cx hw (lr_PL_pl_5 d z hh cf nh) (C := RX1) (T := TX1) (N := 21) rfl in_X1 (by decide) q483 (fun _ h9 => h9) rfl dX1_plans_9 ?_
  have hpt := k_part (w := (wPk d (z 2)) (u.1 2)) (is := [7, 8]) hw (pc_PL_X4_packer d z hh cf nh (ps_I u 6 5 (0 : Int32))) (by decide)
  refine k_part_v (pc := 12) (wf := (wPk d (z 2))) (u := (u.1 2)) cx hw [7, 8] (pc_PL_X4_packer d z hh cf nh (ps_I u 6 5 (0 : Int32))) (by decide) (fun _ => rfl) (pw_PL_X4_packer d z hh cf nh (ps_I u 6 5 (0 : Int32))) (k_runV (pc := 12) (rest := []) (As := []) cx hpt.1 hpt.2 hw.2.2 (k_recv cx hw 7 (ci := 3) (q := (RX4, TX4, 7)) rfl rfl) (m_X4_clear l dC dI d (z 2)  (u.1 2)  hwp H.size) (cwV 0 cx.2.2.2.2.1 (lw_V q610 q611 q612 q80 q613) rfl rfl rfl hdV_X4_clear ⟨Nat.le_of_ble_eq_true rfl, Nat.le_of_ble_eq_true rfl⟩) rfl hl.1 rfl (Nat.le_of_ble_eq_true rfl) dX1_plans_12 ⟨Nat.le_of_ble_eq_true rfl, Nat.le_of_ble_eq_true rfl⟩) (fun v1 H locs hwp hw => ?_)
  exact k_vret (pc := 15) (wf := (wP d nh hh cf z)) (u := (ps_O (ps_I u 6 5 (0 : Int32)) 2 v1)) cx hw hwp (by decide) (by decide) dX1_plans_15
set_option maxHeartbeats 4000000 in
theorem m_X1_opens (l : Launch) (dC : Nat → ClassId) (dI : Nat → Nat → Nat) (d : Nat → ClassId) (z : Nat → Nat → Nat) (hh : Nat → Nat → Nat) (cf : List Value) (nh : Nat) (u : PS) (x1 : Int32) {K : Int32 → PS → Prop} (hwp : wp_X1_opens nh u x1 K) : kM l yX1_opens cX1_opens 2 (some .boolean) ({ frames := 2, cells := 0, slots := 0, locals := 42 } : Room) dC dI d [.ref (z 0 0), .int x1] (wP d nh hh cf z) u (kQi dC dI (wP d nh hh cf z) K) 0 0 := by
  refine kM_start rfl (Nat.le_of_ble_eq_true rfl) ?_
  intro p e s m below meth c A ls cx hnm hw hl
  generalize hargs : ([.ref (z 0 0), .int x1] : List Value).toArray = args at cx ⊢
  unfold wp_X1_opens at hwp
  replace hl : lv_has ls 2 [(0, .ref (z 0 0)), (1, .int x1)] := hl
  generalize hH : s.heap = H at hw ⊢
  generalize hlo : ([] : List Loc) = locs at hw ⊢
  refine lv_aload_n (pc := 0) cx.1 cx.2.1 dX1_opens_0 rfl (lv_at hl 0 rfl) ?_
  refine k_getR (pc := 1) (u := u) (v := .ref (z 6 0)) cx hw (lr_PL_pl_8 d z hh cf nh) (C := RX1) (T := TX1) (N := 21) rfl in_X1 (by decide) q487 (fun _ h9 => h9) rfl dX1_opens_1 ?_
  refine lv_iload_n (pc := 4) cx.1 cx.2.1 dX1_opens_4 rfl (lv_at hl 1 rfl) ?_
  have hpt := k_part (w := (wf_X7 d (z 6) (z 7)) ((u.1 6), (u.1 7))) (is := [23, 24, 25, 26, 27, 28, 29, 30, 31, 32, 33, 34, 35]) hw (pc_PL_X7_next_nextsp d z hh cf nh u) (by decide)
  refine k_part_i (pc := 5) (wf := (wf_X7 d (z 6) (z 7))) (u := ((u.1 6), (u.1 7))) cx hw [23, 24, 25, 26, 27, 28, 29, 30, 31, 32, 33, 34, 35] (pc_PL_X7_next_nextsp d z hh cf nh u) (by decide) (fun _ => rfl) (pw_PL_X7_next_nextsp d z hh cf nh u) (k_runV (pc := 5) (rest := []) (As := [.int x1]) cx hpt.1 hpt.2 hw.2.2 (k_recv cx hw 23 (ci := 5) (q := (RX7, TX7, 7)) rfl rfl) (m_X7_opens l dC dI d (z 6) (z 7)  ((u.1 6), (u.1 7)) x1 hwp H.size) (cwV 1 cx.2.2.2.2.1 (lw_V q628 q619 q620 q83 q621) rfl rfl rfl hdV_X7_opens ⟨Nat.le_of_ble_eq_true rfl, Nat.le_of_ble_eq_true rfl⟩) rfl hl.1 rfl (Nat.le_of_ble_eq_true rfl) dX1_opens_5 ⟨Nat.le_of_ble_eq_true rfl, Nat.le_of_ble_eq_true rfl⟩) (fun r2 v1 H locs hwp hw => ?_)
  refine lv_if_ne (pc := 8) (tgt := 13) cx.1 cx.2.1 dX1_opens_8 (by decide) (fun c3 => ?_) (fun c3 => ?_)
  · replace hwp := hwp.1 c3
    refine lv_aload_n (pc := 13) cx.1 cx.2.1 dX1_opens_13 rfl (lv_at hl 0 rfl) ?_
    refine k_getR (pc := 14) (u := (ps_O (ps_O u 6 v1.1) 7 v1.2)) (v := .ref (z 2 0)) cx hw (lr_PL_pl_5 d z hh cf nh) (C := RX1) (T := TX1) (N := 21) rfl in_X1 (by decide) q483 (fun _ h9 => h9) rfl dX1_opens_14 ?_
    have hpt := k_part (w := (wPk d (z 2)) (u.1 2)) (is := [7, 8]) hw (pc_PL_X4_packer d z hh cf nh (ps_O (ps_O u 6 v1.1) 7 v1.2)) (by decide)
    refine k_part_v (pc := 17) (wf := (wPk d (z 2))) (u := (u.1 2)) cx hw [7, 8] (pc_PL_X4_packer d z hh cf nh (ps_O (ps_O u 6 v1.1) 7 v1.2)) (by decide) (fun _ => rfl) (pw_PL_X4_packer d z hh cf nh (ps_O (ps_O u 6 v1.1) 7 v1.2)) (k_runV (pc := 17) (rest := []) (As := []) cx hpt.1 hpt.2 hw.2.2 (k_recv cx hw 7 (ci := 3) (q := (RX4, TX4, 7)) rfl rfl) (m_X4_begin l dC dI d (z 2)  (u.1 2)  hwp H.size) (cwV 0 cx.2.2.2.2.1 (lw_V q629 q630 q631 q80 q632) rfl rfl rfl hdV_X4_begin ⟨Nat.le_of_ble_eq_true rfl, Nat.le_of_ble_eq_true rfl⟩) rfl hl.1 rfl (Nat.le_of_ble_eq_true rfl) dX1_opens_17 ⟨Nat.le_of_ble_eq_true rfl, Nat.le_of_ble_eq_true rfl⟩) (fun v4 H locs hwp hw => ?_)
    refine lv_aload_n (pc := 20) cx.1 cx.2.1 dX1_opens_20 rfl (lv_at hl 0 rfl) ?_
    refine k_getR (pc := 21) (u := (ps_O (ps_O (ps_O u 6 v1.1) 7 v1.2) 2 v4)) (v := .ref (z 6 0)) cx hw (lr_PL_pl_8 d z hh cf nh) (C := RX1) (T := TX1) (N := 21) rfl in_X1 (by decide) q487 (fun _ h9 => h9) rfl dX1_opens_21 ?_
    refine k_getRN (pc := 24) (u := (ps_O (ps_O (ps_O u 6 v1.1) 7 v1.2) 2 v4)) (v := .ref (z 6 4)) cx hw (lr_PL_next_4 d z hh cf nh) (C := RX7) (T := TX7) (N := 7) rfl in_X7 (by decide) (nq338 cx.2.2.2.2.2.1) (fun _ h9 => h9) rfl dX1_opens_24 ?_
    refine lv_aload_n (pc := 27) cx.1 cx.2.1 dX1_opens_27 rfl (lv_at hl 0 rfl) ?_
    refine k_getR (pc := 28) (u := (ps_O (ps_O (ps_O u 6 v1.1) 7 v1.2) 2 v4)) (v := .ref (z 6 0)) cx hw (lr_PL_pl_8 d z hh cf nh) (C := RX1) (T := TX1) (N := 21) rfl in_X1 (by decide) q487 (fun _ h9 => h9) rfl dX1_opens_28 ?_
    refine k_getIN (pc := 31) (u := (ps_O (ps_O (ps_O u 6 v1.1) 7 v1.2) 2 v4)) (v := (v1.1.1 5)) cx hw (ln_PL_next_5 d z hh cf nh) (C := RX7) (T := TX7) (N := 7) rfl in_X7 (by decide) (nq340 cx.2.2.2.2.2.1) (fun _ h9 => h9) rfl dX1_opens_31 ?_
    refine lv_iconst (pc := 34) (v := 1) cx.1 cx.2.1 dX1_opens_34 (by decide) ?_
    refine lv_isub (pc := 35) cx.1 cx.2.1 dX1_opens_35 ?_
    refine lv_aload_n (pc := 36) cx.1 cx.2.1 dX1_opens_36 rfl (lv_at hl 0 rfl) ?_
    refine k_getR (pc := 37) (u := (ps_O (ps_O (ps_O u 6 v1.1) 7 v1.2) 2 v4)) (v := .ref (z 2 0)) cx hw (lr_PL_pl_5 d z hh cf nh) (C := RX1) (T := TX1) (N := 21) rfl in_X1 (by decide) q483 (fun _ h9 => h9) rfl dX1_opens_37 ?_
    refine k_getIN (pc := 40) (u := (ps_O (ps_O (ps_O u 6 v1.1) 7 v1.2) 2 v4)) (v := (v4.1 2)) cx hw (ln_PL_packer_2 d z hh cf nh) (C := RX4) (T := TX4) (N := 7) rfl in_X4 (by decide) (nq220 cx.2.2.2.2.2.1) (fun _ h9 => h9) rfl dX1_opens_40 ?_
    refine lv_iconst (pc := 43) (v := 5) cx.1 cx.2.1 dX1_opens_43 (by decide) ?_
    refine lv_ishr (pc := 44) cx.1 cx.2.1 dX1_opens_44 ?_
    refine k_iast (pc := 45) (u := (ps_O (ps_O (ps_O u 6 v1.1) 7 v1.2) 2 v4)) (f := (v1.1.2.1 4)) cx hw (ln_PL_next_4 d z hh cf nh) 0 rfl rfl hwp.1 dX1_opens_45 (fun H locs hw => ?_)
    replace hwp := hwp.2
    refine lv_iconst (pc := 46) (v := 1) cx.1 cx.2.1 dX1_opens_46 (by decide) ?_
    exact k_zret (pc := 47) (wf := (wP d nh hh cf z)) (u := (ps_A (ps_O (ps_O (ps_O u 6 v1.1) 7 v1.2) 2 v4) 6 4 (upd (v1.1.2.1 4) ((v1.1.1 5) - (1 : Int32)).toNatClampNeg ((v4.1 2) >>> ((5 : Int32) &&& 31))))) cx hw rfl hwp (by decide) (by decide) dX1_opens_47
  · replace hwp := hwp.2 c3
    refine lv_iconst (pc := 11) (v := 0) cx.1 cx.2.1 dX1_opens_11 (by decide) ?_
    exact k_zret (pc := 12) (wf := (wP d nh hh cf z)) (u := (ps_O (ps_O u 6 v1.1) 7 v1.2)) cx hw rfl hwp (by decide) (by decide) dX1_opens_12
set_option maxHeartbeats 4000000 in
theorem m_X1_adds (l : Launch) (dC : Nat → ClassId) (dI : Nat → Nat → Nat) (d : Nat → ClassId) (z : Nat → Nat → Nat) (hh : Nat → Nat → Nat) (cf : List Value) (nh : Nat) (u : PS) (x1 : Int32) (x2 : Int32) {K : PS → Prop} (hwp : wp_X1_adds nh u x1 x2 K) : kM l yX1_adds cX1_adds 3 none ({ frames := 3, cells := 0, slots := 0, locals := 73 } : Room) dC dI d [.ref (z 0 0), .int x1, .int x2] (wP d nh hh cf z) u (kQv dC dI (wP d nh hh cf z) K) 0 0 := by
  refine kM_start rfl (Nat.le_of_ble_eq_true rfl) ?_
  intro p e s m below meth c A ls cx hnm hw hl
  generalize hargs : ([.ref (z 0 0), .int x1, .int x2] : List Value).toArray = args at cx ⊢
  unfold wp_X1_adds at hwp
  replace hl : lv_has ls 3 [(0, .ref (z 0 0)), (1, .int x1), (2, .int x2)] := hl
  generalize hH : s.heap = H at hw ⊢
  generalize hlo : ([] : List Loc) = locs at hw ⊢
  refine lv_aload_n (pc := 0) cx.1 cx.2.1 dX1_adds_0 rfl (lv_at hl 0 rfl) ?_
  refine k_getR (pc := 1) (u := u) (v := .ref (z 6 0)) cx hw (lr_PL_pl_8 d z hh cf nh) (C := RX1) (T := TX1) (N := 21) rfl in_X1 (by decide) q487 (fun _ h9 => h9) rfl dX1_adds_1 ?_
  refine k_getRN (pc := 4) (u := u) (v := .ref (z 7 0)) cx hw (lr_PL_next_0 d z hh cf nh) (C := RX7) (T := TX7) (N := 7) rfl in_X7 (by decide) (nq329 cx.2.2.2.2.2.1) (fun _ h9 => h9) rfl dX1_adds_4 ?_
  refine lv_aload_n (pc := 7) cx.1 cx.2.1 dX1_adds_7 rfl (lv_at hl 0 rfl) ?_
  refine k_getR (pc := 8) (u := u) (v := .ref (z 6 0)) cx hw (lr_PL_pl_8 d z hh cf nh) (C := RX1) (T := TX1) (N := 21) rfl in_X1 (by decide) q487 (fun _ h9 => h9) rfl dX1_adds_8 ?_
  refine k_getIN (pc := 11) (u := u) (v := ((u.1 6).1 5)) cx hw (ln_PL_next_5 d z hh cf nh) (C := RX7) (T := TX7) (N := 7) rfl in_X7 (by decide) (nq340 cx.2.2.2.2.2.1) (fun _ h9 => h9) rfl dX1_adds_11 ?_
  refine lv_iconst (pc := 14) (v := 1) cx.1 cx.2.1 dX1_adds_14 (by decide) ?_
  refine lv_isub (pc := 15) cx.1 cx.2.1 dX1_adds_15 ?_
  refine lv_iload_n (pc := 16) cx.1 cx.2.1 dX1_adds_16 rfl (lv_at hl 1 rfl) ?_
  refine lv_iload_n (pc := 17) cx.1 cx.2.1 dX1_adds_17 rfl (lv_at hl 2 rfl) ?_
  have hpt := k_part (w := (wSp d (z 7)) (u.1 7)) (is := [29, 30, 31, 32, 33, 34, 35]) hw (pc_PL_X8_nextsp d z hh cf nh u) (by decide)
  refine k_part_v (pc := 18) (wf := (wSp d (z 7))) (u := (u.1 7)) cx hw [29, 30, 31, 32, 33, 34, 35] (pc_PL_X8_nextsp d z hh cf nh u) (by decide) (fun _ => rfl) (pw_PL_X8_nextsp d z hh cf nh u) (k_runV (pc := 18) (rest := []) (As := [.int (((u.1 6).1 5) - (1 : Int32)), .int x1, .int x2]) cx hpt.1 hpt.2 hw.2.2 (k_recv cx hw 29 (ci := 6) (q := (RX8, TX8, 6)) rfl rfl) (m_X8_add l dC dI d (z 7)  (u.1 7) (((u.1 6).1 5) - (1 : Int32)) x1 x2 hwp H.size) (cwV 3 cx.2.2.2.2.1 (lw_V q637 q638 q639 q84 q640) rfl rfl rfl hdV_X8_add ⟨Nat.le_of_ble_eq_true rfl, Nat.le_of_ble_eq_true rfl⟩) rfl hl.1 rfl (Nat.le_of_ble_eq_true rfl) dX1_adds_18 ⟨Nat.le_of_ble_eq_true rfl, Nat.le_of_ble_eq_true rfl⟩) (fun v1 H locs hwp hw => ?_)
  refine lv_aload_n (pc := 21) cx.1 cx.2.1 dX1_adds_21 rfl (lv_at hl 0 rfl) ?_
  refine k_getR (pc := 22) (u := (ps_O u 7 v1)) (v := .ref (z 2 0)) cx hw (lr_PL_pl_5 d z hh cf nh) (C := RX1) (T := TX1) (N := 21) rfl in_X1 (by decide) q483 (fun _ h9 => h9) rfl dX1_adds_22 ?_
  refine lv_iload_n (pc := 25) cx.1 cx.2.1 dX1_adds_25 rfl (lv_at hl 1 rfl) ?_
  refine lv_iload_n (pc := 26) cx.1 cx.2.1 dX1_adds_26 rfl (lv_at hl 2 rfl) ?_
  have hpt := k_part (w := (wPk d (z 2)) (u.1 2)) (is := [7, 8]) hw (pc_PL_X4_packer d z hh cf nh (ps_O u 7 v1)) (by decide)
  refine k_part_v (pc := 27) (wf := (wPk d (z 2))) (u := (u.1 2)) cx hw [7, 8] (pc_PL_X4_packer d z hh cf nh (ps_O u 7 v1)) (by decide) (fun _ => rfl) (pw_PL_X4_packer d z hh cf nh (ps_O u 7 v1)) (k_runV (pc := 27) (rest := []) (As := [.int x1, .int x2]) cx hpt.1 hpt.2 hw.2.2 (k_recv cx hw 7 (ci := 3) (q := (RX4, TX4, 7)) rfl rfl) (m_X4_take l dC dI d (z 2)  (u.1 2) x1 x2 hwp H.size) (cwV 2 cx.2.2.2.2.1 (lw_V q641 q642 q643 q80 q644) rfl rfl rfl hdV_X4_take ⟨Nat.le_of_ble_eq_true rfl, Nat.le_of_ble_eq_true rfl⟩) rfl hl.1 rfl (Nat.le_of_ble_eq_true rfl) dX1_adds_27 ⟨Nat.le_of_ble_eq_true rfl, Nat.le_of_ble_eq_true rfl⟩) (fun v3 H locs hwp hw => ?_)
  exact k_vret (pc := 30) (wf := (wP d nh hh cf z)) (u := (ps_O (ps_O u 7 v1) 2 v3)) cx hw hwp (by decide) (by decide) dX1_adds_30
set_option maxHeartbeats 4000000 in
theorem m_X1_closes (l : Launch) (dC : Nat → ClassId) (dI : Nat → Nat → Nat) (d : Nat → ClassId) (z : Nat → Nat → Nat) (hh : Nat → Nat → Nat) (cf : List Value) (nh : Nat) (u : PS) {K : PS → Prop} (hwp : wp_X1_closes nh u K) : kM l yX1_closes cX1_closes 1 none ({ frames := 1, cells := 0, slots := 0, locals := 20 } : Room) dC dI d [.ref (z 0 0)] (wP d nh hh cf z) u (kQv dC dI (wP d nh hh cf z) K) 0 0 := by
  refine kM_start rfl (Nat.le_of_ble_eq_true rfl) ?_
  intro p e s m below meth c A ls cx hnm hw hl
  generalize hargs : ([.ref (z 0 0)] : List Value).toArray = args at cx ⊢
  unfold wp_X1_closes at hwp
  replace hl : lv_has ls 1 [(0, .ref (z 0 0))] := hl
  generalize hH : s.heap = H at hw ⊢
  generalize hlo : ([] : List Loc) = locs at hw ⊢
  refine lv_aload_n (pc := 0) cx.1 cx.2.1 dX1_closes_0 rfl (lv_at hl 0 rfl) ?_
  refine k_getR (pc := 1) (u := u) (v := .ref (z 6 0)) cx hw (lr_PL_pl_8 d z hh cf nh) (C := RX1) (T := TX1) (N := 21) rfl in_X1 (by decide) q487 (fun _ h9 => h9) rfl dX1_closes_1 ?_
  refine k_getRN (pc := 4) (u := u) (v := .ref (z 6 3)) cx hw (lr_PL_next_3 d z hh cf nh) (C := RX7) (T := TX7) (N := 7) rfl in_X7 (by decide) (nq336 cx.2.2.2.2.2.1) (fun _ h9 => h9) rfl dX1_closes_4 ?_
  refine lv_aload_n (pc := 7) cx.1 cx.2.1 dX1_closes_7 rfl (lv_at hl 0 rfl) ?_
  refine k_getR (pc := 8) (u := u) (v := .ref (z 6 0)) cx hw (lr_PL_pl_8 d z hh cf nh) (C := RX1) (T := TX1) (N := 21) rfl in_X1 (by decide) q487 (fun _ h9 => h9) rfl dX1_closes_8 ?_
  refine k_getIN (pc := 11) (u := u) (v := ((u.1 6).1 5)) cx hw (ln_PL_next_5 d z hh cf nh) (C := RX7) (T := TX7) (N := 7) rfl in_X7 (by decide) (nq340 cx.2.2.2.2.2.1) (fun _ h9 => h9) rfl dX1_closes_11 ?_
  refine lv_iconst (pc := 14) (v := 1) cx.1 cx.2.1 dX1_closes_14 (by decide) ?_
  refine lv_isub (pc := 15) cx.1 cx.2.1 dX1_closes_15 ?_
  refine lv_aload_n (pc := 16) cx.1 cx.2.1 dX1_closes_16 rfl (lv_at hl 0 rfl) ?_
  refine k_getR (pc := 17) (u := u) (v := .ref (z 2 0)) cx hw (lr_PL_pl_5 d z hh cf nh) (C := RX1) (T := TX1) (N := 21) rfl in_X1 (by decide) q483 (fun _ h9 => h9) rfl dX1_closes_17 ?_
  have hpt := k_part (w := (wPk d (z 2)) (u.1 2)) (is := [7, 8]) hw (pc_PL_X4_packer d z hh cf nh u) (by decide)
  refine k_part_i (pc := 20) (wf := (wPk d (z 2))) (u := (u.1 2)) cx hw [7, 8] (pc_PL_X4_packer d z hh cf nh u) (by decide) (fun _ => rfl) (pw_PL_X4_packer d z hh cf nh u) (k_runV (pc := 20) (rest := [.int (((u.1 6).1 5) - (1 : Int32)), .ref (z 6 3)]) (As := []) cx hpt.1 hpt.2 hw.2.2 (k_recv cx hw 7 (ci := 3) (q := (RX4, TX4, 7)) rfl rfl) (m_X4_end l dC dI d (z 2)  (u.1 2)  hwp H.size) (cwV 0 cx.2.2.2.2.1 (lw_V q669 q670 q671 q80 q672) rfl rfl rfl hdV_X4_end ⟨Nat.le_of_ble_eq_true rfl, Nat.le_of_ble_eq_true rfl⟩) rfl hl.1 rfl (Nat.le_of_ble_eq_true rfl) dX1_closes_20 ⟨Nat.le_of_ble_eq_true rfl, Nat.le_of_ble_eq_true rfl⟩) (fun r2 v1 H locs hwp hw => ?_)
  refine lv_i2s (pc := 23) cx.1 cx.2.1 dX1_closes_23 rfl ?_
  refine k_sast (pc := 24) (u := (ps_O u 2 v1)) (f := ((u.1 6).2.1 3)) cx hw (ln_PL_next_3 d z hh cf nh) 1 rfl rfl hwp.1 dX1_closes_24 (fun H locs hw => ?_)
  replace hwp := hwp.2
  exact k_vret (pc := 25) (wf := (wP d nh hh cf z)) (u := (ps_A (ps_O u 2 v1) 6 3 (upd ((u.1 6).2.1 3) (((u.1 6).1 5) - (1 : Int32)).toNatClampNeg (vp_nar .short r2.toInt16.toInt32)))) cx hw hwp (by decide) (by decide) dX1_closes_25
set_option maxHeartbeats 4000000 in
theorem wk_X1_takes_2 {p : Program} {l : Launch} {e : Env} {s : State} {m : MethodId} {args : Array Value} {below : List Frame} {meth : Method} {c : Code} {A : Nat → Prop} {dC : Nat → ClassId} {dI : Nat → Nat → Nat} {d : Nat → ClassId} {z : Nat → Nat → Nat} {hh : Nat → Nat → Nat} {cf : List Value}{nh : Nat} {K : PS → Prop} (cx : Cx p s m args meth c cX1_takes RX1 4 none A dC dI d) : ∀ (n : Nat) (x1 : Int32) (x2 : Int32) (x3 : Int32) (u : PS) (H : Heap) (locs : List Loc) (ls : Array Slot), wp_X1_takes_2 nh K n x1 x2 x3 u → Wd dC dI A ((wP d nh hh cf z) u) s H locs → lv_has ls 4 [(0, .ref (z 0 0)), (1, .int x1), (2, .int x2), (3, .int x3)] → W p l e ({ frames := 0, cells := 0, slots := 0, locals := 0 } : Room) s m args below meth c H locs 0 0 (MQ below (kQv dC dI (wP d nh hh cf z) K A) args s 0 0 A) (F0 m 2 ls []) := by
  intro n
  induction n with
  | zero =>
    intros; contradiction
  | succ n ih =>
    intro x1 x2 x3 u H locs ls hwp hw hl
    unfold wp_X1_takes_2 at hwp
    refine lv_iload_n (pc := 2) cx.1 cx.2.1 dX1_takes_2 rfl (lv_at hl 3 rfl) ?_
    refine lv_iload_n (pc := 3) cx.1 cx.2.1 dX1_takes_3 rfl (lv_at hl 1 rfl) ?_
    refine lv_iload_n (pc := 4) cx.1 cx.2.1 dX1_takes_4 rfl (lv_at hl 2 rfl) ?_
    refine lv_iadd (pc := 5) cx.1 cx.2.1 dX1_takes_5 ?_
    refine lv_icmp_ge (pc := 6) (tgt := 22) cx.1 cx.2.1 dX1_takes_6 (by decide) (fun c1 => ?_) (fun c1 => ?_)
    · replace hwp := hwp.1 c1
      exact k_vret (pc := 22) (wf := (wP d nh hh cf z)) (u := u) cx hw hwp (by decide) (by decide) dX1_takes_22
    · replace hwp := hwp.2 c1
      refine lv_aload_n (pc := 9) cx.1 cx.2.1 dX1_takes_9 rfl (lv_at hl 0 rfl) ?_
      refine k_getR (pc := 10) (u := u) (v := .ref (z 0 2)) cx hw (lr_PL_pl_11 d z hh cf nh) (C := RX1) (T := TX1) (N := 21) rfl in_X1 (by decide) q490 (fun _ h9 => h9) rfl dX1_takes_10 ?_
      refine lv_iload_n (pc := 13) cx.1 cx.2.1 dX1_takes_13 rfl (lv_at hl 3 rfl) ?_
      refine lv_iconst (pc := 14) (v := 1) cx.1 cx.2.1 dX1_takes_14 (by decide) ?_
      refine k_zast (pc := 15) (u := u) (f := ((u.1 0).2.1 11)) cx hw (ln_PL_pl_11 d z hh cf nh) 5 rfl rfl hwp.1 dX1_takes_15 (fun H locs hw => ?_)
      replace hwp := hwp.2
      refine lv_iinc (pc := 16) (v := (x3 + (1 : Int32))) (lv' := [(3, .int (x3 + (1 : Int32))), (0, .ref (z 0 0)), (1, .int x1), (2, .int x2)]) cx.1 cx.2.1 dX1_takes_16 hl (k := 3) rfl rfl (by decide) rfl (fun ls hl => ?_)
      refine lv_goto (pc := 19) (tgt := 2) cx.1 cx.2.1 dX1_takes_19 (by decide) ?_
      exact ih _ _ _ _ _ _ _ hwp hw (lv_sub hl [1, 2, 3, 0] rfl)
set_option maxHeartbeats 4000000 in
theorem m_X1_takes (l : Launch) (dC : Nat → ClassId) (dI : Nat → Nat → Nat) (d : Nat → ClassId) (z : Nat → Nat → Nat) (hh : Nat → Nat → Nat) (cf : List Value) (nh : Nat) (u : PS) (x1 : Int32) (x2 : Int32) {K : PS → Prop} (hwp : wp_X1_takes nh u x1 x2 K) : kM l yX1_takes cX1_takes 4 none ({ frames := 0, cells := 0, slots := 0, locals := 0 } : Room) dC dI d [.ref (z 0 0), .int x1, .int x2] (wP d nh hh cf z) u (kQv dC dI (wP d nh hh cf z) K) 0 0 := by
  refine kM_start rfl (Nat.le_of_ble_eq_true rfl) ?_
  intro p e s m below meth c A ls cx hnm hw hl
  generalize hargs : ([.ref (z 0 0), .int x1, .int x2] : List Value).toArray = args at cx ⊢
  unfold wp_X1_takes at hwp
  replace hl : lv_has ls 4 [(0, .ref (z 0 0)), (1, .int x1), (2, .int x2)] := hl
  generalize hH : s.heap = H at hw ⊢
  generalize hlo : ([] : List Loc) = locs at hw ⊢
  refine lv_iload_n (pc := 0) cx.1 cx.2.1 dX1_takes_0 rfl (lv_at hl 1 rfl) ?_
  refine lv_istore_n (pc := 1) (lv' := [(3, .int x1), (0, .ref (z 0 0)), (1, .int x1), (2, .int x2)]) cx.1 cx.2.1 dX1_takes_1 rfl hl (by decide) rfl (fun ls hl => ?_)
  obtain ⟨n2, hwp⟩ := hwp
  exact wk_X1_takes_2 cx n2 _ _ _ _ _ _ _ hwp hw (lv_sub hl [1, 2, 3, 0] rfl)
set_option maxHeartbeats 4000000 in
theorem wk_X1_free_6 {p : Program} {l : Launch} {e : Env} {s : State} {m : MethodId} {args : Array Value} {below : List Frame} {meth : Method} {c : Code} {A : Nat → Prop} {dC : Nat → ClassId} {dI : Nat → Nat → Nat} {d : Nat → ClassId} {z : Nat → Nat → Nat} {hh : Nat → Nat → Nat} {cf : List Value}{nh : Nat} {K : Int32 → PS → Prop} (cx : Cx p s m args meth c cX1_free RX1 4 (some .int) A dC dI d) : ∀ (n : Nat) (x1 : Int32) (x2 : Int32) (x3 : Int32) (u : PS) (H : Heap) (locs : List Loc) (ls : Array Slot), wp_X1_free_6 nh K n x1 x2 x3 u → Wd dC dI A ((wP d nh hh cf z) u) s H locs → lv_has ls 4 [(0, .ref (z 0 0)), (1, .int x1), (2, .int x2), (3, .int x3)] → W p l e ({ frames := 0, cells := 0, slots := 0, locals := 0 } : Room) s m args below meth c H locs 0 0 (MQ below (kQi dC dI (wP d nh hh cf z) K A) args s 0 0 A) (F0 m 6 ls []) := by
  intro n
  induction n with
  | zero =>
    intros; contradiction
  | succ n ih =>
    intro x1 x2 x3 u H locs ls hwp hw hl
    unfold wp_X1_free_6 at hwp
    refine lv_iload_n (pc := 6) cx.1 cx.2.1 dX1_free_6 rfl (lv_at hl 3 rfl) ?_
    refine lv_sipush (pc := 7) (v := 4096) cx.1 cx.2.1 dX1_free_7 (by decide) ?_
    refine lv_icmp_ge (pc := 10) (tgt := 47) cx.1 cx.2.1 dX1_free_10 (by decide) (fun c1 => ?_) (fun c1 => ?_)
    · replace hwp := hwp.1 c1
      refine lv_iconst (pc := 47) (v := -1) cx.1 cx.2.1 dX1_free_47 (by decide) ?_
      exact k_iret (pc := 48) (wf := (wP d nh hh cf z)) (u := u) cx hw hwp (by decide) (by decide) dX1_free_48
    · replace hwp := hwp.2 c1
      refine lv_aload_n (pc := 13) cx.1 cx.2.1 dX1_free_13 rfl (lv_at hl 0 rfl) ?_
      refine k_getR (pc := 14) (u := u) (v := .ref (z 0 2)) cx hw (lr_PL_pl_11 d z hh cf nh) (C := RX1) (T := TX1) (N := 21) rfl in_X1 (by decide) q490 (fun _ h9 => h9) rfl dX1_free_14 ?_
      refine lv_iload_n (pc := 17) cx.1 cx.2.1 dX1_free_17 rfl (lv_at hl 3 rfl) ?_
      refine k_zald (pc := 18) (u := u) (f := ((u.1 0).2.1 11)) cx hw (lx_PL_pl_11 d z hh cf nh) 5 rfl rfl hwp.1 dX1_free_18 ?_
      replace hwp := hwp.2
      have hJ3 : ∀ z2 : Int32, z2 = (if (((u.1 0).2.1 11) x3.toNatClampNeg) = 0 then (x2 + (1 : Int32)) else (0 : Int32)) → W p l e ({ frames := 0, cells := 0, slots := 0, locals := 0 } : Room) s m args below meth c H locs 0 0 (MQ below (kQi dC dI (wP d nh hh cf z) K A) args s 0 0 A) (F0 m 29 ls [.int z2]) := by
        intro z2 ez2
        replace hwp := hwp z2 ez2
        refine lv_istore_n (pc := 29) (lv' := [(2, .int z2), (0, .ref (z 0 0)), (1, .int x1), (3, .int x3)]) cx.1 cx.2.1 dX1_free_29 rfl hl (by decide) rfl (fun ls hl => ?_)
        refine lv_iload_n (pc := 30) cx.1 cx.2.1 dX1_free_30 rfl (lv_at hl 0 rfl) ?_
        refine lv_iload_n (pc := 31) cx.1 cx.2.1 dX1_free_31 rfl (lv_at hl 2 rfl) ?_
        refine lv_icmp_ne (pc := 32) (tgt := 41) cx.1 cx.2.1 dX1_free_32 (by decide) (fun c4 => ?_) (fun c4 => ?_)
        · replace hwp := hwp.1 c4
          refine lv_iinc (pc := 41) (v := (x3 + (1 : Int32))) (lv' := [(3, .int (x3 + (1 : Int32))), (2, .int z2), (0, .ref (z 0 0)), (1, .int x1)]) cx.1 cx.2.1 dX1_free_41 hl (k := 3) rfl rfl (by decide) rfl (fun ls hl => ?_)
          refine lv_goto (pc := 44) (tgt := 6) cx.1 cx.2.1 dX1_free_44 (by decide) ?_
          exact ih _ _ _ _ _ _ _ hwp hw (lv_sub hl [2, 3, 1, 0] rfl)
        · replace hwp := hwp.2 c4
          refine lv_iload_n (pc := 35) cx.1 cx.2.1 dX1_free_35 rfl (lv_at hl 3 rfl) ?_
          refine lv_iload_n (pc := 36) cx.1 cx.2.1 dX1_free_36 rfl (lv_at hl 2 rfl) ?_
          refine lv_isub (pc := 37) cx.1 cx.2.1 dX1_free_37 ?_
          refine lv_iconst (pc := 38) (v := 1) cx.1 cx.2.1 dX1_free_38 (by decide) ?_
          refine lv_iadd (pc := 39) cx.1 cx.2.1 dX1_free_39 ?_
          exact k_iret (pc := 40) (wf := (wP d nh hh cf z)) (u := u) cx hw hwp (by decide) (by decide) dX1_free_40
      clear hwp
      refine lv_if_eq (pc := 19) (tgt := 26) cx.1 cx.2.1 dX1_free_19 (by decide) (fun c5 => ?_) (fun c5 => ?_)
      · skip
        refine lv_iload_n (pc := 26) cx.1 cx.2.1 dX1_free_26 rfl (lv_at hl 2 rfl) ?_
        refine lv_iconst (pc := 27) (v := 1) cx.1 cx.2.1 dX1_free_27 (by decide) ?_
        refine lv_iadd (pc := 28) cx.1 cx.2.1 dX1_free_28 ?_
        exact hJ3 _ (if_pos c5).symm
      · skip
        refine lv_iconst (pc := 22) (v := 0) cx.1 cx.2.1 dX1_free_22 (by decide) ?_
        refine lv_goto (pc := 23) (tgt := 29) cx.1 cx.2.1 dX1_free_23 (by decide) ?_
        exact hJ3 _ (if_neg c5).symm
set_option maxHeartbeats 4000000 in
theorem m_X1_free (l : Launch) (dC : Nat → ClassId) (dI : Nat → Nat → Nat) (d : Nat → ClassId) (z : Nat → Nat → Nat) (hh : Nat → Nat → Nat) (cf : List Value) (nh : Nat) (u : PS) (x1 : Int32) {K : Int32 → PS → Prop} (hwp : wp_X1_free nh u x1 K) : kM l yX1_free cX1_free 4 (some .int) ({ frames := 0, cells := 0, slots := 0, locals := 0 } : Room) dC dI d [.ref (z 0 0), .int x1] (wP d nh hh cf z) u (kQi dC dI (wP d nh hh cf z) K) 0 0 := by
  refine kM_start rfl (Nat.le_of_ble_eq_true rfl) ?_
  intro p e s m below meth c A ls cx hnm hw hl
  generalize hargs : ([.ref (z 0 0), .int x1] : List Value).toArray = args at cx ⊢
  unfold wp_X1_free at hwp
  replace hl : lv_has ls 4 [(0, .ref (z 0 0)), (1, .int x1)] := hl
  generalize hH : s.heap = H at hw ⊢
  generalize hlo : ([] : List Loc) = locs at hw ⊢
  refine lv_iconst (pc := 0) (v := 0) cx.1 cx.2.1 dX1_free_0 (by decide) ?_
  refine lv_istore_n (pc := 1) (lv' := [(2, .int (0 : Int32)), (0, .ref (z 0 0)), (1, .int x1)]) cx.1 cx.2.1 dX1_free_1 rfl hl (by decide) rfl (fun ls hl => ?_)
  refine lv_sipush (pc := 2) (v := 2435) cx.1 cx.2.1 dX1_free_2 (by decide) ?_
  refine lv_istore_n (pc := 5) (lv' := [(3, .int (2435 : Int32)), (2, .int (0 : Int32)), (0, .ref (z 0 0)), (1, .int x1)]) cx.1 cx.2.1 dX1_free_5 rfl hl (by decide) rfl (fun ls hl => ?_)
  obtain ⟨n6, hwp⟩ := hwp
  exact wk_X1_free_6 cx n6 _ _ _ _ _ _ _ hwp hw (lv_sub hl [2, 3, 1, 0] rfl)
set_option maxHeartbeats 4000000 in
theorem wk_X1_places_69 {p : Program} {l : Launch} {e : Env} {s : State} {m : MethodId} {args : Array Value} {below : List Frame} {meth : Method} {c : Code} {A : Nat → Prop} {dC : Nat → ClassId} {dI : Nat → Nat → Nat} {d : Nat → ClassId} {z : Nat → Nat → Nat} {hh : Nat → Nat → Nat} {cf : List Value}{nh : Nat} {K : Int32 → PS → Prop} (cx : Cx p s m args meth c cX1_places RX1 4 (some .boolean) A dC dI d) : ∀ (n : Nat) (x1 : Int32) (x2 : Int32) (u : PS) (H : Heap) (locs : List Loc) (ls : Array Slot), wp_X1_places_69 nh K n x1 x2 u → Wd dC dI A ((wP d nh hh cf z) u) s H locs → lv_has ls 4 [(0, .ref (z 0 0)), (1, .int x1), (2, .int x2)] → W p l e ({ frames := 1, cells := 0, slots := 0, locals := 23 } : Room) s m args below meth c H locs 0 0 (MQ below (kQi dC dI (wP d nh hh cf z) K A) args s 0 0 A) (F0 m 69 ls []) := by
  intro n
  induction n with
  | zero =>
    intros; contradiction
  | succ n ih =>
    intro x1 x2 u H locs ls hwp hw hl
    unfold wp_X1_places_69 at hwp
    refine lv_iload_n (pc := 69) cx.1 cx.2.1 dX1_places_69 rfl (lv_at hl 2 rfl) ?_
    refine lv_aload_n (pc := 70) cx.1 cx.2.1 dX1_places_70 rfl (lv_at hl 0 rfl) ?_
    refine k_getR (pc := 71) (u := u) (v := .ref (z 6 0)) cx hw (lr_PL_pl_8 d z hh cf nh) (C := RX1) (T := TX1) (N := 21) rfl in_X1 (by decide) q487 (fun _ h9 => h9) rfl dX1_places_71 ?_
    refine k_getIN (pc := 74) (u := u) (v := ((u.1 6).1 5)) cx hw (ln_PL_next_5 d z hh cf nh) (C := RX7) (T := TX7) (N := 7) rfl in_X7 (by decide) (nq340 cx.2.2.2.2.2.1) (fun _ h9 => h9) rfl dX1_places_74 ?_
    refine lv_icmp_ge (pc := 77) (tgt := 163) cx.1 cx.2.1 dX1_places_77 (by decide) (fun c1 => ?_) (fun c1 => ?_)
    · replace hwp := hwp.1 c1
      refine lv_iload_n (pc := 163) cx.1 cx.2.1 dX1_places_163 rfl (lv_at hl 1 rfl) ?_
      exact k_zret (pc := 164) (wf := (wP d nh hh cf z)) (u := u) cx hw (ok_Zn hwp.1) hwp.2 (by decide) (by decide) dX1_places_164
    · replace hwp := hwp.2 c1
      refine lv_iload_n (pc := 80) cx.1 cx.2.1 dX1_places_80 rfl (lv_at hl 1 rfl) ?_
      refine lv_if_eq (pc := 81) (tgt := 163) cx.1 cx.2.1 dX1_places_81 (by decide) (fun c2 => ?_) (fun c2 => ?_)
      · replace hwp := hwp.1 c2
        refine lv_iload_n (pc := 163) cx.1 cx.2.1 dX1_places_163 rfl (lv_at hl 1 rfl) ?_
        exact k_zret (pc := 164) (wf := (wP d nh hh cf z)) (u := u) cx hw (ok_Zn hwp.1) hwp.2 (by decide) (by decide) dX1_places_164
      · replace hwp := hwp.2 c2
        refine lv_aload_n (pc := 84) cx.1 cx.2.1 dX1_places_84 rfl (lv_at hl 0 rfl) ?_
        refine k_getR (pc := 85) (u := u) (v := .ref (z 6 0)) cx hw (lr_PL_pl_8 d z hh cf nh) (C := RX1) (T := TX1) (N := 21) rfl in_X1 (by decide) q487 (fun _ h9 => h9) rfl dX1_places_85 ?_
        refine k_getRN (pc := 88) (u := u) (v := .ref (z 6 4)) cx hw (lr_PL_next_4 d z hh cf nh) (C := RX7) (T := TX7) (N := 7) rfl in_X7 (by decide) (nq338 cx.2.2.2.2.2.1) (fun _ h9 => h9) rfl dX1_places_88 ?_
        refine lv_iload_n (pc := 91) cx.1 cx.2.1 dX1_places_91 rfl (lv_at hl 2 rfl) ?_
        refine k_iald (pc := 92) (u := u) (f := ((u.1 6).2.1 4)) cx hw (lx_PL_next_4 d z hh cf nh) 0 rfl rfl hwp.1 dX1_places_92 ?_
        replace hwp := hwp.2
        refine lv_iconst (pc := 93) (v := -1) cx.1 cx.2.1 dX1_places_93 (by decide) ?_
        refine lv_icmp_ne (pc := 94) (tgt := 100) cx.1 cx.2.1 dX1_places_94 (by decide) (fun c3 => ?_) (fun c3 => ?_)
        · replace hwp := hwp.1 c3
          refine lv_aload_n (pc := 100) cx.1 cx.2.1 dX1_places_100 rfl (lv_at hl 0 rfl) ?_
          refine lv_aload_n (pc := 101) cx.1 cx.2.1 dX1_places_101 rfl (lv_at hl 0 rfl) ?_
          refine k_getR (pc := 102) (u := u) (v := .ref (z 6 0)) cx hw (lr_PL_pl_8 d z hh cf nh) (C := RX1) (T := TX1) (N := 21) rfl in_X1 (by decide) q487 (fun _ h9 => h9) rfl dX1_places_102 ?_
          refine k_getRN (pc := 105) (u := u) (v := .ref (z 6 3)) cx hw (lr_PL_next_3 d z hh cf nh) (C := RX7) (T := TX7) (N := 7) rfl in_X7 (by decide) (nq336 cx.2.2.2.2.2.1) (fun _ h9 => h9) rfl dX1_places_105 ?_
          refine lv_iload_n (pc := 108) cx.1 cx.2.1 dX1_places_108 rfl (lv_at hl 2 rfl) ?_
          refine k_sald (pc := 109) (u := u) (f := ((u.1 6).2.1 3)) cx hw (lx_PL_next_3 d z hh cf nh) 1 rfl rfl hwp.1 dX1_places_109 ?_
          replace hwp := hwp.2
          refine k_whole_i (pc := 110) (wf := (wP d nh hh cf z)) (u := u) cx hw (k_runV (pc := 110) (rest := []) (As := [.int (((u.1 6).2.1 3) x2.toNatClampNeg)]) cx hw.1 (hw.2.1.weaken (fun _ _ _ _ => trivial)) hw.2.2 (k_recv cx hw 0 (ci := 0) (q := (RX1, TX1, 21)) rfl rfl) (m_X1_free l dC dI d z hh cf nh u (((u.1 6).2.1 3) x2.toNatClampNeg) hwp H.size) (cwV 1 cx.2.2.2.2.1 (lw_V q685 q687 qs15 q75 q688) rfl rfl rfl hdV_X1_free ⟨Nat.le_of_ble_eq_true rfl, Nat.le_of_ble_eq_true rfl⟩) rfl hl.1 rfl (Nat.le_of_ble_eq_true rfl) dX1_places_110 ⟨Nat.le_of_ble_eq_true rfl, Nat.le_of_ble_eq_true rfl⟩) (fun r5 u4 H locs hwp hw => ?_)
          refine lv_istore_n (pc := 113) (lv' := [(3, .int r5), (0, .ref (z 0 0)), (1, .int x1), (2, .int x2)]) cx.1 cx.2.1 dX1_places_113 rfl hl (by decide) rfl (fun ls hl => ?_)
          refine lv_iload_n (pc := 114) cx.1 cx.2.1 dX1_places_114 rfl (lv_at hl 0 rfl) ?_
          refine lv_iconst (pc := 115) (v := -1) cx.1 cx.2.1 dX1_places_115 (by decide) ?_
          have hJ7 : ∀ z6 : Int32, z6 = (if r5 = (-1 : Int32) then (0 : Int32) else (1 : Int32)) → W p l e ({ frames := 1, cells := 0, slots := 0, locals := 23 } : Room) s m args below meth c H locs 0 0 (MQ below (kQi dC dI (wP d nh hh cf z) K A) args s 0 0 A) (F0 m 124 ls [.int z6]) := by
            intro z6 ez6
            replace hwp := hwp z6 ez6
            refine lv_istore_n (pc := 124) (lv' := [(1, .int z6), (3, .int r5), (0, .ref (z 0 0)), (2, .int x2)]) cx.1 cx.2.1 dX1_places_124 rfl hl (by decide) rfl (fun ls hl => ?_)
            refine lv_iload_n (pc := 125) cx.1 cx.2.1 dX1_places_125 rfl (lv_at hl 0 rfl) ?_
            refine lv_if_ne (pc := 126) (tgt := 132) cx.1 cx.2.1 dX1_places_126 (by decide) (fun c8 => ?_) (fun c8 => ?_)
            · replace hwp := hwp.1 c8
              refine lv_aload_n (pc := 132) cx.1 cx.2.1 dX1_places_132 rfl (lv_at hl 2 rfl) ?_
              refine k_getR (pc := 133) (u := u4) (v := .ref (z 6 0)) cx hw (lr_PL_pl_8 d z hh cf nh) (C := RX1) (T := TX1) (N := 21) rfl in_X1 (by decide) q487 (fun _ h9 => h9) rfl dX1_places_133 ?_
              refine k_getRN (pc := 136) (u := u4) (v := .ref (z 6 2)) cx hw (lr_PL_next_2 d z hh cf nh) (C := RX7) (T := TX7) (N := 7) rfl in_X7 (by decide) (nq334 cx.2.2.2.2.2.1) (fun _ h9 => h9) rfl dX1_places_136 ?_
              refine lv_iload_n (pc := 139) cx.1 cx.2.1 dX1_places_139 rfl (lv_at hl 3 rfl) ?_
              refine lv_iload_n (pc := 140) cx.1 cx.2.1 dX1_places_140 rfl (lv_at hl 1 rfl) ?_
              refine lv_i2c (pc := 141) cx.1 cx.2.1 dX1_places_141 rfl ?_
              refine k_cast (pc := 142) (u := u4) (f := ((u4.1 6).2.1 2)) cx hw (ln_PL_next_2 d z hh cf nh) 4 rfl rfl hwp.1 dX1_places_142 (fun H locs hw => ?_)
              replace hwp := hwp.2
              refine lv_aload_n (pc := 143) cx.1 cx.2.1 dX1_places_143 rfl (lv_at hl 2 rfl) ?_
              refine lv_iload_n (pc := 144) cx.1 cx.2.1 dX1_places_144 rfl (lv_at hl 1 rfl) ?_
              refine lv_aload_n (pc := 145) cx.1 cx.2.1 dX1_places_145 rfl (lv_at hl 2 rfl) ?_
              refine k_getR (pc := 146) (u := (ps_A u4 6 2 (upd ((u4.1 6).2.1 2) x2.toNatClampNeg (vp_nar .char ((r5.toUInt32 % 65536).toInt32))))) (v := .ref (z 6 0)) cx hw (lr_PL_pl_8 d z hh cf nh) (C := RX1) (T := TX1) (N := 21) rfl in_X1 (by decide) q487 (fun _ h9 => h9) rfl dX1_places_146 ?_
              refine k_getRN (pc := 149) (u := (ps_A u4 6 2 (upd ((u4.1 6).2.1 2) x2.toNatClampNeg (vp_nar .char ((r5.toUInt32 % 65536).toInt32))))) (v := .ref (z 6 3)) cx hw (lr_PL_next_3 d z hh cf nh) (C := RX7) (T := TX7) (N := 7) rfl in_X7 (by decide) (nq336 cx.2.2.2.2.2.1) (fun _ h9 => h9) rfl dX1_places_149 ?_
              refine lv_iload_n (pc := 152) cx.1 cx.2.1 dX1_places_152 rfl (lv_at hl 3 rfl) ?_
              refine k_sald (pc := 153) (u := (ps_A u4 6 2 (upd ((u4.1 6).2.1 2) x2.toNatClampNeg (vp_nar .char ((r5.toUInt32 % 65536).toInt32))))) (f := ((u4.1 6).2.1 3)) cx hw (lx_PL_next_3 d z hh cf nh) 1 rfl rfl hwp.1 dX1_places_153 ?_
              replace hwp := hwp.2
              refine k_whole_v (pc := 154) (wf := (wP d nh hh cf z)) (u := (ps_A u4 6 2 (upd ((u4.1 6).2.1 2) x2.toNatClampNeg (vp_nar .char ((r5.toUInt32 % 65536).toInt32))))) cx hw (k_runV (pc := 154) (rest := []) (As := [.int r5, .int (((u4.1 6).2.1 3) x2.toNatClampNeg)]) cx hw.1 (hw.2.1.weaken (fun _ _ _ _ => trivial)) hw.2.2 (k_recv cx hw 0 (ci := 0) (q := (RX1, TX1, 21)) rfl rfl) (m_X1_takes l dC dI d z hh cf nh (ps_A u4 6 2 (upd ((u4.1 6).2.1 2) x2.toNatClampNeg (vp_nar .char ((r5.toUInt32 % 65536).toInt32)))) r5 (((u4.1 6).2.1 3) x2.toNatClampNeg) hwp H.size) (cwV 2 cx.2.2.2.2.1 (lw_V q681 q683 qs14 q75 q684) rfl rfl rfl hdV_X1_takes ⟨Nat.le_of_ble_eq_true rfl, Nat.le_of_ble_eq_true rfl⟩) rfl hl.1 rfl (Nat.le_of_ble_eq_true rfl) dX1_places_154 ⟨Nat.le_of_ble_eq_true rfl, Nat.le_of_ble_eq_true rfl⟩) (fun u9 H locs hwp hw => ?_)
              refine lv_iinc (pc := 157) (v := (x2 + (1 : Int32))) (lv' := [(2, .int (x2 + (1 : Int32))), (1, .int z6), (3, .int r5), (0, .ref (z 0 0))]) cx.1 cx.2.1 dX1_places_157 hl (k := 3) rfl rfl (by decide) rfl (fun ls hl => ?_)
              refine lv_goto (pc := 160) (tgt := 69) cx.1 cx.2.1 dX1_places_160 (by decide) ?_
              exact ih _ _ _ _ _ _ hwp hw (lv_sub hl [3, 1, 0] rfl)
            · replace hwp := hwp.2 c8
              refine lv_goto (pc := 129) (tgt := 157) cx.1 cx.2.1 dX1_places_129 (by decide) ?_
              refine lv_iinc (pc := 157) (v := (x2 + (1 : Int32))) (lv' := [(2, .int (x2 + (1 : Int32))), (1, .int z6), (3, .int r5), (0, .ref (z 0 0))]) cx.1 cx.2.1 dX1_places_157 hl (k := 3) rfl rfl (by decide) rfl (fun ls hl => ?_)
              refine lv_goto (pc := 160) (tgt := 69) cx.1 cx.2.1 dX1_places_160 (by decide) ?_
              exact ih _ _ _ _ _ _ hwp hw (lv_sub hl [3, 1, 0] rfl)
          clear hwp
          refine lv_icmp_eq (pc := 116) (tgt := 123) cx.1 cx.2.1 dX1_places_116 (by decide) (fun c11 => ?_) (fun c11 => ?_)
          · skip
            refine lv_iconst (pc := 123) (v := 0) cx.1 cx.2.1 dX1_places_123 (by decide) ?_
            exact hJ7 _ (if_pos c11).symm
          · skip
            refine lv_iconst (pc := 119) (v := 1) cx.1 cx.2.1 dX1_places_119 (by decide) ?_
            refine lv_goto (pc := 120) (tgt := 124) cx.1 cx.2.1 dX1_places_120 (by decide) ?_
            exact hJ7 _ (if_neg c11).symm
        · replace hwp := hwp.2 c3
          refine lv_goto (pc := 97) (tgt := 157) cx.1 cx.2.1 dX1_places_97 (by decide) ?_
          refine lv_iinc (pc := 157) (v := (x2 + (1 : Int32))) (lv' := [(2, .int (x2 + (1 : Int32))), (0, .ref (z 0 0)), (1, .int x1)]) cx.1 cx.2.1 dX1_places_157 hl (k := 2) rfl rfl (by decide) rfl (fun ls hl => ?_)
          refine lv_goto (pc := 160) (tgt := 69) cx.1 cx.2.1 dX1_places_160 (by decide) ?_
          exact ih _ _ _ _ _ _ hwp hw (lv_sub hl [1, 2, 0] rfl)
set_option maxHeartbeats 4000000 in
theorem wk_X1_places_26 {p : Program} {l : Launch} {e : Env} {s : State} {m : MethodId} {args : Array Value} {below : List Frame} {meth : Method} {c : Code} {A : Nat → Prop} {dC : Nat → ClassId} {dI : Nat → Nat → Nat} {d : Nat → ClassId} {z : Nat → Nat → Nat} {hh : Nat → Nat → Nat} {cf : List Value}{nh : Nat} {K : Int32 → PS → Prop} (cx : Cx p s m args meth c cX1_places RX1 4 (some .boolean) A dC dI d) : ∀ (n : Nat) (x1 : Int32) (u : PS) (H : Heap) (locs : List Loc) (ls : Array Slot), wp_X1_places_26 nh K n x1 u → Wd dC dI A ((wP d nh hh cf z) u) s H locs → lv_has ls 4 [(0, .ref (z 0 0)), (1, .int x1)] → W p l e ({ frames := 1, cells := 0, slots := 0, locals := 23 } : Room) s m args below meth c H locs 0 0 (MQ below (kQi dC dI (wP d nh hh cf z) K A) args s 0 0 A) (F0 m 26 ls []) := by
  intro n
  induction n with
  | zero =>
    intros; contradiction
  | succ n ih =>
    intro x1 u H locs ls hwp hw hl
    unfold wp_X1_places_26 at hwp
    refine lv_iload_n (pc := 26) cx.1 cx.2.1 dX1_places_26 rfl (lv_at hl 1 rfl) ?_
    refine lv_aload_n (pc := 27) cx.1 cx.2.1 dX1_places_27 rfl (lv_at hl 0 rfl) ?_
    refine k_getR (pc := 28) (u := u) (v := .ref (z 4 0)) cx hw (lr_PL_pl_7 d z hh cf nh) (C := RX1) (T := TX1) (N := 21) rfl in_X1 (by decide) q485 (fun _ h9 => h9) rfl dX1_places_28 ?_
    refine k_getIN (pc := 31) (u := u) (v := ((u.1 4).1 5)) cx hw (ln_PL_now_5 d z hh cf nh) (C := RX7) (T := TX7) (N := 7) rfl in_X7 (by decide) (nq340 cx.2.2.2.2.2.1) (fun _ h9 => h9) rfl dX1_places_31 ?_
    refine lv_icmp_ge (pc := 34) (tgt := 65) cx.1 cx.2.1 dX1_places_34 (by decide) (fun c1 => ?_) (fun c1 => ?_)
    · replace hwp := hwp.1 c1
      refine lv_iconst (pc := 65) (v := 1) cx.1 cx.2.1 dX1_places_65 (by decide) ?_
      refine lv_istore_n (pc := 66) (lv' := [(1, .int (1 : Int32)), (0, .ref (z 0 0))]) cx.1 cx.2.1 dX1_places_66 rfl hl (by decide) rfl (fun ls hl => ?_)
      refine lv_iconst (pc := 67) (v := 0) cx.1 cx.2.1 dX1_places_67 (by decide) ?_
      refine lv_istore_n (pc := 68) (lv' := [(2, .int (0 : Int32)), (1, .int (1 : Int32)), (0, .ref (z 0 0))]) cx.1 cx.2.1 dX1_places_68 rfl hl (by decide) rfl (fun ls hl => ?_)
      obtain ⟨n69, hwp⟩ := hwp
      exact wk_X1_places_69 cx n69 _ _ _ _ _ _ hwp hw (lv_sub hl [2, 1, 0] rfl)
    · replace hwp := hwp.2 c1
      refine lv_aload_n (pc := 37) cx.1 cx.2.1 dX1_places_37 rfl (lv_at hl 0 rfl) ?_
      refine lv_aload_n (pc := 38) cx.1 cx.2.1 dX1_places_38 rfl (lv_at hl 0 rfl) ?_
      refine k_getR (pc := 39) (u := u) (v := .ref (z 4 0)) cx hw (lr_PL_pl_7 d z hh cf nh) (C := RX1) (T := TX1) (N := 21) rfl in_X1 (by decide) q485 (fun _ h9 => h9) rfl dX1_places_39 ?_
      refine k_getRN (pc := 42) (u := u) (v := .ref (z 4 2)) cx hw (lr_PL_now_2 d z hh cf nh) (C := RX7) (T := TX7) (N := 7) rfl in_X7 (by decide) (nq334 cx.2.2.2.2.2.1) (fun _ h9 => h9) rfl dX1_places_42 ?_
      refine lv_iload_n (pc := 45) cx.1 cx.2.1 dX1_places_45 rfl (lv_at hl 1 rfl) ?_
      refine k_cald (pc := 46) (u := u) (f := ((u.1 4).2.1 2)) cx hw (lx_PL_now_2 d z hh cf nh) 4 rfl rfl hwp.1 dX1_places_46 ?_
      replace hwp := hwp.2
      refine lv_aload_n (pc := 47) cx.1 cx.2.1 dX1_places_47 rfl (lv_at hl 0 rfl) ?_
      refine k_getR (pc := 48) (u := u) (v := .ref (z 4 0)) cx hw (lr_PL_pl_7 d z hh cf nh) (C := RX1) (T := TX1) (N := 21) rfl in_X1 (by decide) q485 (fun _ h9 => h9) rfl dX1_places_48 ?_
      refine k_getRN (pc := 51) (u := u) (v := .ref (z 4 3)) cx hw (lr_PL_now_3 d z hh cf nh) (C := RX7) (T := TX7) (N := 7) rfl in_X7 (by decide) (nq336 cx.2.2.2.2.2.1) (fun _ h9 => h9) rfl dX1_places_51 ?_
      refine lv_iload_n (pc := 54) cx.1 cx.2.1 dX1_places_54 rfl (lv_at hl 1 rfl) ?_
      refine k_sald (pc := 55) (u := u) (f := ((u.1 4).2.1 3)) cx hw (lx_PL_now_3 d z hh cf nh) 1 rfl rfl hwp.1 dX1_places_55 ?_
      replace hwp := hwp.2
      refine k_whole_v (pc := 56) (wf := (wP d nh hh cf z)) (u := u) cx hw (k_runV (pc := 56) (rest := []) (As := [.int (((u.1 4).2.1 2) x1.toNatClampNeg), .int (((u.1 4).2.1 3) x1.toNatClampNeg)]) cx hw.1 (hw.2.1.weaken (fun _ _ _ _ => trivial)) hw.2.2 (k_recv cx hw 0 (ci := 0) (q := (RX1, TX1, 21)) rfl rfl) (m_X1_takes l dC dI d z hh cf nh u (((u.1 4).2.1 2) x1.toNatClampNeg) (((u.1 4).2.1 3) x1.toNatClampNeg) hwp H.size) (cwV 2 cx.2.2.2.2.1 (lw_V q681 q683 qs14 q75 q684) rfl rfl rfl hdV_X1_takes ⟨Nat.le_of_ble_eq_true rfl, Nat.le_of_ble_eq_true rfl⟩) rfl hl.1 rfl (Nat.le_of_ble_eq_true rfl) dX1_places_56 ⟨Nat.le_of_ble_eq_true rfl, Nat.le_of_ble_eq_true rfl⟩) (fun u2 H locs hwp hw => ?_)
      refine lv_iinc (pc := 59) (v := (x1 + (1 : Int32))) (lv' := [(1, .int (x1 + (1 : Int32))), (0, .ref (z 0 0))]) cx.1 cx.2.1 dX1_places_59 hl (k := 1) rfl rfl (by decide) rfl (fun ls hl => ?_)
      refine lv_goto (pc := 62) (tgt := 26) cx.1 cx.2.1 dX1_places_62 (by decide) ?_
      exact ih _ _ _ _ _ hwp hw (lv_sub hl [1, 0] rfl)
set_option maxHeartbeats 4000000 in
theorem wk_X1_places_4 {p : Program} {l : Launch} {e : Env} {s : State} {m : MethodId} {args : Array Value} {below : List Frame} {meth : Method} {c : Code} {A : Nat → Prop} {dC : Nat → ClassId} {dI : Nat → Nat → Nat} {d : Nat → ClassId} {z : Nat → Nat → Nat} {hh : Nat → Nat → Nat} {cf : List Value}{nh : Nat} {K : Int32 → PS → Prop} (cx : Cx p s m args meth c cX1_places RX1 4 (some .boolean) A dC dI d) : ∀ (n : Nat) (x1 : Int32) (u : PS) (H : Heap) (locs : List Loc) (ls : Array Slot), wp_X1_places_4 nh K n x1 u → Wd dC dI A ((wP d nh hh cf z) u) s H locs → lv_has ls 4 [(0, .ref (z 0 0)), (1, .int x1)] → W p l e ({ frames := 1, cells := 0, slots := 0, locals := 23 } : Room) s m args below meth c H locs 0 0 (MQ below (kQi dC dI (wP d nh hh cf z) K A) args s 0 0 A) (F0 m 4 ls []) := by
  intro n
  induction n with
  | zero =>
    intros; contradiction
  | succ n ih =>
    intro x1 u H locs ls hwp hw hl
    unfold wp_X1_places_4 at hwp
    refine lv_iload_n (pc := 4) cx.1 cx.2.1 dX1_places_4 rfl (lv_at hl 1 rfl) ?_
    refine lv_sipush (pc := 5) (v := 4096) cx.1 cx.2.1 dX1_places_5 (by decide) ?_
    refine lv_icmp_ge (pc := 8) (tgt := 24) cx.1 cx.2.1 dX1_places_8 (by decide) (fun c1 => ?_) (fun c1 => ?_)
    · replace hwp := hwp.1 c1
      refine lv_iconst (pc := 24) (v := 0) cx.1 cx.2.1 dX1_places_24 (by decide) ?_
      refine lv_istore_n (pc := 25) (lv' := [(1, .int (0 : Int32)), (0, .ref (z 0 0))]) cx.1 cx.2.1 dX1_places_25 rfl hl (by decide) rfl (fun ls hl => ?_)
      obtain ⟨n26, hwp⟩ := hwp
      exact wk_X1_places_26 cx n26 _ _ _ _ _ hwp hw (lv_sub hl [1, 0] rfl)
    · replace hwp := hwp.2 c1
      refine lv_aload_n (pc := 11) cx.1 cx.2.1 dX1_places_11 rfl (lv_at hl 0 rfl) ?_
      refine k_getR (pc := 12) (u := u) (v := .ref (z 0 2)) cx hw (lr_PL_pl_11 d z hh cf nh) (C := RX1) (T := TX1) (N := 21) rfl in_X1 (by decide) q490 (fun _ h9 => h9) rfl dX1_places_12 ?_
      refine lv_iload_n (pc := 15) cx.1 cx.2.1 dX1_places_15 rfl (lv_at hl 1 rfl) ?_
      refine lv_iconst (pc := 16) (v := 0) cx.1 cx.2.1 dX1_places_16 (by decide) ?_
      refine k_zast (pc := 17) (u := u) (f := ((u.1 0).2.1 11)) cx hw (ln_PL_pl_11 d z hh cf nh) 5 rfl rfl hwp.1 dX1_places_17 (fun H locs hw => ?_)
      replace hwp := hwp.2
      refine lv_iinc (pc := 18) (v := (x1 + (1 : Int32))) (lv' := [(1, .int (x1 + (1 : Int32))), (0, .ref (z 0 0))]) cx.1 cx.2.1 dX1_places_18 hl (k := 1) rfl rfl (by decide) rfl (fun ls hl => ?_)
      refine lv_goto (pc := 21) (tgt := 4) cx.1 cx.2.1 dX1_places_21 (by decide) ?_
      exact ih _ _ _ _ _ hwp hw (lv_sub hl [1, 0] rfl)
set_option maxHeartbeats 4000000 in
theorem m_X1_places (l : Launch) (dC : Nat → ClassId) (dI : Nat → Nat → Nat) (d : Nat → ClassId) (z : Nat → Nat → Nat) (hh : Nat → Nat → Nat) (cf : List Value) (nh : Nat) (u : PS) {K : Int32 → PS → Prop} (hwp : wp_X1_places nh u K) : kM l yX1_places cX1_places 4 (some .boolean) ({ frames := 1, cells := 0, slots := 0, locals := 23 } : Room) dC dI d [.ref (z 0 0)] (wP d nh hh cf z) u (kQi dC dI (wP d nh hh cf z) K) 0 0 := by
  refine kM_start rfl (Nat.le_of_ble_eq_true rfl) ?_
  intro p e s m below meth c A ls cx hnm hw hl
  generalize hargs : ([.ref (z 0 0)] : List Value).toArray = args at cx ⊢
  unfold wp_X1_places at hwp
  replace hl : lv_has ls 4 [(0, .ref (z 0 0))] := hl
  generalize hH : s.heap = H at hw ⊢
  generalize hlo : ([] : List Loc) = locs at hw ⊢
  refine lv_sipush (pc := 0) (v := 2435) cx.1 cx.2.1 dX1_places_0 (by decide) ?_
  refine lv_istore_n (pc := 3) (lv' := [(1, .int (2435 : Int32)), (0, .ref (z 0 0))]) cx.1 cx.2.1 dX1_places_3 rfl hl (by decide) rfl (fun ls hl => ?_)
  obtain ⟨n4, hwp⟩ := hwp
  exact wk_X1_places_4 cx n4 _ _ _ _ _ hwp hw (lv_sub hl [1, 0] rfl)
set_option maxHeartbeats 4000000 in
theorem m_X1_entry (l : Launch) (dC : Nat → ClassId) (dI : Nat → Nat → Nat) (d : Nat → ClassId) (z : Nat → Nat → Nat) (hh : Nat → Nat → Nat) (cf : List Value) (nh : Nat) (u : PS) (x1 : Int32) (x2 : Int32) {K : PS → Prop} {E : Nat → PS → Prop} (hwp : wp_X1_entry nh u x1 x2 K E) : kMT l yX1_entry cX1_entry 4 none ({ frames := 1, cells := 0, slots := 0, locals := 22 } : Room) dC dI d [.ref (z 0 0), .int x1, .int x2] (wP d nh hh cf z) u (kXv dC dI (wP d nh hh cf z) K E) 0 0 := by
  refine kMT_start rfl (Nat.le_of_ble_eq_true rfl) ?_
  intro p e s m below meth c A ls cx hnm xt hw hl
  generalize hargs : ([.ref (z 0 0), .int x1, .int x2] : List Value).toArray = args at cx ⊢
  unfold wp_X1_entry at hwp
  replace hl : lv_has ls 4 [(0, .ref (z 0 0)), (1, .int x1), (2, .int x2)] := hl
  generalize hH : s.heap = H at hw ⊢
  generalize hlo : ([] : List Loc) = locs at hw ⊢
  refine lv_aload_n (pc := 0) cx.1 cx.2.1 dX1_entry_0 rfl (lv_at hl 0 rfl) ?_
  refine k_getR (pc := 1) (u := u) (v := .ref (z 6 0)) cx hw (lr_PL_pl_8 d z hh cf nh) (C := RX1) (T := TX1) (N := 21) rfl in_X1 (by decide) q487 (fun _ h9 => h9) rfl dX1_entry_1 ?_
  refine k_getRN (pc := 4) (u := u) (v := .ref (z 7 0)) cx hw (lr_PL_next_0 d z hh cf nh) (C := RX7) (T := TX7) (N := 7) rfl in_X7 (by decide) (nq329 cx.2.2.2.2.2.1) (fun _ h9 => h9) rfl dX1_entry_4 ?_
  refine lv_astore_n (pc := 7) (lv' := [(3, .ref (z 7 0)), (0, .ref (z 0 0)), (1, .int x1), (2, .int x2)]) cx.1 cx.2.1 dX1_entry_7 rfl hl (by decide) rfl (fun ls hl => ?_)
  refine lv_aload_n (pc := 8) cx.1 cx.2.1 dX1_entry_8 rfl (lv_at hl 1 rfl) ?_
  refine k_getR (pc := 9) (u := u) (v := .ref (z 1 0)) cx hw (lr_PL_pl_3 d z hh cf nh) (C := RX1) (T := TX1) (N := 21) rfl in_X1 (by decide) q479 (fun _ h9 => h9) rfl dX1_entry_9 ?_
  refine lv_iload_n (pc := 12) cx.1 cx.2.1 dX1_entry_12 rfl (lv_at hl 2 rfl) ?_
  refine lv_aload_n (pc := 13) cx.1 cx.2.1 dX1_entry_13 rfl (lv_at hl 1 rfl) ?_
  refine k_getR (pc := 14) (u := u) (v := .ref (z 6 0)) cx hw (lr_PL_pl_8 d z hh cf nh) (C := RX1) (T := TX1) (N := 21) rfl in_X1 (by decide) q487 (fun _ h9 => h9) rfl dX1_entry_14 ?_
  refine k_getRN (pc := 17) (u := u) (v := .ref (z 6 1)) cx hw (lr_PL_next_1 d z hh cf nh) (C := RX7) (T := TX7) (N := 7) rfl in_X7 (by decide) (nq331 cx.2.2.2.2.2.1) (fun _ h9 => h9) rfl dX1_entry_17 ?_
  refine lv_iload_n (pc := 20) cx.1 cx.2.1 dX1_entry_20 rfl (lv_at hl 3 rfl) ?_
  refine k_bald (pc := 21) (u := u) (f := ((u.1 6).2.1 1)) cx hw (lx_PL_next_1 d z hh cf nh) 3 rfl rfl hwp.1 dX1_entry_21 ?_
  replace hwp := hwp.2
  have hpt := k_part (w := (wDk d (z 1) cf) (u.1 1)) (is := [4, 5, 6]) hw (pc_PL_X2_disk d z hh cf nh u) (by decide)
  refine k_part_Tv (pc := 22) (wf := (wDk d (z 1) cf)) (u := (u.1 1)) cx hw [4, 5, 6] (pc_PL_X2_disk d z hh cf nh u) (by decide) (fun _ => rfl) (pw_PL_X2_disk d z hh cf nh u) (k_runVT (pc := 22) (rest := []) (As := [.int x1, .int (((u.1 6).2.1 1) x2.toNatClampNeg)]) cx hpt.1 hpt.2 hw.2.2 (k_recv cx hw 4 (ci := 1) (q := (RX2, TX2, 5)) rfl rfl) (m_X2_write l dC dI d (z 1) cf  (u.1 1) x1 (((u.1 6).2.1 1) x2.toNatClampNeg) hwp H.size) (cwV 2 cx.2.2.2.2.1 (lw_V q594 q595 q596 q76 q597) rfl rfl rfl hdV_X2_write ⟨Nat.le_of_ble_eq_true rfl, Nat.le_of_ble_eq_true rfl⟩) rfl hl.1 rfl (Nat.le_of_ble_eq_true rfl) dX1_entry_22 ⟨Nat.le_of_ble_eq_true rfl, Nat.le_of_ble_eq_true rfl⟩) (fun v1 H locs hwp hw => ?_) (fun k3 v4 a5 H locs hwp hw hx => ?_)
  · skip
    refine lv_aload_n (pc := 25) cx.1 cx.2.1 dX1_entry_25 rfl (lv_at hl 1 rfl) ?_
    refine k_getR (pc := 26) (u := (ps_O u 1 v1)) (v := .ref (z 1 0)) cx hw (lr_PL_pl_3 d z hh cf nh) (C := RX1) (T := TX1) (N := 21) rfl in_X1 (by decide) q479 (fun _ h9 => h9) rfl dX1_entry_26 ?_
    refine lv_iload_n (pc := 29) cx.1 cx.2.1 dX1_entry_29 rfl (lv_at hl 2 rfl) ?_
    refine lv_iconst (pc := 30) (v := 1) cx.1 cx.2.1 dX1_entry_30 (by decide) ?_
    refine lv_iadd (pc := 31) cx.1 cx.2.1 dX1_entry_31 ?_
    refine lv_aload_n (pc := 32) cx.1 cx.2.1 dX1_entry_32 rfl (lv_at hl 0 rfl) ?_
    refine k_getRN (pc := 33) (u := (ps_O u 1 v1)) (v := .ref (z 7 1)) cx hw (lr_PL_nextsp_0 d z hh cf nh) (C := RX8) (T := TX8) (N := 6) rfl in_X8 (by decide) (nq296 cx.2.2.2.2.2.1) (fun _ h9 => h9) rfl dX1_entry_33 ?_
    refine lv_iload_n (pc := 36) cx.1 cx.2.1 dX1_entry_36 rfl (lv_at hl 3 rfl) ?_
    refine k_iald (pc := 37) (u := (ps_O u 1 v1)) (f := ((u.1 7).2.1 0)) cx hw (lx_PL_nextsp_0 d z hh cf nh) 0 rfl rfl hwp.1 dX1_entry_37 ?_
    replace hwp := hwp.2
    have hpt := k_part (w := (wDk d (z 1) cf) v1) (is := [4, 5, 6]) hw (pc_PL_X2_disk d z hh cf nh (ps_O u 1 v1)) (by decide)
    refine k_part_Tv (pc := 38) (wf := (wDk d (z 1) cf)) (u := v1) cx hw [4, 5, 6] (pc_PL_X2_disk d z hh cf nh (ps_O u 1 v1)) (by decide) (fun _ => rfl) (pw_PL_X2_disk d z hh cf nh (ps_O u 1 v1)) (k_runVT (pc := 38) (rest := []) (As := [.int (x1 + (1 : Int32)), .int (((u.1 7).2.1 0) x2.toNatClampNeg)]) cx hpt.1 hpt.2 hw.2.2 (k_recv cx hw 4 (ci := 1) (q := (RX2, TX2, 5)) rfl rfl) (m_X2_write l dC dI d (z 1) cf  v1 (x1 + (1 : Int32)) (((u.1 7).2.1 0) x2.toNatClampNeg) hwp H.size) (cwV 2 cx.2.2.2.2.1 (lw_V q594 q595 q596 q76 q597) rfl rfl rfl hdV_X2_write ⟨Nat.le_of_ble_eq_true rfl, Nat.le_of_ble_eq_true rfl⟩) rfl hl.1 rfl (Nat.le_of_ble_eq_true rfl) dX1_entry_38 ⟨Nat.le_of_ble_eq_true rfl, Nat.le_of_ble_eq_true rfl⟩) (fun v6 H locs hwp hw => ?_) (fun k8 v9 a10 H locs hwp hw hx => ?_)
    · skip
      refine lv_aload_n (pc := 41) cx.1 cx.2.1 dX1_entry_41 rfl (lv_at hl 1 rfl) ?_
      refine k_getR (pc := 42) (u := (ps_O (ps_O u 1 v1) 1 v6)) (v := .ref (z 1 0)) cx hw (lr_PL_pl_3 d z hh cf nh) (C := RX1) (T := TX1) (N := 21) rfl in_X1 (by decide) q479 (fun _ h9 => h9) rfl dX1_entry_42 ?_
      refine lv_iload_n (pc := 45) cx.1 cx.2.1 dX1_entry_45 rfl (lv_at hl 2 rfl) ?_
      refine lv_iconst (pc := 46) (v := 2) cx.1 cx.2.1 dX1_entry_46 (by decide) ?_
      refine lv_iadd (pc := 47) cx.1 cx.2.1 dX1_entry_47 ?_
      refine lv_aload_n (pc := 48) cx.1 cx.2.1 dX1_entry_48 rfl (lv_at hl 0 rfl) ?_
      refine k_getRN (pc := 49) (u := (ps_O (ps_O u 1 v1) 1 v6)) (v := .ref (z 7 2)) cx hw (lr_PL_nextsp_1 d z hh cf nh) (C := RX8) (T := TX8) (N := 6) rfl in_X8 (by decide) (nq298 cx.2.2.2.2.2.1) (fun _ h9 => h9) rfl dX1_entry_49 ?_
      refine lv_iload_n (pc := 52) cx.1 cx.2.1 dX1_entry_52 rfl (lv_at hl 3 rfl) ?_
      refine k_iald (pc := 53) (u := (ps_O (ps_O u 1 v1) 1 v6)) (f := ((u.1 7).2.1 1)) cx hw (lx_PL_nextsp_1 d z hh cf nh) 0 rfl rfl hwp.1 dX1_entry_53 ?_
      replace hwp := hwp.2
      have hpt := k_part (w := (wDk d (z 1) cf) v6) (is := [4, 5, 6]) hw (pc_PL_X2_disk d z hh cf nh (ps_O (ps_O u 1 v1) 1 v6)) (by decide)
      refine k_part_Tv (pc := 54) (wf := (wDk d (z 1) cf)) (u := v6) cx hw [4, 5, 6] (pc_PL_X2_disk d z hh cf nh (ps_O (ps_O u 1 v1) 1 v6)) (by decide) (fun _ => rfl) (pw_PL_X2_disk d z hh cf nh (ps_O (ps_O u 1 v1) 1 v6)) (k_runVT (pc := 54) (rest := []) (As := [.int (x1 + (2 : Int32)), .int (((u.1 7).2.1 1) x2.toNatClampNeg)]) cx hpt.1 hpt.2 hw.2.2 (k_recv cx hw 4 (ci := 1) (q := (RX2, TX2, 5)) rfl rfl) (m_X2_write l dC dI d (z 1) cf  v6 (x1 + (2 : Int32)) (((u.1 7).2.1 1) x2.toNatClampNeg) hwp H.size) (cwV 2 cx.2.2.2.2.1 (lw_V q594 q595 q596 q76 q597) rfl rfl rfl hdV_X2_write ⟨Nat.le_of_ble_eq_true rfl, Nat.le_of_ble_eq_true rfl⟩) rfl hl.1 rfl (Nat.le_of_ble_eq_true rfl) dX1_entry_54 ⟨Nat.le_of_ble_eq_true rfl, Nat.le_of_ble_eq_true rfl⟩) (fun v11 H locs hwp hw => ?_) (fun k13 v14 a15 H locs hwp hw hx => ?_)
      · skip
        refine lv_aload_n (pc := 57) cx.1 cx.2.1 dX1_entry_57 rfl (lv_at hl 1 rfl) ?_
        refine k_getR (pc := 58) (u := (ps_O (ps_O (ps_O u 1 v1) 1 v6) 1 v11)) (v := .ref (z 1 0)) cx hw (lr_PL_pl_3 d z hh cf nh) (C := RX1) (T := TX1) (N := 21) rfl in_X1 (by decide) q479 (fun _ h9 => h9) rfl dX1_entry_58 ?_
        refine lv_iload_n (pc := 61) cx.1 cx.2.1 dX1_entry_61 rfl (lv_at hl 2 rfl) ?_
        refine lv_iconst (pc := 62) (v := 3) cx.1 cx.2.1 dX1_entry_62 (by decide) ?_
        refine lv_iadd (pc := 63) cx.1 cx.2.1 dX1_entry_63 ?_
        refine lv_aload_n (pc := 64) cx.1 cx.2.1 dX1_entry_64 rfl (lv_at hl 0 rfl) ?_
        refine k_getRN (pc := 65) (u := (ps_O (ps_O (ps_O u 1 v1) 1 v6) 1 v11)) (v := .ref (z 7 5)) cx hw (lr_PL_nextsp_4 d z hh cf nh) (C := RX8) (T := TX8) (N := 6) rfl in_X8 (by decide) (nq308 cx.2.2.2.2.2.1) (fun _ h9 => h9) rfl dX1_entry_65 ?_
        refine lv_iload_n (pc := 68) cx.1 cx.2.1 dX1_entry_68 rfl (lv_at hl 3 rfl) ?_
        refine k_sald (pc := 69) (u := (ps_O (ps_O (ps_O u 1 v1) 1 v6) 1 v11)) (f := ((u.1 7).2.1 4)) cx hw (lx_PL_nextsp_4 d z hh cf nh) 1 rfl rfl hwp.1 dX1_entry_69 ?_
        replace hwp := hwp.2
        have hpt := k_part (w := (wDk d (z 1) cf) v11) (is := [4, 5, 6]) hw (pc_PL_X2_disk d z hh cf nh (ps_O (ps_O (ps_O u 1 v1) 1 v6) 1 v11)) (by decide)
        refine k_part_Tv (pc := 70) (wf := (wDk d (z 1) cf)) (u := v11) cx hw [4, 5, 6] (pc_PL_X2_disk d z hh cf nh (ps_O (ps_O (ps_O u 1 v1) 1 v6) 1 v11)) (by decide) (fun _ => rfl) (pw_PL_X2_disk d z hh cf nh (ps_O (ps_O (ps_O u 1 v1) 1 v6) 1 v11)) (k_runVT (pc := 70) (rest := []) (As := [.int (x1 + (3 : Int32)), .int (((u.1 7).2.1 4) x2.toNatClampNeg)]) cx hpt.1 hpt.2 hw.2.2 (k_recv cx hw 4 (ci := 1) (q := (RX2, TX2, 5)) rfl rfl) (m_X2_write l dC dI d (z 1) cf  v11 (x1 + (3 : Int32)) (((u.1 7).2.1 4) x2.toNatClampNeg) hwp H.size) (cwV 2 cx.2.2.2.2.1 (lw_V q594 q595 q596 q76 q597) rfl rfl rfl hdV_X2_write ⟨Nat.le_of_ble_eq_true rfl, Nat.le_of_ble_eq_true rfl⟩) rfl hl.1 rfl (Nat.le_of_ble_eq_true rfl) dX1_entry_70 ⟨Nat.le_of_ble_eq_true rfl, Nat.le_of_ble_eq_true rfl⟩) (fun v16 H locs hwp hw => ?_) (fun k18 v19 a20 H locs hwp hw hx => ?_)
        · skip
          refine lv_aload_n (pc := 73) cx.1 cx.2.1 dX1_entry_73 rfl (lv_at hl 1 rfl) ?_
          refine k_getR (pc := 74) (u := (ps_O (ps_O (ps_O (ps_O u 1 v1) 1 v6) 1 v11) 1 v16)) (v := .ref (z 1 0)) cx hw (lr_PL_pl_3 d z hh cf nh) (C := RX1) (T := TX1) (N := 21) rfl in_X1 (by decide) q479 (fun _ h9 => h9) rfl dX1_entry_74 ?_
          refine lv_iload_n (pc := 77) cx.1 cx.2.1 dX1_entry_77 rfl (lv_at hl 2 rfl) ?_
          refine lv_iconst (pc := 78) (v := 4) cx.1 cx.2.1 dX1_entry_78 (by decide) ?_
          refine lv_iadd (pc := 79) cx.1 cx.2.1 dX1_entry_79 ?_
          refine lv_aload_n (pc := 80) cx.1 cx.2.1 dX1_entry_80 rfl (lv_at hl 0 rfl) ?_
          refine k_getRN (pc := 81) (u := (ps_O (ps_O (ps_O (ps_O u 1 v1) 1 v6) 1 v11) 1 v16)) (v := .ref (z 7 3)) cx hw (lr_PL_nextsp_2 d z hh cf nh) (C := RX8) (T := TX8) (N := 6) rfl in_X8 (by decide) (nq301 cx.2.2.2.2.2.1) (fun _ h9 => h9) rfl dX1_entry_81 ?_
          refine lv_iload_n (pc := 84) cx.1 cx.2.1 dX1_entry_84 rfl (lv_at hl 3 rfl) ?_
          refine k_iald (pc := 85) (u := (ps_O (ps_O (ps_O (ps_O u 1 v1) 1 v6) 1 v11) 1 v16)) (f := ((u.1 7).2.1 2)) cx hw (lx_PL_nextsp_2 d z hh cf nh) 0 rfl rfl hwp.1 dX1_entry_85 ?_
          replace hwp := hwp.2
          have hpt := k_part (w := (wDk d (z 1) cf) v16) (is := [4, 5, 6]) hw (pc_PL_X2_disk d z hh cf nh (ps_O (ps_O (ps_O (ps_O u 1 v1) 1 v6) 1 v11) 1 v16)) (by decide)
          refine k_part_Tv (pc := 86) (wf := (wDk d (z 1) cf)) (u := v16) cx hw [4, 5, 6] (pc_PL_X2_disk d z hh cf nh (ps_O (ps_O (ps_O (ps_O u 1 v1) 1 v6) 1 v11) 1 v16)) (by decide) (fun _ => rfl) (pw_PL_X2_disk d z hh cf nh (ps_O (ps_O (ps_O (ps_O u 1 v1) 1 v6) 1 v11) 1 v16)) (k_runVT (pc := 86) (rest := []) (As := [.int (x1 + (4 : Int32)), .int (((u.1 7).2.1 2) x2.toNatClampNeg)]) cx hpt.1 hpt.2 hw.2.2 (k_recv cx hw 4 (ci := 1) (q := (RX2, TX2, 5)) rfl rfl) (m_X2_write l dC dI d (z 1) cf  v16 (x1 + (4 : Int32)) (((u.1 7).2.1 2) x2.toNatClampNeg) hwp H.size) (cwV 2 cx.2.2.2.2.1 (lw_V q594 q595 q596 q76 q597) rfl rfl rfl hdV_X2_write ⟨Nat.le_of_ble_eq_true rfl, Nat.le_of_ble_eq_true rfl⟩) rfl hl.1 rfl (Nat.le_of_ble_eq_true rfl) dX1_entry_86 ⟨Nat.le_of_ble_eq_true rfl, Nat.le_of_ble_eq_true rfl⟩) (fun v21 H locs hwp hw => ?_) (fun k23 v24 a25 H locs hwp hw hx => ?_)
          · skip
            refine lv_aload_n (pc := 89) cx.1 cx.2.1 dX1_entry_89 rfl (lv_at hl 1 rfl) ?_
            refine k_getR (pc := 90) (u := (ps_O (ps_O (ps_O (ps_O (ps_O u 1 v1) 1 v6) 1 v11) 1 v16) 1 v21)) (v := .ref (z 1 0)) cx hw (lr_PL_pl_3 d z hh cf nh) (C := RX1) (T := TX1) (N := 21) rfl in_X1 (by decide) q479 (fun _ h9 => h9) rfl dX1_entry_90 ?_
            refine lv_iload_n (pc := 93) cx.1 cx.2.1 dX1_entry_93 rfl (lv_at hl 2 rfl) ?_
            refine lv_iconst (pc := 94) (v := 5) cx.1 cx.2.1 dX1_entry_94 (by decide) ?_
            refine lv_iadd (pc := 95) cx.1 cx.2.1 dX1_entry_95 ?_
            refine lv_aload_n (pc := 96) cx.1 cx.2.1 dX1_entry_96 rfl (lv_at hl 0 rfl) ?_
            refine k_getRN (pc := 97) (u := (ps_O (ps_O (ps_O (ps_O (ps_O u 1 v1) 1 v6) 1 v11) 1 v16) 1 v21)) (v := .ref (z 7 4)) cx hw (lr_PL_nextsp_3 d z hh cf nh) (C := RX8) (T := TX8) (N := 6) rfl in_X8 (by decide) (nq304 cx.2.2.2.2.2.1) (fun _ h9 => h9) rfl dX1_entry_97 ?_
            refine lv_iload_n (pc := 100) cx.1 cx.2.1 dX1_entry_100 rfl (lv_at hl 3 rfl) ?_
            refine k_iald (pc := 101) (u := (ps_O (ps_O (ps_O (ps_O (ps_O u 1 v1) 1 v6) 1 v11) 1 v16) 1 v21)) (f := ((u.1 7).2.1 3)) cx hw (lx_PL_nextsp_3 d z hh cf nh) 0 rfl rfl hwp.1 dX1_entry_101 ?_
            replace hwp := hwp.2
            have hpt := k_part (w := (wDk d (z 1) cf) v21) (is := [4, 5, 6]) hw (pc_PL_X2_disk d z hh cf nh (ps_O (ps_O (ps_O (ps_O (ps_O u 1 v1) 1 v6) 1 v11) 1 v16) 1 v21)) (by decide)
            refine k_part_Tv (pc := 102) (wf := (wDk d (z 1) cf)) (u := v21) cx hw [4, 5, 6] (pc_PL_X2_disk d z hh cf nh (ps_O (ps_O (ps_O (ps_O (ps_O u 1 v1) 1 v6) 1 v11) 1 v16) 1 v21)) (by decide) (fun _ => rfl) (pw_PL_X2_disk d z hh cf nh (ps_O (ps_O (ps_O (ps_O (ps_O u 1 v1) 1 v6) 1 v11) 1 v16) 1 v21)) (k_runVT (pc := 102) (rest := []) (As := [.int (x1 + (5 : Int32)), .int (((u.1 7).2.1 3) x2.toNatClampNeg)]) cx hpt.1 hpt.2 hw.2.2 (k_recv cx hw 4 (ci := 1) (q := (RX2, TX2, 5)) rfl rfl) (m_X2_write l dC dI d (z 1) cf  v21 (x1 + (5 : Int32)) (((u.1 7).2.1 3) x2.toNatClampNeg) hwp H.size) (cwV 2 cx.2.2.2.2.1 (lw_V q594 q595 q596 q76 q597) rfl rfl rfl hdV_X2_write ⟨Nat.le_of_ble_eq_true rfl, Nat.le_of_ble_eq_true rfl⟩) rfl hl.1 rfl (Nat.le_of_ble_eq_true rfl) dX1_entry_102 ⟨Nat.le_of_ble_eq_true rfl, Nat.le_of_ble_eq_true rfl⟩) (fun v26 H locs hwp hw => ?_) (fun k28 v29 a30 H locs hwp hw hx => ?_)
            · skip
              refine lv_aload_n (pc := 105) cx.1 cx.2.1 dX1_entry_105 rfl (lv_at hl 1 rfl) ?_
              refine k_getR (pc := 106) (u := (ps_O (ps_O (ps_O (ps_O (ps_O (ps_O u 1 v1) 1 v6) 1 v11) 1 v16) 1 v21) 1 v26)) (v := .ref (z 1 0)) cx hw (lr_PL_pl_3 d z hh cf nh) (C := RX1) (T := TX1) (N := 21) rfl in_X1 (by decide) q479 (fun _ h9 => h9) rfl dX1_entry_106 ?_
              refine lv_iload_n (pc := 109) cx.1 cx.2.1 dX1_entry_109 rfl (lv_at hl 2 rfl) ?_
              refine lv_bipush (pc := 110) (v := 6) cx.1 cx.2.1 dX1_entry_110 (by decide) ?_
              refine lv_iadd (pc := 112) cx.1 cx.2.1 dX1_entry_112 ?_
              refine lv_aload_n (pc := 113) cx.1 cx.2.1 dX1_entry_113 rfl (lv_at hl 0 rfl) ?_
              refine k_getRN (pc := 114) (u := (ps_O (ps_O (ps_O (ps_O (ps_O (ps_O u 1 v1) 1 v6) 1 v11) 1 v16) 1 v21) 1 v26)) (v := .ref (z 7 6)) cx hw (lr_PL_nextsp_5 d z hh cf nh) (C := RX8) (T := TX8) (N := 6) rfl in_X8 (by decide) (nq311 cx.2.2.2.2.2.1) (fun _ h9 => h9) rfl dX1_entry_114 ?_
              refine lv_iload_n (pc := 117) cx.1 cx.2.1 dX1_entry_117 rfl (lv_at hl 3 rfl) ?_
              refine k_lald (pc := 118) (u := (ps_O (ps_O (ps_O (ps_O (ps_O (ps_O u 1 v1) 1 v6) 1 v11) 1 v16) 1 v21) 1 v26)) (f := ((u.1 7).2.2.2 5)) cx hw (lx_PL_nextsp_5 d z hh cf nh) 2 rfl rfl hwp.1 dX1_entry_118 ?_
              replace hwp := hwp.2
              refine lv_bipush (pc := 119) (v := 32) cx.1 cx.2.1 dX1_entry_119 (by decide) ?_
              refine lv_lshr (pc := 121) cx.1 cx.2.1 dX1_entry_121 rfl ?_
              refine lv_l2i (pc := 122) cx.1 cx.2.1 dX1_entry_122 rfl ?_
              have hpt := k_part (w := (wDk d (z 1) cf) v26) (is := [4, 5, 6]) hw (pc_PL_X2_disk d z hh cf nh (ps_O (ps_O (ps_O (ps_O (ps_O (ps_O u 1 v1) 1 v6) 1 v11) 1 v16) 1 v21) 1 v26)) (by decide)
              refine k_part_Tv (pc := 123) (wf := (wDk d (z 1) cf)) (u := v26) cx hw [4, 5, 6] (pc_PL_X2_disk d z hh cf nh (ps_O (ps_O (ps_O (ps_O (ps_O (ps_O u 1 v1) 1 v6) 1 v11) 1 v16) 1 v21) 1 v26)) (by decide) (fun _ => rfl) (pw_PL_X2_disk d z hh cf nh (ps_O (ps_O (ps_O (ps_O (ps_O (ps_O u 1 v1) 1 v6) 1 v11) 1 v16) 1 v21) 1 v26)) (k_runVT (pc := 123) (rest := []) (As := [.int (x1 + (6 : Int32)), .int ((((u.1 7).2.2.2 5) x2.toNatClampNeg) >>> ((32 : Int32).toInt64 &&& 63)).toInt32]) cx hpt.1 hpt.2 hw.2.2 (k_recv cx hw 4 (ci := 1) (q := (RX2, TX2, 5)) rfl rfl) (m_X2_write l dC dI d (z 1) cf  v26 (x1 + (6 : Int32)) (((((u.1 7).2.2.2 5) x2.toNatClampNeg) >>> ((32 : Int32).toInt64 &&& 63)).toInt32) hwp H.size) (cwV 2 cx.2.2.2.2.1 (lw_V q594 q595 q596 q76 q597) rfl rfl rfl hdV_X2_write ⟨Nat.le_of_ble_eq_true rfl, Nat.le_of_ble_eq_true rfl⟩) rfl hl.1 rfl (Nat.le_of_ble_eq_true rfl) dX1_entry_123 ⟨Nat.le_of_ble_eq_true rfl, Nat.le_of_ble_eq_true rfl⟩) (fun v31 H locs hwp hw => ?_) (fun k33 v34 a35 H locs hwp hw hx => ?_)
              · skip
                refine lv_aload_n (pc := 126) cx.1 cx.2.1 dX1_entry_126 rfl (lv_at hl 1 rfl) ?_
                refine k_getR (pc := 127) (u := (ps_O (ps_O (ps_O (ps_O (ps_O (ps_O (ps_O u 1 v1) 1 v6) 1 v11) 1 v16) 1 v21) 1 v26) 1 v31)) (v := .ref (z 1 0)) cx hw (lr_PL_pl_3 d z hh cf nh) (C := RX1) (T := TX1) (N := 21) rfl in_X1 (by decide) q479 (fun _ h9 => h9) rfl dX1_entry_127 ?_
                refine lv_iload_n (pc := 130) cx.1 cx.2.1 dX1_entry_130 rfl (lv_at hl 2 rfl) ?_
                refine lv_bipush (pc := 131) (v := 7) cx.1 cx.2.1 dX1_entry_131 (by decide) ?_
                refine lv_iadd (pc := 133) cx.1 cx.2.1 dX1_entry_133 ?_
                refine lv_aload_n (pc := 134) cx.1 cx.2.1 dX1_entry_134 rfl (lv_at hl 0 rfl) ?_
                refine k_getRN (pc := 135) (u := (ps_O (ps_O (ps_O (ps_O (ps_O (ps_O (ps_O u 1 v1) 1 v6) 1 v11) 1 v16) 1 v21) 1 v26) 1 v31)) (v := .ref (z 7 6)) cx hw (lr_PL_nextsp_5 d z hh cf nh) (C := RX8) (T := TX8) (N := 6) rfl in_X8 (by decide) (nq311 cx.2.2.2.2.2.1) (fun _ h9 => h9) rfl dX1_entry_135 ?_
                refine lv_iload_n (pc := 138) cx.1 cx.2.1 dX1_entry_138 rfl (lv_at hl 3 rfl) ?_
                refine k_lald (pc := 139) (u := (ps_O (ps_O (ps_O (ps_O (ps_O (ps_O (ps_O u 1 v1) 1 v6) 1 v11) 1 v16) 1 v21) 1 v26) 1 v31)) (f := ((u.1 7).2.2.2 5)) cx hw (lx_PL_nextsp_5 d z hh cf nh) 2 rfl rfl hwp.1 dX1_entry_139 ?_
                replace hwp := hwp.2
                refine lv_l2i (pc := 140) cx.1 cx.2.1 dX1_entry_140 rfl ?_
                have hpt := k_part (w := (wDk d (z 1) cf) v31) (is := [4, 5, 6]) hw (pc_PL_X2_disk d z hh cf nh (ps_O (ps_O (ps_O (ps_O (ps_O (ps_O (ps_O u 1 v1) 1 v6) 1 v11) 1 v16) 1 v21) 1 v26) 1 v31)) (by decide)
                refine k_part_Tv (pc := 141) (wf := (wDk d (z 1) cf)) (u := v31) cx hw [4, 5, 6] (pc_PL_X2_disk d z hh cf nh (ps_O (ps_O (ps_O (ps_O (ps_O (ps_O (ps_O u 1 v1) 1 v6) 1 v11) 1 v16) 1 v21) 1 v26) 1 v31)) (by decide) (fun _ => rfl) (pw_PL_X2_disk d z hh cf nh (ps_O (ps_O (ps_O (ps_O (ps_O (ps_O (ps_O u 1 v1) 1 v6) 1 v11) 1 v16) 1 v21) 1 v26) 1 v31)) (k_runVT (pc := 141) (rest := []) (As := [.int (x1 + (7 : Int32)), .int (((u.1 7).2.2.2 5) x2.toNatClampNeg).toInt32]) cx hpt.1 hpt.2 hw.2.2 (k_recv cx hw 4 (ci := 1) (q := (RX2, TX2, 5)) rfl rfl) (m_X2_write l dC dI d (z 1) cf  v31 (x1 + (7 : Int32)) ((((u.1 7).2.2.2 5) x2.toNatClampNeg).toInt32) hwp H.size) (cwV 2 cx.2.2.2.2.1 (lw_V q594 q595 q596 q76 q597) rfl rfl rfl hdV_X2_write ⟨Nat.le_of_ble_eq_true rfl, Nat.le_of_ble_eq_true rfl⟩) rfl hl.1 rfl (Nat.le_of_ble_eq_true rfl) dX1_entry_141 ⟨Nat.le_of_ble_eq_true rfl, Nat.le_of_ble_eq_true rfl⟩) (fun v36 H locs hwp hw => ?_) (fun k38 v39 a40 H locs hwp hw hx => ?_)
                · skip
                  refine lv_aload_n (pc := 144) cx.1 cx.2.1 dX1_entry_144 rfl (lv_at hl 1 rfl) ?_
                  refine k_getR (pc := 145) (u := (ps_O (ps_O (ps_O (ps_O (ps_O (ps_O (ps_O (ps_O u 1 v1) 1 v6) 1 v11) 1 v16) 1 v21) 1 v26) 1 v31) 1 v36)) (v := .ref (z 1 0)) cx hw (lr_PL_pl_3 d z hh cf nh) (C := RX1) (T := TX1) (N := 21) rfl in_X1 (by decide) q479 (fun _ h9 => h9) rfl dX1_entry_145 ?_
                  refine lv_iload_n (pc := 148) cx.1 cx.2.1 dX1_entry_148 rfl (lv_at hl 2 rfl) ?_
                  refine lv_bipush (pc := 149) (v := 8) cx.1 cx.2.1 dX1_entry_149 (by decide) ?_
                  refine lv_iadd (pc := 151) cx.1 cx.2.1 dX1_entry_151 ?_
                  refine lv_aload_n (pc := 152) cx.1 cx.2.1 dX1_entry_152 rfl (lv_at hl 1 rfl) ?_
                  refine k_getR (pc := 153) (u := (ps_O (ps_O (ps_O (ps_O (ps_O (ps_O (ps_O (ps_O u 1 v1) 1 v6) 1 v11) 1 v16) 1 v21) 1 v26) 1 v31) 1 v36)) (v := .ref (z 6 0)) cx hw (lr_PL_pl_8 d z hh cf nh) (C := RX1) (T := TX1) (N := 21) rfl in_X1 (by decide) q487 (fun _ h9 => h9) rfl dX1_entry_153 ?_
                  refine k_getRN (pc := 156) (u := (ps_O (ps_O (ps_O (ps_O (ps_O (ps_O (ps_O (ps_O u 1 v1) 1 v6) 1 v11) 1 v16) 1 v21) 1 v26) 1 v31) 1 v36)) (v := .ref (z 6 2)) cx hw (lr_PL_next_2 d z hh cf nh) (C := RX7) (T := TX7) (N := 7) rfl in_X7 (by decide) (nq334 cx.2.2.2.2.2.1) (fun _ h9 => h9) rfl dX1_entry_156 ?_
                  refine lv_iload_n (pc := 159) cx.1 cx.2.1 dX1_entry_159 rfl (lv_at hl 3 rfl) ?_
                  refine k_cald (pc := 160) (u := (ps_O (ps_O (ps_O (ps_O (ps_O (ps_O (ps_O (ps_O u 1 v1) 1 v6) 1 v11) 1 v16) 1 v21) 1 v26) 1 v31) 1 v36)) (f := ((u.1 6).2.1 2)) cx hw (lx_PL_next_2 d z hh cf nh) 4 rfl rfl hwp.1 dX1_entry_160 ?_
                  replace hwp := hwp.2
                  have hpt := k_part (w := (wDk d (z 1) cf) v36) (is := [4, 5, 6]) hw (pc_PL_X2_disk d z hh cf nh (ps_O (ps_O (ps_O (ps_O (ps_O (ps_O (ps_O (ps_O u 1 v1) 1 v6) 1 v11) 1 v16) 1 v21) 1 v26) 1 v31) 1 v36)) (by decide)
                  refine k_part_Tv (pc := 161) (wf := (wDk d (z 1) cf)) (u := v36) cx hw [4, 5, 6] (pc_PL_X2_disk d z hh cf nh (ps_O (ps_O (ps_O (ps_O (ps_O (ps_O (ps_O (ps_O u 1 v1) 1 v6) 1 v11) 1 v16) 1 v21) 1 v26) 1 v31) 1 v36)) (by decide) (fun _ => rfl) (pw_PL_X2_disk d z hh cf nh (ps_O (ps_O (ps_O (ps_O (ps_O (ps_O (ps_O (ps_O u 1 v1) 1 v6) 1 v11) 1 v16) 1 v21) 1 v26) 1 v31) 1 v36)) (k_runVT (pc := 161) (rest := []) (As := [.int (x1 + (8 : Int32)), .int (((u.1 6).2.1 2) x2.toNatClampNeg)]) cx hpt.1 hpt.2 hw.2.2 (k_recv cx hw 4 (ci := 1) (q := (RX2, TX2, 5)) rfl rfl) (m_X2_write l dC dI d (z 1) cf  v36 (x1 + (8 : Int32)) (((u.1 6).2.1 2) x2.toNatClampNeg) hwp H.size) (cwV 2 cx.2.2.2.2.1 (lw_V q594 q595 q596 q76 q597) rfl rfl rfl hdV_X2_write ⟨Nat.le_of_ble_eq_true rfl, Nat.le_of_ble_eq_true rfl⟩) rfl hl.1 rfl (Nat.le_of_ble_eq_true rfl) dX1_entry_161 ⟨Nat.le_of_ble_eq_true rfl, Nat.le_of_ble_eq_true rfl⟩) (fun v41 H locs hwp hw => ?_) (fun k43 v44 a45 H locs hwp hw hx => ?_)
                  · skip
                    refine lv_aload_n (pc := 164) cx.1 cx.2.1 dX1_entry_164 rfl (lv_at hl 1 rfl) ?_
                    refine k_getR (pc := 165) (u := (ps_O (ps_O (ps_O (ps_O (ps_O (ps_O (ps_O (ps_O (ps_O u 1 v1) 1 v6) 1 v11) 1 v16) 1 v21) 1 v26) 1 v31) 1 v36) 1 v41)) (v := .ref (z 1 0)) cx hw (lr_PL_pl_3 d z hh cf nh) (C := RX1) (T := TX1) (N := 21) rfl in_X1 (by decide) q479 (fun _ h9 => h9) rfl dX1_entry_165 ?_
                    refine lv_iload_n (pc := 168) cx.1 cx.2.1 dX1_entry_168 rfl (lv_at hl 2 rfl) ?_
                    refine lv_bipush (pc := 169) (v := 9) cx.1 cx.2.1 dX1_entry_169 (by decide) ?_
                    refine lv_iadd (pc := 171) cx.1 cx.2.1 dX1_entry_171 ?_
                    refine lv_aload_n (pc := 172) cx.1 cx.2.1 dX1_entry_172 rfl (lv_at hl 1 rfl) ?_
                    refine k_getR (pc := 173) (u := (ps_O (ps_O (ps_O (ps_O (ps_O (ps_O (ps_O (ps_O (ps_O u 1 v1) 1 v6) 1 v11) 1 v16) 1 v21) 1 v26) 1 v31) 1 v36) 1 v41)) (v := .ref (z 6 0)) cx hw (lr_PL_pl_8 d z hh cf nh) (C := RX1) (T := TX1) (N := 21) rfl in_X1 (by decide) q487 (fun _ h9 => h9) rfl dX1_entry_173 ?_
                    refine k_getRN (pc := 176) (u := (ps_O (ps_O (ps_O (ps_O (ps_O (ps_O (ps_O (ps_O (ps_O u 1 v1) 1 v6) 1 v11) 1 v16) 1 v21) 1 v26) 1 v31) 1 v36) 1 v41)) (v := .ref (z 6 3)) cx hw (lr_PL_next_3 d z hh cf nh) (C := RX7) (T := TX7) (N := 7) rfl in_X7 (by decide) (nq336 cx.2.2.2.2.2.1) (fun _ h9 => h9) rfl dX1_entry_176 ?_
                    refine lv_iload_n (pc := 179) cx.1 cx.2.1 dX1_entry_179 rfl (lv_at hl 3 rfl) ?_
                    refine k_sald (pc := 180) (u := (ps_O (ps_O (ps_O (ps_O (ps_O (ps_O (ps_O (ps_O (ps_O u 1 v1) 1 v6) 1 v11) 1 v16) 1 v21) 1 v26) 1 v31) 1 v36) 1 v41)) (f := ((u.1 6).2.1 3)) cx hw (lx_PL_next_3 d z hh cf nh) 1 rfl rfl hwp.1 dX1_entry_180 ?_
                    replace hwp := hwp.2
                    have hpt := k_part (w := (wDk d (z 1) cf) v41) (is := [4, 5, 6]) hw (pc_PL_X2_disk d z hh cf nh (ps_O (ps_O (ps_O (ps_O (ps_O (ps_O (ps_O (ps_O (ps_O u 1 v1) 1 v6) 1 v11) 1 v16) 1 v21) 1 v26) 1 v31) 1 v36) 1 v41)) (by decide)
                    refine k_part_Tv (pc := 181) (wf := (wDk d (z 1) cf)) (u := v41) cx hw [4, 5, 6] (pc_PL_X2_disk d z hh cf nh (ps_O (ps_O (ps_O (ps_O (ps_O (ps_O (ps_O (ps_O (ps_O u 1 v1) 1 v6) 1 v11) 1 v16) 1 v21) 1 v26) 1 v31) 1 v36) 1 v41)) (by decide) (fun _ => rfl) (pw_PL_X2_disk d z hh cf nh (ps_O (ps_O (ps_O (ps_O (ps_O (ps_O (ps_O (ps_O (ps_O u 1 v1) 1 v6) 1 v11) 1 v16) 1 v21) 1 v26) 1 v31) 1 v36) 1 v41)) (k_runVT (pc := 181) (rest := []) (As := [.int (x1 + (9 : Int32)), .int (((u.1 6).2.1 3) x2.toNatClampNeg)]) cx hpt.1 hpt.2 hw.2.2 (k_recv cx hw 4 (ci := 1) (q := (RX2, TX2, 5)) rfl rfl) (m_X2_write l dC dI d (z 1) cf  v41 (x1 + (9 : Int32)) (((u.1 6).2.1 3) x2.toNatClampNeg) hwp H.size) (cwV 2 cx.2.2.2.2.1 (lw_V q594 q595 q596 q76 q597) rfl rfl rfl hdV_X2_write ⟨Nat.le_of_ble_eq_true rfl, Nat.le_of_ble_eq_true rfl⟩) rfl hl.1 rfl (Nat.le_of_ble_eq_true rfl) dX1_entry_181 ⟨Nat.le_of_ble_eq_true rfl, Nat.le_of_ble_eq_true rfl⟩) (fun v46 H locs hwp hw => ?_) (fun k48 v49 a50 H locs hwp hw hx => ?_)
                    · skip
                      exact k_vretT (pc := 184) (wf := (wP d nh hh cf z)) (u := (ps_O (ps_O (ps_O (ps_O (ps_O (ps_O (ps_O (ps_O (ps_O (ps_O u 1 v1) 1 v6) 1 v11) 1 v16) 1 v21) 1 v26) 1 v31) 1 v36) 1 v41) 1 v46)) cx hw hwp (by decide) (by decide) dX1_entry_184
                    · skip
                      exact k_leave (pc := 181) (wf := (wP d nh hh cf z)) (u := (ps_O (ps_O (ps_O (ps_O (ps_O (ps_O (ps_O (ps_O (ps_O (ps_O u 1 v1) 1 v6) 1 v11) 1 v16) 1 v21) 1 v26) 1 v31) 1 v36) 1 v41) 1 v49)) (k := k48) cx xt (by decide) hw hwp hx (by decide) (by decide)
                  · skip
                    exact k_leave (pc := 161) (wf := (wP d nh hh cf z)) (u := (ps_O (ps_O (ps_O (ps_O (ps_O (ps_O (ps_O (ps_O (ps_O u 1 v1) 1 v6) 1 v11) 1 v16) 1 v21) 1 v26) 1 v31) 1 v36) 1 v44)) (k := k43) cx xt (by decide) hw hwp hx (by decide) (by decide)
                · skip
                  exact k_leave (pc := 141) (wf := (wP d nh hh cf z)) (u := (ps_O (ps_O (ps_O (ps_O (ps_O (ps_O (ps_O (ps_O u 1 v1) 1 v6) 1 v11) 1 v16) 1 v21) 1 v26) 1 v31) 1 v39)) (k := k38) cx xt (by decide) hw hwp hx (by decide) (by decide)
              · skip
                exact k_leave (pc := 123) (wf := (wP d nh hh cf z)) (u := (ps_O (ps_O (ps_O (ps_O (ps_O (ps_O (ps_O u 1 v1) 1 v6) 1 v11) 1 v16) 1 v21) 1 v26) 1 v34)) (k := k33) cx xt (by decide) hw hwp hx (by decide) (by decide)
            · skip
              exact k_leave (pc := 102) (wf := (wP d nh hh cf z)) (u := (ps_O (ps_O (ps_O (ps_O (ps_O (ps_O u 1 v1) 1 v6) 1 v11) 1 v16) 1 v21) 1 v29)) (k := k28) cx xt (by decide) hw hwp hx (by decide) (by decide)
          · skip
            exact k_leave (pc := 86) (wf := (wP d nh hh cf z)) (u := (ps_O (ps_O (ps_O (ps_O (ps_O u 1 v1) 1 v6) 1 v11) 1 v16) 1 v24)) (k := k23) cx xt (by decide) hw hwp hx (by decide) (by decide)
        · skip
          exact k_leave (pc := 70) (wf := (wP d nh hh cf z)) (u := (ps_O (ps_O (ps_O (ps_O u 1 v1) 1 v6) 1 v11) 1 v19)) (k := k18) cx xt (by decide) hw hwp hx (by decide) (by decide)
      · skip
        exact k_leave (pc := 54) (wf := (wP d nh hh cf z)) (u := (ps_O (ps_O (ps_O u 1 v1) 1 v6) 1 v14)) (k := k13) cx xt (by decide) hw hwp hx (by decide) (by decide)
    · skip
      exact k_leave (pc := 38) (wf := (wP d nh hh cf z)) (u := (ps_O (ps_O u 1 v1) 1 v9)) (k := k8) cx xt (by decide) hw hwp hx (by decide) (by decide)
  · skip
    exact k_leave (pc := 22) (wf := (wP d nh hh cf z)) (u := (ps_O u 1 v4)) (k := k3) cx xt (by decide) hw hwp hx (by decide) (by decide)
