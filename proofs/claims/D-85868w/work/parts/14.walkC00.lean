set_option maxRecDepth 100000
theorem hdV_X8_begin : yX8_begin.cls = RX8 ∧ yX8_begin.cls ≠ "java/lang/invoke/MethodHandle" ∧ yX8_begin.cls ≠ "java/lang/invoke/VarHandle" ∧ (parseMethodDescriptor yX8_begin.desc).map (fun d => d.parameters.length) = some 1 := by decide +kernel
theorem hdV_X8_add : yX8_add.cls = RX8 ∧ yX8_add.cls ≠ "java/lang/invoke/MethodHandle" ∧ yX8_add.cls ≠ "java/lang/invoke/VarHandle" ∧ (parseMethodDescriptor yX8_add.desc).map (fun d => d.parameters.length) = some 3 := by decide +kernel
theorem hdV_X8_isOut : yX8_isOut.cls = RX8 ∧ yX8_isOut.cls ≠ "java/lang/invoke/MethodHandle" ∧ yX8_isOut.cls ≠ "java/lang/invoke/VarHandle" ∧ (parseMethodDescriptor yX8_isOut.desc).map (fun d => d.parameters.length) = some 3 := by decide +kernel
theorem hdV_X8_isIn : yX8_isIn.cls = RX8 ∧ yX8_isIn.cls ≠ "java/lang/invoke/MethodHandle" ∧ yX8_isIn.cls ≠ "java/lang/invoke/VarHandle" ∧ (parseMethodDescriptor yX8_isIn.desc).map (fun d => d.parameters.length) = some 3 := by decide +kernel
theorem hdV_X8_join : yX8_join.cls = RX8 ∧ yX8_join.cls ≠ "java/lang/invoke/MethodHandle" ∧ yX8_join.cls ≠ "java/lang/invoke/VarHandle" ∧ (parseMethodDescriptor yX8_join.desc).map (fun d => d.parameters.length) = some 3 := by decide +kernel
theorem hdV_X7_opens : yX7_opens.cls = RX7 ∧ yX7_opens.cls ≠ "java/lang/invoke/MethodHandle" ∧ yX7_opens.cls ≠ "java/lang/invoke/VarHandle" ∧ (parseMethodDescriptor yX7_opens.desc).map (fun d => d.parameters.length) = some 1 := by decide +kernel
theorem hdV_X7_ends : yX7_ends.cls = RX7 ∧ yX7_ends.cls ≠ "java/lang/invoke/MethodHandle" ∧ yX7_ends.cls ≠ "java/lang/invoke/VarHandle" ∧ (parseMethodDescriptor yX7_ends.desc).map (fun d => d.parameters.length) = some 0 := by decide +kernel
theorem hdV_X7_copies : yX7_copies.cls = RX7 ∧ yX7_copies.cls ≠ "java/lang/invoke/MethodHandle" ∧ yX7_copies.cls ≠ "java/lang/invoke/VarHandle" ∧ (parseMethodDescriptor yX7_copies.desc).map (fun d => d.parameters.length) = some 2 := by decide +kernel
theorem hdV_X4_clear : yX4_clear.cls = RX4 ∧ yX4_clear.cls ≠ "java/lang/invoke/MethodHandle" ∧ yX4_clear.cls ≠ "java/lang/invoke/VarHandle" ∧ (parseMethodDescriptor yX4_clear.desc).map (fun d => d.parameters.length) = some 0 := by decide +kernel
theorem hdV_X4_begin : yX4_begin.cls = RX4 ∧ yX4_begin.cls ≠ "java/lang/invoke/MethodHandle" ∧ yX4_begin.cls ≠ "java/lang/invoke/VarHandle" ∧ (parseMethodDescriptor yX4_begin.desc).map (fun d => d.parameters.length) = some 0 := by decide +kernel
theorem hdV_X4_put : yX4_put.cls = RX4 ∧ yX4_put.cls ≠ "java/lang/invoke/MethodHandle" ∧ yX4_put.cls ≠ "java/lang/invoke/VarHandle" ∧ (parseMethodDescriptor yX4_put.desc).map (fun d => d.parameters.length) = some 2 := by decide +kernel
theorem hdV_X4_change : yX4_change.cls = RX4 ∧ yX4_change.cls ≠ "java/lang/invoke/MethodHandle" ∧ yX4_change.cls ≠ "java/lang/invoke/VarHandle" ∧ (parseMethodDescriptor yX4_change.desc).map (fun d => d.parameters.length) = some 1 := by decide +kernel
theorem hdV_X4_take : yX4_take.cls = RX4 ∧ yX4_take.cls ≠ "java/lang/invoke/MethodHandle" ∧ yX4_take.cls ≠ "java/lang/invoke/VarHandle" ∧ (parseMethodDescriptor yX4_take.desc).map (fun d => d.parameters.length) = some 2 := by decide +kernel
theorem hdV_X4_end : yX4_end.cls = RX4 ∧ yX4_end.cls ≠ "java/lang/invoke/MethodHandle" ∧ yX4_end.cls ≠ "java/lang/invoke/VarHandle" ∧ (parseMethodDescriptor yX4_end.desc).map (fun d => d.parameters.length) = some 0 := by decide +kernel
theorem hdV_X11_add : yX11_add.cls = RX11 ∧ yX11_add.cls ≠ "java/lang/invoke/MethodHandle" ∧ yX11_add.cls ≠ "java/lang/invoke/VarHandle" ∧ (parseMethodDescriptor yX11_add.desc).map (fun d => d.parameters.length) = some 2 := by decide +kernel
theorem hdV_X10_begin : yX10_begin.cls = RX10 ∧ yX10_begin.cls ≠ "java/lang/invoke/MethodHandle" ∧ yX10_begin.cls ≠ "java/lang/invoke/VarHandle" ∧ (parseMethodDescriptor yX10_begin.desc).map (fun d => d.parameters.length) = some 0 := by decide +kernel
theorem hdV_X10_take : yX10_take.cls = RX10 ∧ yX10_take.cls ≠ "java/lang/invoke/MethodHandle" ∧ yX10_take.cls ≠ "java/lang/invoke/VarHandle" ∧ (parseMethodDescriptor yX10_take.desc).map (fun d => d.parameters.length) = some 2 := by decide +kernel
theorem hdV_X10_join : yX10_join.cls = RX10 ∧ yX10_join.cls ≠ "java/lang/invoke/MethodHandle" ∧ yX10_join.cls ≠ "java/lang/invoke/VarHandle" ∧ (parseMethodDescriptor yX10_join.desc).map (fun d => d.parameters.length) = some 2 := by decide +kernel
theorem hdV_X6_begin : yX6_begin.cls = RX6 ∧ yX6_begin.cls ≠ "java/lang/invoke/MethodHandle" ∧ yX6_begin.cls ≠ "java/lang/invoke/VarHandle" ∧ (parseMethodDescriptor yX6_begin.desc).map (fun d => d.parameters.length) = some 2 := by decide +kernel
theorem hdV_X6_bits : yX6_bits.cls = RX6 ∧ yX6_bits.cls ≠ "java/lang/invoke/MethodHandle" ∧ yX6_bits.cls ≠ "java/lang/invoke/VarHandle" ∧ (parseMethodDescriptor yX6_bits.desc).map (fun d => d.parameters.length) = some 1 := by decide +kernel
theorem hdV_X6_bit : yX6_bit.cls = RX6 ∧ yX6_bit.cls ≠ "java/lang/invoke/MethodHandle" ∧ yX6_bit.cls ≠ "java/lang/invoke/VarHandle" ∧ (parseMethodDescriptor yX6_bit.desc).map (fun d => d.parameters.length) = some 0 := by decide +kernel
theorem hdV_X6_change : yX6_change.cls = RX6 ∧ yX6_change.cls ≠ "java/lang/invoke/MethodHandle" ∧ yX6_change.cls ≠ "java/lang/invoke/VarHandle" ∧ (parseMethodDescriptor yX6_change.desc).map (fun d => d.parameters.length) = some 0 := by decide +kernel
theorem hdV_X6_difference : yX6_difference.cls = RX6 ∧ yX6_difference.cls ≠ "java/lang/invoke/MethodHandle" ∧ yX6_difference.cls ≠ "java/lang/invoke/VarHandle" ∧ (parseMethodDescriptor yX6_difference.desc).map (fun d => d.parameters.length) = some 0 := by decide +kernel
theorem hdV_X6_step : yX6_step.cls = RX6 ∧ yX6_step.cls ≠ "java/lang/invoke/MethodHandle" ∧ yX6_step.cls ≠ "java/lang/invoke/VarHandle" ∧ (parseMethodDescriptor yX6_step.desc).map (fun d => d.parameters.length) = some 0 := by decide +kernel
set_option maxHeartbeats 4000000 in
theorem m_X8_begin (l : Launch) (dC : Nat → ClassId) (dI : Nat → Nat → Nat) (d : Nat → ClassId) (h : Nat → Nat) (u : St) (x1 : Int32) {K : St → Prop} (hwp : wp_X8_begin u x1 K) : kM l yX8_begin cX8_begin 2 none ({ frames := 0, cells := 0, slots := 0, locals := 0 } : Room) dC dI d [.ref (h 0), .int x1] (wSp d h) u (kQv dC dI (wSp d h) K) 0 0 := by
  refine kM_start rfl (Nat.le_of_ble_eq_true rfl) ?_
  intro p e s m below meth c A ls cx hnm hw hl
  generalize hargs : ([.ref (h 0), .int x1] : List Value).toArray = args at cx ⊢
  unfold wp_X8_begin at hwp
  replace hl : lv_has ls 2 [(0, .ref (h 0)), (1, .int x1)] := hl
  generalize hH : s.heap = H at hw ⊢
  generalize hlo : ([] : List Loc) = locs at hw ⊢
  refine lv_aload_n (pc := 0) cx.1 cx.2.1 dX8_begin_0 rfl (lv_at hl 0 rfl) ?_
  refine k_getR (pc := 1) (u := u) (v := .ref (h 5)) cx hw (lr_X8_this_4 d h) (C := RX8) (T := TX8) (N := 6) rfl in_X8 (by decide) q305 (fun _ h9 => h9) rfl dX8_begin_1 ?_
  refine lv_iload_n (pc := 4) cx.1 cx.2.1 dX8_begin_4 rfl (lv_at hl 1 rfl) ?_
  refine lv_iconst (pc := 5) (v := 0) cx.1 cx.2.1 dX8_begin_5 (by decide) ?_
  refine k_sast (pc := 6) (u := u) (f := (u.2.1 4)) cx hw (ln_X8_this_4 d h) 1 rfl rfl hwp.1 dX8_begin_6 (fun H locs hw => ?_)
  replace hwp := hwp.2
  refine lv_aload_n (pc := 7) cx.1 cx.2.1 dX8_begin_7 rfl (lv_at hl 0 rfl) ?_
  refine k_getR (pc := 8) (u := (st_A u 4 (upd (u.2.1 4) x1.toNatClampNeg (vp_nar .short (0 : Int32))))) (v := .ref (h 6)) cx hw (lr_X8_this_5 d h) (C := RX8) (T := TX8) (N := 6) rfl in_X8 (by decide) q309 (fun _ h9 => h9) rfl dX8_begin_8 ?_
  refine lv_iload_n (pc := 11) cx.1 cx.2.1 dX8_begin_11 rfl (lv_at hl 1 rfl) ?_
  refine lv_lconst (pc := 12) (v := 0) cx.1 cx.2.1 dX8_begin_12 (by decide) ?_
  refine k_last (pc := 13) (u := (st_A u 4 (upd (u.2.1 4) x1.toNatClampNeg (vp_nar .short (0 : Int32))))) (f := (u.2.2.2 5)) cx hw (ln_X8_this_5 d h) 2 rfl rfl hwp.1 dX8_begin_13 (fun H locs hw => ?_)
  replace hwp := hwp.2
  exact k_vret (pc := 14) (wf := (wSp d h)) (u := (st_B (st_A u 4 (upd (u.2.1 4) x1.toNatClampNeg (vp_nar .short (0 : Int32)))) 5 (vp_updL (u.2.2.2 5) x1.toNatClampNeg (0 : Int64)))) cx hw hwp (by decide) (by decide) dX8_begin_14
set_option maxHeartbeats 4000000 in
theorem wk_X8_add_28 {p : Program} {l : Launch} {e : Env} {s : State} {m : MethodId} {args : Array Value} {below : List Frame} {meth : Method} {c : Code} {A : Nat → Prop} {dC : Nat → ClassId} {dI : Nat → Nat → Nat} {d : Nat → ClassId} {h : Nat → Nat} {K : St → Prop} (cx : Cx p s m args meth c cX8_add RX8 5 none A dC dI d) : ∀ (x1 : Int32) (x2 : Int32) (x3 : Int32) (x4 : Int32) (u : St) (H : Heap) (locs : List Loc) (ls : Array Slot), wp_X8_add_28 K x1 x2 x3 x4 u → Wd dC dI A ((wSp d h) u) s H locs → lv_has ls 5 [(0, .ref (h 0)), (1, .int x1), (2, .int x2), (3, .int x3), (4, .int x4)] → W p l e ({ frames := 1, cells := 0, slots := 0, locals := 21 } : Room) s m args below meth c H locs 0 0 (MQ below (kQv dC dI (wSp d h) K A) args s 0 0 A) (F0 m 28 ls []) := by
  intro x1 x2 x3 x4 u H locs ls hwp hw hl
  unfold wp_X8_add_28 at hwp
  refine lv_aload_n (pc := 28) cx.1 cx.2.1 dX8_add_28 rfl (lv_at hl 0 rfl) ?_
  refine k_getR (pc := 29) (u := u) (v := .ref (h 2)) cx hw (lr_X8_this_1 d h) (C := RX8) (T := TX8) (N := 6) rfl in_X8 (by decide) q297 (fun _ h9 => h9) rfl dX8_add_29 ?_
  refine lv_iload_n (pc := 32) cx.1 cx.2.1 dX8_add_32 rfl (lv_at hl 1 rfl) ?_
  refine lv_iload_n (pc := 33) cx.1 cx.2.1 dX8_add_33 rfl (lv_at hl 2 rfl) ?_
  refine k_iast (pc := 34) (u := u) (f := (u.2.1 1)) cx hw (ln_X8_this_1 d h) 0 rfl rfl hwp.1 dX8_add_34 (fun H locs hw => ?_)
  replace hwp := hwp.2
  refine lv_aload_n (pc := 35) cx.1 cx.2.1 dX8_add_35 rfl (lv_at hl 0 rfl) ?_
  refine k_getR (pc := 36) (u := (st_A u 1 (upd (u.2.1 1) x1.toNatClampNeg x2))) (v := .ref (h 3)) cx hw (lr_X8_this_2 d h) (C := RX8) (T := TX8) (N := 6) rfl in_X8 (by decide) q299 (fun _ h9 => h9) rfl dX8_add_36 ?_
  refine lv_iload_n (pc := 39) cx.1 cx.2.1 dX8_add_39 rfl (lv_at hl 1 rfl) ?_
  refine lv_iload (pc := 40) cx.1 cx.2.1 dX8_add_40 (lv_at hl 4 rfl) ?_
  have gT2 := hwp.1
  replace hwp := hwp.2
  have hJ3 : ∀ z1 : Int32, z1 = (if x4 = 0 then (if x3 < ((u.2.1 2) x1.toNatClampNeg) then x3 else ((u.2.1 2) x1.toNatClampNeg)) else x3) → W p l e ({ frames := 1, cells := 0, slots := 0, locals := 21 } : Room) s m args below meth c H locs 0 0 (MQ below (kQv dC dI (wSp d h) K A) args s 0 0 A) (F0 m 59 ls [.int z1, .int x1, .ref (h 3)]) := by
    intro z1 ez1
    replace hwp := hwp z1 ez1
    refine k_iast (pc := 59) (u := (st_A u 1 (upd (u.2.1 1) x1.toNatClampNeg x2))) (f := (u.2.1 2)) cx hw (ln_X8_this_2 d h) 0 rfl rfl hwp.1 dX8_add_59 (fun H locs hw => ?_)
    replace hwp := hwp.2
    refine lv_aload_n (pc := 60) cx.1 cx.2.1 dX8_add_60 rfl (lv_at hl 0 rfl) ?_
    refine k_getR (pc := 61) (u := (st_A (st_A u 1 (upd (u.2.1 1) x1.toNatClampNeg x2)) 2 (upd (u.2.1 2) x1.toNatClampNeg z1))) (v := .ref (h 4)) cx hw (lr_X8_this_3 d h) (C := RX8) (T := TX8) (N := 6) rfl in_X8 (by decide) q302 (fun _ h9 => h9) rfl dX8_add_61 ?_
    refine lv_iload_n (pc := 64) cx.1 cx.2.1 dX8_add_64 rfl (lv_at hl 1 rfl) ?_
    refine lv_iload (pc := 65) cx.1 cx.2.1 dX8_add_65 (lv_at hl 4 rfl) ?_
    have gT5 := hwp.1
    replace hwp := hwp.2
    have hJ6 : ∀ z4 : Int32, z4 = (if x4 = 0 then (if ((u.2.1 3) x1.toNatClampNeg) < x3 then x3 else ((u.2.1 3) x1.toNatClampNeg)) else x3) → W p l e ({ frames := 1, cells := 0, slots := 0, locals := 21 } : Room) s m args below meth c H locs 0 0 (MQ below (kQv dC dI (wSp d h) K A) args s 0 0 A) (F0 m 84 ls [.int z4, .int x1, .ref (h 4)]) := by
      intro z4 ez4
      replace hwp := hwp z4 ez4
      refine k_iast (pc := 84) (u := (st_A (st_A u 1 (upd (u.2.1 1) x1.toNatClampNeg x2)) 2 (upd (u.2.1 2) x1.toNatClampNeg z1))) (f := (u.2.1 3)) cx hw (ln_X8_this_3 d h) 0 rfl rfl hwp.1 dX8_add_84 (fun H locs hw => ?_)
      replace hwp := hwp.2
      refine lv_aload_n (pc := 85) cx.1 cx.2.1 dX8_add_85 rfl (lv_at hl 0 rfl) ?_
      refine k_getR (pc := 86) (u := (st_A (st_A (st_A u 1 (upd (u.2.1 1) x1.toNatClampNeg x2)) 2 (upd (u.2.1 2) x1.toNatClampNeg z1)) 3 (upd (u.2.1 3) x1.toNatClampNeg z4))) (v := .ref (h 5)) cx hw (lr_X8_this_4 d h) (C := RX8) (T := TX8) (N := 6) rfl in_X8 (by decide) q305 (fun _ h9 => h9) rfl dX8_add_86 ?_
      refine lv_iload_n (pc := 89) cx.1 cx.2.1 dX8_add_89 rfl (lv_at hl 1 rfl) ?_
      refine lv_dup2_11 (pc := 90) cx.1 cx.2.1 dX8_add_90 rfl rfl ?_
      refine k_sald (pc := 91) (u := (st_A (st_A (st_A u 1 (upd (u.2.1 1) x1.toNatClampNeg x2)) 2 (upd (u.2.1 2) x1.toNatClampNeg z1)) 3 (upd (u.2.1 3) x1.toNatClampNeg z4))) (f := (u.2.1 4)) cx hw (lx_X8_this_4 d h) 1 rfl rfl hwp.1 dX8_add_91 ?_
      replace hwp := hwp.2
      refine lv_iconst (pc := 92) (v := 1) cx.1 cx.2.1 dX8_add_92 (by decide) ?_
      refine lv_iadd (pc := 93) cx.1 cx.2.1 dX8_add_93 ?_
      refine lv_i2s (pc := 94) cx.1 cx.2.1 dX8_add_94 rfl ?_
      refine lv_topi (fun y7 ey7 => ?_)
      replace hwp := hwp y7 ey7
      refine k_sast (pc := 95) (u := (st_A (st_A (st_A u 1 (upd (u.2.1 1) x1.toNatClampNeg x2)) 2 (upd (u.2.1 2) x1.toNatClampNeg z1)) 3 (upd (u.2.1 3) x1.toNatClampNeg z4))) (f := (u.2.1 4)) cx hw (ln_X8_this_4 d h) 1 rfl rfl hwp.1 dX8_add_95 (fun H locs hw => ?_)
      replace hwp := hwp.2
      refine lv_aload_n (pc := 96) cx.1 cx.2.1 dX8_add_96 rfl (lv_at hl 0 rfl) ?_
      refine k_getR (pc := 97) (u := (st_A (st_A (st_A (st_A u 1 (upd (u.2.1 1) x1.toNatClampNeg x2)) 2 (upd (u.2.1 2) x1.toNatClampNeg z1)) 3 (upd (u.2.1 3) x1.toNatClampNeg z4)) 4 (upd (u.2.1 4) x1.toNatClampNeg (vp_nar .short y7)))) (v := .ref (h 6)) cx hw (lr_X8_this_5 d h) (C := RX8) (T := TX8) (N := 6) rfl in_X8 (by decide) q309 (fun _ h9 => h9) rfl dX8_add_97 ?_
      refine lv_iload_n (pc := 100) cx.1 cx.2.1 dX8_add_100 rfl (lv_at hl 1 rfl) ?_
      refine lv_dup2_11 (pc := 101) cx.1 cx.2.1 dX8_add_101 rfl rfl ?_
      refine k_lald (pc := 102) (u := (st_A (st_A (st_A (st_A u 1 (upd (u.2.1 1) x1.toNatClampNeg x2)) 2 (upd (u.2.1 2) x1.toNatClampNeg z1)) 3 (upd (u.2.1 3) x1.toNatClampNeg z4)) 4 (upd (u.2.1 4) x1.toNatClampNeg (vp_nar .short y7)))) (f := (u.2.2.2 5)) cx hw (lx_X8_this_5 d h) 2 rfl rfl hwp.1 dX8_add_102 ?_
      replace hwp := hwp.2
      refine lv_iload_n (pc := 103) cx.1 cx.2.1 dX8_add_103 rfl (lv_at hl 3 rfl) ?_
      refine lv_i2l (pc := 104) cx.1 cx.2.1 dX8_add_104 rfl ?_
      refine lv_ladd (pc := 105) cx.1 cx.2.1 dX8_add_105 ?_
      refine lv_topl (fun y8 ey8 => ?_)
      replace hwp := hwp y8 ey8
      refine k_last (pc := 106) (u := (st_A (st_A (st_A (st_A u 1 (upd (u.2.1 1) x1.toNatClampNeg x2)) 2 (upd (u.2.1 2) x1.toNatClampNeg z1)) 3 (upd (u.2.1 3) x1.toNatClampNeg z4)) 4 (upd (u.2.1 4) x1.toNatClampNeg (vp_nar .short y7)))) (f := (u.2.2.2 5)) cx hw (ln_X8_this_5 d h) 2 rfl rfl hwp.1 dX8_add_106 (fun H locs hw => ?_)
      replace hwp := hwp.2
      exact k_vret (pc := 107) (wf := (wSp d h)) (u := (st_B (st_A (st_A (st_A (st_A u 1 (upd (u.2.1 1) x1.toNatClampNeg x2)) 2 (upd (u.2.1 2) x1.toNatClampNeg z1)) 3 (upd (u.2.1 3) x1.toNatClampNeg z4)) 4 (upd (u.2.1 4) x1.toNatClampNeg (vp_nar .short y7))) 5 (vp_updL (u.2.2.2 5) x1.toNatClampNeg y8))) cx hw hwp (by decide) (by decide) dX8_add_107
    clear hwp
    refine lv_if_eq (pc := 67) (tgt := 74) cx.1 cx.2.1 dX8_add_67 (by decide) (fun c9 => ?_) (fun c9 => ?_)
    · have hwp := gT5 c9
      replace hwp := And.intro hwp trivial
      refine lv_aload_n (pc := 74) cx.1 cx.2.1 dX8_add_74 rfl (lv_at hl 0 rfl) ?_
      refine k_getR (pc := 75) (u := (st_A (st_A u 1 (upd (u.2.1 1) x1.toNatClampNeg x2)) 2 (upd (u.2.1 2) x1.toNatClampNeg z1))) (v := .ref (h 4)) cx hw (lr_X8_this_3 d h) (C := RX8) (T := TX8) (N := 6) rfl in_X8 (by decide) q302 (fun _ h9 => h9) rfl dX8_add_75 ?_
      refine lv_iload_n (pc := 78) cx.1 cx.2.1 dX8_add_78 rfl (lv_at hl 1 rfl) ?_
      refine k_iald (pc := 79) (u := (st_A (st_A u 1 (upd (u.2.1 1) x1.toNatClampNeg x2)) 2 (upd (u.2.1 2) x1.toNatClampNeg z1))) (f := (u.2.1 3)) cx hw (lx_X8_this_3 d h) 0 rfl rfl hwp.1 dX8_add_79 ?_
      replace hwp := hwp.2
      refine lv_iload_n (pc := 80) cx.1 cx.2.1 dX8_add_80 rfl (lv_at hl 3 rfl) ?_
      refine k_max (pc := 81) cx hl.1 q475 q430 q87 q431 ⟨Nat.le_of_ble_eq_true rfl, Nat.le_of_ble_eq_true rfl, Nat.le_of_ble_eq_true rfl, Nat.le_of_ble_eq_true rfl⟩ dX8_add_81 ?_
      exact hJ6 _ (if_pos c9).symm
    · skip
      refine lv_iload_n (pc := 70) cx.1 cx.2.1 dX8_add_70 rfl (lv_at hl 3 rfl) ?_
      refine lv_goto (pc := 71) (tgt := 84) cx.1 cx.2.1 dX8_add_71 (by decide) ?_
      exact hJ6 _ (if_neg c9).symm
  clear hwp
  refine lv_if_eq (pc := 42) (tgt := 49) cx.1 cx.2.1 dX8_add_42 (by decide) (fun c10 => ?_) (fun c10 => ?_)
  · have hwp := gT2 c10
    replace hwp := And.intro hwp trivial
    refine lv_aload_n (pc := 49) cx.1 cx.2.1 dX8_add_49 rfl (lv_at hl 0 rfl) ?_
    refine k_getR (pc := 50) (u := (st_A u 1 (upd (u.2.1 1) x1.toNatClampNeg x2))) (v := .ref (h 3)) cx hw (lr_X8_this_2 d h) (C := RX8) (T := TX8) (N := 6) rfl in_X8 (by decide) q299 (fun _ h9 => h9) rfl dX8_add_50 ?_
    refine lv_iload_n (pc := 53) cx.1 cx.2.1 dX8_add_53 rfl (lv_at hl 1 rfl) ?_
    refine k_iald (pc := 54) (u := (st_A u 1 (upd (u.2.1 1) x1.toNatClampNeg x2))) (f := (u.2.1 2)) cx hw (lx_X8_this_2 d h) 0 rfl rfl hwp.1 dX8_add_54 ?_
    replace hwp := hwp.2
    refine lv_iload_n (pc := 55) cx.1 cx.2.1 dX8_add_55 rfl (lv_at hl 3 rfl) ?_
    refine k_min (pc := 56) cx hl.1 q474 q433 q87 q434 ⟨Nat.le_of_ble_eq_true rfl, Nat.le_of_ble_eq_true rfl, Nat.le_of_ble_eq_true rfl, Nat.le_of_ble_eq_true rfl⟩ dX8_add_56 ?_
    exact hJ3 _ (if_pos c10).symm
  · skip
    refine lv_iload_n (pc := 45) cx.1 cx.2.1 dX8_add_45 rfl (lv_at hl 3 rfl) ?_
    refine lv_goto (pc := 46) (tgt := 59) cx.1 cx.2.1 dX8_add_46 (by decide) ?_
    exact hJ3 _ (if_neg c10).symm
set_option maxHeartbeats 4000000 in
theorem m_X8_add (l : Launch) (dC : Nat → ClassId) (dI : Nat → Nat → Nat) (d : Nat → ClassId) (h : Nat → Nat) (u : St) (x1 : Int32) (x2 : Int32) (x3 : Int32) {K : St → Prop} (hwp : wp_X8_add u x1 x2 x3 K) : kM l yX8_add cX8_add 5 none ({ frames := 1, cells := 0, slots := 0, locals := 21 } : Room) dC dI d [.ref (h 0), .int x1, .int x2, .int x3] (wSp d h) u (kQv dC dI (wSp d h) K) 0 0 := by
  refine kM_start rfl (Nat.le_of_ble_eq_true rfl) ?_
  intro p e s m below meth c A ls cx hnm hw hl
  generalize hargs : ([.ref (h 0), .int x1, .int x2, .int x3] : List Value).toArray = args at cx ⊢
  unfold wp_X8_add at hwp
  replace hl : lv_has ls 5 [(0, .ref (h 0)), (1, .int x1), (2, .int x2), (3, .int x3)] := hl
  generalize hH : s.heap = H at hw ⊢
  generalize hlo : ([] : List Loc) = locs at hw ⊢
  refine lv_aload_n (pc := 0) cx.1 cx.2.1 dX8_add_0 rfl (lv_at hl 0 rfl) ?_
  refine k_getR (pc := 1) (u := u) (v := .ref (h 5)) cx hw (lr_X8_this_4 d h) (C := RX8) (T := TX8) (N := 6) rfl in_X8 (by decide) q305 (fun _ h9 => h9) rfl dX8_add_1 ?_
  refine lv_iload_n (pc := 4) cx.1 cx.2.1 dX8_add_4 rfl (lv_at hl 1 rfl) ?_
  refine k_sald (pc := 5) (u := u) (f := (u.2.1 4)) cx hw (lx_X8_this_4 d h) 1 rfl rfl hwp.1 dX8_add_5 ?_
  replace hwp := hwp.2
  have hJ2 : ∀ z1 : Int32, z1 = (if ((u.2.1 4) x1.toNatClampNeg) = 0 then (1 : Int32) else (0 : Int32)) → W p l e ({ frames := 1, cells := 0, slots := 0, locals := 21 } : Room) s m args below meth c H locs 0 0 (MQ below (kQv dC dI (wSp d h) K A) args s 0 0 A) (F0 m 14 ls [.int z1]) := by
    intro z1 ez1
    replace hwp := hwp z1 ez1
    refine lv_istore (pc := 14) (lv' := [(4, .int z1), (0, .ref (h 0)), (1, .int x1), (2, .int x2), (3, .int x3)]) cx.1 cx.2.1 dX8_add_14 hl (by decide) rfl (fun ls hl => ?_)
    refine lv_iload (pc := 16) cx.1 cx.2.1 dX8_add_16 (lv_at hl 0 rfl) ?_
    refine lv_if_eq (pc := 18) (tgt := 28) cx.1 cx.2.1 dX8_add_18 (by decide) (fun c3 => ?_) (fun c3 => ?_)
    · replace hwp := hwp.1 c3
      exact wk_X8_add_28 cx _ _ _ _ _ _ _ _ hwp hw (lv_sub hl [1, 2, 3, 4, 0] rfl)
    · replace hwp := hwp.2 c3
      refine lv_aload_n (pc := 21) cx.1 cx.2.1 dX8_add_21 rfl (lv_at hl 1 rfl) ?_
      refine k_getR (pc := 22) (u := u) (v := .ref (h 1)) cx hw (lr_X8_this_0 d h) (C := RX8) (T := TX8) (N := 6) rfl in_X8 (by decide) q295 (fun _ h9 => h9) rfl dX8_add_22 ?_
      refine lv_iload_n (pc := 25) cx.1 cx.2.1 dX8_add_25 rfl (lv_at hl 2 rfl) ?_
      refine lv_iload_n (pc := 26) cx.1 cx.2.1 dX8_add_26 rfl (lv_at hl 3 rfl) ?_
      refine k_iast (pc := 27) (u := u) (f := (u.2.1 0)) cx hw (ln_X8_this_0 d h) 0 rfl rfl hwp.1 dX8_add_27 (fun H locs hw => ?_)
      replace hwp := hwp.2
      exact wk_X8_add_28 cx _ _ _ _ _ _ _ _ hwp hw (lv_sub hl [1, 2, 3, 4, 0] rfl)
  clear hwp
  refine lv_if_ne (pc := 6) (tgt := 13) cx.1 cx.2.1 dX8_add_6 (by decide) (fun c4 => ?_) (fun c4 => ?_)
  · skip
    refine lv_iconst (pc := 13) (v := 0) cx.1 cx.2.1 dX8_add_13 (by decide) ?_
    exact hJ2 _ (if_neg c4).symm
  · skip
    refine lv_iconst (pc := 9) (v := 1) cx.1 cx.2.1 dX8_add_9 (by decide) ?_
    refine lv_goto (pc := 10) (tgt := 14) cx.1 cx.2.1 dX8_add_10 (by decide) ?_
    exact hJ2 _ (if_pos c4).symm
set_option maxHeartbeats 4000000 in
theorem m_X8_isOut (l : Launch) (dC : Nat → ClassId) (dI : Nat → Nat → Nat) (d : Nat → ClassId) (h : Nat → Nat) (u : St) (x1 : Int32) (x2 : Int32) (x3 : Int32) {K : Int32 → St → Prop} (hwp : wp_X8_isOut u x1 x2 x3 K) : kM l yX8_isOut cX8_isOut 4 (some .boolean) ({ frames := 0, cells := 0, slots := 0, locals := 0 } : Room) dC dI d [.ref (h 0), .int x1, .int x2, .int x3] (wSp d h) u (kQi dC dI (wSp d h) K) 0 0 := by
  refine kM_start rfl (Nat.le_of_ble_eq_true rfl) ?_
  intro p e s m below meth c A ls cx hnm hw hl
  generalize hargs : ([.ref (h 0), .int x1, .int x2, .int x3] : List Value).toArray = args at cx ⊢
  unfold wp_X8_isOut at hwp
  replace hl : lv_has ls 4 [(0, .ref (h 0)), (1, .int x1), (2, .int x2), (3, .int x3)] := hl
  generalize hH : s.heap = H at hw ⊢
  generalize hlo : ([] : List Loc) = locs at hw ⊢
  refine lv_aload_n (pc := 0) cx.1 cx.2.1 dX8_isOut_0 rfl (lv_at hl 0 rfl) ?_
  refine k_getR (pc := 1) (u := u) (v := .ref (h 2)) cx hw (lr_X8_this_1 d h) (C := RX8) (T := TX8) (N := 6) rfl in_X8 (by decide) q297 (fun _ h9 => h9) rfl dX8_isOut_1 ?_
  refine lv_iload_n (pc := 4) cx.1 cx.2.1 dX8_isOut_4 rfl (lv_at hl 1 rfl) ?_
  refine k_iald (pc := 5) (u := u) (f := (u.2.1 1)) cx hw (lx_X8_this_1 d h) 0 rfl rfl hwp.1 dX8_isOut_5 ?_
  replace hwp := hwp.2
  refine lv_iload_n (pc := 6) cx.1 cx.2.1 dX8_isOut_6 rfl (lv_at hl 2 rfl) ?_
  refine lv_icmp_lt (pc := 7) (tgt := 20) cx.1 cx.2.1 dX8_isOut_7 (by decide) (fun c1 => ?_) (fun c1 => ?_)
  · replace hwp := hwp.1 c1
    refine lv_iconst (pc := 20) (v := 1) cx.1 cx.2.1 dX8_isOut_20 (by decide) ?_
    refine lv_goto (pc := 21) (tgt := 25) cx.1 cx.2.1 dX8_isOut_21 (by decide) ?_
    exact k_zret (pc := 25) (wf := (wSp d h)) (u := u) cx hw rfl hwp (by decide) (by decide) dX8_isOut_25
  · replace hwp := hwp.2 c1
    refine lv_aload_n (pc := 10) cx.1 cx.2.1 dX8_isOut_10 rfl (lv_at hl 0 rfl) ?_
    refine k_getR (pc := 11) (u := u) (v := .ref (h 1)) cx hw (lr_X8_this_0 d h) (C := RX8) (T := TX8) (N := 6) rfl in_X8 (by decide) q295 (fun _ h9 => h9) rfl dX8_isOut_11 ?_
    refine lv_iload_n (pc := 14) cx.1 cx.2.1 dX8_isOut_14 rfl (lv_at hl 1 rfl) ?_
    refine k_iald (pc := 15) (u := u) (f := (u.2.1 0)) cx hw (lx_X8_this_0 d h) 0 rfl rfl hwp.1 dX8_isOut_15 ?_
    replace hwp := hwp.2
    refine lv_iload_n (pc := 16) cx.1 cx.2.1 dX8_isOut_16 rfl (lv_at hl 3 rfl) ?_
    refine lv_icmp_le (pc := 17) (tgt := 24) cx.1 cx.2.1 dX8_isOut_17 (by decide) (fun c2 => ?_) (fun c2 => ?_)
    · replace hwp := hwp.1 c2
      refine lv_iconst (pc := 24) (v := 0) cx.1 cx.2.1 dX8_isOut_24 (by decide) ?_
      exact k_zret (pc := 25) (wf := (wSp d h)) (u := u) cx hw rfl hwp (by decide) (by decide) dX8_isOut_25
    · replace hwp := hwp.2 c2
      refine lv_iconst (pc := 20) (v := 1) cx.1 cx.2.1 dX8_isOut_20 (by decide) ?_
      refine lv_goto (pc := 21) (tgt := 25) cx.1 cx.2.1 dX8_isOut_21 (by decide) ?_
      exact k_zret (pc := 25) (wf := (wSp d h)) (u := u) cx hw rfl hwp (by decide) (by decide) dX8_isOut_25
set_option maxHeartbeats 4000000 in
theorem m_X8_isIn (l : Launch) (dC : Nat → ClassId) (dI : Nat → Nat → Nat) (d : Nat → ClassId) (h : Nat → Nat) (u : St) (x1 : Int32) (x2 : Int32) (x3 : Int32) {K : Int32 → St → Prop} (hwp : wp_X8_isIn u x1 x2 x3 K) : kM l yX8_isIn cX8_isIn 4 (some .boolean) ({ frames := 0, cells := 0, slots := 0, locals := 0 } : Room) dC dI d [.ref (h 0), .int x1, .int x2, .int x3] (wSp d h) u (kQi dC dI (wSp d h) K) 0 0 := by
  refine kM_start rfl (Nat.le_of_ble_eq_true rfl) ?_
  intro p e s m below meth c A ls cx hnm hw hl
  generalize hargs : ([.ref (h 0), .int x1, .int x2, .int x3] : List Value).toArray = args at cx ⊢
  unfold wp_X8_isIn at hwp
  replace hl : lv_has ls 4 [(0, .ref (h 0)), (1, .int x1), (2, .int x2), (3, .int x3)] := hl
  generalize hH : s.heap = H at hw ⊢
  generalize hlo : ([] : List Loc) = locs at hw ⊢
  refine lv_aload_n (pc := 0) cx.1 cx.2.1 dX8_isIn_0 rfl (lv_at hl 0 rfl) ?_
  refine k_getR (pc := 1) (u := u) (v := .ref (h 1)) cx hw (lr_X8_this_0 d h) (C := RX8) (T := TX8) (N := 6) rfl in_X8 (by decide) q295 (fun _ h9 => h9) rfl dX8_isIn_1 ?_
  refine lv_iload_n (pc := 4) cx.1 cx.2.1 dX8_isIn_4 rfl (lv_at hl 1 rfl) ?_
  refine k_iald (pc := 5) (u := u) (f := (u.2.1 0)) cx hw (lx_X8_this_0 d h) 0 rfl rfl hwp.1 dX8_isIn_5 ?_
  replace hwp := hwp.2
  refine lv_iload_n (pc := 6) cx.1 cx.2.1 dX8_isIn_6 rfl (lv_at hl 2 rfl) ?_
  refine lv_icmp_lt (pc := 7) (tgt := 24) cx.1 cx.2.1 dX8_isIn_7 (by decide) (fun c1 => ?_) (fun c1 => ?_)
  · replace hwp := hwp.1 c1
    refine lv_iconst (pc := 24) (v := 0) cx.1 cx.2.1 dX8_isIn_24 (by decide) ?_
    exact k_zret (pc := 25) (wf := (wSp d h)) (u := u) cx hw rfl hwp (by decide) (by decide) dX8_isIn_25
  · replace hwp := hwp.2 c1
    refine lv_aload_n (pc := 10) cx.1 cx.2.1 dX8_isIn_10 rfl (lv_at hl 0 rfl) ?_
    refine k_getR (pc := 11) (u := u) (v := .ref (h 2)) cx hw (lr_X8_this_1 d h) (C := RX8) (T := TX8) (N := 6) rfl in_X8 (by decide) q297 (fun _ h9 => h9) rfl dX8_isIn_11 ?_
    refine lv_iload_n (pc := 14) cx.1 cx.2.1 dX8_isIn_14 rfl (lv_at hl 1 rfl) ?_
    refine k_iald (pc := 15) (u := u) (f := (u.2.1 1)) cx hw (lx_X8_this_1 d h) 0 rfl rfl hwp.1 dX8_isIn_15 ?_
    replace hwp := hwp.2
    refine lv_iload_n (pc := 16) cx.1 cx.2.1 dX8_isIn_16 rfl (lv_at hl 3 rfl) ?_
    refine lv_icmp_gt (pc := 17) (tgt := 24) cx.1 cx.2.1 dX8_isIn_17 (by decide) (fun c2 => ?_) (fun c2 => ?_)
    · replace hwp := hwp.1 c2
      refine lv_iconst (pc := 24) (v := 0) cx.1 cx.2.1 dX8_isIn_24 (by decide) ?_
      exact k_zret (pc := 25) (wf := (wSp d h)) (u := u) cx hw rfl hwp (by decide) (by decide) dX8_isIn_25
    · replace hwp := hwp.2 c2
      refine lv_iconst (pc := 20) (v := 1) cx.1 cx.2.1 dX8_isIn_20 (by decide) ?_
      refine lv_goto (pc := 21) (tgt := 25) cx.1 cx.2.1 dX8_isIn_21 (by decide) ?_
      exact k_zret (pc := 25) (wf := (wSp d h)) (u := u) cx hw rfl hwp (by decide) (by decide) dX8_isIn_25
set_option maxHeartbeats 4000000 in
theorem wk_X8_join_33 {p : Program} {l : Launch} {e : Env} {s : State} {m : MethodId} {args : Array Value} {below : List Frame} {meth : Method} {c : Code} {A : Nat → Prop} {dC : Nat → ClassId} {dI : Nat → Nat → Nat} {d : Nat → ClassId} {h h2 : Nat → Nat}{b : St} {K : St → Prop} (cx : Cx p s m args meth c cX8_join RX8 5 none A dC dI d) : ∀ (x1 : Int32) (x3 : Int32) (x4 : Int32) (u : St) (H : Heap) (locs : List Loc) (ls : Array Slot), wp_X8_join_33 b K x1 x3 x4 u → Wd dC dI A ((wf_X8j d h h2 b) u) s H locs → lv_has ls 5 [(0, .ref (h 0)), (1, .int x1), (2, .ref (h2 0)), (3, .int x3), (4, .int x4)] → W p l e ({ frames := 1, cells := 0, slots := 0, locals := 21 } : Room) s m args below meth c H locs 0 0 (MQ below (kQv dC dI (wf_X8j d h h2 b) K A) args s 0 0 A) (F0 m 33 ls []) := by
  intro x1 x3 x4 u H locs ls hwp hw hl
  unfold wp_X8_join_33 at hwp
  refine lv_aload_n (pc := 33) cx.1 cx.2.1 dX8_join_33 rfl (lv_at hl 0 rfl) ?_
  refine k_getR (pc := 34) (u := u) (v := .ref (h 2)) cx hw (lr_X8j_this_1 d h h2 b) (C := RX8) (T := TX8) (N := 6) rfl in_X8 (by decide) q297 (fun _ h9 => h9) rfl dX8_join_34 ?_
  refine lv_iload_n (pc := 37) cx.1 cx.2.1 dX8_join_37 rfl (lv_at hl 1 rfl) ?_
  refine lv_aload_n (pc := 38) cx.1 cx.2.1 dX8_join_38 rfl (lv_at hl 2 rfl) ?_
  refine k_getR (pc := 39) (u := u) (v := .ref (h2 2)) cx hw (lr_X8j_other_1 d h h2 b) (C := RX8) (T := TX8) (N := 6) rfl in_X8 (by decide) q297 (fun _ h9 => h9) rfl dX8_join_39 ?_
  refine lv_iload_n (pc := 42) cx.1 cx.2.1 dX8_join_42 rfl (lv_at hl 3 rfl) ?_
  refine k_iald (pc := 43) (u := u) (f := (b.2.1 1)) cx hw (lx_X8j_other_1 d h h2 b) 0 rfl rfl hwp.1 dX8_join_43 ?_
  replace hwp := hwp.2
  refine lv_topi (fun y1 ey1 => ?_)
  replace hwp := hwp y1 ey1
  refine k_iast (pc := 44) (u := u) (f := (u.2.1 1)) cx hw (ln_X8j_this_1 d h h2 b) 0 rfl rfl hwp.1 dX8_join_44 (fun H locs hw => ?_)
  replace hwp := hwp.2
  refine lv_aload_n (pc := 45) cx.1 cx.2.1 dX8_join_45 rfl (lv_at hl 0 rfl) ?_
  refine k_getR (pc := 46) (u := (st_A u 1 (upd (u.2.1 1) x1.toNatClampNeg y1))) (v := .ref (h 3)) cx hw (lr_X8j_this_2 d h h2 b) (C := RX8) (T := TX8) (N := 6) rfl in_X8 (by decide) q299 (fun _ h9 => h9) rfl dX8_join_46 ?_
  refine lv_iload_n (pc := 49) cx.1 cx.2.1 dX8_join_49 rfl (lv_at hl 1 rfl) ?_
  refine lv_iload (pc := 50) cx.1 cx.2.1 dX8_join_50 (lv_at hl 4 rfl) ?_
  have gT3 := hwp.1
  replace hwp := hwp.2
  have gF4 := hwp.1
  replace hwp := hwp.2
  have hJ5 : ∀ z2 : Int32, z2 = (if x4 = 0 then (if ((b.2.1 2) x3.toNatClampNeg) < ((u.2.1 2) x1.toNatClampNeg) then ((b.2.1 2) x3.toNatClampNeg) else ((u.2.1 2) x1.toNatClampNeg)) else ((b.2.1 2) x3.toNatClampNeg)) → W p l e ({ frames := 1, cells := 0, slots := 0, locals := 21 } : Room) s m args below meth c H locs 0 0 (MQ below (kQv dC dI (wf_X8j d h h2 b) K A) args s 0 0 A) (F0 m 79 ls [.int z2, .int x1, .ref (h 3)]) := by
    intro z2 ez2
    replace hwp := hwp z2 ez2
    refine k_iast (pc := 79) (u := (st_A u 1 (upd (u.2.1 1) x1.toNatClampNeg y1))) (f := (u.2.1 2)) cx hw (ln_X8j_this_2 d h h2 b) 0 rfl rfl hwp.1 dX8_join_79 (fun H locs hw => ?_)
    replace hwp := hwp.2
    refine lv_aload_n (pc := 80) cx.1 cx.2.1 dX8_join_80 rfl (lv_at hl 0 rfl) ?_
    refine k_getR (pc := 81) (u := (st_A (st_A u 1 (upd (u.2.1 1) x1.toNatClampNeg y1)) 2 (upd (u.2.1 2) x1.toNatClampNeg z2))) (v := .ref (h 4)) cx hw (lr_X8j_this_3 d h h2 b) (C := RX8) (T := TX8) (N := 6) rfl in_X8 (by decide) q302 (fun _ h9 => h9) rfl dX8_join_81 ?_
    refine lv_iload_n (pc := 84) cx.1 cx.2.1 dX8_join_84 rfl (lv_at hl 1 rfl) ?_
    refine lv_iload (pc := 85) cx.1 cx.2.1 dX8_join_85 (lv_at hl 4 rfl) ?_
    have gT7 := hwp.1
    replace hwp := hwp.2
    have gF8 := hwp.1
    replace hwp := hwp.2
    have hJ9 : ∀ z6 : Int32, z6 = (if x4 = 0 then (if ((u.2.1 3) x1.toNatClampNeg) < ((b.2.1 3) x3.toNatClampNeg) then ((b.2.1 3) x3.toNatClampNeg) else ((u.2.1 3) x1.toNatClampNeg)) else ((b.2.1 3) x3.toNatClampNeg)) → W p l e ({ frames := 1, cells := 0, slots := 0, locals := 21 } : Room) s m args below meth c H locs 0 0 (MQ below (kQv dC dI (wf_X8j d h h2 b) K A) args s 0 0 A) (F0 m 114 ls [.int z6, .int x1, .ref (h 4)]) := by
      intro z6 ez6
      replace hwp := hwp z6 ez6
      refine k_iast (pc := 114) (u := (st_A (st_A u 1 (upd (u.2.1 1) x1.toNatClampNeg y1)) 2 (upd (u.2.1 2) x1.toNatClampNeg z2))) (f := (u.2.1 3)) cx hw (ln_X8j_this_3 d h h2 b) 0 rfl rfl hwp.1 dX8_join_114 (fun H locs hw => ?_)
      replace hwp := hwp.2
      refine lv_aload_n (pc := 115) cx.1 cx.2.1 dX8_join_115 rfl (lv_at hl 0 rfl) ?_
      refine k_getR (pc := 116) (u := (st_A (st_A (st_A u 1 (upd (u.2.1 1) x1.toNatClampNeg y1)) 2 (upd (u.2.1 2) x1.toNatClampNeg z2)) 3 (upd (u.2.1 3) x1.toNatClampNeg z6))) (v := .ref (h 5)) cx hw (lr_X8j_this_4 d h h2 b) (C := RX8) (T := TX8) (N := 6) rfl in_X8 (by decide) q305 (fun _ h9 => h9) rfl dX8_join_116 ?_
      refine lv_iload_n (pc := 119) cx.1 cx.2.1 dX8_join_119 rfl (lv_at hl 1 rfl) ?_
      refine lv_aload_n (pc := 120) cx.1 cx.2.1 dX8_join_120 rfl (lv_at hl 0 rfl) ?_
      refine k_getR (pc := 121) (u := (st_A (st_A (st_A u 1 (upd (u.2.1 1) x1.toNatClampNeg y1)) 2 (upd (u.2.1 2) x1.toNatClampNeg z2)) 3 (upd (u.2.1 3) x1.toNatClampNeg z6))) (v := .ref (h 5)) cx hw (lr_X8j_this_4 d h h2 b) (C := RX8) (T := TX8) (N := 6) rfl in_X8 (by decide) q305 (fun _ h9 => h9) rfl dX8_join_121 ?_
      refine lv_iload_n (pc := 124) cx.1 cx.2.1 dX8_join_124 rfl (lv_at hl 1 rfl) ?_
      refine k_sald (pc := 125) (u := (st_A (st_A (st_A u 1 (upd (u.2.1 1) x1.toNatClampNeg y1)) 2 (upd (u.2.1 2) x1.toNatClampNeg z2)) 3 (upd (u.2.1 3) x1.toNatClampNeg z6))) (f := (u.2.1 4)) cx hw (lx_X8j_this_4 d h h2 b) 1 rfl rfl hwp.1 dX8_join_125 ?_
      replace hwp := hwp.2
      refine lv_aload_n (pc := 126) cx.1 cx.2.1 dX8_join_126 rfl (lv_at hl 2 rfl) ?_
      refine k_getR (pc := 127) (u := (st_A (st_A (st_A u 1 (upd (u.2.1 1) x1.toNatClampNeg y1)) 2 (upd (u.2.1 2) x1.toNatClampNeg z2)) 3 (upd (u.2.1 3) x1.toNatClampNeg z6))) (v := .ref (h2 5)) cx hw (lr_X8j_other_4 d h h2 b) (C := RX8) (T := TX8) (N := 6) rfl in_X8 (by decide) q305 (fun _ h9 => h9) rfl dX8_join_127 ?_
      refine lv_iload_n (pc := 130) cx.1 cx.2.1 dX8_join_130 rfl (lv_at hl 3 rfl) ?_
      refine k_sald (pc := 131) (u := (st_A (st_A (st_A u 1 (upd (u.2.1 1) x1.toNatClampNeg y1)) 2 (upd (u.2.1 2) x1.toNatClampNeg z2)) 3 (upd (u.2.1 3) x1.toNatClampNeg z6))) (f := (b.2.1 4)) cx hw (lx_X8j_other_4 d h h2 b) 1 rfl rfl hwp.1 dX8_join_131 ?_
      replace hwp := hwp.2
      refine lv_iadd (pc := 132) cx.1 cx.2.1 dX8_join_132 ?_
      refine lv_i2s (pc := 133) cx.1 cx.2.1 dX8_join_133 rfl ?_
      refine lv_topi (fun y10 ey10 => ?_)
      replace hwp := hwp y10 ey10
      refine k_sast (pc := 134) (u := (st_A (st_A (st_A u 1 (upd (u.2.1 1) x1.toNatClampNeg y1)) 2 (upd (u.2.1 2) x1.toNatClampNeg z2)) 3 (upd (u.2.1 3) x1.toNatClampNeg z6))) (f := (u.2.1 4)) cx hw (ln_X8j_this_4 d h h2 b) 1 rfl rfl hwp.1 dX8_join_134 (fun H locs hw => ?_)
      replace hwp := hwp.2
      refine lv_aload_n (pc := 135) cx.1 cx.2.1 dX8_join_135 rfl (lv_at hl 0 rfl) ?_
      refine k_getR (pc := 136) (u := (st_A (st_A (st_A (st_A u 1 (upd (u.2.1 1) x1.toNatClampNeg y1)) 2 (upd (u.2.1 2) x1.toNatClampNeg z2)) 3 (upd (u.2.1 3) x1.toNatClampNeg z6)) 4 (upd (u.2.1 4) x1.toNatClampNeg (vp_nar .short y10)))) (v := .ref (h 6)) cx hw (lr_X8j_this_5 d h h2 b) (C := RX8) (T := TX8) (N := 6) rfl in_X8 (by decide) q309 (fun _ h9 => h9) rfl dX8_join_136 ?_
      refine lv_iload_n (pc := 139) cx.1 cx.2.1 dX8_join_139 rfl (lv_at hl 1 rfl) ?_
      refine lv_dup2_11 (pc := 140) cx.1 cx.2.1 dX8_join_140 rfl rfl ?_
      refine k_lald (pc := 141) (u := (st_A (st_A (st_A (st_A u 1 (upd (u.2.1 1) x1.toNatClampNeg y1)) 2 (upd (u.2.1 2) x1.toNatClampNeg z2)) 3 (upd (u.2.1 3) x1.toNatClampNeg z6)) 4 (upd (u.2.1 4) x1.toNatClampNeg (vp_nar .short y10)))) (f := (u.2.2.2 5)) cx hw (lx_X8j_this_5 d h h2 b) 2 rfl rfl hwp.1 dX8_join_141 ?_
      replace hwp := hwp.2
      refine lv_aload_n (pc := 142) cx.1 cx.2.1 dX8_join_142 rfl (lv_at hl 2 rfl) ?_
      refine k_getR (pc := 143) (u := (st_A (st_A (st_A (st_A u 1 (upd (u.2.1 1) x1.toNatClampNeg y1)) 2 (upd (u.2.1 2) x1.toNatClampNeg z2)) 3 (upd (u.2.1 3) x1.toNatClampNeg z6)) 4 (upd (u.2.1 4) x1.toNatClampNeg (vp_nar .short y10)))) (v := .ref (h2 6)) cx hw (lr_X8j_other_5 d h h2 b) (C := RX8) (T := TX8) (N := 6) rfl in_X8 (by decide) q309 (fun _ h9 => h9) rfl dX8_join_143 ?_
      refine lv_iload_n (pc := 146) cx.1 cx.2.1 dX8_join_146 rfl (lv_at hl 3 rfl) ?_
      refine k_lald (pc := 147) (u := (st_A (st_A (st_A (st_A u 1 (upd (u.2.1 1) x1.toNatClampNeg y1)) 2 (upd (u.2.1 2) x1.toNatClampNeg z2)) 3 (upd (u.2.1 3) x1.toNatClampNeg z6)) 4 (upd (u.2.1 4) x1.toNatClampNeg (vp_nar .short y10)))) (f := (b.2.2.2 5)) cx hw (lx_X8j_other_5 d h h2 b) 2 rfl rfl hwp.1 dX8_join_147 ?_
      replace hwp := hwp.2
      refine lv_ladd (pc := 148) cx.1 cx.2.1 dX8_join_148 ?_
      refine lv_topl (fun y11 ey11 => ?_)
      replace hwp := hwp y11 ey11
      refine k_last (pc := 149) (u := (st_A (st_A (st_A (st_A u 1 (upd (u.2.1 1) x1.toNatClampNeg y1)) 2 (upd (u.2.1 2) x1.toNatClampNeg z2)) 3 (upd (u.2.1 3) x1.toNatClampNeg z6)) 4 (upd (u.2.1 4) x1.toNatClampNeg (vp_nar .short y10)))) (f := (u.2.2.2 5)) cx hw (ln_X8j_this_5 d h h2 b) 2 rfl rfl hwp.1 dX8_join_149 (fun H locs hw => ?_)
      replace hwp := hwp.2
      exact k_vret (pc := 150) (wf := (wf_X8j d h h2 b)) (u := (st_B (st_A (st_A (st_A (st_A u 1 (upd (u.2.1 1) x1.toNatClampNeg y1)) 2 (upd (u.2.1 2) x1.toNatClampNeg z2)) 3 (upd (u.2.1 3) x1.toNatClampNeg z6)) 4 (upd (u.2.1 4) x1.toNatClampNeg (vp_nar .short y10))) 5 (vp_updL (u.2.2.2 5) x1.toNatClampNeg y11))) cx hw hwp (by decide) (by decide) dX8_join_150
    clear hwp
    refine lv_if_eq (pc := 87) (tgt := 99) cx.1 cx.2.1 dX8_join_87 (by decide) (fun c12 => ?_) (fun c12 => ?_)
    · have hwp := gT7 c12
      replace hwp := (And.intro hwp.1 (And.intro hwp.2 trivial))
      refine lv_aload_n (pc := 99) cx.1 cx.2.1 dX8_join_99 rfl (lv_at hl 0 rfl) ?_
      refine k_getR (pc := 100) (u := (st_A (st_A u 1 (upd (u.2.1 1) x1.toNatClampNeg y1)) 2 (upd (u.2.1 2) x1.toNatClampNeg z2))) (v := .ref (h 4)) cx hw (lr_X8j_this_3 d h h2 b) (C := RX8) (T := TX8) (N := 6) rfl in_X8 (by decide) q302 (fun _ h9 => h9) rfl dX8_join_100 ?_
      refine lv_iload_n (pc := 103) cx.1 cx.2.1 dX8_join_103 rfl (lv_at hl 1 rfl) ?_
      refine k_iald (pc := 104) (u := (st_A (st_A u 1 (upd (u.2.1 1) x1.toNatClampNeg y1)) 2 (upd (u.2.1 2) x1.toNatClampNeg z2))) (f := (u.2.1 3)) cx hw (lx_X8j_this_3 d h h2 b) 0 rfl rfl hwp.1 dX8_join_104 ?_
      replace hwp := hwp.2
      refine lv_aload_n (pc := 105) cx.1 cx.2.1 dX8_join_105 rfl (lv_at hl 2 rfl) ?_
      refine k_getR (pc := 106) (u := (st_A (st_A u 1 (upd (u.2.1 1) x1.toNatClampNeg y1)) 2 (upd (u.2.1 2) x1.toNatClampNeg z2))) (v := .ref (h2 4)) cx hw (lr_X8j_other_3 d h h2 b) (C := RX8) (T := TX8) (N := 6) rfl in_X8 (by decide) q302 (fun _ h9 => h9) rfl dX8_join_106 ?_
      refine lv_iload_n (pc := 109) cx.1 cx.2.1 dX8_join_109 rfl (lv_at hl 3 rfl) ?_
      refine k_iald (pc := 110) (u := (st_A (st_A u 1 (upd (u.2.1 1) x1.toNatClampNeg y1)) 2 (upd (u.2.1 2) x1.toNatClampNeg z2))) (f := (b.2.1 3)) cx hw (lx_X8j_other_3 d h h2 b) 0 rfl rfl hwp.1 dX8_join_110 ?_
      replace hwp := hwp.2
      refine k_max (pc := 111) cx hl.1 q475 q430 q87 q431 ⟨Nat.le_of_ble_eq_true rfl, Nat.le_of_ble_eq_true rfl, Nat.le_of_ble_eq_true rfl, Nat.le_of_ble_eq_true rfl⟩ dX8_join_111 ?_
      exact hJ9 _ (if_pos c12).symm
    · have hwp := gF8 c12
      replace hwp := And.intro hwp trivial
      refine lv_aload_n (pc := 90) cx.1 cx.2.1 dX8_join_90 rfl (lv_at hl 2 rfl) ?_
      refine k_getR (pc := 91) (u := (st_A (st_A u 1 (upd (u.2.1 1) x1.toNatClampNeg y1)) 2 (upd (u.2.1 2) x1.toNatClampNeg z2))) (v := .ref (h2 4)) cx hw (lr_X8j_other_3 d h h2 b) (C := RX8) (T := TX8) (N := 6) rfl in_X8 (by decide) q302 (fun _ h9 => h9) rfl dX8_join_91 ?_
      refine lv_iload_n (pc := 94) cx.1 cx.2.1 dX8_join_94 rfl (lv_at hl 3 rfl) ?_
      refine k_iald (pc := 95) (u := (st_A (st_A u 1 (upd (u.2.1 1) x1.toNatClampNeg y1)) 2 (upd (u.2.1 2) x1.toNatClampNeg z2))) (f := (b.2.1 3)) cx hw (lx_X8j_other_3 d h h2 b) 0 rfl rfl hwp.1 dX8_join_95 ?_
      replace hwp := hwp.2
      refine lv_goto (pc := 96) (tgt := 114) cx.1 cx.2.1 dX8_join_96 (by decide) ?_
      exact hJ9 _ (if_neg c12).symm
  clear hwp
  refine lv_if_eq (pc := 52) (tgt := 64) cx.1 cx.2.1 dX8_join_52 (by decide) (fun c13 => ?_) (fun c13 => ?_)
  · have hwp := gT3 c13
    replace hwp := (And.intro hwp.1 (And.intro hwp.2 trivial))
    refine lv_aload_n (pc := 64) cx.1 cx.2.1 dX8_join_64 rfl (lv_at hl 0 rfl) ?_
    refine k_getR (pc := 65) (u := (st_A u 1 (upd (u.2.1 1) x1.toNatClampNeg y1))) (v := .ref (h 3)) cx hw (lr_X8j_this_2 d h h2 b) (C := RX8) (T := TX8) (N := 6) rfl in_X8 (by decide) q299 (fun _ h9 => h9) rfl dX8_join_65 ?_
    refine lv_iload_n (pc := 68) cx.1 cx.2.1 dX8_join_68 rfl (lv_at hl 1 rfl) ?_
    refine k_iald (pc := 69) (u := (st_A u 1 (upd (u.2.1 1) x1.toNatClampNeg y1))) (f := (u.2.1 2)) cx hw (lx_X8j_this_2 d h h2 b) 0 rfl rfl hwp.1 dX8_join_69 ?_
    replace hwp := hwp.2
    refine lv_aload_n (pc := 70) cx.1 cx.2.1 dX8_join_70 rfl (lv_at hl 2 rfl) ?_
    refine k_getR (pc := 71) (u := (st_A u 1 (upd (u.2.1 1) x1.toNatClampNeg y1))) (v := .ref (h2 3)) cx hw (lr_X8j_other_2 d h h2 b) (C := RX8) (T := TX8) (N := 6) rfl in_X8 (by decide) q299 (fun _ h9 => h9) rfl dX8_join_71 ?_
    refine lv_iload_n (pc := 74) cx.1 cx.2.1 dX8_join_74 rfl (lv_at hl 3 rfl) ?_
    refine k_iald (pc := 75) (u := (st_A u 1 (upd (u.2.1 1) x1.toNatClampNeg y1))) (f := (b.2.1 2)) cx hw (lx_X8j_other_2 d h h2 b) 0 rfl rfl hwp.1 dX8_join_75 ?_
    replace hwp := hwp.2
    refine k_min (pc := 76) cx hl.1 q474 q433 q87 q434 ⟨Nat.le_of_ble_eq_true rfl, Nat.le_of_ble_eq_true rfl, Nat.le_of_ble_eq_true rfl, Nat.le_of_ble_eq_true rfl⟩ dX8_join_76 ?_
    exact hJ5 _ (if_pos c13).symm
  · have hwp := gF4 c13
    replace hwp := And.intro hwp trivial
    refine lv_aload_n (pc := 55) cx.1 cx.2.1 dX8_join_55 rfl (lv_at hl 2 rfl) ?_
    refine k_getR (pc := 56) (u := (st_A u 1 (upd (u.2.1 1) x1.toNatClampNeg y1))) (v := .ref (h2 3)) cx hw (lr_X8j_other_2 d h h2 b) (C := RX8) (T := TX8) (N := 6) rfl in_X8 (by decide) q299 (fun _ h9 => h9) rfl dX8_join_56 ?_
    refine lv_iload_n (pc := 59) cx.1 cx.2.1 dX8_join_59 rfl (lv_at hl 3 rfl) ?_
    refine k_iald (pc := 60) (u := (st_A u 1 (upd (u.2.1 1) x1.toNatClampNeg y1))) (f := (b.2.1 2)) cx hw (lx_X8j_other_2 d h h2 b) 0 rfl rfl hwp.1 dX8_join_60 ?_
    replace hwp := hwp.2
    refine lv_goto (pc := 61) (tgt := 79) cx.1 cx.2.1 dX8_join_61 (by decide) ?_
    exact hJ5 _ (if_neg c13).symm
set_option maxHeartbeats 4000000 in
theorem m_X8_join (l : Launch) (dC : Nat → ClassId) (dI : Nat → Nat → Nat) (d : Nat → ClassId) (h h2 : Nat → Nat) (b : St) (u : St) (x1 : Int32) (x3 : Int32) {K : St → Prop} (hwp : wp_X8_join b u x1 x3 K) : kM l yX8_join cX8_join 5 none ({ frames := 1, cells := 0, slots := 0, locals := 21 } : Room) dC dI d [.ref (h 0), .int x1, .ref (h2 0), .int x3] (wf_X8j d h h2 b) u (kQv dC dI (wf_X8j d h h2 b) K) 0 0 := by
  refine kM_start rfl (Nat.le_of_ble_eq_true rfl) ?_
  intro p e s m below meth c A ls cx hnm hw hl
  generalize hargs : ([.ref (h 0), .int x1, .ref (h2 0), .int x3] : List Value).toArray = args at cx ⊢
  unfold wp_X8_join at hwp
  replace hl : lv_has ls 5 [(0, .ref (h 0)), (1, .int x1), (2, .ref (h2 0)), (3, .int x3)] := hl
  generalize hH : s.heap = H at hw ⊢
  generalize hlo : ([] : List Loc) = locs at hw ⊢
  refine lv_aload_n (pc := 0) cx.1 cx.2.1 dX8_join_0 rfl (lv_at hl 0 rfl) ?_
  refine k_getR (pc := 1) (u := u) (v := .ref (h 5)) cx hw (lr_X8j_this_4 d h h2 b) (C := RX8) (T := TX8) (N := 6) rfl in_X8 (by decide) q305 (fun _ h9 => h9) rfl dX8_join_1 ?_
  refine lv_iload_n (pc := 4) cx.1 cx.2.1 dX8_join_4 rfl (lv_at hl 1 rfl) ?_
  refine k_sald (pc := 5) (u := u) (f := (u.2.1 4)) cx hw (lx_X8j_this_4 d h h2 b) 1 rfl rfl hwp.1 dX8_join_5 ?_
  replace hwp := hwp.2
  have hJ2 : ∀ z1 : Int32, z1 = (if ((u.2.1 4) x1.toNatClampNeg) = 0 then (1 : Int32) else (0 : Int32)) → W p l e ({ frames := 1, cells := 0, slots := 0, locals := 21 } : Room) s m args below meth c H locs 0 0 (MQ below (kQv dC dI (wf_X8j d h h2 b) K A) args s 0 0 A) (F0 m 14 ls [.int z1]) := by
    intro z1 ez1
    replace hwp := hwp z1 ez1
    refine lv_istore (pc := 14) (lv' := [(4, .int z1), (0, .ref (h 0)), (1, .int x1), (2, .ref (h2 0)), (3, .int x3)]) cx.1 cx.2.1 dX8_join_14 hl (by decide) rfl (fun ls hl => ?_)
    refine lv_iload (pc := 16) cx.1 cx.2.1 dX8_join_16 (lv_at hl 0 rfl) ?_
    refine lv_if_eq (pc := 18) (tgt := 33) cx.1 cx.2.1 dX8_join_18 (by decide) (fun c3 => ?_) (fun c3 => ?_)
    · replace hwp := hwp.1 c3
      exact wk_X8_join_33 cx _ _ _ _ _ _ _ hwp hw (lv_sub hl [1, 2, 3, 4, 0] rfl)
    · replace hwp := hwp.2 c3
      refine lv_aload_n (pc := 21) cx.1 cx.2.1 dX8_join_21 rfl (lv_at hl 1 rfl) ?_
      refine k_getR (pc := 22) (u := u) (v := .ref (h 1)) cx hw (lr_X8j_this_0 d h h2 b) (C := RX8) (T := TX8) (N := 6) rfl in_X8 (by decide) q295 (fun _ h9 => h9) rfl dX8_join_22 ?_
      refine lv_iload_n (pc := 25) cx.1 cx.2.1 dX8_join_25 rfl (lv_at hl 2 rfl) ?_
      refine lv_aload_n (pc := 26) cx.1 cx.2.1 dX8_join_26 rfl (lv_at hl 3 rfl) ?_
      refine k_getR (pc := 27) (u := u) (v := .ref (h2 1)) cx hw (lr_X8j_other_0 d h h2 b) (C := RX8) (T := TX8) (N := 6) rfl in_X8 (by decide) q295 (fun _ h9 => h9) rfl dX8_join_27 ?_
      refine lv_iload_n (pc := 30) cx.1 cx.2.1 dX8_join_30 rfl (lv_at hl 4 rfl) ?_
      refine k_iald (pc := 31) (u := u) (f := (b.2.1 0)) cx hw (lx_X8j_other_0 d h h2 b) 0 rfl rfl hwp.1 dX8_join_31 ?_
      replace hwp := hwp.2
      refine lv_topi (fun y4 ey4 => ?_)
      replace hwp := hwp y4 ey4
      refine k_iast (pc := 32) (u := u) (f := (u.2.1 0)) cx hw (ln_X8j_this_0 d h h2 b) 0 rfl rfl hwp.1 dX8_join_32 (fun H locs hw => ?_)
      replace hwp := hwp.2
      exact wk_X8_join_33 cx _ _ _ _ _ _ _ hwp hw (lv_sub hl [1, 2, 3, 4, 0] rfl)
  clear hwp
  refine lv_if_ne (pc := 6) (tgt := 13) cx.1 cx.2.1 dX8_join_6 (by decide) (fun c5 => ?_) (fun c5 => ?_)
  · skip
    refine lv_iconst (pc := 13) (v := 0) cx.1 cx.2.1 dX8_join_13 (by decide) ?_
    exact hJ2 _ (if_neg c5).symm
  · skip
    refine lv_iconst (pc := 9) (v := 1) cx.1 cx.2.1 dX8_join_9 (by decide) ?_
    refine lv_goto (pc := 10) (tgt := 14) cx.1 cx.2.1 dX8_join_10 (by decide) ?_
    exact hJ2 _ (if_pos c5).symm
set_option maxHeartbeats 4000000 in
theorem m_X7_opens (l : Launch) (dC : Nat → ClassId) (dI : Nat → Nat → Nat) (d : Nat → ClassId) (h h2 : Nat → Nat) (u : St × St) (x1 : Int32) {K : Int32 → (St × St) → Prop} (hwp : wp_X7_opens u x1 K) : kM l yX7_opens cX7_opens 2 (some .boolean) ({ frames := 1, cells := 0, slots := 0, locals := 21 } : Room) dC dI d [.ref (h 0), .int x1] (wf_X7 d h h2) u (kQi dC dI (wf_X7 d h h2) K) 0 0 := by
  refine kM_start rfl (Nat.le_of_ble_eq_true rfl) ?_
  intro p e s m below meth c A ls cx hnm hw hl
  generalize hargs : ([.ref (h 0), .int x1] : List Value).toArray = args at cx ⊢
  unfold wp_X7_opens at hwp
  replace hl : lv_has ls 2 [(0, .ref (h 0)), (1, .int x1)] := hl
  generalize hH : s.heap = H at hw ⊢
  generalize hlo : ([] : List Loc) = locs at hw ⊢
  refine lv_aload_n (pc := 0) cx.1 cx.2.1 dX7_opens_0 rfl (lv_at hl 0 rfl) ?_
  refine k_getI (pc := 1) (u := u) (v := (u.1.1 5)) cx hw (ln_X7_this_5 d h h2) (C := RX7) (T := TX7) (N := 7) rfl in_X7 (by decide) q339 (fun _ h9 => h9) rfl dX7_opens_1 ?_
  refine lv_bipush (pc := 4) (v := 96) cx.1 cx.2.1 dX7_opens_4 (by decide) ?_
  refine lv_icmp_ne (pc := 6) (tgt := 11) cx.1 cx.2.1 dX7_opens_6 (by decide) (fun c1 => ?_) (fun c1 => ?_)
  · replace hwp := hwp.1 c1
    refine lv_aload_n (pc := 11) cx.1 cx.2.1 dX7_opens_11 rfl (lv_at hl 0 rfl) ?_
    refine k_getR (pc := 12) (u := u) (v := .ref (h 1)) cx hw (lr_X7_this_1 d h h2) (C := RX7) (T := TX7) (N := 7) rfl in_X7 (by decide) q330 (fun _ h9 => h9) rfl dX7_opens_12 ?_
    refine lv_aload_n (pc := 15) cx.1 cx.2.1 dX7_opens_15 rfl (lv_at hl 0 rfl) ?_
    refine k_getI (pc := 16) (u := u) (v := (u.1.1 5)) cx hw (ln_X7_this_5 d h h2) (C := RX7) (T := TX7) (N := 7) rfl in_X7 (by decide) q339 (fun _ h9 => h9) rfl dX7_opens_16 ?_
    refine lv_iload_n (pc := 19) cx.1 cx.2.1 dX7_opens_19 rfl (lv_at hl 1 rfl) ?_
    refine lv_i2b (pc := 20) cx.1 cx.2.1 dX7_opens_20 rfl ?_
    refine k_bast (pc := 21) (u := u) (f := (u.1.2.1 1)) cx hw (ln_X7_this_1 d h h2) 3 rfl rfl hwp.1 dX7_opens_21 (fun H locs hw => ?_)
    replace hwp := hwp.2
    refine lv_aload_n (pc := 22) cx.1 cx.2.1 dX7_opens_22 rfl (lv_at hl 0 rfl) ?_
    refine k_getR (pc := 23) (u := (p1_A u 1 (upd (u.1.2.1 1) (u.1.1 5).toNatClampNeg (vp_nar .byte x1.toInt8.toInt32)))) (v := .ref (h 4)) cx hw (lr_X7_this_4 d h h2) (C := RX7) (T := TX7) (N := 7) rfl in_X7 (by decide) q337 (fun _ h9 => h9) rfl dX7_opens_23 ?_
    refine lv_aload_n (pc := 26) cx.1 cx.2.1 dX7_opens_26 rfl (lv_at hl 0 rfl) ?_
    refine k_getI (pc := 27) (u := (p1_A u 1 (upd (u.1.2.1 1) (u.1.1 5).toNatClampNeg (vp_nar .byte x1.toInt8.toInt32)))) (v := (u.1.1 5)) cx hw (ln_X7_this_5 d h h2) (C := RX7) (T := TX7) (N := 7) rfl in_X7 (by decide) q339 (fun _ h9 => h9) rfl dX7_opens_27 ?_
    refine lv_iconst (pc := 30) (v := -1) cx.1 cx.2.1 dX7_opens_30 (by decide) ?_
    refine k_iast (pc := 31) (u := (p1_A u 1 (upd (u.1.2.1 1) (u.1.1 5).toNatClampNeg (vp_nar .byte x1.toInt8.toInt32)))) (f := (u.1.2.1 4)) cx hw (ln_X7_this_4 d h h2) 0 rfl rfl hwp.1 dX7_opens_31 (fun H locs hw => ?_)
    replace hwp := hwp.2
    refine lv_aload_n (pc := 32) cx.1 cx.2.1 dX7_opens_32 rfl (lv_at hl 0 rfl) ?_
    refine k_getR (pc := 33) (u := (p1_A (p1_A u 1 (upd (u.1.2.1 1) (u.1.1 5).toNatClampNeg (vp_nar .byte x1.toInt8.toInt32))) 4 (upd (u.1.2.1 4) (u.1.1 5).toNatClampNeg (-1 : Int32)))) (v := .ref (h2 0)) cx hw (lr_X7_this_0 d h h2) (C := RX7) (T := TX7) (N := 7) rfl in_X7 (by decide) q327 (fun _ h9 => h9) rfl dX7_opens_33 ?_
    refine lv_aload_n (pc := 36) cx.1 cx.2.1 dX7_opens_36 rfl (lv_at hl 0 rfl) ?_
    refine k_getI (pc := 37) (u := (p1_A (p1_A u 1 (upd (u.1.2.1 1) (u.1.1 5).toNatClampNeg (vp_nar .byte x1.toInt8.toInt32))) 4 (upd (u.1.2.1 4) (u.1.1 5).toNatClampNeg (-1 : Int32)))) (v := (u.1.1 5)) cx hw (ln_X7_this_5 d h h2) (C := RX7) (T := TX7) (N := 7) rfl in_X7 (by decide) q339 (fun _ h9 => h9) rfl dX7_opens_37 ?_
    have hpt := k_part (w := (wSp d h2) u.2) (is := [6, 7, 8, 9, 10, 11, 12]) hw (pc_X7_X8_spans d h h2 (p1_A (p1_A u 1 (upd (u.1.2.1 1) (u.1.1 5).toNatClampNeg (vp_nar .byte x1.toInt8.toInt32))) 4 (upd (u.1.2.1 4) (u.1.1 5).toNatClampNeg (-1 : Int32)))) (by decide)
    refine k_part_v (pc := 40) (wf := (wSp d h2)) (u := u.2) cx hw [6, 7, 8, 9, 10, 11, 12] (pc_X7_X8_spans d h h2 (p1_A (p1_A u 1 (upd (u.1.2.1 1) (u.1.1 5).toNatClampNeg (vp_nar .byte x1.toInt8.toInt32))) 4 (upd (u.1.2.1 4) (u.1.1 5).toNatClampNeg (-1 : Int32)))) (by decide) (fun _ => rfl) (pw_X7_X8_spans d h h2 (p1_A (p1_A u 1 (upd (u.1.2.1 1) (u.1.1 5).toNatClampNeg (vp_nar .byte x1.toInt8.toInt32))) 4 (upd (u.1.2.1 4) (u.1.1 5).toNatClampNeg (-1 : Int32)))) (k_runV (pc := 40) (rest := []) (As := [.int (u.1.1 5)]) cx hpt.1 hpt.2 hw.2.2 (k_recv cx hw 6 (ci := 6) (q := (RX8, TX8, 6)) rfl rfl) (m_X8_begin l dC dI d h2  u.2 (u.1.1 5) hwp H.size) (cwV 1 cx.2.2.2.2.1 (lw_V q622 q467 q468 q84 q469) rfl rfl rfl hdV_X8_begin ⟨Nat.le_of_ble_eq_true rfl, Nat.le_of_ble_eq_true rfl⟩) rfl hl.1 rfl (Nat.le_of_ble_eq_true rfl) dX7_opens_40 ⟨Nat.le_of_ble_eq_true rfl, Nat.le_of_ble_eq_true rfl⟩) (fun v2 H locs hwp hw => ?_)
    refine lv_aload_n (pc := 43) cx.1 cx.2.1 dX7_opens_43 rfl (lv_at hl 0 rfl) ?_
    refine lv_dup (pc := 44) cx.1 cx.2.1 dX7_opens_44 rfl ?_
    refine k_getI (pc := 45) (u := (p2_O (p1_A (p1_A u 1 (upd (u.1.2.1 1) (u.1.1 5).toNatClampNeg (vp_nar .byte x1.toInt8.toInt32))) 4 (upd (u.1.2.1 4) (u.1.1 5).toNatClampNeg (-1 : Int32))) v2)) (v := (u.1.1 5)) cx hw (ln_X7_this_5 d h h2) (C := RX7) (T := TX7) (N := 7) rfl in_X7 (by decide) q339 (fun _ h9 => h9) rfl dX7_opens_45 ?_
    refine lv_iconst (pc := 48) (v := 1) cx.1 cx.2.1 dX7_opens_48 (by decide) ?_
    refine lv_iadd (pc := 49) cx.1 cx.2.1 dX7_opens_49 ?_
    refine k_putI (pc := 50) (u := (p2_O (p1_A (p1_A u 1 (upd (u.1.2.1 1) (u.1.1 5).toNatClampNeg (vp_nar .byte x1.toInt8.toInt32))) 4 (upd (u.1.2.1 4) (u.1.1 5).toNatClampNeg (-1 : Int32))) v2)) (v := ((u.1.1 5) + (1 : Int32))) cx hw (ln_X7_this_5 d h h2) (C := RX7) (T := TX7) (N := 7) rfl in_X7 tyX7 tyX7_ok nmX7 (by decide) q339 (fun _ h9 => h9) rfl rfl rfl dX7_opens_50 (fun H locs hw => ?_)
    refine lv_iconst (pc := 53) (v := 1) cx.1 cx.2.1 dX7_opens_53 (by decide) ?_
    exact k_zret (pc := 54) (wf := (wf_X7 d h h2)) (u := (p1_I (p2_O (p1_A (p1_A u 1 (upd (u.1.2.1 1) (u.1.1 5).toNatClampNeg (vp_nar .byte x1.toInt8.toInt32))) 4 (upd (u.1.2.1 4) (u.1.1 5).toNatClampNeg (-1 : Int32))) v2) 5 ((u.1.1 5) + (1 : Int32)))) cx hw rfl hwp (by decide) (by decide) dX7_opens_54
  · replace hwp := hwp.2 c1
    refine lv_iconst (pc := 9) (v := 0) cx.1 cx.2.1 dX7_opens_9 (by decide) ?_
    exact k_zret (pc := 10) (wf := (wf_X7 d h h2)) (u := u) cx hw rfl hwp (by decide) (by decide) dX7_opens_10
set_option maxHeartbeats 4000000 in
theorem wk_X7_ends_34 {p : Program} {l : Launch} {e : Env} {s : State} {m : MethodId} {args : Array Value} {below : List Frame} {meth : Method} {c : Code} {A : Nat → Prop} {dC : Nat → ClassId} {dI : Nat → Nat → Nat} {d : Nat → ClassId} {h h2 : Nat → Nat} {C4 : Int32 → Int32 → (St × St) → Prop} {K : (St × St) → Prop} (cx : Cx p s m args meth c cX7_ends RX7 3 none A dC dI d) (hC4 : ∀ (x1 : Int32) (x2 : Int32) (u : St × St) (H : Heap) (locs : List Loc) (ls : Array Slot), C4 x1 x2 u → Wd dC dI A ((wf_X7 d h h2) u) s H locs → lv_has ls 3 [(0, .ref (h 0)), (1, .int x1), (2, .int x2)] → W p l e ({ frames := 0, cells := 0, slots := 0, locals := 0 } : Room) s m args below meth c H locs 0 0 (MQ below (kQv dC dI (wf_X7 d h h2) K A) args s 0 0 A) (F0 m 4 ls [])) : ∀ (x1 : Int32) (x2 : Int32) (u : St × St) (H : Heap) (locs : List Loc) (ls : Array Slot), wp_X7_ends_34 C4 K x1 x2 u → Wd dC dI A ((wf_X7 d h h2) u) s H locs → lv_has ls 3 [(0, .ref (h 0)), (1, .int x1), (2, .int x2)] → W p l e ({ frames := 0, cells := 0, slots := 0, locals := 0 } : Room) s m args below meth c H locs 0 0 (MQ below (kQv dC dI (wf_X7 d h h2) K A) args s 0 0 A) (F0 m 34 ls []) := by
  intro x1 x2 u H locs ls hwp hw hl
  unfold wp_X7_ends_34 at hwp
  refine lv_aload_n (pc := 34) cx.1 cx.2.1 dX7_ends_34 rfl (lv_at hl 0 rfl) ?_
  refine k_getR (pc := 35) (u := u) (v := .ref (h 5)) cx hw (lr_X7_this_6 d h h2) (C := RX7) (T := TX7) (N := 7) rfl in_X7 (by decide) q341 (fun _ h9 => h9) rfl dX7_ends_35 ?_
  refine lv_iload_n (pc := 38) cx.1 cx.2.1 dX7_ends_38 rfl (lv_at hl 2 rfl) ?_
  refine lv_iload_n (pc := 39) cx.1 cx.2.1 dX7_ends_39 rfl (lv_at hl 1 rfl) ?_
  refine k_iast (pc := 40) (u := u) (f := (u.1.2.1 6)) cx hw (ln_X7_this_6 d h h2) 0 rfl rfl hwp.1 dX7_ends_40 (fun H locs hw => ?_)
  replace hwp := hwp.2
  refine lv_iinc (pc := 41) (v := (x2 + (1 : Int32))) (lv' := [(2, .int (x2 + (1 : Int32))), (0, .ref (h 0)), (1, .int x1)]) cx.1 cx.2.1 dX7_ends_41 hl (k := 2) rfl rfl (by decide) rfl (fun ls hl => ?_)
  refine lv_goto (pc := 44) (tgt := 4) cx.1 cx.2.1 dX7_ends_44 (by decide) ?_
  exact hC4 _ _ _ _ _ _ hwp hw (lv_sub hl [1, 2, 0] rfl)
set_option maxHeartbeats 4000000 in
theorem wk_X7_ends_10 {p : Program} {l : Launch} {e : Env} {s : State} {m : MethodId} {args : Array Value} {below : List Frame} {meth : Method} {c : Code} {A : Nat → Prop} {dC : Nat → ClassId} {dI : Nat → Nat → Nat} {d : Nat → ClassId} {h h2 : Nat → Nat} {C4 : Int32 → Int32 → (St × St) → Prop} {K : (St × St) → Prop} (cx : Cx p s m args meth c cX7_ends RX7 3 none A dC dI d) (hC4 : ∀ (x1 : Int32) (x2 : Int32) (u : St × St) (H : Heap) (locs : List Loc) (ls : Array Slot), C4 x1 x2 u → Wd dC dI A ((wf_X7 d h h2) u) s H locs → lv_has ls 3 [(0, .ref (h 0)), (1, .int x1), (2, .int x2)] → W p l e ({ frames := 0, cells := 0, slots := 0, locals := 0 } : Room) s m args below meth c H locs 0 0 (MQ below (kQv dC dI (wf_X7 d h h2) K A) args s 0 0 A) (F0 m 4 ls [])) : ∀ (n : Nat) (x1 : Int32) (x2 : Int32) (u : St × St) (H : Heap) (locs : List Loc) (ls : Array Slot), wp_X7_ends_10 C4 K n x1 x2 u → Wd dC dI A ((wf_X7 d h h2) u) s H locs → lv_has ls 3 [(0, .ref (h 0)), (1, .int x1), (2, .int x2)] → W p l e ({ frames := 0, cells := 0, slots := 0, locals := 0 } : Room) s m args below meth c H locs 0 0 (MQ below (kQv dC dI (wf_X7 d h h2) K A) args s 0 0 A) (F0 m 10 ls []) := by
  intro n
  induction n with
  | zero =>
    intros; contradiction
  | succ n ih =>
    intro x1 x2 u H locs ls hwp hw hl
    unfold wp_X7_ends_10 at hwp
    refine lv_iload_n (pc := 10) cx.1 cx.2.1 dX7_ends_10 rfl (lv_at hl 1 rfl) ?_
    refine lv_aload_n (pc := 11) cx.1 cx.2.1 dX7_ends_11 rfl (lv_at hl 0 rfl) ?_
    refine k_getI (pc := 12) (u := u) (v := (u.1.1 5)) cx hw (ln_X7_this_5 d h h2) (C := RX7) (T := TX7) (N := 7) rfl in_X7 (by decide) q339 (fun _ h9 => h9) rfl dX7_ends_12 ?_
    refine lv_icmp_ge (pc := 15) (tgt := 34) cx.1 cx.2.1 dX7_ends_15 (by decide) (fun c1 => ?_) (fun c1 => ?_)
    · replace hwp := hwp.1 c1
      exact wk_X7_ends_34 cx hC4 _ _ _ _ _ _ hwp hw (lv_sub hl [0, 1, 2] rfl)
    · replace hwp := hwp.2 c1
      refine lv_aload_n (pc := 18) cx.1 cx.2.1 dX7_ends_18 rfl (lv_at hl 0 rfl) ?_
      refine k_getR (pc := 19) (u := u) (v := .ref (h 1)) cx hw (lr_X7_this_1 d h h2) (C := RX7) (T := TX7) (N := 7) rfl in_X7 (by decide) q330 (fun _ h9 => h9) rfl dX7_ends_19 ?_
      refine lv_iload_n (pc := 22) cx.1 cx.2.1 dX7_ends_22 rfl (lv_at hl 1 rfl) ?_
      refine k_bald (pc := 23) (u := u) (f := (u.1.2.1 1)) cx hw (lx_X7_this_1 d h h2) 3 rfl rfl hwp.1 dX7_ends_23 ?_
      replace hwp := hwp.2
      refine lv_iload_n (pc := 24) cx.1 cx.2.1 dX7_ends_24 rfl (lv_at hl 2 rfl) ?_
      refine lv_icmp_ge (pc := 25) (tgt := 34) cx.1 cx.2.1 dX7_ends_25 (by decide) (fun c2 => ?_) (fun c2 => ?_)
      · replace hwp := hwp.1 c2
        exact wk_X7_ends_34 cx hC4 _ _ _ _ _ _ hwp hw (lv_sub hl [0, 1, 2] rfl)
      · replace hwp := hwp.2 c2
        refine lv_iinc (pc := 28) (v := (x1 + (1 : Int32))) (lv' := [(1, .int (x1 + (1 : Int32))), (0, .ref (h 0)), (2, .int x2)]) cx.1 cx.2.1 dX7_ends_28 hl (k := 1) rfl rfl (by decide) rfl (fun ls hl => ?_)
        refine lv_goto (pc := 31) (tgt := 10) cx.1 cx.2.1 dX7_ends_31 (by decide) ?_
        exact ih _ _ _ _ _ _ hwp hw (lv_sub hl [1, 0, 2] rfl)
set_option maxHeartbeats 4000000 in
theorem wk_X7_ends_4 {p : Program} {l : Launch} {e : Env} {s : State} {m : MethodId} {args : Array Value} {below : List Frame} {meth : Method} {c : Code} {A : Nat → Prop} {dC : Nat → ClassId} {dI : Nat → Nat → Nat} {d : Nat → ClassId} {h h2 : Nat → Nat} {K : (St × St) → Prop} (cx : Cx p s m args meth c cX7_ends RX7 3 none A dC dI d) : ∀ (n : Nat) (x1 : Int32) (x2 : Int32) (u : St × St) (H : Heap) (locs : List Loc) (ls : Array Slot), wp_X7_ends_4 K n x1 x2 u → Wd dC dI A ((wf_X7 d h h2) u) s H locs → lv_has ls 3 [(0, .ref (h 0)), (1, .int x1), (2, .int x2)] → W p l e ({ frames := 0, cells := 0, slots := 0, locals := 0 } : Room) s m args below meth c H locs 0 0 (MQ below (kQv dC dI (wf_X7 d h h2) K A) args s 0 0 A) (F0 m 4 ls []) := by
  intro n
  induction n with
  | zero =>
    intros; contradiction
  | succ n ih =>
    intro x1 x2 u H locs ls hwp hw hl
    unfold wp_X7_ends_4 at hwp
    refine lv_iload_n (pc := 4) cx.1 cx.2.1 dX7_ends_4 rfl (lv_at hl 2 rfl) ?_
    refine lv_bipush (pc := 5) (v := 8) cx.1 cx.2.1 dX7_ends_5 (by decide) ?_
    refine lv_icmp_gt (pc := 7) (tgt := 47) cx.1 cx.2.1 dX7_ends_7 (by decide) (fun c1 => ?_) (fun c1 => ?_)
    · replace hwp := hwp.1 c1
      exact k_vret (pc := 47) (wf := (wf_X7 d h h2)) (u := u) cx hw hwp (by decide) (by decide) dX7_ends_47
    · replace hwp := hwp.2 c1
      obtain ⟨n10, hwp⟩ := hwp
      exact wk_X7_ends_10 cx ih n10 _ _ _ _ _ _ hwp hw (lv_sub hl [0, 1, 2] rfl)
set_option maxHeartbeats 4000000 in
theorem m_X7_ends (l : Launch) (dC : Nat → ClassId) (dI : Nat → Nat → Nat) (d : Nat → ClassId) (h h2 : Nat → Nat) (u : St × St) {K : (St × St) → Prop} (hwp : wp_X7_ends u K) : kM l yX7_ends cX7_ends 3 none ({ frames := 0, cells := 0, slots := 0, locals := 0 } : Room) dC dI d [.ref (h 0)] (wf_X7 d h h2) u (kQv dC dI (wf_X7 d h h2) K) 0 0 := by
  refine kM_start rfl (Nat.le_of_ble_eq_true rfl) ?_
  intro p e s m below meth c A ls cx hnm hw hl
  generalize hargs : ([.ref (h 0)] : List Value).toArray = args at cx ⊢
  unfold wp_X7_ends at hwp
  replace hl : lv_has ls 3 [(0, .ref (h 0))] := hl
  generalize hH : s.heap = H at hw ⊢
  generalize hlo : ([] : List Loc) = locs at hw ⊢
  refine lv_iconst (pc := 0) (v := 0) cx.1 cx.2.1 dX7_ends_0 (by decide) ?_
  refine lv_istore_n (pc := 1) (lv' := [(1, .int (0 : Int32)), (0, .ref (h 0))]) cx.1 cx.2.1 dX7_ends_1 rfl hl (by decide) rfl (fun ls hl => ?_)
  refine lv_iconst (pc := 2) (v := 0) cx.1 cx.2.1 dX7_ends_2 (by decide) ?_
  refine lv_istore_n (pc := 3) (lv' := [(2, .int (0 : Int32)), (1, .int (0 : Int32)), (0, .ref (h 0))]) cx.1 cx.2.1 dX7_ends_3 rfl hl (by decide) rfl (fun ls hl => ?_)
  obtain ⟨n4, hwp⟩ := hwp
  exact wk_X7_ends_4 cx n4 _ _ _ _ _ _ hwp hw (lv_sub hl [2, 1, 0] rfl)
set_option maxHeartbeats 4000000 in
theorem m_X7_copies (l : Launch) (dC : Nat → ClassId) (dI : Nat → Nat → Nat) (d : Nat → ClassId) (h h2 h3 h4 : Nat → Nat) (b b2 : St) (u : St × St) (x2 : Int32) {K : Int32 → (St × St) → Prop} (hwp : wp_X7_copies b b2 u x2 K) : kM l yX7_copies cX7_copies 3 (some .boolean) ({ frames := 2, cells := 0, slots := 0, locals := 45 } : Room) dC dI d [.ref (h 0), .ref (h3 0), .int x2] (wf_X7c d h h2 h3 h4 b b2) u (kQi dC dI (wf_X7c d h h2 h3 h4 b b2) K) 0 0 := by
  refine kM_start rfl (Nat.le_of_ble_eq_true rfl) ?_
  intro p e s m below meth c A ls cx hnm hw hl
  generalize hargs : ([.ref (h 0), .ref (h3 0), .int x2] : List Value).toArray = args at cx ⊢
  unfold wp_X7_copies at hwp
  replace hl : lv_has ls 3 [(0, .ref (h 0)), (1, .ref (h3 0)), (2, .int x2)] := hl
  generalize hH : s.heap = H at hw ⊢
  generalize hlo : ([] : List Loc) = locs at hw ⊢
  refine lv_aload_n (pc := 0) cx.1 cx.2.1 dX7_copies_0 rfl (lv_at hl 0 rfl) ?_
  refine lv_aload_n (pc := 1) cx.1 cx.2.1 dX7_copies_1 rfl (lv_at hl 1 rfl) ?_
  refine k_getR (pc := 2) (u := u) (v := .ref (h3 1)) cx hw (lr_X7c_other_1 d h h2 h3 h4 b b2) (C := RX7) (T := TX7) (N := 7) rfl in_X7 (by decide) q330 (fun _ h9 => h9) rfl dX7_copies_2 ?_
  refine lv_iload_n (pc := 5) cx.1 cx.2.1 dX7_copies_5 rfl (lv_at hl 2 rfl) ?_
  refine k_bald (pc := 6) (u := u) (f := (b.2.1 1)) cx hw (lx_X7c_other_1 d h h2 h3 h4 b b2) 3 rfl rfl hwp.1 dX7_copies_6 ?_
  replace hwp := hwp.2
  have hpt := k_part (w := (wf_X7 d h h2) (u.1, u.2)) (is := [0, 1, 2, 3, 4, 5, 6, 7, 8, 9, 10, 11, 12]) hw (pc_X7c_X7_this_spans d h h2 h3 h4 b b2 u) (by decide)
  refine k_part_i (pc := 7) (wf := (wf_X7 d h h2)) (u := (u.1, u.2)) cx hw [0, 1, 2, 3, 4, 5, 6, 7, 8, 9, 10, 11, 12] (pc_X7c_X7_this_spans d h h2 h3 h4 b b2 u) (by decide) (fun _ => rfl) (pw_X7c_X7_this_spans d h h2 h3 h4 b b2 u) (k_runV (pc := 7) (rest := []) (As := [.int ((b.2.1 1) x2.toNatClampNeg)]) cx hpt.1 hpt.2 hw.2.2 (k_recv cx hw 0 (ci := 5) (q := (RX7, TX7, 7)) rfl rfl) (m_X7_opens l dC dI d h h2  (u.1, u.2) ((b.2.1 1) x2.toNatClampNeg) hwp H.size) (cwV 1 cx.2.2.2.2.1 (lw_V q618 q619 q620 q83 q621) rfl rfl rfl hdV_X7_opens ⟨Nat.le_of_ble_eq_true rfl, Nat.le_of_ble_eq_true rfl⟩) rfl hl.1 rfl (Nat.le_of_ble_eq_true rfl) dX7_copies_7 ⟨Nat.le_of_ble_eq_true rfl, Nat.le_of_ble_eq_true rfl⟩) (fun r2 v1 H locs hwp hw => ?_)
  refine lv_if_ne (pc := 10) (tgt := 15) cx.1 cx.2.1 dX7_copies_10 (by decide) (fun c3 => ?_) (fun c3 => ?_)
  · replace hwp := hwp.1 c3
    refine lv_aload_n (pc := 15) cx.1 cx.2.1 dX7_copies_15 rfl (lv_at hl 0 rfl) ?_
    refine k_getR (pc := 16) (u := v1) (v := .ref (h2 0)) cx hw (lr_X7c_this_0 d h h2 h3 h4 b b2) (C := RX7) (T := TX7) (N := 7) rfl in_X7 (by decide) q327 (fun _ h9 => h9) rfl dX7_copies_16 ?_
    refine lv_aload_n (pc := 19) cx.1 cx.2.1 dX7_copies_19 rfl (lv_at hl 0 rfl) ?_
    refine k_getI (pc := 20) (u := v1) (v := (v1.1.1 5)) cx hw (ln_X7c_this_5 d h h2 h3 h4 b b2) (C := RX7) (T := TX7) (N := 7) rfl in_X7 (by decide) q339 (fun _ h9 => h9) rfl dX7_copies_20 ?_
    refine lv_iconst (pc := 23) (v := 1) cx.1 cx.2.1 dX7_copies_23 (by decide) ?_
    refine lv_isub (pc := 24) cx.1 cx.2.1 dX7_copies_24 ?_
    refine lv_aload_n (pc := 25) cx.1 cx.2.1 dX7_copies_25 rfl (lv_at hl 1 rfl) ?_
    refine k_getR (pc := 26) (u := v1) (v := .ref (h4 0)) cx hw (lr_X7c_other_0 d h h2 h3 h4 b b2) (C := RX7) (T := TX7) (N := 7) rfl in_X7 (by decide) q327 (fun _ h9 => h9) rfl dX7_copies_26 ?_
    refine lv_iload_n (pc := 29) cx.1 cx.2.1 dX7_copies_29 rfl (lv_at hl 2 rfl) ?_
    have hpt := k_part (w := (wf_X8j d h2 h4 b2) v1.2) (is := [6, 7, 8, 9, 10, 11, 12, 19, 20, 21, 22, 23, 24, 25]) hw (pc_X7c_X8j_spans_ospans d h h2 h3 h4 b b2 v1) (by decide)
    refine k_part_v (pc := 30) (wf := (wf_X8j d h2 h4 b2)) (u := v1.2) cx hw [6, 7, 8, 9, 10, 11, 12, 19, 20, 21, 22, 23, 24, 25] (pc_X7c_X8j_spans_ospans d h h2 h3 h4 b b2 v1) (by decide) (fun _ => rfl) (pw_X7c_X8j_spans_ospans d h h2 h3 h4 b b2 v1) (k_runV (pc := 30) (rest := []) (As := [.int ((v1.1.1 5) - (1 : Int32)), .ref (h4 0), .int x2]) cx hpt.1 hpt.2 hw.2.2 (k_recv cx hw 6 (ci := 6) (q := (RX8, TX8, 6)) rfl rfl) (m_X8_join l dC dI d h2 h4 b2 v1.2 ((v1.1.1 5) - (1 : Int32)) x2 hwp H.size) (cwV 3 cx.2.2.2.2.1 (lw_V q623 q471 q472 q84 q473) rfl rfl rfl hdV_X8_join ⟨Nat.le_of_ble_eq_true rfl, Nat.le_of_ble_eq_true rfl⟩) rfl hl.1 rfl (Nat.le_of_ble_eq_true rfl) dX7_copies_30 ⟨Nat.le_of_ble_eq_true rfl, Nat.le_of_ble_eq_true rfl⟩) (fun v4 H locs hwp hw => ?_)
    refine lv_aload_n (pc := 33) cx.1 cx.2.1 dX7_copies_33 rfl (lv_at hl 0 rfl) ?_
    refine k_getR (pc := 34) (u := (p2_O v1 v4)) (v := .ref (h 2)) cx hw (lr_X7c_this_2 d h h2 h3 h4 b b2) (C := RX7) (T := TX7) (N := 7) rfl in_X7 (by decide) q332 (fun _ h9 => h9) rfl dX7_copies_34 ?_
    refine lv_aload_n (pc := 37) cx.1 cx.2.1 dX7_copies_37 rfl (lv_at hl 0 rfl) ?_
    refine k_getI (pc := 38) (u := (p2_O v1 v4)) (v := (v1.1.1 5)) cx hw (ln_X7c_this_5 d h h2 h3 h4 b b2) (C := RX7) (T := TX7) (N := 7) rfl in_X7 (by decide) q339 (fun _ h9 => h9) rfl dX7_copies_38 ?_
    refine lv_iconst (pc := 41) (v := 1) cx.1 cx.2.1 dX7_copies_41 (by decide) ?_
    refine lv_isub (pc := 42) cx.1 cx.2.1 dX7_copies_42 ?_
    refine lv_aload_n (pc := 43) cx.1 cx.2.1 dX7_copies_43 rfl (lv_at hl 1 rfl) ?_
    refine k_getR (pc := 44) (u := (p2_O v1 v4)) (v := .ref (h3 2)) cx hw (lr_X7c_other_2 d h h2 h3 h4 b b2) (C := RX7) (T := TX7) (N := 7) rfl in_X7 (by decide) q332 (fun _ h9 => h9) rfl dX7_copies_44 ?_
    refine lv_iload_n (pc := 47) cx.1 cx.2.1 dX7_copies_47 rfl (lv_at hl 2 rfl) ?_
    refine k_cald (pc := 48) (u := (p2_O v1 v4)) (f := (b.2.1 2)) cx hw (lx_X7c_other_2 d h h2 h3 h4 b b2) 4 rfl rfl hwp.1 dX7_copies_48 ?_
    replace hwp := hwp.2
    refine lv_topi (fun y6 ey6 => ?_)
    replace hwp := hwp y6 ey6
    refine k_cast (pc := 49) (u := (p2_O v1 v4)) (f := (v1.1.2.1 2)) cx hw (ln_X7c_this_2 d h h2 h3 h4 b b2) 4 rfl rfl hwp.1 dX7_copies_49 (fun H locs hw => ?_)
    replace hwp := hwp.2
    refine lv_aload_n (pc := 50) cx.1 cx.2.1 dX7_copies_50 rfl (lv_at hl 0 rfl) ?_
    refine k_getR (pc := 51) (u := (p1_A (p2_O v1 v4) 2 (upd (v1.1.2.1 2) ((v1.1.1 5) - (1 : Int32)).toNatClampNeg (vp_nar .char y6)))) (v := .ref (h 3)) cx hw (lr_X7c_this_3 d h h2 h3 h4 b b2) (C := RX7) (T := TX7) (N := 7) rfl in_X7 (by decide) q335 (fun _ h9 => h9) rfl dX7_copies_51 ?_
    refine lv_aload_n (pc := 54) cx.1 cx.2.1 dX7_copies_54 rfl (lv_at hl 0 rfl) ?_
    refine k_getI (pc := 55) (u := (p1_A (p2_O v1 v4) 2 (upd (v1.1.2.1 2) ((v1.1.1 5) - (1 : Int32)).toNatClampNeg (vp_nar .char y6)))) (v := (v1.1.1 5)) cx hw (ln_X7c_this_5 d h h2 h3 h4 b b2) (C := RX7) (T := TX7) (N := 7) rfl in_X7 (by decide) q339 (fun _ h9 => h9) rfl dX7_copies_55 ?_
    refine lv_iconst (pc := 58) (v := 1) cx.1 cx.2.1 dX7_copies_58 (by decide) ?_
    refine lv_isub (pc := 59) cx.1 cx.2.1 dX7_copies_59 ?_
    refine lv_aload_n (pc := 60) cx.1 cx.2.1 dX7_copies_60 rfl (lv_at hl 1 rfl) ?_
    refine k_getR (pc := 61) (u := (p1_A (p2_O v1 v4) 2 (upd (v1.1.2.1 2) ((v1.1.1 5) - (1 : Int32)).toNatClampNeg (vp_nar .char y6)))) (v := .ref (h3 3)) cx hw (lr_X7c_other_3 d h h2 h3 h4 b b2) (C := RX7) (T := TX7) (N := 7) rfl in_X7 (by decide) q335 (fun _ h9 => h9) rfl dX7_copies_61 ?_
    refine lv_iload_n (pc := 64) cx.1 cx.2.1 dX7_copies_64 rfl (lv_at hl 2 rfl) ?_
    refine k_sald (pc := 65) (u := (p1_A (p2_O v1 v4) 2 (upd (v1.1.2.1 2) ((v1.1.1 5) - (1 : Int32)).toNatClampNeg (vp_nar .char y6)))) (f := (b.2.1 3)) cx hw (lx_X7c_other_3 d h h2 h3 h4 b b2) 1 rfl rfl hwp.1 dX7_copies_65 ?_
    replace hwp := hwp.2
    refine lv_topi (fun y7 ey7 => ?_)
    replace hwp := hwp y7 ey7
    refine k_sast (pc := 66) (u := (p1_A (p2_O v1 v4) 2 (upd (v1.1.2.1 2) ((v1.1.1 5) - (1 : Int32)).toNatClampNeg (vp_nar .char y6)))) (f := (v1.1.2.1 3)) cx hw (ln_X7c_this_3 d h h2 h3 h4 b b2) 1 rfl rfl hwp.1 dX7_copies_66 (fun H locs hw => ?_)
    replace hwp := hwp.2
    refine lv_iconst (pc := 67) (v := 1) cx.1 cx.2.1 dX7_copies_67 (by decide) ?_
    exact k_zret (pc := 68) (wf := (wf_X7c d h h2 h3 h4 b b2)) (u := (p1_A (p1_A (p2_O v1 v4) 2 (upd (v1.1.2.1 2) ((v1.1.1 5) - (1 : Int32)).toNatClampNeg (vp_nar .char y6))) 3 (upd (v1.1.2.1 3) ((v1.1.1 5) - (1 : Int32)).toNatClampNeg (vp_nar .short y7)))) cx hw rfl hwp (by decide) (by decide) dX7_copies_68
  · replace hwp := hwp.2 c3
    refine lv_iconst (pc := 13) (v := 0) cx.1 cx.2.1 dX7_copies_13 (by decide) ?_
    exact k_zret (pc := 14) (wf := (wf_X7c d h h2 h3 h4 b b2)) (u := v1) cx hw rfl hwp (by decide) (by decide) dX7_copies_14
set_option maxHeartbeats 4000000 in
theorem m_X4_clear (l : Launch) (dC : Nat → ClassId) (dI : Nat → Nat → Nat) (d : Nat → ClassId) (h : Nat → Nat) (u : St) {K : St → Prop} (hwp : wp_X4_clear u K) : kM l yX4_clear cX4_clear 1 none ({ frames := 0, cells := 0, slots := 0, locals := 0 } : Room) dC dI d [.ref (h 0)] (wPk d h) u (kQv dC dI (wPk d h) K) 0 0 := by
  refine kM_start rfl (Nat.le_of_ble_eq_true rfl) ?_
  intro p e s m below meth c A ls cx hnm hw hl
  generalize hargs : ([.ref (h 0)] : List Value).toArray = args at cx ⊢
  unfold wp_X4_clear at hwp
  replace hl : lv_has ls 1 [(0, .ref (h 0))] := hl
  generalize hH : s.heap = H at hw ⊢
  generalize hlo : ([] : List Loc) = locs at hw ⊢
  refine lv_aload_n (pc := 0) cx.1 cx.2.1 dX4_clear_0 rfl (lv_at hl 0 rfl) ?_
  refine lv_iconst (pc := 1) (v := 0) cx.1 cx.2.1 dX4_clear_1 (by decide) ?_
  refine k_putI (pc := 2) (u := u) (v := (0 : Int32)) cx hw (ln_X4_this_1 d h) (C := RX4) (T := TX4) (N := 7) rfl in_X4 tyX4 tyX4_ok nmX4 (by decide) q218 (fun _ h9 => h9) rfl rfl rfl dX4_clear_2 (fun H locs hw => ?_)
  exact k_vret (pc := 5) (wf := (wPk d h)) (u := (st_I u 1 (0 : Int32))) cx hw hwp (by decide) (by decide) dX4_clear_5
set_option maxHeartbeats 4000000 in
theorem m_X4_begin (l : Launch) (dC : Nat → ClassId) (dI : Nat → Nat → Nat) (d : Nat → ClassId) (h : Nat → Nat) (u : St) {K : St → Prop} (hwp : wp_X4_begin u K) : kM l yX4_begin cX4_begin 1 none ({ frames := 0, cells := 0, slots := 0, locals := 0 } : Room) dC dI d [.ref (h 0)] (wPk d h) u (kQv dC dI (wPk d h) K) 0 0 := by
  refine kM_start rfl (Nat.le_of_ble_eq_true rfl) ?_
  intro p e s m below meth c A ls cx hnm hw hl
  generalize hargs : ([.ref (h 0)] : List Value).toArray = args at cx ⊢
  unfold wp_X4_begin at hwp
  replace hl : lv_has ls 1 [(0, .ref (h 0))] := hl
  generalize hH : s.heap = H at hw ⊢
  generalize hlo : ([] : List Loc) = locs at hw ⊢
  refine lv_aload_n (pc := 0) cx.1 cx.2.1 dX4_begin_0 rfl (lv_at hl 0 rfl) ?_
  refine lv_aload_n (pc := 1) cx.1 cx.2.1 dX4_begin_1 rfl (lv_at hl 0 rfl) ?_
  refine k_getI (pc := 2) (u := u) (v := (u.1 1)) cx hw (ln_X4_this_1 d h) (C := RX4) (T := TX4) (N := 7) rfl in_X4 (by decide) q218 (fun _ h9 => h9) rfl dX4_begin_2 ?_
  refine k_putI (pc := 5) (u := u) (v := (u.1 1)) cx hw (ln_X4_this_2 d h) (C := RX4) (T := TX4) (N := 7) rfl in_X4 tyX4 tyX4_ok nmX4 (by decide) q219 (fun _ h9 => h9) rfl rfl rfl dX4_begin_5 (fun H locs hw => ?_)
  refine lv_aload_n (pc := 8) cx.1 cx.2.1 dX4_begin_8 rfl (lv_at hl 0 rfl) ?_
  refine lv_iconst (pc := 9) (v := 1) cx.1 cx.2.1 dX4_begin_9 (by decide) ?_
  refine k_putI (pc := 10) (u := (st_I u 2 (u.1 1))) (v := (1 : Int32)) cx hw (ln_X4_this_3 d h) (C := RX4) (T := TX4) (N := 7) rfl in_X4 tyX4 tyX4_ok nmX4 (by decide) q221 (fun _ h9 => h9) rfl rfl rfl dX4_begin_10 (fun H locs hw => ?_)
  refine lv_aload_n (pc := 13) cx.1 cx.2.1 dX4_begin_13 rfl (lv_at hl 0 rfl) ?_
  refine lv_lconst (pc := 14) (v := 0) cx.1 cx.2.1 dX4_begin_14 (by decide) ?_
  refine k_putJ (pc := 15) (u := (st_I (st_I u 2 (u.1 1)) 3 (1 : Int32))) (v := (0 : Int64)) cx hw (ln_X4_this_6 d h) (C := RX4) (T := TX4) (N := 7) rfl in_X4 tyX4 tyX4_ok nmX4 (by decide) q224 (fun _ h9 => h9) rfl rfl rfl dX4_begin_15 (fun H locs hw => ?_)
  exact k_vret (pc := 18) (wf := (wPk d h)) (u := (st_L (st_I (st_I u 2 (u.1 1)) 3 (1 : Int32)) 6 (0 : Int64))) cx hw hwp (by decide) (by decide) dX4_begin_18
set_option maxHeartbeats 4000000 in
theorem wk_X4_put_36 {p : Program} {l : Launch} {e : Env} {s : State} {m : MethodId} {args : Array Value} {below : List Frame} {meth : Method} {c : Code} {A : Nat → Prop} {dC : Nat → ClassId} {dI : Nat → Nat → Nat} {d : Nat → ClassId} {h : Nat → Nat} {C5 : Int64 → Int32 → St → Prop} {K : St → Prop} (cx : Cx p s m args meth c cX4_put RX4 6 none A dC dI d) (hC5 : ∀ (x1 : Int64) (x4 : Int32) (u : St) (H : Heap) (locs : List Loc) (ls : Array Slot), C5 x1 x4 u → Wd dC dI A ((wPk d h) u) s H locs → lv_has ls 6 [(0, .ref (h 0)), (1, .long x1), (4, .int x4)] → W p l e ({ frames := 0, cells := 0, slots := 0, locals := 0 } : Room) s m args below meth c H locs 0 0 (MQ below (kQv dC dI (wPk d h) K A) args s 0 0 A) (F0 m 5 ls [])) : ∀ (x1 : Int64) (x4 : Int32) (x5 : Int32) (u : St) (H : Heap) (locs : List Loc) (ls : Array Slot), wp_X4_put_36 C5 K x1 x4 x5 u → Wd dC dI A ((wPk d h) u) s H locs → lv_has ls 6 [(0, .ref (h 0)), (1, .long x1), (4, .int x4), (5, .int x5)] → W p l e ({ frames := 0, cells := 0, slots := 0, locals := 0 } : Room) s m args below meth c H locs 0 0 (MQ below (kQv dC dI (wPk d h) K A) args s 0 0 A) (F0 m 36 ls []) := by
  intro x1 x4 x5 u H locs ls hwp hw hl
  unfold wp_X4_put_36 at hwp
  refine lv_aload_n (pc := 36) cx.1 cx.2.1 dX4_put_36 rfl (lv_at hl 0 rfl) ?_
  refine k_getR (pc := 37) (u := u) (v := .ref (h 1)) cx hw (lr_X4_this_0 d h) (C := RX4) (T := TX4) (N := 7) rfl in_X4 (by decide) q216 (fun _ h9 => h9) rfl dX4_put_37 ?_
  refine lv_iload (pc := 40) cx.1 cx.2.1 dX4_put_40 (lv_at hl 3 rfl) ?_
  refine lv_dup2_11 (pc := 42) cx.1 cx.2.1 dX4_put_42 rfl rfl ?_
  refine k_iald (pc := 43) (u := u) (f := (u.2.1 0)) cx hw (lx_X4_this_0 d h) 0 rfl rfl hwp.1 dX4_put_43 ?_
  replace hwp := hwp.2
  refine lv_lload_n (pc := 44) cx.1 cx.2.1 dX4_put_44 rfl (lv_at hl 1 rfl) ?_
  refine lv_iload (pc := 45) cx.1 cx.2.1 dX4_put_45 (lv_at hl 2 rfl) ?_
  refine lv_lshr (pc := 47) cx.1 cx.2.1 dX4_put_47 rfl ?_
  refine lv_lconst (pc := 48) (v := 1) cx.1 cx.2.1 dX4_put_48 (by decide) ?_
  refine lv_land (pc := 49) cx.1 cx.2.1 dX4_put_49 ?_
  refine lv_l2i (pc := 50) cx.1 cx.2.1 dX4_put_50 rfl ?_
  refine lv_bipush (pc := 51) (v := 31) cx.1 cx.2.1 dX4_put_51 (by decide) ?_
  refine lv_aload_n (pc := 53) cx.1 cx.2.1 dX4_put_53 rfl (lv_at hl 0 rfl) ?_
  refine k_getI (pc := 54) (u := u) (v := (u.1 1)) cx hw (ln_X4_this_1 d h) (C := RX4) (T := TX4) (N := 7) rfl in_X4 (by decide) q218 (fun _ h9 => h9) rfl dX4_put_54 ?_
  refine lv_bipush (pc := 57) (v := 31) cx.1 cx.2.1 dX4_put_57 (by decide) ?_
  refine lv_iand (pc := 59) cx.1 cx.2.1 dX4_put_59 ?_
  refine lv_isub (pc := 60) cx.1 cx.2.1 dX4_put_60 ?_
  refine lv_ishl (pc := 61) cx.1 cx.2.1 dX4_put_61 ?_
  refine lv_ior (pc := 62) cx.1 cx.2.1 dX4_put_62 ?_
  refine lv_topi (fun y1 ey1 => ?_)
  replace hwp := hwp y1 ey1
  refine k_iast (pc := 63) (u := u) (f := (u.2.1 0)) cx hw (ln_X4_this_0 d h) 0 rfl rfl hwp.1 dX4_put_63 (fun H locs hw => ?_)
  replace hwp := hwp.2
  refine lv_aload_n (pc := 64) cx.1 cx.2.1 dX4_put_64 rfl (lv_at hl 0 rfl) ?_
  refine lv_dup (pc := 65) cx.1 cx.2.1 dX4_put_65 rfl ?_
  refine k_getI (pc := 66) (u := (st_A u 0 (upd (u.2.1 0) x5.toNatClampNeg y1))) (v := (u.1 1)) cx hw (ln_X4_this_1 d h) (C := RX4) (T := TX4) (N := 7) rfl in_X4 (by decide) q218 (fun _ h9 => h9) rfl dX4_put_66 ?_
  refine lv_iconst (pc := 69) (v := 1) cx.1 cx.2.1 dX4_put_69 (by decide) ?_
  refine lv_iadd (pc := 70) cx.1 cx.2.1 dX4_put_70 ?_
  refine k_putI (pc := 71) (u := (st_A u 0 (upd (u.2.1 0) x5.toNatClampNeg y1))) (v := ((u.1 1) + (1 : Int32))) cx hw (ln_X4_this_1 d h) (C := RX4) (T := TX4) (N := 7) rfl in_X4 tyX4 tyX4_ok nmX4 (by decide) q218 (fun _ h9 => h9) rfl rfl rfl dX4_put_71 (fun H locs hw => ?_)
  refine lv_iinc (pc := 74) (v := (x4 + (-1 : Int32))) (lv' := [(4, .int (x4 + (-1 : Int32))), (0, .ref (h 0)), (1, .long x1), (5, .int x5)]) cx.1 cx.2.1 dX4_put_74 hl (k := 2) rfl rfl (by decide) rfl (fun ls hl => ?_)
  refine lv_goto (pc := 77) (tgt := 5) cx.1 cx.2.1 dX4_put_77 (by decide) ?_
  exact hC5 _ _ _ _ _ _ hwp hw (lv_sub hl [1, 2, 0] rfl)
set_option maxHeartbeats 4000000 in
theorem wk_X4_put_5 {p : Program} {l : Launch} {e : Env} {s : State} {m : MethodId} {args : Array Value} {below : List Frame} {meth : Method} {c : Code} {A : Nat → Prop} {dC : Nat → ClassId} {dI : Nat → Nat → Nat} {d : Nat → ClassId} {h : Nat → Nat} {K : St → Prop} (cx : Cx p s m args meth c cX4_put RX4 6 none A dC dI d) : ∀ (n : Nat) (x1 : Int64) (x4 : Int32) (u : St) (H : Heap) (locs : List Loc) (ls : Array Slot), wp_X4_put_5 K n x1 x4 u → Wd dC dI A ((wPk d h) u) s H locs → lv_has ls 6 [(0, .ref (h 0)), (1, .long x1), (4, .int x4)] → W p l e ({ frames := 0, cells := 0, slots := 0, locals := 0 } : Room) s m args below meth c H locs 0 0 (MQ below (kQv dC dI (wPk d h) K A) args s 0 0 A) (F0 m 5 ls []) := by
  intro n
  induction n with
  | zero =>
    intros; contradiction
  | succ n ih =>
    intro x1 x4 u H locs ls hwp hw hl
    unfold wp_X4_put_5 at hwp
    refine lv_iload (pc := 5) cx.1 cx.2.1 dX4_put_5 (lv_at hl 2 rfl) ?_
    refine lv_if_lt (pc := 7) (tgt := 80) cx.1 cx.2.1 dX4_put_7 (by decide) (fun c1 => ?_) (fun c1 => ?_)
    · replace hwp := hwp.1 c1
      exact k_vret (pc := 80) (wf := (wPk d h)) (u := u) cx hw hwp (by decide) (by decide) dX4_put_80
    · replace hwp := hwp.2 c1
      refine lv_aload_n (pc := 10) cx.1 cx.2.1 dX4_put_10 rfl (lv_at hl 0 rfl) ?_
      refine k_getI (pc := 11) (u := u) (v := (u.1 1)) cx hw (ln_X4_this_1 d h) (C := RX4) (T := TX4) (N := 7) rfl in_X4 (by decide) q218 (fun _ h9 => h9) rfl dX4_put_11 ?_
      refine lv_iconst (pc := 14) (v := 5) cx.1 cx.2.1 dX4_put_14 (by decide) ?_
      refine lv_ishr (pc := 15) cx.1 cx.2.1 dX4_put_15 ?_
      refine lv_istore (pc := 16) (lv' := [(5, .int ((u.1 1) >>> ((5 : Int32) &&& 31))), (0, .ref (h 0)), (1, .long x1), (4, .int x4)]) cx.1 cx.2.1 dX4_put_16 hl (by decide) rfl (fun ls hl => ?_)
      refine lv_aload_n (pc := 18) cx.1 cx.2.1 dX4_put_18 rfl (lv_at hl 1 rfl) ?_
      refine k_getI (pc := 19) (u := u) (v := (u.1 1)) cx hw (ln_X4_this_1 d h) (C := RX4) (T := TX4) (N := 7) rfl in_X4 (by decide) q218 (fun _ h9 => h9) rfl dX4_put_19 ?_
      refine lv_bipush (pc := 22) (v := 31) cx.1 cx.2.1 dX4_put_22 (by decide) ?_
      refine lv_iand (pc := 24) cx.1 cx.2.1 dX4_put_24 ?_
      refine lv_if_ne (pc := 25) (tgt := 36) cx.1 cx.2.1 dX4_put_25 (by decide) (fun c2 => ?_) (fun c2 => ?_)
      · replace hwp := hwp.1 c2
        exact wk_X4_put_36 cx ih _ _ _ _ _ _ _ hwp hw (lv_sub hl [1, 2, 3, 0] rfl)
      · replace hwp := hwp.2 c2
        refine lv_aload_n (pc := 28) cx.1 cx.2.1 dX4_put_28 rfl (lv_at hl 1 rfl) ?_
        refine k_getR (pc := 29) (u := u) (v := .ref (h 1)) cx hw (lr_X4_this_0 d h) (C := RX4) (T := TX4) (N := 7) rfl in_X4 (by decide) q216 (fun _ h9 => h9) rfl dX4_put_29 ?_
        refine lv_iload (pc := 32) cx.1 cx.2.1 dX4_put_32 (lv_at hl 0 rfl) ?_
        refine lv_iconst (pc := 34) (v := 0) cx.1 cx.2.1 dX4_put_34 (by decide) ?_
        refine k_iast (pc := 35) (u := u) (f := (u.2.1 0)) cx hw (ln_X4_this_0 d h) 0 rfl rfl hwp.1 dX4_put_35 (fun H locs hw => ?_)
        replace hwp := hwp.2
        exact wk_X4_put_36 cx ih _ _ _ _ _ _ _ hwp hw (lv_sub hl [1, 2, 3, 0] rfl)
set_option maxHeartbeats 4000000 in
theorem m_X4_put (l : Launch) (dC : Nat → ClassId) (dI : Nat → Nat → Nat) (d : Nat → ClassId) (h : Nat → Nat) (u : St) (x1 : Int64) (x3 : Int32) {K : St → Prop} (hwp : wp_X4_put u x1 x3 K) : kM l yX4_put cX4_put 6 none ({ frames := 0, cells := 0, slots := 0, locals := 0 } : Room) dC dI d [.ref (h 0), .long x1, .int x3] (wPk d h) u (kQv dC dI (wPk d h) K) 0 0 := by
  refine kM_start rfl (Nat.le_of_ble_eq_true rfl) ?_
  intro p e s m below meth c A ls cx hnm hw hl
  generalize hargs : ([.ref (h 0), .long x1, .int x3] : List Value).toArray = args at cx ⊢
  unfold wp_X4_put at hwp
  replace hl : lv_has ls 6 [(0, .ref (h 0)), (1, .long x1), (3, .int x3)] := hl
  generalize hH : s.heap = H at hw ⊢
  generalize hlo : ([] : List Loc) = locs at hw ⊢
  refine lv_iload_n (pc := 0) cx.1 cx.2.1 dX4_put_0 rfl (lv_at hl 2 rfl) ?_
  refine lv_iconst (pc := 1) (v := 1) cx.1 cx.2.1 dX4_put_1 (by decide) ?_
  refine lv_isub (pc := 2) cx.1 cx.2.1 dX4_put_2 ?_
  refine lv_istore (pc := 3) (lv' := [(4, .int (x3 - (1 : Int32))), (0, .ref (h 0)), (1, .long x1), (3, .int x3)]) cx.1 cx.2.1 dX4_put_3 hl (by decide) rfl (fun ls hl => ?_)
  obtain ⟨n5, hwp⟩ := hwp
  exact wk_X4_put_5 cx n5 _ _ _ _ _ _ hwp hw (lv_sub hl [1, 2, 0] rfl)
set_option maxHeartbeats 4000000 in
theorem wk_X4_change_129 {p : Program} {l : Launch} {e : Env} {s : State} {m : MethodId} {args : Array Value} {below : List Frame} {meth : Method} {c : Code} {A : Nat → Prop} {dC : Nat → ClassId} {dI : Nat → Nat → Nat} {d : Nat → ClassId} {h : Nat → Nat} {K : St → Prop} (cx : Cx p s m args meth c cX4_change RX4 3 none A dC dI d) : ∀ (x1 : Int64) (u : St) (H : Heap) (locs : List Loc) (ls : Array Slot), wp_X4_change_129 K x1 u → Wd dC dI A ((wPk d h) u) s H locs → lv_has ls 3 [(0, .ref (h 0)), (1, .long x1)] → W p l e ({ frames := 1, cells := 0, slots := 0, locals := 25 } : Room) s m args below meth c H locs 0 0 (MQ below (kQv dC dI (wPk d h) K A) args s 0 0 A) (F0 m 129 ls []) := by
  intro x1 u H locs ls hwp hw hl
  unfold wp_X4_change_129 at hwp
  refine lv_aload_n (pc := 129) cx.1 cx.2.1 dX4_change_129 rfl (lv_at hl 0 rfl) ?_
  refine lv_ldc2 (pc := 130) (v := 15) cx.1 cx.2.1 cx.2.2.2.1 (cx.2.2.2.2.1 _ q662) dX4_change_130 ?_
  refine lv_iconst (pc := 133) (v := 4) cx.1 cx.2.1 dX4_change_133 (by decide) ?_
  refine k_whole_v (pc := 134) (wf := (wPk d h)) (u := u) cx hw (k_runV (pc := 134) (rest := []) (As := [.long (15 : Int64), .int (4 : Int32)]) cx hw.1 (hw.2.1.weaken (fun _ _ _ _ => trivial)) hw.2.2 (k_recv cx hw 0 (ci := 3) (q := (RX4, TX4, 7)) rfl rfl) (m_X4_put l dC dI d h  u (15 : Int64) (4 : Int32) hwp H.size) (cwV 2 cx.2.2.2.2.1 (lw_V q645 q647 qs9 q80 q648) rfl rfl rfl hdV_X4_put ⟨Nat.le_of_ble_eq_true rfl, Nat.le_of_ble_eq_true rfl⟩) rfl hl.1 rfl (Nat.le_of_ble_eq_true rfl) dX4_change_134 ⟨Nat.le_of_ble_eq_true rfl, Nat.le_of_ble_eq_true rfl⟩) (fun u1 H locs hwp hw => ?_)
  refine lv_aload_n (pc := 137) cx.1 cx.2.1 dX4_change_137 rfl (lv_at hl 0 rfl) ?_
  refine lv_lload_n (pc := 138) cx.1 cx.2.1 dX4_change_138 rfl (lv_at hl 1 rfl) ?_
  refine lv_ldc2 (pc := 139) (v := 8589934592) cx.1 cx.2.1 cx.2.2.2.1 (cx.2.2.2.2.1 _ q663) dX4_change_139 ?_
  refine lv_ladd (pc := 142) cx.1 cx.2.1 dX4_change_142 ?_
  refine lv_bipush (pc := 143) (v := 34) cx.1 cx.2.1 dX4_change_143 (by decide) ?_
  refine k_whole_v (pc := 145) (wf := (wPk d h)) (u := u1) cx hw (k_runV (pc := 145) (rest := []) (As := [.long (x1 + (8589934592 : Int64)), .int (34 : Int32)]) cx hw.1 (hw.2.1.weaken (fun _ _ _ _ => trivial)) hw.2.2 (k_recv cx hw 0 (ci := 3) (q := (RX4, TX4, 7)) rfl rfl) (m_X4_put l dC dI d h  u1 (x1 + (8589934592 : Int64)) (34 : Int32) hwp H.size) (cwV 2 cx.2.2.2.2.1 (lw_V q645 q647 qs9 q80 q648) rfl rfl rfl hdV_X4_put ⟨Nat.le_of_ble_eq_true rfl, Nat.le_of_ble_eq_true rfl⟩) rfl hl.1 rfl (Nat.le_of_ble_eq_true rfl) dX4_change_145 ⟨Nat.le_of_ble_eq_true rfl, Nat.le_of_ble_eq_true rfl⟩) (fun u3 H locs hwp hw => ?_)
  exact k_vret (pc := 148) (wf := (wPk d h)) (u := u3) cx hw hwp (by decide) (by decide) dX4_change_148
set_option maxHeartbeats 4000000 in
theorem wk_X4_change_91 {p : Program} {l : Launch} {e : Env} {s : State} {m : MethodId} {args : Array Value} {below : List Frame} {meth : Method} {c : Code} {A : Nat → Prop} {dC : Nat → ClassId} {dI : Nat → Nat → Nat} {d : Nat → ClassId} {h : Nat → Nat} {K : St → Prop} (cx : Cx p s m args meth c cX4_change RX4 3 none A dC dI d) : ∀ (x1 : Int64) (u : St) (H : Heap) (locs : List Loc) (ls : Array Slot), wp_X4_change_91 K x1 u → Wd dC dI A ((wPk d h) u) s H locs → lv_has ls 3 [(0, .ref (h 0)), (1, .long x1)] → W p l e ({ frames := 1, cells := 0, slots := 0, locals := 25 } : Room) s m args below meth c H locs 0 0 (MQ below (kQv dC dI (wPk d h) K A) args s 0 0 A) (F0 m 91 ls []) := by
  intro x1 u H locs ls hwp hw hl
  unfold wp_X4_change_91 at hwp
  refine lv_lload_n (pc := 91) cx.1 cx.2.1 dX4_change_91 rfl (lv_at hl 1 rfl) ?_
  refine lv_ldc2 (pc := 92) (v := -2048) cx.1 cx.2.1 cx.2.2.2.1 (cx.2.2.2.2.1 _ q659) dX4_change_92 ?_
  refine W.lcmp (pc := 95) cx.1 cx.2.1 dX4_change_95 ?_
  refine lv_if_lt (pc := 96) (tgt := 129) cx.1 cx.2.1 dX4_change_96 (by decide) (fun c1 => ?_) (fun c1 => ?_)
  · replace hwp := hwp.1 ((lg_cmp_lt _ _).mp c1)
    exact wk_X4_change_129 cx _ _ _ _ _ hwp hw (lv_sub hl [0, 1] rfl)
  · replace hwp := hwp.2 (mt (lg_cmp_lt _ _).mpr c1)
    refine lv_lload_n (pc := 99) cx.1 cx.2.1 dX4_change_99 rfl (lv_at hl 1 rfl) ?_
    refine lv_ldc2 (pc := 100) (v := 2048) cx.1 cx.2.1 cx.2.2.2.1 (cx.2.2.2.2.1 _ q660) dX4_change_100 ?_
    refine W.lcmp (pc := 103) cx.1 cx.2.1 dX4_change_103 ?_
    refine lv_if_ge (pc := 104) (tgt := 129) cx.1 cx.2.1 dX4_change_104 (by decide) (fun c2 => ?_) (fun c2 => ?_)
    · replace hwp := hwp.1 ((lg_cmp_ge _ _).mp c2)
      exact wk_X4_change_129 cx _ _ _ _ _ hwp hw (lv_sub hl [0, 1] rfl)
    · replace hwp := hwp.2 (mt (lg_cmp_ge _ _).mpr c2)
      refine lv_aload_n (pc := 107) cx.1 cx.2.1 dX4_change_107 rfl (lv_at hl 0 rfl) ?_
      refine lv_ldc2 (pc := 108) (v := 14) cx.1 cx.2.1 cx.2.2.2.1 (cx.2.2.2.2.1 _ q661) dX4_change_108 ?_
      refine lv_iconst (pc := 111) (v := 4) cx.1 cx.2.1 dX4_change_111 (by decide) ?_
      refine k_whole_v (pc := 112) (wf := (wPk d h)) (u := u) cx hw (k_runV (pc := 112) (rest := []) (As := [.long (14 : Int64), .int (4 : Int32)]) cx hw.1 (hw.2.1.weaken (fun _ _ _ _ => trivial)) hw.2.2 (k_recv cx hw 0 (ci := 3) (q := (RX4, TX4, 7)) rfl rfl) (m_X4_put l dC dI d h  u (14 : Int64) (4 : Int32) hwp H.size) (cwV 2 cx.2.2.2.2.1 (lw_V q645 q647 qs9 q80 q648) rfl rfl rfl hdV_X4_put ⟨Nat.le_of_ble_eq_true rfl, Nat.le_of_ble_eq_true rfl⟩) rfl hl.1 rfl (Nat.le_of_ble_eq_true rfl) dX4_change_112 ⟨Nat.le_of_ble_eq_true rfl, Nat.le_of_ble_eq_true rfl⟩) (fun u3 H locs hwp hw => ?_)
      refine lv_aload_n (pc := 115) cx.1 cx.2.1 dX4_change_115 rfl (lv_at hl 0 rfl) ?_
      refine lv_lload_n (pc := 116) cx.1 cx.2.1 dX4_change_116 rfl (lv_at hl 1 rfl) ?_
      refine lv_ldc2 (pc := 117) (v := 2048) cx.1 cx.2.1 cx.2.2.2.1 (cx.2.2.2.2.1 _ q660) dX4_change_117 ?_
      refine lv_ladd (pc := 120) cx.1 cx.2.1 dX4_change_120 ?_
      refine lv_bipush (pc := 121) (v := 12) cx.1 cx.2.1 dX4_change_121 (by decide) ?_
      refine k_whole_v (pc := 123) (wf := (wPk d h)) (u := u3) cx hw (k_runV (pc := 123) (rest := []) (As := [.long (x1 + (2048 : Int64)), .int (12 : Int32)]) cx hw.1 (hw.2.1.weaken (fun _ _ _ _ => trivial)) hw.2.2 (k_recv cx hw 0 (ci := 3) (q := (RX4, TX4, 7)) rfl rfl) (m_X4_put l dC dI d h  u3 (x1 + (2048 : Int64)) (12 : Int32) hwp H.size) (cwV 2 cx.2.2.2.2.1 (lw_V q645 q647 qs9 q80 q648) rfl rfl rfl hdV_X4_put ⟨Nat.le_of_ble_eq_true rfl, Nat.le_of_ble_eq_true rfl⟩) rfl hl.1 rfl (Nat.le_of_ble_eq_true rfl) dX4_change_123 ⟨Nat.le_of_ble_eq_true rfl, Nat.le_of_ble_eq_true rfl⟩) (fun u5 H locs hwp hw => ?_)
      refine lv_goto (pc := 126) (tgt := 148) cx.1 cx.2.1 dX4_change_126 (by decide) ?_
      exact k_vret (pc := 148) (wf := (wPk d h)) (u := u5) cx hw hwp (by decide) (by decide) dX4_change_148
set_option maxHeartbeats 4000000 in
theorem wk_X4_change_53 {p : Program} {l : Launch} {e : Env} {s : State} {m : MethodId} {args : Array Value} {below : List Frame} {meth : Method} {c : Code} {A : Nat → Prop} {dC : Nat → ClassId} {dI : Nat → Nat → Nat} {d : Nat → ClassId} {h : Nat → Nat} {K : St → Prop} (cx : Cx p s m args meth c cX4_change RX4 3 none A dC dI d) : ∀ (x1 : Int64) (u : St) (H : Heap) (locs : List Loc) (ls : Array Slot), wp_X4_change_53 K x1 u → Wd dC dI A ((wPk d h) u) s H locs → lv_has ls 3 [(0, .ref (h 0)), (1, .long x1)] → W p l e ({ frames := 1, cells := 0, slots := 0, locals := 25 } : Room) s m args below meth c H locs 0 0 (MQ below (kQv dC dI (wPk d h) K A) args s 0 0 A) (F0 m 53 ls []) := by
  intro x1 u H locs ls hwp hw hl
  unfold wp_X4_change_53 at hwp
  refine lv_lload_n (pc := 53) cx.1 cx.2.1 dX4_change_53 rfl (lv_at hl 1 rfl) ?_
  refine lv_ldc2 (pc := 54) (v := -256) cx.1 cx.2.1 cx.2.2.2.1 (cx.2.2.2.2.1 _ q656) dX4_change_54 ?_
  refine W.lcmp (pc := 57) cx.1 cx.2.1 dX4_change_57 ?_
  refine lv_if_lt (pc := 58) (tgt := 91) cx.1 cx.2.1 dX4_change_58 (by decide) (fun c1 => ?_) (fun c1 => ?_)
  · replace hwp := hwp.1 ((lg_cmp_lt _ _).mp c1)
    exact wk_X4_change_91 cx _ _ _ _ _ hwp hw (lv_sub hl [0, 1] rfl)
  · replace hwp := hwp.2 (mt (lg_cmp_lt _ _).mpr c1)
    refine lv_lload_n (pc := 61) cx.1 cx.2.1 dX4_change_61 rfl (lv_at hl 1 rfl) ?_
    refine lv_ldc2 (pc := 62) (v := 256) cx.1 cx.2.1 cx.2.2.2.1 (cx.2.2.2.2.1 _ q657) dX4_change_62 ?_
    refine W.lcmp (pc := 65) cx.1 cx.2.1 dX4_change_65 ?_
    refine lv_if_ge (pc := 66) (tgt := 91) cx.1 cx.2.1 dX4_change_66 (by decide) (fun c2 => ?_) (fun c2 => ?_)
    · replace hwp := hwp.1 ((lg_cmp_ge _ _).mp c2)
      exact wk_X4_change_91 cx _ _ _ _ _ hwp hw (lv_sub hl [0, 1] rfl)
    · replace hwp := hwp.2 (mt (lg_cmp_ge _ _).mpr c2)
      refine lv_aload_n (pc := 69) cx.1 cx.2.1 dX4_change_69 rfl (lv_at hl 0 rfl) ?_
      refine lv_ldc2 (pc := 70) (v := 6) cx.1 cx.2.1 cx.2.2.2.1 (cx.2.2.2.2.1 _ q658) dX4_change_70 ?_
      refine lv_iconst (pc := 73) (v := 3) cx.1 cx.2.1 dX4_change_73 (by decide) ?_
      refine k_whole_v (pc := 74) (wf := (wPk d h)) (u := u) cx hw (k_runV (pc := 74) (rest := []) (As := [.long (6 : Int64), .int (3 : Int32)]) cx hw.1 (hw.2.1.weaken (fun _ _ _ _ => trivial)) hw.2.2 (k_recv cx hw 0 (ci := 3) (q := (RX4, TX4, 7)) rfl rfl) (m_X4_put l dC dI d h  u (6 : Int64) (3 : Int32) hwp H.size) (cwV 2 cx.2.2.2.2.1 (lw_V q645 q647 qs9 q80 q648) rfl rfl rfl hdV_X4_put ⟨Nat.le_of_ble_eq_true rfl, Nat.le_of_ble_eq_true rfl⟩) rfl hl.1 rfl (Nat.le_of_ble_eq_true rfl) dX4_change_74 ⟨Nat.le_of_ble_eq_true rfl, Nat.le_of_ble_eq_true rfl⟩) (fun u3 H locs hwp hw => ?_)
      refine lv_aload_n (pc := 77) cx.1 cx.2.1 dX4_change_77 rfl (lv_at hl 0 rfl) ?_
      refine lv_lload_n (pc := 78) cx.1 cx.2.1 dX4_change_78 rfl (lv_at hl 1 rfl) ?_
      refine lv_ldc2 (pc := 79) (v := 256) cx.1 cx.2.1 cx.2.2.2.1 (cx.2.2.2.2.1 _ q657) dX4_change_79 ?_
      refine lv_ladd (pc := 82) cx.1 cx.2.1 dX4_change_82 ?_
      refine lv_bipush (pc := 83) (v := 9) cx.1 cx.2.1 dX4_change_83 (by decide) ?_
      refine k_whole_v (pc := 85) (wf := (wPk d h)) (u := u3) cx hw (k_runV (pc := 85) (rest := []) (As := [.long (x1 + (256 : Int64)), .int (9 : Int32)]) cx hw.1 (hw.2.1.weaken (fun _ _ _ _ => trivial)) hw.2.2 (k_recv cx hw 0 (ci := 3) (q := (RX4, TX4, 7)) rfl rfl) (m_X4_put l dC dI d h  u3 (x1 + (256 : Int64)) (9 : Int32) hwp H.size) (cwV 2 cx.2.2.2.2.1 (lw_V q645 q647 qs9 q80 q648) rfl rfl rfl hdV_X4_put ⟨Nat.le_of_ble_eq_true rfl, Nat.le_of_ble_eq_true rfl⟩) rfl hl.1 rfl (Nat.le_of_ble_eq_true rfl) dX4_change_85 ⟨Nat.le_of_ble_eq_true rfl, Nat.le_of_ble_eq_true rfl⟩) (fun u5 H locs hwp hw => ?_)
      refine lv_goto (pc := 88) (tgt := 148) cx.1 cx.2.1 dX4_change_88 (by decide) ?_
      exact k_vret (pc := 148) (wf := (wPk d h)) (u := u5) cx hw hwp (by decide) (by decide) dX4_change_148
set_option maxHeartbeats 4000000 in
theorem m_X4_change (l : Launch) (dC : Nat → ClassId) (dI : Nat → Nat → Nat) (d : Nat → ClassId) (h : Nat → Nat) (u : St) (x1 : Int64) {K : St → Prop} (hwp : wp_X4_change u x1 K) : kM l yX4_change cX4_change 3 none ({ frames := 1, cells := 0, slots := 0, locals := 25 } : Room) dC dI d [.ref (h 0), .long x1] (wPk d h) u (kQv dC dI (wPk d h) K) 0 0 := by
  refine kM_start rfl (Nat.le_of_ble_eq_true rfl) ?_
  intro p e s m below meth c A ls cx hnm hw hl
  generalize hargs : ([.ref (h 0), .long x1] : List Value).toArray = args at cx ⊢
  unfold wp_X4_change at hwp
  replace hl : lv_has ls 3 [(0, .ref (h 0)), (1, .long x1)] := hl
  generalize hH : s.heap = H at hw ⊢
  generalize hlo : ([] : List Loc) = locs at hw ⊢
  refine lv_lload_n (pc := 0) cx.1 cx.2.1 dX4_change_0 rfl (lv_at hl 1 rfl) ?_
  refine lv_lconst (pc := 1) (v := 0) cx.1 cx.2.1 dX4_change_1 (by decide) ?_
  refine W.lcmp (pc := 2) cx.1 cx.2.1 dX4_change_2 ?_
  refine lv_if_ne (pc := 3) (tgt := 15) cx.1 cx.2.1 dX4_change_3 (by decide) (fun c1 => ?_) (fun c1 => ?_)
  · replace hwp := hwp.1 (mt (lg_cmp_eq _ _).mpr c1)
    refine lv_lload_n (pc := 15) cx.1 cx.2.1 dX4_change_15 rfl (lv_at hl 1 rfl) ?_
    refine lv_ldc2 (pc := 16) (v := -64) cx.1 cx.2.1 cx.2.2.2.1 (cx.2.2.2.2.1 _ q653) dX4_change_16 ?_
    refine W.lcmp (pc := 19) cx.1 cx.2.1 dX4_change_19 ?_
    refine lv_if_lt (pc := 20) (tgt := 53) cx.1 cx.2.1 dX4_change_20 (by decide) (fun c2 => ?_) (fun c2 => ?_)
    · replace hwp := hwp.1 ((lg_cmp_lt _ _).mp c2)
      exact wk_X4_change_53 cx _ _ _ _ _ hwp hw (lv_sub hl [0, 1] rfl)
    · replace hwp := hwp.2 (mt (lg_cmp_lt _ _).mpr c2)
      refine lv_lload_n (pc := 23) cx.1 cx.2.1 dX4_change_23 rfl (lv_at hl 1 rfl) ?_
      refine lv_ldc2 (pc := 24) (v := 64) cx.1 cx.2.1 cx.2.2.2.1 (cx.2.2.2.2.1 _ q654) dX4_change_24 ?_
      refine W.lcmp (pc := 27) cx.1 cx.2.1 dX4_change_27 ?_
      refine lv_if_ge (pc := 28) (tgt := 53) cx.1 cx.2.1 dX4_change_28 (by decide) (fun c3 => ?_) (fun c3 => ?_)
      · replace hwp := hwp.1 ((lg_cmp_ge _ _).mp c3)
        exact wk_X4_change_53 cx _ _ _ _ _ hwp hw (lv_sub hl [0, 1] rfl)
      · replace hwp := hwp.2 (mt (lg_cmp_ge _ _).mpr c3)
        refine lv_aload_n (pc := 31) cx.1 cx.2.1 dX4_change_31 rfl (lv_at hl 0 rfl) ?_
        refine lv_ldc2 (pc := 32) (v := 2) cx.1 cx.2.1 cx.2.2.2.1 (cx.2.2.2.2.1 _ q655) dX4_change_32 ?_
        refine lv_iconst (pc := 35) (v := 2) cx.1 cx.2.1 dX4_change_35 (by decide) ?_
        refine k_whole_v (pc := 36) (wf := (wPk d h)) (u := u) cx hw (k_runV (pc := 36) (rest := []) (As := [.long (2 : Int64), .int (2 : Int32)]) cx hw.1 (hw.2.1.weaken (fun _ _ _ _ => trivial)) hw.2.2 (k_recv cx hw 0 (ci := 3) (q := (RX4, TX4, 7)) rfl rfl) (m_X4_put l dC dI d h  u (2 : Int64) (2 : Int32) hwp H.size) (cwV 2 cx.2.2.2.2.1 (lw_V q645 q647 qs9 q80 q648) rfl rfl rfl hdV_X4_put ⟨Nat.le_of_ble_eq_true rfl, Nat.le_of_ble_eq_true rfl⟩) rfl hl.1 rfl (Nat.le_of_ble_eq_true rfl) dX4_change_36 ⟨Nat.le_of_ble_eq_true rfl, Nat.le_of_ble_eq_true rfl⟩) (fun u4 H locs hwp hw => ?_)
        refine lv_aload_n (pc := 39) cx.1 cx.2.1 dX4_change_39 rfl (lv_at hl 0 rfl) ?_
        refine lv_lload_n (pc := 40) cx.1 cx.2.1 dX4_change_40 rfl (lv_at hl 1 rfl) ?_
        refine lv_ldc2 (pc := 41) (v := 64) cx.1 cx.2.1 cx.2.2.2.1 (cx.2.2.2.2.1 _ q654) dX4_change_41 ?_
        refine lv_ladd (pc := 44) cx.1 cx.2.1 dX4_change_44 ?_
        refine lv_bipush (pc := 45) (v := 7) cx.1 cx.2.1 dX4_change_45 (by decide) ?_
        refine k_whole_v (pc := 47) (wf := (wPk d h)) (u := u4) cx hw (k_runV (pc := 47) (rest := []) (As := [.long (x1 + (64 : Int64)), .int (7 : Int32)]) cx hw.1 (hw.2.1.weaken (fun _ _ _ _ => trivial)) hw.2.2 (k_recv cx hw 0 (ci := 3) (q := (RX4, TX4, 7)) rfl rfl) (m_X4_put l dC dI d h  u4 (x1 + (64 : Int64)) (7 : Int32) hwp H.size) (cwV 2 cx.2.2.2.2.1 (lw_V q645 q647 qs9 q80 q648) rfl rfl rfl hdV_X4_put ⟨Nat.le_of_ble_eq_true rfl, Nat.le_of_ble_eq_true rfl⟩) rfl hl.1 rfl (Nat.le_of_ble_eq_true rfl) dX4_change_47 ⟨Nat.le_of_ble_eq_true rfl, Nat.le_of_ble_eq_true rfl⟩) (fun u6 H locs hwp hw => ?_)
        refine lv_goto (pc := 50) (tgt := 148) cx.1 cx.2.1 dX4_change_50 (by decide) ?_
        exact k_vret (pc := 148) (wf := (wPk d h)) (u := u6) cx hw hwp (by decide) (by decide) dX4_change_148
  · replace hwp := hwp.2 ((lg_cmp_eq _ _).mp c1)
    refine lv_aload_n (pc := 6) cx.1 cx.2.1 dX4_change_6 rfl (lv_at hl 0 rfl) ?_
    refine lv_lconst (pc := 7) (v := 0) cx.1 cx.2.1 dX4_change_7 (by decide) ?_
    refine lv_iconst (pc := 8) (v := 1) cx.1 cx.2.1 dX4_change_8 (by decide) ?_
    refine k_whole_v (pc := 9) (wf := (wPk d h)) (u := u) cx hw (k_runV (pc := 9) (rest := []) (As := [.long (0 : Int64), .int (1 : Int32)]) cx hw.1 (hw.2.1.weaken (fun _ _ _ _ => trivial)) hw.2.2 (k_recv cx hw 0 (ci := 3) (q := (RX4, TX4, 7)) rfl rfl) (m_X4_put l dC dI d h  u (0 : Int64) (1 : Int32) hwp H.size) (cwV 2 cx.2.2.2.2.1 (lw_V q645 q647 qs9 q80 q648) rfl rfl rfl hdV_X4_put ⟨Nat.le_of_ble_eq_true rfl, Nat.le_of_ble_eq_true rfl⟩) rfl hl.1 rfl (Nat.le_of_ble_eq_true rfl) dX4_change_9 ⟨Nat.le_of_ble_eq_true rfl, Nat.le_of_ble_eq_true rfl⟩) (fun u8 H locs hwp hw => ?_)
    refine lv_goto (pc := 12) (tgt := 148) cx.1 cx.2.1 dX4_change_12 (by decide) ?_
    exact k_vret (pc := 148) (wf := (wPk d h)) (u := u8) cx hw hwp (by decide) (by decide) dX4_change_148
set_option maxHeartbeats 4000000 in
theorem wk_X4_take_104 {p : Program} {l : Launch} {e : Env} {s : State} {m : MethodId} {args : Array Value} {below : List Frame} {meth : Method} {c : Code} {A : Nat → Prop} {dC : Nat → ClassId} {dI : Nat → Nat → Nat} {d : Nat → ClassId} {h : Nat → Nat} {C110 : Int32 → Int32 → St → Prop} {K : St → Prop} (cx : Cx p s m args meth c cX4_take RX4 7 none A dC dI d) (hC110 : ∀ (x1 : Int32) (x2 : Int32) (u : St) (H : Heap) (locs : List Loc) (ls : Array Slot), C110 x1 x2 u → Wd dC dI A ((wPk d h) u) s H locs → lv_has ls 7 [(0, .ref (h 0)), (1, .int x1), (2, .int x2)] → W p l e ({ frames := 2, cells := 0, slots := 0, locals := 47 } : Room) s m args below meth c H locs 0 0 (MQ below (kQv dC dI (wPk d h) K A) args s 0 0 A) (F0 m 110 ls [])) : ∀ (x1 : Int32) (x2 : Int32) (u : St) (H : Heap) (locs : List Loc) (ls : Array Slot), wp_X4_take_104 C110 K x1 x2 u → Wd dC dI A ((wPk d h) u) s H locs → lv_has ls 7 [(0, .ref (h 0)), (1, .int x1), (2, .int x2)] → W p l e ({ frames := 2, cells := 0, slots := 0, locals := 47 } : Room) s m args below meth c H locs 0 0 (MQ below (kQv dC dI (wPk d h) K A) args s 0 0 A) (F0 m 104 ls []) := by
  intro x1 x2 u H locs ls hwp hw hl
  unfold wp_X4_take_104 at hwp
  refine lv_aload_n (pc := 104) cx.1 cx.2.1 dX4_take_104 rfl (lv_at hl 0 rfl) ?_
  refine lv_lconst (pc := 105) (v := 0) cx.1 cx.2.1 dX4_take_105 (by decide) ?_
  refine lv_iconst (pc := 106) (v := 1) cx.1 cx.2.1 dX4_take_106 (by decide) ?_
  refine k_whole_v (pc := 107) (wf := (wPk d h)) (u := u) cx hw (k_runV (pc := 107) (rest := []) (As := [.long (0 : Int64), .int (1 : Int32)]) cx hw.1 (hw.2.1.weaken (fun _ _ _ _ => trivial)) hw.2.2 (k_recv cx hw 0 (ci := 3) (q := (RX4, TX4, 7)) rfl rfl) (m_X4_put l dC dI d h  u (0 : Int64) (1 : Int32) hwp H.size) (cwV 2 cx.2.2.2.2.1 (lw_V q645 q647 qs9 q80 q648) rfl rfl rfl hdV_X4_put ⟨Nat.le_of_ble_eq_true rfl, Nat.le_of_ble_eq_true rfl⟩) rfl hl.1 rfl (Nat.le_of_ble_eq_true rfl) dX4_take_107 ⟨Nat.le_of_ble_eq_true rfl, Nat.le_of_ble_eq_true rfl⟩) (fun u1 H locs hwp hw => ?_)
  exact hC110 _ _ _ _ _ _ hwp hw (lv_sub hl [0, 1, 2] rfl)
set_option maxHeartbeats 4000000 in
theorem wk_X4_take_75 {p : Program} {l : Launch} {e : Env} {s : State} {m : MethodId} {args : Array Value} {below : List Frame} {meth : Method} {c : Code} {A : Nat → Prop} {dC : Nat → ClassId} {dI : Nat → Nat → Nat} {d : Nat → ClassId} {h : Nat → Nat} {C110 : Int32 → Int32 → St → Prop} {K : St → Prop} (cx : Cx p s m args meth c cX4_take RX4 7 none A dC dI d) (hC110 : ∀ (x1 : Int32) (x2 : Int32) (u : St) (H : Heap) (locs : List Loc) (ls : Array Slot), C110 x1 x2 u → Wd dC dI A ((wPk d h) u) s H locs → lv_has ls 7 [(0, .ref (h 0)), (1, .int x1), (2, .int x2)] → W p l e ({ frames := 2, cells := 0, slots := 0, locals := 47 } : Room) s m args below meth c H locs 0 0 (MQ below (kQv dC dI (wPk d h) K A) args s 0 0 A) (F0 m 110 ls [])) : ∀ (n : Nat) (x1 : Int32) (x2 : Int32) (x6 : Int32) (u : St) (H : Heap) (locs : List Loc) (ls : Array Slot), wp_X4_take_75 C110 K n x1 x2 x6 u → Wd dC dI A ((wPk d h) u) s H locs → lv_has ls 7 [(0, .ref (h 0)), (1, .int x1), (2, .int x2), (6, .int x6)] → W p l e ({ frames := 2, cells := 0, slots := 0, locals := 47 } : Room) s m args below meth c H locs 0 0 (MQ below (kQv dC dI (wPk d h) K A) args s 0 0 A) (F0 m 75 ls []) := by
  intro n
  induction n with
  | zero =>
    intros; contradiction
  | succ n ih =>
    intro x1 x2 x6 u H locs ls hwp hw hl
    unfold wp_X4_take_75 at hwp
    refine lv_iload (pc := 75) cx.1 cx.2.1 dX4_take_75 (lv_at hl 3 rfl) ?_
    refine lv_if_eq (pc := 77) (tgt := 104) cx.1 cx.2.1 dX4_take_77 (by decide) (fun c1 => ?_) (fun c1 => ?_)
    · replace hwp := hwp.1 c1
      exact wk_X4_take_104 cx hC110 _ _ _ _ _ _ hwp hw (lv_sub hl [0, 1, 2] rfl)
    · replace hwp := hwp.2 c1
      refine lv_aload_n (pc := 80) cx.1 cx.2.1 dX4_take_80 rfl (lv_at hl 0 rfl) ?_
      refine lv_ldc2 (pc := 81) (v := 16) cx.1 cx.2.1 cx.2.2.2.1 (cx.2.2.2.2.1 _ q664) dX4_take_81 ?_
      refine lv_iload (pc := 84) cx.1 cx.2.1 dX4_take_84 (lv_at hl 3 rfl) ?_
      refine lv_bipush (pc := 86) (v := 15) cx.1 cx.2.1 dX4_take_86 (by decide) ?_
      refine lv_iand (pc := 88) cx.1 cx.2.1 dX4_take_88 ?_
      refine lv_i2l (pc := 89) cx.1 cx.2.1 dX4_take_89 rfl ?_
      refine lv_lor (pc := 90) cx.1 cx.2.1 dX4_take_90 ?_
      refine lv_iconst (pc := 91) (v := 5) cx.1 cx.2.1 dX4_take_91 (by decide) ?_
      refine k_whole_v (pc := 92) (wf := (wPk d h)) (u := u) cx hw (k_runV (pc := 92) (rest := []) (As := [.long ((16 : Int64) ||| (x6 &&& (15 : Int32)).toInt64), .int (5 : Int32)]) cx hw.1 (hw.2.1.weaken (fun _ _ _ _ => trivial)) hw.2.2 (k_recv cx hw 0 (ci := 3) (q := (RX4, TX4, 7)) rfl rfl) (m_X4_put l dC dI d h  u ((16 : Int64) ||| (x6 &&& (15 : Int32)).toInt64) (5 : Int32) hwp H.size) (cwV 2 cx.2.2.2.2.1 (lw_V q645 q647 qs9 q80 q648) rfl rfl rfl hdV_X4_put ⟨Nat.le_of_ble_eq_true rfl, Nat.le_of_ble_eq_true rfl⟩) rfl hl.1 rfl (Nat.le_of_ble_eq_true rfl) dX4_take_92 ⟨Nat.le_of_ble_eq_true rfl, Nat.le_of_ble_eq_true rfl⟩) (fun u2 H locs hwp hw => ?_)
      refine lv_iload (pc := 95) cx.1 cx.2.1 dX4_take_95 (lv_at hl 3 rfl) ?_
      refine lv_iconst (pc := 97) (v := 4) cx.1 cx.2.1 dX4_take_97 (by decide) ?_
      refine lv_iushr (pc := 98) cx.1 cx.2.1 dX4_take_98 rfl ?_
      refine lv_istore (pc := 99) (lv' := [(6, .int (x6.toUInt32 >>> ((4 : Int32).toUInt32 &&& Int32.toUInt32 31)).toInt32), (0, .ref (h 0)), (1, .int x1), (2, .int x2)]) cx.1 cx.2.1 dX4_take_99 hl (by decide) rfl (fun ls hl => ?_)
      refine lv_goto (pc := 101) (tgt := 75) cx.1 cx.2.1 dX4_take_101 (by decide) ?_
      exact ih _ _ _ _ _ _ _ hwp hw (lv_sub hl [1, 2, 3, 0] rfl)
set_option maxHeartbeats 4000000 in
theorem wk_X4_take_110 {p : Program} {l : Launch} {e : Env} {s : State} {m : MethodId} {args : Array Value} {below : List Frame} {meth : Method} {c : Code} {A : Nat → Prop} {dC : Nat → ClassId} {dI : Nat → Nat → Nat} {d : Nat → ClassId} {h : Nat → Nat} {K : St → Prop} (cx : Cx p s m args meth c cX4_take RX4 7 none A dC dI d) : ∀ (x1 : Int32) (x2 : Int32) (u : St) (H : Heap) (locs : List Loc) (ls : Array Slot), wp_X4_take_110 K x1 x2 u → Wd dC dI A ((wPk d h) u) s H locs → lv_has ls 7 [(0, .ref (h 0)), (1, .int x1), (2, .int x2)] → W p l e ({ frames := 2, cells := 0, slots := 0, locals := 47 } : Room) s m args below meth c H locs 0 0 (MQ below (kQv dC dI (wPk d h) K A) args s 0 0 A) (F0 m 110 ls []) := by
  intro x1 x2 u H locs ls hwp hw hl
  unfold wp_X4_take_110 at hwp
  refine lv_aload_n (pc := 110) cx.1 cx.2.1 dX4_take_110 rfl (lv_at hl 0 rfl) ?_
  refine lv_iload_n (pc := 111) cx.1 cx.2.1 dX4_take_111 rfl (lv_at hl 1 rfl) ?_
  refine k_putI (pc := 112) (u := u) (v := x1) cx hw (ln_X4_this_4 d h) (C := RX4) (T := TX4) (N := 7) rfl in_X4 tyX4 tyX4_ok nmX4 (by decide) q222 (fun _ h9 => h9) rfl rfl rfl dX4_take_112 (fun H locs hw => ?_)
  refine lv_aload_n (pc := 115) cx.1 cx.2.1 dX4_take_115 rfl (lv_at hl 0 rfl) ?_
  refine lv_iload_n (pc := 116) cx.1 cx.2.1 dX4_take_116 rfl (lv_at hl 2 rfl) ?_
  refine k_putI (pc := 117) (u := (st_I u 4 x1)) (v := x2) cx hw (ln_X4_this_5 d h) (C := RX4) (T := TX4) (N := 7) rfl in_X4 tyX4 tyX4_ok nmX4 (by decide) q223 (fun _ h9 => h9) rfl rfl rfl dX4_take_117 (fun H locs hw => ?_)
  exact k_vret (pc := 120) (wf := (wPk d h)) (u := (st_I (st_I u 4 x1) 5 x2)) cx hw hwp (by decide) (by decide) dX4_take_120
set_option maxHeartbeats 4000000 in
theorem m_X4_take (l : Launch) (dC : Nat → ClassId) (dI : Nat → Nat → Nat) (d : Nat → ClassId) (h : Nat → Nat) (u : St) (x1 : Int32) (x2 : Int32) {K : St → Prop} (hwp : wp_X4_take u x1 x2 K) : kM l yX4_take cX4_take 7 none ({ frames := 2, cells := 0, slots := 0, locals := 47 } : Room) dC dI d [.ref (h 0), .int x1, .int x2] (wPk d h) u (kQv dC dI (wPk d h) K) 0 0 := by
  refine kM_start rfl (Nat.le_of_ble_eq_true rfl) ?_
  intro p e s m below meth c A ls cx hnm hw hl
  generalize hargs : ([.ref (h 0), .int x1, .int x2] : List Value).toArray = args at cx ⊢
  unfold wp_X4_take at hwp
  replace hl : lv_has ls 7 [(0, .ref (h 0)), (1, .int x1), (2, .int x2)] := hl
  generalize hH : s.heap = H at hw ⊢
  generalize hlo : ([] : List Loc) = locs at hw ⊢
  refine lv_aload_n (pc := 0) cx.1 cx.2.1 dX4_take_0 rfl (lv_at hl 0 rfl) ?_
  refine k_getI (pc := 1) (u := u) (v := (u.1 3)) cx hw (ln_X4_this_3 d h) (C := RX4) (T := TX4) (N := 7) rfl in_X4 (by decide) q221 (fun _ h9 => h9) rfl dX4_take_1 ?_
  refine lv_if_eq (pc := 4) (tgt := 31) cx.1 cx.2.1 dX4_take_4 (by decide) (fun c1 => ?_) (fun c1 => ?_)
  · replace hwp := hwp.1 c1
    refine lv_iload_n (pc := 31) cx.1 cx.2.1 dX4_take_31 rfl (lv_at hl 1 rfl) ?_
    refine lv_i2l (pc := 32) cx.1 cx.2.1 dX4_take_32 rfl ?_
    refine lv_aload_n (pc := 33) cx.1 cx.2.1 dX4_take_33 rfl (lv_at hl 0 rfl) ?_
    refine k_getI (pc := 34) (u := u) (v := (u.1 4)) cx hw (ln_X4_this_4 d h) (C := RX4) (T := TX4) (N := 7) rfl in_X4 (by decide) q222 (fun _ h9 => h9) rfl dX4_take_34 ?_
    refine lv_i2l (pc := 37) cx.1 cx.2.1 dX4_take_37 rfl ?_
    refine lv_lsub (pc := 38) cx.1 cx.2.1 dX4_take_38 ?_
    refine lv_lstore_n (pc := 39) (lv' := [(3, .long (x1.toInt64 - (u.1 4).toInt64)), (0, .ref (h 0)), (1, .int x1), (2, .int x2)]) cx.1 cx.2.1 dX4_take_39 rfl hl (by decide) rfl (fun ls hl => ?_)
    refine lv_aload_n (pc := 40) cx.1 cx.2.1 dX4_take_40 rfl (lv_at hl 1 rfl) ?_
    refine lv_lload_n (pc := 41) cx.1 cx.2.1 dX4_take_41 rfl (lv_at hl 0 rfl) ?_
    refine lv_aload_n (pc := 42) cx.1 cx.2.1 dX4_take_42 rfl (lv_at hl 1 rfl) ?_
    refine k_getJ (pc := 43) (u := u) (v := (u.2.2.1 6)) cx hw (ln_X4_this_6 d h) (C := RX4) (T := TX4) (N := 7) rfl in_X4 (by decide) q224 (fun _ h9 => h9) rfl dX4_take_43 ?_
    refine lv_lsub (pc := 46) cx.1 cx.2.1 dX4_take_46 ?_
    refine k_whole_v (pc := 47) (wf := (wPk d h)) (u := u) cx hw (k_runV (pc := 47) (rest := []) (As := [.long ((x1.toInt64 - (u.1 4).toInt64) - (u.2.2.1 6))]) cx hw.1 (hw.2.1.weaken (fun _ _ _ _ => trivial)) hw.2.2 (k_recv cx hw 0 (ci := 3) (q := (RX4, TX4, 7)) rfl rfl) (m_X4_change l dC dI d h  u ((x1.toInt64 - (u.1 4).toInt64) - (u.2.2.1 6)) hwp H.size) (cwV 1 cx.2.2.2.2.1 (lw_V q649 q651 qs10 q80 q652) rfl rfl rfl hdV_X4_change ⟨Nat.le_of_ble_eq_true rfl, Nat.le_of_ble_eq_true rfl⟩) rfl hl.1 rfl (Nat.le_of_ble_eq_true rfl) dX4_take_47 ⟨Nat.le_of_ble_eq_true rfl, Nat.le_of_ble_eq_true rfl⟩) (fun u2 H locs hwp hw => ?_)
    refine lv_aload_n (pc := 50) cx.1 cx.2.1 dX4_take_50 rfl (lv_at hl 1 rfl) ?_
    refine lv_lload_n (pc := 51) cx.1 cx.2.1 dX4_take_51 rfl (lv_at hl 0 rfl) ?_
    refine k_putJ (pc := 52) (u := u2) (v := (x1.toInt64 - (u.1 4).toInt64)) cx hw (ln_X4_this_6 d h) (C := RX4) (T := TX4) (N := 7) rfl in_X4 tyX4 tyX4_ok nmX4 (by decide) q224 (fun _ h9 => h9) rfl rfl rfl dX4_take_52 (fun H locs hw => ?_)
    refine lv_iload_n (pc := 55) cx.1 cx.2.1 dX4_take_55 rfl (lv_at hl 3 rfl) ?_
    refine lv_aload_n (pc := 56) cx.1 cx.2.1 dX4_take_56 rfl (lv_at hl 1 rfl) ?_
    refine k_getI (pc := 57) (u := (st_L u2 6 (x1.toInt64 - (u.1 4).toInt64))) (v := (u2.1 5)) cx hw (ln_X4_this_5 d h) (C := RX4) (T := TX4) (N := 7) rfl in_X4 (by decide) q223 (fun _ h9 => h9) rfl dX4_take_57 ?_
    refine lv_isub (pc := 60) cx.1 cx.2.1 dX4_take_60 ?_
    refine lv_istore (pc := 61) (lv' := [(5, .int (x2 - (u2.1 5))), (3, .long (x1.toInt64 - (u.1 4).toInt64)), (0, .ref (h 0)), (1, .int x1), (2, .int x2)]) cx.1 cx.2.1 dX4_take_61 hl (by decide) rfl (fun ls hl => ?_)
    refine lv_iload (pc := 63) cx.1 cx.2.1 dX4_take_63 (lv_at hl 0 rfl) ?_
    refine lv_iconst (pc := 65) (v := 1) cx.1 cx.2.1 dX4_take_65 (by decide) ?_
    refine lv_ishl (pc := 66) cx.1 cx.2.1 dX4_take_66 ?_
    refine lv_iload (pc := 67) cx.1 cx.2.1 dX4_take_67 (lv_at hl 0 rfl) ?_
    refine lv_bipush (pc := 69) (v := 31) cx.1 cx.2.1 dX4_take_69 (by decide) ?_
    refine lv_ishr (pc := 71) cx.1 cx.2.1 dX4_take_71 ?_
    refine lv_ixor (pc := 72) cx.1 cx.2.1 dX4_take_72 ?_
    refine lv_istore (pc := 73) (lv' := [(6, .int (((x2 - (u2.1 5)) <<< ((1 : Int32) &&& 31)) ^^^ ((x2 - (u2.1 5)) >>> ((31 : Int32) &&& 31)))), (5, .int (x2 - (u2.1 5))), (3, .long (x1.toInt64 - (u.1 4).toInt64)), (0, .ref (h 0)), (1, .int x1), (2, .int x2)]) cx.1 cx.2.1 dX4_take_73 hl (by decide) rfl (fun ls hl => ?_)
    obtain ⟨n75, hwp⟩ := hwp
    exact wk_X4_take_75 cx (wk_X4_take_110 cx) n75 _ _ _ _ _ _ _ hwp hw (lv_sub hl [3, 4, 5, 0] rfl)
  · replace hwp := hwp.2 c1
    refine lv_aload_n (pc := 7) cx.1 cx.2.1 dX4_take_7 rfl (lv_at hl 0 rfl) ?_
    refine lv_iload_n (pc := 8) cx.1 cx.2.1 dX4_take_8 rfl (lv_at hl 1 rfl) ?_
    refine lv_i2l (pc := 9) cx.1 cx.2.1 dX4_take_9 rfl ?_
    refine lv_bipush (pc := 10) (v := 32) cx.1 cx.2.1 dX4_take_10 (by decide) ?_
    refine k_whole_v (pc := 12) (wf := (wPk d h)) (u := u) cx hw (k_runV (pc := 12) (rest := []) (As := [.long x1.toInt64, .int (32 : Int32)]) cx hw.1 (hw.2.1.weaken (fun _ _ _ _ => trivial)) hw.2.2 (k_recv cx hw 0 (ci := 3) (q := (RX4, TX4, 7)) rfl rfl) (m_X4_put l dC dI d h  u x1.toInt64 (32 : Int32) hwp H.size) (cwV 2 cx.2.2.2.2.1 (lw_V q645 q647 qs9 q80 q648) rfl rfl rfl hdV_X4_put ⟨Nat.le_of_ble_eq_true rfl, Nat.le_of_ble_eq_true rfl⟩) rfl hl.1 rfl (Nat.le_of_ble_eq_true rfl) dX4_take_12 ⟨Nat.le_of_ble_eq_true rfl, Nat.le_of_ble_eq_true rfl⟩) (fun u4 H locs hwp hw => ?_)
    refine lv_aload_n (pc := 15) cx.1 cx.2.1 dX4_take_15 rfl (lv_at hl 0 rfl) ?_
    refine lv_iload_n (pc := 16) cx.1 cx.2.1 dX4_take_16 rfl (lv_at hl 2 rfl) ?_
    refine lv_i2l (pc := 17) cx.1 cx.2.1 dX4_take_17 rfl ?_
    refine lv_bipush (pc := 18) (v := 32) cx.1 cx.2.1 dX4_take_18 (by decide) ?_
    refine k_whole_v (pc := 20) (wf := (wPk d h)) (u := u4) cx hw (k_runV (pc := 20) (rest := []) (As := [.long x2.toInt64, .int (32 : Int32)]) cx hw.1 (hw.2.1.weaken (fun _ _ _ _ => trivial)) hw.2.2 (k_recv cx hw 0 (ci := 3) (q := (RX4, TX4, 7)) rfl rfl) (m_X4_put l dC dI d h  u4 x2.toInt64 (32 : Int32) hwp H.size) (cwV 2 cx.2.2.2.2.1 (lw_V q645 q647 qs9 q80 q648) rfl rfl rfl hdV_X4_put ⟨Nat.le_of_ble_eq_true rfl, Nat.le_of_ble_eq_true rfl⟩) rfl hl.1 rfl (Nat.le_of_ble_eq_true rfl) dX4_take_20 ⟨Nat.le_of_ble_eq_true rfl, Nat.le_of_ble_eq_true rfl⟩) (fun u6 H locs hwp hw => ?_)
    refine lv_aload_n (pc := 23) cx.1 cx.2.1 dX4_take_23 rfl (lv_at hl 0 rfl) ?_
    refine lv_iconst (pc := 24) (v := 0) cx.1 cx.2.1 dX4_take_24 (by decide) ?_
    refine k_putI (pc := 25) (u := u6) (v := (0 : Int32)) cx hw (ln_X4_this_3 d h) (C := RX4) (T := TX4) (N := 7) rfl in_X4 tyX4 tyX4_ok nmX4 (by decide) q221 (fun _ h9 => h9) rfl rfl rfl dX4_take_25 (fun H locs hw => ?_)
    refine lv_goto (pc := 28) (tgt := 110) cx.1 cx.2.1 dX4_take_28 (by decide) ?_
    exact wk_X4_take_110 cx _ _ _ _ _ _ hwp hw (lv_sub hl [0, 1, 2] rfl)
