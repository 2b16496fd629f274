set_option maxRecDepth 100000
set_option maxHeartbeats 4000000 in
theorem m_X4_end (l : Launch) (dC : Nat → ClassId) (dI : Nat → Nat → Nat) (d : Nat → ClassId) (h : Nat → Nat) (u : St) {K : Int32 → St → Prop} (hwp : wp_X4_end u K) : kM l yX4_end cX4_end 1 (some .int) ({ frames := 0, cells := 0, slots := 0, locals := 0 } : Room) dC dI d [.ref (h 0)] (wPk d h) u (kQi dC dI (wPk d h) K) 0 0 := by
  refine kM_start rfl (Nat.le_of_ble_eq_true rfl) ?_
  intro p e s m below meth c A ls cx hnm hw hl
  generalize hargs : ([.ref (h 0)] : List Value).toArray = args at cx ⊢
  unfold wp_X4_end at hwp
  replace hl : lv_has ls 1 [(0, .ref (h 0))] := hl
  generalize hH : s.heap = H at hw ⊢
  generalize hlo : ([] : List Loc) = locs at hw ⊢
  refine lv_aload_n (pc := 0) cx.1 cx.2.1 dX4_end_0 rfl (lv_at hl 0 rfl) ?_
  refine lv_aload_n (pc := 1) cx.1 cx.2.1 dX4_end_1 rfl (lv_at hl 0 rfl) ?_
  refine k_getI (pc := 2) (u := u) (v := (u.1 1)) cx hw (ln_X4_this_1 d h) (C := RX4) (T := TX4) (N := 7) rfl in_X4 (by decide) q218 (fun _ h9 => h9) rfl dX4_end_2 ?_
  refine lv_bipush (pc := 5) (v := 31) cx.1 cx.2.1 dX4_end_5 (by decide) ?_
  refine lv_iadd (pc := 7) cx.1 cx.2.1 dX4_end_7 ?_
  refine lv_bipush (pc := 8) (v := -32) cx.1 cx.2.1 dX4_end_8 (by decide) ?_
  refine lv_iand (pc := 10) cx.1 cx.2.1 dX4_end_10 ?_
  refine lv_topi (fun y1 ey1 => ?_)
  replace hwp := hwp y1 ey1
  refine k_putI (pc := 11) (u := u) (v := y1) cx hw (ln_X4_this_1 d h) (C := RX4) (T := TX4) (N := 7) rfl in_X4 tyX4 tyX4_ok nmX4 (by decide) q218 (fun _ h9 => h9) rfl rfl rfl dX4_end_11 (fun H locs hw => ?_)
  refine lv_aload_n (pc := 14) cx.1 cx.2.1 dX4_end_14 rfl (lv_at hl 0 rfl) ?_
  refine k_getI (pc := 15) (u := (st_I u 1 y1)) (v := y1) cx hw (ln_X4_this_1 d h) (C := RX4) (T := TX4) (N := 7) rfl in_X4 (by decide) q218 (fun _ h9 => h9) rfl dX4_end_15 ?_
  refine lv_aload_n (pc := 18) cx.1 cx.2.1 dX4_end_18 rfl (lv_at hl 0 rfl) ?_
  refine k_getI (pc := 19) (u := (st_I u 1 y1)) (v := (u.1 2)) cx hw (ln_X4_this_2 d h) (C := RX4) (T := TX4) (N := 7) rfl in_X4 (by decide) q219 (fun _ h9 => h9) rfl dX4_end_19 ?_
  refine lv_isub (pc := 22) cx.1 cx.2.1 dX4_end_22 ?_
  refine lv_iconst (pc := 23) (v := 5) cx.1 cx.2.1 dX4_end_23 (by decide) ?_
  refine lv_ishr (pc := 24) cx.1 cx.2.1 dX4_end_24 ?_
  exact k_iret (pc := 25) (wf := (wPk d h)) (u := (st_I u 1 y1)) cx hw hwp (by decide) (by decide) dX4_end_25
set_option maxHeartbeats 4000000 in
theorem m_X11_add (l : Launch) (dC : Nat → ClassId) (dI : Nat → Nat → Nat) (d : Nat → ClassId) (h : Nat → Nat) (u : St) (x1 : Int32) (x2 : Int32) {K : St → Prop} (hwp : wp_X11_add u x1 x2 K) : kM l yX11_add cX11_add 3 none ({ frames := 0, cells := 0, slots := 0, locals := 0 } : Room) dC dI d [.ref (h 0), .int x1, .int x2] (wHd d h) u (kQv dC dI (wHd d h) K) 0 0 := by
  refine kM_start rfl (Nat.le_of_ble_eq_true rfl) ?_
  intro p e s m below meth c A ls cx hnm hw hl
  generalize hargs : ([.ref (h 0), .int x1, .int x2] : List Value).toArray = args at cx ⊢
  unfold wp_X11_add at hwp
  replace hl : lv_has ls 3 [(0, .ref (h 0)), (1, .int x1), (2, .int x2)] := hl
  generalize hH : s.heap = H at hw ⊢
  generalize hlo : ([] : List Loc) = locs at hw ⊢
  refine lv_aload_n (pc := 0) cx.1 cx.2.1 dX11_add_0 rfl (lv_at hl 0 rfl) ?_
  refine k_getR (pc := 1) (u := u) (v := .ref (h 1)) cx hw (lr_X11_this_0 d h) (C := RX11) (T := TX11) (N := 3) rfl in_X11 (by decide) q442 (fun _ h9 => h9) rfl dX11_add_1 ?_
  refine lv_aload_n (pc := 4) cx.1 cx.2.1 dX11_add_4 rfl (lv_at hl 0 rfl) ?_
  refine k_getI (pc := 5) (u := u) (v := (u.1 2)) cx hw (ln_X11_this_2 d h) (C := RX11) (T := TX11) (N := 3) rfl in_X11 (by decide) q448 (fun _ h9 => h9) rfl dX11_add_5 ?_
  refine lv_iload_n (pc := 8) cx.1 cx.2.1 dX11_add_8 rfl (lv_at hl 1 rfl) ?_
  refine k_iast (pc := 9) (u := u) (f := (u.2.1 0)) cx hw (ln_X11_this_0 d h) 0 rfl rfl hwp.1 dX11_add_9 (fun H locs hw => ?_)
  replace hwp := hwp.2
  refine lv_aload_n (pc := 10) cx.1 cx.2.1 dX11_add_10 rfl (lv_at hl 0 rfl) ?_
  refine k_getR (pc := 11) (u := (st_A u 0 (upd (u.2.1 0) (u.1 2).toNatClampNeg x1))) (v := .ref (h 2)) cx hw (lr_X11_this_1 d h) (C := RX11) (T := TX11) (N := 3) rfl in_X11 (by decide) q445 (fun _ h9 => h9) rfl dX11_add_11 ?_
  refine lv_aload_n (pc := 14) cx.1 cx.2.1 dX11_add_14 rfl (lv_at hl 0 rfl) ?_
  refine k_getI (pc := 15) (u := (st_A u 0 (upd (u.2.1 0) (u.1 2).toNatClampNeg x1))) (v := (u.1 2)) cx hw (ln_X11_this_2 d h) (C := RX11) (T := TX11) (N := 3) rfl in_X11 (by decide) q448 (fun _ h9 => h9) rfl dX11_add_15 ?_
  refine lv_iload_n (pc := 18) cx.1 cx.2.1 dX11_add_18 rfl (lv_at hl 2 rfl) ?_
  refine k_iast (pc := 19) (u := (st_A u 0 (upd (u.2.1 0) (u.1 2).toNatClampNeg x1))) (f := (u.2.1 1)) cx hw (ln_X11_this_1 d h) 0 rfl rfl hwp.1 dX11_add_19 (fun H locs hw => ?_)
  replace hwp := hwp.2
  refine lv_aload_n (pc := 20) cx.1 cx.2.1 dX11_add_20 rfl (lv_at hl 0 rfl) ?_
  refine lv_dup (pc := 21) cx.1 cx.2.1 dX11_add_21 rfl ?_
  refine k_getI (pc := 22) (u := (st_A (st_A u 0 (upd (u.2.1 0) (u.1 2).toNatClampNeg x1)) 1 (upd (u.2.1 1) (u.1 2).toNatClampNeg x2))) (v := (u.1 2)) cx hw (ln_X11_this_2 d h) (C := RX11) (T := TX11) (N := 3) rfl in_X11 (by decide) q448 (fun _ h9 => h9) rfl dX11_add_22 ?_
  refine lv_iconst (pc := 25) (v := 1) cx.1 cx.2.1 dX11_add_25 (by decide) ?_
  refine lv_iadd (pc := 26) cx.1 cx.2.1 dX11_add_26 ?_
  refine k_putI (pc := 27) (u := (st_A (st_A u 0 (upd (u.2.1 0) (u.1 2).toNatClampNeg x1)) 1 (upd (u.2.1 1) (u.1 2).toNatClampNeg x2))) (v := ((u.1 2) + (1 : Int32))) cx hw (ln_X11_this_2 d h) (C := RX11) (T := TX11) (N := 3) rfl in_X11 tyX11 tyX11_ok nmX11 (by decide) q448 (fun _ h9 => h9) rfl rfl rfl dX11_add_27 (fun H locs hw => ?_)
  exact k_vret (pc := 30) (wf := (wHd d h)) (u := (st_I (st_A (st_A u 0 (upd (u.2.1 0) (u.1 2).toNatClampNeg x1)) 1 (upd (u.2.1 1) (u.1 2).toNatClampNeg x2)) 2 ((u.1 2) + (1 : Int32)))) cx hw hwp (by decide) (by decide) dX11_add_30
set_option maxHeartbeats 4000000 in
theorem m_X10_begin (l : Launch) (dC : Nat → ClassId) (dI : Nat → Nat → Nat) (d : Nat → ClassId) (h : Nat → Nat) (g : Nat) (u : St) {K : St → Prop} (hwp : wp_X10_begin u K) : kM l yX10_begin cX10_begin 1 none ({ frames := 0, cells := 0, slots := 0, locals := 0 } : Room) dC dI d [.ref (h 0)] (wTo d h g) u (kQv dC dI (wTo d h g) K) 0 0 := by
  refine kM_start rfl (Nat.le_of_ble_eq_true rfl) ?_
  intro p e s m below meth c A ls cx hnm hw hl
  generalize hargs : ([.ref (h 0)] : List Value).toArray = args at cx ⊢
  unfold wp_X10_begin at hwp
  replace hl : lv_has ls 1 [(0, .ref (h 0))] := hl
  generalize hH : s.heap = H at hw ⊢
  generalize hlo : ([] : List Loc) = locs at hw ⊢
  refine lv_aload_n (pc := 0) cx.1 cx.2.1 dX10_begin_0 rfl (lv_at hl 0 rfl) ?_
  refine lv_iconst (pc := 1) (v := 0) cx.1 cx.2.1 dX10_begin_1 (by decide) ?_
  refine k_putI (pc := 2) (u := u) (v := (0 : Int32)) cx hw (ln_X10_this_0 d h g) (C := RX10) (T := TX10) (N := 5) rfl in_X10 tyX10 tyX10_ok nmX10 (by decide) q409 (fun _ h9 => h9) rfl rfl rfl dX10_begin_2 (fun H locs hw => ?_)
  refine lv_aload_n (pc := 5) cx.1 cx.2.1 dX10_begin_5 rfl (lv_at hl 0 rfl) ?_
  refine lv_iconst (pc := 6) (v := 0) cx.1 cx.2.1 dX10_begin_6 (by decide) ?_
  refine k_putI (pc := 7) (u := (st_I u 0 (0 : Int32))) (v := (0 : Int32)) cx hw (ln_X10_this_1 d h g) (C := RX10) (T := TX10) (N := 5) rfl in_X10 tyX10 tyX10_ok nmX10 (by decide) q411 (fun _ h9 => h9) rfl rfl rfl dX10_begin_7 (fun H locs hw => ?_)
  refine lv_aload_n (pc := 10) cx.1 cx.2.1 dX10_begin_10 rfl (lv_at hl 0 rfl) ?_
  refine lv_iconst (pc := 11) (v := 0) cx.1 cx.2.1 dX10_begin_11 (by decide) ?_
  refine k_putI (pc := 12) (u := (st_I (st_I u 0 (0 : Int32)) 1 (0 : Int32))) (v := (0 : Int32)) cx hw (ln_X10_this_2 d h g) (C := RX10) (T := TX10) (N := 5) rfl in_X10 tyX10 tyX10_ok nmX10 (by decide) q413 (fun _ h9 => h9) rfl rfl rfl dX10_begin_12 (fun H locs hw => ?_)
  refine lv_aload_n (pc := 15) cx.1 cx.2.1 dX10_begin_15 rfl (lv_at hl 0 rfl) ?_
  refine lv_lconst (pc := 16) (v := 0) cx.1 cx.2.1 dX10_begin_16 (by decide) ?_
  refine k_putJ (pc := 17) (u := (st_I (st_I (st_I u 0 (0 : Int32)) 1 (0 : Int32)) 2 (0 : Int32))) (v := (0 : Int64)) cx hw (ln_X10_this_3 d h g) (C := RX10) (T := TX10) (N := 5) rfl in_X10 tyX10 tyX10_ok nmX10 (by decide) q415 (fun _ h9 => h9) rfl rfl rfl dX10_begin_17 (fun H locs hw => ?_)
  exact k_vret (pc := 20) (wf := (wTo d h g)) (u := (st_L (st_I (st_I (st_I u 0 (0 : Int32)) 1 (0 : Int32)) 2 (0 : Int32)) 3 (0 : Int64))) cx hw hwp (by decide) (by decide) dX10_begin_20
set_option maxHeartbeats 4000000 in
theorem m_X10_take (l : Launch) (dC : Nat → ClassId) (dI : Nat → Nat → Nat) (d : Nat → ClassId) (h : Nat → Nat) (g : Nat) (u : St) (x1 : Int32) (x2 : Int32) {K : St → Prop} (hwp : wp_X10_take u x1 x2 K) : kM l yX10_take cX10_take 3 none ({ frames := 1, cells := 0, slots := 0, locals := 21 } : Room) dC dI d [.ref (h 0), .int x1, .int x2] (wTo d h g) u (kQv dC dI (wTo d h g) K) 0 0 := by
  refine kM_start rfl (Nat.le_of_ble_eq_true rfl) ?_
  intro p e s m below meth c A ls cx hnm hw hl
  generalize hargs : ([.ref (h 0), .int x1, .int x2] : List Value).toArray = args at cx ⊢
  unfold wp_X10_take at hwp
  replace hl : lv_has ls 3 [(0, .ref (h 0)), (1, .int x1), (2, .int x2)] := hl
  generalize hH : s.heap = H at hw ⊢
  generalize hlo : ([] : List Loc) = locs at hw ⊢
  refine lv_aload_n (pc := 0) cx.1 cx.2.1 dX10_take_0 rfl (lv_at hl 0 rfl) ?_
  refine lv_aload_n (pc := 1) cx.1 cx.2.1 dX10_take_1 rfl (lv_at hl 0 rfl) ?_
  refine k_getI (pc := 2) (u := u) (v := (u.1 0)) cx hw (ln_X10_this_0 d h g) (C := RX10) (T := TX10) (N := 5) rfl in_X10 (by decide) q409 (fun _ h9 => h9) rfl dX10_take_2 ?_
  have hJ2 : ∀ z1 : Int32, z1 = (if (u.1 0) = 0 then x2 else (if x2 < (u.1 1) then x2 else (u.1 1))) → W p l e ({ frames := 1, cells := 0, slots := 0, locals := 21 } : Room) s m args below meth c H locs 0 0 (MQ below (kQv dC dI (wTo d h g) K A) args s 0 0 A) (F0 m 20 ls [.int z1, .ref (h 0)]) := by
    intro z1 ez1
    replace hwp := hwp z1 ez1
    refine k_putI (pc := 20) (u := u) (v := z1) cx hw (ln_X10_this_1 d h g) (C := RX10) (T := TX10) (N := 5) rfl in_X10 tyX10 tyX10_ok nmX10 (by decide) q411 (fun _ h9 => h9) rfl rfl rfl dX10_take_20 (fun H locs hw => ?_)
    refine lv_aload_n (pc := 23) cx.1 cx.2.1 dX10_take_23 rfl (lv_at hl 0 rfl) ?_
    refine lv_aload_n (pc := 24) cx.1 cx.2.1 dX10_take_24 rfl (lv_at hl 0 rfl) ?_
    refine k_getI (pc := 25) (u := (st_I u 1 z1)) (v := (u.1 0)) cx hw (ln_X10_this_0 d h g) (C := RX10) (T := TX10) (N := 5) rfl in_X10 (by decide) q409 (fun _ h9 => h9) rfl dX10_take_25 ?_
    have hJ4 : ∀ z3 : Int32, z3 = (if (u.1 0) = 0 then x2 else (if (u.1 2) < x2 then x2 else (u.1 2))) → W p l e ({ frames := 1, cells := 0, slots := 0, locals := 21 } : Room) s m args below meth c H locs 0 0 (MQ below (kQv dC dI (wTo d h g) K A) args s 0 0 A) (F0 m 43 ls [.int z3, .ref (h 0)]) := by
      intro z3 ez3
      replace hwp := hwp z3 ez3
      refine k_putI (pc := 43) (u := (st_I u 1 z1)) (v := z3) cx hw (ln_X10_this_2 d h g) (C := RX10) (T := TX10) (N := 5) rfl in_X10 tyX10 tyX10_ok nmX10 (by decide) q413 (fun _ h9 => h9) rfl rfl rfl dX10_take_43 (fun H locs hw => ?_)
      refine lv_aload_n (pc := 46) cx.1 cx.2.1 dX10_take_46 rfl (lv_at hl 0 rfl) ?_
      refine lv_dup (pc := 47) cx.1 cx.2.1 dX10_take_47 rfl ?_
      refine k_getI (pc := 48) (u := (st_I (st_I u 1 z1) 2 z3)) (v := (u.1 0)) cx hw (ln_X10_this_0 d h g) (C := RX10) (T := TX10) (N := 5) rfl in_X10 (by decide) q409 (fun _ h9 => h9) rfl dX10_take_48 ?_
      refine lv_iconst (pc := 51) (v := 1) cx.1 cx.2.1 dX10_take_51 (by decide) ?_
      refine lv_iadd (pc := 52) cx.1 cx.2.1 dX10_take_52 ?_
      refine k_putI (pc := 53) (u := (st_I (st_I u 1 z1) 2 z3)) (v := ((u.1 0) + (1 : Int32))) cx hw (ln_X10_this_0 d h g) (C := RX10) (T := TX10) (N := 5) rfl in_X10 tyX10 tyX10_ok nmX10 (by decide) q409 (fun _ h9 => h9) rfl rfl rfl dX10_take_53 (fun H locs hw => ?_)
      refine lv_aload_n (pc := 56) cx.1 cx.2.1 dX10_take_56 rfl (lv_at hl 0 rfl) ?_
      refine lv_dup (pc := 57) cx.1 cx.2.1 dX10_take_57 rfl ?_
      refine k_getJ (pc := 58) (u := (st_I (st_I (st_I u 1 z1) 2 z3) 0 ((u.1 0) + (1 : Int32)))) (v := (u.2.2.1 3)) cx hw (ln_X10_this_3 d h g) (C := RX10) (T := TX10) (N := 5) rfl in_X10 (by decide) q415 (fun _ h9 => h9) rfl dX10_take_58 ?_
      refine lv_iload_n (pc := 61) cx.1 cx.2.1 dX10_take_61 rfl (lv_at hl 2 rfl) ?_
      refine lv_i2l (pc := 62) cx.1 cx.2.1 dX10_take_62 rfl ?_
      refine lv_ladd (pc := 63) cx.1 cx.2.1 dX10_take_63 ?_
      refine k_putJ (pc := 64) (u := (st_I (st_I (st_I u 1 z1) 2 z3) 0 ((u.1 0) + (1 : Int32)))) (v := ((u.2.2.1 3) + x2.toInt64)) cx hw (ln_X10_this_3 d h g) (C := RX10) (T := TX10) (N := 5) rfl in_X10 tyX10 tyX10_ok nmX10 (by decide) q415 (fun _ h9 => h9) rfl rfl rfl dX10_take_64 (fun H locs hw => ?_)
      exact k_vret (pc := 67) (wf := (wTo d h g)) (u := (st_L (st_I (st_I (st_I u 1 z1) 2 z3) 0 ((u.1 0) + (1 : Int32))) 3 ((u.2.2.1 3) + x2.toInt64))) cx hw hwp (by decide) (by decide) dX10_take_67
    clear hwp
    refine lv_if_ne (pc := 28) (tgt := 35) cx.1 cx.2.1 dX10_take_28 (by decide) (fun c5 => ?_) (fun c5 => ?_)
    · skip
      refine lv_aload_n (pc := 35) cx.1 cx.2.1 dX10_take_35 rfl (lv_at hl 0 rfl) ?_
      refine k_getI (pc := 36) (u := (st_I u 1 z1)) (v := (u.1 2)) cx hw (ln_X10_this_2 d h g) (C := RX10) (T := TX10) (N := 5) rfl in_X10 (by decide) q413 (fun _ h9 => h9) rfl dX10_take_36 ?_
      refine lv_iload_n (pc := 39) cx.1 cx.2.1 dX10_take_39 rfl (lv_at hl 2 rfl) ?_
      refine k_max (pc := 40) cx hl.1 q766 q430 q87 q431 ⟨Nat.le_of_ble_eq_true rfl, Nat.le_of_ble_eq_true rfl, Nat.le_of_ble_eq_true rfl, Nat.le_of_ble_eq_true rfl⟩ dX10_take_40 ?_
      exact hJ4 _ (if_neg c5).symm
    · skip
      refine lv_iload_n (pc := 31) cx.1 cx.2.1 dX10_take_31 rfl (lv_at hl 2 rfl) ?_
      refine lv_goto (pc := 32) (tgt := 43) cx.1 cx.2.1 dX10_take_32 (by decide) ?_
      exact hJ4 _ (if_pos c5).symm
  clear hwp
  refine lv_if_ne (pc := 5) (tgt := 12) cx.1 cx.2.1 dX10_take_5 (by decide) (fun c6 => ?_) (fun c6 => ?_)
  · skip
    refine lv_aload_n (pc := 12) cx.1 cx.2.1 dX10_take_12 rfl (lv_at hl 0 rfl) ?_
    refine k_getI (pc := 13) (u := u) (v := (u.1 1)) cx hw (ln_X10_this_1 d h g) (C := RX10) (T := TX10) (N := 5) rfl in_X10 (by decide) q411 (fun _ h9 => h9) rfl dX10_take_13 ?_
    refine lv_iload_n (pc := 16) cx.1 cx.2.1 dX10_take_16 rfl (lv_at hl 2 rfl) ?_
    refine k_min (pc := 17) cx hl.1 q765 q433 q87 q434 ⟨Nat.le_of_ble_eq_true rfl, Nat.le_of_ble_eq_true rfl, Nat.le_of_ble_eq_true rfl, Nat.le_of_ble_eq_true rfl⟩ dX10_take_17 ?_
    exact hJ2 _ (if_neg c6).symm
  · skip
    refine lv_iload_n (pc := 8) cx.1 cx.2.1 dX10_take_8 rfl (lv_at hl 2 rfl) ?_
    refine lv_goto (pc := 9) (tgt := 20) cx.1 cx.2.1 dX10_take_9 (by decide) ?_
    exact hJ2 _ (if_pos c6).symm
set_option maxHeartbeats 4000000 in
theorem m_X10_join (l : Launch) (dC : Nat → ClassId) (dI : Nat → Nat → Nat) (d : Nat → ClassId) (h : Nat → Nat) (g : Nat) (h2 : Nat → Nat) (b : St) (u : St) (x2 : Int32) {K : St → Prop} (hwp : wp_X10_join b u x2 K) : kM l yX10_join cX10_join 3 none ({ frames := 1, cells := 0, slots := 0, locals := 21 } : Room) dC dI d [.ref (h 0), .ref (h2 0), .int x2] (wf_X10j d h g h2 b) u (kQv dC dI (wf_X10j d h g h2 b) K) 0 0 := by
  refine kM_start rfl (Nat.le_of_ble_eq_true rfl) ?_
  intro p e s m below meth c A ls cx hnm hw hl
  generalize hargs : ([.ref (h 0), .ref (h2 0), .int x2] : List Value).toArray = args at cx ⊢
  unfold wp_X10_join at hwp
  replace hl : lv_has ls 3 [(0, .ref (h 0)), (1, .ref (h2 0)), (2, .int x2)] := hl
  generalize hH : s.heap = H at hw ⊢
  generalize hlo : ([] : List Loc) = locs at hw ⊢
  refine lv_aload_n (pc := 0) cx.1 cx.2.1 dX10_join_0 rfl (lv_at hl 0 rfl) ?_
  refine lv_aload_n (pc := 1) cx.1 cx.2.1 dX10_join_1 rfl (lv_at hl 0 rfl) ?_
  refine k_getI (pc := 2) (u := u) (v := (u.1 0)) cx hw (ln_X10j_this_0 d h g h2 b) (C := RX10) (T := TX10) (N := 5) rfl in_X10 (by decide) q409 (fun _ h9 => h9) rfl dX10_join_2 ?_
  have gT2 := hwp.1
  replace hwp := hwp.2
  have gF3 := hwp.1
  replace hwp := hwp.2
  have hJ4 : ∀ z1 : Int32, z1 = (if (u.1 0) = 0 then ((b.2.1 2) x2.toNatClampNeg) else (if ((b.2.1 2) x2.toNatClampNeg) < (u.1 1) then ((b.2.1 2) x2.toNatClampNeg) else (u.1 1))) → W p l e ({ frames := 1, cells := 0, slots := 0, locals := 21 } : Room) s m args below meth c H locs 0 0 (MQ below (kQv dC dI (wf_X10j d h g h2 b) K A) args s 0 0 A) (F0 m 30 ls [.int z1, .ref (h 0)]) := by
    intro z1 ez1
    replace hwp := hwp z1 ez1
    refine k_putI (pc := 30) (u := u) (v := z1) cx hw (ln_X10j_this_1 d h g h2 b) (C := RX10) (T := TX10) (N := 5) rfl in_X10 tyX10 tyX10_ok nmX10 (by decide) q411 (fun _ h9 => h9) rfl rfl rfl dX10_join_30 (fun H locs hw => ?_)
    refine lv_aload_n (pc := 33) cx.1 cx.2.1 dX10_join_33 rfl (lv_at hl 0 rfl) ?_
    refine lv_aload_n (pc := 34) cx.1 cx.2.1 dX10_join_34 rfl (lv_at hl 0 rfl) ?_
    refine k_getI (pc := 35) (u := (st_I u 1 z1)) (v := (u.1 0)) cx hw (ln_X10j_this_0 d h g h2 b) (C := RX10) (T := TX10) (N := 5) rfl in_X10 (by decide) q409 (fun _ h9 => h9) rfl dX10_join_35 ?_
    have gT6 := hwp.1
    replace hwp := hwp.2
    have gF7 := hwp.1
    replace hwp := hwp.2
    have hJ8 : ∀ z5 : Int32, z5 = (if (u.1 0) = 0 then ((b.2.1 3) x2.toNatClampNeg) else (if (u.1 2) < ((b.2.1 3) x2.toNatClampNeg) then ((b.2.1 3) x2.toNatClampNeg) else (u.1 2))) → W p l e ({ frames := 1, cells := 0, slots := 0, locals := 21 } : Room) s m args below meth c H locs 0 0 (MQ below (kQv dC dI (wf_X10j d h g h2 b) K A) args s 0 0 A) (F0 m 63 ls [.int z5, .ref (h 0)]) := by
      intro z5 ez5
      replace hwp := hwp z5 ez5
      refine k_putI (pc := 63) (u := (st_I u 1 z1)) (v := z5) cx hw (ln_X10j_this_2 d h g h2 b) (C := RX10) (T := TX10) (N := 5) rfl in_X10 tyX10 tyX10_ok nmX10 (by decide) q413 (fun _ h9 => h9) rfl rfl rfl dX10_join_63 (fun H locs hw => ?_)
      refine lv_aload_n (pc := 66) cx.1 cx.2.1 dX10_join_66 rfl (lv_at hl 0 rfl) ?_
      refine lv_dup (pc := 67) cx.1 cx.2.1 dX10_join_67 rfl ?_
      refine k_getI (pc := 68) (u := (st_I (st_I u 1 z1) 2 z5)) (v := (u.1 0)) cx hw (ln_X10j_this_0 d h g h2 b) (C := RX10) (T := TX10) (N := 5) rfl in_X10 (by decide) q409 (fun _ h9 => h9) rfl dX10_join_68 ?_
      refine lv_aload_n (pc := 71) cx.1 cx.2.1 dX10_join_71 rfl (lv_at hl 1 rfl) ?_
      refine k_getRN (pc := 72) (u := (st_I (st_I u 1 z1) 2 z5)) (v := .ref (h2 5)) cx hw (lr_X10j_other_4 d h g h2 b) (C := RX8) (T := TX8) (N := 6) rfl in_X8 (by decide) (nq307 cx.2.2.2.2.2.1) (fun _ h9 => h9) rfl dX10_join_72 ?_
      refine lv_iload_n (pc := 75) cx.1 cx.2.1 dX10_join_75 rfl (lv_at hl 2 rfl) ?_
      refine k_sald (pc := 76) (u := (st_I (st_I u 1 z1) 2 z5)) (f := (b.2.1 4)) cx hw (lx_X10j_other_4 d h g h2 b) 1 rfl rfl hwp.1 dX10_join_76 ?_
      replace hwp := hwp.2
      refine lv_iadd (pc := 77) cx.1 cx.2.1 dX10_join_77 ?_
      refine lv_topi (fun y9 ey9 => ?_)
      replace hwp := hwp y9 ey9
      refine k_putI (pc := 78) (u := (st_I (st_I u 1 z1) 2 z5)) (v := y9) cx hw (ln_X10j_this_0 d h g h2 b) (C := RX10) (T := TX10) (N := 5) rfl in_X10 tyX10 tyX10_ok nmX10 (by decide) q409 (fun _ h9 => h9) rfl rfl rfl dX10_join_78 (fun H locs hw => ?_)
      refine lv_aload_n (pc := 81) cx.1 cx.2.1 dX10_join_81 rfl (lv_at hl 0 rfl) ?_
      refine lv_dup (pc := 82) cx.1 cx.2.1 dX10_join_82 rfl ?_
      refine k_getJ (pc := 83) (u := (st_I (st_I (st_I u 1 z1) 2 z5) 0 y9)) (v := (u.2.2.1 3)) cx hw (ln_X10j_this_3 d h g h2 b) (C := RX10) (T := TX10) (N := 5) rfl in_X10 (by decide) q415 (fun _ h9 => h9) rfl dX10_join_83 ?_
      refine lv_aload_n (pc := 86) cx.1 cx.2.1 dX10_join_86 rfl (lv_at hl 1 rfl) ?_
      refine k_getRN (pc := 87) (u := (st_I (st_I (st_I u 1 z1) 2 z5) 0 y9)) (v := .ref (h2 6)) cx hw (lr_X10j_other_5 d h g h2 b) (C := RX8) (T := TX8) (N := 6) rfl in_X8 (by decide) (nq310 cx.2.2.2.2.2.1) (fun _ h9 => h9) rfl dX10_join_87 ?_
      refine lv_iload_n (pc := 90) cx.1 cx.2.1 dX10_join_90 rfl (lv_at hl 2 rfl) ?_
      refine k_lald (pc := 91) (u := (st_I (st_I (st_I u 1 z1) 2 z5) 0 y9)) (f := (b.2.2.2 5)) cx hw (lx_X10j_other_5 d h g h2 b) 2 rfl rfl hwp.1 dX10_join_91 ?_
      replace hwp := hwp.2
      refine lv_ladd (pc := 92) cx.1 cx.2.1 dX10_join_92 ?_
      refine lv_topl (fun y10 ey10 => ?_)
      replace hwp := hwp y10 ey10
      refine k_putJ (pc := 93) (u := (st_I (st_I (st_I u 1 z1) 2 z5) 0 y9)) (v := y10) cx hw (ln_X10j_this_3 d h g h2 b) (C := RX10) (T := TX10) (N := 5) rfl in_X10 tyX10 tyX10_ok nmX10 (by decide) q415 (fun _ h9 => h9) rfl rfl rfl dX10_join_93 (fun H locs hw => ?_)
      exact k_vret (pc := 96) (wf := (wf_X10j d h g h2 b)) (u := (st_L (st_I (st_I (st_I u 1 z1) 2 z5) 0 y9) 3 y10)) cx hw hwp (by decide) (by decide) dX10_join_96
    clear hwp
    refine lv_if_ne (pc := 38) (tgt := 50) cx.1 cx.2.1 dX10_join_38 (by decide) (fun c11 => ?_) (fun c11 => ?_)
    · have hwp := gT6 c11
      replace hwp := And.intro hwp trivial
      refine lv_aload_n (pc := 50) cx.1 cx.2.1 dX10_join_50 rfl (lv_at hl 0 rfl) ?_
      refine k_getI (pc := 51) (u := (st_I u 1 z1)) (v := (u.1 2)) cx hw (ln_X10j_this_2 d h g h2 b) (C := RX10) (T := TX10) (N := 5) rfl in_X10 (by decide) q413 (fun _ h9 => h9) rfl dX10_join_51 ?_
      refine lv_aload_n (pc := 54) cx.1 cx.2.1 dX10_join_54 rfl (lv_at hl 1 rfl) ?_
      refine k_getRN (pc := 55) (u := (st_I u 1 z1)) (v := .ref (h2 4)) cx hw (lr_X10j_other_3 d h g h2 b) (C := RX8) (T := TX8) (N := 6) rfl in_X8 (by decide) (nq303 cx.2.2.2.2.2.1) (fun _ h9 => h9) rfl dX10_join_55 ?_
      refine lv_iload_n (pc := 58) cx.1 cx.2.1 dX10_join_58 rfl (lv_at hl 2 rfl) ?_
      refine k_iald (pc := 59) (u := (st_I u 1 z1)) (f := (b.2.1 3)) cx hw (lx_X10j_other_3 d h g h2 b) 0 rfl rfl hwp.1 dX10_join_59 ?_
      replace hwp := hwp.2
      refine k_max (pc := 60) cx hl.1 q766 q430 q87 q431 ⟨Nat.le_of_ble_eq_true rfl, Nat.le_of_ble_eq_true rfl, Nat.le_of_ble_eq_true rfl, Nat.le_of_ble_eq_true rfl⟩ dX10_join_60 ?_
      exact hJ8 _ (if_neg c11).symm
    · have hwp := gF7 c11
      replace hwp := And.intro hwp trivial
      refine lv_aload_n (pc := 41) cx.1 cx.2.1 dX10_join_41 rfl (lv_at hl 1 rfl) ?_
      refine k_getRN (pc := 42) (u := (st_I u 1 z1)) (v := .ref (h2 4)) cx hw (lr_X10j_other_3 d h g h2 b) (C := RX8) (T := TX8) (N := 6) rfl in_X8 (by decide) (nq303 cx.2.2.2.2.2.1) (fun _ h9 => h9) rfl dX10_join_42 ?_
      refine lv_iload_n (pc := 45) cx.1 cx.2.1 dX10_join_45 rfl (lv_at hl 2 rfl) ?_
      refine k_iald (pc := 46) (u := (st_I u 1 z1)) (f := (b.2.1 3)) cx hw (lx_X10j_other_3 d h g h2 b) 0 rfl rfl hwp.1 dX10_join_46 ?_
      replace hwp := hwp.2
      refine lv_goto (pc := 47) (tgt := 63) cx.1 cx.2.1 dX10_join_47 (by decide) ?_
      exact hJ8 _ (if_pos c11).symm
  clear hwp
  refine lv_if_ne (pc := 5) (tgt := 17) cx.1 cx.2.1 dX10_join_5 (by decide) (fun c12 => ?_) (fun c12 => ?_)
  · have hwp := gT2 c12
    replace hwp := And.intro hwp trivial
    refine lv_aload_n (pc := 17) cx.1 cx.2.1 dX10_join_17 rfl (lv_at hl 0 rfl) ?_
    refine k_getI (pc := 18) (u := u) (v := (u.1 1)) cx hw (ln_X10j_this_1 d h g h2 b) (C := RX10) (T := TX10) (N := 5) rfl in_X10 (by decide) q411 (fun _ h9 => h9) rfl dX10_join_18 ?_
    refine lv_aload_n (pc := 21) cx.1 cx.2.1 dX10_join_21 rfl (lv_at hl 1 rfl) ?_
    refine k_getRN (pc := 22) (u := u) (v := .ref (h2 3)) cx hw (lr_X10j_other_2 d h g h2 b) (C := RX8) (T := TX8) (N := 6) rfl in_X8 (by decide) (nq300 cx.2.2.2.2.2.1) (fun _ h9 => h9) rfl dX10_join_22 ?_
    refine lv_iload_n (pc := 25) cx.1 cx.2.1 dX10_join_25 rfl (lv_at hl 2 rfl) ?_
    refine k_iald (pc := 26) (u := u) (f := (b.2.1 2)) cx hw (lx_X10j_other_2 d h g h2 b) 0 rfl rfl hwp.1 dX10_join_26 ?_
    replace hwp := hwp.2
    refine k_min (pc := 27) cx hl.1 q765 q433 q87 q434 ⟨Nat.le_of_ble_eq_true rfl, Nat.le_of_ble_eq_true rfl, Nat.le_of_ble_eq_true rfl, Nat.le_of_ble_eq_true rfl⟩ dX10_join_27 ?_
    exact hJ4 _ (if_neg c12).symm
  · have hwp := gF3 c12
    replace hwp := And.intro hwp trivial
    refine lv_aload_n (pc := 8) cx.1 cx.2.1 dX10_join_8 rfl (lv_at hl 1 rfl) ?_
    refine k_getRN (pc := 9) (u := u) (v := .ref (h2 3)) cx hw (lr_X10j_other_2 d h g h2 b) (C := RX8) (T := TX8) (N := 6) rfl in_X8 (by decide) (nq300 cx.2.2.2.2.2.1) (fun _ h9 => h9) rfl dX10_join_9 ?_
    refine lv_iload_n (pc := 12) cx.1 cx.2.1 dX10_join_12 rfl (lv_at hl 2 rfl) ?_
    refine k_iald (pc := 13) (u := u) (f := (b.2.1 2)) cx hw (lx_X10j_other_2 d h g h2 b) 0 rfl rfl hwp.1 dX10_join_13 ?_
    replace hwp := hwp.2
    refine lv_goto (pc := 14) (tgt := 30) cx.1 cx.2.1 dX10_join_14 (by decide) ?_
    exact hJ4 _ (if_pos c12).symm
set_option maxHeartbeats 4000000 in
theorem m_X6_begin (l : Launch) (dC : Nat → ClassId) (dI : Nat → Nat → Nat) (d : Nat → ClassId) (h : Nat → Nat) (g : Nat) (b : Nat → Int32) (u : St) (x1 : Int32) (x2 : Int32) {K : St → Prop} (hwp : wp_X6_begin b u x1 x2 K) : kM l yX6_begin cX6_begin 3 none ({ frames := 0, cells := 0, slots := 0, locals := 0 } : Room) dC dI d [.ref (h 0), .int x1, .int x2] (wf_X6 d h g b) u (kQv dC dI (wf_X6 d h g b) K) 0 0 := by
  refine kM_start rfl (Nat.le_of_ble_eq_true rfl) ?_
  intro p e s m below meth c A ls cx hnm hw hl
  generalize hargs : ([.ref (h 0), .int x1, .int x2] : List Value).toArray = args at cx ⊢
  unfold wp_X6_begin at hwp
  replace hl : lv_has ls 3 [(0, .ref (h 0)), (1, .int x1), (2, .int x2)] := hl
  generalize hH : s.heap = H at hw ⊢
  generalize hlo : ([] : List Loc) = locs at hw ⊢
  refine lv_aload_n (pc := 0) cx.1 cx.2.1 dX6_begin_0 rfl (lv_at hl 0 rfl) ?_
  refine lv_bipush (pc := 1) (v := 32) cx.1 cx.2.1 dX6_begin_1 (by decide) ?_
  refine lv_iload_n (pc := 3) cx.1 cx.2.1 dX6_begin_3 rfl (lv_at hl 1 rfl) ?_
  refine lv_imul (pc := 4) cx.1 cx.2.1 dX6_begin_4 ?_
  refine k_putI (pc := 5) (u := u) (v := ((32 : Int32) * x1)) cx hw (ln_X6_this_4 d h g b) (C := RX6) (T := TX6) (N := 7) rfl in_X6 tyX6 tyX6_ok nmX6 (by decide) q251 (fun _ h9 => h9) rfl rfl rfl dX6_begin_5 (fun H locs hw => ?_)
  refine lv_aload_n (pc := 8) cx.1 cx.2.1 dX6_begin_8 rfl (lv_at hl 0 rfl) ?_
  refine lv_iload_n (pc := 9) cx.1 cx.2.1 dX6_begin_9 rfl (lv_at hl 2 rfl) ?_
  refine k_putI (pc := 10) (u := (st_I u 4 ((32 : Int32) * x1))) (v := x2) cx hw (ln_X6_this_3 d h g b) (C := RX6) (T := TX6) (N := 7) rfl in_X6 tyX6 tyX6_ok nmX6 (by decide) q250 (fun _ h9 => h9) rfl rfl rfl dX6_begin_10 (fun H locs hw => ?_)
  refine lv_aload_n (pc := 13) cx.1 cx.2.1 dX6_begin_13 rfl (lv_at hl 0 rfl) ?_
  refine lv_iconst (pc := 14) (v := 1) cx.1 cx.2.1 dX6_begin_14 (by decide) ?_
  refine k_putI (pc := 15) (u := (st_I (st_I u 4 ((32 : Int32) * x1)) 3 x2)) (v := (1 : Int32)) cx hw (ln_X6_this_5 d h g b) (C := RX6) (T := TX6) (N := 7) rfl in_X6 tyX6 tyX6_ok nmX6 (by decide) q252 (fun _ h9 => h9) rfl rfl rfl dX6_begin_15 (fun H locs hw => ?_)
  refine lv_aload_n (pc := 18) cx.1 cx.2.1 dX6_begin_18 rfl (lv_at hl 0 rfl) ?_
  refine lv_lconst (pc := 19) (v := 0) cx.1 cx.2.1 dX6_begin_19 (by decide) ?_
  refine k_putJ (pc := 20) (u := (st_I (st_I (st_I u 4 ((32 : Int32) * x1)) 3 x2) 5 (1 : Int32))) (v := (0 : Int64)) cx hw (ln_X6_this_6 d h g b) (C := RX6) (T := TX6) (N := 7) rfl in_X6 tyX6 tyX6_ok nmX6 (by decide) q253 (fun _ h9 => h9) rfl rfl rfl dX6_begin_20 (fun H locs hw => ?_)
  exact k_vret (pc := 23) (wf := (wf_X6 d h g b)) (u := (st_L (st_I (st_I (st_I u 4 ((32 : Int32) * x1)) 3 x2) 5 (1 : Int32)) 6 (0 : Int64))) cx hw hwp (by decide) (by decide) dX6_begin_23
set_option maxHeartbeats 4000000 in
theorem wk_X6_bits_5 {p : Program} {l : Launch} {e : Env} {s : State} {m : MethodId} {args : Array Value} {below : List Frame} {meth : Method} {c : Code} {A : Nat → Prop} {dC : Nat → ClassId} {dI : Nat → Nat → Nat} {d : Nat → ClassId} {h : Nat → Nat} {g : Nat}{b : Nat → Int32} {K : Int64 → St → Prop} (cx : Cx p s m args meth c cX6_bits RX6 5 (some .long) A dC dI d) : ∀ (n : Nat) (x1 : Int32) (x2 : Int64) (x4 : Int32) (u : St) (H : Heap) (locs : List Loc) (ls : Array Slot), wp_X6_bits_5 b K n x1 x2 x4 u → Wd dC dI A ((wf_X6 d h g b) u) s H locs → lv_has ls 5 [(0, .ref (h 0)), (1, .int x1), (2, .long x2), (4, .int x4)] → W p l e ({ frames := 0, cells := 0, slots := 0, locals := 0 } : Room) s m args below meth c H locs 0 0 (MQ below (kQl dC dI (wf_X6 d h g b) K A) args s 0 0 A) (F0 m 5 ls []) := by
  intro n
  induction n with
  | zero =>
    intros; contradiction
  | succ n ih =>
    intro x1 x2 x4 u H locs ls hwp hw hl
    unfold wp_X6_bits_5 at hwp
    refine lv_iload (pc := 5) cx.1 cx.2.1 dX6_bits_5 (lv_at hl 3 rfl) ?_
    refine lv_iload_n (pc := 7) cx.1 cx.2.1 dX6_bits_7 rfl (lv_at hl 1 rfl) ?_
    refine lv_icmp_ge (pc := 8) (tgt := 57) cx.1 cx.2.1 dX6_bits_8 (by decide) (fun c1 => ?_) (fun c1 => ?_)
    · replace hwp := hwp.1 c1
      refine lv_lload_n (pc := 57) cx.1 cx.2.1 dX6_bits_57 rfl (lv_at hl 2 rfl) ?_
      exact k_lret (pc := 58) (wf := (wf_X6 d h g b)) (u := u) cx hw hwp (by decide) (by decide) dX6_bits_58
    · replace hwp := hwp.2 c1
      refine lv_lload_n (pc := 11) cx.1 cx.2.1 dX6_bits_11 rfl (lv_at hl 2 rfl) ?_
      refine lv_iconst (pc := 12) (v := 1) cx.1 cx.2.1 dX6_bits_12 (by decide) ?_
      refine lv_lshl (pc := 13) cx.1 cx.2.1 dX6_bits_13 rfl ?_
      refine lv_aload_n (pc := 14) cx.1 cx.2.1 dX6_bits_14 rfl (lv_at hl 0 rfl) ?_
      refine k_getR (pc := 15) (u := u) (v := .ref g) cx hw (lr_X6_this_2 d h g b) (C := RX6) (T := TX6) (N := 7) rfl in_X6 (by decide) q249 (fun _ h9 => h9) rfl dX6_bits_15 ?_
      refine lv_aload_n (pc := 18) cx.1 cx.2.1 dX6_bits_18 rfl (lv_at hl 0 rfl) ?_
      refine k_getI (pc := 19) (u := u) (v := (u.1 4)) cx hw (ln_X6_this_4 d h g b) (C := RX6) (T := TX6) (N := 7) rfl in_X6 (by decide) q251 (fun _ h9 => h9) rfl dX6_bits_19 ?_
      refine lv_iconst (pc := 22) (v := 5) cx.1 cx.2.1 dX6_bits_22 (by decide) ?_
      refine lv_ishr (pc := 23) cx.1 cx.2.1 dX6_bits_23 ?_
      refine k_iald (pc := 24) (u := u) (f := b) cx hw (lx_X6_ext d h g b) 0 rfl rfl hwp.1 dX6_bits_24 ?_
      replace hwp := hwp.2
      refine lv_bipush (pc := 25) (v := 31) cx.1 cx.2.1 dX6_bits_25 (by decide) ?_
      refine lv_aload_n (pc := 27) cx.1 cx.2.1 dX6_bits_27 rfl (lv_at hl 0 rfl) ?_
      refine k_getI (pc := 28) (u := u) (v := (u.1 4)) cx hw (ln_X6_this_4 d h g b) (C := RX6) (T := TX6) (N := 7) rfl in_X6 (by decide) q251 (fun _ h9 => h9) rfl dX6_bits_28 ?_
      refine lv_bipush (pc := 31) (v := 31) cx.1 cx.2.1 dX6_bits_31 (by decide) ?_
      refine lv_iand (pc := 33) cx.1 cx.2.1 dX6_bits_33 ?_
      refine lv_isub (pc := 34) cx.1 cx.2.1 dX6_bits_34 ?_
      refine lv_iushr (pc := 35) cx.1 cx.2.1 dX6_bits_35 rfl ?_
      refine lv_iconst (pc := 36) (v := 1) cx.1 cx.2.1 dX6_bits_36 (by decide) ?_
      refine lv_iand (pc := 37) cx.1 cx.2.1 dX6_bits_37 ?_
      refine lv_i2l (pc := 38) cx.1 cx.2.1 dX6_bits_38 rfl ?_
      refine lv_lor (pc := 39) cx.1 cx.2.1 dX6_bits_39 ?_
      refine lv_lstore_n (pc := 40) (lv' := [(2, .long ((x2 <<< ((1 : Int32).toInt64 &&& 63)) ||| (((b ((u.1 4) >>> ((5 : Int32) &&& 31)).toNatClampNeg).toUInt32 >>> (((31 : Int32) - ((u.1 4) &&& (31 : Int32))).toUInt32 &&& Int32.toUInt32 31)).toInt32 &&& (1 : Int32)).toInt64)), (0, .ref (h 0)), (1, .int x1), (4, .int x4)]) cx.1 cx.2.1 dX6_bits_40 rfl hl (by decide) rfl (fun ls hl => ?_)
      refine lv_aload_n (pc := 41) cx.1 cx.2.1 dX6_bits_41 rfl (lv_at hl 1 rfl) ?_
      refine lv_dup (pc := 42) cx.1 cx.2.1 dX6_bits_42 rfl ?_
      refine k_getI (pc := 43) (u := u) (v := (u.1 4)) cx hw (ln_X6_this_4 d h g b) (C := RX6) (T := TX6) (N := 7) rfl in_X6 (by decide) q251 (fun _ h9 => h9) rfl dX6_bits_43 ?_
      refine lv_iconst (pc := 46) (v := 1) cx.1 cx.2.1 dX6_bits_46 (by decide) ?_
      refine lv_iadd (pc := 47) cx.1 cx.2.1 dX6_bits_47 ?_
      refine k_putI (pc := 48) (u := u) (v := ((u.1 4) + (1 : Int32))) cx hw (ln_X6_this_4 d h g b) (C := RX6) (T := TX6) (N := 7) rfl in_X6 tyX6 tyX6_ok nmX6 (by decide) q251 (fun _ h9 => h9) rfl rfl rfl dX6_bits_48 (fun H locs hw => ?_)
      refine lv_iinc (pc := 51) (v := (x4 + (1 : Int32))) (lv' := [(4, .int (x4 + (1 : Int32))), (2, .long ((x2 <<< ((1 : Int32).toInt64 &&& 63)) ||| (((b ((u.1 4) >>> ((5 : Int32) &&& 31)).toNatClampNeg).toUInt32 >>> (((31 : Int32) - ((u.1 4) &&& (31 : Int32))).toUInt32 &&& Int32.toUInt32 31)).toInt32 &&& (1 : Int32)).toInt64)), (0, .ref (h 0)), (1, .int x1)]) cx.1 cx.2.1 dX6_bits_51 hl (k := 3) rfl rfl (by decide) rfl (fun ls hl => ?_)
      refine lv_goto (pc := 54) (tgt := 5) cx.1 cx.2.1 dX6_bits_54 (by decide) ?_
      exact ih _ _ _ _ _ _ _ hwp hw (lv_sub hl [2, 3, 1, 0] rfl)
set_option maxHeartbeats 4000000 in
theorem m_X6_bits (l : Launch) (dC : Nat → ClassId) (dI : Nat → Nat → Nat) (d : Nat → ClassId) (h : Nat → Nat) (g : Nat) (b : Nat → Int32) (u : St) (x1 : Int32) {K : Int64 → St → Prop} (hwp : wp_X6_bits b u x1 K) : kM l yX6_bits cX6_bits 5 (some .long) ({ frames := 0, cells := 0, slots := 0, locals := 0 } : Room) dC dI d [.ref (h 0), .int x1] (wf_X6 d h g b) u (kQl dC dI (wf_X6 d h g b) K) 0 0 := by
  refine kM_start rfl (Nat.le_of_ble_eq_true rfl) ?_
  intro p e s m below meth c A ls cx hnm hw hl
  generalize hargs : ([.ref (h 0), .int x1] : List Value).toArray = args at cx ⊢
  unfold wp_X6_bits at hwp
  replace hl : lv_has ls 5 [(0, .ref (h 0)), (1, .int x1)] := hl
  generalize hH : s.heap = H at hw ⊢
  generalize hlo : ([] : List Loc) = locs at hw ⊢
  refine lv_lconst (pc := 0) (v := 0) cx.1 cx.2.1 dX6_bits_0 (by decide) ?_
  refine lv_lstore_n (pc := 1) (lv' := [(2, .long (0 : Int64)), (0, .ref (h 0)), (1, .int x1)]) cx.1 cx.2.1 dX6_bits_1 rfl hl (by decide) rfl (fun ls hl => ?_)
  refine lv_iconst (pc := 2) (v := 0) cx.1 cx.2.1 dX6_bits_2 (by decide) ?_
  refine lv_istore (pc := 3) (lv' := [(4, .int (0 : Int32)), (2, .long (0 : Int64)), (0, .ref (h 0)), (1, .int x1)]) cx.1 cx.2.1 dX6_bits_3 hl (by decide) rfl (fun ls hl => ?_)
  obtain ⟨n5, hwp⟩ := hwp
  exact wk_X6_bits_5 cx n5 _ _ _ _ _ _ _ hwp hw (lv_sub hl [2, 3, 1, 0] rfl)
set_option maxHeartbeats 4000000 in
theorem m_X6_bit (l : Launch) (dC : Nat → ClassId) (dI : Nat → Nat → Nat) (d : Nat → ClassId) (h : Nat → Nat) (g : Nat) (b : Nat → Int32) (u : St) {K : Int32 → St → Prop} (hwp : wp_X6_bit b u K) : kM l yX6_bit cX6_bit 1 (some .boolean) ({ frames := 1, cells := 0, slots := 0, locals := 24 } : Room) dC dI d [.ref (h 0)] (wf_X6 d h g b) u (kQi dC dI (wf_X6 d h g b) K) 0 0 := by
  refine kM_start rfl (Nat.le_of_ble_eq_true rfl) ?_
  intro p e s m below meth c A ls cx hnm hw hl
  generalize hargs : ([.ref (h 0)] : List Value).toArray = args at cx ⊢
  unfold wp_X6_bit at hwp
  replace hl : lv_has ls 1 [(0, .ref (h 0))] := hl
  generalize hH : s.heap = H at hw ⊢
  generalize hlo : ([] : List Loc) = locs at hw ⊢
  refine lv_aload_n (pc := 0) cx.1 cx.2.1 dX6_bit_0 rfl (lv_at hl 0 rfl) ?_
  refine lv_iconst (pc := 1) (v := 1) cx.1 cx.2.1 dX6_bit_1 (by decide) ?_
  refine k_whole_l (pc := 2) (wf := (wf_X6 d h g b)) (u := u) cx hw (k_runV (pc := 2) (rest := []) (As := [.int (1 : Int32)]) cx hw.1 (hw.2.1.weaken (fun _ _ _ _ => trivial)) hw.2.2 (k_recv cx hw 0 (ci := 4) (q := (RX6, TX6, 7)) rfl rfl) (m_X6_bits l dC dI d h g b u (1 : Int32) hwp H.size) (cwV 1 cx.2.2.2.2.1 (lw_V q717 q719 qs20 q82 q720) rfl rfl rfl hdV_X6_bits ⟨Nat.le_of_ble_eq_true rfl, Nat.le_of_ble_eq_true rfl⟩) rfl hl.1 rfl (Nat.le_of_ble_eq_true rfl) dX6_bit_2 ⟨Nat.le_of_ble_eq_true rfl, Nat.le_of_ble_eq_true rfl⟩) (fun r2 u1 H locs hwp hw => ?_)
  refine lv_lconst (pc := 5) (v := 1) cx.1 cx.2.1 dX6_bit_5 (by decide) ?_
  refine W.lcmp (pc := 6) cx.1 cx.2.1 dX6_bit_6 ?_
  have hJ4 : ∀ z3 : Int32, z3 = (if r2 = (1 : Int64) then (1 : Int32) else (0 : Int32)) → W p l e ({ frames := 1, cells := 0, slots := 0, locals := 24 } : Room) s m args below meth c H locs 0 0 (MQ below (kQi dC dI (wf_X6 d h g b) K A) args s 0 0 A) (F0 m 15 ls [.int z3]) := by
    intro z3 ez3
    replace hwp := hwp z3 ez3
    exact k_zret (pc := 15) (wf := (wf_X6 d h g b)) (u := u1) cx hw (ok_Zn hwp.1) hwp.2 (by decide) (by decide) dX6_bit_15
  clear hwp
  refine lv_if_ne (pc := 7) (tgt := 14) cx.1 cx.2.1 dX6_bit_7 (by decide) (fun c5 => ?_) (fun c5 => ?_)
  · skip
    refine lv_iconst (pc := 14) (v := 0) cx.1 cx.2.1 dX6_bit_14 (by decide) ?_
    exact hJ4 _ (if_neg (mt (lg_cmp_eq _ _).mpr c5)).symm
  · skip
    refine lv_iconst (pc := 10) (v := 1) cx.1 cx.2.1 dX6_bit_10 (by decide) ?_
    refine lv_goto (pc := 11) (tgt := 15) cx.1 cx.2.1 dX6_bit_11 (by decide) ?_
    exact hJ4 _ (if_pos ((lg_cmp_eq _ _).mp c5)).symm
set_option maxHeartbeats 4000000 in
theorem m_X6_change (l : Launch) (dC : Nat → ClassId) (dI : Nat → Nat → Nat) (d : Nat → ClassId) (h : Nat → Nat) (g : Nat) (b : Nat → Int32) (u : St) {K : Int64 → St → Prop} (hwp : wp_X6_change b u K) : kM l yX6_change cX6_change 1 (some .long) ({ frames := 2, cells := 0, slots := 0, locals := 44 } : Room) dC dI d [.ref (h 0)] (wf_X6 d h g b) u (kQl dC dI (wf_X6 d h g b) K) 0 0 := by
  refine kM_start rfl (Nat.le_of_ble_eq_true rfl) ?_
  intro p e s m below meth c A ls cx hnm hw hl
  generalize hargs : ([.ref (h 0)] : List Value).toArray = args at cx ⊢
  unfold wp_X6_change at hwp
  replace hl : lv_has ls 1 [(0, .ref (h 0))] := hl
  generalize hH : s.heap = H at hw ⊢
  generalize hlo : ([] : List Loc) = locs at hw ⊢
  refine lv_aload_n (pc := 0) cx.1 cx.2.1 dX6_change_0 rfl (lv_at hl 0 rfl) ?_
  refine k_whole_i (pc := 1) (wf := (wf_X6 d h g b)) (u := u) cx hw (k_runV (pc := 1) (rest := []) (As := []) cx hw.1 (hw.2.1.weaken (fun _ _ _ _ => trivial)) hw.2.2 (k_recv cx hw 0 (ci := 4) (q := (RX6, TX6, 7)) rfl rfl) (m_X6_bit l dC dI d h g b u  hwp H.size) (cwV 0 cx.2.2.2.2.1 (lw_V q725 q727 qs22 q82 q728) rfl rfl rfl hdV_X6_bit ⟨Nat.le_of_ble_eq_true rfl, Nat.le_of_ble_eq_true rfl⟩) rfl hl.1 rfl (Nat.le_of_ble_eq_true rfl) dX6_change_1 ⟨Nat.le_of_ble_eq_true rfl, Nat.le_of_ble_eq_true rfl⟩) (fun r2 u1 H locs hwp hw => ?_)
  refine lv_if_ne (pc := 4) (tgt := 9) cx.1 cx.2.1 dX6_change_4 (by decide) (fun c3 => ?_) (fun c3 => ?_)
  · replace hwp := hwp.1 c3
    refine lv_aload_n (pc := 9) cx.1 cx.2.1 dX6_change_9 rfl (lv_at hl 0 rfl) ?_
    refine k_whole_i (pc := 10) (wf := (wf_X6 d h g b)) (u := u1) cx hw (k_runV (pc := 10) (rest := []) (As := []) cx hw.1 (hw.2.1.weaken (fun _ _ _ _ => trivial)) hw.2.2 (k_recv cx hw 0 (ci := 4) (q := (RX6, TX6, 7)) rfl rfl) (m_X6_bit l dC dI d h g b u1  hwp H.size) (cwV 0 cx.2.2.2.2.1 (lw_V q725 q727 qs22 q82 q728) rfl rfl rfl hdV_X6_bit ⟨Nat.le_of_ble_eq_true rfl, Nat.le_of_ble_eq_true rfl⟩) rfl hl.1 rfl (Nat.le_of_ble_eq_true rfl) dX6_change_10 ⟨Nat.le_of_ble_eq_true rfl, Nat.le_of_ble_eq_true rfl⟩) (fun r5 u4 H locs hwp hw => ?_)
    refine lv_if_ne (pc := 13) (tgt := 27) cx.1 cx.2.1 dX6_change_13 (by decide) (fun c6 => ?_) (fun c6 => ?_)
    · replace hwp := hwp.1 c6
      refine lv_aload_n (pc := 27) cx.1 cx.2.1 dX6_change_27 rfl (lv_at hl 0 rfl) ?_
      refine k_whole_i (pc := 28) (wf := (wf_X6 d h g b)) (u := u4) cx hw (k_runV (pc := 28) (rest := []) (As := []) cx hw.1 (hw.2.1.weaken (fun _ _ _ _ => trivial)) hw.2.2 (k_recv cx hw 0 (ci := 4) (q := (RX6, TX6, 7)) rfl rfl) (m_X6_bit l dC dI d h g b u4  hwp H.size) (cwV 0 cx.2.2.2.2.1 (lw_V q725 q727 qs22 q82 q728) rfl rfl rfl hdV_X6_bit ⟨Nat.le_of_ble_eq_true rfl, Nat.le_of_ble_eq_true rfl⟩) rfl hl.1 rfl (Nat.le_of_ble_eq_true rfl) dX6_change_28 ⟨Nat.le_of_ble_eq_true rfl, Nat.le_of_ble_eq_true rfl⟩) (fun r8 u7 H locs hwp hw => ?_)
      refine lv_if_ne (pc := 31) (tgt := 45) cx.1 cx.2.1 dX6_change_31 (by decide) (fun c9 => ?_) (fun c9 => ?_)
      · replace hwp := hwp.1 c9
        refine lv_aload_n (pc := 45) cx.1 cx.2.1 dX6_change_45 rfl (lv_at hl 0 rfl) ?_
        refine k_whole_i (pc := 46) (wf := (wf_X6 d h g b)) (u := u7) cx hw (k_runV (pc := 46) (rest := []) (As := []) cx hw.1 (hw.2.1.weaken (fun _ _ _ _ => trivial)) hw.2.2 (k_recv cx hw 0 (ci := 4) (q := (RX6, TX6, 7)) rfl rfl) (m_X6_bit l dC dI d h g b u7  hwp H.size) (cwV 0 cx.2.2.2.2.1 (lw_V q725 q727 qs22 q82 q728) rfl rfl rfl hdV_X6_bit ⟨Nat.le_of_ble_eq_true rfl, Nat.le_of_ble_eq_true rfl⟩) rfl hl.1 rfl (Nat.le_of_ble_eq_true rfl) dX6_change_46 ⟨Nat.le_of_ble_eq_true rfl, Nat.le_of_ble_eq_true rfl⟩) (fun r11 u10 H locs hwp hw => ?_)
        refine lv_if_eq (pc := 49) (tgt := 65) cx.1 cx.2.1 dX6_change_49 (by decide) (fun c12 => ?_) (fun c12 => ?_)
        · replace hwp := hwp.1 c12
          refine lv_aload_n (pc := 65) cx.1 cx.2.1 dX6_change_65 rfl (lv_at hl 0 rfl) ?_
          refine lv_bipush (pc := 66) (v := 12) cx.1 cx.2.1 dX6_change_66 (by decide) ?_
          refine k_whole_l (pc := 68) (wf := (wf_X6 d h g b)) (u := u10) cx hw (k_runV (pc := 68) (rest := []) (As := [.int (12 : Int32)]) cx hw.1 (hw.2.1.weaken (fun _ _ _ _ => trivial)) hw.2.2 (k_recv cx hw 0 (ci := 4) (q := (RX6, TX6, 7)) rfl rfl) (m_X6_bits l dC dI d h g b u10 (12 : Int32) hwp H.size) (cwV 1 cx.2.2.2.2.1 (lw_V q717 q719 qs20 q82 q720) rfl rfl rfl hdV_X6_bits ⟨Nat.le_of_ble_eq_true rfl, Nat.le_of_ble_eq_true rfl⟩) rfl hl.1 rfl (Nat.le_of_ble_eq_true rfl) dX6_change_68 ⟨Nat.le_of_ble_eq_true rfl, Nat.le_of_ble_eq_true rfl⟩) (fun r14 u13 H locs hwp hw => ?_)
          refine lv_ldc2 (pc := 71) (v := 2048) cx.1 cx.2.1 cx.2.2.2.1 (cx.2.2.2.2.1 _ q732) dX6_change_71 ?_
          refine lv_lsub (pc := 74) cx.1 cx.2.1 dX6_change_74 ?_
          exact k_lret (pc := 75) (wf := (wf_X6 d h g b)) (u := u13) cx hw hwp (by decide) (by decide) dX6_change_75
        · replace hwp := hwp.2 c12
          refine lv_aload_n (pc := 52) cx.1 cx.2.1 dX6_change_52 rfl (lv_at hl 0 rfl) ?_
          refine lv_bipush (pc := 53) (v := 34) cx.1 cx.2.1 dX6_change_53 (by decide) ?_
          refine k_whole_l (pc := 55) (wf := (wf_X6 d h g b)) (u := u10) cx hw (k_runV (pc := 55) (rest := []) (As := [.int (34 : Int32)]) cx hw.1 (hw.2.1.weaken (fun _ _ _ _ => trivial)) hw.2.2 (k_recv cx hw 0 (ci := 4) (q := (RX6, TX6, 7)) rfl rfl) (m_X6_bits l dC dI d h g b u10 (34 : Int32) hwp H.size) (cwV 1 cx.2.2.2.2.1 (lw_V q717 q719 qs20 q82 q720) rfl rfl rfl hdV_X6_bits ⟨Nat.le_of_ble_eq_true rfl, Nat.le_of_ble_eq_true rfl⟩) rfl hl.1 rfl (Nat.le_of_ble_eq_true rfl) dX6_change_55 ⟨Nat.le_of_ble_eq_true rfl, Nat.le_of_ble_eq_true rfl⟩) (fun r16 u15 H locs hwp hw => ?_)
          refine lv_ldc2 (pc := 58) (v := 8589934592) cx.1 cx.2.1 cx.2.2.2.1 (cx.2.2.2.2.1 _ q731) dX6_change_58 ?_
          refine lv_lsub (pc := 61) cx.1 cx.2.1 dX6_change_61 ?_
          refine lv_goto (pc := 62) (tgt := 75) cx.1 cx.2.1 dX6_change_62 (by decide) ?_
          exact k_lret (pc := 75) (wf := (wf_X6 d h g b)) (u := u15) cx hw hwp (by decide) (by decide) dX6_change_75
      · replace hwp := hwp.2 c9
        refine lv_aload_n (pc := 34) cx.1 cx.2.1 dX6_change_34 rfl (lv_at hl 0 rfl) ?_
        refine lv_bipush (pc := 35) (v := 9) cx.1 cx.2.1 dX6_change_35 (by decide) ?_
        refine k_whole_l (pc := 37) (wf := (wf_X6 d h g b)) (u := u7) cx hw (k_runV (pc := 37) (rest := []) (As := [.int (9 : Int32)]) cx hw.1 (hw.2.1.weaken (fun _ _ _ _ => trivial)) hw.2.2 (k_recv cx hw 0 (ci := 4) (q := (RX6, TX6, 7)) rfl rfl) (m_X6_bits l dC dI d h g b u7 (9 : Int32) hwp H.size) (cwV 1 cx.2.2.2.2.1 (lw_V q717 q719 qs20 q82 q720) rfl rfl rfl hdV_X6_bits ⟨Nat.le_of_ble_eq_true rfl, Nat.le_of_ble_eq_true rfl⟩) rfl hl.1 rfl (Nat.le_of_ble_eq_true rfl) dX6_change_37 ⟨Nat.le_of_ble_eq_true rfl, Nat.le_of_ble_eq_true rfl⟩) (fun r18 u17 H locs hwp hw => ?_)
        refine lv_ldc2 (pc := 40) (v := 256) cx.1 cx.2.1 cx.2.2.2.1 (cx.2.2.2.2.1 _ q730) dX6_change_40 ?_
        refine lv_lsub (pc := 43) cx.1 cx.2.1 dX6_change_43 ?_
        exact k_lret (pc := 44) (wf := (wf_X6 d h g b)) (u := u17) cx hw hwp (by decide) (by decide) dX6_change_44
    · replace hwp := hwp.2 c6
      refine lv_aload_n (pc := 16) cx.1 cx.2.1 dX6_change_16 rfl (lv_at hl 0 rfl) ?_
      refine lv_bipush (pc := 17) (v := 7) cx.1 cx.2.1 dX6_change_17 (by decide) ?_
      refine k_whole_l (pc := 19) (wf := (wf_X6 d h g b)) (u := u4) cx hw (k_runV (pc := 19) (rest := []) (As := [.int (7 : Int32)]) cx hw.1 (hw.2.1.weaken (fun _ _ _ _ => trivial)) hw.2.2 (k_recv cx hw 0 (ci := 4) (q := (RX6, TX6, 7)) rfl rfl) (m_X6_bits l dC dI d h g b u4 (7 : Int32) hwp H.size) (cwV 1 cx.2.2.2.2.1 (lw_V q717 q719 qs20 q82 q720) rfl rfl rfl hdV_X6_bits ⟨Nat.le_of_ble_eq_true rfl, Nat.le_of_ble_eq_true rfl⟩) rfl hl.1 rfl (Nat.le_of_ble_eq_true rfl) dX6_change_19 ⟨Nat.le_of_ble_eq_true rfl, Nat.le_of_ble_eq_true rfl⟩) (fun r20 u19 H locs hwp hw => ?_)
      refine lv_ldc2 (pc := 22) (v := 64) cx.1 cx.2.1 cx.2.2.2.1 (cx.2.2.2.2.1 _ q729) dX6_change_22 ?_
      refine lv_lsub (pc := 25) cx.1 cx.2.1 dX6_change_25 ?_
      exact k_lret (pc := 26) (wf := (wf_X6 d h g b)) (u := u19) cx hw hwp (by decide) (by decide) dX6_change_26
  · replace hwp := hwp.2 c3
    refine lv_lconst (pc := 7) (v := 0) cx.1 cx.2.1 dX6_change_7 (by decide) ?_
    exact k_lret (pc := 8) (wf := (wf_X6 d h g b)) (u := u1) cx hw hwp (by decide) (by decide) dX6_change_8
set_option maxHeartbeats 4000000 in
theorem wk_X6_difference_28 {p : Program} {l : Launch} {e : Env} {s : State} {m : MethodId} {args : Array Value} {below : List Frame} {meth : Method} {c : Code} {A : Nat → Prop} {dC : Nat → ClassId} {dI : Nat → Nat → Nat} {d : Nat → ClassId} {h : Nat → Nat} {g : Nat}{b : Nat → Int32} {K : Int32 → St → Prop} (cx : Cx p s m args meth c cX6_difference RX6 3 (some .int) A dC dI d) : ∀ (x1 : Int32) (u : St) (H : Heap) (locs : List Loc) (ls : Array Slot), wp_X6_difference_28 b K x1 u → Wd dC dI A ((wf_X6 d h g b) u) s H locs → lv_has ls 3 [(1, .int x1)] → W p l e ({ frames := 2, cells := 0, slots := 0, locals := 44 } : Room) s m args below meth c H locs 0 0 (MQ below (kQi dC dI (wf_X6 d h g b) K A) args s 0 0 A) (F0 m 28 ls []) := by
  intro x1 u H locs ls hwp hw hl
  unfold wp_X6_difference_28 at hwp
  refine lv_iload_n (pc := 28) cx.1 cx.2.1 dX6_difference_28 rfl (lv_at hl 0 rfl) ?_
  refine lv_iconst (pc := 29) (v := 1) cx.1 cx.2.1 dX6_difference_29 (by decide) ?_
  refine lv_iushr (pc := 30) cx.1 cx.2.1 dX6_difference_30 rfl ?_
  refine lv_iload_n (pc := 31) cx.1 cx.2.1 dX6_difference_31 rfl (lv_at hl 0 rfl) ?_
  refine lv_iconst (pc := 32) (v := 1) cx.1 cx.2.1 dX6_difference_32 (by decide) ?_
  refine lv_iand (pc := 33) cx.1 cx.2.1 dX6_difference_33 ?_
  refine lv_ineg (pc := 34) cx.1 cx.2.1 dX6_difference_34 ?_
  refine lv_ixor (pc := 35) cx.1 cx.2.1 dX6_difference_35 ?_
  exact k_iret (pc := 36) (wf := (wf_X6 d h g b)) (u := u) cx hw hwp (by decide) (by decide) dX6_difference_36
set_option maxHeartbeats 4000000 in
theorem wk_X6_difference_4 {p : Program} {l : Launch} {e : Env} {s : State} {m : MethodId} {args : Array Value} {below : List Frame} {meth : Method} {c : Code} {A : Nat → Prop} {dC : Nat → ClassId} {dI : Nat → Nat → Nat} {d : Nat → ClassId} {h : Nat → Nat} {g : Nat}{b : Nat → Int32} {K : Int32 → St → Prop} (cx : Cx p s m args meth c cX6_difference RX6 3 (some .int) A dC dI d) : ∀ (n : Nat) (x1 : Int32) (x2 : Int32) (u : St) (H : Heap) (locs : List Loc) (ls : Array Slot), wp_X6_difference_4 b K n x1 x2 u → Wd dC dI A ((wf_X6 d h g b) u) s H locs → lv_has ls 3 [(0, .ref (h 0)), (1, .int x1), (2, .int x2)] → W p l e ({ frames := 2, cells := 0, slots := 0, locals := 44 } : Room) s m args below meth c H locs 0 0 (MQ below (kQi dC dI (wf_X6 d h g b) K A) args s 0 0 A) (F0 m 4 ls []) := by
  intro n
  induction n with
  | zero =>
    intros; contradiction
  | succ n ih =>
    intro x1 x2 u H locs ls hwp hw hl
    unfold wp_X6_difference_4 at hwp
    refine lv_aload_n (pc := 4) cx.1 cx.2.1 dX6_difference_4 rfl (lv_at hl 0 rfl) ?_
    refine k_whole_i (pc := 5) (wf := (wf_X6 d h g b)) (u := u) cx hw (k_runV (pc := 5) (rest := []) (As := []) cx hw.1 (hw.2.1.weaken (fun _ _ _ _ => trivial)) hw.2.2 (k_recv cx hw 0 (ci := 4) (q := (RX6, TX6, 7)) rfl rfl) (m_X6_bit l dC dI d h g b u  hwp H.size) (cwV 0 cx.2.2.2.2.1 (lw_V q725 q727 qs22 q82 q728) rfl rfl rfl hdV_X6_bit ⟨Nat.le_of_ble_eq_true rfl, Nat.le_of_ble_eq_true rfl⟩) rfl hl.1 rfl (Nat.le_of_ble_eq_true rfl) dX6_difference_5 ⟨Nat.le_of_ble_eq_true rfl, Nat.le_of_ble_eq_true rfl⟩) (fun r2 u1 H locs hwp hw => ?_)
    refine lv_if_eq (pc := 8) (tgt := 28) cx.1 cx.2.1 dX6_difference_8 (by decide) (fun c3 => ?_) (fun c3 => ?_)
    · replace hwp := hwp.1 c3
      exact wk_X6_difference_28 cx _ _ _ _ _ hwp hw (lv_sub hl [1] rfl)
    · replace hwp := hwp.2 c3
      refine lv_iload_n (pc := 11) cx.1 cx.2.1 dX6_difference_11 rfl (lv_at hl 1 rfl) ?_
      refine lv_aload_n (pc := 12) cx.1 cx.2.1 dX6_difference_12 rfl (lv_at hl 0 rfl) ?_
      refine lv_iconst (pc := 13) (v := 4) cx.1 cx.2.1 dX6_difference_13 (by decide) ?_
      refine k_whole_l (pc := 14) (wf := (wf_X6 d h g b)) (u := u1) cx hw (k_runV (pc := 14) (rest := [.int x1]) (As := [.int (4 : Int32)]) cx hw.1 (hw.2.1.weaken (fun _ _ _ _ => trivial)) hw.2.2 (k_recv cx hw 0 (ci := 4) (q := (RX6, TX6, 7)) rfl rfl) (m_X6_bits l dC dI d h g b u1 (4 : Int32) hwp H.size) (cwV 1 cx.2.2.2.2.1 (lw_V q717 q719 qs20 q82 q720) rfl rfl rfl hdV_X6_bits ⟨Nat.le_of_ble_eq_true rfl, Nat.le_of_ble_eq_true rfl⟩) rfl hl.1 rfl (Nat.le_of_ble_eq_true rfl) dX6_difference_14 ⟨Nat.le_of_ble_eq_true rfl, Nat.le_of_ble_eq_true rfl⟩) (fun r5 u4 H locs hwp hw => ?_)
      refine lv_l2i (pc := 17) cx.1 cx.2.1 dX6_difference_17 rfl ?_
      refine lv_iload_n (pc := 18) cx.1 cx.2.1 dX6_difference_18 rfl (lv_at hl 2 rfl) ?_
      refine lv_ishl (pc := 19) cx.1 cx.2.1 dX6_difference_19 ?_
      refine lv_ior (pc := 20) cx.1 cx.2.1 dX6_difference_20 ?_
      refine lv_istore_n (pc := 21) (lv' := [(1, .int (x1 ||| (r5.toInt32 <<< (x2 &&& 31)))), (0, .ref (h 0)), (2, .int x2)]) cx.1 cx.2.1 dX6_difference_21 rfl hl (by decide) rfl (fun ls hl => ?_)
      refine lv_iinc (pc := 22) (v := (x2 + (4 : Int32))) (lv' := [(2, .int (x2 + (4 : Int32))), (1, .int (x1 ||| (r5.toInt32 <<< (x2 &&& 31)))), (0, .ref (h 0))]) cx.1 cx.2.1 dX6_difference_22 hl (k := 2) rfl rfl (by decide) rfl (fun ls hl => ?_)
      refine lv_goto (pc := 25) (tgt := 4) cx.1 cx.2.1 dX6_difference_25 (by decide) ?_
      exact ih _ _ _ _ _ _ hwp hw (lv_sub hl [2, 1, 0] rfl)
set_option maxHeartbeats 4000000 in
theorem m_X6_difference (l : Launch) (dC : Nat → ClassId) (dI : Nat → Nat → Nat) (d : Nat → ClassId) (h : Nat → Nat) (g : Nat) (b : Nat → Int32) (u : St) {K : Int32 → St → Prop} (hwp : wp_X6_difference b u K) : kM l yX6_difference cX6_difference 3 (some .int) ({ frames := 2, cells := 0, slots := 0, locals := 44 } : Room) dC dI d [.ref (h 0)] (wf_X6 d h g b) u (kQi dC dI (wf_X6 d h g b) K) 0 0 := by
  refine kM_start rfl (Nat.le_of_ble_eq_true rfl) ?_
  intro p e s m below meth c A ls cx hnm hw hl
  generalize hargs : ([.ref (h 0)] : List Value).toArray = args at cx ⊢
  unfold wp_X6_difference at hwp
  replace hl : lv_has ls 3 [(0, .ref (h 0))] := hl
  generalize hH : s.heap = H at hw ⊢
  generalize hlo : ([] : List Loc) = locs at hw ⊢
  refine lv_iconst (pc := 0) (v := 0) cx.1 cx.2.1 dX6_difference_0 (by decide) ?_
  refine lv_istore_n (pc := 1) (lv' := [(1, .int (0 : Int32)), (0, .ref (h 0))]) cx.1 cx.2.1 dX6_difference_1 rfl hl (by decide) rfl (fun ls hl => ?_)
  refine lv_iconst (pc := 2) (v := 0) cx.1 cx.2.1 dX6_difference_2 (by decide) ?_
  refine lv_istore_n (pc := 3) (lv' := [(2, .int (0 : Int32)), (1, .int (0 : Int32)), (0, .ref (h 0))]) cx.1 cx.2.1 dX6_difference_3 rfl hl (by decide) rfl (fun ls hl => ?_)
  obtain ⟨n4, hwp⟩ := hwp
  exact wk_X6_difference_4 cx n4 _ _ _ _ _ _ hwp hw (lv_sub hl [2, 1, 0] rfl)
set_option maxHeartbeats 4000000 in
theorem m_X6_step (l : Launch) (dC : Nat → ClassId) (dI : Nat → Nat → Nat) (d : Nat → ClassId) (h : Nat → Nat) (g : Nat) (b : Nat → Int32) (u : St) {K : Int32 → St → Prop} (hwp : wp_X6_step b u K) : kM l yX6_step cX6_step 1 (some .boolean) ({ frames := 3, cells := 0, slots := 0, locals := 66 } : Room) dC dI d [.ref (h 0)] (wf_X6 d h g b) u (kQi dC dI (wf_X6 d h g b) K) 0 0 := by
  refine kM_start rfl (Nat.le_of_ble_eq_true rfl) ?_
  intro p e s m below meth c A ls cx hnm hw hl
  generalize hargs : ([.ref (h 0)] : List Value).toArray = args at cx ⊢
  unfold wp_X6_step at hwp
  replace hl : lv_has ls 1 [(0, .ref (h 0))] := hl
  generalize hH : s.heap = H at hw ⊢
  generalize hlo : ([] : List Loc) = locs at hw ⊢
  refine lv_aload_n (pc := 0) cx.1 cx.2.1 dX6_step_0 rfl (lv_at hl 0 rfl) ?_
  refine k_getI (pc := 1) (u := u) (v := (u.1 3)) cx hw (ln_X6_this_3 d h g b) (C := RX6) (T := TX6) (N := 7) rfl in_X6 (by decide) q250 (fun _ h9 => h9) rfl dX6_step_1 ?_
  refine lv_if_ne (pc := 4) (tgt := 9) cx.1 cx.2.1 dX6_step_4 (by decide) (fun c1 => ?_) (fun c1 => ?_)
  · replace hwp := hwp.1 c1
    refine lv_aload_n (pc := 9) cx.1 cx.2.1 dX6_step_9 rfl (lv_at hl 0 rfl) ?_
    refine lv_dup (pc := 10) cx.1 cx.2.1 dX6_step_10 rfl ?_
    refine k_getI (pc := 11) (u := u) (v := (u.1 3)) cx hw (ln_X6_this_3 d h g b) (C := RX6) (T := TX6) (N := 7) rfl in_X6 (by decide) q250 (fun _ h9 => h9) rfl dX6_step_11 ?_
    refine lv_iconst (pc := 14) (v := 1) cx.1 cx.2.1 dX6_step_14 (by decide) ?_
    refine lv_isub (pc := 15) cx.1 cx.2.1 dX6_step_15 ?_
    refine k_putI (pc := 16) (u := u) (v := ((u.1 3) - (1 : Int32))) cx hw (ln_X6_this_3 d h g b) (C := RX6) (T := TX6) (N := 7) rfl in_X6 tyX6 tyX6_ok nmX6 (by decide) q250 (fun _ h9 => h9) rfl rfl rfl dX6_step_16 (fun H locs hw => ?_)
    refine lv_aload_n (pc := 19) cx.1 cx.2.1 dX6_step_19 rfl (lv_at hl 0 rfl) ?_
    refine k_getI (pc := 20) (u := (st_I u 3 ((u.1 3) - (1 : Int32)))) (v := (u.1 5)) cx hw (ln_X6_this_5 d h g b) (C := RX6) (T := TX6) (N := 7) rfl in_X6 (by decide) q252 (fun _ h9 => h9) rfl dX6_step_20 ?_
    refine lv_if_eq (pc := 23) (tgt := 55) cx.1 cx.2.1 dX6_step_23 (by decide) (fun c2 => ?_) (fun c2 => ?_)
    · replace hwp := hwp.1 c2
      refine lv_aload_n (pc := 55) cx.1 cx.2.1 dX6_step_55 rfl (lv_at hl 0 rfl) ?_
      refine lv_dup (pc := 56) cx.1 cx.2.1 dX6_step_56 rfl ?_
      refine k_getJ (pc := 57) (u := (st_I u 3 ((u.1 3) - (1 : Int32)))) (v := (u.2.2.1 6)) cx hw (ln_X6_this_6 d h g b) (C := RX6) (T := TX6) (N := 7) rfl in_X6 (by decide) q253 (fun _ h9 => h9) rfl dX6_step_57 ?_
      refine lv_aload_n (pc := 60) cx.1 cx.2.1 dX6_step_60 rfl (lv_at hl 0 rfl) ?_
      refine k_whole_l (pc := 61) (wf := (wf_X6 d h g b)) (u := (st_I u 3 ((u.1 3) - (1 : Int32)))) cx hw (k_runV (pc := 61) (rest := [.long (u.2.2.1 6), .ref (h 0)]) (As := []) cx hw.1 (hw.2.1.weaken (fun _ _ _ _ => trivial)) hw.2.2 (k_recv cx hw 0 (ci := 4) (q := (RX6, TX6, 7)) rfl rfl) (m_X6_change l dC dI d h g b (st_I u 3 ((u.1 3) - (1 : Int32)))  hwp H.size) (cwV 0 cx.2.2.2.2.1 (lw_V q721 q723 qs21 q82 q724) rfl rfl rfl hdV_X6_change ⟨Nat.le_of_ble_eq_true rfl, Nat.le_of_ble_eq_true rfl⟩) rfl hl.1 rfl (Nat.le_of_ble_eq_true rfl) dX6_step_61 ⟨Nat.le_of_ble_eq_true rfl, Nat.le_of_ble_eq_true rfl⟩) (fun r4 u3 H locs hwp hw => ?_)
      refine lv_ladd (pc := 64) cx.1 cx.2.1 dX6_step_64 ?_
      refine k_putJ (pc := 65) (u := u3) (v := ((u.2.2.1 6) + r4)) cx hw (ln_X6_this_6 d h g b) (C := RX6) (T := TX6) (N := 7) rfl in_X6 tyX6 tyX6_ok nmX6 (by decide) q253 (fun _ h9 => h9) rfl rfl rfl dX6_step_65 (fun H locs hw => ?_)
      refine lv_aload_n (pc := 68) cx.1 cx.2.1 dX6_step_68 rfl (lv_at hl 0 rfl) ?_
      refine lv_aload_n (pc := 69) cx.1 cx.2.1 dX6_step_69 rfl (lv_at hl 0 rfl) ?_
      refine k_getI (pc := 70) (u := (st_L u3 6 ((u.2.2.1 6) + r4))) (v := (u3.1 0)) cx hw (ln_X6_this_0 d h g b) (C := RX6) (T := TX6) (N := 7) rfl in_X6 (by decide) q258 (u_same (cx.2.2.2.2.1 _ q255)) rfl dX6_step_70 ?_
      refine lv_i2l (pc := 73) cx.1 cx.2.1 dX6_step_73 rfl ?_
      refine lv_aload_n (pc := 74) cx.1 cx.2.1 dX6_step_74 rfl (lv_at hl 0 rfl) ?_
      refine k_getJ (pc := 75) (u := (st_L u3 6 ((u.2.2.1 6) + r4))) (v := ((u.2.2.1 6) + r4)) cx hw (ln_X6_this_6 d h g b) (C := RX6) (T := TX6) (N := 7) rfl in_X6 (by decide) q253 (fun _ h9 => h9) rfl dX6_step_75 ?_
      refine lv_ladd (pc := 78) cx.1 cx.2.1 dX6_step_78 ?_
      refine lv_l2i (pc := 79) cx.1 cx.2.1 dX6_step_79 rfl ?_
      refine lv_topi (fun y5 ey5 => ?_)
      replace hwp := hwp y5 ey5
      refine k_putI (pc := 80) (u := (st_L u3 6 ((u.2.2.1 6) + r4))) (v := y5) cx hw (ln_X6_this_0 d h g b) (C := RX6) (T := TX6) (N := 7) rfl in_X6 tyX6 tyX6_ok nmX6 (by decide) q258 (u_same (cx.2.2.2.2.1 _ q255)) rfl rfl rfl dX6_step_80 (fun H locs hw => ?_)
      refine lv_aload_n (pc := 83) cx.1 cx.2.1 dX6_step_83 rfl (lv_at hl 0 rfl) ?_
      refine lv_dup (pc := 84) cx.1 cx.2.1 dX6_step_84 rfl ?_
      refine k_getI (pc := 85) (u := (st_I (st_L u3 6 ((u.2.2.1 6) + r4)) 0 y5)) (v := (u3.1 1)) cx hw (ln_X6_this_1 d h g b) (C := RX6) (T := TX6) (N := 7) rfl in_X6 (by decide) q265 (u_same (cx.2.2.2.2.1 _ q262)) rfl dX6_step_85 ?_
      refine lv_aload_n (pc := 88) cx.1 cx.2.1 dX6_step_88 rfl (lv_at hl 0 rfl) ?_
      refine k_whole_i (pc := 89) (wf := (wf_X6 d h g b)) (u := (st_I (st_L u3 6 ((u.2.2.1 6) + r4)) 0 y5)) cx hw (k_runV (pc := 89) (rest := [.int (u3.1 1), .ref (h 0)]) (As := []) cx hw.1 (hw.2.1.weaken (fun _ _ _ _ => trivial)) hw.2.2 (k_recv cx hw 0 (ci := 4) (q := (RX6, TX6, 7)) rfl rfl) (m_X6_difference l dC dI d h g b (st_I (st_L u3 6 ((u.2.2.1 6) + r4)) 0 y5)  hwp H.size) (cwV 0 cx.2.2.2.2.1 (lw_V q733 q735 qs23 q82 q736) rfl rfl rfl hdV_X6_difference ⟨Nat.le_of_ble_eq_true rfl, Nat.le_of_ble_eq_true rfl⟩) rfl hl.1 rfl (Nat.le_of_ble_eq_true rfl) dX6_step_89 ⟨Nat.le_of_ble_eq_true rfl, Nat.le_of_ble_eq_true rfl⟩) (fun r7 u6 H locs hwp hw => ?_)
      refine lv_iadd (pc := 92) cx.1 cx.2.1 dX6_step_92 ?_
      refine k_putI (pc := 93) (u := u6) (v := ((u3.1 1) + r7)) cx hw (ln_X6_this_1 d h g b) (C := RX6) (T := TX6) (N := 7) rfl in_X6 tyX6 tyX6_ok nmX6 (by decide) q265 (u_same (cx.2.2.2.2.1 _ q262)) rfl rfl rfl dX6_step_93 (fun H locs hw => ?_)
      refine lv_iconst (pc := 96) (v := 1) cx.1 cx.2.1 dX6_step_96 (by decide) ?_
      exact k_zret (pc := 97) (wf := (wf_X6 d h g b)) (u := (st_I u6 1 ((u3.1 1) + r7))) cx hw rfl hwp (by decide) (by decide) dX6_step_97
    · replace hwp := hwp.2 c2
      refine lv_aload_n (pc := 26) cx.1 cx.2.1 dX6_step_26 rfl (lv_at hl 0 rfl) ?_
      refine lv_aload_n (pc := 27) cx.1 cx.2.1 dX6_step_27 rfl (lv_at hl 0 rfl) ?_
      refine lv_bipush (pc := 28) (v := 32) cx.1 cx.2.1 dX6_step_28 (by decide) ?_
      refine k_whole_l (pc := 30) (wf := (wf_X6 d h g b)) (u := (st_I u 3 ((u.1 3) - (1 : Int32)))) cx hw (k_runV (pc := 30) (rest := [.ref (h 0)]) (As := [.int (32 : Int32)]) cx hw.1 (hw.2.1.weaken (fun _ _ _ _ => trivial)) hw.2.2 (k_recv cx hw 0 (ci := 4) (q := (RX6, TX6, 7)) rfl rfl) (m_X6_bits l dC dI d h g b (st_I u 3 ((u.1 3) - (1 : Int32))) (32 : Int32) hwp H.size) (cwV 1 cx.2.2.2.2.1 (lw_V q717 q719 qs20 q82 q720) rfl rfl rfl hdV_X6_bits ⟨Nat.le_of_ble_eq_true rfl, Nat.le_of_ble_eq_true rfl⟩) rfl hl.1 rfl (Nat.le_of_ble_eq_true rfl) dX6_step_30 ⟨Nat.le_of_ble_eq_true rfl, Nat.le_of_ble_eq_true rfl⟩) (fun r9 u8 H locs hwp hw => ?_)
      refine lv_l2i (pc := 33) cx.1 cx.2.1 dX6_step_33 rfl ?_
      refine k_putI (pc := 34) (u := u8) (v := r9.toInt32) cx hw (ln_X6_this_0 d h g b) (C := RX6) (T := TX6) (N := 7) rfl in_X6 tyX6 tyX6_ok nmX6 (by decide) q258 (u_same (cx.2.2.2.2.1 _ q255)) rfl rfl rfl dX6_step_34 (fun H locs hw => ?_)
      refine lv_aload_n (pc := 37) cx.1 cx.2.1 dX6_step_37 rfl (lv_at hl 0 rfl) ?_
      refine lv_aload_n (pc := 38) cx.1 cx.2.1 dX6_step_38 rfl (lv_at hl 0 rfl) ?_
      refine lv_bipush (pc := 39) (v := 32) cx.1 cx.2.1 dX6_step_39 (by decide) ?_
      refine k_whole_l (pc := 41) (wf := (wf_X6 d h g b)) (u := (st_I u8 0 r9.toInt32)) cx hw (k_runV (pc := 41) (rest := [.ref (h 0)]) (As := [.int (32 : Int32)]) cx hw.1 (hw.2.1.weaken (fun _ _ _ _ => trivial)) hw.2.2 (k_recv cx hw 0 (ci := 4) (q := (RX6, TX6, 7)) rfl rfl) (m_X6_bits l dC dI d h g b (st_I u8 0 r9.toInt32) (32 : Int32) hwp H.size) (cwV 1 cx.2.2.2.2.1 (lw_V q717 q719 qs20 q82 q720) rfl rfl rfl hdV_X6_bits ⟨Nat.le_of_ble_eq_true rfl, Nat.le_of_ble_eq_true rfl⟩) rfl hl.1 rfl (Nat.le_of_ble_eq_true rfl) dX6_step_41 ⟨Nat.le_of_ble_eq_true rfl, Nat.le_of_ble_eq_true rfl⟩) (fun r11 u10 H locs hwp hw => ?_)
      refine lv_l2i (pc := 44) cx.1 cx.2.1 dX6_step_44 rfl ?_
      refine k_putI (pc := 45) (u := u10) (v := r11.toInt32) cx hw (ln_X6_this_1 d h g b) (C := RX6) (T := TX6) (N := 7) rfl in_X6 tyX6 tyX6_ok nmX6 (by decide) q265 (u_same (cx.2.2.2.2.1 _ q262)) rfl rfl rfl dX6_step_45 (fun H locs hw => ?_)
      refine lv_aload_n (pc := 48) cx.1 cx.2.1 dX6_step_48 rfl (lv_at hl 0 rfl) ?_
      refine lv_iconst (pc := 49) (v := 0) cx.1 cx.2.1 dX6_step_49 (by decide) ?_
      refine k_putI (pc := 50) (u := (st_I u10 1 r11.toInt32)) (v := (0 : Int32)) cx hw (ln_X6_this_5 d h g b) (C := RX6) (T := TX6) (N := 7) rfl in_X6 tyX6 tyX6_ok nmX6 (by decide) q252 (fun _ h9 => h9) rfl rfl rfl dX6_step_50 (fun H locs hw => ?_)
      refine lv_iconst (pc := 53) (v := 1) cx.1 cx.2.1 dX6_step_53 (by decide) ?_
      exact k_zret (pc := 54) (wf := (wf_X6 d h g b)) (u := (st_I (st_I u10 1 r11.toInt32) 5 (0 : Int32))) cx hw rfl hwp (by decide) (by decide) dX6_step_54
  · replace hwp := hwp.2 c1
    refine lv_iconst (pc := 7) (v := 0) cx.1 cx.2.1 dX6_step_7 (by decide) ?_
    exact k_zret (pc := 8) (wf := (wf_X6 d h g b)) (u := u) cx hw rfl hwp (by decide) (by decide) dX6_step_8
