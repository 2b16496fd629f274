set_option maxRecDepth 100000
set_option maxHeartbeats 4000000 in
theorem wk_X1_expire_95 {p : Program} {l : Launch} {e : Env} {s : State} {m : MethodId} {args : Array Value} {below : List Frame} {meth : Method} {c : Code} {A : Nat → Prop} {dC : Nat → ClassId} {dI : Nat → Nat → Nat} {d : Nat → ClassId} {z : Nat → Nat → Nat} {hh : Nat → Nat → Nat} {cf : List Value}{nh : Nat} {K : Int32 → (PS × Bool) → Prop} (cx : Cx p s m args meth c cX1_expire RX1 4 (some .int) A dC dI d) : ∀ (x2 : Int32) (u : PS × Bool) (H : Heap) (locs : List Loc) (ls : Array Slot), wp_X1_expire_95 nh K x2 u → Wd dC dI A ((wPb d nh hh cf z) u) s H locs → lv_has ls 4 [(0, .ref (z 0 0)), (2, .int x2)] → W p l e ({ frames := 5, cells := 0, slots := 0, locals := 116 } : Room) s m args below meth c H locs 0 0 (MQ below (kQi dC dI (wPb d nh hh cf z) K A) args s 0 0 A) (F0 m 95 ls []) := by
  intro x2 u H locs ls hwp hw hl
  unfold wp_X1_expire_95 at hwp
  refine lv_iload_n (pc := 95) cx.1 cx.2.1 dX1_expire_95 rfl (lv_at hl 1 rfl) ?_
  refine lv_if_ne (pc := 96) (tgt := 103) cx.1 cx.2.1 dX1_expire_96 (by decide) (fun c1 => ?_) (fun c1 => ?_)
  · replace hwp := hwp.1 c1
    refine lv_aload_n (pc := 103) cx.1 cx.2.1 dX1_expire_103 rfl (lv_at hl 0 rfl) ?_
    refine lv_aload_n (pc := 104) cx.1 cx.2.1 dX1_expire_104 rfl (lv_at hl 0 rfl) ?_
    refine k_getI (pc := 105) (u := u) (v := ((u.1.1 0).1 12)) cx hw (ln_PLs_pl_12 d z hh cf nh) (C := RX1) (T := TX1) (N := 21) rfl in_X1 (by decide) q491 (fun _ h9 => h9) rfl dX1_expire_105 ?_
    refine lv_iload_n (pc := 108) cx.1 cx.2.1 dX1_expire_108 rfl (lv_at hl 1 rfl) ?_
    refine k_whole_i (pc := 109) (wf := (wPb d nh hh cf z)) (u := u) cx hw (k_runVW (pc := 109) (rest := []) (As := [.int ((u.1.1 0).1 12), .int x2]) cx hw.1 (hw.2.1.weaken (fun _ _ _ _ => trivial)) hw.2.2 (k_recv cx hw 0 (ci := 0) (q := (RX1, TX1, 21)) rfl rfl) (m_X1_done l dC dI d z hh cf nh u ((u.1.1 0).1 12) x2 hwp H.size) (k_cwVW 2 cx.2.2.2.2.1 (lw_VW q673 q675 qs12 q75 q676) rfl rfl rfl hdV_X1_done ⟨Nat.le_of_ble_eq_true rfl, Nat.le_of_ble_eq_true rfl⟩) rfl hl.1 rfl (Nat.le_of_ble_eq_true rfl) dX1_expire_109 ⟨Nat.le_of_ble_eq_true rfl, Nat.le_of_ble_eq_true rfl⟩) (fun r3 u2 H locs hwp hw => ?_)
    exact k_iret (pc := 112) (wf := (wPb d nh hh cf z)) (u := u2) cx hw hwp (by decide) (by decide) dX1_expire_112
  · replace hwp := hwp.2 c1
    refine lv_iconst (pc := 99) (v := 0) cx.1 cx.2.1 dX1_expire_99 (by decide) ?_
    refine lv_goto (pc := 100) (tgt := 112) cx.1 cx.2.1 dX1_expire_100 (by decide) ?_
    exact k_iret (pc := 112) (wf := (wPb d nh hh cf z)) (u := u) cx hw hwp (by decide) (by decide) dX1_expire_112
set_option maxHeartbeats 4000000 in
theorem wk_X1_expire_26 {p : Program} {l : Launch} {e : Env} {s : State} {m : MethodId} {args : Array Value} {below : List Frame} {meth : Method} {c : Code} {A : Nat → Prop} {dC : Nat → ClassId} {dI : Nat → Nat → Nat} {d : Nat → ClassId} {z : Nat → Nat → Nat} {hh : Nat → Nat → Nat} {cf : List Value}{nh : Nat} {K : Int32 → (PS × Bool) → Prop} (cx : Cx p s m args meth c cX1_expire RX1 4 (some .int) A dC dI d) : ∀ (n : Nat) (x1 : Int32) (x2 : Int32) (x3 : Int32) (u : PS × Bool) (H : Heap) (locs : List Loc) (ls : Array Slot), wp_X1_expire_26 nh K n x1 x2 x3 u → Wd dC dI A ((wPb d nh hh cf z) u) s H locs → lv_has ls 4 [(0, .ref (z 0 0)), (1, .int x1), (2, .int x2), (3, .int x3)] → W p l e ({ frames := 5, cells := 0, slots := 0, locals := 116 } : Room) s m args below meth c H locs 0 0 (MQ below (kQi dC dI (wPb d nh hh cf z) K A) args s 0 0 A) (F0 m 26 ls []) := by
  intro n
  induction n with
  | zero =>
    intros; contradiction
  | succ n ih =>
    intro x1 x2 x3 u H locs ls hwp hw hl
    unfold wp_X1_expire_26 at hwp
    refine lv_iload_n (pc := 26) cx.1 cx.2.1 dX1_expire_26 rfl (lv_at hl 3 rfl) ?_
    refine lv_aload_n (pc := 27) cx.1 cx.2.1 dX1_expire_27 rfl (lv_at hl 0 rfl) ?_
    refine k_getR (pc := 28) (u := u) (v := .ref (sw_A u.2 z 4 0)) cx hw (lr_PLs_pl_7 d z hh cf nh) (C := RX1) (T := TX1) (N := 21) rfl in_X1 (by decide) q485 (fun _ h9 => h9) rfl dX1_expire_28 ?_
    refine k_getIN (pc := 31) (u := u) (v := ((u.1.1 4).1 5)) cx hw (ln_PLs_now_5 d z hh cf nh) (C := RX7) (T := TX7) (N := 7) rfl in_X7 (by decide) (nq340 cx.2.2.2.2.2.1) (fun _ h9 => h9) rfl dX1_expire_31 ?_
    refine lv_icmp_ge (pc := 34) (tgt := 95) cx.1 cx.2.1 dX1_expire_34 (by decide) (fun c1 => ?_) (fun c1 => ?_)
    · replace hwp := hwp.1 c1
      exact wk_X1_expire_95 cx _ _ _ _ _ hwp hw (lv_sub hl [0, 2] rfl)
    · replace hwp := hwp.2 c1
      refine lv_aload_n (pc := 37) cx.1 cx.2.1 dX1_expire_37 rfl (lv_at hl 0 rfl) ?_
      refine k_getR (pc := 38) (u := u) (v := .ref (sw_A u.2 z 4 0)) cx hw (lr_PLs_pl_7 d z hh cf nh) (C := RX1) (T := TX1) (N := 21) rfl in_X1 (by decide) q485 (fun _ h9 => h9) rfl dX1_expire_38 ?_
      refine k_getRN (pc := 41) (u := u) (v := .ref (sw_A u.2 z 5 0)) cx hw (lr_PLs_now_0 d z hh cf nh) (C := RX7) (T := TX7) (N := 7) rfl in_X7 (by decide) (nq329 cx.2.2.2.2.2.1) (fun _ h9 => h9) rfl dX1_expire_41 ?_
      refine k_getRN (pc := 44) (u := u) (v := .ref (sw_A u.2 z 5 2)) cx hw (lr_PLs_nowsp_1 d z hh cf nh) (C := RX8) (T := TX8) (N := 6) rfl in_X8 (by decide) (nq298 cx.2.2.2.2.2.1) (fun _ h9 => h9) rfl dX1_expire_44 ?_
      refine lv_iload_n (pc := 47) cx.1 cx.2.1 dX1_expire_47 rfl (lv_at hl 3 rfl) ?_
      refine k_iald (pc := 48) (u := u) (f := ((u.1.1 5).2.1 1)) cx hw (lx_PLs_nowsp_1 d z hh cf nh) 0 rfl rfl hwp.1 dX1_expire_48 ?_
      replace hwp := hwp.2
      refine lv_iload_n (pc := 49) cx.1 cx.2.1 dX1_expire_49 rfl (lv_at hl 1 rfl) ?_
      refine lv_icmp_ge (pc := 50) (tgt := 71) cx.1 cx.2.1 dX1_expire_50 (by decide) (fun c2 => ?_) (fun c2 => ?_)
      · replace hwp := hwp.1 c2
        refine lv_aload_n (pc := 71) cx.1 cx.2.1 dX1_expire_71 rfl (lv_at hl 0 rfl) ?_
        refine k_getR (pc := 72) (u := u) (v := .ref (sw_A u.2 z 6 0)) cx hw (lr_PLs_pl_8 d z hh cf nh) (C := RX1) (T := TX1) (N := 21) rfl in_X1 (by decide) q487 (fun _ h9 => h9) rfl dX1_expire_72 ?_
        refine lv_aload_n (pc := 75) cx.1 cx.2.1 dX1_expire_75 rfl (lv_at hl 0 rfl) ?_
        refine k_getR (pc := 76) (u := u) (v := .ref (sw_A u.2 z 4 0)) cx hw (lr_PLs_pl_7 d z hh cf nh) (C := RX1) (T := TX1) (N := 21) rfl in_X1 (by decide) q485 (fun _ h9 => h9) rfl dX1_expire_76 ?_
        refine lv_iload_n (pc := 79) cx.1 cx.2.1 dX1_expire_79 rfl (lv_at hl 3 rfl) ?_
        have hpt := k_part (w := (wf_X7c d (sw_A u.2 z 6) (sw_A u.2 z 7) (sw_A u.2 z 4) (sw_A u.2 z 5) (u.1.1 4) (u.1.1 5)) ((u.1.1 6), (u.1.1 7))) (is := [23, 24, 25, 26, 27, 28, 29, 30, 31, 32, 33, 34, 35, 10, 11, 12, 13, 14, 15, 16, 17, 18, 19, 20, 21, 22]) hw (pc_PLs_X7c_next_nextsp_now_nowsp d z hh cf nh u) (by decide)
        refine k_part_i (pc := 80) (wf := (wf_X7c d (sw_A u.2 z 6) (sw_A u.2 z 7) (sw_A u.2 z 4) (sw_A u.2 z 5) (u.1.1 4) (u.1.1 5))) (u := ((u.1.1 6), (u.1.1 7))) cx hw [23, 24, 25, 26, 27, 28, 29, 30, 31, 32, 33, 34, 35, 10, 11, 12, 13, 14, 15, 16, 17, 18, 19, 20, 21, 22] (pc_PLs_X7c_next_nextsp_now_nowsp d z hh cf nh u) (by decide) (fun _ => rfl) (pw_PLs_X7c_next_nextsp_now_nowsp d z hh cf nh u) (k_runV (pc := 80) (rest := []) (As := [.ref (sw_A u.2 z 4 0), .int x3]) cx hpt.1 hpt.2 hw.2.2 (k_recv cx hw 23 (ci := 5) (q := (RX7, TX7, 7)) rfl rfl) (m_X7_copies l dC dI d (sw_A u.2 z 6) (sw_A u.2 z 7) (sw_A u.2 z 4) (sw_A u.2 z 5) (u.1.1 4) (u.1.1 5) ((u.1.1 6), (u.1.1 7)) x3 hwp H.size) (cwV 2 cx.2.2.2.2.1 (lw_V q614 q615 q616 q83 q617) rfl rfl rfl hdV_X7_copies ⟨Nat.le_of_ble_eq_true rfl, Nat.le_of_ble_eq_true rfl⟩) rfl hl.1 rfl (Nat.le_of_ble_eq_true rfl) dX1_expire_80 ⟨Nat.le_of_ble_eq_true rfl, Nat.le_of_ble_eq_true rfl⟩) (fun r4 v3 H locs hwp hw => ?_)
        refine lv_if_ne (pc := 83) (tgt := 89) cx.1 cx.2.1 dX1_expire_83 (by decide) (fun c5 => ?_) (fun c5 => ?_)
        · replace hwp := hwp.1 c5
          refine lv_iinc (pc := 89) (v := (x3 + (1 : Int32))) (lv' := [(3, .int (x3 + (1 : Int32))), (0, .ref (z 0 0)), (1, .int x1), (2, .int x2)]) cx.1 cx.2.1 dX1_expire_89 hl (k := 3) rfl rfl (by decide) rfl (fun ls hl => ?_)
          refine lv_goto (pc := 92) (tgt := 26) cx.1 cx.2.1 dX1_expire_92 (by decide) ?_
          exact ih _ _ _ _ _ _ _ hwp hw (lv_sub hl [1, 2, 3, 0] rfl)
        · replace hwp := hwp.2 c5
          refine lv_bipush (pc := 86) (v := -3) cx.1 cx.2.1 dX1_expire_86 (by decide) ?_
          exact k_iret (pc := 88) (wf := (wPb d nh hh cf z)) (u := (pb_O (pb_O u 6 v3.1) 7 v3.2)) cx hw hwp (by decide) (by decide) dX1_expire_88
      · replace hwp := hwp.2 c2
        refine lv_iload_n (pc := 53) cx.1 cx.2.1 dX1_expire_53 rfl (lv_at hl 2 rfl) ?_
        refine lv_aload_n (pc := 54) cx.1 cx.2.1 dX1_expire_54 rfl (lv_at hl 0 rfl) ?_
        refine k_getR (pc := 55) (u := u) (v := .ref (sw_A u.2 z 4 0)) cx hw (lr_PLs_pl_7 d z hh cf nh) (C := RX1) (T := TX1) (N := 21) rfl in_X1 (by decide) q485 (fun _ h9 => h9) rfl dX1_expire_55 ?_
        refine k_getRN (pc := 58) (u := u) (v := .ref (sw_A u.2 z 5 0)) cx hw (lr_PLs_now_0 d z hh cf nh) (C := RX7) (T := TX7) (N := 7) rfl in_X7 (by decide) (nq329 cx.2.2.2.2.2.1) (fun _ h9 => h9) rfl dX1_expire_58 ?_
        refine k_getRN (pc := 61) (u := u) (v := .ref (sw_A u.2 z 5 5)) cx hw (lr_PLs_nowsp_4 d z hh cf nh) (C := RX8) (T := TX8) (N := 6) rfl in_X8 (by decide) (nq308 cx.2.2.2.2.2.1) (fun _ h9 => h9) rfl dX1_expire_61 ?_
        refine lv_iload_n (pc := 64) cx.1 cx.2.1 dX1_expire_64 rfl (lv_at hl 3 rfl) ?_
        refine k_sald (pc := 65) (u := u) (f := ((u.1.1 5).2.1 4)) cx hw (lx_PLs_nowsp_4 d z hh cf nh) 1 rfl rfl hwp.1 dX1_expire_65 ?_
        replace hwp := hwp.2
        refine lv_iadd (pc := 66) cx.1 cx.2.1 dX1_expire_66 ?_
        refine lv_istore_n (pc := 67) (lv' := [(2, .int (x2 + (((u.1.1 5).2.1 4) x3.toNatClampNeg))), (0, .ref (z 0 0)), (1, .int x1), (3, .int x3)]) cx.1 cx.2.1 dX1_expire_67 rfl hl (by decide) rfl (fun ls hl => ?_)
        refine lv_goto (pc := 68) (tgt := 89) cx.1 cx.2.1 dX1_expire_68 (by decide) ?_
        refine lv_iinc (pc := 89) (v := (x3 + (1 : Int32))) (lv' := [(3, .int (x3 + (1 : Int32))), (2, .int (x2 + (((u.1.1 5).2.1 4) x3.toNatClampNeg))), (0, .ref (z 0 0)), (1, .int x1)]) cx.1 cx.2.1 dX1_expire_89 hl (k := 3) rfl rfl (by decide) rfl (fun ls hl => ?_)
        refine lv_goto (pc := 92) (tgt := 26) cx.1 cx.2.1 dX1_expire_92 (by decide) ?_
        exact ih _ _ _ _ _ _ _ hwp hw (lv_sub hl [2, 3, 1, 0] rfl)
set_option maxHeartbeats 4000000 in
theorem m_X1_expire (l : Launch) (dC : Nat → ClassId) (dI : Nat → Nat → Nat) (d : Nat → ClassId) (z : Nat → Nat → Nat) (hh : Nat → Nat → Nat) (cf : List Value) (nh : Nat) (u : PS × Bool) (x1 : Int32) {K : Int32 → (PS × Bool) → Prop} (hwp : wp_X1_expire nh u x1 K) : kM l yX1_expire cX1_expire 4 (some .int) ({ frames := 5, cells := 0, slots := 0, locals := 116 } : Room) dC dI d [.ref (z 0 0), .int x1] (wPb d nh hh cf z) u (kQi dC dI (wPb d nh hh cf z) K) 0 0 := by
  refine kM_start rfl (Nat.le_of_ble_eq_true rfl) ?_
  intro p e s m below meth c A ls cx hnm hw hl
  generalize hargs : ([.ref (z 0 0), .int x1] : List Value).toArray = args at cx ⊢
  unfold wp_X1_expire at hwp
  replace hl : lv_has ls 4 [(0, .ref (z 0 0)), (1, .int x1)] := hl
  generalize hH : s.heap = H at hw ⊢
  generalize hlo : ([] : List Loc) = locs at hw ⊢
  refine lv_aload_n (pc := 0) cx.1 cx.2.1 dX1_expire_0 rfl (lv_at hl 0 rfl) ?_
  refine lv_null (pc := 1) cx.1 cx.2.1 dX1_expire_1 ?_
  refine k_putCuN_PLs (pc := 2) (u := u) cx hw q496 dX1_expire_2 (fun H locs hw => ?_)
  refine lv_aload_n (pc := 5) cx.1 cx.2.1 dX1_expire_5 rfl (lv_at hl 0 rfl) ?_
  refine k_getR (pc := 6) (u := (pb_I u 0 17 (0 : Int32))) (v := .ref (z 1 0)) cx hw (lr_PLs_pl_3 d z hh cf nh) (C := RX1) (T := TX1) (N := 21) rfl in_X1 (by decide) q479 (fun _ h9 => h9) rfl dX1_expire_6 ?_
  refine k_getIN (pc := 9) (u := (pb_I u 0 17 (0 : Int32))) (v := ((u.1.1 1).1 3)) cx hw (ln_PLs_disk_3 d z hh cf nh) (C := RX2) (T := TX2) (N := 5) rfl in_X2 (by decide) (nq196 cx.2.2.2.2.2.1) (fun _ h9 => h9) rfl dX1_expire_9 ?_
  refine lv_if_eq (pc := 12) (tgt := 18) cx.1 cx.2.1 dX1_expire_12 (by decide) (fun c1 => ?_) (fun c1 => ?_)
  · replace hwp := hwp.1 c1
    refine lv_aload_n (pc := 18) cx.1 cx.2.1 dX1_expire_18 rfl (lv_at hl 0 rfl) ?_
    refine k_whole_v (pc := 19) (wf := (wP d nh hh cf (sw_A u.2 z))) (u := ((pb_I u 0 17 (0 : Int32)).1)) cx hw (k_runV (pc := 19) (rest := []) (As := []) cx hw.1 (hw.2.1.weaken (fun _ _ _ _ => trivial)) hw.2.2 (k_recv cx hw 0 (ci := 0) (q := (RX1, TX1, 21)) rfl rfl) (m_X1_plans l dC dI d (sw_A u.2 z) hh cf nh ((pb_I u 0 17 (0 : Int32)).1)  hwp H.size) (cwV 0 cx.2.2.2.2.1 (lw_V q606 q608 qs6 q75 q609) rfl rfl rfl hdV_X1_plans ⟨Nat.le_of_ble_eq_true rfl, Nat.le_of_ble_eq_true rfl⟩) rfl hl.1 rfl (Nat.le_of_ble_eq_true rfl) dX1_expire_19 ⟨Nat.le_of_ble_eq_true rfl, Nat.le_of_ble_eq_true rfl⟩) (fun v2 H locs hwp hw => ?_)
    replace hw : Wd dC dI A ((wPb d nh hh cf z) (v2, u.2)) s H locs := hw
    refine lv_iconst (pc := 22) (v := 0) cx.1 cx.2.1 dX1_expire_22 (by decide) ?_
    refine lv_istore_n (pc := 23) (lv' := [(2, .int (0 : Int32)), (0, .ref (z 0 0)), (1, .int x1)]) cx.1 cx.2.1 dX1_expire_23 rfl hl (by decide) rfl (fun ls hl => ?_)
    refine lv_iconst (pc := 24) (v := 0) cx.1 cx.2.1 dX1_expire_24 (by decide) ?_
    refine lv_istore_n (pc := 25) (lv' := [(3, .int (0 : Int32)), (2, .int (0 : Int32)), (0, .ref (z 0 0)), (1, .int x1)]) cx.1 cx.2.1 dX1_expire_25 rfl hl (by decide) rfl (fun ls hl => ?_)
    obtain ⟨n26, hwp⟩ := hwp
    exact wk_X1_expire_26 cx n26 _ _ _ _ _ _ _ hwp hw (lv_sub hl [2, 3, 1, 0] rfl)
  · replace hwp := hwp.2 c1
    refine lv_bipush (pc := 15) (v := -9) cx.1 cx.2.1 dX1_expire_15 (by decide) ?_
    exact k_iret (pc := 17) (wf := (wPb d nh hh cf z)) (u := (pb_I u 0 17 (0 : Int32))) cx hw hwp (by decide) (by decide) dX1_expire_17
set_option maxHeartbeats 4000000 in
theorem wk_X1_asksGroup_156 {p : Program} {l : Launch} {e : Env} {s : State} {m : MethodId} {args : Array Value} {below : List Frame} {meth : Method} {c : Code} {A : Nat → Prop} {dC : Nat → ClassId} {dI : Nat → Nat → Nat} {d : Nat → ClassId} {z : Nat → Nat → Nat} {hh : Nat → Nat → Nat} {cf : List Value}{nh : Nat} {C41 : Int32 → Int32 → Int32 → Int32 → PS → Prop} {K : PS → Prop} (cx : Cx p s m args meth c cX1_asksGroup RX1 7 none A dC dI d) (hC41 : ∀ (x3 : Int32) (x4 : Int32) (x5 : Int32) (x6 : Int32) (u : PS) (H : Heap) (locs : List Loc) (ls : Array Slot), C41 x3 x4 x5 x6 u → Wd dC dI A ((wP d nh hh cf z) u) s H locs → lv_has ls 7 [(0, .ref (z 0 0)), (3, .int x3), (4, .int x4), (5, .int x5), (6, .int x6)] → W p l e ({ frames := 4, cells := 0, slots := 0, locals := 86 } : Room) s m args below meth c H locs 0 0 (MQ below (kQv dC dI (wP d nh hh cf z) K A) args s 0 0 A) (F0 m 41 ls [])) : ∀ (n : Nat) (x3 : Int32) (x4 : Int32) (x5 : Int32) (x6 : Int32) (u : PS) (H : Heap) (locs : List Loc) (ls : Array Slot), wp_X1_asksGroup_156 nh C41 K n x3 x4 x5 x6 u → Wd dC dI A ((wP d nh hh cf z) u) s H locs → lv_has ls 7 [(0, .ref (z 0 0)), (3, .int x3), (4, .int x4), (5, .int x5), (6, .int x6)] → W p l e ({ frames := 4, cells := 0, slots := 0, locals := 86 } : Room) s m args below meth c H locs 0 0 (MQ below (kQv dC dI (wP d nh hh cf z) K A) args s 0 0 A) (F0 m 156 ls []) := by
  intro n
  induction n with
  | zero =>
    intros; contradiction
  | succ n ih =>
    intro x3 x4 x5 x6 u H locs ls hwp hw hl
    unfold wp_X1_asksGroup_156 at hwp
    refine lv_aload_n (pc := 156) cx.1 cx.2.1 dX1_asksGroup_156 rfl (lv_at hl 0 rfl) ?_
    refine k_getR (pc := 157) (u := u) (v := .ref (z 3 0)) cx hw (lr_PL_pl_6 d z hh cf nh) (C := RX1) (T := TX1) (N := 21) rfl in_X1 (by decide) q484 (fun _ h9 => h9) rfl dX1_asksGroup_157 ?_
    have hpt := k_part (w := (wf_X6 d (z 3) (z 1 1) ((u.1 1).2.1 0)) (u.1 3)) (is := [9, 5]) hw (pc_PL_X6_unp d z hh cf nh u) (by decide)
    refine k_part_i (pc := 160) (wf := (wf_X6 d (z 3) (z 1 1) ((u.1 1).2.1 0))) (u := (u.1 3)) cx hw [9, 5] (pc_PL_X6_unp d z hh cf nh u) (by decide) (fun _ => rfl) (pw_PL_X6_unp d z hh cf nh u) (k_runV (pc := 160) (rest := []) (As := []) cx hpt.1 hpt.2 hw.2.2 (k_recv cx hw 9 (ci := 4) (q := (RX6, TX6, 7)) rfl rfl) (m_X6_step l dC dI d (z 3) (z 1 1) ((u.1 1).2.1 0) (u.1 3)  hwp H.size) (cwV 0 cx.2.2.2.2.1 (lw_V q713 q714 q715 q82 q716) rfl rfl rfl hdV_X6_step ⟨Nat.le_of_ble_eq_true rfl, Nat.le_of_ble_eq_true rfl⟩) rfl hl.1 rfl (Nat.le_of_ble_eq_true rfl) dX1_asksGroup_160 ⟨Nat.le_of_ble_eq_true rfl, Nat.le_of_ble_eq_true rfl⟩) (fun r2 v1 H locs hwp hw => ?_)
    refine lv_if_eq (pc := 163) (tgt := 213) cx.1 cx.2.1 dX1_asksGroup_163 (by decide) (fun c3 => ?_) (fun c3 => ?_)
    · replace hwp := hwp.1 c3
      refine lv_iinc (pc := 213) (v := (x5 + (1 : Int32))) (lv' := [(5, .int (x5 + (1 : Int32))), (0, .ref (z 0 0)), (3, .int x3), (4, .int x4), (6, .int x6)]) cx.1 cx.2.1 dX1_asksGroup_213 hl (k := 3) rfl rfl (by decide) rfl (fun ls hl => ?_)
      refine lv_goto (pc := 216) (tgt := 41) cx.1 cx.2.1 dX1_asksGroup_216 (by decide) ?_
      exact hC41 _ _ _ _ _ _ _ _ hwp hw (lv_sub hl [1, 2, 3, 0, 4] rfl)
    · replace hwp := hwp.2 c3
      refine lv_aload_n (pc := 166) cx.1 cx.2.1 dX1_asksGroup_166 rfl (lv_at hl 0 rfl) ?_
      refine k_getR (pc := 167) (u := (ps_O u 3 v1)) (v := .ref (z 3 0)) cx hw (lr_PL_pl_6 d z hh cf nh) (C := RX1) (T := TX1) (N := 21) rfl in_X1 (by decide) q484 (fun _ h9 => h9) rfl dX1_asksGroup_167 ?_
      refine k_getI (pc := 170) (u := (ps_O u 3 v1)) (v := (v1.1 0)) cx hw (ln_PL_unp_0 d z hh cf nh) (C := RX6) (T := TX6) (N := 7) rfl in_X6 (by decide) q259 (u_same (cx.2.2.2.2.1 _ q255)) rfl dX1_asksGroup_170 ?_
      refine lv_iload_n (pc := 173) cx.1 cx.2.1 dX1_asksGroup_173 rfl (lv_at hl 1 rfl) ?_
      refine lv_icmp_lt (pc := 174) (tgt := 156) cx.1 cx.2.1 dX1_asksGroup_174 (by decide) (fun c4 => ?_) (fun c4 => ?_)
      · replace hwp := hwp.1 c4
        exact ih _ _ _ _ _ _ _ _ hwp hw (lv_sub hl [0, 1, 2, 3, 4] rfl)
      · replace hwp := hwp.2 c4
        refine lv_aload_n (pc := 177) cx.1 cx.2.1 dX1_asksGroup_177 rfl (lv_at hl 0 rfl) ?_
        refine k_getR (pc := 178) (u := (ps_O u 3 v1)) (v := .ref (z 3 0)) cx hw (lr_PL_pl_6 d z hh cf nh) (C := RX1) (T := TX1) (N := 21) rfl in_X1 (by decide) q484 (fun _ h9 => h9) rfl dX1_asksGroup_178 ?_
        refine k_getI (pc := 181) (u := (ps_O u 3 v1)) (v := (v1.1 0)) cx hw (ln_PL_unp_0 d z hh cf nh) (C := RX6) (T := TX6) (N := 7) rfl in_X6 (by decide) q259 (u_same (cx.2.2.2.2.1 _ q255)) rfl dX1_asksGroup_181 ?_
        refine lv_iload (pc := 184) cx.1 cx.2.1 dX1_asksGroup_184 (lv_at hl 2 rfl) ?_
        refine lv_icmp_gt (pc := 186) (tgt := 156) cx.1 cx.2.1 dX1_asksGroup_186 (by decide) (fun c5 => ?_) (fun c5 => ?_)
        · replace hwp := hwp.1 c5
          exact ih _ _ _ _ _ _ _ _ hwp hw (lv_sub hl [0, 1, 2, 3, 4] rfl)
        · replace hwp := hwp.2 c5
          refine lv_aload_n (pc := 189) cx.1 cx.2.1 dX1_asksGroup_189 rfl (lv_at hl 0 rfl) ?_
          refine k_getR (pc := 190) (u := (ps_O u 3 v1)) (v := .ref (z 11 0)) cx hw (lr_PL_pl_18 d z hh cf nh) (C := RX1) (T := TX1) (N := 21) rfl in_X1 (by decide) q497 (fun _ h9 => h9) rfl dX1_asksGroup_190 ?_
          refine lv_aload_n (pc := 193) cx.1 cx.2.1 dX1_asksGroup_193 rfl (lv_at hl 0 rfl) ?_
          refine k_getR (pc := 194) (u := (ps_O u 3 v1)) (v := .ref (z 3 0)) cx hw (lr_PL_pl_6 d z hh cf nh) (C := RX1) (T := TX1) (N := 21) rfl in_X1 (by decide) q484 (fun _ h9 => h9) rfl dX1_asksGroup_194 ?_
          refine k_getI (pc := 197) (u := (ps_O u 3 v1)) (v := (v1.1 0)) cx hw (ln_PL_unp_0 d z hh cf nh) (C := RX6) (T := TX6) (N := 7) rfl in_X6 (by decide) q259 (u_same (cx.2.2.2.2.1 _ q255)) rfl dX1_asksGroup_197 ?_
          refine lv_aload_n (pc := 200) cx.1 cx.2.1 dX1_asksGroup_200 rfl (lv_at hl 0 rfl) ?_
          refine k_getR (pc := 201) (u := (ps_O u 3 v1)) (v := .ref (z 3 0)) cx hw (lr_PL_pl_6 d z hh cf nh) (C := RX1) (T := TX1) (N := 21) rfl in_X1 (by decide) q484 (fun _ h9 => h9) rfl dX1_asksGroup_201 ?_
          refine k_getI (pc := 204) (u := (ps_O u 3 v1)) (v := (v1.1 1)) cx hw (ln_PL_unp_1 d z hh cf nh) (C := RX6) (T := TX6) (N := 7) rfl in_X6 (by decide) q266 (u_same (cx.2.2.2.2.1 _ q262)) rfl dX1_asksGroup_204 ?_
          have hpt := k_part (w := (wTo d (z 11) (z 0 0)) (u.1 11)) (is := [45]) hw (pc_PL_X10_total d z hh cf nh (ps_O u 3 v1)) (by decide)
          refine k_part_v (pc := 207) (wf := (wTo d (z 11) (z 0 0))) (u := (u.1 11)) cx hw [45] (pc_PL_X10_total d z hh cf nh (ps_O u 3 v1)) (by decide) (fun _ => rfl) (pw_PL_X10_total d z hh cf nh (ps_O u 3 v1)) (k_runV (pc := 207) (rest := []) (As := [.int (v1.1 0), .int (v1.1 1)]) cx hpt.1 hpt.2 hw.2.2 (k_recv cx hw 45 (ci := 8) (q := (RX10, TX10, 5)) rfl rfl) (m_X10_take l dC dI d (z 11) (z 0 0)  (u.1 11) (v1.1 0) (v1.1 1) hwp H.size) (cwV 2 cx.2.2.2.2.1 (lw_V q771 q772 q773 q86 q774) rfl rfl rfl hdV_X10_take ⟨Nat.le_of_ble_eq_true rfl, Nat.le_of_ble_eq_true rfl⟩) rfl hl.1 rfl (Nat.le_of_ble_eq_true rfl) dX1_asksGroup_207 ⟨Nat.le_of_ble_eq_true rfl, Nat.le_of_ble_eq_true rfl⟩) (fun v6 H locs hwp hw => ?_)
          refine lv_goto (pc := 210) (tgt := 156) cx.1 cx.2.1 dX1_asksGroup_210 (by decide) ?_
          exact ih _ _ _ _ _ _ _ _ hwp hw (lv_sub hl [0, 1, 2, 3, 4] rfl)
set_option maxHeartbeats 4000000 in
theorem wk_X1_asksGroup_41 {p : Program} {l : Launch} {e : Env} {s : State} {m : MethodId} {args : Array Value} {below : List Frame} {meth : Method} {c : Code} {A : Nat → Prop} {dC : Nat → ClassId} {dI : Nat → Nat → Nat} {d : Nat → ClassId} {z : Nat → Nat → Nat} {hh : Nat → Nat → Nat} {cf : List Value}{nh : Nat} {K : PS → Prop} (cx : Cx p s m args meth c cX1_asksGroup RX1 7 none A dC dI d) : ∀ (n : Nat) (x3 : Int32) (x4 : Int32) (x5 : Int32) (x6 : Int32) (u : PS) (H : Heap) (locs : List Loc) (ls : Array Slot), wp_X1_asksGroup_41 nh K n x3 x4 x5 x6 u → Wd dC dI A ((wP d nh hh cf z) u) s H locs → lv_has ls 7 [(0, .ref (z 0 0)), (3, .int x3), (4, .int x4), (5, .int x5), (6, .int x6)] → W p l e ({ frames := 4, cells := 0, slots := 0, locals := 86 } : Room) s m args below meth c H locs 0 0 (MQ below (kQv dC dI (wP d nh hh cf z) K A) args s 0 0 A) (F0 m 41 ls []) := by
  intro n
  induction n with
  | zero =>
    intros; contradiction
  | succ n ih =>
    intro x3 x4 x5 x6 u H locs ls hwp hw hl
    unfold wp_X1_asksGroup_41 at hwp
    refine lv_iload (pc := 41) cx.1 cx.2.1 dX1_asksGroup_41 (lv_at hl 3 rfl) ?_
    refine lv_iload (pc := 43) cx.1 cx.2.1 dX1_asksGroup_43 (lv_at hl 4 rfl) ?_
    refine lv_icmp_ge (pc := 45) (tgt := 219) cx.1 cx.2.1 dX1_asksGroup_45 (by decide) (fun c1 => ?_) (fun c1 => ?_)
    · replace hwp := hwp.1 c1
      exact k_vret (pc := 219) (wf := (wP d nh hh cf z)) (u := u) cx hw hwp (by decide) (by decide) dX1_asksGroup_219
    · replace hwp := hwp.2 c1
      refine lv_aload_n (pc := 48) cx.1 cx.2.1 dX1_asksGroup_48 rfl (lv_at hl 0 rfl) ?_
      refine lv_dup (pc := 49) cx.1 cx.2.1 dX1_asksGroup_49 rfl ?_
      refine k_getI (pc := 50) (u := u) (v := ((u.1 0).1 19)) cx hw (ln_PL_pl_19 d z hh cf nh) (C := RX1) (T := TX1) (N := 21) rfl in_X1 (by decide) q498 (fun _ h9 => h9) rfl dX1_asksGroup_50 ?_
      refine lv_iconst (pc := 53) (v := 1) cx.1 cx.2.1 dX1_asksGroup_53 (by decide) ?_
      refine lv_iadd (pc := 54) cx.1 cx.2.1 dX1_asksGroup_54 ?_
      refine k_putI (pc := 55) (u := u) (v := (((u.1 0).1 19) + (1 : Int32))) cx hw (ln_PL_pl_19 d z hh cf nh) (C := RX1) (T := TX1) (N := 21) rfl in_X1 tyX1 tyX1_ok nmX1 (by decide) q498 (fun _ h9 => h9) rfl rfl rfl dX1_asksGroup_55 (fun H locs hw => ?_)
      refine lv_aload_n (pc := 58) cx.1 cx.2.1 dX1_asksGroup_58 rfl (lv_at hl 0 rfl) ?_
      refine k_getR (pc := 59) (u := (ps_I u 0 19 (((u.1 0).1 19) + (1 : Int32)))) (v := .ref (z 4 0)) cx hw (lr_PL_pl_7 d z hh cf nh) (C := RX1) (T := TX1) (N := 21) rfl in_X1 (by decide) q485 (fun _ h9 => h9) rfl dX1_asksGroup_59 ?_
      refine k_getRN (pc := 62) (u := (ps_I u 0 19 (((u.1 0).1 19) + (1 : Int32)))) (v := .ref (z 5 0)) cx hw (lr_PL_now_0 d z hh cf nh) (C := RX7) (T := TX7) (N := 7) rfl in_X7 (by decide) (nq329 cx.2.2.2.2.2.1) (fun _ h9 => h9) rfl dX1_asksGroup_62 ?_
      refine lv_iload (pc := 65) cx.1 cx.2.1 dX1_asksGroup_65 (lv_at hl 3 rfl) ?_
      refine lv_iload_n (pc := 67) cx.1 cx.2.1 dX1_asksGroup_67 rfl (lv_at hl 1 rfl) ?_
      refine lv_iload (pc := 68) cx.1 cx.2.1 dX1_asksGroup_68 (lv_at hl 2 rfl) ?_
      have hpt := k_part (w := (wSp d (z 5)) (u.1 5)) (is := [16, 17, 18, 19, 20, 21, 22]) hw (pc_PL_X8_nowsp d z hh cf nh (ps_I u 0 19 (((u.1 0).1 19) + (1 : Int32)))) (by decide)
      refine k_part_i (pc := 70) (wf := (wSp d (z 5))) (u := (u.1 5)) cx hw [16, 17, 18, 19, 20, 21, 22] (pc_PL_X8_nowsp d z hh cf nh (ps_I u 0 19 (((u.1 0).1 19) + (1 : Int32)))) (by decide) (fun _ => rfl) (pw_PL_X8_nowsp d z hh cf nh (ps_I u 0 19 (((u.1 0).1 19) + (1 : Int32)))) (k_runV (pc := 70) (rest := []) (As := [.int x5, .int x3, .int x4]) cx hpt.1 hpt.2 hw.2.2 (k_recv cx hw 16 (ci := 6) (q := (RX8, TX8, 6)) rfl rfl) (m_X8_isOut l dC dI d (z 5)  (u.1 5) x5 x3 x4 hwp H.size) (cwV 3 cx.2.2.2.2.1 (lw_V q753 q754 q755 q84 q756) rfl rfl rfl hdV_X8_isOut ⟨Nat.le_of_ble_eq_true rfl, Nat.le_of_ble_eq_true rfl⟩) rfl hl.1 rfl (Nat.le_of_ble_eq_true rfl) dX1_asksGroup_70 ⟨Nat.le_of_ble_eq_true rfl, Nat.le_of_ble_eq_true rfl⟩) (fun r3 v2 H locs hwp hw => ?_)
      refine lv_if_eq (pc := 73) (tgt := 79) cx.1 cx.2.1 dX1_asksGroup_73 (by decide) (fun c4 => ?_) (fun c4 => ?_)
      · replace hwp := hwp.1 c4
        refine lv_aload_n (pc := 79) cx.1 cx.2.1 dX1_asksGroup_79 rfl (lv_at hl 0 rfl) ?_
        refine k_getR (pc := 80) (u := (ps_O (ps_I u 0 19 (((u.1 0).1 19) + (1 : Int32))) 5 v2)) (v := .ref (z 4 0)) cx hw (lr_PL_pl_7 d z hh cf nh) (C := RX1) (T := TX1) (N := 21) rfl in_X1 (by decide) q485 (fun _ h9 => h9) rfl dX1_asksGroup_80 ?_
        refine k_getRN (pc := 83) (u := (ps_O (ps_I u 0 19 (((u.1 0).1 19) + (1 : Int32))) 5 v2)) (v := .ref (z 5 0)) cx hw (lr_PL_now_0 d z hh cf nh) (C := RX7) (T := TX7) (N := 7) rfl in_X7 (by decide) (nq329 cx.2.2.2.2.2.1) (fun _ h9 => h9) rfl dX1_asksGroup_83 ?_
        refine lv_iload (pc := 86) cx.1 cx.2.1 dX1_asksGroup_86 (lv_at hl 3 rfl) ?_
        refine lv_iload_n (pc := 88) cx.1 cx.2.1 dX1_asksGroup_88 rfl (lv_at hl 1 rfl) ?_
        refine lv_iload (pc := 89) cx.1 cx.2.1 dX1_asksGroup_89 (lv_at hl 2 rfl) ?_
        have hpt := k_part (w := (wSp d (z 5)) v2) (is := [16, 17, 18, 19, 20, 21, 22]) hw (pc_PL_X8_nowsp d z hh cf nh (ps_O (ps_I u 0 19 (((u.1 0).1 19) + (1 : Int32))) 5 v2)) (by decide)
        refine k_part_i (pc := 91) (wf := (wSp d (z 5))) (u := v2) cx hw [16, 17, 18, 19, 20, 21, 22] (pc_PL_X8_nowsp d z hh cf nh (ps_O (ps_I u 0 19 (((u.1 0).1 19) + (1 : Int32))) 5 v2)) (by decide) (fun _ => rfl) (pw_PL_X8_nowsp d z hh cf nh (ps_O (ps_I u 0 19 (((u.1 0).1 19) + (1 : Int32))) 5 v2)) (k_runV (pc := 91) (rest := []) (As := [.int x5, .int x3, .int x4]) cx hpt.1 hpt.2 hw.2.2 (k_recv cx hw 16 (ci := 6) (q := (RX8, TX8, 6)) rfl rfl) (m_X8_isIn l dC dI d (z 5)  v2 x5 x3 x4 hwp H.size) (cwV 3 cx.2.2.2.2.1 (lw_V q757 q758 q759 q84 q760) rfl rfl rfl hdV_X8_isIn ⟨Nat.le_of_ble_eq_true rfl, Nat.le_of_ble_eq_true rfl⟩) rfl hl.1 rfl (Nat.le_of_ble_eq_true rfl) dX1_asksGroup_91 ⟨Nat.le_of_ble_eq_true rfl, Nat.le_of_ble_eq_true rfl⟩) (fun r6 v5 H locs hwp hw => ?_)
        refine lv_if_eq (pc := 94) (tgt := 116) cx.1 cx.2.1 dX1_asksGroup_94 (by decide) (fun c7 => ?_) (fun c7 => ?_)
        · replace hwp := hwp.1 c7
          refine lv_aload_n (pc := 116) cx.1 cx.2.1 dX1_asksGroup_116 rfl (lv_at hl 0 rfl) ?_
          refine lv_dup (pc := 117) cx.1 cx.2.1 dX1_asksGroup_117 rfl ?_
          refine k_getI (pc := 118) (u := (ps_O (ps_O (ps_I u 0 19 (((u.1 0).1 19) + (1 : Int32))) 5 v2) 5 v5)) (v := ((u.1 0).1 20)) cx hw (ln_PL_pl_20 d z hh cf nh) (C := RX1) (T := TX1) (N := 21) rfl in_X1 (by decide) q499 (fun _ h9 => h9) rfl dX1_asksGroup_118 ?_
          refine lv_iconst (pc := 121) (v := 1) cx.1 cx.2.1 dX1_asksGroup_121 (by decide) ?_
          refine lv_iadd (pc := 122) cx.1 cx.2.1 dX1_asksGroup_122 ?_
          refine k_putI (pc := 123) (u := (ps_O (ps_O (ps_I u 0 19 (((u.1 0).1 19) + (1 : Int32))) 5 v2) 5 v5)) (v := (((u.1 0).1 20) + (1 : Int32))) cx hw (ln_PL_pl_20 d z hh cf nh) (C := RX1) (T := TX1) (N := 21) rfl in_X1 tyX1 tyX1_ok nmX1 (by decide) q499 (fun _ h9 => h9) rfl rfl rfl dX1_asksGroup_123 (fun H locs hw => ?_)
          refine lv_aload_n (pc := 126) cx.1 cx.2.1 dX1_asksGroup_126 rfl (lv_at hl 0 rfl) ?_
          refine k_getR (pc := 127) (u := (ps_I (ps_O (ps_O (ps_I u 0 19 (((u.1 0).1 19) + (1 : Int32))) 5 v2) 5 v5) 0 20 (((u.1 0).1 20) + (1 : Int32)))) (v := .ref (z 3 0)) cx hw (lr_PL_pl_6 d z hh cf nh) (C := RX1) (T := TX1) (N := 21) rfl in_X1 (by decide) q484 (fun _ h9 => h9) rfl dX1_asksGroup_127 ?_
          refine lv_aload_n (pc := 130) cx.1 cx.2.1 dX1_asksGroup_130 rfl (lv_at hl 0 rfl) ?_
          refine k_getR (pc := 131) (u := (ps_I (ps_O (ps_O (ps_I u 0 19 (((u.1 0).1 19) + (1 : Int32))) 5 v2) 5 v5) 0 20 (((u.1 0).1 20) + (1 : Int32)))) (v := .ref (z 4 0)) cx hw (lr_PL_pl_7 d z hh cf nh) (C := RX1) (T := TX1) (N := 21) rfl in_X1 (by decide) q485 (fun _ h9 => h9) rfl dX1_asksGroup_131 ?_
          refine k_getRN (pc := 134) (u := (ps_I (ps_O (ps_O (ps_I u 0 19 (((u.1 0).1 19) + (1 : Int32))) 5 v2) 5 v5) 0 20 (((u.1 0).1 20) + (1 : Int32)))) (v := .ref (z 4 2)) cx hw (lr_PL_now_2 d z hh cf nh) (C := RX7) (T := TX7) (N := 7) rfl in_X7 (by decide) (nq334 cx.2.2.2.2.2.1) (fun _ h9 => h9) rfl dX1_asksGroup_134 ?_
          refine lv_iload (pc := 137) cx.1 cx.2.1 dX1_asksGroup_137 (lv_at hl 3 rfl) ?_
          refine k_cald (pc := 139) (u := (ps_I (ps_O (ps_O (ps_I u 0 19 (((u.1 0).1 19) + (1 : Int32))) 5 v2) 5 v5) 0 20 (((u.1 0).1 20) + (1 : Int32)))) (f := ((u.1 4).2.1 2)) cx hw (lx_PL_now_2 d z hh cf nh) 4 rfl rfl hwp.1 dX1_asksGroup_139 ?_
          replace hwp := hwp.2
          refine lv_aload_n (pc := 140) cx.1 cx.2.1 dX1_asksGroup_140 rfl (lv_at hl 0 rfl) ?_
          refine k_getR (pc := 141) (u := (ps_I (ps_O (ps_O (ps_I u 0 19 (((u.1 0).1 19) + (1 : Int32))) 5 v2) 5 v5) 0 20 (((u.1 0).1 20) + (1 : Int32)))) (v := .ref (z 4 0)) cx hw (lr_PL_pl_7 d z hh cf nh) (C := RX1) (T := TX1) (N := 21) rfl in_X1 (by decide) q485 (fun _ h9 => h9) rfl dX1_asksGroup_141 ?_
          refine k_getRN (pc := 144) (u := (ps_I (ps_O (ps_O (ps_I u 0 19 (((u.1 0).1 19) + (1 : Int32))) 5 v2) 5 v5) 0 20 (((u.1 0).1 20) + (1 : Int32)))) (v := .ref (z 5 0)) cx hw (lr_PL_now_0 d z hh cf nh) (C := RX7) (T := TX7) (N := 7) rfl in_X7 (by decide) (nq329 cx.2.2.2.2.2.1) (fun _ h9 => h9) rfl dX1_asksGroup_144 ?_
          refine k_getRN (pc := 147) (u := (ps_I (ps_O (ps_O (ps_I u 0 19 (((u.1 0).1 19) + (1 : Int32))) 5 v2) 5 v5) 0 20 (((u.1 0).1 20) + (1 : Int32)))) (v := .ref (z 5 5)) cx hw (lr_PL_nowsp_4 d z hh cf nh) (C := RX8) (T := TX8) (N := 6) rfl in_X8 (by decide) (nq308 cx.2.2.2.2.2.1) (fun _ h9 => h9) rfl dX1_asksGroup_147 ?_
          refine lv_iload (pc := 150) cx.1 cx.2.1 dX1_asksGroup_150 (lv_at hl 3 rfl) ?_
          refine k_sald (pc := 152) (u := (ps_I (ps_O (ps_O (ps_I u 0 19 (((u.1 0).1 19) + (1 : Int32))) 5 v2) 5 v5) 0 20 (((u.1 0).1 20) + (1 : Int32)))) (f := (v5.2.1 4)) cx hw (lx_PL_nowsp_4 d z hh cf nh) 1 rfl rfl hwp.1 dX1_asksGroup_152 ?_
          replace hwp := hwp.2
          have hpt := k_part (w := (wf_X6 d (z 3) (z 1 1) ((u.1 1).2.1 0)) (u.1 3)) (is := [9, 5]) hw (pc_PL_X6_unp d z hh cf nh (ps_I (ps_O (ps_O (ps_I u 0 19 (((u.1 0).1 19) + (1 : Int32))) 5 v2) 5 v5) 0 20 (((u.1 0).1 20) + (1 : Int32)))) (by decide)
          refine k_part_v (pc := 153) (wf := (wf_X6 d (z 3) (z 1 1) ((u.1 1).2.1 0))) (u := (u.1 3)) cx hw [9, 5] (pc_PL_X6_unp d z hh cf nh (ps_I (ps_O (ps_O (ps_I u 0 19 (((u.1 0).1 19) + (1 : Int32))) 5 v2) 5 v5) 0 20 (((u.1 0).1 20) + (1 : Int32)))) (by decide) (fun _ => rfl) (pw_PL_X6_unp d z hh cf nh (ps_I (ps_O (ps_O (ps_I u 0 19 (((u.1 0).1 19) + (1 : Int32))) 5 v2) 5 v5) 0 20 (((u.1 0).1 20) + (1 : Int32)))) (k_runV (pc := 153) (rest := []) (As := [.int (((u.1 4).2.1 2) x5.toNatClampNeg), .int ((v5.2.1 4) x5.toNatClampNeg)]) cx hpt.1 hpt.2 hw.2.2 (k_recv cx hw 9 (ci := 4) (q := (RX6, TX6, 7)) rfl rfl) (m_X6_begin l dC dI d (z 3) (z 1 1) ((u.1 1).2.1 0) (u.1 3) (((u.1 4).2.1 2) x5.toNatClampNeg) ((v5.2.1 4) x5.toNatClampNeg) hwp H.size) (cwV 2 cx.2.2.2.2.1 (lw_V q709 q710 q711 q82 q712) rfl rfl rfl hdV_X6_begin ⟨Nat.le_of_ble_eq_true rfl, Nat.le_of_ble_eq_true rfl⟩) rfl hl.1 rfl (Nat.le_of_ble_eq_true rfl) dX1_asksGroup_153 ⟨Nat.le_of_ble_eq_true rfl, Nat.le_of_ble_eq_true rfl⟩) (fun v8 H locs hwp hw => ?_)
          obtain ⟨n156, hwp⟩ := hwp
          exact wk_X1_asksGroup_156 cx ih n156 _ _ _ _ _ _ _ _ hwp hw (lv_sub hl [0, 1, 2, 3, 4] rfl)
        · replace hwp := hwp.2 c7
          refine lv_aload_n (pc := 97) cx.1 cx.2.1 dX1_asksGroup_97 rfl (lv_at hl 0 rfl) ?_
          refine k_getR (pc := 98) (u := (ps_O (ps_O (ps_I u 0 19 (((u.1 0).1 19) + (1 : Int32))) 5 v2) 5 v5)) (v := .ref (z 11 0)) cx hw (lr_PL_pl_18 d z hh cf nh) (C := RX1) (T := TX1) (N := 21) rfl in_X1 (by decide) q497 (fun _ h9 => h9) rfl dX1_asksGroup_98 ?_
          refine lv_aload_n (pc := 101) cx.1 cx.2.1 dX1_asksGroup_101 rfl (lv_at hl 0 rfl) ?_
          refine k_getR (pc := 102) (u := (ps_O (ps_O (ps_I u 0 19 (((u.1 0).1 19) + (1 : Int32))) 5 v2) 5 v5)) (v := .ref (z 4 0)) cx hw (lr_PL_pl_7 d z hh cf nh) (C := RX1) (T := TX1) (N := 21) rfl in_X1 (by decide) q485 (fun _ h9 => h9) rfl dX1_asksGroup_102 ?_
          refine k_getRN (pc := 105) (u := (ps_O (ps_O (ps_I u 0 19 (((u.1 0).1 19) + (1 : Int32))) 5 v2) 5 v5)) (v := .ref (z 5 0)) cx hw (lr_PL_now_0 d z hh cf nh) (C := RX7) (T := TX7) (N := 7) rfl in_X7 (by decide) (nq329 cx.2.2.2.2.2.1) (fun _ h9 => h9) rfl dX1_asksGroup_105 ?_
          refine lv_iload (pc := 108) cx.1 cx.2.1 dX1_asksGroup_108 (lv_at hl 3 rfl) ?_
          have hpt := k_part (w := (wf_X10j d (z 11) (z 0 0) (z 5) v5) (u.1 11)) (is := [45, 16, 17, 18, 19, 20, 21, 22]) hw (pc_PL_X10j_total_nowsp d z hh cf nh (ps_O (ps_O (ps_I u 0 19 (((u.1 0).1 19) + (1 : Int32))) 5 v2) 5 v5)) (by decide)
          refine k_part_v (pc := 110) (wf := (wf_X10j d (z 11) (z 0 0) (z 5) v5)) (u := (u.1 11)) cx hw [45, 16, 17, 18, 19, 20, 21, 22] (pc_PL_X10j_total_nowsp d z hh cf nh (ps_O (ps_O (ps_I u 0 19 (((u.1 0).1 19) + (1 : Int32))) 5 v2) 5 v5)) (by decide) (fun _ => rfl) (pw_PL_X10j_total_nowsp d z hh cf nh (ps_O (ps_O (ps_I u 0 19 (((u.1 0).1 19) + (1 : Int32))) 5 v2) 5 v5)) (k_runV (pc := 110) (rest := []) (As := [.ref (z 5 0), .int x5]) cx hpt.1 hpt.2 hw.2.2 (k_recv cx hw 45 (ci := 8) (q := (RX10, TX10, 5)) rfl rfl) (m_X10_join l dC dI d (z 11) (z 0 0) (z 5) v5 (u.1 11) x5 hwp H.size) (cwV 2 cx.2.2.2.2.1 (lw_V q761 q762 q763 q86 q764) rfl rfl rfl hdV_X10_join ⟨Nat.le_of_ble_eq_true rfl, Nat.le_of_ble_eq_true rfl⟩) rfl hl.1 rfl (Nat.le_of_ble_eq_true rfl) dX1_asksGroup_110 ⟨Nat.le_of_ble_eq_true rfl, Nat.le_of_ble_eq_true rfl⟩) (fun v10 H locs hwp hw => ?_)
          refine lv_goto (pc := 113) (tgt := 213) cx.1 cx.2.1 dX1_asksGroup_113 (by decide) ?_
          refine lv_iinc (pc := 213) (v := (x5 + (1 : Int32))) (lv' := [(5, .int (x5 + (1 : Int32))), (0, .ref (z 0 0)), (3, .int x3), (4, .int x4), (6, .int x6)]) cx.1 cx.2.1 dX1_asksGroup_213 hl (k := 3) rfl rfl (by decide) rfl (fun ls hl => ?_)
          refine lv_goto (pc := 216) (tgt := 41) cx.1 cx.2.1 dX1_asksGroup_216 (by decide) ?_
          exact ih _ _ _ _ _ _ _ _ hwp hw (lv_sub hl [1, 2, 3, 0, 4] rfl)
      · replace hwp := hwp.2 c4
        refine lv_goto (pc := 76) (tgt := 213) cx.1 cx.2.1 dX1_asksGroup_76 (by decide) ?_
        refine lv_iinc (pc := 213) (v := (x5 + (1 : Int32))) (lv' := [(5, .int (x5 + (1 : Int32))), (0, .ref (z 0 0)), (3, .int x3), (4, .int x4), (6, .int x6)]) cx.1 cx.2.1 dX1_asksGroup_213 hl (k := 3) rfl rfl (by decide) rfl (fun ls hl => ?_)
        refine lv_goto (pc := 216) (tgt := 41) cx.1 cx.2.1 dX1_asksGroup_216 (by decide) ?_
        exact ih _ _ _ _ _ _ _ _ hwp hw (lv_sub hl [1, 2, 3, 0, 4] rfl)
set_option maxHeartbeats 4000000 in
theorem m_X1_asksGroup (l : Launch) (dC : Nat → ClassId) (dI : Nat → Nat → Nat) (d : Nat → ClassId) (z : Nat → Nat → Nat) (hh : Nat → Nat → Nat) (cf : List Value) (nh : Nat) (u : PS) (x1 : Int32) (x2 : Int32) (x3 : Int32) (x4 : Int32) {K : PS → Prop} (hwp : wp_X1_asksGroup nh u x1 x2 x3 x4 K) : kM l yX1_asksGroup cX1_asksGroup 7 none ({ frames := 4, cells := 0, slots := 0, locals := 86 } : Room) dC dI d [.ref (z 0 0), .int x1, .int x2, .int x3, .int x4] (wP d nh hh cf z) u (kQv dC dI (wP d nh hh cf z) K) 0 0 := by
  refine kM_start rfl (Nat.le_of_ble_eq_true rfl) ?_
  intro p e s m below meth c A ls cx hnm hw hl
  generalize hargs : ([.ref (z 0 0), .int x1, .int x2, .int x3, .int x4] : List Value).toArray = args at cx ⊢
  unfold wp_X1_asksGroup at hwp
  replace hl : lv_has ls 7 [(0, .ref (z 0 0)), (1, .int x1), (2, .int x2), (3, .int x3), (4, .int x4)] := hl
  generalize hH : s.heap = H at hw ⊢
  generalize hlo : ([] : List Loc) = locs at hw ⊢
  refine lv_aload_n (pc := 0) cx.1 cx.2.1 dX1_asksGroup_0 rfl (lv_at hl 0 rfl) ?_
  refine k_getR (pc := 1) (u := u) (v := .ref (z 4 0)) cx hw (lr_PL_pl_7 d z hh cf nh) (C := RX1) (T := TX1) (N := 21) rfl in_X1 (by decide) q485 (fun _ h9 => h9) rfl dX1_asksGroup_1 ?_
  refine k_getRN (pc := 4) (u := u) (v := .ref (z 4 5)) cx hw (lr_PL_now_6 d z hh cf nh) (C := RX7) (T := TX7) (N := 7) rfl in_X7 (by decide) (nq343 cx.2.2.2.2.2.1) (fun _ h9 => h9) rfl dX1_asksGroup_4 ?_
  refine lv_iload_n (pc := 7) cx.1 cx.2.1 dX1_asksGroup_7 rfl (lv_at hl 1 rfl) ?_
  refine k_iald (pc := 8) (u := u) (f := ((u.1 4).2.1 6)) cx hw (lx_PL_now_6 d z hh cf nh) 0 rfl rfl hwp.1 dX1_asksGroup_8 ?_
  replace hwp := hwp.2
  refine lv_iload_n (pc := 9) cx.1 cx.2.1 dX1_asksGroup_9 rfl (lv_at hl 2 rfl) ?_
  refine lv_aload_n (pc := 10) cx.1 cx.2.1 dX1_asksGroup_10 rfl (lv_at hl 0 rfl) ?_
  refine k_getI (pc := 11) (u := u) (v := ((u.1 0).1 2)) cx hw (ln_PL_pl_2 d z hh cf nh) (C := RX1) (T := TX1) (N := 21) rfl in_X1 (by decide) q478 (fun _ h9 => h9) rfl dX1_asksGroup_11 ?_
  refine lv_imul (pc := 14) cx.1 cx.2.1 dX1_asksGroup_14 ?_
  refine lv_iadd (pc := 15) cx.1 cx.2.1 dX1_asksGroup_15 ?_
  refine lv_istore (pc := 16) (lv' := [(5, .int ((((u.1 4).2.1 6) x1.toNatClampNeg) + (x2 * ((u.1 0).1 2)))), (0, .ref (z 0 0)), (1, .int x1), (2, .int x2), (3, .int x3), (4, .int x4)]) cx.1 cx.2.1 dX1_asksGroup_16 hl (by decide) rfl (fun ls hl => ?_)
  refine lv_iload (pc := 18) cx.1 cx.2.1 dX1_asksGroup_18 (lv_at hl 0 rfl) ?_
  refine lv_aload_n (pc := 20) cx.1 cx.2.1 dX1_asksGroup_20 rfl (lv_at hl 1 rfl) ?_
  refine k_getI (pc := 21) (u := u) (v := ((u.1 0).1 2)) cx hw (ln_PL_pl_2 d z hh cf nh) (C := RX1) (T := TX1) (N := 21) rfl in_X1 (by decide) q478 (fun _ h9 => h9) rfl dX1_asksGroup_21 ?_
  refine lv_iadd (pc := 24) cx.1 cx.2.1 dX1_asksGroup_24 ?_
  refine lv_aload_n (pc := 25) cx.1 cx.2.1 dX1_asksGroup_25 rfl (lv_at hl 1 rfl) ?_
  refine k_getR (pc := 26) (u := u) (v := .ref (z 4 0)) cx hw (lr_PL_pl_7 d z hh cf nh) (C := RX1) (T := TX1) (N := 21) rfl in_X1 (by decide) q485 (fun _ h9 => h9) rfl dX1_asksGroup_26 ?_
  refine k_getRN (pc := 29) (u := u) (v := .ref (z 4 5)) cx hw (lr_PL_now_6 d z hh cf nh) (C := RX7) (T := TX7) (N := 7) rfl in_X7 (by decide) (nq343 cx.2.2.2.2.2.1) (fun _ h9 => h9) rfl dX1_asksGroup_29 ?_
  refine lv_iload_n (pc := 32) cx.1 cx.2.1 dX1_asksGroup_32 rfl (lv_at hl 2 rfl) ?_
  refine lv_iconst (pc := 33) (v := 1) cx.1 cx.2.1 dX1_asksGroup_33 (by decide) ?_
  refine lv_iadd (pc := 34) cx.1 cx.2.1 dX1_asksGroup_34 ?_
  refine k_iald (pc := 35) (u := u) (f := ((u.1 4).2.1 6)) cx hw (lx_PL_now_6 d z hh cf nh) 0 rfl rfl hwp.1 dX1_asksGroup_35 ?_
  replace hwp := hwp.2
  refine k_min (pc := 36) cx hl.1 q432 q433 q87 q434 ⟨Nat.le_of_ble_eq_true rfl, Nat.le_of_ble_eq_true rfl, Nat.le_of_ble_eq_true rfl, Nat.le_of_ble_eq_true rfl⟩ dX1_asksGroup_36 ?_
  refine lv_istore (pc := 39) (lv' := [(6, .int (if (((u.1 4).2.1 6) (x1 + (1 : Int32)).toNatClampNeg) < (((((u.1 4).2.1 6) x1.toNatClampNeg) + (x2 * ((u.1 0).1 2))) + ((u.1 0).1 2)) then (((u.1 4).2.1 6) (x1 + (1 : Int32)).toNatClampNeg) else (((((u.1 4).2.1 6) x1.toNatClampNeg) + (x2 * ((u.1 0).1 2))) + ((u.1 0).1 2)))), (5, .int ((((u.1 4).2.1 6) x1.toNatClampNeg) + (x2 * ((u.1 0).1 2)))), (0, .ref (z 0 0)), (1, .int x1), (2, .int x2), (3, .int x3), (4, .int x4)]) cx.1 cx.2.1 dX1_asksGroup_39 hl (by decide) rfl (fun ls hl => ?_)
  obtain ⟨n41, hwp⟩ := hwp
  exact wk_X1_asksGroup_41 cx n41 _ _ _ _ _ _ _ _ hwp hw (lv_sub hl [2, 5, 6, 1, 0] rfl)
set_option maxHeartbeats 4000000 in
theorem wk_X1_asks_128 {p : Program} {l : Launch} {e : Env} {s : State} {m : MethodId} {args : Array Value} {below : List Frame} {meth : Method} {c : Code} {A : Nat → Prop} {dC : Nat → ClassId} {dI : Nat → Nat → Nat} {d : Nat → ClassId} {z : Nat → Nat → Nat} {hh : Nat → Nat → Nat} {cf : List Value}{nh : Nat} {K : PS → Prop} (cx : Cx p s m args meth c cX1_asks RX1 6 none A dC dI d) : ∀ (n : Nat) (x2 : Int32) (x3 : Int32) (s4 : Nat) (x5 : Int32) (u : PS) (H : Heap) (locs : List Loc) (ls : Array Slot), wp_X1_asks_128 nh K n x2 x3 s4 x5 u → Wd dC dI A ((wP d nh hh cf z) u) s H locs → lv_has ls 6 [(0, .ref (z 0 0)), (2, .int x2), (3, .int x3), (4, .ref (hh s4 0)), (5, .int x5)] → W p l e ({ frames := 5, cells := 0, slots := 0, locals := 112 } : Room) s m args below meth c H locs 0 0 (MQ below (kQv dC dI (wP d nh hh cf z) K A) args s 0 0 A) (F0 m 128 ls []) := by
  intro n
  induction n with
  | zero =>
    intros; contradiction
  | succ n ih =>
    intro x2 x3 s4 x5 u H locs ls hwp hw hl
    unfold wp_X1_asks_128 at hwp
    obtain ⟨hb4, hwp⟩ := hwp
    refine lv_iload (pc := 128) cx.1 cx.2.1 dX1_asks_128 (lv_at hl 4 rfl) ?_
    refine lv_aload (pc := 130) cx.1 cx.2.1 dX1_asks_130 (lv_at hl 3 rfl) ?_
    refine k_getIN (pc := 132) (u := u) (v := ((u.2 s4).1 2)) cx hw (lhn_PL_2 d z hh cf nh hb4) (C := RX11) (T := TX11) (N := 3) rfl in_X11 (by decide) (nq450 cx.2.2.2.2.2.1) (fun _ h9 => h9) rfl dX1_asks_132 ?_
    refine lv_icmp_ge (pc := 135) (tgt := 191) cx.1 cx.2.1 dX1_asks_135 (by decide) (fun c1 => ?_) (fun c1 => ?_)
    · replace hwp := hwp.1 c1
      exact k_vret (pc := 191) (wf := (wP d nh hh cf z)) (u := u) cx hw hwp (by decide) (by decide) dX1_asks_191
    · replace hwp := hwp.2 c1
      refine lv_aload (pc := 138) cx.1 cx.2.1 dX1_asks_138 (lv_at hl 3 rfl) ?_
      refine k_getRN (pc := 140) (u := u) (v := .ref (hh s4 1)) cx hw (lhr_PL_0 d z hh cf nh hb4) (C := RX11) (T := TX11) (N := 3) rfl in_X11 (by decide) (nq444 cx.2.2.2.2.2.1) (fun _ h9 => h9) rfl dX1_asks_140 ?_
      refine lv_iload (pc := 143) cx.1 cx.2.1 dX1_asks_143 (lv_at hl 4 rfl) ?_
      refine k_iald (pc := 145) (u := u) (f := ((u.2 s4).2.1 0)) cx hw (lhx_PL_0 d z hh cf nh hb4) 0 rfl rfl hwp.1 dX1_asks_145 ?_
      replace hwp := hwp.2
      refine lv_iload_n (pc := 146) cx.1 cx.2.1 dX1_asks_146 rfl (lv_at hl 1 rfl) ?_
      refine lv_icmp_lt (pc := 147) (tgt := 185) cx.1 cx.2.1 dX1_asks_147 (by decide) (fun c2 => ?_) (fun c2 => ?_)
      · replace hwp := hwp.1 c2
        refine lv_iinc (pc := 185) (v := (x5 + (1 : Int32))) (lv' := [(5, .int (x5 + (1 : Int32))), (0, .ref (z 0 0)), (2, .int x2), (3, .int x3), (4, .ref (hh s4 0))]) cx.1 cx.2.1 dX1_asks_185 hl (k := 4) rfl rfl (by decide) rfl (fun ls hl => ?_)
        refine lv_goto (pc := 188) (tgt := 128) cx.1 cx.2.1 dX1_asks_188 (by decide) ?_
        exact ih _ _ _ _ _ _ _ _ hwp hw (lv_sub hl [1, 2, 3, 4, 0] rfl)
      · replace hwp := hwp.2 c2
        refine lv_aload (pc := 150) cx.1 cx.2.1 dX1_asks_150 (lv_at hl 3 rfl) ?_
        refine k_getRN (pc := 152) (u := u) (v := .ref (hh s4 1)) cx hw (lhr_PL_0 d z hh cf nh hb4) (C := RX11) (T := TX11) (N := 3) rfl in_X11 (by decide) (nq444 cx.2.2.2.2.2.1) (fun _ h9 => h9) rfl dX1_asks_152 ?_
        refine lv_iload (pc := 155) cx.1 cx.2.1 dX1_asks_155 (lv_at hl 4 rfl) ?_
        refine k_iald (pc := 157) (u := u) (f := ((u.2 s4).2.1 0)) cx hw (lhx_PL_0 d z hh cf nh hb4) 0 rfl rfl hwp.1 dX1_asks_157 ?_
        replace hwp := hwp.2
        refine lv_iload_n (pc := 158) cx.1 cx.2.1 dX1_asks_158 rfl (lv_at hl 2 rfl) ?_
        refine lv_icmp_gt (pc := 159) (tgt := 185) cx.1 cx.2.1 dX1_asks_159 (by decide) (fun c3 => ?_) (fun c3 => ?_)
        · replace hwp := hwp.1 c3
          refine lv_iinc (pc := 185) (v := (x5 + (1 : Int32))) (lv' := [(5, .int (x5 + (1 : Int32))), (0, .ref (z 0 0)), (2, .int x2), (3, .int x3), (4, .ref (hh s4 0))]) cx.1 cx.2.1 dX1_asks_185 hl (k := 4) rfl rfl (by decide) rfl (fun ls hl => ?_)
          refine lv_goto (pc := 188) (tgt := 128) cx.1 cx.2.1 dX1_asks_188 (by decide) ?_
          exact ih _ _ _ _ _ _ _ _ hwp hw (lv_sub hl [1, 2, 3, 4, 0] rfl)
        · replace hwp := hwp.2 c3
          refine lv_aload_n (pc := 162) cx.1 cx.2.1 dX1_asks_162 rfl (lv_at hl 0 rfl) ?_
          refine k_getR (pc := 163) (u := u) (v := .ref (z 11 0)) cx hw (lr_PL_pl_18 d z hh cf nh) (C := RX1) (T := TX1) (N := 21) rfl in_X1 (by decide) q497 (fun _ h9 => h9) rfl dX1_asks_163 ?_
          refine lv_aload (pc := 166) cx.1 cx.2.1 dX1_asks_166 (lv_at hl 3 rfl) ?_
          refine k_getRN (pc := 168) (u := u) (v := .ref (hh s4 1)) cx hw (lhr_PL_0 d z hh cf nh hb4) (C := RX11) (T := TX11) (N := 3) rfl in_X11 (by decide) (nq444 cx.2.2.2.2.2.1) (fun _ h9 => h9) rfl dX1_asks_168 ?_
          refine lv_iload (pc := 171) cx.1 cx.2.1 dX1_asks_171 (lv_at hl 4 rfl) ?_
          refine k_iald (pc := 173) (u := u) (f := ((u.2 s4).2.1 0)) cx hw (lhx_PL_0 d z hh cf nh hb4) 0 rfl rfl hwp.1 dX1_asks_173 ?_
          replace hwp := hwp.2
          refine lv_aload (pc := 174) cx.1 cx.2.1 dX1_asks_174 (lv_at hl 3 rfl) ?_
          refine k_getRN (pc := 176) (u := u) (v := .ref (hh s4 2)) cx hw (lhr_PL_1 d z hh cf nh hb4) (C := RX11) (T := TX11) (N := 3) rfl in_X11 (by decide) (nq447 cx.2.2.2.2.2.1) (fun _ h9 => h9) rfl dX1_asks_176 ?_
          refine lv_iload (pc := 179) cx.1 cx.2.1 dX1_asks_179 (lv_at hl 4 rfl) ?_
          refine k_iald (pc := 181) (u := u) (f := ((u.2 s4).2.1 1)) cx hw (lhx_PL_1 d z hh cf nh hb4) 0 rfl rfl hwp.1 dX1_asks_181 ?_
          replace hwp := hwp.2
          have hpt := k_part (w := (wTo d (z 11) (z 0 0)) (u.1 11)) (is := [45]) hw (pc_PL_X10_total d z hh cf nh u) (by decide)
          refine k_part_v (pc := 182) (wf := (wTo d (z 11) (z 0 0))) (u := (u.1 11)) cx hw [45] (pc_PL_X10_total d z hh cf nh u) (by decide) (fun _ => rfl) (pw_PL_X10_total d z hh cf nh u) (k_runV (pc := 182) (rest := []) (As := [.int (((u.2 s4).2.1 0) x5.toNatClampNeg), .int (((u.2 s4).2.1 1) x5.toNatClampNeg)]) cx hpt.1 hpt.2 hw.2.2 (k_recv cx hw 45 (ci := 8) (q := (RX10, TX10, 5)) rfl rfl) (m_X10_take l dC dI d (z 11) (z 0 0)  (u.1 11) (((u.2 s4).2.1 0) x5.toNatClampNeg) (((u.2 s4).2.1 1) x5.toNatClampNeg) hwp H.size) (cwV 2 cx.2.2.2.2.1 (lw_V q771 q772 q773 q86 q774) rfl rfl rfl hdV_X10_take ⟨Nat.le_of_ble_eq_true rfl, Nat.le_of_ble_eq_true rfl⟩) rfl hl.1 rfl (Nat.le_of_ble_eq_true rfl) dX1_asks_182 ⟨Nat.le_of_ble_eq_true rfl, Nat.le_of_ble_eq_true rfl⟩) (fun v4 H locs hwp hw => ?_)
          refine lv_iinc (pc := 185) (v := (x5 + (1 : Int32))) (lv' := [(5, .int (x5 + (1 : Int32))), (0, .ref (z 0 0)), (2, .int x2), (3, .int x3), (4, .ref (hh s4 0))]) cx.1 cx.2.1 dX1_asks_185 hl (k := 4) rfl rfl (by decide) rfl (fun ls hl => ?_)
          refine lv_goto (pc := 188) (tgt := 128) cx.1 cx.2.1 dX1_asks_188 (by decide) ?_
          exact ih _ _ _ _ _ _ _ _ hwp hw (lv_sub hl [1, 2, 3, 4, 0] rfl)
set_option maxHeartbeats 4000000 in
theorem wk_X1_asks_117 {p : Program} {l : Launch} {e : Env} {s : State} {m : MethodId} {args : Array Value} {below : List Frame} {meth : Method} {c : Code} {A : Nat → Prop} {dC : Nat → ClassId} {dI : Nat → Nat → Nat} {d : Nat → ClassId} {z : Nat → Nat → Nat} {hh : Nat → Nat → Nat} {cf : List Value}{nh : Nat} {K : PS → Prop} (cx : Cx p s m args meth c cX1_asks RX1 6 none A dC dI d) : ∀ (x1 : Int32) (x2 : Int32) (x3 : Int32) (u : PS) (H : Heap) (locs : List Loc) (ls : Array Slot), wp_X1_asks_117 nh K x1 x2 x3 u → Wd dC dI A ((wP d nh hh cf z) u) s H locs → lv_has ls 6 [(0, .ref (z 0 0)), (1, .int x1), (2, .int x2), (3, .int x3)] → W p l e ({ frames := 5, cells := 0, slots := 0, locals := 112 } : Room) s m args below meth c H locs 0 0 (MQ below (kQv dC dI (wP d nh hh cf z) K A) args s 0 0 A) (F0 m 117 ls []) := by
  intro x1 x2 x3 u H locs ls hwp hw hl
  unfold wp_X1_asks_117 at hwp
  refine lv_aload_n (pc := 117) cx.1 cx.2.1 dX1_asks_117 rfl (lv_at hl 0 rfl) ?_
  refine k_getR (pc := 118) (u := u) (v := .ref (z 0 3)) cx hw (lr_PL_pl_4 d z hh cf nh) (C := RX1) (T := TX1) (N := 21) rfl in_X1 (by decide) q481 (fun _ h9 => h9) rfl dX1_asks_118 ?_
  refine lv_iload_n (pc := 121) cx.1 cx.2.1 dX1_asks_121 rfl (lv_at hl 1 rfl) ?_
  have hs1 := vp_lt hwp.1
  refine k_hald_PL (pc := 122) cx hw hwp.1 dX1_asks_122 ?_
  replace hwp := hwp.2
  refine lv_astore (pc := 123) (lv' := [(4, .ref (hh x1.toNatClampNeg 0)), (0, .ref (z 0 0)), (1, .int x1), (2, .int x2), (3, .int x3)]) cx.1 cx.2.1 dX1_asks_123 hl (by decide) rfl (fun ls hl => ?_)
  refine lv_iconst (pc := 125) (v := 0) cx.1 cx.2.1 dX1_asks_125 (by decide) ?_
  refine lv_istore (pc := 126) (lv' := [(5, .int (0 : Int32)), (4, .ref (hh x1.toNatClampNeg 0)), (0, .ref (z 0 0)), (1, .int x1), (2, .int x2), (3, .int x3)]) cx.1 cx.2.1 dX1_asks_126 hl (by decide) rfl (fun ls hl => ?_)
  obtain ⟨n128, hwp⟩ := hwp
  exact wk_X1_asks_128 cx n128 _ _ _ _ _ _ _ _ hwp hw (lv_sub hl [2, 4, 5, 1, 0] rfl)
set_option maxHeartbeats 4000000 in
theorem wk_X1_asks_25 {p : Program} {l : Launch} {e : Env} {s : State} {m : MethodId} {args : Array Value} {below : List Frame} {meth : Method} {c : Code} {A : Nat → Prop} {dC : Nat → ClassId} {dI : Nat → Nat → Nat} {d : Nat → ClassId} {z : Nat → Nat → Nat} {hh : Nat → Nat → Nat} {cf : List Value}{nh : Nat} {K : PS → Prop} (cx : Cx p s m args meth c cX1_asks RX1 6 none A dC dI d) : ∀ (n : Nat) (x1 : Int32) (x2 : Int32) (x3 : Int32) (x4 : Int32) (u : PS) (H : Heap) (locs : List Loc) (ls : Array Slot), wp_X1_asks_25 nh K n x1 x2 x3 x4 u → Wd dC dI A ((wP d nh hh cf z) u) s H locs → lv_has ls 6 [(0, .ref (z 0 0)), (1, .int x1), (2, .int x2), (3, .int x3), (4, .int x4)] → W p l e ({ frames := 5, cells := 0, slots := 0, locals := 112 } : Room) s m args below meth c H locs 0 0 (MQ below (kQv dC dI (wP d nh hh cf z) K A) args s 0 0 A) (F0 m 25 ls []) := by
  intro n
  induction n with
  | zero =>
    intros; contradiction
  | succ n ih =>
    intro x1 x2 x3 x4 u H locs ls hwp hw hl
    unfold wp_X1_asks_25 at hwp
    refine lv_iload (pc := 25) cx.1 cx.2.1 dX1_asks_25 (lv_at hl 4 rfl) ?_
    refine lv_aload_n (pc := 27) cx.1 cx.2.1 dX1_asks_27 rfl (lv_at hl 0 rfl) ?_
    refine k_getR (pc := 28) (u := u) (v := .ref (z 0 1)) cx hw (lr_PL_pl_10 d z hh cf nh) (C := RX1) (T := TX1) (N := 21) rfl in_X1 (by decide) q489 (fun _ h9 => h9) rfl dX1_asks_28 ?_
    refine lv_iload_n (pc := 31) cx.1 cx.2.1 dX1_asks_31 rfl (lv_at hl 1 rfl) ?_
    refine lv_iconst (pc := 32) (v := 1) cx.1 cx.2.1 dX1_asks_32 (by decide) ?_
    refine lv_iadd (pc := 33) cx.1 cx.2.1 dX1_asks_33 ?_
    refine k_iald (pc := 34) (u := u) (f := ((u.1 0).2.1 10)) cx hw (lx_PL_pl_10 d z hh cf nh) 0 rfl rfl hwp.1 dX1_asks_34 ?_
    replace hwp := hwp.2
    refine lv_icmp_ge (pc := 35) (tgt := 117) cx.1 cx.2.1 dX1_asks_35 (by decide) (fun c1 => ?_) (fun c1 => ?_)
    · replace hwp := hwp.1 c1
      exact wk_X1_asks_117 cx _ _ _ _ _ _ _ hwp hw (lv_sub hl [0, 1, 2, 3] rfl)
    · replace hwp := hwp.2 c1
      refine lv_aload_n (pc := 38) cx.1 cx.2.1 dX1_asks_38 rfl (lv_at hl 0 rfl) ?_
      refine lv_dup (pc := 39) cx.1 cx.2.1 dX1_asks_39 rfl ?_
      refine k_getI (pc := 40) (u := u) (v := ((u.1 0).1 19)) cx hw (ln_PL_pl_19 d z hh cf nh) (C := RX1) (T := TX1) (N := 21) rfl in_X1 (by decide) q498 (fun _ h9 => h9) rfl dX1_asks_40 ?_
      refine lv_iconst (pc := 43) (v := 1) cx.1 cx.2.1 dX1_asks_43 (by decide) ?_
      refine lv_iadd (pc := 44) cx.1 cx.2.1 dX1_asks_44 ?_
      refine k_putI (pc := 45) (u := u) (v := (((u.1 0).1 19) + (1 : Int32))) cx hw (ln_PL_pl_19 d z hh cf nh) (C := RX1) (T := TX1) (N := 21) rfl in_X1 tyX1 tyX1_ok nmX1 (by decide) q498 (fun _ h9 => h9) rfl rfl rfl dX1_asks_45 (fun H locs hw => ?_)
      refine lv_aload_n (pc := 48) cx.1 cx.2.1 dX1_asks_48 rfl (lv_at hl 0 rfl) ?_
      refine k_getR (pc := 49) (u := (ps_I u 0 19 (((u.1 0).1 19) + (1 : Int32)))) (v := .ref (z 8 0)) cx hw (lr_PL_pl_9 d z hh cf nh) (C := RX1) (T := TX1) (N := 21) rfl in_X1 (by decide) q488 (fun _ h9 => h9) rfl dX1_asks_49 ?_
      refine lv_iload (pc := 52) cx.1 cx.2.1 dX1_asks_52 (lv_at hl 4 rfl) ?_
      refine lv_iload_n (pc := 54) cx.1 cx.2.1 dX1_asks_54 rfl (lv_at hl 2 rfl) ?_
      refine lv_iload_n (pc := 55) cx.1 cx.2.1 dX1_asks_55 rfl (lv_at hl 3 rfl) ?_
      have hpt := k_part (w := (wSp d (z 8)) (u.1 8)) (is := [36, 37, 38, 39, 40, 41, 42]) hw (pc_PL_X8_groups d z hh cf nh (ps_I u 0 19 (((u.1 0).1 19) + (1 : Int32)))) (by decide)
      refine k_part_i (pc := 56) (wf := (wSp d (z 8))) (u := (u.1 8)) cx hw [36, 37, 38, 39, 40, 41, 42] (pc_PL_X8_groups d z hh cf nh (ps_I u 0 19 (((u.1 0).1 19) + (1 : Int32)))) (by decide) (fun _ => rfl) (pw_PL_X8_groups d z hh cf nh (ps_I u 0 19 (((u.1 0).1 19) + (1 : Int32)))) (k_runV (pc := 56) (rest := []) (As := [.int x4, .int x2, .int x3]) cx hpt.1 hpt.2 hw.2.2 (k_recv cx hw 36 (ci := 6) (q := (RX8, TX8, 6)) rfl rfl) (m_X8_isOut l dC dI d (z 8)  (u.1 8) x4 x2 x3 hwp H.size) (cwV 3 cx.2.2.2.2.1 (lw_V q753 q754 q755 q84 q756) rfl rfl rfl hdV_X8_isOut ⟨Nat.le_of_ble_eq_true rfl, Nat.le_of_ble_eq_true rfl⟩) rfl hl.1 rfl (Nat.le_of_ble_eq_true rfl) dX1_asks_56 ⟨Nat.le_of_ble_eq_true rfl, Nat.le_of_ble_eq_true rfl⟩) (fun r3 v2 H locs hwp hw => ?_)
      refine lv_if_eq (pc := 59) (tgt := 65) cx.1 cx.2.1 dX1_asks_59 (by decide) (fun c4 => ?_) (fun c4 => ?_)
      · replace hwp := hwp.1 c4
        refine lv_aload_n (pc := 65) cx.1 cx.2.1 dX1_asks_65 rfl (lv_at hl 0 rfl) ?_
        refine k_getR (pc := 66) (u := (ps_O (ps_I u 0 19 (((u.1 0).1 19) + (1 : Int32))) 8 v2)) (v := .ref (z 8 0)) cx hw (lr_PL_pl_9 d z hh cf nh) (C := RX1) (T := TX1) (N := 21) rfl in_X1 (by decide) q488 (fun _ h9 => h9) rfl dX1_asks_66 ?_
        refine lv_iload (pc := 69) cx.1 cx.2.1 dX1_asks_69 (lv_at hl 4 rfl) ?_
        refine lv_iload_n (pc := 71) cx.1 cx.2.1 dX1_asks_71 rfl (lv_at hl 2 rfl) ?_
        refine lv_iload_n (pc := 72) cx.1 cx.2.1 dX1_asks_72 rfl (lv_at hl 3 rfl) ?_
        have hpt := k_part (w := (wSp d (z 8)) v2) (is := [36, 37, 38, 39, 40, 41, 42]) hw (pc_PL_X8_groups d z hh cf nh (ps_O (ps_I u 0 19 (((u.1 0).1 19) + (1 : Int32))) 8 v2)) (by decide)
        refine k_part_i (pc := 73) (wf := (wSp d (z 8))) (u := v2) cx hw [36, 37, 38, 39, 40, 41, 42] (pc_PL_X8_groups d z hh cf nh (ps_O (ps_I u 0 19 (((u.1 0).1 19) + (1 : Int32))) 8 v2)) (by decide) (fun _ => rfl) (pw_PL_X8_groups d z hh cf nh (ps_O (ps_I u 0 19 (((u.1 0).1 19) + (1 : Int32))) 8 v2)) (k_runV (pc := 73) (rest := []) (As := [.int x4, .int x2, .int x3]) cx hpt.1 hpt.2 hw.2.2 (k_recv cx hw 36 (ci := 6) (q := (RX8, TX8, 6)) rfl rfl) (m_X8_isIn l dC dI d (z 8)  v2 x4 x2 x3 hwp H.size) (cwV 3 cx.2.2.2.2.1 (lw_V q757 q758 q759 q84 q760) rfl rfl rfl hdV_X8_isIn ⟨Nat.le_of_ble_eq_true rfl, Nat.le_of_ble_eq_true rfl⟩) rfl hl.1 rfl (Nat.le_of_ble_eq_true rfl) dX1_asks_73 ⟨Nat.le_of_ble_eq_true rfl, Nat.le_of_ble_eq_true rfl⟩) (fun r6 v5 H locs hwp hw => ?_)
        refine lv_if_eq (pc := 76) (tgt := 95) cx.1 cx.2.1 dX1_asks_76 (by decide) (fun c7 => ?_) (fun c7 => ?_)
        · replace hwp := hwp.1 c7
          refine lv_aload_n (pc := 95) cx.1 cx.2.1 dX1_asks_95 rfl (lv_at hl 0 rfl) ?_
          refine lv_iload_n (pc := 96) cx.1 cx.2.1 dX1_asks_96 rfl (lv_at hl 1 rfl) ?_
          refine lv_iload (pc := 97) cx.1 cx.2.1 dX1_asks_97 (lv_at hl 4 rfl) ?_
          refine lv_aload_n (pc := 99) cx.1 cx.2.1 dX1_asks_99 rfl (lv_at hl 0 rfl) ?_
          refine k_getR (pc := 100) (u := (ps_O (ps_O (ps_I u 0 19 (((u.1 0).1 19) + (1 : Int32))) 8 v2) 8 v5)) (v := .ref (z 0 1)) cx hw (lr_PL_pl_10 d z hh cf nh) (C := RX1) (T := TX1) (N := 21) rfl in_X1 (by decide) q489 (fun _ h9 => h9) rfl dX1_asks_100 ?_
          refine lv_iload_n (pc := 103) cx.1 cx.2.1 dX1_asks_103 rfl (lv_at hl 1 rfl) ?_
          refine k_iald (pc := 104) (u := (ps_O (ps_O (ps_I u 0 19 (((u.1 0).1 19) + (1 : Int32))) 8 v2) 8 v5)) (f := ((u.1 0).2.1 10)) cx hw (lx_PL_pl_10 d z hh cf nh) 0 rfl rfl hwp.1 dX1_asks_104 ?_
          replace hwp := hwp.2
          refine lv_isub (pc := 105) cx.1 cx.2.1 dX1_asks_105 ?_
          refine lv_iload_n (pc := 106) cx.1 cx.2.1 dX1_asks_106 rfl (lv_at hl 2 rfl) ?_
          refine lv_iload_n (pc := 107) cx.1 cx.2.1 dX1_asks_107 rfl (lv_at hl 3 rfl) ?_
          refine k_whole_v (pc := 108) (wf := (wP d nh hh cf z)) (u := (ps_O (ps_O (ps_I u 0 19 (((u.1 0).1 19) + (1 : Int32))) 8 v2) 8 v5)) cx hw (k_runV (pc := 108) (rest := []) (As := [.int x1, .int (x4 - (((u.1 0).2.1 10) x1.toNatClampNeg)), .int x2, .int x3]) cx hw.1 (hw.2.1.weaken (fun _ _ _ _ => trivial)) hw.2.2 (k_recv cx hw 0 (ci := 0) (q := (RX1, TX1, 21)) rfl rfl) (m_X1_asksGroup l dC dI d z hh cf nh (ps_O (ps_O (ps_I u 0 19 (((u.1 0).1 19) + (1 : Int32))) 8 v2) 8 v5) x1 (x4 - (((u.1 0).2.1 10) x1.toNatClampNeg)) x2 x3 hwp H.size) (cwV 4 cx.2.2.2.2.1 (lw_V q767 q769 qs25 q75 q770) rfl rfl rfl hdV_X1_asksGroup ⟨Nat.le_of_ble_eq_true rfl, Nat.le_of_ble_eq_true rfl⟩) rfl hl.1 rfl (Nat.le_of_ble_eq_true rfl) dX1_asks_108 ⟨Nat.le_of_ble_eq_true rfl, Nat.le_of_ble_eq_true rfl⟩) (fun u8 H locs hwp hw => ?_)
          refine lv_iinc (pc := 111) (v := (x4 + (1 : Int32))) (lv' := [(4, .int (x4 + (1 : Int32))), (0, .ref (z 0 0)), (1, .int x1), (2, .int x2), (3, .int x3)]) cx.1 cx.2.1 dX1_asks_111 hl (k := 4) rfl rfl (by decide) rfl (fun ls hl => ?_)
          refine lv_goto (pc := 114) (tgt := 25) cx.1 cx.2.1 dX1_asks_114 (by decide) ?_
          exact ih _ _ _ _ _ _ _ _ hwp hw (lv_sub hl [1, 2, 3, 4, 0] rfl)
        · replace hwp := hwp.2 c7
          refine lv_aload_n (pc := 79) cx.1 cx.2.1 dX1_asks_79 rfl (lv_at hl 0 rfl) ?_
          refine k_getR (pc := 80) (u := (ps_O (ps_O (ps_I u 0 19 (((u.1 0).1 19) + (1 : Int32))) 8 v2) 8 v5)) (v := .ref (z 11 0)) cx hw (lr_PL_pl_18 d z hh cf nh) (C := RX1) (T := TX1) (N := 21) rfl in_X1 (by decide) q497 (fun _ h9 => h9) rfl dX1_asks_80 ?_
          refine lv_aload_n (pc := 83) cx.1 cx.2.1 dX1_asks_83 rfl (lv_at hl 0 rfl) ?_
          refine k_getR (pc := 84) (u := (ps_O (ps_O (ps_I u 0 19 (((u.1 0).1 19) + (1 : Int32))) 8 v2) 8 v5)) (v := .ref (z 8 0)) cx hw (lr_PL_pl_9 d z hh cf nh) (C := RX1) (T := TX1) (N := 21) rfl in_X1 (by decide) q488 (fun _ h9 => h9) rfl dX1_asks_84 ?_
          refine lv_iload (pc := 87) cx.1 cx.2.1 dX1_asks_87 (lv_at hl 4 rfl) ?_
          have hpt := k_part (w := (wf_X10j d (z 11) (z 0 0) (z 8) v5) (u.1 11)) (is := [45, 36, 37, 38, 39, 40, 41, 42]) hw (pc_PL_X10j_total_groups d z hh cf nh (ps_O (ps_O (ps_I u 0 19 (((u.1 0).1 19) + (1 : Int32))) 8 v2) 8 v5)) (by decide)
          refine k_part_v (pc := 89) (wf := (wf_X10j d (z 11) (z 0 0) (z 8) v5)) (u := (u.1 11)) cx hw [45, 36, 37, 38, 39, 40, 41, 42] (pc_PL_X10j_total_groups d z hh cf nh (ps_O (ps_O (ps_I u 0 19 (((u.1 0).1 19) + (1 : Int32))) 8 v2) 8 v5)) (by decide) (fun _ => rfl) (pw_PL_X10j_total_groups d z hh cf nh (ps_O (ps_O (ps_I u 0 19 (((u.1 0).1 19) + (1 : Int32))) 8 v2) 8 v5)) (k_runV (pc := 89) (rest := []) (As := [.ref (z 8 0), .int x4]) cx hpt.1 hpt.2 hw.2.2 (k_recv cx hw 45 (ci := 8) (q := (RX10, TX10, 5)) rfl rfl) (m_X10_join l dC dI d (z 11) (z 0 0) (z 8) v5 (u.1 11) x4 hwp H.size) (cwV 2 cx.2.2.2.2.1 (lw_V q761 q762 q763 q86 q764) rfl rfl rfl hdV_X10_join ⟨Nat.le_of_ble_eq_true rfl, Nat.le_of_ble_eq_true rfl⟩) rfl hl.1 rfl (Nat.le_of_ble_eq_true rfl) dX1_asks_89 ⟨Nat.le_of_ble_eq_true rfl, Nat.le_of_ble_eq_true rfl⟩) (fun v10 H locs hwp hw => ?_)
          refine lv_goto (pc := 92) (tgt := 111) cx.1 cx.2.1 dX1_asks_92 (by decide) ?_
          refine lv_iinc (pc := 111) (v := (x4 + (1 : Int32))) (lv' := [(4, .int (x4 + (1 : Int32))), (0, .ref (z 0 0)), (1, .int x1), (2, .int x2), (3, .int x3)]) cx.1 cx.2.1 dX1_asks_111 hl (k := 4) rfl rfl (by decide) rfl (fun ls hl => ?_)
          refine lv_goto (pc := 114) (tgt := 25) cx.1 cx.2.1 dX1_asks_114 (by decide) ?_
          exact ih _ _ _ _ _ _ _ _ hwp hw (lv_sub hl [1, 2, 3, 4, 0] rfl)
      · replace hwp := hwp.2 c4
        refine lv_goto (pc := 62) (tgt := 111) cx.1 cx.2.1 dX1_asks_62 (by decide) ?_
        refine lv_iinc (pc := 111) (v := (x4 + (1 : Int32))) (lv' := [(4, .int (x4 + (1 : Int32))), (0, .ref (z 0 0)), (1, .int x1), (2, .int x2), (3, .int x3)]) cx.1 cx.2.1 dX1_asks_111 hl (k := 4) rfl rfl (by decide) rfl (fun ls hl => ?_)
        refine lv_goto (pc := 114) (tgt := 25) cx.1 cx.2.1 dX1_asks_114 (by decide) ?_
        exact ih _ _ _ _ _ _ _ _ hwp hw (lv_sub hl [1, 2, 3, 4, 0] rfl)
set_option maxHeartbeats 4000000 in
theorem m_X1_asks (l : Launch) (dC : Nat → ClassId) (dI : Nat → Nat → Nat) (d : Nat → ClassId) (z : Nat → Nat → Nat) (hh : Nat → Nat → Nat) (cf : List Value) (nh : Nat) (u : PS) (x1 : Int32) (x2 : Int32) (x3 : Int32) {K : PS → Prop} (hwp : wp_X1_asks nh u x1 x2 x3 K) : kM l yX1_asks cX1_asks 6 none ({ frames := 5, cells := 0, slots := 0, locals := 112 } : Room) dC dI d [.ref (z 0 0), .int x1, .int x2, .int x3] (wP d nh hh cf z) u (kQv dC dI (wP d nh hh cf z) K) 0 0 := by
  refine kM_start rfl (Nat.le_of_ble_eq_true rfl) ?_
  intro p e s m below meth c A ls cx hnm hw hl
  generalize hargs : ([.ref (z 0 0), .int x1, .int x2, .int x3] : List Value).toArray = args at cx ⊢
  unfold wp_X1_asks at hwp
  replace hl : lv_has ls 6 [(0, .ref (z 0 0)), (1, .int x1), (2, .int x2), (3, .int x3)] := hl
  generalize hH : s.heap = H at hw ⊢
  generalize hlo : ([] : List Loc) = locs at hw ⊢
  refine lv_aload_n (pc := 0) cx.1 cx.2.1 dX1_asks_0 rfl (lv_at hl 0 rfl) ?_
  refine k_getR (pc := 1) (u := u) (v := .ref (z 11 0)) cx hw (lr_PL_pl_18 d z hh cf nh) (C := RX1) (T := TX1) (N := 21) rfl in_X1 (by decide) q497 (fun _ h9 => h9) rfl dX1_asks_1 ?_
  have hpt := k_part (w := (wTo d (z 11) (z 0 0)) (u.1 11)) (is := [45]) hw (pc_PL_X10_total d z hh cf nh u) (by decide)
  refine k_part_v (pc := 4) (wf := (wTo d (z 11) (z 0 0))) (u := (u.1 11)) cx hw [45] (pc_PL_X10_total d z hh cf nh u) (by decide) (fun _ => rfl) (pw_PL_X10_total d z hh cf nh u) (k_runV (pc := 4) (rest := []) (As := []) cx hpt.1 hpt.2 hw.2.2 (k_recv cx hw 45 (ci := 8) (q := (RX10, TX10, 5)) rfl rfl) (m_X10_begin l dC dI d (z 11) (z 0 0)  (u.1 11)  hwp H.size) (cwV 0 cx.2.2.2.2.1 (lw_V q749 q750 q751 q86 q752) rfl rfl rfl hdV_X10_begin ⟨Nat.le_of_ble_eq_true rfl, Nat.le_of_ble_eq_true rfl⟩) rfl hl.1 rfl (Nat.le_of_ble_eq_true rfl) dX1_asks_4 ⟨Nat.le_of_ble_eq_true rfl, Nat.le_of_ble_eq_true rfl⟩) (fun v1 H locs hwp hw => ?_)
  refine lv_aload_n (pc := 7) cx.1 cx.2.1 dX1_asks_7 rfl (lv_at hl 0 rfl) ?_
  refine lv_iconst (pc := 8) (v := 0) cx.1 cx.2.1 dX1_asks_8 (by decide) ?_
  refine k_putI (pc := 9) (u := (ps_O u 11 v1)) (v := (0 : Int32)) cx hw (ln_PL_pl_19 d z hh cf nh) (C := RX1) (T := TX1) (N := 21) rfl in_X1 tyX1 tyX1_ok nmX1 (by decide) q498 (fun _ h9 => h9) rfl rfl rfl dX1_asks_9 (fun H locs hw => ?_)
  refine lv_aload_n (pc := 12) cx.1 cx.2.1 dX1_asks_12 rfl (lv_at hl 0 rfl) ?_
  refine lv_iconst (pc := 13) (v := 0) cx.1 cx.2.1 dX1_asks_13 (by decide) ?_
  refine k_putI (pc := 14) (u := (ps_I (ps_O u 11 v1) 0 19 (0 : Int32))) (v := (0 : Int32)) cx hw (ln_PL_pl_20 d z hh cf nh) (C := RX1) (T := TX1) (N := 21) rfl in_X1 tyX1 tyX1_ok nmX1 (by decide) q499 (fun _ h9 => h9) rfl rfl rfl dX1_asks_14 (fun H locs hw => ?_)
  refine lv_aload_n (pc := 17) cx.1 cx.2.1 dX1_asks_17 rfl (lv_at hl 0 rfl) ?_
  refine k_getR (pc := 18) (u := (ps_I (ps_I (ps_O u 11 v1) 0 19 (0 : Int32)) 0 20 (0 : Int32))) (v := .ref (z 0 1)) cx hw (lr_PL_pl_10 d z hh cf nh) (C := RX1) (T := TX1) (N := 21) rfl in_X1 (by decide) q489 (fun _ h9 => h9) rfl dX1_asks_18 ?_
  refine lv_iload_n (pc := 21) cx.1 cx.2.1 dX1_asks_21 rfl (lv_at hl 1 rfl) ?_
  refine k_iald (pc := 22) (u := (ps_I (ps_I (ps_O u 11 v1) 0 19 (0 : Int32)) 0 20 (0 : Int32))) (f := ((u.1 0).2.1 10)) cx hw (lx_PL_pl_10 d z hh cf nh) 0 rfl rfl hwp.1 dX1_asks_22 ?_
  replace hwp := hwp.2
  refine lv_istore (pc := 23) (lv' := [(4, .int (((u.1 0).2.1 10) x1.toNatClampNeg)), (0, .ref (z 0 0)), (1, .int x1), (2, .int x2), (3, .int x3)]) cx.1 cx.2.1 dX1_asks_23 hl (by decide) rfl (fun ls hl => ?_)
  obtain ⟨n25, hwp⟩ := hwp
  exact wk_X1_asks_25 cx n25 _ _ _ _ _ _ _ _ hwp hw (lv_sub hl [1, 2, 3, 4, 0] rfl)
set_option maxHeartbeats 4000000 in
theorem m_X9_begin (l : Launch) (dC : Nat → ClassId) (dI : Nat → Nat → Nat) (d : Nat → ClassId) (z : Nat → Nat → Nat) (hh : Nat → Nat → Nat) (cf : List Value) (nh : Nat) (u : PS) (x1 : Int32) (x2 : Int32) (x3 : Int32) {K : PS → Prop} (hwp : wp_X9_begin nh u x1 x2 x3 K) : kM l yX9_begin cX9_begin 4 none ({ frames := 0, cells := 0, slots := 0, locals := 0 } : Room) dC dI d [.ref (z 9 0), .int x1, .int x2, .int x3] (wP d nh hh cf z) u (kQv dC dI (wP d nh hh cf z) K) 0 0 := by
  refine kM_start rfl (Nat.le_of_ble_eq_true rfl) ?_
  intro p e s m below meth c A ls cx hnm hw hl
  generalize hargs : ([.ref (z 9 0), .int x1, .int x2, .int x3] : List Value).toArray = args at cx ⊢
  unfold wp_X9_begin at hwp
  replace hl : lv_has ls 4 [(0, .ref (z 9 0)), (1, .int x1), (2, .int x2), (3, .int x3)] := hl
  generalize hH : s.heap = H at hw ⊢
  generalize hlo : ([] : List Loc) = locs at hw ⊢
  refine lv_aload_n (pc := 0) cx.1 cx.2.1 dX9_begin_0 rfl (lv_at hl 0 rfl) ?_
  refine lv_iload_n (pc := 1) cx.1 cx.2.1 dX9_begin_1 rfl (lv_at hl 1 rfl) ?_
  refine k_putI (pc := 2) (u := u) (v := x1) cx hw (ln_PL_walk_3 d z hh cf nh) (C := RX9) (T := TX9) (N := 11) rfl in_X9 tyX9 tyX9_ok nmX9 (by decide) q372 (fun _ h9 => h9) rfl rfl rfl dX9_begin_2 (fun H locs hw => ?_)
  refine lv_aload_n (pc := 5) cx.1 cx.2.1 dX9_begin_5 rfl (lv_at hl 0 rfl) ?_
  refine lv_iload_n (pc := 6) cx.1 cx.2.1 dX9_begin_6 rfl (lv_at hl 2 rfl) ?_
  refine k_putI (pc := 7) (u := (ps_I u 9 3 x1)) (v := x2) cx hw (ln_PL_walk_4 d z hh cf nh) (C := RX9) (T := TX9) (N := 11) rfl in_X9 tyX9 tyX9_ok nmX9 (by decide) q373 (fun _ h9 => h9) rfl rfl rfl dX9_begin_7 (fun H locs hw => ?_)
  refine lv_aload_n (pc := 10) cx.1 cx.2.1 dX9_begin_10 rfl (lv_at hl 0 rfl) ?_
  refine lv_iload_n (pc := 11) cx.1 cx.2.1 dX9_begin_11 rfl (lv_at hl 3 rfl) ?_
  refine k_putI (pc := 12) (u := (ps_I (ps_I u 9 3 x1) 9 4 x2)) (v := x3) cx hw (ln_PL_walk_5 d z hh cf nh) (C := RX9) (T := TX9) (N := 11) rfl in_X9 tyX9 tyX9_ok nmX9 (by decide) q374 (fun _ h9 => h9) rfl rfl rfl dX9_begin_12 (fun H locs hw => ?_)
  refine lv_aload_n (pc := 15) cx.1 cx.2.1 dX9_begin_15 rfl (lv_at hl 0 rfl) ?_
  refine lv_aload_n (pc := 16) cx.1 cx.2.1 dX9_begin_16 rfl (lv_at hl 0 rfl) ?_
  refine k_getR (pc := 17) (u := (ps_I (ps_I (ps_I u 9 3 x1) 9 4 x2) 9 5 x3)) (v := .ref (z 0 0)) cx hw (lr_PL_walk_10 d z hh cf nh) (C := RX9) (T := TX9) (N := 11) rfl in_X9 (by decide) q380 (fun _ h9 => h9) rfl dX9_begin_17 ?_
  refine k_getRN (pc := 20) (u := (ps_I (ps_I (ps_I u 9 3 x1) 9 4 x2) 9 5 x3)) (v := .ref (z 4 0)) cx hw (lr_PL_pl_7 d z hh cf nh) (C := RX1) (T := TX1) (N := 21) rfl in_X1 (by decide) (nq486 cx.2.2.2.2.2.1) (fun _ h9 => h9) rfl dX9_begin_20 ?_
  refine k_getRN (pc := 23) (u := (ps_I (ps_I (ps_I u 9 3 x1) 9 4 x2) 9 5 x3)) (v := .ref (z 4 5)) cx hw (lr_PL_now_6 d z hh cf nh) (C := RX7) (T := TX7) (N := 7) rfl in_X7 (by decide) (nq342 cx.2.2.2.2.2.1) (fun _ h9 => h9) rfl dX9_begin_23 ?_
  refine lv_iload_n (pc := 26) cx.1 cx.2.1 dX9_begin_26 rfl (lv_at hl 1 rfl) ?_
  refine k_iald (pc := 27) (u := (ps_I (ps_I (ps_I u 9 3 x1) 9 4 x2) 9 5 x3)) (f := ((u.1 4).2.1 6)) cx hw (lx_PL_now_6 d z hh cf nh) 0 rfl rfl hwp.1 dX9_begin_27 ?_
  replace hwp := hwp.2
  refine lv_topi (fun y1 ey1 => ?_)
  replace hwp := hwp y1 ey1
  refine k_putI (pc := 28) (u := (ps_I (ps_I (ps_I u 9 3 x1) 9 4 x2) 9 5 x3)) (v := y1) cx hw (ln_PL_walk_6 d z hh cf nh) (C := RX9) (T := TX9) (N := 11) rfl in_X9 tyX9 tyX9_ok nmX9 (by decide) q375 (fun _ h9 => h9) rfl rfl rfl dX9_begin_28 (fun H locs hw => ?_)
  refine lv_aload_n (pc := 31) cx.1 cx.2.1 dX9_begin_31 rfl (lv_at hl 0 rfl) ?_
  refine lv_iconst (pc := 32) (v := 0) cx.1 cx.2.1 dX9_begin_32 (by decide) ?_
  refine k_putI (pc := 33) (u := (ps_I (ps_I (ps_I (ps_I u 9 3 x1) 9 4 x2) 9 5 x3) 9 6 y1)) (v := (0 : Int32)) cx hw (ln_PL_walk_7 d z hh cf nh) (C := RX9) (T := TX9) (N := 11) rfl in_X9 tyX9 tyX9_ok nmX9 (by decide) q376 (fun _ h9 => h9) rfl rfl rfl dX9_begin_33 (fun H locs hw => ?_)
  refine lv_aload_n (pc := 36) cx.1 cx.2.1 dX9_begin_36 rfl (lv_at hl 0 rfl) ?_
  refine lv_iconst (pc := 37) (v := 0) cx.1 cx.2.1 dX9_begin_37 (by decide) ?_
  refine k_putI (pc := 38) (u := (ps_I (ps_I (ps_I (ps_I (ps_I u 9 3 x1) 9 4 x2) 9 5 x3) 9 6 y1) 9 7 (0 : Int32))) (v := (0 : Int32)) cx hw (ln_PL_walk_8 d z hh cf nh) (C := RX9) (T := TX9) (N := 11) rfl in_X9 tyX9 tyX9_ok nmX9 (by decide) q377 (fun _ h9 => h9) rfl rfl rfl dX9_begin_38 (fun H locs hw => ?_)
  refine lv_aload_n (pc := 41) cx.1 cx.2.1 dX9_begin_41 rfl (lv_at hl 0 rfl) ?_
  refine lv_iconst (pc := 42) (v := 0) cx.1 cx.2.1 dX9_begin_42 (by decide) ?_
  refine k_putI (pc := 43) (u := (ps_I (ps_I (ps_I (ps_I (ps_I (ps_I u 9 3 x1) 9 4 x2) 9 5 x3) 9 6 y1) 9 7 (0 : Int32)) 9 8 (0 : Int32))) (v := (0 : Int32)) cx hw (ln_PL_walk_9 d z hh cf nh) (C := RX9) (T := TX9) (N := 11) rfl in_X9 tyX9 tyX9_ok nmX9 (by decide) q378 (fun _ h9 => h9) rfl rfl rfl dX9_begin_43 (fun H locs hw => ?_)
  exact k_vret (pc := 46) (wf := (wP d nh hh cf z)) (u := (ps_I (ps_I (ps_I (ps_I (ps_I (ps_I (ps_I u 9 3 x1) 9 4 x2) 9 5 x3) 9 6 y1) 9 7 (0 : Int32)) 9 8 (0 : Int32)) 9 9 (0 : Int32))) cx hw hwp (by decide) (by decide) dX9_begin_46
set_option maxHeartbeats 4000000 in
theorem m_X1_seek (l : Launch) (hlt : l.stackTraces = false) (dC : Nat → ClassId) (dI : Nat → Nat → Nat) (d : Nat → ClassId) (z : Nat → Nat → Nat) (hh : Nat → Nat → Nat) (cf : List Value) (nh : Nat) (u : PS) (x1 : Int32) (x2 : Int32) (x3 : Int32) {K : Int32 → PS → Prop} (hwp : wp_X1_seek nh u x1 x2 x3 K) : kM l yX1_seek cX1_seek 4 (some .int) ({ frames := 12, cells := 3, slots := 300, locals := 10443 } : Room) dC dI d [.ref (z 0 0), .int x1, .int x2, .int x3] (wP d nh hh cf z) u (kQi dC dI (wP d nh hh cf z) K) 3 300 := by
  refine kM_start rfl (Nat.le_of_ble_eq_true rfl) ?_
  intro p e s m below meth c A ls cx hnm hw hl
  generalize hargs : ([.ref (z 0 0), .int x1, .int x2, .int x3] : List Value).toArray = args at cx ⊢
  unfold wp_X1_seek at hwp
  replace hl : lv_has ls 4 [(0, .ref (z 0 0)), (1, .int x1), (2, .int x2), (3, .int x3)] := hl
  generalize hH : s.heap = H at hw ⊢
  generalize hlo : ([] : List Loc) = locs at hw ⊢
  refine lv_aload_n (pc := 0) cx.1 cx.2.1 dX1_seek_0 rfl (lv_at hl 0 rfl) ?_
  refine lv_null (pc := 1) cx.1 cx.2.1 dX1_seek_1 ?_
  refine k_putCuN_PL (pc := 2) (u := u) cx hw q496 dX1_seek_2 (fun H locs hw => ?_)
  refine lv_aload_n (pc := 5) cx.1 cx.2.1 dX1_seek_5 rfl (lv_at hl 0 rfl) ?_
  refine k_getR (pc := 6) (u := (ps_I u 0 17 (0 : Int32))) (v := .ref (z 1 0)) cx hw (lr_PL_pl_3 d z hh cf nh) (C := RX1) (T := TX1) (N := 21) rfl in_X1 (by decide) q479 (fun _ h9 => h9) rfl dX1_seek_6 ?_
  refine k_getIN (pc := 9) (u := (ps_I u 0 17 (0 : Int32))) (v := ((u.1 1).1 3)) cx hw (ln_PL_disk_3 d z hh cf nh) (C := RX2) (T := TX2) (N := 5) rfl in_X2 (by decide) (nq196 cx.2.2.2.2.2.1) (fun _ h9 => h9) rfl dX1_seek_9 ?_
  refine lv_if_eq (pc := 12) (tgt := 18) cx.1 cx.2.1 dX1_seek_12 (by decide) (fun c1 => ?_) (fun c1 => ?_)
  · replace hwp := hwp.1 c1
    refine lv_aload_n (pc := 18) cx.1 cx.2.1 dX1_seek_18 rfl (lv_at hl 0 rfl) ?_
    refine lv_iload_n (pc := 19) cx.1 cx.2.1 dX1_seek_19 rfl (lv_at hl 1 rfl) ?_
    refine k_whole_i (pc := 20) (wf := (wP d nh hh cf z)) (u := (ps_I u 0 17 (0 : Int32))) cx hw (k_runV (pc := 20) (rest := []) (As := [.int x1]) cx hw.1 (hw.2.1.weaken (fun _ _ _ _ => trivial)) hw.2.2 (k_recv cx hw 0 (ci := 0) (q := (RX1, TX1, 21)) rfl rfl) (m_X1_isSeries l hlt dC dI d z hh cf nh (ps_I u 0 17 (0 : Int32)) x1 hwp H.size) (cwV 1 cx.2.2.2.2.1 (lw_V q548 q550 qs3 q75 q551) rfl rfl rfl hdV_X1_isSeries ⟨Nat.le_of_ble_eq_true rfl, Nat.le_of_ble_eq_true rfl⟩) rfl hl.1 rfl (Nat.le_of_ble_eq_true rfl) dX1_seek_20 ⟨Nat.le_of_ble_eq_true rfl, Nat.le_of_ble_eq_true rfl⟩) (fun r3 u2 H locs hwp hw => ?_)
    refine lv_if_ne (pc := 23) (tgt := 29) cx.1 cx.2.1 dX1_seek_23 (by decide) (fun c4 => ?_) (fun c4 => ?_)
    · replace hwp := hwp.1 c4
      refine lv_aload_n (pc := 29) cx.1 cx.2.1 dX1_seek_29 rfl (lv_at hl 0 rfl) ?_
      refine lv_iload_n (pc := 30) cx.1 cx.2.1 dX1_seek_30 rfl (lv_at hl 1 rfl) ?_
      refine lv_iload_n (pc := 31) cx.1 cx.2.1 dX1_seek_31 rfl (lv_at hl 2 rfl) ?_
      refine lv_iload_n (pc := 32) cx.1 cx.2.1 dX1_seek_32 rfl (lv_at hl 3 rfl) ?_
      refine k_whole_v (pc := 33) (wf := (wP d nh hh cf z)) (u := u2) cx hw (k_runV (pc := 33) (rest := []) (As := [.int x1, .int x2, .int x3]) cx hw.1 (hw.2.1.weaken (fun _ _ _ _ => trivial)) hw.2.2 (k_recv cx hw 0 (ci := 0) (q := (RX1, TX1, 21)) rfl rfl) (m_X1_asks l dC dI d z hh cf nh u2 x1 x2 x3 hwp H.size) (cwV 3 cx.2.2.2.2.1 (lw_V q745 q747 qs24 q75 q748) rfl rfl rfl hdV_X1_asks ⟨Nat.le_of_ble_eq_true rfl, Nat.le_of_ble_eq_true rfl⟩) rfl hl.1 rfl (Nat.le_of_ble_eq_true rfl) dX1_seek_33 ⟨Nat.le_of_ble_eq_true rfl, Nat.le_of_ble_eq_true rfl⟩) (fun u5 H locs hwp hw => ?_)
      refine lv_aload_n (pc := 36) cx.1 cx.2.1 dX1_seek_36 rfl (lv_at hl 0 rfl) ?_
      refine k_getR (pc := 37) (u := u5) (v := .ref (z 9 0)) cx hw (lr_PL_pl_16 d z hh cf nh) (C := RX1) (T := TX1) (N := 21) rfl in_X1 (by decide) q495 (fun _ h9 => h9) rfl dX1_seek_37 ?_
      refine lv_iload_n (pc := 40) cx.1 cx.2.1 dX1_seek_40 rfl (lv_at hl 1 rfl) ?_
      refine lv_iload_n (pc := 41) cx.1 cx.2.1 dX1_seek_41 rfl (lv_at hl 2 rfl) ?_
      refine lv_iload_n (pc := 42) cx.1 cx.2.1 dX1_seek_42 rfl (lv_at hl 3 rfl) ?_
      refine k_whole_v (pc := 43) (wf := (wP d nh hh cf z)) (u := u5) cx hw (k_runV (pc := 43) (rest := []) (As := [.int x1, .int x2, .int x3]) cx hw.1 (hw.2.1.weaken (fun _ _ _ _ => trivial)) hw.2.2 (k_recv cx hw 43 (ci := 7) (q := (RX9, TX9, 11)) rfl rfl) (m_X9_begin l dC dI d z hh cf nh u5 x1 x2 x3 hwp H.size) (cwV 3 cx.2.2.2.2.1 (lw_V q779 q780 q781 q85 q782) rfl rfl rfl hdV_X9_begin ⟨Nat.le_of_ble_eq_true rfl, Nat.le_of_ble_eq_true rfl⟩) rfl hl.1 rfl (Nat.le_of_ble_eq_true rfl) dX1_seek_43 ⟨Nat.le_of_ble_eq_true rfl, Nat.le_of_ble_eq_true rfl⟩) (fun u7 H locs hwp hw => ?_)
      refine lv_aload_n (pc := 46) cx.1 cx.2.1 dX1_seek_46 rfl (lv_at hl 0 rfl) ?_
      refine lv_aload_n (pc := 47) cx.1 cx.2.1 dX1_seek_47 rfl (lv_at hl 0 rfl) ?_
      refine k_getR (pc := 48) (u := u7) (v := .ref (z 9 0)) cx hw (lr_PL_pl_16 d z hh cf nh) (C := RX1) (T := TX1) (N := 21) rfl in_X1 (by decide) q495 (fun _ h9 => h9) rfl dX1_seek_48 ?_
      refine k_putCuR_PL (pc := 51) (u := u7) cx hw q496 dX1_seek_51 (fun H locs hw => ?_)
      refine lv_aload_n (pc := 54) cx.1 cx.2.1 dX1_seek_54 rfl (lv_at hl 0 rfl) ?_
      refine k_getR (pc := 55) (u := (ps_I u7 0 17 (1 : Int32))) (v := .ref (z 11 0)) cx hw (lr_PL_pl_18 d z hh cf nh) (C := RX1) (T := TX1) (N := 21) rfl in_X1 (by decide) q497 (fun _ h9 => h9) rfl dX1_seek_55 ?_
      refine k_getIN (pc := 58) (u := (ps_I u7 0 17 (1 : Int32))) (v := ((u7.1 11).1 0)) cx hw (ln_PL_total_0 d z hh cf nh) (C := RX10) (T := TX10) (N := 5) rfl in_X10 (by decide) (nq410 cx.2.2.2.2.2.1) (fun _ h9 => h9) rfl dX1_seek_58 ?_
      exact k_iret (pc := 61) (wf := (wP d nh hh cf z)) (u := (ps_I u7 0 17 (1 : Int32))) cx hw hwp (by decide) (by decide) dX1_seek_61
    · replace hwp := hwp.2 c4
      refine lv_bipush (pc := 26) (v := -2) cx.1 cx.2.1 dX1_seek_26 (by decide) ?_
      exact k_iret (pc := 28) (wf := (wP d nh hh cf z)) (u := u2) cx hw hwp (by decide) (by decide) dX1_seek_28
  · replace hwp := hwp.2 c1
    refine lv_bipush (pc := 15) (v := -9) cx.1 cx.2.1 dX1_seek_15 (by decide) ?_
    exact k_iret (pc := 17) (wf := (wP d nh hh cf z)) (u := (ps_I u 0 17 (0 : Int32))) cx hw hwp (by decide) (by decide) dX1_seek_17
set_option maxHeartbeats 4000000 in
theorem wk_X9_goes_145 {p : Program} {l : Launch} {e : Env} {s : State} {m : MethodId} {args : Array Value} {below : List Frame} {meth : Method} {c : Code} {A : Nat → Prop} {dC : Nat → ClassId} {dI : Nat → Nat → Nat} {d : Nat → ClassId} {z : Nat → Nat → Nat} {hh : Nat → Nat → Nat} {cf : List Value}{nh : Nat} {C0 : PS → Prop} {K : Int32 → PS → Prop} (cx : Cx p s m args meth c cX9_goes RX9 2 (some .boolean) A dC dI d) (hC0 : ∀ (u : PS) (H : Heap) (locs : List Loc) (ls : Array Slot), C0  u → Wd dC dI A ((wP d nh hh cf z) u) s H locs → lv_has ls 2 [(0, .ref (z 9 0))] → W p l e ({ frames := 4, cells := 0, slots := 0, locals := 86 } : Room) s m args below meth c H locs 0 0 (MQ below (kQi dC dI (wP d nh hh cf z) K A) args s 0 0 A) (F0 m 0 ls [])) : ∀  (u : PS) (H : Heap) (locs : List Loc) (ls : Array Slot), wp_X9_goes_145 nh C0 K  u → Wd dC dI A ((wP d nh hh cf z) u) s H locs → lv_has ls 2 [(0, .ref (z 9 0))] → W p l e ({ frames := 4, cells := 0, slots := 0, locals := 86 } : Room) s m args below meth c H locs 0 0 (MQ below (kQi dC dI (wP d nh hh cf z) K A) args s 0 0 A) (F0 m 145 ls []) := by
  intro  u H locs ls hwp hw hl
  unfold wp_X9_goes_145 at hwp
  refine lv_aload_n (pc := 145) cx.1 cx.2.1 dX9_goes_145 rfl (lv_at hl 0 rfl) ?_
  refine lv_iconst (pc := 146) (v := 0) cx.1 cx.2.1 dX9_goes_146 (by decide) ?_
  refine k_putI (pc := 147) (u := u) (v := (0 : Int32)) cx hw (ln_PL_walk_8 d z hh cf nh) (C := RX9) (T := TX9) (N := 11) rfl in_X9 tyX9 tyX9_ok nmX9 (by decide) q377 (fun _ h9 => h9) rfl rfl rfl dX9_goes_147 (fun H locs hw => ?_)
  refine lv_aload_n (pc := 150) cx.1 cx.2.1 dX9_goes_150 rfl (lv_at hl 0 rfl) ?_
  refine lv_dup (pc := 151) cx.1 cx.2.1 dX9_goes_151 rfl ?_
  refine k_getI (pc := 152) (u := (ps_I u 9 8 (0 : Int32))) (v := ((u.1 9).1 6)) cx hw (ln_PL_walk_6 d z hh cf nh) (C := RX9) (T := TX9) (N := 11) rfl in_X9 (by decide) q375 (fun _ h9 => h9) rfl dX9_goes_152 ?_
  refine lv_iconst (pc := 155) (v := 1) cx.1 cx.2.1 dX9_goes_155 (by decide) ?_
  refine lv_iadd (pc := 156) cx.1 cx.2.1 dX9_goes_156 ?_
  refine k_putI (pc := 157) (u := (ps_I u 9 8 (0 : Int32))) (v := (((u.1 9).1 6) + (1 : Int32))) cx hw (ln_PL_walk_6 d z hh cf nh) (C := RX9) (T := TX9) (N := 11) rfl in_X9 tyX9 tyX9_ok nmX9 (by decide) q375 (fun _ h9 => h9) rfl rfl rfl dX9_goes_157 (fun H locs hw => ?_)
  refine lv_goto (pc := 160) (tgt := 0) cx.1 cx.2.1 dX9_goes_160 (by decide) ?_
  exact hC0  _ _ _ _ hwp hw (lv_sub hl [0] rfl)
set_option maxHeartbeats 4000000 in
theorem wk_X9_goes_104 {p : Program} {l : Launch} {e : Env} {s : State} {m : MethodId} {args : Array Value} {below : List Frame} {meth : Method} {c : Code} {A : Nat → Prop} {dC : Nat → ClassId} {dI : Nat → Nat → Nat} {d : Nat → ClassId} {z : Nat → Nat → Nat} {hh : Nat → Nat → Nat} {cf : List Value}{nh : Nat} {C0 : PS → Prop} {K : Int32 → PS → Prop} (cx : Cx p s m args meth c cX9_goes RX9 2 (some .boolean) A dC dI d) (hC0 : ∀ (u : PS) (H : Heap) (locs : List Loc) (ls : Array Slot), C0  u → Wd dC dI A ((wP d nh hh cf z) u) s H locs → lv_has ls 2 [(0, .ref (z 9 0))] → W p l e ({ frames := 4, cells := 0, slots := 0, locals := 86 } : Room) s m args below meth c H locs 0 0 (MQ below (kQi dC dI (wP d nh hh cf z) K A) args s 0 0 A) (F0 m 0 ls [])) : ∀  (u : PS) (H : Heap) (locs : List Loc) (ls : Array Slot), wp_X9_goes_104 nh C0 K  u → Wd dC dI A ((wP d nh hh cf z) u) s H locs → lv_has ls 2 [(0, .ref (z 9 0))] → W p l e ({ frames := 4, cells := 0, slots := 0, locals := 86 } : Room) s m args below meth c H locs 0 0 (MQ below (kQi dC dI (wP d nh hh cf z) K A) args s 0 0 A) (F0 m 104 ls []) := by
  intro  u H locs ls hwp hw hl
  unfold wp_X9_goes_104 at hwp
  refine lv_aload_n (pc := 104) cx.1 cx.2.1 dX9_goes_104 rfl (lv_at hl 0 rfl) ?_
  refine k_getI (pc := 105) (u := u) (v := ((u.1 9).1 8)) cx hw (ln_PL_walk_8 d z hh cf nh) (C := RX9) (T := TX9) (N := 11) rfl in_X9 (by decide) q377 (fun _ h9 => h9) rfl dX9_goes_105 ?_
  refine lv_if_eq (pc := 108) (tgt := 145) cx.1 cx.2.1 dX9_goes_108 (by decide) (fun c1 => ?_) (fun c1 => ?_)
  · replace hwp := hwp.1 c1
    exact wk_X9_goes_145 cx hC0  _ _ _ _ hwp hw (lv_sub hl [0] rfl)
  · replace hwp := hwp.2 c1
    refine lv_aload_n (pc := 111) cx.1 cx.2.1 dX9_goes_111 rfl (lv_at hl 0 rfl) ?_
    refine k_getR (pc := 112) (u := u) (v := .ref (z 10 0)) cx hw (lr_PL_walk_2 d z hh cf nh) (C := RX9) (T := TX9) (N := 11) rfl in_X9 (by decide) q371 (fun _ h9 => h9) rfl dX9_goes_112 ?_
    have hpt := k_part (w := (wf_X6 d (z 10) (z 1 1) ((u.1 1).2.1 0)) (u.1 10)) (is := [44, 5]) hw (pc_PL_X6_win d z hh cf nh u) (by decide)
    refine k_part_i (pc := 115) (wf := (wf_X6 d (z 10) (z 1 1) ((u.1 1).2.1 0))) (u := (u.1 10)) cx hw [44, 5] (pc_PL_X6_win d z hh cf nh u) (by decide) (fun _ => rfl) (pw_PL_X6_win d z hh cf nh u) (k_runV (pc := 115) (rest := []) (As := []) cx hpt.1 hpt.2 hw.2.2 (k_recv cx hw 44 (ci := 4) (q := (RX6, TX6, 7)) rfl rfl) (m_X6_step l dC dI d (z 10) (z 1 1) ((u.1 1).2.1 0) (u.1 10)  hwp H.size) (cwV 0 cx.2.2.2.2.1 (lw_V q822 q714 q715 q82 q716) rfl rfl rfl hdV_X6_step ⟨Nat.le_of_ble_eq_true rfl, Nat.le_of_ble_eq_true rfl⟩) rfl hl.1 rfl (Nat.le_of_ble_eq_true rfl) dX9_goes_115 ⟨Nat.le_of_ble_eq_true rfl, Nat.le_of_ble_eq_true rfl⟩) (fun r3 v2 H locs hwp hw => ?_)
    refine lv_if_eq (pc := 118) (tgt := 145) cx.1 cx.2.1 dX9_goes_118 (by decide) (fun c4 => ?_) (fun c4 => ?_)
    · replace hwp := hwp.1 c4
      exact wk_X9_goes_145 cx hC0  _ _ _ _ hwp hw (lv_sub hl [0] rfl)
    · replace hwp := hwp.2 c4
      refine lv_aload_n (pc := 121) cx.1 cx.2.1 dX9_goes_121 rfl (lv_at hl 0 rfl) ?_
      refine lv_aload_n (pc := 122) cx.1 cx.2.1 dX9_goes_122 rfl (lv_at hl 0 rfl) ?_
      refine k_getR (pc := 123) (u := (ps_O u 10 v2)) (v := .ref (z 10 0)) cx hw (lr_PL_walk_2 d z hh cf nh) (C := RX9) (T := TX9) (N := 11) rfl in_X9 (by decide) q371 (fun _ h9 => h9) rfl dX9_goes_123 ?_
      refine k_getI (pc := 126) (u := (ps_O u 10 v2)) (v := (v2.1 0)) cx hw (ln_PL_win_0 d z hh cf nh) (C := RX6) (T := TX6) (N := 7) rfl in_X6 (by decide) q254 (u_same (cx.2.2.2.2.1 _ q255)) rfl dX9_goes_126 ?_
      refine k_putI (pc := 129) (u := (ps_O u 10 v2)) (v := (v2.1 0)) cx hw (ln_PL_walk_0 d z hh cf nh) (C := RX9) (T := TX9) (N := 11) rfl in_X9 tyX9 tyX9_ok nmX9 (by decide) q256 (u_same (cx.2.2.2.2.1 _ q257)) rfl rfl rfl dX9_goes_129 (fun H locs hw => ?_)
      refine lv_aload_n (pc := 132) cx.1 cx.2.1 dX9_goes_132 rfl (lv_at hl 0 rfl) ?_
      refine lv_aload_n (pc := 133) cx.1 cx.2.1 dX9_goes_133 rfl (lv_at hl 0 rfl) ?_
      refine k_getR (pc := 134) (u := (ps_I (ps_O u 10 v2) 9 0 (v2.1 0))) (v := .ref (z 10 0)) cx hw (lr_PL_walk_2 d z hh cf nh) (C := RX9) (T := TX9) (N := 11) rfl in_X9 (by decide) q371 (fun _ h9 => h9) rfl dX9_goes_134 ?_
      refine k_getI (pc := 137) (u := (ps_I (ps_O u 10 v2) 9 0 (v2.1 0))) (v := (v2.1 1)) cx hw (ln_PL_win_1 d z hh cf nh) (C := RX6) (T := TX6) (N := 7) rfl in_X6 (by decide) q261 (u_same (cx.2.2.2.2.1 _ q262)) rfl dX9_goes_137 ?_
      refine k_putI (pc := 140) (u := (ps_I (ps_O u 10 v2) 9 0 (v2.1 0))) (v := (v2.1 1)) cx hw (ln_PL_walk_1 d z hh cf nh) (C := RX9) (T := TX9) (N := 11) rfl in_X9 tyX9 tyX9_ok nmX9 (by decide) q263 (u_same (cx.2.2.2.2.1 _ q264)) rfl rfl rfl dX9_goes_140 (fun H locs hw => ?_)
      refine lv_iconst (pc := 143) (v := 1) cx.1 cx.2.1 dX9_goes_143 (by decide) ?_
      exact k_zret (pc := 144) (wf := (wP d nh hh cf z)) (u := (ps_I (ps_I (ps_O u 10 v2) 9 0 (v2.1 0)) 9 1 (v2.1 1))) cx hw rfl hwp (by decide) (by decide) dX9_goes_144
set_option maxHeartbeats 4000000 in
theorem wk_X9_goes_163 {p : Program} {l : Launch} {e : Env} {s : State} {m : MethodId} {args : Array Value} {below : List Frame} {meth : Method} {c : Code} {A : Nat → Prop} {dC : Nat → ClassId} {dI : Nat → Nat → Nat} {d : Nat → ClassId} {z : Nat → Nat → Nat} {hh : Nat → Nat → Nat} {cf : List Value}{nh : Nat} {K : Int32 → PS → Prop} (cx : Cx p s m args meth c cX9_goes RX9 2 (some .boolean) A dC dI d) : ∀  (u : PS) (H : Heap) (locs : List Loc) (ls : Array Slot), wp_X9_goes_163 nh K  u → Wd dC dI A ((wP d nh hh cf z) u) s H locs → lv_has ls 2 [(0, .ref (z 9 0))] → W p l e ({ frames := 4, cells := 0, slots := 0, locals := 86 } : Room) s m args below meth c H locs 0 0 (MQ below (kQi dC dI (wP d nh hh cf z) K A) args s 0 0 A) (F0 m 163 ls []) := by
  intro  u H locs ls hwp hw hl
  unfold wp_X9_goes_163 at hwp
  refine lv_aload_n (pc := 163) cx.1 cx.2.1 dX9_goes_163 rfl (lv_at hl 0 rfl) ?_
  refine k_getR (pc := 164) (u := u) (v := .ref (z 0 0)) cx hw (lr_PL_walk_10 d z hh cf nh) (C := RX9) (T := TX9) (N := 11) rfl in_X9 (by decide) q380 (fun _ h9 => h9) rfl dX9_goes_164 ?_
  refine k_getRN (pc := 167) (u := u) (v := .ref (z 0 3)) cx hw (lr_PL_pl_4 d z hh cf nh) (C := RX1) (T := TX1) (N := 21) rfl in_X1 (by decide) (nq482 cx.2.2.2.2.2.1) (fun _ h9 => h9) rfl dX9_goes_167 ?_
  refine lv_aload_n (pc := 170) cx.1 cx.2.1 dX9_goes_170 rfl (lv_at hl 0 rfl) ?_
  refine k_getI (pc := 171) (u := u) (v := ((u.1 9).1 3)) cx hw (ln_PL_walk_3 d z hh cf nh) (C := RX9) (T := TX9) (N := 11) rfl in_X9 (by decide) q372 (fun _ h9 => h9) rfl dX9_goes_171 ?_
  have hs1 := vp_lt hwp.1
  refine k_hald_PL (pc := 174) cx hw hwp.1 dX9_goes_174 ?_
  replace hwp := hwp.2
  refine lv_astore_n (pc := 175) (lv' := [(1, .ref (hh ((u.1 9).1 3).toNatClampNeg 0)), (0, .ref (z 9 0))]) cx.1 cx.2.1 dX9_goes_175 rfl hl (by decide) rfl (fun ls hl => ?_)
  refine lv_aload_n (pc := 176) cx.1 cx.2.1 dX9_goes_176 rfl (lv_at hl 1 rfl) ?_
  refine k_getI (pc := 177) (u := u) (v := ((u.1 9).1 7)) cx hw (ln_PL_walk_7 d z hh cf nh) (C := RX9) (T := TX9) (N := 11) rfl in_X9 (by decide) q376 (fun _ h9 => h9) rfl dX9_goes_177 ?_
  refine lv_aload_n (pc := 180) cx.1 cx.2.1 dX9_goes_180 rfl (lv_at hl 0 rfl) ?_
  refine k_getIN (pc := 181) (u := u) (v := ((u.2 (((u.1 9).1 3).toNatClampNeg)).1 2)) cx hw (lhn_PL_2 d z hh cf nh hs1) (C := RX11) (T := TX11) (N := 3) rfl in_X11 (by decide) (nq449 cx.2.2.2.2.2.1) (fun _ h9 => h9) rfl dX9_goes_181 ?_
  refine lv_icmp_lt (pc := 184) (tgt := 189) cx.1 cx.2.1 dX9_goes_184 (by decide) (fun c2 => ?_) (fun c2 => ?_)
  · replace hwp := hwp.1 c2
    refine lv_aload_n (pc := 189) cx.1 cx.2.1 dX9_goes_189 rfl (lv_at hl 1 rfl) ?_
    refine lv_aload_n (pc := 190) cx.1 cx.2.1 dX9_goes_190 rfl (lv_at hl 0 rfl) ?_
    refine k_getRN (pc := 191) (u := u) (v := .ref (hh (((u.1 9).1 3).toNatClampNeg) 1)) cx hw (lhr_PL_0 d z hh cf nh hs1) (C := RX11) (T := TX11) (N := 3) rfl in_X11 (by decide) (nq443 cx.2.2.2.2.2.1) (fun _ h9 => h9) rfl dX9_goes_191 ?_
    refine lv_aload_n (pc := 194) cx.1 cx.2.1 dX9_goes_194 rfl (lv_at hl 1 rfl) ?_
    refine k_getI (pc := 195) (u := u) (v := ((u.1 9).1 7)) cx hw (ln_PL_walk_7 d z hh cf nh) (C := RX9) (T := TX9) (N := 11) rfl in_X9 (by decide) q376 (fun _ h9 => h9) rfl dX9_goes_195 ?_
    refine k_iald (pc := 198) (u := u) (f := ((u.2 (((u.1 9).1 3).toNatClampNeg)).2.1 0)) cx hw (lhx_PL_0 d z hh cf nh hs1) 0 rfl rfl hwp.1 dX9_goes_198 ?_
    replace hwp := hwp.2
    refine lv_topi (fun y3 ey3 => ?_)
    replace hwp := hwp y3 ey3
    refine k_putI (pc := 199) (u := u) (v := y3) cx hw (ln_PL_walk_0 d z hh cf nh) (C := RX9) (T := TX9) (N := 11) rfl in_X9 tyX9 tyX9_ok nmX9 (by decide) q256 (u_same (cx.2.2.2.2.1 _ q257)) rfl rfl rfl dX9_goes_199 (fun H locs hw => ?_)
    refine lv_aload_n (pc := 202) cx.1 cx.2.1 dX9_goes_202 rfl (lv_at hl 1 rfl) ?_
    refine lv_aload_n (pc := 203) cx.1 cx.2.1 dX9_goes_203 rfl (lv_at hl 0 rfl) ?_
    refine k_getRN (pc := 204) (u := (ps_I u 9 0 y3)) (v := .ref (hh (((u.1 9).1 3).toNatClampNeg) 2)) cx hw (lhr_PL_1 d z hh cf nh hs1) (C := RX11) (T := TX11) (N := 3) rfl in_X11 (by decide) (nq446 cx.2.2.2.2.2.1) (fun _ h9 => h9) rfl dX9_goes_204 ?_
    refine lv_aload_n (pc := 207) cx.1 cx.2.1 dX9_goes_207 rfl (lv_at hl 1 rfl) ?_
    refine k_getI (pc := 208) (u := (ps_I u 9 0 y3)) (v := ((u.1 9).1 7)) cx hw (ln_PL_walk_7 d z hh cf nh) (C := RX9) (T := TX9) (N := 11) rfl in_X9 (by decide) q376 (fun _ h9 => h9) rfl dX9_goes_208 ?_
    refine k_iald (pc := 211) (u := (ps_I u 9 0 y3)) (f := ((u.2 (((u.1 9).1 3).toNatClampNeg)).2.1 1)) cx hw (lhx_PL_1 d z hh cf nh hs1) 0 rfl rfl hwp.1 dX9_goes_211 ?_
    replace hwp := hwp.2
    refine lv_topi (fun y4 ey4 => ?_)
    replace hwp := hwp y4 ey4
    refine k_putI (pc := 212) (u := (ps_I u 9 0 y3)) (v := y4) cx hw (ln_PL_walk_1 d z hh cf nh) (C := RX9) (T := TX9) (N := 11) rfl in_X9 tyX9 tyX9_ok nmX9 (by decide) q263 (u_same (cx.2.2.2.2.1 _ q264)) rfl rfl rfl dX9_goes_212 (fun H locs hw => ?_)
    refine lv_aload_n (pc := 215) cx.1 cx.2.1 dX9_goes_215 rfl (lv_at hl 1 rfl) ?_
    refine lv_dup (pc := 216) cx.1 cx.2.1 dX9_goes_216 rfl ?_
    refine k_getI (pc := 217) (u := (ps_I (ps_I u 9 0 y3) 9 1 y4)) (v := ((u.1 9).1 7)) cx hw (ln_PL_walk_7 d z hh cf nh) (C := RX9) (T := TX9) (N := 11) rfl in_X9 (by decide) q376 (fun _ h9 => h9) rfl dX9_goes_217 ?_
    refine lv_iconst (pc := 220) (v := 1) cx.1 cx.2.1 dX9_goes_220 (by decide) ?_
    refine lv_iadd (pc := 221) cx.1 cx.2.1 dX9_goes_221 ?_
    refine k_putI (pc := 222) (u := (ps_I (ps_I u 9 0 y3) 9 1 y4)) (v := (((u.1 9).1 7) + (1 : Int32))) cx hw (ln_PL_walk_7 d z hh cf nh) (C := RX9) (T := TX9) (N := 11) rfl in_X9 tyX9 tyX9_ok nmX9 (by decide) q376 (fun _ h9 => h9) rfl rfl rfl dX9_goes_222 (fun H locs hw => ?_)
    refine lv_iconst (pc := 225) (v := 1) cx.1 cx.2.1 dX9_goes_225 (by decide) ?_
    exact k_zret (pc := 226) (wf := (wP d nh hh cf z)) (u := (ps_I (ps_I (ps_I u 9 0 y3) 9 1 y4) 9 7 (((u.1 9).1 7) + (1 : Int32)))) cx hw rfl hwp (by decide) (by decide) dX9_goes_226
  · replace hwp := hwp.2 c2
    refine lv_iconst (pc := 187) (v := 0) cx.1 cx.2.1 dX9_goes_187 (by decide) ?_
    exact k_zret (pc := 188) (wf := (wP d nh hh cf z)) (u := u) cx hw rfl hwp (by decide) (by decide) dX9_goes_188
set_option maxHeartbeats 4000000 in
theorem wk_X9_goes_0 {p : Program} {l : Launch} {e : Env} {s : State} {m : MethodId} {args : Array Value} {below : List Frame} {meth : Method} {c : Code} {A : Nat → Prop} {dC : Nat → ClassId} {dI : Nat → Nat → Nat} {d : Nat → ClassId} {z : Nat → Nat → Nat} {hh : Nat → Nat → Nat} {cf : List Value}{nh : Nat} {K : Int32 → PS → Prop} (cx : Cx p s m args meth c cX9_goes RX9 2 (some .boolean) A dC dI d) : ∀ (n : Nat)  (u : PS) (H : Heap) (locs : List Loc) (ls : Array Slot), wp_X9_goes_0 nh K n  u → Wd dC dI A ((wP d nh hh cf z) u) s H locs → lv_has ls 2 [(0, .ref (z 9 0))] → W p l e ({ frames := 4, cells := 0, slots := 0, locals := 86 } : Room) s m args below meth c H locs 0 0 (MQ below (kQi dC dI (wP d nh hh cf z) K A) args s 0 0 A) (F0 m 0 ls []) := by
  intro n
  induction n with
  | zero =>
    intros; contradiction
  | succ n ih =>
    intro  u H locs ls hwp hw hl
    unfold wp_X9_goes_0 at hwp
    refine lv_aload_n (pc := 0) cx.1 cx.2.1 dX9_goes_0 rfl (lv_at hl 0 rfl) ?_
    refine k_getI (pc := 1) (u := u) (v := ((u.1 9).1 6)) cx hw (ln_PL_walk_6 d z hh cf nh) (C := RX9) (T := TX9) (N := 11) rfl in_X9 (by decide) q375 (fun _ h9 => h9) rfl dX9_goes_1 ?_
    refine lv_aload_n (pc := 4) cx.1 cx.2.1 dX9_goes_4 rfl (lv_at hl 0 rfl) ?_
    refine k_getR (pc := 5) (u := u) (v := .ref (z 0 0)) cx hw (lr_PL_walk_10 d z hh cf nh) (C := RX9) (T := TX9) (N := 11) rfl in_X9 (by decide) q380 (fun _ h9 => h9) rfl dX9_goes_5 ?_
    refine k_getRN (pc := 8) (u := u) (v := .ref (z 4 0)) cx hw (lr_PL_pl_7 d z hh cf nh) (C := RX1) (T := TX1) (N := 21) rfl in_X1 (by decide) (nq486 cx.2.2.2.2.2.1) (fun _ h9 => h9) rfl dX9_goes_8 ?_
    refine k_getRN (pc := 11) (u := u) (v := .ref (z 4 5)) cx hw (lr_PL_now_6 d z hh cf nh) (C := RX7) (T := TX7) (N := 7) rfl in_X7 (by decide) (nq342 cx.2.2.2.2.2.1) (fun _ h9 => h9) rfl dX9_goes_11 ?_
    refine lv_aload_n (pc := 14) cx.1 cx.2.1 dX9_goes_14 rfl (lv_at hl 0 rfl) ?_
    refine k_getI (pc := 15) (u := u) (v := ((u.1 9).1 3)) cx hw (ln_PL_walk_3 d z hh cf nh) (C := RX9) (T := TX9) (N := 11) rfl in_X9 (by decide) q372 (fun _ h9 => h9) rfl dX9_goes_15 ?_
    refine lv_iconst (pc := 18) (v := 1) cx.1 cx.2.1 dX9_goes_18 (by decide) ?_
    refine lv_iadd (pc := 19) cx.1 cx.2.1 dX9_goes_19 ?_
    refine k_iald (pc := 20) (u := u) (f := ((u.1 4).2.1 6)) cx hw (lx_PL_now_6 d z hh cf nh) 0 rfl rfl hwp.1 dX9_goes_20 ?_
    replace hwp := hwp.2
    refine lv_icmp_ge (pc := 21) (tgt := 163) cx.1 cx.2.1 dX9_goes_21 (by decide) (fun c1 => ?_) (fun c1 => ?_)
    · replace hwp := hwp.1 c1
      exact wk_X9_goes_163 cx  _ _ _ _ hwp hw (lv_sub hl [0] rfl)
    · replace hwp := hwp.2 c1
      refine lv_aload_n (pc := 24) cx.1 cx.2.1 dX9_goes_24 rfl (lv_at hl 0 rfl) ?_
      refine k_getI (pc := 25) (u := u) (v := ((u.1 9).1 8)) cx hw (ln_PL_walk_8 d z hh cf nh) (C := RX9) (T := TX9) (N := 11) rfl in_X9 (by decide) q377 (fun _ h9 => h9) rfl dX9_goes_25 ?_
      refine lv_if_ne (pc := 28) (tgt := 104) cx.1 cx.2.1 dX9_goes_28 (by decide) (fun c2 => ?_) (fun c2 => ?_)
      · replace hwp := hwp.1 c2
        exact wk_X9_goes_104 cx ih  _ _ _ _ hwp hw (lv_sub hl [0] rfl)
      · replace hwp := hwp.2 c2
        refine lv_aload_n (pc := 31) cx.1 cx.2.1 dX9_goes_31 rfl (lv_at hl 0 rfl) ?_
        refine k_getR (pc := 32) (u := u) (v := .ref (z 0 0)) cx hw (lr_PL_walk_10 d z hh cf nh) (C := RX9) (T := TX9) (N := 11) rfl in_X9 (by decide) q380 (fun _ h9 => h9) rfl dX9_goes_32 ?_
        refine k_getRN (pc := 35) (u := u) (v := .ref (z 4 0)) cx hw (lr_PL_pl_7 d z hh cf nh) (C := RX1) (T := TX1) (N := 21) rfl in_X1 (by decide) (nq486 cx.2.2.2.2.2.1) (fun _ h9 => h9) rfl dX9_goes_35 ?_
        refine k_getRN (pc := 38) (u := u) (v := .ref (z 5 0)) cx hw (lr_PL_now_0 d z hh cf nh) (C := RX7) (T := TX7) (N := 7) rfl in_X7 (by decide) (nq328 cx.2.2.2.2.2.1) (fun _ h9 => h9) rfl dX9_goes_38 ?_
        refine lv_aload_n (pc := 41) cx.1 cx.2.1 dX9_goes_41 rfl (lv_at hl 0 rfl) ?_
        refine k_getI (pc := 42) (u := u) (v := ((u.1 9).1 6)) cx hw (ln_PL_walk_6 d z hh cf nh) (C := RX9) (T := TX9) (N := 11) rfl in_X9 (by decide) q375 (fun _ h9 => h9) rfl dX9_goes_42 ?_
        refine lv_aload_n (pc := 45) cx.1 cx.2.1 dX9_goes_45 rfl (lv_at hl 0 rfl) ?_
        refine k_getI (pc := 46) (u := u) (v := ((u.1 9).1 4)) cx hw (ln_PL_walk_4 d z hh cf nh) (C := RX9) (T := TX9) (N := 11) rfl in_X9 (by decide) q373 (fun _ h9 => h9) rfl dX9_goes_46 ?_
        refine lv_aload_n (pc := 49) cx.1 cx.2.1 dX9_goes_49 rfl (lv_at hl 0 rfl) ?_
        refine k_getI (pc := 50) (u := u) (v := ((u.1 9).1 5)) cx hw (ln_PL_walk_5 d z hh cf nh) (C := RX9) (T := TX9) (N := 11) rfl in_X9 (by decide) q374 (fun _ h9 => h9) rfl dX9_goes_50 ?_
        have hpt := k_part (w := (wSp d (z 5)) (u.1 5)) (is := [16, 17, 18, 19, 20, 21, 22]) hw (pc_PL_X8_nowsp d z hh cf nh u) (by decide)
        refine k_part_i (pc := 53) (wf := (wSp d (z 5))) (u := (u.1 5)) cx hw [16, 17, 18, 19, 20, 21, 22] (pc_PL_X8_nowsp d z hh cf nh u) (by decide) (fun _ => rfl) (pw_PL_X8_nowsp d z hh cf nh u) (k_runV (pc := 53) (rest := []) (As := [.int ((u.1 9).1 6), .int ((u.1 9).1 4), .int ((u.1 9).1 5)]) cx hpt.1 hpt.2 hw.2.2 (k_recv cx hw 16 (ci := 6) (q := (RX8, TX8, 6)) rfl rfl) (m_X8_isOut l dC dI d (z 5)  (u.1 5) ((u.1 9).1 6) ((u.1 9).1 4) ((u.1 9).1 5) hwp H.size) (cwV 3 cx.2.2.2.2.1 (lw_V q820 q754 q755 q84 q756) rfl rfl rfl hdV_X8_isOut ⟨Nat.le_of_ble_eq_true rfl, Nat.le_of_ble_eq_true rfl⟩) rfl hl.1 rfl (Nat.le_of_ble_eq_true rfl) dX9_goes_53 ⟨Nat.le_of_ble_eq_true rfl, Nat.le_of_ble_eq_true rfl⟩) (fun r4 v3 H locs hwp hw => ?_)
        refine lv_if_ne (pc := 56) (tgt := 104) cx.1 cx.2.1 dX9_goes_56 (by decide) (fun c5 => ?_) (fun c5 => ?_)
        · replace hwp := hwp.1 c5
          exact wk_X9_goes_104 cx ih  _ _ _ _ hwp hw (lv_sub hl [0] rfl)
        · replace hwp := hwp.2 c5
          refine lv_aload_n (pc := 59) cx.1 cx.2.1 dX9_goes_59 rfl (lv_at hl 0 rfl) ?_
          refine k_getR (pc := 60) (u := (ps_O u 5 v3)) (v := .ref (z 10 0)) cx hw (lr_PL_walk_2 d z hh cf nh) (C := RX9) (T := TX9) (N := 11) rfl in_X9 (by decide) q371 (fun _ h9 => h9) rfl dX9_goes_60 ?_
          refine lv_aload_n (pc := 63) cx.1 cx.2.1 dX9_goes_63 rfl (lv_at hl 0 rfl) ?_
          refine k_getR (pc := 64) (u := (ps_O u 5 v3)) (v := .ref (z 0 0)) cx hw (lr_PL_walk_10 d z hh cf nh) (C := RX9) (T := TX9) (N := 11) rfl in_X9 (by decide) q380 (fun _ h9 => h9) rfl dX9_goes_64 ?_
          refine k_getRN (pc := 67) (u := (ps_O u 5 v3)) (v := .ref (z 4 0)) cx hw (lr_PL_pl_7 d z hh cf nh) (C := RX1) (T := TX1) (N := 21) rfl in_X1 (by decide) (nq486 cx.2.2.2.2.2.1) (fun _ h9 => h9) rfl dX9_goes_67 ?_
          refine k_getRN (pc := 70) (u := (ps_O u 5 v3)) (v := .ref (z 4 2)) cx hw (lr_PL_now_2 d z hh cf nh) (C := RX7) (T := TX7) (N := 7) rfl in_X7 (by decide) (nq333 cx.2.2.2.2.2.1) (fun _ h9 => h9) rfl dX9_goes_70 ?_
          refine lv_aload_n (pc := 73) cx.1 cx.2.1 dX9_goes_73 rfl (lv_at hl 0 rfl) ?_
          refine k_getI (pc := 74) (u := (ps_O u 5 v3)) (v := ((u.1 9).1 6)) cx hw (ln_PL_walk_6 d z hh cf nh) (C := RX9) (T := TX9) (N := 11) rfl in_X9 (by decide) q375 (fun _ h9 => h9) rfl dX9_goes_74 ?_
          refine k_cald (pc := 77) (u := (ps_O u 5 v3)) (f := ((u.1 4).2.1 2)) cx hw (lx_PL_now_2 d z hh cf nh) 4 rfl rfl hwp.1 dX9_goes_77 ?_
          replace hwp := hwp.2
          refine lv_aload_n (pc := 78) cx.1 cx.2.1 dX9_goes_78 rfl (lv_at hl 0 rfl) ?_
          refine k_getR (pc := 79) (u := (ps_O u 5 v3)) (v := .ref (z 0 0)) cx hw (lr_PL_walk_10 d z hh cf nh) (C := RX9) (T := TX9) (N := 11) rfl in_X9 (by decide) q380 (fun _ h9 => h9) rfl dX9_goes_79 ?_
          refine k_getRN (pc := 82) (u := (ps_O u 5 v3)) (v := .ref (z 4 0)) cx hw (lr_PL_pl_7 d z hh cf nh) (C := RX1) (T := TX1) (N := 21) rfl in_X1 (by decide) (nq486 cx.2.2.2.2.2.1) (fun _ h9 => h9) rfl dX9_goes_82 ?_
          refine k_getRN (pc := 85) (u := (ps_O u 5 v3)) (v := .ref (z 5 0)) cx hw (lr_PL_now_0 d z hh cf nh) (C := RX7) (T := TX7) (N := 7) rfl in_X7 (by decide) (nq328 cx.2.2.2.2.2.1) (fun _ h9 => h9) rfl dX9_goes_85 ?_
          refine k_getRN (pc := 88) (u := (ps_O u 5 v3)) (v := .ref (z 5 5)) cx hw (lr_PL_nowsp_4 d z hh cf nh) (C := RX8) (T := TX8) (N := 6) rfl in_X8 (by decide) (nq306 cx.2.2.2.2.2.1) (fun _ h9 => h9) rfl dX9_goes_88 ?_
          refine lv_aload_n (pc := 91) cx.1 cx.2.1 dX9_goes_91 rfl (lv_at hl 0 rfl) ?_
          refine k_getI (pc := 92) (u := (ps_O u 5 v3)) (v := ((u.1 9).1 6)) cx hw (ln_PL_walk_6 d z hh cf nh) (C := RX9) (T := TX9) (N := 11) rfl in_X9 (by decide) q375 (fun _ h9 => h9) rfl dX9_goes_92 ?_
          refine k_sald (pc := 95) (u := (ps_O u 5 v3)) (f := (v3.2.1 4)) cx hw (lx_PL_nowsp_4 d z hh cf nh) 1 rfl rfl hwp.1 dX9_goes_95 ?_
          replace hwp := hwp.2
          have hpt := k_part (w := (wf_X6 d (z 10) (z 1 1) ((u.1 1).2.1 0)) (u.1 10)) (is := [44, 5]) hw (pc_PL_X6_win d z hh cf nh (ps_O u 5 v3)) (by decide)
          refine k_part_v (pc := 96) (wf := (wf_X6 d (z 10) (z 1 1) ((u.1 1).2.1 0))) (u := (u.1 10)) cx hw [44, 5] (pc_PL_X6_win d z hh cf nh (ps_O u 5 v3)) (by decide) (fun _ => rfl) (pw_PL_X6_win d z hh cf nh (ps_O u 5 v3)) (k_runV (pc := 96) (rest := []) (As := [.int (((u.1 4).2.1 2) ((u.1 9).1 6).toNatClampNeg), .int ((v3.2.1 4) ((u.1 9).1 6).toNatClampNeg)]) cx hpt.1 hpt.2 hw.2.2 (k_recv cx hw 44 (ci := 4) (q := (RX6, TX6, 7)) rfl rfl) (m_X6_begin l dC dI d (z 10) (z 1 1) ((u.1 1).2.1 0) (u.1 10) (((u.1 4).2.1 2) ((u.1 9).1 6).toNatClampNeg) ((v3.2.1 4) ((u.1 9).1 6).toNatClampNeg) hwp H.size) (cwV 2 cx.2.2.2.2.1 (lw_V q821 q710 q711 q82 q712) rfl rfl rfl hdV_X6_begin ⟨Nat.le_of_ble_eq_true rfl, Nat.le_of_ble_eq_true rfl⟩) rfl hl.1 rfl (Nat.le_of_ble_eq_true rfl) dX9_goes_96 ⟨Nat.le_of_ble_eq_true rfl, Nat.le_of_ble_eq_true rfl⟩) (fun v6 H locs hwp hw => ?_)
          refine lv_aload_n (pc := 99) cx.1 cx.2.1 dX9_goes_99 rfl (lv_at hl 0 rfl) ?_
          refine lv_iconst (pc := 100) (v := 1) cx.1 cx.2.1 dX9_goes_100 (by decide) ?_
          refine k_putI (pc := 101) (u := (ps_O (ps_O u 5 v3) 10 v6)) (v := (1 : Int32)) cx hw (ln_PL_walk_8 d z hh cf nh) (C := RX9) (T := TX9) (N := 11) rfl in_X9 tyX9 tyX9_ok nmX9 (by decide) q377 (fun _ h9 => h9) rfl rfl rfl dX9_goes_101 (fun H locs hw => ?_)
          exact wk_X9_goes_104 cx ih  _ _ _ _ hwp hw (lv_sub hl [0] rfl)
set_option maxHeartbeats 4000000 in
theorem m_X9_goes (l : Launch) (dC : Nat → ClassId) (dI : Nat → Nat → Nat) (d : Nat → ClassId) (z : Nat → Nat → Nat) (hh : Nat → Nat → Nat) (cf : List Value) (nh : Nat) (u : PS) {K : Int32 → PS → Prop} (hwp : wp_X9_goes nh u K) : kM l yX9_goes cX9_goes 2 (some .boolean) ({ frames := 4, cells := 0, slots := 0, locals := 86 } : Room) dC dI d [.ref (z 9 0)] (wP d nh hh cf z) u (kQi dC dI (wP d nh hh cf z) K) 0 0 := by
  refine kM_start rfl (Nat.le_of_ble_eq_true rfl) ?_
  intro p e s m below meth c A ls cx hnm hw hl
  generalize hargs : ([.ref (z 9 0)] : List Value).toArray = args at cx ⊢
  unfold wp_X9_goes at hwp
  replace hl : lv_has ls 2 [(0, .ref (z 9 0))] := hl
  generalize hH : s.heap = H at hw ⊢
  generalize hlo : ([] : List Loc) = locs at hw ⊢
  obtain ⟨n0, hwp⟩ := hwp
  exact wk_X9_goes_0 cx n0  _ _ _ _ hwp hw (lv_sub hl [0] rfl)
set_option maxHeartbeats 4000000 in
theorem wk_X9_step_0 {p : Program} {l : Launch} {e : Env} {s : State} {m : MethodId} {args : Array Value} {below : List Frame} {meth : Method} {c : Code} {A : Nat → Prop} {dC : Nat → ClassId} {dI : Nat → Nat → Nat} {d : Nat → ClassId} {z : Nat → Nat → Nat} {hh : Nat → Nat → Nat} {cf : List Value}{nh : Nat} {K : Int32 → PS → Prop} (cx : Cx p s m args meth c cX9_step RX9 1 (some .boolean) A dC dI d) : ∀ (n : Nat)  (u : PS) (H : Heap) (locs : List Loc) (ls : Array Slot), wp_X9_step_0 nh K n  u → Wd dC dI A ((wP d nh hh cf z) u) s H locs → lv_has ls 1 [(0, .ref (z 9 0))] → W p l e ({ frames := 5, cells := 0, slots := 0, locals := 107 } : Room) s m args below meth c H locs 0 0 (MQ below (kQi dC dI (wP d nh hh cf z) K A) args s 0 0 A) (F0 m 0 ls []) := by
  intro n
  induction n with
  | zero =>
    intros; contradiction
  | succ n ih =>
    intro  u H locs ls hwp hw hl
    unfold wp_X9_step_0 at hwp
    refine lv_aload_n (pc := 0) cx.1 cx.2.1 dX9_step_0 rfl (lv_at hl 0 rfl) ?_
    refine lv_aload_n (pc := 1) cx.1 cx.2.1 dX9_step_1 rfl (lv_at hl 0 rfl) ?_
    refine k_whole_i (pc := 2) (wf := (wP d nh hh cf z)) (u := u) cx hw (k_runV (pc := 2) (rest := [.ref (z 9 0)]) (As := []) cx hw.1 (hw.2.1.weaken (fun _ _ _ _ => trivial)) hw.2.2 (k_recv cx hw 43 (ci := 7) (q := (RX9, TX9, 11)) rfl rfl) (m_X9_goes l dC dI d z hh cf nh u  hwp H.size) (cwV 0 cx.2.2.2.2.1 (lw_V q816 q818 qs26 q85 q819) rfl rfl rfl hdV_X9_goes ⟨Nat.le_of_ble_eq_true rfl, Nat.le_of_ble_eq_true rfl⟩) rfl hl.1 rfl (Nat.le_of_ble_eq_true rfl) dX9_step_2 ⟨Nat.le_of_ble_eq_true rfl, Nat.le_of_ble_eq_true rfl⟩) (fun r2 u1 H locs hwp hw => ?_)
    refine k_putI (pc := 5) (u := u1) (v := r2) cx hw (ln_PL_walk_9 d z hh cf nh) (C := RX9) (T := TX9) (N := 11) rfl in_X9 tyX9 tyX9_ok nmX9 (by decide) q378 (fun _ h9 => h9) rfl (ok_Zn hwp.1) (ok_Zf hwp.1) dX9_step_5 (fun H locs hw => ?_)
    replace hwp := hwp.2
    refine lv_aload_n (pc := 8) cx.1 cx.2.1 dX9_step_8 rfl (lv_at hl 0 rfl) ?_
    refine k_getI (pc := 9) (u := (ps_I u1 9 9 r2)) (v := r2) cx hw (ln_PL_walk_9 d z hh cf nh) (C := RX9) (T := TX9) (N := 11) rfl in_X9 (by decide) q378 (fun _ h9 => h9) rfl dX9_step_9 ?_
    refine lv_if_eq (pc := 12) (tgt := 37) cx.1 cx.2.1 dX9_step_12 (by decide) (fun c3 => ?_) (fun c3 => ?_)
    · replace hwp := hwp.1 c3
      refine lv_aload_n (pc := 37) cx.1 cx.2.1 dX9_step_37 rfl (lv_at hl 0 rfl) ?_
      refine k_getI (pc := 38) (u := (ps_I u1 9 9 r2)) (v := r2) cx hw (ln_PL_walk_9 d z hh cf nh) (C := RX9) (T := TX9) (N := 11) rfl in_X9 (by decide) q378 (fun _ h9 => h9) rfl dX9_step_38 ?_
      exact k_zret (pc := 41) (wf := (wP d nh hh cf z)) (u := (ps_I u1 9 9 r2)) cx hw (ok_Zn hwp.1) hwp.2 (by decide) (by decide) dX9_step_41
    · replace hwp := hwp.2 c3
      refine lv_aload_n (pc := 15) cx.1 cx.2.1 dX9_step_15 rfl (lv_at hl 0 rfl) ?_
      refine k_getI (pc := 16) (u := (ps_I u1 9 9 r2)) (v := ((u1.1 9).1 0)) cx hw (ln_PL_walk_0 d z hh cf nh) (C := RX9) (T := TX9) (N := 11) rfl in_X9 (by decide) q256 (u_same (cx.2.2.2.2.1 _ q257)) rfl dX9_step_16 ?_
      refine lv_aload_n (pc := 19) cx.1 cx.2.1 dX9_step_19 rfl (lv_at hl 0 rfl) ?_
      refine k_getI (pc := 20) (u := (ps_I u1 9 9 r2)) (v := ((u1.1 9).1 4)) cx hw (ln_PL_walk_4 d z hh cf nh) (C := RX9) (T := TX9) (N := 11) rfl in_X9 (by decide) q373 (fun _ h9 => h9) rfl dX9_step_20 ?_
      refine lv_icmp_lt (pc := 23) (tgt := 0) cx.1 cx.2.1 dX9_step_23 (by decide) (fun c4 => ?_) (fun c4 => ?_)
      · replace hwp := hwp.1 c4
        exact ih  _ _ _ _ hwp hw (lv_sub hl [0] rfl)
      · replace hwp := hwp.2 c4
        refine lv_aload_n (pc := 26) cx.1 cx.2.1 dX9_step_26 rfl (lv_at hl 0 rfl) ?_
        refine k_getI (pc := 27) (u := (ps_I u1 9 9 r2)) (v := ((u1.1 9).1 0)) cx hw (ln_PL_walk_0 d z hh cf nh) (C := RX9) (T := TX9) (N := 11) rfl in_X9 (by decide) q256 (u_same (cx.2.2.2.2.1 _ q257)) rfl dX9_step_27 ?_
        refine lv_aload_n (pc := 30) cx.1 cx.2.1 dX9_step_30 rfl (lv_at hl 0 rfl) ?_
        refine k_getI (pc := 31) (u := (ps_I u1 9 9 r2)) (v := ((u1.1 9).1 5)) cx hw (ln_PL_walk_5 d z hh cf nh) (C := RX9) (T := TX9) (N := 11) rfl in_X9 (by decide) q374 (fun _ h9 => h9) rfl dX9_step_31 ?_
        refine lv_icmp_gt (pc := 34) (tgt := 0) cx.1 cx.2.1 dX9_step_34 (by decide) (fun c5 => ?_) (fun c5 => ?_)
        · replace hwp := hwp.1 c5
          exact ih  _ _ _ _ hwp hw (lv_sub hl [0] rfl)
        · replace hwp := hwp.2 c5
          refine lv_aload_n (pc := 37) cx.1 cx.2.1 dX9_step_37 rfl (lv_at hl 0 rfl) ?_
          refine k_getI (pc := 38) (u := (ps_I u1 9 9 r2)) (v := r2) cx hw (ln_PL_walk_9 d z hh cf nh) (C := RX9) (T := TX9) (N := 11) rfl in_X9 (by decide) q378 (fun _ h9 => h9) rfl dX9_step_38 ?_
          exact k_zret (pc := 41) (wf := (wP d nh hh cf z)) (u := (ps_I u1 9 9 r2)) cx hw (ok_Zn hwp.1) hwp.2 (by decide) (by decide) dX9_step_41
set_option maxHeartbeats 4000000 in
theorem m_X9_step (l : Launch) (dC : Nat → ClassId) (dI : Nat → Nat → Nat) (d : Nat → ClassId) (z : Nat → Nat → Nat) (hh : Nat → Nat → Nat) (cf : List Value) (nh : Nat) (u : PS) {K : Int32 → PS → Prop} (hwp : wp_X9_step nh u K) : kM l yX9_step cX9_step 1 (some .boolean) ({ frames := 5, cells := 0, slots := 0, locals := 107 } : Room) dC dI d [.ref (z 9 0)] (wP d nh hh cf z) u (kQi dC dI (wP d nh hh cf z) K) 0 0 := by
  refine kM_start rfl (Nat.le_of_ble_eq_true rfl) ?_
  intro p e s m below meth c A ls cx hnm hw hl
  generalize hargs : ([.ref (z 9 0)] : List Value).toArray = args at cx ⊢
  unfold wp_X9_step at hwp
  replace hl : lv_has ls 1 [(0, .ref (z 9 0))] := hl
  generalize hH : s.heap = H at hw ⊢
  generalize hlo : ([] : List Loc) = locs at hw ⊢
  obtain ⟨n0, hwp⟩ := hwp
  exact wk_X9_step_0 cx n0  _ _ _ _ hwp hw (lv_sub hl [0] rfl)
