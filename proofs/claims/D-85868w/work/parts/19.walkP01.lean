set_option maxRecDepth 100000
set_option maxHeartbeats 4000000 in
theorem wk_X1_gather_84 {p : Program} {l : Launch} {e : Env} {s : State} {m : MethodId} {args : Array Value} {below : List Frame} {meth : Method} {c : Code} {A : Nat → Prop} {dC : Nat → ClassId} {dI : Nat → Nat → Nat} {d : Nat → ClassId} {z : Nat → Nat → Nat} {hh : Nat → Nat → Nat} {cf : List Value}{nh : Nat} {C27 : Int32 → Int32 → Int32 → PS → Prop} {K : PS → Prop} (cx : Cx p s m args meth c cX1_gather RX1 5 none A dC dI d) (hC27 : ∀ (x1 : Int32) (x2 : Int32) (x3 : Int32) (u : PS) (H : Heap) (locs : List Loc) (ls : Array Slot), C27 x1 x2 x3 u → Wd dC dI A ((wP d nh hh cf z) u) s H locs → lv_has ls 5 [(0, .ref (z 0 0)), (1, .int x1), (2, .int x2), (3, .int x3)] → W p l e ({ frames := 2, cells := 0, slots := 0, locals := 45 } : Room) s m args below meth c H locs 0 0 (MQ below (kQv dC dI (wP d nh hh cf z) K A) args s 0 0 A) (F0 m 27 ls [])) : ∀ (x1 : Int32) (x2 : Int32) (x3 : Int32) (u : PS) (H : Heap) (locs : List Loc) (ls : Array Slot), wp_X1_gather_84 nh C27 K x1 x2 x3 u → Wd dC dI A ((wP d nh hh cf z) u) s H locs → lv_has ls 5 [(0, .ref (z 0 0)), (1, .int x1), (2, .int x2), (3, .int x3)] → W p l e ({ frames := 2, cells := 0, slots := 0, locals := 45 } : Room) s m args below meth c H locs 0 0 (MQ below (kQv dC dI (wP d nh hh cf z) K A) args s 0 0 A) (F0 m 84 ls []) := by
  intro x1 x2 x3 u H locs ls hwp hw hl
  unfold wp_X1_gather_84 at hwp
  refine lv_aload_n (pc := 84) cx.1 cx.2.1 dX1_gather_84 rfl (lv_at hl 0 rfl) ?_
  refine k_getR (pc := 85) (u := u) (v := .ref (z 8 0)) cx hw (lr_PL_pl_9 d z hh cf nh) (C := RX1) (T := TX1) (N := 21) rfl in_X1 (by decide) q488 (fun _ h9 => h9) rfl dX1_gather_85 ?_
  refine lv_iload_n (pc := 88) cx.1 cx.2.1 dX1_gather_88 rfl (lv_at hl 1 rfl) ?_
  refine lv_iconst (pc := 89) (v := 1) cx.1 cx.2.1 dX1_gather_89 (by decide) ?_
  refine lv_isub (pc := 90) cx.1 cx.2.1 dX1_gather_90 ?_
  refine lv_aload_n (pc := 91) cx.1 cx.2.1 dX1_gather_91 rfl (lv_at hl 0 rfl) ?_
  refine k_getR (pc := 92) (u := u) (v := .ref (z 4 0)) cx hw (lr_PL_pl_7 d z hh cf nh) (C := RX1) (T := TX1) (N := 21) rfl in_X1 (by decide) q485 (fun _ h9 => h9) rfl dX1_gather_92 ?_
  refine k_getRN (pc := 95) (u := u) (v := .ref (z 5 0)) cx hw (lr_PL_now_0 d z hh cf nh) (C := RX7) (T := TX7) (N := 7) rfl in_X7 (by decide) (nq329 cx.2.2.2.2.2.1) (fun _ h9 => h9) rfl dX1_gather_95 ?_
  refine lv_iload_n (pc := 98) cx.1 cx.2.1 dX1_gather_98 rfl (lv_at hl 3 rfl) ?_
  have hpt := k_part (w := (wf_X8j d (z 8) (z 5) (u.1 5)) (u.1 8)) (is := [36, 37, 38, 39, 40, 41, 42, 16, 17, 18, 19, 20, 21, 22]) hw (pc_PL_X8j_groups_nowsp d z hh cf nh u) (by decide)
  refine k_part_v (pc := 99) (wf := (wf_X8j d (z 8) (z 5) (u.1 5))) (u := (u.1 8)) cx hw [36, 37, 38, 39, 40, 41, 42, 16, 17, 18, 19, 20, 21, 22] (pc_PL_X8j_groups_nowsp d z hh cf nh u) (by decide) (fun _ => rfl) (pw_PL_X8j_groups_nowsp d z hh cf nh u) (k_runV (pc := 99) (rest := []) (As := [.int (x1 - (1 : Int32)), .ref (z 5 0), .int x3]) cx hpt.1 hpt.2 hw.2.2 (k_recv cx hw 36 (ci := 6) (q := (RX8, TX8, 6)) rfl rfl) (m_X8_join l dC dI d (z 8) (z 5) (u.1 5) (u.1 8) (x1 - (1 : Int32)) x3 hwp H.size) (cwV 3 cx.2.2.2.2.1 (lw_V q470 q471 q472 q84 q473) rfl rfl rfl hdV_X8_join ⟨Nat.le_of_ble_eq_true rfl, Nat.le_of_ble_eq_true rfl⟩) rfl hl.1 rfl (Nat.le_of_ble_eq_true rfl) dX1_gather_99 ⟨Nat.le_of_ble_eq_true rfl, Nat.le_of_ble_eq_true rfl⟩) (fun v1 H locs hwp hw => ?_)
  refine lv_iinc (pc := 102) (v := (x3 + (1 : Int32))) (lv' := [(3, .int (x3 + (1 : Int32))), (0, .ref (z 0 0)), (1, .int x1), (2, .int x2)]) cx.1 cx.2.1 dX1_gather_102 hl (k := 3) rfl rfl (by decide) rfl (fun ls hl => ?_)
  refine lv_goto (pc := 105) (tgt := 27) cx.1 cx.2.1 dX1_gather_105 (by decide) ?_
  exact hC27 _ _ _ _ _ _ _ hwp hw (lv_sub hl [1, 2, 3, 0] rfl)
set_option maxHeartbeats 4000000 in
theorem wk_X1_gather_27 {p : Program} {l : Launch} {e : Env} {s : State} {m : MethodId} {args : Array Value} {below : List Frame} {meth : Method} {c : Code} {A : Nat → Prop} {dC : Nat → ClassId} {dI : Nat → Nat → Nat} {d : Nat → ClassId} {z : Nat → Nat → Nat} {hh : Nat → Nat → Nat} {cf : List Value}{nh : Nat} {C4 : Int32 → Int32 → PS → Prop} {K : PS → Prop} (cx : Cx p s m args meth c cX1_gather RX1 5 none A dC dI d) (hC4 : ∀ (x1 : Int32) (x2 : Int32) (u : PS) (H : Heap) (locs : List Loc) (ls : Array Slot), C4 x1 x2 u → Wd dC dI A ((wP d nh hh cf z) u) s H locs → lv_has ls 5 [(0, .ref (z 0 0)), (1, .int x1), (2, .int x2)] → W p l e ({ frames := 2, cells := 0, slots := 0, locals := 45 } : Room) s m args below meth c H locs 0 0 (MQ below (kQv dC dI (wP d nh hh cf z) K A) args s 0 0 A) (F0 m 4 ls [])) : ∀ (n : Nat) (x1 : Int32) (x2 : Int32) (x3 : Int32) (u : PS) (H : Heap) (locs : List Loc) (ls : Array Slot), wp_X1_gather_27 nh C4 K n x1 x2 x3 u → Wd dC dI A ((wP d nh hh cf z) u) s H locs → lv_has ls 5 [(0, .ref (z 0 0)), (1, .int x1), (2, .int x2), (3, .int x3)] → W p l e ({ frames := 2, cells := 0, slots := 0, locals := 45 } : Room) s m args below meth c H locs 0 0 (MQ below (kQv dC dI (wP d nh hh cf z) K A) args s 0 0 A) (F0 m 27 ls []) := by
  intro n
  induction n with
  | zero =>
    intros; contradiction
  | succ n ih =>
    intro x1 x2 x3 u H locs ls hwp hw hl
    unfold wp_X1_gather_27 at hwp
    refine lv_iload_n (pc := 27) cx.1 cx.2.1 dX1_gather_27 rfl (lv_at hl 3 rfl) ?_
    refine lv_aload_n (pc := 28) cx.1 cx.2.1 dX1_gather_28 rfl (lv_at hl 0 rfl) ?_
    refine k_getR (pc := 29) (u := u) (v := .ref (z 4 0)) cx hw (lr_PL_pl_7 d z hh cf nh) (C := RX1) (T := TX1) (N := 21) rfl in_X1 (by decide) q485 (fun _ h9 => h9) rfl dX1_gather_29 ?_
    refine k_getRN (pc := 32) (u := u) (v := .ref (z 4 5)) cx hw (lr_PL_now_6 d z hh cf nh) (C := RX7) (T := TX7) (N := 7) rfl in_X7 (by decide) (nq343 cx.2.2.2.2.2.1) (fun _ h9 => h9) rfl dX1_gather_32 ?_
    refine lv_iload_n (pc := 35) cx.1 cx.2.1 dX1_gather_35 rfl (lv_at hl 2 rfl) ?_
    refine lv_iconst (pc := 36) (v := 1) cx.1 cx.2.1 dX1_gather_36 (by decide) ?_
    refine lv_iadd (pc := 37) cx.1 cx.2.1 dX1_gather_37 ?_
    refine k_iald (pc := 38) (u := u) (f := ((u.1 4).2.1 6)) cx hw (lx_PL_now_6 d z hh cf nh) 0 rfl rfl hwp.1 dX1_gather_38 ?_
    replace hwp := hwp.2
    refine lv_icmp_ge (pc := 39) (tgt := 108) cx.1 cx.2.1 dX1_gather_39 (by decide) (fun c1 => ?_) (fun c1 => ?_)
    · replace hwp := hwp.1 c1
      refine lv_iinc (pc := 108) (v := (x2 + (1 : Int32))) (lv' := [(2, .int (x2 + (1 : Int32))), (0, .ref (z 0 0)), (1, .int x1), (3, .int x3)]) cx.1 cx.2.1 dX1_gather_108 hl (k := 2) rfl rfl (by decide) rfl (fun ls hl => ?_)
      refine lv_goto (pc := 111) (tgt := 4) cx.1 cx.2.1 dX1_gather_111 (by decide) ?_
      exact hC4 _ _ _ _ _ _ hwp hw (lv_sub hl [1, 2, 0] rfl)
    · replace hwp := hwp.2 c1
      refine lv_iload_n (pc := 42) cx.1 cx.2.1 dX1_gather_42 rfl (lv_at hl 3 rfl) ?_
      refine lv_aload_n (pc := 43) cx.1 cx.2.1 dX1_gather_43 rfl (lv_at hl 0 rfl) ?_
      refine k_getR (pc := 44) (u := u) (v := .ref (z 4 0)) cx hw (lr_PL_pl_7 d z hh cf nh) (C := RX1) (T := TX1) (N := 21) rfl in_X1 (by decide) q485 (fun _ h9 => h9) rfl dX1_gather_44 ?_
      refine k_getRN (pc := 47) (u := u) (v := .ref (z 4 5)) cx hw (lr_PL_now_6 d z hh cf nh) (C := RX7) (T := TX7) (N := 7) rfl in_X7 (by decide) (nq343 cx.2.2.2.2.2.1) (fun _ h9 => h9) rfl dX1_gather_47 ?_
      refine lv_iload_n (pc := 50) cx.1 cx.2.1 dX1_gather_50 rfl (lv_at hl 2 rfl) ?_
      refine k_iald (pc := 51) (u := u) (f := ((u.1 4).2.1 6)) cx hw (lx_PL_now_6 d z hh cf nh) 0 rfl rfl hwp.1 dX1_gather_51 ?_
      replace hwp := hwp.2
      refine lv_isub (pc := 52) cx.1 cx.2.1 dX1_gather_52 ?_
      refine lv_aload_n (pc := 53) cx.1 cx.2.1 dX1_gather_53 rfl (lv_at hl 0 rfl) ?_
      refine k_getI (pc := 54) (u := u) (v := ((u.1 0).1 2)) cx hw (ln_PL_pl_2 d z hh cf nh) (C := RX1) (T := TX1) (N := 21) rfl in_X1 (by decide) q478 (fun _ h9 => h9) rfl dX1_gather_54 ?_
      refine lv_irem (pc := 57) cx.1 cx.2.1 dX1_gather_57 hwp.1 ?_
      replace hwp := hwp.2
      have hJ3 : ∀ z2 : Int32, z2 = (if ((x3 - (((u.1 4).2.1 6) x2.toNatClampNeg)) - (x3 - (((u.1 4).2.1 6) x2.toNatClampNeg)) / ((u.1 0).1 2) * ((u.1 0).1 2)) = 0 then (1 : Int32) else (0 : Int32)) → W p l e ({ frames := 2, cells := 0, slots := 0, locals := 45 } : Room) s m args below meth c H locs 0 0 (MQ below (kQv dC dI (wP d nh hh cf z) K A) args s 0 0 A) (F0 m 66 ls [.int z2]) := by
        intro z2 ez2
        replace hwp := hwp z2 ez2
        refine lv_istore (pc := 66) (lv' := [(4, .int z2), (0, .ref (z 0 0)), (1, .int x1), (2, .int x2), (3, .int x3)]) cx.1 cx.2.1 dX1_gather_66 hl (by decide) rfl (fun ls hl => ?_)
        refine lv_iload (pc := 68) cx.1 cx.2.1 dX1_gather_68 (lv_at hl 0 rfl) ?_
        refine lv_if_eq (pc := 70) (tgt := 84) cx.1 cx.2.1 dX1_gather_70 (by decide) (fun c4 => ?_) (fun c4 => ?_)
        · replace hwp := hwp.1 c4
          exact wk_X1_gather_84 cx ih _ _ _ _ _ _ _ hwp hw (lv_sub hl [1, 2, 3, 4] rfl)
        · replace hwp := hwp.2 c4
          refine lv_aload_n (pc := 73) cx.1 cx.2.1 dX1_gather_73 rfl (lv_at hl 1 rfl) ?_
          refine k_getR (pc := 74) (u := u) (v := .ref (z 8 0)) cx hw (lr_PL_pl_9 d z hh cf nh) (C := RX1) (T := TX1) (N := 21) rfl in_X1 (by decide) q488 (fun _ h9 => h9) rfl dX1_gather_74 ?_
          refine lv_iload_n (pc := 77) cx.1 cx.2.1 dX1_gather_77 rfl (lv_at hl 2 rfl) ?_
          have hpt := k_part (w := (wSp d (z 8)) (u.1 8)) (is := [36, 37, 38, 39, 40, 41, 42]) hw (pc_PL_X8_groups d z hh cf nh u) (by decide)
          refine k_part_v (pc := 78) (wf := (wSp d (z 8))) (u := (u.1 8)) cx hw [36, 37, 38, 39, 40, 41, 42] (pc_PL_X8_groups d z hh cf nh u) (by decide) (fun _ => rfl) (pw_PL_X8_groups d z hh cf nh u) (k_runV (pc := 78) (rest := []) (As := [.int x1]) cx hpt.1 hpt.2 hw.2.2 (k_recv cx hw 36 (ci := 6) (q := (RX8, TX8, 6)) rfl rfl) (m_X8_begin l dC dI d (z 8)  (u.1 8) x1 hwp H.size) (cwV 1 cx.2.2.2.2.1 (lw_V q466 q467 q468 q84 q469) rfl rfl rfl hdV_X8_begin ⟨Nat.le_of_ble_eq_true rfl, Nat.le_of_ble_eq_true rfl⟩) rfl hl.1 rfl (Nat.le_of_ble_eq_true rfl) dX1_gather_78 ⟨Nat.le_of_ble_eq_true rfl, Nat.le_of_ble_eq_true rfl⟩) (fun v5 H locs hwp hw => ?_)
          refine lv_iinc (pc := 81) (v := (x1 + (1 : Int32))) (lv' := [(1, .int (x1 + (1 : Int32))), (4, .int z2), (0, .ref (z 0 0)), (2, .int x2), (3, .int x3)]) cx.1 cx.2.1 dX1_gather_81 hl (k := 2) rfl rfl (by decide) rfl (fun ls hl => ?_)
          exact wk_X1_gather_84 cx ih _ _ _ _ _ _ _ hwp hw (lv_sub hl [2, 0, 3, 4] rfl)
      clear hwp
      refine lv_if_ne (pc := 58) (tgt := 65) cx.1 cx.2.1 dX1_gather_58 (by decide) (fun c7 => ?_) (fun c7 => ?_)
      · skip
        refine lv_iconst (pc := 65) (v := 0) cx.1 cx.2.1 dX1_gather_65 (by decide) ?_
        exact hJ3 _ (if_neg c7).symm
      · skip
        refine lv_iconst (pc := 61) (v := 1) cx.1 cx.2.1 dX1_gather_61 (by decide) ?_
        refine lv_goto (pc := 62) (tgt := 66) cx.1 cx.2.1 dX1_gather_62 (by decide) ?_
        exact hJ3 _ (if_pos c7).symm
set_option maxHeartbeats 4000000 in
theorem wk_X1_gather_114 {p : Program} {l : Launch} {e : Env} {s : State} {m : MethodId} {args : Array Value} {below : List Frame} {meth : Method} {c : Code} {A : Nat → Prop} {dC : Nat → ClassId} {dI : Nat → Nat → Nat} {d : Nat → ClassId} {z : Nat → Nat → Nat} {hh : Nat → Nat → Nat} {cf : List Value}{nh : Nat} {K : PS → Prop} (cx : Cx p s m args meth c cX1_gather RX1 5 none A dC dI d) : ∀ (x1 : Int32) (u : PS) (H : Heap) (locs : List Loc) (ls : Array Slot), wp_X1_gather_114 nh K x1 u → Wd dC dI A ((wP d nh hh cf z) u) s H locs → lv_has ls 5 [(0, .ref (z 0 0)), (1, .int x1)] → W p l e ({ frames := 2, cells := 0, slots := 0, locals := 45 } : Room) s m args below meth c H locs 0 0 (MQ below (kQv dC dI (wP d nh hh cf z) K A) args s 0 0 A) (F0 m 114 ls []) := by
  intro x1 u H locs ls hwp hw hl
  unfold wp_X1_gather_114 at hwp
  refine lv_aload_n (pc := 114) cx.1 cx.2.1 dX1_gather_114 rfl (lv_at hl 0 rfl) ?_
  refine k_getR (pc := 115) (u := u) (v := .ref (z 0 1)) cx hw (lr_PL_pl_10 d z hh cf nh) (C := RX1) (T := TX1) (N := 21) rfl in_X1 (by decide) q489 (fun _ h9 => h9) rfl dX1_gather_115 ?_
  refine lv_bipush (pc := 118) (v := 8) cx.1 cx.2.1 dX1_gather_118 (by decide) ?_
  refine lv_iload_n (pc := 120) cx.1 cx.2.1 dX1_gather_120 rfl (lv_at hl 1 rfl) ?_
  refine k_iast (pc := 121) (u := u) (f := ((u.1 0).2.1 10)) cx hw (ln_PL_pl_10 d z hh cf nh) 0 rfl rfl (by unfold vp_in; decide) dX1_gather_121 (fun H locs hw => ?_)
  exact k_vret (pc := 122) (wf := (wP d nh hh cf z)) (u := (ps_A u 0 10 (upd ((u.1 0).2.1 10) (8 : Int32).toNatClampNeg x1))) cx hw hwp (by decide) (by decide) dX1_gather_122
set_option maxHeartbeats 4000000 in
theorem wk_X1_gather_4 {p : Program} {l : Launch} {e : Env} {s : State} {m : MethodId} {args : Array Value} {below : List Frame} {meth : Method} {c : Code} {A : Nat → Prop} {dC : Nat → ClassId} {dI : Nat → Nat → Nat} {d : Nat → ClassId} {z : Nat → Nat → Nat} {hh : Nat → Nat → Nat} {cf : List Value}{nh : Nat} {K : PS → Prop} (cx : Cx p s m args meth c cX1_gather RX1 5 none A dC dI d) : ∀ (n : Nat) (x1 : Int32) (x2 : Int32) (u : PS) (H : Heap) (locs : List Loc) (ls : Array Slot), wp_X1_gather_4 nh K n x1 x2 u → Wd dC dI A ((wP d nh hh cf z) u) s H locs → lv_has ls 5 [(0, .ref (z 0 0)), (1, .int x1), (2, .int x2)] → W p l e ({ frames := 2, cells := 0, slots := 0, locals := 45 } : Room) s m args below meth c H locs 0 0 (MQ below (kQv dC dI (wP d nh hh cf z) K A) args s 0 0 A) (F0 m 4 ls []) := by
  intro n
  induction n with
  | zero =>
    intros; contradiction
  | succ n ih =>
    intro x1 x2 u H locs ls hwp hw hl
    unfold wp_X1_gather_4 at hwp
    refine lv_iload_n (pc := 4) cx.1 cx.2.1 dX1_gather_4 rfl (lv_at hl 2 rfl) ?_
    refine lv_bipush (pc := 5) (v := 8) cx.1 cx.2.1 dX1_gather_5 (by decide) ?_
    refine lv_icmp_ge (pc := 7) (tgt := 114) cx.1 cx.2.1 dX1_gather_7 (by decide) (fun c1 => ?_) (fun c1 => ?_)
    · replace hwp := hwp.1 c1
      exact wk_X1_gather_114 cx _ _ _ _ _ hwp hw (lv_sub hl [0, 1] rfl)
    · replace hwp := hwp.2 c1
      refine lv_aload_n (pc := 10) cx.1 cx.2.1 dX1_gather_10 rfl (lv_at hl 0 rfl) ?_
      refine k_getR (pc := 11) (u := u) (v := .ref (z 0 1)) cx hw (lr_PL_pl_10 d z hh cf nh) (C := RX1) (T := TX1) (N := 21) rfl in_X1 (by decide) q489 (fun _ h9 => h9) rfl dX1_gather_11 ?_
      refine lv_iload_n (pc := 14) cx.1 cx.2.1 dX1_gather_14 rfl (lv_at hl 2 rfl) ?_
      refine lv_iload_n (pc := 15) cx.1 cx.2.1 dX1_gather_15 rfl (lv_at hl 1 rfl) ?_
      refine k_iast (pc := 16) (u := u) (f := ((u.1 0).2.1 10)) cx hw (ln_PL_pl_10 d z hh cf nh) 0 rfl rfl hwp.1 dX1_gather_16 (fun H locs hw => ?_)
      replace hwp := hwp.2
      refine lv_aload_n (pc := 17) cx.1 cx.2.1 dX1_gather_17 rfl (lv_at hl 0 rfl) ?_
      refine k_getR (pc := 18) (u := (ps_A u 0 10 (upd ((u.1 0).2.1 10) x2.toNatClampNeg x1))) (v := .ref (z 4 0)) cx hw (lr_PL_pl_7 d z hh cf nh) (C := RX1) (T := TX1) (N := 21) rfl in_X1 (by decide) q485 (fun _ h9 => h9) rfl dX1_gather_18 ?_
      refine k_getRN (pc := 21) (u := (ps_A u 0 10 (upd ((u.1 0).2.1 10) x2.toNatClampNeg x1))) (v := .ref (z 4 5)) cx hw (lr_PL_now_6 d z hh cf nh) (C := RX7) (T := TX7) (N := 7) rfl in_X7 (by decide) (nq343 cx.2.2.2.2.2.1) (fun _ h9 => h9) rfl dX1_gather_21 ?_
      refine lv_iload_n (pc := 24) cx.1 cx.2.1 dX1_gather_24 rfl (lv_at hl 2 rfl) ?_
      refine k_iald (pc := 25) (u := (ps_A u 0 10 (upd ((u.1 0).2.1 10) x2.toNatClampNeg x1))) (f := ((u.1 4).2.1 6)) cx hw (lx_PL_now_6 d z hh cf nh) 0 rfl rfl hwp.1 dX1_gather_25 ?_
      replace hwp := hwp.2
      refine lv_istore_n (pc := 26) (lv' := [(3, .int (((u.1 4).2.1 6) x2.toNatClampNeg)), (0, .ref (z 0 0)), (1, .int x1), (2, .int x2)]) cx.1 cx.2.1 dX1_gather_26 rfl hl (by decide) rfl (fun ls hl => ?_)
      obtain ⟨n27, hwp⟩ := hwp
      exact wk_X1_gather_27 cx ih n27 _ _ _ _ _ _ _ hwp hw (lv_sub hl [1, 2, 3, 0] rfl)
set_option maxHeartbeats 4000000 in
theorem m_X1_gather (l : Launch) (dC : Nat → ClassId) (dI : Nat → Nat → Nat) (d : Nat → ClassId) (z : Nat → Nat → Nat) (hh : Nat → Nat → Nat) (cf : List Value) (nh : Nat) (u : PS) {K : PS → Prop} (hwp : wp_X1_gather nh u K) : kM l yX1_gather cX1_gather 5 none ({ frames := 2, cells := 0, slots := 0, locals := 45 } : Room) dC dI d [.ref (z 0 0)] (wP d nh hh cf z) u (kQv dC dI (wP d nh hh cf z) K) 0 0 := by
  refine kM_start rfl (Nat.le_of_ble_eq_true rfl) ?_
  intro p e s m below meth c A ls cx hnm hw hl
  generalize hargs : ([.ref (z 0 0)] : List Value).toArray = args at cx ⊢
  unfold wp_X1_gather at hwp
  replace hl : lv_has ls 5 [(0, .ref (z 0 0))] := hl
  generalize hH : s.heap = H at hw ⊢
  generalize hlo : ([] : List Loc) = locs at hw ⊢
  refine lv_iconst (pc := 0) (v := 0) cx.1 cx.2.1 dX1_gather_0 (by decide) ?_
  refine lv_istore_n (pc := 1) (lv' := [(1, .int (0 : Int32)), (0, .ref (z 0 0))]) cx.1 cx.2.1 dX1_gather_1 rfl hl (by decide) rfl (fun ls hl => ?_)
  refine lv_iconst (pc := 2) (v := 0) cx.1 cx.2.1 dX1_gather_2 (by decide) ?_
  refine lv_istore_n (pc := 3) (lv' := [(2, .int (0 : Int32)), (1, .int (0 : Int32)), (0, .ref (z 0 0))]) cx.1 cx.2.1 dX1_gather_3 rfl hl (by decide) rfl (fun ls hl => ?_)
  obtain ⟨n4, hwp⟩ := hwp
  exact wk_X1_gather_4 cx n4 _ _ _ _ _ _ hwp hw (lv_sub hl [2, 1, 0] rfl)
set_option maxHeartbeats 4000000 in
theorem wk_X1_turn_26 {p : Program} {l : Launch} {e : Env} {s : State} {m : MethodId} {args : Array Value} {below : List Frame} {meth : Method} {c : Code} {A : Nat → Prop} {dC : Nat → ClassId} {dI : Nat → Nat → Nat} {d : Nat → ClassId} {z : Nat → Nat → Nat} {hh : Nat → Nat → Nat} {cf : List Value}{nh : Nat} {C2 : Int32 → Int32 → (PS × Bool) → Prop} {K : (PS × Bool) → Prop} {E : Nat → (PS × Bool) → Prop} (cx : Cx p s m args meth c cX1_turn RX1 5 none A dC dI d) (xt : c.exceptionTable.toList = tableOf []) (hC2 : ∀ (x1 : Int32) (x2 : Int32) (u : PS × Bool) (H : Heap) (locs : List Loc) (ls : Array Slot), C2 x1 x2 u → Wd dC dI A ((wPb d nh hh cf z) u) s H locs → lv_has ls 5 [(0, .ref (z 0 0)), (1, .int x1), (2, .int x2)] → W p l e ({ frames := 3, cells := 0, slots := 0, locals := 69 } : Room) s m args below meth c H locs 0 0 (MQT below (kXv dC dI (wPb d nh hh cf z) K E A) args s 0 0 A) (F0 m 2 ls [])) : ∀ (n : Nat) (x1 : Int32) (x2 : Int32) (x3 : Int32) (x4 : Int32) (u : PS × Bool) (H : Heap) (locs : List Loc) (ls : Array Slot), wp_X1_turn_26 nh C2 K E n x1 x2 x3 x4 u → Wd dC dI A ((wPb d nh hh cf z) u) s H locs → lv_has ls 5 [(0, .ref (z 0 0)), (1, .int x1), (2, .int x2), (3, .int x3), (4, .int x4)] → W p l e ({ frames := 3, cells := 0, slots := 0, locals := 69 } : Room) s m args below meth c H locs 0 0 (MQT below (kXv dC dI (wPb d nh hh cf z) K E A) args s 0 0 A) (F0 m 26 ls []) := by
  intro n
  induction n with
  | zero =>
    intros; contradiction
  | succ n ih =>
    intro x1 x2 x3 x4 u H locs ls hwp hw hl
    unfold wp_X1_turn_26 at hwp
    refine lv_iload_n (pc := 26) cx.1 cx.2.1 dX1_turn_26 rfl (lv_at hl 3 rfl) ?_
    refine lv_iconst (pc := 27) (v := -1) cx.1 cx.2.1 dX1_turn_27 (by decide) ?_
    refine lv_icmp_eq (pc := 28) (tgt := 82) cx.1 cx.2.1 dX1_turn_28 (by decide) (fun c1 => ?_) (fun c1 => ?_)
    · replace hwp := hwp.1 c1
      refine lv_iinc (pc := 82) (v := (x2 + (1 : Int32))) (lv' := [(2, .int (x2 + (1 : Int32))), (0, .ref (z 0 0)), (1, .int x1), (3, .int x3), (4, .int x4)]) cx.1 cx.2.1 dX1_turn_82 hl (k := 2) rfl rfl (by decide) rfl (fun ls hl => ?_)
      refine lv_goto (pc := 85) (tgt := 2) cx.1 cx.2.1 dX1_turn_85 (by decide) ?_
      exact hC2 _ _ _ _ _ _ hwp hw (lv_sub hl [1, 2, 0] rfl)
    · replace hwp := hwp.2 c1
      refine lv_iload (pc := 31) cx.1 cx.2.1 dX1_turn_31 (lv_at hl 4 rfl) ?_
      refine lv_aload_n (pc := 33) cx.1 cx.2.1 dX1_turn_33 rfl (lv_at hl 0 rfl) ?_
      refine k_getR (pc := 34) (u := u) (v := .ref (sw_A u.2 z 6 0)) cx hw (lr_PLs_pl_8 d z hh cf nh) (C := RX1) (T := TX1) (N := 21) rfl in_X1 (by decide) q487 (fun _ h9 => h9) rfl dX1_turn_34 ?_
      refine k_getRN (pc := 37) (u := u) (v := .ref (sw_A u.2 z 6 3)) cx hw (lr_PLs_next_3 d z hh cf nh) (C := RX7) (T := TX7) (N := 7) rfl in_X7 (by decide) (nq336 cx.2.2.2.2.2.1) (fun _ h9 => h9) rfl dX1_turn_37 ?_
      refine lv_iload_n (pc := 40) cx.1 cx.2.1 dX1_turn_40 rfl (lv_at hl 2 rfl) ?_
      refine k_sald (pc := 41) (u := u) (f := ((u.1.1 6).2.1 3)) cx hw (lx_PLs_next_3 d z hh cf nh) 1 rfl rfl hwp.1 dX1_turn_41 ?_
      replace hwp := hwp.2
      refine lv_icmp_ge (pc := 42) (tgt := 82) cx.1 cx.2.1 dX1_turn_42 (by decide) (fun c2 => ?_) (fun c2 => ?_)
      · replace hwp := hwp.1 c2
        refine lv_iinc (pc := 82) (v := (x2 + (1 : Int32))) (lv' := [(2, .int (x2 + (1 : Int32))), (0, .ref (z 0 0)), (1, .int x1), (3, .int x3), (4, .int x4)]) cx.1 cx.2.1 dX1_turn_82 hl (k := 2) rfl rfl (by decide) rfl (fun ls hl => ?_)
        refine lv_goto (pc := 85) (tgt := 2) cx.1 cx.2.1 dX1_turn_85 (by decide) ?_
        exact hC2 _ _ _ _ _ _ hwp hw (lv_sub hl [1, 2, 0] rfl)
      · replace hwp := hwp.2 c2
        refine lv_aload_n (pc := 45) cx.1 cx.2.1 dX1_turn_45 rfl (lv_at hl 0 rfl) ?_
        refine k_getR (pc := 46) (u := u) (v := .ref (z 1 0)) cx hw (lr_PLs_pl_3 d z hh cf nh) (C := RX1) (T := TX1) (N := 21) rfl in_X1 (by decide) q479 (fun _ h9 => h9) rfl dX1_turn_46 ?_
        refine lv_aload_n (pc := 49) cx.1 cx.2.1 dX1_turn_49 rfl (lv_at hl 0 rfl) ?_
        refine k_getR (pc := 50) (u := u) (v := .ref (sw_A u.2 z 6 0)) cx hw (lr_PLs_pl_8 d z hh cf nh) (C := RX1) (T := TX1) (N := 21) rfl in_X1 (by decide) q487 (fun _ h9 => h9) rfl dX1_turn_50 ?_
        refine k_getRN (pc := 53) (u := u) (v := .ref (sw_A u.2 z 6 2)) cx hw (lr_PLs_next_2 d z hh cf nh) (C := RX7) (T := TX7) (N := 7) rfl in_X7 (by decide) (nq334 cx.2.2.2.2.2.1) (fun _ h9 => h9) rfl dX1_turn_53 ?_
        refine lv_iload_n (pc := 56) cx.1 cx.2.1 dX1_turn_56 rfl (lv_at hl 2 rfl) ?_
        refine k_cald (pc := 57) (u := u) (f := ((u.1.1 6).2.1 2)) cx hw (lx_PLs_next_2 d z hh cf nh) 4 rfl rfl hwp.1 dX1_turn_57 ?_
        replace hwp := hwp.2
        refine lv_iload (pc := 58) cx.1 cx.2.1 dX1_turn_58 (lv_at hl 4 rfl) ?_
        refine lv_iadd (pc := 60) cx.1 cx.2.1 dX1_turn_60 ?_
        refine lv_aload_n (pc := 61) cx.1 cx.2.1 dX1_turn_61 rfl (lv_at hl 0 rfl) ?_
        refine k_getR (pc := 62) (u := u) (v := .ref (z 2 0)) cx hw (lr_PLs_pl_5 d z hh cf nh) (C := RX1) (T := TX1) (N := 21) rfl in_X1 (by decide) q483 (fun _ h9 => h9) rfl dX1_turn_62 ?_
        refine k_getRN (pc := 65) (u := u) (v := .ref (z 2 1)) cx hw (lr_PLs_packer_0 d z hh cf nh) (C := RX4) (T := TX4) (N := 7) rfl in_X4 (by decide) (nq217 cx.2.2.2.2.2.1) (fun _ h9 => h9) rfl dX1_turn_65 ?_
        refine lv_iload_n (pc := 68) cx.1 cx.2.1 dX1_turn_68 rfl (lv_at hl 3 rfl) ?_
        refine lv_iload (pc := 69) cx.1 cx.2.1 dX1_turn_69 (lv_at hl 4 rfl) ?_
        refine lv_iadd (pc := 71) cx.1 cx.2.1 dX1_turn_71 ?_
        refine k_iald (pc := 72) (u := u) (f := ((u.1.1 2).2.1 0)) cx hw (lx_PLs_packer_0 d z hh cf nh) 0 rfl rfl hwp.1 dX1_turn_72 ?_
        replace hwp := hwp.2
        have hpt := k_part (w := (wDk d (z 1) cf) (u.1.1 1)) (is := [4, 5, 6]) hw (pc_PLs_X2_disk d z hh cf nh u) (by decide)
        refine k_part_Tv (pc := 73) (wf := (wDk d (z 1) cf)) (u := (u.1.1 1)) cx hw [4, 5, 6] (pc_PLs_X2_disk d z hh cf nh u) (by decide) (fun _ => rfl) (pw_PLs_X2_disk d z hh cf nh u) (k_runVT (pc := 73) (rest := []) (As := [.int ((((u.1.1 6).2.1 2) x2.toNatClampNeg) + x4), .int (((u.1.1 2).2.1 0) (x3 + x4).toNatClampNeg)]) cx hpt.1 hpt.2 hw.2.2 (k_recv cx hw 4 (ci := 1) (q := (RX2, TX2, 5)) rfl rfl) (m_X2_write l dC dI d (z 1) cf  (u.1.1 1) ((((u.1.1 6).2.1 2) x2.toNatClampNeg) + x4) (((u.1.1 2).2.1 0) (x3 + x4).toNatClampNeg) hwp H.size) (cwV 2 cx.2.2.2.2.1 (lw_V q594 q595 q596 q76 q597) rfl rfl rfl hdV_X2_write ⟨Nat.le_of_ble_eq_true rfl, Nat.le_of_ble_eq_true rfl⟩) rfl hl.1 rfl (Nat.le_of_ble_eq_true rfl) dX1_turn_73 ⟨Nat.le_of_ble_eq_true rfl, Nat.le_of_ble_eq_true rfl⟩) (fun v3 H locs hwp hw => ?_) (fun k5 v6 a7 H locs hwp hw hx => ?_)
        · skip
          refine lv_iinc (pc := 76) (v := (x4 + (1 : Int32))) (lv' := [(4, .int (x4 + (1 : Int32))), (0, .ref (z 0 0)), (1, .int x1), (2, .int x2), (3, .int x3)]) cx.1 cx.2.1 dX1_turn_76 hl (k := 4) rfl rfl (by decide) rfl (fun ls hl => ?_)
          refine lv_goto (pc := 79) (tgt := 26) cx.1 cx.2.1 dX1_turn_79 (by decide) ?_
          exact ih _ _ _ _ _ _ _ _ hwp hw (lv_sub hl [1, 2, 3, 4, 0] rfl)
        · skip
          exact k_leave (pc := 73) (wf := (wPb d nh hh cf z)) (u := (pb_O u 1 v6)) (k := k5) cx xt (by decide) hw hwp hx (by decide) (by decide)
set_option maxHeartbeats 4000000 in
theorem wk_X1_turn_148 {p : Program} {l : Launch} {e : Env} {s : State} {m : MethodId} {args : Array Value} {below : List Frame} {meth : Method} {c : Code} {A : Nat → Prop} {dC : Nat → ClassId} {dI : Nat → Nat → Nat} {d : Nat → ClassId} {z : Nat → Nat → Nat} {hh : Nat → Nat → Nat} {cf : List Value}{nh : Nat} {K : (PS × Bool) → Prop} {E : Nat → (PS × Bool) → Prop} (cx : Cx p s m args meth c cX1_turn RX1 5 none A dC dI d) (xt : c.exceptionTable.toList = tableOf []) : ∀ (x1 : Int32) (u : PS × Bool) (H : Heap) (locs : List Loc) (ls : Array Slot), wp_X1_turn_148 nh K E x1 u → Wd dC dI A ((wPb d nh hh cf z) u) s H locs → lv_has ls 5 [(0, .ref (z 0 0)), (1, .int x1)] → W p l e ({ frames := 3, cells := 0, slots := 0, locals := 69 } : Room) s m args below meth c H locs 0 0 (MQT below (kXv dC dI (wPb d nh hh cf z) K E A) args s 0 0 A) (F0 m 148 ls []) := by
  intro x1 u H locs ls hwp hw hl
  unfold wp_X1_turn_148 at hwp
  refine lv_aload_n (pc := 148) cx.1 cx.2.1 dX1_turn_148 rfl (lv_at hl 0 rfl) ?_
  refine k_getR (pc := 149) (u := u) (v := .ref (z 1 0)) cx hw (lr_PLs_pl_3 d z hh cf nh) (C := RX1) (T := TX1) (N := 21) rfl in_X1 (by decide) q479 (fun _ h9 => h9) rfl dX1_turn_149 ?_
  refine lv_iconst (pc := 152) (v := 0) cx.1 cx.2.1 dX1_turn_152 (by decide) ?_
  refine lv_iconst (pc := 153) (v := 2) cx.1 cx.2.1 dX1_turn_153 (by decide) ?_
  refine lv_iload_n (pc := 154) cx.1 cx.2.1 dX1_turn_154 rfl (lv_at hl 1 rfl) ?_
  refine lv_imul (pc := 155) cx.1 cx.2.1 dX1_turn_155 ?_
  refine lv_iconst (pc := 156) (v := 1) cx.1 cx.2.1 dX1_turn_156 (by decide) ?_
  refine lv_iadd (pc := 157) cx.1 cx.2.1 dX1_turn_157 ?_
  refine lv_aload_n (pc := 158) cx.1 cx.2.1 dX1_turn_158 rfl (lv_at hl 0 rfl) ?_
  refine k_getI (pc := 159) (u := u) (v := ((u.1.1 0).1 13)) cx hw (ln_PLs_pl_13 d z hh cf nh) (C := RX1) (T := TX1) (N := 21) rfl in_X1 (by decide) q492 (fun _ h9 => h9) rfl dX1_turn_159 ?_
  refine lv_isub (pc := 162) cx.1 cx.2.1 dX1_turn_162 ?_
  have hpt := k_part (w := (wDk d (z 1) cf) (u.1.1 1)) (is := [4, 5, 6]) hw (pc_PLs_X2_disk d z hh cf nh u) (by decide)
  refine k_part_Tv (pc := 163) (wf := (wDk d (z 1) cf)) (u := (u.1.1 1)) cx hw [4, 5, 6] (pc_PLs_X2_disk d z hh cf nh u) (by decide) (fun _ => rfl) (pw_PLs_X2_disk d z hh cf nh u) (k_runVT (pc := 163) (rest := []) (As := [.int (0 : Int32), .int ((((2 : Int32) * x1) + (1 : Int32)) - ((u.1.1 0).1 13))]) cx hpt.1 hpt.2 hw.2.2 (k_recv cx hw 4 (ci := 1) (q := (RX2, TX2, 5)) rfl rfl) (m_X2_write l dC dI d (z 1) cf  (u.1.1 1) (0 : Int32) ((((2 : Int32) * x1) + (1 : Int32)) - ((u.1.1 0).1 13)) hwp H.size) (cwV 2 cx.2.2.2.2.1 (lw_V q594 q595 q596 q76 q597) rfl rfl rfl hdV_X2_write ⟨Nat.le_of_ble_eq_true rfl, Nat.le_of_ble_eq_true rfl⟩) rfl hl.1 rfl (Nat.le_of_ble_eq_true rfl) dX1_turn_163 ⟨Nat.le_of_ble_eq_true rfl, Nat.le_of_ble_eq_true rfl⟩) (fun v1 H locs hwp hw => ?_) (fun k3 v4 a5 H locs hwp hw hx => ?_)
  · skip
    refine lv_aload_n (pc := 166) cx.1 cx.2.1 dX1_turn_166 rfl (lv_at hl 0 rfl) ?_
    refine lv_iload_n (pc := 167) cx.1 cx.2.1 dX1_turn_167 rfl (lv_at hl 1 rfl) ?_
    refine k_putI (pc := 168) (u := (pb_O u 1 v1)) (v := x1) cx hw (ln_PLs_pl_12 d z hh cf nh) (C := RX1) (T := TX1) (N := 21) rfl in_X1 tyX1 tyX1_ok nmX1 (by decide) q491 (fun _ h9 => h9) rfl rfl rfl dX1_turn_168 (fun H locs hw => ?_)
    refine lv_aload_n (pc := 171) cx.1 cx.2.1 dX1_turn_171 rfl (lv_at hl 0 rfl) ?_
    refine lv_iconst (pc := 172) (v := 1) cx.1 cx.2.1 dX1_turn_172 (by decide) ?_
    refine lv_aload_n (pc := 173) cx.1 cx.2.1 dX1_turn_173 rfl (lv_at hl 0 rfl) ?_
    refine k_getI (pc := 174) (u := (pb_I (pb_O u 1 v1) 0 12 x1)) (v := ((u.1.1 0).1 13)) cx hw (ln_PLs_pl_13 d z hh cf nh) (C := RX1) (T := TX1) (N := 21) rfl in_X1 (by decide) q492 (fun _ h9 => h9) rfl dX1_turn_174 ?_
    refine lv_isub (pc := 177) cx.1 cx.2.1 dX1_turn_177 ?_
    refine k_putI (pc := 178) (u := (pb_I (pb_O u 1 v1) 0 12 x1)) (v := ((1 : Int32) - ((u.1.1 0).1 13))) cx hw (ln_PLs_pl_13 d z hh cf nh) (C := RX1) (T := TX1) (N := 21) rfl in_X1 tyX1 tyX1_ok nmX1 (by decide) q492 (fun _ h9 => h9) rfl rfl rfl dX1_turn_178 (fun H locs hw => ?_)
    refine lv_aload_n (pc := 181) cx.1 cx.2.1 dX1_turn_181 rfl (lv_at hl 0 rfl) ?_
    refine k_getR (pc := 182) (u := (pb_I (pb_I (pb_O u 1 v1) 0 12 x1) 0 13 ((1 : Int32) - ((u.1.1 0).1 13)))) (v := .ref (sw_A u.2 z 4 0)) cx hw (lr_PLs_pl_7 d z hh cf nh) (C := RX1) (T := TX1) (N := 21) rfl in_X1 (by decide) q485 (fun _ h9 => h9) rfl dX1_turn_182 ?_
    refine lv_astore_n (pc := 185) (lv' := [(3, .ref (sw_A u.2 z 4 0)), (0, .ref (z 0 0)), (1, .int x1)]) cx.1 cx.2.1 dX1_turn_185 rfl hl (by decide) rfl (fun ls hl => ?_)
    refine lv_aload_n (pc := 186) cx.1 cx.2.1 dX1_turn_186 rfl (lv_at hl 1 rfl) ?_
    refine lv_aload_n (pc := 187) cx.1 cx.2.1 dX1_turn_187 rfl (lv_at hl 1 rfl) ?_
    refine k_getR (pc := 188) (u := (pb_I (pb_I (pb_O u 1 v1) 0 12 x1) 0 13 ((1 : Int32) - ((u.1.1 0).1 13)))) (v := .ref (sw_A u.2 z 6 0)) cx hw (lr_PLs_pl_8 d z hh cf nh) (C := RX1) (T := TX1) (N := 21) rfl in_X1 (by decide) q487 (fun _ h9 => h9) rfl dX1_turn_188 ?_
    refine k_putNow (pc := 191) (u := (pb_I (pb_I (pb_O u 1 v1) 0 12 x1) 0 13 ((1 : Int32) - ((u.1.1 0).1 13)))) cx hw q485 dX1_turn_191 (fun H locs hw => ?_)
    refine lv_aload_n (pc := 194) cx.1 cx.2.1 dX1_turn_194 rfl (lv_at hl 1 rfl) ?_
    refine lv_aload_n (pc := 195) cx.1 cx.2.1 dX1_turn_195 rfl (lv_at hl 0 rfl) ?_
    refine k_putNext (pc := 196) (u := (pb_I (pb_I (pb_O u 1 v1) 0 12 x1) 0 13 ((1 : Int32) - ((u.1.1 0).1 13)))) cx hw q487 dX1_turn_196 (fun H locs hw => ?_)
    obtain ⟨w6, ew6⟩ : ∃ w : PS × Bool, w = pb_sw (pb_I (pb_I (pb_O u 1 v1) 0 12 x1) 0 13 ((1 : Int32) - ((u.1.1 0).1 13))) := ⟨_, rfl⟩
    rw [← ew6] at hw
    replace hwp := hwp w6 ew6
    refine lv_aload_n (pc := 199) cx.1 cx.2.1 dX1_turn_199 rfl (lv_at hl 1 rfl) ?_
    refine k_getR (pc := 200) (u := w6) (v := .ref (sw_A w6.2 z 4 0)) cx hw (lr_PLs_pl_7 d z hh cf nh) (C := RX1) (T := TX1) (N := 21) rfl in_X1 (by decide) q485 (fun _ h9 => h9) rfl dX1_turn_200 ?_
    have hpt := k_part (w := (wf_X7 d (sw_A w6.2 z 4) (sw_A w6.2 z 5)) ((w6.1.1 4), (w6.1.1 5))) (is := [10, 11, 12, 13, 14, 15, 16, 17, 18, 19, 20, 21, 22]) hw (pc_PLs_X7_now_nowsp d z hh cf nh w6) (by decide)
    refine k_part_v (pc := 203) (wf := (wf_X7 d (sw_A w6.2 z 4) (sw_A w6.2 z 5))) (u := ((w6.1.1 4), (w6.1.1 5))) cx hw [10, 11, 12, 13, 14, 15, 16, 17, 18, 19, 20, 21, 22] (pc_PLs_X7_now_nowsp d z hh cf nh w6) (by decide) (fun _ => rfl) (pw_PLs_X7_now_nowsp d z hh cf nh w6) (k_runV (pc := 203) (rest := []) (As := []) cx hpt.1 hpt.2 hw.2.2 (k_recv cx hw 10 (ci := 5) (q := (RX7, TX7, 7)) rfl rfl) (m_X7_ends l dC dI d (sw_A w6.2 z 4) (sw_A w6.2 z 5)  ((w6.1.1 4), (w6.1.1 5))  hwp H.size) (cwV 0 cx.2.2.2.2.1 (lw_V q458 q459 q460 q83 q461) rfl rfl rfl hdV_X7_ends ⟨Nat.le_of_ble_eq_true rfl, Nat.le_of_ble_eq_true rfl⟩) rfl hl.1 rfl (Nat.le_of_ble_eq_true rfl) dX1_turn_203 ⟨Nat.le_of_ble_eq_true rfl, Nat.le_of_ble_eq_true rfl⟩) (fun v7 H locs hwp hw => ?_)
    refine lv_aload_n (pc := 206) cx.1 cx.2.1 dX1_turn_206 rfl (lv_at hl 1 rfl) ?_
    refine k_whole_v (pc := 207) (wf := (wP d nh hh cf (sw_A w6.2 z))) (u := ((pb_O (pb_O w6 4 v7.1) 5 v7.2).1)) cx hw (k_runV (pc := 207) (rest := []) (As := []) cx hw.1 (hw.2.1.weaken (fun _ _ _ _ => trivial)) hw.2.2 (k_recv cx hw 0 (ci := 0) (q := (RX1, TX1, 21)) rfl rfl) (m_X1_gather l dC dI d (sw_A w6.2 z) hh cf nh ((pb_O (pb_O w6 4 v7.1) 5 v7.2).1)  hwp H.size) (cwV 0 cx.2.2.2.2.1 (lw_V q462 q464 qs2 q75 q465) rfl rfl rfl hdV_X1_gather ⟨Nat.le_of_ble_eq_true rfl, Nat.le_of_ble_eq_true rfl⟩) rfl hl.1 rfl (Nat.le_of_ble_eq_true rfl) dX1_turn_207 ⟨Nat.le_of_ble_eq_true rfl, Nat.le_of_ble_eq_true rfl⟩) (fun v9 H locs hwp hw => ?_)
    replace hw : Wd dC dI A ((wPb d nh hh cf z) (v9, w6.2)) s H locs := hw
    exact k_vretT (pc := 210) (wf := (wPb d nh hh cf z)) (u := (v9, w6.2)) cx hw hwp (by decide) (by decide) dX1_turn_210
  · skip
    exact k_leave (pc := 163) (wf := (wPb d nh hh cf z)) (u := (pb_O u 1 v4)) (k := k3) cx xt (by decide) hw hwp hx (by decide) (by decide)
set_option maxHeartbeats 4000000 in
theorem wk_X1_turn_118 {p : Program} {l : Launch} {e : Env} {s : State} {m : MethodId} {args : Array Value} {below : List Frame} {meth : Method} {c : Code} {A : Nat → Prop} {dC : Nat → ClassId} {dI : Nat → Nat → Nat} {d : Nat → ClassId} {z : Nat → Nat → Nat} {hh : Nat → Nat → Nat} {cf : List Value}{nh : Nat} {K : (PS × Bool) → Prop} {E : Nat → (PS × Bool) → Prop} (cx : Cx p s m args meth c cX1_turn RX1 5 none A dC dI d) (xt : c.exceptionTable.toList = tableOf []) : ∀ (n : Nat) (x1 : Int32) (x2 : Int32) (x3 : Int32) (u : PS × Bool) (H : Heap) (locs : List Loc) (ls : Array Slot), wp_X1_turn_118 nh K E n x1 x2 x3 u → Wd dC dI A ((wPb d nh hh cf z) u) s H locs → lv_has ls 5 [(0, .ref (z 0 0)), (1, .int x1), (2, .int x2), (3, .int x3)] → W p l e ({ frames := 3, cells := 0, slots := 0, locals := 69 } : Room) s m args below meth c H locs 0 0 (MQT below (kXv dC dI (wPb d nh hh cf z) K E A) args s 0 0 A) (F0 m 118 ls []) := by
  intro n
  induction n with
  | zero =>
    intros; contradiction
  | succ n ih =>
    intro x1 x2 x3 u H locs ls hwp hw hl
    unfold wp_X1_turn_118 at hwp
    refine lv_iload_n (pc := 118) cx.1 cx.2.1 dX1_turn_118 rfl (lv_at hl 3 rfl) ?_
    refine lv_aload_n (pc := 119) cx.1 cx.2.1 dX1_turn_119 rfl (lv_at hl 0 rfl) ?_
    refine k_getR (pc := 120) (u := u) (v := .ref (sw_A u.2 z 6 0)) cx hw (lr_PLs_pl_8 d z hh cf nh) (C := RX1) (T := TX1) (N := 21) rfl in_X1 (by decide) q487 (fun _ h9 => h9) rfl dX1_turn_120 ?_
    refine k_getIN (pc := 123) (u := u) (v := ((u.1.1 6).1 5)) cx hw (ln_PLs_next_5 d z hh cf nh) (C := RX7) (T := TX7) (N := 7) rfl in_X7 (by decide) (nq340 cx.2.2.2.2.2.1) (fun _ h9 => h9) rfl dX1_turn_123 ?_
    refine lv_icmp_ge (pc := 126) (tgt := 148) cx.1 cx.2.1 dX1_turn_126 (by decide) (fun c1 => ?_) (fun c1 => ?_)
    · replace hwp := hwp.1 c1
      exact wk_X1_turn_148 cx xt _ _ _ _ _ hwp hw (lv_sub hl [0, 1] rfl)
    · replace hwp := hwp.2 c1
      refine lv_aload_n (pc := 129) cx.1 cx.2.1 dX1_turn_129 rfl (lv_at hl 0 rfl) ?_
      refine lv_iload_n (pc := 130) cx.1 cx.2.1 dX1_turn_130 rfl (lv_at hl 2 rfl) ?_
      refine lv_iconst (pc := 131) (v := 1) cx.1 cx.2.1 dX1_turn_131 (by decide) ?_
      refine lv_iadd (pc := 132) cx.1 cx.2.1 dX1_turn_132 ?_
      refine lv_bipush (pc := 133) (v := 10) cx.1 cx.2.1 dX1_turn_133 (by decide) ?_
      refine lv_iload_n (pc := 135) cx.1 cx.2.1 dX1_turn_135 rfl (lv_at hl 3 rfl) ?_
      refine lv_imul (pc := 136) cx.1 cx.2.1 dX1_turn_136 ?_
      refine lv_iadd (pc := 137) cx.1 cx.2.1 dX1_turn_137 ?_
      refine lv_iload_n (pc := 138) cx.1 cx.2.1 dX1_turn_138 rfl (lv_at hl 3 rfl) ?_
      refine k_whole_Tv (pc := 139) (wf := (wP d nh hh cf (sw_A u.2 z))) (u := u.1) cx hw (k_runVT (pc := 139) (rest := []) (As := [.int ((x2 + (1 : Int32)) + ((10 : Int32) * x3)), .int x3]) cx hw.1 (hw.2.1.weaken (fun _ _ _ _ => trivial)) hw.2.2 (k_recv cx hw 0 (ci := 0) (q := (RX1, TX1, 21)) rfl rfl) (m_X1_entry l dC dI d (sw_A u.2 z) hh cf nh u.1 ((x2 + (1 : Int32)) + ((10 : Int32) * x3)) x3 hwp H.size) (cwV 2 cx.2.2.2.2.1 (lw_V q693 q695 qs17 q75 q696) rfl rfl rfl hdV_X1_entry ⟨Nat.le_of_ble_eq_true rfl, Nat.le_of_ble_eq_true rfl⟩) rfl hl.1 rfl (Nat.le_of_ble_eq_true rfl) dX1_turn_139 ⟨Nat.le_of_ble_eq_true rfl, Nat.le_of_ble_eq_true rfl⟩) (fun v2 H locs hwp hw => ?_) (fun k4 v5 a6 H locs hwp hw hx => ?_)
      · skip
        replace hw : Wd dC dI A ((wPb d nh hh cf z) (v2, u.2)) s H locs := hw
        refine lv_iinc (pc := 142) (v := (x3 + (1 : Int32))) (lv' := [(3, .int (x3 + (1 : Int32))), (0, .ref (z 0 0)), (1, .int x1), (2, .int x2)]) cx.1 cx.2.1 dX1_turn_142 hl (k := 3) rfl rfl (by decide) rfl (fun ls hl => ?_)
        refine lv_goto (pc := 145) (tgt := 118) cx.1 cx.2.1 dX1_turn_145 (by decide) ?_
        exact ih _ _ _ _ _ _ _ hwp hw (lv_sub hl [1, 2, 3, 0] rfl)
      · skip
        replace hw : Wd dC dI A ((wPb d nh hh cf z) (v5, u.2)) s H locs := hw
        exact k_leave (pc := 139) (wf := (wPb d nh hh cf z)) (u := (v5, u.2)) (k := k4) cx xt (by decide) hw hwp hx (by decide) (by decide)
set_option maxHeartbeats 4000000 in
theorem wk_X1_turn_88 {p : Program} {l : Launch} {e : Env} {s : State} {m : MethodId} {args : Array Value} {below : List Frame} {meth : Method} {c : Code} {A : Nat → Prop} {dC : Nat → ClassId} {dI : Nat → Nat → Nat} {d : Nat → ClassId} {z : Nat → Nat → Nat} {hh : Nat → Nat → Nat} {cf : List Value}{nh : Nat} {K : (PS × Bool) → Prop} {E : Nat → (PS × Bool) → Prop} (cx : Cx p s m args meth c cX1_turn RX1 5 none A dC dI d) (xt : c.exceptionTable.toList = tableOf []) : ∀ (x1 : Int32) (u : PS × Bool) (H : Heap) (locs : List Loc) (ls : Array Slot), wp_X1_turn_88 nh K E x1 u → Wd dC dI A ((wPb d nh hh cf z) u) s H locs → lv_has ls 5 [(0, .ref (z 0 0)), (1, .int x1)] → W p l e ({ frames := 3, cells := 0, slots := 0, locals := 69 } : Room) s m args below meth c H locs 0 0 (MQT below (kXv dC dI (wPb d nh hh cf z) K E A) args s 0 0 A) (F0 m 88 ls []) := by
  intro x1 u H locs ls hwp hw hl
  unfold wp_X1_turn_88 at hwp
  refine lv_iconst (pc := 88) (v := 1) cx.1 cx.2.1 dX1_turn_88 (by decide) ?_
  refine lv_iconst (pc := 89) (v := 1) cx.1 cx.2.1 dX1_turn_89 (by decide) ?_
  refine lv_aload_n (pc := 90) cx.1 cx.2.1 dX1_turn_90 rfl (lv_at hl 0 rfl) ?_
  refine k_getI (pc := 91) (u := u) (v := ((u.1.1 0).1 13)) cx hw (ln_PLs_pl_13 d z hh cf nh) (C := RX1) (T := TX1) (N := 21) rfl in_X1 (by decide) q492 (fun _ h9 => h9) rfl dX1_turn_91 ?_
  refine lv_isub (pc := 94) cx.1 cx.2.1 dX1_turn_94 ?_
  refine lv_sipush (pc := 95) (v := 961) cx.1 cx.2.1 dX1_turn_95 (by decide) ?_
  refine lv_imul (pc := 98) cx.1 cx.2.1 dX1_turn_98 ?_
  refine lv_iadd (pc := 99) cx.1 cx.2.1 dX1_turn_99 ?_
  refine lv_istore_n (pc := 100) (lv' := [(2, .int ((1 : Int32) + (((1 : Int32) - ((u.1.1 0).1 13)) * (961 : Int32)))), (0, .ref (z 0 0)), (1, .int x1)]) cx.1 cx.2.1 dX1_turn_100 rfl hl (by decide) rfl (fun ls hl => ?_)
  refine lv_aload_n (pc := 101) cx.1 cx.2.1 dX1_turn_101 rfl (lv_at hl 1 rfl) ?_
  refine k_getR (pc := 102) (u := u) (v := .ref (z 1 0)) cx hw (lr_PLs_pl_3 d z hh cf nh) (C := RX1) (T := TX1) (N := 21) rfl in_X1 (by decide) q479 (fun _ h9 => h9) rfl dX1_turn_102 ?_
  refine lv_iload_n (pc := 105) cx.1 cx.2.1 dX1_turn_105 rfl (lv_at hl 0 rfl) ?_
  refine lv_aload_n (pc := 106) cx.1 cx.2.1 dX1_turn_106 rfl (lv_at hl 1 rfl) ?_
  refine k_getR (pc := 107) (u := u) (v := .ref (sw_A u.2 z 6 0)) cx hw (lr_PLs_pl_8 d z hh cf nh) (C := RX1) (T := TX1) (N := 21) rfl in_X1 (by decide) q487 (fun _ h9 => h9) rfl dX1_turn_107 ?_
  refine k_getIN (pc := 110) (u := u) (v := ((u.1.1 6).1 5)) cx hw (ln_PLs_next_5 d z hh cf nh) (C := RX7) (T := TX7) (N := 7) rfl in_X7 (by decide) (nq340 cx.2.2.2.2.2.1) (fun _ h9 => h9) rfl dX1_turn_110 ?_
  have hpt := k_part (w := (wDk d (z 1) cf) (u.1.1 1)) (is := [4, 5, 6]) hw (pc_PLs_X2_disk d z hh cf nh u) (by decide)
  refine k_part_Tv (pc := 113) (wf := (wDk d (z 1) cf)) (u := (u.1.1 1)) cx hw [4, 5, 6] (pc_PLs_X2_disk d z hh cf nh u) (by decide) (fun _ => rfl) (pw_PLs_X2_disk d z hh cf nh u) (k_runVT (pc := 113) (rest := []) (As := [.int ((1 : Int32) + (((1 : Int32) - ((u.1.1 0).1 13)) * (961 : Int32))), .int ((u.1.1 6).1 5)]) cx hpt.1 hpt.2 hw.2.2 (k_recv cx hw 4 (ci := 1) (q := (RX2, TX2, 5)) rfl rfl) (m_X2_write l dC dI d (z 1) cf  (u.1.1 1) ((1 : Int32) + (((1 : Int32) - ((u.1.1 0).1 13)) * (961 : Int32))) ((u.1.1 6).1 5) hwp H.size) (cwV 2 cx.2.2.2.2.1 (lw_V q594 q595 q596 q76 q597) rfl rfl rfl hdV_X2_write ⟨Nat.le_of_ble_eq_true rfl, Nat.le_of_ble_eq_true rfl⟩) rfl hl.1 rfl (Nat.le_of_ble_eq_true rfl) dX1_turn_113 ⟨Nat.le_of_ble_eq_true rfl, Nat.le_of_ble_eq_true rfl⟩) (fun v1 H locs hwp hw => ?_) (fun k3 v4 a5 H locs hwp hw hx => ?_)
  · skip
    refine lv_iconst (pc := 116) (v := 0) cx.1 cx.2.1 dX1_turn_116 (by decide) ?_
    refine lv_istore_n (pc := 117) (lv' := [(3, .int (0 : Int32)), (2, .int ((1 : Int32) + (((1 : Int32) - ((u.1.1 0).1 13)) * (961 : Int32)))), (0, .ref (z 0 0)), (1, .int x1)]) cx.1 cx.2.1 dX1_turn_117 rfl hl (by decide) rfl (fun ls hl => ?_)
    obtain ⟨n118, hwp⟩ := hwp
    exact wk_X1_turn_118 cx xt n118 _ _ _ _ _ _ _ hwp hw (lv_sub hl [2, 3, 1, 0] rfl)
  · skip
    exact k_leave (pc := 113) (wf := (wPb d nh hh cf z)) (u := (pb_O u 1 v4)) (k := k3) cx xt (by decide) hw hwp hx (by decide) (by decide)
set_option maxHeartbeats 4000000 in
theorem wk_X1_turn_2 {p : Program} {l : Launch} {e : Env} {s : State} {m : MethodId} {args : Array Value} {below : List Frame} {meth : Method} {c : Code} {A : Nat → Prop} {dC : Nat → ClassId} {dI : Nat → Nat → Nat} {d : Nat → ClassId} {z : Nat → Nat → Nat} {hh : Nat → Nat → Nat} {cf : List Value}{nh : Nat} {K : (PS × Bool) → Prop} {E : Nat → (PS × Bool) → Prop} (cx : Cx p s m args meth c cX1_turn RX1 5 none A dC dI d) (xt : c.exceptionTable.toList = tableOf []) : ∀ (n : Nat) (x1 : Int32) (x2 : Int32) (u : PS × Bool) (H : Heap) (locs : List Loc) (ls : Array Slot), wp_X1_turn_2 nh K E n x1 x2 u → Wd dC dI A ((wPb d nh hh cf z) u) s H locs → lv_has ls 5 [(0, .ref (z 0 0)), (1, .int x1), (2, .int x2)] → W p l e ({ frames := 3, cells := 0, slots := 0, locals := 69 } : Room) s m args below meth c H locs 0 0 (MQT below (kXv dC dI (wPb d nh hh cf z) K E A) args s 0 0 A) (F0 m 2 ls []) := by
  intro n
  induction n with
  | zero =>
    intros; contradiction
  | succ n ih =>
    intro x1 x2 u H locs ls hwp hw hl
    unfold wp_X1_turn_2 at hwp
    refine lv_iload_n (pc := 2) cx.1 cx.2.1 dX1_turn_2 rfl (lv_at hl 2 rfl) ?_
    refine lv_aload_n (pc := 3) cx.1 cx.2.1 dX1_turn_3 rfl (lv_at hl 0 rfl) ?_
    refine k_getR (pc := 4) (u := u) (v := .ref (sw_A u.2 z 6 0)) cx hw (lr_PLs_pl_8 d z hh cf nh) (C := RX1) (T := TX1) (N := 21) rfl in_X1 (by decide) q487 (fun _ h9 => h9) rfl dX1_turn_4 ?_
    refine k_getIN (pc := 7) (u := u) (v := ((u.1.1 6).1 5)) cx hw (ln_PLs_next_5 d z hh cf nh) (C := RX7) (T := TX7) (N := 7) rfl in_X7 (by decide) (nq340 cx.2.2.2.2.2.1) (fun _ h9 => h9) rfl dX1_turn_7 ?_
    refine lv_icmp_ge (pc := 10) (tgt := 88) cx.1 cx.2.1 dX1_turn_10 (by decide) (fun c1 => ?_) (fun c1 => ?_)
    · replace hwp := hwp.1 c1
      exact wk_X1_turn_88 cx xt _ _ _ _ _ hwp hw (lv_sub hl [0, 1] rfl)
    · replace hwp := hwp.2 c1
      refine lv_aload_n (pc := 13) cx.1 cx.2.1 dX1_turn_13 rfl (lv_at hl 0 rfl) ?_
      refine k_getR (pc := 14) (u := u) (v := .ref (sw_A u.2 z 6 0)) cx hw (lr_PLs_pl_8 d z hh cf nh) (C := RX1) (T := TX1) (N := 21) rfl in_X1 (by decide) q487 (fun _ h9 => h9) rfl dX1_turn_14 ?_
      refine k_getRN (pc := 17) (u := u) (v := .ref (sw_A u.2 z 6 4)) cx hw (lr_PLs_next_4 d z hh cf nh) (C := RX7) (T := TX7) (N := 7) rfl in_X7 (by decide) (nq338 cx.2.2.2.2.2.1) (fun _ h9 => h9) rfl dX1_turn_17 ?_
      refine lv_iload_n (pc := 20) cx.1 cx.2.1 dX1_turn_20 rfl (lv_at hl 2 rfl) ?_
      refine k_iald (pc := 21) (u := u) (f := ((u.1.1 6).2.1 4)) cx hw (lx_PLs_next_4 d z hh cf nh) 0 rfl rfl hwp.1 dX1_turn_21 ?_
      replace hwp := hwp.2
      refine lv_istore_n (pc := 22) (lv' := [(3, .int (((u.1.1 6).2.1 4) x2.toNatClampNeg)), (0, .ref (z 0 0)), (1, .int x1), (2, .int x2)]) cx.1 cx.2.1 dX1_turn_22 rfl hl (by decide) rfl (fun ls hl => ?_)
      refine lv_iconst (pc := 23) (v := 0) cx.1 cx.2.1 dX1_turn_23 (by decide) ?_
      refine lv_istore (pc := 24) (lv' := [(4, .int (0 : Int32)), (3, .int (((u.1.1 6).2.1 4) x2.toNatClampNeg)), (0, .ref (z 0 0)), (1, .int x1), (2, .int x2)]) cx.1 cx.2.1 dX1_turn_24 hl (by decide) rfl (fun ls hl => ?_)
      obtain ⟨n26, hwp⟩ := hwp
      exact wk_X1_turn_26 cx xt ih n26 _ _ _ _ _ _ _ _ hwp hw (lv_sub hl [2, 3, 4, 1, 0] rfl)
set_option maxHeartbeats 4000000 in
theorem m_X1_turn (l : Launch) (dC : Nat → ClassId) (dI : Nat → Nat → Nat) (d : Nat → ClassId) (z : Nat → Nat → Nat) (hh : Nat → Nat → Nat) (cf : List Value) (nh : Nat) (u : PS × Bool) (x1 : Int32) {K : (PS × Bool) → Prop} {E : Nat → (PS × Bool) → Prop} (hwp : wp_X1_turn nh u x1 K E) : kMT l yX1_turn cX1_turn 5 none ({ frames := 3, cells := 0, slots := 0, locals := 69 } : Room) dC dI d [.ref (z 0 0), .int x1] (wPb d nh hh cf z) u (kXv dC dI (wPb d nh hh cf z) K E) 0 0 := by
  refine kMT_start rfl (Nat.le_of_ble_eq_true rfl) ?_
  intro p e s m below meth c A ls cx hnm xt hw hl
  generalize hargs : ([.ref (z 0 0), .int x1] : List Value).toArray = args at cx ⊢
  unfold wp_X1_turn at hwp
  replace hl : lv_has ls 5 [(0, .ref (z 0 0)), (1, .int x1)] := hl
  generalize hH : s.heap = H at hw ⊢
  generalize hlo : ([] : List Loc) = locs at hw ⊢
  refine lv_iconst (pc := 0) (v := 0) cx.1 cx.2.1 dX1_turn_0 (by decide) ?_
  refine lv_istore_n (pc := 1) (lv' := [(2, .int (0 : Int32)), (0, .ref (z 0 0)), (1, .int x1)]) cx.1 cx.2.1 dX1_turn_1 rfl hl (by decide) rfl (fun ls hl => ?_)
  obtain ⟨n2, hwp⟩ := hwp
  exact wk_X1_turn_2 cx xt n2 _ _ _ _ _ _ hwp hw (lv_sub hl [1, 2, 0] rfl)
set_option maxHeartbeats 4000000 in
theorem m_X1_done (l : Launch) (dC : Nat → ClassId) (dI : Nat → Nat → Nat) (d : Nat → ClassId) (z : Nat → Nat → Nat) (hh : Nat → Nat → Nat) (cf : List Value) (nh : Nat) (u : PS × Bool) (x1 : Int32) (x2 : Int32) {K : Int32 → (PS × Bool) → Prop} (hwp : wp_X1_done nh u x1 x2 K) : kMW l yX1_done cX1_done 4 (some .int) [(10, 15, 18, 163)] ({ frames := 4, cells := 0, slots := 0, locals := 93 } : Room) dC dI d [.ref (z 0 0), .int x1, .int x2] (wPb d nh hh cf z) u (kQi dC dI (wPb d nh hh cf z) K) 0 0 := by
  refine kMW_start rfl (Nat.le_of_ble_eq_true rfl) ?_
  intro p e s m below meth c A ls cx hnm xt hw hl
  generalize hargs : ([.ref (z 0 0), .int x1, .int x2] : List Value).toArray = args at cx ⊢
  unfold wp_X1_done at hwp
  replace hl : lv_has ls 4 [(0, .ref (z 0 0)), (1, .int x1), (2, .int x2)] := hl
  generalize hH : s.heap = H at hw ⊢
  generalize hlo : ([] : List Loc) = locs at hw ⊢
  refine lv_aload_n (pc := 0) cx.1 cx.2.1 dX1_done_0 rfl (lv_at hl 0 rfl) ?_
  refine k_whole_i (pc := 1) (wf := (wP d nh hh cf (sw_A u.2 z))) (u := u.1) cx hw (k_runV (pc := 1) (rest := []) (As := []) cx hw.1 (hw.2.1.weaken (fun _ _ _ _ => trivial)) hw.2.2 (k_recv cx hw 0 (ci := 0) (q := (RX1, TX1, 21)) rfl rfl) (m_X1_places l dC dI d (sw_A u.2 z) hh cf nh u.1  hwp H.size) (cwV 0 cx.2.2.2.2.1 (lw_V q677 q679 qs13 q75 q680) rfl rfl rfl hdV_X1_places ⟨Nat.le_of_ble_eq_true rfl, Nat.le_of_ble_eq_true rfl⟩) rfl hl.1 rfl (Nat.le_of_ble_eq_true rfl) dX1_done_1 ⟨Nat.le_of_ble_eq_true rfl, Nat.le_of_ble_eq_true rfl⟩) (fun r2 v1 H locs hwp hw => ?_)
  replace hw : Wd dC dI A ((wPb d nh hh cf z) (v1, u.2)) s H locs := hw
  refine lv_if_ne (pc := 4) (tgt := 10) cx.1 cx.2.1 dX1_done_4 (by decide) (fun c3 => ?_) (fun c3 => ?_)
  · replace hwp := hwp.1 c3
    refine lv_aload_n (pc := 10) cx.1 cx.2.1 dX1_done_10 rfl (lv_at hl 0 rfl) ?_
    refine lv_iload_n (pc := 11) cx.1 cx.2.1 dX1_done_11 rfl (lv_at hl 1 rfl) ?_
    refine k_whole_Tv (pc := 12) (wf := (wPb d nh hh cf z)) (u := (v1, u.2)) cx hw (k_runVT (pc := 12) (rest := []) (As := [.int x1]) cx hw.1 (hw.2.1.weaken (fun _ _ _ _ => trivial)) hw.2.2 (k_recv cx hw 0 (ci := 0) (q := (RX1, TX1, 21)) rfl rfl) (m_X1_turn l dC dI d z hh cf nh (v1, u.2) x1 hwp H.size) (cwV 1 cx.2.2.2.2.1 (lw_V q689 q691 qs16 q75 q692) rfl rfl rfl hdV_X1_turn ⟨Nat.le_of_ble_eq_true rfl, Nat.le_of_ble_eq_true rfl⟩) rfl hl.1 rfl (Nat.le_of_ble_eq_true rfl) dX1_done_12 ⟨Nat.le_of_ble_eq_true rfl, Nat.le_of_ble_eq_true rfl⟩) (fun u4 H locs hwp hw => ?_) (fun k6 v7 a8 H locs hwp hw hx => ?_)
    · skip
      refine lv_goto (pc := 15) (tgt := 22) cx.1 cx.2.1 dX1_done_15 (by decide) ?_
      refine lv_iload_n (pc := 22) cx.1 cx.2.1 dX1_done_22 rfl (lv_at hl 2 rfl) ?_
      exact k_iret (pc := 23) (wf := (wPb d nh hh cf z)) (u := u4) cx hw hwp (by decide) (by decide) dX1_done_23
    · skip
      obtain ⟨hk2, hor⟩ := hwp
      rcases hor with rfl
      · replace hwp := hk2 rfl
        refine k_catch0 (pc := 12) (tgt := 18) (q := (RX3, TX3, 6)) cx xt rfl (by decide) q547 hx rfl ?_
        refine lv_astore_n (pc := 18) (lv' := [(3, .ref a8), (0, .ref (z 0 0)), (1, .int x1), (2, .int x2)]) cx.1 cx.2.1 dX1_done_18 rfl hl (by decide) rfl (fun ls hl => ?_)
        refine lv_bipush (pc := 19) (v := -9) cx.1 cx.2.1 dX1_done_19 (by decide) ?_
        exact k_iret (pc := 21) (wf := (wPb d nh hh cf z)) (u := v7) cx hw hwp (by decide) (by decide) dX1_done_21
  · replace hwp := hwp.2 c3
    refine lv_bipush (pc := 7) (v := -3) cx.1 cx.2.1 dX1_done_7 (by decide) ?_
    exact k_iret (pc := 9) (wf := (wPb d nh hh cf z)) (u := (v1, u.2)) cx hw hwp (by decide) (by decide) dX1_done_9
set_option maxHeartbeats 4000000 in
theorem wk_X1_flush_171 {p : Program} {l : Launch} {e : Env} {s : State} {m : MethodId} {args : Array Value} {below : List Frame} {meth : Method} {c : Code} {A : Nat → Prop} {dC : Nat → ClassId} {dI : Nat → Nat → Nat} {d : Nat → ClassId} {z : Nat → Nat → Nat} {hh : Nat → Nat → Nat} {cf : List Value}{nh : Nat} {C102 : Int32 → Int32 → Nat → Int32 → (PS × Bool) → Prop} {K : Int32 → (PS × Bool) → Prop} (cx : Cx p s m args meth c cX1_flush RX1 7 (some .int) A dC dI d) (hC102 : ∀ (x1 : Int32) (x2 : Int32) (s3 : Nat) (x4 : Int32) (u : PS × Bool) (H : Heap) (locs : List Loc) (ls : Array Slot), C102 x1 x2 s3 x4 u → Wd dC dI A ((wPb d nh hh cf z) u) s H locs → lv_has ls 7 [(0, .ref (z 0 0)), (1, .int x1), (2, .int x2), (3, .ref (hh s3 0)), (4, .int x4)] → W p l e ({ frames := 5, cells := 0, slots := 0, locals := 116 } : Room) s m args below meth c H locs 0 0 (MQ below (kQi dC dI (wPb d nh hh cf z) K A) args s 0 0 A) (F0 m 102 ls [])) : ∀ (x1 : Int32) (x2 : Int32) (s3 : Nat) (x4 : Int32) (u : PS × Bool) (H : Heap) (locs : List Loc) (ls : Array Slot), wp_X1_flush_171 nh C102 K x1 x2 s3 x4 u → Wd dC dI A ((wPb d nh hh cf z) u) s H locs → lv_has ls 7 [(0, .ref (z 0 0)), (1, .int x1), (2, .int x2), (3, .ref (hh s3 0)), (4, .int x4)] → W p l e ({ frames := 5, cells := 0, slots := 0, locals := 116 } : Room) s m args below meth c H locs 0 0 (MQ below (kQi dC dI (wPb d nh hh cf z) K A) args s 0 0 A) (F0 m 171 ls []) := by
  intro x1 x2 s3 x4 u H locs ls hwp hw hl
  unfold wp_X1_flush_171 at hwp
  obtain ⟨hb3, hwp⟩ := hwp
  refine lv_aload_n (pc := 171) cx.1 cx.2.1 dX1_flush_171 rfl (lv_at hl 0 rfl) ?_
  refine k_whole_v (pc := 172) (wf := (wP d nh hh cf (sw_A u.2 z))) (u := u.1) cx hw (k_runV (pc := 172) (rest := []) (As := []) cx hw.1 (hw.2.1.weaken (fun _ _ _ _ => trivial)) hw.2.2 (k_recv cx hw 0 (ci := 0) (q := (RX1, TX1, 21)) rfl rfl) (m_X1_closes l dC dI d (sw_A u.2 z) hh cf nh u.1  hwp H.size) (cwV 0 cx.2.2.2.2.1 (lw_V q665 q667 qs11 q75 q668) rfl rfl rfl hdV_X1_closes ⟨Nat.le_of_ble_eq_true rfl, Nat.le_of_ble_eq_true rfl⟩) rfl hl.1 rfl (Nat.le_of_ble_eq_true rfl) dX1_flush_172 ⟨Nat.le_of_ble_eq_true rfl, Nat.le_of_ble_eq_true rfl⟩) (fun v1 H locs hwp hw => ?_)
  replace hw : Wd dC dI A ((wPb d nh hh cf z) (v1, u.2)) s H locs := hw
  refine lv_iinc (pc := 175) (v := (x1 + (1 : Int32))) (lv' := [(1, .int (x1 + (1 : Int32))), (0, .ref (z 0 0)), (2, .int x2), (3, .ref (hh s3 0)), (4, .int x4)]) cx.1 cx.2.1 dX1_flush_175 hl (k := 1) rfl rfl (by decide) rfl (fun ls hl => ?_)
  refine lv_iload (pc := 178) cx.1 cx.2.1 dX1_flush_178 (lv_at hl 4 rfl) ?_
  refine lv_aload_n (pc := 180) cx.1 cx.2.1 dX1_flush_180 rfl (lv_at hl 1 rfl) ?_
  refine k_getI (pc := 181) (u := (v1, u.2)) (v := (((v1, u.2).1.1 0).1 1)) cx hw (ln_PLs_pl_1 d z hh cf nh) (C := RX1) (T := TX1) (N := 21) rfl in_X1 (by decide) q477 (fun _ h9 => h9) rfl dX1_flush_181 ?_
  refine lv_iadd (pc := 184) cx.1 cx.2.1 dX1_flush_184 ?_
  refine lv_istore (pc := 185) (lv' := [(4, .int (x4 + (((v1, u.2).1.1 0).1 1))), (1, .int (x1 + (1 : Int32))), (0, .ref (z 0 0)), (2, .int x2), (3, .ref (hh s3 0))]) cx.1 cx.2.1 dX1_flush_185 hl (by decide) rfl (fun ls hl => ?_)
  refine lv_goto (pc := 187) (tgt := 102) cx.1 cx.2.1 dX1_flush_187 (by decide) ?_
  exact hC102 _ _ _ _ _ _ _ _ hwp hw (lv_sub hl [2, 1, 3, 4, 0] rfl)
set_option maxHeartbeats 4000000 in
theorem wk_X1_flush_126 {p : Program} {l : Launch} {e : Env} {s : State} {m : MethodId} {args : Array Value} {below : List Frame} {meth : Method} {c : Code} {A : Nat → Prop} {dC : Nat → ClassId} {dI : Nat → Nat → Nat} {d : Nat → ClassId} {z : Nat → Nat → Nat} {hh : Nat → Nat → Nat} {cf : List Value}{nh : Nat} {C102 : Int32 → Int32 → Nat → Int32 → (PS × Bool) → Prop} {K : Int32 → (PS × Bool) → Prop} (cx : Cx p s m args meth c cX1_flush RX1 7 (some .int) A dC dI d) (hC102 : ∀ (x1 : Int32) (x2 : Int32) (s3 : Nat) (x4 : Int32) (u : PS × Bool) (H : Heap) (locs : List Loc) (ls : Array Slot), C102 x1 x2 s3 x4 u → Wd dC dI A ((wPb d nh hh cf z) u) s H locs → lv_has ls 7 [(0, .ref (z 0 0)), (1, .int x1), (2, .int x2), (3, .ref (hh s3 0)), (4, .int x4)] → W p l e ({ frames := 5, cells := 0, slots := 0, locals := 116 } : Room) s m args below meth c H locs 0 0 (MQ below (kQi dC dI (wPb d nh hh cf z) K A) args s 0 0 A) (F0 m 102 ls [])) : ∀ (n : Nat) (x1 : Int32) (x2 : Int32) (s3 : Nat) (x4 : Int32) (x5 : Int32) (u : PS × Bool) (H : Heap) (locs : List Loc) (ls : Array Slot), wp_X1_flush_126 nh C102 K n x1 x2 s3 x4 x5 u → Wd dC dI A ((wPb d nh hh cf z) u) s H locs → lv_has ls 7 [(0, .ref (z 0 0)), (1, .int x1), (2, .int x2), (3, .ref (hh s3 0)), (4, .int x4), (5, .int x5)] → W p l e ({ frames := 5, cells := 0, slots := 0, locals := 116 } : Room) s m args below meth c H locs 0 0 (MQ below (kQi dC dI (wPb d nh hh cf z) K A) args s 0 0 A) (F0 m 126 ls []) := by
  intro n
  induction n with
  | zero =>
    intros; contradiction
  | succ n ih =>
    intro x1 x2 s3 x4 x5 u H locs ls hwp hw hl
    unfold wp_X1_flush_126 at hwp
    obtain ⟨hb3, hwp⟩ := hwp
    refine lv_iload (pc := 126) cx.1 cx.2.1 dX1_flush_126 (lv_at hl 5 rfl) ?_
    refine lv_aload_n (pc := 128) cx.1 cx.2.1 dX1_flush_128 rfl (lv_at hl 3 rfl) ?_
    refine k_getIN (pc := 129) (u := u) (v := ((u.1.2 s3).1 2)) cx hw (lhn_PLs_2 d z hh cf nh hb3) (C := RX11) (T := TX11) (N := 3) rfl in_X11 (by decide) (nq450 cx.2.2.2.2.2.1) (fun _ h9 => h9) rfl dX1_flush_129 ?_
    refine lv_icmp_ge (pc := 132) (tgt := 171) cx.1 cx.2.1 dX1_flush_132 (by decide) (fun c1 => ?_) (fun c1 => ?_)
    · replace hwp := hwp.1 c1
      exact wk_X1_flush_171 cx hC102 _ _ _ _ _ _ _ _ hwp hw (lv_sub hl [0, 1, 2, 3, 4] rfl)
    · replace hwp := hwp.2 c1
      refine lv_iload (pc := 135) cx.1 cx.2.1 dX1_flush_135 (lv_at hl 5 rfl) ?_
      refine lv_iload (pc := 137) cx.1 cx.2.1 dX1_flush_137 (lv_at hl 4 rfl) ?_
      refine lv_aload_n (pc := 139) cx.1 cx.2.1 dX1_flush_139 rfl (lv_at hl 0 rfl) ?_
      refine k_getI (pc := 140) (u := u) (v := ((u.1.1 0).1 1)) cx hw (ln_PLs_pl_1 d z hh cf nh) (C := RX1) (T := TX1) (N := 21) rfl in_X1 (by decide) q477 (fun _ h9 => h9) rfl dX1_flush_140 ?_
      refine lv_iadd (pc := 143) cx.1 cx.2.1 dX1_flush_143 ?_
      refine lv_icmp_ge (pc := 144) (tgt := 171) cx.1 cx.2.1 dX1_flush_144 (by decide) (fun c2 => ?_) (fun c2 => ?_)
      · replace hwp := hwp.1 c2
        exact wk_X1_flush_171 cx hC102 _ _ _ _ _ _ _ _ hwp hw (lv_sub hl [0, 1, 2, 3, 4] rfl)
      · replace hwp := hwp.2 c2
        refine lv_aload_n (pc := 147) cx.1 cx.2.1 dX1_flush_147 rfl (lv_at hl 0 rfl) ?_
        refine lv_aload_n (pc := 148) cx.1 cx.2.1 dX1_flush_148 rfl (lv_at hl 3 rfl) ?_
        refine k_getRN (pc := 149) (u := u) (v := .ref (hh s3 1)) cx hw (lhr_PLs_0 d z hh cf nh hb3) (C := RX11) (T := TX11) (N := 3) rfl in_X11 (by decide) (nq444 cx.2.2.2.2.2.1) (fun _ h9 => h9) rfl dX1_flush_149 ?_
        refine lv_iload (pc := 152) cx.1 cx.2.1 dX1_flush_152 (lv_at hl 5 rfl) ?_
        refine k_iald (pc := 154) (u := u) (f := ((u.1.2 s3).2.1 0)) cx hw (lhx_PLs_0 d z hh cf nh hb3) 0 rfl rfl hwp.1 dX1_flush_154 ?_
        replace hwp := hwp.2
        refine lv_aload_n (pc := 155) cx.1 cx.2.1 dX1_flush_155 rfl (lv_at hl 3 rfl) ?_
        refine k_getRN (pc := 156) (u := u) (v := .ref (hh s3 2)) cx hw (lhr_PLs_1 d z hh cf nh hb3) (C := RX11) (T := TX11) (N := 3) rfl in_X11 (by decide) (nq447 cx.2.2.2.2.2.1) (fun _ h9 => h9) rfl dX1_flush_156 ?_
        refine lv_iload (pc := 159) cx.1 cx.2.1 dX1_flush_159 (lv_at hl 5 rfl) ?_
        refine k_iald (pc := 161) (u := u) (f := ((u.1.2 s3).2.1 1)) cx hw (lhx_PLs_1 d z hh cf nh hb3) 0 rfl rfl hwp.1 dX1_flush_161 ?_
        replace hwp := hwp.2
        refine k_whole_v (pc := 162) (wf := (wP d nh hh cf (sw_A u.2 z))) (u := u.1) cx hw (k_runV (pc := 162) (rest := []) (As := [.int (((u.1.2 s3).2.1 0) x5.toNatClampNeg), .int (((u.1.2 s3).2.1 1) x5.toNatClampNeg)]) cx hw.1 (hw.2.1.weaken (fun _ _ _ _ => trivial)) hw.2.2 (k_recv cx hw 0 (ci := 0) (q := (RX1, TX1, 21)) rfl rfl) (m_X1_adds l dC dI d (sw_A u.2 z) hh cf nh u.1 (((u.1.2 s3).2.1 0) x5.toNatClampNeg) (((u.1.2 s3).2.1 1) x5.toNatClampNeg) hwp H.size) (cwV 2 cx.2.2.2.2.1 (lw_V q633 q635 qs8 q75 q636) rfl rfl rfl hdV_X1_adds ⟨Nat.le_of_ble_eq_true rfl, Nat.le_of_ble_eq_true rfl⟩) rfl hl.1 rfl (Nat.le_of_ble_eq_true rfl) dX1_flush_162 ⟨Nat.le_of_ble_eq_true rfl, Nat.le_of_ble_eq_true rfl⟩) (fun v3 H locs hwp hw => ?_)
        replace hw : Wd dC dI A ((wPb d nh hh cf z) (v3, u.2)) s H locs := hw
        refine lv_iinc (pc := 165) (v := (x5 + (1 : Int32))) (lv' := [(5, .int (x5 + (1 : Int32))), (0, .ref (z 0 0)), (1, .int x1), (2, .int x2), (3, .ref (hh s3 0)), (4, .int x4)]) cx.1 cx.2.1 dX1_flush_165 hl (k := 5) rfl rfl (by decide) rfl (fun ls hl => ?_)
        refine lv_goto (pc := 168) (tgt := 126) cx.1 cx.2.1 dX1_flush_168 (by decide) ?_
        exact ih _ _ _ _ _ _ _ _ _ hwp hw (lv_sub hl [1, 2, 3, 4, 5, 0] rfl)
set_option maxHeartbeats 4000000 in
theorem wk_X1_flush_102 {p : Program} {l : Launch} {e : Env} {s : State} {m : MethodId} {args : Array Value} {below : List Frame} {meth : Method} {c : Code} {A : Nat → Prop} {dC : Nat → ClassId} {dI : Nat → Nat → Nat} {d : Nat → ClassId} {z : Nat → Nat → Nat} {hh : Nat → Nat → Nat} {cf : List Value}{nh : Nat} {C35 : Int32 → Int32 → (PS × Bool) → Prop} {K : Int32 → (PS × Bool) → Prop} (cx : Cx p s m args meth c cX1_flush RX1 7 (some .int) A dC dI d) (hC35 : ∀ (x1 : Int32) (x2 : Int32) (u : PS × Bool) (H : Heap) (locs : List Loc) (ls : Array Slot), C35 x1 x2 u → Wd dC dI A ((wPb d nh hh cf z) u) s H locs → lv_has ls 7 [(0, .ref (z 0 0)), (1, .int x1), (2, .int x2)] → W p l e ({ frames := 5, cells := 0, slots := 0, locals := 116 } : Room) s m args below meth c H locs 0 0 (MQ below (kQi dC dI (wPb d nh hh cf z) K A) args s 0 0 A) (F0 m 35 ls [])) : ∀ (n : Nat) (x1 : Int32) (x2 : Int32) (s3 : Nat) (x4 : Int32) (u : PS × Bool) (H : Heap) (locs : List Loc) (ls : Array Slot), wp_X1_flush_102 nh C35 K n x1 x2 s3 x4 u → Wd dC dI A ((wPb d nh hh cf z) u) s H locs → lv_has ls 7 [(0, .ref (z 0 0)), (1, .int x1), (2, .int x2), (3, .ref (hh s3 0)), (4, .int x4)] → W p l e ({ frames := 5, cells := 0, slots := 0, locals := 116 } : Room) s m args below meth c H locs 0 0 (MQ below (kQi dC dI (wPb d nh hh cf z) K A) args s 0 0 A) (F0 m 102 ls []) := by
  intro n
  induction n with
  | zero =>
    intros; contradiction
  | succ n ih =>
    intro x1 x2 s3 x4 u H locs ls hwp hw hl
    unfold wp_X1_flush_102 at hwp
    obtain ⟨hb3, hwp⟩ := hwp
    refine lv_iload (pc := 102) cx.1 cx.2.1 dX1_flush_102 (lv_at hl 4 rfl) ?_
    refine lv_aload_n (pc := 104) cx.1 cx.2.1 dX1_flush_104 rfl (lv_at hl 3 rfl) ?_
    refine k_getIN (pc := 105) (u := u) (v := ((u.1.2 s3).1 2)) cx hw (lhn_PLs_2 d z hh cf nh hb3) (C := RX11) (T := TX11) (N := 3) rfl in_X11 (by decide) (nq450 cx.2.2.2.2.2.1) (fun _ h9 => h9) rfl dX1_flush_105 ?_
    refine lv_icmp_ge (pc := 108) (tgt := 190) cx.1 cx.2.1 dX1_flush_108 (by decide) (fun c1 => ?_) (fun c1 => ?_)
    · replace hwp := hwp.1 c1
      refine lv_iinc (pc := 190) (v := (x2 + (1 : Int32))) (lv' := [(2, .int (x2 + (1 : Int32))), (0, .ref (z 0 0)), (1, .int x1), (3, .ref (hh s3 0)), (4, .int x4)]) cx.1 cx.2.1 dX1_flush_190 hl (k := 2) rfl rfl (by decide) rfl (fun ls hl => ?_)
      refine lv_goto (pc := 193) (tgt := 35) cx.1 cx.2.1 dX1_flush_193 (by decide) ?_
      exact hC35 _ _ _ _ _ _ hwp hw (lv_sub hl [1, 2, 0] rfl)
    · replace hwp := hwp.2 c1
      refine lv_aload_n (pc := 111) cx.1 cx.2.1 dX1_flush_111 rfl (lv_at hl 0 rfl) ?_
      refine lv_iload_n (pc := 112) cx.1 cx.2.1 dX1_flush_112 rfl (lv_at hl 2 rfl) ?_
      refine k_whole_i (pc := 113) (wf := (wP d nh hh cf (sw_A u.2 z))) (u := u.1) cx hw (k_runV (pc := 113) (rest := []) (As := [.int x2]) cx hw.1 (hw.2.1.weaken (fun _ _ _ _ => trivial)) hw.2.2 (k_recv cx hw 0 (ci := 0) (q := (RX1, TX1, 21)) rfl rfl) (m_X1_opens l dC dI d (sw_A u.2 z) hh cf nh u.1 x2 hwp H.size) (cwV 1 cx.2.2.2.2.1 (lw_V q624 q626 qs7 q75 q627) rfl rfl rfl hdV_X1_opens ⟨Nat.le_of_ble_eq_true rfl, Nat.le_of_ble_eq_true rfl⟩) rfl hl.1 rfl (Nat.le_of_ble_eq_true rfl) dX1_flush_113 ⟨Nat.le_of_ble_eq_true rfl, Nat.le_of_ble_eq_true rfl⟩) (fun r3 v2 H locs hwp hw => ?_)
      replace hw : Wd dC dI A ((wPb d nh hh cf z) (v2, u.2)) s H locs := hw
      refine lv_if_ne (pc := 116) (tgt := 122) cx.1 cx.2.1 dX1_flush_116 (by decide) (fun c4 => ?_) (fun c4 => ?_)
      · replace hwp := hwp.1 c4
        refine lv_iload (pc := 122) cx.1 cx.2.1 dX1_flush_122 (lv_at hl 4 rfl) ?_
        refine lv_istore (pc := 124) (lv' := [(5, .int x4), (0, .ref (z 0 0)), (1, .int x1), (2, .int x2), (3, .ref (hh s3 0)), (4, .int x4)]) cx.1 cx.2.1 dX1_flush_124 hl (by decide) rfl (fun ls hl => ?_)
        obtain ⟨n126, hwp⟩ := hwp
        exact wk_X1_flush_126 cx ih n126 _ _ _ _ _ _ _ _ _ hwp hw (lv_sub hl [1, 2, 3, 4, 5, 0] rfl)
      · replace hwp := hwp.2 c4
        refine lv_bipush (pc := 119) (v := -3) cx.1 cx.2.1 dX1_flush_119 (by decide) ?_
        exact k_iret (pc := 121) (wf := (wPb d nh hh cf z)) (u := (v2, u.2)) cx hw hwp (by decide) (by decide) dX1_flush_121
set_option maxHeartbeats 4000000 in
theorem wk_X1_flush_92 {p : Program} {l : Launch} {e : Env} {s : State} {m : MethodId} {args : Array Value} {below : List Frame} {meth : Method} {c : Code} {A : Nat → Prop} {dC : Nat → ClassId} {dI : Nat → Nat → Nat} {d : Nat → ClassId} {z : Nat → Nat → Nat} {hh : Nat → Nat → Nat} {cf : List Value}{nh : Nat} {C35 : Int32 → Int32 → (PS × Bool) → Prop} {K : Int32 → (PS × Bool) → Prop} (cx : Cx p s m args meth c cX1_flush RX1 7 (some .int) A dC dI d) (hC35 : ∀ (x1 : Int32) (x2 : Int32) (u : PS × Bool) (H : Heap) (locs : List Loc) (ls : Array Slot), C35 x1 x2 u → Wd dC dI A ((wPb d nh hh cf z) u) s H locs → lv_has ls 7 [(0, .ref (z 0 0)), (1, .int x1), (2, .int x2)] → W p l e ({ frames := 5, cells := 0, slots := 0, locals := 116 } : Room) s m args below meth c H locs 0 0 (MQ below (kQi dC dI (wPb d nh hh cf z) K A) args s 0 0 A) (F0 m 35 ls [])) : ∀ (x1 : Int32) (x2 : Int32) (u : PS × Bool) (H : Heap) (locs : List Loc) (ls : Array Slot), wp_X1_flush_92 nh C35 K x1 x2 u → Wd dC dI A ((wPb d nh hh cf z) u) s H locs → lv_has ls 7 [(0, .ref (z 0 0)), (1, .int x1), (2, .int x2)] → W p l e ({ frames := 5, cells := 0, slots := 0, locals := 116 } : Room) s m args below meth c H locs 0 0 (MQ below (kQi dC dI (wPb d nh hh cf z) K A) args s 0 0 A) (F0 m 92 ls []) := by
  intro x1 x2 u H locs ls hwp hw hl
  unfold wp_X1_flush_92 at hwp
  refine lv_aload_n (pc := 92) cx.1 cx.2.1 dX1_flush_92 rfl (lv_at hl 0 rfl) ?_
  refine k_getR (pc := 93) (u := u) (v := .ref (z 0 3)) cx hw (lr_PLs_pl_4 d z hh cf nh) (C := RX1) (T := TX1) (N := 21) rfl in_X1 (by decide) q481 (fun _ h9 => h9) rfl dX1_flush_93 ?_
  refine lv_iload_n (pc := 96) cx.1 cx.2.1 dX1_flush_96 rfl (lv_at hl 2 rfl) ?_
  have hs1 := vp_lt hwp.1
  refine k_hald_PLs (pc := 97) cx hw hwp.1 dX1_flush_97 ?_
  replace hwp := hwp.2
  refine lv_astore_n (pc := 98) (lv' := [(3, .ref (hh x2.toNatClampNeg 0)), (0, .ref (z 0 0)), (1, .int x1), (2, .int x2)]) cx.1 cx.2.1 dX1_flush_98 rfl hl (by decide) rfl (fun ls hl => ?_)
  refine lv_iconst (pc := 99) (v := 0) cx.1 cx.2.1 dX1_flush_99 (by decide) ?_
  refine lv_istore (pc := 100) (lv' := [(4, .int (0 : Int32)), (3, .ref (hh x2.toNatClampNeg 0)), (0, .ref (z 0 0)), (1, .int x1), (2, .int x2)]) cx.1 cx.2.1 dX1_flush_100 hl (by decide) rfl (fun ls hl => ?_)
  obtain ⟨n102, hwp⟩ := hwp
  exact wk_X1_flush_102 cx hC35 n102 _ _ _ _ _ _ _ _ hwp hw (lv_sub hl [2, 3, 4, 1, 0] rfl)
set_option maxHeartbeats 4000000 in
theorem wk_X1_flush_53 {p : Program} {l : Launch} {e : Env} {s : State} {m : MethodId} {args : Array Value} {below : List Frame} {meth : Method} {c : Code} {A : Nat → Prop} {dC : Nat → ClassId} {dI : Nat → Nat → Nat} {d : Nat → ClassId} {z : Nat → Nat → Nat} {hh : Nat → Nat → Nat} {cf : List Value}{nh : Nat} {C35 : Int32 → Int32 → (PS × Bool) → Prop} {K : Int32 → (PS × Bool) → Prop} (cx : Cx p s m args meth c cX1_flush RX1 7 (some .int) A dC dI d) (hC35 : ∀ (x1 : Int32) (x2 : Int32) (u : PS × Bool) (H : Heap) (locs : List Loc) (ls : Array Slot), C35 x1 x2 u → Wd dC dI A ((wPb d nh hh cf z) u) s H locs → lv_has ls 7 [(0, .ref (z 0 0)), (1, .int x1), (2, .int x2)] → W p l e ({ frames := 5, cells := 0, slots := 0, locals := 116 } : Room) s m args below meth c H locs 0 0 (MQ below (kQi dC dI (wPb d nh hh cf z) K A) args s 0 0 A) (F0 m 35 ls [])) : ∀ (n : Nat) (x1 : Int32) (x2 : Int32) (x3 : Int32) (u : PS × Bool) (H : Heap) (locs : List Loc) (ls : Array Slot), wp_X1_flush_53 nh C35 K n x1 x2 x3 u → Wd dC dI A ((wPb d nh hh cf z) u) s H locs → lv_has ls 7 [(0, .ref (z 0 0)), (1, .int x1), (2, .int x2), (3, .int x3)] → W p l e ({ frames := 5, cells := 0, slots := 0, locals := 116 } : Room) s m args below meth c H locs 0 0 (MQ below (kQi dC dI (wPb d nh hh cf z) K A) args s 0 0 A) (F0 m 53 ls []) := by
  intro n
  induction n with
  | zero =>
    intros; contradiction
  | succ n ih =>
    intro x1 x2 x3 u H locs ls hwp hw hl
    unfold wp_X1_flush_53 at hwp
    refine lv_iload_n (pc := 53) cx.1 cx.2.1 dX1_flush_53 rfl (lv_at hl 3 rfl) ?_
    refine lv_aload_n (pc := 54) cx.1 cx.2.1 dX1_flush_54 rfl (lv_at hl 0 rfl) ?_
    refine k_getR (pc := 55) (u := u) (v := .ref (sw_A u.2 z 4 0)) cx hw (lr_PLs_pl_7 d z hh cf nh) (C := RX1) (T := TX1) (N := 21) rfl in_X1 (by decide) q485 (fun _ h9 => h9) rfl dX1_flush_55 ?_
    refine k_getRN (pc := 58) (u := u) (v := .ref (sw_A u.2 z 4 5)) cx hw (lr_PLs_now_6 d z hh cf nh) (C := RX7) (T := TX7) (N := 7) rfl in_X7 (by decide) (nq343 cx.2.2.2.2.2.1) (fun _ h9 => h9) rfl dX1_flush_58 ?_
    refine lv_iload_n (pc := 61) cx.1 cx.2.1 dX1_flush_61 rfl (lv_at hl 2 rfl) ?_
    refine lv_iconst (pc := 62) (v := 1) cx.1 cx.2.1 dX1_flush_62 (by decide) ?_
    refine lv_iadd (pc := 63) cx.1 cx.2.1 dX1_flush_63 ?_
    refine k_iald (pc := 64) (u := u) (f := ((u.1.1 4).2.1 6)) cx hw (lx_PLs_now_6 d z hh cf nh) 0 rfl rfl hwp.1 dX1_flush_64 ?_
    replace hwp := hwp.2
    refine lv_icmp_ge (pc := 65) (tgt := 92) cx.1 cx.2.1 dX1_flush_65 (by decide) (fun c1 => ?_) (fun c1 => ?_)
    · replace hwp := hwp.1 c1
      exact wk_X1_flush_92 cx hC35 _ _ _ _ _ _ hwp hw (lv_sub hl [0, 1, 2] rfl)
    · replace hwp := hwp.2 c1
      refine lv_aload_n (pc := 68) cx.1 cx.2.1 dX1_flush_68 rfl (lv_at hl 0 rfl) ?_
      refine k_getR (pc := 69) (u := u) (v := .ref (sw_A u.2 z 6 0)) cx hw (lr_PLs_pl_8 d z hh cf nh) (C := RX1) (T := TX1) (N := 21) rfl in_X1 (by decide) q487 (fun _ h9 => h9) rfl dX1_flush_69 ?_
      refine lv_aload_n (pc := 72) cx.1 cx.2.1 dX1_flush_72 rfl (lv_at hl 0 rfl) ?_
      refine k_getR (pc := 73) (u := u) (v := .ref (sw_A u.2 z 4 0)) cx hw (lr_PLs_pl_7 d z hh cf nh) (C := RX1) (T := TX1) (N := 21) rfl in_X1 (by decide) q485 (fun _ h9 => h9) rfl dX1_flush_73 ?_
      refine lv_iload_n (pc := 76) cx.1 cx.2.1 dX1_flush_76 rfl (lv_at hl 3 rfl) ?_
      have hpt := k_part (w := (wf_X7c d (sw_A u.2 z 6) (sw_A u.2 z 7) (sw_A u.2 z 4) (sw_A u.2 z 5) (u.1.1 4) (u.1.1 5)) ((u.1.1 6), (u.1.1 7))) (is := [23, 24, 25, 26, 27, 28, 29, 30, 31, 32, 33, 34, 35, 10, 11, 12, 13, 14, 15, 16, 17, 18, 19, 20, 21, 22]) hw (pc_PLs_X7c_next_nextsp_now_nowsp d z hh cf nh u) (by decide)
      refine k_part_i (pc := 77) (wf := (wf_X7c d (sw_A u.2 z 6) (sw_A u.2 z 7) (sw_A u.2 z 4) (sw_A u.2 z 5) (u.1.1 4) (u.1.1 5))) (u := ((u.1.1 6), (u.1.1 7))) cx hw [23, 24, 25, 26, 27, 28, 29, 30, 31, 32, 33, 34, 35, 10, 11, 12, 13, 14, 15, 16, 17, 18, 19, 20, 21, 22] (pc_PLs_X7c_next_nextsp_now_nowsp d z hh cf nh u) (by decide) (fun _ => rfl) (pw_PLs_X7c_next_nextsp_now_nowsp d z hh cf nh u) (k_runV (pc := 77) (rest := []) (As := [.ref (sw_A u.2 z 4 0), .int x3]) cx hpt.1 hpt.2 hw.2.2 (k_recv cx hw 23 (ci := 5) (q := (RX7, TX7, 7)) rfl rfl) (m_X7_copies l dC dI d (sw_A u.2 z 6) (sw_A u.2 z 7) (sw_A u.2 z 4) (sw_A u.2 z 5) (u.1.1 4) (u.1.1 5) ((u.1.1 6), (u.1.1 7)) x3 hwp H.size) (cwV 2 cx.2.2.2.2.1 (lw_V q614 q615 q616 q83 q617) rfl rfl rfl hdV_X7_copies ⟨Nat.le_of_ble_eq_true rfl, Nat.le_of_ble_eq_true rfl⟩) rfl hl.1 rfl (Nat.le_of_ble_eq_true rfl) dX1_flush_77 ⟨Nat.le_of_ble_eq_true rfl, Nat.le_of_ble_eq_true rfl⟩) (fun r3 v2 H locs hwp hw => ?_)
      refine lv_if_ne (pc := 80) (tgt := 86) cx.1 cx.2.1 dX1_flush_80 (by decide) (fun c4 => ?_) (fun c4 => ?_)
      · replace hwp := hwp.1 c4
        refine lv_iinc (pc := 86) (v := (x3 + (1 : Int32))) (lv' := [(3, .int (x3 + (1 : Int32))), (0, .ref (z 0 0)), (1, .int x1), (2, .int x2)]) cx.1 cx.2.1 dX1_flush_86 hl (k := 3) rfl rfl (by decide) rfl (fun ls hl => ?_)
        refine lv_goto (pc := 89) (tgt := 53) cx.1 cx.2.1 dX1_flush_89 (by decide) ?_
        exact ih _ _ _ _ _ _ _ hwp hw (lv_sub hl [1, 2, 3, 0] rfl)
      · replace hwp := hwp.2 c4
        refine lv_bipush (pc := 83) (v := -3) cx.1 cx.2.1 dX1_flush_83 (by decide) ?_
        exact k_iret (pc := 85) (wf := (wPb d nh hh cf z)) (u := (pb_O (pb_O u 6 v2.1) 7 v2.2)) cx hw hwp (by decide) (by decide) dX1_flush_85
set_option maxHeartbeats 4000000 in
theorem wk_X1_flush_229 {p : Program} {l : Launch} {e : Env} {s : State} {m : MethodId} {args : Array Value} {below : List Frame} {meth : Method} {c : Code} {A : Nat → Prop} {dC : Nat → ClassId} {dI : Nat → Nat → Nat} {d : Nat → ClassId} {z : Nat → Nat → Nat} {hh : Nat → Nat → Nat} {cf : List Value}{nh : Nat} {K : Int32 → (PS × Bool) → Prop} (cx : Cx p s m args meth c cX1_flush RX1 7 (some .int) A dC dI d) : ∀ (n : Nat) (x2 : Int32) (x4 : Int32) (x5 : Int32) (u : PS × Bool) (H : Heap) (locs : List Loc) (ls : Array Slot), wp_X1_flush_229 nh K n x2 x4 x5 u → Wd dC dI A ((wPb d nh hh cf z) u) s H locs → lv_has ls 7 [(2, .int x2), (3, .ref (z 0 3)), (4, .int x4), (5, .int x5)] → W p l e ({ frames := 5, cells := 0, slots := 0, locals := 116 } : Room) s m args below meth c H locs 0 0 (MQ below (kQi dC dI (wPb d nh hh cf z) K A) args s 0 0 A) (F0 m 229 ls []) := by
  intro n
  induction n with
  | zero =>
    intros; contradiction
  | succ n ih =>
    intro x2 x4 x5 u H locs ls hwp hw hl
    unfold wp_X1_flush_229 at hwp
    refine lv_iload (pc := 229) cx.1 cx.2.1 dX1_flush_229 (lv_at hl 3 rfl) ?_
    refine lv_iload (pc := 231) cx.1 cx.2.1 dX1_flush_231 (lv_at hl 2 rfl) ?_
    refine lv_icmp_ge (pc := 233) (tgt := 254) cx.1 cx.2.1 dX1_flush_233 (by decide) (fun c1 => ?_) (fun c1 => ?_)
    · replace hwp := hwp.1 c1
      refine lv_iload_n (pc := 254) cx.1 cx.2.1 dX1_flush_254 rfl (lv_at hl 0 rfl) ?_
      exact k_iret (pc := 255) (wf := (wPb d nh hh cf z)) (u := u) cx hw hwp (by decide) (by decide) dX1_flush_255
    · replace hwp := hwp.2 c1
      refine lv_aload_n (pc := 236) cx.1 cx.2.1 dX1_flush_236 rfl (lv_at hl 1 rfl) ?_
      refine lv_iload (pc := 237) cx.1 cx.2.1 dX1_flush_237 (lv_at hl 3 rfl) ?_
      have hs2 := vp_lt hwp.1
      refine k_hald_PLs (pc := 239) cx hw hwp.1 dX1_flush_239 ?_
      replace hwp := hwp.2
      refine lv_astore (pc := 240) (lv' := [(6, .ref (hh x5.toNatClampNeg 0)), (2, .int x2), (3, .ref (z 0 3)), (4, .int x4), (5, .int x5)]) cx.1 cx.2.1 dX1_flush_240 hl (by decide) rfl (fun ls hl => ?_)
      refine lv_aload (pc := 242) cx.1 cx.2.1 dX1_flush_242 (lv_at hl 0 rfl) ?_
      refine lv_iconst (pc := 244) (v := 0) cx.1 cx.2.1 dX1_flush_244 (by decide) ?_
      refine k_putIN (pc := 245) (u := u) (v := (0 : Int32)) cx hw (lhn_PLs_2 d z hh cf nh hs2) (C := RX11) (T := TX11) (N := 3) rfl in_X11 tyX11 tyX11_ok nmX11 (by decide) (nq450 cx.2.2.2.2.2.1) (fun _ h9 => h9) rfl rfl rfl dX1_flush_245 (fun H locs hw => ?_)
      refine lv_iinc (pc := 248) (v := (x5 + (1 : Int32))) (lv' := [(5, .int (x5 + (1 : Int32))), (6, .ref (hh x5.toNatClampNeg 0)), (2, .int x2), (3, .ref (z 0 3)), (4, .int x4)]) cx.1 cx.2.1 dX1_flush_248 hl (k := 4) rfl rfl (by decide) rfl (fun ls hl => ?_)
      refine lv_goto (pc := 251) (tgt := 229) cx.1 cx.2.1 dX1_flush_251 (by decide) ?_
      exact ih _ _ _ _ _ _ _ hwp hw (lv_sub hl [2, 3, 4, 0] rfl)
set_option maxHeartbeats 4000000 in
theorem wk_X1_flush_196 {p : Program} {l : Launch} {e : Env} {s : State} {m : MethodId} {args : Array Value} {below : List Frame} {meth : Method} {c : Code} {A : Nat → Prop} {dC : Nat → ClassId} {dI : Nat → Nat → Nat} {d : Nat → ClassId} {z : Nat → Nat → Nat} {hh : Nat → Nat → Nat} {cf : List Value}{nh : Nat} {K : Int32 → (PS × Bool) → Prop} (cx : Cx p s m args meth c cX1_flush RX1 7 (some .int) A dC dI d) : ∀ (x1 : Int32) (u : PS × Bool) (H : Heap) (locs : List Loc) (ls : Array Slot), wp_X1_flush_196 nh K x1 u → Wd dC dI A ((wPb d nh hh cf z) u) s H locs → lv_has ls 7 [(0, .ref (z 0 0)), (1, .int x1)] → W p l e ({ frames := 5, cells := 0, slots := 0, locals := 116 } : Room) s m args below meth c H locs 0 0 (MQ below (kQi dC dI (wPb d nh hh cf z) K A) args s 0 0 A) (F0 m 196 ls []) := by
  intro x1 u H locs ls hwp hw hl
  unfold wp_X1_flush_196 at hwp
  refine lv_aload_n (pc := 196) cx.1 cx.2.1 dX1_flush_196 rfl (lv_at hl 0 rfl) ?_
  refine lv_aload_n (pc := 197) cx.1 cx.2.1 dX1_flush_197 rfl (lv_at hl 0 rfl) ?_
  refine k_getI (pc := 198) (u := u) (v := ((u.1.1 0).1 12)) cx hw (ln_PLs_pl_12 d z hh cf nh) (C := RX1) (T := TX1) (N := 21) rfl in_X1 (by decide) q491 (fun _ h9 => h9) rfl dX1_flush_198 ?_
  refine lv_iconst (pc := 201) (v := 1) cx.1 cx.2.1 dX1_flush_201 (by decide) ?_
  refine lv_iadd (pc := 202) cx.1 cx.2.1 dX1_flush_202 ?_
  refine lv_iload_n (pc := 203) cx.1 cx.2.1 dX1_flush_203 rfl (lv_at hl 1 rfl) ?_
  refine k_whole_i (pc := 204) (wf := (wPb d nh hh cf z)) (u := u) cx hw (k_runVW (pc := 204) (rest := []) (As := [.int (((u.1.1 0).1 12) + (1 : Int32)), .int x1]) cx hw.1 (hw.2.1.weaken (fun _ _ _ _ => trivial)) hw.2.2 (k_recv cx hw 0 (ci := 0) (q := (RX1, TX1, 21)) rfl rfl) (m_X1_done l dC dI d z hh cf nh u (((u.1.1 0).1 12) + (1 : Int32)) x1 hwp H.size) (k_cwVW 2 cx.2.2.2.2.1 (lw_VW q673 q675 qs12 q75 q676) rfl rfl rfl hdV_X1_done ⟨Nat.le_of_ble_eq_true rfl, Nat.le_of_ble_eq_true rfl⟩) rfl hl.1 rfl (Nat.le_of_ble_eq_true rfl) dX1_flush_204 ⟨Nat.le_of_ble_eq_true rfl, Nat.le_of_ble_eq_true rfl⟩) (fun r2 u1 H locs hwp hw => ?_)
  refine lv_istore_n (pc := 207) (lv' := [(2, .int r2), (0, .ref (z 0 0)), (1, .int x1)]) cx.1 cx.2.1 dX1_flush_207 rfl hl (by decide) rfl (fun ls hl => ?_)
  refine lv_iload_n (pc := 208) cx.1 cx.2.1 dX1_flush_208 rfl (lv_at hl 0 rfl) ?_
  refine lv_if_le (pc := 209) (tgt := 254) cx.1 cx.2.1 dX1_flush_209 (by decide) (fun c3 => ?_) (fun c3 => ?_)
  · replace hwp := hwp.1 c3
    refine lv_iload_n (pc := 254) cx.1 cx.2.1 dX1_flush_254 rfl (lv_at hl 0 rfl) ?_
    exact k_iret (pc := 255) (wf := (wPb d nh hh cf z)) (u := u1) cx hw hwp (by decide) (by decide) dX1_flush_255
  · replace hwp := hwp.2 c3
    refine lv_aload_n (pc := 212) cx.1 cx.2.1 dX1_flush_212 rfl (lv_at hl 1 rfl) ?_
    refine lv_iconst (pc := 213) (v := 0) cx.1 cx.2.1 dX1_flush_213 (by decide) ?_
    refine k_putI (pc := 214) (u := u1) (v := (0 : Int32)) cx hw (ln_PLs_pl_14 d z hh cf nh) (C := RX1) (T := TX1) (N := 21) rfl in_X1 tyX1 tyX1_ok nmX1 (by decide) q493 (fun _ h9 => h9) rfl rfl rfl dX1_flush_214 (fun H locs hw => ?_)
    refine lv_aload_n (pc := 217) cx.1 cx.2.1 dX1_flush_217 rfl (lv_at hl 1 rfl) ?_
    refine k_getR (pc := 218) (u := (pb_I u1 0 14 (0 : Int32))) (v := .ref (z 0 3)) cx hw (lr_PLs_pl_4 d z hh cf nh) (C := RX1) (T := TX1) (N := 21) rfl in_X1 (by decide) q481 (fun _ h9 => h9) rfl dX1_flush_218 ?_
    refine lv_astore_n (pc := 221) (lv' := [(3, .ref (z 0 3)), (2, .int r2), (0, .ref (z 0 0)), (1, .int x1)]) cx.1 cx.2.1 dX1_flush_221 rfl hl (by decide) rfl (fun ls hl => ?_)
    refine lv_aload_n (pc := 222) cx.1 cx.2.1 dX1_flush_222 rfl (lv_at hl 0 rfl) ?_
    refine k_alen (pc := 223) (v := nI nh) cx hw 3 6 rfl rfl rfl dX1_flush_223 ?_
    refine lv_istore (pc := 224) (lv' := [(4, .int (nI nh)), (3, .ref (z 0 3)), (2, .int r2), (0, .ref (z 0 0)), (1, .int x1)]) cx.1 cx.2.1 dX1_flush_224 hl (by decide) rfl (fun ls hl => ?_)
    refine lv_iconst (pc := 226) (v := 0) cx.1 cx.2.1 dX1_flush_226 (by decide) ?_
    refine lv_istore (pc := 227) (lv' := [(5, .int (0 : Int32)), (4, .int (nI nh)), (3, .ref (z 0 3)), (2, .int r2), (0, .ref (z 0 0)), (1, .int x1)]) cx.1 cx.2.1 dX1_flush_227 hl (by decide) rfl (fun ls hl => ?_)
    obtain ⟨n229, hwp⟩ := hwp
    exact wk_X1_flush_229 cx n229 _ _ _ _ _ _ _ hwp hw (lv_sub hl [3, 2, 1, 0] rfl)
set_option maxHeartbeats 4000000 in
theorem wk_X1_flush_35 {p : Program} {l : Launch} {e : Env} {s : State} {m : MethodId} {args : Array Value} {below : List Frame} {meth : Method} {c : Code} {A : Nat → Prop} {dC : Nat → ClassId} {dI : Nat → Nat → Nat} {d : Nat → ClassId} {z : Nat → Nat → Nat} {hh : Nat → Nat → Nat} {cf : List Value}{nh : Nat} {K : Int32 → (PS × Bool) → Prop} (cx : Cx p s m args meth c cX1_flush RX1 7 (some .int) A dC dI d) : ∀ (n : Nat) (x1 : Int32) (x2 : Int32) (u : PS × Bool) (H : Heap) (locs : List Loc) (ls : Array Slot), wp_X1_flush_35 nh K n x1 x2 u → Wd dC dI A ((wPb d nh hh cf z) u) s H locs → lv_has ls 7 [(0, .ref (z 0 0)), (1, .int x1), (2, .int x2)] → W p l e ({ frames := 5, cells := 0, slots := 0, locals := 116 } : Room) s m args below meth c H locs 0 0 (MQ below (kQi dC dI (wPb d nh hh cf z) K A) args s 0 0 A) (F0 m 35 ls []) := by
  intro n
  induction n with
  | zero =>
    intros; contradiction
  | succ n ih =>
    intro x1 x2 u H locs ls hwp hw hl
    unfold wp_X1_flush_35 at hwp
    refine lv_iload_n (pc := 35) cx.1 cx.2.1 dX1_flush_35 rfl (lv_at hl 2 rfl) ?_
    refine lv_aload_n (pc := 36) cx.1 cx.2.1 dX1_flush_36 rfl (lv_at hl 0 rfl) ?_
    refine k_getI (pc := 37) (u := u) (v := ((u.1.1 0).1 0)) cx hw (ln_PLs_pl_0 d z hh cf nh) (C := RX1) (T := TX1) (N := 21) rfl in_X1 (by decide) q476 (fun _ h9 => h9) rfl dX1_flush_37 ?_
    refine lv_icmp_ge (pc := 40) (tgt := 196) cx.1 cx.2.1 dX1_flush_40 (by decide) (fun c1 => ?_) (fun c1 => ?_)
    · replace hwp := hwp.1 c1
      exact wk_X1_flush_196 cx _ _ _ _ _ hwp hw (lv_sub hl [0, 1] rfl)
    · replace hwp := hwp.2 c1
      refine lv_aload_n (pc := 43) cx.1 cx.2.1 dX1_flush_43 rfl (lv_at hl 0 rfl) ?_
      refine k_getR (pc := 44) (u := u) (v := .ref (sw_A u.2 z 4 0)) cx hw (lr_PLs_pl_7 d z hh cf nh) (C := RX1) (T := TX1) (N := 21) rfl in_X1 (by decide) q485 (fun _ h9 => h9) rfl dX1_flush_44 ?_
      refine k_getRN (pc := 47) (u := u) (v := .ref (sw_A u.2 z 4 5)) cx hw (lr_PLs_now_6 d z hh cf nh) (C := RX7) (T := TX7) (N := 7) rfl in_X7 (by decide) (nq343 cx.2.2.2.2.2.1) (fun _ h9 => h9) rfl dX1_flush_47 ?_
      refine lv_iload_n (pc := 50) cx.1 cx.2.1 dX1_flush_50 rfl (lv_at hl 2 rfl) ?_
      refine k_iald (pc := 51) (u := u) (f := ((u.1.1 4).2.1 6)) cx hw (lx_PLs_now_6 d z hh cf nh) 0 rfl rfl hwp.1 dX1_flush_51 ?_
      replace hwp := hwp.2
      refine lv_istore_n (pc := 52) (lv' := [(3, .int (((u.1.1 4).2.1 6) x2.toNatClampNeg)), (0, .ref (z 0 0)), (1, .int x1), (2, .int x2)]) cx.1 cx.2.1 dX1_flush_52 rfl hl (by decide) rfl (fun ls hl => ?_)
      obtain ⟨n53, hwp⟩ := hwp
      exact wk_X1_flush_53 cx ih n53 _ _ _ _ _ _ _ hwp hw (lv_sub hl [1, 2, 3, 0] rfl)
set_option maxHeartbeats 4000000 in
theorem m_X1_flush (l : Launch) (dC : Nat → ClassId) (dI : Nat → Nat → Nat) (d : Nat → ClassId) (z : Nat → Nat → Nat) (hh : Nat → Nat → Nat) (cf : List Value) (nh : Nat) (u : PS × Bool) {K : Int32 → (PS × Bool) → Prop} (hwp : wp_X1_flush nh u K) : kM l yX1_flush cX1_flush 7 (some .int) ({ frames := 5, cells := 0, slots := 0, locals := 116 } : Room) dC dI d [.ref (z 0 0)] (wPb d nh hh cf z) u (kQi dC dI (wPb d nh hh cf z) K) 0 0 := by
  refine kM_start rfl (Nat.le_of_ble_eq_true rfl) ?_
  intro p e s m below meth c A ls cx hnm hw hl
  generalize hargs : ([.ref (z 0 0)] : List Value).toArray = args at cx ⊢
  unfold wp_X1_flush at hwp
  replace hl : lv_has ls 7 [(0, .ref (z 0 0))] := hl
  generalize hH : s.heap = H at hw ⊢
  generalize hlo : ([] : List Loc) = locs at hw ⊢
  refine lv_aload_n (pc := 0) cx.1 cx.2.1 dX1_flush_0 rfl (lv_at hl 0 rfl) ?_
  refine lv_null (pc := 1) cx.1 cx.2.1 dX1_flush_1 ?_
  refine k_putCuN_PLs (pc := 2) (u := u) cx hw q496 dX1_flush_2 (fun H locs hw => ?_)
  refine lv_aload_n (pc := 5) cx.1 cx.2.1 dX1_flush_5 rfl (lv_at hl 0 rfl) ?_
  refine k_getR (pc := 6) (u := (pb_I u 0 17 (0 : Int32))) (v := .ref (z 1 0)) cx hw (lr_PLs_pl_3 d z hh cf nh) (C := RX1) (T := TX1) (N := 21) rfl in_X1 (by decide) q479 (fun _ h9 => h9) rfl dX1_flush_6 ?_
  refine k_getIN (pc := 9) (u := (pb_I u 0 17 (0 : Int32))) (v := ((u.1.1 1).1 3)) cx hw (ln_PLs_disk_3 d z hh cf nh) (C := RX2) (T := TX2) (N := 5) rfl in_X2 (by decide) (nq196 cx.2.2.2.2.2.1) (fun _ h9 => h9) rfl dX1_flush_9 ?_
  refine lv_if_eq (pc := 12) (tgt := 18) cx.1 cx.2.1 dX1_flush_12 (by decide) (fun c1 => ?_) (fun c1 => ?_)
  · replace hwp := hwp.1 c1
    refine lv_aload_n (pc := 18) cx.1 cx.2.1 dX1_flush_18 rfl (lv_at hl 0 rfl) ?_
    refine k_getI (pc := 19) (u := (pb_I u 0 17 (0 : Int32))) (v := ((u.1.1 0).1 14)) cx hw (ln_PLs_pl_14 d z hh cf nh) (C := RX1) (T := TX1) (N := 21) rfl in_X1 (by decide) q493 (fun _ h9 => h9) rfl dX1_flush_19 ?_
    refine lv_if_ne (pc := 22) (tgt := 27) cx.1 cx.2.1 dX1_flush_22 (by decide) (fun c2 => ?_) (fun c2 => ?_)
    · replace hwp := hwp.1 c2
      refine lv_aload_n (pc := 27) cx.1 cx.2.1 dX1_flush_27 rfl (lv_at hl 0 rfl) ?_
      refine k_whole_v (pc := 28) (wf := (wP d nh hh cf (sw_A u.2 z))) (u := ((pb_I u 0 17 (0 : Int32)).1)) cx hw (k_runV (pc := 28) (rest := []) (As := []) cx hw.1 (hw.2.1.weaken (fun _ _ _ _ => trivial)) hw.2.2 (k_recv cx hw 0 (ci := 0) (q := (RX1, TX1, 21)) rfl rfl) (m_X1_plans l dC dI d (sw_A u.2 z) hh cf nh ((pb_I u 0 17 (0 : Int32)).1)  hwp H.size) (cwV 0 cx.2.2.2.2.1 (lw_V q606 q608 qs6 q75 q609) rfl rfl rfl hdV_X1_plans ⟨Nat.le_of_ble_eq_true rfl, Nat.le_of_ble_eq_true rfl⟩) rfl hl.1 rfl (Nat.le_of_ble_eq_true rfl) dX1_flush_28 ⟨Nat.le_of_ble_eq_true rfl, Nat.le_of_ble_eq_true rfl⟩) (fun v3 H locs hwp hw => ?_)
      replace hw : Wd dC dI A ((wPb d nh hh cf z) (v3, u.2)) s H locs := hw
      refine lv_iconst (pc := 31) (v := 0) cx.1 cx.2.1 dX1_flush_31 (by decide) ?_
      refine lv_istore_n (pc := 32) (lv' := [(1, .int (0 : Int32)), (0, .ref (z 0 0))]) cx.1 cx.2.1 dX1_flush_32 rfl hl (by decide) rfl (fun ls hl => ?_)
      refine lv_iconst (pc := 33) (v := 0) cx.1 cx.2.1 dX1_flush_33 (by decide) ?_
      refine lv_istore_n (pc := 34) (lv' := [(2, .int (0 : Int32)), (1, .int (0 : Int32)), (0, .ref (z 0 0))]) cx.1 cx.2.1 dX1_flush_34 rfl hl (by decide) rfl (fun ls hl => ?_)
      obtain ⟨n35, hwp⟩ := hwp
      exact wk_X1_flush_35 cx n35 _ _ _ _ _ _ hwp hw (lv_sub hl [2, 1, 0] rfl)
    · replace hwp := hwp.2 c2
      refine lv_iconst (pc := 25) (v := 0) cx.1 cx.2.1 dX1_flush_25 (by decide) ?_
      exact k_iret (pc := 26) (wf := (wPb d nh hh cf z)) (u := (pb_I u 0 17 (0 : Int32))) cx hw hwp (by decide) (by decide) dX1_flush_26
  · replace hwp := hwp.2 c1
    refine lv_bipush (pc := 15) (v := -9) cx.1 cx.2.1 dX1_flush_15 (by decide) ?_
    exact k_iret (pc := 17) (wf := (wPb d nh hh cf z)) (u := (pb_I u 0 17 (0 : Int32))) cx hw hwp (by decide) (by decide) dX1_flush_17
set_option maxHeartbeats 4000000 in
theorem wk_X1_reach_18 {p : Program} {l : Launch} {e : Env} {s : State} {m : MethodId} {args : Array Value} {below : List Frame} {meth : Method} {c : Code} {A : Nat → Prop} {dC : Nat → ClassId} {dI : Nat → Nat → Nat} {d : Nat → ClassId} {z : Nat → Nat → Nat} {hh : Nat → Nat → Nat} {cf : List Value}{nh : Nat} {K : Int32 → PS → Prop} (cx : Cx p s m args meth c cX1_reach RX1 5 (some .int) A dC dI d) : ∀ (n : Nat) (x2 : Int32) (x3 : Int32) (x4 : Int32) (u : PS) (H : Heap) (locs : List Loc) (ls : Array Slot), wp_X1_reach_18 nh K n x2 x3 x4 u → Wd dC dI A ((wP d nh hh cf z) u) s H locs → lv_has ls 5 [(0, .ref (z 0 0)), (2, .int x2), (3, .int x3), (4, .int x4)] → W p l e ({ frames := 0, cells := 0, slots := 0, locals := 0 } : Room) s m args below meth c H locs 0 0 (MQ below (kQi dC dI (wP d nh hh cf z) K A) args s 0 0 A) (F0 m 18 ls []) := by
  intro n
  induction n with
  | zero =>
    intros; contradiction
  | succ n ih =>
    intro x2 x3 x4 u H locs ls hwp hw hl
    unfold wp_X1_reach_18 at hwp
    refine lv_iload (pc := 18) cx.1 cx.2.1 dX1_reach_18 (lv_at hl 3 rfl) ?_
    refine lv_iload_n (pc := 20) cx.1 cx.2.1 dX1_reach_20 rfl (lv_at hl 1 rfl) ?_
    refine lv_icmp_ge (pc := 21) (tgt := 68) cx.1 cx.2.1 dX1_reach_21 (by decide) (fun c1 => ?_) (fun c1 => ?_)
    · replace hwp := hwp.1 c1
      refine lv_iload (pc := 68) cx.1 cx.2.1 dX1_reach_68 (lv_at hl 3 rfl) ?_
      exact k_iret (pc := 70) (wf := (wP d nh hh cf z)) (u := u) cx hw hwp (by decide) (by decide) dX1_reach_70
    · replace hwp := hwp.2 c1
      refine lv_iload_n (pc := 24) cx.1 cx.2.1 dX1_reach_24 rfl (lv_at hl 2 rfl) ?_
      refine lv_aload_n (pc := 25) cx.1 cx.2.1 dX1_reach_25 rfl (lv_at hl 0 rfl) ?_
      refine k_getR (pc := 26) (u := u) (v := .ref (z 4 0)) cx hw (lr_PL_pl_7 d z hh cf nh) (C := RX1) (T := TX1) (N := 21) rfl in_X1 (by decide) q485 (fun _ h9 => h9) rfl dX1_reach_26 ?_
      refine k_getRN (pc := 29) (u := u) (v := .ref (z 5 0)) cx hw (lr_PL_now_0 d z hh cf nh) (C := RX7) (T := TX7) (N := 7) rfl in_X7 (by decide) (nq329 cx.2.2.2.2.2.1) (fun _ h9 => h9) rfl dX1_reach_29 ?_
      refine k_getRN (pc := 32) (u := u) (v := .ref (z 5 5)) cx hw (lr_PL_nowsp_4 d z hh cf nh) (C := RX8) (T := TX8) (N := 6) rfl in_X8 (by decide) (nq308 cx.2.2.2.2.2.1) (fun _ h9 => h9) rfl dX1_reach_32 ?_
      refine lv_iload (pc := 35) cx.1 cx.2.1 dX1_reach_35 (lv_at hl 3 rfl) ?_
      refine k_sald (pc := 37) (u := u) (f := ((u.1 5).2.1 4)) cx hw (lx_PL_nowsp_4 d z hh cf nh) 1 rfl rfl hwp.1 dX1_reach_37 ?_
      replace hwp := hwp.2
      refine lv_iadd (pc := 38) cx.1 cx.2.1 dX1_reach_38 ?_
      refine lv_aload_n (pc := 39) cx.1 cx.2.1 dX1_reach_39 rfl (lv_at hl 0 rfl) ?_
      refine k_getI (pc := 40) (u := u) (v := ((u.1 0).1 1)) cx hw (ln_PL_pl_1 d z hh cf nh) (C := RX1) (T := TX1) (N := 21) rfl in_X1 (by decide) q477 (fun _ h9 => h9) rfl dX1_reach_40 ?_
      refine lv_icmp_gt (pc := 43) (tgt := 68) cx.1 cx.2.1 dX1_reach_43 (by decide) (fun c2 => ?_) (fun c2 => ?_)
      · replace hwp := hwp.1 c2
        refine lv_iload (pc := 68) cx.1 cx.2.1 dX1_reach_68 (lv_at hl 3 rfl) ?_
        exact k_iret (pc := 70) (wf := (wP d nh hh cf z)) (u := u) cx hw hwp (by decide) (by decide) dX1_reach_70
      · replace hwp := hwp.2 c2
        refine lv_iload_n (pc := 46) cx.1 cx.2.1 dX1_reach_46 rfl (lv_at hl 2 rfl) ?_
        refine lv_aload_n (pc := 47) cx.1 cx.2.1 dX1_reach_47 rfl (lv_at hl 0 rfl) ?_
        refine k_getR (pc := 48) (u := u) (v := .ref (z 4 0)) cx hw (lr_PL_pl_7 d z hh cf nh) (C := RX1) (T := TX1) (N := 21) rfl in_X1 (by decide) q485 (fun _ h9 => h9) rfl dX1_reach_48 ?_
        refine k_getRN (pc := 51) (u := u) (v := .ref (z 5 0)) cx hw (lr_PL_now_0 d z hh cf nh) (C := RX7) (T := TX7) (N := 7) rfl in_X7 (by decide) (nq329 cx.2.2.2.2.2.1) (fun _ h9 => h9) rfl dX1_reach_51 ?_
        refine k_getRN (pc := 54) (u := u) (v := .ref (z 5 5)) cx hw (lr_PL_nowsp_4 d z hh cf nh) (C := RX8) (T := TX8) (N := 6) rfl in_X8 (by decide) (nq308 cx.2.2.2.2.2.1) (fun _ h9 => h9) rfl dX1_reach_54 ?_
        refine lv_iload (pc := 57) cx.1 cx.2.1 dX1_reach_57 (lv_at hl 3 rfl) ?_
        refine k_sald (pc := 59) (u := u) (f := ((u.1 5).2.1 4)) cx hw (lx_PL_nowsp_4 d z hh cf nh) 1 rfl rfl hwp.1 dX1_reach_59 ?_
        replace hwp := hwp.2
        refine lv_iadd (pc := 60) cx.1 cx.2.1 dX1_reach_60 ?_
        refine lv_istore_n (pc := 61) (lv' := [(3, .int (x3 + (((u.1 5).2.1 4) x4.toNatClampNeg))), (0, .ref (z 0 0)), (2, .int x2), (4, .int x4)]) cx.1 cx.2.1 dX1_reach_61 rfl hl (by decide) rfl (fun ls hl => ?_)
        refine lv_iinc (pc := 62) (v := (x4 + (1 : Int32))) (lv' := [(4, .int (x4 + (1 : Int32))), (3, .int (x3 + (((u.1 5).2.1 4) x4.toNatClampNeg))), (0, .ref (z 0 0)), (2, .int x2)]) cx.1 cx.2.1 dX1_reach_62 hl (k := 3) rfl rfl (by decide) rfl (fun ls hl => ?_)
        refine lv_goto (pc := 65) (tgt := 18) cx.1 cx.2.1 dX1_reach_65 (by decide) ?_
        exact ih _ _ _ _ _ _ _ hwp hw (lv_sub hl [2, 3, 1, 0] rfl)
set_option maxHeartbeats 4000000 in
theorem m_X1_reach (l : Launch) (dC : Nat → ClassId) (dI : Nat → Nat → Nat) (d : Nat → ClassId) (z : Nat → Nat → Nat) (hh : Nat → Nat → Nat) (cf : List Value) (nh : Nat) (u : PS) (x1 : Int32) (x2 : Int32) {K : Int32 → PS → Prop} (hwp : wp_X1_reach nh u x1 x2 K) : kM l yX1_reach cX1_reach 5 (some .int) ({ frames := 0, cells := 0, slots := 0, locals := 0 } : Room) dC dI d [.ref (z 0 0), .int x1, .int x2] (wP d nh hh cf z) u (kQi dC dI (wP d nh hh cf z) K) 0 0 := by
  refine kM_start rfl (Nat.le_of_ble_eq_true rfl) ?_
  intro p e s m below meth c A ls cx hnm hw hl
  generalize hargs : ([.ref (z 0 0), .int x1, .int x2] : List Value).toArray = args at cx ⊢
  unfold wp_X1_reach at hwp
  replace hl : lv_has ls 5 [(0, .ref (z 0 0)), (1, .int x1), (2, .int x2)] := hl
  generalize hH : s.heap = H at hw ⊢
  generalize hlo : ([] : List Loc) = locs at hw ⊢
  refine lv_aload_n (pc := 0) cx.1 cx.2.1 dX1_reach_0 rfl (lv_at hl 0 rfl) ?_
  refine k_getR (pc := 1) (u := u) (v := .ref (z 4 0)) cx hw (lr_PL_pl_7 d z hh cf nh) (C := RX1) (T := TX1) (N := 21) rfl in_X1 (by decide) q485 (fun _ h9 => h9) rfl dX1_reach_1 ?_
  refine k_getRN (pc := 4) (u := u) (v := .ref (z 5 0)) cx hw (lr_PL_now_0 d z hh cf nh) (C := RX7) (T := TX7) (N := 7) rfl in_X7 (by decide) (nq329 cx.2.2.2.2.2.1) (fun _ h9 => h9) rfl dX1_reach_4 ?_
  refine k_getRN (pc := 7) (u := u) (v := .ref (z 5 5)) cx hw (lr_PL_nowsp_4 d z hh cf nh) (C := RX8) (T := TX8) (N := 6) rfl in_X8 (by decide) (nq308 cx.2.2.2.2.2.1) (fun _ h9 => h9) rfl dX1_reach_7 ?_
  refine lv_iload_n (pc := 10) cx.1 cx.2.1 dX1_reach_10 rfl (lv_at hl 1 rfl) ?_
  refine k_sald (pc := 11) (u := u) (f := ((u.1 5).2.1 4)) cx hw (lx_PL_nowsp_4 d z hh cf nh) 1 rfl rfl hwp.1 dX1_reach_11 ?_
  replace hwp := hwp.2
  refine lv_istore_n (pc := 12) (lv' := [(3, .int (((u.1 5).2.1 4) x1.toNatClampNeg)), (0, .ref (z 0 0)), (1, .int x1), (2, .int x2)]) cx.1 cx.2.1 dX1_reach_12 rfl hl (by decide) rfl (fun ls hl => ?_)
  refine lv_iload_n (pc := 13) cx.1 cx.2.1 dX1_reach_13 rfl (lv_at hl 2 rfl) ?_
  refine lv_iconst (pc := 14) (v := 1) cx.1 cx.2.1 dX1_reach_14 (by decide) ?_
  refine lv_iadd (pc := 15) cx.1 cx.2.1 dX1_reach_15 ?_
  refine lv_istore (pc := 16) (lv' := [(4, .int (x1 + (1 : Int32))), (3, .int (((u.1 5).2.1 4) x1.toNatClampNeg)), (0, .ref (z 0 0)), (1, .int x1), (2, .int x2)]) cx.1 cx.2.1 dX1_reach_16 hl (by decide) rfl (fun ls hl => ?_)
  obtain ⟨n18, hwp⟩ := hwp
  exact wk_X1_reach_18 cx n18 _ _ _ _ _ _ _ hwp hw (lv_sub hl [2, 4, 1, 0] rfl)
set_option maxHeartbeats 4000000 in
theorem wk_X1_merges_35 {p : Program} {l : Launch} {e : Env} {s : State} {m : MethodId} {args : Array Value} {below : List Frame} {meth : Method} {c : Code} {A : Nat → Prop} {dC : Nat → ClassId} {dI : Nat → Nat → Nat} {d : Nat → ClassId} {z : Nat → Nat → Nat} {hh : Nat → Nat → Nat} {cf : List Value}{nh : Nat} {C2 : Int32 → Int32 → PS → Prop} {K : PS → Prop} (cx : Cx p s m args meth c cX1_merges RX1 4 none A dC dI d) (hC2 : ∀ (x2 : Int32) (x3 : Int32) (u : PS) (H : Heap) (locs : List Loc) (ls : Array Slot), C2 x2 x3 u → Wd dC dI A ((wP d nh hh cf z) u) s H locs → lv_has ls 4 [(0, .ref (z 0 0)), (2, .int x2), (3, .int x3)] → W p l e ({ frames := 4, cells := 0, slots := 0, locals := 95 } : Room) s m args below meth c H locs 0 0 (MQ below (kQv dC dI (wP d nh hh cf z) K A) args s 0 0 A) (F0 m 2 ls [])) : ∀ (n : Nat) (x2 : Int32) (x3 : Int32) (u : PS) (H : Heap) (locs : List Loc) (ls : Array Slot), wp_X1_merges_35 nh C2 K n x2 x3 u → Wd dC dI A ((wP d nh hh cf z) u) s H locs → lv_has ls 4 [(0, .ref (z 0 0)), (2, .int x2), (3, .int x3)] → W p l e ({ frames := 4, cells := 0, slots := 0, locals := 95 } : Room) s m args below meth c H locs 0 0 (MQ below (kQv dC dI (wP d nh hh cf z) K A) args s 0 0 A) (F0 m 35 ls []) := by
  intro n
  induction n with
  | zero =>
    intros; contradiction
  | succ n ih =>
    intro x2 x3 u H locs ls hwp hw hl
    unfold wp_X1_merges_35 at hwp
    refine lv_aload_n (pc := 35) cx.1 cx.2.1 dX1_merges_35 rfl (lv_at hl 0 rfl) ?_
    refine k_getR (pc := 36) (u := u) (v := .ref (z 3 0)) cx hw (lr_PL_pl_6 d z hh cf nh) (C := RX1) (T := TX1) (N := 21) rfl in_X1 (by decide) q484 (fun _ h9 => h9) rfl dX1_merges_36 ?_
    have hpt := k_part (w := (wf_X6 d (z 3) (z 1 1) ((u.1 1).2.1 0)) (u.1 3)) (is := [9, 5]) hw (pc_PL_X6_unp d z hh cf nh u) (by decide)
    refine k_part_i (pc := 39) (wf := (wf_X6 d (z 3) (z 1 1) ((u.1 1).2.1 0))) (u := (u.1 3)) cx hw [9, 5] (pc_PL_X6_unp d z hh cf nh u) (by decide) (fun _ => rfl) (pw_PL_X6_unp d z hh cf nh u) (k_runV (pc := 39) (rest := []) (As := []) cx hpt.1 hpt.2 hw.2.2 (k_recv cx hw 9 (ci := 4) (q := (RX6, TX6, 7)) rfl rfl) (m_X6_step l dC dI d (z 3) (z 1 1) ((u.1 1).2.1 0) (u.1 3)  hwp H.size) (cwV 0 cx.2.2.2.2.1 (lw_V q713 q714 q715 q82 q716) rfl rfl rfl hdV_X6_step ⟨Nat.le_of_ble_eq_true rfl, Nat.le_of_ble_eq_true rfl⟩) rfl hl.1 rfl (Nat.le_of_ble_eq_true rfl) dX1_merges_39 ⟨Nat.le_of_ble_eq_true rfl, Nat.le_of_ble_eq_true rfl⟩) (fun r2 v1 H locs hwp hw => ?_)
    refine lv_if_eq (pc := 42) (tgt := 66) cx.1 cx.2.1 dX1_merges_42 (by decide) (fun c3 => ?_) (fun c3 => ?_)
    · replace hwp := hwp.1 c3
      refine lv_iinc (pc := 66) (v := (x3 + (1 : Int32))) (lv' := [(3, .int (x3 + (1 : Int32))), (0, .ref (z 0 0)), (2, .int x2)]) cx.1 cx.2.1 dX1_merges_66 hl (k := 2) rfl rfl (by decide) rfl (fun ls hl => ?_)
      refine lv_goto (pc := 69) (tgt := 2) cx.1 cx.2.1 dX1_merges_69 (by decide) ?_
      exact hC2 _ _ _ _ _ _ hwp hw (lv_sub hl [1, 2, 0] rfl)
    · replace hwp := hwp.2 c3
      refine lv_aload_n (pc := 45) cx.1 cx.2.1 dX1_merges_45 rfl (lv_at hl 0 rfl) ?_
      refine lv_aload_n (pc := 46) cx.1 cx.2.1 dX1_merges_46 rfl (lv_at hl 0 rfl) ?_
      refine k_getR (pc := 47) (u := (ps_O u 3 v1)) (v := .ref (z 3 0)) cx hw (lr_PL_pl_6 d z hh cf nh) (C := RX1) (T := TX1) (N := 21) rfl in_X1 (by decide) q484 (fun _ h9 => h9) rfl dX1_merges_47 ?_
      refine k_getI (pc := 50) (u := (ps_O u 3 v1)) (v := (v1.1 0)) cx hw (ln_PL_unp_0 d z hh cf nh) (C := RX6) (T := TX6) (N := 7) rfl in_X6 (by decide) q259 (u_same (cx.2.2.2.2.1 _ q255)) rfl dX1_merges_50 ?_
      refine lv_aload_n (pc := 53) cx.1 cx.2.1 dX1_merges_53 rfl (lv_at hl 0 rfl) ?_
      refine k_getR (pc := 54) (u := (ps_O u 3 v1)) (v := .ref (z 3 0)) cx hw (lr_PL_pl_6 d z hh cf nh) (C := RX1) (T := TX1) (N := 21) rfl in_X1 (by decide) q484 (fun _ h9 => h9) rfl dX1_merges_54 ?_
      refine k_getI (pc := 57) (u := (ps_O u 3 v1)) (v := (v1.1 1)) cx hw (ln_PL_unp_1 d z hh cf nh) (C := RX6) (T := TX6) (N := 7) rfl in_X6 (by decide) q266 (u_same (cx.2.2.2.2.1 _ q262)) rfl dX1_merges_57 ?_
      refine k_whole_v (pc := 60) (wf := (wP d nh hh cf z)) (u := (ps_O u 3 v1)) cx hw (k_runV (pc := 60) (rest := []) (As := [.int (v1.1 0), .int (v1.1 1)]) cx hw.1 (hw.2.1.weaken (fun _ _ _ _ => trivial)) hw.2.2 (k_recv cx hw 0 (ci := 0) (q := (RX1, TX1, 21)) rfl rfl) (m_X1_adds l dC dI d z hh cf nh (ps_O u 3 v1) (v1.1 0) (v1.1 1) hwp H.size) (cwV 2 cx.2.2.2.2.1 (lw_V q633 q635 qs8 q75 q636) rfl rfl rfl hdV_X1_adds ⟨Nat.le_of_ble_eq_true rfl, Nat.le_of_ble_eq_true rfl⟩) rfl hl.1 rfl (Nat.le_of_ble_eq_true rfl) dX1_merges_60 ⟨Nat.le_of_ble_eq_true rfl, Nat.le_of_ble_eq_true rfl⟩) (fun u4 H locs hwp hw => ?_)
      refine lv_goto (pc := 63) (tgt := 35) cx.1 cx.2.1 dX1_merges_63 (by decide) ?_
      exact ih _ _ _ _ _ _ hwp hw (lv_sub hl [0, 1, 2] rfl)
set_option maxHeartbeats 4000000 in
theorem wk_X1_merges_72 {p : Program} {l : Launch} {e : Env} {s : State} {m : MethodId} {args : Array Value} {below : List Frame} {meth : Method} {c : Code} {A : Nat → Prop} {dC : Nat → ClassId} {dI : Nat → Nat → Nat} {d : Nat → ClassId} {z : Nat → Nat → Nat} {hh : Nat → Nat → Nat} {cf : List Value}{nh : Nat} {K : PS → Prop} (cx : Cx p s m args meth c cX1_merges RX1 4 none A dC dI d) : ∀  (u : PS) (H : Heap) (locs : List Loc) (ls : Array Slot), wp_X1_merges_72 nh K  u → Wd dC dI A ((wP d nh hh cf z) u) s H locs → lv_has ls 4 [(0, .ref (z 0 0))] → W p l e ({ frames := 4, cells := 0, slots := 0, locals := 95 } : Room) s m args below meth c H locs 0 0 (MQ below (kQv dC dI (wP d nh hh cf z) K A) args s 0 0 A) (F0 m 72 ls []) := by
  intro  u H locs ls hwp hw hl
  unfold wp_X1_merges_72 at hwp
  refine lv_aload_n (pc := 72) cx.1 cx.2.1 dX1_merges_72 rfl (lv_at hl 0 rfl) ?_
  refine k_whole_v (pc := 73) (wf := (wP d nh hh cf z)) (u := u) cx hw (k_runV (pc := 73) (rest := []) (As := []) cx hw.1 (hw.2.1.weaken (fun _ _ _ _ => trivial)) hw.2.2 (k_recv cx hw 0 (ci := 0) (q := (RX1, TX1, 21)) rfl rfl) (m_X1_closes l dC dI d z hh cf nh u  hwp H.size) (cwV 0 cx.2.2.2.2.1 (lw_V q665 q667 qs11 q75 q668) rfl rfl rfl hdV_X1_closes ⟨Nat.le_of_ble_eq_true rfl, Nat.le_of_ble_eq_true rfl⟩) rfl hl.1 rfl (Nat.le_of_ble_eq_true rfl) dX1_merges_73 ⟨Nat.le_of_ble_eq_true rfl, Nat.le_of_ble_eq_true rfl⟩) (fun u1 H locs hwp hw => ?_)
  exact k_vret (pc := 76) (wf := (wP d nh hh cf z)) (u := u1) cx hw hwp (by decide) (by decide) dX1_merges_76
set_option maxHeartbeats 4000000 in
theorem wk_X1_merges_2 {p : Program} {l : Launch} {e : Env} {s : State} {m : MethodId} {args : Array Value} {below : List Frame} {meth : Method} {c : Code} {A : Nat → Prop} {dC : Nat → ClassId} {dI : Nat → Nat → Nat} {d : Nat → ClassId} {z : Nat → Nat → Nat} {hh : Nat → Nat → Nat} {cf : List Value}{nh : Nat} {K : PS → Prop} (cx : Cx p s m args meth c cX1_merges RX1 4 none A dC dI d) : ∀ (n : Nat) (x2 : Int32) (x3 : Int32) (u : PS) (H : Heap) (locs : List Loc) (ls : Array Slot), wp_X1_merges_2 nh K n x2 x3 u → Wd dC dI A ((wP d nh hh cf z) u) s H locs → lv_has ls 4 [(0, .ref (z 0 0)), (2, .int x2), (3, .int x3)] → W p l e ({ frames := 4, cells := 0, slots := 0, locals := 95 } : Room) s m args below meth c H locs 0 0 (MQ below (kQv dC dI (wP d nh hh cf z) K A) args s 0 0 A) (F0 m 2 ls []) := by
  intro n
  induction n with
  | zero =>
    intros; contradiction
  | succ n ih =>
    intro x2 x3 u H locs ls hwp hw hl
    unfold wp_X1_merges_2 at hwp
    refine lv_iload_n (pc := 2) cx.1 cx.2.1 dX1_merges_2 rfl (lv_at hl 2 rfl) ?_
    refine lv_iload_n (pc := 3) cx.1 cx.2.1 dX1_merges_3 rfl (lv_at hl 1 rfl) ?_
    refine lv_icmp_ge (pc := 4) (tgt := 72) cx.1 cx.2.1 dX1_merges_4 (by decide) (fun c1 => ?_) (fun c1 => ?_)
    · replace hwp := hwp.1 c1
      exact wk_X1_merges_72 cx  _ _ _ _ hwp hw (lv_sub hl [0] rfl)
    · replace hwp := hwp.2 c1
      refine lv_aload_n (pc := 7) cx.1 cx.2.1 dX1_merges_7 rfl (lv_at hl 0 rfl) ?_
      refine k_getR (pc := 8) (u := u) (v := .ref (z 3 0)) cx hw (lr_PL_pl_6 d z hh cf nh) (C := RX1) (T := TX1) (N := 21) rfl in_X1 (by decide) q484 (fun _ h9 => h9) rfl dX1_merges_8 ?_
      refine lv_aload_n (pc := 11) cx.1 cx.2.1 dX1_merges_11 rfl (lv_at hl 0 rfl) ?_
      refine k_getR (pc := 12) (u := u) (v := .ref (z 4 0)) cx hw (lr_PL_pl_7 d z hh cf nh) (C := RX1) (T := TX1) (N := 21) rfl in_X1 (by decide) q485 (fun _ h9 => h9) rfl dX1_merges_12 ?_
      refine k_getRN (pc := 15) (u := u) (v := .ref (z 4 2)) cx hw (lr_PL_now_2 d z hh cf nh) (C := RX7) (T := TX7) (N := 7) rfl in_X7 (by decide) (nq334 cx.2.2.2.2.2.1) (fun _ h9 => h9) rfl dX1_merges_15 ?_
      refine lv_iload_n (pc := 18) cx.1 cx.2.1 dX1_merges_18 rfl (lv_at hl 2 rfl) ?_
      refine k_cald (pc := 19) (u := u) (f := ((u.1 4).2.1 2)) cx hw (lx_PL_now_2 d z hh cf nh) 4 rfl rfl hwp.1 dX1_merges_19 ?_
      replace hwp := hwp.2
      refine lv_aload_n (pc := 20) cx.1 cx.2.1 dX1_merges_20 rfl (lv_at hl 0 rfl) ?_
      refine k_getR (pc := 21) (u := u) (v := .ref (z 4 0)) cx hw (lr_PL_pl_7 d z hh cf nh) (C := RX1) (T := TX1) (N := 21) rfl in_X1 (by decide) q485 (fun _ h9 => h9) rfl dX1_merges_21 ?_
      refine k_getRN (pc := 24) (u := u) (v := .ref (z 5 0)) cx hw (lr_PL_now_0 d z hh cf nh) (C := RX7) (T := TX7) (N := 7) rfl in_X7 (by decide) (nq329 cx.2.2.2.2.2.1) (fun _ h9 => h9) rfl dX1_merges_24 ?_
      refine k_getRN (pc := 27) (u := u) (v := .ref (z 5 5)) cx hw (lr_PL_nowsp_4 d z hh cf nh) (C := RX8) (T := TX8) (N := 6) rfl in_X8 (by decide) (nq308 cx.2.2.2.2.2.1) (fun _ h9 => h9) rfl dX1_merges_27 ?_
      refine lv_iload_n (pc := 30) cx.1 cx.2.1 dX1_merges_30 rfl (lv_at hl 2 rfl) ?_
      refine k_sald (pc := 31) (u := u) (f := ((u.1 5).2.1 4)) cx hw (lx_PL_nowsp_4 d z hh cf nh) 1 rfl rfl hwp.1 dX1_merges_31 ?_
      replace hwp := hwp.2
      have hpt := k_part (w := (wf_X6 d (z 3) (z 1 1) ((u.1 1).2.1 0)) (u.1 3)) (is := [9, 5]) hw (pc_PL_X6_unp d z hh cf nh u) (by decide)
      refine k_part_v (pc := 32) (wf := (wf_X6 d (z 3) (z 1 1) ((u.1 1).2.1 0))) (u := (u.1 3)) cx hw [9, 5] (pc_PL_X6_unp d z hh cf nh u) (by decide) (fun _ => rfl) (pw_PL_X6_unp d z hh cf nh u) (k_runV (pc := 32) (rest := []) (As := [.int (((u.1 4).2.1 2) x3.toNatClampNeg), .int (((u.1 5).2.1 4) x3.toNatClampNeg)]) cx hpt.1 hpt.2 hw.2.2 (k_recv cx hw 9 (ci := 4) (q := (RX6, TX6, 7)) rfl rfl) (m_X6_begin l dC dI d (z 3) (z 1 1) ((u.1 1).2.1 0) (u.1 3) (((u.1 4).2.1 2) x3.toNatClampNeg) (((u.1 5).2.1 4) x3.toNatClampNeg) hwp H.size) (cwV 2 cx.2.2.2.2.1 (lw_V q709 q710 q711 q82 q712) rfl rfl rfl hdV_X6_begin ⟨Nat.le_of_ble_eq_true rfl, Nat.le_of_ble_eq_true rfl⟩) rfl hl.1 rfl (Nat.le_of_ble_eq_true rfl) dX1_merges_32 ⟨Nat.le_of_ble_eq_true rfl, Nat.le_of_ble_eq_true rfl⟩) (fun v2 H locs hwp hw => ?_)
      obtain ⟨n35, hwp⟩ := hwp
      exact wk_X1_merges_35 cx ih n35 _ _ _ _ _ _ hwp hw (lv_sub hl [0, 1, 2] rfl)
set_option maxHeartbeats 4000000 in
theorem m_X1_merges (l : Launch) (dC : Nat → ClassId) (dI : Nat → Nat → Nat) (d : Nat → ClassId) (z : Nat → Nat → Nat) (hh : Nat → Nat → Nat) (cf : List Value) (nh : Nat) (u : PS) (x1 : Int32) (x2 : Int32) {K : PS → Prop} (hwp : wp_X1_merges nh u x1 x2 K) : kM l yX1_merges cX1_merges 4 none ({ frames := 4, cells := 0, slots := 0, locals := 95 } : Room) dC dI d [.ref (z 0 0), .int x1, .int x2] (wP d nh hh cf z) u (kQv dC dI (wP d nh hh cf z) K) 0 0 := by
  refine kM_start rfl (Nat.le_of_ble_eq_true rfl) ?_
  intro p e s m below meth c A ls cx hnm hw hl
  generalize hargs : ([.ref (z 0 0), .int x1, .int x2] : List Value).toArray = args at cx ⊢
  unfold wp_X1_merges at hwp
  replace hl : lv_has ls 4 [(0, .ref (z 0 0)), (1, .int x1), (2, .int x2)] := hl
  generalize hH : s.heap = H at hw ⊢
  generalize hlo : ([] : List Loc) = locs at hw ⊢
  refine lv_iload_n (pc := 0) cx.1 cx.2.1 dX1_merges_0 rfl (lv_at hl 1 rfl) ?_
  refine lv_istore_n (pc := 1) (lv' := [(3, .int x1), (0, .ref (z 0 0)), (1, .int x1), (2, .int x2)]) cx.1 cx.2.1 dX1_merges_1 rfl hl (by decide) rfl (fun ls hl => ?_)
  obtain ⟨n2, hwp⟩ := hwp
  exact wk_X1_merges_2 cx n2 _ _ _ _ _ _ hwp hw (lv_sub hl [1, 3, 0] rfl)
set_option maxHeartbeats 4000000 in
theorem wk_X1_compact_91 {p : Program} {l : Launch} {e : Env} {s : State} {m : MethodId} {args : Array Value} {below : List Frame} {meth : Method} {c : Code} {A : Nat → Prop} {dC : Nat → ClassId} {dI : Nat → Nat → Nat} {d : Nat → ClassId} {z : Nat → Nat → Nat} {hh : Nat → Nat → Nat} {cf : List Value}{nh : Nat} {C50 : Int32 → Int32 → Int32 → Int32 → (PS × Bool) → Prop} {K : Int32 → (PS × Bool) → Prop} (cx : Cx p s m args meth c cX1_compact RX1 6 (some .int) A dC dI d) (hlt : l.stackTraces = false) (hC50 : ∀ (x1 : Int32) (x2 : Int32) (x3 : Int32) (x4 : Int32) (u : PS × Bool) (H : Heap) (locs : List Loc) (ls : Array Slot), C50 x1 x2 x3 x4 u → Wd dC dI A ((wPb d nh hh cf z) u) s H locs → lv_has ls 6 [(0, .ref (z 0 0)), (1, .int x1), (2, .int x2), (3, .int x3), (4, .int x4)] → W p l e ({ frames := 12, cells := 3, slots := 300, locals := 10443 } : Room) s m args below meth c H locs 3 300 (MQ below (kQi dC dI (wPb d nh hh cf z) K A) args s 3 300 A) (F0 m 50 ls [])) : ∀ (x1 : Int32) (x2 : Int32) (x3 : Int32) (y0 : Int32) (u : PS × Bool) (H : Heap) (locs : List Loc) (ls : Array Slot), wp_X1_compact_91 nh C50 K x1 x2 x3 y0 u → Wd dC dI A ((wPb d nh hh cf z) u) s H locs → lv_has ls 6 [(0, .ref (z 0 0)), (1, .int x1), (2, .int x2), (3, .int x3)] → W p l e ({ frames := 12, cells := 3, slots := 300, locals := 10443 } : Room) s m args below meth c H locs 3 300 (MQ below (kQi dC dI (wPb d nh hh cf z) K A) args s 3 300 A) (F0 m 91 ls [.int y0]) := by
  intro x1 x2 x3 y0 u H locs ls hwp hw hl
  unfold wp_X1_compact_91 at hwp
  refine lv_istore (pc := 91) (lv' := [(5, .int y0), (0, .ref (z 0 0)), (1, .int x1), (2, .int x2), (3, .int x3)]) cx.1 cx.2.1 dX1_compact_91 hl (by decide) rfl (fun ls hl => ?_)
  refine lv_iload (pc := 93) cx.1 cx.2.1 dX1_compact_93 (lv_at hl 0 rfl) ?_
  refine lv_iload_n (pc := 95) cx.1 cx.2.1 dX1_compact_95 rfl (lv_at hl 4 rfl) ?_
  refine lv_iconst (pc := 96) (v := 1) cx.1 cx.2.1 dX1_compact_96 (by decide) ?_
  refine lv_iadd (pc := 97) cx.1 cx.2.1 dX1_compact_97 ?_
  refine lv_icmp_ne (pc := 98) (tgt := 118) cx.1 cx.2.1 dX1_compact_98 (by decide) (fun c1 => ?_) (fun c1 => ?_)
  · replace hwp := hwp.1 c1
    refine lv_aload_n (pc := 118) cx.1 cx.2.1 dX1_compact_118 rfl (lv_at hl 1 rfl) ?_
    refine lv_iload_n (pc := 119) cx.1 cx.2.1 dX1_compact_119 rfl (lv_at hl 2 rfl) ?_
    refine k_whole_i (pc := 120) (wf := (wP d nh hh cf (sw_A u.2 z))) (u := u.1) cx hw (k_runV (pc := 120) (rest := []) (As := [.int x1]) cx hw.1 (hw.2.1.weaken (fun _ _ _ _ => trivial)) hw.2.2 (k_recv cx hw 0 (ci := 0) (q := (RX1, TX1, 21)) rfl rfl) (m_X1_opens l dC dI d (sw_A u.2 z) hh cf nh u.1 x1 hwp H.size) (cwV 1 cx.2.2.2.2.1 (lw_V q624 q626 qs7 q75 q627) rfl rfl rfl hdV_X1_opens ⟨Nat.le_of_ble_eq_true rfl, Nat.le_of_ble_eq_true rfl⟩) rfl hl.1 rfl (Nat.le_of_ble_eq_true rfl) dX1_compact_120 ⟨Nat.le_of_ble_eq_true rfl, Nat.le_of_ble_eq_true rfl⟩) (fun r3 v2 H locs hwp hw => ?_)
    replace hw : Wd dC dI A ((wPb d nh hh cf z) (v2, u.2)) s H locs := hw
    refine lv_istore (pc := 123) (lv' := [(4, .int r3), (5, .int y0), (0, .ref (z 0 0)), (1, .int x1), (2, .int x2), (3, .int x3)]) cx.1 cx.2.1 dX1_compact_123 hl (by decide) rfl (fun ls hl => ?_)
    refine lv_aload_n (pc := 125) cx.1 cx.2.1 dX1_compact_125 rfl (lv_at hl 2 rfl) ?_
    refine lv_iload_n (pc := 126) cx.1 cx.2.1 dX1_compact_126 rfl (lv_at hl 5 rfl) ?_
    refine lv_iload (pc := 127) cx.1 cx.2.1 dX1_compact_127 (lv_at hl 1 rfl) ?_
    refine k_whole_v (pc := 129) (wf := (wP d nh hh cf (sw_A (v2, u.2).2 z))) (u := ((v2, u.2).1)) cx hw (k_runV (pc := 129) (rest := []) (As := [.int x3, .int y0]) cx hw.1 (hw.2.1.weaken (fun _ _ _ _ => trivial)) hw.2.2 (k_recv cx hw 0 (ci := 0) (q := (RX1, TX1, 21)) rfl rfl) (m_X1_merges l dC dI d (sw_A (v2, u.2).2 z) hh cf nh ((v2, u.2).1) x3 y0 hwp H.size) (cwV 2 cx.2.2.2.2.1 (lw_V q705 q707 qs19 q75 q708) rfl rfl rfl hdV_X1_merges ⟨Nat.le_of_ble_eq_true rfl, Nat.le_of_ble_eq_true rfl⟩) rfl hl.1 rfl (Nat.le_of_ble_eq_true rfl) dX1_compact_129 ⟨Nat.le_of_ble_eq_true rfl, Nat.le_of_ble_eq_true rfl⟩) (fun v4 H locs hwp hw => ?_)
    replace hw : Wd dC dI A ((wPb d nh hh cf z) (v4, (v2, u.2).2)) s H locs := hw
    refine lv_iload (pc := 132) cx.1 cx.2.1 dX1_compact_132 (lv_at hl 1 rfl) ?_
    refine lv_istore_n (pc := 134) (lv' := [(3, .int y0), (4, .int r3), (5, .int y0), (0, .ref (z 0 0)), (1, .int x1), (2, .int x2)]) cx.1 cx.2.1 dX1_compact_134 rfl hl (by decide) rfl (fun ls hl => ?_)
    refine lv_goto (pc := 135) (tgt := 50) cx.1 cx.2.1 dX1_compact_135 (by decide) ?_
    exact hC50 _ _ _ _ _ _ _ _ hwp hw (lv_sub hl [3, 4, 5, 0, 1] rfl)
  · replace hwp := hwp.2 c1
    refine lv_aload_n (pc := 101) cx.1 cx.2.1 dX1_compact_101 rfl (lv_at hl 1 rfl) ?_
    refine k_getR (pc := 102) (u := u) (v := .ref (sw_A u.2 z 6 0)) cx hw (lr_PLs_pl_8 d z hh cf nh) (C := RX1) (T := TX1) (N := 21) rfl in_X1 (by decide) q487 (fun _ h9 => h9) rfl dX1_compact_102 ?_
    refine lv_aload_n (pc := 105) cx.1 cx.2.1 dX1_compact_105 rfl (lv_at hl 1 rfl) ?_
    refine k_getR (pc := 106) (u := u) (v := .ref (sw_A u.2 z 4 0)) cx hw (lr_PLs_pl_7 d z hh cf nh) (C := RX1) (T := TX1) (N := 21) rfl in_X1 (by decide) q485 (fun _ h9 => h9) rfl dX1_compact_106 ?_
    refine lv_iload_n (pc := 109) cx.1 cx.2.1 dX1_compact_109 rfl (lv_at hl 4 rfl) ?_
    have hpt := k_part (w := (wf_X7c d (sw_A u.2 z 6) (sw_A u.2 z 7) (sw_A u.2 z 4) (sw_A u.2 z 5) (u.1.1 4) (u.1.1 5)) ((u.1.1 6), (u.1.1 7))) (is := [23, 24, 25, 26, 27, 28, 29, 30, 31, 32, 33, 34, 35, 10, 11, 12, 13, 14, 15, 16, 17, 18, 19, 20, 21, 22]) hw (pc_PLs_X7c_next_nextsp_now_nowsp d z hh cf nh u) (by decide)
    refine k_part_i (pc := 110) (wf := (wf_X7c d (sw_A u.2 z 6) (sw_A u.2 z 7) (sw_A u.2 z 4) (sw_A u.2 z 5) (u.1.1 4) (u.1.1 5))) (u := ((u.1.1 6), (u.1.1 7))) cx hw [23, 24, 25, 26, 27, 28, 29, 30, 31, 32, 33, 34, 35, 10, 11, 12, 13, 14, 15, 16, 17, 18, 19, 20, 21, 22] (pc_PLs_X7c_next_nextsp_now_nowsp d z hh cf nh u) (by decide) (fun _ => rfl) (pw_PLs_X7c_next_nextsp_now_nowsp d z hh cf nh u) (k_runV (pc := 110) (rest := []) (As := [.ref (sw_A u.2 z 4 0), .int x3]) cx hpt.1 hpt.2 hw.2.2 (k_recv cx hw 23 (ci := 5) (q := (RX7, TX7, 7)) rfl rfl) (m_X7_copies l dC dI d (sw_A u.2 z 6) (sw_A u.2 z 7) (sw_A u.2 z 4) (sw_A u.2 z 5) (u.1.1 4) (u.1.1 5) ((u.1.1 6), (u.1.1 7)) x3 hwp H.size) (cwV 2 cx.2.2.2.2.1 (lw_V q614 q615 q616 q83 q617) rfl rfl rfl hdV_X7_copies ⟨Nat.le_of_ble_eq_true rfl, Nat.le_of_ble_eq_true rfl⟩) rfl hl.1 rfl (Nat.le_of_ble_eq_true rfl) dX1_compact_110 ⟨Nat.le_of_ble_eq_true rfl, Nat.le_of_ble_eq_true rfl⟩) (fun r7 v6 H locs hwp hw => ?_)
    refine lv_istore (pc := 113) (lv' := [(4, .int r7), (5, .int y0), (0, .ref (z 0 0)), (1, .int x1), (2, .int x2), (3, .int x3)]) cx.1 cx.2.1 dX1_compact_113 hl (by decide) rfl (fun ls hl => ?_)
    refine lv_goto (pc := 115) (tgt := 132) cx.1 cx.2.1 dX1_compact_115 (by decide) ?_
    refine lv_iload (pc := 132) cx.1 cx.2.1 dX1_compact_132 (lv_at hl 1 rfl) ?_
    refine lv_istore_n (pc := 134) (lv' := [(3, .int y0), (4, .int r7), (5, .int y0), (0, .ref (z 0 0)), (1, .int x1), (2, .int x2)]) cx.1 cx.2.1 dX1_compact_134 rfl hl (by decide) rfl (fun ls hl => ?_)
    refine lv_goto (pc := 135) (tgt := 50) cx.1 cx.2.1 dX1_compact_135 (by decide) ?_
    exact hC50 _ _ _ _ _ _ _ _ hwp hw (lv_sub hl [3, 4, 5, 0, 1] rfl)
set_option maxHeartbeats 4000000 in
theorem wk_X1_compact_138 {p : Program} {l : Launch} {e : Env} {s : State} {m : MethodId} {args : Array Value} {below : List Frame} {meth : Method} {c : Code} {A : Nat → Prop} {dC : Nat → ClassId} {dI : Nat → Nat → Nat} {d : Nat → ClassId} {z : Nat → Nat → Nat} {hh : Nat → Nat → Nat} {cf : List Value}{nh : Nat} {K : Int32 → (PS × Bool) → Prop} (cx : Cx p s m args meth c cX1_compact RX1 6 (some .int) A dC dI d) (hlt : l.stackTraces = false) : ∀  (u : PS × Bool) (H : Heap) (locs : List Loc) (ls : Array Slot), wp_X1_compact_138 nh K  u → Wd dC dI A ((wPb d nh hh cf z) u) s H locs → lv_has ls 6 [(0, .ref (z 0 0))] → W p l e ({ frames := 12, cells := 3, slots := 300, locals := 10443 } : Room) s m args below meth c H locs 3 300 (MQ below (kQi dC dI (wPb d nh hh cf z) K A) args s 3 300 A) (F0 m 138 ls []) := by
  intro  u H locs ls hwp hw hl
  unfold wp_X1_compact_138 at hwp
  refine lv_aload_n (pc := 138) cx.1 cx.2.1 dX1_compact_138 rfl (lv_at hl 0 rfl) ?_
  refine k_getR (pc := 139) (u := u) (v := .ref (sw_A u.2 z 4 0)) cx hw (lr_PLs_pl_7 d z hh cf nh) (C := RX1) (T := TX1) (N := 21) rfl in_X1 (by decide) q485 (fun _ h9 => h9) rfl dX1_compact_139 ?_
  refine k_getIN (pc := 142) (u := u) (v := ((u.1.1 4).1 5)) cx hw (ln_PLs_now_5 d z hh cf nh) (C := RX7) (T := TX7) (N := 7) rfl in_X7 (by decide) (nq340 cx.2.2.2.2.2.1) (fun _ h9 => h9) rfl dX1_compact_142 ?_
  refine lv_aload_n (pc := 145) cx.1 cx.2.1 dX1_compact_145 rfl (lv_at hl 0 rfl) ?_
  refine k_getR (pc := 146) (u := u) (v := .ref (sw_A u.2 z 6 0)) cx hw (lr_PLs_pl_8 d z hh cf nh) (C := RX1) (T := TX1) (N := 21) rfl in_X1 (by decide) q487 (fun _ h9 => h9) rfl dX1_compact_146 ?_
  refine k_getIN (pc := 149) (u := u) (v := ((u.1.1 6).1 5)) cx hw (ln_PLs_next_5 d z hh cf nh) (C := RX7) (T := TX7) (N := 7) rfl in_X7 (by decide) (nq340 cx.2.2.2.2.2.1) (fun _ h9 => h9) rfl dX1_compact_149 ?_
  refine lv_isub (pc := 152) cx.1 cx.2.1 dX1_compact_152 ?_
  refine lv_istore (pc := 153) (lv' := [(5, .int (((u.1.1 4).1 5) - ((u.1.1 6).1 5))), (0, .ref (z 0 0))]) cx.1 cx.2.1 dX1_compact_153 hl (by decide) rfl (fun ls hl => ?_)
  refine lv_iload (pc := 155) cx.1 cx.2.1 dX1_compact_155 (lv_at hl 0 rfl) ?_
  refine lv_if_ne (pc := 157) (tgt := 164) cx.1 cx.2.1 dX1_compact_157 (by decide) (fun c1 => ?_) (fun c1 => ?_)
  · replace hwp := hwp.1 c1
    refine lv_aload_n (pc := 164) cx.1 cx.2.1 dX1_compact_164 rfl (lv_at hl 1 rfl) ?_
    refine lv_aload_n (pc := 165) cx.1 cx.2.1 dX1_compact_165 rfl (lv_at hl 1 rfl) ?_
    refine k_getI (pc := 166) (u := u) (v := ((u.1.1 0).1 12)) cx hw (ln_PLs_pl_12 d z hh cf nh) (C := RX1) (T := TX1) (N := 21) rfl in_X1 (by decide) q491 (fun _ h9 => h9) rfl dX1_compact_166 ?_
    refine lv_iload (pc := 169) cx.1 cx.2.1 dX1_compact_169 (lv_at hl 0 rfl) ?_
    refine k_whole_i (pc := 171) (wf := (wPb d nh hh cf z)) (u := u) cx hw (k_runVW (pc := 171) (rest := []) (As := [.int ((u.1.1 0).1 12), .int (((u.1.1 4).1 5) - ((u.1.1 6).1 5))]) cx hw.1 (hw.2.1.weaken (fun _ _ _ _ => trivial)) hw.2.2 (k_recv cx hw 0 (ci := 0) (q := (RX1, TX1, 21)) rfl rfl) (m_X1_done l dC dI d z hh cf nh u ((u.1.1 0).1 12) (((u.1.1 4).1 5) - ((u.1.1 6).1 5)) hwp H.size) (k_cwVW 2 cx.2.2.2.2.1 (lw_VW q673 q675 qs12 q75 q676) rfl rfl rfl hdV_X1_done ⟨Nat.le_of_ble_eq_true rfl, Nat.le_of_ble_eq_true rfl⟩) rfl hl.1 rfl (Nat.le_of_ble_eq_true rfl) dX1_compact_171 ⟨Nat.le_of_ble_eq_true rfl, Nat.le_of_ble_eq_true rfl⟩) (fun r3 u2 H locs hwp hw => ?_)
    exact k_iret (pc := 174) (wf := (wPb d nh hh cf z)) (u := u2) cx hw hwp (by decide) (by decide) dX1_compact_174
  · replace hwp := hwp.2 c1
    refine lv_iconst (pc := 160) (v := 0) cx.1 cx.2.1 dX1_compact_160 (by decide) ?_
    refine lv_goto (pc := 161) (tgt := 174) cx.1 cx.2.1 dX1_compact_161 (by decide) ?_
    exact k_iret (pc := 174) (wf := (wPb d nh hh cf z)) (u := u) cx hw hwp (by decide) (by decide) dX1_compact_174
set_option maxHeartbeats 4000000 in
theorem wk_X1_compact_50 {p : Program} {l : Launch} {e : Env} {s : State} {m : MethodId} {args : Array Value} {below : List Frame} {meth : Method} {c : Code} {A : Nat → Prop} {dC : Nat → ClassId} {dI : Nat → Nat → Nat} {d : Nat → ClassId} {z : Nat → Nat → Nat} {hh : Nat → Nat → Nat} {cf : List Value}{nh : Nat} {K : Int32 → (PS × Bool) → Prop} (cx : Cx p s m args meth c cX1_compact RX1 6 (some .int) A dC dI d) (hlt : l.stackTraces = false) : ∀ (n : Nat) (x1 : Int32) (x2 : Int32) (x3 : Int32) (x4 : Int32) (u : PS × Bool) (H : Heap) (locs : List Loc) (ls : Array Slot), wp_X1_compact_50 nh K n x1 x2 x3 x4 u → Wd dC dI A ((wPb d nh hh cf z) u) s H locs → lv_has ls 6 [(0, .ref (z 0 0)), (1, .int x1), (2, .int x2), (3, .int x3), (4, .int x4)] → W p l e ({ frames := 12, cells := 3, slots := 300, locals := 10443 } : Room) s m args below meth c H locs 3 300 (MQ below (kQi dC dI (wPb d nh hh cf z) K A) args s 3 300 A) (F0 m 50 ls []) := by
  intro n
  induction n with
  | zero =>
    intros; contradiction
  | succ n ih =>
    intro x1 x2 x3 x4 u H locs ls hwp hw hl
    unfold wp_X1_compact_50 at hwp
    refine lv_iload_n (pc := 50) cx.1 cx.2.1 dX1_compact_50 rfl (lv_at hl 3 rfl) ?_
    refine lv_aload_n (pc := 51) cx.1 cx.2.1 dX1_compact_51 rfl (lv_at hl 0 rfl) ?_
    refine k_getR (pc := 52) (u := u) (v := .ref (sw_A u.2 z 4 0)) cx hw (lr_PLs_pl_7 d z hh cf nh) (C := RX1) (T := TX1) (N := 21) rfl in_X1 (by decide) q485 (fun _ h9 => h9) rfl dX1_compact_52 ?_
    refine k_getIN (pc := 55) (u := u) (v := ((u.1.1 4).1 5)) cx hw (ln_PLs_now_5 d z hh cf nh) (C := RX7) (T := TX7) (N := 7) rfl in_X7 (by decide) (nq340 cx.2.2.2.2.2.1) (fun _ h9 => h9) rfl dX1_compact_55 ?_
    refine lv_icmp_ge (pc := 58) (tgt := 138) cx.1 cx.2.1 dX1_compact_58 (by decide) (fun c1 => ?_) (fun c1 => ?_)
    · replace hwp := hwp.1 c1
      exact wk_X1_compact_138 cx hlt  _ _ _ _ hwp hw (lv_sub hl [0] rfl)
    · replace hwp := hwp.2 c1
      refine lv_iload (pc := 61) cx.1 cx.2.1 dX1_compact_61 (lv_at hl 4 rfl) ?_
      refine lv_if_eq (pc := 63) (tgt := 138) cx.1 cx.2.1 dX1_compact_63 (by decide) (fun c2 => ?_) (fun c2 => ?_)
      · replace hwp := hwp.1 c2
        exact wk_X1_compact_138 cx hlt  _ _ _ _ hwp hw (lv_sub hl [0] rfl)
      · replace hwp := hwp.2 c2
        refine lv_aload_n (pc := 66) cx.1 cx.2.1 dX1_compact_66 rfl (lv_at hl 0 rfl) ?_
        refine k_getR (pc := 67) (u := u) (v := .ref (sw_A u.2 z 4 0)) cx hw (lr_PLs_pl_7 d z hh cf nh) (C := RX1) (T := TX1) (N := 21) rfl in_X1 (by decide) q485 (fun _ h9 => h9) rfl dX1_compact_67 ?_
        refine k_getRN (pc := 70) (u := u) (v := .ref (sw_A u.2 z 4 1)) cx hw (lr_PLs_now_1 d z hh cf nh) (C := RX7) (T := TX7) (N := 7) rfl in_X7 (by decide) (nq331 cx.2.2.2.2.2.1) (fun _ h9 => h9) rfl dX1_compact_70 ?_
        refine lv_iload_n (pc := 73) cx.1 cx.2.1 dX1_compact_73 rfl (lv_at hl 3 rfl) ?_
        refine k_bald (pc := 74) (u := u) (f := ((u.1.1 4).2.1 1)) cx hw (lx_PLs_now_1 d z hh cf nh) 3 rfl rfl hwp.1 dX1_compact_74 ?_
        replace hwp := hwp.2
        refine lv_iload_n (pc := 75) cx.1 cx.2.1 dX1_compact_75 rfl (lv_at hl 1 rfl) ?_
        refine lv_icmp_ne (pc := 76) (tgt := 88) cx.1 cx.2.1 dX1_compact_76 (by decide) (fun c3 => ?_) (fun c3 => ?_)
        · replace hwp := hwp.1 c3
          refine lv_iload_n (pc := 88) cx.1 cx.2.1 dX1_compact_88 rfl (lv_at hl 3 rfl) ?_
          refine lv_iconst (pc := 89) (v := 1) cx.1 cx.2.1 dX1_compact_89 (by decide) ?_
          refine lv_iadd (pc := 90) cx.1 cx.2.1 dX1_compact_90 ?_
          exact wk_X1_compact_91 cx hlt ih _ _ _ _ _ _ _ _ hwp hw (lv_sub hl [0, 1, 2, 3] rfl)
        · replace hwp := hwp.2 c3
          refine lv_aload_n (pc := 79) cx.1 cx.2.1 dX1_compact_79 rfl (lv_at hl 0 rfl) ?_
          refine lv_iload_n (pc := 80) cx.1 cx.2.1 dX1_compact_80 rfl (lv_at hl 3 rfl) ?_
          refine lv_iload_n (pc := 81) cx.1 cx.2.1 dX1_compact_81 rfl (lv_at hl 2 rfl) ?_
          refine k_whole_i (pc := 82) (wf := (wP d nh hh cf (sw_A u.2 z))) (u := u.1) cx hw (k_runV (pc := 82) (rest := []) (As := [.int x3, .int x2]) cx hw.1 (hw.2.1.weaken (fun _ _ _ _ => trivial)) hw.2.2 (k_recv cx hw 0 (ci := 0) (q := (RX1, TX1, 21)) rfl rfl) (m_X1_reach l dC dI d (sw_A u.2 z) hh cf nh u.1 x3 x2 hwp H.size) (cwV 2 cx.2.2.2.2.1 (lw_V q701 q703 qs18 q75 q704) rfl rfl rfl hdV_X1_reach ⟨Nat.le_of_ble_eq_true rfl, Nat.le_of_ble_eq_true rfl⟩) rfl hl.1 rfl (Nat.le_of_ble_eq_true rfl) dX1_compact_82 ⟨Nat.le_of_ble_eq_true rfl, Nat.le_of_ble_eq_true rfl⟩) (fun r5 v4 H locs hwp hw => ?_)
          replace hw : Wd dC dI A ((wPb d nh hh cf z) (v4, u.2)) s H locs := hw
          refine lv_goto (pc := 85) (tgt := 91) cx.1 cx.2.1 dX1_compact_85 (by decide) ?_
          exact wk_X1_compact_91 cx hlt ih _ _ _ _ _ _ _ _ hwp hw (lv_sub hl [0, 1, 2, 3] rfl)
set_option maxHeartbeats 4000000 in
theorem m_X1_compact (l : Launch) (hlt : l.stackTraces = false) (dC : Nat → ClassId) (dI : Nat → Nat → Nat) (d : Nat → ClassId) (z : Nat → Nat → Nat) (hh : Nat → Nat → Nat) (cf : List Value) (nh : Nat) (u : PS × Bool) (x1 : Int32) {K : Int32 → (PS × Bool) → Prop} (hwp : wp_X1_compact nh u x1 K) : kM l yX1_compact cX1_compact 6 (some .int) ({ frames := 12, cells := 3, slots := 300, locals := 10443 } : Room) dC dI d [.ref (z 0 0), .int x1] (wPb d nh hh cf z) u (kQi dC dI (wPb d nh hh cf z) K) 3 300 := by
  refine kM_start rfl (Nat.le_of_ble_eq_true rfl) ?_
  intro p e s m below meth c A ls cx hnm hw hl
  generalize hargs : ([.ref (z 0 0), .int x1] : List Value).toArray = args at cx ⊢
  unfold wp_X1_compact at hwp
  replace hl : lv_has ls 6 [(0, .ref (z 0 0)), (1, .int x1)] := hl
  generalize hH : s.heap = H at hw ⊢
  generalize hlo : ([] : List Loc) = locs at hw ⊢
  refine lv_aload_n (pc := 0) cx.1 cx.2.1 dX1_compact_0 rfl (lv_at hl 0 rfl) ?_
  refine lv_null (pc := 1) cx.1 cx.2.1 dX1_compact_1 ?_
  refine k_putCuN_PLs (pc := 2) (u := u) cx hw q496 dX1_compact_2 (fun H locs hw => ?_)
  refine lv_aload_n (pc := 5) cx.1 cx.2.1 dX1_compact_5 rfl (lv_at hl 0 rfl) ?_
  refine k_getR (pc := 6) (u := (pb_I u 0 17 (0 : Int32))) (v := .ref (z 1 0)) cx hw (lr_PLs_pl_3 d z hh cf nh) (C := RX1) (T := TX1) (N := 21) rfl in_X1 (by decide) q479 (fun _ h9 => h9) rfl dX1_compact_6 ?_
  refine k_getIN (pc := 9) (u := (pb_I u 0 17 (0 : Int32))) (v := ((u.1.1 1).1 3)) cx hw (ln_PLs_disk_3 d z hh cf nh) (C := RX2) (T := TX2) (N := 5) rfl in_X2 (by decide) (nq196 cx.2.2.2.2.2.1) (fun _ h9 => h9) rfl dX1_compact_9 ?_
  refine lv_if_eq (pc := 12) (tgt := 18) cx.1 cx.2.1 dX1_compact_12 (by decide) (fun c1 => ?_) (fun c1 => ?_)
  · replace hwp := hwp.1 c1
    refine lv_aload_n (pc := 18) cx.1 cx.2.1 dX1_compact_18 rfl (lv_at hl 0 rfl) ?_
    refine lv_iload_n (pc := 19) cx.1 cx.2.1 dX1_compact_19 rfl (lv_at hl 1 rfl) ?_
    refine k_whole_i (pc := 20) (wf := (wP d nh hh cf (sw_A u.2 z))) (u := ((pb_I u 0 17 (0 : Int32)).1)) cx hw (k_runV (pc := 20) (rest := []) (As := [.int x1]) cx hw.1 (hw.2.1.weaken (fun _ _ _ _ => trivial)) hw.2.2 (k_recv cx hw 0 (ci := 0) (q := (RX1, TX1, 21)) rfl rfl) (m_X1_isSeries l hlt dC dI d (sw_A u.2 z) hh cf nh ((pb_I u 0 17 (0 : Int32)).1) x1 hwp H.size) (cwV 1 cx.2.2.2.2.1 (lw_V q548 q550 qs3 q75 q551) rfl rfl rfl hdV_X1_isSeries ⟨Nat.le_of_ble_eq_true rfl, Nat.le_of_ble_eq_true rfl⟩) rfl hl.1 rfl (Nat.le_of_ble_eq_true rfl) dX1_compact_20 ⟨Nat.le_of_ble_eq_true rfl, Nat.le_of_ble_eq_true rfl⟩) (fun r3 v2 H locs hwp hw => ?_)
    replace hw : Wd dC dI A ((wPb d nh hh cf z) (v2, u.2)) s H locs := hw
    refine lv_if_ne (pc := 23) (tgt := 29) cx.1 cx.2.1 dX1_compact_23 (by decide) (fun c4 => ?_) (fun c4 => ?_)
    · replace hwp := hwp.1 c4
      refine lv_aload_n (pc := 29) cx.1 cx.2.1 dX1_compact_29 rfl (lv_at hl 0 rfl) ?_
      refine k_whole_v (pc := 30) (wf := (wP d nh hh cf (sw_A (v2, u.2).2 z))) (u := ((v2, u.2).1)) cx hw (k_runV (pc := 30) (rest := []) (As := []) cx hw.1 (hw.2.1.weaken (fun _ _ _ _ => trivial)) hw.2.2 (k_recv cx hw 0 (ci := 0) (q := (RX1, TX1, 21)) rfl rfl) (m_X1_plans l dC dI d (sw_A (v2, u.2).2 z) hh cf nh ((v2, u.2).1)  hwp H.size) (cwV 0 cx.2.2.2.2.1 (lw_V q606 q608 qs6 q75 q609) rfl rfl rfl hdV_X1_plans ⟨Nat.le_of_ble_eq_true rfl, Nat.le_of_ble_eq_true rfl⟩) rfl hl.1 rfl (Nat.le_of_ble_eq_true rfl) dX1_compact_30 ⟨Nat.le_of_ble_eq_true rfl, Nat.le_of_ble_eq_true rfl⟩) (fun v5 H locs hwp hw => ?_)
      replace hw : Wd dC dI A ((wPb d nh hh cf z) (v5, (v2, u.2).2)) s H locs := hw
      refine lv_aload_n (pc := 33) cx.1 cx.2.1 dX1_compact_33 rfl (lv_at hl 0 rfl) ?_
      refine k_getR (pc := 34) (u := (v5, (v2, u.2).2)) (v := .ref (sw_A (v5, (v2, u.2).2).2 z 4 0)) cx hw (lr_PLs_pl_7 d z hh cf nh) (C := RX1) (T := TX1) (N := 21) rfl in_X1 (by decide) q485 (fun _ h9 => h9) rfl dX1_compact_34 ?_
      refine k_getRN (pc := 37) (u := (v5, (v2, u.2).2)) (v := .ref (sw_A (v5, (v2, u.2).2).2 z 4 5)) cx hw (lr_PLs_now_6 d z hh cf nh) (C := RX7) (T := TX7) (N := 7) rfl in_X7 (by decide) (nq343 cx.2.2.2.2.2.1) (fun _ h9 => h9) rfl dX1_compact_37 ?_
      refine lv_iload_n (pc := 40) cx.1 cx.2.1 dX1_compact_40 rfl (lv_at hl 1 rfl) ?_
      refine lv_iconst (pc := 41) (v := 1) cx.1 cx.2.1 dX1_compact_41 (by decide) ?_
      refine lv_iadd (pc := 42) cx.1 cx.2.1 dX1_compact_42 ?_
      refine k_iald (pc := 43) (u := (v5, (v2, u.2).2)) (f := (((v5, (v2, u.2).2).1.1 4).2.1 6)) cx hw (lx_PLs_now_6 d z hh cf nh) 0 rfl rfl hwp.1 dX1_compact_43 ?_
      replace hwp := hwp.2
      refine lv_istore_n (pc := 44) (lv' := [(2, .int ((((v5, (v2, u.2).2).1.1 4).2.1 6) (x1 + (1 : Int32)).toNatClampNeg)), (0, .ref (z 0 0)), (1, .int x1)]) cx.1 cx.2.1 dX1_compact_44 rfl hl (by decide) rfl (fun ls hl => ?_)
      refine lv_iconst (pc := 45) (v := 0) cx.1 cx.2.1 dX1_compact_45 (by decide) ?_
      refine lv_istore_n (pc := 46) (lv' := [(3, .int (0 : Int32)), (2, .int ((((v5, (v2, u.2).2).1.1 4).2.1 6) (x1 + (1 : Int32)).toNatClampNeg)), (0, .ref (z 0 0)), (1, .int x1)]) cx.1 cx.2.1 dX1_compact_46 rfl hl (by decide) rfl (fun ls hl => ?_)
      refine lv_iconst (pc := 47) (v := 1) cx.1 cx.2.1 dX1_compact_47 (by decide) ?_
      refine lv_istore (pc := 48) (lv' := [(4, .int (1 : Int32)), (3, .int (0 : Int32)), (2, .int ((((v5, (v2, u.2).2).1.1 4).2.1 6) (x1 + (1 : Int32)).toNatClampNeg)), (0, .ref (z 0 0)), (1, .int x1)]) cx.1 cx.2.1 dX1_compact_48 hl (by decide) rfl (fun ls hl => ?_)
      obtain ⟨n50, hwp⟩ := hwp
      exact wk_X1_compact_50 cx hlt n50 _ _ _ _ _ _ _ _ hwp hw (lv_sub hl [3, 4, 2, 1, 0] rfl)
    · replace hwp := hwp.2 c4
      refine lv_bipush (pc := 26) (v := -2) cx.1 cx.2.1 dX1_compact_26 (by decide) ?_
      exact k_iret (pc := 28) (wf := (wPb d nh hh cf z)) (u := (v2, u.2)) cx hw hwp (by decide) (by decide) dX1_compact_28
  · replace hwp := hwp.2 c1
    refine lv_bipush (pc := 15) (v := -9) cx.1 cx.2.1 dX1_compact_15 (by decide) ?_
    exact k_iret (pc := 17) (wf := (wPb d nh hh cf z)) (u := (pb_I u 0 17 (0 : Int32))) cx hw hwp (by decide) (by decide) dX1_compact_17
