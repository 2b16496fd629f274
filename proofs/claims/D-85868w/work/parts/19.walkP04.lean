set_option maxRecDepth 100000
set_option maxHeartbeats 4000000 in
theorem m_X8_told (l : Launch) (hlt : l.stackTraces = false) (dC : Nat → ClassId) (dI : Nat → Nat → Nat) (d : Nat → ClassId) (h : Nat → Nat) (u : St) (x1 : Int32) (x2 : Int32) {K : Int32 → St → Prop} {E : Nat → St → Prop} (hwp : wp_X8_told u x1 x2 K E) : kMT l yX8_told cX8_told 3 (some .int) ({ frames := 8, cells := 1, slots := 10, locals := 200 } : Room) dC dI d [.ref (h 0), .int x1, .int x2] (wSp d h) u (kXi dC dI (wSp d h) K E) 1 10 := by
  refine kMT_start rfl (Nat.le_of_ble_eq_true rfl) ?_
  intro p e s m below meth c A ls cx hnm xt hw hl
  generalize hargs : ([.ref (h 0), .int x1, .int x2] : List Value).toArray = args at cx ⊢
  unfold wp_X8_told at hwp
  replace hl : lv_has ls 3 [(0, .ref (h 0)), (1, .int x1), (2, .int x2)] := hl
  generalize hH : s.heap = H at hw ⊢
  generalize hlo : ([] : List Loc) = locs at hw ⊢
  refine lv_iload_n (pc := 0) cx.1 cx.2.1 dX8_told_0 rfl (lv_at hl 2 rfl) ?_
  by_cases c1 : x2 = (0 : Int32)
  · replace hwp := hwp.1 c1
    refine lv_tableIn (pc := 1) (off := 35) (tgt := 36) cx.1 cx.2.1 dX8_told_1 (by rw [c1]; decide) (by rw [c1]; decide) (by rw [c1]; decide) (by decide) ?_
    refine lv_aload_n (pc := 36) cx.1 cx.2.1 dX8_told_36 rfl (lv_at hl 0 rfl) ?_
    refine k_getR (pc := 37) (u := u) (v := .ref (h 1)) cx hw (lr_X8_this_0 d h) (C := RX8) (T := TX8) (N := 6) rfl in_X8 (by decide) q295 (fun _ h9 => h9) rfl dX8_told_37 ?_
    refine lv_iload_n (pc := 40) cx.1 cx.2.1 dX8_told_40 rfl (lv_at hl 1 rfl) ?_
    refine k_iald (pc := 41) (u := u) (f := (u.2.1 0)) cx hw (lx_X8_this_0 d h) 0 rfl rfl hwp.1 dX8_told_41 ?_
    replace hwp := hwp.2
    exact k_iretT (pc := 42) (wf := (wSp d h)) (u := u) cx hw hwp (by decide) (by decide) dX8_told_42
  replace hwp := hwp.2 c1
  have kc1_0 := c1
  clear c1
  by_cases c1 : x2 = (1 : Int32)
  · replace hwp := hwp.1 c1
    refine lv_tableIn (pc := 1) (off := 42) (tgt := 43) cx.1 cx.2.1 dX8_told_1 (by rw [c1]; decide) (by rw [c1]; decide) (by rw [c1]; decide) (by decide) ?_
    refine lv_aload_n (pc := 43) cx.1 cx.2.1 dX8_told_43 rfl (lv_at hl 0 rfl) ?_
    refine k_getR (pc := 44) (u := u) (v := .ref (h 2)) cx hw (lr_X8_this_1 d h) (C := RX8) (T := TX8) (N := 6) rfl in_X8 (by decide) q297 (fun _ h9 => h9) rfl dX8_told_44 ?_
    refine lv_iload_n (pc := 47) cx.1 cx.2.1 dX8_told_47 rfl (lv_at hl 1 rfl) ?_
    refine k_iald (pc := 48) (u := u) (f := (u.2.1 1)) cx hw (lx_X8_this_1 d h) 0 rfl rfl hwp.1 dX8_told_48 ?_
    replace hwp := hwp.2
    exact k_iretT (pc := 49) (wf := (wSp d h)) (u := u) cx hw hwp (by decide) (by decide) dX8_told_49
  replace hwp := hwp.2 c1
  have kc1_1 := c1
  clear c1
  by_cases c1 : x2 = (2 : Int32)
  · replace hwp := hwp.1 c1
    refine lv_tableIn (pc := 1) (off := 49) (tgt := 50) cx.1 cx.2.1 dX8_told_1 (by rw [c1]; decide) (by rw [c1]; decide) (by rw [c1]; decide) (by decide) ?_
    refine lv_aload_n (pc := 50) cx.1 cx.2.1 dX8_told_50 rfl (lv_at hl 0 rfl) ?_
    refine k_getR (pc := 51) (u := u) (v := .ref (h 5)) cx hw (lr_X8_this_4 d h) (C := RX8) (T := TX8) (N := 6) rfl in_X8 (by decide) q305 (fun _ h9 => h9) rfl dX8_told_51 ?_
    refine lv_iload_n (pc := 54) cx.1 cx.2.1 dX8_told_54 rfl (lv_at hl 1 rfl) ?_
    refine k_sald (pc := 55) (u := u) (f := (u.2.1 4)) cx hw (lx_X8_this_4 d h) 1 rfl rfl hwp.1 dX8_told_55 ?_
    replace hwp := hwp.2
    exact k_iretT (pc := 56) (wf := (wSp d h)) (u := u) cx hw hwp (by decide) (by decide) dX8_told_56
  replace hwp := hwp.2 c1
  have kc1_2 := c1
  clear c1
  by_cases c1 : x2 = (3 : Int32)
  · replace hwp := hwp.1 c1
    refine lv_tableIn (pc := 1) (off := 56) (tgt := 57) cx.1 cx.2.1 dX8_told_1 (by rw [c1]; decide) (by rw [c1]; decide) (by rw [c1]; decide) (by decide) ?_
    refine lv_aload_n (pc := 57) cx.1 cx.2.1 dX8_told_57 rfl (lv_at hl 0 rfl) ?_
    refine k_getR (pc := 58) (u := u) (v := .ref (h 3)) cx hw (lr_X8_this_2 d h) (C := RX8) (T := TX8) (N := 6) rfl in_X8 (by decide) q299 (fun _ h9 => h9) rfl dX8_told_58 ?_
    refine lv_iload_n (pc := 61) cx.1 cx.2.1 dX8_told_61 rfl (lv_at hl 1 rfl) ?_
    refine k_iald (pc := 62) (u := u) (f := (u.2.1 2)) cx hw (lx_X8_this_2 d h) 0 rfl rfl hwp.1 dX8_told_62 ?_
    replace hwp := hwp.2
    exact k_iretT (pc := 63) (wf := (wSp d h)) (u := u) cx hw hwp (by decide) (by decide) dX8_told_63
  replace hwp := hwp.2 c1
  have kc1_3 := c1
  clear c1
  by_cases c1 : x2 = (4 : Int32)
  · replace hwp := hwp.1 c1
    refine lv_tableIn (pc := 1) (off := 63) (tgt := 64) cx.1 cx.2.1 dX8_told_1 (by rw [c1]; decide) (by rw [c1]; decide) (by rw [c1]; decide) (by decide) ?_
    refine lv_aload_n (pc := 64) cx.1 cx.2.1 dX8_told_64 rfl (lv_at hl 0 rfl) ?_
    refine k_getR (pc := 65) (u := u) (v := .ref (h 4)) cx hw (lr_X8_this_3 d h) (C := RX8) (T := TX8) (N := 6) rfl in_X8 (by decide) q302 (fun _ h9 => h9) rfl dX8_told_65 ?_
    refine lv_iload_n (pc := 68) cx.1 cx.2.1 dX8_told_68 rfl (lv_at hl 1 rfl) ?_
    refine k_iald (pc := 69) (u := u) (f := (u.2.1 3)) cx hw (lx_X8_this_3 d h) 0 rfl rfl hwp.1 dX8_told_69 ?_
    replace hwp := hwp.2
    exact k_iretT (pc := 70) (wf := (wSp d h)) (u := u) cx hw hwp (by decide) (by decide) dX8_told_70
  replace hwp := hwp.2 c1
  have kc1_4 := c1
  clear c1
  refine lv_tableOut (pc := 1) (tgt := 71) cx.1 cx.2.1 dX8_told_1 (tb_out5 kc1_0 kc1_1 kc1_2 kc1_3 kc1_4) (by decide) ?_
  refine k_throwNew (pc := 71) (k := 15) (q := (RJ9, TJ9, 6)) (names := ["java/lang/RuntimeException", "java/lang/Exception"]) (rest := []) hlt cx hw hl.1 rfl (by decide +kernel) (by decide +kernel) (xw_J9 cx.2.2.2.2.1 cx.2.2.2.2.2.1 cx.2.2.2.2.2.2.2.2.2.1) (xc_J9 cx.2.2.2.2.1 cx.2.2.2.2.2.1 cx.2.2.2.2.2.2.2.2.2.1) q960 q159 q959 q934 q96 ⟨Nat.le_of_ble_eq_true rfl, Nat.le_of_ble_eq_true rfl, Nat.le_of_ble_eq_true rfl, Nat.le_of_ble_eq_true rfl⟩ dX8_told_71 dX8_told_74 dX8_told_75 dX8_told_78 (fun a2 H locs hw hx => ?_)
  exact k_leave (pc := 78) (wf := (wSp d h)) (u := u) (k := 15) cx xt (by decide) hw hwp hx (by decide) (by decide)
set_option maxHeartbeats 4000000 in
theorem wk_X1_chunk_18 {p : Program} {l : Launch} {e : Env} {s : State} {m : MethodId} {args : Array Value} {below : List Frame} {meth : Method} {c : Code} {A : Nat → Prop} {dC : Nat → ClassId} {dI : Nat → Nat → Nat} {d : Nat → ClassId} {z : Nat → Nat → Nat} {hh : Nat → Nat → Nat} {cf : List Value}{nh : Nat} {K : Int32 → PS → Prop} {E : Nat → PS → Prop} (cx : Cx p s m args meth c cX1_chunk RX1 5 (some .int) A dC dI d) (xt : c.exceptionTable.toList = tableOf []) (hlt : l.stackTraces = false) : ∀  (u : PS) (H : Heap) (locs : List Loc) (ls : Array Slot), wp_X1_chunk_18 nh K E  u → Wd dC dI A ((wP d nh hh cf z) u) s H locs → lv_has ls 5 [] → W p l e ({ frames := 13, cells := 7, slots := 340, locals := 10464 } : Room) s m args below meth c H locs 5 320 (MQT below (kXi dC dI (wP d nh hh cf z) K E A) args s 7 340 A) (F0 m 18 ls []) := by
  intro  u H locs ls hwp hw hl
  unfold wp_X1_chunk_18 at hwp
  refine k_throwNew (pc := 18) (k := 15) (q := (RJ9, TJ9, 6)) (names := ["java/lang/RuntimeException", "java/lang/Exception"]) (rest := []) hlt cx hw hl.1 rfl (by decide +kernel) (by decide +kernel) (xw_J9 cx.2.2.2.2.1 cx.2.2.2.2.2.1 cx.2.2.2.2.2.2.2.2.2.1) (xc_J9 cx.2.2.2.2.1 cx.2.2.2.2.2.1 cx.2.2.2.2.2.2.2.2.2.1) q942 q159 q933 q934 q96 ⟨Nat.le_of_ble_eq_true rfl, Nat.le_of_ble_eq_true rfl, Nat.le_of_ble_eq_true rfl, Nat.le_of_ble_eq_true rfl⟩ dX1_chunk_18 dX1_chunk_21 dX1_chunk_22 dX1_chunk_25 (fun a1 H locs hw hx => ?_)
  exact k_leave (pc := 25) (wf := (wP d nh hh cf z)) (u := u) (k := 15) cx xt (by decide) hw hwp hx (by decide) (by decide)
set_option maxHeartbeats 4000000 in
theorem m_X1_chunk (l : Launch) (hlt : l.stackTraces = false) (dC : Nat → ClassId) (dI : Nat → Nat → Nat) (d : Nat → ClassId) (z : Nat → Nat → Nat) (hh : Nat → Nat → Nat) (cf : List Value) (nh : Nat) (u : PS) (x1 : Int32) (x2 : Int32) (x3 : Int32) {K : Int32 → PS → Prop} {E : Nat → PS → Prop} (hwp : wp_X1_chunk nh u x1 x2 x3 K E) : kMT l yX1_chunk cX1_chunk 5 (some .int) ({ frames := 13, cells := 7, slots := 340, locals := 10464 } : Room) dC dI d [.ref (z 0 0), .int x1, .int x2, .int x3] (wP d nh hh cf z) u (kXi dC dI (wP d nh hh cf z) K E) 7 340 := by
  refine kMT_start rfl (Nat.le_of_ble_eq_true rfl) ?_
  intro p e s m below meth c A ls cx hnm xt hw hl
  generalize hargs : ([.ref (z 0 0), .int x1, .int x2, .int x3] : List Value).toArray = args at cx ⊢
  unfold wp_X1_chunk at hwp
  replace hl : lv_has ls 5 [(0, .ref (z 0 0)), (1, .int x1), (2, .int x2), (3, .int x3)] := hl
  generalize hH : s.heap = H at hw ⊢
  generalize hlo : ([] : List Loc) = locs at hw ⊢
  refine lv_aload_n (pc := 0) cx.1 cx.2.1 dX1_chunk_0 rfl (lv_at hl 0 rfl) ?_
  refine lv_iload_n (pc := 1) cx.1 cx.2.1 dX1_chunk_1 rfl (lv_at hl 1 rfl) ?_
  refine k_whole_Tv (pc := 2) (wf := (wP d nh hh cf z)) (u := u) cx hw (k_runVT (pc := 2) (rest := []) (As := [.int x1]) cx hw.1 (hw.2.1.weaken (fun _ _ _ _ => trivial)) hw.2.2 (k_recv cx hw 0 (ci := 0) (q := (RX1, TX1, 21)) rfl rfl) (m_X1_need l hlt dC dI d z hh cf nh u x1 hwp H.size) (cwV 1 cx.2.2.2.2.1 (lw_V q873 q875 qs30 q75 q876) rfl rfl rfl hdV_X1_need ⟨Nat.le_of_ble_eq_true rfl, Nat.le_of_ble_eq_true rfl⟩) rfl hl.1 rfl (Nat.le_of_ble_eq_true rfl) dX1_chunk_2 ⟨Nat.le_of_ble_eq_true rfl, Nat.le_of_ble_eq_true rfl⟩) (fun u1 H locs hwp hw => ?_) (fun k3 v4 a5 H locs hwp hw hx => ?_)
  · skip
    refine lv_iload_n (pc := 5) cx.1 cx.2.1 dX1_chunk_5 rfl (lv_at hl 2 rfl) ?_
    refine lv_if_lt (pc := 6) (tgt := 18) cx.1 cx.2.1 dX1_chunk_6 (by decide) (fun c6 => ?_) (fun c6 => ?_)
    · replace hwp := hwp.1 c6
      exact wk_X1_chunk_18 cx xt hlt  _ _ _ _ hwp hw (lv_sub hl [] rfl)
    · replace hwp := hwp.2 c6
      refine lv_iload_n (pc := 9) cx.1 cx.2.1 dX1_chunk_9 rfl (lv_at hl 2 rfl) ?_
      refine lv_aload_n (pc := 10) cx.1 cx.2.1 dX1_chunk_10 rfl (lv_at hl 0 rfl) ?_
      refine lv_iload_n (pc := 11) cx.1 cx.2.1 dX1_chunk_11 rfl (lv_at hl 1 rfl) ?_
      refine k_whole_i (pc := 12) (wf := (wP d nh hh cf z)) (u := u1) cx hw (k_runV (pc := 12) (rest := [.int x2]) (As := [.int x1]) cx hw.1 (hw.2.1.weaken (fun _ _ _ _ => trivial)) hw.2.2 (k_recv cx hw 0 (ci := 0) (q := (RX1, TX1, 21)) rfl rfl) (m_X1_chunks l dC dI d z hh cf nh u1 x1 hwp H.size) (cwV 1 cx.2.2.2.2.1 (lw_V q929 q931 qs31 q75 q932) rfl rfl rfl hdV_X1_chunks ⟨Nat.le_of_ble_eq_true rfl, Nat.le_of_ble_eq_true rfl⟩) rfl hl.1 rfl (Nat.le_of_ble_eq_true rfl) dX1_chunk_12 ⟨Nat.le_of_ble_eq_true rfl, Nat.le_of_ble_eq_true rfl⟩) (fun r8 u7 H locs hwp hw => ?_)
      refine lv_icmp_lt (pc := 15) (tgt := 26) cx.1 cx.2.1 dX1_chunk_15 (by decide) (fun c9 => ?_) (fun c9 => ?_)
      · replace hwp := hwp.1 c9
        refine lv_aload_n (pc := 26) cx.1 cx.2.1 dX1_chunk_26 rfl (lv_at hl 0 rfl) ?_
        refine k_getR (pc := 27) (u := u7) (v := .ref (z 4 0)) cx hw (lr_PL_pl_7 d z hh cf nh) (C := RX1) (T := TX1) (N := 21) rfl in_X1 (by decide) q485 (fun _ h9 => h9) rfl dX1_chunk_27 ?_
        refine k_getRN (pc := 30) (u := u7) (v := .ref (z 4 5)) cx hw (lr_PL_now_6 d z hh cf nh) (C := RX7) (T := TX7) (N := 7) rfl in_X7 (by decide) (nq343 cx.2.2.2.2.2.1) (fun _ h9 => h9) rfl dX1_chunk_30 ?_
        refine lv_iload_n (pc := 33) cx.1 cx.2.1 dX1_chunk_33 rfl (lv_at hl 1 rfl) ?_
        refine k_iald (pc := 34) (u := u7) (f := ((u7.1 4).2.1 6)) cx hw (lx_PL_now_6 d z hh cf nh) 0 rfl rfl hwp.1 dX1_chunk_34 ?_
        replace hwp := hwp.2
        refine lv_iload_n (pc := 35) cx.1 cx.2.1 dX1_chunk_35 rfl (lv_at hl 2 rfl) ?_
        refine lv_iadd (pc := 36) cx.1 cx.2.1 dX1_chunk_36 ?_
        refine lv_istore (pc := 37) (lv' := [(4, .int ((((u7.1 4).2.1 6) x1.toNatClampNeg) + x2)), (0, .ref (z 0 0)), (1, .int x1), (2, .int x2), (3, .int x3)]) cx.1 cx.2.1 dX1_chunk_37 hl (by decide) rfl (fun ls hl => ?_)
        refine lv_iload_n (pc := 39) cx.1 cx.2.1 dX1_chunk_39 rfl (lv_at hl 4 rfl) ?_
        refine lv_iconst (pc := 40) (v := 5) cx.1 cx.2.1 dX1_chunk_40 (by decide) ?_
        refine lv_icmp_ne (pc := 41) (tgt := 57) cx.1 cx.2.1 dX1_chunk_41 (by decide) (fun c10 => ?_) (fun c10 => ?_)
        · replace hwp := hwp.1 c10
          refine lv_iload_n (pc := 57) cx.1 cx.2.1 dX1_chunk_57 rfl (lv_at hl 4 rfl) ?_
          refine lv_bipush (pc := 58) (v := 6) cx.1 cx.2.1 dX1_chunk_58 (by decide) ?_
          refine lv_icmp_ne (pc := 60) (tgt := 76) cx.1 cx.2.1 dX1_chunk_60 (by decide) (fun c11 => ?_) (fun c11 => ?_)
          · replace hwp := hwp.1 c11
            refine lv_aload_n (pc := 76) cx.1 cx.2.1 dX1_chunk_76 rfl (lv_at hl 1 rfl) ?_
            refine k_getR (pc := 77) (u := u7) (v := .ref (z 4 0)) cx hw (lr_PL_pl_7 d z hh cf nh) (C := RX1) (T := TX1) (N := 21) rfl in_X1 (by decide) q485 (fun _ h9 => h9) rfl dX1_chunk_77 ?_
            refine k_getRN (pc := 80) (u := u7) (v := .ref (z 5 0)) cx hw (lr_PL_now_0 d z hh cf nh) (C := RX7) (T := TX7) (N := 7) rfl in_X7 (by decide) (nq329 cx.2.2.2.2.2.1) (fun _ h9 => h9) rfl dX1_chunk_80 ?_
            refine lv_iload (pc := 83) cx.1 cx.2.1 dX1_chunk_83 (lv_at hl 0 rfl) ?_
            refine lv_iload_n (pc := 85) cx.1 cx.2.1 dX1_chunk_85 rfl (lv_at hl 4 rfl) ?_
            have hpt := k_part (w := (wSp d (z 5)) (u7.1 5)) (is := [16, 17, 18, 19, 20, 21, 22]) hw (pc_PL_X8_nowsp d z hh cf nh u7) (by decide)
            refine k_part_Ti (pc := 86) (wf := (wSp d (z 5))) (u := (u7.1 5)) cx hw [16, 17, 18, 19, 20, 21, 22] (pc_PL_X8_nowsp d z hh cf nh u7) (by decide) (fun _ => rfl) (pw_PL_X8_nowsp d z hh cf nh u7) (k_runVT (pc := 86) (rest := []) (As := [.int ((((u7.1 4).2.1 6) x1.toNatClampNeg) + x2), .int x3]) cx hpt.1 hpt.2 hw.2.2 (k_recv cx hw 16 (ci := 6) (q := (RX8, TX8, 6)) rfl rfl) (m_X8_told l hlt dC dI d (z 5)  (u7.1 5) ((((u7.1 4).2.1 6) x1.toNatClampNeg) + x2) x3 hwp H.size) (cwV 2 cx.2.2.2.2.1 (lw_V q955 q956 q957 q84 q958) rfl rfl rfl hdV_X8_told ⟨Nat.le_of_ble_eq_true rfl, Nat.le_of_ble_eq_true rfl⟩) rfl hl.1 rfl (Nat.le_of_ble_eq_true rfl) dX1_chunk_86 ⟨Nat.le_of_ble_eq_true rfl, Nat.le_of_ble_eq_true rfl⟩) (fun r13 v12 H locs hwp hw => ?_) (fun k14 v15 a16 H locs hwp hw hx => ?_)
            · skip
              exact k_iretT (pc := 89) (wf := (wP d nh hh cf z)) (u := (ps_O u7 5 v12)) cx hw hwp (by decide) (by decide) dX1_chunk_89
            · skip
              exact k_leave (pc := 86) (wf := (wP d nh hh cf z)) (u := (ps_O u7 5 v15)) (k := k14) cx xt (by decide) hw hwp hx (by decide) (by decide)
          · replace hwp := hwp.2 c11
            refine lv_aload_n (pc := 63) cx.1 cx.2.1 dX1_chunk_63 rfl (lv_at hl 1 rfl) ?_
            refine k_getR (pc := 64) (u := u7) (v := .ref (z 4 0)) cx hw (lr_PL_pl_7 d z hh cf nh) (C := RX1) (T := TX1) (N := 21) rfl in_X1 (by decide) q485 (fun _ h9 => h9) rfl dX1_chunk_64 ?_
            refine k_getRN (pc := 67) (u := u7) (v := .ref (z 4 3)) cx hw (lr_PL_now_3 d z hh cf nh) (C := RX7) (T := TX7) (N := 7) rfl in_X7 (by decide) (nq336 cx.2.2.2.2.2.1) (fun _ h9 => h9) rfl dX1_chunk_67 ?_
            refine lv_iload (pc := 70) cx.1 cx.2.1 dX1_chunk_70 (lv_at hl 0 rfl) ?_
            refine k_sald (pc := 72) (u := u7) (f := ((u7.1 4).2.1 3)) cx hw (lx_PL_now_3 d z hh cf nh) 1 rfl rfl hwp.1 dX1_chunk_72 ?_
            replace hwp := hwp.2
            refine lv_goto (pc := 73) (tgt := 89) cx.1 cx.2.1 dX1_chunk_73 (by decide) ?_
            exact k_iretT (pc := 89) (wf := (wP d nh hh cf z)) (u := u7) cx hw hwp (by decide) (by decide) dX1_chunk_89
        · replace hwp := hwp.2 c10
          refine lv_aload_n (pc := 44) cx.1 cx.2.1 dX1_chunk_44 rfl (lv_at hl 1 rfl) ?_
          refine k_getR (pc := 45) (u := u7) (v := .ref (z 4 0)) cx hw (lr_PL_pl_7 d z hh cf nh) (C := RX1) (T := TX1) (N := 21) rfl in_X1 (by decide) q485 (fun _ h9 => h9) rfl dX1_chunk_45 ?_
          refine k_getRN (pc := 48) (u := u7) (v := .ref (z 4 2)) cx hw (lr_PL_now_2 d z hh cf nh) (C := RX7) (T := TX7) (N := 7) rfl in_X7 (by decide) (nq334 cx.2.2.2.2.2.1) (fun _ h9 => h9) rfl dX1_chunk_48 ?_
          refine lv_iload (pc := 51) cx.1 cx.2.1 dX1_chunk_51 (lv_at hl 0 rfl) ?_
          refine k_cald (pc := 53) (u := u7) (f := ((u7.1 4).2.1 2)) cx hw (lx_PL_now_2 d z hh cf nh) 4 rfl rfl hwp.1 dX1_chunk_53 ?_
          replace hwp := hwp.2
          refine lv_goto (pc := 54) (tgt := 89) cx.1 cx.2.1 dX1_chunk_54 (by decide) ?_
          exact k_iretT (pc := 89) (wf := (wP d nh hh cf z)) (u := u7) cx hw hwp (by decide) (by decide) dX1_chunk_89
      · replace hwp := hwp.2 c9
        exact wk_X1_chunk_18 cx xt hlt  _ _ _ _ hwp hw (lv_sub hl [] rfl)
  · skip
    exact k_leave (pc := 2) (wf := (wP d nh hh cf z)) (u := v4) (k := k3) cx xt (by decide) hw hwp hx (by decide) (by decide)
set_option maxHeartbeats 4000000 in
theorem wk_X1_group_32 {p : Program} {l : Launch} {e : Env} {s : State} {m : MethodId} {args : Array Value} {below : List Frame} {meth : Method} {c : Code} {A : Nat → Prop} {dC : Nat → ClassId} {dI : Nat → Nat → Nat} {d : Nat → ClassId} {z : Nat → Nat → Nat} {hh : Nat → Nat → Nat} {cf : List Value}{nh : Nat} {K : Int32 → PS → Prop} {E : Nat → PS → Prop} (cx : Cx p s m args meth c cX1_group RX1 5 (some .int) A dC dI d) (xt : c.exceptionTable.toList = tableOf []) (hlt : l.stackTraces = false) : ∀  (u : PS) (H : Heap) (locs : List Loc) (ls : Array Slot), wp_X1_group_32 nh K E  u → Wd dC dI A ((wP d nh hh cf z) u) s H locs → lv_has ls 5 [] → W p l e ({ frames := 13, cells := 7, slots := 340, locals := 10464 } : Room) s m args below meth c H locs 5 320 (MQT below (kXi dC dI (wP d nh hh cf z) K E A) args s 7 340 A) (F0 m 32 ls []) := by
  intro  u H locs ls hwp hw hl
  unfold wp_X1_group_32 at hwp
  refine k_throwNew (pc := 32) (k := 15) (q := (RJ9, TJ9, 6)) (names := ["java/lang/RuntimeException", "java/lang/Exception"]) (rest := []) hlt cx hw hl.1 rfl (by decide +kernel) (by decide +kernel) (xw_J9 cx.2.2.2.2.1 cx.2.2.2.2.2.1 cx.2.2.2.2.2.2.2.2.2.1) (xc_J9 cx.2.2.2.2.1 cx.2.2.2.2.2.1 cx.2.2.2.2.2.2.2.2.2.1) q942 q159 q933 q934 q96 ⟨Nat.le_of_ble_eq_true rfl, Nat.le_of_ble_eq_true rfl, Nat.le_of_ble_eq_true rfl, Nat.le_of_ble_eq_true rfl⟩ dX1_group_32 dX1_group_35 dX1_group_36 dX1_group_39 (fun a1 H locs hw hx => ?_)
  exact k_leave (pc := 39) (wf := (wP d nh hh cf z)) (u := u) (k := 15) cx xt (by decide) hw hwp hx (by decide) (by decide)
set_option maxHeartbeats 4000000 in
theorem m_X1_group (l : Launch) (hlt : l.stackTraces = false) (dC : Nat → ClassId) (dI : Nat → Nat → Nat) (d : Nat → ClassId) (z : Nat → Nat → Nat) (hh : Nat → Nat → Nat) (cf : List Value) (nh : Nat) (u : PS) (x1 : Int32) (x2 : Int32) (x3 : Int32) {K : Int32 → PS → Prop} {E : Nat → PS → Prop} (hwp : wp_X1_group nh u x1 x2 x3 K E) : kMT l yX1_group cX1_group 5 (some .int) ({ frames := 13, cells := 7, slots := 340, locals := 10464 } : Room) dC dI d [.ref (z 0 0), .int x1, .int x2, .int x3] (wP d nh hh cf z) u (kXi dC dI (wP d nh hh cf z) K E) 7 340 := by
  refine kMT_start rfl (Nat.le_of_ble_eq_true rfl) ?_
  intro p e s m below meth c A ls cx hnm xt hw hl
  generalize hargs : ([.ref (z 0 0), .int x1, .int x2, .int x3] : List Value).toArray = args at cx ⊢
  unfold wp_X1_group at hwp
  replace hl : lv_has ls 5 [(0, .ref (z 0 0)), (1, .int x1), (2, .int x2), (3, .int x3)] := hl
  generalize hH : s.heap = H at hw ⊢
  generalize hlo : ([] : List Loc) = locs at hw ⊢
  refine lv_aload_n (pc := 0) cx.1 cx.2.1 dX1_group_0 rfl (lv_at hl 0 rfl) ?_
  refine lv_iload_n (pc := 1) cx.1 cx.2.1 dX1_group_1 rfl (lv_at hl 1 rfl) ?_
  refine k_whole_Tv (pc := 2) (wf := (wP d nh hh cf z)) (u := u) cx hw (k_runVT (pc := 2) (rest := []) (As := [.int x1]) cx hw.1 (hw.2.1.weaken (fun _ _ _ _ => trivial)) hw.2.2 (k_recv cx hw 0 (ci := 0) (q := (RX1, TX1, 21)) rfl rfl) (m_X1_need l hlt dC dI d z hh cf nh u x1 hwp H.size) (cwV 1 cx.2.2.2.2.1 (lw_V q873 q875 qs30 q75 q876) rfl rfl rfl hdV_X1_need ⟨Nat.le_of_ble_eq_true rfl, Nat.le_of_ble_eq_true rfl⟩) rfl hl.1 rfl (Nat.le_of_ble_eq_true rfl) dX1_group_2 ⟨Nat.le_of_ble_eq_true rfl, Nat.le_of_ble_eq_true rfl⟩) (fun u1 H locs hwp hw => ?_) (fun k3 v4 a5 H locs hwp hw hx => ?_)
  · skip
    refine lv_aload_n (pc := 5) cx.1 cx.2.1 dX1_group_5 rfl (lv_at hl 0 rfl) ?_
    refine k_getR (pc := 6) (u := u1) (v := .ref (z 0 1)) cx hw (lr_PL_pl_10 d z hh cf nh) (C := RX1) (T := TX1) (N := 21) rfl in_X1 (by decide) q489 (fun _ h9 => h9) rfl dX1_group_6 ?_
    refine lv_iload_n (pc := 9) cx.1 cx.2.1 dX1_group_9 rfl (lv_at hl 1 rfl) ?_
    refine lv_iconst (pc := 10) (v := 1) cx.1 cx.2.1 dX1_group_10 (by decide) ?_
    refine lv_iadd (pc := 11) cx.1 cx.2.1 dX1_group_11 ?_
    refine k_iald (pc := 12) (u := u1) (f := ((u1.1 0).2.1 10)) cx hw (lx_PL_pl_10 d z hh cf nh) 0 rfl rfl hwp.1 dX1_group_12 ?_
    replace hwp := hwp.2
    refine lv_aload_n (pc := 13) cx.1 cx.2.1 dX1_group_13 rfl (lv_at hl 0 rfl) ?_
    refine k_getR (pc := 14) (u := u1) (v := .ref (z 0 1)) cx hw (lr_PL_pl_10 d z hh cf nh) (C := RX1) (T := TX1) (N := 21) rfl in_X1 (by decide) q489 (fun _ h9 => h9) rfl dX1_group_14 ?_
    refine lv_iload_n (pc := 17) cx.1 cx.2.1 dX1_group_17 rfl (lv_at hl 1 rfl) ?_
    refine k_iald (pc := 18) (u := u1) (f := ((u1.1 0).2.1 10)) cx hw (lx_PL_pl_10 d z hh cf nh) 0 rfl rfl hwp.1 dX1_group_18 ?_
    replace hwp := hwp.2
    refine lv_isub (pc := 19) cx.1 cx.2.1 dX1_group_19 ?_
    refine lv_istore (pc := 20) (lv' := [(4, .int ((((u1.1 0).2.1 10) (x1 + (1 : Int32)).toNatClampNeg) - (((u1.1 0).2.1 10) x1.toNatClampNeg))), (0, .ref (z 0 0)), (1, .int x1), (2, .int x2), (3, .int x3)]) cx.1 cx.2.1 dX1_group_20 hl (by decide) rfl (fun ls hl => ?_)
    refine lv_iload_n (pc := 22) cx.1 cx.2.1 dX1_group_22 rfl (lv_at hl 3 rfl) ?_
    refine lv_if_lt (pc := 23) (tgt := 32) cx.1 cx.2.1 dX1_group_23 (by decide) (fun c6 => ?_) (fun c6 => ?_)
    · replace hwp := hwp.1 c6
      exact wk_X1_group_32 cx xt hlt  _ _ _ _ hwp hw (lv_sub hl [] rfl)
    · replace hwp := hwp.2 c6
      refine lv_iload_n (pc := 26) cx.1 cx.2.1 dX1_group_26 rfl (lv_at hl 3 rfl) ?_
      refine lv_iload (pc := 27) cx.1 cx.2.1 dX1_group_27 (lv_at hl 0 rfl) ?_
      refine lv_icmp_lt (pc := 29) (tgt := 40) cx.1 cx.2.1 dX1_group_29 (by decide) (fun c7 => ?_) (fun c7 => ?_)
      · replace hwp := hwp.1 c7
        refine lv_iload_n (pc := 40) cx.1 cx.2.1 dX1_group_40 rfl (lv_at hl 4 rfl) ?_
        refine lv_iconst (pc := 41) (v := 5) cx.1 cx.2.1 dX1_group_41 (by decide) ?_
        refine lv_icmp_ne (pc := 42) (tgt := 65) cx.1 cx.2.1 dX1_group_42 (by decide) (fun c8 => ?_) (fun c8 => ?_)
        · replace hwp := hwp.1 c8
          refine lv_aload_n (pc := 65) cx.1 cx.2.1 dX1_group_65 rfl (lv_at hl 1 rfl) ?_
          refine k_getR (pc := 66) (u := u1) (v := .ref (z 8 0)) cx hw (lr_PL_pl_9 d z hh cf nh) (C := RX1) (T := TX1) (N := 21) rfl in_X1 (by decide) q488 (fun _ h9 => h9) rfl dX1_group_66 ?_
          refine lv_aload_n (pc := 69) cx.1 cx.2.1 dX1_group_69 rfl (lv_at hl 1 rfl) ?_
          refine k_getR (pc := 70) (u := u1) (v := .ref (z 0 1)) cx hw (lr_PL_pl_10 d z hh cf nh) (C := RX1) (T := TX1) (N := 21) rfl in_X1 (by decide) q489 (fun _ h9 => h9) rfl dX1_group_70 ?_
          refine lv_iload_n (pc := 73) cx.1 cx.2.1 dX1_group_73 rfl (lv_at hl 2 rfl) ?_
          refine k_iald (pc := 74) (u := u1) (f := ((u1.1 0).2.1 10)) cx hw (lx_PL_pl_10 d z hh cf nh) 0 rfl rfl hwp.1 dX1_group_74 ?_
          replace hwp := hwp.2
          refine lv_iload_n (pc := 75) cx.1 cx.2.1 dX1_group_75 rfl (lv_at hl 3 rfl) ?_
          refine lv_iadd (pc := 76) cx.1 cx.2.1 dX1_group_76 ?_
          refine lv_iload_n (pc := 77) cx.1 cx.2.1 dX1_group_77 rfl (lv_at hl 4 rfl) ?_
          have hpt := k_part (w := (wSp d (z 8)) (u1.1 8)) (is := [36, 37, 38, 39, 40, 41, 42]) hw (pc_PL_X8_groups d z hh cf nh u1) (by decide)
          refine k_part_Ti (pc := 78) (wf := (wSp d (z 8))) (u := (u1.1 8)) cx hw [36, 37, 38, 39, 40, 41, 42] (pc_PL_X8_groups d z hh cf nh u1) (by decide) (fun _ => rfl) (pw_PL_X8_groups d z hh cf nh u1) (k_runVT (pc := 78) (rest := []) (As := [.int ((((u1.1 0).2.1 10) x1.toNatClampNeg) + x2), .int x3]) cx hpt.1 hpt.2 hw.2.2 (k_recv cx hw 36 (ci := 6) (q := (RX8, TX8, 6)) rfl rfl) (m_X8_told l hlt dC dI d (z 8)  (u1.1 8) ((((u1.1 0).2.1 10) x1.toNatClampNeg) + x2) x3 hwp H.size) (cwV 2 cx.2.2.2.2.1 (lw_V q955 q956 q957 q84 q958) rfl rfl rfl hdV_X8_told ⟨Nat.le_of_ble_eq_true rfl, Nat.le_of_ble_eq_true rfl⟩) rfl hl.1 rfl (Nat.le_of_ble_eq_true rfl) dX1_group_78 ⟨Nat.le_of_ble_eq_true rfl, Nat.le_of_ble_eq_true rfl⟩) (fun r10 v9 H locs hwp hw => ?_) (fun k11 v12 a13 H locs hwp hw hx => ?_)
          · skip
            exact k_iretT (pc := 81) (wf := (wP d nh hh cf z)) (u := (ps_O u1 8 v9)) cx hw hwp (by decide) (by decide) dX1_group_81
          · skip
            exact k_leave (pc := 78) (wf := (wP d nh hh cf z)) (u := (ps_O u1 8 v12)) (k := k11) cx xt (by decide) hw hwp hx (by decide) (by decide)
        · replace hwp := hwp.2 c8
          refine lv_aload_n (pc := 45) cx.1 cx.2.1 dX1_group_45 rfl (lv_at hl 1 rfl) ?_
          refine k_getI (pc := 46) (u := u1) (v := ((u1.1 0).1 2)) cx hw (ln_PL_pl_2 d z hh cf nh) (C := RX1) (T := TX1) (N := 21) rfl in_X1 (by decide) q478 (fun _ h9 => h9) rfl dX1_group_46 ?_
          refine lv_aload_n (pc := 49) cx.1 cx.2.1 dX1_group_49 rfl (lv_at hl 1 rfl) ?_
          refine lv_iload_n (pc := 50) cx.1 cx.2.1 dX1_group_50 rfl (lv_at hl 2 rfl) ?_
          refine k_whole_i (pc := 51) (wf := (wP d nh hh cf z)) (u := u1) cx hw (k_runV (pc := 51) (rest := [.int ((u1.1 0).1 2)]) (As := [.int x1]) cx hw.1 (hw.2.1.weaken (fun _ _ _ _ => trivial)) hw.2.2 (k_recv cx hw 0 (ci := 0) (q := (RX1, TX1, 21)) rfl rfl) (m_X1_chunks l dC dI d z hh cf nh u1 x1 hwp H.size) (cwV 1 cx.2.2.2.2.1 (lw_V q929 q931 qs31 q75 q932) rfl rfl rfl hdV_X1_chunks ⟨Nat.le_of_ble_eq_true rfl, Nat.le_of_ble_eq_true rfl⟩) rfl hl.1 rfl (Nat.le_of_ble_eq_true rfl) dX1_group_51 ⟨Nat.le_of_ble_eq_true rfl, Nat.le_of_ble_eq_true rfl⟩) (fun r15 u14 H locs hwp hw => ?_)
          refine lv_iload_n (pc := 54) cx.1 cx.2.1 dX1_group_54 rfl (lv_at hl 3 rfl) ?_
          refine lv_aload_n (pc := 55) cx.1 cx.2.1 dX1_group_55 rfl (lv_at hl 1 rfl) ?_
          refine k_getI (pc := 56) (u := u14) (v := ((u14.1 0).1 2)) cx hw (ln_PL_pl_2 d z hh cf nh) (C := RX1) (T := TX1) (N := 21) rfl in_X1 (by decide) q478 (fun _ h9 => h9) rfl dX1_group_56 ?_
          refine lv_imul (pc := 59) cx.1 cx.2.1 dX1_group_59 ?_
          refine lv_isub (pc := 60) cx.1 cx.2.1 dX1_group_60 ?_
          refine k_min (pc := 61) cx hl.1 q432 q433 q87 q434 ⟨Nat.le_of_ble_eq_true rfl, Nat.le_of_ble_eq_true rfl, Nat.le_of_ble_eq_true rfl, Nat.le_of_ble_eq_true rfl⟩ dX1_group_61 ?_
          exact k_iretT (pc := 64) (wf := (wP d nh hh cf z)) (u := u14) cx hw hwp (by decide) (by decide) dX1_group_64
      · replace hwp := hwp.2 c7
        exact wk_X1_group_32 cx xt hlt  _ _ _ _ hwp hw (lv_sub hl [] rfl)
  · skip
    exact k_leave (pc := 2) (wf := (wP d nh hh cf z)) (u := v4) (k := k3) cx xt (by decide) hw hwp hx (by decide) (by decide)
set_option maxHeartbeats 4000000 in
theorem wk_X1_areaTaken_4 {p : Program} {l : Launch} {e : Env} {s : State} {m : MethodId} {args : Array Value} {below : List Frame} {meth : Method} {c : Code} {A : Nat → Prop} {dC : Nat → ClassId} {dI : Nat → Nat → Nat} {d : Nat → ClassId} {z : Nat → Nat → Nat} {hh : Nat → Nat → Nat} {cf : List Value}{nh : Nat} {K : Int32 → PS → Prop} (cx : Cx p s m args meth c cX1_areaTaken RX1 3 (some .int) A dC dI d) : ∀ (n : Nat) (x1 : Int32) (x2 : Int32) (u : PS) (H : Heap) (locs : List Loc) (ls : Array Slot), wp_X1_areaTaken_4 nh K n x1 x2 u → Wd dC dI A ((wP d nh hh cf z) u) s H locs → lv_has ls 3 [(0, .ref (z 0 0)), (1, .int x1), (2, .int x2)] → W p l e ({ frames := 0, cells := 0, slots := 0, locals := 0 } : Room) s m args below meth c H locs 0 0 (MQ below (kQi dC dI (wP d nh hh cf z) K A) args s 0 0 A) (F0 m 4 ls []) := by
  intro n
  induction n with
  | zero =>
    intros; contradiction
  | succ n ih =>
    intro x1 x2 u H locs ls hwp hw hl
    unfold wp_X1_areaTaken_4 at hwp
    refine lv_iload_n (pc := 4) cx.1 cx.2.1 dX1_areaTaken_4 rfl (lv_at hl 2 rfl) ?_
    refine lv_aload_n (pc := 5) cx.1 cx.2.1 dX1_areaTaken_5 rfl (lv_at hl 0 rfl) ?_
    refine k_getR (pc := 6) (u := u) (v := .ref (z 4 0)) cx hw (lr_PL_pl_7 d z hh cf nh) (C := RX1) (T := TX1) (N := 21) rfl in_X1 (by decide) q485 (fun _ h9 => h9) rfl dX1_areaTaken_6 ?_
    refine k_getIN (pc := 9) (u := u) (v := ((u.1 4).1 5)) cx hw (ln_PL_now_5 d z hh cf nh) (C := RX7) (T := TX7) (N := 7) rfl in_X7 (by decide) (nq340 cx.2.2.2.2.2.1) (fun _ h9 => h9) rfl dX1_areaTaken_9 ?_
    refine lv_icmp_ge (pc := 12) (tgt := 33) cx.1 cx.2.1 dX1_areaTaken_12 (by decide) (fun c1 => ?_) (fun c1 => ?_)
    · replace hwp := hwp.1 c1
      refine lv_iload_n (pc := 33) cx.1 cx.2.1 dX1_areaTaken_33 rfl (lv_at hl 1 rfl) ?_
      exact k_iret (pc := 34) (wf := (wP d nh hh cf z)) (u := u) cx hw hwp (by decide) (by decide) dX1_areaTaken_34
    · replace hwp := hwp.2 c1
      refine lv_iload_n (pc := 15) cx.1 cx.2.1 dX1_areaTaken_15 rfl (lv_at hl 1 rfl) ?_
      refine lv_aload_n (pc := 16) cx.1 cx.2.1 dX1_areaTaken_16 rfl (lv_at hl 0 rfl) ?_
      refine k_getR (pc := 17) (u := u) (v := .ref (z 4 0)) cx hw (lr_PL_pl_7 d z hh cf nh) (C := RX1) (T := TX1) (N := 21) rfl in_X1 (by decide) q485 (fun _ h9 => h9) rfl dX1_areaTaken_17 ?_
      refine k_getRN (pc := 20) (u := u) (v := .ref (z 4 3)) cx hw (lr_PL_now_3 d z hh cf nh) (C := RX7) (T := TX7) (N := 7) rfl in_X7 (by decide) (nq336 cx.2.2.2.2.2.1) (fun _ h9 => h9) rfl dX1_areaTaken_20 ?_
      refine lv_iload_n (pc := 23) cx.1 cx.2.1 dX1_areaTaken_23 rfl (lv_at hl 2 rfl) ?_
      refine k_sald (pc := 24) (u := u) (f := ((u.1 4).2.1 3)) cx hw (lx_PL_now_3 d z hh cf nh) 1 rfl rfl hwp.1 dX1_areaTaken_24 ?_
      replace hwp := hwp.2
      refine lv_iadd (pc := 25) cx.1 cx.2.1 dX1_areaTaken_25 ?_
      refine lv_istore_n (pc := 26) (lv' := [(1, .int (x1 + (((u.1 4).2.1 3) x2.toNatClampNeg))), (0, .ref (z 0 0)), (2, .int x2)]) cx.1 cx.2.1 dX1_areaTaken_26 rfl hl (by decide) rfl (fun ls hl => ?_)
      refine lv_iinc (pc := 27) (v := (x2 + (1 : Int32))) (lv' := [(2, .int (x2 + (1 : Int32))), (1, .int (x1 + (((u.1 4).2.1 3) x2.toNatClampNeg))), (0, .ref (z 0 0))]) cx.1 cx.2.1 dX1_areaTaken_27 hl (k := 2) rfl rfl (by decide) rfl (fun ls hl => ?_)
      refine lv_goto (pc := 30) (tgt := 4) cx.1 cx.2.1 dX1_areaTaken_30 (by decide) ?_
      exact ih _ _ _ _ _ _ hwp hw (lv_sub hl [2, 1, 0] rfl)
set_option maxHeartbeats 4000000 in
theorem m_X1_areaTaken (l : Launch) (dC : Nat → ClassId) (dI : Nat → Nat → Nat) (d : Nat → ClassId) (z : Nat → Nat → Nat) (hh : Nat → Nat → Nat) (cf : List Value) (nh : Nat) (u : PS) {K : Int32 → PS → Prop} (hwp : wp_X1_areaTaken nh u K) : kM l yX1_areaTaken cX1_areaTaken 3 (some .int) ({ frames := 0, cells := 0, slots := 0, locals := 0 } : Room) dC dI d [.ref (z 0 0)] (wP d nh hh cf z) u (kQi dC dI (wP d nh hh cf z) K) 0 0 := by
  refine kM_start rfl (Nat.le_of_ble_eq_true rfl) ?_
  intro p e s m below meth c A ls cx hnm hw hl
  generalize hargs : ([.ref (z 0 0)] : List Value).toArray = args at cx ⊢
  unfold wp_X1_areaTaken at hwp
  replace hl : lv_has ls 3 [(0, .ref (z 0 0))] := hl
  generalize hH : s.heap = H at hw ⊢
  generalize hlo : ([] : List Loc) = locs at hw ⊢
  refine lv_iconst (pc := 0) (v := 0) cx.1 cx.2.1 dX1_areaTaken_0 (by decide) ?_
  refine lv_istore_n (pc := 1) (lv' := [(1, .int (0 : Int32)), (0, .ref (z 0 0))]) cx.1 cx.2.1 dX1_areaTaken_1 rfl hl (by decide) rfl (fun ls hl => ?_)
  refine lv_iconst (pc := 2) (v := 0) cx.1 cx.2.1 dX1_areaTaken_2 (by decide) ?_
  refine lv_istore_n (pc := 3) (lv' := [(2, .int (0 : Int32)), (1, .int (0 : Int32)), (0, .ref (z 0 0))]) cx.1 cx.2.1 dX1_areaTaken_3 rfl hl (by decide) rfl (fun ls hl => ?_)
  obtain ⟨n4, hwp⟩ := hwp
  exact wk_X1_areaTaken_4 cx n4 _ _ _ _ _ _ hwp hw (lv_sub hl [2, 1, 0] rfl)
set_option maxHeartbeats 4000000 in
theorem m_X1_look (l : Launch) (dC : Nat → ClassId) (dI : Nat → Nat → Nat) (d : Nat → ClassId) (z : Nat → Nat → Nat) (hh : Nat → Nat → Nat) (cf : List Value) (nh : Nat) (u : PS) (x1 : Int32) {K : Int32 → PS → Prop} (hwp : wp_X1_look nh u x1 K) : kM l yX1_look cX1_look 2 (some .int) ({ frames := 1, cells := 0, slots := 0, locals := 22 } : Room) dC dI d [.ref (z 0 0), .int x1] (wP d nh hh cf z) u (kQi dC dI (wP d nh hh cf z) K) 0 0 := by
  refine kM_start rfl (Nat.le_of_ble_eq_true rfl) ?_
  intro p e s m below meth c A ls cx hnm hw hl
  generalize hargs : ([.ref (z 0 0), .int x1] : List Value).toArray = args at cx ⊢
  unfold wp_X1_look at hwp
  replace hl : lv_has ls 2 [(0, .ref (z 0 0)), (1, .int x1)] := hl
  generalize hH : s.heap = H at hw ⊢
  generalize hlo : ([] : List Loc) = locs at hw ⊢
  refine lv_iload_n (pc := 0) cx.1 cx.2.1 dX1_look_0 rfl (lv_at hl 1 rfl) ?_
  by_cases c1 : x1 = (0 : Int32)
  · replace hwp := hwp.1 c1
    refine lv_tableIn (pc := 1) (off := 51) (tgt := 52) cx.1 cx.2.1 dX1_look_1 (by rw [c1]; decide) (by rw [c1]; decide) (by rw [c1]; decide) (by decide) ?_
    refine lv_aload_n (pc := 52) cx.1 cx.2.1 dX1_look_52 rfl (lv_at hl 0 rfl) ?_
    refine k_getR (pc := 53) (u := u) (v := .ref (z 1 0)) cx hw (lr_PL_pl_3 d z hh cf nh) (C := RX1) (T := TX1) (N := 21) rfl in_X1 (by decide) q479 (fun _ h9 => h9) rfl dX1_look_53 ?_
    refine k_getIN (pc := 56) (u := u) (v := ((u.1 1).1 4)) cx hw (ln_PL_disk_4 d z hh cf nh) (C := RX2) (T := TX2) (N := 5) rfl in_X2 (by decide) (nq198 cx.2.2.2.2.2.1) (fun _ h9 => h9) rfl dX1_look_56 ?_
    exact k_iret (pc := 59) (wf := (wP d nh hh cf z)) (u := u) cx hw hwp (by decide) (by decide) dX1_look_59
  replace hwp := hwp.2 c1
  have kc1_0 := c1
  clear c1
  by_cases c1 : x1 = (1 : Int32)
  · replace hwp := hwp.1 c1
    refine lv_tableIn (pc := 1) (off := 59) (tgt := 60) cx.1 cx.2.1 dX1_look_1 (by rw [c1]; decide) (by rw [c1]; decide) (by rw [c1]; decide) (by decide) ?_
    refine lv_aload_n (pc := 60) cx.1 cx.2.1 dX1_look_60 rfl (lv_at hl 0 rfl) ?_
    refine k_getI (pc := 61) (u := u) (v := ((u.1 0).1 14)) cx hw (ln_PL_pl_14 d z hh cf nh) (C := RX1) (T := TX1) (N := 21) rfl in_X1 (by decide) q493 (fun _ h9 => h9) rfl dX1_look_61 ?_
    exact k_iret (pc := 64) (wf := (wP d nh hh cf z)) (u := u) cx hw hwp (by decide) (by decide) dX1_look_64
  replace hwp := hwp.2 c1
  have kc1_1 := c1
  clear c1
  by_cases c1 : x1 = (2 : Int32)
  · replace hwp := hwp.1 c1
    refine lv_tableIn (pc := 1) (off := 64) (tgt := 65) cx.1 cx.2.1 dX1_look_1 (by rw [c1]; decide) (by rw [c1]; decide) (by rw [c1]; decide) (by decide) ?_
    refine lv_aload_n (pc := 65) cx.1 cx.2.1 dX1_look_65 rfl (lv_at hl 0 rfl) ?_
    refine k_getR (pc := 66) (u := u) (v := .ref (z 4 0)) cx hw (lr_PL_pl_7 d z hh cf nh) (C := RX1) (T := TX1) (N := 21) rfl in_X1 (by decide) q485 (fun _ h9 => h9) rfl dX1_look_66 ?_
    refine k_getIN (pc := 69) (u := u) (v := ((u.1 4).1 5)) cx hw (ln_PL_now_5 d z hh cf nh) (C := RX7) (T := TX7) (N := 7) rfl in_X7 (by decide) (nq340 cx.2.2.2.2.2.1) (fun _ h9 => h9) rfl dX1_look_69 ?_
    exact k_iret (pc := 72) (wf := (wP d nh hh cf z)) (u := u) cx hw hwp (by decide) (by decide) dX1_look_72
  replace hwp := hwp.2 c1
  have kc1_2 := c1
  clear c1
  by_cases c1 : x1 = (3 : Int32)
  · replace hwp := hwp.1 c1
    refine lv_tableIn (pc := 1) (off := 72) (tgt := 73) cx.1 cx.2.1 dX1_look_1 (by rw [c1]; decide) (by rw [c1]; decide) (by rw [c1]; decide) (by decide) ?_
    refine lv_aload_n (pc := 73) cx.1 cx.2.1 dX1_look_73 rfl (lv_at hl 0 rfl) ?_
    refine k_whole_i (pc := 74) (wf := (wP d nh hh cf z)) (u := u) cx hw (k_runV (pc := 74) (rest := []) (As := []) cx hw.1 (hw.2.1.weaken (fun _ _ _ _ => trivial)) hw.2.2 (k_recv cx hw 0 (ci := 0) (q := (RX1, TX1, 21)) rfl rfl) (m_X1_areaTaken l dC dI d z hh cf nh u  hwp H.size) (cwV 0 cx.2.2.2.2.1 (lw_V q857 q859 qs29 q75 q860) rfl rfl rfl hdV_X1_areaTaken ⟨Nat.le_of_ble_eq_true rfl, Nat.le_of_ble_eq_true rfl⟩) rfl hl.1 rfl (Nat.le_of_ble_eq_true rfl) dX1_look_74 ⟨Nat.le_of_ble_eq_true rfl, Nat.le_of_ble_eq_true rfl⟩) (fun r3 u2 H locs hwp hw => ?_)
    exact k_iret (pc := 77) (wf := (wP d nh hh cf z)) (u := u2) cx hw hwp (by decide) (by decide) dX1_look_77
  replace hwp := hwp.2 c1
  have kc1_3 := c1
  clear c1
  by_cases c1 : x1 = (4 : Int32)
  · replace hwp := hwp.1 c1
    refine lv_tableIn (pc := 1) (off := 77) (tgt := 78) cx.1 cx.2.1 dX1_look_1 (by rw [c1]; decide) (by rw [c1]; decide) (by rw [c1]; decide) (by decide) ?_
    refine lv_aload_n (pc := 78) cx.1 cx.2.1 dX1_look_78 rfl (lv_at hl 0 rfl) ?_
    refine k_getI (pc := 79) (u := u) (v := ((u.1 0).1 19)) cx hw (ln_PL_pl_19 d z hh cf nh) (C := RX1) (T := TX1) (N := 21) rfl in_X1 (by decide) q498 (fun _ h9 => h9) rfl dX1_look_79 ?_
    exact k_iret (pc := 82) (wf := (wP d nh hh cf z)) (u := u) cx hw hwp (by decide) (by decide) dX1_look_82
  replace hwp := hwp.2 c1
  have kc1_4 := c1
  clear c1
  by_cases c1 : x1 = (5 : Int32)
  · replace hwp := hwp.1 c1
    refine lv_tableIn (pc := 1) (off := 82) (tgt := 83) cx.1 cx.2.1 dX1_look_1 (by rw [c1]; decide) (by rw [c1]; decide) (by rw [c1]; decide) (by decide) ?_
    refine lv_aload_n (pc := 83) cx.1 cx.2.1 dX1_look_83 rfl (lv_at hl 0 rfl) ?_
    refine k_getI (pc := 84) (u := u) (v := ((u.1 0).1 20)) cx hw (ln_PL_pl_20 d z hh cf nh) (C := RX1) (T := TX1) (N := 21) rfl in_X1 (by decide) q499 (fun _ h9 => h9) rfl dX1_look_84 ?_
    exact k_iret (pc := 87) (wf := (wP d nh hh cf z)) (u := u) cx hw hwp (by decide) (by decide) dX1_look_87
  replace hwp := hwp.2 c1
  have kc1_5 := c1
  clear c1
  by_cases c1 : x1 = (6 : Int32)
  · replace hwp := hwp.1 c1
    refine lv_tableIn (pc := 1) (off := 87) (tgt := 88) cx.1 cx.2.1 dX1_look_1 (by rw [c1]; decide) (by rw [c1]; decide) (by rw [c1]; decide) (by decide) ?_
    refine lv_aload_n (pc := 88) cx.1 cx.2.1 dX1_look_88 rfl (lv_at hl 0 rfl) ?_
    refine k_getR (pc := 89) (u := u) (v := .ref (z 1 0)) cx hw (lr_PL_pl_3 d z hh cf nh) (C := RX1) (T := TX1) (N := 21) rfl in_X1 (by decide) q479 (fun _ h9 => h9) rfl dX1_look_89 ?_
    refine k_getIN (pc := 92) (u := u) (v := ((u.1 1).1 3)) cx hw (ln_PL_disk_3 d z hh cf nh) (C := RX2) (T := TX2) (N := 5) rfl in_X2 (by decide) (nq196 cx.2.2.2.2.2.1) (fun _ h9 => h9) rfl dX1_look_92 ?_
    have hJ5 : ∀ z4 : Int32, z4 = (if ((u.1 1).1 3) = 0 then (0 : Int32) else (1 : Int32)) → W p l e ({ frames := 1, cells := 0, slots := 0, locals := 22 } : Room) s m args below meth c H locs 0 0 (MQ below (kQi dC dI (wP d nh hh cf z) K A) args s 0 0 A) (F0 m 103 ls [.int z4]) := by
      intro z4 ez4
      replace hwp := hwp z4 ez4
      exact k_iret (pc := 103) (wf := (wP d nh hh cf z)) (u := u) cx hw hwp (by decide) (by decide) dX1_look_103
    clear hwp
    refine lv_if_eq (pc := 95) (tgt := 102) cx.1 cx.2.1 dX1_look_95 (by decide) (fun c6 => ?_) (fun c6 => ?_)
    · skip
      refine lv_iconst (pc := 102) (v := 0) cx.1 cx.2.1 dX1_look_102 (by decide) ?_
      exact hJ5 _ (if_pos c6).symm
    · skip
      refine lv_iconst (pc := 98) (v := 1) cx.1 cx.2.1 dX1_look_98 (by decide) ?_
      refine lv_goto (pc := 99) (tgt := 103) cx.1 cx.2.1 dX1_look_99 (by decide) ?_
      exact hJ5 _ (if_neg c6).symm
  replace hwp := hwp.2 c1
  have kc1_6 := c1
  clear c1
  by_cases c1 : x1 = (7 : Int32)
  · replace hwp := hwp.1 c1
    refine lv_tableIn (pc := 1) (off := 103) (tgt := 104) cx.1 cx.2.1 dX1_look_1 (by rw [c1]; decide) (by rw [c1]; decide) (by rw [c1]; decide) (by decide) ?_
    refine lv_aload_n (pc := 104) cx.1 cx.2.1 dX1_look_104 rfl (lv_at hl 0 rfl) ?_
    refine k_getR (pc := 105) (u := u) (v := .ref (z 1 0)) cx hw (lr_PL_pl_3 d z hh cf nh) (C := RX1) (T := TX1) (N := 21) rfl in_X1 (by decide) q479 (fun _ h9 => h9) rfl dX1_look_105 ?_
    refine k_getIN (pc := 108) (u := u) (v := ((u.1 1).1 2)) cx hw (ln_PL_disk_2 d z hh cf nh) (C := RX2) (T := TX2) (N := 5) rfl in_X2 (by decide) (nq194 cx.2.2.2.2.2.1) (fun _ h9 => h9) rfl dX1_look_108 ?_
    exact k_iret (pc := 111) (wf := (wP d nh hh cf z)) (u := u) cx hw hwp (by decide) (by decide) dX1_look_111
  replace hwp := hwp.2 c1
  have kc1_7 := c1
  clear c1
  by_cases c1 : x1 = (8 : Int32)
  · replace hwp := hwp.1 c1
    refine lv_tableIn (pc := 1) (off := 111) (tgt := 112) cx.1 cx.2.1 dX1_look_1 (by rw [c1]; decide) (by rw [c1]; decide) (by rw [c1]; decide) (by decide) ?_
    refine lv_aload_n (pc := 112) cx.1 cx.2.1 dX1_look_112 rfl (lv_at hl 0 rfl) ?_
    refine k_getI (pc := 113) (u := u) (v := ((u.1 0).1 15)) cx hw (ln_PL_pl_15 d z hh cf nh) (C := RX1) (T := TX1) (N := 21) rfl in_X1 (by decide) q494 (fun _ h9 => h9) rfl dX1_look_113 ?_
    exact k_iret (pc := 116) (wf := (wP d nh hh cf z)) (u := u) cx hw hwp (by decide) (by decide) dX1_look_116
  replace hwp := hwp.2 c1
  have kc1_8 := c1
  clear c1
  refine lv_tableOut (pc := 1) (tgt := 117) cx.1 cx.2.1 dX1_look_1 (tb_out9 kc1_0 kc1_1 kc1_2 kc1_3 kc1_4 kc1_5 kc1_6 kc1_7 kc1_8) (by decide) ?_
  refine lv_iconst (pc := 117) (v := -1) cx.1 cx.2.1 dX1_look_117 (by decide) ?_
  exact k_iret (pc := 118) (wf := (wP d nh hh cf z)) (u := u) cx hw hwp (by decide) (by decide) dX1_look_118
