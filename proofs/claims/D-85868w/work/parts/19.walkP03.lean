set_option maxRecDepth 100000
set_option maxHeartbeats 4000000 in
theorem m_X1_next (l : Launch) (hlt : l.stackTraces = false) (dC : Nat → ClassId) (dI : Nat → Nat → Nat) (d : Nat → ClassId) (z : Nat → Nat → Nat) (hh : Nat → Nat → Nat) (cf : List Value) (nh : Nat) (u : PS) {K : Int32 → PS → Prop} (hwp : wp_X1_next nh u K) : kMW l yX1_next cX1_next 2 (some .boolean) [(0, 7, 8, 325)] ({ frames := 10, cells := 3, slots := 300, locals := 10400 } : Room) dC dI d [.ref (z 0 0)] (wP d nh hh cf z) u (kQi dC dI (wP d nh hh cf z) K) 3 300 := by
  refine kMW_start rfl (Nat.le_of_ble_eq_true rfl) ?_
  intro p e s m below meth c A ls cx hnm xt hw hl
  generalize hargs : ([.ref (z 0 0)] : List Value).toArray = args at cx ⊢
  replace hl : lv_has ls 2 [(0, .ref (z 0 0))] := hl
  generalize hH : s.heap = H at hw ⊢
  generalize hlo : ([] : List Loc) = locs at hw ⊢
  refine lv_aload_n (pc := 0) cx.1 cx.2.1 dX1_next_0 rfl (lv_at hl 0 rfl) ?_
  by_cases c1 : (u.1 0).1 17 = 0
  · replace hwp := hwp.1 c1
    refine k_getR (pc := 1) (u := u) (v := .null) cx hw (lr_PL_pl_17 d z hh cf nh) (C := RX1) (T := TX1) (N := 21) rfl in_X1 (by decide) q496 (fun _ h9 => h9) (cu_N c1) dX1_next_1 ?_
    refine k_nullOut (pc := 4) hlt cx hw hl.1 q812 q813 q814 (by decide) (by decide +kernel) q815 ⟨Nat.le_of_ble_eq_true rfl, Nat.le_of_ble_eq_true rfl, Nat.le_of_ble_eq_true rfl, Nat.le_of_ble_eq_true rfl⟩ dX1_next_4 (fun a H locs hw hx => ?_)
    refine k_catch0 (pc := 4) (tgt := 8) (q := (RJ7, TJ7, 8)) cx xt rfl (by decide) q787 hx rfl ?_
    refine lv_astore_n (pc := 8) (lv' := [(1, .ref a), (0, .ref (z 0 0))]) cx.1 cx.2.1 dX1_next_8 rfl hl (by decide) rfl (fun ls hl => ?_)
    refine lv_iconst (pc := 9) (v := 0) cx.1 cx.2.1 dX1_next_9 (by decide) ?_
    exact k_zret (pc := 10) (wf := wP d nh hh cf z) (u := u) cx hw rfl hwp (by decide) (by decide) dX1_next_10
  · replace hwp := hwp.2 c1
    refine k_getR (pc := 1) (u := u) (v := .ref (z 9 0)) cx hw (lr_PL_pl_17 d z hh cf nh) (C := RX1) (T := TX1) (N := 21) rfl in_X1 (by decide) q496 (fun _ h9 => h9) (cu_P c1) dX1_next_1 ?_
    refine k_whole_i (pc := 4) (wf := wP d nh hh cf z) (u := u) cx hw (k_runV (pc := 4) (rest := []) (As := []) cx hw.1 (hw.2.1.weaken (fun _ _ _ _ => trivial)) hw.2.2 (k_recv cx hw 43 (ci := 7) (q := (RX9, TX9, 11)) rfl rfl) (m_X9_step l dC dI d z hh cf nh u hwp H.size) (cwV 0 cx.2.2.2.2.1 (lw_V q812 q813 q814 q85 q815) rfl rfl rfl hdV_X9_step ⟨Nat.le_of_ble_eq_true rfl, Nat.le_of_ble_eq_true rfl⟩) rfl hl.1 rfl (Nat.le_of_ble_eq_true rfl) dX1_next_4 ⟨Nat.le_of_ble_eq_true rfl, Nat.le_of_ble_eq_true rfl⟩) (fun r v H locs hwp hw => ?_)
    exact k_zret (pc := 7) (wf := wP d nh hh cf z) (u := v) cx hw (ok_Zn hwp.1) hwp.2 (by decide) (by decide) dX1_next_7
set_option maxHeartbeats 4000000 in
theorem m_X1_isAt (l : Launch) (dC : Nat → ClassId) (dI : Nat → Nat → Nat) (d : Nat → ClassId) (z : Nat → Nat → Nat) (hh : Nat → Nat → Nat) (cf : List Value) (nh : Nat) (u : PS) {K : Int32 → PS → Prop} (hwp : wp_X1_isAt nh u K) : kM l yX1_isAt cX1_isAt 1 (some .boolean) ({ frames := 0, cells := 0, slots := 0, locals := 0 } : Room) dC dI d [.ref (z 0 0)] (wP d nh hh cf z) u (kQi dC dI (wP d nh hh cf z) K) 0 0 := by
  refine kM_start rfl (Nat.le_of_ble_eq_true rfl) ?_
  intro p e s m below meth c A ls cx hnm hw hl
  generalize hargs : ([.ref (z 0 0)] : List Value).toArray = args at cx ⊢
  unfold wp_X1_isAt at hwp
  replace hl : lv_has ls 1 [(0, .ref (z 0 0))] := hl
  generalize hH : s.heap = H at hw ⊢
  generalize hlo : ([] : List Loc) = locs at hw ⊢
  refine lv_aload_n (pc := 0) cx.1 cx.2.1 dX1_isAt_0 rfl (lv_at hl 0 rfl) ?_
  by_cases c1 : ((u.1 0).1 17) = 0
  · replace hwp := hwp.1 c1
    refine k_getR (pc := 1) (u := u) (v := .null) cx hw (lr_PL_pl_17 d z hh cf nh) (C := RX1) (T := TX1) (N := 21) rfl in_X1 (by decide) q496 (fun _ h9 => h9) (cu_N c1) dX1_isAt_1 ?_
    refine lv_ifnullN (pc := 4) (tgt := 21) cx.1 cx.2.1 dX1_isAt_4 (by decide) ?_
    refine lv_iconst (pc := 21) (v := 0) cx.1 cx.2.1 dX1_isAt_21 (by decide) ?_
    exact k_zret (pc := 22) (wf := (wP d nh hh cf z)) (u := u) cx hw rfl hwp (by decide) (by decide) dX1_isAt_22
  · replace hwp := hwp.2 c1
    refine k_getR (pc := 1) (u := u) (v := .ref (z 9 0)) cx hw (lr_PL_pl_17 d z hh cf nh) (C := RX1) (T := TX1) (N := 21) rfl in_X1 (by decide) q496 (fun _ h9 => h9) (cu_P c1) dX1_isAt_1 ?_
    refine lv_ifnull (pc := 4) cx.1 cx.2.1 dX1_isAt_4 ?_
    refine lv_aload_n (pc := 7) cx.1 cx.2.1 dX1_isAt_7 rfl (lv_at hl 0 rfl) ?_
    by_cases c2 : ((u.1 0).1 17) = 0
    · replace hwp := hwp.1 c2
      refine k_getR (pc := 8) (u := u) (v := .null) cx hw (lr_PL_pl_17 d z hh cf nh) (C := RX1) (T := TX1) (N := 21) rfl in_X1 (by decide) q496 (fun _ h9 => h9) (cu_N c2) dX1_isAt_8 ?_
      exact hwp.elim
    · replace hwp := hwp.2 c2
      refine k_getR (pc := 8) (u := u) (v := .ref (z 9 0)) cx hw (lr_PL_pl_17 d z hh cf nh) (C := RX1) (T := TX1) (N := 21) rfl in_X1 (by decide) q496 (fun _ h9 => h9) (cu_P c2) dX1_isAt_8 ?_
      refine k_getIN (pc := 11) (u := u) (v := ((u.1 9).1 9)) cx hw (ln_PL_walk_9 d z hh cf nh) (C := RX9) (T := TX9) (N := 11) rfl in_X9 (by decide) (nq379 cx.2.2.2.2.2.1) (fun _ h9 => h9) rfl dX1_isAt_11 ?_
      refine lv_if_eq (pc := 14) (tgt := 21) cx.1 cx.2.1 dX1_isAt_14 (by decide) (fun c3 => ?_) (fun c3 => ?_)
      · replace hwp := hwp.1 c3
        refine lv_iconst (pc := 21) (v := 0) cx.1 cx.2.1 dX1_isAt_21 (by decide) ?_
        exact k_zret (pc := 22) (wf := (wP d nh hh cf z)) (u := u) cx hw rfl hwp (by decide) (by decide) dX1_isAt_22
      · replace hwp := hwp.2 c3
        refine lv_iconst (pc := 17) (v := 1) cx.1 cx.2.1 dX1_isAt_17 (by decide) ?_
        refine lv_goto (pc := 18) (tgt := 22) cx.1 cx.2.1 dX1_isAt_18 (by decide) ?_
        exact k_zret (pc := 22) (wf := (wP d nh hh cf z)) (u := u) cx hw rfl hwp (by decide) (by decide) dX1_isAt_22
set_option maxHeartbeats 4000000 in
theorem m_X1_curTime (l : Launch) (dC : Nat → ClassId) (dI : Nat → Nat → Nat) (d : Nat → ClassId) (z : Nat → Nat → Nat) (hh : Nat → Nat → Nat) (cf : List Value) (nh : Nat) (u : PS) {K : Int32 → PS → Prop} (hwp : wp_X1_curTime nh u K) : kM l yX1_curTime cX1_curTime 1 (some .int) ({ frames := 1, cells := 0, slots := 0, locals := 20 } : Room) dC dI d [.ref (z 0 0)] (wP d nh hh cf z) u (kQi dC dI (wP d nh hh cf z) K) 0 0 := by
  refine kM_start rfl (Nat.le_of_ble_eq_true rfl) ?_
  intro p e s m below meth c A ls cx hnm hw hl
  generalize hargs : ([.ref (z 0 0)] : List Value).toArray = args at cx ⊢
  unfold wp_X1_curTime at hwp
  replace hl : lv_has ls 1 [(0, .ref (z 0 0))] := hl
  generalize hH : s.heap = H at hw ⊢
  generalize hlo : ([] : List Loc) = locs at hw ⊢
  refine lv_aload_n (pc := 0) cx.1 cx.2.1 dX1_curTime_0 rfl (lv_at hl 0 rfl) ?_
  refine k_whole_i (pc := 1) (wf := (wP d nh hh cf z)) (u := u) cx hw (k_runV (pc := 1) (rest := []) (As := []) cx hw.1 (hw.2.1.weaken (fun _ _ _ _ => trivial)) hw.2.2 (k_recv cx hw 0 (ci := 0) (q := (RX1, TX1, 21)) rfl rfl) (m_X1_isAt l dC dI d z hh cf nh u  hwp H.size) (cwV 0 cx.2.2.2.2.1 (lw_V q827 q829 qs27 q75 q830) rfl rfl rfl hdV_X1_isAt ⟨Nat.le_of_ble_eq_true rfl, Nat.le_of_ble_eq_true rfl⟩) rfl hl.1 rfl (Nat.le_of_ble_eq_true rfl) dX1_curTime_1 ⟨Nat.le_of_ble_eq_true rfl, Nat.le_of_ble_eq_true rfl⟩) (fun r2 u1 H locs hwp hw => ?_)
  refine lv_if_eq (pc := 4) (tgt := 17) cx.1 cx.2.1 dX1_curTime_4 (by decide) (fun c3 => ?_) (fun c3 => ?_)
  · replace hwp := hwp.1 c3
    refine lv_iconst (pc := 17) (v := 0) cx.1 cx.2.1 dX1_curTime_17 (by decide) ?_
    exact k_iret (pc := 18) (wf := (wP d nh hh cf z)) (u := u1) cx hw hwp (by decide) (by decide) dX1_curTime_18
  · replace hwp := hwp.2 c3
    refine lv_aload_n (pc := 7) cx.1 cx.2.1 dX1_curTime_7 rfl (lv_at hl 0 rfl) ?_
    by_cases c4 : ((u1.1 0).1 17) = 0
    · replace hwp := hwp.1 c4
      refine k_getR (pc := 8) (u := u1) (v := .null) cx hw (lr_PL_pl_17 d z hh cf nh) (C := RX1) (T := TX1) (N := 21) rfl in_X1 (by decide) q496 (fun _ h9 => h9) (cu_N c4) dX1_curTime_8 ?_
      exact hwp.elim
    · replace hwp := hwp.2 c4
      refine k_getR (pc := 8) (u := u1) (v := .ref (z 9 0)) cx hw (lr_PL_pl_17 d z hh cf nh) (C := RX1) (T := TX1) (N := 21) rfl in_X1 (by decide) q496 (fun _ h9 => h9) (cu_P c4) dX1_curTime_8 ?_
      refine k_getI (pc := 11) (u := u1) (v := ((u1.1 9).1 0)) cx hw (ln_PL_walk_0 d z hh cf nh) (C := RX9) (T := TX9) (N := 11) rfl in_X9 (by decide) q260 (u_same (cx.2.2.2.2.1 _ q257)) rfl dX1_curTime_11 ?_
      refine lv_goto (pc := 14) (tgt := 18) cx.1 cx.2.1 dX1_curTime_14 (by decide) ?_
      exact k_iret (pc := 18) (wf := (wP d nh hh cf z)) (u := u1) cx hw hwp (by decide) (by decide) dX1_curTime_18
set_option maxHeartbeats 4000000 in
theorem m_X1_curVal (l : Launch) (dC : Nat → ClassId) (dI : Nat → Nat → Nat) (d : Nat → ClassId) (z : Nat → Nat → Nat) (hh : Nat → Nat → Nat) (cf : List Value) (nh : Nat) (u : PS) {K : Int32 → PS → Prop} (hwp : wp_X1_curVal nh u K) : kM l yX1_curVal cX1_curVal 1 (some .int) ({ frames := 1, cells := 0, slots := 0, locals := 20 } : Room) dC dI d [.ref (z 0 0)] (wP d nh hh cf z) u (kQi dC dI (wP d nh hh cf z) K) 0 0 := by
  refine kM_start rfl (Nat.le_of_ble_eq_true rfl) ?_
  intro p e s m below meth c A ls cx hnm hw hl
  generalize hargs : ([.ref (z 0 0)] : List Value).toArray = args at cx ⊢
  unfold wp_X1_curVal at hwp
  replace hl : lv_has ls 1 [(0, .ref (z 0 0))] := hl
  generalize hH : s.heap = H at hw ⊢
  generalize hlo : ([] : List Loc) = locs at hw ⊢
  refine lv_aload_n (pc := 0) cx.1 cx.2.1 dX1_curVal_0 rfl (lv_at hl 0 rfl) ?_
  refine k_whole_i (pc := 1) (wf := (wP d nh hh cf z)) (u := u) cx hw (k_runV (pc := 1) (rest := []) (As := []) cx hw.1 (hw.2.1.weaken (fun _ _ _ _ => trivial)) hw.2.2 (k_recv cx hw 0 (ci := 0) (q := (RX1, TX1, 21)) rfl rfl) (m_X1_isAt l dC dI d z hh cf nh u  hwp H.size) (cwV 0 cx.2.2.2.2.1 (lw_V q827 q829 qs27 q75 q830) rfl rfl rfl hdV_X1_isAt ⟨Nat.le_of_ble_eq_true rfl, Nat.le_of_ble_eq_true rfl⟩) rfl hl.1 rfl (Nat.le_of_ble_eq_true rfl) dX1_curVal_1 ⟨Nat.le_of_ble_eq_true rfl, Nat.le_of_ble_eq_true rfl⟩) (fun r2 u1 H locs hwp hw => ?_)
  refine lv_if_eq (pc := 4) (tgt := 17) cx.1 cx.2.1 dX1_curVal_4 (by decide) (fun c3 => ?_) (fun c3 => ?_)
  · replace hwp := hwp.1 c3
    refine lv_iconst (pc := 17) (v := 0) cx.1 cx.2.1 dX1_curVal_17 (by decide) ?_
    exact k_iret (pc := 18) (wf := (wP d nh hh cf z)) (u := u1) cx hw hwp (by decide) (by decide) dX1_curVal_18
  · replace hwp := hwp.2 c3
    refine lv_aload_n (pc := 7) cx.1 cx.2.1 dX1_curVal_7 rfl (lv_at hl 0 rfl) ?_
    by_cases c4 : ((u1.1 0).1 17) = 0
    · replace hwp := hwp.1 c4
      refine k_getR (pc := 8) (u := u1) (v := .null) cx hw (lr_PL_pl_17 d z hh cf nh) (C := RX1) (T := TX1) (N := 21) rfl in_X1 (by decide) q496 (fun _ h9 => h9) (cu_N c4) dX1_curVal_8 ?_
      exact hwp.elim
    · replace hwp := hwp.2 c4
      refine k_getR (pc := 8) (u := u1) (v := .ref (z 9 0)) cx hw (lr_PL_pl_17 d z hh cf nh) (C := RX1) (T := TX1) (N := 21) rfl in_X1 (by decide) q496 (fun _ h9 => h9) (cu_P c4) dX1_curVal_8 ?_
      refine k_getI (pc := 11) (u := u1) (v := ((u1.1 9).1 1)) cx hw (ln_PL_walk_1 d z hh cf nh) (C := RX9) (T := TX9) (N := 11) rfl in_X9 (by decide) q267 (u_same (cx.2.2.2.2.1 _ q264)) rfl dX1_curVal_11 ?_
      refine lv_goto (pc := 14) (tgt := 18) cx.1 cx.2.1 dX1_curVal_14 (by decide) ?_
      exact k_iret (pc := 18) (wf := (wP d nh hh cf z)) (u := u1) cx hw hwp (by decide) (by decide) dX1_curVal_18
set_option maxHeartbeats 4000000 in
theorem m_X1_aggCount (l : Launch) (hlt : l.stackTraces = false) (dC : Nat → ClassId) (dI : Nat → Nat → Nat) (d : Nat → ClassId) (z : Nat → Nat → Nat) (hh : Nat → Nat → Nat) (cf : List Value) (nh : Nat) (u : PS) (x1 : Int32) (x2 : Int32) (x3 : Int32) {K : Int32 → PS → Prop} (hwp : wp_X1_aggCount nh u x1 x2 x3 K) : kM l yX1_aggCount cX1_aggCount 4 (some .int) ({ frames := 12, cells := 3, slots := 300, locals := 10443 } : Room) dC dI d [.ref (z 0 0), .int x1, .int x2, .int x3] (wP d nh hh cf z) u (kQi dC dI (wP d nh hh cf z) K) 3 300 := by
  refine kM_start rfl (Nat.le_of_ble_eq_true rfl) ?_
  intro p e s m below meth c A ls cx hnm hw hl
  generalize hargs : ([.ref (z 0 0), .int x1, .int x2, .int x3] : List Value).toArray = args at cx ⊢
  unfold wp_X1_aggCount at hwp
  replace hl : lv_has ls 4 [(0, .ref (z 0 0)), (1, .int x1), (2, .int x2), (3, .int x3)] := hl
  generalize hH : s.heap = H at hw ⊢
  generalize hlo : ([] : List Loc) = locs at hw ⊢
  refine lv_aload_n (pc := 0) cx.1 cx.2.1 dX1_aggCount_0 rfl (lv_at hl 0 rfl) ?_
  refine k_getR (pc := 1) (u := u) (v := .ref (z 1 0)) cx hw (lr_PL_pl_3 d z hh cf nh) (C := RX1) (T := TX1) (N := 21) rfl in_X1 (by decide) q479 (fun _ h9 => h9) rfl dX1_aggCount_1 ?_
  refine k_getIN (pc := 4) (u := u) (v := ((u.1 1).1 3)) cx hw (ln_PL_disk_3 d z hh cf nh) (C := RX2) (T := TX2) (N := 5) rfl in_X2 (by decide) (nq196 cx.2.2.2.2.2.1) (fun _ h9 => h9) rfl dX1_aggCount_4 ?_
  refine lv_if_eq (pc := 7) (tgt := 13) cx.1 cx.2.1 dX1_aggCount_7 (by decide) (fun c1 => ?_) (fun c1 => ?_)
  · replace hwp := hwp.1 c1
    refine lv_aload_n (pc := 13) cx.1 cx.2.1 dX1_aggCount_13 rfl (lv_at hl 0 rfl) ?_
    refine lv_iload_n (pc := 14) cx.1 cx.2.1 dX1_aggCount_14 rfl (lv_at hl 1 rfl) ?_
    refine k_whole_i (pc := 15) (wf := (wP d nh hh cf z)) (u := u) cx hw (k_runV (pc := 15) (rest := []) (As := [.int x1]) cx hw.1 (hw.2.1.weaken (fun _ _ _ _ => trivial)) hw.2.2 (k_recv cx hw 0 (ci := 0) (q := (RX1, TX1, 21)) rfl rfl) (m_X1_isSeries l hlt dC dI d z hh cf nh u x1 hwp H.size) (cwV 1 cx.2.2.2.2.1 (lw_V q548 q550 qs3 q75 q551) rfl rfl rfl hdV_X1_isSeries ⟨Nat.le_of_ble_eq_true rfl, Nat.le_of_ble_eq_true rfl⟩) rfl hl.1 rfl (Nat.le_of_ble_eq_true rfl) dX1_aggCount_15 ⟨Nat.le_of_ble_eq_true rfl, Nat.le_of_ble_eq_true rfl⟩) (fun r3 u2 H locs hwp hw => ?_)
    refine lv_if_ne (pc := 18) (tgt := 24) cx.1 cx.2.1 dX1_aggCount_18 (by decide) (fun c4 => ?_) (fun c4 => ?_)
    · replace hwp := hwp.1 c4
      refine lv_aload_n (pc := 24) cx.1 cx.2.1 dX1_aggCount_24 rfl (lv_at hl 0 rfl) ?_
      refine lv_iload_n (pc := 25) cx.1 cx.2.1 dX1_aggCount_25 rfl (lv_at hl 1 rfl) ?_
      refine lv_iload_n (pc := 26) cx.1 cx.2.1 dX1_aggCount_26 rfl (lv_at hl 2 rfl) ?_
      refine lv_iload_n (pc := 27) cx.1 cx.2.1 dX1_aggCount_27 rfl (lv_at hl 3 rfl) ?_
      refine k_whole_v (pc := 28) (wf := (wP d nh hh cf z)) (u := u2) cx hw (k_runV (pc := 28) (rest := []) (As := [.int x1, .int x2, .int x3]) cx hw.1 (hw.2.1.weaken (fun _ _ _ _ => trivial)) hw.2.2 (k_recv cx hw 0 (ci := 0) (q := (RX1, TX1, 21)) rfl rfl) (m_X1_asks l dC dI d z hh cf nh u2 x1 x2 x3 hwp H.size) (cwV 3 cx.2.2.2.2.1 (lw_V q745 q747 qs24 q75 q748) rfl rfl rfl hdV_X1_asks ⟨Nat.le_of_ble_eq_true rfl, Nat.le_of_ble_eq_true rfl⟩) rfl hl.1 rfl (Nat.le_of_ble_eq_true rfl) dX1_aggCount_28 ⟨Nat.le_of_ble_eq_true rfl, Nat.le_of_ble_eq_true rfl⟩) (fun u5 H locs hwp hw => ?_)
      refine lv_aload_n (pc := 31) cx.1 cx.2.1 dX1_aggCount_31 rfl (lv_at hl 0 rfl) ?_
      refine k_getR (pc := 32) (u := u5) (v := .ref (z 11 0)) cx hw (lr_PL_pl_18 d z hh cf nh) (C := RX1) (T := TX1) (N := 21) rfl in_X1 (by decide) q497 (fun _ h9 => h9) rfl dX1_aggCount_32 ?_
      refine k_getIN (pc := 35) (u := u5) (v := ((u5.1 11).1 0)) cx hw (ln_PL_total_0 d z hh cf nh) (C := RX10) (T := TX10) (N := 5) rfl in_X10 (by decide) (nq410 cx.2.2.2.2.2.1) (fun _ h9 => h9) rfl dX1_aggCount_35 ?_
      exact k_iret (pc := 38) (wf := (wP d nh hh cf z)) (u := u5) cx hw hwp (by decide) (by decide) dX1_aggCount_38
    · replace hwp := hwp.2 c4
      refine lv_bipush (pc := 21) (v := -2) cx.1 cx.2.1 dX1_aggCount_21 (by decide) ?_
      exact k_iret (pc := 23) (wf := (wP d nh hh cf z)) (u := u2) cx hw hwp (by decide) (by decide) dX1_aggCount_23
  · replace hwp := hwp.2 c1
    refine lv_bipush (pc := 10) (v := -9) cx.1 cx.2.1 dX1_aggCount_10 (by decide) ?_
    exact k_iret (pc := 12) (wf := (wP d nh hh cf z)) (u := u) cx hw hwp (by decide) (by decide) dX1_aggCount_12
set_option maxHeartbeats 4000000 in
theorem m_X1_need (l : Launch) (hlt : l.stackTraces = false) (dC : Nat → ClassId) (dI : Nat → Nat → Nat) (d : Nat → ClassId) (z : Nat → Nat → Nat) (hh : Nat → Nat → Nat) (cf : List Value) (nh : Nat) (u : PS) (x1 : Int32) {K : PS → Prop} {E : Nat → PS → Prop} (hwp : wp_X1_need nh u x1 K E) : kMT l yX1_need cX1_need 2 none ({ frames := 12, cells := 5, slots := 320, locals := 10443 } : Room) dC dI d [.ref (z 0 0), .int x1] (wP d nh hh cf z) u (kXv dC dI (wP d nh hh cf z) K E) 5 320 := by
  refine kMT_start rfl (Nat.le_of_ble_eq_true rfl) ?_
  intro p e s m below meth c A ls cx hnm xt hw hl
  generalize hargs : ([.ref (z 0 0), .int x1] : List Value).toArray = args at cx ⊢
  unfold wp_X1_need at hwp
  replace hl : lv_has ls 2 [(0, .ref (z 0 0)), (1, .int x1)] := hl
  generalize hH : s.heap = H at hw ⊢
  generalize hlo : ([] : List Loc) = locs at hw ⊢
  refine lv_aload_n (pc := 0) cx.1 cx.2.1 dX1_need_0 rfl (lv_at hl 0 rfl) ?_
  refine k_getR (pc := 1) (u := u) (v := .ref (z 1 0)) cx hw (lr_PL_pl_3 d z hh cf nh) (C := RX1) (T := TX1) (N := 21) rfl in_X1 (by decide) q479 (fun _ h9 => h9) rfl dX1_need_1 ?_
  refine k_getIN (pc := 4) (u := u) (v := ((u.1 1).1 3)) cx hw (ln_PL_disk_3 d z hh cf nh) (C := RX2) (T := TX2) (N := 5) rfl in_X2 (by decide) (nq196 cx.2.2.2.2.2.1) (fun _ h9 => h9) rfl dX1_need_4 ?_
  refine lv_if_eq (pc := 7) (tgt := 18) cx.1 cx.2.1 dX1_need_7 (by decide) (fun c1 => ?_) (fun c1 => ?_)
  · replace hwp := hwp.1 c1
    refine lv_aload_n (pc := 18) cx.1 cx.2.1 dX1_need_18 rfl (lv_at hl 0 rfl) ?_
    refine lv_iload_n (pc := 19) cx.1 cx.2.1 dX1_need_19 rfl (lv_at hl 1 rfl) ?_
    refine k_whole_i (pc := 20) (wf := (wP d nh hh cf z)) (u := u) cx hw (k_runV (pc := 20) (rest := []) (As := [.int x1]) cx hw.1 (hw.2.1.weaken (fun _ _ _ _ => trivial)) hw.2.2 (k_recv cx hw 0 (ci := 0) (q := (RX1, TX1, 21)) rfl rfl) (m_X1_isSeries l hlt dC dI d z hh cf nh u x1 hwp H.size) (cwV 1 cx.2.2.2.2.1 (lw_V q548 q550 qs3 q75 q551) rfl rfl rfl hdV_X1_isSeries ⟨Nat.le_of_ble_eq_true rfl, Nat.le_of_ble_eq_true rfl⟩) rfl hl.1 rfl (Nat.le_of_ble_eq_true rfl) dX1_need_20 ⟨Nat.le_of_ble_eq_true rfl, Nat.le_of_ble_eq_true rfl⟩) (fun r3 u2 H locs hwp hw => ?_)
    refine lv_if_ne (pc := 23) (tgt := 34) cx.1 cx.2.1 dX1_need_23 (by decide) (fun c4 => ?_) (fun c4 => ?_)
    · replace hwp := hwp.1 c4
      exact k_vretT (pc := 34) (wf := (wP d nh hh cf z)) (u := u2) cx hw hwp (by decide) (by decide) dX1_need_34
    · replace hwp := hwp.2 c4
      refine k_throwNew (pc := 26) (k := 11) (q := (RJ4, TJ4, 6)) (names := ["java/lang/RuntimeException", "java/lang/Exception"]) (rest := []) hlt cx hw hl.1 rfl (by decide +kernel) (by decide +kernel) (xw_J4 cx.2.2.2.2.1 cx.2.2.2.2.2.1 cx.2.2.2.2.2.2.2.2.2.1) (xc_J4 cx.2.2.2.2.1 cx.2.2.2.2.2.1 cx.2.2.2.2.2.2.2.2.2.1) q901 q144 q892 q893 q91 ⟨Nat.le_of_ble_eq_true rfl, Nat.le_of_ble_eq_true rfl, Nat.le_of_ble_eq_true rfl, Nat.le_of_ble_eq_true rfl⟩ dX1_need_26 dX1_need_29 dX1_need_30 dX1_need_33 (fun a5 H locs hw hx => ?_)
      exact k_leave (pc := 33) (wf := (wP d nh hh cf z)) (u := u2) (k := 11) cx xt (by decide) hw hwp hx (by decide) (by decide)
  · replace hwp := hwp.2 c1
    refine k_throwNew (pc := 10) (k := 14) (q := (RJ8, TJ8, 6)) (names := ["java/lang/RuntimeException", "java/lang/Exception"]) (rest := []) hlt cx hw hl.1 rfl (by decide +kernel) (by decide +kernel) (xw_J8 cx.2.2.2.2.1 cx.2.2.2.2.2.1 cx.2.2.2.2.2.2.2.2.2.1) (xc_J8 cx.2.2.2.2.1 cx.2.2.2.2.2.1 cx.2.2.2.2.2.2.2.2.2.1) q886 q143 q877 q878 q95 ⟨Nat.le_of_ble_eq_true rfl, Nat.le_of_ble_eq_true rfl, Nat.le_of_ble_eq_true rfl, Nat.le_of_ble_eq_true rfl⟩ dX1_need_10 dX1_need_13 dX1_need_14 dX1_need_17 (fun a6 H locs hw hx => ?_)
    exact k_leave (pc := 17) (wf := (wP d nh hh cf z)) (u := u) (k := 14) cx xt (by decide) hw hwp hx (by decide) (by decide)
set_option maxHeartbeats 4000000 in
theorem m_X1_aggMin (l : Launch) (hlt : l.stackTraces = false) (dC : Nat → ClassId) (dI : Nat → Nat → Nat) (d : Nat → ClassId) (z : Nat → Nat → Nat) (hh : Nat → Nat → Nat) (cf : List Value) (nh : Nat) (u : PS) (x1 : Int32) (x2 : Int32) (x3 : Int32) {K : Int32 → PS → Prop} {E : Nat → PS → Prop} (hwp : wp_X1_aggMin nh u x1 x2 x3 K E) : kMT l yX1_aggMin cX1_aggMin 4 (some .int) ({ frames := 13, cells := 5, slots := 320, locals := 10464 } : Room) dC dI d [.ref (z 0 0), .int x1, .int x2, .int x3] (wP d nh hh cf z) u (kXi dC dI (wP d nh hh cf z) K E) 5 320 := by
  refine kMT_start rfl (Nat.le_of_ble_eq_true rfl) ?_
  intro p e s m below meth c A ls cx hnm xt hw hl
  generalize hargs : ([.ref (z 0 0), .int x1, .int x2, .int x3] : List Value).toArray = args at cx ⊢
  unfold wp_X1_aggMin at hwp
  replace hl : lv_has ls 4 [(0, .ref (z 0 0)), (1, .int x1), (2, .int x2), (3, .int x3)] := hl
  generalize hH : s.heap = H at hw ⊢
  generalize hlo : ([] : List Loc) = locs at hw ⊢
  refine lv_aload_n (pc := 0) cx.1 cx.2.1 dX1_aggMin_0 rfl (lv_at hl 0 rfl) ?_
  refine lv_iload_n (pc := 1) cx.1 cx.2.1 dX1_aggMin_1 rfl (lv_at hl 1 rfl) ?_
  refine k_whole_Tv (pc := 2) (wf := (wP d nh hh cf z)) (u := u) cx hw (k_runVT (pc := 2) (rest := []) (As := [.int x1]) cx hw.1 (hw.2.1.weaken (fun _ _ _ _ => trivial)) hw.2.2 (k_recv cx hw 0 (ci := 0) (q := (RX1, TX1, 21)) rfl rfl) (m_X1_need l hlt dC dI d z hh cf nh u x1 hwp H.size) (cwV 1 cx.2.2.2.2.1 (lw_V q873 q875 qs30 q75 q876) rfl rfl rfl hdV_X1_need ⟨Nat.le_of_ble_eq_true rfl, Nat.le_of_ble_eq_true rfl⟩) rfl hl.1 rfl (Nat.le_of_ble_eq_true rfl) dX1_aggMin_2 ⟨Nat.le_of_ble_eq_true rfl, Nat.le_of_ble_eq_true rfl⟩) (fun u1 H locs hwp hw => ?_) (fun k3 v4 a5 H locs hwp hw hx => ?_)
  · skip
    refine lv_aload_n (pc := 5) cx.1 cx.2.1 dX1_aggMin_5 rfl (lv_at hl 0 rfl) ?_
    refine lv_iload_n (pc := 6) cx.1 cx.2.1 dX1_aggMin_6 rfl (lv_at hl 1 rfl) ?_
    refine lv_iload_n (pc := 7) cx.1 cx.2.1 dX1_aggMin_7 rfl (lv_at hl 2 rfl) ?_
    refine lv_iload_n (pc := 8) cx.1 cx.2.1 dX1_aggMin_8 rfl (lv_at hl 3 rfl) ?_
    refine k_whole_v (pc := 9) (wf := (wP d nh hh cf z)) (u := u1) cx hw (k_runV (pc := 9) (rest := []) (As := [.int x1, .int x2, .int x3]) cx hw.1 (hw.2.1.weaken (fun _ _ _ _ => trivial)) hw.2.2 (k_recv cx hw 0 (ci := 0) (q := (RX1, TX1, 21)) rfl rfl) (m_X1_asks l dC dI d z hh cf nh u1 x1 x2 x3 hwp H.size) (cwV 3 cx.2.2.2.2.1 (lw_V q745 q747 qs24 q75 q748) rfl rfl rfl hdV_X1_asks ⟨Nat.le_of_ble_eq_true rfl, Nat.le_of_ble_eq_true rfl⟩) rfl hl.1 rfl (Nat.le_of_ble_eq_true rfl) dX1_aggMin_9 ⟨Nat.le_of_ble_eq_true rfl, Nat.le_of_ble_eq_true rfl⟩) (fun u6 H locs hwp hw => ?_)
    refine lv_aload_n (pc := 12) cx.1 cx.2.1 dX1_aggMin_12 rfl (lv_at hl 0 rfl) ?_
    refine k_getR (pc := 13) (u := u6) (v := .ref (z 11 0)) cx hw (lr_PL_pl_18 d z hh cf nh) (C := RX1) (T := TX1) (N := 21) rfl in_X1 (by decide) q497 (fun _ h9 => h9) rfl dX1_aggMin_13 ?_
    refine k_getIN (pc := 16) (u := u6) (v := ((u6.1 11).1 1)) cx hw (ln_PL_total_1 d z hh cf nh) (C := RX10) (T := TX10) (N := 5) rfl in_X10 (by decide) (nq412 cx.2.2.2.2.2.1) (fun _ h9 => h9) rfl dX1_aggMin_16 ?_
    exact k_iretT (pc := 19) (wf := (wP d nh hh cf z)) (u := u6) cx hw hwp (by decide) (by decide) dX1_aggMin_19
  · skip
    exact k_leave (pc := 2) (wf := (wP d nh hh cf z)) (u := v4) (k := k3) cx xt (by decide) hw hwp hx (by decide) (by decide)
set_option maxHeartbeats 4000000 in
theorem m_X1_aggMax (l : Launch) (hlt : l.stackTraces = false) (dC : Nat → ClassId) (dI : Nat → Nat → Nat) (d : Nat → ClassId) (z : Nat → Nat → Nat) (hh : Nat → Nat → Nat) (cf : List Value) (nh : Nat) (u : PS) (x1 : Int32) (x2 : Int32) (x3 : Int32) {K : Int32 → PS → Prop} {E : Nat → PS → Prop} (hwp : wp_X1_aggMax nh u x1 x2 x3 K E) : kMT l yX1_aggMax cX1_aggMax 4 (some .int) ({ frames := 13, cells := 5, slots := 320, locals := 10464 } : Room) dC dI d [.ref (z 0 0), .int x1, .int x2, .int x3] (wP d nh hh cf z) u (kXi dC dI (wP d nh hh cf z) K E) 5 320 := by
  refine kMT_start rfl (Nat.le_of_ble_eq_true rfl) ?_
  intro p e s m below meth c A ls cx hnm xt hw hl
  generalize hargs : ([.ref (z 0 0), .int x1, .int x2, .int x3] : List Value).toArray = args at cx ⊢
  unfold wp_X1_aggMax at hwp
  replace hl : lv_has ls 4 [(0, .ref (z 0 0)), (1, .int x1), (2, .int x2), (3, .int x3)] := hl
  generalize hH : s.heap = H at hw ⊢
  generalize hlo : ([] : List Loc) = locs at hw ⊢
  refine lv_aload_n (pc := 0) cx.1 cx.2.1 dX1_aggMax_0 rfl (lv_at hl 0 rfl) ?_
  refine lv_iload_n (pc := 1) cx.1 cx.2.1 dX1_aggMax_1 rfl (lv_at hl 1 rfl) ?_
  refine k_whole_Tv (pc := 2) (wf := (wP d nh hh cf z)) (u := u) cx hw (k_runVT (pc := 2) (rest := []) (As := [.int x1]) cx hw.1 (hw.2.1.weaken (fun _ _ _ _ => trivial)) hw.2.2 (k_recv cx hw 0 (ci := 0) (q := (RX1, TX1, 21)) rfl rfl) (m_X1_need l hlt dC dI d z hh cf nh u x1 hwp H.size) (cwV 1 cx.2.2.2.2.1 (lw_V q873 q875 qs30 q75 q876) rfl rfl rfl hdV_X1_need ⟨Nat.le_of_ble_eq_true rfl, Nat.le_of_ble_eq_true rfl⟩) rfl hl.1 rfl (Nat.le_of_ble_eq_true rfl) dX1_aggMax_2 ⟨Nat.le_of_ble_eq_true rfl, Nat.le_of_ble_eq_true rfl⟩) (fun u1 H locs hwp hw => ?_) (fun k3 v4 a5 H locs hwp hw hx => ?_)
  · skip
    refine lv_aload_n (pc := 5) cx.1 cx.2.1 dX1_aggMax_5 rfl (lv_at hl 0 rfl) ?_
    refine lv_iload_n (pc := 6) cx.1 cx.2.1 dX1_aggMax_6 rfl (lv_at hl 1 rfl) ?_
    refine lv_iload_n (pc := 7) cx.1 cx.2.1 dX1_aggMax_7 rfl (lv_at hl 2 rfl) ?_
    refine lv_iload_n (pc := 8) cx.1 cx.2.1 dX1_aggMax_8 rfl (lv_at hl 3 rfl) ?_
    refine k_whole_v (pc := 9) (wf := (wP d nh hh cf z)) (u := u1) cx hw (k_runV (pc := 9) (rest := []) (As := [.int x1, .int x2, .int x3]) cx hw.1 (hw.2.1.weaken (fun _ _ _ _ => trivial)) hw.2.2 (k_recv cx hw 0 (ci := 0) (q := (RX1, TX1, 21)) rfl rfl) (m_X1_asks l dC dI d z hh cf nh u1 x1 x2 x3 hwp H.size) (cwV 3 cx.2.2.2.2.1 (lw_V q745 q747 qs24 q75 q748) rfl rfl rfl hdV_X1_asks ⟨Nat.le_of_ble_eq_true rfl, Nat.le_of_ble_eq_true rfl⟩) rfl hl.1 rfl (Nat.le_of_ble_eq_true rfl) dX1_aggMax_9 ⟨Nat.le_of_ble_eq_true rfl, Nat.le_of_ble_eq_true rfl⟩) (fun u6 H locs hwp hw => ?_)
    refine lv_aload_n (pc := 12) cx.1 cx.2.1 dX1_aggMax_12 rfl (lv_at hl 0 rfl) ?_
    refine k_getR (pc := 13) (u := u6) (v := .ref (z 11 0)) cx hw (lr_PL_pl_18 d z hh cf nh) (C := RX1) (T := TX1) (N := 21) rfl in_X1 (by decide) q497 (fun _ h9 => h9) rfl dX1_aggMax_13 ?_
    refine k_getIN (pc := 16) (u := u6) (v := ((u6.1 11).1 2)) cx hw (ln_PL_total_2 d z hh cf nh) (C := RX10) (T := TX10) (N := 5) rfl in_X10 (by decide) (nq414 cx.2.2.2.2.2.1) (fun _ h9 => h9) rfl dX1_aggMax_16 ?_
    exact k_iretT (pc := 19) (wf := (wP d nh hh cf z)) (u := u6) cx hw hwp (by decide) (by decide) dX1_aggMax_19
  · skip
    exact k_leave (pc := 2) (wf := (wP d nh hh cf z)) (u := v4) (k := k3) cx xt (by decide) hw hwp hx (by decide) (by decide)
set_option maxHeartbeats 4000000 in
theorem m_X1_aggSum (l : Launch) (hlt : l.stackTraces = false) (dC : Nat → ClassId) (dI : Nat → Nat → Nat) (d : Nat → ClassId) (z : Nat → Nat → Nat) (hh : Nat → Nat → Nat) (cf : List Value) (nh : Nat) (u : PS) (x1 : Int32) (x2 : Int32) (x3 : Int32) {K : Int64 → PS → Prop} {E : Nat → PS → Prop} (hwp : wp_X1_aggSum nh u x1 x2 x3 K E) : kMT l yX1_aggSum cX1_aggSum 4 (some .long) ({ frames := 13, cells := 5, slots := 320, locals := 10464 } : Room) dC dI d [.ref (z 0 0), .int x1, .int x2, .int x3] (wP d nh hh cf z) u (kXl dC dI (wP d nh hh cf z) K E) 5 320 := by
  refine kMT_start rfl (Nat.le_of_ble_eq_true rfl) ?_
  intro p e s m below meth c A ls cx hnm xt hw hl
  generalize hargs : ([.ref (z 0 0), .int x1, .int x2, .int x3] : List Value).toArray = args at cx ⊢
  unfold wp_X1_aggSum at hwp
  replace hl : lv_has ls 4 [(0, .ref (z 0 0)), (1, .int x1), (2, .int x2), (3, .int x3)] := hl
  generalize hH : s.heap = H at hw ⊢
  generalize hlo : ([] : List Loc) = locs at hw ⊢
  refine lv_aload_n (pc := 0) cx.1 cx.2.1 dX1_aggSum_0 rfl (lv_at hl 0 rfl) ?_
  refine lv_iload_n (pc := 1) cx.1 cx.2.1 dX1_aggSum_1 rfl (lv_at hl 1 rfl) ?_
  refine k_whole_Tv (pc := 2) (wf := (wP d nh hh cf z)) (u := u) cx hw (k_runVT (pc := 2) (rest := []) (As := [.int x1]) cx hw.1 (hw.2.1.weaken (fun _ _ _ _ => trivial)) hw.2.2 (k_recv cx hw 0 (ci := 0) (q := (RX1, TX1, 21)) rfl rfl) (m_X1_need l hlt dC dI d z hh cf nh u x1 hwp H.size) (cwV 1 cx.2.2.2.2.1 (lw_V q873 q875 qs30 q75 q876) rfl rfl rfl hdV_X1_need ⟨Nat.le_of_ble_eq_true rfl, Nat.le_of_ble_eq_true rfl⟩) rfl hl.1 rfl (Nat.le_of_ble_eq_true rfl) dX1_aggSum_2 ⟨Nat.le_of_ble_eq_true rfl, Nat.le_of_ble_eq_true rfl⟩) (fun u1 H locs hwp hw => ?_) (fun k3 v4 a5 H locs hwp hw hx => ?_)
  · skip
    refine lv_aload_n (pc := 5) cx.1 cx.2.1 dX1_aggSum_5 rfl (lv_at hl 0 rfl) ?_
    refine lv_iload_n (pc := 6) cx.1 cx.2.1 dX1_aggSum_6 rfl (lv_at hl 1 rfl) ?_
    refine lv_iload_n (pc := 7) cx.1 cx.2.1 dX1_aggSum_7 rfl (lv_at hl 2 rfl) ?_
    refine lv_iload_n (pc := 8) cx.1 cx.2.1 dX1_aggSum_8 rfl (lv_at hl 3 rfl) ?_
    refine k_whole_v (pc := 9) (wf := (wP d nh hh cf z)) (u := u1) cx hw (k_runV (pc := 9) (rest := []) (As := [.int x1, .int x2, .int x3]) cx hw.1 (hw.2.1.weaken (fun _ _ _ _ => trivial)) hw.2.2 (k_recv cx hw 0 (ci := 0) (q := (RX1, TX1, 21)) rfl rfl) (m_X1_asks l dC dI d z hh cf nh u1 x1 x2 x3 hwp H.size) (cwV 3 cx.2.2.2.2.1 (lw_V q745 q747 qs24 q75 q748) rfl rfl rfl hdV_X1_asks ⟨Nat.le_of_ble_eq_true rfl, Nat.le_of_ble_eq_true rfl⟩) rfl hl.1 rfl (Nat.le_of_ble_eq_true rfl) dX1_aggSum_9 ⟨Nat.le_of_ble_eq_true rfl, Nat.le_of_ble_eq_true rfl⟩) (fun u6 H locs hwp hw => ?_)
    refine lv_aload_n (pc := 12) cx.1 cx.2.1 dX1_aggSum_12 rfl (lv_at hl 0 rfl) ?_
    refine k_getR (pc := 13) (u := u6) (v := .ref (z 11 0)) cx hw (lr_PL_pl_18 d z hh cf nh) (C := RX1) (T := TX1) (N := 21) rfl in_X1 (by decide) q497 (fun _ h9 => h9) rfl dX1_aggSum_13 ?_
    refine k_getJN (pc := 16) (u := u6) (v := ((u6.1 11).2.2.1 3)) cx hw (ln_PL_total_3 d z hh cf nh) (C := RX10) (T := TX10) (N := 5) rfl in_X10 (by decide) (nq416 cx.2.2.2.2.2.1) (fun _ h9 => h9) rfl dX1_aggSum_16 ?_
    exact k_lretT (pc := 19) (wf := (wP d nh hh cf z)) (u := u6) cx hw hwp (by decide) (by decide) dX1_aggSum_19
  · skip
    exact k_leave (pc := 2) (wf := (wP d nh hh cf z)) (u := v4) (k := k3) cx xt (by decide) hw hwp hx (by decide) (by decide)
set_option maxHeartbeats 4000000 in
theorem m_X1_crashAfter (l : Launch) (dC : Nat → ClassId) (dI : Nat → Nat → Nat) (d : Nat → ClassId) (z : Nat → Nat → Nat) (hh : Nat → Nat → Nat) (cf : List Value) (nh : Nat) (u : PS) (x1 : Int32) {K : Int32 → PS → Prop} (hwp : wp_X1_crashAfter nh u x1 K) : kM l yX1_crashAfter cX1_crashAfter 2 (some .boolean) ({ frames := 0, cells := 0, slots := 0, locals := 0 } : Room) dC dI d [.ref (z 0 0), .int x1] (wP d nh hh cf z) u (kQi dC dI (wP d nh hh cf z) K) 0 0 := by
  refine kM_start rfl (Nat.le_of_ble_eq_true rfl) ?_
  intro p e s m below meth c A ls cx hnm hw hl
  generalize hargs : ([.ref (z 0 0), .int x1] : List Value).toArray = args at cx ⊢
  unfold wp_X1_crashAfter at hwp
  replace hl : lv_has ls 2 [(0, .ref (z 0 0)), (1, .int x1)] := hl
  generalize hH : s.heap = H at hw ⊢
  generalize hlo : ([] : List Loc) = locs at hw ⊢
  refine lv_aload_n (pc := 0) cx.1 cx.2.1 dX1_crashAfter_0 rfl (lv_at hl 0 rfl) ?_
  refine k_getR (pc := 1) (u := u) (v := .ref (z 1 0)) cx hw (lr_PL_pl_3 d z hh cf nh) (C := RX1) (T := TX1) (N := 21) rfl in_X1 (by decide) q479 (fun _ h9 => h9) rfl dX1_crashAfter_1 ?_
  refine k_getIN (pc := 4) (u := u) (v := ((u.1 1).1 3)) cx hw (ln_PL_disk_3 d z hh cf nh) (C := RX2) (T := TX2) (N := 5) rfl in_X2 (by decide) (nq196 cx.2.2.2.2.2.1) (fun _ h9 => h9) rfl dX1_crashAfter_4 ?_
  refine lv_if_ne (pc := 7) (tgt := 21) cx.1 cx.2.1 dX1_crashAfter_7 (by decide) (fun c1 => ?_) (fun c1 => ?_)
  · replace hwp := hwp.1 c1
    refine lv_iconst (pc := 21) (v := 0) cx.1 cx.2.1 dX1_crashAfter_21 (by decide) ?_
    exact k_zret (pc := 22) (wf := (wP d nh hh cf z)) (u := u) cx hw rfl hwp (by decide) (by decide) dX1_crashAfter_22
  · replace hwp := hwp.2 c1
    refine lv_iload_n (pc := 10) cx.1 cx.2.1 dX1_crashAfter_10 rfl (lv_at hl 1 rfl) ?_
    refine lv_if_lt (pc := 11) (tgt := 21) cx.1 cx.2.1 dX1_crashAfter_11 (by decide) (fun c2 => ?_) (fun c2 => ?_)
    · replace hwp := hwp.1 c2
      refine lv_iconst (pc := 21) (v := 0) cx.1 cx.2.1 dX1_crashAfter_21 (by decide) ?_
      exact k_zret (pc := 22) (wf := (wP d nh hh cf z)) (u := u) cx hw rfl hwp (by decide) (by decide) dX1_crashAfter_22
    · replace hwp := hwp.2 c2
      refine lv_iload_n (pc := 14) cx.1 cx.2.1 dX1_crashAfter_14 rfl (lv_at hl 1 rfl) ?_
      refine lv_ldcw (pc := 15) (v := 1000000) cx.1 cx.2.1 cx.2.2.2.1 (cx.2.2.2.2.1 _ q839) dX1_crashAfter_15 ?_
      refine lv_icmp_le (pc := 18) (tgt := 23) cx.1 cx.2.1 dX1_crashAfter_18 (by decide) (fun c3 => ?_) (fun c3 => ?_)
      · replace hwp := hwp.1 c3
        refine lv_aload_n (pc := 23) cx.1 cx.2.1 dX1_crashAfter_23 rfl (lv_at hl 0 rfl) ?_
        refine k_getR (pc := 24) (u := u) (v := .ref (z 1 0)) cx hw (lr_PL_pl_3 d z hh cf nh) (C := RX1) (T := TX1) (N := 21) rfl in_X1 (by decide) q479 (fun _ h9 => h9) rfl dX1_crashAfter_24 ?_
        refine lv_iload_n (pc := 27) cx.1 cx.2.1 dX1_crashAfter_27 rfl (lv_at hl 1 rfl) ?_
        refine k_putIN (pc := 28) (u := u) (v := x1) cx hw (ln_PL_disk_2 d z hh cf nh) (C := RX2) (T := TX2) (N := 5) rfl in_X2 tyX2 tyX2_ok nmX2 (by decide) (nq194 cx.2.2.2.2.2.1) (fun _ h9 => h9) rfl rfl rfl dX1_crashAfter_28 (fun H locs hw => ?_)
        refine lv_iconst (pc := 31) (v := 1) cx.1 cx.2.1 dX1_crashAfter_31 (by decide) ?_
        exact k_zret (pc := 32) (wf := (wP d nh hh cf z)) (u := (ps_I u 1 2 x1)) cx hw rfl hwp (by decide) (by decide) dX1_crashAfter_32
      · replace hwp := hwp.2 c3
        refine lv_iconst (pc := 21) (v := 0) cx.1 cx.2.1 dX1_crashAfter_21 (by decide) ?_
        exact k_zret (pc := 22) (wf := (wP d nh hh cf z)) (u := u) cx hw rfl hwp (by decide) (by decide) dX1_crashAfter_22
set_option maxHeartbeats 4000000 in
theorem wk_X1_reads_209 {p : Program} {l : Launch} {e : Env} {s : State} {m : MethodId} {args : Array Value} {below : List Frame} {meth : Method} {c : Code} {A : Nat → Prop} {dC : Nat → ClassId} {dI : Nat → Nat → Nat} {d : Nat → ClassId} {z : Nat → Nat → Nat} {hh : Nat → Nat → Nat} {cf : List Value}{nh : Nat} {K : PS → Prop} (cx : Cx p s m args meth c cX1_reads RX1 6 none A dC dI d) : ∀  (u : PS) (H : Heap) (locs : List Loc) (ls : Array Slot), wp_X1_reads_209 nh K  u → Wd dC dI A ((wP d nh hh cf z) u) s H locs → lv_has ls 6 [(0, .ref (z 0 0))] → W p l e ({ frames := 3, cells := 0, slots := 0, locals := 69 } : Room) s m args below meth c H locs 0 0 (MQ below (kQv dC dI (wP d nh hh cf z) K A) args s 0 0 A) (F0 m 209 ls []) := by
  intro  u H locs ls hwp hw hl
  unfold wp_X1_reads_209 at hwp
  refine lv_aload_n (pc := 209) cx.1 cx.2.1 dX1_reads_209 rfl (lv_at hl 0 rfl) ?_
  refine k_getR (pc := 210) (u := u) (v := .ref (z 4 0)) cx hw (lr_PL_pl_7 d z hh cf nh) (C := RX1) (T := TX1) (N := 21) rfl in_X1 (by decide) q485 (fun _ h9 => h9) rfl dX1_reads_210 ?_
  have hpt := k_part (w := (wf_X7 d (z 4) (z 5)) ((u.1 4), (u.1 5))) (is := [10, 11, 12, 13, 14, 15, 16, 17, 18, 19, 20, 21, 22]) hw (pc_PL_X7_now_nowsp d z hh cf nh u) (by decide)
  refine k_part_v (pc := 213) (wf := (wf_X7 d (z 4) (z 5))) (u := ((u.1 4), (u.1 5))) cx hw [10, 11, 12, 13, 14, 15, 16, 17, 18, 19, 20, 21, 22] (pc_PL_X7_now_nowsp d z hh cf nh u) (by decide) (fun _ => rfl) (pw_PL_X7_now_nowsp d z hh cf nh u) (k_runV (pc := 213) (rest := []) (As := []) cx hpt.1 hpt.2 hw.2.2 (k_recv cx hw 10 (ci := 5) (q := (RX7, TX7, 7)) rfl rfl) (m_X7_ends l dC dI d (z 4) (z 5)  ((u.1 4), (u.1 5))  hwp H.size) (cwV 0 cx.2.2.2.2.1 (lw_V q458 q459 q460 q83 q461) rfl rfl rfl hdV_X7_ends ⟨Nat.le_of_ble_eq_true rfl, Nat.le_of_ble_eq_true rfl⟩) rfl hl.1 rfl (Nat.le_of_ble_eq_true rfl) dX1_reads_213 ⟨Nat.le_of_ble_eq_true rfl, Nat.le_of_ble_eq_true rfl⟩) (fun v1 H locs hwp hw => ?_)
  refine lv_aload_n (pc := 216) cx.1 cx.2.1 dX1_reads_216 rfl (lv_at hl 0 rfl) ?_
  refine k_whole_v (pc := 217) (wf := (wP d nh hh cf z)) (u := (ps_O (ps_O u 4 v1.1) 5 v1.2)) cx hw (k_runV (pc := 217) (rest := []) (As := []) cx hw.1 (hw.2.1.weaken (fun _ _ _ _ => trivial)) hw.2.2 (k_recv cx hw 0 (ci := 0) (q := (RX1, TX1, 21)) rfl rfl) (m_X1_gather l dC dI d z hh cf nh (ps_O (ps_O u 4 v1.1) 5 v1.2)  hwp H.size) (cwV 0 cx.2.2.2.2.1 (lw_V q462 q464 qs2 q75 q465) rfl rfl rfl hdV_X1_gather ⟨Nat.le_of_ble_eq_true rfl, Nat.le_of_ble_eq_true rfl⟩) rfl hl.1 rfl (Nat.le_of_ble_eq_true rfl) dX1_reads_217 ⟨Nat.le_of_ble_eq_true rfl, Nat.le_of_ble_eq_true rfl⟩) (fun u3 H locs hwp hw => ?_)
  exact k_vret (pc := 220) (wf := (wP d nh hh cf z)) (u := u3) cx hw hwp (by decide) (by decide) dX1_reads_220
set_option maxHeartbeats 4000000 in
theorem wk_X1_reads_29 {p : Program} {l : Launch} {e : Env} {s : State} {m : MethodId} {args : Array Value} {below : List Frame} {meth : Method} {c : Code} {A : Nat → Prop} {dC : Nat → ClassId} {dI : Nat → Nat → Nat} {d : Nat → ClassId} {z : Nat → Nat → Nat} {hh : Nat → Nat → Nat} {cf : List Value}{nh : Nat} {K : PS → Prop} (cx : Cx p s m args meth c cX1_reads RX1 6 none A dC dI d) : ∀ (n : Nat) (x1 : Int32) (x3 : Int32) (u : PS) (H : Heap) (locs : List Loc) (ls : Array Slot), wp_X1_reads_29 nh K n x1 x3 u → Wd dC dI A ((wP d nh hh cf z) u) s H locs → lv_has ls 6 [(0, .ref (z 0 0)), (1, .int x1), (2, .ref (z 1 1)), (3, .int x3)] → W p l e ({ frames := 3, cells := 0, slots := 0, locals := 69 } : Room) s m args below meth c H locs 0 0 (MQ below (kQv dC dI (wP d nh hh cf z) K A) args s 0 0 A) (F0 m 29 ls []) := by
  intro n
  induction n with
  | zero =>
    intros; contradiction
  | succ n ih =>
    intro x1 x3 u H locs ls hwp hw hl
    unfold wp_X1_reads_29 at hwp
    refine lv_iload_n (pc := 29) cx.1 cx.2.1 dX1_reads_29 rfl (lv_at hl 3 rfl) ?_
    refine lv_aload_n (pc := 30) cx.1 cx.2.1 dX1_reads_30 rfl (lv_at hl 2 rfl) ?_
    refine lv_iload_n (pc := 31) cx.1 cx.2.1 dX1_reads_31 rfl (lv_at hl 1 rfl) ?_
    refine k_iald (pc := 32) (u := u) (f := ((u.1 1).2.1 0)) cx hw (lx_PL_disk_0 d z hh cf nh) 0 rfl rfl hwp.1 dX1_reads_32 ?_
    replace hwp := hwp.2
    refine lv_icmp_ge (pc := 33) (tgt := 209) cx.1 cx.2.1 dX1_reads_33 (by decide) (fun c1 => ?_) (fun c1 => ?_)
    · replace hwp := hwp.1 c1
      exact wk_X1_reads_209 cx  _ _ _ _ hwp hw (lv_sub hl [0] rfl)
    · replace hwp := hwp.2 c1
      refine lv_iload_n (pc := 36) cx.1 cx.2.1 dX1_reads_36 rfl (lv_at hl 1 rfl) ?_
      refine lv_iconst (pc := 37) (v := 1) cx.1 cx.2.1 dX1_reads_37 (by decide) ?_
      refine lv_iadd (pc := 38) cx.1 cx.2.1 dX1_reads_38 ?_
      refine lv_bipush (pc := 39) (v := 10) cx.1 cx.2.1 dX1_reads_39 (by decide) ?_
      refine lv_iload_n (pc := 41) cx.1 cx.2.1 dX1_reads_41 rfl (lv_at hl 3 rfl) ?_
      refine lv_imul (pc := 42) cx.1 cx.2.1 dX1_reads_42 ?_
      refine lv_iadd (pc := 43) cx.1 cx.2.1 dX1_reads_43 ?_
      refine lv_istore (pc := 44) (lv' := [(4, .int ((x1 + (1 : Int32)) + ((10 : Int32) * x3))), (0, .ref (z 0 0)), (1, .int x1), (2, .ref (z 1 1)), (3, .int x3)]) cx.1 cx.2.1 dX1_reads_44 hl (by decide) rfl (fun ls hl => ?_)
      refine lv_aload_n (pc := 46) cx.1 cx.2.1 dX1_reads_46 rfl (lv_at hl 1 rfl) ?_
      refine k_getR (pc := 47) (u := u) (v := .ref (z 4 0)) cx hw (lr_PL_pl_7 d z hh cf nh) (C := RX1) (T := TX1) (N := 21) rfl in_X1 (by decide) q485 (fun _ h9 => h9) rfl dX1_reads_47 ?_
      refine lv_aload_n (pc := 50) cx.1 cx.2.1 dX1_reads_50 rfl (lv_at hl 3 rfl) ?_
      refine lv_iload (pc := 51) cx.1 cx.2.1 dX1_reads_51 (lv_at hl 0 rfl) ?_
      refine k_iald (pc := 53) (u := u) (f := ((u.1 1).2.1 0)) cx hw (lx_PL_disk_0 d z hh cf nh) 0 rfl rfl hwp.1 dX1_reads_53 ?_
      replace hwp := hwp.2
      have hpt := k_part (w := (wf_X7 d (z 4) (z 5)) ((u.1 4), (u.1 5))) (is := [10, 11, 12, 13, 14, 15, 16, 17, 18, 19, 20, 21, 22]) hw (pc_PL_X7_now_nowsp d z hh cf nh u) (by decide)
      refine k_part_i (pc := 54) (wf := (wf_X7 d (z 4) (z 5))) (u := ((u.1 4), (u.1 5))) cx hw [10, 11, 12, 13, 14, 15, 16, 17, 18, 19, 20, 21, 22] (pc_PL_X7_now_nowsp d z hh cf nh u) (by decide) (fun _ => rfl) (pw_PL_X7_now_nowsp d z hh cf nh u) (k_runV (pc := 54) (rest := []) (As := [.int (((u.1 1).2.1 0) ((x1 + (1 : Int32)) + ((10 : Int32) * x3)).toNatClampNeg)]) cx hpt.1 hpt.2 hw.2.2 (k_recv cx hw 10 (ci := 5) (q := (RX7, TX7, 7)) rfl rfl) (m_X7_opens l dC dI d (z 4) (z 5)  ((u.1 4), (u.1 5)) (((u.1 1).2.1 0) ((x1 + (1 : Int32)) + ((10 : Int32) * x3)).toNatClampNeg) hwp H.size) (cwV 1 cx.2.2.2.2.1 (lw_V q628 q619 q620 q83 q621) rfl rfl rfl hdV_X7_opens ⟨Nat.le_of_ble_eq_true rfl, Nat.le_of_ble_eq_true rfl⟩) rfl hl.1 rfl (Nat.le_of_ble_eq_true rfl) dX1_reads_54 ⟨Nat.le_of_ble_eq_true rfl, Nat.le_of_ble_eq_true rfl⟩) (fun r3 v2 H locs hwp hw => ?_)
      refine lv_if_ne (pc := 57) (tgt := 63) cx.1 cx.2.1 dX1_reads_57 (by decide) (fun c4 => ?_) (fun c4 => ?_)
      · replace hwp := hwp.1 c4
        refine lv_aload_n (pc := 63) cx.1 cx.2.1 dX1_reads_63 rfl (lv_at hl 1 rfl) ?_
        refine k_getR (pc := 64) (u := (ps_O (ps_O u 4 v2.1) 5 v2.2)) (v := .ref (z 4 0)) cx hw (lr_PL_pl_7 d z hh cf nh) (C := RX1) (T := TX1) (N := 21) rfl in_X1 (by decide) q485 (fun _ h9 => h9) rfl dX1_reads_64 ?_
        refine k_getRN (pc := 67) (u := (ps_O (ps_O u 4 v2.1) 5 v2.2)) (v := .ref (z 5 0)) cx hw (lr_PL_now_0 d z hh cf nh) (C := RX7) (T := TX7) (N := 7) rfl in_X7 (by decide) (nq329 cx.2.2.2.2.2.1) (fun _ h9 => h9) rfl dX1_reads_67 ?_
        refine lv_astore (pc := 70) (lv' := [(5, .ref (z 5 0)), (4, .int ((x1 + (1 : Int32)) + ((10 : Int32) * x3))), (0, .ref (z 0 0)), (1, .int x1), (2, .ref (z 1 1)), (3, .int x3)]) cx.1 cx.2.1 dX1_reads_70 hl (by decide) rfl (fun ls hl => ?_)
        refine lv_aload (pc := 72) cx.1 cx.2.1 dX1_reads_72 (lv_at hl 0 rfl) ?_
        refine k_getRN (pc := 74) (u := (ps_O (ps_O u 4 v2.1) 5 v2.2)) (v := .ref (z 5 1)) cx hw (lr_PL_nowsp_0 d z hh cf nh) (C := RX8) (T := TX8) (N := 6) rfl in_X8 (by decide) (nq296 cx.2.2.2.2.2.1) (fun _ h9 => h9) rfl dX1_reads_74 ?_
        refine lv_iload_n (pc := 77) cx.1 cx.2.1 dX1_reads_77 rfl (lv_at hl 5 rfl) ?_
        refine lv_aload_n (pc := 78) cx.1 cx.2.1 dX1_reads_78 rfl (lv_at hl 4 rfl) ?_
        refine lv_iload (pc := 79) cx.1 cx.2.1 dX1_reads_79 (lv_at hl 1 rfl) ?_
        refine lv_iconst (pc := 81) (v := 1) cx.1 cx.2.1 dX1_reads_81 (by decide) ?_
        refine lv_iadd (pc := 82) cx.1 cx.2.1 dX1_reads_82 ?_
        refine k_iald (pc := 83) (u := (ps_O (ps_O u 4 v2.1) 5 v2.2)) (f := ((u.1 1).2.1 0)) cx hw (lx_PL_disk_0 d z hh cf nh) 0 rfl rfl hwp.1 dX1_reads_83 ?_
        replace hwp := hwp.2
        refine lv_topi (fun y5 ey5 => ?_)
        replace hwp := hwp y5 ey5
        refine k_iast (pc := 84) (u := (ps_O (ps_O u 4 v2.1) 5 v2.2)) (f := (v2.2.2.1 0)) cx hw (ln_PL_nowsp_0 d z hh cf nh) 0 rfl rfl hwp.1 dX1_reads_84 (fun H locs hw => ?_)
        replace hwp := hwp.2
        refine lv_aload (pc := 85) cx.1 cx.2.1 dX1_reads_85 (lv_at hl 0 rfl) ?_
        refine k_getRN (pc := 87) (u := (ps_A (ps_O (ps_O u 4 v2.1) 5 v2.2) 5 0 (upd (v2.2.2.1 0) x3.toNatClampNeg y5))) (v := .ref (z 5 2)) cx hw (lr_PL_nowsp_1 d z hh cf nh) (C := RX8) (T := TX8) (N := 6) rfl in_X8 (by decide) (nq298 cx.2.2.2.2.2.1) (fun _ h9 => h9) rfl dX1_reads_87 ?_
        refine lv_iload_n (pc := 90) cx.1 cx.2.1 dX1_reads_90 rfl (lv_at hl 5 rfl) ?_
        refine lv_aload_n (pc := 91) cx.1 cx.2.1 dX1_reads_91 rfl (lv_at hl 4 rfl) ?_
        refine lv_iload (pc := 92) cx.1 cx.2.1 dX1_reads_92 (lv_at hl 1 rfl) ?_
        refine lv_iconst (pc := 94) (v := 2) cx.1 cx.2.1 dX1_reads_94 (by decide) ?_
        refine lv_iadd (pc := 95) cx.1 cx.2.1 dX1_reads_95 ?_
        refine k_iald (pc := 96) (u := (ps_A (ps_O (ps_O u 4 v2.1) 5 v2.2) 5 0 (upd (v2.2.2.1 0) x3.toNatClampNeg y5))) (f := ((u.1 1).2.1 0)) cx hw (lx_PL_disk_0 d z hh cf nh) 0 rfl rfl hwp.1 dX1_reads_96 ?_
        replace hwp := hwp.2
        refine lv_topi (fun y6 ey6 => ?_)
        replace hwp := hwp y6 ey6
        refine k_iast (pc := 97) (u := (ps_A (ps_O (ps_O u 4 v2.1) 5 v2.2) 5 0 (upd (v2.2.2.1 0) x3.toNatClampNeg y5))) (f := (v2.2.2.1 1)) cx hw (ln_PL_nowsp_1 d z hh cf nh) 0 rfl rfl hwp.1 dX1_reads_97 (fun H locs hw => ?_)
        replace hwp := hwp.2
        refine lv_aload (pc := 98) cx.1 cx.2.1 dX1_reads_98 (lv_at hl 0 rfl) ?_
        refine k_getRN (pc := 100) (u := (ps_A (ps_A (ps_O (ps_O u 4 v2.1) 5 v2.2) 5 0 (upd (v2.2.2.1 0) x3.toNatClampNeg y5)) 5 1 (upd (v2.2.2.1 1) x3.toNatClampNeg y6))) (v := .ref (z 5 5)) cx hw (lr_PL_nowsp_4 d z hh cf nh) (C := RX8) (T := TX8) (N := 6) rfl in_X8 (by decide) (nq308 cx.2.2.2.2.2.1) (fun _ h9 => h9) rfl dX1_reads_100 ?_
        refine lv_iload_n (pc := 103) cx.1 cx.2.1 dX1_reads_103 rfl (lv_at hl 5 rfl) ?_
        refine lv_aload_n (pc := 104) cx.1 cx.2.1 dX1_reads_104 rfl (lv_at hl 4 rfl) ?_
        refine lv_iload (pc := 105) cx.1 cx.2.1 dX1_reads_105 (lv_at hl 1 rfl) ?_
        refine lv_iconst (pc := 107) (v := 3) cx.1 cx.2.1 dX1_reads_107 (by decide) ?_
        refine lv_iadd (pc := 108) cx.1 cx.2.1 dX1_reads_108 ?_
        refine k_iald (pc := 109) (u := (ps_A (ps_A (ps_O (ps_O u 4 v2.1) 5 v2.2) 5 0 (upd (v2.2.2.1 0) x3.toNatClampNeg y5)) 5 1 (upd (v2.2.2.1 1) x3.toNatClampNeg y6))) (f := ((u.1 1).2.1 0)) cx hw (lx_PL_disk_0 d z hh cf nh) 0 rfl rfl hwp.1 dX1_reads_109 ?_
        replace hwp := hwp.2
        refine lv_i2s (pc := 110) cx.1 cx.2.1 dX1_reads_110 rfl ?_
        refine lv_topi (fun y7 ey7 => ?_)
        replace hwp := hwp y7 ey7
        refine k_sast (pc := 111) (u := (ps_A (ps_A (ps_O (ps_O u 4 v2.1) 5 v2.2) 5 0 (upd (v2.2.2.1 0) x3.toNatClampNeg y5)) 5 1 (upd (v2.2.2.1 1) x3.toNatClampNeg y6))) (f := (v2.2.2.1 4)) cx hw (ln_PL_nowsp_4 d z hh cf nh) 1 rfl rfl hwp.1 dX1_reads_111 (fun H locs hw => ?_)
        replace hwp := hwp.2
        refine lv_aload (pc := 112) cx.1 cx.2.1 dX1_reads_112 (lv_at hl 0 rfl) ?_
        refine k_getRN (pc := 114) (u := (ps_A (ps_A (ps_A (ps_O (ps_O u 4 v2.1) 5 v2.2) 5 0 (upd (v2.2.2.1 0) x3.toNatClampNeg y5)) 5 1 (upd (v2.2.2.1 1) x3.toNatClampNeg y6)) 5 4 (upd (v2.2.2.1 4) x3.toNatClampNeg (vp_nar .short y7)))) (v := .ref (z 5 3)) cx hw (lr_PL_nowsp_2 d z hh cf nh) (C := RX8) (T := TX8) (N := 6) rfl in_X8 (by decide) (nq301 cx.2.2.2.2.2.1) (fun _ h9 => h9) rfl dX1_reads_114 ?_
        refine lv_iload_n (pc := 117) cx.1 cx.2.1 dX1_reads_117 rfl (lv_at hl 5 rfl) ?_
        refine lv_aload_n (pc := 118) cx.1 cx.2.1 dX1_reads_118 rfl (lv_at hl 4 rfl) ?_
        refine lv_iload (pc := 119) cx.1 cx.2.1 dX1_reads_119 (lv_at hl 1 rfl) ?_
        refine lv_iconst (pc := 121) (v := 4) cx.1 cx.2.1 dX1_reads_121 (by decide) ?_
        refine lv_iadd (pc := 122) cx.1 cx.2.1 dX1_reads_122 ?_
        refine k_iald (pc := 123) (u := (ps_A (ps_A (ps_A (ps_O (ps_O u 4 v2.1) 5 v2.2) 5 0 (upd (v2.2.2.1 0) x3.toNatClampNeg y5)) 5 1 (upd (v2.2.2.1 1) x3.toNatClampNeg y6)) 5 4 (upd (v2.2.2.1 4) x3.toNatClampNeg (vp_nar .short y7)))) (f := ((u.1 1).2.1 0)) cx hw (lx_PL_disk_0 d z hh cf nh) 0 rfl rfl hwp.1 dX1_reads_123 ?_
        replace hwp := hwp.2
        refine lv_topi (fun y8 ey8 => ?_)
        replace hwp := hwp y8 ey8
        refine k_iast (pc := 124) (u := (ps_A (ps_A (ps_A (ps_O (ps_O u 4 v2.1) 5 v2.2) 5 0 (upd (v2.2.2.1 0) x3.toNatClampNeg y5)) 5 1 (upd (v2.2.2.1 1) x3.toNatClampNeg y6)) 5 4 (upd (v2.2.2.1 4) x3.toNatClampNeg (vp_nar .short y7)))) (f := (v2.2.2.1 2)) cx hw (ln_PL_nowsp_2 d z hh cf nh) 0 rfl rfl hwp.1 dX1_reads_124 (fun H locs hw => ?_)
        replace hwp := hwp.2
        refine lv_aload (pc := 125) cx.1 cx.2.1 dX1_reads_125 (lv_at hl 0 rfl) ?_
        refine k_getRN (pc := 127) (u := (ps_A (ps_A (ps_A (ps_A (ps_O (ps_O u 4 v2.1) 5 v2.2) 5 0 (upd (v2.2.2.1 0) x3.toNatClampNeg y5)) 5 1 (upd (v2.2.2.1 1) x3.toNatClampNeg y6)) 5 4 (upd (v2.2.2.1 4) x3.toNatClampNeg (vp_nar .short y7))) 5 2 (upd (v2.2.2.1 2) x3.toNatClampNeg y8))) (v := .ref (z 5 4)) cx hw (lr_PL_nowsp_3 d z hh cf nh) (C := RX8) (T := TX8) (N := 6) rfl in_X8 (by decide) (nq304 cx.2.2.2.2.2.1) (fun _ h9 => h9) rfl dX1_reads_127 ?_
        refine lv_iload_n (pc := 130) cx.1 cx.2.1 dX1_reads_130 rfl (lv_at hl 5 rfl) ?_
        refine lv_aload_n (pc := 131) cx.1 cx.2.1 dX1_reads_131 rfl (lv_at hl 4 rfl) ?_
        refine lv_iload (pc := 132) cx.1 cx.2.1 dX1_reads_132 (lv_at hl 1 rfl) ?_
        refine lv_iconst (pc := 134) (v := 5) cx.1 cx.2.1 dX1_reads_134 (by decide) ?_
        refine lv_iadd (pc := 135) cx.1 cx.2.1 dX1_reads_135 ?_
        refine k_iald (pc := 136) (u := (ps_A (ps_A (ps_A (ps_A (ps_O (ps_O u 4 v2.1) 5 v2.2) 5 0 (upd (v2.2.2.1 0) x3.toNatClampNeg y5)) 5 1 (upd (v2.2.2.1 1) x3.toNatClampNeg y6)) 5 4 (upd (v2.2.2.1 4) x3.toNatClampNeg (vp_nar .short y7))) 5 2 (upd (v2.2.2.1 2) x3.toNatClampNeg y8))) (f := ((u.1 1).2.1 0)) cx hw (lx_PL_disk_0 d z hh cf nh) 0 rfl rfl hwp.1 dX1_reads_136 ?_
        replace hwp := hwp.2
        refine lv_topi (fun y9 ey9 => ?_)
        replace hwp := hwp y9 ey9
        refine k_iast (pc := 137) (u := (ps_A (ps_A (ps_A (ps_A (ps_O (ps_O u 4 v2.1) 5 v2.2) 5 0 (upd (v2.2.2.1 0) x3.toNatClampNeg y5)) 5 1 (upd (v2.2.2.1 1) x3.toNatClampNeg y6)) 5 4 (upd (v2.2.2.1 4) x3.toNatClampNeg (vp_nar .short y7))) 5 2 (upd (v2.2.2.1 2) x3.toNatClampNeg y8))) (f := (v2.2.2.1 3)) cx hw (ln_PL_nowsp_3 d z hh cf nh) 0 rfl rfl hwp.1 dX1_reads_137 (fun H locs hw => ?_)
        replace hwp := hwp.2
        refine lv_aload (pc := 138) cx.1 cx.2.1 dX1_reads_138 (lv_at hl 0 rfl) ?_
        refine k_getRN (pc := 140) (u := (ps_A (ps_A (ps_A (ps_A (ps_A (ps_O (ps_O u 4 v2.1) 5 v2.2) 5 0 (upd (v2.2.2.1 0) x3.toNatClampNeg y5)) 5 1 (upd (v2.2.2.1 1) x3.toNatClampNeg y6)) 5 4 (upd (v2.2.2.1 4) x3.toNatClampNeg (vp_nar .short y7))) 5 2 (upd (v2.2.2.1 2) x3.toNatClampNeg y8)) 5 3 (upd (v2.2.2.1 3) x3.toNatClampNeg y9))) (v := .ref (z 5 6)) cx hw (lr_PL_nowsp_5 d z hh cf nh) (C := RX8) (T := TX8) (N := 6) rfl in_X8 (by decide) (nq311 cx.2.2.2.2.2.1) (fun _ h9 => h9) rfl dX1_reads_140 ?_
        refine lv_iload_n (pc := 143) cx.1 cx.2.1 dX1_reads_143 rfl (lv_at hl 5 rfl) ?_
        refine lv_aload_n (pc := 144) cx.1 cx.2.1 dX1_reads_144 rfl (lv_at hl 4 rfl) ?_
        refine lv_iload (pc := 145) cx.1 cx.2.1 dX1_reads_145 (lv_at hl 1 rfl) ?_
        refine lv_bipush (pc := 147) (v := 6) cx.1 cx.2.1 dX1_reads_147 (by decide) ?_
        refine lv_iadd (pc := 149) cx.1 cx.2.1 dX1_reads_149 ?_
        refine k_iald (pc := 150) (u := (ps_A (ps_A (ps_A (ps_A (ps_A (ps_O (ps_O u 4 v2.1) 5 v2.2) 5 0 (upd (v2.2.2.1 0) x3.toNatClampNeg y5)) 5 1 (upd (v2.2.2.1 1) x3.toNatClampNeg y6)) 5 4 (upd (v2.2.2.1 4) x3.toNatClampNeg (vp_nar .short y7))) 5 2 (upd (v2.2.2.1 2) x3.toNatClampNeg y8)) 5 3 (upd (v2.2.2.1 3) x3.toNatClampNeg y9))) (f := ((u.1 1).2.1 0)) cx hw (lx_PL_disk_0 d z hh cf nh) 0 rfl rfl hwp.1 dX1_reads_150 ?_
        replace hwp := hwp.2
        refine lv_i2l (pc := 151) cx.1 cx.2.1 dX1_reads_151 rfl ?_
        refine lv_bipush (pc := 152) (v := 32) cx.1 cx.2.1 dX1_reads_152 (by decide) ?_
        refine lv_lshl (pc := 154) cx.1 cx.2.1 dX1_reads_154 rfl ?_
        refine lv_aload_n (pc := 155) cx.1 cx.2.1 dX1_reads_155 rfl (lv_at hl 4 rfl) ?_
        refine lv_iload (pc := 156) cx.1 cx.2.1 dX1_reads_156 (lv_at hl 1 rfl) ?_
        refine lv_bipush (pc := 158) (v := 7) cx.1 cx.2.1 dX1_reads_158 (by decide) ?_
        refine lv_iadd (pc := 160) cx.1 cx.2.1 dX1_reads_160 ?_
        refine k_iald (pc := 161) (u := (ps_A (ps_A (ps_A (ps_A (ps_A (ps_O (ps_O u 4 v2.1) 5 v2.2) 5 0 (upd (v2.2.2.1 0) x3.toNatClampNeg y5)) 5 1 (upd (v2.2.2.1 1) x3.toNatClampNeg y6)) 5 4 (upd (v2.2.2.1 4) x3.toNatClampNeg (vp_nar .short y7))) 5 2 (upd (v2.2.2.1 2) x3.toNatClampNeg y8)) 5 3 (upd (v2.2.2.1 3) x3.toNatClampNeg y9))) (f := ((u.1 1).2.1 0)) cx hw (lx_PL_disk_0 d z hh cf nh) 0 rfl rfl hwp.1 dX1_reads_161 ?_
        replace hwp := hwp.2
        refine lv_i2l (pc := 162) cx.1 cx.2.1 dX1_reads_162 rfl ?_
        refine lv_ldc2 (pc := 163) (v := 4294967295) cx.1 cx.2.1 cx.2.2.2.1 (cx.2.2.2.2.1 _ q848) dX1_reads_163 ?_
        refine lv_land (pc := 166) cx.1 cx.2.1 dX1_reads_166 ?_
        refine lv_lor (pc := 167) cx.1 cx.2.1 dX1_reads_167 ?_
        refine lv_topl (fun y10 ey10 => ?_)
        replace hwp := hwp y10 ey10
        refine k_last (pc := 168) (u := (ps_A (ps_A (ps_A (ps_A (ps_A (ps_O (ps_O u 4 v2.1) 5 v2.2) 5 0 (upd (v2.2.2.1 0) x3.toNatClampNeg y5)) 5 1 (upd (v2.2.2.1 1) x3.toNatClampNeg y6)) 5 4 (upd (v2.2.2.1 4) x3.toNatClampNeg (vp_nar .short y7))) 5 2 (upd (v2.2.2.1 2) x3.toNatClampNeg y8)) 5 3 (upd (v2.2.2.1 3) x3.toNatClampNeg y9))) (f := (v2.2.2.2.2 5)) cx hw (ln_PL_nowsp_5 d z hh cf nh) 2 rfl rfl hwp.1 dX1_reads_168 (fun H locs hw => ?_)
        replace hwp := hwp.2
        refine lv_aload_n (pc := 169) cx.1 cx.2.1 dX1_reads_169 rfl (lv_at hl 2 rfl) ?_
        refine k_getR (pc := 170) (u := (ps_B (ps_A (ps_A (ps_A (ps_A (ps_A (ps_O (ps_O u 4 v2.1) 5 v2.2) 5 0 (upd (v2.2.2.1 0) x3.toNatClampNeg y5)) 5 1 (upd (v2.2.2.1 1) x3.toNatClampNeg y6)) 5 4 (upd (v2.2.2.1 4) x3.toNatClampNeg (vp_nar .short y7))) 5 2 (upd (v2.2.2.1 2) x3.toNatClampNeg y8)) 5 3 (upd (v2.2.2.1 3) x3.toNatClampNeg y9)) 5 5 (vp_updL (v2.2.2.2.2 5) x3.toNatClampNeg y10))) (v := .ref (z 4 0)) cx hw (lr_PL_pl_7 d z hh cf nh) (C := RX1) (T := TX1) (N := 21) rfl in_X1 (by decide) q485 (fun _ h9 => h9) rfl dX1_reads_170 ?_
        refine k_getRN (pc := 173) (u := (ps_B (ps_A (ps_A (ps_A (ps_A (ps_A (ps_O (ps_O u 4 v2.1) 5 v2.2) 5 0 (upd (v2.2.2.1 0) x3.toNatClampNeg y5)) 5 1 (upd (v2.2.2.1 1) x3.toNatClampNeg y6)) 5 4 (upd (v2.2.2.1 4) x3.toNatClampNeg (vp_nar .short y7))) 5 2 (upd (v2.2.2.1 2) x3.toNatClampNeg y8)) 5 3 (upd (v2.2.2.1 3) x3.toNatClampNeg y9)) 5 5 (vp_updL (v2.2.2.2.2 5) x3.toNatClampNeg y10))) (v := .ref (z 4 2)) cx hw (lr_PL_now_2 d z hh cf nh) (C := RX7) (T := TX7) (N := 7) rfl in_X7 (by decide) (nq334 cx.2.2.2.2.2.1) (fun _ h9 => h9) rfl dX1_reads_173 ?_
        refine lv_iload_n (pc := 176) cx.1 cx.2.1 dX1_reads_176 rfl (lv_at hl 5 rfl) ?_
        refine lv_aload_n (pc := 177) cx.1 cx.2.1 dX1_reads_177 rfl (lv_at hl 4 rfl) ?_
        refine lv_iload (pc := 178) cx.1 cx.2.1 dX1_reads_178 (lv_at hl 1 rfl) ?_
        refine lv_bipush (pc := 180) (v := 8) cx.1 cx.2.1 dX1_reads_180 (by decide) ?_
        refine lv_iadd (pc := 182) cx.1 cx.2.1 dX1_reads_182 ?_
        refine k_iald (pc := 183) (u := (ps_B (ps_A (ps_A (ps_A (ps_A (ps_A (ps_O (ps_O u 4 v2.1) 5 v2.2) 5 0 (upd (v2.2.2.1 0) x3.toNatClampNeg y5)) 5 1 (upd (v2.2.2.1 1) x3.toNatClampNeg y6)) 5 4 (upd (v2.2.2.1 4) x3.toNatClampNeg (vp_nar .short y7))) 5 2 (upd (v2.2.2.1 2) x3.toNatClampNeg y8)) 5 3 (upd (v2.2.2.1 3) x3.toNatClampNeg y9)) 5 5 (vp_updL (v2.2.2.2.2 5) x3.toNatClampNeg y10))) (f := ((u.1 1).2.1 0)) cx hw (lx_PL_disk_0 d z hh cf nh) 0 rfl rfl hwp.1 dX1_reads_183 ?_
        replace hwp := hwp.2
        refine lv_i2c (pc := 184) cx.1 cx.2.1 dX1_reads_184 rfl ?_
        refine lv_topi (fun y11 ey11 => ?_)
        replace hwp := hwp y11 ey11
        refine k_cast (pc := 185) (u := (ps_B (ps_A (ps_A (ps_A (ps_A (ps_A (ps_O (ps_O u 4 v2.1) 5 v2.2) 5 0 (upd (v2.2.2.1 0) x3.toNatClampNeg y5)) 5 1 (upd (v2.2.2.1 1) x3.toNatClampNeg y6)) 5 4 (upd (v2.2.2.1 4) x3.toNatClampNeg (vp_nar .short y7))) 5 2 (upd (v2.2.2.1 2) x3.toNatClampNeg y8)) 5 3 (upd (v2.2.2.1 3) x3.toNatClampNeg y9)) 5 5 (vp_updL (v2.2.2.2.2 5) x3.toNatClampNeg y10))) (f := (v2.1.2.1 2)) cx hw (ln_PL_now_2 d z hh cf nh) 4 rfl rfl hwp.1 dX1_reads_185 (fun H locs hw => ?_)
        replace hwp := hwp.2
        refine lv_aload_n (pc := 186) cx.1 cx.2.1 dX1_reads_186 rfl (lv_at hl 2 rfl) ?_
        refine k_getR (pc := 187) (u := (ps_A (ps_B (ps_A (ps_A (ps_A (ps_A (ps_A (ps_O (ps_O u 4 v2.1) 5 v2.2) 5 0 (upd (v2.2.2.1 0) x3.toNatClampNeg y5)) 5 1 (upd (v2.2.2.1 1) x3.toNatClampNeg y6)) 5 4 (upd (v2.2.2.1 4) x3.toNatClampNeg (vp_nar .short y7))) 5 2 (upd (v2.2.2.1 2) x3.toNatClampNeg y8)) 5 3 (upd (v2.2.2.1 3) x3.toNatClampNeg y9)) 5 5 (vp_updL (v2.2.2.2.2 5) x3.toNatClampNeg y10)) 4 2 (upd (v2.1.2.1 2) x3.toNatClampNeg (vp_nar .char y11)))) (v := .ref (z 4 0)) cx hw (lr_PL_pl_7 d z hh cf nh) (C := RX1) (T := TX1) (N := 21) rfl in_X1 (by decide) q485 (fun _ h9 => h9) rfl dX1_reads_187 ?_
        refine k_getRN (pc := 190) (u := (ps_A (ps_B (ps_A (ps_A (ps_A (ps_A (ps_A (ps_O (ps_O u 4 v2.1) 5 v2.2) 5 0 (upd (v2.2.2.1 0) x3.toNatClampNeg y5)) 5 1 (upd (v2.2.2.1 1) x3.toNatClampNeg y6)) 5 4 (upd (v2.2.2.1 4) x3.toNatClampNeg (vp_nar .short y7))) 5 2 (upd (v2.2.2.1 2) x3.toNatClampNeg y8)) 5 3 (upd (v2.2.2.1 3) x3.toNatClampNeg y9)) 5 5 (vp_updL (v2.2.2.2.2 5) x3.toNatClampNeg y10)) 4 2 (upd (v2.1.2.1 2) x3.toNatClampNeg (vp_nar .char y11)))) (v := .ref (z 4 3)) cx hw (lr_PL_now_3 d z hh cf nh) (C := RX7) (T := TX7) (N := 7) rfl in_X7 (by decide) (nq336 cx.2.2.2.2.2.1) (fun _ h9 => h9) rfl dX1_reads_190 ?_
        refine lv_iload_n (pc := 193) cx.1 cx.2.1 dX1_reads_193 rfl (lv_at hl 5 rfl) ?_
        refine lv_aload_n (pc := 194) cx.1 cx.2.1 dX1_reads_194 rfl (lv_at hl 4 rfl) ?_
        refine lv_iload (pc := 195) cx.1 cx.2.1 dX1_reads_195 (lv_at hl 1 rfl) ?_
        refine lv_bipush (pc := 197) (v := 9) cx.1 cx.2.1 dX1_reads_197 (by decide) ?_
        refine lv_iadd (pc := 199) cx.1 cx.2.1 dX1_reads_199 ?_
        refine k_iald (pc := 200) (u := (ps_A (ps_B (ps_A (ps_A (ps_A (ps_A (ps_A (ps_O (ps_O u 4 v2.1) 5 v2.2) 5 0 (upd (v2.2.2.1 0) x3.toNatClampNeg y5)) 5 1 (upd (v2.2.2.1 1) x3.toNatClampNeg y6)) 5 4 (upd (v2.2.2.1 4) x3.toNatClampNeg (vp_nar .short y7))) 5 2 (upd (v2.2.2.1 2) x3.toNatClampNeg y8)) 5 3 (upd (v2.2.2.1 3) x3.toNatClampNeg y9)) 5 5 (vp_updL (v2.2.2.2.2 5) x3.toNatClampNeg y10)) 4 2 (upd (v2.1.2.1 2) x3.toNatClampNeg (vp_nar .char y11)))) (f := ((u.1 1).2.1 0)) cx hw (lx_PL_disk_0 d z hh cf nh) 0 rfl rfl hwp.1 dX1_reads_200 ?_
        replace hwp := hwp.2
        refine lv_i2s (pc := 201) cx.1 cx.2.1 dX1_reads_201 rfl ?_
        refine lv_topi (fun y12 ey12 => ?_)
        replace hwp := hwp y12 ey12
        refine k_sast (pc := 202) (u := (ps_A (ps_B (ps_A (ps_A (ps_A (ps_A (ps_A (ps_O (ps_O u 4 v2.1) 5 v2.2) 5 0 (upd (v2.2.2.1 0) x3.toNatClampNeg y5)) 5 1 (upd (v2.2.2.1 1) x3.toNatClampNeg y6)) 5 4 (upd (v2.2.2.1 4) x3.toNatClampNeg (vp_nar .short y7))) 5 2 (upd (v2.2.2.1 2) x3.toNatClampNeg y8)) 5 3 (upd (v2.2.2.1 3) x3.toNatClampNeg y9)) 5 5 (vp_updL (v2.2.2.2.2 5) x3.toNatClampNeg y10)) 4 2 (upd (v2.1.2.1 2) x3.toNatClampNeg (vp_nar .char y11)))) (f := (v2.1.2.1 3)) cx hw (ln_PL_now_3 d z hh cf nh) 1 rfl rfl hwp.1 dX1_reads_202 (fun H locs hw => ?_)
        replace hwp := hwp.2
        refine lv_iinc (pc := 203) (v := (x3 + (1 : Int32))) (lv' := [(3, .int (x3 + (1 : Int32))), (5, .ref (z 5 0)), (4, .int ((x1 + (1 : Int32)) + ((10 : Int32) * x3))), (0, .ref (z 0 0)), (1, .int x1), (2, .ref (z 1 1))]) cx.1 cx.2.1 dX1_reads_203 hl (k := 5) rfl rfl (by decide) rfl (fun ls hl => ?_)
        refine lv_goto (pc := 206) (tgt := 29) cx.1 cx.2.1 dX1_reads_206 (by decide) ?_
        exact ih _ _ _ _ _ _ hwp hw (lv_sub hl [3, 4, 5, 0] rfl)
      · replace hwp := hwp.2 c4
        refine lv_goto (pc := 60) (tgt := 209) cx.1 cx.2.1 dX1_reads_60 (by decide) ?_
        exact wk_X1_reads_209 cx  _ _ _ _ hwp hw (lv_sub hl [1] rfl)
set_option maxHeartbeats 4000000 in
theorem m_X1_reads (l : Launch) (dC : Nat → ClassId) (dI : Nat → Nat → Nat) (d : Nat → ClassId) (z : Nat → Nat → Nat) (hh : Nat → Nat → Nat) (cf : List Value) (nh : Nat) (u : PS) {K : PS → Prop} (hwp : wp_X1_reads nh u K) : kM l yX1_reads cX1_reads 6 none ({ frames := 3, cells := 0, slots := 0, locals := 69 } : Room) dC dI d [.ref (z 0 0)] (wP d nh hh cf z) u (kQv dC dI (wP d nh hh cf z) K) 0 0 := by
  refine kM_start rfl (Nat.le_of_ble_eq_true rfl) ?_
  intro p e s m below meth c A ls cx hnm hw hl
  generalize hargs : ([.ref (z 0 0)] : List Value).toArray = args at cx ⊢
  unfold wp_X1_reads at hwp
  replace hl : lv_has ls 6 [(0, .ref (z 0 0))] := hl
  generalize hH : s.heap = H at hw ⊢
  generalize hlo : ([] : List Loc) = locs at hw ⊢
  refine lv_iconst (pc := 0) (v := 1) cx.1 cx.2.1 dX1_reads_0 (by decide) ?_
  refine lv_aload_n (pc := 1) cx.1 cx.2.1 dX1_reads_1 rfl (lv_at hl 0 rfl) ?_
  refine k_getI (pc := 2) (u := u) (v := ((u.1 0).1 13)) cx hw (ln_PL_pl_13 d z hh cf nh) (C := RX1) (T := TX1) (N := 21) rfl in_X1 (by decide) q492 (fun _ h9 => h9) rfl dX1_reads_2 ?_
  refine lv_sipush (pc := 5) (v := 961) cx.1 cx.2.1 dX1_reads_5 (by decide) ?_
  refine lv_imul (pc := 8) cx.1 cx.2.1 dX1_reads_8 ?_
  refine lv_iadd (pc := 9) cx.1 cx.2.1 dX1_reads_9 ?_
  refine lv_istore_n (pc := 10) (lv' := [(1, .int ((1 : Int32) + (((u.1 0).1 13) * (961 : Int32)))), (0, .ref (z 0 0))]) cx.1 cx.2.1 dX1_reads_10 rfl hl (by decide) rfl (fun ls hl => ?_)
  refine lv_aload_n (pc := 11) cx.1 cx.2.1 dX1_reads_11 rfl (lv_at hl 1 rfl) ?_
  refine k_getR (pc := 12) (u := u) (v := .ref (z 1 0)) cx hw (lr_PL_pl_3 d z hh cf nh) (C := RX1) (T := TX1) (N := 21) rfl in_X1 (by decide) q479 (fun _ h9 => h9) rfl dX1_reads_12 ?_
  refine k_getRN (pc := 15) (u := u) (v := .ref (z 1 1)) cx hw (lr_PL_disk_0 d z hh cf nh) (C := RX2) (T := TX2) (N := 5) rfl in_X2 (by decide) (nq191 cx.2.2.2.2.2.1) (fun _ h9 => h9) rfl dX1_reads_15 ?_
  refine lv_astore_n (pc := 18) (lv' := [(2, .ref (z 1 1)), (1, .int ((1 : Int32) + (((u.1 0).1 13) * (961 : Int32)))), (0, .ref (z 0 0))]) cx.1 cx.2.1 dX1_reads_18 rfl hl (by decide) rfl (fun ls hl => ?_)
  refine lv_aload_n (pc := 19) cx.1 cx.2.1 dX1_reads_19 rfl (lv_at hl 2 rfl) ?_
  refine k_getR (pc := 20) (u := u) (v := .ref (z 4 0)) cx hw (lr_PL_pl_7 d z hh cf nh) (C := RX1) (T := TX1) (N := 21) rfl in_X1 (by decide) q485 (fun _ h9 => h9) rfl dX1_reads_20 ?_
  refine lv_iconst (pc := 23) (v := 0) cx.1 cx.2.1 dX1_reads_23 (by decide) ?_
  refine k_putIN (pc := 24) (u := u) (v := (0 : Int32)) cx hw (ln_PL_now_5 d z hh cf nh) (C := RX7) (T := TX7) (N := 7) rfl in_X7 tyX7 tyX7_ok nmX7 (by decide) (nq340 cx.2.2.2.2.2.1) (fun _ h9 => h9) rfl rfl rfl dX1_reads_24 (fun H locs hw => ?_)
  refine lv_iconst (pc := 27) (v := 0) cx.1 cx.2.1 dX1_reads_27 (by decide) ?_
  refine lv_istore_n (pc := 28) (lv' := [(3, .int (0 : Int32)), (2, .ref (z 1 1)), (1, .int ((1 : Int32) + (((u.1 0).1 13) * (961 : Int32)))), (0, .ref (z 0 0))]) cx.1 cx.2.1 dX1_reads_28 rfl hl (by decide) rfl (fun ls hl => ?_)
  obtain ⟨n29, hwp⟩ := hwp
  exact wk_X1_reads_29 cx n29 _ _ _ _ _ _ hwp hw (lv_sub hl [3, 2, 1, 0] rfl)
set_option maxHeartbeats 4000000 in
theorem wk_X1_recover_211 {p : Program} {l : Launch} {e : Env} {s : State} {m : MethodId} {args : Array Value} {below : List Frame} {meth : Method} {c : Code} {A : Nat → Prop} {dC : Nat → ClassId} {dI : Nat → Nat → Nat} {d : Nat → ClassId} {z : Nat → Nat → Nat} {hh : Nat → Nat → Nat} {cf : List Value}{nh : Nat} {K : Int32 → PS → Prop} (cx : Cx p s m args meth c cX1_recover RX1 5 (some .int) A dC dI d) : ∀ (n : Nat) (x1 : Int32) (x2 : Int32) (u : PS) (H : Heap) (locs : List Loc) (ls : Array Slot), wp_X1_recover_211 nh K n x1 x2 u → Wd dC dI A ((wP d nh hh cf z) u) s H locs → lv_has ls 5 [(0, .ref (z 0 0)), (1, .int x1), (2, .int x2)] → W p l e ({ frames := 4, cells := 0, slots := 0, locals := 94 } : Room) s m args below meth c H locs 0 0 (MQ below (kQi dC dI (wP d nh hh cf z) K A) args s 0 0 A) (F0 m 211 ls []) := by
  intro n
  induction n with
  | zero =>
    intros; contradiction
  | succ n ih =>
    intro x1 x2 u H locs ls hwp hw hl
    unfold wp_X1_recover_211 at hwp
    refine lv_iload_n (pc := 211) cx.1 cx.2.1 dX1_recover_211 rfl (lv_at hl 2 rfl) ?_
    refine lv_aload_n (pc := 212) cx.1 cx.2.1 dX1_recover_212 rfl (lv_at hl 0 rfl) ?_
    refine k_getR (pc := 213) (u := u) (v := .ref (z 4 0)) cx hw (lr_PL_pl_7 d z hh cf nh) (C := RX1) (T := TX1) (N := 21) rfl in_X1 (by decide) q485 (fun _ h9 => h9) rfl dX1_recover_213 ?_
    refine k_getIN (pc := 216) (u := u) (v := ((u.1 4).1 5)) cx hw (ln_PL_now_5 d z hh cf nh) (C := RX7) (T := TX7) (N := 7) rfl in_X7 (by decide) (nq340 cx.2.2.2.2.2.1) (fun _ h9 => h9) rfl dX1_recover_216 ?_
    refine lv_icmp_ge (pc := 219) (tgt := 243) cx.1 cx.2.1 dX1_recover_219 (by decide) (fun c1 => ?_) (fun c1 => ?_)
    · replace hwp := hwp.1 c1
      refine lv_iload_n (pc := 243) cx.1 cx.2.1 dX1_recover_243 rfl (lv_at hl 1 rfl) ?_
      exact k_iret (pc := 244) (wf := (wP d nh hh cf z)) (u := u) cx hw hwp (by decide) (by decide) dX1_recover_244
    · replace hwp := hwp.2 c1
      refine lv_iload_n (pc := 222) cx.1 cx.2.1 dX1_recover_222 rfl (lv_at hl 1 rfl) ?_
      refine lv_aload_n (pc := 223) cx.1 cx.2.1 dX1_recover_223 rfl (lv_at hl 0 rfl) ?_
      refine k_getR (pc := 224) (u := u) (v := .ref (z 4 0)) cx hw (lr_PL_pl_7 d z hh cf nh) (C := RX1) (T := TX1) (N := 21) rfl in_X1 (by decide) q485 (fun _ h9 => h9) rfl dX1_recover_224 ?_
      refine k_getRN (pc := 227) (u := u) (v := .ref (z 5 0)) cx hw (lr_PL_now_0 d z hh cf nh) (C := RX7) (T := TX7) (N := 7) rfl in_X7 (by decide) (nq329 cx.2.2.2.2.2.1) (fun _ h9 => h9) rfl dX1_recover_227 ?_
      refine k_getRN (pc := 230) (u := u) (v := .ref (z 5 5)) cx hw (lr_PL_nowsp_4 d z hh cf nh) (C := RX8) (T := TX8) (N := 6) rfl in_X8 (by decide) (nq308 cx.2.2.2.2.2.1) (fun _ h9 => h9) rfl dX1_recover_230 ?_
      refine lv_iload_n (pc := 233) cx.1 cx.2.1 dX1_recover_233 rfl (lv_at hl 2 rfl) ?_
      refine k_sald (pc := 234) (u := u) (f := ((u.1 5).2.1 4)) cx hw (lx_PL_nowsp_4 d z hh cf nh) 1 rfl rfl hwp.1 dX1_recover_234 ?_
      replace hwp := hwp.2
      refine lv_iadd (pc := 235) cx.1 cx.2.1 dX1_recover_235 ?_
      refine lv_istore_n (pc := 236) (lv' := [(1, .int (x1 + (((u.1 5).2.1 4) x2.toNatClampNeg))), (0, .ref (z 0 0)), (2, .int x2)]) cx.1 cx.2.1 dX1_recover_236 rfl hl (by decide) rfl (fun ls hl => ?_)
      refine lv_iinc (pc := 237) (v := (x2 + (1 : Int32))) (lv' := [(2, .int (x2 + (1 : Int32))), (1, .int (x1 + (((u.1 5).2.1 4) x2.toNatClampNeg))), (0, .ref (z 0 0))]) cx.1 cx.2.1 dX1_recover_237 hl (k := 2) rfl rfl (by decide) rfl (fun ls hl => ?_)
      refine lv_goto (pc := 240) (tgt := 211) cx.1 cx.2.1 dX1_recover_240 (by decide) ?_
      exact ih _ _ _ _ _ _ hwp hw (lv_sub hl [2, 1, 0] rfl)
set_option maxHeartbeats 4000000 in
theorem wk_X1_recover_102 {p : Program} {l : Launch} {e : Env} {s : State} {m : MethodId} {args : Array Value} {below : List Frame} {meth : Method} {c : Code} {A : Nat → Prop} {dC : Nat → ClassId} {dI : Nat → Nat → Nat} {d : Nat → ClassId} {z : Nat → Nat → Nat} {hh : Nat → Nat → Nat} {cf : List Value}{nh : Nat} {K : Int32 → PS → Prop} (cx : Cx p s m args meth c cX1_recover RX1 5 (some .int) A dC dI d) : ∀ (n : Nat)  (u : PS) (H : Heap) (locs : List Loc) (ls : Array Slot), wp_X1_recover_102 nh K n  u → Wd dC dI A ((wP d nh hh cf z) u) s H locs → lv_has ls 5 [(0, .ref (z 0 0))] → W p l e ({ frames := 4, cells := 0, slots := 0, locals := 94 } : Room) s m args below meth c H locs 0 0 (MQ below (kQi dC dI (wP d nh hh cf z) K A) args s 0 0 A) (F0 m 102 ls []) := by
  intro n
  induction n with
  | zero =>
    intros; contradiction
  | succ n ih =>
    intro  u H locs ls hwp hw hl
    unfold wp_X1_recover_102 at hwp
    refine lv_aload_n (pc := 102) cx.1 cx.2.1 dX1_recover_102 rfl (lv_at hl 0 rfl) ?_
    refine k_getI (pc := 103) (u := u) (v := ((u.1 0).1 14)) cx hw (ln_PL_pl_14 d z hh cf nh) (C := RX1) (T := TX1) (N := 21) rfl in_X1 (by decide) q493 (fun _ h9 => h9) rfl dX1_recover_103 ?_
    refine lv_sipush (pc := 106) (v := 128) cx.1 cx.2.1 dX1_recover_106 (by decide) ?_
    refine lv_icmp_ge (pc := 109) (tgt := 204) cx.1 cx.2.1 dX1_recover_109 (by decide) (fun c1 => ?_) (fun c1 => ?_)
    · replace hwp := hwp.1 c1
      refine lv_aload_n (pc := 204) cx.1 cx.2.1 dX1_recover_204 rfl (lv_at hl 0 rfl) ?_
      refine k_getI (pc := 205) (u := u) (v := ((u.1 0).1 14)) cx hw (ln_PL_pl_14 d z hh cf nh) (C := RX1) (T := TX1) (N := 21) rfl in_X1 (by decide) q493 (fun _ h9 => h9) rfl dX1_recover_205 ?_
      refine lv_istore_n (pc := 208) (lv' := [(1, .int ((u.1 0).1 14)), (0, .ref (z 0 0))]) cx.1 cx.2.1 dX1_recover_208 rfl hl (by decide) rfl (fun ls hl => ?_)
      refine lv_iconst (pc := 209) (v := 0) cx.1 cx.2.1 dX1_recover_209 (by decide) ?_
      refine lv_istore_n (pc := 210) (lv' := [(2, .int (0 : Int32)), (1, .int ((u.1 0).1 14)), (0, .ref (z 0 0))]) cx.1 cx.2.1 dX1_recover_210 rfl hl (by decide) rfl (fun ls hl => ?_)
      obtain ⟨n211, hwp⟩ := hwp
      exact wk_X1_recover_211 cx n211 _ _ _ _ _ _ hwp hw (lv_sub hl [2, 1, 0] rfl)
    · replace hwp := hwp.2 c1
      refine lv_aload_n (pc := 112) cx.1 cx.2.1 dX1_recover_112 rfl (lv_at hl 0 rfl) ?_
      refine k_getR (pc := 113) (u := u) (v := .ref (z 1 0)) cx hw (lr_PL_pl_3 d z hh cf nh) (C := RX1) (T := TX1) (N := 21) rfl in_X1 (by decide) q479 (fun _ h9 => h9) rfl dX1_recover_113 ?_
      refine k_getRN (pc := 116) (u := u) (v := .ref (z 1 1)) cx hw (lr_PL_disk_0 d z hh cf nh) (C := RX2) (T := TX2) (N := 5) rfl in_X2 (by decide) (nq191 cx.2.2.2.2.2.1) (fun _ h9 => h9) rfl dX1_recover_116 ?_
      refine lv_sipush (pc := 119) (v := 1923) cx.1 cx.2.1 dX1_recover_119 (by decide) ?_
      refine lv_iconst (pc := 122) (v := 4) cx.1 cx.2.1 dX1_recover_122 (by decide) ?_
      refine lv_aload_n (pc := 123) cx.1 cx.2.1 dX1_recover_123 rfl (lv_at hl 0 rfl) ?_
      refine k_getI (pc := 124) (u := u) (v := ((u.1 0).1 14)) cx hw (ln_PL_pl_14 d z hh cf nh) (C := RX1) (T := TX1) (N := 21) rfl in_X1 (by decide) q493 (fun _ h9 => h9) rfl dX1_recover_124 ?_
      refine lv_imul (pc := 127) cx.1 cx.2.1 dX1_recover_127 ?_
      refine lv_iadd (pc := 128) cx.1 cx.2.1 dX1_recover_128 ?_
      refine lv_iconst (pc := 129) (v := 3) cx.1 cx.2.1 dX1_recover_129 (by decide) ?_
      refine lv_iadd (pc := 130) cx.1 cx.2.1 dX1_recover_130 ?_
      refine k_iald (pc := 131) (u := u) (f := ((u.1 1).2.1 0)) cx hw (lx_PL_disk_0 d z hh cf nh) 0 rfl rfl hwp.1 dX1_recover_131 ?_
      replace hwp := hwp.2
      refine lv_aload_n (pc := 132) cx.1 cx.2.1 dX1_recover_132 rfl (lv_at hl 0 rfl) ?_
      refine k_getI (pc := 133) (u := u) (v := ((u.1 0).1 12)) cx hw (ln_PL_pl_12 d z hh cf nh) (C := RX1) (T := TX1) (N := 21) rfl in_X1 (by decide) q491 (fun _ h9 => h9) rfl dX1_recover_133 ?_
      refine lv_iconst (pc := 136) (v := 1) cx.1 cx.2.1 dX1_recover_136 (by decide) ?_
      refine lv_iadd (pc := 137) cx.1 cx.2.1 dX1_recover_137 ?_
      refine lv_icmp_ne (pc := 138) (tgt := 204) cx.1 cx.2.1 dX1_recover_138 (by decide) (fun c2 => ?_) (fun c2 => ?_)
      · replace hwp := hwp.1 c2
        refine lv_aload_n (pc := 204) cx.1 cx.2.1 dX1_recover_204 rfl (lv_at hl 0 rfl) ?_
        refine k_getI (pc := 205) (u := u) (v := ((u.1 0).1 14)) cx hw (ln_PL_pl_14 d z hh cf nh) (C := RX1) (T := TX1) (N := 21) rfl in_X1 (by decide) q493 (fun _ h9 => h9) rfl dX1_recover_205 ?_
        refine lv_istore_n (pc := 208) (lv' := [(1, .int ((u.1 0).1 14)), (0, .ref (z 0 0))]) cx.1 cx.2.1 dX1_recover_208 rfl hl (by decide) rfl (fun ls hl => ?_)
        refine lv_iconst (pc := 209) (v := 0) cx.1 cx.2.1 dX1_recover_209 (by decide) ?_
        refine lv_istore_n (pc := 210) (lv' := [(2, .int (0 : Int32)), (1, .int ((u.1 0).1 14)), (0, .ref (z 0 0))]) cx.1 cx.2.1 dX1_recover_210 rfl hl (by decide) rfl (fun ls hl => ?_)
        obtain ⟨n211, hwp⟩ := hwp
        exact wk_X1_recover_211 cx n211 _ _ _ _ _ _ hwp hw (lv_sub hl [2, 1, 0] rfl)
      · replace hwp := hwp.2 c2
        refine lv_sipush (pc := 141) (v := 1923) cx.1 cx.2.1 dX1_recover_141 (by decide) ?_
        refine lv_iconst (pc := 144) (v := 4) cx.1 cx.2.1 dX1_recover_144 (by decide) ?_
        refine lv_aload_n (pc := 145) cx.1 cx.2.1 dX1_recover_145 rfl (lv_at hl 0 rfl) ?_
        refine k_getI (pc := 146) (u := u) (v := ((u.1 0).1 14)) cx hw (ln_PL_pl_14 d z hh cf nh) (C := RX1) (T := TX1) (N := 21) rfl in_X1 (by decide) q493 (fun _ h9 => h9) rfl dX1_recover_146 ?_
        refine lv_imul (pc := 149) cx.1 cx.2.1 dX1_recover_149 ?_
        refine lv_iadd (pc := 150) cx.1 cx.2.1 dX1_recover_150 ?_
        refine lv_istore_n (pc := 151) (lv' := [(1, .int ((1923 : Int32) + ((4 : Int32) * ((u.1 0).1 14)))), (0, .ref (z 0 0))]) cx.1 cx.2.1 dX1_recover_151 rfl hl (by decide) rfl (fun ls hl => ?_)
        refine lv_aload_n (pc := 152) cx.1 cx.2.1 dX1_recover_152 rfl (lv_at hl 1 rfl) ?_
        refine k_getR (pc := 153) (u := u) (v := .ref (z 0 3)) cx hw (lr_PL_pl_4 d z hh cf nh) (C := RX1) (T := TX1) (N := 21) rfl in_X1 (by decide) q481 (fun _ h9 => h9) rfl dX1_recover_153 ?_
        refine lv_aload_n (pc := 156) cx.1 cx.2.1 dX1_recover_156 rfl (lv_at hl 1 rfl) ?_
        refine k_getR (pc := 157) (u := u) (v := .ref (z 1 0)) cx hw (lr_PL_pl_3 d z hh cf nh) (C := RX1) (T := TX1) (N := 21) rfl in_X1 (by decide) q479 (fun _ h9 => h9) rfl dX1_recover_157 ?_
        refine k_getRN (pc := 160) (u := u) (v := .ref (z 1 1)) cx hw (lr_PL_disk_0 d z hh cf nh) (C := RX2) (T := TX2) (N := 5) rfl in_X2 (by decide) (nq191 cx.2.2.2.2.2.1) (fun _ h9 => h9) rfl dX1_recover_160 ?_
        refine lv_iload_n (pc := 163) cx.1 cx.2.1 dX1_recover_163 rfl (lv_at hl 0 rfl) ?_
        refine k_iald (pc := 164) (u := u) (f := ((u.1 1).2.1 0)) cx hw (lx_PL_disk_0 d z hh cf nh) 0 rfl rfl hwp.1 dX1_recover_164 ?_
        replace hwp := hwp.2
        have hs3 := vp_lt hwp.1
        refine k_hald_PL (pc := 165) cx hw hwp.1 dX1_recover_165 ?_
        replace hwp := hwp.2
        refine lv_aload_n (pc := 166) cx.1 cx.2.1 dX1_recover_166 rfl (lv_at hl 1 rfl) ?_
        refine k_getR (pc := 167) (u := u) (v := .ref (z 1 0)) cx hw (lr_PL_pl_3 d z hh cf nh) (C := RX1) (T := TX1) (N := 21) rfl in_X1 (by decide) q479 (fun _ h9 => h9) rfl dX1_recover_167 ?_
        refine k_getRN (pc := 170) (u := u) (v := .ref (z 1 1)) cx hw (lr_PL_disk_0 d z hh cf nh) (C := RX2) (T := TX2) (N := 5) rfl in_X2 (by decide) (nq191 cx.2.2.2.2.2.1) (fun _ h9 => h9) rfl dX1_recover_170 ?_
        refine lv_iload_n (pc := 173) cx.1 cx.2.1 dX1_recover_173 rfl (lv_at hl 0 rfl) ?_
        refine lv_iconst (pc := 174) (v := 1) cx.1 cx.2.1 dX1_recover_174 (by decide) ?_
        refine lv_iadd (pc := 175) cx.1 cx.2.1 dX1_recover_175 ?_
        refine k_iald (pc := 176) (u := u) (f := ((u.1 1).2.1 0)) cx hw (lx_PL_disk_0 d z hh cf nh) 0 rfl rfl hwp.1 dX1_recover_176 ?_
        replace hwp := hwp.2
        refine lv_aload_n (pc := 177) cx.1 cx.2.1 dX1_recover_177 rfl (lv_at hl 1 rfl) ?_
        refine k_getR (pc := 178) (u := u) (v := .ref (z 1 0)) cx hw (lr_PL_pl_3 d z hh cf nh) (C := RX1) (T := TX1) (N := 21) rfl in_X1 (by decide) q479 (fun _ h9 => h9) rfl dX1_recover_178 ?_
        refine k_getRN (pc := 181) (u := u) (v := .ref (z 1 1)) cx hw (lr_PL_disk_0 d z hh cf nh) (C := RX2) (T := TX2) (N := 5) rfl in_X2 (by decide) (nq191 cx.2.2.2.2.2.1) (fun _ h9 => h9) rfl dX1_recover_181 ?_
        refine lv_iload_n (pc := 184) cx.1 cx.2.1 dX1_recover_184 rfl (lv_at hl 0 rfl) ?_
        refine lv_iconst (pc := 185) (v := 2) cx.1 cx.2.1 dX1_recover_185 (by decide) ?_
        refine lv_iadd (pc := 186) cx.1 cx.2.1 dX1_recover_186 ?_
        refine k_iald (pc := 187) (u := u) (f := ((u.1 1).2.1 0)) cx hw (lx_PL_disk_0 d z hh cf nh) 0 rfl rfl hwp.1 dX1_recover_187 ?_
        replace hwp := hwp.2
        have hpt := k_part (w := (wHd d (hh ((((u.1 1).2.1 0) ((1923 : Int32) + ((4 : Int32) * ((u.1 0).1 14))).toNatClampNeg).toNatClampNeg))) (u.2 ((((u.1 1).2.1 0) ((1923 : Int32) + ((4 : Int32) * ((u.1 0).1 14))).toNatClampNeg).toNatClampNeg))) (is := [46 + 3 * ((((u.1 1).2.1 0) ((1923 : Int32) + ((4 : Int32) * ((u.1 0).1 14))).toNatClampNeg).toNatClampNeg), 46 + 3 * ((((u.1 1).2.1 0) ((1923 : Int32) + ((4 : Int32) * ((u.1 0).1 14))).toNatClampNeg).toNatClampNeg) + 1, 46 + 3 * ((((u.1 1).2.1 0) ((1923 : Int32) + ((4 : Int32) * ((u.1 0).1 14))).toNatClampNeg).toNatClampNeg) + 2]) hw (wP_hpart_PL d z hh cf nh hs3 u) wP_hnd
        refine k_part_v (pc := 188) (wf := (wHd d (hh ((((u.1 1).2.1 0) ((1923 : Int32) + ((4 : Int32) * ((u.1 0).1 14))).toNatClampNeg).toNatClampNeg)))) (u := (u.2 ((((u.1 1).2.1 0) ((1923 : Int32) + ((4 : Int32) * ((u.1 0).1 14))).toNatClampNeg).toNatClampNeg))) cx hw [46 + 3 * ((((u.1 1).2.1 0) ((1923 : Int32) + ((4 : Int32) * ((u.1 0).1 14))).toNatClampNeg).toNatClampNeg), 46 + 3 * ((((u.1 1).2.1 0) ((1923 : Int32) + ((4 : Int32) * ((u.1 0).1 14))).toNatClampNeg).toNatClampNeg) + 1, 46 + 3 * ((((u.1 1).2.1 0) ((1923 : Int32) + ((4 : Int32) * ((u.1 0).1 14))).toNatClampNeg).toNatClampNeg) + 2] (wP_hpart_PL d z hh cf nh hs3 u) wP_hnd (fun _ => rfl) (wP_hput_PL d z hh cf nh hs3 u) (k_runV (pc := 188) (rest := []) (As := [.int (((u.1 1).2.1 0) (((1923 : Int32) + ((4 : Int32) * ((u.1 0).1 14))) + (1 : Int32)).toNatClampNeg), .int (((u.1 1).2.1 0) (((1923 : Int32) + ((4 : Int32) * ((u.1 0).1 14))) + (2 : Int32)).toNatClampNeg)]) cx hpt.1 hpt.2 hw.2.2 (k_recv cx hw (46 + 3 * ((((u.1 1).2.1 0) ((1923 : Int32) + ((4 : Int32) * ((u.1 0).1 14))).toNatClampNeg).toNatClampNeg)) (ci := 9) (q := (RX11, TX11, 3)) (wP_h0 hs3) rfl) (m_X11_add l dC dI d (hh ((((u.1 1).2.1 0) ((1923 : Int32) + ((4 : Int32) * ((u.1 0).1 14))).toNatClampNeg).toNatClampNeg))  (u.2 ((((u.1 1).2.1 0) ((1923 : Int32) + ((4 : Int32) * ((u.1 0).1 14))).toNatClampNeg).toNatClampNeg)) (((u.1 1).2.1 0) (((1923 : Int32) + ((4 : Int32) * ((u.1 0).1 14))) + (1 : Int32)).toNatClampNeg) (((u.1 1).2.1 0) (((1923 : Int32) + ((4 : Int32) * ((u.1 0).1 14))) + (2 : Int32)).toNatClampNeg) hwp H.size) (cwV 2 cx.2.2.2.2.1 (lw_V q598 q599 q600 q88 q601) rfl rfl rfl hdV_X11_add ⟨Nat.le_of_ble_eq_true rfl, Nat.le_of_ble_eq_true rfl⟩) rfl hl.1 rfl (Nat.le_of_ble_eq_true rfl) dX1_recover_188 ⟨Nat.le_of_ble_eq_true rfl, Nat.le_of_ble_eq_true rfl⟩) (fun v4 H locs hwp hw => ?_)
        refine lv_aload_n (pc := 191) cx.1 cx.2.1 dX1_recover_191 rfl (lv_at hl 1 rfl) ?_
        refine lv_dup (pc := 192) cx.1 cx.2.1 dX1_recover_192 rfl ?_
        refine k_getI (pc := 193) (u := (ps_H u ((((u.1 1).2.1 0) ((1923 : Int32) + ((4 : Int32) * ((u.1 0).1 14))).toNatClampNeg).toNatClampNeg) v4)) (v := ((u.1 0).1 14)) cx hw (ln_PL_pl_14 d z hh cf nh) (C := RX1) (T := TX1) (N := 21) rfl in_X1 (by decide) q493 (fun _ h9 => h9) rfl dX1_recover_193 ?_
        refine lv_iconst (pc := 196) (v := 1) cx.1 cx.2.1 dX1_recover_196 (by decide) ?_
        refine lv_iadd (pc := 197) cx.1 cx.2.1 dX1_recover_197 ?_
        refine k_putI (pc := 198) (u := (ps_H u ((((u.1 1).2.1 0) ((1923 : Int32) + ((4 : Int32) * ((u.1 0).1 14))).toNatClampNeg).toNatClampNeg) v4)) (v := (((u.1 0).1 14) + (1 : Int32))) cx hw (ln_PL_pl_14 d z hh cf nh) (C := RX1) (T := TX1) (N := 21) rfl in_X1 tyX1 tyX1_ok nmX1 (by decide) q493 (fun _ h9 => h9) rfl rfl rfl dX1_recover_198 (fun H locs hw => ?_)
        refine lv_goto (pc := 201) (tgt := 102) cx.1 cx.2.1 dX1_recover_201 (by decide) ?_
        exact ih  _ _ _ _ hwp hw (lv_sub hl [1] rfl)
set_option maxHeartbeats 4000000 in
theorem wk_X1_recover_97 {p : Program} {l : Launch} {e : Env} {s : State} {m : MethodId} {args : Array Value} {below : List Frame} {meth : Method} {c : Code} {A : Nat → Prop} {dC : Nat → ClassId} {dI : Nat → Nat → Nat} {d : Nat → ClassId} {z : Nat → Nat → Nat} {hh : Nat → Nat → Nat} {cf : List Value}{nh : Nat} {K : Int32 → PS → Prop} (cx : Cx p s m args meth c cX1_recover RX1 5 (some .int) A dC dI d) : ∀  (u : PS) (H : Heap) (locs : List Loc) (ls : Array Slot), wp_X1_recover_97 nh K  u → Wd dC dI A ((wP d nh hh cf z) u) s H locs → lv_has ls 5 [(0, .ref (z 0 0))] → W p l e ({ frames := 4, cells := 0, slots := 0, locals := 94 } : Room) s m args below meth c H locs 0 0 (MQ below (kQi dC dI (wP d nh hh cf z) K A) args s 0 0 A) (F0 m 97 ls []) := by
  intro  u H locs ls hwp hw hl
  unfold wp_X1_recover_97 at hwp
  refine lv_aload_n (pc := 97) cx.1 cx.2.1 dX1_recover_97 rfl (lv_at hl 0 rfl) ?_
  refine lv_iconst (pc := 98) (v := 0) cx.1 cx.2.1 dX1_recover_98 (by decide) ?_
  refine k_putI (pc := 99) (u := u) (v := (0 : Int32)) cx hw (ln_PL_pl_14 d z hh cf nh) (C := RX1) (T := TX1) (N := 21) rfl in_X1 tyX1 tyX1_ok nmX1 (by decide) q493 (fun _ h9 => h9) rfl rfl rfl dX1_recover_99 (fun H locs hw => ?_)
  obtain ⟨n102, hwp⟩ := hwp
  exact wk_X1_recover_102 cx n102  _ _ _ _ hwp hw (lv_sub hl [0] rfl)
set_option maxHeartbeats 4000000 in
theorem wk_X1_recover_75 {p : Program} {l : Launch} {e : Env} {s : State} {m : MethodId} {args : Array Value} {below : List Frame} {meth : Method} {c : Code} {A : Nat → Prop} {dC : Nat → ClassId} {dI : Nat → Nat → Nat} {d : Nat → ClassId} {z : Nat → Nat → Nat} {hh : Nat → Nat → Nat} {cf : List Value}{nh : Nat} {K : Int32 → PS → Prop} (cx : Cx p s m args meth c cX1_recover RX1 5 (some .int) A dC dI d) : ∀ (n : Nat) (x2 : Int32) (x3 : Int32) (u : PS) (H : Heap) (locs : List Loc) (ls : Array Slot), wp_X1_recover_75 nh K n x2 x3 u → Wd dC dI A ((wP d nh hh cf z) u) s H locs → lv_has ls 5 [(0, .ref (z 0 0)), (1, .ref (z 0 3)), (2, .int x2), (3, .int x3)] → W p l e ({ frames := 4, cells := 0, slots := 0, locals := 94 } : Room) s m args below meth c H locs 0 0 (MQ below (kQi dC dI (wP d nh hh cf z) K A) args s 0 0 A) (F0 m 75 ls []) := by
  intro n
  induction n with
  | zero =>
    intros; contradiction
  | succ n ih =>
    intro x2 x3 u H locs ls hwp hw hl
    unfold wp_X1_recover_75 at hwp
    refine lv_iload_n (pc := 75) cx.1 cx.2.1 dX1_recover_75 rfl (lv_at hl 3 rfl) ?_
    refine lv_iload_n (pc := 76) cx.1 cx.2.1 dX1_recover_76 rfl (lv_at hl 2 rfl) ?_
    refine lv_icmp_ge (pc := 77) (tgt := 97) cx.1 cx.2.1 dX1_recover_77 (by decide) (fun c1 => ?_) (fun c1 => ?_)
    · replace hwp := hwp.1 c1
      exact wk_X1_recover_97 cx  _ _ _ _ hwp hw (lv_sub hl [0] rfl)
    · replace hwp := hwp.2 c1
      refine lv_aload_n (pc := 80) cx.1 cx.2.1 dX1_recover_80 rfl (lv_at hl 1 rfl) ?_
      refine lv_iload_n (pc := 81) cx.1 cx.2.1 dX1_recover_81 rfl (lv_at hl 3 rfl) ?_
      have hs2 := vp_lt hwp.1
      refine k_hald_PL (pc := 82) cx hw hwp.1 dX1_recover_82 ?_
      replace hwp := hwp.2
      refine lv_astore (pc := 83) (lv' := [(4, .ref (hh x3.toNatClampNeg 0)), (0, .ref (z 0 0)), (1, .ref (z 0 3)), (2, .int x2), (3, .int x3)]) cx.1 cx.2.1 dX1_recover_83 hl (by decide) rfl (fun ls hl => ?_)
      refine lv_aload (pc := 85) cx.1 cx.2.1 dX1_recover_85 (lv_at hl 0 rfl) ?_
      refine lv_iconst (pc := 87) (v := 0) cx.1 cx.2.1 dX1_recover_87 (by decide) ?_
      refine k_putIN (pc := 88) (u := u) (v := (0 : Int32)) cx hw (lhn_PL_2 d z hh cf nh hs2) (C := RX11) (T := TX11) (N := 3) rfl in_X11 tyX11 tyX11_ok nmX11 (by decide) (nq450 cx.2.2.2.2.2.1) (fun _ h9 => h9) rfl rfl rfl dX1_recover_88 (fun H locs hw => ?_)
      refine lv_iinc (pc := 91) (v := (x3 + (1 : Int32))) (lv' := [(3, .int (x3 + (1 : Int32))), (4, .ref (hh x3.toNatClampNeg 0)), (0, .ref (z 0 0)), (1, .ref (z 0 3)), (2, .int x2)]) cx.1 cx.2.1 dX1_recover_91 hl (k := 4) rfl rfl (by decide) rfl (fun ls hl => ?_)
      refine lv_goto (pc := 94) (tgt := 75) cx.1 cx.2.1 dX1_recover_94 (by decide) ?_
      exact ih _ _ _ _ _ _ hwp hw (lv_sub hl [2, 3, 4, 0] rfl)
set_option maxHeartbeats 4000000 in
theorem m_X1_recover (l : Launch) (dC : Nat → ClassId) (dI : Nat → Nat → Nat) (d : Nat → ClassId) (z : Nat → Nat → Nat) (hh : Nat → Nat → Nat) (cf : List Value) (nh : Nat) (u : PS) {K : Int32 → PS → Prop} (hwp : wp_X1_recover nh u K) : kM l yX1_recover cX1_recover 5 (some .int) ({ frames := 4, cells := 0, slots := 0, locals := 94 } : Room) dC dI d [.ref (z 0 0)] (wP d nh hh cf z) u (kQi dC dI (wP d nh hh cf z) K) 0 0 := by
  refine kM_start rfl (Nat.le_of_ble_eq_true rfl) ?_
  intro p e s m below meth c A ls cx hnm hw hl
  generalize hargs : ([.ref (z 0 0)] : List Value).toArray = args at cx ⊢
  unfold wp_X1_recover at hwp
  replace hl : lv_has ls 5 [(0, .ref (z 0 0))] := hl
  generalize hH : s.heap = H at hw ⊢
  generalize hlo : ([] : List Loc) = locs at hw ⊢
  refine lv_aload_n (pc := 0) cx.1 cx.2.1 dX1_recover_0 rfl (lv_at hl 0 rfl) ?_
  refine lv_null (pc := 1) cx.1 cx.2.1 dX1_recover_1 ?_
  refine k_putCuN_PL (pc := 2) (u := u) cx hw q496 dX1_recover_2 (fun H locs hw => ?_)
  refine lv_aload_n (pc := 5) cx.1 cx.2.1 dX1_recover_5 rfl (lv_at hl 0 rfl) ?_
  refine lv_dup (pc := 6) cx.1 cx.2.1 dX1_recover_6 rfl ?_
  refine k_getI (pc := 7) (u := (ps_I u 0 17 (0 : Int32))) (v := ((u.1 0).1 15)) cx hw (ln_PL_pl_15 d z hh cf nh) (C := RX1) (T := TX1) (N := 21) rfl in_X1 (by decide) q494 (fun _ h9 => h9) rfl dX1_recover_7 ?_
  refine lv_iconst (pc := 10) (v := 1) cx.1 cx.2.1 dX1_recover_10 (by decide) ?_
  refine lv_iadd (pc := 11) cx.1 cx.2.1 dX1_recover_11 ?_
  refine k_putI (pc := 12) (u := (ps_I u 0 17 (0 : Int32))) (v := (((u.1 0).1 15) + (1 : Int32))) cx hw (ln_PL_pl_15 d z hh cf nh) (C := RX1) (T := TX1) (N := 21) rfl in_X1 tyX1 tyX1_ok nmX1 (by decide) q494 (fun _ h9 => h9) rfl rfl rfl dX1_recover_12 (fun H locs hw => ?_)
  refine lv_aload_n (pc := 15) cx.1 cx.2.1 dX1_recover_15 rfl (lv_at hl 0 rfl) ?_
  refine k_getR (pc := 16) (u := (ps_I (ps_I u 0 17 (0 : Int32)) 0 15 (((u.1 0).1 15) + (1 : Int32)))) (v := .ref (z 1 0)) cx hw (lr_PL_pl_3 d z hh cf nh) (C := RX1) (T := TX1) (N := 21) rfl in_X1 (by decide) q479 (fun _ h9 => h9) rfl dX1_recover_16 ?_
  refine lv_iconst (pc := 19) (v := 0) cx.1 cx.2.1 dX1_recover_19 (by decide) ?_
  refine k_putIN (pc := 20) (u := (ps_I (ps_I u 0 17 (0 : Int32)) 0 15 (((u.1 0).1 15) + (1 : Int32)))) (v := (0 : Int32)) cx hw (ln_PL_disk_3 d z hh cf nh) (C := RX2) (T := TX2) (N := 5) rfl in_X2 tyX2 tyX2_ok nmX2 (by decide) (nq196 cx.2.2.2.2.2.1) (fun _ h9 => h9) rfl rfl rfl dX1_recover_20 (fun H locs hw => ?_)
  refine lv_aload_n (pc := 23) cx.1 cx.2.1 dX1_recover_23 rfl (lv_at hl 0 rfl) ?_
  refine k_getR (pc := 24) (u := (ps_I (ps_I (ps_I u 0 17 (0 : Int32)) 0 15 (((u.1 0).1 15) + (1 : Int32))) 1 3 (0 : Int32))) (v := .ref (z 1 0)) cx hw (lr_PL_pl_3 d z hh cf nh) (C := RX1) (T := TX1) (N := 21) rfl in_X1 (by decide) q479 (fun _ h9 => h9) rfl dX1_recover_24 ?_
  refine lv_iconst (pc := 27) (v := -1) cx.1 cx.2.1 dX1_recover_27 (by decide) ?_
  refine k_putIN (pc := 28) (u := (ps_I (ps_I (ps_I u 0 17 (0 : Int32)) 0 15 (((u.1 0).1 15) + (1 : Int32))) 1 3 (0 : Int32))) (v := (-1 : Int32)) cx hw (ln_PL_disk_2 d z hh cf nh) (C := RX2) (T := TX2) (N := 5) rfl in_X2 tyX2 tyX2_ok nmX2 (by decide) (nq194 cx.2.2.2.2.2.1) (fun _ h9 => h9) rfl rfl rfl dX1_recover_28 (fun H locs hw => ?_)
  refine lv_aload_n (pc := 31) cx.1 cx.2.1 dX1_recover_31 rfl (lv_at hl 0 rfl) ?_
  refine lv_aload_n (pc := 32) cx.1 cx.2.1 dX1_recover_32 rfl (lv_at hl 0 rfl) ?_
  refine k_getR (pc := 33) (u := (ps_I (ps_I (ps_I (ps_I u 0 17 (0 : Int32)) 0 15 (((u.1 0).1 15) + (1 : Int32))) 1 3 (0 : Int32)) 1 2 (-1 : Int32))) (v := .ref (z 1 0)) cx hw (lr_PL_pl_3 d z hh cf nh) (C := RX1) (T := TX1) (N := 21) rfl in_X1 (by decide) q479 (fun _ h9 => h9) rfl dX1_recover_33 ?_
  refine k_getRN (pc := 36) (u := (ps_I (ps_I (ps_I (ps_I u 0 17 (0 : Int32)) 0 15 (((u.1 0).1 15) + (1 : Int32))) 1 3 (0 : Int32)) 1 2 (-1 : Int32))) (v := .ref (z 1 1)) cx hw (lr_PL_disk_0 d z hh cf nh) (C := RX2) (T := TX2) (N := 5) rfl in_X2 (by decide) (nq191 cx.2.2.2.2.2.1) (fun _ h9 => h9) rfl dX1_recover_36 ?_
  refine lv_iconst (pc := 39) (v := 0) cx.1 cx.2.1 dX1_recover_39 (by decide) ?_
  refine k_iald (pc := 40) (u := (ps_I (ps_I (ps_I (ps_I u 0 17 (0 : Int32)) 0 15 (((u.1 0).1 15) + (1 : Int32))) 1 3 (0 : Int32)) 1 2 (-1 : Int32))) (f := ((u.1 1).2.1 0)) cx hw (lx_PL_disk_0 d z hh cf nh) 0 rfl rfl (by unfold vp_in; decide) dX1_recover_40 ?_
  refine lv_iconst (pc := 41) (v := 1) cx.1 cx.2.1 dX1_recover_41 (by decide) ?_
  refine lv_ishr (pc := 42) cx.1 cx.2.1 dX1_recover_42 ?_
  refine lv_topi (fun y1 ey1 => ?_)
  replace hwp := hwp y1 ey1
  refine k_putI (pc := 43) (u := (ps_I (ps_I (ps_I (ps_I u 0 17 (0 : Int32)) 0 15 (((u.1 0).1 15) + (1 : Int32))) 1 3 (0 : Int32)) 1 2 (-1 : Int32))) (v := y1) cx hw (ln_PL_pl_12 d z hh cf nh) (C := RX1) (T := TX1) (N := 21) rfl in_X1 tyX1 tyX1_ok nmX1 (by decide) q491 (fun _ h9 => h9) rfl rfl rfl dX1_recover_43 (fun H locs hw => ?_)
  refine lv_aload_n (pc := 46) cx.1 cx.2.1 dX1_recover_46 rfl (lv_at hl 0 rfl) ?_
  refine lv_aload_n (pc := 47) cx.1 cx.2.1 dX1_recover_47 rfl (lv_at hl 0 rfl) ?_
  refine k_getR (pc := 48) (u := (ps_I (ps_I (ps_I (ps_I (ps_I u 0 17 (0 : Int32)) 0 15 (((u.1 0).1 15) + (1 : Int32))) 1 3 (0 : Int32)) 1 2 (-1 : Int32)) 0 12 y1)) (v := .ref (z 1 0)) cx hw (lr_PL_pl_3 d z hh cf nh) (C := RX1) (T := TX1) (N := 21) rfl in_X1 (by decide) q479 (fun _ h9 => h9) rfl dX1_recover_48 ?_
  refine k_getRN (pc := 51) (u := (ps_I (ps_I (ps_I (ps_I (ps_I u 0 17 (0 : Int32)) 0 15 (((u.1 0).1 15) + (1 : Int32))) 1 3 (0 : Int32)) 1 2 (-1 : Int32)) 0 12 y1)) (v := .ref (z 1 1)) cx hw (lr_PL_disk_0 d z hh cf nh) (C := RX2) (T := TX2) (N := 5) rfl in_X2 (by decide) (nq191 cx.2.2.2.2.2.1) (fun _ h9 => h9) rfl dX1_recover_51 ?_
  refine lv_iconst (pc := 54) (v := 0) cx.1 cx.2.1 dX1_recover_54 (by decide) ?_
  refine k_iald (pc := 55) (u := (ps_I (ps_I (ps_I (ps_I (ps_I u 0 17 (0 : Int32)) 0 15 (((u.1 0).1 15) + (1 : Int32))) 1 3 (0 : Int32)) 1 2 (-1 : Int32)) 0 12 y1)) (f := ((u.1 1).2.1 0)) cx hw (lx_PL_disk_0 d z hh cf nh) 0 rfl rfl (by unfold vp_in; decide) dX1_recover_55 ?_
  refine lv_iconst (pc := 56) (v := 1) cx.1 cx.2.1 dX1_recover_56 (by decide) ?_
  refine lv_iand (pc := 57) cx.1 cx.2.1 dX1_recover_57 ?_
  refine lv_topi (fun y2 ey2 => ?_)
  replace hwp := hwp y2 ey2
  refine k_putI (pc := 58) (u := (ps_I (ps_I (ps_I (ps_I (ps_I u 0 17 (0 : Int32)) 0 15 (((u.1 0).1 15) + (1 : Int32))) 1 3 (0 : Int32)) 1 2 (-1 : Int32)) 0 12 y1)) (v := y2) cx hw (ln_PL_pl_13 d z hh cf nh) (C := RX1) (T := TX1) (N := 21) rfl in_X1 tyX1 tyX1_ok nmX1 (by decide) q492 (fun _ h9 => h9) rfl rfl rfl dX1_recover_58 (fun H locs hw => ?_)
  refine lv_aload_n (pc := 61) cx.1 cx.2.1 dX1_recover_61 rfl (lv_at hl 0 rfl) ?_
  refine k_whole_v (pc := 62) (wf := (wP d nh hh cf z)) (u := (ps_I (ps_I (ps_I (ps_I (ps_I (ps_I u 0 17 (0 : Int32)) 0 15 (((u.1 0).1 15) + (1 : Int32))) 1 3 (0 : Int32)) 1 2 (-1 : Int32)) 0 12 y1) 0 13 y2)) cx hw (k_runV (pc := 62) (rest := []) (As := []) cx hw.1 (hw.2.1.weaken (fun _ _ _ _ => trivial)) hw.2.2 (k_recv cx hw 0 (ci := 0) (q := (RX1, TX1, 21)) rfl rfl) (m_X1_reads l dC dI d z hh cf nh (ps_I (ps_I (ps_I (ps_I (ps_I (ps_I u 0 17 (0 : Int32)) 0 15 (((u.1 0).1 15) + (1 : Int32))) 1 3 (0 : Int32)) 1 2 (-1 : Int32)) 0 12 y1) 0 13 y2)  hwp H.size) (cwV 0 cx.2.2.2.2.1 (lw_V q844 q846 qs28 q75 q847) rfl rfl rfl hdV_X1_reads ⟨Nat.le_of_ble_eq_true rfl, Nat.le_of_ble_eq_true rfl⟩) rfl hl.1 rfl (Nat.le_of_ble_eq_true rfl) dX1_recover_62 ⟨Nat.le_of_ble_eq_true rfl, Nat.le_of_ble_eq_true rfl⟩) (fun u3 H locs hwp hw => ?_)
  refine lv_aload_n (pc := 65) cx.1 cx.2.1 dX1_recover_65 rfl (lv_at hl 0 rfl) ?_
  refine k_getR (pc := 66) (u := u3) (v := .ref (z 0 3)) cx hw (lr_PL_pl_4 d z hh cf nh) (C := RX1) (T := TX1) (N := 21) rfl in_X1 (by decide) q481 (fun _ h9 => h9) rfl dX1_recover_66 ?_
  refine lv_astore_n (pc := 69) (lv' := [(1, .ref (z 0 3)), (0, .ref (z 0 0))]) cx.1 cx.2.1 dX1_recover_69 rfl hl (by decide) rfl (fun ls hl => ?_)
  refine lv_aload_n (pc := 70) cx.1 cx.2.1 dX1_recover_70 rfl (lv_at hl 0 rfl) ?_
  refine k_alen (pc := 71) (v := nI nh) cx hw 3 6 rfl rfl rfl dX1_recover_71 ?_
  refine lv_istore_n (pc := 72) (lv' := [(2, .int (nI nh)), (1, .ref (z 0 3)), (0, .ref (z 0 0))]) cx.1 cx.2.1 dX1_recover_72 rfl hl (by decide) rfl (fun ls hl => ?_)
  refine lv_iconst (pc := 73) (v := 0) cx.1 cx.2.1 dX1_recover_73 (by decide) ?_
  refine lv_istore_n (pc := 74) (lv' := [(3, .int (0 : Int32)), (2, .int (nI nh)), (1, .ref (z 0 3)), (0, .ref (z 0 0))]) cx.1 cx.2.1 dX1_recover_74 rfl hl (by decide) rfl (fun ls hl => ?_)
  obtain ⟨n75, hwp⟩ := hwp
  exact wk_X1_recover_75 cx n75 _ _ _ _ _ _ hwp hw (lv_sub hl [3, 2, 1, 0] rfl)
set_option maxHeartbeats 4000000 in
theorem m_X1_cell (l : Launch) (hlt : l.stackTraces = false) (dC : Nat → ClassId) (dI : Nat → Nat → Nat) (d : Nat → ClassId) (z : Nat → Nat → Nat) (hh : Nat → Nat → Nat) (cf : List Value) (nh : Nat) (u : PS) (x1 : Int32) {K : Int32 → PS → Prop} (hwp : wp_X1_cell nh u x1 K) : kMW l yX1_cell cX1_cell 3 (some .int) [(0, 9, 10, 110)] ({ frames := 10, cells := 3, slots := 300, locals := 10400 } : Room) dC dI d [.ref (z 0 0), .int x1] (wP d nh hh cf z) u (kQi dC dI (wP d nh hh cf z) K) 3 300 := by
  refine kMW_start rfl (Nat.le_of_ble_eq_true rfl) ?_
  intro p e s m below meth c A ls cx hnm xt hw hl
  generalize hargs : ([.ref (z 0 0), .int x1] : List Value).toArray = args at cx ⊢
  replace hl : lv_has ls 3 [(0, .ref (z 0 0)), (1, .int x1)] := hl
  generalize hH : s.heap = H at hw ⊢
  generalize hlo : ([] : List Loc) = locs at hw ⊢
  refine lv_aload_n (pc := 0) cx.1 cx.2.1 dX1_cell_0 rfl (lv_at hl 0 rfl) ?_
  refine k_getR (pc := 1) (u := u) (v := .ref (z 1 0)) cx hw (lr_PL_pl_3 d z hh cf nh) (C := RX1) (T := TX1) (N := 21) rfl in_X1 (by decide) q479 (fun _ h9 => h9) rfl dX1_cell_1 ?_
  refine k_getRN (pc := 4) (u := u) (v := .ref (z 1 1)) cx hw (lr_PL_disk_0 d z hh cf nh) (C := RX2) (T := TX2) (N := 5) rfl in_X2 (by decide) (nq191 cx.2.2.2.2.2.1) (fun _ h9 => h9) rfl dX1_cell_4 ?_
  refine lv_iload_n (pc := 7) cx.1 cx.2.1 dX1_cell_7 rfl (lv_at hl 1 rfl) ?_
  by_cases hin : vp_in x1 4096
  · refine k_iald (pc := 8) (u := u) (f := (u.1 1).2.1 0) cx hw (lx_PL_disk_0 d z hh cf nh) 0 rfl rfl hin dX1_cell_8 ?_
    exact k_iret (pc := 9) (wf := wP d nh hh cf z) (u := u) cx hw (hwp.1 hin) (by decide) (by decide) dX1_cell_9
  · refine k_iaOut (pc := 8) hlt cx hw hl.1 5 0 (ty := .int) rfl rfl hin (by decide) ⟨Nat.le_of_ble_eq_true rfl, Nat.le_of_ble_eq_true rfl, Nat.le_of_ble_eq_true rfl, Nat.le_of_ble_eq_true rfl⟩ dX1_cell_8 (fun a H locs hw hx => ?_)
    refine k_catch0 (pc := 8) (tgt := 10) (q := (RJ5, TJ5, 6)) cx xt rfl (by decide) q556 hx rfl ?_
    refine lv_astore_n (pc := 10) (lv' := [(2, .ref a), (0, .ref (z 0 0)), (1, .int x1)]) cx.1 cx.2.1 dX1_cell_10 rfl hl (by decide) rfl (fun ls hl => ?_)
    refine lv_iconst (pc := 11) (v := 0) cx.1 cx.2.1 dX1_cell_11 (by decide) ?_
    exact k_iret (pc := 12) (wf := wP d nh hh cf z) (u := u) cx hw (hwp.2 hin) (by decide) (by decide) dX1_cell_12
set_option maxHeartbeats 4000000 in
theorem m_X1_chunks (l : Launch) (dC : Nat → ClassId) (dI : Nat → Nat → Nat) (d : Nat → ClassId) (z : Nat → Nat → Nat) (hh : Nat → Nat → Nat) (cf : List Value) (nh : Nat) (u : PS) (x1 : Int32) {K : Int32 → PS → Prop} (hwp : wp_X1_chunks nh u x1 K) : kM l yX1_chunks cX1_chunks 2 (some .int) ({ frames := 0, cells := 0, slots := 0, locals := 0 } : Room) dC dI d [.ref (z 0 0), .int x1] (wP d nh hh cf z) u (kQi dC dI (wP d nh hh cf z) K) 0 0 := by
  refine kM_start rfl (Nat.le_of_ble_eq_true rfl) ?_
  intro p e s m below meth c A ls cx hnm hw hl
  generalize hargs : ([.ref (z 0 0), .int x1] : List Value).toArray = args at cx ⊢
  unfold wp_X1_chunks at hwp
  replace hl : lv_has ls 2 [(0, .ref (z 0 0)), (1, .int x1)] := hl
  generalize hH : s.heap = H at hw ⊢
  generalize hlo : ([] : List Loc) = locs at hw ⊢
  refine lv_aload_n (pc := 0) cx.1 cx.2.1 dX1_chunks_0 rfl (lv_at hl 0 rfl) ?_
  refine k_getR (pc := 1) (u := u) (v := .ref (z 4 0)) cx hw (lr_PL_pl_7 d z hh cf nh) (C := RX1) (T := TX1) (N := 21) rfl in_X1 (by decide) q485 (fun _ h9 => h9) rfl dX1_chunks_1 ?_
  refine k_getRN (pc := 4) (u := u) (v := .ref (z 4 5)) cx hw (lr_PL_now_6 d z hh cf nh) (C := RX7) (T := TX7) (N := 7) rfl in_X7 (by decide) (nq343 cx.2.2.2.2.2.1) (fun _ h9 => h9) rfl dX1_chunks_4 ?_
  refine lv_iload_n (pc := 7) cx.1 cx.2.1 dX1_chunks_7 rfl (lv_at hl 1 rfl) ?_
  refine lv_iconst (pc := 8) (v := 1) cx.1 cx.2.1 dX1_chunks_8 (by decide) ?_
  refine lv_iadd (pc := 9) cx.1 cx.2.1 dX1_chunks_9 ?_
  refine k_iald (pc := 10) (u := u) (f := ((u.1 4).2.1 6)) cx hw (lx_PL_now_6 d z hh cf nh) 0 rfl rfl hwp.1 dX1_chunks_10 ?_
  replace hwp := hwp.2
  refine lv_aload_n (pc := 11) cx.1 cx.2.1 dX1_chunks_11 rfl (lv_at hl 0 rfl) ?_
  refine k_getR (pc := 12) (u := u) (v := .ref (z 4 0)) cx hw (lr_PL_pl_7 d z hh cf nh) (C := RX1) (T := TX1) (N := 21) rfl in_X1 (by decide) q485 (fun _ h9 => h9) rfl dX1_chunks_12 ?_
  refine k_getRN (pc := 15) (u := u) (v := .ref (z 4 5)) cx hw (lr_PL_now_6 d z hh cf nh) (C := RX7) (T := TX7) (N := 7) rfl in_X7 (by decide) (nq343 cx.2.2.2.2.2.1) (fun _ h9 => h9) rfl dX1_chunks_15 ?_
  refine lv_iload_n (pc := 18) cx.1 cx.2.1 dX1_chunks_18 rfl (lv_at hl 1 rfl) ?_
  refine k_iald (pc := 19) (u := u) (f := ((u.1 4).2.1 6)) cx hw (lx_PL_now_6 d z hh cf nh) 0 rfl rfl hwp.1 dX1_chunks_19 ?_
  replace hwp := hwp.2
  refine lv_isub (pc := 20) cx.1 cx.2.1 dX1_chunks_20 ?_
  exact k_iret (pc := 21) (wf := (wP d nh hh cf z)) (u := u) cx hw hwp (by decide) (by decide) dX1_chunks_21
set_option maxHeartbeats 4000000 in
theorem m_X1_sizes (l : Launch) (hlt : l.stackTraces = false) (dC : Nat → ClassId) (dI : Nat → Nat → Nat) (d : Nat → ClassId) (z : Nat → Nat → Nat) (hh : Nat → Nat → Nat) (cf : List Value) (nh : Nat) (u : PS) (x1 : Int32) (x2 : Int32) {K : Int32 → PS → Prop} {E : Nat → PS → Prop} (hwp : wp_X1_sizes nh u x1 x2 K E) : kMT l yX1_sizes cX1_sizes 3 (some .int) ({ frames := 13, cells := 6, slots := 330, locals := 10464 } : Room) dC dI d [.ref (z 0 0), .int x1, .int x2] (wP d nh hh cf z) u (kXi dC dI (wP d nh hh cf z) K E) 6 330 := by
  refine kMT_start rfl (Nat.le_of_ble_eq_true rfl) ?_
  intro p e s m below meth c A ls cx hnm xt hw hl
  generalize hargs : ([.ref (z 0 0), .int x1, .int x2] : List Value).toArray = args at cx ⊢
  unfold wp_X1_sizes at hwp
  replace hl : lv_has ls 3 [(0, .ref (z 0 0)), (1, .int x1), (2, .int x2)] := hl
  generalize hH : s.heap = H at hw ⊢
  generalize hlo : ([] : List Loc) = locs at hw ⊢
  refine lv_aload_n (pc := 0) cx.1 cx.2.1 dX1_sizes_0 rfl (lv_at hl 0 rfl) ?_
  refine lv_iload_n (pc := 1) cx.1 cx.2.1 dX1_sizes_1 rfl (lv_at hl 1 rfl) ?_
  refine k_whole_Tv (pc := 2) (wf := (wP d nh hh cf z)) (u := u) cx hw (k_runVT (pc := 2) (rest := []) (As := [.int x1]) cx hw.1 (hw.2.1.weaken (fun _ _ _ _ => trivial)) hw.2.2 (k_recv cx hw 0 (ci := 0) (q := (RX1, TX1, 21)) rfl rfl) (m_X1_need l hlt dC dI d z hh cf nh u x1 hwp H.size) (cwV 1 cx.2.2.2.2.1 (lw_V q873 q875 qs30 q75 q876) rfl rfl rfl hdV_X1_need ⟨Nat.le_of_ble_eq_true rfl, Nat.le_of_ble_eq_true rfl⟩) rfl hl.1 rfl (Nat.le_of_ble_eq_true rfl) dX1_sizes_2 ⟨Nat.le_of_ble_eq_true rfl, Nat.le_of_ble_eq_true rfl⟩) (fun u1 H locs hwp hw => ?_) (fun k3 v4 a5 H locs hwp hw hx => ?_)
  · skip
    refine lv_iload_n (pc := 5) cx.1 cx.2.1 dX1_sizes_5 rfl (lv_at hl 2 rfl) ?_
    by_cases c6 : x2 = (0 : Int32)
    · replace hwp := hwp.1 c6
      refine lv_tableIn (pc := 6) (off := 26) (tgt := 32) cx.1 cx.2.1 dX1_sizes_6 (by rw [c6]; decide) (by rw [c6]; decide) (by rw [c6]; decide) (by decide) ?_
      refine lv_aload_n (pc := 32) cx.1 cx.2.1 dX1_sizes_32 rfl (lv_at hl 0 rfl) ?_
      refine lv_iload_n (pc := 33) cx.1 cx.2.1 dX1_sizes_33 rfl (lv_at hl 1 rfl) ?_
      refine k_whole_i (pc := 34) (wf := (wP d nh hh cf z)) (u := u1) cx hw (k_runV (pc := 34) (rest := []) (As := [.int x1]) cx hw.1 (hw.2.1.weaken (fun _ _ _ _ => trivial)) hw.2.2 (k_recv cx hw 0 (ci := 0) (q := (RX1, TX1, 21)) rfl rfl) (m_X1_chunks l dC dI d z hh cf nh u1 x1 hwp H.size) (cwV 1 cx.2.2.2.2.1 (lw_V q929 q931 qs31 q75 q932) rfl rfl rfl hdV_X1_chunks ⟨Nat.le_of_ble_eq_true rfl, Nat.le_of_ble_eq_true rfl⟩) rfl hl.1 rfl (Nat.le_of_ble_eq_true rfl) dX1_sizes_34 ⟨Nat.le_of_ble_eq_true rfl, Nat.le_of_ble_eq_true rfl⟩) (fun r8 u7 H locs hwp hw => ?_)
      exact k_iretT (pc := 37) (wf := (wP d nh hh cf z)) (u := u7) cx hw hwp (by decide) (by decide) dX1_sizes_37
    replace hwp := hwp.2 c6
    have kc6_0 := c6
    clear c6
    by_cases c6 : x2 = (1 : Int32)
    · replace hwp := hwp.1 c6
      refine lv_tableIn (pc := 6) (off := 32) (tgt := 38) cx.1 cx.2.1 dX1_sizes_6 (by rw [c6]; decide) (by rw [c6]; decide) (by rw [c6]; decide) (by decide) ?_
      refine lv_aload_n (pc := 38) cx.1 cx.2.1 dX1_sizes_38 rfl (lv_at hl 0 rfl) ?_
      refine k_getR (pc := 39) (u := u1) (v := .ref (z 0 3)) cx hw (lr_PL_pl_4 d z hh cf nh) (C := RX1) (T := TX1) (N := 21) rfl in_X1 (by decide) q481 (fun _ h9 => h9) rfl dX1_sizes_39 ?_
      refine lv_iload_n (pc := 42) cx.1 cx.2.1 dX1_sizes_42 rfl (lv_at hl 1 rfl) ?_
      have hs9 := vp_lt hwp.1
      refine k_hald_PL (pc := 43) cx hw hwp.1 dX1_sizes_43 ?_
      replace hwp := hwp.2
      refine k_getIN (pc := 44) (u := u1) (v := ((u1.2 x1.toNatClampNeg).1 2)) cx hw (lhn_PL_2 d z hh cf nh hs9) (C := RX11) (T := TX11) (N := 3) rfl in_X11 (by decide) (nq450 cx.2.2.2.2.2.1) (fun _ h9 => h9) rfl dX1_sizes_44 ?_
      exact k_iretT (pc := 47) (wf := (wP d nh hh cf z)) (u := u1) cx hw hwp (by decide) (by decide) dX1_sizes_47
    replace hwp := hwp.2 c6
    have kc6_1 := c6
    clear c6
    by_cases c6 : x2 = (2 : Int32)
    · replace hwp := hwp.1 c6
      refine lv_tableIn (pc := 6) (off := 42) (tgt := 48) cx.1 cx.2.1 dX1_sizes_6 (by rw [c6]; decide) (by rw [c6]; decide) (by rw [c6]; decide) (by decide) ?_
      refine lv_aload_n (pc := 48) cx.1 cx.2.1 dX1_sizes_48 rfl (lv_at hl 0 rfl) ?_
      refine k_getR (pc := 49) (u := u1) (v := .ref (z 0 1)) cx hw (lr_PL_pl_10 d z hh cf nh) (C := RX1) (T := TX1) (N := 21) rfl in_X1 (by decide) q489 (fun _ h9 => h9) rfl dX1_sizes_49 ?_
      refine lv_iload_n (pc := 52) cx.1 cx.2.1 dX1_sizes_52 rfl (lv_at hl 1 rfl) ?_
      refine lv_iconst (pc := 53) (v := 1) cx.1 cx.2.1 dX1_sizes_53 (by decide) ?_
      refine lv_iadd (pc := 54) cx.1 cx.2.1 dX1_sizes_54 ?_
      refine k_iald (pc := 55) (u := u1) (f := ((u1.1 0).2.1 10)) cx hw (lx_PL_pl_10 d z hh cf nh) 0 rfl rfl hwp.1 dX1_sizes_55 ?_
      replace hwp := hwp.2
      refine lv_aload_n (pc := 56) cx.1 cx.2.1 dX1_sizes_56 rfl (lv_at hl 0 rfl) ?_
      refine k_getR (pc := 57) (u := u1) (v := .ref (z 0 1)) cx hw (lr_PL_pl_10 d z hh cf nh) (C := RX1) (T := TX1) (N := 21) rfl in_X1 (by decide) q489 (fun _ h9 => h9) rfl dX1_sizes_57 ?_
      refine lv_iload_n (pc := 60) cx.1 cx.2.1 dX1_sizes_60 rfl (lv_at hl 1 rfl) ?_
      refine k_iald (pc := 61) (u := u1) (f := ((u1.1 0).2.1 10)) cx hw (lx_PL_pl_10 d z hh cf nh) 0 rfl rfl hwp.1 dX1_sizes_61 ?_
      replace hwp := hwp.2
      refine lv_isub (pc := 62) cx.1 cx.2.1 dX1_sizes_62 ?_
      exact k_iretT (pc := 63) (wf := (wP d nh hh cf z)) (u := u1) cx hw hwp (by decide) (by decide) dX1_sizes_63
    replace hwp := hwp.2 c6
    have kc6_2 := c6
    clear c6
    refine lv_tableOut (pc := 6) (tgt := 64) cx.1 cx.2.1 dX1_sizes_6 (tb_out3 kc6_0 kc6_1 kc6_2) (by decide) ?_
    refine k_throwNew (pc := 64) (k := 15) (q := (RJ9, TJ9, 6)) (names := ["java/lang/RuntimeException", "java/lang/Exception"]) (rest := []) hlt cx hw hl.1 rfl (by decide +kernel) (by decide +kernel) (xw_J9 cx.2.2.2.2.1 cx.2.2.2.2.2.1 cx.2.2.2.2.2.2.2.2.2.1) (xc_J9 cx.2.2.2.2.1 cx.2.2.2.2.2.1 cx.2.2.2.2.2.2.2.2.2.1) q942 q159 q933 q934 q96 ⟨Nat.le_of_ble_eq_true rfl, Nat.le_of_ble_eq_true rfl, Nat.le_of_ble_eq_true rfl, Nat.le_of_ble_eq_true rfl⟩ dX1_sizes_64 dX1_sizes_67 dX1_sizes_68 dX1_sizes_71 (fun a10 H locs hw hx => ?_)
    exact k_leave (pc := 71) (wf := (wP d nh hh cf z)) (u := u1) (k := 15) cx xt (by decide) hw hwp hx (by decide) (by decide)
  · skip
    exact k_leave (pc := 2) (wf := (wP d nh hh cf z)) (u := v4) (k := k3) cx xt (by decide) hw hwp hx (by decide) (by decide)
