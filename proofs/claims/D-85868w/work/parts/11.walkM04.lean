set_option maxRecDepth 100000
set_option maxHeartbeats 4000000 in
theorem m_X12_seek (l : Launch) (dC : Nat → ClassId) (dI : Nat → Nat → Nat) (d : Nat → ClassId) (h : Nat → Nat) (u : St) (x1 : Int32) (x2 : Int32) (x3 : Int32) {K : Int32 → St → Prop} (hwp : wp_X12_seek u x1 x2 x3 K) : kM l yX12_seek cX12_seek 4 (some .int) ({ frames := 4, cells := 0, slots := 0, locals := 105 } : Room) dC dI d [.ref (h 0), .int x1, .int x2, .int x3] (wM d h) u (kQi dC dI (wM d h) K) 0 0 := by
  refine kM_start rfl (Nat.le_of_ble_eq_true rfl) ?_
  intro p e s m below meth c A ls cx hnm hw hl
  generalize hargs : ([.ref (h 0), .int x1, .int x2, .int x3] : List Value).toArray = args at cx ⊢
  unfold wp_X12_seek at hwp
  replace hl : lv_has ls 4 [(0, .ref (h 0)), (1, .int x1), (2, .int x2), (3, .int x3)] := hl
  generalize hH : s.heap = H at hw ⊢
  generalize hlo : ([] : List Loc) = locs at hw ⊢
  refine lv_aload_n (pc := 0) cx.1 cx.2.1 dX12_seek_0 rfl (lv_at hl 0 rfl) ?_
  refine lv_iconst (pc := 1) (v := 0) cx.1 cx.2.1 dX12_seek_1 (by decide) ?_
  refine k_putI (pc := 2) (u := u) (v := (0 : Int32)) cx hw (ln_X12_this_0 d h) (C := RX12) (T := TX12) (N := 40) rfl in_X12 tyX12 tyX12_ok nmX12 (by decide) q977 (fun _ h9 => h9) rfl rfl rfl dX12_seek_2 (fun H locs hw => ?_)
  refine lv_aload_n (pc := 5) cx.1 cx.2.1 dX12_seek_5 rfl (lv_at hl 0 rfl) ?_
  refine k_whole_v (pc := 6) (wf := (wM d h)) (u := (st_I u 0 (0 : Int32))) cx hw (k_runV (pc := 6) (rest := []) (As := []) cx hw.1 (hw.2.1.weaken (fun _ _ _ _ => trivial)) hw.2.2 (k_recv cx hw 0 (ci := 10) (q := (RX12, TX12, 40)) rfl rfl) (m_X12_dropCursor l dC dI d h  (st_I u 0 (0 : Int32))  hwp H.size) (cwV 0 cx.2.2.2.2.1 (lw_V q1106 q1108 qs32 q89 q1109) rfl rfl rfl hdV_X12_dropCursor ⟨Nat.le_of_ble_eq_true rfl, Nat.le_of_ble_eq_true rfl⟩) rfl hl.1 rfl (Nat.le_of_ble_eq_true rfl) dX12_seek_6 ⟨Nat.le_of_ble_eq_true rfl, Nat.le_of_ble_eq_true rfl⟩) (fun u1 H locs hwp hw => ?_)
  refine lv_aload_n (pc := 9) cx.1 cx.2.1 dX12_seek_9 rfl (lv_at hl 0 rfl) ?_
  refine k_getI (pc := 10) (u := u1) (v := (u1.1 7)) cx hw (ln_X12_this_7 d h) (C := RX12) (T := TX12) (N := 40) rfl in_X12 (by decide) q984 (fun _ h9 => h9) rfl dX12_seek_10 ?_
  refine lv_if_eq (pc := 13) (tgt := 19) cx.1 cx.2.1 dX12_seek_13 (by decide) (fun c3 => ?_) (fun c3 => ?_)
  · replace hwp := hwp.1 c3
    refine lv_aload_n (pc := 19) cx.1 cx.2.1 dX12_seek_19 rfl (lv_at hl 0 rfl) ?_
    refine lv_iload_n (pc := 20) cx.1 cx.2.1 dX12_seek_20 rfl (lv_at hl 1 rfl) ?_
    refine k_whole_i (pc := 21) (wf := (wM d h)) (u := u1) cx hw (k_runV (pc := 21) (rest := []) (As := [.int x1]) cx hw.1 (hw.2.1.weaken (fun _ _ _ _ => trivial)) hw.2.2 (k_recv cx hw 0 (ci := 10) (q := (RX12, TX12, 40)) rfl rfl) (m_X12_isSeries l dC dI d h  u1 x1 hwp H.size) (cwV 1 cx.2.2.2.2.1 (lw_V q1110 q1112 qs33 q89 q1113) rfl rfl rfl hdV_X12_isSeries ⟨Nat.le_of_ble_eq_true rfl, Nat.le_of_ble_eq_true rfl⟩) rfl hl.1 rfl (Nat.le_of_ble_eq_true rfl) dX12_seek_21 ⟨Nat.le_of_ble_eq_true rfl, Nat.le_of_ble_eq_true rfl⟩) (fun r5 u4 H locs hwp hw => ?_)
    refine lv_if_ne (pc := 24) (tgt := 30) cx.1 cx.2.1 dX12_seek_24 (by decide) (fun c6 => ?_) (fun c6 => ?_)
    · replace hwp := hwp.1 c6
      refine lv_aload_n (pc := 30) cx.1 cx.2.1 dX12_seek_30 rfl (lv_at hl 0 rfl) ?_
      refine lv_iload_n (pc := 31) cx.1 cx.2.1 dX12_seek_31 rfl (lv_at hl 1 rfl) ?_
      refine lv_iload_n (pc := 32) cx.1 cx.2.1 dX12_seek_32 rfl (lv_at hl 2 rfl) ?_
      refine lv_iload_n (pc := 33) cx.1 cx.2.1 dX12_seek_33 rfl (lv_at hl 3 rfl) ?_
      refine lv_iconst (pc := 34) (v := 1) cx.1 cx.2.1 dX12_seek_34 (by decide) ?_
      refine k_whole_v (pc := 35) (wf := (wM d h)) (u := u4) cx hw (k_runV (pc := 35) (rest := []) (As := [.int x1, .int x2, .int x3, .int (1 : Int32)]) cx hw.1 (hw.2.1.weaken (fun _ _ _ _ => trivial)) hw.2.2 (k_recv cx hw 0 (ci := 10) (q := (RX12, TX12, 40)) rfl rfl) (m_X12_ask l dC dI d h  u4 x1 x2 x3 (1 : Int32) hwp H.size) (cwV 4 cx.2.2.2.2.1 (lw_V q1247 q1249 qs60 q89 q1250) rfl rfl rfl hdV_X12_ask ⟨Nat.le_of_ble_eq_true rfl, Nat.le_of_ble_eq_true rfl⟩) rfl hl.1 rfl (Nat.le_of_ble_eq_true rfl) dX12_seek_35 ⟨Nat.le_of_ble_eq_true rfl, Nat.le_of_ble_eq_true rfl⟩) (fun u7 H locs hwp hw => ?_)
      refine lv_aload_n (pc := 38) cx.1 cx.2.1 dX12_seek_38 rfl (lv_at hl 0 rfl) ?_
      refine lv_iconst (pc := 39) (v := 1) cx.1 cx.2.1 dX12_seek_39 (by decide) ?_
      refine k_putI (pc := 40) (u := u7) (v := (1 : Int32)) cx hw (ln_X12_this_30 d h) (C := RX12) (T := TX12) (N := 40) rfl in_X12 tyX12 tyX12_ok nmX12 (by decide) q1007 (fun _ h9 => h9) rfl rfl rfl dX12_seek_40 (fun H locs hw => ?_)
      refine lv_aload_n (pc := 43) cx.1 cx.2.1 dX12_seek_43 rfl (lv_at hl 0 rfl) ?_
      refine lv_aload_n (pc := 44) cx.1 cx.2.1 dX12_seek_44 rfl (lv_at hl 0 rfl) ?_
      refine k_getI (pc := 45) (u := (st_I u7 30 (1 : Int32))) (v := (u7.1 36)) cx hw (ln_X12_this_36 d h) (C := RX12) (T := TX12) (N := 40) rfl in_X12 (by decide) q1013 (fun _ h9 => h9) rfl dX12_seek_45 ?_
      refine k_putI (pc := 48) (u := (st_I u7 30 (1 : Int32))) (v := (u7.1 36)) cx hw (ln_X12_this_31 d h) (C := RX12) (T := TX12) (N := 40) rfl in_X12 tyX12 tyX12_ok nmX12 (by decide) q1008 (fun _ h9 => h9) rfl rfl rfl dX12_seek_48 (fun H locs hw => ?_)
      refine lv_aload_n (pc := 51) cx.1 cx.2.1 dX12_seek_51 rfl (lv_at hl 0 rfl) ?_
      refine k_getI (pc := 52) (u := (st_I (st_I u7 30 (1 : Int32)) 31 (u7.1 36))) (v := (u7.1 36)) cx hw (ln_X12_this_36 d h) (C := RX12) (T := TX12) (N := 40) rfl in_X12 (by decide) q1013 (fun _ h9 => h9) rfl dX12_seek_52 ?_
      exact k_iret (pc := 55) (wf := (wM d h)) (u := (st_I (st_I u7 30 (1 : Int32)) 31 (u7.1 36))) cx hw hwp (by decide) (by decide) dX12_seek_55
    · replace hwp := hwp.2 c6
      refine lv_bipush (pc := 27) (v := -2) cx.1 cx.2.1 dX12_seek_27 (by decide) ?_
      exact k_iret (pc := 29) (wf := (wM d h)) (u := u4) cx hw hwp (by decide) (by decide) dX12_seek_29
  · replace hwp := hwp.2 c3
    refine lv_bipush (pc := 16) (v := -9) cx.1 cx.2.1 dX12_seek_16 (by decide) ?_
    exact k_iret (pc := 18) (wf := (wM d h)) (u := u1) cx hw hwp (by decide) (by decide) dX12_seek_18
set_option maxHeartbeats 4000000 in
theorem wk_X12_next_26 {p : Program} {l : Launch} {e : Env} {s : State} {m : MethodId} {args : Array Value} {below : List Frame} {meth : Method} {c : Code} {A : Nat → Prop} {dC : Nat → ClassId} {dI : Nat → Nat → Nat} {d : Nat → ClassId} {h : Nat → Nat} {K : Int32 → St → Prop} (cx : Cx p s m args meth c cX12_next RX12 1 (some .boolean) A dC dI d) : ∀  (u : St) (H : Heap) (locs : List Loc) (ls : Array Slot), wp_X12_next_26 K  u → Wd dC dI A ((wM d h) u) s H locs → lv_has ls 1 [(0, .ref (h 0))] → W p l e ({ frames := 0, cells := 0, slots := 0, locals := 0 } : Room) s m args below meth c H locs 0 0 (MQ below (kQi dC dI (wM d h) K A) args s 0 0 A) (F0 m 26 ls []) := by
  intro  u H locs ls hwp hw hl
  unfold wp_X12_next_26 at hwp
  refine lv_aload_n (pc := 26) cx.1 cx.2.1 dX12_next_26 rfl (lv_at hl 0 rfl) ?_
  refine k_getI (pc := 27) (u := u) (v := (u.1 30)) cx hw (ln_X12_this_30 d h) (C := RX12) (T := TX12) (N := 40) rfl in_X12 (by decide) q1007 (fun _ h9 => h9) rfl dX12_next_27 ?_
  refine lv_if_eq (pc := 30) (tgt := 48) cx.1 cx.2.1 dX12_next_30 (by decide) (fun c1 => ?_) (fun c1 => ?_)
  · replace hwp := hwp.1 c1
    refine lv_iconst (pc := 48) (v := 0) cx.1 cx.2.1 dX12_next_48 (by decide) ?_
    exact k_zret (pc := 49) (wf := (wM d h)) (u := u) cx hw rfl hwp (by decide) (by decide) dX12_next_49
  · replace hwp := hwp.2 c1
    refine lv_aload_n (pc := 33) cx.1 cx.2.1 dX12_next_33 rfl (lv_at hl 0 rfl) ?_
    refine k_getI (pc := 34) (u := u) (v := (u.1 32)) cx hw (ln_X12_this_32 d h) (C := RX12) (T := TX12) (N := 40) rfl in_X12 (by decide) q1009 (fun _ h9 => h9) rfl dX12_next_34 ?_
    refine lv_aload_n (pc := 37) cx.1 cx.2.1 dX12_next_37 rfl (lv_at hl 0 rfl) ?_
    refine k_getI (pc := 38) (u := u) (v := (u.1 31)) cx hw (ln_X12_this_31 d h) (C := RX12) (T := TX12) (N := 40) rfl in_X12 (by decide) q1008 (fun _ h9 => h9) rfl dX12_next_38 ?_
    refine lv_icmp_ge (pc := 41) (tgt := 48) cx.1 cx.2.1 dX12_next_41 (by decide) (fun c2 => ?_) (fun c2 => ?_)
    · replace hwp := hwp.1 c2
      refine lv_iconst (pc := 48) (v := 0) cx.1 cx.2.1 dX12_next_48 (by decide) ?_
      exact k_zret (pc := 49) (wf := (wM d h)) (u := u) cx hw rfl hwp (by decide) (by decide) dX12_next_49
    · replace hwp := hwp.2 c2
      refine lv_iconst (pc := 44) (v := 1) cx.1 cx.2.1 dX12_next_44 (by decide) ?_
      refine lv_goto (pc := 45) (tgt := 49) cx.1 cx.2.1 dX12_next_45 (by decide) ?_
      exact k_zret (pc := 49) (wf := (wM d h)) (u := u) cx hw rfl hwp (by decide) (by decide) dX12_next_49
set_option maxHeartbeats 4000000 in
theorem m_X12_next (l : Launch) (dC : Nat → ClassId) (dI : Nat → Nat → Nat) (d : Nat → ClassId) (h : Nat → Nat) (u : St) {K : Int32 → St → Prop} (hwp : wp_X12_next u K) : kM l yX12_next cX12_next 1 (some .boolean) ({ frames := 0, cells := 0, slots := 0, locals := 0 } : Room) dC dI d [.ref (h 0)] (wM d h) u (kQi dC dI (wM d h) K) 0 0 := by
  refine kM_start rfl (Nat.le_of_ble_eq_true rfl) ?_
  intro p e s m below meth c A ls cx hnm hw hl
  generalize hargs : ([.ref (h 0)] : List Value).toArray = args at cx ⊢
  unfold wp_X12_next at hwp
  replace hl : lv_has ls 1 [(0, .ref (h 0))] := hl
  generalize hH : s.heap = H at hw ⊢
  generalize hlo : ([] : List Loc) = locs at hw ⊢
  refine lv_aload_n (pc := 0) cx.1 cx.2.1 dX12_next_0 rfl (lv_at hl 0 rfl) ?_
  refine lv_iconst (pc := 1) (v := 0) cx.1 cx.2.1 dX12_next_1 (by decide) ?_
  refine k_putI (pc := 2) (u := u) (v := (0 : Int32)) cx hw (ln_X12_this_0 d h) (C := RX12) (T := TX12) (N := 40) rfl in_X12 tyX12 tyX12_ok nmX12 (by decide) q977 (fun _ h9 => h9) rfl rfl rfl dX12_next_2 (fun H locs hw => ?_)
  refine lv_aload_n (pc := 5) cx.1 cx.2.1 dX12_next_5 rfl (lv_at hl 0 rfl) ?_
  refine k_getI (pc := 6) (u := (st_I u 0 (0 : Int32))) (v := (u.1 32)) cx hw (ln_X12_this_32 d h) (C := RX12) (T := TX12) (N := 40) rfl in_X12 (by decide) q1009 (fun _ h9 => h9) rfl dX12_next_6 ?_
  refine lv_aload_n (pc := 9) cx.1 cx.2.1 dX12_next_9 rfl (lv_at hl 0 rfl) ?_
  refine k_getI (pc := 10) (u := (st_I u 0 (0 : Int32))) (v := (u.1 31)) cx hw (ln_X12_this_31 d h) (C := RX12) (T := TX12) (N := 40) rfl in_X12 (by decide) q1008 (fun _ h9 => h9) rfl dX12_next_10 ?_
  refine lv_icmp_ge (pc := 13) (tgt := 26) cx.1 cx.2.1 dX12_next_13 (by decide) (fun c1 => ?_) (fun c1 => ?_)
  · replace hwp := hwp.1 c1
    exact wk_X12_next_26 cx  _ _ _ _ hwp hw (lv_sub hl [0] rfl)
  · replace hwp := hwp.2 c1
    refine lv_aload_n (pc := 16) cx.1 cx.2.1 dX12_next_16 rfl (lv_at hl 0 rfl) ?_
    refine lv_dup (pc := 17) cx.1 cx.2.1 dX12_next_17 rfl ?_
    refine k_getI (pc := 18) (u := (st_I u 0 (0 : Int32))) (v := (u.1 32)) cx hw (ln_X12_this_32 d h) (C := RX12) (T := TX12) (N := 40) rfl in_X12 (by decide) q1009 (fun _ h9 => h9) rfl dX12_next_18 ?_
    refine lv_iconst (pc := 21) (v := 1) cx.1 cx.2.1 dX12_next_21 (by decide) ?_
    refine lv_iadd (pc := 22) cx.1 cx.2.1 dX12_next_22 ?_
    refine k_putI (pc := 23) (u := (st_I u 0 (0 : Int32))) (v := ((u.1 32) + (1 : Int32))) cx hw (ln_X12_this_32 d h) (C := RX12) (T := TX12) (N := 40) rfl in_X12 tyX12 tyX12_ok nmX12 (by decide) q1009 (fun _ h9 => h9) rfl rfl rfl dX12_next_23 (fun H locs hw => ?_)
    exact wk_X12_next_26 cx  _ _ _ _ hwp hw (lv_sub hl [0] rfl)
set_option maxHeartbeats 4000000 in
theorem m_X12_isAt (l : Launch) (dC : Nat → ClassId) (dI : Nat → Nat → Nat) (d : Nat → ClassId) (h : Nat → Nat) (u : St) {K : Int32 → St → Prop} (hwp : wp_X12_isAt u K) : kM l yX12_isAt cX12_isAt 1 (some .boolean) ({ frames := 0, cells := 0, slots := 0, locals := 0 } : Room) dC dI d [.ref (h 0)] (wM d h) u (kQi dC dI (wM d h) K) 0 0 := by
  refine kM_start rfl (Nat.le_of_ble_eq_true rfl) ?_
  intro p e s m below meth c A ls cx hnm hw hl
  generalize hargs : ([.ref (h 0)] : List Value).toArray = args at cx ⊢
  unfold wp_X12_isAt at hwp
  replace hl : lv_has ls 1 [(0, .ref (h 0))] := hl
  generalize hH : s.heap = H at hw ⊢
  generalize hlo : ([] : List Loc) = locs at hw ⊢
  refine lv_aload_n (pc := 0) cx.1 cx.2.1 dX12_isAt_0 rfl (lv_at hl 0 rfl) ?_
  refine k_getI (pc := 1) (u := u) (v := (u.1 30)) cx hw (ln_X12_this_30 d h) (C := RX12) (T := TX12) (N := 40) rfl in_X12 (by decide) q1007 (fun _ h9 => h9) rfl dX12_isAt_1 ?_
  refine lv_if_eq (pc := 4) (tgt := 29) cx.1 cx.2.1 dX12_isAt_4 (by decide) (fun c1 => ?_) (fun c1 => ?_)
  · replace hwp := hwp.1 c1
    refine lv_iconst (pc := 29) (v := 0) cx.1 cx.2.1 dX12_isAt_29 (by decide) ?_
    exact k_zret (pc := 30) (wf := (wM d h)) (u := u) cx hw rfl hwp (by decide) (by decide) dX12_isAt_30
  · replace hwp := hwp.2 c1
    refine lv_aload_n (pc := 7) cx.1 cx.2.1 dX12_isAt_7 rfl (lv_at hl 0 rfl) ?_
    refine k_getI (pc := 8) (u := u) (v := (u.1 32)) cx hw (ln_X12_this_32 d h) (C := RX12) (T := TX12) (N := 40) rfl in_X12 (by decide) q1009 (fun _ h9 => h9) rfl dX12_isAt_8 ?_
    refine lv_if_lt (pc := 11) (tgt := 29) cx.1 cx.2.1 dX12_isAt_11 (by decide) (fun c2 => ?_) (fun c2 => ?_)
    · replace hwp := hwp.1 c2
      refine lv_iconst (pc := 29) (v := 0) cx.1 cx.2.1 dX12_isAt_29 (by decide) ?_
      exact k_zret (pc := 30) (wf := (wM d h)) (u := u) cx hw rfl hwp (by decide) (by decide) dX12_isAt_30
    · replace hwp := hwp.2 c2
      refine lv_aload_n (pc := 14) cx.1 cx.2.1 dX12_isAt_14 rfl (lv_at hl 0 rfl) ?_
      refine k_getI (pc := 15) (u := u) (v := (u.1 32)) cx hw (ln_X12_this_32 d h) (C := RX12) (T := TX12) (N := 40) rfl in_X12 (by decide) q1009 (fun _ h9 => h9) rfl dX12_isAt_15 ?_
      refine lv_aload_n (pc := 18) cx.1 cx.2.1 dX12_isAt_18 rfl (lv_at hl 0 rfl) ?_
      refine k_getI (pc := 19) (u := u) (v := (u.1 31)) cx hw (ln_X12_this_31 d h) (C := RX12) (T := TX12) (N := 40) rfl in_X12 (by decide) q1008 (fun _ h9 => h9) rfl dX12_isAt_19 ?_
      refine lv_icmp_ge (pc := 22) (tgt := 29) cx.1 cx.2.1 dX12_isAt_22 (by decide) (fun c3 => ?_) (fun c3 => ?_)
      · replace hwp := hwp.1 c3
        refine lv_iconst (pc := 29) (v := 0) cx.1 cx.2.1 dX12_isAt_29 (by decide) ?_
        exact k_zret (pc := 30) (wf := (wM d h)) (u := u) cx hw rfl hwp (by decide) (by decide) dX12_isAt_30
      · replace hwp := hwp.2 c3
        refine lv_iconst (pc := 25) (v := 1) cx.1 cx.2.1 dX12_isAt_25 (by decide) ?_
        refine lv_goto (pc := 26) (tgt := 30) cx.1 cx.2.1 dX12_isAt_26 (by decide) ?_
        exact k_zret (pc := 30) (wf := (wM d h)) (u := u) cx hw rfl hwp (by decide) (by decide) dX12_isAt_30
set_option maxHeartbeats 4000000 in
theorem m_X12_curTime (l : Launch) (dC : Nat → ClassId) (dI : Nat → Nat → Nat) (d : Nat → ClassId) (h : Nat → Nat) (u : St) {K : Int32 → St → Prop} (hwp : wp_X12_curTime u K) : kM l yX12_curTime cX12_curTime 1 (some .int) ({ frames := 1, cells := 0, slots := 0, locals := 20 } : Room) dC dI d [.ref (h 0)] (wM d h) u (kQi dC dI (wM d h) K) 0 0 := by
  refine kM_start rfl (Nat.le_of_ble_eq_true rfl) ?_
  intro p e s m below meth c A ls cx hnm hw hl
  generalize hargs : ([.ref (h 0)] : List Value).toArray = args at cx ⊢
  unfold wp_X12_curTime at hwp
  replace hl : lv_has ls 1 [(0, .ref (h 0))] := hl
  generalize hH : s.heap = H at hw ⊢
  generalize hlo : ([] : List Loc) = locs at hw ⊢
  refine lv_aload_n (pc := 0) cx.1 cx.2.1 dX12_curTime_0 rfl (lv_at hl 0 rfl) ?_
  refine lv_iconst (pc := 1) (v := 0) cx.1 cx.2.1 dX12_curTime_1 (by decide) ?_
  refine k_putI (pc := 2) (u := u) (v := (0 : Int32)) cx hw (ln_X12_this_0 d h) (C := RX12) (T := TX12) (N := 40) rfl in_X12 tyX12 tyX12_ok nmX12 (by decide) q977 (fun _ h9 => h9) rfl rfl rfl dX12_curTime_2 (fun H locs hw => ?_)
  refine lv_aload_n (pc := 5) cx.1 cx.2.1 dX12_curTime_5 rfl (lv_at hl 0 rfl) ?_
  refine k_whole_i (pc := 6) (wf := (wM d h)) (u := (st_I u 0 (0 : Int32))) cx hw (k_runV (pc := 6) (rest := []) (As := []) cx hw.1 (hw.2.1.weaken (fun _ _ _ _ => trivial)) hw.2.2 (k_recv cx hw 0 (ci := 10) (q := (RX12, TX12, 40)) rfl rfl) (m_X12_isAt l dC dI d h  (st_I u 0 (0 : Int32))  hwp H.size) (cwV 0 cx.2.2.2.2.1 (lw_V q1286 q1288 qs67 q89 q1289) rfl rfl rfl hdV_X12_isAt ⟨Nat.le_of_ble_eq_true rfl, Nat.le_of_ble_eq_true rfl⟩) rfl hl.1 rfl (Nat.le_of_ble_eq_true rfl) dX12_curTime_6 ⟨Nat.le_of_ble_eq_true rfl, Nat.le_of_ble_eq_true rfl⟩) (fun r2 u1 H locs hwp hw => ?_)
  have gF4 := hwp.1
  replace hwp := hwp.2
  have hJ5 : ∀ z3 : Int32, z3 = (if r2 = 0 then (0 : Int32) else ((u1.2.1 28) (u1.1 32).toNatClampNeg)) → W p l e ({ frames := 1, cells := 0, slots := 0, locals := 20 } : Room) s m args below meth c H locs 0 0 (MQ below (kQi dC dI (wM d h) K A) args s 0 0 A) (F0 m 25 ls [.int z3]) := by
    intro z3 ez3
    replace hwp := hwp z3 ez3
    exact k_iret (pc := 25) (wf := (wM d h)) (u := u1) cx hw hwp (by decide) (by decide) dX12_curTime_25
  clear hwp
  refine lv_if_eq (pc := 9) (tgt := 24) cx.1 cx.2.1 dX12_curTime_9 (by decide) (fun c6 => ?_) (fun c6 => ?_)
  · skip
    refine lv_iconst (pc := 24) (v := 0) cx.1 cx.2.1 dX12_curTime_24 (by decide) ?_
    exact hJ5 _ (if_pos c6).symm
  · have hwp := gF4 c6
    replace hwp := And.intro hwp trivial
    refine lv_aload_n (pc := 12) cx.1 cx.2.1 dX12_curTime_12 rfl (lv_at hl 0 rfl) ?_
    refine k_getR (pc := 13) (u := u1) (v := .ref (h 14)) cx hw (lr_X12_this_28 d h) (C := RX12) (T := TX12) (N := 40) rfl in_X12 (by decide) q1005 (fun _ h9 => h9) rfl dX12_curTime_13 ?_
    refine lv_aload_n (pc := 16) cx.1 cx.2.1 dX12_curTime_16 rfl (lv_at hl 0 rfl) ?_
    refine k_getI (pc := 17) (u := u1) (v := (u1.1 32)) cx hw (ln_X12_this_32 d h) (C := RX12) (T := TX12) (N := 40) rfl in_X12 (by decide) q1009 (fun _ h9 => h9) rfl dX12_curTime_17 ?_
    refine k_iald (pc := 20) (u := u1) (f := (u1.2.1 28)) cx hw (lx_X12_this_28 d h) 0 rfl rfl hwp.1 dX12_curTime_20 ?_
    replace hwp := hwp.2
    refine lv_goto (pc := 21) (tgt := 25) cx.1 cx.2.1 dX12_curTime_21 (by decide) ?_
    exact hJ5 _ (if_neg c6).symm
set_option maxHeartbeats 4000000 in
theorem m_X12_curVal (l : Launch) (dC : Nat → ClassId) (dI : Nat → Nat → Nat) (d : Nat → ClassId) (h : Nat → Nat) (u : St) {K : Int32 → St → Prop} (hwp : wp_X12_curVal u K) : kM l yX12_curVal cX12_curVal 1 (some .int) ({ frames := 1, cells := 0, slots := 0, locals := 20 } : Room) dC dI d [.ref (h 0)] (wM d h) u (kQi dC dI (wM d h) K) 0 0 := by
  refine kM_start rfl (Nat.le_of_ble_eq_true rfl) ?_
  intro p e s m below meth c A ls cx hnm hw hl
  generalize hargs : ([.ref (h 0)] : List Value).toArray = args at cx ⊢
  unfold wp_X12_curVal at hwp
  replace hl : lv_has ls 1 [(0, .ref (h 0))] := hl
  generalize hH : s.heap = H at hw ⊢
  generalize hlo : ([] : List Loc) = locs at hw ⊢
  refine lv_aload_n (pc := 0) cx.1 cx.2.1 dX12_curVal_0 rfl (lv_at hl 0 rfl) ?_
  refine lv_iconst (pc := 1) (v := 0) cx.1 cx.2.1 dX12_curVal_1 (by decide) ?_
  refine k_putI (pc := 2) (u := u) (v := (0 : Int32)) cx hw (ln_X12_this_0 d h) (C := RX12) (T := TX12) (N := 40) rfl in_X12 tyX12 tyX12_ok nmX12 (by decide) q977 (fun _ h9 => h9) rfl rfl rfl dX12_curVal_2 (fun H locs hw => ?_)
  refine lv_aload_n (pc := 5) cx.1 cx.2.1 dX12_curVal_5 rfl (lv_at hl 0 rfl) ?_
  refine k_whole_i (pc := 6) (wf := (wM d h)) (u := (st_I u 0 (0 : Int32))) cx hw (k_runV (pc := 6) (rest := []) (As := []) cx hw.1 (hw.2.1.weaken (fun _ _ _ _ => trivial)) hw.2.2 (k_recv cx hw 0 (ci := 10) (q := (RX12, TX12, 40)) rfl rfl) (m_X12_isAt l dC dI d h  (st_I u 0 (0 : Int32))  hwp H.size) (cwV 0 cx.2.2.2.2.1 (lw_V q1286 q1288 qs67 q89 q1289) rfl rfl rfl hdV_X12_isAt ⟨Nat.le_of_ble_eq_true rfl, Nat.le_of_ble_eq_true rfl⟩) rfl hl.1 rfl (Nat.le_of_ble_eq_true rfl) dX12_curVal_6 ⟨Nat.le_of_ble_eq_true rfl, Nat.le_of_ble_eq_true rfl⟩) (fun r2 u1 H locs hwp hw => ?_)
  have gF4 := hwp.1
  replace hwp := hwp.2
  have hJ5 : ∀ z3 : Int32, z3 = (if r2 = 0 then (0 : Int32) else ((u1.2.1 29) (u1.1 32).toNatClampNeg)) → W p l e ({ frames := 1, cells := 0, slots := 0, locals := 20 } : Room) s m args below meth c H locs 0 0 (MQ below (kQi dC dI (wM d h) K A) args s 0 0 A) (F0 m 25 ls [.int z3]) := by
    intro z3 ez3
    replace hwp := hwp z3 ez3
    exact k_iret (pc := 25) (wf := (wM d h)) (u := u1) cx hw hwp (by decide) (by decide) dX12_curVal_25
  clear hwp
  refine lv_if_eq (pc := 9) (tgt := 24) cx.1 cx.2.1 dX12_curVal_9 (by decide) (fun c6 => ?_) (fun c6 => ?_)
  · skip
    refine lv_iconst (pc := 24) (v := 0) cx.1 cx.2.1 dX12_curVal_24 (by decide) ?_
    exact hJ5 _ (if_pos c6).symm
  · have hwp := gF4 c6
    replace hwp := And.intro hwp trivial
    refine lv_aload_n (pc := 12) cx.1 cx.2.1 dX12_curVal_12 rfl (lv_at hl 0 rfl) ?_
    refine k_getR (pc := 13) (u := u1) (v := .ref (h 15)) cx hw (lr_X12_this_29 d h) (C := RX12) (T := TX12) (N := 40) rfl in_X12 (by decide) q1006 (fun _ h9 => h9) rfl dX12_curVal_13 ?_
    refine lv_aload_n (pc := 16) cx.1 cx.2.1 dX12_curVal_16 rfl (lv_at hl 0 rfl) ?_
    refine k_getI (pc := 17) (u := u1) (v := (u1.1 32)) cx hw (ln_X12_this_32 d h) (C := RX12) (T := TX12) (N := 40) rfl in_X12 (by decide) q1009 (fun _ h9 => h9) rfl dX12_curVal_17 ?_
    refine k_iald (pc := 20) (u := u1) (f := (u1.2.1 29)) cx hw (lx_X12_this_29 d h) 0 rfl rfl hwp.1 dX12_curVal_20 ?_
    replace hwp := hwp.2
    refine lv_goto (pc := 21) (tgt := 25) cx.1 cx.2.1 dX12_curVal_21 (by decide) ?_
    exact hJ5 _ (if_neg c6).symm
set_option maxHeartbeats 4000000 in
theorem m_X12_aggCount (l : Launch) (dC : Nat → ClassId) (dI : Nat → Nat → Nat) (d : Nat → ClassId) (h : Nat → Nat) (u : St) (x1 : Int32) (x2 : Int32) (x3 : Int32) {K : Int32 → St → Prop} (hwp : wp_X12_aggCount u x1 x2 x3 K) : kM l yX12_aggCount cX12_aggCount 4 (some .int) ({ frames := 4, cells := 0, slots := 0, locals := 105 } : Room) dC dI d [.ref (h 0), .int x1, .int x2, .int x3] (wM d h) u (kQi dC dI (wM d h) K) 0 0 := by
  refine kM_start rfl (Nat.le_of_ble_eq_true rfl) ?_
  intro p e s m below meth c A ls cx hnm hw hl
  generalize hargs : ([.ref (h 0), .int x1, .int x2, .int x3] : List Value).toArray = args at cx ⊢
  unfold wp_X12_aggCount at hwp
  replace hl : lv_has ls 4 [(0, .ref (h 0)), (1, .int x1), (2, .int x2), (3, .int x3)] := hl
  generalize hH : s.heap = H at hw ⊢
  generalize hlo : ([] : List Loc) = locs at hw ⊢
  refine lv_aload_n (pc := 0) cx.1 cx.2.1 dX12_aggCount_0 rfl (lv_at hl 0 rfl) ?_
  refine lv_iconst (pc := 1) (v := 0) cx.1 cx.2.1 dX12_aggCount_1 (by decide) ?_
  refine k_putI (pc := 2) (u := u) (v := (0 : Int32)) cx hw (ln_X12_this_0 d h) (C := RX12) (T := TX12) (N := 40) rfl in_X12 tyX12 tyX12_ok nmX12 (by decide) q977 (fun _ h9 => h9) rfl rfl rfl dX12_aggCount_2 (fun H locs hw => ?_)
  refine lv_aload_n (pc := 5) cx.1 cx.2.1 dX12_aggCount_5 rfl (lv_at hl 0 rfl) ?_
  refine k_getI (pc := 6) (u := (st_I u 0 (0 : Int32))) (v := (u.1 7)) cx hw (ln_X12_this_7 d h) (C := RX12) (T := TX12) (N := 40) rfl in_X12 (by decide) q984 (fun _ h9 => h9) rfl dX12_aggCount_6 ?_
  refine lv_if_eq (pc := 9) (tgt := 15) cx.1 cx.2.1 dX12_aggCount_9 (by decide) (fun c1 => ?_) (fun c1 => ?_)
  · replace hwp := hwp.1 c1
    refine lv_aload_n (pc := 15) cx.1 cx.2.1 dX12_aggCount_15 rfl (lv_at hl 0 rfl) ?_
    refine lv_iload_n (pc := 16) cx.1 cx.2.1 dX12_aggCount_16 rfl (lv_at hl 1 rfl) ?_
    refine k_whole_i (pc := 17) (wf := (wM d h)) (u := (st_I u 0 (0 : Int32))) cx hw (k_runV (pc := 17) (rest := []) (As := [.int x1]) cx hw.1 (hw.2.1.weaken (fun _ _ _ _ => trivial)) hw.2.2 (k_recv cx hw 0 (ci := 10) (q := (RX12, TX12, 40)) rfl rfl) (m_X12_isSeries l dC dI d h  (st_I u 0 (0 : Int32)) x1 hwp H.size) (cwV 1 cx.2.2.2.2.1 (lw_V q1110 q1112 qs33 q89 q1113) rfl rfl rfl hdV_X12_isSeries ⟨Nat.le_of_ble_eq_true rfl, Nat.le_of_ble_eq_true rfl⟩) rfl hl.1 rfl (Nat.le_of_ble_eq_true rfl) dX12_aggCount_17 ⟨Nat.le_of_ble_eq_true rfl, Nat.le_of_ble_eq_true rfl⟩) (fun r3 u2 H locs hwp hw => ?_)
    refine lv_if_ne (pc := 20) (tgt := 26) cx.1 cx.2.1 dX12_aggCount_20 (by decide) (fun c4 => ?_) (fun c4 => ?_)
    · replace hwp := hwp.1 c4
      refine lv_aload_n (pc := 26) cx.1 cx.2.1 dX12_aggCount_26 rfl (lv_at hl 0 rfl) ?_
      refine lv_iload_n (pc := 27) cx.1 cx.2.1 dX12_aggCount_27 rfl (lv_at hl 1 rfl) ?_
      refine lv_iload_n (pc := 28) cx.1 cx.2.1 dX12_aggCount_28 rfl (lv_at hl 2 rfl) ?_
      refine lv_iload_n (pc := 29) cx.1 cx.2.1 dX12_aggCount_29 rfl (lv_at hl 3 rfl) ?_
      refine lv_iconst (pc := 30) (v := 0) cx.1 cx.2.1 dX12_aggCount_30 (by decide) ?_
      refine k_whole_v (pc := 31) (wf := (wM d h)) (u := u2) cx hw (k_runV (pc := 31) (rest := []) (As := [.int x1, .int x2, .int x3, .int (0 : Int32)]) cx hw.1 (hw.2.1.weaken (fun _ _ _ _ => trivial)) hw.2.2 (k_recv cx hw 0 (ci := 10) (q := (RX12, TX12, 40)) rfl rfl) (m_X12_ask l dC dI d h  u2 x1 x2 x3 (0 : Int32) hwp H.size) (cwV 4 cx.2.2.2.2.1 (lw_V q1247 q1249 qs60 q89 q1250) rfl rfl rfl hdV_X12_ask ⟨Nat.le_of_ble_eq_true rfl, Nat.le_of_ble_eq_true rfl⟩) rfl hl.1 rfl (Nat.le_of_ble_eq_true rfl) dX12_aggCount_31 ⟨Nat.le_of_ble_eq_true rfl, Nat.le_of_ble_eq_true rfl⟩) (fun u5 H locs hwp hw => ?_)
      refine lv_aload_n (pc := 34) cx.1 cx.2.1 dX12_aggCount_34 rfl (lv_at hl 0 rfl) ?_
      refine k_getI (pc := 35) (u := u5) (v := (u5.1 36)) cx hw (ln_X12_this_36 d h) (C := RX12) (T := TX12) (N := 40) rfl in_X12 (by decide) q1013 (fun _ h9 => h9) rfl dX12_aggCount_35 ?_
      exact k_iret (pc := 38) (wf := (wM d h)) (u := u5) cx hw hwp (by decide) (by decide) dX12_aggCount_38
    · replace hwp := hwp.2 c4
      refine lv_bipush (pc := 23) (v := -2) cx.1 cx.2.1 dX12_aggCount_23 (by decide) ?_
      exact k_iret (pc := 25) (wf := (wM d h)) (u := u2) cx hw hwp (by decide) (by decide) dX12_aggCount_25
  · replace hwp := hwp.2 c1
    refine lv_bipush (pc := 12) (v := -9) cx.1 cx.2.1 dX12_aggCount_12 (by decide) ?_
    exact k_iret (pc := 14) (wf := (wM d h)) (u := (st_I u 0 (0 : Int32))) cx hw hwp (by decide) (by decide) dX12_aggCount_14
set_option maxHeartbeats 4000000 in
theorem wk_X12_asks_43 {p : Program} {l : Launch} {e : Env} {s : State} {m : MethodId} {args : Array Value} {below : List Frame} {meth : Method} {c : Code} {A : Nat → Prop} {dC : Nat → ClassId} {dI : Nat → Nat → Nat} {d : Nat → ClassId} {h : Nat → Nat} {K : Int32 → St → Prop} (cx : Cx p s m args meth c cX12_asks RX12 4 (some .boolean) A dC dI d) : ∀  (u : St) (H : Heap) (locs : List Loc) (ls : Array Slot), wp_X12_asks_43 K  u → Wd dC dI A ((wM d h) u) s H locs → lv_has ls 4 [(0, .ref (h 0))] → W p l e ({ frames := 4, cells := 0, slots := 0, locals := 105 } : Room) s m args below meth c H locs 0 0 (MQ below (kQi dC dI (wM d h) K A) args s 0 0 A) (F0 m 43 ls []) := by
  intro  u H locs ls hwp hw hl
  unfold wp_X12_asks_43 at hwp
  refine lv_aload_n (pc := 43) cx.1 cx.2.1 dX12_asks_43 rfl (lv_at hl 0 rfl) ?_
  refine k_getI (pc := 44) (u := u) (v := (u.1 0)) cx hw (ln_X12_this_0 d h) (C := RX12) (T := TX12) (N := 40) rfl in_X12 (by decide) q977 (fun _ h9 => h9) rfl dX12_asks_44 ?_
  have hJ2 : ∀ z1 : Int32, z1 = (if (u.1 0) = 0 then (1 : Int32) else (0 : Int32)) → W p l e ({ frames := 4, cells := 0, slots := 0, locals := 105 } : Room) s m args below meth c H locs 0 0 (MQ below (kQi dC dI (wM d h) K A) args s 0 0 A) (F0 m 55 ls [.int z1]) := by
    intro z1 ez1
    replace hwp := hwp z1 ez1
    exact k_zret (pc := 55) (wf := (wM d h)) (u := u) cx hw (ok_Zn hwp.1) hwp.2 (by decide) (by decide) dX12_asks_55
  clear hwp
  refine lv_if_ne (pc := 47) (tgt := 54) cx.1 cx.2.1 dX12_asks_47 (by decide) (fun c3 => ?_) (fun c3 => ?_)
  · skip
    refine lv_iconst (pc := 54) (v := 0) cx.1 cx.2.1 dX12_asks_54 (by decide) ?_
    exact hJ2 _ (if_neg c3).symm
  · skip
    refine lv_iconst (pc := 50) (v := 1) cx.1 cx.2.1 dX12_asks_50 (by decide) ?_
    refine lv_goto (pc := 51) (tgt := 55) cx.1 cx.2.1 dX12_asks_51 (by decide) ?_
    exact hJ2 _ (if_pos c3).symm
set_option maxHeartbeats 4000000 in
theorem wk_X12_asks_25 {p : Program} {l : Launch} {e : Env} {s : State} {m : MethodId} {args : Array Value} {below : List Frame} {meth : Method} {c : Code} {A : Nat → Prop} {dC : Nat → ClassId} {dI : Nat → Nat → Nat} {d : Nat → ClassId} {h : Nat → Nat} {K : Int32 → St → Prop} (cx : Cx p s m args meth c cX12_asks RX12 4 (some .boolean) A dC dI d) : ∀ (x1 : Int32) (x2 : Int32) (x3 : Int32) (y1 : Int32) (u : St) (H : Heap) (locs : List Loc) (ls : Array Slot), wp_X12_asks_25 K x1 x2 x3 y1 u → Wd dC dI A ((wM d h) u) s H locs → lv_has ls 4 [(0, .ref (h 0)), (1, .int x1), (2, .int x2), (3, .int x3)] → W p l e ({ frames := 4, cells := 0, slots := 0, locals := 105 } : Room) s m args below meth c H locs 0 0 (MQ below (kQi dC dI (wM d h) K A) args s 0 0 A) (F0 m 25 ls [.int y1, .ref (h 0)]) := by
  intro x1 x2 x3 y1 u H locs ls hwp hw hl
  unfold wp_X12_asks_25 at hwp
  refine k_putI (pc := 25) (u := u) (v := y1) cx hw (ln_X12_this_0 d h) (C := RX12) (T := TX12) (N := 40) rfl in_X12 tyX12 tyX12_ok nmX12 (by decide) q977 (fun _ h9 => h9) rfl rfl rfl dX12_asks_25 (fun H locs hw => ?_)
  refine lv_aload_n (pc := 28) cx.1 cx.2.1 dX12_asks_28 rfl (lv_at hl 0 rfl) ?_
  refine k_getI (pc := 29) (u := (st_I u 0 y1)) (v := y1) cx hw (ln_X12_this_0 d h) (C := RX12) (T := TX12) (N := 40) rfl in_X12 (by decide) q977 (fun _ h9 => h9) rfl dX12_asks_29 ?_
  refine lv_if_ne (pc := 32) (tgt := 43) cx.1 cx.2.1 dX12_asks_32 (by decide) (fun c1 => ?_) (fun c1 => ?_)
  · replace hwp := hwp.1 c1
    exact wk_X12_asks_43 cx  _ _ _ _ hwp hw (lv_sub hl [0] rfl)
  · replace hwp := hwp.2 c1
    refine lv_aload_n (pc := 35) cx.1 cx.2.1 dX12_asks_35 rfl (lv_at hl 0 rfl) ?_
    refine lv_iload_n (pc := 36) cx.1 cx.2.1 dX12_asks_36 rfl (lv_at hl 1 rfl) ?_
    refine lv_iload_n (pc := 37) cx.1 cx.2.1 dX12_asks_37 rfl (lv_at hl 2 rfl) ?_
    refine lv_iload_n (pc := 38) cx.1 cx.2.1 dX12_asks_38 rfl (lv_at hl 3 rfl) ?_
    refine lv_iconst (pc := 39) (v := 0) cx.1 cx.2.1 dX12_asks_39 (by decide) ?_
    refine k_whole_v (pc := 40) (wf := (wM d h)) (u := (st_I u 0 y1)) cx hw (k_runV (pc := 40) (rest := []) (As := [.int x1, .int x2, .int x3, .int (0 : Int32)]) cx hw.1 (hw.2.1.weaken (fun _ _ _ _ => trivial)) hw.2.2 (k_recv cx hw 0 (ci := 10) (q := (RX12, TX12, 40)) rfl rfl) (m_X12_ask l dC dI d h  (st_I u 0 y1) x1 x2 x3 (0 : Int32) hwp H.size) (cwV 4 cx.2.2.2.2.1 (lw_V q1247 q1249 qs60 q89 q1250) rfl rfl rfl hdV_X12_ask ⟨Nat.le_of_ble_eq_true rfl, Nat.le_of_ble_eq_true rfl⟩) rfl hl.1 rfl (Nat.le_of_ble_eq_true rfl) dX12_asks_40 ⟨Nat.le_of_ble_eq_true rfl, Nat.le_of_ble_eq_true rfl⟩) (fun u2 H locs hwp hw => ?_)
    exact wk_X12_asks_43 cx  _ _ _ _ hwp hw (lv_sub hl [0] rfl)
set_option maxHeartbeats 4000000 in
theorem m_X12_asks (l : Launch) (dC : Nat → ClassId) (dI : Nat → Nat → Nat) (d : Nat → ClassId) (h : Nat → Nat) (u : St) (x1 : Int32) (x2 : Int32) (x3 : Int32) {K : Int32 → St → Prop} (hwp : wp_X12_asks u x1 x2 x3 K) : kM l yX12_asks cX12_asks 4 (some .boolean) ({ frames := 4, cells := 0, slots := 0, locals := 105 } : Room) dC dI d [.ref (h 0), .int x1, .int x2, .int x3] (wM d h) u (kQi dC dI (wM d h) K) 0 0 := by
  refine kM_start rfl (Nat.le_of_ble_eq_true rfl) ?_
  intro p e s m below meth c A ls cx hnm hw hl
  generalize hargs : ([.ref (h 0), .int x1, .int x2, .int x3] : List Value).toArray = args at cx ⊢
  unfold wp_X12_asks at hwp
  replace hl : lv_has ls 4 [(0, .ref (h 0)), (1, .int x1), (2, .int x2), (3, .int x3)] := hl
  generalize hH : s.heap = H at hw ⊢
  generalize hlo : ([] : List Loc) = locs at hw ⊢
  refine lv_aload_n (pc := 0) cx.1 cx.2.1 dX12_asks_0 rfl (lv_at hl 0 rfl) ?_
  refine lv_aload_n (pc := 1) cx.1 cx.2.1 dX12_asks_1 rfl (lv_at hl 0 rfl) ?_
  refine k_getI (pc := 2) (u := u) (v := (u.1 7)) cx hw (ln_X12_this_7 d h) (C := RX12) (T := TX12) (N := 40) rfl in_X12 (by decide) q984 (fun _ h9 => h9) rfl dX12_asks_2 ?_
  refine lv_if_eq (pc := 5) (tgt := 12) cx.1 cx.2.1 dX12_asks_5 (by decide) (fun c1 => ?_) (fun c1 => ?_)
  · replace hwp := hwp.1 c1
    refine lv_aload_n (pc := 12) cx.1 cx.2.1 dX12_asks_12 rfl (lv_at hl 0 rfl) ?_
    refine lv_iload_n (pc := 13) cx.1 cx.2.1 dX12_asks_13 rfl (lv_at hl 1 rfl) ?_
    refine k_whole_i (pc := 14) (wf := (wM d h)) (u := u) cx hw (k_runV (pc := 14) (rest := [.ref (h 0)]) (As := [.int x1]) cx hw.1 (hw.2.1.weaken (fun _ _ _ _ => trivial)) hw.2.2 (k_recv cx hw 0 (ci := 10) (q := (RX12, TX12, 40)) rfl rfl) (m_X12_isSeries l dC dI d h  u x1 hwp H.size) (cwV 1 cx.2.2.2.2.1 (lw_V q1110 q1112 qs33 q89 q1113) rfl rfl rfl hdV_X12_isSeries ⟨Nat.le_of_ble_eq_true rfl, Nat.le_of_ble_eq_true rfl⟩) rfl hl.1 rfl (Nat.le_of_ble_eq_true rfl) dX12_asks_14 ⟨Nat.le_of_ble_eq_true rfl, Nat.le_of_ble_eq_true rfl⟩) (fun r3 u2 H locs hwp hw => ?_)
    refine lv_if_ne (pc := 17) (tgt := 24) cx.1 cx.2.1 dX12_asks_17 (by decide) (fun c4 => ?_) (fun c4 => ?_)
    · replace hwp := hwp.1 c4
      refine lv_iconst (pc := 24) (v := 0) cx.1 cx.2.1 dX12_asks_24 (by decide) ?_
      exact wk_X12_asks_25 cx _ _ _ _ _ _ _ _ hwp hw (lv_sub hl [0, 1, 2, 3] rfl)
    · replace hwp := hwp.2 c4
      refine lv_iconst (pc := 20) (v := 2) cx.1 cx.2.1 dX12_asks_20 (by decide) ?_
      refine lv_goto (pc := 21) (tgt := 25) cx.1 cx.2.1 dX12_asks_21 (by decide) ?_
      exact wk_X12_asks_25 cx _ _ _ _ _ _ _ _ hwp hw (lv_sub hl [0, 1, 2, 3] rfl)
  · replace hwp := hwp.2 c1
    refine lv_iconst (pc := 8) (v := 1) cx.1 cx.2.1 dX12_asks_8 (by decide) ?_
    refine lv_goto (pc := 9) (tgt := 25) cx.1 cx.2.1 dX12_asks_9 (by decide) ?_
    exact wk_X12_asks_25 cx _ _ _ _ _ _ _ _ hwp hw (lv_sub hl [0, 1, 2, 3] rfl)
set_option maxHeartbeats 4000000 in
theorem m_X12_aggMin (l : Launch) (dC : Nat → ClassId) (dI : Nat → Nat → Nat) (d : Nat → ClassId) (h : Nat → Nat) (u : St) (x1 : Int32) (x2 : Int32) (x3 : Int32) {K : Int32 → St → Prop} (hwp : wp_X12_aggMin u x1 x2 x3 K) : kM l yX12_aggMin cX12_aggMin 4 (some .int) ({ frames := 5, cells := 0, slots := 0, locals := 128 } : Room) dC dI d [.ref (h 0), .int x1, .int x2, .int x3] (wM d h) u (kQi dC dI (wM d h) K) 0 0 := by
  refine kM_start rfl (Nat.le_of_ble_eq_true rfl) ?_
  intro p e s m below meth c A ls cx hnm hw hl
  generalize hargs : ([.ref (h 0), .int x1, .int x2, .int x3] : List Value).toArray = args at cx ⊢
  unfold wp_X12_aggMin at hwp
  replace hl : lv_has ls 4 [(0, .ref (h 0)), (1, .int x1), (2, .int x2), (3, .int x3)] := hl
  generalize hH : s.heap = H at hw ⊢
  generalize hlo : ([] : List Loc) = locs at hw ⊢
  refine lv_aload_n (pc := 0) cx.1 cx.2.1 dX12_aggMin_0 rfl (lv_at hl 0 rfl) ?_
  refine lv_iload_n (pc := 1) cx.1 cx.2.1 dX12_aggMin_1 rfl (lv_at hl 1 rfl) ?_
  refine lv_iload_n (pc := 2) cx.1 cx.2.1 dX12_aggMin_2 rfl (lv_at hl 2 rfl) ?_
  refine lv_iload_n (pc := 3) cx.1 cx.2.1 dX12_aggMin_3 rfl (lv_at hl 3 rfl) ?_
  refine k_whole_i (pc := 4) (wf := (wM d h)) (u := u) cx hw (k_runV (pc := 4) (rest := []) (As := [.int x1, .int x2, .int x3]) cx hw.1 (hw.2.1.weaken (fun _ _ _ _ => trivial)) hw.2.2 (k_recv cx hw 0 (ci := 10) (q := (RX12, TX12, 40)) rfl rfl) (m_X12_asks l dC dI d h  u x1 x2 x3 hwp H.size) (cwV 3 cx.2.2.2.2.1 (lw_V q1302 q1304 qs68 q89 q1305) rfl rfl rfl hdV_X12_asks ⟨Nat.le_of_ble_eq_true rfl, Nat.le_of_ble_eq_true rfl⟩) rfl hl.1 rfl (Nat.le_of_ble_eq_true rfl) dX12_aggMin_4 ⟨Nat.le_of_ble_eq_true rfl, Nat.le_of_ble_eq_true rfl⟩) (fun r2 u1 H locs hwp hw => ?_)
  have hJ4 : ∀ z3 : Int32, z3 = (if r2 = 0 then (0 : Int32) else (u1.1 37)) → W p l e ({ frames := 5, cells := 0, slots := 0, locals := 128 } : Room) s m args below meth c H locs 0 0 (MQ below (kQi dC dI (wM d h) K A) args s 0 0 A) (F0 m 18 ls [.int z3]) := by
    intro z3 ez3
    replace hwp := hwp z3 ez3
    exact k_iret (pc := 18) (wf := (wM d h)) (u := u1) cx hw hwp (by decide) (by decide) dX12_aggMin_18
  clear hwp
  refine lv_if_eq (pc := 7) (tgt := 17) cx.1 cx.2.1 dX12_aggMin_7 (by decide) (fun c5 => ?_) (fun c5 => ?_)
  · skip
    refine lv_iconst (pc := 17) (v := 0) cx.1 cx.2.1 dX12_aggMin_17 (by decide) ?_
    exact hJ4 _ (if_pos c5).symm
  · skip
    refine lv_aload_n (pc := 10) cx.1 cx.2.1 dX12_aggMin_10 rfl (lv_at hl 0 rfl) ?_
    refine k_getI (pc := 11) (u := u1) (v := (u1.1 37)) cx hw (ln_X12_this_37 d h) (C := RX12) (T := TX12) (N := 40) rfl in_X12 (by decide) q1014 (fun _ h9 => h9) rfl dX12_aggMin_11 ?_
    refine lv_goto (pc := 14) (tgt := 18) cx.1 cx.2.1 dX12_aggMin_14 (by decide) ?_
    exact hJ4 _ (if_neg c5).symm
set_option maxHeartbeats 4000000 in
theorem m_X12_aggMax (l : Launch) (dC : Nat → ClassId) (dI : Nat → Nat → Nat) (d : Nat → ClassId) (h : Nat → Nat) (u : St) (x1 : Int32) (x2 : Int32) (x3 : Int32) {K : Int32 → St → Prop} (hwp : wp_X12_aggMax u x1 x2 x3 K) : kM l yX12_aggMax cX12_aggMax 4 (some .int) ({ frames := 5, cells := 0, slots := 0, locals := 128 } : Room) dC dI d [.ref (h 0), .int x1, .int x2, .int x3] (wM d h) u (kQi dC dI (wM d h) K) 0 0 := by
  refine kM_start rfl (Nat.le_of_ble_eq_true rfl) ?_
  intro p e s m below meth c A ls cx hnm hw hl
  generalize hargs : ([.ref (h 0), .int x1, .int x2, .int x3] : List Value).toArray = args at cx ⊢
  unfold wp_X12_aggMax at hwp
  replace hl : lv_has ls 4 [(0, .ref (h 0)), (1, .int x1), (2, .int x2), (3, .int x3)] := hl
  generalize hH : s.heap = H at hw ⊢
  generalize hlo : ([] : List Loc) = locs at hw ⊢
  refine lv_aload_n (pc := 0) cx.1 cx.2.1 dX12_aggMax_0 rfl (lv_at hl 0 rfl) ?_
  refine lv_iload_n (pc := 1) cx.1 cx.2.1 dX12_aggMax_1 rfl (lv_at hl 1 rfl) ?_
  refine lv_iload_n (pc := 2) cx.1 cx.2.1 dX12_aggMax_2 rfl (lv_at hl 2 rfl) ?_
  refine lv_iload_n (pc := 3) cx.1 cx.2.1 dX12_aggMax_3 rfl (lv_at hl 3 rfl) ?_
  refine k_whole_i (pc := 4) (wf := (wM d h)) (u := u) cx hw (k_runV (pc := 4) (rest := []) (As := [.int x1, .int x2, .int x3]) cx hw.1 (hw.2.1.weaken (fun _ _ _ _ => trivial)) hw.2.2 (k_recv cx hw 0 (ci := 10) (q := (RX12, TX12, 40)) rfl rfl) (m_X12_asks l dC dI d h  u x1 x2 x3 hwp H.size) (cwV 3 cx.2.2.2.2.1 (lw_V q1302 q1304 qs68 q89 q1305) rfl rfl rfl hdV_X12_asks ⟨Nat.le_of_ble_eq_true rfl, Nat.le_of_ble_eq_true rfl⟩) rfl hl.1 rfl (Nat.le_of_ble_eq_true rfl) dX12_aggMax_4 ⟨Nat.le_of_ble_eq_true rfl, Nat.le_of_ble_eq_true rfl⟩) (fun r2 u1 H locs hwp hw => ?_)
  have hJ4 : ∀ z3 : Int32, z3 = (if r2 = 0 then (0 : Int32) else (u1.1 38)) → W p l e ({ frames := 5, cells := 0, slots := 0, locals := 128 } : Room) s m args below meth c H locs 0 0 (MQ below (kQi dC dI (wM d h) K A) args s 0 0 A) (F0 m 18 ls [.int z3]) := by
    intro z3 ez3
    replace hwp := hwp z3 ez3
    exact k_iret (pc := 18) (wf := (wM d h)) (u := u1) cx hw hwp (by decide) (by decide) dX12_aggMax_18
  clear hwp
  refine lv_if_eq (pc := 7) (tgt := 17) cx.1 cx.2.1 dX12_aggMax_7 (by decide) (fun c5 => ?_) (fun c5 => ?_)
  · skip
    refine lv_iconst (pc := 17) (v := 0) cx.1 cx.2.1 dX12_aggMax_17 (by decide) ?_
    exact hJ4 _ (if_pos c5).symm
  · skip
    refine lv_aload_n (pc := 10) cx.1 cx.2.1 dX12_aggMax_10 rfl (lv_at hl 0 rfl) ?_
    refine k_getI (pc := 11) (u := u1) (v := (u1.1 38)) cx hw (ln_X12_this_38 d h) (C := RX12) (T := TX12) (N := 40) rfl in_X12 (by decide) q1015 (fun _ h9 => h9) rfl dX12_aggMax_11 ?_
    refine lv_goto (pc := 14) (tgt := 18) cx.1 cx.2.1 dX12_aggMax_14 (by decide) ?_
    exact hJ4 _ (if_neg c5).symm
set_option maxHeartbeats 4000000 in
theorem m_X12_aggSum (l : Launch) (dC : Nat → ClassId) (dI : Nat → Nat → Nat) (d : Nat → ClassId) (h : Nat → Nat) (u : St) (x1 : Int32) (x2 : Int32) (x3 : Int32) {K : Int64 → St → Prop} (hwp : wp_X12_aggSum u x1 x2 x3 K) : kM l yX12_aggSum cX12_aggSum 4 (some .long) ({ frames := 5, cells := 0, slots := 0, locals := 128 } : Room) dC dI d [.ref (h 0), .int x1, .int x2, .int x3] (wM d h) u (kQl dC dI (wM d h) K) 0 0 := by
  refine kM_start rfl (Nat.le_of_ble_eq_true rfl) ?_
  intro p e s m below meth c A ls cx hnm hw hl
  generalize hargs : ([.ref (h 0), .int x1, .int x2, .int x3] : List Value).toArray = args at cx ⊢
  unfold wp_X12_aggSum at hwp
  replace hl : lv_has ls 4 [(0, .ref (h 0)), (1, .int x1), (2, .int x2), (3, .int x3)] := hl
  generalize hH : s.heap = H at hw ⊢
  generalize hlo : ([] : List Loc) = locs at hw ⊢
  refine lv_aload_n (pc := 0) cx.1 cx.2.1 dX12_aggSum_0 rfl (lv_at hl 0 rfl) ?_
  refine lv_iload_n (pc := 1) cx.1 cx.2.1 dX12_aggSum_1 rfl (lv_at hl 1 rfl) ?_
  refine lv_iload_n (pc := 2) cx.1 cx.2.1 dX12_aggSum_2 rfl (lv_at hl 2 rfl) ?_
  refine lv_iload_n (pc := 3) cx.1 cx.2.1 dX12_aggSum_3 rfl (lv_at hl 3 rfl) ?_
  refine k_whole_i (pc := 4) (wf := (wM d h)) (u := u) cx hw (k_runV (pc := 4) (rest := []) (As := [.int x1, .int x2, .int x3]) cx hw.1 (hw.2.1.weaken (fun _ _ _ _ => trivial)) hw.2.2 (k_recv cx hw 0 (ci := 10) (q := (RX12, TX12, 40)) rfl rfl) (m_X12_asks l dC dI d h  u x1 x2 x3 hwp H.size) (cwV 3 cx.2.2.2.2.1 (lw_V q1302 q1304 qs68 q89 q1305) rfl rfl rfl hdV_X12_asks ⟨Nat.le_of_ble_eq_true rfl, Nat.le_of_ble_eq_true rfl⟩) rfl hl.1 rfl (Nat.le_of_ble_eq_true rfl) dX12_aggSum_4 ⟨Nat.le_of_ble_eq_true rfl, Nat.le_of_ble_eq_true rfl⟩) (fun r2 u1 H locs hwp hw => ?_)
  have hJ4 : ∀ z3 : Int64, z3 = (if r2 = 0 then (0 : Int64) else (u1.2.2.1 39)) → W p l e ({ frames := 5, cells := 0, slots := 0, locals := 128 } : Room) s m args below meth c H locs 0 0 (MQ below (kQl dC dI (wM d h) K A) args s 0 0 A) (F0 m 18 ls [.long z3]) := by
    intro z3 ez3
    replace hwp := hwp z3 ez3
    exact k_lret (pc := 18) (wf := (wM d h)) (u := u1) cx hw hwp (by decide) (by decide) dX12_aggSum_18
  clear hwp
  refine lv_if_eq (pc := 7) (tgt := 17) cx.1 cx.2.1 dX12_aggSum_7 (by decide) (fun c5 => ?_) (fun c5 => ?_)
  · skip
    refine lv_lconst (pc := 17) (v := 0) cx.1 cx.2.1 dX12_aggSum_17 (by decide) ?_
    exact hJ4 _ (if_pos c5).symm
  · skip
    refine lv_aload_n (pc := 10) cx.1 cx.2.1 dX12_aggSum_10 rfl (lv_at hl 0 rfl) ?_
    refine k_getJ (pc := 11) (u := u1) (v := (u1.2.2.1 39)) cx hw (ln_X12_this_39 d h) (C := RX12) (T := TX12) (N := 40) rfl in_X12 (by decide) q1016 (fun _ h9 => h9) rfl dX12_aggSum_11 ?_
    refine lv_goto (pc := 14) (tgt := 18) cx.1 cx.2.1 dX12_aggSum_14 (by decide) ?_
    exact hJ4 _ (if_neg c5).symm
set_option maxHeartbeats 4000000 in
theorem m_X12_crashAfter (l : Launch) (dC : Nat → ClassId) (dI : Nat → Nat → Nat) (d : Nat → ClassId) (h : Nat → Nat) (u : St) (x1 : Int32) {K : Int32 → St → Prop} (hwp : wp_X12_crashAfter u x1 K) : kM l yX12_crashAfter cX12_crashAfter 2 (some .boolean) ({ frames := 0, cells := 0, slots := 0, locals := 0 } : Room) dC dI d [.ref (h 0), .int x1] (wM d h) u (kQi dC dI (wM d h) K) 0 0 := by
  refine kM_start rfl (Nat.le_of_ble_eq_true rfl) ?_
  intro p e s m below meth c A ls cx hnm hw hl
  generalize hargs : ([.ref (h 0), .int x1] : List Value).toArray = args at cx ⊢
  unfold wp_X12_crashAfter at hwp
  replace hl : lv_has ls 2 [(0, .ref (h 0)), (1, .int x1)] := hl
  generalize hH : s.heap = H at hw ⊢
  generalize hlo : ([] : List Loc) = locs at hw ⊢
  refine lv_aload_n (pc := 0) cx.1 cx.2.1 dX12_crashAfter_0 rfl (lv_at hl 0 rfl) ?_
  refine lv_iconst (pc := 1) (v := 0) cx.1 cx.2.1 dX12_crashAfter_1 (by decide) ?_
  refine k_putI (pc := 2) (u := u) (v := (0 : Int32)) cx hw (ln_X12_this_0 d h) (C := RX12) (T := TX12) (N := 40) rfl in_X12 tyX12 tyX12_ok nmX12 (by decide) q977 (fun _ h9 => h9) rfl rfl rfl dX12_crashAfter_2 (fun H locs hw => ?_)
  refine lv_aload_n (pc := 5) cx.1 cx.2.1 dX12_crashAfter_5 rfl (lv_at hl 0 rfl) ?_
  refine k_getI (pc := 6) (u := (st_I u 0 (0 : Int32))) (v := (u.1 7)) cx hw (ln_X12_this_7 d h) (C := RX12) (T := TX12) (N := 40) rfl in_X12 (by decide) q984 (fun _ h9 => h9) rfl dX12_crashAfter_6 ?_
  refine lv_if_ne (pc := 9) (tgt := 23) cx.1 cx.2.1 dX12_crashAfter_9 (by decide) (fun c1 => ?_) (fun c1 => ?_)
  · replace hwp := hwp.1 c1
    refine lv_iconst (pc := 23) (v := 0) cx.1 cx.2.1 dX12_crashAfter_23 (by decide) ?_
    exact k_zret (pc := 24) (wf := (wM d h)) (u := (st_I u 0 (0 : Int32))) cx hw rfl hwp (by decide) (by decide) dX12_crashAfter_24
  · replace hwp := hwp.2 c1
    refine lv_iload_n (pc := 12) cx.1 cx.2.1 dX12_crashAfter_12 rfl (lv_at hl 1 rfl) ?_
    refine lv_if_lt (pc := 13) (tgt := 23) cx.1 cx.2.1 dX12_crashAfter_13 (by decide) (fun c2 => ?_) (fun c2 => ?_)
    · replace hwp := hwp.1 c2
      refine lv_iconst (pc := 23) (v := 0) cx.1 cx.2.1 dX12_crashAfter_23 (by decide) ?_
      exact k_zret (pc := 24) (wf := (wM d h)) (u := (st_I u 0 (0 : Int32))) cx hw rfl hwp (by decide) (by decide) dX12_crashAfter_24
    · replace hwp := hwp.2 c2
      refine lv_iload_n (pc := 16) cx.1 cx.2.1 dX12_crashAfter_16 rfl (lv_at hl 1 rfl) ?_
      refine lv_ldcw (pc := 17) (v := 1000000) cx.1 cx.2.1 cx.2.2.2.1 (cx.2.2.2.2.1 _ q1318) dX12_crashAfter_17 ?_
      refine lv_icmp_le (pc := 20) (tgt := 25) cx.1 cx.2.1 dX12_crashAfter_20 (by decide) (fun c3 => ?_) (fun c3 => ?_)
      · replace hwp := hwp.1 c3
        refine lv_aload_n (pc := 25) cx.1 cx.2.1 dX12_crashAfter_25 rfl (lv_at hl 0 rfl) ?_
        refine lv_iload_n (pc := 26) cx.1 cx.2.1 dX12_crashAfter_26 rfl (lv_at hl 1 rfl) ?_
        refine k_putI (pc := 27) (u := (st_I u 0 (0 : Int32))) (v := x1) cx hw (ln_X12_this_6 d h) (C := RX12) (T := TX12) (N := 40) rfl in_X12 tyX12 tyX12_ok nmX12 (by decide) q983 (fun _ h9 => h9) rfl rfl rfl dX12_crashAfter_27 (fun H locs hw => ?_)
        refine lv_iconst (pc := 30) (v := 1) cx.1 cx.2.1 dX12_crashAfter_30 (by decide) ?_
        exact k_zret (pc := 31) (wf := (wM d h)) (u := (st_I (st_I u 0 (0 : Int32)) 6 x1)) cx hw rfl hwp (by decide) (by decide) dX12_crashAfter_31
      · replace hwp := hwp.2 c3
        refine lv_iconst (pc := 23) (v := 0) cx.1 cx.2.1 dX12_crashAfter_23 (by decide) ?_
        exact k_zret (pc := 24) (wf := (wM d h)) (u := (st_I u 0 (0 : Int32))) cx hw rfl hwp (by decide) (by decide) dX12_crashAfter_24
set_option maxHeartbeats 4000000 in
theorem wk_X12_take_5 {p : Program} {l : Launch} {e : Env} {s : State} {m : MethodId} {args : Array Value} {below : List Frame} {meth : Method} {c : Code} {A : Nat → Prop} {dC : Nat → ClassId} {dI : Nat → Nat → Nat} {d : Nat → ClassId} {h : Nat → Nat} {K : Int64 → St → Prop} (cx : Cx p s m args meth c cX12_take RX12 5 (some .long) A dC dI d) : ∀ (n : Nat) (x1 : Int32) (x2 : Int64) (x4 : Int32) (u : St) (H : Heap) (locs : List Loc) (ls : Array Slot), wp_X12_take_5 K n x1 x2 x4 u → Wd dC dI A ((wM d h) u) s H locs → lv_has ls 5 [(0, .ref (h 0)), (1, .int x1), (2, .long x2), (4, .int x4)] → W p l e ({ frames := 0, cells := 0, slots := 0, locals := 0 } : Room) s m args below meth c H locs 0 0 (MQ below (kQl dC dI (wM d h) K A) args s 0 0 A) (F0 m 5 ls []) := by
  intro n
  induction n with
  | zero =>
    intros; contradiction
  | succ n ih =>
    intro x1 x2 x4 u H locs ls hwp hw hl
    unfold wp_X12_take_5 at hwp
    refine lv_iload (pc := 5) cx.1 cx.2.1 dX12_take_5 (lv_at hl 3 rfl) ?_
    refine lv_iload_n (pc := 7) cx.1 cx.2.1 dX12_take_7 rfl (lv_at hl 1 rfl) ?_
    refine lv_icmp_ge (pc := 8) (tgt := 65) cx.1 cx.2.1 dX12_take_8 (by decide) (fun c1 => ?_) (fun c1 => ?_)
    · replace hwp := hwp.1 c1
      refine lv_lload_n (pc := 65) cx.1 cx.2.1 dX12_take_65 rfl (lv_at hl 2 rfl) ?_
      exact k_lret (pc := 66) (wf := (wM d h)) (u := u) cx hw hwp (by decide) (by decide) dX12_take_66
    · replace hwp := hwp.2 c1
      refine lv_ldc2 (pc := 11) (v := 2) cx.1 cx.2.1 cx.2.2.2.1 (cx.2.2.2.2.1 _ q1168) dX12_take_11 ?_
      refine lv_lload_n (pc := 14) cx.1 cx.2.1 dX12_take_14 rfl (lv_at hl 2 rfl) ?_
      refine lv_lmul (pc := 15) cx.1 cx.2.1 dX12_take_15 ?_
      refine lv_aload_n (pc := 16) cx.1 cx.2.1 dX12_take_16 rfl (lv_at hl 0 rfl) ?_
      refine k_getR (pc := 17) (u := u) (v := .ref (h 1)) cx hw (lr_X12_this_4 d h) (C := RX12) (T := TX12) (N := 40) rfl in_X12 (by decide) q981 (fun _ h9 => h9) rfl dX12_take_17 ?_
      refine lv_aload_n (pc := 20) cx.1 cx.2.1 dX12_take_20 rfl (lv_at hl 0 rfl) ?_
      refine k_getI (pc := 21) (u := u) (v := (u.1 35)) cx hw (ln_X12_this_35 d h) (C := RX12) (T := TX12) (N := 40) rfl in_X12 (by decide) q1012 (fun _ h9 => h9) rfl dX12_take_21 ?_
      refine lv_aload_n (pc := 24) cx.1 cx.2.1 dX12_take_24 rfl (lv_at hl 0 rfl) ?_
      refine k_getI (pc := 25) (u := u) (v := (u.1 34)) cx hw (ln_X12_this_34 d h) (C := RX12) (T := TX12) (N := 40) rfl in_X12 (by decide) q1011 (fun _ h9 => h9) rfl dX12_take_25 ?_
      refine lv_bipush (pc := 28) (v := 32) cx.1 cx.2.1 dX12_take_28 (by decide) ?_
      refine lv_idiv (pc := 30) cx.1 cx.2.1 dX12_take_30 (by decide) ?_
      refine lv_iadd (pc := 31) cx.1 cx.2.1 dX12_take_31 ?_
      refine k_iald (pc := 32) (u := u) (f := (u.2.1 4)) cx hw (lx_X12_this_4 d h) 0 rfl rfl hwp.1 dX12_take_32 ?_
      replace hwp := hwp.2
      refine lv_bipush (pc := 33) (v := 31) cx.1 cx.2.1 dX12_take_33 (by decide) ?_
      refine lv_aload_n (pc := 35) cx.1 cx.2.1 dX12_take_35 rfl (lv_at hl 0 rfl) ?_
      refine k_getI (pc := 36) (u := u) (v := (u.1 34)) cx hw (ln_X12_this_34 d h) (C := RX12) (T := TX12) (N := 40) rfl in_X12 (by decide) q1011 (fun _ h9 => h9) rfl dX12_take_36 ?_
      refine lv_bipush (pc := 39) (v := 32) cx.1 cx.2.1 dX12_take_39 (by decide) ?_
      refine lv_irem (pc := 41) cx.1 cx.2.1 dX12_take_41 (by decide) ?_
      refine lv_isub (pc := 42) cx.1 cx.2.1 dX12_take_42 ?_
      refine lv_ishr (pc := 43) cx.1 cx.2.1 dX12_take_43 ?_
      refine lv_iconst (pc := 44) (v := 1) cx.1 cx.2.1 dX12_take_44 (by decide) ?_
      refine lv_iand (pc := 45) cx.1 cx.2.1 dX12_take_45 ?_
      refine lv_i2l (pc := 46) cx.1 cx.2.1 dX12_take_46 rfl ?_
      refine lv_ladd (pc := 47) cx.1 cx.2.1 dX12_take_47 ?_
      refine lv_lstore_n (pc := 48) (lv' := [(2, .long (((2 : Int64) * x2) + ((((u.2.1 4) ((u.1 35) + ((u.1 34) / (32 : Int32))).toNatClampNeg) >>> (((31 : Int32) - ((u.1 34) - (u.1 34) / (32 : Int32) * (32 : Int32))) &&& 31)) &&& (1 : Int32)).toInt64)), (0, .ref (h 0)), (1, .int x1), (4, .int x4)]) cx.1 cx.2.1 dX12_take_48 rfl hl (by decide) rfl (fun ls hl => ?_)
      refine lv_aload_n (pc := 49) cx.1 cx.2.1 dX12_take_49 rfl (lv_at hl 1 rfl) ?_
      refine lv_dup (pc := 50) cx.1 cx.2.1 dX12_take_50 rfl ?_
      refine k_getI (pc := 51) (u := u) (v := (u.1 34)) cx hw (ln_X12_this_34 d h) (C := RX12) (T := TX12) (N := 40) rfl in_X12 (by decide) q1011 (fun _ h9 => h9) rfl dX12_take_51 ?_
      refine lv_iconst (pc := 54) (v := 1) cx.1 cx.2.1 dX12_take_54 (by decide) ?_
      refine lv_iadd (pc := 55) cx.1 cx.2.1 dX12_take_55 ?_
      refine k_putI (pc := 56) (u := u) (v := ((u.1 34) + (1 : Int32))) cx hw (ln_X12_this_34 d h) (C := RX12) (T := TX12) (N := 40) rfl in_X12 tyX12 tyX12_ok nmX12 (by decide) q1011 (fun _ h9 => h9) rfl rfl rfl dX12_take_56 (fun H locs hw => ?_)
      refine lv_iinc (pc := 59) (v := (x4 + (1 : Int32))) (lv' := [(4, .int (x4 + (1 : Int32))), (2, .long (((2 : Int64) * x2) + ((((u.2.1 4) ((u.1 35) + ((u.1 34) / (32 : Int32))).toNatClampNeg) >>> (((31 : Int32) - ((u.1 34) - (u.1 34) / (32 : Int32) * (32 : Int32))) &&& 31)) &&& (1 : Int32)).toInt64)), (0, .ref (h 0)), (1, .int x1)]) cx.1 cx.2.1 dX12_take_59 hl (k := 3) rfl rfl (by decide) rfl (fun ls hl => ?_)
      refine lv_goto (pc := 62) (tgt := 5) cx.1 cx.2.1 dX12_take_62 (by decide) ?_
      exact ih _ _ _ _ _ _ _ hwp hw (lv_sub hl [2, 3, 1, 0] rfl)
set_option maxHeartbeats 4000000 in
theorem m_X12_take (l : Launch) (dC : Nat → ClassId) (dI : Nat → Nat → Nat) (d : Nat → ClassId) (h : Nat → Nat) (u : St) (x1 : Int32) {K : Int64 → St → Prop} (hwp : wp_X12_take u x1 K) : kM l yX12_take cX12_take 5 (some .long) ({ frames := 0, cells := 0, slots := 0, locals := 0 } : Room) dC dI d [.ref (h 0), .int x1] (wM d h) u (kQl dC dI (wM d h) K) 0 0 := by
  refine kM_start rfl (Nat.le_of_ble_eq_true rfl) ?_
  intro p e s m below meth c A ls cx hnm hw hl
  generalize hargs : ([.ref (h 0), .int x1] : List Value).toArray = args at cx ⊢
  unfold wp_X12_take at hwp
  replace hl : lv_has ls 5 [(0, .ref (h 0)), (1, .int x1)] := hl
  generalize hH : s.heap = H at hw ⊢
  generalize hlo : ([] : List Loc) = locs at hw ⊢
  refine lv_lconst (pc := 0) (v := 0) cx.1 cx.2.1 dX12_take_0 (by decide) ?_
  refine lv_lstore_n (pc := 1) (lv' := [(2, .long (0 : Int64)), (0, .ref (h 0)), (1, .int x1)]) cx.1 cx.2.1 dX12_take_1 rfl hl (by decide) rfl (fun ls hl => ?_)
  refine lv_iconst (pc := 2) (v := 0) cx.1 cx.2.1 dX12_take_2 (by decide) ?_
  refine lv_istore (pc := 3) (lv' := [(4, .int (0 : Int32)), (2, .long (0 : Int64)), (0, .ref (h 0)), (1, .int x1)]) cx.1 cx.2.1 dX12_take_3 hl (by decide) rfl (fun ls hl => ?_)
  obtain ⟨n5, hwp⟩ := hwp
  exact wk_X12_take_5 cx n5 _ _ _ _ _ _ _ hwp hw (lv_sub hl [2, 3, 1, 0] rfl)
set_option maxHeartbeats 4000000 in
theorem m_X12_takeStep (l : Launch) (dC : Nat → ClassId) (dI : Nat → Nat → Nat) (d : Nat → ClassId) (h : Nat → Nat) (u : St) {K : Int64 → St → Prop} (hwp : wp_X12_takeStep u K) : kM l yX12_takeStep cX12_takeStep 1 (some .long) ({ frames := 1, cells := 0, slots := 0, locals := 24 } : Room) dC dI d [.ref (h 0)] (wM d h) u (kQl dC dI (wM d h) K) 0 0 := by
  refine kM_start rfl (Nat.le_of_ble_eq_true rfl) ?_
  intro p e s m below meth c A ls cx hnm hw hl
  generalize hargs : ([.ref (h 0)] : List Value).toArray = args at cx ⊢
  unfold wp_X12_takeStep at hwp
  replace hl : lv_has ls 1 [(0, .ref (h 0))] := hl
  generalize hH : s.heap = H at hw ⊢
  generalize hlo : ([] : List Loc) = locs at hw ⊢
  refine lv_aload_n (pc := 0) cx.1 cx.2.1 dX12_takeStep_0 rfl (lv_at hl 0 rfl) ?_
  refine lv_iconst (pc := 1) (v := 1) cx.1 cx.2.1 dX12_takeStep_1 (by decide) ?_
  refine k_whole_l (pc := 2) (wf := (wM d h)) (u := u) cx hw (k_runV (pc := 2) (rest := []) (As := [.int (1 : Int32)]) cx hw.1 (hw.2.1.weaken (fun _ _ _ _ => trivial)) hw.2.2 (k_recv cx hw 0 (ci := 10) (q := (RX12, TX12, 40)) rfl rfl) (m_X12_take l dC dI d h  u (1 : Int32) hwp H.size) (cwV 1 cx.2.2.2.2.1 (lw_V q1331 q1333 qs71 q89 q1334) rfl rfl rfl hdV_X12_take ⟨Nat.le_of_ble_eq_true rfl, Nat.le_of_ble_eq_true rfl⟩) rfl hl.1 rfl (Nat.le_of_ble_eq_true rfl) dX12_takeStep_2 ⟨Nat.le_of_ble_eq_true rfl, Nat.le_of_ble_eq_true rfl⟩) (fun r2 u1 H locs hwp hw => ?_)
  refine lv_lconst (pc := 5) (v := 0) cx.1 cx.2.1 dX12_takeStep_5 (by decide) ?_
  refine W.lcmp (pc := 6) cx.1 cx.2.1 dX12_takeStep_6 ?_
  refine lv_if_ne (pc := 7) (tgt := 12) cx.1 cx.2.1 dX12_takeStep_7 (by decide) (fun c3 => ?_) (fun c3 => ?_)
  · replace hwp := hwp.1 (mt (lg_cmp_eq _ _).mpr c3)
    refine lv_aload_n (pc := 12) cx.1 cx.2.1 dX12_takeStep_12 rfl (lv_at hl 0 rfl) ?_
    refine lv_iconst (pc := 13) (v := 1) cx.1 cx.2.1 dX12_takeStep_13 (by decide) ?_
    refine k_whole_l (pc := 14) (wf := (wM d h)) (u := u1) cx hw (k_runV (pc := 14) (rest := []) (As := [.int (1 : Int32)]) cx hw.1 (hw.2.1.weaken (fun _ _ _ _ => trivial)) hw.2.2 (k_recv cx hw 0 (ci := 10) (q := (RX12, TX12, 40)) rfl rfl) (m_X12_take l dC dI d h  u1 (1 : Int32) hwp H.size) (cwV 1 cx.2.2.2.2.1 (lw_V q1331 q1333 qs71 q89 q1334) rfl rfl rfl hdV_X12_take ⟨Nat.le_of_ble_eq_true rfl, Nat.le_of_ble_eq_true rfl⟩) rfl hl.1 rfl (Nat.le_of_ble_eq_true rfl) dX12_takeStep_14 ⟨Nat.le_of_ble_eq_true rfl, Nat.le_of_ble_eq_true rfl⟩) (fun r5 u4 H locs hwp hw => ?_)
    refine lv_lconst (pc := 17) (v := 0) cx.1 cx.2.1 dX12_takeStep_17 (by decide) ?_
    refine W.lcmp (pc := 18) cx.1 cx.2.1 dX12_takeStep_18 ?_
    refine lv_if_ne (pc := 19) (tgt := 33) cx.1 cx.2.1 dX12_takeStep_19 (by decide) (fun c6 => ?_) (fun c6 => ?_)
    · replace hwp := hwp.1 (mt (lg_cmp_eq _ _).mpr c6)
      refine lv_aload_n (pc := 33) cx.1 cx.2.1 dX12_takeStep_33 rfl (lv_at hl 0 rfl) ?_
      refine lv_iconst (pc := 34) (v := 1) cx.1 cx.2.1 dX12_takeStep_34 (by decide) ?_
      refine k_whole_l (pc := 35) (wf := (wM d h)) (u := u4) cx hw (k_runV (pc := 35) (rest := []) (As := [.int (1 : Int32)]) cx hw.1 (hw.2.1.weaken (fun _ _ _ _ => trivial)) hw.2.2 (k_recv cx hw 0 (ci := 10) (q := (RX12, TX12, 40)) rfl rfl) (m_X12_take l dC dI d h  u4 (1 : Int32) hwp H.size) (cwV 1 cx.2.2.2.2.1 (lw_V q1331 q1333 qs71 q89 q1334) rfl rfl rfl hdV_X12_take ⟨Nat.le_of_ble_eq_true rfl, Nat.le_of_ble_eq_true rfl⟩) rfl hl.1 rfl (Nat.le_of_ble_eq_true rfl) dX12_takeStep_35 ⟨Nat.le_of_ble_eq_true rfl, Nat.le_of_ble_eq_true rfl⟩) (fun r8 u7 H locs hwp hw => ?_)
      refine lv_lconst (pc := 38) (v := 0) cx.1 cx.2.1 dX12_takeStep_38 (by decide) ?_
      refine W.lcmp (pc := 39) cx.1 cx.2.1 dX12_takeStep_39 ?_
      refine lv_if_ne (pc := 40) (tgt := 54) cx.1 cx.2.1 dX12_takeStep_40 (by decide) (fun c9 => ?_) (fun c9 => ?_)
      · replace hwp := hwp.1 (mt (lg_cmp_eq _ _).mpr c9)
        refine lv_aload_n (pc := 54) cx.1 cx.2.1 dX12_takeStep_54 rfl (lv_at hl 0 rfl) ?_
        refine lv_iconst (pc := 55) (v := 1) cx.1 cx.2.1 dX12_takeStep_55 (by decide) ?_
        refine k_whole_l (pc := 56) (wf := (wM d h)) (u := u7) cx hw (k_runV (pc := 56) (rest := []) (As := [.int (1 : Int32)]) cx hw.1 (hw.2.1.weaken (fun _ _ _ _ => trivial)) hw.2.2 (k_recv cx hw 0 (ci := 10) (q := (RX12, TX12, 40)) rfl rfl) (m_X12_take l dC dI d h  u7 (1 : Int32) hwp H.size) (cwV 1 cx.2.2.2.2.1 (lw_V q1331 q1333 qs71 q89 q1334) rfl rfl rfl hdV_X12_take ⟨Nat.le_of_ble_eq_true rfl, Nat.le_of_ble_eq_true rfl⟩) rfl hl.1 rfl (Nat.le_of_ble_eq_true rfl) dX12_takeStep_56 ⟨Nat.le_of_ble_eq_true rfl, Nat.le_of_ble_eq_true rfl⟩) (fun r11 u10 H locs hwp hw => ?_)
        refine lv_lconst (pc := 59) (v := 0) cx.1 cx.2.1 dX12_takeStep_59 (by decide) ?_
        refine W.lcmp (pc := 60) cx.1 cx.2.1 dX12_takeStep_60 ?_
        refine lv_if_ne (pc := 61) (tgt := 77) cx.1 cx.2.1 dX12_takeStep_61 (by decide) (fun c12 => ?_) (fun c12 => ?_)
        · replace hwp := hwp.1 (mt (lg_cmp_eq _ _).mpr c12)
          refine lv_aload_n (pc := 77) cx.1 cx.2.1 dX12_takeStep_77 rfl (lv_at hl 0 rfl) ?_
          refine lv_bipush (pc := 78) (v := 34) cx.1 cx.2.1 dX12_takeStep_78 (by decide) ?_
          refine k_whole_l (pc := 80) (wf := (wM d h)) (u := u10) cx hw (k_runV (pc := 80) (rest := []) (As := [.int (34 : Int32)]) cx hw.1 (hw.2.1.weaken (fun _ _ _ _ => trivial)) hw.2.2 (k_recv cx hw 0 (ci := 10) (q := (RX12, TX12, 40)) rfl rfl) (m_X12_take l dC dI d h  u10 (34 : Int32) hwp H.size) (cwV 1 cx.2.2.2.2.1 (lw_V q1331 q1333 qs71 q89 q1334) rfl rfl rfl hdV_X12_take ⟨Nat.le_of_ble_eq_true rfl, Nat.le_of_ble_eq_true rfl⟩) rfl hl.1 rfl (Nat.le_of_ble_eq_true rfl) dX12_takeStep_80 ⟨Nat.le_of_ble_eq_true rfl, Nat.le_of_ble_eq_true rfl⟩) (fun r14 u13 H locs hwp hw => ?_)
          refine lv_ldc2 (pc := 83) (v := 8589934592) cx.1 cx.2.1 cx.2.2.2.1 (cx.2.2.2.2.1 _ q1176) dX12_takeStep_83 ?_
          refine lv_lsub (pc := 86) cx.1 cx.2.1 dX12_takeStep_86 ?_
          exact k_lret (pc := 87) (wf := (wM d h)) (u := u13) cx hw hwp (by decide) (by decide) dX12_takeStep_87
        · replace hwp := hwp.2 ((lg_cmp_eq _ _).mp c12)
          refine lv_aload_n (pc := 64) cx.1 cx.2.1 dX12_takeStep_64 rfl (lv_at hl 0 rfl) ?_
          refine lv_bipush (pc := 65) (v := 12) cx.1 cx.2.1 dX12_takeStep_65 (by decide) ?_
          refine k_whole_l (pc := 67) (wf := (wM d h)) (u := u10) cx hw (k_runV (pc := 67) (rest := []) (As := [.int (12 : Int32)]) cx hw.1 (hw.2.1.weaken (fun _ _ _ _ => trivial)) hw.2.2 (k_recv cx hw 0 (ci := 10) (q := (RX12, TX12, 40)) rfl rfl) (m_X12_take l dC dI d h  u10 (12 : Int32) hwp H.size) (cwV 1 cx.2.2.2.2.1 (lw_V q1331 q1333 qs71 q89 q1334) rfl rfl rfl hdV_X12_take ⟨Nat.le_of_ble_eq_true rfl, Nat.le_of_ble_eq_true rfl⟩) rfl hl.1 rfl (Nat.le_of_ble_eq_true rfl) dX12_takeStep_67 ⟨Nat.le_of_ble_eq_true rfl, Nat.le_of_ble_eq_true rfl⟩) (fun r16 u15 H locs hwp hw => ?_)
          refine lv_ldc2 (pc := 70) (v := 2048) cx.1 cx.2.1 cx.2.2.2.1 (cx.2.2.2.2.1 _ q1172) dX12_takeStep_70 ?_
          refine lv_lsub (pc := 73) cx.1 cx.2.1 dX12_takeStep_73 ?_
          refine lv_goto (pc := 74) (tgt := 87) cx.1 cx.2.1 dX12_takeStep_74 (by decide) ?_
          exact k_lret (pc := 87) (wf := (wM d h)) (u := u15) cx hw hwp (by decide) (by decide) dX12_takeStep_87
      · replace hwp := hwp.2 ((lg_cmp_eq _ _).mp c9)
        refine lv_aload_n (pc := 43) cx.1 cx.2.1 dX12_takeStep_43 rfl (lv_at hl 0 rfl) ?_
        refine lv_bipush (pc := 44) (v := 9) cx.1 cx.2.1 dX12_takeStep_44 (by decide) ?_
        refine k_whole_l (pc := 46) (wf := (wM d h)) (u := u7) cx hw (k_runV (pc := 46) (rest := []) (As := [.int (9 : Int32)]) cx hw.1 (hw.2.1.weaken (fun _ _ _ _ => trivial)) hw.2.2 (k_recv cx hw 0 (ci := 10) (q := (RX12, TX12, 40)) rfl rfl) (m_X12_take l dC dI d h  u7 (9 : Int32) hwp H.size) (cwV 1 cx.2.2.2.2.1 (lw_V q1331 q1333 qs71 q89 q1334) rfl rfl rfl hdV_X12_take ⟨Nat.le_of_ble_eq_true rfl, Nat.le_of_ble_eq_true rfl⟩) rfl hl.1 rfl (Nat.le_of_ble_eq_true rfl) dX12_takeStep_46 ⟨Nat.le_of_ble_eq_true rfl, Nat.le_of_ble_eq_true rfl⟩) (fun r18 u17 H locs hwp hw => ?_)
        refine lv_ldc2 (pc := 49) (v := 256) cx.1 cx.2.1 cx.2.2.2.1 (cx.2.2.2.2.1 _ q1169) dX12_takeStep_49 ?_
        refine lv_lsub (pc := 52) cx.1 cx.2.1 dX12_takeStep_52 ?_
        exact k_lret (pc := 53) (wf := (wM d h)) (u := u17) cx hw hwp (by decide) (by decide) dX12_takeStep_53
    · replace hwp := hwp.2 ((lg_cmp_eq _ _).mp c6)
      refine lv_aload_n (pc := 22) cx.1 cx.2.1 dX12_takeStep_22 rfl (lv_at hl 0 rfl) ?_
      refine lv_bipush (pc := 23) (v := 7) cx.1 cx.2.1 dX12_takeStep_23 (by decide) ?_
      refine k_whole_l (pc := 25) (wf := (wM d h)) (u := u4) cx hw (k_runV (pc := 25) (rest := []) (As := [.int (7 : Int32)]) cx hw.1 (hw.2.1.weaken (fun _ _ _ _ => trivial)) hw.2.2 (k_recv cx hw 0 (ci := 10) (q := (RX12, TX12, 40)) rfl rfl) (m_X12_take l dC dI d h  u4 (7 : Int32) hwp H.size) (cwV 1 cx.2.2.2.2.1 (lw_V q1331 q1333 qs71 q89 q1334) rfl rfl rfl hdV_X12_take ⟨Nat.le_of_ble_eq_true rfl, Nat.le_of_ble_eq_true rfl⟩) rfl hl.1 rfl (Nat.le_of_ble_eq_true rfl) dX12_takeStep_25 ⟨Nat.le_of_ble_eq_true rfl, Nat.le_of_ble_eq_true rfl⟩) (fun r20 u19 H locs hwp hw => ?_)
      refine lv_ldc2 (pc := 28) (v := 64) cx.1 cx.2.1 cx.2.2.2.1 (cx.2.2.2.2.1 _ q1166) dX12_takeStep_28 ?_
      refine lv_lsub (pc := 31) cx.1 cx.2.1 dX12_takeStep_31 ?_
      exact k_lret (pc := 32) (wf := (wM d h)) (u := u19) cx hw hwp (by decide) (by decide) dX12_takeStep_32
  · replace hwp := hwp.2 ((lg_cmp_eq _ _).mp c3)
    refine lv_lconst (pc := 10) (v := 0) cx.1 cx.2.1 dX12_takeStep_10 (by decide) ?_
    exact k_lret (pc := 11) (wf := (wM d h)) (u := u1) cx hw hwp (by decide) (by decide) dX12_takeStep_11
set_option maxHeartbeats 4000000 in
theorem wk_X12_takeValue_30 {p : Program} {l : Launch} {e : Env} {s : State} {m : MethodId} {args : Array Value} {below : List Frame} {meth : Method} {c : Code} {A : Nat → Prop} {dC : Nat → ClassId} {dI : Nat → Nat → Nat} {d : Nat → ClassId} {h : Nat → Nat} {K : Int32 → St → Prop} (cx : Cx p s m args meth c cX12_takeValue RX12 4 (some .int) A dC dI d) : ∀ (x1 : Int64) (u : St) (H : Heap) (locs : List Loc) (ls : Array Slot), wp_X12_takeValue_30 K x1 u → Wd dC dI A ((wM d h) u) s H locs → lv_has ls 4 [(1, .long x1)] → W p l e ({ frames := 1, cells := 0, slots := 0, locals := 24 } : Room) s m args below meth c H locs 0 0 (MQ below (kQi dC dI (wM d h) K A) args s 0 0 A) (F0 m 30 ls []) := by
  intro x1 u H locs ls hwp hw hl
  unfold wp_X12_takeValue_30 at hwp
  refine lv_lload_n (pc := 30) cx.1 cx.2.1 dX12_takeValue_30 rfl (lv_at hl 0 rfl) ?_
  refine lv_ldc2 (pc := 31) (v := 2) cx.1 cx.2.1 cx.2.2.2.1 (cx.2.2.2.2.1 _ q1168) dX12_takeValue_31 ?_
  refine lv_lrem (pc := 34) cx.1 cx.2.1 dX12_takeValue_34 (by decide) ?_
  refine lv_lconst (pc := 35) (v := 0) cx.1 cx.2.1 dX12_takeValue_35 (by decide) ?_
  refine W.lcmp (pc := 36) cx.1 cx.2.1 dX12_takeValue_36 ?_
  have hJ2 : ∀ z1 : Int64, z1 = (if (x1 - x1 / (2 : Int64) * (2 : Int64)) = (0 : Int64) then (x1 / (2 : Int64)) else ((-(x1 / (2 : Int64))) - (1 : Int64))) → W p l e ({ frames := 1, cells := 0, slots := 0, locals := 24 } : Room) s m args below meth c H locs 0 0 (MQ below (kQi dC dI (wM d h) K A) args s 0 0 A) (F0 m 56 ls [.long z1]) := by
    intro z1 ez1
    replace hwp := hwp z1 ez1
    refine lv_l2i (pc := 56) cx.1 cx.2.1 dX12_takeValue_56 rfl ?_
    exact k_iret (pc := 57) (wf := (wM d h)) (u := u) cx hw hwp (by decide) (by decide) dX12_takeValue_57
  clear hwp
  refine lv_if_ne (pc := 37) (tgt := 48) cx.1 cx.2.1 dX12_takeValue_37 (by decide) (fun c3 => ?_) (fun c3 => ?_)
  · skip
    refine lv_lload_n (pc := 48) cx.1 cx.2.1 dX12_takeValue_48 rfl (lv_at hl 0 rfl) ?_
    refine lv_ldc2 (pc := 49) (v := 2) cx.1 cx.2.1 cx.2.2.2.1 (cx.2.2.2.2.1 _ q1168) dX12_takeValue_49 ?_
    refine lv_ldiv (pc := 52) cx.1 cx.2.1 dX12_takeValue_52 (by decide) ?_
    refine lv_lneg (pc := 53) cx.1 cx.2.1 dX12_takeValue_53 ?_
    refine lv_lconst (pc := 54) (v := 1) cx.1 cx.2.1 dX12_takeValue_54 (by decide) ?_
    refine lv_lsub (pc := 55) cx.1 cx.2.1 dX12_takeValue_55 ?_
    exact hJ2 _ (if_neg (mt (lg_cmp_eq _ _).mpr c3)).symm
  · skip
    refine lv_lload_n (pc := 40) cx.1 cx.2.1 dX12_takeValue_40 rfl (lv_at hl 0 rfl) ?_
    refine lv_ldc2 (pc := 41) (v := 2) cx.1 cx.2.1 cx.2.2.2.1 (cx.2.2.2.2.1 _ q1168) dX12_takeValue_41 ?_
    refine lv_ldiv (pc := 44) cx.1 cx.2.1 dX12_takeValue_44 (by decide) ?_
    refine lv_goto (pc := 45) (tgt := 56) cx.1 cx.2.1 dX12_takeValue_45 (by decide) ?_
    exact hJ2 _ (if_pos ((lg_cmp_eq _ _).mp c3)).symm
set_option maxHeartbeats 4000000 in
theorem wk_X12_takeValue_4 {p : Program} {l : Launch} {e : Env} {s : State} {m : MethodId} {args : Array Value} {below : List Frame} {meth : Method} {c : Code} {A : Nat → Prop} {dC : Nat → ClassId} {dI : Nat → Nat → Nat} {d : Nat → ClassId} {h : Nat → Nat} {K : Int32 → St → Prop} (cx : Cx p s m args meth c cX12_takeValue RX12 4 (some .int) A dC dI d) : ∀ (n : Nat) (x1 : Int64) (x3 : Int32) (u : St) (H : Heap) (locs : List Loc) (ls : Array Slot), wp_X12_takeValue_4 K n x1 x3 u → Wd dC dI A ((wM d h) u) s H locs → lv_has ls 4 [(0, .ref (h 0)), (1, .long x1), (3, .int x3)] → W p l e ({ frames := 1, cells := 0, slots := 0, locals := 24 } : Room) s m args below meth c H locs 0 0 (MQ below (kQi dC dI (wM d h) K A) args s 0 0 A) (F0 m 4 ls []) := by
  intro n
  induction n with
  | zero =>
    intros; contradiction
  | succ n ih =>
    intro x1 x3 u H locs ls hwp hw hl
    unfold wp_X12_takeValue_4 at hwp
    refine lv_aload_n (pc := 4) cx.1 cx.2.1 dX12_takeValue_4 rfl (lv_at hl 0 rfl) ?_
    refine lv_iconst (pc := 5) (v := 1) cx.1 cx.2.1 dX12_takeValue_5 (by decide) ?_
    refine k_whole_l (pc := 6) (wf := (wM d h)) (u := u) cx hw (k_runV (pc := 6) (rest := []) (As := [.int (1 : Int32)]) cx hw.1 (hw.2.1.weaken (fun _ _ _ _ => trivial)) hw.2.2 (k_recv cx hw 0 (ci := 10) (q := (RX12, TX12, 40)) rfl rfl) (m_X12_take l dC dI d h  u (1 : Int32) hwp H.size) (cwV 1 cx.2.2.2.2.1 (lw_V q1331 q1333 qs71 q89 q1334) rfl rfl rfl hdV_X12_take ⟨Nat.le_of_ble_eq_true rfl, Nat.le_of_ble_eq_true rfl⟩) rfl hl.1 rfl (Nat.le_of_ble_eq_true rfl) dX12_takeValue_6 ⟨Nat.le_of_ble_eq_true rfl, Nat.le_of_ble_eq_true rfl⟩) (fun r2 u1 H locs hwp hw => ?_)
    refine lv_lconst (pc := 9) (v := 1) cx.1 cx.2.1 dX12_takeValue_9 (by decide) ?_
    refine W.lcmp (pc := 10) cx.1 cx.2.1 dX12_takeValue_10 ?_
    refine lv_if_ne (pc := 11) (tgt := 30) cx.1 cx.2.1 dX12_takeValue_11 (by decide) (fun c3 => ?_) (fun c3 => ?_)
    · replace hwp := hwp.1 (mt (lg_cmp_eq _ _).mpr c3)
      exact wk_X12_takeValue_30 cx _ _ _ _ _ hwp hw (lv_sub hl [1] rfl)
    · replace hwp := hwp.2 ((lg_cmp_eq _ _).mp c3)
      refine lv_lload_n (pc := 14) cx.1 cx.2.1 dX12_takeValue_14 rfl (lv_at hl 1 rfl) ?_
      refine lv_aload_n (pc := 15) cx.1 cx.2.1 dX12_takeValue_15 rfl (lv_at hl 0 rfl) ?_
      refine lv_iconst (pc := 16) (v := 4) cx.1 cx.2.1 dX12_takeValue_16 (by decide) ?_
      refine k_whole_l (pc := 17) (wf := (wM d h)) (u := u1) cx hw (k_runV (pc := 17) (rest := [.long x1]) (As := [.int (4 : Int32)]) cx hw.1 (hw.2.1.weaken (fun _ _ _ _ => trivial)) hw.2.2 (k_recv cx hw 0 (ci := 10) (q := (RX12, TX12, 40)) rfl rfl) (m_X12_take l dC dI d h  u1 (4 : Int32) hwp H.size) (cwV 1 cx.2.2.2.2.1 (lw_V q1331 q1333 qs71 q89 q1334) rfl rfl rfl hdV_X12_take ⟨Nat.le_of_ble_eq_true rfl, Nat.le_of_ble_eq_true rfl⟩) rfl hl.1 rfl (Nat.le_of_ble_eq_true rfl) dX12_takeValue_17 ⟨Nat.le_of_ble_eq_true rfl, Nat.le_of_ble_eq_true rfl⟩) (fun r5 u4 H locs hwp hw => ?_)
      refine lv_iload_n (pc := 20) cx.1 cx.2.1 dX12_takeValue_20 rfl (lv_at hl 2 rfl) ?_
      refine lv_lshl (pc := 21) cx.1 cx.2.1 dX12_takeValue_21 rfl ?_
      refine lv_lor (pc := 22) cx.1 cx.2.1 dX12_takeValue_22 ?_
      refine lv_lstore_n (pc := 23) (lv' := [(1, .long (x1 ||| (r5 <<< (x3.toInt64 &&& 63)))), (0, .ref (h 0)), (3, .int x3)]) cx.1 cx.2.1 dX12_takeValue_23 rfl hl (by decide) rfl (fun ls hl => ?_)
      refine lv_iinc (pc := 24) (v := (x3 + (4 : Int32))) (lv' := [(3, .int (x3 + (4 : Int32))), (1, .long (x1 ||| (r5 <<< (x3.toInt64 &&& 63)))), (0, .ref (h 0))]) cx.1 cx.2.1 dX12_takeValue_24 hl (k := 2) rfl rfl (by decide) rfl (fun ls hl => ?_)
      refine lv_goto (pc := 27) (tgt := 4) cx.1 cx.2.1 dX12_takeValue_27 (by decide) ?_
      exact ih _ _ _ _ _ _ hwp hw (lv_sub hl [2, 1, 0] rfl)
set_option maxHeartbeats 4000000 in
theorem m_X12_takeValue (l : Launch) (dC : Nat → ClassId) (dI : Nat → Nat → Nat) (d : Nat → ClassId) (h : Nat → Nat) (u : St) {K : Int32 → St → Prop} (hwp : wp_X12_takeValue u K) : kM l yX12_takeValue cX12_takeValue 4 (some .int) ({ frames := 1, cells := 0, slots := 0, locals := 24 } : Room) dC dI d [.ref (h 0)] (wM d h) u (kQi dC dI (wM d h) K) 0 0 := by
  refine kM_start rfl (Nat.le_of_ble_eq_true rfl) ?_
  intro p e s m below meth c A ls cx hnm hw hl
  generalize hargs : ([.ref (h 0)] : List Value).toArray = args at cx ⊢
  unfold wp_X12_takeValue at hwp
  replace hl : lv_has ls 4 [(0, .ref (h 0))] := hl
  generalize hH : s.heap = H at hw ⊢
  generalize hlo : ([] : List Loc) = locs at hw ⊢
  refine lv_lconst (pc := 0) (v := 0) cx.1 cx.2.1 dX12_takeValue_0 (by decide) ?_
  refine lv_lstore_n (pc := 1) (lv' := [(1, .long (0 : Int64)), (0, .ref (h 0))]) cx.1 cx.2.1 dX12_takeValue_1 rfl hl (by decide) rfl (fun ls hl => ?_)
  refine lv_iconst (pc := 2) (v := 0) cx.1 cx.2.1 dX12_takeValue_2 (by decide) ?_
  refine lv_istore_n (pc := 3) (lv' := [(3, .int (0 : Int32)), (1, .long (0 : Int64)), (0, .ref (h 0))]) cx.1 cx.2.1 dX12_takeValue_3 rfl hl (by decide) rfl (fun ls hl => ?_)
  obtain ⟨n4, hwp⟩ := hwp
  exact wk_X12_takeValue_4 cx n4 _ _ _ _ _ _ hwp hw (lv_sub hl [2, 1, 0] rfl)
set_option maxHeartbeats 4000000 in
theorem wk_X12_read_63 {p : Program} {l : Launch} {e : Env} {s : State} {m : MethodId} {args : Array Value} {below : List Frame} {meth : Method} {c : Code} {A : Nat → Prop} {dC : Nat → ClassId} {dI : Nat → Nat → Nat} {d : Nat → ClassId} {h : Nat → Nat} {K : St → Prop} (cx : Cx p s m args meth c cX12_read RX12 6 none A dC dI d) : ∀ (n : Nat) (x1 : Int32) (x2 : Int32) (x3 : Int64) (x5 : Int32) (u : St) (H : Heap) (locs : List Loc) (ls : Array Slot), wp_X12_read_63 K n x1 x2 x3 x5 u → Wd dC dI A ((wM d h) u) s H locs → lv_has ls 6 [(0, .ref (h 0)), (1, .int x1), (2, .int x2), (3, .long x3), (5, .int x5)] → W p l e ({ frames := 2, cells := 0, slots := 0, locals := 47 } : Room) s m args below meth c H locs 0 0 (MQ below (kQv dC dI (wM d h) K A) args s 0 0 A) (F0 m 63 ls []) := by
  intro n
  induction n with
  | zero =>
    intros; contradiction
  | succ n ih =>
    intro x1 x2 x3 x5 u H locs ls hwp hw hl
    unfold wp_X12_read_63 at hwp
    refine lv_iload (pc := 63) cx.1 cx.2.1 dX12_read_63 (lv_at hl 4 rfl) ?_
    refine lv_aload_n (pc := 65) cx.1 cx.2.1 dX12_read_65 rfl (lv_at hl 0 rfl) ?_
    refine k_getR (pc := 66) (u := u) (v := .ref (h 3)) cx hw (lr_X12_this_12 d h) (C := RX12) (T := TX12) (N := 40) rfl in_X12 (by decide) q989 (fun _ h9 => h9) rfl dX12_read_66 ?_
    refine lv_iload_n (pc := 69) cx.1 cx.2.1 dX12_read_69 rfl (lv_at hl 1 rfl) ?_
    refine k_iald (pc := 70) (u := u) (f := (u.2.1 12)) cx hw (lx_X12_this_12 d h) 0 rfl rfl hwp.1 dX12_read_70 ?_
    replace hwp := hwp.2
    refine lv_icmp_ge (pc := 71) (tgt := 136) cx.1 cx.2.1 dX12_read_71 (by decide) (fun c1 => ?_) (fun c1 => ?_)
    · replace hwp := hwp.1 c1
      exact k_vret (pc := 136) (wf := (wM d h)) (u := u) cx hw hwp (by decide) (by decide) dX12_read_136
    · replace hwp := hwp.2 c1
      refine lv_lload_n (pc := 74) cx.1 cx.2.1 dX12_read_74 rfl (lv_at hl 3 rfl) ?_
      refine lv_aload_n (pc := 75) cx.1 cx.2.1 dX12_read_75 rfl (lv_at hl 0 rfl) ?_
      refine k_whole_l (pc := 76) (wf := (wM d h)) (u := u) cx hw (k_runV (pc := 76) (rest := [.long x3]) (As := []) cx hw.1 (hw.2.1.weaken (fun _ _ _ _ => trivial)) hw.2.2 (k_recv cx hw 0 (ci := 10) (q := (RX12, TX12, 40)) rfl rfl) (m_X12_takeStep l dC dI d h  u  hwp H.size) (cwV 0 cx.2.2.2.2.1 (lw_V q1327 q1329 qs70 q89 q1330) rfl rfl rfl hdV_X12_takeStep ⟨Nat.le_of_ble_eq_true rfl, Nat.le_of_ble_eq_true rfl⟩) rfl hl.1 rfl (Nat.le_of_ble_eq_true rfl) dX12_read_76 ⟨Nat.le_of_ble_eq_true rfl, Nat.le_of_ble_eq_true rfl⟩) (fun r3 u2 H locs hwp hw => ?_)
      refine lv_ladd (pc := 79) cx.1 cx.2.1 dX12_read_79 ?_
      refine lv_lstore_n (pc := 80) (lv' := [(3, .long (x3 + r3)), (0, .ref (h 0)), (1, .int x1), (2, .int x2), (5, .int x5)]) cx.1 cx.2.1 dX12_read_80 rfl hl (by decide) rfl (fun ls hl => ?_)
      refine lv_aload_n (pc := 81) cx.1 cx.2.1 dX12_read_81 rfl (lv_at hl 1 rfl) ?_
      refine k_getR (pc := 82) (u := u2) (v := .ref (h 6)) cx hw (lr_X12_this_15 d h) (C := RX12) (T := TX12) (N := 40) rfl in_X12 (by decide) q992 (fun _ h9 => h9) rfl dX12_read_82 ?_
      refine lv_iload_n (pc := 85) cx.1 cx.2.1 dX12_read_85 rfl (lv_at hl 3 rfl) ?_
      refine lv_iload (pc := 86) cx.1 cx.2.1 dX12_read_86 (lv_at hl 4 rfl) ?_
      refine lv_iadd (pc := 88) cx.1 cx.2.1 dX12_read_88 ?_
      refine lv_aload_n (pc := 89) cx.1 cx.2.1 dX12_read_89 rfl (lv_at hl 1 rfl) ?_
      refine k_getR (pc := 90) (u := u2) (v := .ref (h 6)) cx hw (lr_X12_this_15 d h) (C := RX12) (T := TX12) (N := 40) rfl in_X12 (by decide) q992 (fun _ h9 => h9) rfl dX12_read_90 ?_
      refine lv_iload_n (pc := 93) cx.1 cx.2.1 dX12_read_93 rfl (lv_at hl 3 rfl) ?_
      refine lv_iload (pc := 94) cx.1 cx.2.1 dX12_read_94 (lv_at hl 4 rfl) ?_
      refine lv_iadd (pc := 96) cx.1 cx.2.1 dX12_read_96 ?_
      refine lv_iconst (pc := 97) (v := 1) cx.1 cx.2.1 dX12_read_97 (by decide) ?_
      refine lv_isub (pc := 98) cx.1 cx.2.1 dX12_read_98 ?_
      refine k_iald (pc := 99) (u := u2) (f := (u2.2.1 15)) cx hw (lx_X12_this_15 d h) 0 rfl rfl hwp.1 dX12_read_99 ?_
      replace hwp := hwp.2
      refine lv_i2l (pc := 100) cx.1 cx.2.1 dX12_read_100 rfl ?_
      refine lv_lload_n (pc := 101) cx.1 cx.2.1 dX12_read_101 rfl (lv_at hl 0 rfl) ?_
      refine lv_ladd (pc := 102) cx.1 cx.2.1 dX12_read_102 ?_
      refine lv_l2i (pc := 103) cx.1 cx.2.1 dX12_read_103 rfl ?_
      refine lv_topi (fun y4 ey4 => ?_)
      replace hwp := hwp y4 ey4
      refine k_iast (pc := 104) (u := u2) (f := (u2.2.1 15)) cx hw (ln_X12_this_15 d h) 0 rfl rfl hwp.1 dX12_read_104 (fun H locs hw => ?_)
      replace hwp := hwp.2
      refine lv_aload_n (pc := 105) cx.1 cx.2.1 dX12_read_105 rfl (lv_at hl 1 rfl) ?_
      refine k_getR (pc := 106) (u := (st_A u2 15 (upd (u2.2.1 15) (x2 + x5).toNatClampNeg y4))) (v := .ref (h 7)) cx hw (lr_X12_this_16 d h) (C := RX12) (T := TX12) (N := 40) rfl in_X12 (by decide) q993 (fun _ h9 => h9) rfl dX12_read_106 ?_
      refine lv_iload_n (pc := 109) cx.1 cx.2.1 dX12_read_109 rfl (lv_at hl 3 rfl) ?_
      refine lv_iload (pc := 110) cx.1 cx.2.1 dX12_read_110 (lv_at hl 4 rfl) ?_
      refine lv_iadd (pc := 112) cx.1 cx.2.1 dX12_read_112 ?_
      refine lv_aload_n (pc := 113) cx.1 cx.2.1 dX12_read_113 rfl (lv_at hl 1 rfl) ?_
      refine k_getR (pc := 114) (u := (st_A u2 15 (upd (u2.2.1 15) (x2 + x5).toNatClampNeg y4))) (v := .ref (h 7)) cx hw (lr_X12_this_16 d h) (C := RX12) (T := TX12) (N := 40) rfl in_X12 (by decide) q993 (fun _ h9 => h9) rfl dX12_read_114 ?_
      refine lv_iload_n (pc := 117) cx.1 cx.2.1 dX12_read_117 rfl (lv_at hl 3 rfl) ?_
      refine lv_iload (pc := 118) cx.1 cx.2.1 dX12_read_118 (lv_at hl 4 rfl) ?_
      refine lv_iadd (pc := 120) cx.1 cx.2.1 dX12_read_120 ?_
      refine lv_iconst (pc := 121) (v := 1) cx.1 cx.2.1 dX12_read_121 (by decide) ?_
      refine lv_isub (pc := 122) cx.1 cx.2.1 dX12_read_122 ?_
      refine k_iald (pc := 123) (u := (st_A u2 15 (upd (u2.2.1 15) (x2 + x5).toNatClampNeg y4))) (f := (u2.2.1 16)) cx hw (lx_X12_this_16 d h) 0 rfl rfl hwp.1 dX12_read_123 ?_
      replace hwp := hwp.2
      refine lv_aload_n (pc := 124) cx.1 cx.2.1 dX12_read_124 rfl (lv_at hl 1 rfl) ?_
      refine k_whole_i (pc := 125) (wf := (wM d h)) (u := (st_A u2 15 (upd (u2.2.1 15) (x2 + x5).toNatClampNeg y4))) cx hw (k_runV (pc := 125) (rest := [.int ((u2.2.1 16) ((x2 + x5) - (1 : Int32)).toNatClampNeg), .int (x2 + x5), .ref (h 7)]) (As := []) cx hw.1 (hw.2.1.weaken (fun _ _ _ _ => trivial)) hw.2.2 (k_recv cx hw 0 (ci := 10) (q := (RX12, TX12, 40)) rfl rfl) (m_X12_takeValue l dC dI d h  (st_A u2 15 (upd (u2.2.1 15) (x2 + x5).toNatClampNeg y4))  hwp H.size) (cwV 0 cx.2.2.2.2.1 (lw_V q1335 q1337 qs72 q89 q1338) rfl rfl rfl hdV_X12_takeValue ⟨Nat.le_of_ble_eq_true rfl, Nat.le_of_ble_eq_true rfl⟩) rfl hl.1 rfl (Nat.le_of_ble_eq_true rfl) dX12_read_125 ⟨Nat.le_of_ble_eq_true rfl, Nat.le_of_ble_eq_true rfl⟩) (fun r6 u5 H locs hwp hw => ?_)
      refine lv_iadd (pc := 128) cx.1 cx.2.1 dX12_read_128 ?_
      refine lv_topi (fun y7 ey7 => ?_)
      replace hwp := hwp y7 ey7
      refine k_iast (pc := 129) (u := u5) (f := (u5.2.1 16)) cx hw (ln_X12_this_16 d h) 0 rfl rfl hwp.1 dX12_read_129 (fun H locs hw => ?_)
      replace hwp := hwp.2
      refine lv_iinc (pc := 130) (v := (x5 + (1 : Int32))) (lv' := [(5, .int (x5 + (1 : Int32))), (3, .long (x3 + r3)), (0, .ref (h 0)), (1, .int x1), (2, .int x2)]) cx.1 cx.2.1 dX12_read_130 hl (k := 4) rfl rfl (by decide) rfl (fun ls hl => ?_)
      refine lv_goto (pc := 133) (tgt := 63) cx.1 cx.2.1 dX12_read_133 (by decide) ?_
      exact ih _ _ _ _ _ _ _ _ hwp hw (lv_sub hl [2, 3, 4, 1, 0] rfl)
set_option maxHeartbeats 4000000 in
theorem m_X12_read (l : Launch) (dC : Nat → ClassId) (dI : Nat → Nat → Nat) (d : Nat → ClassId) (h : Nat → Nat) (u : St) (x1 : Int32) {K : St → Prop} (hwp : wp_X12_read u x1 K) : kM l yX12_read cX12_read 6 none ({ frames := 2, cells := 0, slots := 0, locals := 47 } : Room) dC dI d [.ref (h 0), .int x1] (wM d h) u (kQv dC dI (wM d h) K) 0 0 := by
  refine kM_start rfl (Nat.le_of_ble_eq_true rfl) ?_
  intro p e s m below meth c A ls cx hnm hw hl
  generalize hargs : ([.ref (h 0), .int x1] : List Value).toArray = args at cx ⊢
  unfold wp_X12_read at hwp
  replace hl : lv_has ls 6 [(0, .ref (h 0)), (1, .int x1)] := hl
  generalize hH : s.heap = H at hw ⊢
  generalize hlo : ([] : List Loc) = locs at hw ⊢
  refine lv_bipush (pc := 0) (v := 64) cx.1 cx.2.1 dX12_read_0 (by decide) ?_
  refine lv_iload_n (pc := 2) cx.1 cx.2.1 dX12_read_2 rfl (lv_at hl 1 rfl) ?_
  refine lv_imul (pc := 3) cx.1 cx.2.1 dX12_read_3 ?_
  refine lv_istore_n (pc := 4) (lv' := [(2, .int ((64 : Int32) * x1)), (0, .ref (h 0)), (1, .int x1)]) cx.1 cx.2.1 dX12_read_4 rfl hl (by decide) rfl (fun ls hl => ?_)
  refine lv_aload_n (pc := 5) cx.1 cx.2.1 dX12_read_5 rfl (lv_at hl 1 rfl) ?_
  refine k_getR (pc := 6) (u := u) (v := .ref (h 6)) cx hw (lr_X12_this_15 d h) (C := RX12) (T := TX12) (N := 40) rfl in_X12 (by decide) q992 (fun _ h9 => h9) rfl dX12_read_6 ?_
  refine lv_iload_n (pc := 9) cx.1 cx.2.1 dX12_read_9 rfl (lv_at hl 0 rfl) ?_
  refine lv_aload_n (pc := 10) cx.1 cx.2.1 dX12_read_10 rfl (lv_at hl 1 rfl) ?_
  refine k_getR (pc := 11) (u := u) (v := .ref (h 1)) cx hw (lr_X12_this_4 d h) (C := RX12) (T := TX12) (N := 40) rfl in_X12 (by decide) q981 (fun _ h9 => h9) rfl dX12_read_11 ?_
  refine lv_aload_n (pc := 14) cx.1 cx.2.1 dX12_read_14 rfl (lv_at hl 1 rfl) ?_
  refine k_getR (pc := 15) (u := u) (v := .ref (h 4)) cx hw (lr_X12_this_13 d h) (C := RX12) (T := TX12) (N := 40) rfl in_X12 (by decide) q990 (fun _ h9 => h9) rfl dX12_read_15 ?_
  refine lv_iload_n (pc := 18) cx.1 cx.2.1 dX12_read_18 rfl (lv_at hl 2 rfl) ?_
  refine k_iald (pc := 19) (u := u) (f := (u.2.1 13)) cx hw (lx_X12_this_13 d h) 0 rfl rfl hwp.1 dX12_read_19 ?_
  replace hwp := hwp.2
  refine k_iald (pc := 20) (u := u) (f := (u.2.1 4)) cx hw (lx_X12_this_4 d h) 0 rfl rfl hwp.1 dX12_read_20 ?_
  replace hwp := hwp.2
  refine lv_topi (fun y1 ey1 => ?_)
  replace hwp := hwp y1 ey1
  refine k_iast (pc := 21) (u := u) (f := (u.2.1 15)) cx hw (ln_X12_this_15 d h) 0 rfl rfl hwp.1 dX12_read_21 (fun H locs hw => ?_)
  replace hwp := hwp.2
  refine lv_aload_n (pc := 22) cx.1 cx.2.1 dX12_read_22 rfl (lv_at hl 1 rfl) ?_
  refine k_getR (pc := 23) (u := (st_A u 15 (upd (u.2.1 15) ((64 : Int32) * x1).toNatClampNeg y1))) (v := .ref (h 7)) cx hw (lr_X12_this_16 d h) (C := RX12) (T := TX12) (N := 40) rfl in_X12 (by decide) q993 (fun _ h9 => h9) rfl dX12_read_23 ?_
  refine lv_iload_n (pc := 26) cx.1 cx.2.1 dX12_read_26 rfl (lv_at hl 0 rfl) ?_
  refine lv_aload_n (pc := 27) cx.1 cx.2.1 dX12_read_27 rfl (lv_at hl 1 rfl) ?_
  refine k_getR (pc := 28) (u := (st_A u 15 (upd (u.2.1 15) ((64 : Int32) * x1).toNatClampNeg y1))) (v := .ref (h 1)) cx hw (lr_X12_this_4 d h) (C := RX12) (T := TX12) (N := 40) rfl in_X12 (by decide) q981 (fun _ h9 => h9) rfl dX12_read_28 ?_
  refine lv_aload_n (pc := 31) cx.1 cx.2.1 dX12_read_31 rfl (lv_at hl 1 rfl) ?_
  refine k_getR (pc := 32) (u := (st_A u 15 (upd (u.2.1 15) ((64 : Int32) * x1).toNatClampNeg y1))) (v := .ref (h 4)) cx hw (lr_X12_this_13 d h) (C := RX12) (T := TX12) (N := 40) rfl in_X12 (by decide) q990 (fun _ h9 => h9) rfl dX12_read_32 ?_
  refine lv_iload_n (pc := 35) cx.1 cx.2.1 dX12_read_35 rfl (lv_at hl 2 rfl) ?_
  refine k_iald (pc := 36) (u := (st_A u 15 (upd (u.2.1 15) ((64 : Int32) * x1).toNatClampNeg y1))) (f := (u.2.1 13)) cx hw (lx_X12_this_13 d h) 0 rfl rfl hwp.1 dX12_read_36 ?_
  replace hwp := hwp.2
  refine lv_iconst (pc := 37) (v := 1) cx.1 cx.2.1 dX12_read_37 (by decide) ?_
  refine lv_iadd (pc := 38) cx.1 cx.2.1 dX12_read_38 ?_
  refine k_iald (pc := 39) (u := (st_A u 15 (upd (u.2.1 15) ((64 : Int32) * x1).toNatClampNeg y1))) (f := (u.2.1 4)) cx hw (lx_X12_this_4 d h) 0 rfl rfl hwp.1 dX12_read_39 ?_
  replace hwp := hwp.2
  refine lv_topi (fun y2 ey2 => ?_)
  replace hwp := hwp y2 ey2
  refine k_iast (pc := 40) (u := (st_A u 15 (upd (u.2.1 15) ((64 : Int32) * x1).toNatClampNeg y1))) (f := (u.2.1 16)) cx hw (ln_X12_this_16 d h) 0 rfl rfl hwp.1 dX12_read_40 (fun H locs hw => ?_)
  replace hwp := hwp.2
  refine lv_aload_n (pc := 41) cx.1 cx.2.1 dX12_read_41 rfl (lv_at hl 1 rfl) ?_
  refine lv_aload_n (pc := 42) cx.1 cx.2.1 dX12_read_42 rfl (lv_at hl 1 rfl) ?_
  refine k_getR (pc := 43) (u := (st_A (st_A u 15 (upd (u.2.1 15) ((64 : Int32) * x1).toNatClampNeg y1)) 16 (upd (u.2.1 16) ((64 : Int32) * x1).toNatClampNeg y2))) (v := .ref (h 4)) cx hw (lr_X12_this_13 d h) (C := RX12) (T := TX12) (N := 40) rfl in_X12 (by decide) q990 (fun _ h9 => h9) rfl dX12_read_43 ?_
  refine lv_iload_n (pc := 46) cx.1 cx.2.1 dX12_read_46 rfl (lv_at hl 2 rfl) ?_
  refine k_iald (pc := 47) (u := (st_A (st_A u 15 (upd (u.2.1 15) ((64 : Int32) * x1).toNatClampNeg y1)) 16 (upd (u.2.1 16) ((64 : Int32) * x1).toNatClampNeg y2))) (f := (u.2.1 13)) cx hw (lx_X12_this_13 d h) 0 rfl rfl hwp.1 dX12_read_47 ?_
  replace hwp := hwp.2
  refine lv_iconst (pc := 48) (v := 2) cx.1 cx.2.1 dX12_read_48 (by decide) ?_
  refine lv_iadd (pc := 49) cx.1 cx.2.1 dX12_read_49 ?_
  refine lv_topi (fun y3 ey3 => ?_)
  replace hwp := hwp y3 ey3
  refine k_putI (pc := 50) (u := (st_A (st_A u 15 (upd (u.2.1 15) ((64 : Int32) * x1).toNatClampNeg y1)) 16 (upd (u.2.1 16) ((64 : Int32) * x1).toNatClampNeg y2))) (v := y3) cx hw (ln_X12_this_35 d h) (C := RX12) (T := TX12) (N := 40) rfl in_X12 tyX12 tyX12_ok nmX12 (by decide) q1012 (fun _ h9 => h9) rfl rfl rfl dX12_read_50 (fun H locs hw => ?_)
  refine lv_aload_n (pc := 53) cx.1 cx.2.1 dX12_read_53 rfl (lv_at hl 1 rfl) ?_
  refine lv_iconst (pc := 54) (v := 0) cx.1 cx.2.1 dX12_read_54 (by decide) ?_
  refine k_putI (pc := 55) (u := (st_I (st_A (st_A u 15 (upd (u.2.1 15) ((64 : Int32) * x1).toNatClampNeg y1)) 16 (upd (u.2.1 16) ((64 : Int32) * x1).toNatClampNeg y2)) 35 y3)) (v := (0 : Int32)) cx hw (ln_X12_this_34 d h) (C := RX12) (T := TX12) (N := 40) rfl in_X12 tyX12 tyX12_ok nmX12 (by decide) q1011 (fun _ h9 => h9) rfl rfl rfl dX12_read_55 (fun H locs hw => ?_)
  refine lv_lconst (pc := 58) (v := 0) cx.1 cx.2.1 dX12_read_58 (by decide) ?_
  refine lv_lstore_n (pc := 59) (lv' := [(3, .long (0 : Int64)), (2, .int ((64 : Int32) * x1)), (0, .ref (h 0)), (1, .int x1)]) cx.1 cx.2.1 dX12_read_59 rfl hl (by decide) rfl (fun ls hl => ?_)
  refine lv_iconst (pc := 60) (v := 1) cx.1 cx.2.1 dX12_read_60 (by decide) ?_
  refine lv_istore (pc := 61) (lv' := [(5, .int (1 : Int32)), (3, .long (0 : Int64)), (2, .int ((64 : Int32) * x1)), (0, .ref (h 0)), (1, .int x1)]) cx.1 cx.2.1 dX12_read_61 hl (by decide) rfl (fun ls hl => ?_)
  obtain ⟨n63, hwp⟩ := hwp
  exact wk_X12_read_63 cx n63 _ _ _ _ _ _ _ _ hwp hw (lv_sub hl [3, 4, 2, 1, 0] rfl)
set_option maxHeartbeats 4000000 in
theorem wk_X12_recover_186 {p : Program} {l : Launch} {e : Env} {s : State} {m : MethodId} {args : Array Value} {below : List Frame} {meth : Method} {c : Code} {A : Nat → Prop} {dC : Nat → ClassId} {dI : Nat → Nat → Nat} {d : Nat → ClassId} {h : Nat → Nat} {K : Int32 → St → Prop} (cx : Cx p s m args meth c cX12_recover RX12 5 (some .int) A dC dI d) : ∀ (n : Nat) (x2 : Int32) (u : St) (H : Heap) (locs : List Loc) (ls : Array Slot), wp_X12_recover_186 K n x2 u → Wd dC dI A ((wM d h) u) s H locs → lv_has ls 5 [(0, .ref (h 0)), (2, .int x2)] → W p l e ({ frames := 3, cells := 0, slots := 0, locals := 72 } : Room) s m args below meth c H locs 0 0 (MQ below (kQi dC dI (wM d h) K A) args s 0 0 A) (F0 m 186 ls []) := by
  intro n
  induction n with
  | zero =>
    intros; contradiction
  | succ n ih =>
    intro x2 u H locs ls hwp hw hl
    unfold wp_X12_recover_186 at hwp
    refine lv_aload_n (pc := 186) cx.1 cx.2.1 dX12_recover_186 rfl (lv_at hl 0 rfl) ?_
    refine k_getI (pc := 187) (u := u) (v := (u.1 24)) cx hw (ln_X12_this_24 d h) (C := RX12) (T := TX12) (N := 40) rfl in_X12 (by decide) q1001 (fun _ h9 => h9) rfl dX12_recover_187 ?_
    refine lv_sipush (pc := 190) (v := 128) cx.1 cx.2.1 dX12_recover_190 (by decide) ?_
    refine lv_icmp_ge (pc := 193) (tgt := 311) cx.1 cx.2.1 dX12_recover_193 (by decide) (fun c1 => ?_) (fun c1 => ?_)
    · replace hwp := hwp.1 c1
      refine lv_iload_n (pc := 311) cx.1 cx.2.1 dX12_recover_311 rfl (lv_at hl 1 rfl) ?_
      refine lv_aload_n (pc := 312) cx.1 cx.2.1 dX12_recover_312 rfl (lv_at hl 0 rfl) ?_
      refine k_getI (pc := 313) (u := u) (v := (u.1 24)) cx hw (ln_X12_this_24 d h) (C := RX12) (T := TX12) (N := 40) rfl in_X12 (by decide) q1001 (fun _ h9 => h9) rfl dX12_recover_313 ?_
      refine lv_iadd (pc := 316) cx.1 cx.2.1 dX12_recover_316 ?_
      exact k_iret (pc := 317) (wf := (wM d h)) (u := u) cx hw hwp (by decide) (by decide) dX12_recover_317
    · replace hwp := hwp.2 c1
      refine lv_aload_n (pc := 196) cx.1 cx.2.1 dX12_recover_196 rfl (lv_at hl 0 rfl) ?_
      refine k_getR (pc := 197) (u := u) (v := .ref (h 1)) cx hw (lr_X12_this_4 d h) (C := RX12) (T := TX12) (N := 40) rfl in_X12 (by decide) q981 (fun _ h9 => h9) rfl dX12_recover_197 ?_
      refine lv_sipush (pc := 200) (v := 1923) cx.1 cx.2.1 dX12_recover_200 (by decide) ?_
      refine lv_iconst (pc := 203) (v := 4) cx.1 cx.2.1 dX12_recover_203 (by decide) ?_
      refine lv_aload_n (pc := 204) cx.1 cx.2.1 dX12_recover_204 rfl (lv_at hl 0 rfl) ?_
      refine k_getI (pc := 205) (u := u) (v := (u.1 24)) cx hw (ln_X12_this_24 d h) (C := RX12) (T := TX12) (N := 40) rfl in_X12 (by decide) q1001 (fun _ h9 => h9) rfl dX12_recover_205 ?_
      refine lv_imul (pc := 208) cx.1 cx.2.1 dX12_recover_208 ?_
      refine lv_iadd (pc := 209) cx.1 cx.2.1 dX12_recover_209 ?_
      refine lv_iconst (pc := 210) (v := 3) cx.1 cx.2.1 dX12_recover_210 (by decide) ?_
      refine lv_iadd (pc := 211) cx.1 cx.2.1 dX12_recover_211 ?_
      refine k_iald (pc := 212) (u := u) (f := (u.2.1 4)) cx hw (lx_X12_this_4 d h) 0 rfl rfl hwp.1 dX12_recover_212 ?_
      replace hwp := hwp.2
      refine lv_aload_n (pc := 213) cx.1 cx.2.1 dX12_recover_213 rfl (lv_at hl 0 rfl) ?_
      refine k_getI (pc := 214) (u := u) (v := (u.1 19)) cx hw (ln_X12_this_19 d h) (C := RX12) (T := TX12) (N := 40) rfl in_X12 (by decide) q996 (fun _ h9 => h9) rfl dX12_recover_214 ?_
      refine lv_iconst (pc := 217) (v := 1) cx.1 cx.2.1 dX12_recover_217 (by decide) ?_
      refine lv_iadd (pc := 218) cx.1 cx.2.1 dX12_recover_218 ?_
      refine lv_icmp_ne (pc := 219) (tgt := 311) cx.1 cx.2.1 dX12_recover_219 (by decide) (fun c2 => ?_) (fun c2 => ?_)
      · replace hwp := hwp.1 c2
        refine lv_iload_n (pc := 311) cx.1 cx.2.1 dX12_recover_311 rfl (lv_at hl 1 rfl) ?_
        refine lv_aload_n (pc := 312) cx.1 cx.2.1 dX12_recover_312 rfl (lv_at hl 0 rfl) ?_
        refine k_getI (pc := 313) (u := u) (v := (u.1 24)) cx hw (ln_X12_this_24 d h) (C := RX12) (T := TX12) (N := 40) rfl in_X12 (by decide) q1001 (fun _ h9 => h9) rfl dX12_recover_313 ?_
        refine lv_iadd (pc := 316) cx.1 cx.2.1 dX12_recover_316 ?_
        exact k_iret (pc := 317) (wf := (wM d h)) (u := u) cx hw hwp (by decide) (by decide) dX12_recover_317
      · replace hwp := hwp.2 c2
        refine lv_aload_n (pc := 222) cx.1 cx.2.1 dX12_recover_222 rfl (lv_at hl 0 rfl) ?_
        refine k_getR (pc := 223) (u := u) (v := .ref (h 9)) cx hw (lr_X12_this_21 d h) (C := RX12) (T := TX12) (N := 40) rfl in_X12 (by decide) q998 (fun _ h9 => h9) rfl dX12_recover_223 ?_
        refine lv_aload_n (pc := 226) cx.1 cx.2.1 dX12_recover_226 rfl (lv_at hl 0 rfl) ?_
        refine k_getI (pc := 227) (u := u) (v := (u.1 24)) cx hw (ln_X12_this_24 d h) (C := RX12) (T := TX12) (N := 40) rfl in_X12 (by decide) q1001 (fun _ h9 => h9) rfl dX12_recover_227 ?_
        refine lv_aload_n (pc := 230) cx.1 cx.2.1 dX12_recover_230 rfl (lv_at hl 0 rfl) ?_
        refine k_getR (pc := 231) (u := u) (v := .ref (h 1)) cx hw (lr_X12_this_4 d h) (C := RX12) (T := TX12) (N := 40) rfl in_X12 (by decide) q981 (fun _ h9 => h9) rfl dX12_recover_231 ?_
        refine lv_sipush (pc := 234) (v := 1923) cx.1 cx.2.1 dX12_recover_234 (by decide) ?_
        refine lv_iconst (pc := 237) (v := 4) cx.1 cx.2.1 dX12_recover_237 (by decide) ?_
        refine lv_aload_n (pc := 238) cx.1 cx.2.1 dX12_recover_238 rfl (lv_at hl 0 rfl) ?_
        refine k_getI (pc := 239) (u := u) (v := (u.1 24)) cx hw (ln_X12_this_24 d h) (C := RX12) (T := TX12) (N := 40) rfl in_X12 (by decide) q1001 (fun _ h9 => h9) rfl dX12_recover_239 ?_
        refine lv_imul (pc := 242) cx.1 cx.2.1 dX12_recover_242 ?_
        refine lv_iadd (pc := 243) cx.1 cx.2.1 dX12_recover_243 ?_
        refine k_iald (pc := 244) (u := u) (f := (u.2.1 4)) cx hw (lx_X12_this_4 d h) 0 rfl rfl hwp.1 dX12_recover_244 ?_
        replace hwp := hwp.2
        refine lv_topi (fun y3 ey3 => ?_)
        replace hwp := hwp y3 ey3
        refine k_iast (pc := 245) (u := u) (f := (u.2.1 21)) cx hw (ln_X12_this_21 d h) 0 rfl rfl hwp.1 dX12_recover_245 (fun H locs hw => ?_)
        replace hwp := hwp.2
        refine lv_aload_n (pc := 246) cx.1 cx.2.1 dX12_recover_246 rfl (lv_at hl 0 rfl) ?_
        refine k_getR (pc := 247) (u := (st_A u 21 (upd (u.2.1 21) (u.1 24).toNatClampNeg y3))) (v := .ref (h 10)) cx hw (lr_X12_this_22 d h) (C := RX12) (T := TX12) (N := 40) rfl in_X12 (by decide) q999 (fun _ h9 => h9) rfl dX12_recover_247 ?_
        refine lv_aload_n (pc := 250) cx.1 cx.2.1 dX12_recover_250 rfl (lv_at hl 0 rfl) ?_
        refine k_getI (pc := 251) (u := (st_A u 21 (upd (u.2.1 21) (u.1 24).toNatClampNeg y3))) (v := (u.1 24)) cx hw (ln_X12_this_24 d h) (C := RX12) (T := TX12) (N := 40) rfl in_X12 (by decide) q1001 (fun _ h9 => h9) rfl dX12_recover_251 ?_
        refine lv_aload_n (pc := 254) cx.1 cx.2.1 dX12_recover_254 rfl (lv_at hl 0 rfl) ?_
        refine k_getR (pc := 255) (u := (st_A u 21 (upd (u.2.1 21) (u.1 24).toNatClampNeg y3))) (v := .ref (h 1)) cx hw (lr_X12_this_4 d h) (C := RX12) (T := TX12) (N := 40) rfl in_X12 (by decide) q981 (fun _ h9 => h9) rfl dX12_recover_255 ?_
        refine lv_sipush (pc := 258) (v := 1923) cx.1 cx.2.1 dX12_recover_258 (by decide) ?_
        refine lv_iconst (pc := 261) (v := 4) cx.1 cx.2.1 dX12_recover_261 (by decide) ?_
        refine lv_aload_n (pc := 262) cx.1 cx.2.1 dX12_recover_262 rfl (lv_at hl 0 rfl) ?_
        refine k_getI (pc := 263) (u := (st_A u 21 (upd (u.2.1 21) (u.1 24).toNatClampNeg y3))) (v := (u.1 24)) cx hw (ln_X12_this_24 d h) (C := RX12) (T := TX12) (N := 40) rfl in_X12 (by decide) q1001 (fun _ h9 => h9) rfl dX12_recover_263 ?_
        refine lv_imul (pc := 266) cx.1 cx.2.1 dX12_recover_266 ?_
        refine lv_iadd (pc := 267) cx.1 cx.2.1 dX12_recover_267 ?_
        refine lv_iconst (pc := 268) (v := 1) cx.1 cx.2.1 dX12_recover_268 (by decide) ?_
        refine lv_iadd (pc := 269) cx.1 cx.2.1 dX12_recover_269 ?_
        refine k_iald (pc := 270) (u := (st_A u 21 (upd (u.2.1 21) (u.1 24).toNatClampNeg y3))) (f := (u.2.1 4)) cx hw (lx_X12_this_4 d h) 0 rfl rfl hwp.1 dX12_recover_270 ?_
        replace hwp := hwp.2
        refine lv_topi (fun y4 ey4 => ?_)
        replace hwp := hwp y4 ey4
        refine k_iast (pc := 271) (u := (st_A u 21 (upd (u.2.1 21) (u.1 24).toNatClampNeg y3))) (f := (u.2.1 22)) cx hw (ln_X12_this_22 d h) 0 rfl rfl hwp.1 dX12_recover_271 (fun H locs hw => ?_)
        replace hwp := hwp.2
        refine lv_aload_n (pc := 272) cx.1 cx.2.1 dX12_recover_272 rfl (lv_at hl 0 rfl) ?_
        refine k_getR (pc := 273) (u := (st_A (st_A u 21 (upd (u.2.1 21) (u.1 24).toNatClampNeg y3)) 22 (upd (u.2.1 22) (u.1 24).toNatClampNeg y4))) (v := .ref (h 11)) cx hw (lr_X12_this_23 d h) (C := RX12) (T := TX12) (N := 40) rfl in_X12 (by decide) q1000 (fun _ h9 => h9) rfl dX12_recover_273 ?_
        refine lv_aload_n (pc := 276) cx.1 cx.2.1 dX12_recover_276 rfl (lv_at hl 0 rfl) ?_
        refine k_getI (pc := 277) (u := (st_A (st_A u 21 (upd (u.2.1 21) (u.1 24).toNatClampNeg y3)) 22 (upd (u.2.1 22) (u.1 24).toNatClampNeg y4))) (v := (u.1 24)) cx hw (ln_X12_this_24 d h) (C := RX12) (T := TX12) (N := 40) rfl in_X12 (by decide) q1001 (fun _ h9 => h9) rfl dX12_recover_277 ?_
        refine lv_aload_n (pc := 280) cx.1 cx.2.1 dX12_recover_280 rfl (lv_at hl 0 rfl) ?_
        refine k_getR (pc := 281) (u := (st_A (st_A u 21 (upd (u.2.1 21) (u.1 24).toNatClampNeg y3)) 22 (upd (u.2.1 22) (u.1 24).toNatClampNeg y4))) (v := .ref (h 1)) cx hw (lr_X12_this_4 d h) (C := RX12) (T := TX12) (N := 40) rfl in_X12 (by decide) q981 (fun _ h9 => h9) rfl dX12_recover_281 ?_
        refine lv_sipush (pc := 284) (v := 1923) cx.1 cx.2.1 dX12_recover_284 (by decide) ?_
        refine lv_iconst (pc := 287) (v := 4) cx.1 cx.2.1 dX12_recover_287 (by decide) ?_
        refine lv_aload_n (pc := 288) cx.1 cx.2.1 dX12_recover_288 rfl (lv_at hl 0 rfl) ?_
        refine k_getI (pc := 289) (u := (st_A (st_A u 21 (upd (u.2.1 21) (u.1 24).toNatClampNeg y3)) 22 (upd (u.2.1 22) (u.1 24).toNatClampNeg y4))) (v := (u.1 24)) cx hw (ln_X12_this_24 d h) (C := RX12) (T := TX12) (N := 40) rfl in_X12 (by decide) q1001 (fun _ h9 => h9) rfl dX12_recover_289 ?_
        refine lv_imul (pc := 292) cx.1 cx.2.1 dX12_recover_292 ?_
        refine lv_iadd (pc := 293) cx.1 cx.2.1 dX12_recover_293 ?_
        refine lv_iconst (pc := 294) (v := 2) cx.1 cx.2.1 dX12_recover_294 (by decide) ?_
        refine lv_iadd (pc := 295) cx.1 cx.2.1 dX12_recover_295 ?_
        refine k_iald (pc := 296) (u := (st_A (st_A u 21 (upd (u.2.1 21) (u.1 24).toNatClampNeg y3)) 22 (upd (u.2.1 22) (u.1 24).toNatClampNeg y4))) (f := (u.2.1 4)) cx hw (lx_X12_this_4 d h) 0 rfl rfl hwp.1 dX12_recover_296 ?_
        replace hwp := hwp.2
        refine lv_topi (fun y5 ey5 => ?_)
        replace hwp := hwp y5 ey5
        refine k_iast (pc := 297) (u := (st_A (st_A u 21 (upd (u.2.1 21) (u.1 24).toNatClampNeg y3)) 22 (upd (u.2.1 22) (u.1 24).toNatClampNeg y4))) (f := (u.2.1 23)) cx hw (ln_X12_this_23 d h) 0 rfl rfl hwp.1 dX12_recover_297 (fun H locs hw => ?_)
        replace hwp := hwp.2
        refine lv_aload_n (pc := 298) cx.1 cx.2.1 dX12_recover_298 rfl (lv_at hl 0 rfl) ?_
        refine lv_dup (pc := 299) cx.1 cx.2.1 dX12_recover_299 rfl ?_
        refine k_getI (pc := 300) (u := (st_A (st_A (st_A u 21 (upd (u.2.1 21) (u.1 24).toNatClampNeg y3)) 22 (upd (u.2.1 22) (u.1 24).toNatClampNeg y4)) 23 (upd (u.2.1 23) (u.1 24).toNatClampNeg y5))) (v := (u.1 24)) cx hw (ln_X12_this_24 d h) (C := RX12) (T := TX12) (N := 40) rfl in_X12 (by decide) q1001 (fun _ h9 => h9) rfl dX12_recover_300 ?_
        refine lv_iconst (pc := 303) (v := 1) cx.1 cx.2.1 dX12_recover_303 (by decide) ?_
        refine lv_iadd (pc := 304) cx.1 cx.2.1 dX12_recover_304 ?_
        refine k_putI (pc := 305) (u := (st_A (st_A (st_A u 21 (upd (u.2.1 21) (u.1 24).toNatClampNeg y3)) 22 (upd (u.2.1 22) (u.1 24).toNatClampNeg y4)) 23 (upd (u.2.1 23) (u.1 24).toNatClampNeg y5))) (v := ((u.1 24) + (1 : Int32))) cx hw (ln_X12_this_24 d h) (C := RX12) (T := TX12) (N := 40) rfl in_X12 tyX12 tyX12_ok nmX12 (by decide) q1001 (fun _ h9 => h9) rfl rfl rfl dX12_recover_305 (fun H locs hw => ?_)
        refine lv_goto (pc := 308) (tgt := 186) cx.1 cx.2.1 dX12_recover_308 (by decide) ?_
        exact ih _ _ _ _ _ hwp hw (lv_sub hl [0, 1] rfl)
set_option maxHeartbeats 4000000 in
theorem wk_X12_recover_181 {p : Program} {l : Launch} {e : Env} {s : State} {m : MethodId} {args : Array Value} {below : List Frame} {meth : Method} {c : Code} {A : Nat → Prop} {dC : Nat → ClassId} {dI : Nat → Nat → Nat} {d : Nat → ClassId} {h : Nat → Nat} {K : Int32 → St → Prop} (cx : Cx p s m args meth c cX12_recover RX12 5 (some .int) A dC dI d) : ∀ (x2 : Int32) (u : St) (H : Heap) (locs : List Loc) (ls : Array Slot), wp_X12_recover_181 K x2 u → Wd dC dI A ((wM d h) u) s H locs → lv_has ls 5 [(0, .ref (h 0)), (2, .int x2)] → W p l e ({ frames := 3, cells := 0, slots := 0, locals := 72 } : Room) s m args below meth c H locs 0 0 (MQ below (kQi dC dI (wM d h) K A) args s 0 0 A) (F0 m 181 ls []) := by
  intro x2 u H locs ls hwp hw hl
  unfold wp_X12_recover_181 at hwp
  refine lv_aload_n (pc := 181) cx.1 cx.2.1 dX12_recover_181 rfl (lv_at hl 0 rfl) ?_
  refine lv_iconst (pc := 182) (v := 0) cx.1 cx.2.1 dX12_recover_182 (by decide) ?_
  refine k_putI (pc := 183) (u := u) (v := (0 : Int32)) cx hw (ln_X12_this_24 d h) (C := RX12) (T := TX12) (N := 40) rfl in_X12 tyX12 tyX12_ok nmX12 (by decide) q1001 (fun _ h9 => h9) rfl rfl rfl dX12_recover_183 (fun H locs hw => ?_)
  obtain ⟨n186, hwp⟩ := hwp
  exact wk_X12_recover_186 cx n186 _ _ _ _ _ hwp hw (lv_sub hl [0, 1] rfl)
set_option maxHeartbeats 4000000 in
theorem wk_X12_recover_76 {p : Program} {l : Launch} {e : Env} {s : State} {m : MethodId} {args : Array Value} {below : List Frame} {meth : Method} {c : Code} {A : Nat → Prop} {dC : Nat → ClassId} {dI : Nat → Nat → Nat} {d : Nat → ClassId} {h : Nat → Nat} {K : Int32 → St → Prop} (cx : Cx p s m args meth c cX12_recover RX12 5 (some .int) A dC dI d) : ∀ (n : Nat) (x1 : Int32) (x2 : Int32) (x3 : Int32) (u : St) (H : Heap) (locs : List Loc) (ls : Array Slot), wp_X12_recover_76 K n x1 x2 x3 u → Wd dC dI A ((wM d h) u) s H locs → lv_has ls 5 [(0, .ref (h 0)), (1, .int x1), (2, .int x2), (3, .int x3)] → W p l e ({ frames := 3, cells := 0, slots := 0, locals := 72 } : Room) s m args below meth c H locs 0 0 (MQ below (kQi dC dI (wM d h) K A) args s 0 0 A) (F0 m 76 ls []) := by
  intro n
  induction n with
  | zero =>
    intros; contradiction
  | succ n ih =>
    intro x1 x2 x3 u H locs ls hwp hw hl
    unfold wp_X12_recover_76 at hwp
    refine lv_iload_n (pc := 76) cx.1 cx.2.1 dX12_recover_76 rfl (lv_at hl 3 rfl) ?_
    refine lv_aload_n (pc := 77) cx.1 cx.2.1 dX12_recover_77 rfl (lv_at hl 0 rfl) ?_
    refine k_getI (pc := 78) (u := u) (v := (u.1 18)) cx hw (ln_X12_this_18 d h) (C := RX12) (T := TX12) (N := 40) rfl in_X12 (by decide) q995 (fun _ h9 => h9) rfl dX12_recover_78 ?_
    refine lv_icmp_ge (pc := 81) (tgt := 181) cx.1 cx.2.1 dX12_recover_81 (by decide) (fun c1 => ?_) (fun c1 => ?_)
    · replace hwp := hwp.1 c1
      exact wk_X12_recover_181 cx _ _ _ _ _ hwp hw (lv_sub hl [0, 2] rfl)
    · replace hwp := hwp.2 c1
      refine lv_iload_n (pc := 84) cx.1 cx.2.1 dX12_recover_84 rfl (lv_at hl 1 rfl) ?_
      refine lv_iconst (pc := 85) (v := 1) cx.1 cx.2.1 dX12_recover_85 (by decide) ?_
      refine lv_iadd (pc := 86) cx.1 cx.2.1 dX12_recover_86 ?_
      refine lv_bipush (pc := 87) (v := 10) cx.1 cx.2.1 dX12_recover_87 (by decide) ?_
      refine lv_iload_n (pc := 89) cx.1 cx.2.1 dX12_recover_89 rfl (lv_at hl 3 rfl) ?_
      refine lv_imul (pc := 90) cx.1 cx.2.1 dX12_recover_90 ?_
      refine lv_iadd (pc := 91) cx.1 cx.2.1 dX12_recover_91 ?_
      refine lv_istore (pc := 92) (lv' := [(4, .int ((x1 + (1 : Int32)) + ((10 : Int32) * x3))), (0, .ref (h 0)), (1, .int x1), (2, .int x2), (3, .int x3)]) cx.1 cx.2.1 dX12_recover_92 hl (by decide) rfl (fun ls hl => ?_)
      refine lv_aload_n (pc := 94) cx.1 cx.2.1 dX12_recover_94 rfl (lv_at hl 1 rfl) ?_
      refine k_getR (pc := 95) (u := u) (v := .ref (h 8)) cx hw (lr_X12_this_17 d h) (C := RX12) (T := TX12) (N := 40) rfl in_X12 (by decide) q994 (fun _ h9 => h9) rfl dX12_recover_95 ?_
      refine lv_iload_n (pc := 98) cx.1 cx.2.1 dX12_recover_98 rfl (lv_at hl 4 rfl) ?_
      refine lv_iload_n (pc := 99) cx.1 cx.2.1 dX12_recover_99 rfl (lv_at hl 4 rfl) ?_
      refine k_iast (pc := 100) (u := u) (f := (u.2.1 17)) cx hw (ln_X12_this_17 d h) 0 rfl rfl hwp.1 dX12_recover_100 (fun H locs hw => ?_)
      replace hwp := hwp.2
      refine lv_aload_n (pc := 101) cx.1 cx.2.1 dX12_recover_101 rfl (lv_at hl 1 rfl) ?_
      refine k_getR (pc := 102) (u := (st_A u 17 (upd (u.2.1 17) x3.toNatClampNeg x3))) (v := .ref (h 2)) cx hw (lr_X12_this_11 d h) (C := RX12) (T := TX12) (N := 40) rfl in_X12 (by decide) q988 (fun _ h9 => h9) rfl dX12_recover_102 ?_
      refine lv_iload_n (pc := 105) cx.1 cx.2.1 dX12_recover_105 rfl (lv_at hl 4 rfl) ?_
      refine lv_aload_n (pc := 106) cx.1 cx.2.1 dX12_recover_106 rfl (lv_at hl 1 rfl) ?_
      refine k_getR (pc := 107) (u := (st_A u 17 (upd (u.2.1 17) x3.toNatClampNeg x3))) (v := .ref (h 1)) cx hw (lr_X12_this_4 d h) (C := RX12) (T := TX12) (N := 40) rfl in_X12 (by decide) q981 (fun _ h9 => h9) rfl dX12_recover_107 ?_
      refine lv_iload (pc := 110) cx.1 cx.2.1 dX12_recover_110 (lv_at hl 0 rfl) ?_
      refine k_iald (pc := 112) (u := (st_A u 17 (upd (u.2.1 17) x3.toNatClampNeg x3))) (f := (u.2.1 4)) cx hw (lx_X12_this_4 d h) 0 rfl rfl hwp.1 dX12_recover_112 ?_
      replace hwp := hwp.2
      refine lv_topi (fun y2 ey2 => ?_)
      replace hwp := hwp y2 ey2
      refine k_iast (pc := 113) (u := (st_A u 17 (upd (u.2.1 17) x3.toNatClampNeg x3))) (f := (u.2.1 11)) cx hw (ln_X12_this_11 d h) 0 rfl rfl hwp.1 dX12_recover_113 (fun H locs hw => ?_)
      replace hwp := hwp.2
      refine lv_aload_n (pc := 114) cx.1 cx.2.1 dX12_recover_114 rfl (lv_at hl 1 rfl) ?_
      refine k_getR (pc := 115) (u := (st_A (st_A u 17 (upd (u.2.1 17) x3.toNatClampNeg x3)) 11 (upd (u.2.1 11) x3.toNatClampNeg y2))) (v := .ref (h 3)) cx hw (lr_X12_this_12 d h) (C := RX12) (T := TX12) (N := 40) rfl in_X12 (by decide) q989 (fun _ h9 => h9) rfl dX12_recover_115 ?_
      refine lv_iload_n (pc := 118) cx.1 cx.2.1 dX12_recover_118 rfl (lv_at hl 4 rfl) ?_
      refine lv_aload_n (pc := 119) cx.1 cx.2.1 dX12_recover_119 rfl (lv_at hl 1 rfl) ?_
      refine k_getR (pc := 120) (u := (st_A (st_A u 17 (upd (u.2.1 17) x3.toNatClampNeg x3)) 11 (upd (u.2.1 11) x3.toNatClampNeg y2))) (v := .ref (h 1)) cx hw (lr_X12_this_4 d h) (C := RX12) (T := TX12) (N := 40) rfl in_X12 (by decide) q981 (fun _ h9 => h9) rfl dX12_recover_120 ?_
      refine lv_iload (pc := 123) cx.1 cx.2.1 dX12_recover_123 (lv_at hl 0 rfl) ?_
      refine lv_iconst (pc := 125) (v := 3) cx.1 cx.2.1 dX12_recover_125 (by decide) ?_
      refine lv_iadd (pc := 126) cx.1 cx.2.1 dX12_recover_126 ?_
      refine k_iald (pc := 127) (u := (st_A (st_A u 17 (upd (u.2.1 17) x3.toNatClampNeg x3)) 11 (upd (u.2.1 11) x3.toNatClampNeg y2))) (f := (u.2.1 4)) cx hw (lx_X12_this_4 d h) 0 rfl rfl hwp.1 dX12_recover_127 ?_
      replace hwp := hwp.2
      refine lv_topi (fun y3 ey3 => ?_)
      replace hwp := hwp y3 ey3
      refine k_iast (pc := 128) (u := (st_A (st_A u 17 (upd (u.2.1 17) x3.toNatClampNeg x3)) 11 (upd (u.2.1 11) x3.toNatClampNeg y2))) (f := (u.2.1 12)) cx hw (ln_X12_this_12 d h) 0 rfl rfl hwp.1 dX12_recover_128 (fun H locs hw => ?_)
      replace hwp := hwp.2
      refine lv_aload_n (pc := 129) cx.1 cx.2.1 dX12_recover_129 rfl (lv_at hl 1 rfl) ?_
      refine k_getR (pc := 130) (u := (st_A (st_A (st_A u 17 (upd (u.2.1 17) x3.toNatClampNeg x3)) 11 (upd (u.2.1 11) x3.toNatClampNeg y2)) 12 (upd (u.2.1 12) x3.toNatClampNeg y3))) (v := .ref (h 4)) cx hw (lr_X12_this_13 d h) (C := RX12) (T := TX12) (N := 40) rfl in_X12 (by decide) q990 (fun _ h9 => h9) rfl dX12_recover_130 ?_
      refine lv_iload_n (pc := 133) cx.1 cx.2.1 dX12_recover_133 rfl (lv_at hl 4 rfl) ?_
      refine lv_aload_n (pc := 134) cx.1 cx.2.1 dX12_recover_134 rfl (lv_at hl 1 rfl) ?_
      refine k_getR (pc := 135) (u := (st_A (st_A (st_A u 17 (upd (u.2.1 17) x3.toNatClampNeg x3)) 11 (upd (u.2.1 11) x3.toNatClampNeg y2)) 12 (upd (u.2.1 12) x3.toNatClampNeg y3))) (v := .ref (h 1)) cx hw (lr_X12_this_4 d h) (C := RX12) (T := TX12) (N := 40) rfl in_X12 (by decide) q981 (fun _ h9 => h9) rfl dX12_recover_135 ?_
      refine lv_iload (pc := 138) cx.1 cx.2.1 dX12_recover_138 (lv_at hl 0 rfl) ?_
      refine lv_bipush (pc := 140) (v := 8) cx.1 cx.2.1 dX12_recover_140 (by decide) ?_
      refine lv_iadd (pc := 142) cx.1 cx.2.1 dX12_recover_142 ?_
      refine k_iald (pc := 143) (u := (st_A (st_A (st_A u 17 (upd (u.2.1 17) x3.toNatClampNeg x3)) 11 (upd (u.2.1 11) x3.toNatClampNeg y2)) 12 (upd (u.2.1 12) x3.toNatClampNeg y3))) (f := (u.2.1 4)) cx hw (lx_X12_this_4 d h) 0 rfl rfl hwp.1 dX12_recover_143 ?_
      replace hwp := hwp.2
      refine lv_topi (fun y4 ey4 => ?_)
      replace hwp := hwp y4 ey4
      refine k_iast (pc := 144) (u := (st_A (st_A (st_A u 17 (upd (u.2.1 17) x3.toNatClampNeg x3)) 11 (upd (u.2.1 11) x3.toNatClampNeg y2)) 12 (upd (u.2.1 12) x3.toNatClampNeg y3))) (f := (u.2.1 13)) cx hw (ln_X12_this_13 d h) 0 rfl rfl hwp.1 dX12_recover_144 (fun H locs hw => ?_)
      replace hwp := hwp.2
      refine lv_aload_n (pc := 145) cx.1 cx.2.1 dX12_recover_145 rfl (lv_at hl 1 rfl) ?_
      refine k_getR (pc := 146) (u := (st_A (st_A (st_A (st_A u 17 (upd (u.2.1 17) x3.toNatClampNeg x3)) 11 (upd (u.2.1 11) x3.toNatClampNeg y2)) 12 (upd (u.2.1 12) x3.toNatClampNeg y3)) 13 (upd (u.2.1 13) x3.toNatClampNeg y4))) (v := .ref (h 5)) cx hw (lr_X12_this_14 d h) (C := RX12) (T := TX12) (N := 40) rfl in_X12 (by decide) q991 (fun _ h9 => h9) rfl dX12_recover_146 ?_
      refine lv_iload_n (pc := 149) cx.1 cx.2.1 dX12_recover_149 rfl (lv_at hl 4 rfl) ?_
      refine lv_aload_n (pc := 150) cx.1 cx.2.1 dX12_recover_150 rfl (lv_at hl 1 rfl) ?_
      refine k_getR (pc := 151) (u := (st_A (st_A (st_A (st_A u 17 (upd (u.2.1 17) x3.toNatClampNeg x3)) 11 (upd (u.2.1 11) x3.toNatClampNeg y2)) 12 (upd (u.2.1 12) x3.toNatClampNeg y3)) 13 (upd (u.2.1 13) x3.toNatClampNeg y4))) (v := .ref (h 1)) cx hw (lr_X12_this_4 d h) (C := RX12) (T := TX12) (N := 40) rfl in_X12 (by decide) q981 (fun _ h9 => h9) rfl dX12_recover_151 ?_
      refine lv_iload (pc := 154) cx.1 cx.2.1 dX12_recover_154 (lv_at hl 0 rfl) ?_
      refine lv_bipush (pc := 156) (v := 9) cx.1 cx.2.1 dX12_recover_156 (by decide) ?_
      refine lv_iadd (pc := 158) cx.1 cx.2.1 dX12_recover_158 ?_
      refine k_iald (pc := 159) (u := (st_A (st_A (st_A (st_A u 17 (upd (u.2.1 17) x3.toNatClampNeg x3)) 11 (upd (u.2.1 11) x3.toNatClampNeg y2)) 12 (upd (u.2.1 12) x3.toNatClampNeg y3)) 13 (upd (u.2.1 13) x3.toNatClampNeg y4))) (f := (u.2.1 4)) cx hw (lx_X12_this_4 d h) 0 rfl rfl hwp.1 dX12_recover_159 ?_
      replace hwp := hwp.2
      refine lv_topi (fun y5 ey5 => ?_)
      replace hwp := hwp y5 ey5
      refine k_iast (pc := 160) (u := (st_A (st_A (st_A (st_A u 17 (upd (u.2.1 17) x3.toNatClampNeg x3)) 11 (upd (u.2.1 11) x3.toNatClampNeg y2)) 12 (upd (u.2.1 12) x3.toNatClampNeg y3)) 13 (upd (u.2.1 13) x3.toNatClampNeg y4))) (f := (u.2.1 14)) cx hw (ln_X12_this_14 d h) 0 rfl rfl hwp.1 dX12_recover_160 (fun H locs hw => ?_)
      replace hwp := hwp.2
      refine lv_aload_n (pc := 161) cx.1 cx.2.1 dX12_recover_161 rfl (lv_at hl 1 rfl) ?_
      refine lv_iload_n (pc := 162) cx.1 cx.2.1 dX12_recover_162 rfl (lv_at hl 4 rfl) ?_
      refine k_whole_v (pc := 163) (wf := (wM d h)) (u := (st_A (st_A (st_A (st_A (st_A u 17 (upd (u.2.1 17) x3.toNatClampNeg x3)) 11 (upd (u.2.1 11) x3.toNatClampNeg y2)) 12 (upd (u.2.1 12) x3.toNatClampNeg y3)) 13 (upd (u.2.1 13) x3.toNatClampNeg y4)) 14 (upd (u.2.1 14) x3.toNatClampNeg y5))) cx hw (k_runV (pc := 163) (rest := []) (As := [.int x3]) cx hw.1 (hw.2.1.weaken (fun _ _ _ _ => trivial)) hw.2.2 (k_recv cx hw 0 (ci := 10) (q := (RX12, TX12, 40)) rfl rfl) (m_X12_read l dC dI d h  (st_A (st_A (st_A (st_A (st_A u 17 (upd (u.2.1 17) x3.toNatClampNeg x3)) 11 (upd (u.2.1 11) x3.toNatClampNeg y2)) 12 (upd (u.2.1 12) x3.toNatClampNeg y3)) 13 (upd (u.2.1 13) x3.toNatClampNeg y4)) 14 (upd (u.2.1 14) x3.toNatClampNeg y5)) x3 hwp H.size) (cwV 1 cx.2.2.2.2.1 (lw_V q1323 q1325 qs69 q89 q1326) rfl rfl rfl hdV_X12_read ⟨Nat.le_of_ble_eq_true rfl, Nat.le_of_ble_eq_true rfl⟩) rfl hl.1 rfl (Nat.le_of_ble_eq_true rfl) dX12_recover_163 ⟨Nat.le_of_ble_eq_true rfl, Nat.le_of_ble_eq_true rfl⟩) (fun u6 H locs hwp hw => ?_)
      refine lv_iload_n (pc := 166) cx.1 cx.2.1 dX12_recover_166 rfl (lv_at hl 3 rfl) ?_
      refine lv_aload_n (pc := 167) cx.1 cx.2.1 dX12_recover_167 rfl (lv_at hl 1 rfl) ?_
      refine k_getR (pc := 168) (u := u6) (v := .ref (h 3)) cx hw (lr_X12_this_12 d h) (C := RX12) (T := TX12) (N := 40) rfl in_X12 (by decide) q989 (fun _ h9 => h9) rfl dX12_recover_168 ?_
      refine lv_iload_n (pc := 171) cx.1 cx.2.1 dX12_recover_171 rfl (lv_at hl 4 rfl) ?_
      refine k_iald (pc := 172) (u := u6) (f := (u6.2.1 12)) cx hw (lx_X12_this_12 d h) 0 rfl rfl hwp.1 dX12_recover_172 ?_
      replace hwp := hwp.2
      refine lv_iadd (pc := 173) cx.1 cx.2.1 dX12_recover_173 ?_
      refine lv_istore_n (pc := 174) (lv' := [(2, .int (x2 + ((u6.2.1 12) x3.toNatClampNeg))), (4, .int ((x1 + (1 : Int32)) + ((10 : Int32) * x3))), (0, .ref (h 0)), (1, .int x1), (3, .int x3)]) cx.1 cx.2.1 dX12_recover_174 rfl hl (by decide) rfl (fun ls hl => ?_)
      refine lv_iinc (pc := 175) (v := (x3 + (1 : Int32))) (lv' := [(3, .int (x3 + (1 : Int32))), (2, .int (x2 + ((u6.2.1 12) x3.toNatClampNeg))), (4, .int ((x1 + (1 : Int32)) + ((10 : Int32) * x3))), (0, .ref (h 0)), (1, .int x1)]) cx.1 cx.2.1 dX12_recover_175 hl (k := 4) rfl rfl (by decide) rfl (fun ls hl => ?_)
      refine lv_goto (pc := 178) (tgt := 76) cx.1 cx.2.1 dX12_recover_178 (by decide) ?_
      exact ih _ _ _ _ _ _ _ hwp hw (lv_sub hl [3, 4, 1, 0] rfl)
set_option maxHeartbeats 4000000 in
theorem m_X12_recover (l : Launch) (dC : Nat → ClassId) (dI : Nat → Nat → Nat) (d : Nat → ClassId) (h : Nat → Nat) (u : St) {K : Int32 → St → Prop} (hwp : wp_X12_recover u K) : kM l yX12_recover cX12_recover 5 (some .int) ({ frames := 3, cells := 0, slots := 0, locals := 72 } : Room) dC dI d [.ref (h 0)] (wM d h) u (kQi dC dI (wM d h) K) 0 0 := by
  refine kM_start rfl (Nat.le_of_ble_eq_true rfl) ?_
  intro p e s m below meth c A ls cx hnm hw hl
  generalize hargs : ([.ref (h 0)] : List Value).toArray = args at cx ⊢
  unfold wp_X12_recover at hwp
  replace hl : lv_has ls 5 [(0, .ref (h 0))] := hl
  generalize hH : s.heap = H at hw ⊢
  generalize hlo : ([] : List Loc) = locs at hw ⊢
  refine lv_aload_n (pc := 0) cx.1 cx.2.1 dX12_recover_0 rfl (lv_at hl 0 rfl) ?_
  refine lv_iconst (pc := 1) (v := 0) cx.1 cx.2.1 dX12_recover_1 (by decide) ?_
  refine k_putI (pc := 2) (u := u) (v := (0 : Int32)) cx hw (ln_X12_this_0 d h) (C := RX12) (T := TX12) (N := 40) rfl in_X12 tyX12 tyX12_ok nmX12 (by decide) q977 (fun _ h9 => h9) rfl rfl rfl dX12_recover_2 (fun H locs hw => ?_)
  refine lv_aload_n (pc := 5) cx.1 cx.2.1 dX12_recover_5 rfl (lv_at hl 0 rfl) ?_
  refine k_whole_v (pc := 6) (wf := (wM d h)) (u := (st_I u 0 (0 : Int32))) cx hw (k_runV (pc := 6) (rest := []) (As := []) cx hw.1 (hw.2.1.weaken (fun _ _ _ _ => trivial)) hw.2.2 (k_recv cx hw 0 (ci := 10) (q := (RX12, TX12, 40)) rfl rfl) (m_X12_dropCursor l dC dI d h  (st_I u 0 (0 : Int32))  hwp H.size) (cwV 0 cx.2.2.2.2.1 (lw_V q1106 q1108 qs32 q89 q1109) rfl rfl rfl hdV_X12_dropCursor ⟨Nat.le_of_ble_eq_true rfl, Nat.le_of_ble_eq_true rfl⟩) rfl hl.1 rfl (Nat.le_of_ble_eq_true rfl) dX12_recover_6 ⟨Nat.le_of_ble_eq_true rfl, Nat.le_of_ble_eq_true rfl⟩) (fun u1 H locs hwp hw => ?_)
  refine lv_aload_n (pc := 9) cx.1 cx.2.1 dX12_recover_9 rfl (lv_at hl 0 rfl) ?_
  refine lv_dup (pc := 10) cx.1 cx.2.1 dX12_recover_10 rfl ?_
  refine k_getI (pc := 11) (u := u1) (v := (u1.1 8)) cx hw (ln_X12_this_8 d h) (C := RX12) (T := TX12) (N := 40) rfl in_X12 (by decide) q985 (fun _ h9 => h9) rfl dX12_recover_11 ?_
  refine lv_iconst (pc := 14) (v := 1) cx.1 cx.2.1 dX12_recover_14 (by decide) ?_
  refine lv_iadd (pc := 15) cx.1 cx.2.1 dX12_recover_15 ?_
  refine k_putI (pc := 16) (u := u1) (v := ((u1.1 8) + (1 : Int32))) cx hw (ln_X12_this_8 d h) (C := RX12) (T := TX12) (N := 40) rfl in_X12 tyX12 tyX12_ok nmX12 (by decide) q985 (fun _ h9 => h9) rfl rfl rfl dX12_recover_16 (fun H locs hw => ?_)
  refine lv_aload_n (pc := 19) cx.1 cx.2.1 dX12_recover_19 rfl (lv_at hl 0 rfl) ?_
  refine lv_iconst (pc := 20) (v := 0) cx.1 cx.2.1 dX12_recover_20 (by decide) ?_
  refine k_putI (pc := 21) (u := (st_I u1 8 ((u1.1 8) + (1 : Int32)))) (v := (0 : Int32)) cx hw (ln_X12_this_7 d h) (C := RX12) (T := TX12) (N := 40) rfl in_X12 tyX12 tyX12_ok nmX12 (by decide) q984 (fun _ h9 => h9) rfl rfl rfl dX12_recover_21 (fun H locs hw => ?_)
  refine lv_aload_n (pc := 24) cx.1 cx.2.1 dX12_recover_24 rfl (lv_at hl 0 rfl) ?_
  refine lv_iconst (pc := 25) (v := -1) cx.1 cx.2.1 dX12_recover_25 (by decide) ?_
  refine k_putI (pc := 26) (u := (st_I (st_I u1 8 ((u1.1 8) + (1 : Int32))) 7 (0 : Int32))) (v := (-1 : Int32)) cx hw (ln_X12_this_6 d h) (C := RX12) (T := TX12) (N := 40) rfl in_X12 tyX12 tyX12_ok nmX12 (by decide) q983 (fun _ h9 => h9) rfl rfl rfl dX12_recover_26 (fun H locs hw => ?_)
  refine lv_aload_n (pc := 29) cx.1 cx.2.1 dX12_recover_29 rfl (lv_at hl 0 rfl) ?_
  refine lv_aload_n (pc := 30) cx.1 cx.2.1 dX12_recover_30 rfl (lv_at hl 0 rfl) ?_
  refine k_getR (pc := 31) (u := (st_I (st_I (st_I u1 8 ((u1.1 8) + (1 : Int32))) 7 (0 : Int32)) 6 (-1 : Int32))) (v := .ref (h 1)) cx hw (lr_X12_this_4 d h) (C := RX12) (T := TX12) (N := 40) rfl in_X12 (by decide) q981 (fun _ h9 => h9) rfl dX12_recover_31 ?_
  refine lv_iconst (pc := 34) (v := 0) cx.1 cx.2.1 dX12_recover_34 (by decide) ?_
  refine k_iald (pc := 35) (u := (st_I (st_I (st_I u1 8 ((u1.1 8) + (1 : Int32))) 7 (0 : Int32)) 6 (-1 : Int32))) (f := (u1.2.1 4)) cx hw (lx_X12_this_4 d h) 0 rfl rfl (by unfold vp_in; decide) dX12_recover_35 ?_
  refine lv_iconst (pc := 36) (v := 1) cx.1 cx.2.1 dX12_recover_36 (by decide) ?_
  refine lv_iand (pc := 37) cx.1 cx.2.1 dX12_recover_37 ?_
  refine lv_topi (fun y3 ey3 => ?_)
  replace hwp := hwp y3 ey3
  refine k_putI (pc := 38) (u := (st_I (st_I (st_I u1 8 ((u1.1 8) + (1 : Int32))) 7 (0 : Int32)) 6 (-1 : Int32))) (v := y3) cx hw (ln_X12_this_20 d h) (C := RX12) (T := TX12) (N := 40) rfl in_X12 tyX12 tyX12_ok nmX12 (by decide) q997 (fun _ h9 => h9) rfl rfl rfl dX12_recover_38 (fun H locs hw => ?_)
  refine lv_aload_n (pc := 41) cx.1 cx.2.1 dX12_recover_41 rfl (lv_at hl 0 rfl) ?_
  refine lv_aload_n (pc := 42) cx.1 cx.2.1 dX12_recover_42 rfl (lv_at hl 0 rfl) ?_
  refine k_getR (pc := 43) (u := (st_I (st_I (st_I (st_I u1 8 ((u1.1 8) + (1 : Int32))) 7 (0 : Int32)) 6 (-1 : Int32)) 20 y3)) (v := .ref (h 1)) cx hw (lr_X12_this_4 d h) (C := RX12) (T := TX12) (N := 40) rfl in_X12 (by decide) q981 (fun _ h9 => h9) rfl dX12_recover_43 ?_
  refine lv_iconst (pc := 46) (v := 0) cx.1 cx.2.1 dX12_recover_46 (by decide) ?_
  refine k_iald (pc := 47) (u := (st_I (st_I (st_I (st_I u1 8 ((u1.1 8) + (1 : Int32))) 7 (0 : Int32)) 6 (-1 : Int32)) 20 y3)) (f := (u1.2.1 4)) cx hw (lx_X12_this_4 d h) 0 rfl rfl (by unfold vp_in; decide) dX12_recover_47 ?_
  refine lv_iconst (pc := 48) (v := 1) cx.1 cx.2.1 dX12_recover_48 (by decide) ?_
  refine lv_ishr (pc := 49) cx.1 cx.2.1 dX12_recover_49 ?_
  refine lv_topi (fun y4 ey4 => ?_)
  replace hwp := hwp y4 ey4
  refine k_putI (pc := 50) (u := (st_I (st_I (st_I (st_I u1 8 ((u1.1 8) + (1 : Int32))) 7 (0 : Int32)) 6 (-1 : Int32)) 20 y3)) (v := y4) cx hw (ln_X12_this_19 d h) (C := RX12) (T := TX12) (N := 40) rfl in_X12 tyX12 tyX12_ok nmX12 (by decide) q996 (fun _ h9 => h9) rfl rfl rfl dX12_recover_50 (fun H locs hw => ?_)
  refine lv_aload_n (pc := 53) cx.1 cx.2.1 dX12_recover_53 rfl (lv_at hl 0 rfl) ?_
  refine lv_aload_n (pc := 54) cx.1 cx.2.1 dX12_recover_54 rfl (lv_at hl 0 rfl) ?_
  refine k_getI (pc := 55) (u := (st_I (st_I (st_I (st_I (st_I u1 8 ((u1.1 8) + (1 : Int32))) 7 (0 : Int32)) 6 (-1 : Int32)) 20 y3) 19 y4)) (v := y3) cx hw (ln_X12_this_20 d h) (C := RX12) (T := TX12) (N := 40) rfl in_X12 (by decide) q997 (fun _ h9 => h9) rfl dX12_recover_55 ?_
  refine k_whole_i (pc := 58) (wf := (wM d h)) (u := (st_I (st_I (st_I (st_I (st_I u1 8 ((u1.1 8) + (1 : Int32))) 7 (0 : Int32)) 6 (-1 : Int32)) 20 y3) 19 y4)) cx hw (k_runV (pc := 58) (rest := []) (As := [.int y3]) cx hw.1 (hw.2.1.weaken (fun _ _ _ _ => trivial)) hw.2.2 (k_recv cx hw 0 (ci := 10) (q := (RX12, TX12, 40)) rfl rfl) (m_X12_index l dC dI d h  (st_I (st_I (st_I (st_I (st_I u1 8 ((u1.1 8) + (1 : Int32))) 7 (0 : Int32)) 6 (-1 : Int32)) 20 y3) 19 y4) y3 hwp H.size) (cwV 1 cx.2.2.2.2.1 (lw_V q1199 q1201 qs51 q89 q1202) rfl rfl rfl hdV_X12_index ⟨Nat.le_of_ble_eq_true rfl, Nat.le_of_ble_eq_true rfl⟩) rfl hl.1 rfl (Nat.le_of_ble_eq_true rfl) dX12_recover_58 ⟨Nat.le_of_ble_eq_true rfl, Nat.le_of_ble_eq_true rfl⟩) (fun r6 u5 H locs hwp hw => ?_)
  refine lv_istore_n (pc := 61) (lv' := [(1, .int r6), (0, .ref (h 0))]) cx.1 cx.2.1 dX12_recover_61 rfl hl (by decide) rfl (fun ls hl => ?_)
  refine lv_aload_n (pc := 62) cx.1 cx.2.1 dX12_recover_62 rfl (lv_at hl 1 rfl) ?_
  refine lv_aload_n (pc := 63) cx.1 cx.2.1 dX12_recover_63 rfl (lv_at hl 1 rfl) ?_
  refine k_getR (pc := 64) (u := u5) (v := .ref (h 1)) cx hw (lr_X12_this_4 d h) (C := RX12) (T := TX12) (N := 40) rfl in_X12 (by decide) q981 (fun _ h9 => h9) rfl dX12_recover_64 ?_
  refine lv_iload_n (pc := 67) cx.1 cx.2.1 dX12_recover_67 rfl (lv_at hl 0 rfl) ?_
  refine k_iald (pc := 68) (u := u5) (f := (u5.2.1 4)) cx hw (lx_X12_this_4 d h) 0 rfl rfl hwp.1 dX12_recover_68 ?_
  replace hwp := hwp.2
  refine lv_topi (fun y7 ey7 => ?_)
  replace hwp := hwp y7 ey7
  refine k_putI (pc := 69) (u := u5) (v := y7) cx hw (ln_X12_this_18 d h) (C := RX12) (T := TX12) (N := 40) rfl in_X12 tyX12 tyX12_ok nmX12 (by decide) q995 (fun _ h9 => h9) rfl rfl rfl dX12_recover_69 (fun H locs hw => ?_)
  refine lv_iconst (pc := 72) (v := 0) cx.1 cx.2.1 dX12_recover_72 (by decide) ?_
  refine lv_istore_n (pc := 73) (lv' := [(2, .int (0 : Int32)), (1, .int r6), (0, .ref (h 0))]) cx.1 cx.2.1 dX12_recover_73 rfl hl (by decide) rfl (fun ls hl => ?_)
  refine lv_iconst (pc := 74) (v := 0) cx.1 cx.2.1 dX12_recover_74 (by decide) ?_
  refine lv_istore_n (pc := 75) (lv' := [(3, .int (0 : Int32)), (2, .int (0 : Int32)), (1, .int r6), (0, .ref (h 0))]) cx.1 cx.2.1 dX12_recover_75 rfl hl (by decide) rfl (fun ls hl => ?_)
  obtain ⟨n76, hwp⟩ := hwp
  exact wk_X12_recover_76 cx n76 _ _ _ _ _ _ _ hwp hw (lv_sub hl [3, 2, 1, 0] rfl)
