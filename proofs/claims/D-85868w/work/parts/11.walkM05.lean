set_option maxRecDepth 100000
set_option maxHeartbeats 4000000 in
theorem m_X12_cell (l : Launch) (dC : Nat → ClassId) (dI : Nat → Nat → Nat) (d : Nat → ClassId) (h : Nat → Nat) (u : St) (x1 : Int32) {K : Int32 → St → Prop} (hwp : wp_X12_cell u x1 K) : kM l yX12_cell cX12_cell 2 (some .int) ({ frames := 0, cells := 0, slots := 0, locals := 0 } : Room) dC dI d [.ref (h 0), .int x1] (wM d h) u (kQi dC dI (wM d h) K) 0 0 := by
  refine kM_start rfl (Nat.le_of_ble_eq_true rfl) ?_
  intro p e s m below meth c A ls cx hnm hw hl
  generalize hargs : ([.ref (h 0), .int x1] : List Value).toArray = args at cx ⊢
  unfold wp_X12_cell at hwp
  replace hl : lv_has ls 2 [(0, .ref (h 0)), (1, .int x1)] := hl
  generalize hH : s.heap = H at hw ⊢
  generalize hlo : ([] : List Loc) = locs at hw ⊢
  refine lv_aload_n (pc := 0) cx.1 cx.2.1 dX12_cell_0 rfl (lv_at hl 0 rfl) ?_
  refine lv_iconst (pc := 1) (v := 0) cx.1 cx.2.1 dX12_cell_1 (by decide) ?_
  refine k_putI (pc := 2) (u := u) (v := (0 : Int32)) cx hw (ln_X12_this_0 d h) (C := RX12) (T := TX12) (N := 40) rfl in_X12 tyX12 tyX12_ok nmX12 (by decide) q977 (fun _ h9 => h9) rfl rfl rfl dX12_cell_2 (fun H locs hw => ?_)
  refine lv_iload_n (pc := 5) cx.1 cx.2.1 dX12_cell_5 rfl (lv_at hl 1 rfl) ?_
  refine lv_if_lt (pc := 6) (tgt := 16) cx.1 cx.2.1 dX12_cell_6 (by decide) (fun c1 => ?_) (fun c1 => ?_)
  · replace hwp := hwp.1 c1
    refine lv_iconst (pc := 16) (v := 0) cx.1 cx.2.1 dX12_cell_16 (by decide) ?_
    refine lv_goto (pc := 17) (tgt := 26) cx.1 cx.2.1 dX12_cell_17 (by decide) ?_
    exact k_iret (pc := 26) (wf := (wM d h)) (u := (st_I u 0 (0 : Int32))) cx hw hwp (by decide) (by decide) dX12_cell_26
  · replace hwp := hwp.2 c1
    refine lv_iload_n (pc := 9) cx.1 cx.2.1 dX12_cell_9 rfl (lv_at hl 1 rfl) ?_
    refine lv_sipush (pc := 10) (v := 4096) cx.1 cx.2.1 dX12_cell_10 (by decide) ?_
    refine lv_icmp_lt (pc := 13) (tgt := 20) cx.1 cx.2.1 dX12_cell_13 (by decide) (fun c2 => ?_) (fun c2 => ?_)
    · replace hwp := hwp.1 c2
      refine lv_aload_n (pc := 20) cx.1 cx.2.1 dX12_cell_20 rfl (lv_at hl 0 rfl) ?_
      refine k_getR (pc := 21) (u := (st_I u 0 (0 : Int32))) (v := .ref (h 1)) cx hw (lr_X12_this_4 d h) (C := RX12) (T := TX12) (N := 40) rfl in_X12 (by decide) q981 (fun _ h9 => h9) rfl dX12_cell_21 ?_
      refine lv_iload_n (pc := 24) cx.1 cx.2.1 dX12_cell_24 rfl (lv_at hl 1 rfl) ?_
      refine k_iald (pc := 25) (u := (st_I u 0 (0 : Int32))) (f := (u.2.1 4)) cx hw (lx_X12_this_4 d h) 0 rfl rfl hwp.1 dX12_cell_25 ?_
      replace hwp := hwp.2
      exact k_iret (pc := 26) (wf := (wM d h)) (u := (st_I u 0 (0 : Int32))) cx hw hwp (by decide) (by decide) dX12_cell_26
    · replace hwp := hwp.2 c2
      refine lv_iconst (pc := 16) (v := 0) cx.1 cx.2.1 dX12_cell_16 (by decide) ?_
      refine lv_goto (pc := 17) (tgt := 26) cx.1 cx.2.1 dX12_cell_17 (by decide) ?_
      exact k_iret (pc := 26) (wf := (wM d h)) (u := (st_I u 0 (0 : Int32))) cx hw hwp (by decide) (by decide) dX12_cell_26
set_option maxHeartbeats 4000000 in
theorem wk_X12_sizes_33 {p : Program} {l : Launch} {e : Env} {s : State} {m : MethodId} {args : Array Value} {below : List Frame} {meth : Method} {c : Code} {A : Nat → Prop} {dC : Nat → ClassId} {dI : Nat → Nat → Nat} {d : Nat → ClassId} {h : Nat → Nat} {C38 : Int32 → Int32 → Int32 → St → Prop} {K : Int32 → St → Prop} (cx : Cx p s m args meth c cX12_sizes RX12 5 (some .int) A dC dI d) (hC38 : ∀ (x1 : Int32) (x2 : Int32) (y1 : Int32) (u : St) (H : Heap) (locs : List Loc) (ls : Array Slot), C38 x1 x2 y1 u → Wd dC dI A ((wM d h) u) s H locs → lv_has ls 5 [(0, .ref (h 0)), (1, .int x1), (2, .int x2)] → W p l e ({ frames := 2, cells := 0, slots := 0, locals := 44 } : Room) s m args below meth c H locs 0 0 (MQ below (kQi dC dI (wM d h) K A) args s 0 0 A) (F0 m 38 ls [.int y1, .ref (h 0)])) : ∀ (x1 : Int32) (x2 : Int32) (u : St) (H : Heap) (locs : List Loc) (ls : Array Slot), wp_X12_sizes_33 C38 K x1 x2 u → Wd dC dI A ((wM d h) u) s H locs → lv_has ls 5 [(0, .ref (h 0)), (1, .int x1), (2, .int x2)] → W p l e ({ frames := 2, cells := 0, slots := 0, locals := 44 } : Room) s m args below meth c H locs 0 0 (MQ below (kQi dC dI (wM d h) K A) args s 0 0 A) (F0 m 33 ls [.ref (h 0)]) := by
  intro x1 x2 u H locs ls hwp hw hl
  unfold wp_X12_sizes_33 at hwp
  refine lv_iconst (pc := 33) (v := 3) cx.1 cx.2.1 dX12_sizes_33 (by decide) ?_
  refine lv_goto (pc := 34) (tgt := 38) cx.1 cx.2.1 dX12_sizes_34 (by decide) ?_
  exact hC38 _ _ _ _ _ _ _ hwp hw (lv_sub hl [0, 1, 2] rfl)
set_option maxHeartbeats 4000000 in
theorem wk_X12_sizes_76 {p : Program} {l : Launch} {e : Env} {s : State} {m : MethodId} {args : Array Value} {below : List Frame} {meth : Method} {c : Code} {A : Nat → Prop} {dC : Nat → ClassId} {dI : Nat → Nat → Nat} {d : Nat → ClassId} {h : Nat → Nat} {K : Int32 → St → Prop} (cx : Cx p s m args meth c cX12_sizes RX12 5 (some .int) A dC dI d) : ∀ (n : Nat) (x1 : Int32) (x3 : Int32) (x4 : Int32) (u : St) (H : Heap) (locs : List Loc) (ls : Array Slot), wp_X12_sizes_76 K n x1 x3 x4 u → Wd dC dI A ((wM d h) u) s H locs → lv_has ls 5 [(0, .ref (h 0)), (1, .int x1), (3, .int x3), (4, .int x4)] → W p l e ({ frames := 2, cells := 0, slots := 0, locals := 44 } : Room) s m args below meth c H locs 0 0 (MQ below (kQi dC dI (wM d h) K A) args s 0 0 A) (F0 m 76 ls []) := by
  intro n
  induction n with
  | zero =>
    intros; contradiction
  | succ n ih =>
    intro x1 x3 x4 u H locs ls hwp hw hl
    unfold wp_X12_sizes_76 at hwp
    refine lv_iload (pc := 76) cx.1 cx.2.1 dX12_sizes_76 (lv_at hl 3 rfl) ?_
    refine lv_aload_n (pc := 78) cx.1 cx.2.1 dX12_sizes_78 rfl (lv_at hl 0 rfl) ?_
    refine k_getI (pc := 79) (u := u) (v := (u.1 24)) cx hw (ln_X12_this_24 d h) (C := RX12) (T := TX12) (N := 40) rfl in_X12 (by decide) q1001 (fun _ h9 => h9) rfl dX12_sizes_79 ?_
    refine lv_icmp_ge (pc := 82) (tgt := 110) cx.1 cx.2.1 dX12_sizes_82 (by decide) (fun c1 => ?_) (fun c1 => ?_)
    · replace hwp := hwp.1 c1
      refine lv_iload_n (pc := 110) cx.1 cx.2.1 dX12_sizes_110 rfl (lv_at hl 2 rfl) ?_
      exact k_iret (pc := 111) (wf := (wM d h)) (u := u) cx hw hwp (by decide) (by decide) dX12_sizes_111
    · replace hwp := hwp.2 c1
      refine lv_iload_n (pc := 85) cx.1 cx.2.1 dX12_sizes_85 rfl (lv_at hl 2 rfl) ?_
      refine lv_aload_n (pc := 86) cx.1 cx.2.1 dX12_sizes_86 rfl (lv_at hl 0 rfl) ?_
      refine k_getR (pc := 87) (u := u) (v := .ref (h 9)) cx hw (lr_X12_this_21 d h) (C := RX12) (T := TX12) (N := 40) rfl in_X12 (by decide) q998 (fun _ h9 => h9) rfl dX12_sizes_87 ?_
      refine lv_iload (pc := 90) cx.1 cx.2.1 dX12_sizes_90 (lv_at hl 3 rfl) ?_
      refine k_iald (pc := 92) (u := u) (f := (u.2.1 21)) cx hw (lx_X12_this_21 d h) 0 rfl rfl hwp.1 dX12_sizes_92 ?_
      replace hwp := hwp.2
      refine lv_iload_n (pc := 93) cx.1 cx.2.1 dX12_sizes_93 rfl (lv_at hl 1 rfl) ?_
      have hJ3 : ∀ z2 : Int32, z2 = (if ((u.2.1 21) x4.toNatClampNeg) = x1 then (1 : Int32) else (0 : Int32)) → W p l e ({ frames := 2, cells := 0, slots := 0, locals := 44 } : Room) s m args below meth c H locs 0 0 (MQ below (kQi dC dI (wM d h) K A) args s 0 0 A) (F0 m 102 ls [.int z2, .int x3]) := by
        intro z2 ez2
        replace hwp := hwp z2 ez2
        refine lv_iadd (pc := 102) cx.1 cx.2.1 dX12_sizes_102 ?_
        refine lv_istore_n (pc := 103) (lv' := [(3, .int (x3 + z2)), (0, .ref (h 0)), (1, .int x1), (4, .int x4)]) cx.1 cx.2.1 dX12_sizes_103 rfl hl (by decide) rfl (fun ls hl => ?_)
        refine lv_iinc (pc := 104) (v := (x4 + (1 : Int32))) (lv' := [(4, .int (x4 + (1 : Int32))), (3, .int (x3 + z2)), (0, .ref (h 0)), (1, .int x1)]) cx.1 cx.2.1 dX12_sizes_104 hl (k := 3) rfl rfl (by decide) rfl (fun ls hl => ?_)
        refine lv_goto (pc := 107) (tgt := 76) cx.1 cx.2.1 dX12_sizes_107 (by decide) ?_
        exact ih _ _ _ _ _ _ _ hwp hw (lv_sub hl [2, 3, 1, 0] rfl)
      clear hwp
      refine lv_icmp_ne (pc := 94) (tgt := 101) cx.1 cx.2.1 dX12_sizes_94 (by decide) (fun c4 => ?_) (fun c4 => ?_)
      · skip
        refine lv_iconst (pc := 101) (v := 0) cx.1 cx.2.1 dX12_sizes_101 (by decide) ?_
        exact hJ3 _ (if_neg c4).symm
      · skip
        refine lv_iconst (pc := 97) (v := 1) cx.1 cx.2.1 dX12_sizes_97 (by decide) ?_
        refine lv_goto (pc := 98) (tgt := 102) cx.1 cx.2.1 dX12_sizes_98 (by decide) ?_
        exact hJ3 _ (if_pos c4).symm
set_option maxHeartbeats 4000000 in
theorem wk_X12_sizes_38 {p : Program} {l : Launch} {e : Env} {s : State} {m : MethodId} {args : Array Value} {below : List Frame} {meth : Method} {c : Code} {A : Nat → Prop} {dC : Nat → ClassId} {dI : Nat → Nat → Nat} {d : Nat → ClassId} {h : Nat → Nat} {K : Int32 → St → Prop} (cx : Cx p s m args meth c cX12_sizes RX12 5 (some .int) A dC dI d) : ∀ (x1 : Int32) (x2 : Int32) (y1 : Int32) (u : St) (H : Heap) (locs : List Loc) (ls : Array Slot), wp_X12_sizes_38 K x1 x2 y1 u → Wd dC dI A ((wM d h) u) s H locs → lv_has ls 5 [(0, .ref (h 0)), (1, .int x1), (2, .int x2)] → W p l e ({ frames := 2, cells := 0, slots := 0, locals := 44 } : Room) s m args below meth c H locs 0 0 (MQ below (kQi dC dI (wM d h) K A) args s 0 0 A) (F0 m 38 ls [.int y1, .ref (h 0)]) := by
  intro x1 x2 y1 u H locs ls hwp hw hl
  unfold wp_X12_sizes_38 at hwp
  refine k_putI (pc := 38) (u := u) (v := y1) cx hw (ln_X12_this_0 d h) (C := RX12) (T := TX12) (N := 40) rfl in_X12 tyX12 tyX12_ok nmX12 (by decide) q977 (fun _ h9 => h9) rfl rfl rfl dX12_sizes_38 (fun H locs hw => ?_)
  refine lv_aload_n (pc := 41) cx.1 cx.2.1 dX12_sizes_41 rfl (lv_at hl 0 rfl) ?_
  refine k_getI (pc := 42) (u := (st_I u 0 y1)) (v := y1) cx hw (ln_X12_this_0 d h) (C := RX12) (T := TX12) (N := 40) rfl in_X12 (by decide) q977 (fun _ h9 => h9) rfl dX12_sizes_42 ?_
  refine lv_if_le (pc := 45) (tgt := 50) cx.1 cx.2.1 dX12_sizes_45 (by decide) (fun c1 => ?_) (fun c1 => ?_)
  · replace hwp := hwp.1 c1
    refine lv_iload_n (pc := 50) cx.1 cx.2.1 dX12_sizes_50 rfl (lv_at hl 2 rfl) ?_
    refine lv_if_ne (pc := 51) (tgt := 60) cx.1 cx.2.1 dX12_sizes_51 (by decide) (fun c2 => ?_) (fun c2 => ?_)
    · replace hwp := hwp.1 c2
      refine lv_iload_n (pc := 60) cx.1 cx.2.1 dX12_sizes_60 rfl (lv_at hl 2 rfl) ?_
      refine lv_iconst (pc := 61) (v := 2) cx.1 cx.2.1 dX12_sizes_61 (by decide) ?_
      refine lv_icmp_ne (pc := 62) (tgt := 71) cx.1 cx.2.1 dX12_sizes_62 (by decide) (fun c3 => ?_) (fun c3 => ?_)
      · replace hwp := hwp.1 c3
        refine lv_iconst (pc := 71) (v := 0) cx.1 cx.2.1 dX12_sizes_71 (by decide) ?_
        refine lv_istore_n (pc := 72) (lv' := [(3, .int (0 : Int32)), (0, .ref (h 0)), (1, .int x1), (2, .int x2)]) cx.1 cx.2.1 dX12_sizes_72 rfl hl (by decide) rfl (fun ls hl => ?_)
        refine lv_iconst (pc := 73) (v := 0) cx.1 cx.2.1 dX12_sizes_73 (by decide) ?_
        refine lv_istore (pc := 74) (lv' := [(4, .int (0 : Int32)), (3, .int (0 : Int32)), (0, .ref (h 0)), (1, .int x1), (2, .int x2)]) cx.1 cx.2.1 dX12_sizes_74 hl (by decide) rfl (fun ls hl => ?_)
        obtain ⟨n76, hwp⟩ := hwp
        exact wk_X12_sizes_76 cx n76 _ _ _ _ _ _ _ hwp hw (lv_sub hl [2, 3, 1, 0] rfl)
      · replace hwp := hwp.2 c3
        refine lv_aload_n (pc := 65) cx.1 cx.2.1 dX12_sizes_65 rfl (lv_at hl 0 rfl) ?_
        refine lv_iload_n (pc := 66) cx.1 cx.2.1 dX12_sizes_66 rfl (lv_at hl 1 rfl) ?_
        refine k_whole_i (pc := 67) (wf := (wM d h)) (u := (st_I u 0 y1)) cx hw (k_runV (pc := 67) (rest := []) (As := [.int x1]) cx hw.1 (hw.2.1.weaken (fun _ _ _ _ => trivial)) hw.2.2 (k_recv cx hw 0 (ci := 10) (q := (RX12, TX12, 40)) rfl rfl) (m_X12_groupsOf l dC dI d h  (st_I u 0 y1) x1 hwp H.size) (cwV 1 cx.2.2.2.2.1 (lw_V q1263 q1265 qs64 q89 q1266) rfl rfl rfl hdV_X12_groupsOf ⟨Nat.le_of_ble_eq_true rfl, Nat.le_of_ble_eq_true rfl⟩) rfl hl.1 rfl (Nat.le_of_ble_eq_true rfl) dX12_sizes_67 ⟨Nat.le_of_ble_eq_true rfl, Nat.le_of_ble_eq_true rfl⟩) (fun r5 u4 H locs hwp hw => ?_)
        exact k_iret (pc := 70) (wf := (wM d h)) (u := u4) cx hw hwp (by decide) (by decide) dX12_sizes_70
    · replace hwp := hwp.2 c2
      refine lv_aload_n (pc := 54) cx.1 cx.2.1 dX12_sizes_54 rfl (lv_at hl 0 rfl) ?_
      refine lv_iload_n (pc := 55) cx.1 cx.2.1 dX12_sizes_55 rfl (lv_at hl 1 rfl) ?_
      refine k_whole_i (pc := 56) (wf := (wM d h)) (u := (st_I u 0 y1)) cx hw (k_runV (pc := 56) (rest := []) (As := [.int x1]) cx hw.1 (hw.2.1.weaken (fun _ _ _ _ => trivial)) hw.2.2 (k_recv cx hw 0 (ci := 10) (q := (RX12, TX12, 40)) rfl rfl) (m_X12_chunksOf l dC dI d h  (st_I u 0 y1) x1 hwp H.size) (cwV 1 cx.2.2.2.2.1 (lw_V q1259 q1261 qs63 q89 q1262) rfl rfl rfl hdV_X12_chunksOf ⟨Nat.le_of_ble_eq_true rfl, Nat.le_of_ble_eq_true rfl⟩) rfl hl.1 rfl (Nat.le_of_ble_eq_true rfl) dX12_sizes_56 ⟨Nat.le_of_ble_eq_true rfl, Nat.le_of_ble_eq_true rfl⟩) (fun r7 u6 H locs hwp hw => ?_)
      exact k_iret (pc := 59) (wf := (wM d h)) (u := u6) cx hw hwp (by decide) (by decide) dX12_sizes_59
  · replace hwp := hwp.2 c1
    refine lv_iconst (pc := 48) (v := 0) cx.1 cx.2.1 dX12_sizes_48 (by decide) ?_
    exact k_iret (pc := 49) (wf := (wM d h)) (u := (st_I u 0 y1)) cx hw hwp (by decide) (by decide) dX12_sizes_49
set_option maxHeartbeats 4000000 in
theorem m_X12_sizes (l : Launch) (dC : Nat → ClassId) (dI : Nat → Nat → Nat) (d : Nat → ClassId) (h : Nat → Nat) (u : St) (x1 : Int32) (x2 : Int32) {K : Int32 → St → Prop} (hwp : wp_X12_sizes u x1 x2 K) : kM l yX12_sizes cX12_sizes 5 (some .int) ({ frames := 2, cells := 0, slots := 0, locals := 44 } : Room) dC dI d [.ref (h 0), .int x1, .int x2] (wM d h) u (kQi dC dI (wM d h) K) 0 0 := by
  refine kM_start rfl (Nat.le_of_ble_eq_true rfl) ?_
  intro p e s m below meth c A ls cx hnm hw hl
  generalize hargs : ([.ref (h 0), .int x1, .int x2] : List Value).toArray = args at cx ⊢
  unfold wp_X12_sizes at hwp
  replace hl : lv_has ls 5 [(0, .ref (h 0)), (1, .int x1), (2, .int x2)] := hl
  generalize hH : s.heap = H at hw ⊢
  generalize hlo : ([] : List Loc) = locs at hw ⊢
  refine lv_aload_n (pc := 0) cx.1 cx.2.1 dX12_sizes_0 rfl (lv_at hl 0 rfl) ?_
  refine lv_aload_n (pc := 1) cx.1 cx.2.1 dX12_sizes_1 rfl (lv_at hl 0 rfl) ?_
  refine k_getI (pc := 2) (u := u) (v := (u.1 7)) cx hw (ln_X12_this_7 d h) (C := RX12) (T := TX12) (N := 40) rfl in_X12 (by decide) q984 (fun _ h9 => h9) rfl dX12_sizes_2 ?_
  refine lv_if_eq (pc := 5) (tgt := 12) cx.1 cx.2.1 dX12_sizes_5 (by decide) (fun c1 => ?_) (fun c1 => ?_)
  · replace hwp := hwp.1 c1
    refine lv_aload_n (pc := 12) cx.1 cx.2.1 dX12_sizes_12 rfl (lv_at hl 0 rfl) ?_
    refine lv_iload_n (pc := 13) cx.1 cx.2.1 dX12_sizes_13 rfl (lv_at hl 1 rfl) ?_
    refine k_whole_i (pc := 14) (wf := (wM d h)) (u := u) cx hw (k_runV (pc := 14) (rest := [.ref (h 0)]) (As := [.int x1]) cx hw.1 (hw.2.1.weaken (fun _ _ _ _ => trivial)) hw.2.2 (k_recv cx hw 0 (ci := 10) (q := (RX12, TX12, 40)) rfl rfl) (m_X12_isSeries l dC dI d h  u x1 hwp H.size) (cwV 1 cx.2.2.2.2.1 (lw_V q1110 q1112 qs33 q89 q1113) rfl rfl rfl hdV_X12_isSeries ⟨Nat.le_of_ble_eq_true rfl, Nat.le_of_ble_eq_true rfl⟩) rfl hl.1 rfl (Nat.le_of_ble_eq_true rfl) dX12_sizes_14 ⟨Nat.le_of_ble_eq_true rfl, Nat.le_of_ble_eq_true rfl⟩) (fun r3 u2 H locs hwp hw => ?_)
    refine lv_if_ne (pc := 17) (tgt := 24) cx.1 cx.2.1 dX12_sizes_17 (by decide) (fun c4 => ?_) (fun c4 => ?_)
    · replace hwp := hwp.1 c4
      refine lv_iload_n (pc := 24) cx.1 cx.2.1 dX12_sizes_24 rfl (lv_at hl 2 rfl) ?_
      refine lv_if_lt (pc := 25) (tgt := 33) cx.1 cx.2.1 dX12_sizes_25 (by decide) (fun c5 => ?_) (fun c5 => ?_)
      · replace hwp := hwp.1 c5
        exact wk_X12_sizes_33 cx (wk_X12_sizes_38 cx) _ _ _ _ _ _ hwp hw (lv_sub hl [0, 1, 2] rfl)
      · replace hwp := hwp.2 c5
        refine lv_iload_n (pc := 28) cx.1 cx.2.1 dX12_sizes_28 rfl (lv_at hl 2 rfl) ?_
        refine lv_iconst (pc := 29) (v := 2) cx.1 cx.2.1 dX12_sizes_29 (by decide) ?_
        refine lv_icmp_le (pc := 30) (tgt := 37) cx.1 cx.2.1 dX12_sizes_30 (by decide) (fun c6 => ?_) (fun c6 => ?_)
        · replace hwp := hwp.1 c6
          refine lv_iconst (pc := 37) (v := 0) cx.1 cx.2.1 dX12_sizes_37 (by decide) ?_
          exact wk_X12_sizes_38 cx _ _ _ _ _ _ _ hwp hw (lv_sub hl [0, 1, 2] rfl)
        · replace hwp := hwp.2 c6
          exact wk_X12_sizes_33 cx (wk_X12_sizes_38 cx) _ _ _ _ _ _ hwp hw (lv_sub hl [0, 1, 2] rfl)
    · replace hwp := hwp.2 c4
      refine lv_iconst (pc := 20) (v := 2) cx.1 cx.2.1 dX12_sizes_20 (by decide) ?_
      refine lv_goto (pc := 21) (tgt := 38) cx.1 cx.2.1 dX12_sizes_21 (by decide) ?_
      exact wk_X12_sizes_38 cx _ _ _ _ _ _ _ hwp hw (lv_sub hl [0, 1, 2] rfl)
  · replace hwp := hwp.2 c1
    refine lv_iconst (pc := 8) (v := 1) cx.1 cx.2.1 dX12_sizes_8 (by decide) ?_
    refine lv_goto (pc := 9) (tgt := 38) cx.1 cx.2.1 dX12_sizes_9 (by decide) ?_
    exact wk_X12_sizes_38 cx _ _ _ _ _ _ _ hwp hw (lv_sub hl [0, 1, 2] rfl)
set_option maxHeartbeats 4000000 in
theorem wk_X12_chunk_47 {p : Program} {l : Launch} {e : Env} {s : State} {m : MethodId} {args : Array Value} {below : List Frame} {meth : Method} {c : Code} {A : Nat → Prop} {dC : Nat → ClassId} {dI : Nat → Nat → Nat} {d : Nat → ClassId} {h : Nat → Nat} {C52 : Int32 → Int32 → Int32 → Int32 → St → Prop} {K : Int32 → St → Prop} (cx : Cx p s m args meth c cX12_chunk RX12 5 (some .int) A dC dI d) (hC52 : ∀ (x1 : Int32) (x2 : Int32) (x3 : Int32) (y1 : Int32) (u : St) (H : Heap) (locs : List Loc) (ls : Array Slot), C52 x1 x2 x3 y1 u → Wd dC dI A ((wM d h) u) s H locs → lv_has ls 5 [(0, .ref (h 0)), (1, .int x1), (2, .int x2), (3, .int x3)] → W p l e ({ frames := 1, cells := 0, slots := 0, locals := 24 } : Room) s m args below meth c H locs 0 0 (MQ below (kQi dC dI (wM d h) K A) args s 0 0 A) (F0 m 52 ls [.int y1, .ref (h 0)])) : ∀ (x1 : Int32) (x2 : Int32) (x3 : Int32) (u : St) (H : Heap) (locs : List Loc) (ls : Array Slot), wp_X12_chunk_47 C52 K x1 x2 x3 u → Wd dC dI A ((wM d h) u) s H locs → lv_has ls 5 [(0, .ref (h 0)), (1, .int x1), (2, .int x2), (3, .int x3)] → W p l e ({ frames := 1, cells := 0, slots := 0, locals := 24 } : Room) s m args below meth c H locs 0 0 (MQ below (kQi dC dI (wM d h) K A) args s 0 0 A) (F0 m 47 ls [.ref (h 0)]) := by
  intro x1 x2 x3 u H locs ls hwp hw hl
  unfold wp_X12_chunk_47 at hwp
  refine lv_iconst (pc := 47) (v := 3) cx.1 cx.2.1 dX12_chunk_47 (by decide) ?_
  refine lv_goto (pc := 48) (tgt := 52) cx.1 cx.2.1 dX12_chunk_48 (by decide) ?_
  exact hC52 _ _ _ _ _ _ _ _ hwp hw (lv_sub hl [0, 1, 2, 3] rfl)
set_option maxHeartbeats 4000000 in
theorem wk_X12_chunk_52 {p : Program} {l : Launch} {e : Env} {s : State} {m : MethodId} {args : Array Value} {below : List Frame} {meth : Method} {c : Code} {A : Nat → Prop} {dC : Nat → ClassId} {dI : Nat → Nat → Nat} {d : Nat → ClassId} {h : Nat → Nat} {K : Int32 → St → Prop} (cx : Cx p s m args meth c cX12_chunk RX12 5 (some .int) A dC dI d) : ∀ (x1 : Int32) (x2 : Int32) (x3 : Int32) (y1 : Int32) (u : St) (H : Heap) (locs : List Loc) (ls : Array Slot), wp_X12_chunk_52 K x1 x2 x3 y1 u → Wd dC dI A ((wM d h) u) s H locs → lv_has ls 5 [(0, .ref (h 0)), (1, .int x1), (2, .int x2), (3, .int x3)] → W p l e ({ frames := 1, cells := 0, slots := 0, locals := 24 } : Room) s m args below meth c H locs 0 0 (MQ below (kQi dC dI (wM d h) K A) args s 0 0 A) (F0 m 52 ls [.int y1, .ref (h 0)]) := by
  intro x1 x2 x3 y1 u H locs ls hwp hw hl
  unfold wp_X12_chunk_52 at hwp
  refine k_putI (pc := 52) (u := u) (v := y1) cx hw (ln_X12_this_0 d h) (C := RX12) (T := TX12) (N := 40) rfl in_X12 tyX12 tyX12_ok nmX12 (by decide) q977 (fun _ h9 => h9) rfl rfl rfl dX12_chunk_52 (fun H locs hw => ?_)
  refine lv_aload_n (pc := 55) cx.1 cx.2.1 dX12_chunk_55 rfl (lv_at hl 0 rfl) ?_
  refine k_getI (pc := 56) (u := (st_I u 0 y1)) (v := y1) cx hw (ln_X12_this_0 d h) (C := RX12) (T := TX12) (N := 40) rfl in_X12 (by decide) q977 (fun _ h9 => h9) rfl dX12_chunk_56 ?_
  refine lv_if_le (pc := 59) (tgt := 64) cx.1 cx.2.1 dX12_chunk_59 (by decide) (fun c1 => ?_) (fun c1 => ?_)
  · replace hwp := hwp.1 c1
    refine lv_aload_n (pc := 64) cx.1 cx.2.1 dX12_chunk_64 rfl (lv_at hl 0 rfl) ?_
    refine lv_iload_n (pc := 65) cx.1 cx.2.1 dX12_chunk_65 rfl (lv_at hl 1 rfl) ?_
    refine lv_iload_n (pc := 66) cx.1 cx.2.1 dX12_chunk_66 rfl (lv_at hl 2 rfl) ?_
    refine k_whole_i (pc := 67) (wf := (wM d h)) (u := (st_I u 0 y1)) cx hw (k_runV (pc := 67) (rest := []) (As := [.int x1, .int x2]) cx hw.1 (hw.2.1.weaken (fun _ _ _ _ => trivial)) hw.2.2 (k_recv cx hw 0 (ci := 10) (q := (RX12, TX12, 40)) rfl rfl) (m_X12_slot l dC dI d h  (st_I u 0 y1) x1 x2 hwp H.size) (cwV 2 cx.2.2.2.2.1 (lw_V q1267 q1269 qs65 q89 q1270) rfl rfl rfl hdV_X12_slot ⟨Nat.le_of_ble_eq_true rfl, Nat.le_of_ble_eq_true rfl⟩) rfl hl.1 rfl (Nat.le_of_ble_eq_true rfl) dX12_chunk_67 ⟨Nat.le_of_ble_eq_true rfl, Nat.le_of_ble_eq_true rfl⟩) (fun r3 u2 H locs hwp hw => ?_)
    refine lv_istore (pc := 70) (lv' := [(4, .int r3), (0, .ref (h 0)), (1, .int x1), (2, .int x2), (3, .int x3)]) cx.1 cx.2.1 dX12_chunk_70 hl (by decide) rfl (fun ls hl => ?_)
    refine lv_iload_n (pc := 72) cx.1 cx.2.1 dX12_chunk_72 rfl (lv_at hl 4 rfl) ?_
    by_cases c4 : x3 = (0 : Int32)
    · replace hwp := hwp.1 c4
      refine lv_tableIn (pc := 73) (off := 39) (tgt := 112) cx.1 cx.2.1 dX12_chunk_73 (by rw [c4]; decide) (by rw [c4]; decide) (by rw [c4]; decide) (by decide) ?_
      refine lv_aload_n (pc := 112) cx.1 cx.2.1 dX12_chunk_112 rfl (lv_at hl 1 rfl) ?_
      refine lv_iload (pc := 113) cx.1 cx.2.1 dX12_chunk_113 (lv_at hl 0 rfl) ?_
      refine k_whole_i (pc := 115) (wf := (wM d h)) (u := u2) cx hw (k_runV (pc := 115) (rest := []) (As := [.int r3]) cx hw.1 (hw.2.1.weaken (fun _ _ _ _ => trivial)) hw.2.2 (k_recv cx hw 0 (ci := 10) (q := (RX12, TX12, 40)) rfl rfl) (m_X12_firstTime l dC dI d h  u2 r3 hwp H.size) (cwV 1 cx.2.2.2.2.1 (lw_V q1211 q1213 qs54 q89 q1214) rfl rfl rfl hdV_X12_firstTime ⟨Nat.le_of_ble_eq_true rfl, Nat.le_of_ble_eq_true rfl⟩) rfl hl.1 rfl (Nat.le_of_ble_eq_true rfl) dX12_chunk_115 ⟨Nat.le_of_ble_eq_true rfl, Nat.le_of_ble_eq_true rfl⟩) (fun r6 u5 H locs hwp hw => ?_)
      exact k_iret (pc := 118) (wf := (wM d h)) (u := u5) cx hw hwp (by decide) (by decide) dX12_chunk_118
    replace hwp := hwp.2 c4
    have kc4_0 := c4
    clear c4
    by_cases c4 : x3 = (1 : Int32)
    · replace hwp := hwp.1 c4
      refine lv_tableIn (pc := 73) (off := 46) (tgt := 119) cx.1 cx.2.1 dX12_chunk_73 (by rw [c4]; decide) (by rw [c4]; decide) (by rw [c4]; decide) (by decide) ?_
      refine lv_aload_n (pc := 119) cx.1 cx.2.1 dX12_chunk_119 rfl (lv_at hl 1 rfl) ?_
      refine lv_iload (pc := 120) cx.1 cx.2.1 dX12_chunk_120 (lv_at hl 0 rfl) ?_
      refine k_whole_i (pc := 122) (wf := (wM d h)) (u := u2) cx hw (k_runV (pc := 122) (rest := []) (As := [.int r3]) cx hw.1 (hw.2.1.weaken (fun _ _ _ _ => trivial)) hw.2.2 (k_recv cx hw 0 (ci := 10) (q := (RX12, TX12, 40)) rfl rfl) (m_X12_lastTime l dC dI d h  u2 r3 hwp H.size) (cwV 1 cx.2.2.2.2.1 (lw_V q1215 q1217 qs55 q89 q1218) rfl rfl rfl hdV_X12_lastTime ⟨Nat.le_of_ble_eq_true rfl, Nat.le_of_ble_eq_true rfl⟩) rfl hl.1 rfl (Nat.le_of_ble_eq_true rfl) dX12_chunk_122 ⟨Nat.le_of_ble_eq_true rfl, Nat.le_of_ble_eq_true rfl⟩) (fun r8 u7 H locs hwp hw => ?_)
      exact k_iret (pc := 125) (wf := (wM d h)) (u := u7) cx hw hwp (by decide) (by decide) dX12_chunk_125
    replace hwp := hwp.2 c4
    have kc4_1 := c4
    clear c4
    by_cases c4 : x3 = (2 : Int32)
    · replace hwp := hwp.1 c4
      refine lv_tableIn (pc := 73) (off := 53) (tgt := 126) cx.1 cx.2.1 dX12_chunk_73 (by rw [c4]; decide) (by rw [c4]; decide) (by rw [c4]; decide) (by decide) ?_
      refine lv_aload_n (pc := 126) cx.1 cx.2.1 dX12_chunk_126 rfl (lv_at hl 1 rfl) ?_
      refine k_getR (pc := 127) (u := u2) (v := .ref (h 3)) cx hw (lr_X12_this_12 d h) (C := RX12) (T := TX12) (N := 40) rfl in_X12 (by decide) q989 (fun _ h9 => h9) rfl dX12_chunk_127 ?_
      refine lv_iload (pc := 130) cx.1 cx.2.1 dX12_chunk_130 (lv_at hl 0 rfl) ?_
      refine k_iald (pc := 132) (u := u2) (f := (u2.2.1 12)) cx hw (lx_X12_this_12 d h) 0 rfl rfl hwp.1 dX12_chunk_132 ?_
      replace hwp := hwp.2
      exact k_iret (pc := 133) (wf := (wM d h)) (u := u2) cx hw hwp (by decide) (by decide) dX12_chunk_133
    replace hwp := hwp.2 c4
    have kc4_2 := c4
    clear c4
    by_cases c4 : x3 = (3 : Int32)
    · replace hwp := hwp.1 c4
      refine lv_tableIn (pc := 73) (off := 61) (tgt := 134) cx.1 cx.2.1 dX12_chunk_73 (by rw [c4]; decide) (by rw [c4]; decide) (by rw [c4]; decide) (by decide) ?_
      refine lv_aload_n (pc := 134) cx.1 cx.2.1 dX12_chunk_134 rfl (lv_at hl 1 rfl) ?_
      refine lv_iload (pc := 135) cx.1 cx.2.1 dX12_chunk_135 (lv_at hl 0 rfl) ?_
      refine k_whole_i (pc := 137) (wf := (wM d h)) (u := u2) cx hw (k_runV (pc := 137) (rest := []) (As := [.int r3]) cx hw.1 (hw.2.1.weaken (fun _ _ _ _ => trivial)) hw.2.2 (k_recv cx hw 0 (ci := 10) (q := (RX12, TX12, 40)) rfl rfl) (m_X12_leastOf l dC dI d h  u2 r3 hwp H.size) (cwV 1 cx.2.2.2.2.1 (lw_V q1219 q1221 qs56 q89 q1222) rfl rfl rfl hdV_X12_leastOf ⟨Nat.le_of_ble_eq_true rfl, Nat.le_of_ble_eq_true rfl⟩) rfl hl.1 rfl (Nat.le_of_ble_eq_true rfl) dX12_chunk_137 ⟨Nat.le_of_ble_eq_true rfl, Nat.le_of_ble_eq_true rfl⟩) (fun r10 u9 H locs hwp hw => ?_)
      exact k_iret (pc := 140) (wf := (wM d h)) (u := u9) cx hw hwp (by decide) (by decide) dX12_chunk_140
    replace hwp := hwp.2 c4
    have kc4_3 := c4
    clear c4
    by_cases c4 : x3 = (4 : Int32)
    · replace hwp := hwp.1 c4
      refine lv_tableIn (pc := 73) (off := 68) (tgt := 141) cx.1 cx.2.1 dX12_chunk_73 (by rw [c4]; decide) (by rw [c4]; decide) (by rw [c4]; decide) (by decide) ?_
      refine lv_aload_n (pc := 141) cx.1 cx.2.1 dX12_chunk_141 rfl (lv_at hl 1 rfl) ?_
      refine lv_iload (pc := 142) cx.1 cx.2.1 dX12_chunk_142 (lv_at hl 0 rfl) ?_
      refine k_whole_i (pc := 144) (wf := (wM d h)) (u := u2) cx hw (k_runV (pc := 144) (rest := []) (As := [.int r3]) cx hw.1 (hw.2.1.weaken (fun _ _ _ _ => trivial)) hw.2.2 (k_recv cx hw 0 (ci := 10) (q := (RX12, TX12, 40)) rfl rfl) (m_X12_greatestOf l dC dI d h  u2 r3 hwp H.size) (cwV 1 cx.2.2.2.2.1 (lw_V q1223 q1225 qs57 q89 q1226) rfl rfl rfl hdV_X12_greatestOf ⟨Nat.le_of_ble_eq_true rfl, Nat.le_of_ble_eq_true rfl⟩) rfl hl.1 rfl (Nat.le_of_ble_eq_true rfl) dX12_chunk_144 ⟨Nat.le_of_ble_eq_true rfl, Nat.le_of_ble_eq_true rfl⟩) (fun r12 u11 H locs hwp hw => ?_)
      exact k_iret (pc := 147) (wf := (wM d h)) (u := u11) cx hw hwp (by decide) (by decide) dX12_chunk_147
    replace hwp := hwp.2 c4
    have kc4_4 := c4
    clear c4
    by_cases c4 : x3 = (5 : Int32)
    · replace hwp := hwp.1 c4
      refine lv_tableIn (pc := 73) (off := 75) (tgt := 148) cx.1 cx.2.1 dX12_chunk_73 (by rw [c4]; decide) (by rw [c4]; decide) (by rw [c4]; decide) (by decide) ?_
      refine lv_aload_n (pc := 148) cx.1 cx.2.1 dX12_chunk_148 rfl (lv_at hl 1 rfl) ?_
      refine k_getR (pc := 149) (u := u2) (v := .ref (h 4)) cx hw (lr_X12_this_13 d h) (C := RX12) (T := TX12) (N := 40) rfl in_X12 (by decide) q990 (fun _ h9 => h9) rfl dX12_chunk_149 ?_
      refine lv_iload (pc := 152) cx.1 cx.2.1 dX12_chunk_152 (lv_at hl 0 rfl) ?_
      refine k_iald (pc := 154) (u := u2) (f := (u2.2.1 13)) cx hw (lx_X12_this_13 d h) 0 rfl rfl hwp.1 dX12_chunk_154 ?_
      replace hwp := hwp.2
      exact k_iret (pc := 155) (wf := (wM d h)) (u := u2) cx hw hwp (by decide) (by decide) dX12_chunk_155
    replace hwp := hwp.2 c4
    have kc4_5 := c4
    clear c4
    refine lv_tableOut (pc := 73) (tgt := 156) cx.1 cx.2.1 dX12_chunk_73 (tb_out6 kc4_0 kc4_1 kc4_2 kc4_3 kc4_4 kc4_5) (by decide) ?_
    refine lv_aload_n (pc := 156) cx.1 cx.2.1 dX12_chunk_156 rfl (lv_at hl 1 rfl) ?_
    refine k_getR (pc := 157) (u := u2) (v := .ref (h 5)) cx hw (lr_X12_this_14 d h) (C := RX12) (T := TX12) (N := 40) rfl in_X12 (by decide) q991 (fun _ h9 => h9) rfl dX12_chunk_157 ?_
    refine lv_iload (pc := 160) cx.1 cx.2.1 dX12_chunk_160 (lv_at hl 0 rfl) ?_
    refine k_iald (pc := 162) (u := u2) (f := (u2.2.1 14)) cx hw (lx_X12_this_14 d h) 0 rfl rfl hwp.1 dX12_chunk_162 ?_
    replace hwp := hwp.2
    exact k_iret (pc := 163) (wf := (wM d h)) (u := u2) cx hw hwp (by decide) (by decide) dX12_chunk_163
  · replace hwp := hwp.2 c1
    refine lv_iconst (pc := 62) (v := 0) cx.1 cx.2.1 dX12_chunk_62 (by decide) ?_
    exact k_iret (pc := 63) (wf := (wM d h)) (u := (st_I u 0 y1)) cx hw hwp (by decide) (by decide) dX12_chunk_63
set_option maxHeartbeats 4000000 in
theorem m_X12_chunk (l : Launch) (dC : Nat → ClassId) (dI : Nat → Nat → Nat) (d : Nat → ClassId) (h : Nat → Nat) (u : St) (x1 : Int32) (x2 : Int32) (x3 : Int32) {K : Int32 → St → Prop} (hwp : wp_X12_chunk u x1 x2 x3 K) : kM l yX12_chunk cX12_chunk 5 (some .int) ({ frames := 1, cells := 0, slots := 0, locals := 24 } : Room) dC dI d [.ref (h 0), .int x1, .int x2, .int x3] (wM d h) u (kQi dC dI (wM d h) K) 0 0 := by
  refine kM_start rfl (Nat.le_of_ble_eq_true rfl) ?_
  intro p e s m below meth c A ls cx hnm hw hl
  generalize hargs : ([.ref (h 0), .int x1, .int x2, .int x3] : List Value).toArray = args at cx ⊢
  unfold wp_X12_chunk at hwp
  replace hl : lv_has ls 5 [(0, .ref (h 0)), (1, .int x1), (2, .int x2), (3, .int x3)] := hl
  generalize hH : s.heap = H at hw ⊢
  generalize hlo : ([] : List Loc) = locs at hw ⊢
  refine lv_aload_n (pc := 0) cx.1 cx.2.1 dX12_chunk_0 rfl (lv_at hl 0 rfl) ?_
  refine lv_aload_n (pc := 1) cx.1 cx.2.1 dX12_chunk_1 rfl (lv_at hl 0 rfl) ?_
  refine k_getI (pc := 2) (u := u) (v := (u.1 7)) cx hw (ln_X12_this_7 d h) (C := RX12) (T := TX12) (N := 40) rfl in_X12 (by decide) q984 (fun _ h9 => h9) rfl dX12_chunk_2 ?_
  refine lv_if_eq (pc := 5) (tgt := 12) cx.1 cx.2.1 dX12_chunk_5 (by decide) (fun c1 => ?_) (fun c1 => ?_)
  · replace hwp := hwp.1 c1
    refine lv_aload_n (pc := 12) cx.1 cx.2.1 dX12_chunk_12 rfl (lv_at hl 0 rfl) ?_
    refine lv_iload_n (pc := 13) cx.1 cx.2.1 dX12_chunk_13 rfl (lv_at hl 1 rfl) ?_
    refine k_whole_i (pc := 14) (wf := (wM d h)) (u := u) cx hw (k_runV (pc := 14) (rest := [.ref (h 0)]) (As := [.int x1]) cx hw.1 (hw.2.1.weaken (fun _ _ _ _ => trivial)) hw.2.2 (k_recv cx hw 0 (ci := 10) (q := (RX12, TX12, 40)) rfl rfl) (m_X12_isSeries l dC dI d h  u x1 hwp H.size) (cwV 1 cx.2.2.2.2.1 (lw_V q1110 q1112 qs33 q89 q1113) rfl rfl rfl hdV_X12_isSeries ⟨Nat.le_of_ble_eq_true rfl, Nat.le_of_ble_eq_true rfl⟩) rfl hl.1 rfl (Nat.le_of_ble_eq_true rfl) dX12_chunk_14 ⟨Nat.le_of_ble_eq_true rfl, Nat.le_of_ble_eq_true rfl⟩) (fun r3 u2 H locs hwp hw => ?_)
    refine lv_if_ne (pc := 17) (tgt := 24) cx.1 cx.2.1 dX12_chunk_17 (by decide) (fun c4 => ?_) (fun c4 => ?_)
    · replace hwp := hwp.1 c4
      refine lv_iload_n (pc := 24) cx.1 cx.2.1 dX12_chunk_24 rfl (lv_at hl 3 rfl) ?_
      refine lv_if_lt (pc := 25) (tgt := 47) cx.1 cx.2.1 dX12_chunk_25 (by decide) (fun c5 => ?_) (fun c5 => ?_)
      · replace hwp := hwp.1 c5
        exact wk_X12_chunk_47 cx (wk_X12_chunk_52 cx) _ _ _ _ _ _ _ hwp hw (lv_sub hl [0, 1, 2, 3] rfl)
      · replace hwp := hwp.2 c5
        refine lv_iload_n (pc := 28) cx.1 cx.2.1 dX12_chunk_28 rfl (lv_at hl 3 rfl) ?_
        refine lv_bipush (pc := 29) (v := 6) cx.1 cx.2.1 dX12_chunk_29 (by decide) ?_
        refine lv_icmp_gt (pc := 31) (tgt := 47) cx.1 cx.2.1 dX12_chunk_31 (by decide) (fun c6 => ?_) (fun c6 => ?_)
        · replace hwp := hwp.1 c6
          exact wk_X12_chunk_47 cx (wk_X12_chunk_52 cx) _ _ _ _ _ _ _ hwp hw (lv_sub hl [0, 1, 2, 3] rfl)
        · replace hwp := hwp.2 c6
          refine lv_iload_n (pc := 34) cx.1 cx.2.1 dX12_chunk_34 rfl (lv_at hl 2 rfl) ?_
          refine lv_if_lt (pc := 35) (tgt := 47) cx.1 cx.2.1 dX12_chunk_35 (by decide) (fun c7 => ?_) (fun c7 => ?_)
          · replace hwp := hwp.1 c7
            exact wk_X12_chunk_47 cx (wk_X12_chunk_52 cx) _ _ _ _ _ _ _ hwp hw (lv_sub hl [0, 1, 2, 3] rfl)
          · replace hwp := hwp.2 c7
            refine lv_iload_n (pc := 38) cx.1 cx.2.1 dX12_chunk_38 rfl (lv_at hl 2 rfl) ?_
            refine lv_aload_n (pc := 39) cx.1 cx.2.1 dX12_chunk_39 rfl (lv_at hl 0 rfl) ?_
            refine lv_iload_n (pc := 40) cx.1 cx.2.1 dX12_chunk_40 rfl (lv_at hl 1 rfl) ?_
            refine k_whole_i (pc := 41) (wf := (wM d h)) (u := u2) cx hw (k_runV (pc := 41) (rest := [.int x2, .ref (h 0)]) (As := [.int x1]) cx hw.1 (hw.2.1.weaken (fun _ _ _ _ => trivial)) hw.2.2 (k_recv cx hw 0 (ci := 10) (q := (RX12, TX12, 40)) rfl rfl) (m_X12_chunksOf l dC dI d h  u2 x1 hwp H.size) (cwV 1 cx.2.2.2.2.1 (lw_V q1259 q1261 qs63 q89 q1262) rfl rfl rfl hdV_X12_chunksOf ⟨Nat.le_of_ble_eq_true rfl, Nat.le_of_ble_eq_true rfl⟩) rfl hl.1 rfl (Nat.le_of_ble_eq_true rfl) dX12_chunk_41 ⟨Nat.le_of_ble_eq_true rfl, Nat.le_of_ble_eq_true rfl⟩) (fun r9 u8 H locs hwp hw => ?_)
            refine lv_icmp_lt (pc := 44) (tgt := 51) cx.1 cx.2.1 dX12_chunk_44 (by decide) (fun c10 => ?_) (fun c10 => ?_)
            · replace hwp := hwp.1 c10
              refine lv_iconst (pc := 51) (v := 0) cx.1 cx.2.1 dX12_chunk_51 (by decide) ?_
              exact wk_X12_chunk_52 cx _ _ _ _ _ _ _ _ hwp hw (lv_sub hl [0, 1, 2, 3] rfl)
            · replace hwp := hwp.2 c10
              exact wk_X12_chunk_47 cx (wk_X12_chunk_52 cx) _ _ _ _ _ _ _ hwp hw (lv_sub hl [0, 1, 2, 3] rfl)
    · replace hwp := hwp.2 c4
      refine lv_iconst (pc := 20) (v := 2) cx.1 cx.2.1 dX12_chunk_20 (by decide) ?_
      refine lv_goto (pc := 21) (tgt := 52) cx.1 cx.2.1 dX12_chunk_21 (by decide) ?_
      exact wk_X12_chunk_52 cx _ _ _ _ _ _ _ _ hwp hw (lv_sub hl [0, 1, 2, 3] rfl)
  · replace hwp := hwp.2 c1
    refine lv_iconst (pc := 8) (v := 1) cx.1 cx.2.1 dX12_chunk_8 (by decide) ?_
    refine lv_goto (pc := 9) (tgt := 52) cx.1 cx.2.1 dX12_chunk_9 (by decide) ?_
    exact wk_X12_chunk_52 cx _ _ _ _ _ _ _ _ hwp hw (lv_sub hl [0, 1, 2, 3] rfl)
set_option maxHeartbeats 4000000 in
theorem wk_X12_group_46 {p : Program} {l : Launch} {e : Env} {s : State} {m : MethodId} {args : Array Value} {below : List Frame} {meth : Method} {c : Code} {A : Nat → Prop} {dC : Nat → ClassId} {dI : Nat → Nat → Nat} {d : Nat → ClassId} {h : Nat → Nat} {C51 : Int32 → Int32 → Int32 → Int32 → St → Prop} {K : Int32 → St → Prop} (cx : Cx p s m args meth c cX12_group RX12 10 (some .int) A dC dI d) (hC51 : ∀ (x1 : Int32) (x2 : Int32) (x3 : Int32) (y1 : Int32) (u : St) (H : Heap) (locs : List Loc) (ls : Array Slot), C51 x1 x2 x3 y1 u → Wd dC dI A ((wM d h) u) s H locs → lv_has ls 10 [(0, .ref (h 0)), (1, .int x1), (2, .int x2), (3, .int x3)] → W p l e ({ frames := 2, cells := 0, slots := 0, locals := 44 } : Room) s m args below meth c H locs 0 0 (MQ below (kQi dC dI (wM d h) K A) args s 0 0 A) (F0 m 51 ls [.int y1, .ref (h 0)])) : ∀ (x1 : Int32) (x2 : Int32) (x3 : Int32) (u : St) (H : Heap) (locs : List Loc) (ls : Array Slot), wp_X12_group_46 C51 K x1 x2 x3 u → Wd dC dI A ((wM d h) u) s H locs → lv_has ls 10 [(0, .ref (h 0)), (1, .int x1), (2, .int x2), (3, .int x3)] → W p l e ({ frames := 2, cells := 0, slots := 0, locals := 44 } : Room) s m args below meth c H locs 0 0 (MQ below (kQi dC dI (wM d h) K A) args s 0 0 A) (F0 m 46 ls [.ref (h 0)]) := by
  intro x1 x2 x3 u H locs ls hwp hw hl
  unfold wp_X12_group_46 at hwp
  refine lv_iconst (pc := 46) (v := 3) cx.1 cx.2.1 dX12_group_46 (by decide) ?_
  refine lv_goto (pc := 47) (tgt := 51) cx.1 cx.2.1 dX12_group_47 (by decide) ?_
  exact hC51 _ _ _ _ _ _ _ _ hwp hw (lv_sub hl [0, 1, 2, 3] rfl)
set_option maxHeartbeats 4000000 in
theorem wk_X12_group_255 {p : Program} {l : Launch} {e : Env} {s : State} {m : MethodId} {args : Array Value} {below : List Frame} {meth : Method} {c : Code} {A : Nat → Prop} {dC : Nat → ClassId} {dI : Nat → Nat → Nat} {d : Nat → ClassId} {h : Nat → Nat} {C257 : Int32 → Int32 → Int32 → Int32 → Int32 → Int32 → St → Prop} {K : Int32 → St → Prop} (cx : Cx p s m args meth c cX12_group RX12 10 (some .int) A dC dI d) (hC257 : ∀ (x1 : Int32) (x3 : Int32) (x6 : Int32) (x7 : Int32) (x8 : Int32) (x9 : Int32) (u : St) (H : Heap) (locs : List Loc) (ls : Array Slot), C257 x1 x3 x6 x7 x8 x9 u → Wd dC dI A ((wM d h) u) s H locs → lv_has ls 10 [(0, .ref (h 0)), (1, .int x1), (3, .int x3), (6, .int x6), (7, .int x7), (8, .int x8), (9, .int x9)] → W p l e ({ frames := 2, cells := 0, slots := 0, locals := 44 } : Room) s m args below meth c H locs 0 0 (MQ below (kQi dC dI (wM d h) K A) args s 0 0 A) (F0 m 257 ls [])) : ∀ (x1 : Int32) (x3 : Int32) (x6 : Int32) (x8 : Int32) (x9 : Int32) (y0 : Int32) (u : St) (H : Heap) (locs : List Loc) (ls : Array Slot), wp_X12_group_255 C257 K x1 x3 x6 x8 x9 y0 u → Wd dC dI A ((wM d h) u) s H locs → lv_has ls 10 [(0, .ref (h 0)), (1, .int x1), (3, .int x3), (6, .int x6), (8, .int x8), (9, .int x9)] → W p l e ({ frames := 2, cells := 0, slots := 0, locals := 44 } : Room) s m args below meth c H locs 0 0 (MQ below (kQi dC dI (wM d h) K A) args s 0 0 A) (F0 m 255 ls [.int y0]) := by
  intro x1 x3 x6 x8 x9 y0 u H locs ls hwp hw hl
  unfold wp_X12_group_255 at hwp
  refine lv_istore (pc := 255) (lv' := [(7, .int y0), (0, .ref (h 0)), (1, .int x1), (3, .int x3), (6, .int x6), (8, .int x8), (9, .int x9)]) cx.1 cx.2.1 dX12_group_255 hl (by decide) rfl (fun ls hl => ?_)
  exact hC257 _ _ _ _ _ _ _ _ _ _ hwp hw (lv_sub hl [1, 2, 3, 4, 0, 5, 6] rfl)
set_option maxHeartbeats 4000000 in
theorem wk_X12_group_257 {p : Program} {l : Launch} {e : Env} {s : State} {m : MethodId} {args : Array Value} {below : List Frame} {meth : Method} {c : Code} {A : Nat → Prop} {dC : Nat → ClassId} {dI : Nat → Nat → Nat} {d : Nat → ClassId} {h : Nat → Nat} {C195 : Int32 → Int32 → Int32 → Int32 → Int32 → St → Prop} {K : Int32 → St → Prop} (cx : Cx p s m args meth c cX12_group RX12 10 (some .int) A dC dI d) (hC195 : ∀ (x1 : Int32) (x3 : Int32) (x6 : Int32) (x7 : Int32) (x8 : Int32) (u : St) (H : Heap) (locs : List Loc) (ls : Array Slot), C195 x1 x3 x6 x7 x8 u → Wd dC dI A ((wM d h) u) s H locs → lv_has ls 10 [(0, .ref (h 0)), (1, .int x1), (3, .int x3), (6, .int x6), (7, .int x7), (8, .int x8)] → W p l e ({ frames := 2, cells := 0, slots := 0, locals := 44 } : Room) s m args below meth c H locs 0 0 (MQ below (kQi dC dI (wM d h) K A) args s 0 0 A) (F0 m 195 ls [])) : ∀ (x1 : Int32) (x3 : Int32) (x6 : Int32) (x7 : Int32) (x8 : Int32) (x9 : Int32) (u : St) (H : Heap) (locs : List Loc) (ls : Array Slot), wp_X12_group_257 C195 K x1 x3 x6 x7 x8 x9 u → Wd dC dI A ((wM d h) u) s H locs → lv_has ls 10 [(0, .ref (h 0)), (1, .int x1), (3, .int x3), (6, .int x6), (7, .int x7), (8, .int x8), (9, .int x9)] → W p l e ({ frames := 2, cells := 0, slots := 0, locals := 44 } : Room) s m args below meth c H locs 0 0 (MQ below (kQi dC dI (wM d h) K A) args s 0 0 A) (F0 m 257 ls []) := by
  intro x1 x3 x6 x7 x8 x9 u H locs ls hwp hw hl
  unfold wp_X12_group_257 at hwp
  refine lv_iload_n (pc := 257) cx.1 cx.2.1 dX12_group_257 rfl (lv_at hl 2 rfl) ?_
  refine lv_iconst (pc := 258) (v := 4) cx.1 cx.2.1 dX12_group_258 (by decide) ?_
  refine lv_icmp_ne (pc := 259) (tgt := 286) cx.1 cx.2.1 dX12_group_259 (by decide) (fun c1 => ?_) (fun c1 => ?_)
  · replace hwp := hwp.1 c1
    refine lv_iinc (pc := 286) (v := (x8 + (1 : Int32))) (lv' := [(8, .int (x8 + (1 : Int32))), (0, .ref (h 0)), (1, .int x1), (3, .int x3), (6, .int x6), (7, .int x7), (9, .int x9)]) cx.1 cx.2.1 dX12_group_286 hl (k := 5) rfl rfl (by decide) rfl (fun ls hl => ?_)
    refine lv_goto (pc := 289) (tgt := 195) cx.1 cx.2.1 dX12_group_289 (by decide) ?_
    exact hC195 _ _ _ _ _ _ _ _ _ hwp hw (lv_sub hl [1, 2, 3, 4, 5, 0] rfl)
  · replace hwp := hwp.2 c1
    refine lv_aload_n (pc := 262) cx.1 cx.2.1 dX12_group_262 rfl (lv_at hl 0 rfl) ?_
    refine lv_iload (pc := 263) cx.1 cx.2.1 dX12_group_263 (lv_at hl 6 rfl) ?_
    refine k_whole_i (pc := 265) (wf := (wM d h)) (u := u) cx hw (k_runV (pc := 265) (rest := []) (As := [.int x9]) cx hw.1 (hw.2.1.weaken (fun _ _ _ _ => trivial)) hw.2.2 (k_recv cx hw 0 (ci := 10) (q := (RX12, TX12, 40)) rfl rfl) (m_X12_greatestOf l dC dI d h  u x9 hwp H.size) (cwV 1 cx.2.2.2.2.1 (lw_V q1223 q1225 qs57 q89 q1226) rfl rfl rfl hdV_X12_greatestOf ⟨Nat.le_of_ble_eq_true rfl, Nat.le_of_ble_eq_true rfl⟩) rfl hl.1 rfl (Nat.le_of_ble_eq_true rfl) dX12_group_265 ⟨Nat.le_of_ble_eq_true rfl, Nat.le_of_ble_eq_true rfl⟩) (fun r3 u2 H locs hwp hw => ?_)
    refine lv_iload (pc := 268) cx.1 cx.2.1 dX12_group_268 (lv_at hl 4 rfl) ?_
    refine lv_icmp_le (pc := 270) (tgt := 282) cx.1 cx.2.1 dX12_group_270 (by decide) (fun c4 => ?_) (fun c4 => ?_)
    · replace hwp := hwp.1 c4
      refine lv_iload (pc := 282) cx.1 cx.2.1 dX12_group_282 (lv_at hl 4 rfl) ?_
      refine lv_istore (pc := 284) (lv' := [(7, .int x7), (0, .ref (h 0)), (1, .int x1), (3, .int x3), (6, .int x6), (8, .int x8), (9, .int x9)]) cx.1 cx.2.1 dX12_group_284 hl (by decide) rfl (fun ls hl => ?_)
      refine lv_iinc (pc := 286) (v := (x8 + (1 : Int32))) (lv' := [(8, .int (x8 + (1 : Int32))), (7, .int x7), (0, .ref (h 0)), (1, .int x1), (3, .int x3), (6, .int x6), (9, .int x9)]) cx.1 cx.2.1 dX12_group_286 hl (k := 5) rfl rfl (by decide) rfl (fun ls hl => ?_)
      refine lv_goto (pc := 289) (tgt := 195) cx.1 cx.2.1 dX12_group_289 (by decide) ?_
      exact hC195 _ _ _ _ _ _ _ _ _ hwp hw (lv_sub hl [2, 3, 4, 5, 1, 0] rfl)
    · replace hwp := hwp.2 c4
      refine lv_aload_n (pc := 273) cx.1 cx.2.1 dX12_group_273 rfl (lv_at hl 0 rfl) ?_
      refine lv_iload (pc := 274) cx.1 cx.2.1 dX12_group_274 (lv_at hl 6 rfl) ?_
      refine k_whole_i (pc := 276) (wf := (wM d h)) (u := u2) cx hw (k_runV (pc := 276) (rest := []) (As := [.int x9]) cx hw.1 (hw.2.1.weaken (fun _ _ _ _ => trivial)) hw.2.2 (k_recv cx hw 0 (ci := 10) (q := (RX12, TX12, 40)) rfl rfl) (m_X12_greatestOf l dC dI d h  u2 x9 hwp H.size) (cwV 1 cx.2.2.2.2.1 (lw_V q1223 q1225 qs57 q89 q1226) rfl rfl rfl hdV_X12_greatestOf ⟨Nat.le_of_ble_eq_true rfl, Nat.le_of_ble_eq_true rfl⟩) rfl hl.1 rfl (Nat.le_of_ble_eq_true rfl) dX12_group_276 ⟨Nat.le_of_ble_eq_true rfl, Nat.le_of_ble_eq_true rfl⟩) (fun r6 u5 H locs hwp hw => ?_)
      refine lv_goto (pc := 279) (tgt := 284) cx.1 cx.2.1 dX12_group_279 (by decide) ?_
      refine lv_istore (pc := 284) (lv' := [(7, .int r6), (0, .ref (h 0)), (1, .int x1), (3, .int x3), (6, .int x6), (8, .int x8), (9, .int x9)]) cx.1 cx.2.1 dX12_group_284 hl (by decide) rfl (fun ls hl => ?_)
      refine lv_iinc (pc := 286) (v := (x8 + (1 : Int32))) (lv' := [(8, .int (x8 + (1 : Int32))), (7, .int r6), (0, .ref (h 0)), (1, .int x1), (3, .int x3), (6, .int x6), (9, .int x9)]) cx.1 cx.2.1 dX12_group_286 hl (k := 5) rfl rfl (by decide) rfl (fun ls hl => ?_)
      refine lv_goto (pc := 289) (tgt := 195) cx.1 cx.2.1 dX12_group_289 (by decide) ?_
      exact hC195 _ _ _ _ _ _ _ _ _ hwp hw (lv_sub hl [2, 3, 4, 5, 1, 0] rfl)
set_option maxHeartbeats 4000000 in
theorem wk_X12_group_228 {p : Program} {l : Launch} {e : Env} {s : State} {m : MethodId} {args : Array Value} {below : List Frame} {meth : Method} {c : Code} {A : Nat → Prop} {dC : Nat → ClassId} {dI : Nat → Nat → Nat} {d : Nat → ClassId} {h : Nat → Nat} {C195 : Int32 → Int32 → Int32 → Int32 → Int32 → St → Prop} {K : Int32 → St → Prop} (cx : Cx p s m args meth c cX12_group RX12 10 (some .int) A dC dI d) (hC195 : ∀ (x1 : Int32) (x3 : Int32) (x6 : Int32) (x7 : Int32) (x8 : Int32) (u : St) (H : Heap) (locs : List Loc) (ls : Array Slot), C195 x1 x3 x6 x7 x8 u → Wd dC dI A ((wM d h) u) s H locs → lv_has ls 10 [(0, .ref (h 0)), (1, .int x1), (3, .int x3), (6, .int x6), (7, .int x7), (8, .int x8)] → W p l e ({ frames := 2, cells := 0, slots := 0, locals := 44 } : Room) s m args below meth c H locs 0 0 (MQ below (kQi dC dI (wM d h) K A) args s 0 0 A) (F0 m 195 ls [])) : ∀ (x1 : Int32) (x3 : Int32) (x6 : Int32) (x7 : Int32) (x8 : Int32) (x9 : Int32) (u : St) (H : Heap) (locs : List Loc) (ls : Array Slot), wp_X12_group_228 C195 K x1 x3 x6 x7 x8 x9 u → Wd dC dI A ((wM d h) u) s H locs → lv_has ls 10 [(0, .ref (h 0)), (1, .int x1), (3, .int x3), (6, .int x6), (7, .int x7), (8, .int x8), (9, .int x9)] → W p l e ({ frames := 2, cells := 0, slots := 0, locals := 44 } : Room) s m args below meth c H locs 0 0 (MQ below (kQi dC dI (wM d h) K A) args s 0 0 A) (F0 m 228 ls []) := by
  intro x1 x3 x6 x7 x8 x9 u H locs ls hwp hw hl
  unfold wp_X12_group_228 at hwp
  refine lv_iload_n (pc := 228) cx.1 cx.2.1 dX12_group_228 rfl (lv_at hl 2 rfl) ?_
  refine lv_iconst (pc := 229) (v := 3) cx.1 cx.2.1 dX12_group_229 (by decide) ?_
  refine lv_icmp_ne (pc := 230) (tgt := 257) cx.1 cx.2.1 dX12_group_230 (by decide) (fun c1 => ?_) (fun c1 => ?_)
  · replace hwp := hwp.1 c1
    exact wk_X12_group_257 cx hC195 _ _ _ _ _ _ _ _ _ _ hwp hw (lv_sub hl [0, 1, 2, 3, 4, 5, 6] rfl)
  · replace hwp := hwp.2 c1
    refine lv_aload_n (pc := 233) cx.1 cx.2.1 dX12_group_233 rfl (lv_at hl 0 rfl) ?_
    refine lv_iload (pc := 234) cx.1 cx.2.1 dX12_group_234 (lv_at hl 6 rfl) ?_
    refine k_whole_i (pc := 236) (wf := (wM d h)) (u := u) cx hw (k_runV (pc := 236) (rest := []) (As := [.int x9]) cx hw.1 (hw.2.1.weaken (fun _ _ _ _ => trivial)) hw.2.2 (k_recv cx hw 0 (ci := 10) (q := (RX12, TX12, 40)) rfl rfl) (m_X12_leastOf l dC dI d h  u x9 hwp H.size) (cwV 1 cx.2.2.2.2.1 (lw_V q1219 q1221 qs56 q89 q1222) rfl rfl rfl hdV_X12_leastOf ⟨Nat.le_of_ble_eq_true rfl, Nat.le_of_ble_eq_true rfl⟩) rfl hl.1 rfl (Nat.le_of_ble_eq_true rfl) dX12_group_236 ⟨Nat.le_of_ble_eq_true rfl, Nat.le_of_ble_eq_true rfl⟩) (fun r3 u2 H locs hwp hw => ?_)
    refine lv_iload (pc := 239) cx.1 cx.2.1 dX12_group_239 (lv_at hl 4 rfl) ?_
    refine lv_icmp_ge (pc := 241) (tgt := 253) cx.1 cx.2.1 dX12_group_241 (by decide) (fun c4 => ?_) (fun c4 => ?_)
    · replace hwp := hwp.1 c4
      refine lv_iload (pc := 253) cx.1 cx.2.1 dX12_group_253 (lv_at hl 4 rfl) ?_
      exact wk_X12_group_255 cx (wk_X12_group_257 cx hC195) _ _ _ _ _ _ _ _ _ _ hwp hw (lv_sub hl [0, 1, 2, 3, 5, 6] rfl)
    · replace hwp := hwp.2 c4
      refine lv_aload_n (pc := 244) cx.1 cx.2.1 dX12_group_244 rfl (lv_at hl 0 rfl) ?_
      refine lv_iload (pc := 245) cx.1 cx.2.1 dX12_group_245 (lv_at hl 6 rfl) ?_
      refine k_whole_i (pc := 247) (wf := (wM d h)) (u := u2) cx hw (k_runV (pc := 247) (rest := []) (As := [.int x9]) cx hw.1 (hw.2.1.weaken (fun _ _ _ _ => trivial)) hw.2.2 (k_recv cx hw 0 (ci := 10) (q := (RX12, TX12, 40)) rfl rfl) (m_X12_leastOf l dC dI d h  u2 x9 hwp H.size) (cwV 1 cx.2.2.2.2.1 (lw_V q1219 q1221 qs56 q89 q1222) rfl rfl rfl hdV_X12_leastOf ⟨Nat.le_of_ble_eq_true rfl, Nat.le_of_ble_eq_true rfl⟩) rfl hl.1 rfl (Nat.le_of_ble_eq_true rfl) dX12_group_247 ⟨Nat.le_of_ble_eq_true rfl, Nat.le_of_ble_eq_true rfl⟩) (fun r6 u5 H locs hwp hw => ?_)
      refine lv_goto (pc := 250) (tgt := 255) cx.1 cx.2.1 dX12_group_250 (by decide) ?_
      exact wk_X12_group_255 cx (wk_X12_group_257 cx hC195) _ _ _ _ _ _ _ _ _ _ hwp hw (lv_sub hl [0, 1, 2, 3, 5, 6] rfl)
set_option maxHeartbeats 4000000 in
theorem wk_X12_group_195 {p : Program} {l : Launch} {e : Env} {s : State} {m : MethodId} {args : Array Value} {below : List Frame} {meth : Method} {c : Code} {A : Nat → Prop} {dC : Nat → ClassId} {dI : Nat → Nat → Nat} {d : Nat → ClassId} {h : Nat → Nat} {K : Int32 → St → Prop} (cx : Cx p s m args meth c cX12_group RX12 10 (some .int) A dC dI d) : ∀ (n : Nat) (x1 : Int32) (x3 : Int32) (x6 : Int32) (x7 : Int32) (x8 : Int32) (u : St) (H : Heap) (locs : List Loc) (ls : Array Slot), wp_X12_group_195 K n x1 x3 x6 x7 x8 u → Wd dC dI A ((wM d h) u) s H locs → lv_has ls 10 [(0, .ref (h 0)), (1, .int x1), (3, .int x3), (6, .int x6), (7, .int x7), (8, .int x8)] → W p l e ({ frames := 2, cells := 0, slots := 0, locals := 44 } : Room) s m args below meth c H locs 0 0 (MQ below (kQi dC dI (wM d h) K A) args s 0 0 A) (F0 m 195 ls []) := by
  intro n
  induction n with
  | zero =>
    intros; contradiction
  | succ n ih =>
    intro x1 x3 x6 x7 x8 u H locs ls hwp hw hl
    unfold wp_X12_group_195 at hwp
    refine lv_iload (pc := 195) cx.1 cx.2.1 dX12_group_195 (lv_at hl 5 rfl) ?_
    refine lv_iload (pc := 197) cx.1 cx.2.1 dX12_group_197 (lv_at hl 3 rfl) ?_
    refine lv_icmp_ge (pc := 199) (tgt := 292) cx.1 cx.2.1 dX12_group_199 (by decide) (fun c1 => ?_) (fun c1 => ?_)
    · replace hwp := hwp.1 c1
      refine lv_iload (pc := 292) cx.1 cx.2.1 dX12_group_292 (lv_at hl 4 rfl) ?_
      exact k_iret (pc := 294) (wf := (wM d h)) (u := u) cx hw hwp (by decide) (by decide) dX12_group_294
    · replace hwp := hwp.2 c1
      refine lv_aload_n (pc := 202) cx.1 cx.2.1 dX12_group_202 rfl (lv_at hl 0 rfl) ?_
      refine lv_iload_n (pc := 203) cx.1 cx.2.1 dX12_group_203 rfl (lv_at hl 1 rfl) ?_
      refine lv_iload (pc := 204) cx.1 cx.2.1 dX12_group_204 (lv_at hl 5 rfl) ?_
      refine k_whole_i (pc := 206) (wf := (wM d h)) (u := u) cx hw (k_runV (pc := 206) (rest := []) (As := [.int x1, .int x8]) cx hw.1 (hw.2.1.weaken (fun _ _ _ _ => trivial)) hw.2.2 (k_recv cx hw 0 (ci := 10) (q := (RX12, TX12, 40)) rfl rfl) (m_X12_slot l dC dI d h  u x1 x8 hwp H.size) (cwV 2 cx.2.2.2.2.1 (lw_V q1267 q1269 qs65 q89 q1270) rfl rfl rfl hdV_X12_slot ⟨Nat.le_of_ble_eq_true rfl, Nat.le_of_ble_eq_true rfl⟩) rfl hl.1 rfl (Nat.le_of_ble_eq_true rfl) dX12_group_206 ⟨Nat.le_of_ble_eq_true rfl, Nat.le_of_ble_eq_true rfl⟩) (fun r3 u2 H locs hwp hw => ?_)
      refine lv_istore (pc := 209) (lv' := [(9, .int r3), (0, .ref (h 0)), (1, .int x1), (3, .int x3), (6, .int x6), (7, .int x7), (8, .int x8)]) cx.1 cx.2.1 dX12_group_209 hl (by decide) rfl (fun ls hl => ?_)
      refine lv_iload_n (pc := 211) cx.1 cx.2.1 dX12_group_211 rfl (lv_at hl 3 rfl) ?_
      refine lv_iconst (pc := 212) (v := 2) cx.1 cx.2.1 dX12_group_212 (by decide) ?_
      refine lv_icmp_ne (pc := 213) (tgt := 228) cx.1 cx.2.1 dX12_group_213 (by decide) (fun c4 => ?_) (fun c4 => ?_)
      · replace hwp := hwp.1 c4
        exact wk_X12_group_228 cx ih _ _ _ _ _ _ _ _ _ _ hwp hw (lv_sub hl [1, 2, 3, 4, 5, 6, 0] rfl)
      · replace hwp := hwp.2 c4
        refine lv_iload (pc := 216) cx.1 cx.2.1 dX12_group_216 (lv_at hl 5 rfl) ?_
        refine lv_aload_n (pc := 218) cx.1 cx.2.1 dX12_group_218 rfl (lv_at hl 1 rfl) ?_
        refine k_getR (pc := 219) (u := u2) (v := .ref (h 3)) cx hw (lr_X12_this_12 d h) (C := RX12) (T := TX12) (N := 40) rfl in_X12 (by decide) q989 (fun _ h9 => h9) rfl dX12_group_219 ?_
        refine lv_iload (pc := 222) cx.1 cx.2.1 dX12_group_222 (lv_at hl 0 rfl) ?_
        refine k_iald (pc := 224) (u := u2) (f := (u2.2.1 12)) cx hw (lx_X12_this_12 d h) 0 rfl rfl hwp.1 dX12_group_224 ?_
        replace hwp := hwp.2
        refine lv_iadd (pc := 225) cx.1 cx.2.1 dX12_group_225 ?_
        refine lv_istore (pc := 226) (lv' := [(7, .int (x7 + ((u2.2.1 12) r3.toNatClampNeg))), (9, .int r3), (0, .ref (h 0)), (1, .int x1), (3, .int x3), (6, .int x6), (8, .int x8)]) cx.1 cx.2.1 dX12_group_226 hl (by decide) rfl (fun ls hl => ?_)
        exact wk_X12_group_228 cx ih _ _ _ _ _ _ _ _ _ _ hwp hw (lv_sub hl [2, 3, 4, 5, 0, 6, 1] rfl)
set_option maxHeartbeats 4000000 in
theorem wk_X12_group_51 {p : Program} {l : Launch} {e : Env} {s : State} {m : MethodId} {args : Array Value} {below : List Frame} {meth : Method} {c : Code} {A : Nat → Prop} {dC : Nat → ClassId} {dI : Nat → Nat → Nat} {d : Nat → ClassId} {h : Nat → Nat} {K : Int32 → St → Prop} (cx : Cx p s m args meth c cX12_group RX12 10 (some .int) A dC dI d) : ∀ (x1 : Int32) (x2 : Int32) (x3 : Int32) (y1 : Int32) (u : St) (H : Heap) (locs : List Loc) (ls : Array Slot), wp_X12_group_51 K x1 x2 x3 y1 u → Wd dC dI A ((wM d h) u) s H locs → lv_has ls 10 [(0, .ref (h 0)), (1, .int x1), (2, .int x2), (3, .int x3)] → W p l e ({ frames := 2, cells := 0, slots := 0, locals := 44 } : Room) s m args below meth c H locs 0 0 (MQ below (kQi dC dI (wM d h) K A) args s 0 0 A) (F0 m 51 ls [.int y1, .ref (h 0)]) := by
  intro x1 x2 x3 y1 u H locs ls hwp hw hl
  unfold wp_X12_group_51 at hwp
  refine k_putI (pc := 51) (u := u) (v := y1) cx hw (ln_X12_this_0 d h) (C := RX12) (T := TX12) (N := 40) rfl in_X12 tyX12 tyX12_ok nmX12 (by decide) q977 (fun _ h9 => h9) rfl rfl rfl dX12_group_51 (fun H locs hw => ?_)
  refine lv_aload_n (pc := 54) cx.1 cx.2.1 dX12_group_54 rfl (lv_at hl 0 rfl) ?_
  refine k_getI (pc := 55) (u := (st_I u 0 y1)) (v := y1) cx hw (ln_X12_this_0 d h) (C := RX12) (T := TX12) (N := 40) rfl in_X12 (by decide) q977 (fun _ h9 => h9) rfl dX12_group_55 ?_
  refine lv_if_le (pc := 58) (tgt := 63) cx.1 cx.2.1 dX12_group_58 (by decide) (fun c1 => ?_) (fun c1 => ?_)
  · replace hwp := hwp.1 c1
    refine lv_aload_n (pc := 63) cx.1 cx.2.1 dX12_group_63 rfl (lv_at hl 0 rfl) ?_
    refine lv_iload_n (pc := 64) cx.1 cx.2.1 dX12_group_64 rfl (lv_at hl 1 rfl) ?_
    refine k_whole_i (pc := 65) (wf := (wM d h)) (u := (st_I u 0 y1)) cx hw (k_runV (pc := 65) (rest := []) (As := [.int x1]) cx hw.1 (hw.2.1.weaken (fun _ _ _ _ => trivial)) hw.2.2 (k_recv cx hw 0 (ci := 10) (q := (RX12, TX12, 40)) rfl rfl) (m_X12_chunksOf l dC dI d h  (st_I u 0 y1) x1 hwp H.size) (cwV 1 cx.2.2.2.2.1 (lw_V q1259 q1261 qs63 q89 q1262) rfl rfl rfl hdV_X12_chunksOf ⟨Nat.le_of_ble_eq_true rfl, Nat.le_of_ble_eq_true rfl⟩) rfl hl.1 rfl (Nat.le_of_ble_eq_true rfl) dX12_group_65 ⟨Nat.le_of_ble_eq_true rfl, Nat.le_of_ble_eq_true rfl⟩) (fun r3 u2 H locs hwp hw => ?_)
    refine lv_istore (pc := 68) (lv' := [(4, .int r3), (0, .ref (h 0)), (1, .int x1), (2, .int x2), (3, .int x3)]) cx.1 cx.2.1 dX12_group_68 hl (by decide) rfl (fun ls hl => ?_)
    refine lv_aload_n (pc := 70) cx.1 cx.2.1 dX12_group_70 rfl (lv_at hl 1 rfl) ?_
    refine k_getI (pc := 71) (u := u2) (v := (u2.1 3)) cx hw (ln_X12_this_3 d h) (C := RX12) (T := TX12) (N := 40) rfl in_X12 (by decide) q980 (fun _ h9 => h9) rfl dX12_group_71 ?_
    refine lv_iload_n (pc := 74) cx.1 cx.2.1 dX12_group_74 rfl (lv_at hl 3 rfl) ?_
    refine lv_imul (pc := 75) cx.1 cx.2.1 dX12_group_75 ?_
    refine lv_istore (pc := 76) (lv' := [(5, .int ((u2.1 3) * x2)), (4, .int r3), (0, .ref (h 0)), (1, .int x1), (2, .int x2), (3, .int x3)]) cx.1 cx.2.1 dX12_group_76 hl (by decide) rfl (fun ls hl => ?_)
    refine lv_iload (pc := 78) cx.1 cx.2.1 dX12_group_78 (lv_at hl 0 rfl) ?_
    refine lv_aload_n (pc := 80) cx.1 cx.2.1 dX12_group_80 rfl (lv_at hl 2 rfl) ?_
    refine k_getI (pc := 81) (u := u2) (v := (u2.1 3)) cx hw (ln_X12_this_3 d h) (C := RX12) (T := TX12) (N := 40) rfl in_X12 (by decide) q980 (fun _ h9 => h9) rfl dX12_group_81 ?_
    refine lv_iadd (pc := 84) cx.1 cx.2.1 dX12_group_84 ?_
    refine lv_iload (pc := 85) cx.1 cx.2.1 dX12_group_85 (lv_at hl 1 rfl) ?_
    have hJ5 : ∀ z4 : Int32, z4 = (if r3 ≤ (((u2.1 3) * x2) + (u2.1 3)) then r3 else (((u2.1 3) * x2) + (u2.1 3))) → W p l e ({ frames := 2, cells := 0, slots := 0, locals := 44 } : Room) s m args below meth c H locs 0 0 (MQ below (kQi dC dI (wM d h) K A) args s 0 0 A) (F0 m 102 ls [.int z4]) := by
      intro z4 ez4
      replace hwp := hwp z4 ez4
      refine lv_istore (pc := 102) (lv' := [(6, .int z4), (5, .int ((u2.1 3) * x2)), (4, .int r3), (0, .ref (h 0)), (1, .int x1), (2, .int x2), (3, .int x3)]) cx.1 cx.2.1 dX12_group_102 hl (by decide) rfl (fun ls hl => ?_)
      refine lv_iload_n (pc := 104) cx.1 cx.2.1 dX12_group_104 rfl (lv_at hl 6 rfl) ?_
      refine lv_if_ne (pc := 105) (tgt := 120) cx.1 cx.2.1 dX12_group_105 (by decide) (fun c6 => ?_) (fun c6 => ?_)
      · replace hwp := hwp.1 c6
        refine lv_iload_n (pc := 120) cx.1 cx.2.1 dX12_group_120 rfl (lv_at hl 6 rfl) ?_
        refine lv_iconst (pc := 121) (v := 1) cx.1 cx.2.1 dX12_group_121 (by decide) ?_
        refine lv_icmp_ne (pc := 122) (tgt := 139) cx.1 cx.2.1 dX12_group_122 (by decide) (fun c7 => ?_) (fun c7 => ?_)
        · replace hwp := hwp.1 c7
          refine lv_iload_n (pc := 139) cx.1 cx.2.1 dX12_group_139 rfl (lv_at hl 6 rfl) ?_
          refine lv_iconst (pc := 140) (v := 5) cx.1 cx.2.1 dX12_group_140 (by decide) ?_
          refine lv_icmp_ne (pc := 141) (tgt := 150) cx.1 cx.2.1 dX12_group_141 (by decide) (fun c8 => ?_) (fun c8 => ?_)
          · replace hwp := hwp.1 c8
            refine lv_iload_n (pc := 150) cx.1 cx.2.1 dX12_group_150 rfl (lv_at hl 6 rfl) ?_
            refine lv_iconst (pc := 151) (v := 2) cx.1 cx.2.1 dX12_group_151 (by decide) ?_
            refine lv_icmp_ne (pc := 152) (tgt := 159) cx.1 cx.2.1 dX12_group_152 (by decide) (fun c9 => ?_) (fun c9 => ?_)
            · replace hwp := hwp.1 c9
              refine lv_iload_n (pc := 159) cx.1 cx.2.1 dX12_group_159 rfl (lv_at hl 6 rfl) ?_
              refine lv_iconst (pc := 160) (v := 3) cx.1 cx.2.1 dX12_group_160 (by decide) ?_
              refine lv_icmp_ne (pc := 161) (tgt := 178) cx.1 cx.2.1 dX12_group_161 (by decide) (fun c10 => ?_) (fun c10 => ?_)
              · replace hwp := hwp.1 c10
                refine lv_aload_n (pc := 178) cx.1 cx.2.1 dX12_group_178 rfl (lv_at hl 3 rfl) ?_
                refine lv_aload_n (pc := 179) cx.1 cx.2.1 dX12_group_179 rfl (lv_at hl 3 rfl) ?_
                refine lv_iload_n (pc := 180) cx.1 cx.2.1 dX12_group_180 rfl (lv_at hl 4 rfl) ?_
                refine lv_iload (pc := 181) cx.1 cx.2.1 dX12_group_181 (lv_at hl 1 rfl) ?_
                refine k_whole_i (pc := 183) (wf := (wM d h)) (u := u2) cx hw (k_runV (pc := 183) (rest := [.ref (h 0)]) (As := [.int x1, .int ((u2.1 3) * x2)]) cx hw.1 (hw.2.1.weaken (fun _ _ _ _ => trivial)) hw.2.2 (k_recv cx hw 0 (ci := 10) (q := (RX12, TX12, 40)) rfl rfl) (m_X12_slot l dC dI d h  u2 x1 ((u2.1 3) * x2) hwp H.size) (cwV 2 cx.2.2.2.2.1 (lw_V q1267 q1269 qs65 q89 q1270) rfl rfl rfl hdV_X12_slot ⟨Nat.le_of_ble_eq_true rfl, Nat.le_of_ble_eq_true rfl⟩) rfl hl.1 rfl (Nat.le_of_ble_eq_true rfl) dX12_group_183 ⟨Nat.le_of_ble_eq_true rfl, Nat.le_of_ble_eq_true rfl⟩) (fun r12 u11 H locs hwp hw => ?_)
                refine k_whole_i (pc := 186) (wf := (wM d h)) (u := u11) cx hw (k_runV (pc := 186) (rest := []) (As := [.int r12]) cx hw.1 (hw.2.1.weaken (fun _ _ _ _ => trivial)) hw.2.2 (k_recv cx hw 0 (ci := 10) (q := (RX12, TX12, 40)) rfl rfl) (m_X12_greatestOf l dC dI d h  u11 r12 hwp H.size) (cwV 1 cx.2.2.2.2.1 (lw_V q1223 q1225 qs57 q89 q1226) rfl rfl rfl hdV_X12_greatestOf ⟨Nat.le_of_ble_eq_true rfl, Nat.le_of_ble_eq_true rfl⟩) rfl hl.1 rfl (Nat.le_of_ble_eq_true rfl) dX12_group_186 ⟨Nat.le_of_ble_eq_true rfl, Nat.le_of_ble_eq_true rfl⟩) (fun r14 u13 H locs hwp hw => ?_)
                refine lv_istore (pc := 189) (lv' := [(7, .int r14), (6, .int z4), (5, .int ((u2.1 3) * x2)), (4, .int r3), (0, .ref (h 0)), (1, .int x1), (2, .int x2), (3, .int x3)]) cx.1 cx.2.1 dX12_group_189 hl (by decide) rfl (fun ls hl => ?_)
                refine lv_iload (pc := 191) cx.1 cx.2.1 dX12_group_191 (lv_at hl 2 rfl) ?_
                refine lv_istore (pc := 193) (lv' := [(8, .int ((u2.1 3) * x2)), (7, .int r14), (6, .int z4), (5, .int ((u2.1 3) * x2)), (4, .int r3), (0, .ref (h 0)), (1, .int x1), (2, .int x2), (3, .int x3)]) cx.1 cx.2.1 dX12_group_193 hl (by decide) rfl (fun ls hl => ?_)
                obtain ⟨n195, hwp⟩ := hwp
                exact wk_X12_group_195 cx n195 _ _ _ _ _ _ _ _ _ hwp hw (lv_sub hl [5, 6, 8, 2, 1, 0] rfl)
              · replace hwp := hwp.2 c10
                refine lv_aload_n (pc := 164) cx.1 cx.2.1 dX12_group_164 rfl (lv_at hl 3 rfl) ?_
                refine lv_aload_n (pc := 165) cx.1 cx.2.1 dX12_group_165 rfl (lv_at hl 3 rfl) ?_
                refine lv_iload_n (pc := 166) cx.1 cx.2.1 dX12_group_166 rfl (lv_at hl 4 rfl) ?_
                refine lv_iload (pc := 167) cx.1 cx.2.1 dX12_group_167 (lv_at hl 1 rfl) ?_
                refine k_whole_i (pc := 169) (wf := (wM d h)) (u := u2) cx hw (k_runV (pc := 169) (rest := [.ref (h 0)]) (As := [.int x1, .int ((u2.1 3) * x2)]) cx hw.1 (hw.2.1.weaken (fun _ _ _ _ => trivial)) hw.2.2 (k_recv cx hw 0 (ci := 10) (q := (RX12, TX12, 40)) rfl rfl) (m_X12_slot l dC dI d h  u2 x1 ((u2.1 3) * x2) hwp H.size) (cwV 2 cx.2.2.2.2.1 (lw_V q1267 q1269 qs65 q89 q1270) rfl rfl rfl hdV_X12_slot ⟨Nat.le_of_ble_eq_true rfl, Nat.le_of_ble_eq_true rfl⟩) rfl hl.1 rfl (Nat.le_of_ble_eq_true rfl) dX12_group_169 ⟨Nat.le_of_ble_eq_true rfl, Nat.le_of_ble_eq_true rfl⟩) (fun r16 u15 H locs hwp hw => ?_)
                refine k_whole_i (pc := 172) (wf := (wM d h)) (u := u15) cx hw (k_runV (pc := 172) (rest := []) (As := [.int r16]) cx hw.1 (hw.2.1.weaken (fun _ _ _ _ => trivial)) hw.2.2 (k_recv cx hw 0 (ci := 10) (q := (RX12, TX12, 40)) rfl rfl) (m_X12_leastOf l dC dI d h  u15 r16 hwp H.size) (cwV 1 cx.2.2.2.2.1 (lw_V q1219 q1221 qs56 q89 q1222) rfl rfl rfl hdV_X12_leastOf ⟨Nat.le_of_ble_eq_true rfl, Nat.le_of_ble_eq_true rfl⟩) rfl hl.1 rfl (Nat.le_of_ble_eq_true rfl) dX12_group_172 ⟨Nat.le_of_ble_eq_true rfl, Nat.le_of_ble_eq_true rfl⟩) (fun r18 u17 H locs hwp hw => ?_)
                refine lv_goto (pc := 175) (tgt := 189) cx.1 cx.2.1 dX12_group_175 (by decide) ?_
                refine lv_istore (pc := 189) (lv' := [(7, .int r18), (6, .int z4), (5, .int ((u2.1 3) * x2)), (4, .int r3), (0, .ref (h 0)), (1, .int x1), (2, .int x2), (3, .int x3)]) cx.1 cx.2.1 dX12_group_189 hl (by decide) rfl (fun ls hl => ?_)
                refine lv_iload (pc := 191) cx.1 cx.2.1 dX12_group_191 (lv_at hl 2 rfl) ?_
                refine lv_istore (pc := 193) (lv' := [(8, .int ((u2.1 3) * x2)), (7, .int r18), (6, .int z4), (5, .int ((u2.1 3) * x2)), (4, .int r3), (0, .ref (h 0)), (1, .int x1), (2, .int x2), (3, .int x3)]) cx.1 cx.2.1 dX12_group_193 hl (by decide) rfl (fun ls hl => ?_)
                obtain ⟨n195, hwp⟩ := hwp
                exact wk_X12_group_195 cx n195 _ _ _ _ _ _ _ _ _ hwp hw (lv_sub hl [5, 6, 8, 2, 1, 0] rfl)
            · replace hwp := hwp.2 c9
              refine lv_iconst (pc := 155) (v := 0) cx.1 cx.2.1 dX12_group_155 (by decide) ?_
              refine lv_goto (pc := 156) (tgt := 189) cx.1 cx.2.1 dX12_group_156 (by decide) ?_
              refine lv_istore (pc := 189) (lv' := [(7, .int (0 : Int32)), (6, .int z4), (5, .int ((u2.1 3) * x2)), (4, .int r3), (0, .ref (h 0)), (1, .int x1), (2, .int x2), (3, .int x3)]) cx.1 cx.2.1 dX12_group_189 hl (by decide) rfl (fun ls hl => ?_)
              refine lv_iload (pc := 191) cx.1 cx.2.1 dX12_group_191 (lv_at hl 2 rfl) ?_
              refine lv_istore (pc := 193) (lv' := [(8, .int ((u2.1 3) * x2)), (7, .int (0 : Int32)), (6, .int z4), (5, .int ((u2.1 3) * x2)), (4, .int r3), (0, .ref (h 0)), (1, .int x1), (2, .int x2), (3, .int x3)]) cx.1 cx.2.1 dX12_group_193 hl (by decide) rfl (fun ls hl => ?_)
              obtain ⟨n195, hwp⟩ := hwp
              exact wk_X12_group_195 cx n195 _ _ _ _ _ _ _ _ _ hwp hw (lv_sub hl [5, 6, 8, 2, 1, 0] rfl)
          · replace hwp := hwp.2 c8
            refine lv_iload (pc := 144) cx.1 cx.2.1 dX12_group_144 (lv_at hl 0 rfl) ?_
            refine lv_iload (pc := 146) cx.1 cx.2.1 dX12_group_146 (lv_at hl 1 rfl) ?_
            refine lv_isub (pc := 148) cx.1 cx.2.1 dX12_group_148 ?_
            exact k_iret (pc := 149) (wf := (wM d h)) (u := u2) cx hw hwp (by decide) (by decide) dX12_group_149
        · replace hwp := hwp.2 c7
          refine lv_aload_n (pc := 125) cx.1 cx.2.1 dX12_group_125 rfl (lv_at hl 3 rfl) ?_
          refine lv_aload_n (pc := 126) cx.1 cx.2.1 dX12_group_126 rfl (lv_at hl 3 rfl) ?_
          refine lv_iload_n (pc := 127) cx.1 cx.2.1 dX12_group_127 rfl (lv_at hl 4 rfl) ?_
          refine lv_iload (pc := 128) cx.1 cx.2.1 dX12_group_128 (lv_at hl 0 rfl) ?_
          refine lv_iconst (pc := 130) (v := 1) cx.1 cx.2.1 dX12_group_130 (by decide) ?_
          refine lv_isub (pc := 131) cx.1 cx.2.1 dX12_group_131 ?_
          refine k_whole_i (pc := 132) (wf := (wM d h)) (u := u2) cx hw (k_runV (pc := 132) (rest := [.ref (h 0)]) (As := [.int x1, .int (z4 - (1 : Int32))]) cx hw.1 (hw.2.1.weaken (fun _ _ _ _ => trivial)) hw.2.2 (k_recv cx hw 0 (ci := 10) (q := (RX12, TX12, 40)) rfl rfl) (m_X12_slot l dC dI d h  u2 x1 (z4 - (1 : Int32)) hwp H.size) (cwV 2 cx.2.2.2.2.1 (lw_V q1267 q1269 qs65 q89 q1270) rfl rfl rfl hdV_X12_slot ⟨Nat.le_of_ble_eq_true rfl, Nat.le_of_ble_eq_true rfl⟩) rfl hl.1 rfl (Nat.le_of_ble_eq_true rfl) dX12_group_132 ⟨Nat.le_of_ble_eq_true rfl, Nat.le_of_ble_eq_true rfl⟩) (fun r20 u19 H locs hwp hw => ?_)
          refine k_whole_i (pc := 135) (wf := (wM d h)) (u := u19) cx hw (k_runV (pc := 135) (rest := []) (As := [.int r20]) cx hw.1 (hw.2.1.weaken (fun _ _ _ _ => trivial)) hw.2.2 (k_recv cx hw 0 (ci := 10) (q := (RX12, TX12, 40)) rfl rfl) (m_X12_lastTime l dC dI d h  u19 r20 hwp H.size) (cwV 1 cx.2.2.2.2.1 (lw_V q1215 q1217 qs55 q89 q1218) rfl rfl rfl hdV_X12_lastTime ⟨Nat.le_of_ble_eq_true rfl, Nat.le_of_ble_eq_true rfl⟩) rfl hl.1 rfl (Nat.le_of_ble_eq_true rfl) dX12_group_135 ⟨Nat.le_of_ble_eq_true rfl, Nat.le_of_ble_eq_true rfl⟩) (fun r22 u21 H locs hwp hw => ?_)
          exact k_iret (pc := 138) (wf := (wM d h)) (u := u21) cx hw hwp (by decide) (by decide) dX12_group_138
      · replace hwp := hwp.2 c6
        refine lv_aload_n (pc := 108) cx.1 cx.2.1 dX12_group_108 rfl (lv_at hl 3 rfl) ?_
        refine lv_aload_n (pc := 109) cx.1 cx.2.1 dX12_group_109 rfl (lv_at hl 3 rfl) ?_
        refine lv_iload_n (pc := 110) cx.1 cx.2.1 dX12_group_110 rfl (lv_at hl 4 rfl) ?_
        refine lv_iload (pc := 111) cx.1 cx.2.1 dX12_group_111 (lv_at hl 1 rfl) ?_
        refine k_whole_i (pc := 113) (wf := (wM d h)) (u := u2) cx hw (k_runV (pc := 113) (rest := [.ref (h 0)]) (As := [.int x1, .int ((u2.1 3) * x2)]) cx hw.1 (hw.2.1.weaken (fun _ _ _ _ => trivial)) hw.2.2 (k_recv cx hw 0 (ci := 10) (q := (RX12, TX12, 40)) rfl rfl) (m_X12_slot l dC dI d h  u2 x1 ((u2.1 3) * x2) hwp H.size) (cwV 2 cx.2.2.2.2.1 (lw_V q1267 q1269 qs65 q89 q1270) rfl rfl rfl hdV_X12_slot ⟨Nat.le_of_ble_eq_true rfl, Nat.le_of_ble_eq_true rfl⟩) rfl hl.1 rfl (Nat.le_of_ble_eq_true rfl) dX12_group_113 ⟨Nat.le_of_ble_eq_true rfl, Nat.le_of_ble_eq_true rfl⟩) (fun r24 u23 H locs hwp hw => ?_)
        refine k_whole_i (pc := 116) (wf := (wM d h)) (u := u23) cx hw (k_runV (pc := 116) (rest := []) (As := [.int r24]) cx hw.1 (hw.2.1.weaken (fun _ _ _ _ => trivial)) hw.2.2 (k_recv cx hw 0 (ci := 10) (q := (RX12, TX12, 40)) rfl rfl) (m_X12_firstTime l dC dI d h  u23 r24 hwp H.size) (cwV 1 cx.2.2.2.2.1 (lw_V q1211 q1213 qs54 q89 q1214) rfl rfl rfl hdV_X12_firstTime ⟨Nat.le_of_ble_eq_true rfl, Nat.le_of_ble_eq_true rfl⟩) rfl hl.1 rfl (Nat.le_of_ble_eq_true rfl) dX12_group_116 ⟨Nat.le_of_ble_eq_true rfl, Nat.le_of_ble_eq_true rfl⟩) (fun r26 u25 H locs hwp hw => ?_)
        exact k_iret (pc := 119) (wf := (wM d h)) (u := u25) cx hw hwp (by decide) (by decide) dX12_group_119
    clear hwp
    refine lv_icmp_ge (pc := 87) (tgt := 100) cx.1 cx.2.1 dX12_group_87 (by decide) (fun c27 => ?_) (fun c27 => ?_)
    · skip
      refine lv_iload (pc := 100) cx.1 cx.2.1 dX12_group_100 (lv_at hl 1 rfl) ?_
      exact hJ5 _ (if_pos c27).symm
    · skip
      refine lv_iload (pc := 90) cx.1 cx.2.1 dX12_group_90 (lv_at hl 0 rfl) ?_
      refine lv_aload_n (pc := 92) cx.1 cx.2.1 dX12_group_92 rfl (lv_at hl 2 rfl) ?_
      refine k_getI (pc := 93) (u := u2) (v := (u2.1 3)) cx hw (ln_X12_this_3 d h) (C := RX12) (T := TX12) (N := 40) rfl in_X12 (by decide) q980 (fun _ h9 => h9) rfl dX12_group_93 ?_
      refine lv_iadd (pc := 96) cx.1 cx.2.1 dX12_group_96 ?_
      refine lv_goto (pc := 97) (tgt := 102) cx.1 cx.2.1 dX12_group_97 (by decide) ?_
      exact hJ5 _ (if_neg c27).symm
  · replace hwp := hwp.2 c1
    refine lv_iconst (pc := 61) (v := 0) cx.1 cx.2.1 dX12_group_61 (by decide) ?_
    exact k_iret (pc := 62) (wf := (wM d h)) (u := (st_I u 0 y1)) cx hw hwp (by decide) (by decide) dX12_group_62
set_option maxHeartbeats 4000000 in
theorem m_X12_group (l : Launch) (dC : Nat → ClassId) (dI : Nat → Nat → Nat) (d : Nat → ClassId) (h : Nat → Nat) (u : St) (x1 : Int32) (x2 : Int32) (x3 : Int32) {K : Int32 → St → Prop} (hwp : wp_X12_group u x1 x2 x3 K) : kM l yX12_group cX12_group 10 (some .int) ({ frames := 2, cells := 0, slots := 0, locals := 44 } : Room) dC dI d [.ref (h 0), .int x1, .int x2, .int x3] (wM d h) u (kQi dC dI (wM d h) K) 0 0 := by
  refine kM_start rfl (Nat.le_of_ble_eq_true rfl) ?_
  intro p e s m below meth c A ls cx hnm hw hl
  generalize hargs : ([.ref (h 0), .int x1, .int x2, .int x3] : List Value).toArray = args at cx ⊢
  unfold wp_X12_group at hwp
  replace hl : lv_has ls 10 [(0, .ref (h 0)), (1, .int x1), (2, .int x2), (3, .int x3)] := hl
  generalize hH : s.heap = H at hw ⊢
  generalize hlo : ([] : List Loc) = locs at hw ⊢
  refine lv_aload_n (pc := 0) cx.1 cx.2.1 dX12_group_0 rfl (lv_at hl 0 rfl) ?_
  refine lv_aload_n (pc := 1) cx.1 cx.2.1 dX12_group_1 rfl (lv_at hl 0 rfl) ?_
  refine k_getI (pc := 2) (u := u) (v := (u.1 7)) cx hw (ln_X12_this_7 d h) (C := RX12) (T := TX12) (N := 40) rfl in_X12 (by decide) q984 (fun _ h9 => h9) rfl dX12_group_2 ?_
  refine lv_if_eq (pc := 5) (tgt := 12) cx.1 cx.2.1 dX12_group_5 (by decide) (fun c1 => ?_) (fun c1 => ?_)
  · replace hwp := hwp.1 c1
    refine lv_aload_n (pc := 12) cx.1 cx.2.1 dX12_group_12 rfl (lv_at hl 0 rfl) ?_
    refine lv_iload_n (pc := 13) cx.1 cx.2.1 dX12_group_13 rfl (lv_at hl 1 rfl) ?_
    refine k_whole_i (pc := 14) (wf := (wM d h)) (u := u) cx hw (k_runV (pc := 14) (rest := [.ref (h 0)]) (As := [.int x1]) cx hw.1 (hw.2.1.weaken (fun _ _ _ _ => trivial)) hw.2.2 (k_recv cx hw 0 (ci := 10) (q := (RX12, TX12, 40)) rfl rfl) (m_X12_isSeries l dC dI d h  u x1 hwp H.size) (cwV 1 cx.2.2.2.2.1 (lw_V q1110 q1112 qs33 q89 q1113) rfl rfl rfl hdV_X12_isSeries ⟨Nat.le_of_ble_eq_true rfl, Nat.le_of_ble_eq_true rfl⟩) rfl hl.1 rfl (Nat.le_of_ble_eq_true rfl) dX12_group_14 ⟨Nat.le_of_ble_eq_true rfl, Nat.le_of_ble_eq_true rfl⟩) (fun r3 u2 H locs hwp hw => ?_)
    refine lv_if_ne (pc := 17) (tgt := 24) cx.1 cx.2.1 dX12_group_17 (by decide) (fun c4 => ?_) (fun c4 => ?_)
    · replace hwp := hwp.1 c4
      refine lv_iload_n (pc := 24) cx.1 cx.2.1 dX12_group_24 rfl (lv_at hl 3 rfl) ?_
      refine lv_if_lt (pc := 25) (tgt := 46) cx.1 cx.2.1 dX12_group_25 (by decide) (fun c5 => ?_) (fun c5 => ?_)
      · replace hwp := hwp.1 c5
        exact wk_X12_group_46 cx (wk_X12_group_51 cx) _ _ _ _ _ _ _ hwp hw (lv_sub hl [0, 1, 2, 3] rfl)
      · replace hwp := hwp.2 c5
        refine lv_iload_n (pc := 28) cx.1 cx.2.1 dX12_group_28 rfl (lv_at hl 3 rfl) ?_
        refine lv_iconst (pc := 29) (v := 5) cx.1 cx.2.1 dX12_group_29 (by decide) ?_
        refine lv_icmp_gt (pc := 30) (tgt := 46) cx.1 cx.2.1 dX12_group_30 (by decide) (fun c6 => ?_) (fun c6 => ?_)
        · replace hwp := hwp.1 c6
          exact wk_X12_group_46 cx (wk_X12_group_51 cx) _ _ _ _ _ _ _ hwp hw (lv_sub hl [0, 1, 2, 3] rfl)
        · replace hwp := hwp.2 c6
          refine lv_iload_n (pc := 33) cx.1 cx.2.1 dX12_group_33 rfl (lv_at hl 2 rfl) ?_
          refine lv_if_lt (pc := 34) (tgt := 46) cx.1 cx.2.1 dX12_group_34 (by decide) (fun c7 => ?_) (fun c7 => ?_)
          · replace hwp := hwp.1 c7
            exact wk_X12_group_46 cx (wk_X12_group_51 cx) _ _ _ _ _ _ _ hwp hw (lv_sub hl [0, 1, 2, 3] rfl)
          · replace hwp := hwp.2 c7
            refine lv_iload_n (pc := 37) cx.1 cx.2.1 dX12_group_37 rfl (lv_at hl 2 rfl) ?_
            refine lv_aload_n (pc := 38) cx.1 cx.2.1 dX12_group_38 rfl (lv_at hl 0 rfl) ?_
            refine lv_iload_n (pc := 39) cx.1 cx.2.1 dX12_group_39 rfl (lv_at hl 1 rfl) ?_
            refine k_whole_i (pc := 40) (wf := (wM d h)) (u := u2) cx hw (k_runV (pc := 40) (rest := [.int x2, .ref (h 0)]) (As := [.int x1]) cx hw.1 (hw.2.1.weaken (fun _ _ _ _ => trivial)) hw.2.2 (k_recv cx hw 0 (ci := 10) (q := (RX12, TX12, 40)) rfl rfl) (m_X12_groupsOf l dC dI d h  u2 x1 hwp H.size) (cwV 1 cx.2.2.2.2.1 (lw_V q1263 q1265 qs64 q89 q1266) rfl rfl rfl hdV_X12_groupsOf ⟨Nat.le_of_ble_eq_true rfl, Nat.le_of_ble_eq_true rfl⟩) rfl hl.1 rfl (Nat.le_of_ble_eq_true rfl) dX12_group_40 ⟨Nat.le_of_ble_eq_true rfl, Nat.le_of_ble_eq_true rfl⟩) (fun r9 u8 H locs hwp hw => ?_)
            refine lv_icmp_lt (pc := 43) (tgt := 50) cx.1 cx.2.1 dX12_group_43 (by decide) (fun c10 => ?_) (fun c10 => ?_)
            · replace hwp := hwp.1 c10
              refine lv_iconst (pc := 50) (v := 0) cx.1 cx.2.1 dX12_group_50 (by decide) ?_
              exact wk_X12_group_51 cx _ _ _ _ _ _ _ _ hwp hw (lv_sub hl [0, 1, 2, 3] rfl)
            · replace hwp := hwp.2 c10
              exact wk_X12_group_46 cx (wk_X12_group_51 cx) _ _ _ _ _ _ _ hwp hw (lv_sub hl [0, 1, 2, 3] rfl)
    · replace hwp := hwp.2 c4
      refine lv_iconst (pc := 20) (v := 2) cx.1 cx.2.1 dX12_group_20 (by decide) ?_
      refine lv_goto (pc := 21) (tgt := 51) cx.1 cx.2.1 dX12_group_21 (by decide) ?_
      exact wk_X12_group_51 cx _ _ _ _ _ _ _ _ hwp hw (lv_sub hl [0, 1, 2, 3] rfl)
  · replace hwp := hwp.2 c1
    refine lv_iconst (pc := 8) (v := 1) cx.1 cx.2.1 dX12_group_8 (by decide) ?_
    refine lv_goto (pc := 9) (tgt := 51) cx.1 cx.2.1 dX12_group_9 (by decide) ?_
    exact wk_X12_group_51 cx _ _ _ _ _ _ _ _ hwp hw (lv_sub hl [0, 1, 2, 3] rfl)
set_option maxHeartbeats 4000000 in
theorem wk_X12_taken_4 {p : Program} {l : Launch} {e : Env} {s : State} {m : MethodId} {args : Array Value} {below : List Frame} {meth : Method} {c : Code} {A : Nat → Prop} {dC : Nat → ClassId} {dI : Nat → Nat → Nat} {d : Nat → ClassId} {h : Nat → Nat} {K : Int32 → St → Prop} (cx : Cx p s m args meth c cX12_taken RX12 3 (some .int) A dC dI d) : ∀ (n : Nat) (x1 : Int32) (x2 : Int32) (u : St) (H : Heap) (locs : List Loc) (ls : Array Slot), wp_X12_taken_4 K n x1 x2 u → Wd dC dI A ((wM d h) u) s H locs → lv_has ls 3 [(0, .ref (h 0)), (1, .int x1), (2, .int x2)] → W p l e ({ frames := 0, cells := 0, slots := 0, locals := 0 } : Room) s m args below meth c H locs 0 0 (MQ below (kQi dC dI (wM d h) K A) args s 0 0 A) (F0 m 4 ls []) := by
  intro n
  induction n with
  | zero =>
    intros; contradiction
  | succ n ih =>
    intro x1 x2 u H locs ls hwp hw hl
    unfold wp_X12_taken_4 at hwp
    refine lv_iload_n (pc := 4) cx.1 cx.2.1 dX12_taken_4 rfl (lv_at hl 2 rfl) ?_
    refine lv_aload_n (pc := 5) cx.1 cx.2.1 dX12_taken_5 rfl (lv_at hl 0 rfl) ?_
    refine k_getI (pc := 6) (u := u) (v := (u.1 18)) cx hw (ln_X12_this_18 d h) (C := RX12) (T := TX12) (N := 40) rfl in_X12 (by decide) q995 (fun _ h9 => h9) rfl dX12_taken_6 ?_
    refine lv_icmp_ge (pc := 9) (tgt := 32) cx.1 cx.2.1 dX12_taken_9 (by decide) (fun c1 => ?_) (fun c1 => ?_)
    · replace hwp := hwp.1 c1
      refine lv_iload_n (pc := 32) cx.1 cx.2.1 dX12_taken_32 rfl (lv_at hl 1 rfl) ?_
      exact k_iret (pc := 33) (wf := (wM d h)) (u := u) cx hw hwp (by decide) (by decide) dX12_taken_33
    · replace hwp := hwp.2 c1
      refine lv_iload_n (pc := 12) cx.1 cx.2.1 dX12_taken_12 rfl (lv_at hl 1 rfl) ?_
      refine lv_aload_n (pc := 13) cx.1 cx.2.1 dX12_taken_13 rfl (lv_at hl 0 rfl) ?_
      refine k_getR (pc := 14) (u := u) (v := .ref (h 5)) cx hw (lr_X12_this_14 d h) (C := RX12) (T := TX12) (N := 40) rfl in_X12 (by decide) q991 (fun _ h9 => h9) rfl dX12_taken_14 ?_
      refine lv_aload_n (pc := 17) cx.1 cx.2.1 dX12_taken_17 rfl (lv_at hl 0 rfl) ?_
      refine k_getR (pc := 18) (u := u) (v := .ref (h 8)) cx hw (lr_X12_this_17 d h) (C := RX12) (T := TX12) (N := 40) rfl in_X12 (by decide) q994 (fun _ h9 => h9) rfl dX12_taken_18 ?_
      refine lv_iload_n (pc := 21) cx.1 cx.2.1 dX12_taken_21 rfl (lv_at hl 2 rfl) ?_
      refine k_iald (pc := 22) (u := u) (f := (u.2.1 17)) cx hw (lx_X12_this_17 d h) 0 rfl rfl hwp.1 dX12_taken_22 ?_
      replace hwp := hwp.2
      refine k_iald (pc := 23) (u := u) (f := (u.2.1 14)) cx hw (lx_X12_this_14 d h) 0 rfl rfl hwp.1 dX12_taken_23 ?_
      replace hwp := hwp.2
      refine lv_iadd (pc := 24) cx.1 cx.2.1 dX12_taken_24 ?_
      refine lv_istore_n (pc := 25) (lv' := [(1, .int (x1 + ((u.2.1 14) ((u.2.1 17) x2.toNatClampNeg).toNatClampNeg))), (0, .ref (h 0)), (2, .int x2)]) cx.1 cx.2.1 dX12_taken_25 rfl hl (by decide) rfl (fun ls hl => ?_)
      refine lv_iinc (pc := 26) (v := (x2 + (1 : Int32))) (lv' := [(2, .int (x2 + (1 : Int32))), (1, .int (x1 + ((u.2.1 14) ((u.2.1 17) x2.toNatClampNeg).toNatClampNeg))), (0, .ref (h 0))]) cx.1 cx.2.1 dX12_taken_26 hl (k := 2) rfl rfl (by decide) rfl (fun ls hl => ?_)
      refine lv_goto (pc := 29) (tgt := 4) cx.1 cx.2.1 dX12_taken_29 (by decide) ?_
      exact ih _ _ _ _ _ _ hwp hw (lv_sub hl [2, 1, 0] rfl)
set_option maxHeartbeats 4000000 in
theorem m_X12_taken (l : Launch) (dC : Nat → ClassId) (dI : Nat → Nat → Nat) (d : Nat → ClassId) (h : Nat → Nat) (u : St) {K : Int32 → St → Prop} (hwp : wp_X12_taken u K) : kM l yX12_taken cX12_taken 3 (some .int) ({ frames := 0, cells := 0, slots := 0, locals := 0 } : Room) dC dI d [.ref (h 0)] (wM d h) u (kQi dC dI (wM d h) K) 0 0 := by
  refine kM_start rfl (Nat.le_of_ble_eq_true rfl) ?_
  intro p e s m below meth c A ls cx hnm hw hl
  generalize hargs : ([.ref (h 0)] : List Value).toArray = args at cx ⊢
  unfold wp_X12_taken at hwp
  replace hl : lv_has ls 3 [(0, .ref (h 0))] := hl
  generalize hH : s.heap = H at hw ⊢
  generalize hlo : ([] : List Loc) = locs at hw ⊢
  refine lv_iconst (pc := 0) (v := 0) cx.1 cx.2.1 dX12_taken_0 (by decide) ?_
  refine lv_istore_n (pc := 1) (lv' := [(1, .int (0 : Int32)), (0, .ref (h 0))]) cx.1 cx.2.1 dX12_taken_1 rfl hl (by decide) rfl (fun ls hl => ?_)
  refine lv_iconst (pc := 2) (v := 0) cx.1 cx.2.1 dX12_taken_2 (by decide) ?_
  refine lv_istore_n (pc := 3) (lv' := [(2, .int (0 : Int32)), (1, .int (0 : Int32)), (0, .ref (h 0))]) cx.1 cx.2.1 dX12_taken_3 rfl hl (by decide) rfl (fun ls hl => ?_)
  obtain ⟨n4, hwp⟩ := hwp
  exact wk_X12_taken_4 cx n4 _ _ _ _ _ _ hwp hw (lv_sub hl [2, 1, 0] rfl)
set_option maxHeartbeats 4000000 in
theorem m_X12_look (l : Launch) (dC : Nat → ClassId) (dI : Nat → Nat → Nat) (d : Nat → ClassId) (h : Nat → Nat) (u : St) (x1 : Int32) {K : Int32 → St → Prop} (hwp : wp_X12_look u x1 K) : kM l yX12_look cX12_look 2 (some .int) ({ frames := 1, cells := 0, slots := 0, locals := 22 } : Room) dC dI d [.ref (h 0), .int x1] (wM d h) u (kQi dC dI (wM d h) K) 0 0 := by
  refine kM_start rfl (Nat.le_of_ble_eq_true rfl) ?_
  intro p e s m below meth c A ls cx hnm hw hl
  generalize hargs : ([.ref (h 0), .int x1] : List Value).toArray = args at cx ⊢
  unfold wp_X12_look at hwp
  replace hl : lv_has ls 2 [(0, .ref (h 0)), (1, .int x1)] := hl
  generalize hH : s.heap = H at hw ⊢
  generalize hlo : ([] : List Loc) = locs at hw ⊢
  refine lv_aload_n (pc := 0) cx.1 cx.2.1 dX12_look_0 rfl (lv_at hl 0 rfl) ?_
  refine lv_iconst (pc := 1) (v := 0) cx.1 cx.2.1 dX12_look_1 (by decide) ?_
  refine k_putI (pc := 2) (u := u) (v := (0 : Int32)) cx hw (ln_X12_this_0 d h) (C := RX12) (T := TX12) (N := 40) rfl in_X12 tyX12 tyX12_ok nmX12 (by decide) q977 (fun _ h9 => h9) rfl rfl rfl dX12_look_2 (fun H locs hw => ?_)
  refine lv_iload_n (pc := 5) cx.1 cx.2.1 dX12_look_5 rfl (lv_at hl 1 rfl) ?_
  by_cases c1 : x1 = (0 : Int32)
  · replace hwp := hwp.1 c1
    refine lv_tableIn (pc := 6) (off := 50) (tgt := 56) cx.1 cx.2.1 dX12_look_6 (by rw [c1]; decide) (by rw [c1]; decide) (by rw [c1]; decide) (by decide) ?_
    refine lv_aload_n (pc := 56) cx.1 cx.2.1 dX12_look_56 rfl (lv_at hl 0 rfl) ?_
    refine k_getI (pc := 57) (u := (st_I u 0 (0 : Int32))) (v := (u.1 5)) cx hw (ln_X12_this_5 d h) (C := RX12) (T := TX12) (N := 40) rfl in_X12 (by decide) q982 (fun _ h9 => h9) rfl dX12_look_57 ?_
    exact k_iret (pc := 60) (wf := (wM d h)) (u := (st_I u 0 (0 : Int32))) cx hw hwp (by decide) (by decide) dX12_look_60
  replace hwp := hwp.2 c1
  have kc1_0 := c1
  clear c1
  by_cases c1 : x1 = (1 : Int32)
  · replace hwp := hwp.1 c1
    refine lv_tableIn (pc := 6) (off := 55) (tgt := 61) cx.1 cx.2.1 dX12_look_6 (by rw [c1]; decide) (by rw [c1]; decide) (by rw [c1]; decide) (by decide) ?_
    refine lv_aload_n (pc := 61) cx.1 cx.2.1 dX12_look_61 rfl (lv_at hl 0 rfl) ?_
    refine k_getI (pc := 62) (u := (st_I u 0 (0 : Int32))) (v := (u.1 24)) cx hw (ln_X12_this_24 d h) (C := RX12) (T := TX12) (N := 40) rfl in_X12 (by decide) q1001 (fun _ h9 => h9) rfl dX12_look_62 ?_
    exact k_iret (pc := 65) (wf := (wM d h)) (u := (st_I u 0 (0 : Int32))) cx hw hwp (by decide) (by decide) dX12_look_65
  replace hwp := hwp.2 c1
  have kc1_1 := c1
  clear c1
  by_cases c1 : x1 = (2 : Int32)
  · replace hwp := hwp.1 c1
    refine lv_tableIn (pc := 6) (off := 60) (tgt := 66) cx.1 cx.2.1 dX12_look_6 (by rw [c1]; decide) (by rw [c1]; decide) (by rw [c1]; decide) (by decide) ?_
    refine lv_aload_n (pc := 66) cx.1 cx.2.1 dX12_look_66 rfl (lv_at hl 0 rfl) ?_
    refine k_getI (pc := 67) (u := (st_I u 0 (0 : Int32))) (v := (u.1 18)) cx hw (ln_X12_this_18 d h) (C := RX12) (T := TX12) (N := 40) rfl in_X12 (by decide) q995 (fun _ h9 => h9) rfl dX12_look_67 ?_
    exact k_iret (pc := 70) (wf := (wM d h)) (u := (st_I u 0 (0 : Int32))) cx hw hwp (by decide) (by decide) dX12_look_70
  replace hwp := hwp.2 c1
  have kc1_2 := c1
  clear c1
  by_cases c1 : x1 = (3 : Int32)
  · replace hwp := hwp.1 c1
    refine lv_tableIn (pc := 6) (off := 65) (tgt := 71) cx.1 cx.2.1 dX12_look_6 (by rw [c1]; decide) (by rw [c1]; decide) (by rw [c1]; decide) (by decide) ?_
    refine lv_aload_n (pc := 71) cx.1 cx.2.1 dX12_look_71 rfl (lv_at hl 0 rfl) ?_
    refine k_whole_i (pc := 72) (wf := (wM d h)) (u := (st_I u 0 (0 : Int32))) cx hw (k_runV (pc := 72) (rest := []) (As := []) cx hw.1 (hw.2.1.weaken (fun _ _ _ _ => trivial)) hw.2.2 (k_recv cx hw 0 (ci := 10) (q := (RX12, TX12, 40)) rfl rfl) (m_X12_taken l dC dI d h  (st_I u 0 (0 : Int32))  hwp H.size) (cwV 0 cx.2.2.2.2.1 (lw_V q1359 q1361 qs73 q89 q1362) rfl rfl rfl hdV_X12_taken ⟨Nat.le_of_ble_eq_true rfl, Nat.le_of_ble_eq_true rfl⟩) rfl hl.1 rfl (Nat.le_of_ble_eq_true rfl) dX12_look_72 ⟨Nat.le_of_ble_eq_true rfl, Nat.le_of_ble_eq_true rfl⟩) (fun r3 u2 H locs hwp hw => ?_)
    exact k_iret (pc := 75) (wf := (wM d h)) (u := u2) cx hw hwp (by decide) (by decide) dX12_look_75
  replace hwp := hwp.2 c1
  have kc1_3 := c1
  clear c1
  by_cases c1 : x1 = (4 : Int32)
  · replace hwp := hwp.1 c1
    refine lv_tableIn (pc := 6) (off := 70) (tgt := 76) cx.1 cx.2.1 dX12_look_6 (by rw [c1]; decide) (by rw [c1]; decide) (by rw [c1]; decide) (by decide) ?_
    refine lv_aload_n (pc := 76) cx.1 cx.2.1 dX12_look_76 rfl (lv_at hl 0 rfl) ?_
    refine k_getI (pc := 77) (u := (st_I u 0 (0 : Int32))) (v := (u.1 9)) cx hw (ln_X12_this_9 d h) (C := RX12) (T := TX12) (N := 40) rfl in_X12 (by decide) q986 (fun _ h9 => h9) rfl dX12_look_77 ?_
    exact k_iret (pc := 80) (wf := (wM d h)) (u := (st_I u 0 (0 : Int32))) cx hw hwp (by decide) (by decide) dX12_look_80
  replace hwp := hwp.2 c1
  have kc1_4 := c1
  clear c1
  by_cases c1 : x1 = (5 : Int32)
  · replace hwp := hwp.1 c1
    refine lv_tableIn (pc := 6) (off := 75) (tgt := 81) cx.1 cx.2.1 dX12_look_6 (by rw [c1]; decide) (by rw [c1]; decide) (by rw [c1]; decide) (by decide) ?_
    refine lv_aload_n (pc := 81) cx.1 cx.2.1 dX12_look_81 rfl (lv_at hl 0 rfl) ?_
    refine k_getI (pc := 82) (u := (st_I u 0 (0 : Int32))) (v := (u.1 10)) cx hw (ln_X12_this_10 d h) (C := RX12) (T := TX12) (N := 40) rfl in_X12 (by decide) q987 (fun _ h9 => h9) rfl dX12_look_82 ?_
    exact k_iret (pc := 85) (wf := (wM d h)) (u := (st_I u 0 (0 : Int32))) cx hw hwp (by decide) (by decide) dX12_look_85
  replace hwp := hwp.2 c1
  have kc1_5 := c1
  clear c1
  by_cases c1 : x1 = (6 : Int32)
  · replace hwp := hwp.1 c1
    refine lv_tableIn (pc := 6) (off := 80) (tgt := 86) cx.1 cx.2.1 dX12_look_6 (by rw [c1]; decide) (by rw [c1]; decide) (by rw [c1]; decide) (by decide) ?_
    refine lv_aload_n (pc := 86) cx.1 cx.2.1 dX12_look_86 rfl (lv_at hl 0 rfl) ?_
    refine k_getI (pc := 87) (u := (st_I u 0 (0 : Int32))) (v := (u.1 7)) cx hw (ln_X12_this_7 d h) (C := RX12) (T := TX12) (N := 40) rfl in_X12 (by decide) q984 (fun _ h9 => h9) rfl dX12_look_87 ?_
    have hJ5 : ∀ z4 : Int32, z4 = (if (u.1 7) = 0 then (0 : Int32) else (1 : Int32)) → W p l e ({ frames := 1, cells := 0, slots := 0, locals := 22 } : Room) s m args below meth c H locs 0 0 (MQ below (kQi dC dI (wM d h) K A) args s 0 0 A) (F0 m 98 ls [.int z4]) := by
      intro z4 ez4
      replace hwp := hwp z4 ez4
      exact k_iret (pc := 98) (wf := (wM d h)) (u := (st_I u 0 (0 : Int32))) cx hw hwp (by decide) (by decide) dX12_look_98
    clear hwp
    refine lv_if_eq (pc := 90) (tgt := 97) cx.1 cx.2.1 dX12_look_90 (by decide) (fun c6 => ?_) (fun c6 => ?_)
    · skip
      refine lv_iconst (pc := 97) (v := 0) cx.1 cx.2.1 dX12_look_97 (by decide) ?_
      exact hJ5 _ (if_pos c6).symm
    · skip
      refine lv_iconst (pc := 93) (v := 1) cx.1 cx.2.1 dX12_look_93 (by decide) ?_
      refine lv_goto (pc := 94) (tgt := 98) cx.1 cx.2.1 dX12_look_94 (by decide) ?_
      exact hJ5 _ (if_neg c6).symm
  replace hwp := hwp.2 c1
  have kc1_6 := c1
  clear c1
  by_cases c1 : x1 = (7 : Int32)
  · replace hwp := hwp.1 c1
    refine lv_tableIn (pc := 6) (off := 93) (tgt := 99) cx.1 cx.2.1 dX12_look_6 (by rw [c1]; decide) (by rw [c1]; decide) (by rw [c1]; decide) (by decide) ?_
    refine lv_aload_n (pc := 99) cx.1 cx.2.1 dX12_look_99 rfl (lv_at hl 0 rfl) ?_
    refine k_getI (pc := 100) (u := (st_I u 0 (0 : Int32))) (v := (u.1 7)) cx hw (ln_X12_this_7 d h) (C := RX12) (T := TX12) (N := 40) rfl in_X12 (by decide) q984 (fun _ h9 => h9) rfl dX12_look_100 ?_
    have hJ8 : ∀ z7 : Int32, z7 = (if (u.1 7) = 0 then (u.1 6) else (0 : Int32)) → W p l e ({ frames := 1, cells := 0, slots := 0, locals := 22 } : Room) s m args below meth c H locs 0 0 (MQ below (kQi dC dI (wM d h) K A) args s 0 0 A) (F0 m 114 ls [.int z7]) := by
      intro z7 ez7
      replace hwp := hwp z7 ez7
      exact k_iret (pc := 114) (wf := (wM d h)) (u := (st_I u 0 (0 : Int32))) cx hw hwp (by decide) (by decide) dX12_look_114
    clear hwp
    refine lv_if_eq (pc := 103) (tgt := 110) cx.1 cx.2.1 dX12_look_103 (by decide) (fun c9 => ?_) (fun c9 => ?_)
    · skip
      refine lv_aload_n (pc := 110) cx.1 cx.2.1 dX12_look_110 rfl (lv_at hl 0 rfl) ?_
      refine k_getI (pc := 111) (u := (st_I u 0 (0 : Int32))) (v := (u.1 6)) cx hw (ln_X12_this_6 d h) (C := RX12) (T := TX12) (N := 40) rfl in_X12 (by decide) q983 (fun _ h9 => h9) rfl dX12_look_111 ?_
      exact hJ8 _ (if_pos c9).symm
    · skip
      refine lv_iconst (pc := 106) (v := 0) cx.1 cx.2.1 dX12_look_106 (by decide) ?_
      refine lv_goto (pc := 107) (tgt := 114) cx.1 cx.2.1 dX12_look_107 (by decide) ?_
      exact hJ8 _ (if_neg c9).symm
  replace hwp := hwp.2 c1
  have kc1_7 := c1
  clear c1
  by_cases c1 : x1 = (8 : Int32)
  · replace hwp := hwp.1 c1
    refine lv_tableIn (pc := 6) (off := 109) (tgt := 115) cx.1 cx.2.1 dX12_look_6 (by rw [c1]; decide) (by rw [c1]; decide) (by rw [c1]; decide) (by decide) ?_
    refine lv_aload_n (pc := 115) cx.1 cx.2.1 dX12_look_115 rfl (lv_at hl 0 rfl) ?_
    refine k_getI (pc := 116) (u := (st_I u 0 (0 : Int32))) (v := (u.1 8)) cx hw (ln_X12_this_8 d h) (C := RX12) (T := TX12) (N := 40) rfl in_X12 (by decide) q985 (fun _ h9 => h9) rfl dX12_look_116 ?_
    exact k_iret (pc := 119) (wf := (wM d h)) (u := (st_I u 0 (0 : Int32))) cx hw hwp (by decide) (by decide) dX12_look_119
  replace hwp := hwp.2 c1
  have kc1_8 := c1
  clear c1
  refine lv_tableOut (pc := 6) (tgt := 120) cx.1 cx.2.1 dX12_look_6 (tb_out9 kc1_0 kc1_1 kc1_2 kc1_3 kc1_4 kc1_5 kc1_6 kc1_7 kc1_8) (by decide) ?_
  refine lv_iconst (pc := 120) (v := -1) cx.1 cx.2.1 dX12_look_120 (by decide) ?_
  exact k_iret (pc := 121) (wf := (wM d h)) (u := (st_I u 0 (0 : Int32))) cx hw hwp (by decide) (by decide) dX12_look_121
